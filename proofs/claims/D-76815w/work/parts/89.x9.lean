/-! x9: chance (class); ends (both sides) -/
set_option maxRecDepth 100000
theorem trOk_up {G : gG} {h h' : gH} {n n' bx : Nat} (hn : bx + 211 ≤ n) (hu : hUp h h' n n') (ht : trOk G h bx) : trOk G h' bx := by
  obtain ⟨W, Q, e, hb⟩ := ht
  exact ⟨W, Q, fun m hm => (hu.2.2 _ (by omega)).trans (e m hm), hb⟩
/-- changed from n on by one cell at most, and where it is thought -/
def aUp (G : gG) (h h' : gH) (n n' bx : Nat) : Prop := n ≤ n' ∧ n' ≤ n + 1 ∧ trOk G h' bx ∧ ∀ a, a < n → (a < bx + 106 ∨ bx + 211 ≤ a) → h' a = h a
theorem aUp_h {G : gG} {h h' : gH} {n n' bx : Nat} (hn : bx + 211 ≤ n) (hu : hUp h h' n n') (ht : trOk G h bx) : aUp G h h' n n' bx := ⟨hu.1, hu.2.1, trOk_up hn hu ht, fun a ha _ => hu.2.2 a ha⟩
theorem aUp_t {G : gG} {h h' h'' : gH} {n n' bx : Nat} (h1 : aUp G h h' n n' bx) (h2 : tUp G h' h'' bx) : aUp G h h'' n n' bx := ⟨h1.1, h1.2.1, h2.1, fun a ha hb => (h2.2 a hb).trans (h1.2.2.2 a ha hb)⟩
section X9
variable {G : gG} {F n bx : Nat} {h : gH} {c : Nat → Int32} {S C : Nat → Int32} {J : Nat → Nat → Int32} {Q : Nat → Nat → Int64} {b : Nat} {A : Nat → Nat → Int32} {L : Nat → Nat → Int64}
theorem all5 {P1 P2 P3 P4 P5 : Prop} [Decidable P1] [Decidable P2] [Decidable P3] [Decidable P4] [Decidable P5] {f : Nat → Int32} : allN (upd (upd (upd (upd (upd f 0 (if P1 then 1 else 0)) 1 (if P2 then 1 else 0)) 2 (if P3 then 1 else 0)) 3 (if P4 then 1 else 0)) 4 (if P5 then 1 else 0)) 5 0 = decide (P1 ∧ P2 ∧ P3 ∧ P4 ∧ P5) := by
  by_cases h1 : P1 <;> by_cases h2 : P2 <;> by_cases h3 : P3 <;> by_cases h4 : P4 <;> by_cases h5 : P5 <;> simp [allN, upd, h1, h2, h3, h4, h5]
theorem v_chance {t : Nat} {p1 p2 p3 p4 p5 : Int32} (hF : 200 ≤ F) (hn : bx + 211 ≤ n) (hG : gI4 G) (ht : t + 99 < 2 ^ 31) (htr : trOk G h bx) (hset : setOk S) (hc : cntOk S) (hnu : numOk S t) (hS : ¬ S 2 = 0 → runOk S t) (hW : wOk S J Q) : ∃ c' h', sp_X0_chance G F (wh G (xo h bx c) (bx + 1) S J Q) n bx p1 p2 p3 p4 p5 = some ((chanceR (tabA A S 3) S (c 3) p1 p2 p3 p4 p5).1, wh G (xo h' bx c') (bx + 1) S J Q, n + 1) ∧ cR c c' (chanceR (tabA A S 3) S (c 3) p1 p2 p3 p4 p5).2 ∧ aUp G h h' n (n + 1) bx := by
  have hn' : bx + 106 ≤ n := by omega
  have h6 := hc.2.2.2.2.2
  have e2 : S 2 = if S 2 = 1 then 1 else 0 := by
    rcases h6 with h | h <;> rw [h] <;> decide
  have eall : allN (upd (upd (upd (upd (upd (fun _ => 0) 0 (if inB p2 0 99 then 1 else 0)) 1 (if inB p3 1 4 then 1 else 0)) 2 (if inB p4 0 99999 then 1 else 0)) 3 (if inB p5 0 1 then 1 else 0)) 4 (S 2)) 5 0 = decide (inB p2 0 99 ∧ inB p3 1 4 ∧ inB p4 0 99999 ∧ inB p5 0 1 ∧ S 2 = 1) := by rw [← all5 (f := fun _ => 0), ← e2]
  unfold sp_X0_chance
  simp only [v_up hn', i_in_0_99, i_in_1_4, i_in_0_99999, i_in_0_1, v_f0, x_f0, Option.bind_some, sb0 hn' (show 5 < 100 by decide) (by decide) if01, sb1 hn' (show 5 < 100 by decide) (by decide) if01, sb2 hn' (show 5 < 100 by decide) (by decide) if01, sb3 hn' (show 5 < 100 by decide) (by decide) if01, sb4 hn' (show 5 < 100 by decide) (by decide) h6, v_are (show 100 ≤ F by omega) hn' (show 5 < 90 by decide), eall, bI_f]
  generalize eh : va_up h n (some (Sum.inl (3, 5, Sum.inl (upd (upd (upd (upd (upd (fun _ => 0) 0 (if inB p2 0 99 then 1 else 0)) 1 (if inB p3 1 4 then 1 else 0)) 2 (if inB p4 0 99999 then 1 else 0)) 3 (if inB p5 0 1 then 1 else 0)) 4 (S 2))))) = h1
  have hu : aUp G h h1 n (n + 1) bx := by rw [← eh]; exact aUp_h hn hUp_1 htr
  by_cases hin : inB p2 0 99 ∧ inB p3 1 4 ∧ inB p4 0 99999 ∧ inB p5 0 1 ∧ S 2 = 1
  · obtain ⟨i2, i3, i4, i5, i6⟩ := id hin
    have h2 : ¬ S 2 = 0 := by rw [i6]; decide
    rw [if_neg (fun hh => hh hin)]
    simp only [v_is, if_true, v_counts, Option.bind_some, b0]
    obtain ⟨q, hq, rfl⟩ : ∃ k, k < 100 ∧ p2 = nI k := in_nI (m := 100) (by decide) i2
    obtain ⟨m, hm, rfl⟩ : ∃ k : Nat, k ≤ 4 ∧ p3 = nI k := nI_of2 (n := 4) (M := 4) (by decide) (Int32.not_lt.mpr (Int32.le_trans (by decide) i3.1)) i3.2
    have hm1 : 1 ≤ m := (nI_leI (a := 1) (b := m) (by decide) (by omega)).mp i3.1
    generalize hz : nI m * nI q = z
    by_cases h3 : c 3 + z ≤ 12000
    · have eR : chanceR (tabA A S 3) S (c 3) p1 (nI q) (nI m) p4 p5 = (fracV (chL (tabA A S 3) S q p1 p4 m 0 0) m p5, c 3 + z) := by
        unfold chanceR
        rw [hz, if_neg (fun hh => hh ⟨i2, i3, i4, i5, i6⟩), if_neg (fun hh => hh h3), nI_c (by omega), nI_c (by omega)]
      obtain ⟨h', e1, e3⟩ := v_chance_L (G := G) (F := F) (A := A) (c := upd c 3 (c 3 + z)) (t := t) (m0 := m) (n0 := n + 1) (p1 := p1) (p4 := p4) (p5 := p5) hF hG hq (by omega) ht hset hc hnu (hS h2) hW m 0 F 0 h1 (by omega) (by omega) (by omega) hu.2.2.1
      have e1' : sp_X0_chance_L87 G F (n + 1) F (wh G (xo h1 bx (upd c 3 (c 3 + z))) (bx + 1) S J Q) bx p1 (nI q) (nI m) p4 p5 0 0 = _ := e1
      have hle := chL_le (C := tabA A S 3) (S := S) (n := q) (seed := p1) (k := p4) m 0 0
      rw [eR, if_neg (fun hh => hh h3)]
      simp only [h3, if_true, e1', Option.bind_some, i_lowest (show 100 ≤ F by omega) (show chL (tabA A S 3) S q p1 p4 m 0 0 < 2 ^ 31 by omega) (show 0 < m by omega) (show m < 2 ^ 24 by omega)]
      exact ⟨_, h', rfl, cR_upd, aUp_t hu e3⟩
    · have eR : chanceR (tabA A S 3) S (c 3) p1 (nI q) (nI m) p4 p5 = (NOl, c 3) := by
        unfold chanceR
        rw [hz, if_neg (fun hh => hh ⟨i2, i3, i4, i5, i6⟩), if_pos h3]
      rw [eR, if_pos h3]
      simp only [h3, if_false]
      exact ⟨c, h1, rfl, cR_refl, hu⟩
  · have eR : chanceR (tabA A S 3) S (c 3) p1 p2 p3 p4 p5 = (NOl, c 3) := if_pos hin
    rw [eR, if_pos hin]
    exact ⟨c, h1, rfl, cR_refl, hu⟩
end X9
/-- the plan: its rows are as they were told -/
def planN (S : Nat → Int32) : Nat := (S 20).toNatClampNeg
def planOk (S : Nat → Int32) : Prop := planN S ≤ 8 ∧ S 20 = nI (planN S) ∧ ∀ i, i < planN S → (S (355 + 2 * i) = 0 ∧ ∃ k, k < 100 ∧ S (356 + 2 * i) = nI k) ∨ (S (355 + 2 * i) = 1 ∧ ∃ k, k < 8 ∧ S (356 + 2 * i) = nI k) ∨ S (355 + 2 * i) = 2 ∨ (S (355 + 2 * i) = 3 ∧ ∃ k, k < 8 ∧ S (356 + 2 * i) = nI k)
def plSum (S : Nat → Int32) : Nat → Nat → Int32 → Int32
  | 0, _, acc => acc
  | m + 1, i, acc => plSum S m (i + 1) (acc + if S (355 + 2 * i) = 0 then S (356 + 2 * i) else 0)
/-- what a row of the plan does -/
def doesF (C : Nat → Int32) (w x : Int32) (T : Nat → Int32) : Nat → Int32 :=
  if w = 0 then passF C x.toNatClampNeg T else if w = 1 then (emergencyR T x).2 else if w = 2 then upd T 6 (-5) else if inB x 0 (T 13 - 1) then upd T (sA x.toNatClampNeg 5) 0 else T
def doesL (C S : Nat → Int32) : Nat → Nat → (Nat → Int32) → Nat → Int32
  | 0, _, T => T
  | m + 1, i, T => doesL C S m (i + 1) (doesF C (S (355 + 2 * i)) (S (356 + 2 * i)) T)
def endsR (C S : Nat → Int32) (c p1 : Int32) : Int32 × Int32 :=
  if ¬ inB p1 0 1 then (-1, c) else if S 2 = 0 then (-3, c) else if ¬ c + plSum S (planN S) 0 0 ≤ 12000 then (-4, c) else (doesL C S (planN S) 0 S (if p1 = 0 then 7 else 8), c + plSum S (planN S) 0 0)
