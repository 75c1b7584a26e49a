/-! x8: best (class), chance (both sides) -/
set_option maxRecDepth 100000
theorem gap_num {S T : Nat → Int32} {t : Nat} (h : gapK S T) (hm : mOk S) (hn : numOk S t) : numOk T t := by
  refine ⟨(h 3 (by omega)).trans hn.1, fun k hk => ?_⟩
  rw [gap_many h] at hk
  have h8 : k < 8 := by have := hm.1; omega
  have := hn.2 k hk
  unfold sgOk at this ⊢
  rw [h (sA k 5) (by unfold sA; omega), h (sA k 6) (by unfold sA; omega), h (sA k 7) (by unfold sA; omega), h (sA k 8) (by unfold sA; omega), h (sA k 9) (by unfold sA; omega)]
  exact this
theorem gap_run {S T : Nat → Int32} {t : Nat} (h : gapK S T) (hr : runOk S t) : runOk T t := by
  obtain ⟨h1, h2, h3, h4⟩ := hr
  exact ⟨gap_sec h h1, negOk_56 (h 5 (by omega)) (h 6 (by omega)) h2, gap_num h h1.1 h3, gap_row h h4⟩
theorem gap_go {C S T : Nat → Int32} {J : Nat → Nat → Int32} {Q : Nat → Nat → Int64} {t : Nat} (h : gapK S T) (hg : goOk C S J Q t) : goOk C T J Q t := by
  obtain ⟨h1, h2, h3, h4, h5⟩ := hg
  exact ⟨h1, rrOk_15 (h 15 (by omega)) h2, gap_run h h3, clOk_keep (gap_many h) h4, h5⟩
def clz (x : Int32) : Int32 := if x = 0 then -1 else x
/-- the reference's one in m seeds -/
def chL (C S : Nat → Int32) (n : Nat) (seed k : Int32) : Nat → Nat → Nat → Nat
  | 0, _, acc => acc
  | m + 1, i, acc => chL C S n seed k m (i + 1) (if k < dayV C S n (seed + nI i) then acc else acc + 1)
theorem chL_le {C S : Nat → Int32} {n : Nat} {seed k : Int32} : ∀ (m i acc : Nat), chL C S n seed k m i acc ≤ m + acc := by
  intro m
  induction m with
  | zero => intro i acc; exact Nat.le_of_eq (by rw [chL]; omega)
  | succ m ih =>
    intro i acc
    rw [chL]
    refine Nat.le_trans (ih _ _) ?_
    split <;> omega
def chanceR (C S : Nat → Int32) (c p1 p2 p3 p4 p5 : Int32) : Int64 × Int32 :=
  if ¬ (inB p2 0 99 ∧ inB p3 1 4 ∧ inB p4 0 99999 ∧ inB p5 0 1 ∧ S 2 = 1) then (NOl, c) else if ¬ c + p3 * p2 ≤ 12000 then (NOl, c) else (fracV (chL C S p2.toNatClampNeg p1 p4 p3.toNatClampNeg 0 0) p3.toNatClampNeg p5, c + p3 * p2)
section X8
variable {G : gG} {F n bx : Nat} {h : gH} {c : Nat → Int32} {S C : Nat → Int32} {J : Nat → Nat → Int32} {Q : Nat → Nat → Int64} {b : Nat} {A : Nat → Nat → Int32} {L : Nat → Nat → Int64}
theorem v_best_L {t m : Nat} {y0 : Int32} (hF : 200 ≤ F) (hG : gI4 G) (hm : m < 100) (ht : t + 99 < 2 ^ 31) (hset : setOk S) (hc : cntOk S) (hn : numOk S t) (hS : runOk S t) (hW : wOk S J Q) : ∀ (k i f : Nat) (x y : Int32) (h : gH), k + i = 10 → 1 ≤ i → k < f → trOk G h bx → (x = 0 ∨ ∃ j, j < 10 ∧ x = nI j) →
    ∃ h', sp_X0_best_L62 G F f (wh G (xo h bx c) (bx + 1) S J Q) bx (nI m) y0 (clz x) y (nI i) = some (clz (bestL (tabA A S 3) S m k i x y).1, (bestL (tabA A S 3) S m k i x y).2, wh G (xo h' bx c) (bx + 1) S J Q) ∧ tUp G h h' bx := by
  intro k
  induction k with
  | zero =>
    intro i f x y h hi h1 hf htr _
    obtain ⟨f, rfl⟩ : ∃ z, f = z + 1 := ⟨f - 1, by omega⟩
    refine ⟨h, ?_, tUp_refl htr⟩
    rw [sp_X0_best_L62, if_pos (show (9 : Int32) < nI i from nI_lt (a := 9) (by omega) (by omega))]
    rfl
  | succ k ih =>
    intro i f x y h hi h1 hf htr hx
    obtain ⟨f, rfl⟩ : ∃ z, f = z + 1 := ⟨f - 1, by omega⟩
    have en : ¬ (9 : Int32) < nI i := fun h2 => by
      have := (nI_ltI (a := 9) (b := i) (by decide) (by omega)).mp h2
      omega
    obtain ⟨K, R, e1, e2⟩ := v_thought (F := F) (c := c) (by omega) htr hc hset.2.1 hn hW
    have hgo := goOk_of e2 hS (clOk_T (A := A) hset e2)
    have hg := gapK_F (S := S) (g := nI i) hset.1
    obtain ⟨K', e3, e4⟩ := g_passes (G := G) (F := F) (h := wh G (xo h bx c) (bx + 1) S J Q) (b := bx + 106) (m := m) (t := t) (by omega) (by omega) hG (by omega) (gap_go hg hgo)
    have hne : ∀ j : Nat, j < 10 → ¬ nI j = -1 := fun j hj e => absurd (by rw [e]; decide) (nI_nn (e := j) (by omega))
    have hz : (clz x = -1) = (x = 0) := by
      unfold clz
      rcases hx with hx | ⟨j, hj, hx⟩
      · rw [if_pos hx]; exact propext ⟨fun _ => hx, fun _ => rfl⟩
      · by_cases h0 : x = 0
        · rw [if_pos h0]; exact propext ⟨fun _ => h0, fun _ => rfl⟩
        · rw [if_neg h0]; exact propext ⟨fun e => absurd (hx ▸ e) (hne j hj), fun e => absurd e h0⟩
    have ei : clz (nI i) = nI i := if_neg (nI_ne0 (by omega) (by omega))
    obtain ⟨h2', ht2⟩ : ∃ h2, tUp G h h2 bx ∧ h2 = wh G h (bx + 106) (passF (tabA A S 3) m (gapsF S (nI i))) K' R := ⟨_, tUp_wh e4.2.2.2.2, rfl⟩
    have hnew : (nI i : Int32) = 0 ∨ ∃ j, j < 10 ∧ nI i = nI j := Or.inr ⟨i, by omega, rfl⟩
    rw [sp_X0_best_L62, if_neg en]
    simp only [v_is, if_true, e1, Option.bind_some, x_is, x_withGap (show 40 ≤ F by omega) e2.1.1 hset.1, e3, x_f5, nI_1, bestL, hz]
    rw [t_back, ← ht2.2]
    by_cases g1 : x = 0
    · rw [if_pos g1, if_pos g1]
      obtain ⟨h3, k1, k2⟩ := ih (i + 1) f (nI i) (passF (tabA A S 3) m (gapsF S (nI i)) 7) h2' (by omega) (by omega) (by omega) ht2.1.1 hnew
      rw [ei] at k1
      exact ⟨h3, k1, tUp_trans ht2.1 k2⟩
    · rw [if_neg g1, if_neg g1]
      by_cases g2 : y ≤ passF (tabA A S 3) m (gapsF S (nI i)) 7
      · rw [if_pos g2, if_pos g2]
        obtain ⟨h3, k1, k2⟩ := ih (i + 1) f x y h2' (by omega) (by omega) (by omega) ht2.1.1 hx
        exact ⟨h3, k1, tUp_trans ht2.1 k2⟩
      · rw [if_neg g2, if_neg g2]
        obtain ⟨h3, k1, k2⟩ := ih (i + 1) f (nI i) (passF (tabA A S 3) m (gapsF S (nI i)) 7) h2' (by omega) (by omega) (by omega) ht2.1.1 hnew
        rw [ei] at k1
        exact ⟨h3, k1, tUp_trans ht2.1 k2⟩
theorem bestL_nz {m : Nat} : ∀ (k i : Nat) (x y : Int32), 1 ≤ i → i + k ≤ 20 → (¬ x = 0 ∨ 0 < k) → ¬ (bestL C S m k i x y).1 = 0 := by
  intro k
  induction k with
  | zero => intro i x y _ _ hx; exact hx.resolve_right (by omega)
  | succ k ih =>
    intro i x y h1 h2 hx
    have hne : ¬ nI i = 0 := nI_ne0 (by omega) (by omega)
    rw [bestL]
    split
    · exact ih _ _ _ (by omega) (by omega) (Or.inl hne)
    · rename_i hx0
      split
      · exact ih _ _ _ (by omega) (by omega) (Or.inl hx0)
      · exact ih _ _ _ (by omega) (by omega) (Or.inl hne)
theorem v_best {t : Nat} {p1 p2 : Int32} (hF : 200 ≤ F) (hG : gI4 G) (ht : t + 99 < 2 ^ 31) (htr : trOk G h bx) (hset : setOk S) (hc : cntOk S) (hn : numOk S t) (hS : ¬ S 2 = 0 → runOk S t) (hW : wOk S J Q) : ∃ c' h', sp_X0_best G F (wh G (xo h bx c) (bx + 1) S J Q) bx p1 p2 = some ((bestR (tabA A S 3) S (c 3) p1 p2).1, wh G (xo h' bx c') (bx + 1) S J Q) ∧ cR c c' (bestR (tabA A S 3) S (c 3) p1 p2).2 ∧ tUp G h h' bx := by
  unfold sp_X0_best
  simp only [i_in_0_1, i_in_0_60, Option.bind_some, b0]
  rcases (Classical.em (inB p2 0 1)).symm with h0 | h0
  · have eR : bestR (tabA A S 3) S (c 3) p1 p2 = (-1, c 3) := if_pos h0
    rw [eR, if_pos h0]
    exact ⟨c, h, rfl, cR_refl, tUp_refl htr⟩
  rw [if_neg (fun hh => hh h0)]
  rcases (Classical.em (inB p1 0 60)).symm with h1 | h1
  · have eR : bestR (tabA A S 3) S (c 3) p1 p2 = (-2, c 3) := by unfold bestR; rw [if_neg (fun hh => hh h0), if_pos h1]
    rw [eR, if_pos h1]
    exact ⟨c, h, rfl, cR_refl, tUp_refl htr⟩
  rw [if_neg (fun hh => hh h1)]
  simp only [v_f0, x_f0, Option.bind_some, v_is, if_true, v_counts, b0]
  by_cases h2 : S 2 = 0
  · have eR : bestR (tabA A S 3) S (c 3) p1 p2 = (-3, c 3) := by unfold bestR; rw [if_neg (fun hh => hh h0), if_neg (fun hh => hh h1), if_pos h2]
    rw [eR, if_pos h2]
    exact ⟨c, h, rfl, cR_refl, tUp_refl htr⟩
  rw [if_neg h2]
  obtain ⟨m, hm, rfl⟩ : ∃ k, k < 61 ∧ p1 = nI k := in_nI (m := 61) (by decide) h1
  generalize hz : (9 : Int32) * nI m = z
  by_cases h3 : c 3 + z ≤ 12000
  · have eR : bestR (tabA A S 3) S (c 3) (nI m) p2 = (if p2 = 0 then (bestL (tabA A S 3) S m 9 1 0 0).1 else (bestL (tabA A S 3) S m 9 1 0 0).2, c 3 + z) := by
      unfold bestR
      rw [hz, if_neg (fun hh => hh h0), if_neg (fun hh => hh h1), if_neg h2, if_neg (fun hh => hh h3), nI_c (by omega)]
    obtain ⟨h', e1, e2⟩ := v_best_L (A := A) (m := m) (y0 := p2) (c := upd c 3 (c 3 + z)) hF hG (by omega) ht hset hc hn (hS h2) hW 9 1 F 0 0 h (by omega) (by omega) (by omega) htr (Or.inl rfl)
    have e1' : sp_X0_best_L62 G F F (wh G (xo h bx (upd c 3 (c 3 + z))) (bx + 1) S J Q) bx (nI m) p2 (-1) 0 1 = _ := e1
    have en : clz (bestL (tabA A S 3) S m 9 1 0 0).1 = (bestL (tabA A S 3) S m 9 1 0 0).1 := if_neg (bestL_nz 9 1 0 0 (by omega) (by omega) (Or.inr (by omega)))
    rw [en] at e1'
    rw [eR, if_neg (fun hh => hh h3)]
    simp only [h3, if_true, e1', Option.bind_some]
    refine ⟨_, h', ?_, cR_upd, e2⟩
    by_cases h4 : p2 = 0
    · rw [if_pos h4, if_pos h4]
    · rw [if_neg h4, if_neg h4]
  · have eR : bestR (tabA A S 3) S (c 3) (nI m) p2 = (-4, c 3) := by
      unfold bestR
      rw [hz, if_neg (fun hh => hh h0), if_neg (fun hh => hh h1), if_neg h2, if_pos h3]
    rw [eR, if_pos h3]
    simp only [h3, if_false]
    exact ⟨c, h, rfl, cR_refl, tUp_refl htr⟩
theorem s_chance_L {m0 q : Nat} {p1 p4 p5 : Int32} (hF : 400 ≤ F) (hq : q < 100) (hm : m0 < 100) (hS : secOk S) : ∀ (m i f acc : Nat) (A : Nat → Nat → Int32), m + i = m0 → m < f → acc + m < 100 → ∃ A', sp_X13_chance_L70 G F f (mS h b A L S) b p1 (nI q) (nI m0) p4 p5 (nI acc) (nI i) = some (nI (chL (A 3) S q p1 p4 m i acc), mS h b A' L S) ∧ mR A A' (A 9 1) := by
  intro m
  induction m with
  | zero =>
    intro i f acc A hi hf ha
    obtain ⟨f, rfl⟩ : ∃ z, f = z + 1 := ⟨f - 1, by omega⟩
    refine ⟨A, ?_, mR_refl⟩
    rw [sp_X13_chance_L70, if_pos (nI_le (by omega) (by omega))]
    rfl
  | succ m ih =>
    intro i f acc A hi hf ha
    obtain ⟨f, rfl⟩ : ∃ z, f = z + 1 := ⟨f - 1, by omega⟩
    have hm9 : mindA A S 9 1 = A 9 1 := rfl
    have hm3 : mindA A S 3 = A 3 := rfl
    have hmr : mR A (mindA A S) (A 9 1) := mR_mind mR_refl
    rw [sp_X13_chance_L70, if_neg (nI_ge (by omega) (by omega))]
    simp only [s_is, if_true, s_f0, Option.bind_some, s_dayOf hF hq hS, nI_1, chL, Int32.add_zero]
    by_cases g : p4 < dayV (A 3) S q (p1 + nI i)
    · rw [if_pos g, if_pos g]
      obtain ⟨A', e1, e2⟩ := ih (i + 1) f acc (mindA A S) (by omega) (by omega) (by omega)
      rw [hm3] at e1
      rw [hm9] at e2
      exact ⟨A', e1, mR_trans hmr e2⟩
    · rw [if_neg g, if_neg g]
      obtain ⟨A', e1, e2⟩ := ih (i + 1) f (acc + 1) (mindA A S) (by omega) (by omega) (by omega)
      rw [hm3] at e1
      rw [hm9] at e2
      exact ⟨A', e1, mR_trans hmr e2⟩
theorem s_chance {p1 p2 p3 p4 p5 : Int32} (hF : 400 ≤ F) (h01 : S 2 = 0 ∨ S 2 = 1) (hS : ¬ S 2 = 0 → secOk S) : ∃ A', sp_X13_chance G F (mS h b A L S) b p1 p2 p3 p4 p5 = some ((chanceR (A 3) S (A 9 1) p1 p2 p3 p4 p5).1, mS h b A' L S) ∧ mR A A' (chanceR (A 3) S (A 9 1) p1 p2 p3 p4 p5).2 := by
  unfold sp_X13_chance
  simp only [i_isIn, Option.bind_some, b0]
  by_cases hin : inB p2 0 99 ∧ inB p3 1 4 ∧ inB p4 0 99999 ∧ inB p5 0 1 ∧ S 2 = 1
  · obtain ⟨i2, i3, i4, i5, i6⟩ := hin
    have h2 : ¬ S 2 = 0 := by rw [i6]; decide
    rw [if_neg (fun hh => hh i2), if_neg (fun hh => hh i3), if_neg (fun hh => hh i4), if_neg (fun hh => hh i5)]
    simp only [s_is, if_true, s_f0, Option.bind_some, s_r_2, h2, if_false, s_counts, b0]
    obtain ⟨q, hq, rfl⟩ : ∃ k, k < 100 ∧ p2 = nI k := in_nI (m := 100) (by decide) i2
    obtain ⟨m, hm, rfl⟩ : ∃ k : Nat, k ≤ 4 ∧ p3 = nI k := nI_of2 (n := 4) (M := 4) (by decide) (Int32.not_lt.mpr (Int32.le_trans (by decide) i3.1)) i3.2
    have hm1 : 1 ≤ m := (nI_leI (a := 1) (b := m) (by decide) (by omega)).mp i3.1
    generalize hz : nI m * nI q = z
    have hcc := mR_cnt (A := A) (n := z)
    by_cases h3 : A 9 1 + z ≤ 12000
    · have eR : chanceR (A 3) S (A 9 1) p1 (nI q) (nI m) p4 p5 = (fracV (chL (A 3) S q p1 p4 m 0 0) m p5, A 9 1 + z) := by
        unfold chanceR
        rw [hz, if_neg (fun hh => hh ⟨i2, i3, i4, i5, i6⟩), if_neg (fun hh => hh h3), nI_c (by omega), nI_c (by omega)]
      rw [cnt_y h3] at hcc
      obtain ⟨A', e1, e2⟩ := s_chance_L (G := G) (F := F) (h := h) (b := b) (L := L) (m0 := m) (p1 := p1) (p4 := p4) (p5 := p5) hF hq (by omega) (hS h2) m 0 F 0 (cntA A z) (by omega) (by omega) (by omega)
      rw [cntA_3] at e1
      have e1' : sp_X13_chance_L70 G F F (mS h b (cntA A z) L S) b p1 (nI q) (nI m) p4 p5 0 0 = _ := e1
      have hle := chL_le (C := A 3) (S := S) (n := q) (seed := p1) (k := p4) m 0 0
      have e9 : cntA A z 9 1 = A 9 1 + z := by have := hcc 9 1 (by decide); rw [if_pos ⟨rfl, rfl⟩] at this; exact this
      rw [e9] at e2
      rw [eR, if_neg (fun hh => hh h3)]
      refine ⟨A', ?_, mR_trans hcc e2⟩
      rw [e1']
      simp only [Option.bind_some, i_part (G := G) (F := F) (show chL (A 3) S q p1 p4 m 0 0 < 2 ^ 31 by omega) (show 0 < m by omega) (show m < 2 ^ 24 by omega)]
    · have eR : chanceR (A 3) S (A 9 1) p1 (nI q) (nI m) p4 p5 = (NOl, A 9 1) := by
        unfold chanceR
        rw [hz, if_neg (fun hh => hh ⟨i2, i3, i4, i5, i6⟩), if_pos h3]
      rw [cnt_n h3] at hcc
      rw [eR, if_pos h3]
      exact ⟨cntA A z, rfl, hcc⟩
  · have eR : chanceR (A 3) S (A 9 1) p1 p2 p3 p4 p5 = (NOl, A 9 1) := if_pos hin
    rw [eR]
    refine ⟨A, ?_, mR_refl⟩
    by_cases i2 : inB p2 0 99
    · rw [if_neg (fun hh => hh i2)]
      by_cases i3 : inB p3 1 4
      · rw [if_neg (fun hh => hh i3)]
        by_cases i4 : inB p4 0 99999
        · rw [if_neg (fun hh => hh i4)]
          by_cases i5 : inB p5 0 1
          · rw [if_neg (fun hh => hh i5)]
            have i6 : S 2 = 0 := h01.resolve_right (fun hh => hin ⟨i2, i3, i4, i5, hh⟩)
            simp only [s_is, if_true, s_f0, Option.bind_some, s_r_2, i6, if_true]
            rfl
          · rw [if_pos i5]; rfl
        · rw [if_pos i4]; rfl
      · rw [if_pos i3]; rfl
    · rw [if_pos i2]; rfl
theorem v_chance_L {t m0 q n0 : Nat} {p1 p4 p5 : Int32} (hF : 200 ≤ F) (hG : gI4 G) (hq : q < 100) (hm : m0 < 100) (ht : t + 99 < 2 ^ 31) (hset : setOk S) (hc : cntOk S) (hn : numOk S t) (hS : runOk S t) (hW : wOk S J Q) : ∀ (m i f acc : Nat) (h : gH), m + i = m0 → m < f → acc + m < 100 → trOk G h bx → ∃ h', sp_X0_chance_L87 G F n0 f (wh G (xo h bx c) (bx + 1) S J Q) bx p1 (nI q) (nI m0) p4 p5 (nI acc) (nI i) = some (nI (chL (tabA A S 3) S q p1 p4 m i acc), wh G (xo h' bx c) (bx + 1) S J Q) ∧ tUp G h h' bx := by
  intro m
  induction m with
  | zero =>
    intro i f acc h hi hf ha htr
    obtain ⟨f, rfl⟩ : ∃ z, f = z + 1 := ⟨f - 1, by omega⟩
    refine ⟨h, ?_, tUp_refl htr⟩
    rw [sp_X0_chance_L87, if_pos (nI_le (by omega) (by omega))]
    rfl
  | succ m ih =>
    intro i f acc h hi hf ha htr
    obtain ⟨f, rfl⟩ : ∃ z, f = z + 1 := ⟨f - 1, by omega⟩
    obtain ⟨h1, e1, e2⟩ := v_dayBy (c := c) (x := p1 + nI i) (A := A) hF hG hq ht htr hset hc hn hS hW
    rw [sp_X0_chance_L87, if_neg (nI_ge (by omega) (by omega))]
    simp only [v_is, if_true, e1, Option.bind_some, nI_1, chL, Int32.add_zero]
    by_cases g : p4 < dayV (tabA A S 3) S q (p1 + nI i)
    · rw [if_pos g, if_pos g]
      obtain ⟨h2, k1, k2⟩ := ih (i + 1) f acc h1 (by omega) (by omega) (by omega) e2.1
      exact ⟨h2, k1, tUp_trans e2 k2⟩
    · rw [if_neg g, if_neg g]
      obtain ⟨h2, k1, k2⟩ := ih (i + 1) f (acc + 1) h1 (by omega) (by omega) (by omega) e2.1
      exact ⟨h2, k1, tUp_trans e2 k2⟩
end X8
