/-! x2: the class's calls: tell, seed, over, start, cycle, come, safety, goes -/
set_option maxRecDepth 100000
def tellR (S : Nat → Int32) (p1 p2 p3 : Int32) : Int32 × (Nat → Int32) :=
  if ¬ inB p1 0 (S 13 - 1) then (-1, S) else if ¬ inB p2 0 3 then (-1, S) else if inB p3 (if p2.toNatClampNeg = 1 then S (sA p1.toNatClampNeg 1) else if p2.toNatClampNeg = 3 then 0 else 1) (if p2.toNatClampNeg = 0 then minI 20 (S (sA p1.toNatClampNeg 2)) else if p2.toNatClampNeg = 1 then 99 else if p2.toNatClampNeg = 2 then 9 else 60)
  then (S (sA p1.toNatClampNeg (1 + p2.toNatClampNeg)), upd S (sA p1.toNatClampNeg (1 + p2.toNatClampNeg)) p3) else (-2, S)
def overR (S : Nat → Int32) : Int32 × (Nat → Int32) := if 0 ≤ S 6 then (S 6, upd S 6 (-5)) else (-3, S)
def comeR (S : Nat → Int32) (p1 p2 : Int32) : Int32 × (Nat → Int32) := if ¬ inB p1 0 (S 13 - 1) then (-1, S) else if ¬ inB p2 1 20 then (-2, S) else (joinsF S p1.toNatClampNeg p2 (sA p1.toNatClampNeg 5), joinsF S p1.toNatClampNeg p2)
section R2
variable {h : gH} {b : Nat} {A : Nat → Nat → Int32} {L : Nat → Nat → Int64} {S : Nat → Int32} {G : gG} {F : Nat}
theorem t_tellR {p1 p2 p3 : Int32} (ok : rowOk S) (hm : mOk S) : sp_X13_tell G F (mT h b A L S) b p1 p2 p3 = some ((tellR S p1 p2 p3).1, mT h b A L (tellR S p1 p2 p3).2) := by
  unfold tellR
  rcases (Classical.em (inB p1 0 (S 13 - 1))).symm with h1 | h1
  · rw [t_tell_not (fun hh => h1 hh.1), if_pos h1]
  rcases (Classical.em (inB p2 0 3)).symm with h2 | h2
  · rw [t_tell_not (fun hh => h2 hh.2), if_neg (fun hh => hh h1), if_pos h2]
  rw [if_neg (fun hh => hh h1), if_neg (fun hh => hh h2)]
  have h1' := h1
  rw [hm.2] at h1'
  obtain ⟨a, ha, rfl⟩ : ∃ k, k < manyN S ∧ p1 = nI k := in_nI (by have := hm.1; omega) h1'
  obtain ⟨w, hw, rfl⟩ : ∃ k, k < 4 ∧ p2 = nI k := in_nI (m := 4) (by decide) h2
  have h8 := hm.1
  rw [t_tell ok hm ha hw h1 h2, nI_c (show a < 2 ^ 31 by omega), nI_c (show w < 2 ^ 31 by omega)]
  generalize (if w = 1 then S (sA a 1) else if w = 3 then (0 : Int32) else 1) = lo
  generalize (if w = 0 then minI 20 (S (sA a 2)) else if w = 1 then (99 : Int32) else if w = 2 then 9 else 60) = hi
  split <;> rfl
theorem t_overR (ok : rowOk S) : sp_X13_over G F (mT h b A L S) b = some ((overR S).1, mT h b A L (overR S).2) := by
  rw [t_over ok]
  unfold overR
  split <;> rfl
theorem t_comeR {p1 p2 : Int32} (ok : rowOk S) (hm : mOk S) : sp_X13_come G F (mT h b A L S) b p1 p2 = some ((comeR S p1 p2).1, mT h b A L (comeR S p1 p2).2) := by
  rw [t_come ok hm]
  unfold comeR
  split
  · rfl
  · split <;> rfl
end R2
/-- the heap from n on alone was changed, by one cell at most -/
def hUp (h h' : gH) (n n' : Nat) : Prop := n ≤ n' ∧ n' ≤ n + 1 ∧ ∀ a, a < n → h' a = h a
theorem hUp_refl {h : gH} {n : Nat} : hUp h h n n := ⟨Nat.le_refl n, by omega, fun _ _ => rfl⟩
theorem hUp_1 {h : gH} {n : Nat} {k : Option gC} : hUp h (va_up h n k) n (n + 1) := ⟨by omega, Nat.le_refl _, fun a ha => if_neg (by omega)⟩
theorem wOk_same {S T : Nat → Int32} {J : Nat → Nat → Int32} {Q : Nat → Nat → Int64} (e13 : T 13 = S 13) (e15 : T 15 = S 15) (hro : rowOk S) (hm : mOk S) (e1 : T 1 = S 1) (e : ∀ a w, a < 8 → w = 0 ∨ (11 ≤ w ∧ w < 20) → T (sA a w) = S (sA a w)) (hW : wOk S J Q) : wOk T J Q := by
  obtain ⟨w1, w2, w3, w4, w5⟩ := hW
  have em : manyN T = manyN S := by unfold manyN; rw [e13]
  have ht := tabEq_of hro e1 e
  have h8 := hm.1
  refine ⟨w1, ?_, w3, ?_, ?_⟩
  · unfold rrOk recN at *
    rw [e15]
    exact w2
  · intro a ha c hc
    rw [em] at ha
    rw [placeV_keep (fun w h1 h2 => e a w (by omega) (Or.inr ⟨h1, h2⟩)) (hro a (by omega)).cells.1]
    exact w4 a ha c hc
  · intro x y hx hy
    rw [em] at hx hy
    rw [(ht x y (by omega) (by omega)).1]
    exact w5 x y hx hy
theorem wOk_upd {S : Nat → Int32} {J : Nat → Nat → Int32} {Q : Nat → Nat → Int64} {p : Nat} {x : Int32} (h13 : p ≠ 13) (h15 : p ≠ 15) (hf : tabFree p) (hro : rowOk S) (hm : mOk S) (hW : wOk S J Q) : wOk (upd S p x) J Q :=
  wOk_same (upd_ne (Ne.symm h13)) (upd_ne (Ne.symm h15)) hro hm (upd_ne (Ne.symm hf.1)) (fun a w ha hw => upd_ne (by
    obtain ⟨-, hf2⟩ := hf
    unfold sA
    omega)) hW
section X2
variable {G : gG} {F n bx : Nat} {h : gH} {c : Nat → Int32} {S : Nat → Int32} {J : Nat → Nat → Int32} {Q : Nat → Nat → Int64}
theorem v_seed {p1 : Int32} (hr : rtN J < 24) : sp_X0_seed G F (wh G (xo h bx c) (bx + 1) S J Q) bx p1 = some (S 0, wh G (xo h bx c) (bx + 1) (upd S 0 p1) J Q) := by
  unfold sp_X0_seed
  simp only [v_f0, x_f8, x_p8 _ hr, Option.bind_some]
theorem v_over (hr : rtN J < 24) (hn : negOk S) : sp_X0_over G F (wh G (xo h bx c) (bx + 1) S J Q) bx = some ((overR S).1, wh G (xo h bx c) (bx + 1) (overR S).2 J Q) := by
  unfold sp_X0_over overR
  simp only [v_f0, x_f4, x_p4 _ hr, Option.bind_some]
  by_cases h1 : S 6 = -5
  · rw [if_pos h1, if_neg (by rw [h1]; decide)]
  · rw [if_neg h1, if_pos (Int32.not_lt.mp (fun hh => h1 (hn.2 hh)))]
theorem v_tell {p1 p2 p3 : Int32} (hr : rtN J < 24) (hm : mOk S) : sp_X0_tell G F (wh G (xo h bx c) (bx + 1) S J Q) bx p1 p2 p3 = some ((tellR S p1 p2 p3).1, wh G (xo h bx c) (bx + 1) (tellR S p1 p2 p3).2 J Q) := by
  unfold sp_X0_tell tellR
  simp only [v_is, if_true, v_isSignal, i_in_0_3, Option.bind_some, b0]
  rcases (Classical.em (inB p1 0 (S 13 - 1))).symm with h1 | h1
  · simp only [h1, not_false_eq_true, if_true]
  rcases (Classical.em (inB p2 0 3)).symm with h2 | h2
  · simp only [eq_true h1, h2, not_false_eq_true, not_true_eq_false, if_true, if_false]
  simp only [eq_true h1, eq_true h2, not_true_eq_false, if_false]
  rw [hm.2] at h1
  obtain ⟨a, ha, rfl⟩ : ∃ k, k < manyN S ∧ p1 = nI k := in_nI (by have := hm.1; omega) h1
  obtain ⟨w, hw, rfl⟩ : ∃ k, k < 4 ∧ p2 = nI k := in_nI (m := 4) (by decide) h2
  have h8 := hm.1
  have ha8 : a < 8 := by omega
  simp only [v_f0, x_f22, x_a1 ha8, x_sg_is ha8, if_true, x_most ha8 ha, x_least ha8 ha, i_min, i_in_1v, i_in_v99, i_in_1_9, i_in_0_60, x_sg_f3 ha8, x_t ha8 ha hw, x_ts _ hr ha8 ha hw, Option.bind_some, nI_c (show a < 2 ^ 31 by omega), nI_c (show w < 2 ^ 31 by omega)]
  have ej : (if nI w = 0 then some (if inB p3 1 (minI 20 (S (sA a 2))) then (1 : Int32) else 0) else if nI w = 1 then some (if inB p3 (S (sA a 1)) 99 then (1 : Int32) else 0) else if nI w = 2 then some (if inB p3 1 9 then (1 : Int32) else 0) else some (if inB p3 0 60 then (1 : Int32) else 0)) = some (if inB p3 (if w = 1 then S (sA a 1) else if w = 3 then 0 else 1) (if w = 0 then minI 20 (S (sA a 2)) else if w = 1 then 99 else if w = 2 then 9 else 60) then 1 else 0) := by
    match w, hw with
    | 0, _ => rfl
    | 1, _ => rfl
    | 2, _ => rfl
    | 3, _ => rfl
  rw [ej]
  simp only [Option.bind_some, b0]
  by_cases h3 : inB p3 (if w = 1 then S (sA a 1) else if w = 3 then 0 else 1) (if w = 0 then minI 20 (S (sA a 2)) else if w = 1 then 99 else if w = 2 then 9 else 60)
  · rw [if_neg (fun hh => hh h3), if_pos h3]
  · rw [if_pos h3, if_neg h3]
theorem v_start (hr : rtN J < 24) (hc : cntOk S) : sp_X0_start G F (wh G (xo h bx c) (bx + 1) S J Q) bx = some ((startR S).1, wh G (xo h bx c) (bx + 1) (startR S).2 J Q) := by
  obtain ⟨h1, h2, h3, h4, h5, h6⟩ := hc
  have h66 := h2.1
  unfold sp_X0_start startR
  simp only [v_f0, x_f0, x_f14, Option.bind_some]
  by_cases g1 : S 2 = 0
  · have g1' : ¬ S 2 = 1 := by rw [g1]; decide
    rw [if_pos g1, if_neg g1']
    by_cases g2 : S 14 = 0
    · rw [if_pos g2, if_pos g2]
    · rw [if_neg g2, if_neg g2]
      have hp0 : 0 < phN S := by
        rcases Nat.eq_zero_or_pos (phN S) with h0 | h0
        · exact absurd (by rw [h2.2, h0]; rfl) g2
        · exact h0
      have hp1 : 0 < phN (upd (upd S 2 1) 4 0) := by unfold phN at *; rw [upd_ne (by decide), upd_ne (by decide)]; exact hp0
      have e2 : upd (upd S 2 1) 4 0 (pA 0 2) = upd S 2 1 (pA 0 2) := upd_ne (by decide)
      have ea : ∀ (S : Nat → Int32), gAr 6 (wh G (xo h bx c) (bx + 1) S J Q) (bx + 1 + 2) 0 = some (phA (bx + 1) 0) := fun S => x_a2 (k := 0) (by decide)
      have e14 : comesOnF (upd S 2 1) 0 14 = S 14 := by
        unfold comesOnF
        rw [upd_ne (by decide), upd_ne (by decide), upd_ne (by decide)]
      simp only [x_p0 _ hr, x_p2 _ hr, v_f0, x_f23, ea, x_ph_f2 (show 0 < 6 by decide) hp1, x_ph_p2 _ hr (show 0 < 6 by decide) hp1, e2, Option.bind_some, x_f14]
      rw [show upd (upd (upd S 2 1) 4 0) (pA 0 2) (upd S 2 1 (pA 0 2) + 1) = comesOnF (upd S 2 1) 0 from rfl, e14]
  · have g1' : S 2 = 1 := h6.resolve_left g1
    rw [if_neg g1, if_pos g1']
theorem v_come {p1 p2 : Int32} {t : Nat} (hr : rtN J < 24) (hm : mOk S) (hn : numOk S t) : sp_X0_come G F (wh G (xo h bx c) (bx + 1) S J Q) bx p1 p2 = some ((comeR S p1 p2).1, wh G (xo h bx c) (bx + 1) (comeR S p1 p2).2 J Q) := by
  unfold sp_X0_come comeR
  simp only [v_is, if_true, v_isSignal, i_in_1_20, Option.bind_some, b0]
  rcases (Classical.em (inB p1 0 (S 13 - 1))).symm with h1 | h1
  · simp only [h1, not_false_eq_true, if_true]
  rcases (Classical.em (inB p2 1 20)).symm with h2 | h2
  · simp only [eq_true h1, h2, not_false_eq_true, not_true_eq_false, if_true, if_false]
  simp only [eq_true h1, eq_true h2, not_true_eq_false, if_false]
  rw [hm.2] at h1
  obtain ⟨a, ha, rfl⟩ : ∃ k, k < manyN S ∧ p1 = nI k := in_nI (by have := hm.1; omega) h1
  obtain ⟨j, hj, rfl⟩ : ∃ k : Nat, k ≤ 20 ∧ p2 = nI k := nI_of2 (n := 20) (M := 20) (by decide) (Int32.not_lt.mpr (Int32.le_trans (by decide) h2.1)) h2.2
  have h8 := hm.1
  have ha8 : a < 8 := by omega
  obtain ⟨⟨q, hq, eq⟩, -⟩ := hn.2 a ha
  have e1 : (99 : Int32) - nI q = nI (99 - q) := pk_sub (a := 99) hq
  have e2 : minI (nI j) (nI (99 - q)) = nI (min j (99 - q)) := min_nI (by omega) (by omega)
  have e3 : nI q + nI (min j (99 - q)) = nI (q + min j (99 - q)) := nI_add _ _
  have e4 : nI j - nI (min j (99 - q)) = nI (j - min j (99 - q)) := pk_sub (by omega)
  have e5 : minI 99 (nI q + nI j) = nI (q + min j (99 - q)) := by
    rw [nI_add, show (99 : Int32) = nI 99 from rfl, min_nI (by omega) (by omega)]
    congr 1
    omega
  have e6 : maxI 0 (nI q + nI j - 99) = nI (j - min j (99 - q)) := by
    rw [nI_add]
    unfold maxI
    by_cases hle : 99 ≤ q + j
    · rw [show nI (q + j) - 99 = nI (q + j - 99) from pk_sub (b := 99) hle]
      by_cases h0 : q + j - 99 = 0
      · rw [h0, if_neg (by decide)]
        rw [show j - min j (99 - q) = 0 by omega]; rfl
      · rw [if_pos (show (0 : Int32) < nI (q + j - 99) from nI_lt (a := 0) (by omega) (by omega))]
        congr 1
        omega
    · have hneg : nI (q + j) - 99 < 0 := pk_sneg (b := 99) (by decide) (by omega)
      rw [if_neg (fun hh => absurd hneg (Int32.not_lt.mpr (Int32.le_of_lt hh))), show j - min j (99 - q) = 0 by omega]
      rfl
  have him : ∀ x, a < manyN (upd S (sA a 5) x) := fun x => by rw [many_s]; exact ha
  have e7 : ∀ x, upd S (sA a 5) x 9 = S 9 := fun x => upd_ne (by unfold sA; omega)
  have him2 : ∀ x y, a < manyN (upd (upd S (sA a 5) x) 9 y) := fun x y => by rw [many_upd (by decide), many_s]; exact ha
  have e8 : ∀ x y, upd (upd S (sA a 5) x) 9 y (sA a 5) = x := fun x y => by rw [upd_ne (by unfold sA; omega), upd_eq]
  simp only [v_f0, x_f22, x_a1 ha8, x_sg_f5 ha8 ha, eq, e1, i_min, e2, x_sg_is ha8, if_true, sp_X2_comes, x_sg_p5 _ hr ha8 ha, e3, Option.bind_some, x_f7, e7, e4, x_p7 _ hr, x_sg_f5 ha8 (him2 _ _), e8, nI_c (show a < 2 ^ 31 by omega)]
  have ej : joinsF S a (nI j) = upd (upd S (sA a 5) (nI (q + min j (99 - q)))) 9 (S 9 + nI (j - min j (99 - q))) := by
    unfold joinsF
    rw [eq, e5, e6]
  rw [ej, e8]
end X2
