/-! m8: signal, goes, tell, safety, cycle, come, seed, over -/
set_option maxRecDepth 100000
def manyN (S : Nat → Int32) : Nat := (S 13).toNatClampNeg
def mOk (S : Nat → Int32) : Prop := manyN S ≤ 8 ∧ S 13 = nI (manyN S)
theorem nI_sub1 (m : Nat) : nI (m + 1) - 1 = nI m := by
  rw [← nI_1]
  exact Int32.add_sub_cancel _ _
theorem comesF_ne {S : Nat → Int32} {m k : Nat} {p1 p2 p3 p4 p5 : Int32} (h13 : k ≠ 13) (hk : k < 24 + 24 * m ∨ 48 + 24 * m ≤ k) : comesF S m p1 p2 p3 p4 p5 k = S k := by
  unfold comesF
  simp (disch := omega) only [sA, upd_ne]
  unfold zr
  rw [if_neg (by omega)]
theorem comesF_0 {S : Nat → Int32} {m : Nat} {p1 p2 p3 p4 p5 : Int32} : comesF S m p1 p2 p3 p4 p5 (sA m 0) = p1 := by
  unfold comesF
  simp (disch := omega) only [sA, upd_ne, upd_eq]
theorem comesF_11 {S : Nat → Int32} {m : Nat} {p1 p2 p3 p4 p5 : Int32} : comesF S m p1 p2 p3 p4 p5 (sA m 11) = 0 := by
  unfold comesF
  simp (disch := omega) only [sA, upd_ne]
  unfold zr
  rw [if_pos (by omega)]
theorem comesF_13 {S : Nat → Int32} {m : Nat} {p1 p2 p3 p4 p5 : Int32} : comesF S m p1 p2 p3 p4 p5 13 = nI (m + 1) := upd_eq
theorem rowOk_comes {S : Nat → Int32} {m k : Nat} {p2 p3 p4 p5 : Int32} (ok : rowOk S) (hk : k < 4) : rowOk (comesF S m (nI k) p2 p3 p4 p5) := by
  intro a ha
  by_cases e : a = m
  · subst e
    exact ⟨⟨k, hk, comesF_0⟩, 0, by omega, comesF_11⟩
  · have := ok a ha
    unfold sigOk at this ⊢
    rw [comesF_ne (by unfold sA; omega) (by unfold sA; omega), comesF_ne (by unfold sA; omega) (by unfold sA; omega)]
    exact this
theorem cells_comes {S : Nat → Int32} {m : Nat} {p1 p2 p3 p4 p5 : Int32} : cellsN (comesF S m p1 p2 p3 p4 p5) m = 0 := by
  unfold cellsN
  rw [comesF_11]
  rfl
theorem goesOnF_ne {S : Nat → Int32} {a k : Nat} {c : Int32} (h1 : k ≠ sA a 11) (h2 : k ≠ sA a (12 + cellsN S a)) : goesOnF S a c k = S k := by
  unfold goesOnF
  rw [upd_ne h1, upd_ne h2]
theorem rowOk_goesOn {S : Nat → Int32} {m : Nat} {c : Int32} (ok : rowOk S) (h8 : cellsN S m < 8) : rowOk (goesOnF S m c) := by
  intro a ha
  have := ok a ha
  unfold sigOk at this ⊢
  rw [goesOnF_ne (by unfold sA; omega) (by unfold sA; omega)]
  refine ⟨this.1, ?_⟩
  by_cases e : a = m
  · subst e
    exact ⟨cellsN S a + 1, by omega, upd_eq⟩
  · rw [goesOnF_ne (by unfold sA; omega) (by unfold sA; omega)]
    exact this.2
def signalR (S : Nat → Int32) (p1 p2 : Int32) : Int32 × (Nat → Int32) :=
  if ¬ inB p1 0 3 then (-2, S) else if ¬ inB p2 0 63 then (-2, S) else if S 2 = 1 then (-3, S) else if S 13 = 8 then (-4, S)
  else (nI (manyN S), goesOnF (comesF S (manyN S) p1 5 40 3 0) (manyN S) p2)
def goesR (S : Nat → Int32) (p1 p2 : Int32) : Int32 × (Nat → Int32) :=
  if ¬ inB p1 0 (S 13 - 1) then (-1, S) else if ¬ inB p2 0 63 then (-2, S) else if ¬ placeV S p1.toNatClampNeg p2 < 0 then (-2, S) else if ¬ S 14 ≤ 0 then (-3, S)
  else if S (sA p1.toNatClampNeg 11) = 8 then (-4, S)
  else (nI (cellsN S p1.toNatClampNeg + 1), goesOnF S p1.toNatClampNeg p2)
def mayTell (S : Nat → Int32) (a : Nat) (p2 p3 : Int32) : Prop :=
  if p2 = 0 then inB p3 1 (if (20 : Int32) ≤ S (sA a 2) then 20 else S (sA a 2)) else if p2 = 1 then inB p3 (S (sA a 1)) 99 else if p2 = 2 then inB p3 1 9 else inB p3 0 60
def safetyR (S : Nat → Int32) (p1 : Int32) : Int32 × (Nat → Int32) :=
  if ¬ inB p1 0 5 then (-2, S) else if S 2 = 1 then (-3, S) else (S 1, upd S 1 p1)
section M8
variable {h : gH} {b : Nat} {A : Nat → Nat → Int32} {L : Nat → Nat → Int64} {S : Nat → Int32} {G : gG} {F : Nat}
theorem t_signal {p1 p2 : Int32} (hF : 40 ≤ F) (ok : rowOk S) (hm : mOk S) : sp_X13_signal G F (mT h b A L S) b p1 p2 = some ((signalR S p1 p2).1, mT h b A L (signalR S p1 p2).2) := by
  unfold sp_X13_signal signalR
  simp only [i_isIn, Option.bind_some, b0]
  rcases (Classical.em (inB p1 0 3)).symm with h1 | h1
  · simp only [h1, not_false_eq_true, if_true]
  rcases (Classical.em (inB p2 0 63)).symm with h2 | h2
  · simp only [eq_true h1, h2, not_false_eq_true, not_true_eq_false, if_true, if_false]
  simp only [eq_true h1, eq_true h2, not_true_eq_false, if_false]
  unfold mT
  simp only [s_is, if_true, s_f0, Option.bind_some, s_r_2, s_r_13]
  by_cases h3 : S 2 = 1
  · simp only [h3, if_true]
  by_cases h4 : S 13 = 8
  · simp only [h3, h4, if_true, if_false]
  simp only [h3, h4, if_false]
  have hm8 : manyN S < 8 := by
    have := hm.1
    rcases Nat.lt_or_ge (manyN S) 8 with h | h
    · exact h
    · exact absurd (by rw [hm.2, show manyN S = 8 by omega]; rfl) h4
  obtain ⟨k, hk, rfl⟩ : ∃ k, k < 4 ∧ p1 = nI k := in_nI (m := 4) (by decide) h1
  rw [s_comes (by omega) hm.2 hm8]
  have ok1 : rowOk (comesF S (manyN S) (nI k) 5 40 3 0) := rowOk_comes ok hk
  simp only [s_is, if_true, s_f0, Option.bind_some, s_r_13, comesF_13, nI_sub1]
  rw [s_goesOn hm8 (ok1 _ hm8) (by rw [cells_comes]; decide)]
  have ok2 : rowOk (goesOnF (comesF S (manyN S) (nI k) 5 40 3 0) (manyN S) p2) := rowOk_goesOn ok1 (by rw [cells_comes]; decide)
  simp only [s_is, if_true, s_f0, Option.bind_some]
  rw [s_clearsT (by omega) ok2]
  unfold mT
  simp only [s_is, if_true, s_f0, Option.bind_some, s_r_13]
  rw [goesOnF_ne (by unfold sA; omega) (by unfold sA; omega), comesF_13, nI_sub1]
theorem t_goes {p1 p2 : Int32} (hF : 40 ≤ F) (ok : rowOk S) (hm : mOk S) : sp_X13_goes G F (mT h b A L S) b p1 p2 = some ((goesR S p1 p2).1, mT h b A L (goesR S p1 p2).2) := by
  unfold sp_X13_goes goesR
  unfold mT
  simp only [s_is, if_true, s_f0, Option.bind_some, s_isSignal, i_isIn, b0]
  rcases (Classical.em (inB p1 0 (S 13 - 1))).symm with h1 | h1
  · simp only [h1, not_false_eq_true, if_true]
  rcases (Classical.em (inB p2 0 63)).symm with h2 | h2
  · simp only [eq_true h1, h2, not_false_eq_true, not_true_eq_false, if_true, if_false]
  simp only [eq_true h1, eq_true h2, not_true_eq_false, if_false]
  rw [hm.2] at h1
  obtain ⟨a, ha, rfl⟩ : ∃ k, k < manyN S ∧ p1 = nI k := in_nI (by have := hm.1; omega) h1
  have ha8 : a < 8 := by have := hm.1; omega
  have hpl : sp_X13_placeIn G F (mS h b (tabA A S) L S) b (nI a) p2 = some (placeV S a p2) := by
    have := m_placeIn (h := h) (b := b) (A := va_up (tabA A S) 0 S) (L := L) (G := G) (F := F) (c := p2) (by omega) ha8 (ok a ha8).cells.2 (ok a ha8).cells.1
    exact this
  have ea : (nI a).toNatClampNeg = a := nI_c (by omega)
  simp only [s_is, if_true, s_f0, Option.bind_some, hpl, ea, s_r_14, s_at_11, ha8]
  rcases (Classical.em (placeV S a p2 < 0)).symm with h3 | h3
  · simp only [h3, not_false_eq_true, if_true, if_false]
  rcases (Classical.em (S 14 ≤ 0)).symm with h4 | h4
  · simp only [h3, h4, not_false_eq_true, not_true_eq_false, if_true, if_false]
  by_cases h5 : S (sA a 11) = 8
  · simp only [h3, h4, h5, not_true_eq_false, if_true, if_false]
  simp only [h3, h4, h5, not_true_eq_false, if_true, if_false]
  have hc8 : cellsN S a < 8 := by
    have := (ok a ha8).cells
    rcases Nat.lt_or_ge (cellsN S a) 8 with h | h
    · exact h
    · exact absurd (by rw [this.2, show cellsN S a = 8 by omega]; rfl) h5
  rw [s_goesOn ha8 (ok a ha8) hc8]
  simp only [s_is, if_true, s_f0, Option.bind_some]
  rw [s_clearsT (by omega) (rowOk_goesOn ok hc8)]
  unfold mT
  simp only [s_is, if_true, s_f0, Option.bind_some, s_at_11, ha8]
  rw [show goesOnF S a p2 (sA a 11) = nI (cellsN S a + 1) from upd_eq]
theorem t_safety {p1 : Int32} (hF : 40 ≤ F) (ok : rowOk S) : sp_X13_safety G F (mT h b A L S) b p1 = some ((safetyR S p1).1, mT h b A L (safetyR S p1).2) := by
  unfold sp_X13_safety safetyR
  simp only [i_isIn, Option.bind_some, b0]
  rcases (Classical.em (inB p1 0 5)).symm with h1 | h1
  · simp only [h1, not_false_eq_true, if_true]
  simp only [eq_true h1, not_true_eq_false, if_false]
  unfold mT
  simp only [s_is, if_true, s_f0, Option.bind_some, s_r_2, s_r_1, s_w_1]
  by_cases h3 : S 2 = 1
  · simp only [h3, if_true]
  simp only [h3, if_false]
  have ok1 : rowOk (upd S 1 p1) := by
    intro a ha
    have := ok a ha
    unfold sigOk at this ⊢
    rw [upd_ne (by unfold sA; omega), upd_ne (by unfold sA; omega)]
    exact this
  rw [s_clearsT (by omega) ok1]
  rfl
theorem t_seed {p1 : Int32} (ok : rowOk S) : sp_X13_seed G F (mT h b A L S) b p1 = some (S 0, mT h b A L (upd S 0 p1)) := by
  unfold sp_X13_seed
  unfold mT
  simp only [s_is, if_true, s_f0, Option.bind_some, s_r_0, s_w_0]
  rw [mT_upd ok (by unfold tabFree; omega)]
  rfl
theorem t_over (ok : rowOk S) : sp_X13_over G F (mT h b A L S) b = some (if 0 ≤ S 6 then (S 6, mT h b A L (upd S 6 (-5))) else (-3, mT h b A L S)) := by
  unfold sp_X13_over
  unfold mT
  simp only [s_is, if_true, s_f0, Option.bind_some, s_r_6, s_w_6]
  by_cases h1 : 0 ≤ S 6
  · simp only [h1, if_true]
    rw [mT_upd ok (by unfold tabFree; omega)]
    rfl
  · simp only [h1, if_false]
end M8
