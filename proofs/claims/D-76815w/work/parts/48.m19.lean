/-! m19: phase -/
set_option maxRecDepth 100000
def phaseF (S : Nat → Int32) (p1 p2 : Int32) : Nat → Int32 := upd (upd (upd (upd S (pA (phN S) 0) p1) (pA (phN S) 1) p2) (pA (phN S) 2) 0) 14 (nI (phN S + 1))
def phaseR (C S : Nat → Int32) (p1 p2 : Int32) : Int32 × (Nat → Int32) :=
  if ¬ inB p1 1 (((1 : Int32) <<< (S 13 &&& 31)) - 1) then (-2, S) else if ¬ inB p2 0 239 then (-2, S) else if S 2 = 1 then (-3, S) else if anyB C S p1 = true then (-3, S) else if S 14 = 6 then (-4, S) else (nI (phN S), phaseF S p1 p2)
section M19
variable {h : gH} {b : Nat} {A : Nat → Nat → Int32} {L : Nat → Nat → Int64} {S : Nat → Int32} {G : gG} {F : Nat}
theorem t_phase {p1 p2 : Int32} (hF : 40 ≤ F) (ok : rowOk S) (hm : mOk S) (hp : pOk S) : sp_X13_phase G F (mT h b A L S) b p1 p2 = some ((phaseR (tabA A S 3) S p1 p2).1, mT h b A L (phaseR (tabA A S 3) S p1 p2).2) := by
  have hp6 := hp.1
  unfold sp_X13_phase phaseR
  unfold mT
  simp only [s_is, if_true, s_f0, Option.bind_some, s_r_13, s_r_2, s_r_14, i_isIn, b0, s_anyMeet hF hm, bI_z]
  rcases (Classical.em (inB p1 1 (((1 : Int32) <<< (S 13 &&& 31)) - 1))).symm with h1 | h1
  · rw [if_pos h1, if_pos h1]
  have h1' : ¬ ¬ inB p1 1 (((1 : Int32) <<< (S 13 &&& 31)) - 1) := fun hh => hh h1
  rw [if_neg h1', if_neg h1']
  rcases (Classical.em (inB p2 0 239)).symm with h2 | h2
  · rw [if_pos h2, if_pos h2]
  have h2' : ¬ ¬ inB p2 0 239 := fun hh => hh h2
  rw [if_neg h2', if_neg h2']
  by_cases h3 : S 2 = 1
  · rw [if_pos h3, if_pos h3]
  rw [if_neg h3, if_neg h3]
  rcases (show anyB (tabA A S 3) S p1 = true ∨ anyB (tabA A S 3) S p1 = false by cases anyB (tabA A S 3) S p1 <;> simp) with h4 | h4
  · have h4' : ¬ anyB (tabA A S 3) S p1 = false := by rw [h4]; decide
    rw [if_neg h4', if_pos h4]
  have h4' : ¬ anyB (tabA A S 3) S p1 = true := by rw [h4]; decide
  rw [if_pos h4, if_neg h4']
  by_cases h5 : S 14 = 6
  · rw [if_pos h5, if_pos h5]
  rw [if_neg h5, if_neg h5]
  have hlt : phN S < 6 := by
    rcases Nat.lt_or_ge (phN S) 6 with h | h
    · exact h
    · exact absurd (by rw [hp.2, show phN S = 6 by omega]; rfl) h5
  rw [hp.2]
  simp only [s_is, if_true, s_f0, Option.bind_some, ix_p, ix_p1, ix_p2]
  rw [s_s _ _ (by omega)]
  simp only [s_is, if_true, s_f0, Option.bind_some]
  rw [s_s _ _ (by unfold pA; omega)]
  simp only [s_is, if_true, s_f0, Option.bind_some]
  rw [s_s _ _ (by unfold pA; omega)]
  simp only [s_is, if_true, s_f0, Option.bind_some, s_r_14, s_w_14, upd_eq]
  have e14 : upd (upd (upd S (216 + 3 * phN S) p1) (pA (phN S) 1) p2) (pA (phN S) 2) 0 14 = nI (phN S) := by
    rw [upd_ne (by unfold pA; omega), upd_ne (by unfold pA; omega), upd_ne (by omega)]
    exact hp.2
  rw [e14, nI_1, nI_sub1]
  have ht : tabEq S (phaseF S p1 p2) := by
    refine tabEq_of ok ?_ (fun a w ha hw => ?_)
    · unfold phaseF
      rw [upd_ne (by omega), upd_ne (by unfold pA; omega), upd_ne (by unfold pA; omega), upd_ne (by unfold pA; omega)]
    · unfold phaseF
      rw [upd_ne (by unfold sA; omega), upd_ne (by unfold pA sA; omega), upd_ne (by unfold pA sA; omega), upd_ne (by unfold pA sA; omega)]
  have := mT_keep (h := h) (b := b) (A := A) (L := L) ht
  unfold mT at this
  rw [← this]
  rfl
end M19
