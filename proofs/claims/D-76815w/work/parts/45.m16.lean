/-! m16: cycle, tell -/
set_option maxRecDepth 100000
def minMost (S : Nat → Int32) (a : Nat) : Int32 := minI 20 (S (sA a 2))
section M16
variable {h : gH} {b : Nat} {A : Nat → Nat → Int32} {L : Nat → Nat → Int64} {S : Nat → Int32} {G : gG} {F : Nat}
theorem t_cycF {p1 p2 p3 : Int32} (ok : rowOk S) : mS h b (tabA A S) L (cycF S p1 p2 p3) = mT h b A L (cycF S p1 p2 p3) := by
  refine mT_keep (tabEq_of ok ?_ (fun a w ha hw => ?_))
  · unfold cycF
    rw [upd_ne (by omega), upd_ne (by omega), upd_ne (by omega)]
  · unfold cycF
    rw [upd_ne (by unfold sA; omega), upd_ne (by unfold sA; omega), upd_ne (by unfold sA; omega)]
theorem t_cycle {p1 p2 p3 : Int32} (ok : rowOk S) : sp_X13_cycle G F (mT h b A L S) b p1 p2 p3 = some ((cycleR S p1 p2 p3).1, mT h b A L (cycleR S p1 p2 p3).2) := by
  have hc := t_cycF (h := h) (b := b) (A := A) (L := L) (p1 := p1) (p2 := p2) (p3 := p3) ok
  unfold sp_X13_cycle cycleR
  unfold mT at *
  simp only [s_is, if_true, s_f0, Option.bind_some, s_r_10, s_w_10, i_isIn, b0]
  by_cases h0 : p1 = 0
  · simp only [h0, if_true, s_is, if_true, s_f0, Option.bind_some, s_w_11, s_w_12] at hc ⊢
    rw [← hc]
    simp only [cycF, if_true]
  · simp only [h0, if_false, s_is, if_true, s_f0, Option.bind_some, s_w_11, s_w_12]
    rcases (Classical.em (inB p1 20 240)).symm with h1 | h1
    · rw [if_pos h1, if_pos h1]
    have h1' : ¬ ¬ inB p1 20 240 := fun hh => hh h1
    rw [if_neg h1', if_neg h1']
    rcases (Classical.em (inB p2 0 (p1 - 1))).symm with h2 | h2
    · rw [if_pos h2, if_pos h2]
    have h2' : ¬ ¬ inB p2 0 (p1 - 1) := fun hh => hh h2
    rw [if_neg h2', if_neg h2']
    rcases (Classical.em (inB p3 1 p1)).symm with h3 | h3
    · rw [if_pos h3, if_pos h3]
    have h3' : ¬ ¬ inB p3 1 p1 := fun hh => hh h3
    rw [if_neg h3', if_neg h3']
    rw [← hc]
    simp only [cycF, h0, if_false]
end M16
