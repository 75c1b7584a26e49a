/-! m15: public calls: cycle, start, emergency, phase, tell -/
set_option maxRecDepth 100000
def startR (S : Nat → Int32) : Int32 × (Nat → Int32) := if S 2 = 1 then (-3, S) else if S 14 = 0 then (-3, S) else (S 14, comesOnF (upd S 2 1) 0)
def emergencyR (S : Nat → Int32) (p1 : Int32) : Int32 × (Nat → Int32) :=
  if ¬ inB p1 0 (S 13 - 1) then (-1, S) else if S 2 = 0 then (-3, S) else if 0 ≤ S 6 then (-3, S) else if 0 ≤ firstV S p1 then (firstV S p1, upd S 6 p1) else (-3, S)
def cycF (S : Nat → Int32) (p1 p2 p3 : Int32) : Nat → Int32 := upd (upd (upd S 10 p1) 11 (if p1 = 0 then 0 else p2)) 12 (if p1 = 0 then 0 else p3)
def cycleR (S : Nat → Int32) (p1 p2 p3 : Int32) : Int32 × (Nat → Int32) :=
  if p1 = 0 then (S 10, cycF S p1 p2 p3) else if ¬ inB p1 20 240 then (-2, S) else if ¬ inB p2 0 (p1 - 1) then (-2, S) else if ¬ inB p3 1 p1 then (-2, S) else (S 10, cycF S p1 p2 p3)
theorem firstV_upd {S : Nat → Int32} {a x : Int32} {k : Nat} (hk : k ≠ 14) (h2 : k < 216) (hp : pOk S) : firstV (upd S k x) a = firstV S a := by
  have e : phN (upd S k x) = phN S := by unfold phN; rw [upd_ne (Ne.symm hk)]
  unfold firstV
  rw [e]
  have : ∀ n i, fwL (upd S k x) a n i = fwL S a n i := by
    intro n
    induction n with
    | zero => intro i; rfl
    | succ n ih => intro i; rw [fwL, fwL, upd_ne (by unfold pA; omega), ih]
  exact this _ _
theorem tabFree_lt {k : Nat} (h1 : k ≠ 1) (h : k < 24) : tabFree k := ⟨h1, Or.inl h⟩
theorem tabFree_ge {k : Nat} (h : 216 ≤ k) : tabFree k := ⟨by omega, Or.inr (Or.inl h)⟩
section M15
variable {h : gH} {b : Nat} {A : Nat → Nat → Int32} {L : Nat → Nat → Int64} {S : Nat → Int32} {G : gG} {F : Nat}
theorem t_start (ok : rowOk S) : sp_X13_start G F (mT h b A L S) b = some ((startR S).1, mT h b A L (startR S).2) := by
  unfold sp_X13_start startR
  unfold mT
  simp only [s_is, if_true, s_f0, Option.bind_some, s_r_2, s_r_14, s_w_2]
  by_cases h1 : S 2 = 1
  · rw [if_pos h1, if_pos h1]
  · rw [if_neg h1, if_neg h1]
    by_cases h2 : S 14 = 0
    · rw [if_pos h2, if_pos h2]
    · rw [if_neg h2, if_neg h2]
      rw [show sp_X13_comesOn G F (mS h b (tabA A S) L (upd S 2 1)) b 0 = some (mS h b (tabA A S) L (comesOnF (upd S 2 1) 0)) from s_comesOn (p := 0) (by decide)]
      simp only [s_is, if_true, s_f0, Option.bind_some, s_r_14]
      have e14 : comesOnF (upd S 2 1) 0 14 = S 14 := by
        unfold comesOnF
        rw [upd_ne (by unfold pA; omega), upd_ne (by omega), upd_ne (by omega)]
      have ht : tabEq S (comesOnF (upd S 2 1) 0) := by
        refine tabEq_of ok ?_ (fun a w ha hw => ?_)
        · unfold comesOnF
          rw [upd_ne (by unfold pA; omega), upd_ne (by omega), upd_ne (by omega)]
        · unfold comesOnF
          rw [upd_ne (by unfold pA sA; omega), upd_ne (by unfold sA; omega), upd_ne (by unfold sA; omega)]
      rw [e14, mT_keep ht]
      rfl
theorem t_emergency {p1 : Int32} (hF : 40 ≤ F) (ok : rowOk S) (hp : pOk S) : sp_X13_emergency G F (mT h b A L S) b p1 = some ((emergencyR S p1).1, mT h b A L (emergencyR S p1).2) := by
  unfold sp_X13_emergency emergencyR
  unfold mT
  have hp2 : pOk (upd S 6 p1) := by
    unfold pOk phN at *
    rw [upd_ne (by decide)]
    exact hp
  simp only [s_is, if_true, s_f0, Option.bind_some, s_isSignal, b0, s_r_2, s_r_6, s_w_6, s_firstWith hF hp, s_firstWith hF hp2, firstV_upd (show 6 ≠ 14 by decide) (show 6 < 216 by decide) hp]
  rcases (Classical.em (inB p1 0 (S 13 - 1))).symm with h1 | h1
  · rw [if_pos h1, if_pos h1]
  have h1' : ¬ ¬ inB p1 0 (S 13 - 1) := fun hh => hh h1
  rw [if_neg h1', if_neg h1']
  by_cases h2 : S 2 = 0
  · rw [if_pos h2, if_pos h2]
  rw [if_neg h2, if_neg h2]
  by_cases h3 : 0 ≤ S 6
  · rw [if_pos h3, if_pos h3]
  rw [if_neg h3, if_neg h3]
  by_cases h4 : 0 ≤ firstV S p1
  · rw [if_pos h4, if_pos h4, mT_upd ok (tabFree_lt (by decide) (by decide))]
    rfl
  · rw [if_neg h4, if_neg h4]
end M15
