/-! m17: tell -/
set_option maxRecDepth 100000
def mayT (S : Nat → Int32) (a : Nat) (p2 p3 : Int32) : Prop := (p2 = 0 ∧ inB p3 1 (minI 20 (S (sA a 2)))) ∨ (p2 = 1 ∧ inB p3 (S (sA a 1)) 99) ∨ (p2 = 2 ∧ inB p3 1 9) ∨ (p2 = 3 ∧ inB p3 0 60)
section M17
variable {h : gH} {b : Nat} {A : Nat → Nat → Int32} {L : Nat → Nat → Int64} {S : Nat → Int32} {G : gG} {F : Nat}
theorem t_tell_not {p1 p2 p3 : Int32} (h1 : ¬ (inB p1 0 (S 13 - 1) ∧ inB p2 0 3)) : sp_X13_tell G F (mT h b A L S) b p1 p2 p3 = some (-1, mT h b A L S) := by
  unfold sp_X13_tell
  unfold mT
  simp only [s_is, if_true, s_f0, Option.bind_some, s_isSignal, i_isIn, b0]
  rcases (Classical.em (inB p1 0 (S 13 - 1))).symm with h2 | h2
  · rw [if_pos h2]
  · have h2' : ¬ ¬ inB p1 0 (S 13 - 1) := fun hh => hh h2
    rw [if_neg h2', if_pos (fun h3 => h1 ⟨h2, h3⟩)]
theorem t_tell {a w : Nat} {p3 : Int32} (ok : rowOk S) (hm : mOk S) (ha : a < manyN S) (hw : w < 4) (h1 : inB (nI a) 0 (S 13 - 1)) (h2 : inB (nI w) 0 3) :
    sp_X13_tell G F (mT h b A L S) b (nI a) (nI w) p3 = some (if inB p3 (if w = 1 then S (sA a 1) else if w = 3 then 0 else 1) (if w = 0 then minI 20 (S (sA a 2)) else if w = 1 then 99 else if w = 2 then 9 else 60)
      then (S (sA a (1 + w)), mT h b A L (upd S (sA a (1 + w)) p3)) else (-2, mT h b A L S)) := by
  have h8 := hm.1
  have ha8 : a < 8 := by omega
  have h1' : ¬ ¬ inB (nI a) 0 (S 13 - 1) := fun hh => hh h1
  have h2' : ¬ ¬ inB (nI w) 0 3 := fun hh => hh h2
  have ht : mS h b (tabA A S) L (upd S (sA a (1 + w)) p3) = mT h b A L (upd S (sA a (1 + w)) p3) := mT_upd ok (by unfold tabFree sA; omega)
  have e1 : (1 : Int32) + nI w = nI (1 + w) := nI_add 1 w
  unfold sp_X13_tell
  unfold mT at *
  simp only [s_is, if_true, s_f0, Option.bind_some, s_isSignal, i_isIn, b0]
  rw [if_neg h1', if_neg h2']
  simp only [s_is, if_true, s_f0, Option.bind_some, s_at_1, s_at_2, ha8, i_min, e1, s_atN ha8 (show 1 + w < 24 by omega), s_putsN p3 ha8 (show 1 + w < 24 by omega), ht]
  rcases (show w = 0 ∨ w = 1 ∨ w = 2 ∨ w = 3 by omega) with rfl | rfl | rfl | rfl
  all_goals
    simp only [show (nI 0 = (0 : Int32)) = True from eq_true rfl, show (nI 1 = (0 : Int32)) = False from eq_false (by decide), show (nI 2 = (0 : Int32)) = False from eq_false (by decide), show (nI 3 = (0 : Int32)) = False from eq_false (by decide), show (nI 1 = (1 : Int32)) = True from eq_true rfl, show (nI 2 = (1 : Int32)) = False from eq_false (by decide), show (nI 3 = (1 : Int32)) = False from eq_false (by decide), show (nI 2 = (2 : Int32)) = True from eq_true rfl, show (nI 3 = (2 : Int32)) = False from eq_false (by decide), if_true, if_false, Option.bind_some, b0, reduceIte, Nat.reduceEqDiff, ite_not]
    split <;> rfl
end M17
