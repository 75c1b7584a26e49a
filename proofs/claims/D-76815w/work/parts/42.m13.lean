/-! m13: changes by an emergency -/
set_option maxRecDepth 100000
def halfV (x : Int32) : Int32 := (x + (1 : Int32)) / (2 : Int32)
def emB (S : Nat → Int32) (s : Int32) (i : Nat) : Bool := decide (¬ hasB s (nI i)) || (decide (S (sA i 6) = 0) || decide (¬ S 3 - S (sA i 7) < halfV (S (sA i 1))))
def emL (S : Nat → Int32) (s : Int32) : Nat → Nat → Bool → Bool
  | 0, _, c => c
  | n + 1, i, c => emL S s n (i + 1) (c && emB S s i)
def cutF (S : Nat → Int32) : Nat → Int32 := if 0 ≤ S 5 then S else upd S 5 (S 4)
def byEmF (S : Nat → Int32) : Nat → Int32 :=
  if emL S (S (pA (onN S) 0)) (manyN S) 0 (decide (¬ hasB (S (pA (onN S) 0)) (S 6))) = false then S else changesF (cutF S) (firstV (cutF S) (S 6)).toNatClampNeg
theorem keep_cut {S : Nat → Int32} : keepS S (cutF S) := by
  unfold cutF
  split
  · exact keep_refl
  · exact keep_upd (by unfold fixedK; omega)
theorem fwL_keep {S T : Nat → Int32} {a : Int32} (hk : keepS S T) : ∀ (n i : Nat), n + i ≤ 6 → fwL T a n i = fwL S a n i := by
  intro n
  induction n with
  | zero => intro i _; rfl
  | succ n ih =>
    intro i hi
    rw [fwL, fwL, hk (pA i 0) (by unfold fixedK pA; omega), ih (i + 1) (by omega)]
theorem firstV_keep {S T : Nat → Int32} {a : Int32} (hk : keepS S T) (hp : pOk S) : firstV T a = firstV S a := by
  have e : phN T = phN S := by unfold phN; rw [keep_14 hk]
  unfold firstV
  rw [e]
  exact fwL_keep hk _ _ (by have := hp.1; omega)
theorem mOk_keep {S T : Nat → Int32} (hk : keepS S T) (hm : mOk S) : mOk T := by
  unfold mOk manyN at *
  rw [keep_13 hk]
  exact hm
theorem pOk_keep {S T : Nat → Int32} (hk : keepS S T) (hm : pOk S) : pOk T := by
  unfold pOk phN at *
  rw [keep_14 hk]
  exact hm
theorem rOk_cut {S : Nat → Int32} (hr : rOk S) : rOk (cutF S) := by
  have e : cutF S 15 = S 15 := by
    unfold cutF
    split
    · rfl
    · exact upd_ne (by omega)
  unfold rOk recN at *
  rw [e]
  exact hr
section M13
variable {h : gH} {b : Nat} {A : Nat → Nat → Int32} {L : Nat → Nat → Int64} {S : Nat → Int32} {G : gG} {F : Nat}
theorem i_emB {s : Int32} {i : Nat} {α : Type} (c : Bool) (k : Int32 → α) : (if ¬ hasB s (nI i) then k (bI (c && true)) else if S (sA i 6) = 0 then k (bI (c && true)) else if S 3 - S (sA i 7) < halfV (S (sA i 1)) then k (bI (c && false)) else k (bI (c && true))) = k (bI (c && emB S s i)) := by
  unfold emB
  by_cases h1 : ¬ hasB s (nI i)
  · rw [if_pos h1, decide_eq_true h1, Bool.true_or]
  · rw [if_neg h1, decide_eq_false h1, Bool.false_or]
    by_cases h2 : S (sA i 6) = 0
    · rw [if_pos h2, decide_eq_true h2, Bool.true_or]
    · rw [if_neg h2, decide_eq_false h2, Bool.false_or]
      by_cases h3 : S 3 - S (sA i 7) < halfV (S (sA i 1))
      · rw [if_pos h3, decide_eq_false (fun hh => hh h3)]
      · rw [if_neg h3, decide_eq_true h3]
theorem s_byEm_L {s : Int32} {m : Nat} (hm : S 13 = nI m) (h8 : m ≤ 8) : ∀ (n i f : Nat) (c : Bool), n + i = m → n < f → sp_X13_changesByEmergency_L33 G F (mS h b A L S) f b s (bI c) (nI i) = some (bI (emL S s n i c)) := by
  intro n
  induction n with
  | zero =>
    intro i f c hi hf
    obtain ⟨f, rfl⟩ : ∃ z, f = z + 1 := ⟨f - 1, by omega⟩
    rw [sp_X13_changesByEmergency_L33]
    simp only [s_is, if_true, s_f0, Option.bind_some, s_r_13, hm]
    rw [if_pos (nI_le (by omega) (by omega))]
    rfl
  | succ n ih =>
    intro i f c hi hf
    obtain ⟨f, rfl⟩ : ∃ z, f = z + 1 := ⟨f - 1, by omega⟩
    have en : ¬ nI m ≤ nI i := nI_ge (by omega) (by omega)
    have hi8 : i < 8 := by omega
    have eh : ∀ x : Int32, (x + (1 : Int32)) / (2 : Int32) = halfV x := fun _ => rfl
    rw [sp_X13_changesByEmergency_L33]
    simp only [s_is, if_true, s_f0, Option.bind_some, s_r_13, hm, en, if_false, i_has, b0, s_at_6, s_at_1, s_greenFor hi8, hi8, bI_and0, bI_and1, nI_1, eh]
    rw [i_emB c (fun x => sp_X13_changesByEmergency_L33 G F (mS h b A L S) f b s x (nI (i + 1))), emL]
    exact ih (i + 1) f _ (by omega) (by omega)
theorem s_byEm (hF : 100 ≤ F) (hm : mOk S) (hp : pOk S) (hr : rOk S) (ho : onOk S) (he : ∃ q, q < phN S ∧ firstV S (S 6) = nI q) : sp_X13_changesByEmergency G F (mS h b A L S) b = some (mS h b A L (byEmF S)) := by
  obtain ⟨q, hq, eq⟩ := he
  have hp6 := hp.1
  have h8 := hm.1
  unfold sp_X13_changesByEmergency byEmF
  simp only [s_is, if_true, s_f0, Option.bind_some, s_r_4]
  rw [show sp_X13_setOf G F (mS h b A L S) b (S 4) = some (S (pA (onN S) 0)) by rw [ho.2]; exact s_setOf ho.1]
  simp only [s_is, if_true, s_f0, Option.bind_some, s_r_6, i_has, b0, s_r_5, s_w_5]
  have ej : (if ¬ hasB (S (pA (onN S) 0)) (S 6) then some (1 : Int32) else some 0) = some (bI (decide (¬ hasB (S (pA (onN S) 0)) (S 6)))) := by
    by_cases h1 : ¬ hasB (S (pA (onN S) 0)) (S 6)
    · rw [if_pos h1, decide_eq_true h1]; rfl
    · rw [if_neg h1, decide_eq_false h1]; rfl
  rw [ej]
  simp only [Option.bind_some]
  rw [show (0 : Int32) = nI 0 from rfl, s_byEm_L hm.2 hm.1 (manyN S) 0 F _ (by omega) (by omega), show nI 0 = (0 : Int32) from rfl]
  simp only [Option.bind_some, bI_z]
  by_cases h2 : emL S (S (pA (onN S) 0)) (manyN S) 0 (decide (¬ hasB (S (pA (onN S) 0)) (S 6))) = false
  · rw [if_pos h2, if_pos h2]
  · rw [if_neg h2, if_neg h2]
    have ec : (if 0 ≤ S 5 then some (mS h b A L S) else some (mS h b A L (upd S 5 (S 4)))) = some (mS h b A L (cutF S)) := by
      unfold cutF
      split <;> rfl
    rw [ec]
    have e6 : cutF S 6 = S 6 := keep_cut 6 (by unfold fixedK; omega)
    have ef : firstV (cutF S) (S 6) = nI q := (firstV_keep keep_cut hp).trans eq
    simp only [s_is, if_true, s_f0, Option.bind_some, s_r_6, e6, s_firstWith (show 40 ≤ F by omega) (pOk_keep keep_cut hp), ef, s_changes hF (show q < 6 by omega) (mOk_keep keep_cut hm) (rOk_cut hr)]
    rw [nI_c (by omega)]
end M13
