/-! m10: phases: setOf, firstWith, emergency, comesOn, start, isCalled, called, queues -/
set_option maxRecDepth 100000
def phN (S : Nat → Int32) : Nat := (S 14).toNatClampNeg
def pOk (S : Nat → Int32) : Prop := phN S ≤ 6 ∧ S 14 = nI (phN S)
abbrev pA (p w : Nat) : Nat := 216 + 3 * p + w
theorem ix_p (p : Nat) : (216 : Int32) + ((3 : Int32) * nI p) = nI (216 + 3 * p) := by
  show nI 216 + nI 3 * nI p = _
  rw [pk_mul, nI_add]
theorem ix_p1 (p : Nat) : nI (216 + 3 * p) + (1 : Int32) = nI (pA p 1) := nI_1 _
theorem ix_p2 (p : Nat) : nI (216 + 3 * p) + (2 : Int32) = nI (pA p 2) := nI_add _ 2
theorem i_has {G : gG} {F : Nat} {h : gH} {s k : Int32} : sp_X13_has G F h s k = some (if hasB s k then 1 else 0) := by
  unfold sp_X13_has
  split <;> rfl
def bI (c : Bool) : Int32 := if c = true then 1 else 0
theorem bI_or0 (c : Bool) : bI c ||| (0 : Int32) = bI (c || false) := by cases c <;> rfl
theorem bI_or1 (c : Bool) : bI c ||| (1 : Int32) = bI (c || true) := by cases c <;> rfl
theorem bI_and0 (c : Bool) : bI c &&& (0 : Int32) = bI (c && false) := by cases c <;> rfl
theorem bI_and1 (c : Bool) : bI c &&& (1 : Int32) = bI (c && true) := by cases c <;> rfl
theorem bI_z (c : Bool) : (bI c = 0) = (c = false) := by cases c <;> simp [bI]
theorem bI_or (c : Bool) : bI c = 0 ∨ bI c = 1 := by cases c <;> simp [bI]
theorem bI_01 (c : Bool) : (bI c = 0 ∨ bI c = 1) = True := by cases c <;> simp [bI]
def fwL (S : Nat → Int32) (a : Int32) : Nat → Nat → Int32
  | 0, _ => -5
  | n + 1, i => if hasB (S (pA i 0)) a then nI i else fwL S a n (i + 1)
def firstV (S : Nat → Int32) (a : Int32) : Int32 := fwL S a (phN S) 0
def comesOnF (S : Nat → Int32) (p : Nat) : Nat → Int32 := upd (upd S 4 (nI p)) (pA p 2) (S (pA p 2) + 1)
def icB (S : Nat → Int32) (p i : Nat) : Bool := decide (hasB (S (pA p 0)) (nI i)) && decide (¬ S (sA i 5) ≤ 0) && decide (S (sA i 6) = 0)
def icL (S : Nat → Int32) (p : Nat) : Nat → Nat → Bool → Bool
  | 0, _, c => c
  | n + 1, i, c => icL S p n (i + 1) (c || icB S p i)
def calledB (S : Nat → Int32) (p : Nat) : Bool := decide (¬ S 2 = 0) && decide (¬ nI p = S 4) && icL S p (manyN S) 0 (decide (nI p = 0) && decide (¬ S 10 ≤ 0))
def calledV (S : Nat → Int32) : Int32 := bitsV (calledB S) (phN S)
section M10
variable {h : gH} {b : Nat} {A : Nat → Nat → Int32} {L : Nat → Nat → Int64} {S : Nat → Int32} {G : gG} {F : Nat}
theorem s_setOf {p : Nat} (hp : p < 6) : sp_X13_setOf G F (mS h b A L S) b (nI p) = some (S (pA p 0)) := by
  unfold sp_X13_setOf
  simp only [s_is, if_true, s_f0, Option.bind_some, ix_p]
  rw [s_a _ (by omega)]
  rfl
theorem s_firstWith_L {a : Int32} {m : Nat} (hm : S 14 = nI m) (h6 : m ≤ 6) : ∀ (n i f : Nat), n + i = m → n < f → sp_X13_firstWith_L2 G F (mS h b A L S) f b a (nI i) = some (fwL S a n i) := by
  intro n
  induction n with
  | zero =>
    intro i f hi hf
    obtain ⟨f, rfl⟩ : ∃ z, f = z + 1 := ⟨f - 1, by omega⟩
    rw [sp_X13_firstWith_L2]
    simp only [s_is, if_true, s_f0, Option.bind_some, s_r_14, hm]
    rw [if_pos (nI_le (by omega) (by omega))]
    rfl
  | succ n ih =>
    intro i f hi hf
    obtain ⟨f, rfl⟩ : ∃ z, f = z + 1 := ⟨f - 1, by omega⟩
    have en : ¬ nI m ≤ nI i := nI_ge (by omega) (by omega)
    rw [sp_X13_firstWith_L2]
    simp only [s_is, if_true, s_f0, Option.bind_some, s_r_14, hm, en, if_false, s_setOf (show i < 6 by omega), i_has, b0, nI_1, fwL]
    by_cases h1 : hasB (S (pA i 0)) a
    · rw [if_neg (fun hh => hh h1), if_pos h1]
    · rw [if_pos h1, if_neg h1]
      exact ih (i + 1) f (by omega) (by omega)
theorem s_firstWith {a : Int32} (hF : 40 ≤ F) (hp : pOk S) : sp_X13_firstWith G F (mS h b A L S) b a = some (firstV S a) := by
  unfold sp_X13_firstWith
  rw [show (0 : Int32) = nI 0 from rfl]
  exact s_firstWith_L hp.2 hp.1 (phN S) 0 F (by omega) (by have := hp.1; omega)
theorem s_comesOn {p : Nat} (hp : p < 6) : sp_X13_comesOn G F (mS h b A L S) b (nI p) = some (mS h b A L (comesOnF S p)) := by
  unfold sp_X13_comesOn
  simp only [s_is, if_true, s_f0, Option.bind_some, s_w_4, ix_p, ix_p2]
  rw [s_a _ (by unfold pA; omega)]
  simp only [s_is, if_true, s_f0, Option.bind_some]
  rw [s_s _ _ (by unfold pA; omega)]
  simp only [s_is, if_true, s_f0, Option.bind_some]
  rw [upd_ne (by unfold pA; omega)]
  rfl
theorem s_isCalled_L {p m : Nat} (hp : p < 6) (hm : S 13 = nI m) (h8 : m ≤ 8) : ∀ (n i f : Nat) (c : Bool), n + i = m → n < f → sp_X13_isCalled_L43 G F (mS h b A L S) f b (nI p) (bI c) (nI i) = some (bI (icL S p n i c)) := by
  intro n
  induction n with
  | zero =>
    intro i f c hi hf
    obtain ⟨f, rfl⟩ : ∃ z, f = z + 1 := ⟨f - 1, by omega⟩
    rw [sp_X13_isCalled_L43]
    simp only [s_is, if_true, s_f0, Option.bind_some, s_r_13, hm]
    rw [if_pos (nI_le (by omega) (by omega))]
    rfl
  | succ n ih =>
    intro i f c hi hf
    obtain ⟨f, rfl⟩ : ∃ z, f = z + 1 := ⟨f - 1, by omega⟩
    have en : ¬ nI m ≤ nI i := nI_ge (by omega) (by omega)
    have hi8 : i < 8 := by omega
    rw [sp_X13_isCalled_L43]
    simp only [s_is, if_true, s_f0, Option.bind_some, s_r_13, hm, en, if_false, s_setOf hp, i_has, b0, nI_1, icL, s_at_5, s_at_6, hi8, bI_or0, bI_or1]
    by_cases h1 : hasB (S (pA p 0)) (nI i)
    · rw [if_neg (fun hh => hh h1)]
      by_cases h2 : S (sA i 5) ≤ 0
      · rw [if_pos h2, ih (i + 1) f _ (by omega) (by omega), show icB S p i = false by simp only [icB, decide_eq_true h1, h2, not_true_eq_false, decide_false, Bool.and_false, Bool.false_and]]
      · rw [if_neg h2]
        by_cases h3 : S (sA i 6) = 0
        · rw [if_pos h3, ih (i + 1) f _ (by omega) (by omega), show icB S p i = true by simp only [icB, decide_eq_true h1, h2, h3, not_false_eq_true, decide_true, Bool.and_true]]
        · rw [if_neg h3, ih (i + 1) f _ (by omega) (by omega), show icB S p i = false by simp only [icB, h3, decide_false, Bool.and_false]]
    · rw [if_pos h1, ih (i + 1) f _ (by omega) (by omega), show icB S p i = false by simp only [icB, decide_eq_false h1, Bool.false_and]]
theorem s_isCalled {p : Nat} (hF : 40 ≤ F) (hp : p < 6) (hm : mOk S) : sp_X13_isCalled G F (mS h b A L S) b (nI p) = some (bI (calledB S p)) := by
  unfold sp_X13_isCalled calledB
  simp only [s_is, if_true, s_f0, Option.bind_some, s_r_2, s_r_4, s_r_10]
  by_cases h1 : S 2 = 0
  · rw [if_pos h1]
    simp only [h1, not_true_eq_false, decide_false, Bool.false_and]
    rfl
  · rw [if_neg h1]
    by_cases h2 : nI p = S 4
    · rw [if_pos h2]
      simp only [h2, not_true_eq_false, decide_false, Bool.and_false, Bool.false_and]
      rfl
    · rw [if_neg h2]
      simp only [h1, h2, not_false_eq_true, decide_true, Bool.true_and]
      have ej : (if nI p = 0 then if S 10 ≤ 0 then some (0 : Int32) else some 1 else some 0) = some (bI (decide (nI p = 0) && decide (¬ S 10 ≤ 0))) := by
        by_cases h3 : nI p = 0
        · by_cases h4 : S 10 ≤ 0
          · simp only [h3, h4, if_true, not_true_eq_false, decide_false, Bool.and_false]
            rfl
          · simp only [h3, h4, if_true, if_false, not_false_eq_true, decide_true, Bool.and_true]
            rfl
        · simp only [h3, if_false, decide_false, Bool.false_and]
          rfl
      rw [ej]
      simp only [Option.bind_some]
      rw [show (0 : Int32) = nI 0 from rfl, s_isCalled_L hp hm.2 hm.1 (manyN S) 0 F _ (by omega) (by have := hm.1; omega)]
      simp only [Option.bind_some]
      exact if_pos (bI_or _)
theorem s_called_L {m : Nat} (hF : 40 ≤ F) (hk : mOk S) (hm : S 14 = nI m) (h6 : m ≤ 6) : ∀ (n i f : Nat) (acc : Int32), n + i = m → n < f → sp_X13_called_L4 G F (mS h b A L S) f b acc (nI i) = some (bitsL (calledB S) n i acc) := by
  intro n
  induction n with
  | zero =>
    intro i f acc hi hf
    obtain ⟨f, rfl⟩ : ∃ z, f = z + 1 := ⟨f - 1, by omega⟩
    rw [sp_X13_called_L4]
    simp only [s_is, if_true, s_f0, Option.bind_some, s_r_14, hm]
    rw [if_pos (nI_le (by omega) (by omega))]
    rfl
  | succ n ih =>
    intro i f acc hi hf
    obtain ⟨f, rfl⟩ : ∃ z, f = z + 1 := ⟨f - 1, by omega⟩
    have en : ¬ nI m ≤ nI i := nI_ge (by omega) (by omega)
    rw [sp_X13_called_L4]
    simp only [s_is, if_true, s_f0, Option.bind_some, s_r_14, hm, en, if_false, s_isCalled hF (show i < 6 by omega) hk, bI_z, nI_1, bitsL]
    cases hc : calledB S i
    · simp only [if_true, Bool.false_eq_true, if_false]
      exact ih (i + 1) f _ (by omega) (by omega)
    · simp only [Bool.true_eq_false, if_true, if_false]
      exact ih (i + 1) f _ (by omega) (by omega)
theorem s_called (hF : 40 ≤ F) (hm : mOk S) (hp : pOk S) : sp_X13_called G F (mS h b A L S) b = some (calledV S) := by
  unfold sp_X13_called
  rw [show (0 : Int32) = nI 0 from rfl, s_called_L hF hm hp.2 hp.1 (phN S) 0 F _ (by omega) (by have := hp.1; omega)]
  rfl
end M10
