/-! m11: queues, mayTurn, turning, going -/
set_option maxRecDepth 100000
def onN (S : Nat → Int32) : Nat := (S 4).toNatClampNeg
def onOk (S : Nat → Int32) : Prop := onN S < 6 ∧ S 4 = nI (onN S)
def mayL (C S : Nat → Int32) (a : Nat) : Nat → Nat → Bool
  | 0, _ => true
  | n + 1, i => if C (8 * a + i) < 0 then mayL C S a n (i + 1) else if S (sA i 8) < 0 then mayL C S a n (i + 1) else if C (8 * i + a) ≤ S 3 - S (sA i 8) then mayL C S a n (i + 1) else false
def mayB (C S : Nat → Int32) (a : Nat) : Bool := mayL C S a (manyN S) 0
def turnF (S : Nat → Int32) (a : Nat) : Nat → Int32 := upd (upd (upd S (sA a 6) 1) (sA a 7) (S 3)) (sA a 20) (S (sA a 20) + 1)
def turn1 (C S : Nat → Int32) (a : Nat) : Nat → Int32 := if ¬ hasB (S (pA (onN S) 0)) (nI a) then S else if S (sA a 6) = 1 then S else if mayB C S a = false then S else turnF S a
def turnL (C : Nat → Int32) : Nat → Nat → (Nat → Int32) → Nat → Int32
  | 0, _, S => S
  | n + 1, i, S => turnL C n (i + 1) (turn1 C S i)
def turningF (C S : Nat → Int32) : Nat → Int32 := turnL C (manyN S) 0 S
def goMost (k g : Int32) : Int32 := if k = 0 then (1 : Int32) - (g - g / (2 : Int32) * (2 : Int32)) else if k = 1 then 99 else if k = 2 then (if (g - g / (4 : Int32) * (4 : Int32)) = 0 then 1 else 0) else 1
def goF (S : Nat → Int32) (a : Nat) (n : Int32) : Nat → Int32 := upd (upd (upd S (sA a 5) (S (sA a 5) - n)) (sA a 10) (S (sA a 10) + n)) 8 (S 8 + n)
def go1 (S : Nat → Int32) (a : Nat) : Nat → Int32 := if S (sA a 6) = 0 then S else goF S a (minI (goMost (S (sA a 0)) (S 3 - S (sA a 7))) (S (sA a 5)))
def goL : Nat → Nat → (Nat → Int32) → Nat → Int32
  | 0, _, S => S
  | n + 1, i, S => goL n (i + 1) (go1 S i)
def goingF (S : Nat → Int32) : Nat → Int32 := goL (manyN S) 0 S
theorem keep_turn1 {C S : Nat → Int32} {a : Nat} (ha : a < 8) : keepS S (turn1 C S a) := by
  unfold turn1 turnF
  split
  · exact keep_refl
  · split
    · exact keep_refl
    · split
      · exact keep_refl
      · exact keep_trans (keep_trans (keep_upd (by unfold fixedK sA; omega)) (keep_upd (by unfold fixedK sA; omega))) (keep_upd (by unfold fixedK sA; omega))
theorem turn1_4 {C S : Nat → Int32} {a : Nat} : turn1 C S a 4 = S 4 := by
  unfold turn1 turnF
  split
  · rfl
  · split
    · rfl
    · split
      · rfl
      · rw [upd_ne (by unfold sA; omega), upd_ne (by unfold sA; omega), upd_ne (by unfold sA; omega)]
theorem keep_turnL {C : Nat → Int32} : ∀ (n i : Nat) (S : Nat → Int32), n + i ≤ 8 → keepS S (turnL C n i S) := by
  intro n
  induction n with
  | zero => intro i S _; exact keep_refl
  | succ n ih => intro i S hi; exact keep_trans (keep_turn1 (by omega)) (ih (i + 1) _ (by omega))
theorem keep_goF {S : Nat → Int32} {a : Nat} {n : Int32} (ha : a < 8) : keepS S (goF S a n) := keep_trans (keep_trans (keep_upd (by unfold fixedK sA; omega)) (keep_upd (by unfold fixedK sA; omega))) (keep_upd (by unfold fixedK; omega))
theorem keep_go1 {S : Nat → Int32} {a : Nat} (ha : a < 8) : keepS S (go1 S a) := by
  unfold go1
  split
  · exact keep_refl
  · exact keep_goF ha
theorem keep_goL : ∀ (n i : Nat) (S : Nat → Int32), n + i ≤ 8 → keepS S (goL n i S) := by
  intro n
  induction n with
  | zero => intro i S _; exact keep_refl
  | succ n ih => intro i S hi; exact keep_trans (keep_go1 (by omega)) (ih (i + 1) _ (by omega))
section M11
variable {h : gH} {b : Nat} {A : Nat → Nat → Int32} {L : Nat → Nat → Int64} {S : Nat → Int32} {G : gG} {F : Nat}
theorem s_queues_L {m : Nat} (hm : S 13 = nI m) (h8 : m ≤ 8) : ∀ (n i f : Nat) (acc : Int32), n + i = m → n < f → sp_X13_queues_L4 G F (mS h b A L S) f b acc (nI i) = some (queuesL S n i acc) := by
  intro n
  induction n with
  | zero =>
    intro i f acc hi hf
    obtain ⟨f, rfl⟩ : ∃ z, f = z + 1 := ⟨f - 1, by omega⟩
    rw [sp_X13_queues_L4]
    simp only [s_is, if_true, s_f0, Option.bind_some, s_r_13, hm]
    rw [if_pos (nI_le (by omega) (by omega))]
    rfl
  | succ n ih =>
    intro i f acc hi hf
    obtain ⟨f, rfl⟩ : ∃ z, f = z + 1 := ⟨f - 1, by omega⟩
    have en : ¬ nI m ≤ nI i := nI_ge (by omega) (by omega)
    rw [sp_X13_queues_L4]
    simp only [s_is, if_true, s_f0, Option.bind_some, s_r_13, hm, en, if_false, s_at_5, show i < 8 by omega, nI_1, queuesL]
    exact ih (i + 1) f _ (by omega) (by omega)
theorem s_queues (hF : 40 ≤ F) (hm : mOk S) : sp_X13_queues G F (mS h b A L S) b = some (queuesV S) := by
  unfold sp_X13_queues
  rw [show (0 : Int32) = nI 0 from rfl, s_queues_L hm.2 hm.1 (manyN S) 0 F _ (by omega) (by have := hm.1; omega)]
  rfl
theorem s_mayTurn_L {a m : Nat} (ha : a < 8) (hm : S 13 = nI m) (h8 : m ≤ 8) : ∀ (n i f : Nat), n + i = m → n < f → sp_X13_mayTurn_L2 G F (mS h b A L S) f b (nI a) (nI i) = some (bI (mayL (A 3) S a n i)) := by
  intro n
  induction n with
  | zero =>
    intro i f hi hf
    obtain ⟨f, rfl⟩ : ∃ z, f = z + 1 := ⟨f - 1, by omega⟩
    rw [sp_X13_mayTurn_L2]
    simp only [s_is, if_true, s_f0, Option.bind_some, s_r_13, hm]
    rw [if_pos (nI_le (by omega) (by omega))]
    rfl
  | succ n ih =>
    intro i f hi hf
    obtain ⟨f, rfl⟩ : ∃ z, f = z + 1 := ⟨f - 1, by omega⟩
    have en : ¬ nI m ≤ nI i := nI_ge (by omega) (by omega)
    have hi8 : i < 8 := by omega
    have ihn := ih (i + 1) f (by omega) (by omega)
    rw [sp_X13_mayTurn_L2]
    simp only [s_is, if_true, s_f0, Option.bind_some, s_r_13, s_r_3, hm, en, if_false, s_meet ha hi8, s_at_8, hi8, s_f5, ix_8, s_c _ (show 8 * i + a < 64 by omega), nI_1, mayL, ihn]
    by_cases h1 : A 3 (8 * a + i) < 0
    · simp only [h1, if_true]
    · simp only [h1, if_false]
      rw [if_neg (by decide)]
      by_cases h2 : S (sA i 8) < 0
      · simp only [h2, if_true]
      · by_cases h3 : A 3 (8 * i + a) ≤ S 3 - S (sA i 8)
        · simp only [h2, h3, if_true, if_false]
        · simp only [h2, h3, if_false]
          rfl
theorem s_mayTurn {a : Nat} (hF : 40 ≤ F) (ha : a < 8) (hm : mOk S) : sp_X13_mayTurn G F (mS h b A L S) b (nI a) = some (bI (mayB (A 3) S a)) := by
  unfold sp_X13_mayTurn
  rw [show (0 : Int32) = nI 0 from rfl]
  exact s_mayTurn_L ha hm.2 hm.1 (manyN S) 0 F (by omega) (by have := hm.1; omega)
theorem s_turning_s {i f : Nat} (hF : 40 ≤ F) (hm : mOk S) (ho : onOk S) (hi : i < manyN S) : sp_X13_turning_L2 G F (f + 1) (mS h b A L S) b (nI i) = sp_X13_turning_L2 G F f (mS h b A L (turn1 (A 3) S i)) b (nI (i + 1)) := by
  have h8 := hm.1
  have hi8 : i < 8 := by omega
  have en : ¬ nI (manyN S) ≤ nI i := nI_ge (by omega) (by omega)
  have e3 : upd S (sA i 6) 1 3 = S 3 := upd_ne (by unfold sA; omega)
  have e20 : upd (upd S (sA i 6) 1) (sA i 7) (S 3) (sA i 20) = S (sA i 20) := by rw [upd_ne (by unfold sA; omega), upd_ne (by unfold sA; omega)]
  rw [sp_X13_turning_L2]
  simp only [s_is, if_true, s_f0, Option.bind_some, s_r_13, s_r_3, s_r_4, hm.2, en, if_false]
  rw [ho.2]
  simp only [s_is, if_true, s_f0, Option.bind_some, s_setOf ho.1, i_has, b0, s_at_6, s_at_20, s_puts_6, s_puts_7, s_puts_20, s_r_3, hi8, s_mayTurn hF hi8 hm, bI_z, e3, e20, nI_1]
  unfold turn1
  by_cases h1 : hasB (S (pA (onN S) 0)) (nI i)
  · have h1' : ¬ ¬ hasB (S (pA (onN S) 0)) (nI i) := fun hh => hh h1
    rw [if_neg h1', if_neg h1']
    by_cases h2 : S (sA i 6) = 1
    · rw [if_pos h2, if_pos h2]
    · rw [if_neg h2, if_neg h2]
      by_cases h3 : mayB (A 3) S i = false
      · rw [if_pos h3, if_pos h3]
      · rw [if_neg h3, if_neg h3]
        rfl
  · rw [if_pos h1, if_pos h1]
theorem s_turning_L : ∀ (n i f : Nat) (S : Nat → Int32), 40 ≤ F → mOk S → onOk S → n + i = manyN S → n < f → sp_X13_turning_L2 G F f (mS h b A L S) b (nI i) = some (mS h b A L (turnL (A 3) n i S)) := by
  intro n
  induction n with
  | zero =>
    intro i f S hF hm ho hi hf
    have h8 := hm.1
    obtain ⟨f, rfl⟩ : ∃ z, f = z + 1 := ⟨f - 1, by omega⟩
    rw [sp_X13_turning_L2]
    simp only [s_is, if_true, s_f0, Option.bind_some, s_r_13]
    rw [if_pos (by rw [hm.2]; exact nI_le (by omega) (by omega))]
    rfl
  | succ n ih =>
    intro i f S hF hm ho hi hf
    have h8 := hm.1
    obtain ⟨f, rfl⟩ : ∃ z, f = z + 1 := ⟨f - 1, by omega⟩
    rw [s_turning_s hF hm ho (by omega), turnL]
    have e13 : turn1 (A 3) S i 13 = S 13 := keep_13 (keep_turn1 (by omega))
    have em : manyN (turn1 (A 3) S i) = manyN S := by unfold manyN; rw [e13]
    have eo : onN (turn1 (A 3) S i) = onN S := by unfold onN; rw [turn1_4]
    exact ih (i + 1) f _ hF ⟨by rw [em]; exact h8, by rw [em, e13]; exact hm.2⟩ ⟨by rw [eo]; exact ho.1, by rw [eo, turn1_4]; exact ho.2⟩ (by rw [em]; omega) (by omega)
theorem s_turning (hF : 40 ≤ F) (hm : mOk S) (ho : onOk S) : sp_X13_turning G F (mS h b A L S) b = some (mS h b A L (turningF (A 3) S)) := by
  unfold sp_X13_turning
  have h8 := hm.1
  rw [show (0 : Int32) = nI 0 from rfl, s_turning_L (manyN S) 0 F S hF hm ho (by omega) (by omega)]
  rfl
theorem s_greenFor {a : Nat} (ha : a < 8) : sp_X13_greenFor G F (mS h b A L S) b (nI a) = some (S 3 - S (sA a 7)) := by
  unfold sp_X13_greenFor
  simp only [s_is, if_true, s_f0, Option.bind_some, s_r_3, s_at_7, ha]
theorem i_most {k g : Int32} : (if k = 0 then some ((1 : Int32) - (g - g / (2 : Int32) * (2 : Int32))) else if k = (1 : Int32) then some (99 : Int32) else if k = (2 : Int32) then if (g - g / (4 : Int32) * (4 : Int32)) = 0 then some (1 : Int32) else some 0 else some 1) = some (goMost k g) := by
  unfold goMost
  split
  · rfl
  · split
    · rfl
    · split
      · split <;> rfl
      · rfl
theorem s_going_s {i f : Nat} (hm : mOk S) (hi : i < manyN S) : sp_X13_going_L2 G F (f + 1) (mS h b A L S) b (nI i) = sp_X13_going_L2 G F f (mS h b A L (go1 S i)) b (nI (i + 1)) := by
  have h8 := hm.1
  have hi8 : i < 8 := by omega
  have en : ¬ nI (manyN S) ≤ nI i := nI_ge (by omega) (by omega)
  unfold go1
  rw [sp_X13_going_L2]
  simp only [s_is, if_true, s_f0, Option.bind_some, s_r_13, hm.2, en, if_false, s_at_6, s_at_0, s_at_5, s_greenFor hi8, hi8, i_most, i_min, s_puts_5, nI_1]
  generalize minI (goMost (S (sA i 0)) (S 3 - S (sA i 7))) (S (sA i 5)) = n
  have e10 : upd S (sA i 5) (S (sA i 5) - n) (sA i 10) = S (sA i 10) := upd_ne (by unfold sA; omega)
  have e8 : upd (upd S (sA i 5) (S (sA i 5) - n)) (sA i 10) (S (sA i 10) + n) 8 = S 8 := by rw [upd_ne (by unfold sA; omega), upd_ne (by unfold sA; omega)]
  simp only [s_is, if_true, s_f0, Option.bind_some, s_at_10, s_puts_10, hi8, s_r_8, s_w_8, e10, e8]
  by_cases h1 : S (sA i 6) = 0
  · rw [if_pos h1, if_pos h1]
  · rw [if_neg h1, if_neg h1]
    rfl
theorem s_going_L : ∀ (n i f : Nat) (S : Nat → Int32), mOk S → n + i = manyN S → n < f → sp_X13_going_L2 G F f (mS h b A L S) b (nI i) = some (mS h b A L (goL n i S)) := by
  intro n
  induction n with
  | zero =>
    intro i f S hm hi hf
    have h8 := hm.1
    obtain ⟨f, rfl⟩ : ∃ z, f = z + 1 := ⟨f - 1, by omega⟩
    rw [sp_X13_going_L2]
    simp only [s_is, if_true, s_f0, Option.bind_some, s_r_13]
    rw [if_pos (by rw [hm.2]; exact nI_le (by omega) (by omega))]
    rfl
  | succ n ih =>
    intro i f S hm hi hf
    have h8 := hm.1
    obtain ⟨f, rfl⟩ : ∃ z, f = z + 1 := ⟨f - 1, by omega⟩
    rw [s_going_s hm (by omega), goL]
    have e13 : go1 S i 13 = S 13 := keep_13 (keep_go1 (by omega))
    have em : manyN (go1 S i) = manyN S := by unfold manyN; rw [e13]
    exact ih (i + 1) f _ ⟨by rw [em]; exact h8, by rw [em, e13]; exact hm.2⟩ (by rw [em]; omega) (by omega)
theorem s_going (hF : 40 ≤ F) (hm : mOk S) : sp_X13_going G F (mS h b A L S) b = some (mS h b A L (goingF S)) := by
  unfold sp_X13_going
  have h8 := hm.1
  rw [show (0 : Int32) = nI 0 from rfl, s_going_L (manyN S) 0 F S hm (by omega) (by omega)]
  rfl
end M11
