/-! m20: bits -/
set_option maxRecDepth 100000
theorem nI_31 {i : Nat} (hi : i < 32) : nI i &&& 31 = nI i := by
  have : ∀ k : Fin 32, nI k.val &&& 31 = nI k.val := by decide
  exact this ⟨i, hi⟩
theorem hasB_lsb {s : Int32} {i : Nat} (hi : i < 31) : hasB s (nI i) ↔ s.toBitVec.getLsbD i = true := by
  have hs : (s >>> nI i).toBitVec = s.toBitVec.sshiftRight i := by
    rw [Int32.toBitVec_shiftRight]
    unfold BitVec.sshiftRight'
    congr 1
    have : ∀ k : Fin 32, ((nI k.val).toBitVec.smod 32).toNat = k.val := by decide
    exact this ⟨i, by omega⟩
  unfold hasB
  rw [nI_31 (by omega), ← Int32.toBitVec_inj, Int32.toBitVec_and, hs]
  constructor
  · intro e
    have h2 : ((s.toBitVec.sshiftRight i) &&& (1 : Int32).toBitVec).getLsbD 0 = true := by rw [e]; decide
    rw [BitVec.getLsbD_and, BitVec.getLsbD_sshiftRight, show (1 : Int32).toBitVec.getLsbD 0 = true by decide, Bool.and_true] at h2
    simpa [show i < 32 by omega] using h2
  · intro e
    apply BitVec.eq_of_getLsbD_eq
    intro j hj
    rcases Nat.eq_zero_or_pos j with rfl | h
    · rw [BitVec.getLsbD_and, BitVec.getLsbD_sshiftRight, show (1 : Int32).toBitVec.getLsbD 0 = true by decide, Bool.and_true]
      simpa [show i < 32 by omega] using e
    · have e1 : (1 : Int32).toBitVec.getLsbD j = false := by
        have : ∀ k : Fin 32, 0 < k.val → (1 : Int32).toBitVec.getLsbD k.val = false := by decide
        exact this ⟨j, hj⟩ h
      rw [BitVec.getLsbD_and, e1, Bool.and_false]
theorem bit1_lsb {i j : Nat} (hi : i < 31) (hj : j < 31) : ((1 : Int32) <<< (nI i &&& 31)).toBitVec.getLsbD j = decide (j = i) := by
  have : ∀ k l : Fin 31, ((1 : Int32) <<< (nI k.val &&& 31)).toBitVec.getLsbD l.val = decide (l.val = k.val) := by decide
  exact this ⟨i, hi⟩ ⟨j, hj⟩
theorem bitsL_lsb {p : Nat → Bool} {j : Nat} (hj : j < 31) : ∀ (n i : Nat) (acc : Int32), n + i ≤ 31 → (bitsL p n i acc).toBitVec.getLsbD j = (acc.toBitVec.getLsbD j || (decide (i ≤ j ∧ j < i + n) && p j)) := by
  intro n
  induction n with
  | zero =>
    intro i acc hi
    rw [bitsL, decide_eq_false (by omega), Bool.false_and, Bool.or_false]
  | succ n ih =>
    intro i acc hi
    rw [bitsL, ih (i + 1) _ (by omega)]
    cases hp : p i
    · simp only [Bool.false_eq_true, if_false, Int32.or_zero]
      by_cases e : j = i
      · subst e
        rw [hp, Bool.and_false, Bool.and_false]
      · rw [show decide (i + 1 ≤ j ∧ j < i + 1 + n) = decide (i ≤ j ∧ j < i + (n + 1)) from decide_eq_decide.mpr (by omega)]
    · simp only [if_true, Int32.toBitVec_or, BitVec.getLsbD_or]
      rw [bit1_lsb (by omega) hj]
      by_cases e : j = i
      · subst e
        rw [hp, decide_eq_true rfl, decide_eq_true (show j ≤ j ∧ j < j + (n + 1) by omega)]
        simp
      · rw [decide_eq_false e, Bool.or_false, show decide (i + 1 ≤ j ∧ j < i + 1 + n) = decide (i ≤ j ∧ j < i + (n + 1)) from decide_eq_decide.mpr (by omega)]
theorem hasB_bits {p : Nat → Bool} {n j : Nat} (hn : n ≤ 31) (hj : j < n) : hasB (bitsV p n) (nI j) ↔ p j = true := by
  rw [hasB_lsb (by omega)]
  unfold bitsV
  rw [bitsL_lsb (by omega) n 0 0 (by omega), decide_eq_true (show 0 ≤ j ∧ j < 0 + n by omega)]
  have : ∀ k : Fin 31, (0 : Int32).toBitVec.getLsbD k.val = false := by decide
  rw [this ⟨j, by omega⟩, Bool.false_or, Bool.true_and]
