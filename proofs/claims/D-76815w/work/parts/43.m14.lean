/-! m14: local time; what the calls look at -/
set_option maxRecDepth 100000
def modV (x c : Int32) : Int32 := x - x / c * c
def localV (S : Nat → Int32) : Int32 := if 0 ≤ modV (S 3 - S 11) (S 10) then modV (S 3 - S 11) (S 10) else modV (S 3 - S 11) (S 10) + S 10
def g1B (S : Nat → Int32) (w i : Nat) : Bool := decide (S (sA i 6) = 1) && decide (¬ S 3 - S (sA i 7) < S (sA i w))
def g3B (S : Nat → Int32) (i : Nat) : Bool := decide (S (sA i 9) < 0) || decide (¬ S 3 - S (sA i 9) < S (sA i 3))
def bcL (S : Nat → Int32) (s : Int32) : Nat → Nat → Bool → Bool → Bool → Bool × Bool × Bool
  | 0, _, m, l, d => (m, l, d)
  | n + 1, i, m, l, d => if ¬ hasB s (nI i) then bcL S s n (i + 1) m l d else bcL S s n (i + 1) (m && g1B S 1 i) (l || g1B S 2 i) (d && g3B S i)
theorem bI_and (c d : Bool) : bI c &&& bI d = bI (c && d) := by cases c <;> cases d <;> rfl
theorem bI_or2 (c d : Bool) : bI c ||| bI d = bI (c || d) := by cases c <;> cases d <;> rfl
section M14
variable {h : gH} {b : Nat} {A : Nat → Nat → Int32} {L : Nat → Nat → Int64} {S : Nat → Int32} {G : gG} {F : Nat}
theorem s_local (hc : S 10 ≠ 0) : sp_X13_local G F (mS h b A L S) b = some (localV S) := by
  have em : ∀ x c : Int32, x - x / c * c = modV x c := fun _ _ => rfl
  unfold sp_X13_local localV
  simp only [s_is, if_true, s_f0, Option.bind_some, s_r_3, s_r_11, s_r_10, em]
  rw [if_pos hc]
  generalize modV (S 3 - S 11) (S 10) = x
  split <;> rfl
theorem i_g1 {w i : Nat} : (if S (sA i 6) = 1 then (if S 3 - S (sA i 7) < S (sA i w) then some (0 : Int32) else some 1) else some 0) = some (bI (g1B S w i)) := by
  unfold g1B
  by_cases h1 : S (sA i 6) = 1
  · rw [if_pos h1, decide_eq_true h1, Bool.true_and]
    by_cases h2 : S 3 - S (sA i 7) < S (sA i w)
    · rw [if_pos h2, decide_eq_false (fun hh => hh h2)]; rfl
    · rw [if_neg h2, decide_eq_true h2]; rfl
  · rw [if_neg h1, decide_eq_false h1, Bool.false_and]; rfl
theorem i_g3 {i : Nat} {α : Type} (d : Bool) (k : Int32 → α) : (if S (sA i 9) < 0 then k (bI (d && true)) else if S 3 - S (sA i 9) < S (sA i 3) then k (bI (d && false)) else k (bI (d && true))) = k (bI (d && g3B S i)) := by
  unfold g3B
  by_cases h1 : S (sA i 9) < 0
  · rw [if_pos h1, decide_eq_true h1, Bool.true_or]
  · rw [if_neg h1, decide_eq_false h1, Bool.false_or]
    by_cases h2 : S 3 - S (sA i 9) < S (sA i 3)
    · rw [if_pos h2, decide_eq_false (fun hh => hh h2)]
    · rw [if_neg h2, decide_eq_true h2]
theorem s_byCalls_L {s x : Int32} {m : Nat} (hm : S 13 = nI m) (h8 : m ≤ 8) : ∀ (n i f : Nat) (c l d : Bool), n + i = m → n < f →
    sp_X13_changesByCalls_L35 G F (mS h b A L S) f b s x (bI c) (bI l) (bI d) (nI i) = some (bI (bcL S s n i c l d).1, bI (bcL S s n i c l d).2.1, bI (bcL S s n i c l d).2.2) := by
  intro n
  induction n with
  | zero =>
    intro i f c l d hi hf
    obtain ⟨f, rfl⟩ : ∃ z, f = z + 1 := ⟨f - 1, by omega⟩
    rw [sp_X13_changesByCalls_L35]
    simp only [s_is, if_true, s_f0, Option.bind_some, s_r_13, hm]
    rw [if_pos (nI_le (by omega) (by omega))]
    rfl
  | succ n ih =>
    intro i f c l d hi hf
    obtain ⟨f, rfl⟩ : ∃ z, f = z + 1 := ⟨f - 1, by omega⟩
    have en : ¬ nI m ≤ nI i := nI_ge (by omega) (by omega)
    have hi8 : i < 8 := by omega
    rw [sp_X13_changesByCalls_L35]
    simp only [s_is, if_true, s_f0, Option.bind_some, s_r_13, s_r_3, hm, en, if_false, i_has, b0, s_at_6, s_at_1, s_at_2, s_at_3, s_at_9, s_greenFor hi8, hi8, i_g1, bI_and, bI_or2, bI_and0, bI_and1, nI_1]
    rw [i_g3 d (fun y => sp_X13_changesByCalls_L35 G F (mS h b A L S) f b s x (bI (c && g1B S 1 i)) (bI (l || g1B S 2 i)) y (nI (i + 1))), bcL]
    by_cases h1 : ¬ hasB s (nI i)
    · rw [if_pos h1, if_pos h1]
      exact ih (i + 1) f _ _ _ (by omega) (by omega)
    · rw [if_neg h1, if_neg h1]
      exact ih (i + 1) f _ _ _ (by omega) (by omega)
end M14
