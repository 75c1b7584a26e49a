/-! x37: the two sums over a second -/
set_option maxRecDepth 100000
/-- numbers 7 and 8 are the same -/
def s78 (S T : Nat → Int32) : Prop := T 7 = S 7 ∧ T 8 = S 8
section Inv9
variable {C S T U : Nat → Int32} {t : Nat}
theorem s78_r : s78 S S := ⟨rfl, rfl⟩
theorem s78_t (h1 : s78 S T) (h2 : s78 T U) : s78 S U := ⟨h2.1.trans h1.1, h2.2.trans h1.2⟩
theorem s78_u {k : Nat} {x : Int32} (h7 : k ≠ 7) (h8 : k ≠ 8) : s78 S (upd S k x) := ⟨upd_ne (Ne.symm h7), upd_ne (Ne.symm h8)⟩
theorem s78_join {a : Nat} {n : Int32} : s78 S (joinsF S a n) := s78_t (s78_u (by unfold sA; omega) (by unfold sA; omega)) (s78_u (by decide) (by decide))
theorem s78_come1 {a : Nat} : s78 S (come1 S a) := by
  unfold come1
  split
  · exact s78_r
  · split
    · exact s78_u (by decide) (by decide)
    · exact s78_t (s78_u (by decide) (by decide)) s78_join
theorem s78_comeL : ∀ (n i : Nat) (S : Nat → Int32), s78 S (comeL n i S) := by
  intro n
  induction n with
  | zero => intro i S; exact s78_r
  | succ n ih => intro i S; exact s78_t s78_come1 (ih (i + 1) (come1 S i))
theorem s78_seenL : ∀ (n i : Nat) (S : Nat → Int32), s78 S (seenL n i S) := by
  intro n
  induction n with
  | zero => intro i S; exact s78_r
  | succ n ih =>
    intro i S
    refine s78_t ?_ (ih (i + 1) (seen1 S i))
    unfold seen1
    split
    · exact s78_r
    · exact s78_u (by unfold sA; omega) (by unfold sA; omega)
theorem s78_coming : s78 S (comingF S) := s78_t (s78_comeL _ _ _) (s78_seenL _ _ _)
theorem s78_turnL : ∀ (n i : Nat) (S : Nat → Int32), s78 S (turnL C n i S) := by
  intro n
  induction n with
  | zero => intro i S; exact s78_r
  | succ n ih =>
    intro i S
    refine s78_t ?_ (ih (i + 1) (turn1 C S i))
    unfold turn1
    split
    · exact s78_r
    · split
      · exact s78_r
      · split
        · exact s78_r
        · exact s78_t (s78_t (s78_u (by unfold sA; omega) (by unfold sA; omega)) (s78_u (by unfold sA; omega) (by unfold sA; omega))) (s78_u (by unfold sA; omega) (by unfold sA; omega))
theorem s78_room : s78 S (roomF S) := by
  unfold roomF
  split
  · refine s78_t (T := shN S 69) ⟨?_, ?_⟩ (s78_u (by decide) (by decide)) <;> (unfold shN; rw [if_neg (by omega)])
  · exact s78_r
theorem s78_row {a : Nat} : s78 S (rowF S a) := s78_t (s78_t (s78_t (s78_u (by unfold rA; omega) (by unfold rA; omega)) (s78_u (by unfold rA; omega) (by unfold rA; omega))) (s78_u (by unfold rA; omega) (by unfold rA; omega))) (s78_u (by decide) (by decide))
theorem s78_chgL {p : Nat} : ∀ (n i : Nat) (S : Nat → Int32), s78 S (chgL p n i S) := by
  intro n
  induction n with
  | zero => intro i S; exact s78_r
  | succ n ih =>
    intro i S
    refine s78_t ?_ (ih (i + 1) (chg1 p S i))
    unfold chg1
    split
    · exact s78_r
    · split
      · exact s78_t (s78_t (T := endF S i) (s78_t (s78_u (by unfold sA; omega) (by unfold sA; omega)) (s78_u (by unfold sA; omega) (by unfold sA; omega))) s78_room) s78_row
      · exact s78_r
theorem s78_changes {p : Nat} : s78 S (changesF S p) := s78_t (s78_chgL _ _ _) (s78_t (s78_u (by decide) (by decide)) (s78_u (by unfold pA; omega) (by unfold pA; omega)))
theorem s78_mid : s78 S (midF S) := by
  have h5 : s78 S (upd S 5 (-5)) := s78_u (by decide) (by decide)
  unfold midF
  split
  · unfold byCallsF
    split
    · exact s78_r
    · split
      · split
        · split
          · exact s78_r
          · exact s78_t h5 s78_changes
        · exact s78_t h5 s78_changes
      · exact s78_t h5 s78_changes
  · unfold byEmF
    split
    · exact s78_r
    · refine s78_t ?_ s78_changes
      unfold cutF
      split
      · exact s78_r
      · exact s78_u (by decide) (by decide)
theorem s78_turns : s78 S (turnsF C S) := s78_t (s78_t s78_coming s78_mid) (s78_turnL _ _ _)
/-- the queues in all -/
theorem queues_le : ∀ (n i acc : Nat), (∀ k, i ≤ k → k < i + n → ∃ q, q ≤ 99 ∧ S (sA k 5) = nI q) → ∃ w, w ≤ acc + 99 * n ∧ queuesL S n i (nI acc) = nI w := by
  intro n
  induction n with
  | zero => intro i acc _; exact ⟨acc, by omega, rfl⟩
  | succ n ih =>
    intro i acc h
    obtain ⟨q, hq, e⟩ := h i (Nat.le_refl _) (by omega)
    rw [queuesL, e, nI_add]
    obtain ⟨w, hw, ew⟩ := ih (i + 1) (acc + q) (fun k h1 h2 => h k (by omega) (by omega))
    exact ⟨w, by omega, ew⟩
end Inv9
