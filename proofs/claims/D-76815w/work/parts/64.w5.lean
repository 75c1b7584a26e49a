/-! w5: the class's World: a green is kept, changesTo -/
set_option maxRecDepth 100000
/-- J' is J but for where the record begins -/
def jR (J J' : Nat → Nat → Int32) : Prop := (∀ n j, ¬ (n = 0 ∧ j = 16) → J' n j = J n j) ∧ rtN J' < 24 ∧ J' 0 16 = nI (rtN J')
def rrOk (S : Nat → Int32) (J : Nat → Nat → Int32) : Prop := recN S = 24 ∨ rtN J = 0
def jOk (J : Nat → Nat → Int32) : Prop := rtN J < 24 ∧ J 0 16 = nI (rtN J)
theorem jR_refl {J : Nat → Nat → Int32} (h : jOk J) : jR J J := ⟨fun _ _ _ => rfl, h.1, h.2⟩
theorem jR_trans {J K M : Nat → Nat → Int32} (h1 : jR J K) (h2 : jR K M) : jR J M := ⟨fun n j h => (h2.1 n j h).trans (h1.1 n j h), h2.2.1, h2.2.2⟩
theorem jR_ok {J K : Nat → Nat → Int32} (h : jR J K) : jOk K := ⟨h.2.1, h.2.2⟩
def rtJ (J : Nat → Nat → Int32) : Nat → Nat → Int32 := va_up J 0 (upd (J 0) 16 (nI ((rtN J + 1) % 24)))
theorem rtJ_rt {J : Nat → Nat → Int32} : rtN (rtJ J) = (rtN J + 1) % 24 := by
  have e : rtJ J 0 16 = nI ((rtN J + 1) % 24) := by simp [rtJ, va_up, upd]
  show (rtJ J 0 16).toNatClampNeg = _
  rw [e, nI_c (by omega)]
theorem rtJ_R {J : Nat → Nat → Int32} : jR J (rtJ J) := by
  refine ⟨fun n j h => ?_, by rw [rtJ_rt]; omega, ?_⟩
  · unfold rtJ va_up
    split
    · rename_i e; subst e; exact upd_ne (fun hj => h ⟨rfl, hj⟩)
    · rfl
  · rw [rtJ_rt]
    simp [rtJ, va_up, upd]
theorem live_eq {S T : Nat → Int32} {q : Nat} (e1 : manyN T = manyN S) (e2 : phN T = phN S) (e4 : nodN T = nodN S) (e5 : tolN T = tolN S) (e6 : ∀ a, a < 8 → cellsN T a = cellsN S a) (hq : q < 234 ∨ 306 ≤ q) : live T q = live S q := by
  unfold live
  rw [e1, e2, e4, e5]
  by_cases h1 : q < 24
  · rw [if_pos h1, if_pos h1]
  · rw [if_neg h1, if_neg h1]
    by_cases h2 : q < 216
    · rw [if_pos h2, if_pos h2, e6 _ (by omega)]
    · rw [if_neg h2, if_neg h2]
      by_cases h3 : q < 234
      · rw [if_pos h3, if_pos h3]
      · rw [if_neg h3, if_neg h3, if_neg (show ¬ q < 306 by omega), if_neg (show ¬ q < 306 by omega)]
theorem live_rA {S : Nat → Int32} {r j : Nat} (hr : r < 24) (hj : j < 3) : live S (rA r j) = decide (r < recN S) := by
  have e1 : (rA r j - 234) / 3 = r := by unfold rA; omega
  unfold live
  rw [if_neg (by unfold rA; omega), if_neg (by unfold rA; omega), if_neg (by unfold rA; omega), if_pos (by unfold rA; omega), e1]
/-- where the record's cells do not lie, a place does not hang on where it begins -/
theorem pos_rt {r r' n j : Nat} (h : n < 63 ∨ 87 ≤ n) : pos r n j = pos r' n j := by
  unfold pos
  by_cases h63 : n < 63
  · simp only [h63, if_true]
  · rw [if_neg (show ¬ n = 0 by omega), if_neg (show ¬ n = 0 by omega), if_neg (show ¬ n = 6 by omega), if_neg (show ¬ n = 6 by omega), if_neg (show ¬ n = 7 by omega), if_neg (show ¬ n = 7 by omega), if_neg (show ¬ n < 9 by omega), if_neg (show ¬ n < 9 by omega), if_neg (show ¬ n < 57 by omega), if_neg (show ¬ n < 57 by omega), if_neg h63, if_neg h63, if_neg (show ¬ n < 87 by omega), if_neg (show ¬ n < 87 by omega)]
theorem pos_not {r n j p : Nat} (h : n < 63 ∨ 87 ≤ n) (hp : pos r n j = some p) : p < 234 ∨ 306 ≤ p := by
  unfold pos at hp
  by_cases h0 : n = 0
  · rw [if_pos h0] at hp
    split at hp
    · cases hp
      unfold w0
      repeat' split
      all_goals omega
    · cases hp
  rw [if_neg h0] at hp
  by_cases h6 : n = 6
  · rw [if_pos h6] at hp
    split at hp
    · cases hp; omega
    · cases hp
  rw [if_neg h6] at hp
  by_cases h7 : n = 7
  · rw [if_pos h7] at hp
    split at hp
    · cases hp; omega
    · cases hp
  rw [if_neg h7] at hp
  by_cases h9 : n < 9
  · rw [if_pos h9] at hp
    cases hp
  rw [if_neg h9] at hp
  by_cases h57 : n < 57
  · rw [if_pos h57] at hp
    repeat' split at hp
    all_goals first | (cases hp; done) | (cases hp; unfold sA; omega)
  rw [if_neg h57] at hp
  by_cases h63 : n < 63
  · rw [if_pos h63] at hp
    split at hp
    · cases hp; unfold pA; omega
    · cases hp
  rw [if_neg h63, if_neg (by omega)] at hp
  repeat' split at hp
  all_goals first | (cases hp; done) | (cases hp; omega)
/-- rows of numbers that tell the same of all but the record -/
def sameB (S T : Nat → Int32) : Prop := ∀ k, k ≠ 15 → (k < 234 ∨ 306 ≤ k) → T k = S k
theorem same_live {S T : Nat → Int32} (h : sameB S T) {q : Nat} (hq : q < 234 ∨ 306 ≤ q) : live T q = live S q :=
  live_eq (by unfold manyN; rw [h 13 (by decide) (by omega)]) (by unfold phN; rw [h 14 (by decide) (by omega)]) (by unfold nodN; rw [h 17 (by decide) (by omega)]) (by unfold tolN; rw [h 18 (by decide) (by omega)]) (fun a ha => by unfold cellsN; rw [h (sA a 11) (by unfold sA; omega) (by unfold sA; omega)]) hq
/-- two tellings of one World, if they differ in the record alone -/
theorem wof_rec {S T : Nat → Int32} {J K : Nat → Nat → Int32} (hs : sameB S T) (hj : ∀ n j, ¬ (n = 0 ∧ j = 16) → K n j = J n j) {n j : Nat} (hn : n < 63 ∨ 87 ≤ n) (h15 : ¬ (n = 0 ∧ j = 15)) (h16 : ¬ (n = 0 ∧ j = 16)) : Wof T K n j = Wof S J n j := by
  unfold Wof
  rw [pos_rt (r := rtN K) (r' := rtN J) hn, hj n j h16]
  cases e : pos (rtN J) n j with
  | none => rfl
  | some p =>
    have hp := pos_not hn e
    have hne : p ≠ 15 := by
      intro e15
      subst e15
      unfold pos at e
      by_cases h0 : n = 0
      · rw [if_pos h0] at e
        split at e
        · rename_i hjj
          have := Option.some.inj e
          unfold w0 at this
          repeat' split at this
          all_goals omega
        · cases e
      · rw [if_neg h0] at e
        repeat' split at e
        all_goals first | (cases e; done) | (have := Option.some.inj e; first | omega | (unfold sA at this; omega) | (unfold pA at this; omega) | (unfold rA at this; omega))
    simp only [same_live hs hp, hs p hne hp]
theorem wof_15 {S : Nat → Int32} {J : Nat → Nat → Int32} : Wof S J 0 15 = S 15 := wof_live (pos_0 (by decide)) (live_lo (Or.inl (by decide)))
theorem wof_16 {S : Nat → Int32} {J : Nat → Nat → Int32} : Wof S J 0 16 = J 0 16 := wof_none rfl
theorem wof_rc {S : Nat → Int32} {J : Nat → Nat → Int32} {s j : Nat} (hs : s < 24) (hj : j < 3) : Wof S J (63 + s) j = if (s + 24 - rtN J) % 24 < recN S then S (rA ((s + 24 - rtN J) % 24) j) else J (63 + s) j := by
  unfold Wof
  rw [pos_rc hs hj]
  show (if live S (rA ((s + 24 - rtN J) % 24) j) = true then _ else _) = _
  rw [live_rA (by omega) hj]
  by_cases h : (s + 24 - rtN J) % 24 < recN S
  · rw [if_pos h, if_pos (decide_eq_true h)]
  · rw [if_neg h, if_neg (by rw [decide_eq_false h]; decide)]
theorem wof_rc3 {S : Nat → Int32} {J : Nat → Nat → Int32} {s j : Nat} (hs : s < 24) (hj : ¬ j < 3) : Wof S J (63 + s) j = J (63 + s) j := by
  apply wof_none
  unfold pos
  rw [if_neg (by omega), if_neg (by omega), if_neg (by omega), if_neg (by omega), if_neg (by omega), if_neg (by omega), if_pos (by omega), if_neg hj]
def up3 (w : Nat → Int32) (x y z : Int32) : Nat → Int32 := upd (upd (upd w 0 x) 1 y) 2 z
theorem up3_v {w : Nat → Int32} {x y z : Int32} {j : Nat} : up3 w x y z j = if j = 2 then z else if j = 1 then y else if j = 0 then x else w j := rfl
theorem rowF_rA {S : Nat → Int32} {a r j : Nat} (hr : r < 24) (hj : j < 3) (hrec : recN S < 24) : rowF S a (rA r j) = if r = recN S then (if j = 2 then S 3 else if j = 1 then S (sA a 7) else nI a) else S (rA r j) := by
  have h15 : rA r j ≠ 15 := by unfold rA; omega
  unfold rowF
  rw [upd_ne h15]
  by_cases h : r = recN S
  · rw [if_pos h, ← h]
    by_cases h2 : j = 2
    · subst h2; rw [upd_eq]; rfl
    · rw [if_neg h2, upd_ne (by unfold rA; omega)]
      by_cases h1 : j = 1
      · subst h1; rw [upd_eq]; rfl
      · rw [if_neg h1, upd_ne (by unfold rA; omega), show j = 0 by omega, upd_eq]
  · rw [if_neg h, upd_ne (by unfold rA; omega), upd_ne (by unfold rA; omega), upd_ne (by unfold rA; omega)]
theorem same_row {S : Nat → Int32} {a : Nat} (hrec : recN S < 24) : sameB S (rowF S a) := by
  intro k h15 hk
  unfold rowF
  rw [upd_ne h15, upd_ne (by unfold rA; omega), upd_ne (by unfold rA; omega), upd_ne (by unfold rA; omega)]
theorem same_room {S : Nat → Int32} : sameB S (roomF S) := by
  intro k h15 hk
  unfold roomF
  split
  · rw [upd_ne h15, shN_ne (by omega)]
  · rfl
theorem same_trans {S T U : Nat → Int32} (h1 : sameB S T) (h2 : sameB T U) : sameB S U := fun k a c => (h2 k a c).trans (h1 k a c)
/-- the record has room: one more -/
theorem keep_room_W {S : Nat → Int32} {J : Nat → Nat → Int32} {a : Nat} (hrec : recN S < 24) (hr : rtN J < 24) :
    va_up (va_up (Wof S J) 0 (upd (Wof S J 0) 15 (nI (recN S + 1)))) (63 + (rtN J + recN S) % 24) (up3 (Wof S J (63 + (rtN J + recN S) % 24)) (nI a) (S (sA a 7)) (S 3)) = Wof (rowF S a) J := by
  have e15 : rowF S a 15 = nI (recN S + 1) := upd_eq
  have er : recN (rowF S a) = recN S + 1 := by
    show (rowF S a 15).toNatClampNeg = _
    rw [e15, nI_c (by omega)]
  funext n j
  by_cases hrc : 63 ≤ n ∧ n < 87
  · obtain ⟨s, rfl⟩ : ∃ s, n = 63 + s := ⟨n - 63, by omega⟩
    by_cases hj : j < 3
    · rw [wof_rc (by omega) hj, er, rowF_rA (by omega) hj hrec]
      by_cases hs : s = (rtN J + recN S) % 24
      · have hq : (s + 24 - rtN J) % 24 = recN S := by omega
        rw [hq, if_pos (by omega), if_pos rfl, ← hs]
        unfold va_up
        rw [if_pos rfl, up3_v]
        by_cases h2 : j = 2
        · rw [if_pos h2, if_pos h2]
        · rw [if_neg h2, if_neg h2]
          by_cases h1 : j = 1
          · rw [if_pos h1, if_pos h1]
          · rw [if_neg h1, if_neg h1, if_pos (by omega)]
      · have hq : (s + 24 - rtN J) % 24 ≠ recN S := by omega
        rw [if_neg hq]
        unfold va_up
        rw [if_neg (by omega), if_neg (by omega), wof_rc (by omega) hj]
        by_cases h : (s + 24 - rtN J) % 24 < recN S
        · rw [if_pos h, if_pos (by omega)]
        · rw [if_neg h, if_neg (by omega)]
    · rw [wof_rc3 (by omega) hj]
      unfold va_up
      by_cases hs : 63 + s = 63 + (rtN J + recN S) % 24
      · rw [if_pos hs, up3_v, if_neg (by omega), if_neg (by omega), if_neg (by omega), ← hs, wof_rc3 (by omega) hj]
      · rw [if_neg hs, if_neg (by omega), wof_rc3 (by omega) hj]
  · have h1 : va_up (va_up (Wof S J) 0 (upd (Wof S J 0) 15 (nI (recN S + 1)))) (63 + (rtN J + recN S) % 24) (up3 (Wof S J (63 + (rtN J + recN S) % 24)) (nI a) (S (sA a 7)) (S 3)) n j = va_up (Wof S J) 0 (upd (Wof S J 0) 15 (nI (recN S + 1))) n j := by
      unfold va_up
      rw [if_neg (by omega)]
    rw [h1]
    by_cases h15 : n = 0 ∧ j = 15
    · obtain ⟨rfl, rfl⟩ := h15
      rw [wof_15, e15]
      simp [va_up, upd]
    · by_cases h16 : n = 0 ∧ j = 16
      · obtain ⟨rfl, rfl⟩ := h16
        rw [wof_16]
        simp only [va_up, if_true]
        rw [upd_ne (by decide), wof_16]
      · rw [wof_rec (same_row hrec) (fun _ _ _ => rfl) (by omega) h15 h16]
        unfold va_up
        split
        · rename_i e; subst e; exact upd_ne (fun hj => h15 ⟨rfl, hj⟩)
        · rfl
