/-! m12: changes: a green ends and is kept -/
set_option maxRecDepth 100000
def recN (S : Nat → Int32) : Nat := (S 15).toNatClampNeg
def rOk (S : Nat → Int32) : Prop := recN S ≤ 24 ∧ S 15 = nI (recN S)
abbrev rA (r w : Nat) : Nat := 234 + 3 * r + w
theorem ix_r (r : Nat) : (234 : Int32) + ((3 : Int32) * nI r) = nI (234 + 3 * r) := by
  show nI 234 + nI 3 * nI r = _
  rw [pk_mul, nI_add]
/-- the first i numbers of the record moved up by a row -/
def shN (S : Nat → Int32) (i : Nat) : Nat → Int32 := fun k => if 234 ≤ k ∧ k < 234 + i then S (k + 3) else S k
theorem shN_0 {S : Nat → Int32} : shN S 0 = S := by
  funext k
  unfold shN
  rw [if_neg (by omega)]
theorem shN_ne {S : Nat → Int32} {i k : Nat} (hk : k < 234 ∨ 234 + i ≤ k) : shN S i k = S k := if_neg (by omega)
theorem shN_s {S : Nat → Int32} {i : Nat} : upd (shN S i) (234 + i) (S (234 + i + 3)) = shN S (i + 1) := by
  funext k
  unfold upd shN
  by_cases h : k = 234 + i
  · rw [if_pos h, if_pos (by omega), h]
  · rw [if_neg h]
    by_cases h2 : 234 ≤ k ∧ k < 234 + i
    · rw [if_pos h2, if_pos (by omega)]
    · rw [if_neg h2, if_neg (by omega)]
def roomF (S : Nat → Int32) : Nat → Int32 := if S 15 = 24 then upd (shN S 69) 15 (nI 23) else S
def rowF (S : Nat → Int32) (a : Nat) : Nat → Int32 := upd (upd (upd (upd S (rA (recN S) 0) (nI a)) (rA (recN S) 1) (S (sA a 7))) (rA (recN S) 2) (S 3)) 15 (nI (recN S + 1))
def endF (S : Nat → Int32) (a : Nat) : Nat → Int32 := upd (upd S (sA a 6) 0) (sA a 8) (S 3)
def chg1 (p : Nat) (S : Nat → Int32) (a : Nat) : Nat → Int32 := if S (sA a 6) = 0 then S else if ¬ hasB (S (pA p 0)) (nI a) then rowF (roomF (endF S a)) a else S
def chgL (p : Nat) : Nat → Nat → (Nat → Int32) → Nat → Int32
  | 0, _, S => S
  | n + 1, i, S => chgL p n (i + 1) (chg1 p S i)
def changesF (S : Nat → Int32) (p : Nat) : Nat → Int32 := comesOnF (chgL p (manyN S) 0 S) p
theorem endF_15 {S : Nat → Int32} {a : Nat} : endF S a 15 = S 15 := by
  unfold endF
  rw [upd_ne (by unfold sA; omega), upd_ne (by unfold sA; omega)]
theorem roomF_ok {S : Nat → Int32} (hr : rOk S) : recN (roomF S) < 24 ∧ roomF S 15 = nI (recN (roomF S)) := by
  unfold roomF
  split
  · have e : recN (upd (shN S 69) 15 (nI 23)) = 23 := by
      unfold recN
      rw [upd_eq, nI_c (by decide)]
    rw [e]
    exact ⟨by decide, upd_eq⟩
  · rename_i h24
    refine ⟨?_, hr.2⟩
    have := hr.1
    rcases Nat.lt_or_ge (recN S) 24 with h | h
    · exact h
    · exact absurd (by rw [hr.2, show recN S = 24 by omega]; rfl) h24
theorem keep_shN {S : Nat → Int32} {i : Nat} (hi : i ≤ 69) : keepS S (shN S i) := by
  intro k hk
  unfold fixedK at hk
  exact shN_ne (by omega)
theorem keep_room {S : Nat → Int32} : keepS S (roomF S) := by
  unfold roomF
  split
  · exact keep_trans (keep_shN (by decide)) (keep_upd (by unfold fixedK; omega))
  · exact keep_refl
theorem keep_end {S : Nat → Int32} {a : Nat} (ha : a < 8) : keepS S (endF S a) := keep_trans (keep_upd (by unfold fixedK sA; omega)) (keep_upd (by unfold fixedK sA; omega))
theorem keep_row {S : Nat → Int32} {a : Nat} (hr : recN S < 24) : keepS S (rowF S a) := keep_trans (keep_trans (keep_trans (keep_upd (by unfold fixedK rA; omega)) (keep_upd (by unfold fixedK rA; omega))) (keep_upd (by unfold fixedK rA; omega))) (keep_upd (by unfold fixedK; omega))
theorem rOk_end {S : Nat → Int32} {a : Nat} (hr : rOk S) : rOk (endF S a) := by
  unfold rOk recN at *
  rw [endF_15]
  exact hr
theorem rOk_row {S : Nat → Int32} {a : Nat} (hr : recN S < 24) : rOk (rowF S a) := by
  have e : rowF S a 15 = nI (recN S + 1) := upd_eq
  have e2 : recN (rowF S a) = recN S + 1 := by
    unfold recN at *
    rw [e, nI_c (by omega)]
  unfold rOk
  rw [e2, e]
  exact ⟨by omega, rfl⟩
theorem keep_chg1 {p : Nat} {S : Nat → Int32} {a : Nat} (ha : a < 8) (hr : rOk S) : keepS S (chg1 p S a) := by
  unfold chg1
  split
  · exact keep_refl
  · split
    · exact keep_trans (keep_trans (keep_end ha) keep_room) (keep_row (roomF_ok (rOk_end hr)).1)
    · exact keep_refl
theorem rOk_chg1 {p : Nat} {S : Nat → Int32} {a : Nat} (hr : rOk S) : rOk (chg1 p S a) := by
  unfold chg1
  split
  · exact hr
  · split
    · exact rOk_row (roomF_ok (rOk_end hr)).1
    · exact hr
section M12
variable {h : gH} {b : Nat} {A : Nat → Nat → Int32} {L : Nat → Nat → Int64} {S : Nat → Int32} {G : gG} {F : Nat}
theorem s_shift_L {x y : Int32} : ∀ (n i f : Nat), n + i = 69 → n < f → sp_X13_changes_L73 G F f (mS h b A L (shN S i)) b x y (nI i) = some (mS h b A L (shN S 69)) := by
  intro n
  induction n with
  | zero =>
    intro i f hi hf
    obtain ⟨f, rfl⟩ : ∃ z, f = z + 1 := ⟨f - 1, by omega⟩
    obtain rfl : i = 69 := by omega
    rw [sp_X13_changes_L73, if_pos (show (69 : Int32) ≤ nI 69 from nI_le (a := 69) (b := 69) (by decide) (by decide))]
  | succ n ih =>
    intro i f hi hf
    obtain ⟨f, rfl⟩ : ∃ z, f = z + 1 := ⟨f - 1, by omega⟩
    have e1 : (234 : Int32) + nI i = nI (234 + i) := nI_add 234 i
    have e2 : nI (234 + i) + (3 : Int32) = nI (234 + i + 3) := nI_add _ 3
    rw [sp_X13_changes_L73, if_neg (show ¬ (69 : Int32) ≤ nI i from nI_ge (a := i) (b := 69) (by omega) (by decide))]
    simp only [s_is, if_true, s_f0, Option.bind_some, e1, e2]
    rw [s_a _ (by omega), shN_ne (by omega)]
    simp only [s_is, if_true, s_f0, Option.bind_some]
    rw [s_s _ _ (by omega), shN_s]
    simp only [s_is, if_true, s_f0, Option.bind_some, nI_1]
    exact ih (i + 1) f (by omega) (by omega)
theorem s_changes_s {p i f : Nat} (hF : 100 ≤ F) (hp : p < 6) (hm : mOk S) (hr : rOk S) (hi : i < manyN S) : sp_X13_changes_L2 G F (f + 1) (mS h b A L S) b (nI p) (nI i) = sp_X13_changes_L2 G F f (mS h b A L (chg1 p S i)) b (nI p) (nI (i + 1)) := by
  have h8 := hm.1
  have hi8 : i < 8 := by omega
  have en : ¬ nI (manyN S) ≤ nI i := nI_ge (by omega) (by omega)
  unfold chg1
  rw [sp_X13_changes_L2]
  simp only [s_is, if_true, s_f0, Option.bind_some, s_r_13, hm.2, en, if_false, s_at_6, s_setOf hp, i_has, b0, hi8, nI_1]
  by_cases h1 : S (sA i 6) = 0
  · rw [if_pos h1, if_pos h1]
  rw [if_neg h1, if_neg h1]
  rcases (Classical.em (¬ hasB (S (pA p 0)) (nI i))).symm with h2 | h2
  · rw [if_neg h2, if_neg h2]
  rw [if_pos h2, if_pos h2]
  have e3 : upd S (sA i 6) 0 3 = S 3 := upd_ne (by unfold sA; omega)
  simp only [s_is, if_true, s_f0, Option.bind_some, s_puts_6, s_puts_8, hi8, s_r_3, e3]
  have hE : upd (upd S (sA i 6) 0) (sA i 8) (S 3) = endF S i := rfl
  rw [hE]
  obtain ⟨hr1, hr2⟩ := roomF_ok (rOk_end (a := i) hr)
  have eJ : (if endF S i 15 = (24 : Int32) then (sp_X13_changes_L73 G F F (mS h b A L (endF S i)) b (nI p) (nI i) (0 : Int32)).bind fun y322 =>
      (gGr 11 y322 b 0).bind fun x323 => (gAi 0 y322 x323 (15 : Int32)).bind fun x324 => (gSi y322 x323 (15 : Int32) (x324 - (1 : Int32))).bind fun h325 => some h325 else some (mS h b A L (endF S i))) = some (mS h b A L (roomF (endF S i))) := by
    unfold roomF
    by_cases h24 : endF S i 15 = 24
    · rw [if_pos h24, if_pos h24]
      have h1 := s_shift_L (h := h) (b := b) (A := A) (L := L) (S := endF S i) (G := G) (F := F) (x := nI p) (y := nI i) 69 0 F (by omega) (by omega)
      rw [shN_0] at h1
      rw [show (0 : Int32) = nI 0 from rfl, h1]
      simp only [s_is, if_true, s_f0, Option.bind_some, s_r_15, s_w_15]
      rw [shN_ne (by omega), h24]
      rfl
    · rw [if_neg h24, if_neg h24]
  simp only [s_is, if_true, s_f0, Option.bind_some, s_r_15]
  rw [eJ]
  generalize roomF (endF S i) = T at hr1 hr2 ⊢
  have w1 : nI (234 + 3 * recN T) + (1 : Int32) = nI (234 + 3 * recN T + 1) := nI_1 _
  have w2 : nI (234 + 3 * recN T) + (2 : Int32) = nI (234 + 3 * recN T + 2) := nI_add _ 2
  simp only [s_is, if_true, s_f0, Option.bind_some, s_r_15, hr2, ix_r, w1, w2]
  rw [s_s _ _ (by omega)]
  simp only [s_is, if_true, s_f0, Option.bind_some, s_at_7, hi8]
  rw [s_s _ _ (by omega)]
  simp only [s_is, if_true, s_f0, Option.bind_some, s_r_3]
  rw [s_s _ _ (by omega)]
  simp only [s_is, if_true, s_f0, Option.bind_some, s_r_15, s_w_15]
  simp (disch := omega) only [sA, upd_ne, hr2, nI_1]
  rfl
theorem s_changes_L {p : Nat} (hF : 100 ≤ F) (hp : p < 6) : ∀ (n i f : Nat) (S : Nat → Int32), mOk S → rOk S → n + i = manyN S → n < f → sp_X13_changes_L2 G F f (mS h b A L S) b (nI p) (nI i) = some (mS h b A L (chgL p n i S)) := by
  intro n
  induction n with
  | zero =>
    intro i f S hm hr hi hf
    have h8 := hm.1
    obtain ⟨f, rfl⟩ : ∃ z, f = z + 1 := ⟨f - 1, by omega⟩
    rw [sp_X13_changes_L2]
    simp only [s_is, if_true, s_f0, Option.bind_some, s_r_13]
    rw [if_pos (by rw [hm.2]; exact nI_le (by omega) (by omega))]
    rfl
  | succ n ih =>
    intro i f S hm hr hi hf
    have h8 := hm.1
    obtain ⟨f, rfl⟩ : ∃ z, f = z + 1 := ⟨f - 1, by omega⟩
    rw [s_changes_s hF hp hm hr (by omega), chgL]
    have e13 : chg1 p S i 13 = S 13 := keep_13 (keep_chg1 (by omega) hr)
    have em : manyN (chg1 p S i) = manyN S := by unfold manyN; rw [e13]
    exact ih (i + 1) f _ ⟨by rw [em]; exact h8, by rw [em, e13]; exact hm.2⟩ (rOk_chg1 hr) (by rw [em]; omega) (by omega)
theorem s_changes {p : Nat} (hF : 100 ≤ F) (hp : p < 6) (hm : mOk S) (hr : rOk S) : sp_X13_changes G F (mS h b A L S) b (nI p) = some (mS h b A L (changesF S p)) := by
  unfold sp_X13_changes
  have h8 := hm.1
  rw [show (0 : Int32) = nI 0 from rfl, s_changes_L hF hp (manyN S) 0 F S hm hr (by omega) (by omega)]
  simp only [s_is, if_true, s_f0, Option.bind_some, s_comesOn hp]
  rfl
end M12
