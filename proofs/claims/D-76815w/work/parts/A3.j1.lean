/-! j1: class and reference side by side in one heap -/
set_option maxRecDepth 100000
/-- the reference's tables are right -/
def tOk (A : Nat → Nat → Int32) (S : Nat → Int32) : Prop := ∀ j, j < 64 → A 3 j = clearV S (j / 8) (j % 8) ∧ A 4 j = narrowV S (j / 8) (j % 8)
def jI (T : Nat) (S : Nat → Int32) : Prop := ∃ t, t ≤ T ∧ rowInv S t
def tkAt (h : gH) (bx : Nat) : Prop := (∃ f : Nat → Option Nat, h (bx + 317) = some (.inl (9, 4, .inr (.inr (.inr (.inr f))))) ∧ ∀ k, k < 4 → f k = some (bx + 318 + k)) ∧ h (bx + 318) = some (.inr (8, [.int 0])) ∧ h (bx + 319) = some (.inr (9, [.int 1])) ∧ h (bx + 320) = some (.inr (7, [.int 2])) ∧ h (bx + 321) = some (.inr (6, [.int 3]))
def txAt (h : gH) (bx : Nat) (c : Nat → Int32) (A : Nat → Nat → Int32) : Prop := ∃ (m : Nat) (tx : Nat → Int32), m ≤ 100 ∧ c 5 = nI m ∧ h (bx + 316) = some (.inl (2, 100, .inl tx)) ∧ ∀ i, i < m → tx i = A 5 i ∧ ∃ v, v < 128 ∧ tx i = nI v
def imAt (G : gG) (h : gH) (bx : Nat) (c : Nat → Int32) (A : Nat → Nat → Int32) (T : Nat) : Prop := (c 8 = 0 ∧ krOk G h bx) ∨ (c 8 = 1 ∧ ∃ I K R, kpAt G h bx I K R ∧ wOk I K R ∧ jI T I ∧ ∀ j, j < 372 → A 1 j = I j)
def tpFar (h : gH) (bx bm : Nat) : Prop := ∀ k a, k < 6 → h (bx + 324 + k) = some (.inr (10, [.ref a])) → bm + 12 ≤ a
def jB (G : gG) (h : gH) (bx bm : Nat) (c : Nat → Int32) (A : Nat → Nat → Int32) (L : Nat → Nat → Int64) (T : Nat) : Prop := trOk G h bx ∧ (∃ g, gsAt h bx g) ∧ tkAt h bx ∧ tpAt h bx A L ∧ tpFar h bx bm ∧ txAt h bx c A ∧ imAt G h bx c A T ∧ A 9 0 = c 8 ∧ A 9 1 = c 3 ∧ A 9 2 = c 5
def jT (G : gG) (T : Nat) (H : gH) (bx bm : Nat) : Prop := ∃ h c J Q A L S, H = wh G (xo h bx c) (bx + 1) S J Q ∧ mS h bm A L S = h ∧ tOk A S ∧ bx + 330 ≤ bm ∧ jI T S ∧ wOk S J Q ∧ jB G h bx bm c A L T
/-- what of the reference's numbers the pair keeps in view -/
def jA (A A' : Nat → Nat → Int32) (c : Int32) : Prop := ∀ i j, (i = 1 ∨ i = 3 ∨ i = 4 ∨ i = 5 ∨ i = 7 ∨ i = 8 ∨ (i = 9 ∧ j < 3)) → A' i j = if i = 9 ∧ j = 1 then c else A i j
theorem jA_mR {A A' : Nat → Nat → Int32} {c : Int32} (h : mR A A' c) : jA A A' c := fun i j hi => h i j (by omega)
theorem jA_mQ {A A' : Nat → Nat → Int32} {c : Int32} (h : mQ A A' c) : jA A A' c := fun i j hi => h i j (by omega) (by omega) (by omega) (by omega)
theorem jA_refl {A : Nat → Nat → Int32} : jA A A (A 9 1) := fun i j hi => by
  by_cases h : i = 9 ∧ j = 1
  · rw [if_pos h, h.1, h.2]
  · rw [if_neg h]
theorem tOk_A3 {A : Nat → Nat → Int32} {S : Nat → Int32} (h : tOk A S) : tabA A S 3 = A 3 := by
  funext j
  unfold tabA clrsA
  by_cases hj : j < 64
  · simp [hj, va_up, (h j hj).1]
  · simp [hj, va_up]
theorem tOk_A4 {A : Nat → Nat → Int32} {S : Nat → Int32} (h : tOk A S) : tabA A S 4 = A 4 := by
  funext j
  unfold tabA clrsA
  by_cases hj : j < 64
  · simp [hj, va_up, (h j hj).2]
  · simp [hj, va_up]
theorem tab_ne {A : Nat → Nat → Int32} {S : Nat → Int32} {i : Nat} (h0 : i ≠ 0) (h3 : i ≠ 3) (h4 : i ≠ 4) : tabA A S i = A i := by
  funext j
  unfold tabA clrsA
  simp [va_up, h0, h3, h4]
theorem tOk_tab {A : Nat → Nat → Int32} {S : Nat → Int32} : tOk (tabA A S) S := by
  intro j hj
  constructor
  · simp [tabA, clrsA, hj, va_up]
  · simp [tabA, clrsA, hj, va_up]
theorem tOk_eq {h : gH} {b : Nat} {A : Nat → Nat → Int32} {L : Nat → Nat → Int64} {S : Nat → Int32} (ht : tOk A S) : mT h b A L S = mS h b A L S := by
  have e : va_up (tabA A S) 0 S = va_up A 0 S := by
    funext i
    by_cases h0 : i = 0
    · subst h0; simp [va_up]
    · rw [va_up_ne _ _ h0, va_up_ne _ _ h0]
      by_cases h3 : i = 3
      · subst h3; exact tOk_A3 ht
      · by_cases h4 : i = 4
        · subst h4; exact tOk_A4 ht
        · exact tab_ne h0 h3 h4
  show mh h b (va_up (tabA A S) 0 S) L = mh h b (va_up A 0 S) L
  rw [e]
theorem tOk_jA {A A' : Nat → Nat → Int32} {S : Nat → Int32} {c : Int32} (h : jA A A' c) (ht : tOk A S) : tOk A' S := fun j hj => by
  rw [h 3 j (by omega), h 4 j (by omega)]
  simp only [show ¬ (3 = 9 ∧ j = 1) by omega, show ¬ (4 = 9 ∧ j = 1) by omega, if_false]
  exact ht j hj
theorem tOk_S {A : Nat → Nat → Int32} {S S' : Nat → Int32} (e : tabEq S S') (ht : tOk A S) : tOk A S' := fun j hj => by
  obtain ⟨e1, e2⟩ := e (j / 8) (j % 8) (by omega) (by omega)
  rw [e1, e2]
  exact ht j hj
theorem jA_tab {A : Nat → Nat → Int32} {S : Nat → Int32} (ht : tOk (tabA A S) S) (c : Int32) (hc : c = A 9 1) : ∀ i j, (i = 1 ∨ i = 5 ∨ i = 7 ∨ i = 8 ∨ (i = 9 ∧ j < 3)) → tabA A S i j = A i j := fun i j hi => by rw [tab_ne (by omega) (by omega) (by omega)]
section J1
variable {G : gG} {h h' : gH} {bx bm : Nat} {c c' : Nat → Int32} {S S' : Nat → Int32} {J J' : Nat → Nat → Int32} {Q Q' : Nat → Nat → Int64} {A A' : Nat → Nat → Int32} {L L' : Nat → Nat → Int64} {T T' : Nat}
theorem mh_out {b a : Nat} (ha : a < b ∨ b + 12 ≤ a) : mh h b A L a = h a := by
  unfold mh
  simp only [show ¬ a = b by omega, show ¬ a = b + 1 by omega, show ¬ a = b + 2 by omega, show ¬ a = b + 3 by omega, show ¬ a = b + 4 by omega, show ¬ a = b + 5 by omega, show ¬ a = b + 6 by omega, show ¬ a = b + 7 by omega, show ¬ a = b + 8 by omega, show ¬ a = b + 9 by omega, show ¬ a = b + 10 by omega, show ¬ a = b + 11 by omega, if_false]
theorem mh_in {X Y : gH} {b a : Nat} (ha : b ≤ a ∧ a < b + 12) : mh X b A L a = mh Y b A L a := by
  rcases (show a = b ∨ a = b + 1 ∨ a = b + 2 ∨ a = b + 3 ∨ a = b + 4 ∨ a = b + 5 ∨ a = b + 6 ∨ a = b + 7 ∨ a = b + 8 ∨ a = b + 9 ∨ a = b + 10 ∨ a = b + 11 by omega) with rfl | rfl | rfl | rfl | rfl | rfl | rfl | rfl | rfl | rfl | rfl | rfl <;> simp [mh]
theorem mS_out {b a : Nat} (ha : a < b ∨ b + 12 ≤ a) : mS h b A L S a = h a := mh_out ha
theorem mS_in {X Y : gH} {b a : Nat} (ha : b ≤ a ∧ a < b + 12) : mS X b A L S a = mS Y b A L S a := mh_in ha
theorem mS_mS {b : Nat} : mS (mS h b A L S) b A' L' S' = mS h b A' L' S' := by
  funext a
  by_cases ha : b ≤ a ∧ a < b + 12
  · exact mS_in ha
  · rw [mS_out (by omega), mS_out (by omega), mS_out (by omega)]
/-- the reference stands in the whole heap -/
theorem jM {X : gH} (hM : mS h bm A L S = h) (hX : ∀ a, bm ≤ a → a < bm + 12 → X a = h a) : mS X bm A L S = X := by
  funext a
  by_cases ha : bm ≤ a ∧ a < bm + 12
  · rw [mS_in (Y := h) ha, hM, hX a ha.1 ha.2]
  · exact mS_out (by omega)
theorem jStep (hM : mS h bm A L S = h) (hb : bx + 330 ≤ bm) (hag : ∀ a, bm ≤ a → a < bm + 12 → h' a = h a) : mS (wh G (xo h' bx c') (bx + 1) S' J' Q') bm A L S = wh G (xo h' bx c') (bx + 1) S' J' Q' :=
  jM hM (fun a h1 h2 => by rw [v_hi (by omega)]; exact hag a h1 h2)
theorem mS_wh (hb : bx + 330 ≤ bm) : mS (wh G (xo h bx c) (bx + 1) S J Q) bm A L S' = wh G (xo (mS h bm A L S') bx c) (bx + 1) S J Q := by
  funext a
  by_cases ha : bm ≤ a ∧ a < bm + 12
  · rw [v_hi (by omega)]
    exact mS_in ha
  · rw [mS_out (by omega)]
    by_cases h2 : bx + 106 ≤ a
    · rw [v_hi h2, v_hi h2, mS_out (by omega)]
    · unfold wh wR
      by_cases h3 : bx + 1 ≤ a ∧ a < bx + 1 + 105
      · rw [if_pos h3, if_pos h3]
      · rw [if_neg h3, if_neg h3]
        unfold xo va_up
        by_cases h4 : a = bx
        · rw [if_pos h4, if_pos h4]
        · rw [if_neg h4, if_neg h4, mS_out (by omega)]
/-- all that the pair keeps in view of the class's other cells -/
theorem jB_same (hB : jB G h bx bm c A L T) (htr : trOk G h' bx) (hg : ∃ g, gsAt h' bx g) (hb : bx + 330 ≤ bm) (hs : ∀ a, bx + 211 ≤ a → a ≠ bx + 322 → a < bm → h' a = h a) (hf : ∀ a, bm + 12 ≤ a → ¬ h a = none → h' a = h a) : jB G h' bx bm c A L T := by
  obtain ⟨b1, b2, ⟨⟨f, b3, b4⟩, b5, b6, b7, b8⟩, ⟨⟨f2, b9, b10⟩, b11⟩, b12, ⟨m, tx, b13, b14, b15, b16⟩, b17, b18⟩ := hB
  have e : ∀ k, 211 ≤ k → k < 330 → k ≠ 322 → h' (bx + k) = h (bx + k) := fun k h1 h2 h3 => hs (bx + k) (by omega) (by omega) (by omega)
  refine ⟨htr, hg, ⟨⟨f, by rw [e 317 (by decide) (by decide) (by decide)]; exact b3, b4⟩, by rw [e 318 (by decide) (by decide) (by decide)]; exact b5, by rw [e 319 (by decide) (by decide) (by decide)]; exact b6, by rw [e 320 (by decide) (by decide) (by decide)]; exact b7, by rw [e 321 (by decide) (by decide) (by decide)]; exact b8⟩, ⟨⟨f2, by rw [e 323 (by decide) (by decide) (by decide)]; exact b9, b10⟩, fun k hk => ?_⟩, fun k a hk ha => ?_, ⟨m, tx, b13, b14, by rw [e 316 (by decide) (by decide) (by decide)]; exact b15, b16⟩, ?_, b18⟩
  · have e4 : h' (bx + 324 + k) = h (bx + 324 + k) := hs _ (by omega) (by omega) (by omega)
    rcases b11 k hk with ⟨x1, x2, x3⟩ | ⟨s, m, a, x, y1, y2, y3, y4, y5, y6, y7, y8⟩
    · exact Or.inl ⟨x1, x2, by rw [e4]; exact x3⟩
    · refine Or.inr ⟨s, m, a, x, y1, y2, y3, y4, by rw [e4]; exact y5, y6, ?_, y8⟩
      rw [hf a (b12 k a hk y5) (by rw [y7]; simp)]
      exact y7
  · refine b12 k a hk ?_
    rw [← hs (bx + 324 + k) (by omega) (by omega) (by omega)]
    exact ha
  · rcases b17 with ⟨x1, W1, Q1, x2, x3⟩ | ⟨x1, I, K, R, x2, x3, x4, x5⟩
    · exact Or.inl ⟨x1, W1, Q1, fun m hm => by rw [hs (bx + 211 + m) (by omega) (by omega) (by omega)]; exact x2 m hm, x3⟩
    · exact Or.inr ⟨x1, I, K, R, fun m hm => by rw [hs (bx + 211 + m) (by omega) (by omega) (by omega)]; exact x2 m hm, x3, x4, x5⟩
theorem jB_far (hB : jB G h bx bm c A L T) (hb : bx + 330 ≤ bm) : jB G (mS h bm A' L' S') bx bm c A L T := by
  have e : ∀ a, a < bm ∨ bm + 12 ≤ a → mS h bm A' L' S' a = h a := fun a ha => mS_out ha
  refine jB_same hB ?_ ?_ hb (fun a _ _ h3 => e a (by omega)) (fun a h1 _ => e a (by omega))
  · obtain ⟨W1, Q1, x2, x3⟩ := hB.1
    exact ⟨W1, Q1, fun m hm => by rw [e _ (by omega)]; exact x2 m hm, x3⟩
  · obtain ⟨g, hg⟩ := hB.2.1
    exact ⟨g, by unfold gsAt; rw [e _ (by omega)]; exact hg⟩
theorem jI_le (hTT : T ≤ T') (h : jI T S) : jI T' S := by
  obtain ⟨t, h1, h2⟩ := h
  exact ⟨t, Nat.le_trans h1 hTT, h2⟩
/-- the counted number and the tables, the rest as before -/
theorem jB_cnt (hB : jB G h bx bm c A L T) (hc : cR c c' (A' 9 1)) (hA : ∀ i j, (i = 1 ∨ i = 5 ∨ i = 7 ∨ i = 8 ∨ (i = 9 ∧ j = 0) ∨ (i = 9 ∧ j = 2)) → A' i j = A i j) (hTT : T ≤ T') : jB G h bx bm c' A' L T' := by
  obtain ⟨b1, b2, b3, ⟨b9, b11⟩, b12, ⟨m, tx, b13, b14, b15, b16⟩, b17, b18, b19, b20⟩ := hB
  refine ⟨b1, b2, b3, ⟨b9, fun k hk => ?_⟩, b12, ⟨m, tx, b13, by rw [hc.2 5 (by decide)]; exact b14, b15, fun i hi => by rw [hA 5 i (by omega)]; exact b16 i hi⟩, ?_, by rw [hA 9 0 (by omega), hc.2 8 (by decide)]; exact b18, hc.1.symm, by rw [hA 9 2 (by omega), hc.2 5 (by decide)]; exact b20⟩
  · unfold tp1
    rw [hA 7 k (by omega), hA 8 k (by omega)]
    exact b11 k hk
  · unfold imAt
    rw [hc.2 8 (by decide)]
    rcases b17 with x | ⟨x1, I, K, R, x2, x3, x4, x5⟩
    · exact Or.inl x
    · exact Or.inr ⟨x1, I, K, R, x2, x3, jI_le hTT x4, fun j hj => by rw [hA 1 j (by omega)]; exact x5 j hj⟩
theorem jEnd (hM : mS h bm A L S = h) (hb : bx + 330 ≤ bm) (hT : tOk A' S') (hI : jI T' S') (hW : wOk S' J' Q') (hB : jB G h' bx bm c' A' L' T') : jT G T' (mS (wh G (xo h' bx c') (bx + 1) S' J' Q') bm A' L' S') bx bm :=
  ⟨mS h' bm A' L' S', c', J', Q', A', L', S', mS_wh hb, mS_mS, hT, hb, hI, hW, jB_far hB hb⟩
theorem jEnd0 (hM : mS h bm A L S = h) (hb : bx + 330 ≤ bm) (hag : ∀ a, bm ≤ a → a < bm + 12 → h' a = h a) (hT : tOk A S) (hI : jI T' S) (hW : wOk S J' Q') (hB : jB G h' bx bm c' A L T') : jT G T' (wh G (xo h' bx c') (bx + 1) S J' Q') bx bm :=
  ⟨h', c', J', Q', A, L, S, rfl, jM hM hag, hT, hb, hI, hW, hB⟩
theorem jB_T (hB : jB G h bx bm c A L T) (hTT : T ≤ T') : jB G h bx bm c A L T' := jB_cnt hB (by have := hB.2.2.2.2.2.2.2.2.1; rw [this]; exact cR_refl) (fun _ _ _ => rfl) hTT
theorem jT_le (h : jT G T h' bx bm) (hTT : T ≤ T') : jT G T' h' bx bm := by
  obtain ⟨h, c, J, Q, A, L, S, e, hM, hT, hb, hI, hW, hB⟩ := h
  exact ⟨h, c, J, Q, A, L, S, e, hM, hT, hb, jI_le hTT hI, hW, jB_T hB hTT⟩
end J1
