/-! x5: the class in thought: would, turns, best, day -/
set_option maxRecDepth 100000
/-- a World to think in lies behind the first one -/
def trOk (G : gG) (h : gH) (bx : Nat) : Prop := ∃ W1 Q1, (∀ m, m < 105 → h (bx + 106 + m) = some (wC G (bx + 106) m (W1 m) (Q1 m))) ∧ bsAll W1 Q1
def tUp (G : gG) (h h' : gH) (bx : Nat) : Prop := trOk G h' bx ∧ ∀ a, (a < bx + 106 ∨ bx + 211 ≤ a) → h' a = h a
section X5
variable {G : gG} {F n bx : Nat} {h : gH} {c : Nat → Int32} {S C T : Nat → Int32} {J K : Nat → Nat → Int32} {Q R : Nat → Nat → Int64}
theorem tUp_refl (ht : trOk G h bx) : tUp G h h bx := ⟨ht, fun _ _ => rfl⟩
theorem t_back : wh G (wh G (xo h bx c) (bx + 1) S J Q) (bx + 106) T K R = wh G (xo (wh G h (bx + 106) T K R) bx c) (bx + 1) S J Q := by
  funext a
  unfold wh
  by_cases h1 : bx + 106 ≤ a ∧ a < bx + 106 + 105
  · obtain ⟨k, rfl⟩ : ∃ k, a = bx + 106 + k := ⟨a - (bx + 106), by omega⟩
    rw [wR_at (by omega), wR_out (by omega), xo_ne (by omega), wR_at (by omega)]
  · rw [wR_out (by omega)]
    by_cases h2 : bx + 1 ≤ a ∧ a < bx + 1 + 105
    · obtain ⟨k, rfl⟩ : ∃ k, a = bx + 1 + k := ⟨a - (bx + 1), by omega⟩
      rw [wR_at (by omega), wR_at (by omega)]
    · rw [wR_out (by omega), wR_out (by omega)]
      by_cases h3 : a = bx
      · subst h3; rw [xo_at, xo_at]
      · rw [xo_ne h3, xo_ne h3, wR_out (by omega)]
theorem tUp_wh (hb : bsAll K R) : tUp G h (wh G h (bx + 106) T K R) bx := by
  refine ⟨⟨Wof T K, R, fun m hm => wR_at hm, ?_⟩, fun a ha => wR_out (by omega)⟩
  intro k hk
  rw [wof_none (pos_w hk)]
  exact hb k hk
theorem tUp_trans {h' h'' : gH} (h1 : tUp G h h' bx) (h2 : tUp G h' h'' bx) : tUp G h h'' bx := ⟨h2.1, fun a ha => (h2.2 a ha).trans (h1.2 a ha)⟩
theorem v_thought {t : Nat} (hF : 100 ≤ F) (ht : trOk G h bx) (hc : cntOk S) (hro : rowOk S) (hn : numOk S t) (hW : wOk S J Q) : ∃ K R, sp_X0_thought G F (wh G (xo h bx c) (bx + 1) S J Q) bx = some (bx + 106, wh G (wh G (xo h bx c) (bx + 1) S J Q) (bx + 106) S K R) ∧ wOk S K R := by
  obtain ⟨W1, Q1, hw, hb⟩ := ht
  have eH : wh G (xo h bx c) (bx + 1) S J Q = wR G (wh G (xo h bx c) (bx + 1) S J Q) (bx + 106) W1 Q1 := by
    funext a
    by_cases h1 : bx + 106 ≤ a ∧ a < bx + 106 + 105
    · obtain ⟨k, rfl⟩ : ∃ k, a = bx + 106 + k := ⟨a - (bx + 106), by omega⟩
      rw [wR_at (by omega), v_low (by omega), hw k (by omega)]
    · rw [wR_out (by omega)]
  obtain ⟨K, R, e1, e2⟩ := x_like (G := G) (F := F) (h := xo h bx c) (b1 := bx + 106) (b2 := bx + 1) (W1 := W1) (Q1 := Q1) (t := t) hF (Or.inl (by omega)) hc hro hn hW hb
  rw [← eH] at e1
  have ei : gIs 1 (wh G (xo h bx c) (bx + 1) S J Q) (bx + 106) = true := by
    rw [eH]
    exact w_is
  refine ⟨K, R, ?_, e2⟩
  unfold sp_X0_thought
  simp only [v_f1, v_f0, ei, if_true, e1, Option.bind_some]
theorem jR_bs {J K : Nat → Nat → Int32} (hj : jR J K) (hb : bsAll J Q) : bsAll K Q := fun k hk => by
  rw [hj.1 _ _ (by omega)]
  exact hb k hk
/-- what a World in thought must be, to go on -/
def goOk (C S : Nat → Int32) (J : Nat → Nat → Int32) (Q : Nat → Nat → Int64) (t : Nat) : Prop := jOk J ∧ rrOk S J ∧ runOk S t ∧ clOk C S J ∧ bsAll J Q
theorem goOk_of {t : Nat} (hW : wOk S J Q) (hS : runOk S t) (hC : clOk C S J) : goOk C S J Q t := ⟨hW.1, hW.2.1, hS, hC, hW.2.2.1⟩
theorem g_passes {b m t : Nat} (hF : 100 ≤ F) (hm : m + 1 < F) (hG : gI4 G) (ht : t + m < 2 ^ 31) (hS : goOk C S J Q t) : ∃ K, sp_X1_passes G F (wh G h b S J Q) b (nI m) = some (b, wh G h b (passF C m S) K Q) ∧ goOk C (passF C m S) K Q (t + m) := by
  obtain ⟨h1, h2, h3, h4, h5⟩ := hS
  obtain ⟨K, e1, e2, e3⟩ := x_passes (G := G) (F := F) (h := h) (b := b) (Q := Q) (n := m) hF hm hG ht h1 h2 h3 h4
  exact ⟨K, e1, jR_ok e2, e3, runOk_pass ht h3, clOk_keep (many_keep (secOk_pass h3.1).2) (clOk_jR e2 h4), jR_bs e2 h5⟩
theorem clOk_T {A : Nat → Nat → Int32} (hS : setOk S) (hW : wOk S K R) : clOk (tabA A S 3) S K := clOk_tab hS hW
theorem g_toldOk {t : Nat} {b : Nat} {p : Int32} (hF : 40 ≤ F) (hG : gI4 G) (ht : t < 2 ^ 31) (hS : runOk S t) (h10 : 0 ≤ S 10) (hp : inB p 0 18) : sp_X0_toldOf G F (wh G h b S J Q) b p = some (toldV S p) := x_told hF hG ht hS.1.1 hS.1.2.1 hS.2.2.2 hS.2.2.1 h10 hp
theorem v_would {t : Nat} {p1 p2 : Int32} {A : Nat → Nat → Int32} (hF : 200 ≤ F) (hG : gI4 G) (ht : t + 99 < 2 ^ 31) (htr : trOk G h bx) (hset : setOk S) (hc : cntOk S) (hn : numOk S t) (h10 : 0 ≤ S 10) (hS : ¬ S 2 = 0 → runOk S t) (hW : wOk S J Q) : ∃ c' h', sp_X0_would G F (wh G (xo h bx c) (bx + 1) S J Q) bx p1 p2 = some ((wouldR (tabA A S 3) S (c 3) p1 p2).1, wh G (xo h' bx c') (bx + 1) S J Q) ∧ cR c c' (wouldR (tabA A S 3) S (c 3) p1 p2).2 ∧ tUp G h h' bx := by
  unfold sp_X0_would
  simp only [i_in_0_18, i_in_0_99, Option.bind_some, b0]
  rcases (Classical.em (inB p2 0 18)).symm with h0 | h0
  · have eR : wouldR (tabA A S 3) S (c 3) p1 p2 = (-1, c 3) := if_pos h0
    rw [eR, if_pos h0]
    exact ⟨c, h, rfl, cR_refl, tUp_refl htr⟩
  rw [if_neg (fun hh => hh h0)]
  rcases (Classical.em (inB p1 0 99)).symm with h1 | h1
  · have eR : wouldR (tabA A S 3) S (c 3) p1 p2 = (-2, c 3) := by unfold wouldR; rw [if_neg (fun hh => hh h0), if_pos h1]
    rw [eR, if_pos h1]
    exact ⟨c, h, rfl, cR_refl, tUp_refl htr⟩
  rw [if_neg (fun hh => hh h1)]
  simp only [v_f0, x_f0, Option.bind_some, v_is, if_true, v_counts, b0]
  by_cases h2 : S 2 = 0
  · have eR : wouldR (tabA A S 3) S (c 3) p1 p2 = (-3, c 3) := by unfold wouldR; rw [if_neg (fun hh => hh h0), if_neg (fun hh => hh h1), if_pos h2]
    rw [eR, if_pos h2]
    exact ⟨c, h, rfl, cR_refl, tUp_refl htr⟩
  rw [if_neg h2]
  obtain ⟨m, hm, rfl⟩ : ∃ k, k < 100 ∧ p1 = nI k := in_nI (m := 100) (by decide) h1
  by_cases h3 : c 3 + nI m ≤ 12000
  · have eR : wouldR (tabA A S 3) S (c 3) (nI m) p2 = (toldV (passF (tabA A S 3) m S) p2, c 3 + nI m) := by
      unfold wouldR
      rw [if_neg (fun hh => hh h0), if_neg (fun hh => hh h1), if_neg h2, if_neg (fun hh => hh h3), nI_c (by omega)]
    have hr := hS h2
    obtain ⟨K, R, e1, e2⟩ := v_thought (F := F) (c := upd c 3 (c 3 + nI m)) (by omega) htr hc hset.2.1 hn hW
    obtain ⟨K', e3, e4⟩ := g_passes (G := G) (F := F) (h := wh G (xo h bx (upd c 3 (c 3 + nI m))) (bx + 1) S J Q) (b := bx + 106) (m := m) (t := t) (by omega) (by omega) hG (by omega) (goOk_of e2 hr (clOk_T (A := A) hset e2))
    have e10 : 0 ≤ passF (tabA A S 3) m S 10 := by rw [(secOk_pass hr.1).2 10 (by unfold fixedK; omega)]; exact h10
    rw [eR, if_neg (fun hh => hh h3)]
    simp only [h3, if_true, v_is, e1, x_is, e3, g_toldOk (show 40 ≤ F by omega) hG (show t + m < 2 ^ 31 by omega) e4.2.2.1 e10 h0, Option.bind_some]
    rw [t_back]
    exact ⟨_, _, rfl, cR_upd, tUp_wh e4.2.2.2.2⟩
  · have eR : wouldR (tabA A S 3) S (c 3) (nI m) p2 = (-4, c 3) := by
      unfold wouldR
      rw [if_neg (fun hh => hh h0), if_neg (fun hh => hh h1), if_neg h2, if_pos h3]
    rw [eR, if_pos h3]
    simp only [h3, if_false]
    exact ⟨c, h, rfl, cR_refl, tUp_refl htr⟩
theorem goL_6 {a : Nat} (ha : a < 8) : ∀ (m i : Nat) (S : Nat → Int32), m + i ≤ 8 → goL m i S (sA a 6) = S (sA a 6) := by
  intro m
  induction m with
  | zero => intro i S _; rfl
  | succ m ih =>
    intro i S hi
    rw [goL, ih (i + 1) _ (by omega)]
    unfold go1
    split
    · rfl
    · exact goF_ne (by unfold sA; omega) (by unfold sA; omega) (by unfold sA; omega)
theorem ends_6 {a : Nat} (ha : a < 8) (hm : mOk S) : endsF S (sA a 6) = S (sA a 6) := by
  unfold endsF
  rw [tick_lo (by unfold sA; omega) (by unfold sA; omega)]
  exact goL_6 ha _ _ _ (by have := hm.1; omega)
theorem ends_3 (hm : mOk S) : endsF S 3 = S 3 + 1 := by
  unfold endsF tickF
  rw [upd_eq]
  have : goingF S 3 = S 3 := ku_goL _ _ _ (by have := hm.1; omega) 3 (by unfold freeK; omega)
  rw [this]
theorem v_turns_L {X : gH} {b a m : Nat} (hF : 100 ≤ F) (hG : gI4 G) (ha8 : a < 8) (hm : m < 200) : ∀ (k i f t : Nat) (S : Nat → Int32) (J : Nat → Nat → Int32), k + i = m → k < f → t + k < 2 ^ 31 → a < manyN S → goOk C S J Q t → ∃ T K, sp_X0_turns_L57 G F f (wh G X b S J Q) (nI a) (nI m) b (nI i) = some (trL C a k S, wh G X b T K Q) ∧ bsAll K Q := by
  intro k
  induction k with
  | zero =>
    intro i f t S J hi hf ht ha hS
    obtain ⟨f, rfl⟩ : ∃ z, f = z + 1 := ⟨f - 1, by omega⟩
    refine ⟨S, J, ?_, hS.2.2.2.2⟩
    rw [sp_X0_turns_L57, if_pos (nI_le (by omega) (by omega))]
    rfl
  | succ k ih =>
    intro i f t S J hi hf ht ha hS
    obtain ⟨f, rfl⟩ : ∃ z, f = z + 1 := ⟨f - 1, by omega⟩
    obtain ⟨K, e1, e2⟩ := g_passes (G := G) (F := F) (h := X) (b := b) (m := 1) (t := t) hF (by omega) hG (by omega) hS
    have e1' : sp_X1_passes G F (wh G X b S J Q) b 1 = some (b, wh G X b (secF C S) K Q) := e1
    have e2' : goOk C (secF C S) K Q (t + 1) := e2
    have hr := hS.2.2.1
    have htm := (secOk_turns (C := C) hr.1).1
    have ha' : a < manyN (secF C S) := by rw [sec_many hr.1]; exact ha
    have s6 : secF C S (sA a 6) = turnsF C S (sA a 6) := ends_6 ha8 htm
    have s3 : secF C S 3 = turnsF C S 3 + 1 := ends_3 htm
    obtain ⟨-, h6, -⟩ := e2'.2.2.1.2.2.1.2 a ha'
    rw [sp_X0_turns_L57, if_neg (nI_ge (by omega) (by omega))]
    simp only [x_is, if_true, e1', Option.bind_some, x_f22, x_a1 ha8, x_sg_f6 ha8 ha', x_f1, nI_1, trL]
    rw [s6] at h6 ⊢
    by_cases g : turnsF C S (sA a 6) = 0
    · rw [if_pos g, if_neg (by rw [g]; decide)]
      exact ih (i + 1) f (t + 1) _ K (by omega) (by omega) (by omega) ha' e2'
    · rw [if_neg g, if_pos (h6.resolve_left g), s3, Int32.add_sub_cancel]
      exact ⟨_, K, rfl, e2'.2.2.2.2⟩
theorem v_turns {t : Nat} {p1 p2 : Int32} {A : Nat → Nat → Int32} (hF : 200 ≤ F) (hG : gI4 G) (ht : t + 99 < 2 ^ 31) (htr : trOk G h bx) (hset : setOk S) (hc : cntOk S) (hn : numOk S t) (hS : ¬ S 2 = 0 → runOk S t) (hW : wOk S J Q) : ∃ c' h', sp_X0_turns G F (wh G (xo h bx c) (bx + 1) S J Q) bx p1 p2 = some ((turnsR (tabA A S 3) S (c 3) p1 p2).1, wh G (xo h' bx c') (bx + 1) S J Q) ∧ cR c c' (turnsR (tabA A S 3) S (c 3) p1 p2).2 ∧ tUp G h h' bx := by
  have h8 := hset.1.1
  unfold sp_X0_turns
  simp only [v_is, if_true, v_isSignal, i_in_0_99, Option.bind_some, b0]
  rcases (Classical.em (inB p1 0 (S 13 - 1))).symm with h0 | h0
  · have eR : turnsR (tabA A S 3) S (c 3) p1 p2 = (-1, c 3) := if_pos h0
    rw [eR, if_pos h0]
    exact ⟨c, h, rfl, cR_refl, tUp_refl htr⟩
  rw [if_neg (fun hh => hh h0)]
  rcases (Classical.em (inB p2 0 99)).symm with h1 | h1
  · have eR : turnsR (tabA A S 3) S (c 3) p1 p2 = (-2, c 3) := by unfold turnsR; rw [if_neg (fun hh => hh h0), if_pos h1]
    rw [eR, if_pos h1]
    exact ⟨c, h, rfl, cR_refl, tUp_refl htr⟩
  rw [if_neg (fun hh => hh h1)]
  simp only [v_f0, x_f0, Option.bind_some, v_is, if_true, v_counts, b0]
  by_cases h2 : S 2 = 0
  · have eR : turnsR (tabA A S 3) S (c 3) p1 p2 = (-3, c 3) := by unfold turnsR; rw [if_neg (fun hh => hh h0), if_neg (fun hh => hh h1), if_pos h2]
    rw [eR, if_pos h2]
    exact ⟨c, h, rfl, cR_refl, tUp_refl htr⟩
  rw [if_neg h2]
  have h0' := h0
  rw [hset.1.2] at h0'
  obtain ⟨a, ha, rfl⟩ : ∃ k, k < manyN S ∧ p1 = nI k := in_nI (by omega) h0'
  obtain ⟨m, hm, rfl⟩ : ∃ k, k < 100 ∧ p2 = nI k := in_nI (m := 100) (by decide) h1
  by_cases h3 : c 3 + nI m ≤ 12000
  · have eR : turnsR (tabA A S 3) S (c 3) (nI a) (nI m) = (trL (tabA A S 3) a m S, c 3 + nI m) := by
      unfold turnsR
      rw [if_neg (fun hh => hh h0), if_neg (fun hh => hh h1), if_neg h2, if_neg (fun hh => hh h3), nI_c (by omega), nI_c (by omega)]
    have hr := hS h2
    obtain ⟨K, R, e1, e2⟩ := v_thought (F := F) (c := upd c 3 (c 3 + nI m)) (by omega) htr hc hset.2.1 hn hW
    obtain ⟨T, K', e3, e4⟩ := v_turns_L (G := G) (F := F) (X := wh G (xo h bx (upd c 3 (c 3 + nI m))) (bx + 1) S J Q) (b := bx + 106) (a := a) (m := m) (by omega) hG (by omega) (by omega) m 0 F t S K (by omega) (by omega) (by omega) ha (goOk_of e2 hr (clOk_T (A := A) hset e2))
    have e3' : sp_X0_turns_L57 G F F (wh G (wh G (xo h bx (upd c 3 (c 3 + nI m))) (bx + 1) S J Q) (bx + 106) S K R) (nI a) (nI m) (bx + 106) 0 = _ := e3
    rw [eR, if_neg (fun hh => hh h3)]
    simp only [h3, if_true, v_is, e1, e3', Option.bind_some]
    rw [t_back]
    exact ⟨_, _, rfl, cR_upd, tUp_wh e4⟩
  · have eR : turnsR (tabA A S 3) S (c 3) (nI a) (nI m) = (-4, c 3) := by
      unfold turnsR
      rw [if_neg (fun hh => hh h0), if_neg (fun hh => hh h1), if_neg h2, if_pos h3]
    rw [eR, if_pos h3]
    simp only [h3, if_false]
    exact ⟨c, h, rfl, cR_refl, tUp_refl htr⟩
theorem v_dayBy {t m : Nat} {x : Int32} {A : Nat → Nat → Int32} (hF : 200 ≤ F) (hG : gI4 G) (hm : m < 100) (ht : t + 99 < 2 ^ 31) (htr : trOk G h bx) (hset : setOk S) (hc : cntOk S) (hn : numOk S t) (hS : runOk S t) (hW : wOk S J Q) : ∃ h', sp_X0_dayBy G F (wh G (xo h bx c) (bx + 1) S J Q) bx x (nI m) = some (dayV (tabA A S 3) S m x, wh G (xo h' bx c) (bx + 1) S J Q) ∧ tUp G h h' bx := by
  obtain ⟨K, R, e1, e2⟩ := v_thought (F := F) (c := c) (by omega) htr hc hset.2.1 hn hW
  have hr0 : runOk (upd S 0 x) t := by
    obtain ⟨r1, r2, r3, r4⟩ := hS
    refine ⟨secOk_0 r1, negOk_56 (upd_ne (by decide)) (upd_ne (by decide)) r2, numOk_lo r3 r1.1 (by decide) (by decide) (by omega), ?_⟩
    intro a ha
    have := r4 a ha
    unfold sigOk at this ⊢
    rw [upd_ne (by unfold sA; omega), upd_ne (by unfold sA; omega)]
    exact this
  have hC := clOk_T (A := A) hset e2
  have hg : goOk (tabA A S 3) (upd S 0 x) K R t := ⟨e2.1, rrOk_15 (upd_ne (by decide)) e2.2.1, hr0, clOk_keep (many_upd (by decide)) hC, e2.2.2.1⟩
  obtain ⟨K', e3, e4⟩ := g_passes (G := G) (F := F) (h := wh G (xo h bx c) (bx + 1) S J Q) (b := bx + 106) (m := m) (t := t) (by omega) (by omega) hG (by omega) hg
  refine ⟨wh G h (bx + 106) (passF (tabA A S 3) m (upd S 0 x)) K' R, ?_, tUp_wh e4.2.2.2.2⟩
  unfold sp_X0_dayBy dayV
  simp only [v_is, if_true, e1, Option.bind_some, x_p8 _ e2.1.1, x_is, e3, x_f5]
  rw [t_back]
  simp only [v_f0, x_f5, Option.bind_some]
theorem v_day {t : Nat} {p1 p2 : Int32} {A : Nat → Nat → Int32} (hF : 200 ≤ F) (hG : gI4 G) (ht : t + 99 < 2 ^ 31) (htr : trOk G h bx) (hset : setOk S) (hc : cntOk S) (hn : numOk S t) (hS : ¬ S 2 = 0 → runOk S t) (hW : wOk S J Q) : ∃ c' h', sp_X0_day G F (wh G (xo h bx c) (bx + 1) S J Q) bx p1 p2 = some ((dayR (tabA A S 3) S (c 3) p1 p2).1, wh G (xo h' bx c') (bx + 1) S J Q) ∧ cR c c' (dayR (tabA A S 3) S (c 3) p1 p2).2 ∧ tUp G h h' bx := by
  unfold sp_X0_day
  simp only [i_in_0_99, Option.bind_some, b0]
  rcases (Classical.em (inB p2 0 99)).symm with h1 | h1
  · have eR : dayR (tabA A S 3) S (c 3) p1 p2 = (-2, c 3) := if_pos h1
    rw [eR, if_pos h1]
    exact ⟨c, h, rfl, cR_refl, tUp_refl htr⟩
  rw [if_neg (fun hh => hh h1)]
  simp only [v_f0, x_f0, Option.bind_some, v_is, if_true, v_counts, b0]
  by_cases h2 : S 2 = 0
  · have eR : dayR (tabA A S 3) S (c 3) p1 p2 = (-3, c 3) := by unfold dayR; rw [if_neg (fun hh => hh h1), if_pos h2]
    rw [eR, if_pos h2]
    exact ⟨c, h, rfl, cR_refl, tUp_refl htr⟩
  rw [if_neg h2]
  obtain ⟨m, hm, rfl⟩ : ∃ k, k < 100 ∧ p2 = nI k := in_nI (m := 100) (by decide) h1
  by_cases h3 : c 3 + nI m ≤ 12000
  · have eR : dayR (tabA A S 3) S (c 3) p1 (nI m) = (dayV (tabA A S 3) S m p1, c 3 + nI m) := by
      unfold dayR
      rw [if_neg (fun hh => hh h1), if_neg h2, if_neg (fun hh => hh h3), nI_c (by omega)]
    obtain ⟨h', e1, e2⟩ := v_dayBy (c := upd c 3 (c 3 + nI m)) (x := p1) (A := A) hF hG hm ht htr hset hc hn (hS h2) hW
    rw [eR, if_neg (fun hh => hh h3)]
    simp only [h3, if_true, v_is, e1, Option.bind_some]
    exact ⟨_, h', rfl, cR_upd, e2⟩
  · have eR : dayR (tabA A S 3) S (c 3) p1 (nI m) = (-4, c 3) := by
      unfold dayR
      rw [if_neg (fun hh => hh h1), if_neg h2, if_pos h3]
    rw [eR, if_pos h3]
    simp only [h3, if_false]
    exact ⟨c, h, rfl, cR_refl, tUp_refl htr⟩
end X5
