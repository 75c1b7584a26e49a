/-! w11: the class's World: lights, sums, told, gaps, meets -/
set_option maxRecDepth 100000
section W11
variable {G : gG} {h : gH} {b : Nat} {S C : Nat → Int32} {J : Nat → Nat → Int32} {Q : Nat → Nat → Int64} {F : Nat}
theorem x_light {t a : Nat} (hG : gI4 G) (ht : t < 2 ^ 31) (hro : rowOk S) (hn : numOk S t) (ha8 : a < 8) (ha : a < manyN S) : sp_X1_light G F (wh G h b S J Q) b (nI a) = some (lightV S a) := by
  obtain ⟨-, h6, -, h8', -, -⟩ := hn.2 a ha
  have e8 := tm_neg ht h8'
  have hk := (hro a ha8).kind
  have ek : gKd G (gS G (kindN S a)) 0 = some (gAmb (kindN S a)) := i_gKd hG hk.1 0
  unfold sp_X1_light lightV
  simp only [x_is, if_true, Option.bind_some, x_f22, x_a1 ha8, x_sg_f6 ha8 ha, x_sg_f8 ha8 ha, x_f1, x_sg_f0 ha8 ha, ek, e8]
  by_cases h1 : S (sA a 6) = 0
  · have h1' : ¬ S (sA a 6) = 1 := by rw [h1]; decide
    rw [if_pos h1, if_neg h1']
    by_cases h2 : S (sA a 8) = -5
    · rw [if_pos h2, if_pos h2]
    · rw [if_neg h2, if_neg h2]
      split <;> rfl
  · rw [if_neg h1, if_pos (h6.resolve_left h1)]
theorem x_withLight {t : Nat} {x : Int32} (hF : 40 ≤ F) (hG : gI4 G) (ht : t < 2 ^ 31) (hm : mOk S) (hro : rowOk S) (hn : numOk S t) : sp_X1_withLight G F (wh G h b S J Q) b x = some (lightsV S x) := by
  have h8 := hm.1
  have key := bits_loop (fun f i s => sp_X1_withLight_L4 G F (wh G h b S J Q) f b x s (nI i)) (fun a => decide (lightV S a = x)) (fun s => s) (m := manyN S) (by
    intro i f s hi
    show sp_X1_withLight_L4 G F (wh G h b S J Q) (f + 1) b x s (nI i) = _
    have en : ¬ S 13 ≤ nI i := by rw [hm.2]; exact nI_ge (by omega) (by omega)
    rw [sp_X1_withLight_L4]
    simp only [x_is, if_true, Option.bind_some, x_f13, en, if_false, x_light hG ht hro hn (show i < 8 by omega) hi, nI_1, decide_eq_true_eq]
    split <;> rfl) (by
    intro f s
    show sp_X1_withLight_L4 G F (wh G h b S J Q) (f + 1) b x s (nI (manyN S)) = _
    rw [sp_X1_withLight_L4]
    simp only [x_is, if_true, Option.bind_some, x_f13]
    rw [if_pos (by rw [hm.2]; exact nI_le (by omega) (by omega))]) F (by omega)
  unfold sp_X1_withLight lightsV
  rw [show sp_X1_withLight_L4 G F (wh G h b S J Q) F b x 0 0 = _ from key]
  rfl
theorem x_queues (hF : 40 ≤ F) (hm : mOk S) : sp_X1_queues G F (wh G h b S J Q) b = some (queuesV S) := by
  have h8 := hm.1
  have key : ∀ (n i f : Nat) (acc : Int32), n + i = manyN S → n < f → sp_X1_queues_L4 G F (wh G h b S J Q) f b acc (nI i) = some (queuesL S n i acc) := by
    intro n
    induction n with
    | zero =>
      intro i f acc hi hf
      obtain ⟨f, rfl⟩ : ∃ z, f = z + 1 := ⟨f - 1, by omega⟩
      rw [sp_X1_queues_L4]
      simp only [x_is, if_true, Option.bind_some, x_f13]
      rw [if_pos (by rw [hm.2]; exact nI_le (by omega) (by omega))]
      rfl
    | succ n ih =>
      intro i f acc hi hf
      obtain ⟨f, rfl⟩ : ∃ z, f = z + 1 := ⟨f - 1, by omega⟩
      have en : ¬ S 13 ≤ nI i := by rw [hm.2]; exact nI_ge (by omega) (by omega)
      rw [sp_X1_queues_L4]
      simp only [x_is, if_true, Option.bind_some, x_f13, en, if_false, x_f22, x_a1 (show i < 8 by omega), x_sg_f5 (show i < 8 by omega) (show i < manyN S by omega), nI_1, queuesL]
      exact ih (i + 1) f _ (by omega) (by omega)
  unfold sp_X1_queues queuesV
  rw [show sp_X1_queues_L4 G F (wh G h b S J Q) F b 0 0 = _ from key (manyN S) 0 F 0 (by omega) (by omega)]
  rfl
theorem x_local' (hc : 0 ≤ S 10) : sp_X1_local G F (wh G h b S J Q) b = some (if S 10 = 0 then -5 else localV S) := by
  by_cases h0 : S 10 = 0
  · unfold sp_X1_local
    simp only [x_is, if_true, Option.bind_some, x_f10, h0, if_true]
  · rw [if_neg h0]
    refine x_local (fun hh => h0 ?_)
    exact Int32.le_antisymm hh hc
theorem x_told {t : Nat} {p1 : Int32} (hF : 40 ≤ F) (hG : gI4 G) (ht : t < 2 ^ 31) (hm : mOk S) (hp : pOk S) (hro : rowOk S) (hn : numOk S t) (hc : 0 ≤ S 10) (hp1 : inB p1 0 18) : sp_X0_toldOf G F (wh G h b S J Q) b p1 = some (toldV S p1) := by
  unfold sp_X0_toldOf toldV
  simp only [x_is, if_true, Option.bind_some, x_f0, x_f1, x_f2, x_f3, x_f4, x_f5, x_f6, x_f7, x_f8, x_f9, x_f10, x_f11, x_f12, x_f13, x_f14, x_f15, x_f16, x_f17, x_f18, x_f19, x_f20, x_f21, x_f22, x_f23, x_f24, x_f25, x_f26, x_f27, x_f28, x_f29, x_withLight hF hG ht hm hro hn, x_calledPhases hF hm hp, x_queues hF hm, x_local' hc]
  by_cases h0 : p1 = 0
  · rw [if_pos h0, if_pos h0]
  rw [if_neg h0, if_neg h0]
  by_cases h1 : p1 = 1
  · rw [if_pos h1, if_pos h1]
  rw [if_neg h1, if_neg h1]
  by_cases h2 : p1 = 2
  · rw [if_pos h2, if_pos h2]
  rw [if_neg h2, if_neg h2]
  by_cases h3 : p1 = 3
  · rw [if_pos h3, if_pos h3]
  rw [if_neg h3, if_neg h3]
  by_cases h4 : p1 = 4
  · rw [if_pos h4, if_pos h4]
  rw [if_neg h4, if_neg h4]
  by_cases h5 : p1 = 5
  · rw [if_pos h5, if_pos h5]
  rw [if_neg h5, if_neg h5]
  by_cases h6 : p1 = 6
  · rw [if_pos h6, if_pos h6]
  rw [if_neg h6, if_neg h6]
  by_cases h7 : p1 = 7
  · rw [if_pos h7, if_pos h7]
  rw [if_neg h7, if_neg h7]
  by_cases h8 : p1 = 8
  · rw [if_pos h8, if_pos h8]
  rw [if_neg h8, if_neg h8]
  by_cases h9 : p1 = 9
  · rw [if_pos h9, if_pos h9]
  rw [if_neg h9, if_neg h9]
  by_cases h10 : p1 = 10
  · rw [if_pos h10, if_pos h10]
  rw [if_neg h10, if_neg h10]
  by_cases h11 : p1 = 11
  · rw [if_pos h11, if_pos h11]
  rw [if_neg h11, if_neg h11]
  by_cases h12 : p1 = 12
  · rw [if_pos h12, if_pos h12]
  rw [if_neg h12, if_neg h12]
  by_cases h13 : p1 = 13
  · rw [if_pos h13, if_pos h13]
  rw [if_neg h13, if_neg h13]
  by_cases h14 : p1 = 14
  · rw [if_pos h14, if_pos h14]
  rw [if_neg h14, if_neg h14]
  by_cases h15 : p1 = 15
  · rw [if_pos h15, if_pos h15]
  rw [if_neg h15, if_neg h15]
  by_cases h16 : p1 = 16
  · rw [if_pos h16, if_pos h16]
  rw [if_neg h16, if_neg h16]
  by_cases h17 : p1 = 17
  · rw [if_pos h17, if_pos h17]
  rw [if_neg h17, if_neg h17]
  rw [if_pos]
  obtain ⟨j, hj, rfl⟩ : ∃ k, k < 19 ∧ p1 = nI k := in_nI (m := 19) (by decide) hp1
  match j, hj with
  | 0, _ => exact absurd rfl h0
  | 1, _ => exact absurd rfl h1
  | 2, _ => exact absurd rfl h2
  | 3, _ => exact absurd rfl h3
  | 4, _ => exact absurd rfl h4
  | 5, _ => exact absurd rfl h5
  | 6, _ => exact absurd rfl h6
  | 7, _ => exact absurd rfl h7
  | 8, _ => exact absurd rfl h8
  | 9, _ => exact absurd rfl h9
  | 10, _ => exact absurd rfl h10
  | 11, _ => exact absurd rfl h11
  | 12, _ => exact absurd rfl h12
  | 13, _ => exact absurd rfl h13
  | 14, _ => exact absurd rfl h14
  | 15, _ => exact absurd rfl h15
  | 16, _ => exact absurd rfl h16
  | 17, _ => exact absurd rfl h17
  | 18, _ => rfl
  | k + 19, hk => exact absurd hk (by omega)
theorem x_withGap {g : Int32} (hF : 40 ≤ F) (hr : rtN J < 24) (hm : mOk S) : sp_X1_withGap G F (wh G h b S J Q) b g = some (b, wh G h b (gapsF S g) J Q) := by
  have h8 := hm.1
  have key := it_loop (m := manyN S) (fun f i s => sp_X1_withGap_L2 G F f (wh G h b s J Q) b g (nI i)) (gap1 g) (fun _ s => gapK S s) (fun s => wh G h b s J Q) (by
    intro i f s hi hs
    show sp_X1_withGap_L2 G F (f + 1) (wh G h b s J Q) b g (nI i) = _
    have en : ¬ s 13 ≤ nI i := by rw [hs 13 (by omega), hm.2]; exact nI_ge (by omega) (by omega)
    have him : i < manyN s := by rw [gap_many hs]; exact hi
    rw [sp_X1_withGap_L2]
    simp only [x_is, if_true, Option.bind_some, x_f13, en, if_false, x_f22, x_a1 (show i < 8 by omega), x_sg_f3 (show i < 8 by omega), x_ts2 _ hr (show i < 8 by omega) him, nI_1]
    rfl) (by
    intro i s hi hs
    exact gapK_1 (by omega) hs) (by
    intro f s hs
    show sp_X1_withGap_L2 G F (f + 1) (wh G h b s J Q) b g (nI (manyN S)) = _
    rw [sp_X1_withGap_L2]
    simp only [x_is, if_true, Option.bind_some, x_f13]
    rw [if_pos (by rw [hs 13 (by omega), hm.2]; exact nI_le (by omega) (by omega))]) (manyN S) 0 F S (by omega) (by omega) gapK_refl
  unfold sp_X1_withGap gapsF
  rw [show sp_X1_withGap_L2 G F F (wh G h b S J Q) b g 0 = _ from key]
  rfl
theorem x_meet {a c : Nat} (ha : a < manyN S) (hc : c < manyN S) (hm : mOk S) (hC : clOk C S J) : sp_X1_meet G F (wh G h b S J Q) b (nI a) (nI c) = some (if C (8 * a + c) < 0 then 0 else 1) := by
  have h8 := hm.1
  unfold sp_X1_meet
  simp only [x_is, if_true, Option.bind_some, x_clearOf (show a < 8 by omega) (show c < 8 by omega), (hC a c ha hc).1]
  split <;> rfl
theorem x_meets {a : Nat} (hF : 40 ≤ F) (hm : mOk S) (ha : a < manyN S) (hC : clOk C S J) : sp_X1_meets G F (wh G h b S J Q) b (nI a) = some (meetsV C S a) := by
  have h8 := hm.1
  have key := bits_loop (fun f i s => sp_X1_meets_L4 G F (wh G h b S J Q) f b (nI a) s (nI i)) (fun c => decide (¬ C (8 * a + c) < 0)) (fun s => s) (m := manyN S) (by
    intro i f s hi
    show sp_X1_meets_L4 G F (wh G h b S J Q) (f + 1) b (nI a) s (nI i) = _
    have en : ¬ S 13 ≤ nI i := by rw [hm.2]; exact nI_ge (by omega) (by omega)
    rw [sp_X1_meets_L4]
    simp only [x_is, if_true, Option.bind_some, x_f13, en, if_false, x_meet ha hi hm hC, nI_1]
    by_cases hc : C (8 * a + i) < 0
    · rw [if_pos hc, if_pos rfl, if_neg (by rw [decide_eq_false (fun hh => hh hc)]; decide)]
    · rw [if_neg hc, if_neg (by decide), if_pos (decide_eq_true hc)]) (by
    intro f s
    show sp_X1_meets_L4 G F (wh G h b S J Q) (f + 1) b (nI a) s (nI (manyN S)) = _
    rw [sp_X1_meets_L4]
    simp only [x_is, if_true, Option.bind_some, x_f13]
    rw [if_pos (by rw [hm.2]; exact nI_le (by omega) (by omega))]) F (by omega)
  unfold sp_X1_meets meetsV
  rw [show sp_X1_meets_L4 G F (wh G h b S J Q) F b (nI a) 0 0 = _ from key]
  rfl
end W11
