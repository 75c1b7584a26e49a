/-! x16: waves (class) -/
set_option maxRecDepth 100000
section X16
variable {G : gG} {F n bx : Nat} {h : gH} {b : Nat} {c : Nat → Int32} {S C T : Nat → Int32} {J K : Nat → Nat → Int32} {Q R : Nat → Nat → Int64}
theorem x_isOpen {k : Nat} {x : Int32} (hr : rndOk S) (hk5 : k < 5) (hk : k < nodN S) : sp_X6_isOpen G F (wh G h b S J Q) (ndA b k) x (S 16) = some (bI (openB S k x)) := by
  have n0 : ¬ S 16 ≤ 0 := by rw [hr.2.2]; exact nI_nle (by have := hr.1; omega) (by have := hr.2.1; omega)
  unfold sp_X6_isOpen openB
  simp only [x_nd_f0 hk5, x_nd_0 hk5 hk, x_nd_1 hk5 hk, Option.bind_some, i_floorMod n0]
  have e : (if 0 ≤ modV (x - S (306 + 3 * k + 0)) (S 16) then modV (x - S (306 + 3 * k + 0)) (S 16) else modV (x - S (306 + 3 * k + 0)) (S 16) + S 16) = fmV (x - S (nd k 0)) (S 16) := rfl
  rw [e]
  by_cases h1 : S (nd k 1) ≤ fmV (x - S (nd k 0)) (S 16)
  · rw [if_pos h1, decide_eq_false (nn h1)]; rfl
  · rw [if_neg h1, decide_eq_true h1]; rfl
theorem x_thr_L {w : Nat} (hr : rndOk S) (hn : nodeOk S) (h0 : 0 < nodN S) (hw : w < 2) : ∀ (m i f : Nat) (x : Int32), m + i = nodN S → m < f → sp_X1_isThrough_L5 G F (wh G h b S J Q) f b (nI w) x (nI i) = some (bI (thrL S w m i x)) := by
  have h5 := hn.1
  intro m
  induction m with
  | zero =>
    intro i f x hi hf
    obtain ⟨f, rfl⟩ : ∃ z, f = z + 1 := ⟨f - 1, by omega⟩
    have n0 : ¬ S 17 ≤ 0 := by rw [hn.2]; exact nI_nle h0 (by omega)
    rw [sp_X1_isThrough_L5]
    simp only [x_f18, Option.bind_some, n0, if_false]
    rw [if_pos (by rw [hn.2]; exact nI_le (by omega) (by omega))]
    rfl
  | succ m ih =>
    intro i f x hi hf
    obtain ⟨f, rfl⟩ : ∃ z, f = z + 1 := ⟨f - 1, by omega⟩
    have en : ¬ S 17 ≤ nI i := by rw [hn.2]; exact nI_ge (by omega) (by omega)
    have hlt : nodI S w i < nodN S := by unfold nodI; split <;> omega
    have hl5 : nodI S w i < 5 := by omega
    have e1 : (if nI w = 0 then some (nI i) else some (S 17 - 1 - nI i)) = some (nI (nodI S w i)) := by
      unfold nodI
      match w, hw with
      | 0, _ => rfl
      | 1, _ =>
        rw [if_neg (by decide), if_neg (by decide), hn.2]
        have : nI (nodN S) - 1 - nI i = nI (nodN S - 1 - i) := by
          rw [show (1 : Int32) = nI 1 from rfl, pk_sub (by omega), pk_sub (by omega)]
        rw [this]
    rw [sp_X1_isThrough_L5]
    simp only [x_f18, Option.bind_some, en, if_false]
    rw [e1]
    simp only [Option.bind_some, x_f26, x_a5 hl5, x_f19, x_nd_is hl5, if_true, x_isOpen hr hl5 hlt, bI_z, nI_1, thrL]
    by_cases g : openB S (nodI S w i) x = false
    · rw [if_pos g, g, Bool.false_and]; rfl
    · have g' : openB S (nodI S w i) x = true := by cases e : openB S (nodI S w i) x
                                                    · exact absurd e g
                                                    · rfl
      rw [if_neg g, g', Bool.true_and]
      match w, hw with
      | 0, _ =>
        have ht : trv S 0 i = S (nd i 2) := rfl
        rw [if_pos (show nI 0 = 0 from rfl), ht]
        simp only [x_nd_f0 hl5, x_nd_2 hl5 hlt, Option.bind_some]
        exact ih (i + 1) f _ (by omega) (by omega)
      | 1, _ =>
        rw [if_neg (show ¬ nI 1 = 0 by decide)]
        by_cases gz : nodI S 1 i = 0
        · have ht : trv S 1 i = 0 := by unfold trv; rw [if_neg (show ¬ (1 : Nat) = 0 by decide), if_pos gz]
          rw [gz, if_pos (show nI 0 ≤ 0 by decide), ht]
          exact ih (i + 1) f _ (by omega) (by omega)
        · have ht : trv S 1 i = S (nd (nodI S 1 i - 1) 2) := by unfold trv; rw [if_neg (show ¬ (1 : Nat) = 0 by decide), if_neg gz]
          have es : nI (nodI S 1 i) - 1 = nI (nodI S 1 i - 1) := by rw [show (1 : Int32) = nI 1 from rfl, pk_sub (by omega)]
          rw [if_neg (nI_nle (by omega) (by omega)), ht, es]
          simp only [x_a5 (show nodI S 1 i - 1 < 5 by omega), x_nd_f0 (show nodI S 1 i - 1 < 5 by omega), x_nd_2 (show nodI S 1 i - 1 < 5 by omega) (show nodI S 1 i - 1 < nodN S by omega), Option.bind_some]
          exact ih (i + 1) f _ (by omega) (by omega)
theorem x_thr {w : Nat} {x : Int32} (hF : 40 ≤ F) (hr : rndOk S) (hn : nodeOk S) (hw : w < 2) : sp_X1_isThrough G F (wh G h b S J Q) b x (nI w) = some (bI (decide (0 < nodN S) && thrB S w x)) := by
  unfold sp_X1_isThrough thrB
  by_cases h0 : 0 < nodN S
  · rw [decide_eq_true h0, Bool.true_and]
    exact x_thr_L hr hn h0 hw (nodN S) 0 F x (by omega) (by have := hn.1; omega)
  · rw [decide_eq_false h0, Bool.false_and]
    obtain ⟨F, rfl⟩ : ∃ z, F = z + 1 := ⟨F - 1, by omega⟩
    have e17 : S 17 = 0 := by rw [hn.2, show nodN S = 0 by omega]; rfl
    rw [sp_X1_isThrough_L5]
    simp only [x_f18, e17, Option.bind_some]
    rw [if_pos (by decide), if_pos (by decide)]
    rfl
theorem x_band {w : Nat} (hF : 100 ≤ F) (hr : rndOk S) (hn : nodeOk S) (hw : w < 2) : sp_X1_band G F (wh G h b S J Q) b (nI w) = some (bandV S w) := by
  have h60 := hr.2.1
  have key : ∀ (m t f : Nat) (acc : Int32), m + t = rndN S → m < f → sp_X1_band_L4 G F (wh G h b S J Q) f b (nI w) acc (nI t) = some (if nodN S = 0 then acc else bndL S w m t acc) := by
    intro m
    induction m with
    | zero =>
      intro t f acc hi hf
      obtain ⟨f, rfl⟩ : ∃ z, f = z + 1 := ⟨f - 1, by omega⟩
      rw [sp_X1_band_L4]
      simp only [x_f19, Option.bind_some]
      rw [if_pos (by rw [hr.2.2]; exact nI_le (by omega) (by omega))]
      split <;> rfl
    | succ m ih =>
      intro t f acc hi hf
      obtain ⟨f, rfl⟩ : ∃ z, f = z + 1 := ⟨f - 1, by omega⟩
      have en : ¬ S 16 ≤ nI t := by rw [hr.2.2]; exact nI_ge (by omega) (by omega)
      rw [sp_X1_band_L4]
      simp only [x_f19, Option.bind_some, en, if_false, x_is, if_true, x_thr (show 40 ≤ F by omega) hr hn hw, bI_z, nI_1, bndL]
      by_cases h0 : nodN S = 0
      · rw [if_pos (by rw [decide_eq_false (by omega), Bool.false_and]), if_pos h0, Int32.add_zero, ih (t + 1) f _ (by omega) (by omega), if_pos h0]
      · rw [decide_eq_true (show 0 < nodN S by omega), Bool.true_and, if_neg h0]
        by_cases g : thrB S w (nI t) = true
        · rw [if_neg (by rw [g]; decide), if_pos g, ih (t + 1) f _ (by omega) (by omega), if_neg h0]
        · have g' : thrB S w (nI t) = false := by cases e : thrB S w (nI t)
                                                  · rfl
                                                  · exact absurd e g
          rw [if_pos g', if_neg g, ih (t + 1) f _ (by omega) (by omega), if_neg h0]
  unfold sp_X1_band bandV
  rw [show sp_X1_band_L4 G F (wh G h b S J Q) F b (nI w) 0 0 = _ from key (rndN S) 0 F 0 (by omega) (by omega)]
  rfl
theorem x_bands (hF : 100 ≤ F) (hr : rndOk S) (hn : nodeOk S) : sp_X1_bands G F (wh G h b S J Q) b = some (bandsV S) := by
  unfold sp_X1_bands bandsV
  have e0 : sp_X1_band G F (wh G h b S J Q) b 0 = some (bandV S 0) := x_band (w := 0) hF hr hn (by decide)
  have e1 : sp_X1_band G F (wh G h b S J Q) b 1 = some (bandV S 1) := x_band (w := 1) hF hr hn (by decide)
  simp only [x_is, if_true, Option.bind_some, e0, e1]
theorem x_tunes {k : Nat} (hF : 100 ≤ F) (hrt : rtN J < 24) (hr : rndOk S) (hn : nodeOk S) (hk : k < nodN S) : sp_X1_tunes G F (wh G h b S J Q) b (nI k) = some ((tuneV S k).2, wh G h b (upd S (nd k 0) (tuneV S k).1) J Q) := by
  have h60 := hr.2.1
  have h5 := hn.1
  have hk5 : k < 5 := by omega
  have key : ∀ (m v f : Nat) (x y o : Int32), m + v = rndN S → m < f → ∃ o', sp_X1_tunes_L7 G F f (wh G h b (upd S (nd k 0) o) J Q) b (nI k) x y (nI v) = some ((tnL S k m v x y).1, (tnL S k m v x y).2, wh G h b (upd S (nd k 0) o') J Q) := by
    intro m
    induction m with
    | zero =>
      intro v f x y o hi hf
      obtain ⟨f, rfl⟩ : ∃ z, f = z + 1 := ⟨f - 1, by omega⟩
      have e16 : upd S (nd k 0) o 16 = S 16 := upd_ne (by unfold nd; omega)
      refine ⟨o, ?_⟩
      rw [sp_X1_tunes_L7]
      simp only [x_f19, e16, Option.bind_some]
      rw [if_pos (by rw [hr.2.2]; exact nI_le (by omega) (by omega))]
      rfl
    | succ m ih =>
      intro v f x y o hi hf
      obtain ⟨f, rfl⟩ : ∃ z, f = z + 1 := ⟨f - 1, by omega⟩
      have e16 : upd S (nd k 0) o 16 = S 16 := upd_ne (by unfold nd; omega)
      have en : ¬ S 16 ≤ nI v := by rw [hr.2.2]; exact nI_ge (by omega) (by omega)
      have hk' : k < nodN (upd S (nd k 0) o) := by rw [nod_upd]; exact hk
      have es := x_nds_0 (G := G) (h := h) (b := b) (S := upd S (nd k 0) o) (J := J) (Q := Q) (nI v) hrt hk5 hk'
      have es' : gSi (wh G h b (upd S (nd k 0) o) J Q) (ndt b k) 0 (nI v) = some (wh G h b (upd S (nd k 0) (nI v)) J Q) := by
        rw [es]
        exact congrArg some (congrArg (fun z => wh G h b z J Q) upd_upd)
      rw [sp_X1_tunes_L7]
      simp only [x_f19, e16, Option.bind_some, en, if_false, x_f26, x_a5 hk5, x_nd_f0 hk5, es', x_is, if_true, x_bands hF (rndOk_upd hr) (nodeOk_upd hn), nI_1, tnL]
      by_cases g : bandsV (upd S (nd k 0) (nI v)) ≤ y
      · rw [if_pos g, if_pos g]
        exact ih (v + 1) f x y (nI v) (by omega) (by omega)
      · rw [if_neg g, if_neg g]
        exact ih (v + 1) f (nI v) _ (nI v) (by omega) (by omega)
  obtain ⟨o', e⟩ := key (rndN S) 0 F 0 (-1) (S (nd k 0)) (by omega) (by omega)
  rw [upd_same rfl] at e
  have e' : sp_X1_tunes_L7 G F F (wh G h b S J Q) b (nI k) 0 (-1) 0 = _ := e
  have hk' : k < nodN (upd S (nd k 0) o') := by rw [nod_upd]; exact hk
  have es : ∀ x, gSi (wh G h b (upd S (nd k 0) o') J Q) (ndt b k) 0 x = some (wh G h b (upd S (nd k 0) x) J Q) := fun x => by
    rw [x_nds_0 x hrt hk5 hk']
    exact congrArg some (congrArg (fun z => wh G h b z J Q) upd_upd)
  unfold sp_X1_tunes tuneV
  simp only [e', Option.bind_some, x_f26, x_a5 hk5, x_nd_f0 hk5, es]
/-- a count becomes 0 -/
theorem x_cnt0 {q0 jf : Nat} (hq : (q0 = 17 ∧ jf = 18) ∨ (q0 = 18 ∧ jf = 17)) (hro : rowOk S) (hm : mOk S) (hW : wOk S J Q) : wR G h b (put0 (Wof S J) jf 0) Q = wh G h b (upd S q0 0) (put0 (Wof S J) jf 0) Q ∧ wOk (upd S q0 0) (put0 (Wof S J) jf 0) Q := by
  obtain ⟨w1, w2, w3, w4, w5⟩ := hW
  have h8 := hm.1
  have e16 : put0 (Wof S J) jf 0 0 16 = J 0 16 := by rw [put0_0, if_neg (by omega), wof_16]
  have ert : rtN (put0 (Wof S J) jf 0) = rtN J := by unfold rtN; rw [e16]
  have em : manyN (upd S q0 0) = manyN S := many_upd (by omega)
  have ht : tells (upd S q0 0) (put0 (Wof S J) jf 0) := by
    refine tells_ext (S := S) (W := Wof S J) w1.1 rtN_wof ert tells_wof (fun p hl => ?_)
    by_cases hp : p = q0
    · left
      subst hp
      rw [upd_eq]
      rcases hq with ⟨rfl, rfl⟩ | ⟨rfl, rfl⟩
      · show put0 (Wof S J) 18 0 0 18 = 0
        rw [put0_0, if_pos rfl]
      · show put0 (Wof S J) 17 0 0 17 = 0
        rw [put0_0, if_pos rfl]
    · right
      refine ⟨?_, upd_ne hp, ?_⟩
      · by_cases h216 : p < 216
        · rw [← live_of (S := S) (T := upd S q0 0) (upd_ne (by omega)) (fun a ha => upd_ne (by unfold sA; omega)) h216]
          exact hl
        · have c1 : phN (upd S q0 0) = phN S := by unfold phN; rw [upd_ne (by omega)]
          have c2 : recN (upd S q0 0) = recN S := by unfold recN; rw [upd_ne (by omega)]
          unfold live at hl ⊢
          rw [c1, c2] at hl
          have n1 : ¬ p < 24 := by omega
          rw [if_neg n1, if_neg h216] at hl ⊢
          by_cases h234 : p < 234
          · rw [if_pos h234] at hl ⊢; exact hl
          rw [if_neg h234] at hl ⊢
          by_cases h306 : p < 306
          · rw [if_pos h306] at hl ⊢; exact hl
          rw [if_neg h306] at hl ⊢
          by_cases h321 : p < 321
          · rw [if_pos h321] at hl ⊢
            have hl := of_decide_eq_true hl
            apply decide_eq_true
            rcases hq with ⟨rfl, rfl⟩ | ⟨rfl, rfl⟩
            · unfold nodN at hl
              rw [upd_eq] at hl
              exact absurd hl (Nat.not_lt_zero _)
            · unfold nodN at hl ⊢
              rw [upd_ne (by decide)] at hl
              exact hl
          rw [if_neg h321] at hl ⊢
          by_cases h345 : p < 345
          · rw [if_pos h345] at hl ⊢
            have hl := of_decide_eq_true hl
            apply decide_eq_true
            rcases hq with ⟨rfl, rfl⟩ | ⟨rfl, rfl⟩
            · unfold tolN at hl ⊢
              rw [upd_ne (by decide)] at hl
              exact hl
            · unfold tolN at hl
              rw [upd_eq] at hl
              exact absurd hl (Nat.not_lt_zero _)
          · rw [if_neg h345] at hl ⊢
      · by_cases h24 : p < 24
        · have er := (iv_row (rt := rtN J) (p := p)).1 h24
          have e2 : (iv (rtN J) p).2 ≠ jf := by
            rcases hq with ⟨rfl, rfl⟩ | ⟨rfl, rfl⟩
            · exact iv24 (q := 17) h24 hp rfl (by decide)
            · exact iv24 (q := 18) h24 hp rfl (by decide)
          rw [er, put0_0, if_neg e2]
        · have er : (iv (rtN J) p).1 ≠ 0 := by
            obtain ⟨-, r2, r3⟩ := iv_row (rt := rtN J) (p := p)
            by_cases h216 : p < 216
            · have := r2 (by omega) h216; omega
            · have := r3 (by omega); omega
          rw [put0_n er]
  have htab : tabEq S (upd S q0 0) := tabEq_of hro (upd_ne (by omega)) (fun a w ha hw => upd_ne (by unfold sA; omega))
  refine ⟨?_, ?_, ?_, ?_, ?_, ?_⟩
  · unfold wh
    rw [wof_tells ht]
  · unfold jOk; rw [ert, e16]; exact w1
  · unfold rrOk recN at *
    rw [ert, upd_ne (by omega)]
    exact w2
  · intro k hk
    rw [put0_n (by omega), wof_none (pos_w hk)]
    exact w3 k hk
  · intro a ha z hz
    rw [em] at ha
    rw [placeV_keep (fun w _ _ => upd_ne (by unfold sA; omega)) (hro a (by omega)).cells.1]
    exact w4 a ha z hz
  · intro x y hx hy
    rw [em] at hx hy
    rw [put0_n (by decide), wof_none pos_8, (htab x y (by omega) (by omega)).1]
    exact w5 x y hx hy
theorem x_p18 (hro : rowOk S) (hm : mOk S) (hW : wOk S J Q) : ∃ K, gPv 1 (wh G h b S J Q) b 18 (.int 0) = some (wh G h b (upd S 17 0) K Q) ∧ wOk (upd S 17 0) K Q := by
  obtain ⟨e1, e2⟩ := x_cnt0 (G := G) (h := h) (b := b) (Q := Q) (Or.inl ⟨rfl, rfl⟩) hro hm hW
  refine ⟨_, ?_, e2⟩
  rw [show gPv 1 (wh G h b S J Q) b 18 (.int 0) = some (wR G h b (put0 (Wof S J) 18 0) Q) from w_p18 0, e1]
theorem x_p17 (hro : rowOk S) (hm : mOk S) (hW : wOk S J Q) : ∃ K, gPv 1 (wh G h b S J Q) b 17 (.int 0) = some (wh G h b (upd S 18 0) K Q) ∧ wOk (upd S 18 0) K Q := by
  obtain ⟨e1, e2⟩ := x_cnt0 (G := G) (h := h) (b := b) (Q := Q) (Or.inr ⟨rfl, rfl⟩) hro hm hW
  refine ⟨_, ?_, e2⟩
  rw [show gPv 1 (wh G h b S J Q) b 17 (.int 0) = some (wR G h b (put0 (Wof S J) 17 0) Q) from w_p17 0, e1]
theorem rowOk_lo {p : Nat} {x : Int32} (hp : p < 24 ∨ 216 ≤ p) (h : rowOk S) : rowOk (upd S p x) := by
  intro a ha
  have := h a ha
  unfold sigOk at this ⊢
  rw [upd_ne (by unfold sA; omega), upd_ne (by unfold sA; omega)]
  exact this
theorem mOk_lo {p : Nat} {x : Int32} (hp : p ≠ 13) (h : mOk S) : mOk (upd S p x) := by
  unfold mOk
  rw [many_upd hp, upd_ne (Ne.symm hp)]
  exact h
theorem v_wave {p1 : Int32} (hro : rowOk S) (hm : mOk S) (hW : wOk S J Q) : ∃ K, sp_X0_wave G F (wh G (xo h bx c) (bx + 1) S J Q) bx p1 = some ((waveR S p1).1, wh G (xo h bx c) (bx + 1) (waveR S p1).2 K Q) ∧ wOk (waveR S p1).2 K Q := by
  unfold sp_X0_wave waveR
  simp only [i_in_20_60, Option.bind_some, b0]
  by_cases h1 : inB p1 20 60
  · obtain ⟨K, e1, e2⟩ := x_p18 (G := G) (h := xo h bx c) (b := bx + 1) (S := upd S 16 p1) (J := J) (Q := Q) (rowOk_lo (by omega) hro) (mOk_lo (by decide) hm) (wOk_upd (by decide) (by decide) (tabFree_lt (by decide) (by decide)) hro hm hW)
    refine ⟨K, ?_⟩
    rw [if_neg (nn h1), if_neg (nn h1)]
    simp only [v_f0, x_f19, x_p19 _ hW.1.1, e1, Option.bind_some]
    exact ⟨trivial, e2⟩
  · rw [if_pos h1, if_pos h1]
    exact ⟨J, rfl, hW⟩
theorem v_isOfNode {w : Nat} {x : Int32} (hw : w < 3) : sp_X0_isOfNode G F (wh G (xo h bx c) (bx + 1) S J Q) bx (nI w) x = some (if inB x (if w = 1 then 1 else 0) (if w = 0 then S 16 - 1 else if w = 1 then S 16 else 99) then 1 else 0) := by
  unfold sp_X0_isOfNode
  simp only [v_f0, x_f19, Option.bind_some, i_in_0v, i_in_1v, i_in_0_99]
  match w, hw with
  | 0, _ => rw [if_pos (show nI 0 = 0 from rfl), if_pos if01]; rfl
  | 1, _ => rw [if_neg (show ¬ nI 1 = 0 by decide), if_pos (show nI 1 = 1 from rfl), if_pos if01]; rfl
  | 2, _ => rw [if_neg (show ¬ nI 2 = 0 by decide), if_neg (show ¬ nI 2 = 1 by decide), if_pos if01]; rfl
theorem v_isNode {x : Int32} : sp_X0_isNode G F (wh G (xo h bx c) (bx + 1) S J Q) bx x = some (if inB x 0 (S 17 - 1) then 1 else 0) := by
  unfold sp_X0_isNode
  simp only [v_f0, x_f18, Option.bind_some, i_in_0v]
  rw [if_pos if01]
theorem v_change {p1 p2 p3 : Int32} (hn : nodeOk S) (hrt : rtN J < 24) : sp_X0_change G F (wh G (xo h bx c) (bx + 1) S J Q) bx p1 p2 p3 = some ((chnR S p1 p2 p3).1, wh G (xo h bx c) (bx + 1) (chnR S p1 p2 p3).2 J Q) := by
  have h5 := hn.1
  unfold sp_X0_change chnR
  simp only [v_is, if_true, v_isNode, i_in_0_2, b0, Option.bind_some]
  by_cases h1 : inB p1 0 (S 17 - 1)
  · rw [if_neg (nn h1), if_neg (nn h1)]
    by_cases h2 : inB p2 0 2
    · rw [if_neg (nn h2), if_neg (nn h2)]
      have h1' := h1
      rw [hn.2] at h1'
      obtain ⟨k, hk, rfl⟩ : ∃ k, k < nodN S ∧ p1 = nI k := in_nI (by omega) h1'
      obtain ⟨w, hw, rfl⟩ : ∃ k, k < 3 ∧ p2 = nI k := in_nI (m := 3) (by decide) h2
      have e1 : (nI w = 1) = (w = 1) := propext (nI_eq (b := 1) (by omega) (by decide))
      have e0 : (nI w = 0) = (w = 0) := propext (nI_eq (b := 0) (by omega) (by decide))
      have hk5 : k < 5 := by omega
      simp only [v_isOfNode hw, Option.bind_some, b0, v_f0, x_f26, x_a5 hk5, x_nd_f0 hk5, x_nd hk5 hk hw, x_nds _ hrt hk5 hk hw, nI_c (show k < 2 ^ 31 by omega), nI_c (show w < 2 ^ 31 by omega), e0, e1]
      generalize (if w = 1 then (1 : Int32) else 0) = lo
      generalize (if w = 0 then S 16 - 1 else if w = 1 then S 16 else 99) = hi
      by_cases h3 : inB p3 lo hi
      · rw [if_neg (nn h3), if_neg (nn h3)]
      · rw [if_pos h3, if_pos h3]
    · rw [if_pos h2, if_pos h2]
  · rw [if_pos h1, if_pos h1]
end X16
