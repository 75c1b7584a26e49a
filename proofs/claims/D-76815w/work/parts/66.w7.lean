/-! w7: the class's World: changesTo, isCutShort -/
set_option maxRecDepth 100000
def chg2 (p i : Nat) (x : (Nat → Int32) × (Nat → Nat → Int32)) : (Nat → Int32) × (Nat → Nat → Int32) :=
  (chg1 p x.1 i, if x.1 (sA i 6) = 0 then x.2 else if ¬ hasB (x.1 (pA p 0)) (nI i) then keepJ (endF x.1 i) x.2 else x.2)
theorem chg2_1 {p : Nat} : ∀ (n i : Nat) (x : (Nat → Int32) × (Nat → Nat → Int32)), (itN (chg2 p) n i x).1 = chgL p n i x.1 := by
  intro n
  induction n with
  | zero => intro i x; rfl
  | succ n ih => intro i x; rw [itN, ih, chgL]; rfl
theorem rrOk_15 {S T : Nat → Int32} {J : Nat → Nat → Int32} (h : T 15 = S 15) (hr : rrOk S J) : rrOk T J := by
  unfold rrOk recN at *
  rw [h]
  exact hr
theorem chg2_inv {p i m q : Nat} {J : Nat → Nat → Int32} {x : (Nat → Int32) × (Nat → Nat → Int32)} (hi : i < 8) (h : mOk x.1 ∧ manyN x.1 = m ∧ phN x.1 = q ∧ rOk x.1 ∧ jR J x.2 ∧ rrOk x.1 x.2) :
    mOk (chg2 p i x).1 ∧ manyN (chg2 p i x).1 = m ∧ phN (chg2 p i x).1 = q ∧ rOk (chg2 p i x).1 ∧ jR J (chg2 p i x).2 ∧ rrOk (chg2 p i x).1 (chg2 p i x).2 := by
  obtain ⟨h1, h2, h3, h4, h5, h6⟩ := h
  have hk := keep_chg1 (p := p) (S := x.1) (a := i) hi h4
  refine ⟨mOk_keep hk h1, (many_keep hk).trans h2, (ph_keep hk).trans h3, rOk_chg1 h4, ?_, ?_⟩
  · unfold chg2
    dsimp only
    split
    · exact h5
    · split
      · exact jR_trans h5 (keepJ_R (jR_ok h5))
      · exact h5
  · unfold chg2 chg1
    dsimp only
    split
    · exact h6
    · split
      · exact keepJ_rr (rOk_end h4) (rrOk_15 endF_15 h6)
      · exact h6
section W7
variable {G : gG} {h : gH} {b : Nat} {S : Nat → Int32} {J : Nat → Nat → Int32} {Q : Nat → Nat → Int64} {F : Nat}
theorem x_changesTo_s {p i f : Nat} (hJ : jOk J) (hm : mOk S) (hr : rOk S) (hp6 : p < 6) (hp : p < phN S) (hi : i < manyN S) : sp_X1_changesTo_L2 G F (f + 1) (wh G h b S J Q) b (nI p) (nI i) = sp_X1_changesTo_L2 G F f (wh G h b (chg2 p i (S, J)).1 (chg2 p i (S, J)).2 Q) b (nI p) (nI (i + 1)) := by
  have h8 := hm.1
  have hi8 : i < 8 := by omega
  have en : ¬ S 13 ≤ nI i := by rw [hm.2]; exact nI_ge (by omega) (by omega)
  have hr' := hJ.1
  have him1 : i < manyN (upd S (sA i 6) 0) := by rw [many_s]; exact hi
  have e3 : upd S (sA i 6) 0 3 = S 3 := upd_ne (by unfold sA; omega)
  have eE : upd (upd S (sA i 6) 0) (sA i 8) (S 3) = endF S i := rfl
  have him2 : i < manyN (endF S i) := by rw [← eE, many_s, many_s]; exact hi
  have he8 : endF S i (sA i 8) = endF S i 3 := by rw [← eE, upd_eq, upd_ne (by unfold sA; omega), e3]
  rw [sp_X1_changesTo_L2]
  simp only [x_is, if_true, Option.bind_some, x_f13, en, if_false, x_f22, x_a1 hi8, x_sg_f6 hi8 hi, x_f23, x_a2 hp6, x_ph_is hp6, x_has hp6 hp, b0, nI_1, x_sg_p6 _ hr' hi8 hi, x_f1, e3, x_sg_p8 _ hr' hi8 him1, eE, x_keeps hJ (rOk_end hr) hi8 him2 he8, chg2, chg1]
  by_cases h1 : S (sA i 6) = 0
  · simp only [h1, if_true]
  · by_cases h2 : hasB (S (pA p 0)) (nI i)
    · have h2' : ¬ ¬ hasB (S (pA p 0)) (nI i) := fun hh => hh h2
      simp only [h1, h2', if_false]
    · simp only [h1, h2, if_false, not_false_eq_true, if_true]
theorem x_changesTo {p : Nat} (hF : 100 ≤ F) (hJ : jOk J) (hrr : rrOk S J) (hm : mOk S) (hr : rOk S) (hP : pOk S) (hp : p < phN S) : ∃ J', sp_X1_changesTo G F (wh G h b S J Q) b (nI p) = some (wh G h b (changesF S p) J' Q) ∧ jR J J' ∧ rrOk (changesF S p) J' := by
  have h8 := hm.1
  have hp6 : p < 6 := by have := hP.1; omega
  have h0 : mOk S ∧ manyN S = manyN S ∧ phN S = phN S ∧ rOk S ∧ jR J J ∧ rrOk S J := ⟨hm, rfl, rfl, hr, jR_refl hJ, hrr⟩
  have key := it_loop (m := manyN S) (fun f i (x : (Nat → Int32) × (Nat → Nat → Int32)) => sp_X1_changesTo_L2 G F f (wh G h b x.1 x.2 Q) b (nI p) (nI i)) (chg2 p) (fun _ x => mOk x.1 ∧ manyN x.1 = manyN S ∧ phN x.1 = phN S ∧ rOk x.1 ∧ jR J x.2 ∧ rrOk x.1 x.2) (fun x => wh G h b x.1 x.2 Q) (by
    intro i f x hi hx
    exact x_changesTo_s (jR_ok hx.2.2.2.2.1) hx.1 hx.2.2.2.1 hp6 (by rw [hx.2.2.1]; exact hp) (by rw [hx.2.1]; exact hi)) (by
    intro i x hi hx
    exact chg2_inv (by omega) hx) (by
    intro f x hx
    show sp_X1_changesTo_L2 G F (f + 1) (wh G h b x.1 x.2 Q) b (nI p) (nI (manyN S)) = _
    rw [sp_X1_changesTo_L2]
    simp only [x_is, if_true, Option.bind_some, x_f13]
    rw [if_pos (by rw [hx.1.2, hx.2.1]; exact nI_le (by omega) (by omega))]) (manyN S) 0 F (S, J) (by omega) (by omega) h0
  have inv := it_inv (m := manyN S) (g := chg2 p) (P := fun _ x => mOk x.1 ∧ manyN x.1 = manyN S ∧ phN x.1 = phN S ∧ rOk x.1 ∧ jR J x.2 ∧ rrOk x.1 x.2) (fun i x hi hx => chg2_inv (by omega) hx) (manyN S) 0 (S, J) (by omega) h0
  have e1 := chg2_1 (p := p) (manyN S) 0 (S, J)
  generalize itN (chg2 p) (manyN S) 0 (S, J) = X at key inv e1
  obtain ⟨T, K⟩ := X
  obtain ⟨i1, i2, i3, i4, i5, i6⟩ := inv
  dsimp only at key e1 i1 i2 i3 i4 i5 i6
  have ec : changesF S p = comesOnF T p := by unfold changesF; rw [e1]
  have hr' := (jR_ok i5).1
  have hp4 : p < phN (upd T 4 (nI p)) := by unfold phN at *; rw [upd_ne (by decide), i3]; exact hp
  have e2 : upd T 4 (nI p) (pA p 2) = T (pA p 2) := upd_ne (by unfold pA; omega)
  refine ⟨K, ?_, i5, ?_⟩
  · rw [ec]
    unfold sp_X1_changesTo comesOnF
    rw [show sp_X1_changesTo_L2 G F F (wh G h b S J Q) b (nI p) 0 = some (wh G h b T K Q) from key]
    simp only [Option.bind_some, x_p2 _ hr', x_f23, x_a2 hp6, x_ph_f2 hp6 hp4, x_ph_p2 _ hr' hp6 hp4, e2]
  · rw [ec]
    refine rrOk_15 ?_ i6
    unfold comesOnF
    rw [upd_ne (by unfold pA; omega), upd_ne (by decide)]
theorem emL_f {s : Int32} : ∀ (n i : Nat), emL S s n i false = false := by
  intro n
  induction n with
  | zero => intro i; rfl
  | succ n ih => intro i; rw [emL, Bool.false_and]; exact ih _
theorem x_greenFor {i : Nat} {n : Int32} (hi : i < 8) (hm : i < manyN S) : sp_X2_isGreenFor G F (wh G h b S J Q) (sg b i) n (S 3) = some (bI (decide (¬ S (sA i 6) = 0) && decide (¬ S 3 - S (sA i 7) < n))) := by
  unfold sp_X2_isGreenFor
  simp only [x_is, if_true, Option.bind_some, x_sg_f6 hi hm, x_sg_f7 hi hm]
  by_cases h1 : S (sA i 6) = 0
  · rw [if_pos h1, decide_eq_false (fun hh => hh h1), Bool.false_and]
    rfl
  · rw [if_neg h1, decide_eq_true h1, Bool.true_and]
    by_cases h2 : S 3 - S (sA i 7) < n
    · rw [if_pos h2, decide_eq_false (fun hh => hh h2)]
      rfl
    · rw [if_neg h2, decide_eq_true h2]
      rfl
def negOk (S : Nat → Int32) : Prop := (S 5 < 0 → S 5 = -5) ∧ (S 6 < 0 → S 6 = -5)
theorem x_cutShort (hF : 100 ≤ F) (hJ : jOk J) (hrr : rrOk S J) (hS : secOk S) (hn : negOk S) (h6 : ¬ S 6 < 0) : ∃ J', sp_X1_isCutShort G F (wh G h b S J Q) b = some (wh G h b (byEmF S) J' Q) ∧ jR J J' ∧ rrOk (byEmF S) J' := by
  have hem := em_lt hS h6
  have hc := secOk_cut hS
  obtain ⟨h1, h2, h3, h4, h5, h7, h9⟩ := hS
  have h8 := h1.1
  have hp6 := h2.1
  obtain ⟨q, hq, eq⟩ := h9.resolve_left h6
  have ef : firstV (cutF S) (S 6) = nI q := by rw [firstV_keep keep_cut h2, eq]
  have en : (firstV (cutF S) (S 6)).toNatClampNeg = q := by rw [ef, nI_c (by omega)]
  have hrc : rrOk (cutF S) J := rrOk_15 (by unfold cutF; split; · rfl
                                            · exact upd_ne (by decide)) hrr
  obtain ⟨K, k1, k2, k3⟩ := x_changesTo (G := G) (h := h) (b := b) (Q := Q) (p := q) hF hJ hrc hc.1 hc.2.2.1 hc.2.1 (by rw [ph_keep keep_cut]; exact hq)
  have e6 : cutF S 6 = S 6 := keep_cut 6 (by unfold fixedK; omega)
  have hpw := x_phaseWith (G := G) (h := h) (b := b) (S := cutF S) (J := J) (Q := Q) (F := F) (a := S 6) (by omega) hc.2.1
  rw [ef] at hpw
  have e5a : S 5 = -5 → upd S 5 (S 4) = cutF S := by
    intro e
    unfold cutF
    rw [if_neg (by rw [e]; decide)]
  have e5b : ¬ S 5 = -5 → upd S 5 (S 5) = cutF S := by
    intro e
    unfold cutF
    rw [upd_same rfl, if_pos]
    exact Int32.not_lt.mp (fun hh => e (hn.1 hh))
  have hr' := hJ.1
  have ha2 : gAr 6 (wh G h b S J Q) (b + 2) (S 4) = some (phA b (onN S)) := by rw [h4.2]; exact x_a2 h4.1
  have key : ∀ (n i f : Nat), n + i = manyN S → n < f → sp_X1_isCutShort_L24 G F f (wh G h b S J Q) b (phA b (onN S)) (nI i) = if emL S (S (pA (onN S) 0)) n i true = false then some (wh G h b S J Q) else some (wh G h b (changesF (cutF S) q) K Q) := by
    intro n
    induction n with
    | zero =>
      intro i f hi hf
      obtain ⟨f, rfl⟩ : ∃ z, f = z + 1 := ⟨f - 1, by omega⟩
      rw [sp_X1_isCutShort_L24]
      simp only [x_is, if_true, Option.bind_some, x_f13, x_f3, x_f2, x_p3 _ hr', x_f4]
      rw [if_pos (by rw [h1.2]; exact nI_le (by omega) (by omega)), show emL S (S (pA (onN S) 0)) 0 i true = true from rfl, if_neg (show ¬ true = false by decide)]
      by_cases h5' : S 5 = -5
      · rw [if_pos h5', e5a h5', e6]
        simp only [hpw, Option.bind_some, k1]
      · rw [if_neg h5', e5b h5', e6]
        simp only [hpw, Option.bind_some, k1]
    | succ n ih =>
      intro i f hi hf
      obtain ⟨f, rfl⟩ : ∃ z, f = z + 1 := ⟨f - 1, by omega⟩
      have en : ¬ S 13 ≤ nI i := by rw [h1.2]; exact nI_ge (by omega) (by omega)
      have hi8 : i < 8 := by omega
      have him : i < manyN S := by omega
      have eh : ∀ x : Int32, (x + 1) / 2 = halfV x := fun _ => rfl
      rw [sp_X1_isCutShort_L24]
      simp only [x_is, if_true, Option.bind_some, x_f13, en, if_false, x_f22, x_a1 hi8, x_ph_is h4.1, x_has h4.1 h5, b0, x_sg_f6 hi8 him, x_sg_is hi8, x_least hi8 him, x_f1, eh, x_greenFor hi8 him, bI_z, nI_1, ih (i + 1) f (by omega) (by omega), emL, Bool.true_and]
      by_cases g1 : hasB (S (pA (onN S) 0)) (nI i)
      · have g1' : ¬ ¬ hasB (S (pA (onN S) 0)) (nI i) := fun hh => hh g1
        rw [if_neg g1']
        by_cases g2 : S (sA i 6) = 0
        · rw [if_pos g2, show emB S (S (pA (onN S) 0)) i = true by simp only [emB, g2, decide_true, Bool.true_or, Bool.or_true]]
        · rw [if_neg g2]
          by_cases g3 : S 3 - S (sA i 7) < halfV (S (sA i 1))
          · rw [if_pos (by rw [decide_eq_true g2, decide_eq_false (fun hh => hh g3)]; rfl), show emB S (S (pA (onN S) 0)) i = false by simp only [emB, decide_eq_false g1', decide_eq_false g2, decide_eq_false (show ¬ ¬ S 3 - S (sA i 7) < halfV (S (sA i 1)) from fun hh => hh g3), Bool.or_false], emL_f, if_pos rfl]
          · rw [if_neg (by rw [decide_eq_true g2, decide_eq_true g3]; decide), show emB S (S (pA (onN S) 0)) i = true by simp only [emB, decide_eq_true g3, Bool.or_true]]
      · rw [if_pos g1, show emB S (S (pA (onN S) 0)) i = true by simp only [emB, decide_eq_true g1, Bool.true_or]]
  have k0 := key (manyN S) 0 F (by omega) (by omega)
  have hu : sp_X1_isCutShort G F (wh G h b S J Q) b = if hasB (S (pA (onN S) 0)) (S 6) then some (wh G h b S J Q) else sp_X1_isCutShort_L24 G F F (wh G h b S J Q) b (phA b (onN S)) (nI 0) := by
    unfold sp_X1_isCutShort
    simp only [x_is, if_true, Option.bind_some, x_f23, x_f2, ha2, x_f4, x_ph_is h4.1, x_has h4.1 h5, b0]
    by_cases g : hasB (S (pA (onN S) 0)) (S 6)
    · rw [if_neg (fun hh => hh g), if_pos g]
    · rw [if_pos g, if_neg g]
      rfl
  rw [hu, k0]
  unfold byEmF
  rw [en]
  by_cases g : hasB (S (pA (onN S) 0)) (S 6)
  · refine ⟨J, ?_, jR_refl hJ, ?_⟩
    · rw [if_pos g, decide_eq_false (fun hh => hh g), emL_f, if_pos rfl]
    · rw [decide_eq_false (fun hh => hh g), emL_f, if_pos rfl]
      exact hrr
  · rw [if_neg g, decide_eq_true g]
    by_cases g2 : emL S (S (pA (onN S) 0)) (manyN S) 0 true = false
    · refine ⟨J, ?_, jR_refl hJ, ?_⟩
      · rw [if_pos g2, if_pos g2]
      · rw [if_pos g2]; exact hrr
    · refine ⟨K, ?_, k2, ?_⟩
      · rw [if_neg g2, if_neg g2]
      · rw [if_neg g2]; exact k3
end W7
