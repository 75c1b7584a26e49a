/-! x10: plans: ends (both sides) -/
set_option maxRecDepth 100000
/-- the phases have no others than the signals that there are -/
def phsOk (S : Nat → Int32) : Prop := ∀ p, p < phN S → ∃ s, s < 2 ^ manyN S ∧ S (pA p 0) = nI s
theorem has_hi {s k m : Nat} (hs : s < 2 ^ m) (hm : m ≤ k) (hk : k < 31) : ¬ hasB (nI s) (nI k) := by
  rw [hasB_lsb hk]
  have h1 : s < 2 ^ k := Nat.lt_of_lt_of_le hs (Nat.pow_le_pow_right (by decide) hm)
  have h2 : (2 : Nat) ^ k ≤ 2 ^ 30 := Nat.pow_le_pow_right (by decide) (by omega)
  have e : (nI s).toBitVec = BitVec.ofNat 32 s := rfl
  rw [e, BitVec.getLsbD_ofNat, Nat.testBit_lt_two_pow h1]
  simp
theorem first_hi {S : Nat → Int32} {k : Nat} (hp : phsOk S) (hk : manyN S ≤ k) (h8 : k < 31) : firstV S (nI k) = -5 := by
  have key : ∀ (m i : Nat), m + i = phN S → fwL S (nI k) m i = -5 := by
    intro m
    induction m with
    | zero => intro i _; rfl
    | succ m ih =>
      intro i hi
      obtain ⟨s, hs, es⟩ := hp i (by omega)
      rw [fwL, es, if_neg (has_hi hs hk h8)]
      exact ih (i + 1) (by omega)
  exact key (phN S) 0 (by omega)
theorem in_lt {k m : Nat} (hk : k < 2 ^ 31) (hm : m < 2 ^ 31) : inB (nI k) 0 (nI m - 1) ↔ k < m := by
  constructor
  · intro hh
    rcases Nat.eq_zero_or_pos m with h0 | h0
    · subst h0
      have h1 : (0 : Int32) ≤ nI 0 - 1 := Int32.le_trans hh.1 hh.2
      exact absurd h1 (by decide)
    · obtain ⟨m, rfl⟩ : ∃ z, m = z + 1 := ⟨m - 1, by omega⟩
      rw [nI_sub1] at hh
      have := (nI_leI hk (by omega)).mp hh.2
      omega
  · intro hh
    obtain ⟨m, rfl⟩ : ∃ z, m = z + 1 := ⟨m - 1, by omega⟩
    rw [nI_sub1]
    exact ⟨nI_pos' hk, (nI_leI hk (by omega)).mpr (by omega)⟩
/-- what a row of the plan leaves -/
def plK (S T : Nat → Int32) : Prop := ∀ k, (k = 2 ∨ k = 10 ∨ k = 13 ∨ k = 14 ∨ k = 20 ∨ (216 ≤ k ∧ k < 234 ∧ (k - 216) % 3 < 2) ∨ 306 ≤ k) → T k = S k
theorem plK_refl {S : Nat → Int32} : plK S S := fun _ _ => rfl
theorem plK_trans {S T U : Nat → Int32} (h1 : plK S T) (h2 : plK T U) : plK S U := fun k hk => (h2 k hk).trans (h1 k hk)
theorem plK_keep {S T : Nat → Int32} (h : keepS S T) : plK S T := fun k hk => h k (by unfold fixedK; omega)
theorem plK_upd {S : Nat → Int32} {k : Nat} {x : Int32} (hk : k = 6 ∨ (24 ≤ k ∧ k < 216)) : plK S (upd S k x) := fun j hj => upd_ne (by omega)
theorem plK_phs {S T : Nat → Int32} (h : plK S T) (hp6 : phN S ≤ 6) (hp : phsOk S) : phsOk T := by
  intro p hp'
  have e1 : phN T = phN S := by unfold phN; rw [h 14 (by omega)]
  have e2 : manyN T = manyN S := by unfold manyN; rw [h 13 (by omega)]
  rw [e1] at hp'
  obtain ⟨s, hs, es⟩ := hp p hp'
  exact ⟨s, by rw [e2]; exact hs, by rw [h (pA p 0) (by unfold pA; omega), es]⟩
theorem runOk_6 {S : Nat → Int32} {t : Nat} {x : Int32} (hr : runOk S t) (hx : x = -5 ∨ ¬ x < 0 ∧ ∃ q, q < phN S ∧ firstV S x = nI q) : runOk (upd S 6 x) t := by
  obtain ⟨⟨h1, h2, h3, h4, h5, h6, h7⟩, r2, r3, r4⟩ := hr
  have em : manyN (upd S 6 x) = manyN S := many_upd (by decide)
  have ep : phN (upd S 6 x) = phN S := by unfold phN; rw [upd_ne (by decide)]
  have eo : onN (upd S 6 x) = onN S := by unfold onN; rw [upd_ne (by decide)]
  refine ⟨⟨?_, ?_, rOk_15 (upd_ne (by decide)) h3, ?_, ?_, ?_, ?_⟩, ⟨?_, ?_⟩, numOk_lo r3 h1 (by decide) (by decide) (by omega), ?_⟩
  · unfold mOk; rw [em, upd_ne (by decide)]; exact h1
  · unfold pOk; rw [ep, upd_ne (by decide)]; exact h2
  · unfold onOk; rw [eo, upd_ne (by decide)]; exact h4
  · rw [eo, ep]; exact h5
  · unfold cutOk; rw [ep, upd_ne (by decide)]; exact h6
  · unfold emOk
    rw [upd_eq, ep, firstV_upd (by decide) (by decide) h2]
    rcases hx with hx | hx
    · left; rw [hx]; decide
    · exact Or.inr hx.2
  · rw [upd_ne (by decide)]; exact r2.1
  · rw [upd_eq]
    intro hh
    rcases hx with hx | hx
    · exact hx
    · exact absurd hh hx.1
  · intro a ha
    have := r4 a ha
    unfold sigOk at this ⊢
    rw [upd_ne (by unfold sA; omega), upd_ne (by unfold sA; omega)]
    exact this
theorem runOk_q0 {S : Nat → Int32} {t a : Nat} (hr : runOk S t) (ha : a < manyN S) : runOk (upd S (sA a 5) 0) t := by
  obtain ⟨r1, r2, r3, r4⟩ := hr
  have h8 : a < 8 := by have := r1.1.1; omega
  have hk : keepS S (upd S (sA a 5) 0) := keep_upd (by unfold fixedK sA; omega)
  have hu : keepU S (upd S (sA a 5) 0) := ku_upd (by unfold freeK sA; omega)
  refine ⟨secOk_keep hk hu r1, negOk_56 (upd_ne (by unfold sA; omega)) (upd_ne (by unfold sA; omega)) r2, ?_, rowOk_keep hk r4⟩
  refine numOk_one (a := a) r3 r1.1 (upd_ne (by unfold sA; omega)) (upd_ne (by unfold sA; omega)) (fun k w hk hk8 h5 h9 => upd_ne (by unfold sA; omega)) (fun _ => ?_)
  obtain ⟨k5, k6, k7, k8, k9, k10⟩ := r3.2 a ha
  unfold sgOk
  rw [upd_eq, upd_ne (by unfold sA; omega), upd_ne (by unfold sA; omega), upd_ne (by unfold sA; omega), upd_ne (by unfold sA; omega)]
  exact ⟨⟨0, by omega, rfl⟩, k6, k7, k8, k9, k10⟩
/-- a row of the plan -/
def plR (w x : Int32) : Prop := (w = 0 ∧ ∃ k, k < 100 ∧ x = nI k) ∨ (w = 1 ∧ ∃ k, k < 8 ∧ x = nI k) ∨ w = 2 ∨ (w = 3 ∧ ∃ k, k < 8 ∧ x = nI k)
theorem does_ok {C T : Nat → Int32} {w x : Int32} {t : Nat} (ht : t + 99 < 2 ^ 31) (hw : plR w x) (hr : runOk T t) : (∃ t', t' ≤ t + 99 ∧ runOk (doesF C w x T) t') ∧ plK T (doesF C w x T) := by
  unfold doesF
  rcases hw with ⟨e, k, hk, ex⟩ | ⟨e, k, hk, ex⟩ | e | ⟨e, k, hk, ex⟩ <;> subst e
  · rw [if_pos rfl, ex, nI_c (by omega)]
    exact ⟨⟨t + k, by omega, runOk_pass (by omega) hr⟩, plK_keep (secOk_pass hr.1).2⟩
  · rw [if_neg (by decide), if_pos rfl]
    unfold emergencyR
    split
    · exact ⟨⟨t, by omega, hr⟩, plK_refl⟩
    · split
      · exact ⟨⟨t, by omega, hr⟩, plK_refl⟩
      · split
        · exact ⟨⟨t, by omega, hr⟩, plK_refl⟩
        · split
          · rename_i hf
            refine ⟨⟨t, by omega, runOk_6 hr (Or.inr ⟨by rw [ex]; exact nI_nn (by omega), ?_⟩)⟩, plK_upd (Or.inl rfl)⟩
            rcases firstV_v hr.1.2.1 (a := x) with h | h
            · rw [h] at hf; exact absurd hf (by decide)
            · exact h
          · exact ⟨⟨t, by omega, hr⟩, plK_refl⟩
  · rw [if_neg (by decide), if_neg (by decide), if_pos rfl]
    exact ⟨⟨t, by omega, runOk_6 hr (Or.inl rfl)⟩, plK_upd (Or.inl rfl)⟩
  · rw [if_neg (by decide), if_neg (by decide), if_neg (by decide)]
    have hm := hr.1.1
    by_cases hin : inB x 0 (T 13 - 1)
    · rw [if_pos hin, ex, nI_c (by omega)]
      rw [ex, hm.2] at hin
      have := (in_lt (by omega) (by have := hm.1; omega)).mp hin
      exact ⟨⟨t, by omega, runOk_q0 hr this⟩, plK_upd (Or.inr (by unfold sA; omega))⟩
    · rw [if_neg hin]
      exact ⟨⟨t, by omega, hr⟩, plK_refl⟩
section R10
variable {h : gH} {b : Nat} {A : Nat → Nat → Int32} {L : Nat → Nat → Int64} {S T : Nat → Int32} {G : gG} {F : Nat}
theorem s_emergency {p1 : Int32} (hF : 40 ≤ F) (hp : pOk S) : sp_X13_emergency G F (mS h b A L S) b p1 = some ((emergencyR S p1).1, mS h b A L (emergencyR S p1).2) := by
  unfold sp_X13_emergency emergencyR
  have hp2 : pOk (upd S 6 p1) := by
    unfold pOk phN at *
    rw [upd_ne (by decide)]
    exact hp
  simp only [s_is, if_true, s_f0, Option.bind_some, s_isSignal, b0, s_r_2, s_r_6, s_w_6, s_firstWith hF hp, s_firstWith hF hp2, firstV_upd (show 6 ≠ 14 by decide) (show 6 < 216 by decide) hp]
  rcases (Classical.em (inB p1 0 (S 13 - 1))).symm with h1 | h1
  · rw [if_pos h1, if_pos h1]
  have h1' : ¬ ¬ inB p1 0 (S 13 - 1) := fun hh => hh h1
  rw [if_neg h1', if_neg h1']
  by_cases h2 : S 2 = 0
  · rw [if_pos h2, if_pos h2]
  rw [if_neg h2, if_neg h2]
  by_cases h3 : 0 ≤ S 6
  · rw [if_pos h3, if_pos h3]
  rw [if_neg h3, if_neg h3]
  by_cases h4 : 0 ≤ firstV S p1
  · rw [if_pos h4, if_pos h4]
  · rw [if_neg h4, if_neg h4]
theorem s_over2 (hn : negOk S) : ∃ y, sp_X13_over G F (mS h b A L S) b = some (y, mS h b A L (upd S 6 (-5))) := by
  unfold sp_X13_over
  simp only [s_is, if_true, s_f0, Option.bind_some, s_r_6, s_w_6]
  by_cases h1 : 0 ≤ S 6
  · rw [if_pos h1]; exact ⟨_, rfl⟩
  · rw [if_neg h1]
    have : upd S 6 (-5) = S := upd_same (hn.2 (Int32.not_le.mp h1)).symm
    rw [this]
    exact ⟨_, rfl⟩
theorem s_does {t : Nat} {w x : Int32} (hF : 400 ≤ F) (ht : t + 99 < 2 ^ 31) (hw : plR w x) (hr : runOk T t) : sp_X13_does G F (mS h b A L T) b w x = some (mS h b A L (doesF (A 3) w x T)) := by
  unfold sp_X13_does doesF
  simp only [s_is, if_true, s_f0, Option.bind_some]
  rcases hw with ⟨e, k, hk, ex⟩ | ⟨e, k, hk, ex⟩ | e | ⟨e, k, hk, ex⟩ <;> subst e
  · rw [ex]
    simp only [if_true, s_passes (show 100 ≤ F by omega) (show k < F by omega) (show k < 2 ^ 31 by omega) hr.1, Option.bind_some, nI_c (show k < 2 ^ 31 by omega)]
    rfl
  · simp only [show ¬ (1 : Int32) = 0 by decide, if_false, if_true, Option.bind_some, s_is, if_true, s_f0, Option.bind_some, s_emergency (show 40 ≤ F by omega) hr.1.2.1]
    rfl
  · obtain ⟨y, e⟩ := s_over2 (G := G) (F := F) (h := h) (b := b) (A := A) (L := L) hr.2.1
    simp only [show ¬ (2 : Int32) = 0 by decide, show ¬ (2 : Int32) = 1 by decide, if_false, if_true, Option.bind_some, s_is, if_true, s_f0, Option.bind_some, e]
    rfl
  · have hm := hr.1.1
    simp only [show ¬ (3 : Int32) = 0 by decide, show ¬ (3 : Int32) = 1 by decide, show ¬ (3 : Int32) = 2 by decide, if_false, if_true, Option.bind_some, s_is, if_true, s_f0, Option.bind_some, s_isSignal, b0]
    by_cases hin : inB x 0 (T 13 - 1)
    · rw [if_neg (fun hh => hh hin), if_pos hin, ex, nI_c (by omega), s_puts_5 _ (show k < 8 by omega)]
      rfl
    · rw [if_pos hin, if_neg hin]
theorem ix_pl (i : Nat) : (355 : Int32) + ((2 : Int32) * nI i) = nI (355 + 2 * i) := by
  show nI 355 + nI 2 * nI i = _
  rw [pk_mul, nI_add]
theorem s_plSum {p1 : Int32} (hF : 40 ≤ F) (hp : planOk S) : sp_X13_ends_2_L27 G F (mS h b A L S) F b p1 0 0 = some (plSum S (planN S) 0 0) := by
  have h8 := hp.1
  have key : ∀ (m i f : Nat) (acc : Int32), m + i = planN S → m < f → sp_X13_ends_2_L27 G F (mS h b A L S) f b p1 acc (nI i) = some (plSum S m i acc) := by
    intro m
    induction m with
    | zero =>
      intro i f acc hi hf
      obtain ⟨f, rfl⟩ : ∃ z, f = z + 1 := ⟨f - 1, by omega⟩
      rw [sp_X13_ends_2_L27]
      simp only [s_is, if_true, s_f0, Option.bind_some, s_r_20]
      rw [if_pos (by rw [hp.2.1]; exact nI_le (by omega) (by omega))]
      rfl
    | succ m ih =>
      intro i f acc hi hf
      obtain ⟨f, rfl⟩ : ∃ z, f = z + 1 := ⟨f - 1, by omega⟩
      have en : ¬ S 20 ≤ nI i := by rw [hp.2.1]; exact nI_ge (by omega) (by omega)
      rw [sp_X13_ends_2_L27]
      simp only [s_is, if_true, s_f0, Option.bind_some, s_r_20, en, if_false, ix_pl, s_a (355 + 2 * i) (by omega), nI_1, s_a (355 + 2 * i + 1) (by omega), plSum]
      by_cases h1 : S (355 + 2 * i) = 0
      · rw [if_pos h1, if_pos h1, show 355 + 2 * i + 1 = 356 + 2 * i by omega]
        exact ih (i + 1) f _ (by omega) (by omega)
      · rw [if_neg h1, if_neg h1]
        exact ih (i + 1) f _ (by omega) (by omega)
  exact key (planN S) 0 F 0 (by omega) (by omega)
theorem plR_of (hp : planOk S) {i : Nat} (hi : i < planN S) : plR (S (355 + 2 * i)) (S (356 + 2 * i)) := hp.2.2 i hi
theorem s_doesL {p1 : Int32} (hF : 400 ≤ F) (hp : planOk S) : ∀ (m i f t : Nat) (T : Nat → Int32), m + i = planN S → m < f → t + 99 * m < 2 ^ 30 → plK S T → runOk T t → sp_X13_ends_2_L97 G F f (mS h b A L T) b p1 (nI i) = some (mS h b A L (doesL (A 3) S m i T)) ∧ plK S (doesL (A 3) S m i T) := by
  have h8 := hp.1
  intro m
  induction m with
  | zero =>
    intro i f t T hi hf ht hk hr
    obtain ⟨f, rfl⟩ : ∃ z, f = z + 1 := ⟨f - 1, by omega⟩
    refine ⟨?_, hk⟩
    rw [sp_X13_ends_2_L97]
    simp only [s_is, if_true, s_f0, Option.bind_some, s_r_20]
    rw [if_pos (by rw [hk 20 (by omega), hp.2.1]; exact nI_le (by omega) (by omega))]
    rfl
  | succ m ih =>
    intro i f t T hi hf ht hk hr
    obtain ⟨f, rfl⟩ : ∃ z, f = z + 1 := ⟨f - 1, by omega⟩
    have en : ¬ T 20 ≤ nI i := by rw [hk 20 (by omega), hp.2.1]; exact nI_ge (by omega) (by omega)
    have hw := plR_of hp (i := i) (by omega)
    obtain ⟨⟨t', ht', hr'⟩, hk'⟩ := does_ok (C := A 3) (by omega) hw hr
    have e1 : T (355 + 2 * i) = S (355 + 2 * i) := hk _ (by omega)
    have e2 : T (355 + 2 * i + 1) = S (356 + 2 * i) := by rw [hk _ (by omega)]; congr 1; omega
    obtain ⟨k1, k2⟩ := ih (i + 1) f t' (doesF (A 3) (S (355 + 2 * i)) (S (356 + 2 * i)) T) (by omega) (by omega) (by omega) (plK_trans hk hk') hr'
    refine ⟨?_, k2⟩
    rw [sp_X13_ends_2_L97]
    simp only [s_is, if_true, s_f0, Option.bind_some, s_r_20, en, if_false, ix_pl, s_a (355 + 2 * i) (by omega), nI_1, s_a (355 + 2 * i + 1) (by omega), e1, e2, s_does (A := A) hF (show t + 99 < 2 ^ 31 by omega) hw hr]
    exact k1
theorem s_ends2 {t : Nat} {p1 : Int32} (hF : 400 ≤ F) (ht : t < 2 ^ 29) (hp : planOk S) (hS : ¬ S 2 = 0 → runOk S t) : ∃ A', sp_X13_ends_2 G F (mS h b A L S) b p1 = some ((endsR (A 3) S (A 9 1) p1).1, mS h b A' L S) ∧ mR A A' (endsR (A 3) S (A 9 1) p1).2 := by
  have h8 := hp.1
  unfold sp_X13_ends_2
  simp only [i_isIn, Option.bind_some, b0]
  rcases (Classical.em (inB p1 0 1)).symm with h1 | h1
  · have eR : endsR (A 3) S (A 9 1) p1 = (-1, A 9 1) := if_pos h1
    rw [eR, if_pos h1]
    exact ⟨A, rfl, mR_refl⟩
  rw [if_neg (fun hh => hh h1)]
  simp only [s_is, if_true, s_f0, Option.bind_some, s_r_2, s_plSum (show 40 ≤ F by omega) hp]
  by_cases h2 : S 2 = 0
  · have eR : endsR (A 3) S (A 9 1) p1 = (-3, A 9 1) := by unfold endsR; rw [if_neg (fun hh => hh h1), if_pos h2]
    rw [eR, if_pos h2]
    exact ⟨A, rfl, mR_refl⟩
  rw [if_neg h2]
  simp only [s_counts, b0, Option.bind_some]
  generalize hz : plSum S (planN S) 0 0 = z
  have hcc := mR_cnt (A := A) (n := z)
  by_cases h3 : A 9 1 + z ≤ 12000
  · have eR : endsR (A 3) S (A 9 1) p1 = (doesL (A 3) S (planN S) 0 S (if p1 = 0 then 7 else 8), A 9 1 + z) := by
      unfold endsR
      rw [hz, if_neg (fun hh => hh h1), if_neg h2, if_neg (fun hh => hh h3)]
    rw [cnt_y h3] at hcc
    have hm3 : mindA (cntA A z) S 3 = A 3 := cntA_3
    obtain ⟨e1, e2⟩ := s_doesL (G := G) (F := F) (h := h) (b := b) (A := mindA (cntA A z) S) (L := L) (p1 := p1) hF hp (planN S) 0 F t S (by omega) (by omega) (by omega) plK_refl (hS h2)
    rw [hm3] at e1 e2
    have e1' : sp_X13_ends_2_L97 G F F (mS h b (va_up (cntA A z) 2 (cp S (cntA A z 2))) L S) b p1 0 = some (mS h b (va_up (cntA A z) 2 (cp S (cntA A z 2))) L (doesL (A 3) S (planN S) 0 S)) := e1
    rw [eR, if_neg (fun hh => hh h3)]
    refine ⟨mindA (cntA A z) S, ?_, mR_mind hcc⟩
    simp only [s_is, if_true, s_f0, Option.bind_some, s_thinks (show 373 < F by omega), e1', s_forget (show 373 < F by omega) (fun k hk => e2 k (by omega))]
    by_cases h4 : p1 = 0
    · simp only [h4, if_true, Option.bind_some, s_r_7]
      rfl
    · simp only [h4, if_false, Option.bind_some, s_r_8]
      rfl
  · have eR : endsR (A 3) S (A 9 1) p1 = (-4, A 9 1) := by
      unfold endsR
      rw [hz, if_neg (fun hh => hh h1), if_neg h2, if_pos h3]
    rw [cnt_n h3] at hcc
    rw [eR, if_pos h3]
    exact ⟨cntA A z, rfl, hcc⟩
end R10
