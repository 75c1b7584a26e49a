/-! x11: plans: ends (class) -/
set_option maxRecDepth 100000
section X11
variable {G : gG} {F n bx : Nat} {h X : gH} {c : Nat → Int32} {S C T : Nat → Int32} {J K : Nat → Nat → Int32} {Q R : Nat → Nat → Int64} {A : Nat → Nat → Int32}
theorem q_f0 : gGr 0 (wh G (wh G (xo h bx c) (bx + 1) S J Q) (bx + 106) T K R) bx 0 = some (bx + 1) := by
  rw [show gGr 0 (wh G (wh G (xo h bx c) (bx + 1) S J Q) (bx + 106) T K R) bx 0 = gGr 0 (wh G (xo h bx c) (bx + 1) S J Q) bx 0 from o_gGr (by omega), v_f0]
theorem q_f7 : gGr 0 (wh G (wh G (xo h bx c) (bx + 1) S J Q) (bx + 106) T K R) bx 7 = some (bx + 322) := by
  rw [show gGr 0 (wh G (wh G (xo h bx c) (bx + 1) S J Q) (bx + 106) T K R) bx 7 = gGr 0 (wh G (xo h bx c) (bx + 1) S J Q) bx 7 from o_gGr (by omega), v_f7]
theorem q_is : gIs 0 (wh G (wh G (xo h bx c) (bx + 1) S J Q) (bx + 106) T K R) bx = true := by
  rw [show gIs 0 (wh G (wh G (xo h bx c) (bx + 1) S J Q) (bx + 106) T K R) bx = gIs 0 (wh G (xo h bx c) (bx + 1) S J Q) bx from o_gIs (by omega), v_is]
theorem q_gi {i : Nat} : gGi 1 (wh G (wh G (xo h bx c) (bx + 1) S J Q) (bx + 106) T K R) (bx + 1) i = gGi 1 (wh G (xo h bx c) (bx + 1) S J Q) (bx + 1) i := o_gGi (by omega)
theorem q_gr {i : Nat} : gGr 1 (wh G (wh G (xo h bx c) (bx + 1) S J Q) (bx + 106) T K R) (bx + 1) i = gGr 1 (wh G (xo h bx c) (bx + 1) S J Q) (bx + 1) i := o_gGr (by omega)
theorem q_a6 {i : Int32} : gAi 0 (wh G (wh G (xo h bx c) (bx + 1) S J Q) (bx + 106) T K R) (bx + 1 + 6) i = gAi 0 (wh G (xo h bx c) (bx + 1) S J Q) (bx + 1 + 6) i := o_gAi (by omega)
theorem q_a7 {i : Int32} : gAi 0 (wh G (wh G (xo h bx c) (bx + 1) S J Q) (bx + 106) T K R) (bx + 1 + 7) i = gAi 0 (wh G (xo h bx c) (bx + 1) S J Q) (bx + 1 + 7) i := o_gAi (by omega)
theorem ix_2 (i : Nat) : (2 : Int32) * nI i = nI (2 * i) := by
  show nI 2 * nI i = _
  rw [pk_mul]
theorem g_does {b t : Nat} {w x : Int32} (hF : 200 ≤ F) (hG : gI4 G) (ht : t + 99 < 2 ^ 31) (hw : plR w x) (hph : phsOk T) (h2 : ¬ T 2 = 0) (hg : goOk C T K R t) : ∃ K' t', sp_X0_does G F (wh G X b T K R) b w x = some (wh G X b (doesF C w x T) K' R) ∧ t' ≤ t + 99 ∧ goOk C (doesF C w x T) K' R t' := by
  have hr := hg.2.2.1
  have hrt := hg.1.1
  unfold sp_X0_does doesF
  rcases hw with ⟨e, k, hk, ex⟩ | ⟨e, k, hk, ex⟩ | e | ⟨e, k, hk, ex⟩ <;> subst e
  · obtain ⟨K', e1, e2⟩ := g_passes (G := G) (F := F) (h := X) (b := b) (m := k) (t := t) (by omega) (by omega) hG (by omega) hg
    rw [ex]
    simp only [if_true, x_is, e1, Option.bind_some, nI_c (show k < 2 ^ 31 by omega)]
    exact ⟨K', t + k, rfl, by omega, e2⟩
  · simp only [show ¬ (1 : Int32) = 0 by decide, if_false, if_true, x_is, sp_X1_comesToEmergency, x_f4, x_phaseWith (show 40 ≤ F by omega) hr.1.2.1, x_p4 _ hrt, Option.bind_some]
    have hm := hr.1.1
    obtain ⟨g1, g2, g3, g4, g5⟩ := id hg
    by_cases h6 : T 6 = -5
    · rw [if_pos h6]
      by_cases hf : firstV T x = -5
      · have eR : emergencyR T x = (-1, T) ∨ emergencyR T x = (-3, T) := by
          unfold emergencyR
          by_cases hin : inB x 0 (T 13 - 1)
          · right
            rw [if_neg (fun hh => hh hin), if_neg h2, if_neg (by rw [h6]; decide), hf, if_neg (by decide)]
          · left
            rw [if_pos hin]
        have eT : (emergencyR T x).2 = T := by rcases eR with e | e <;> rw [e]
        rw [if_pos hf, eT]
        exact ⟨K, t, rfl, by omega, hg⟩
      · obtain ⟨q, hq, eq⟩ := (firstV_v hr.1.2.1 (a := x)).resolve_left hf
        have hkm : k < manyN T := by
          rcases Nat.lt_or_ge k (manyN T) with h | h
          · exact h
          · exact absurd (by rw [ex]; exact first_hi hph h (by omega)) hf
        have hp6 := hr.1.2.1.1
        have h8 := hm.1
        have eR : emergencyR T x = (firstV T x, upd T 6 x) := by
          unfold emergencyR
          rw [if_neg (fun hh => hh (by rw [ex, hm.2]; exact (in_lt (by omega) (by omega)).mpr hkm)), if_neg h2, if_neg (by rw [h6]; decide), if_pos (by rw [eq]; exact nI_pos' (by omega))]
        rw [if_neg hf, eR]
        refine ⟨K, t, rfl, by omega, g1, rrOk_15 (show upd T 6 x 15 = T 15 from upd_ne (by decide)) g2, runOk_6 hr (Or.inr ⟨by rw [ex]; exact nI_nn (by omega), q, hq, eq⟩), clOk_keep (many_upd (by decide)) g4, g5⟩
    · have h6' : 0 ≤ T 6 := Int32.not_lt.mp (fun hh => h6 (hr.2.1.2 hh))
      have eT : (emergencyR T x).2 = T := by
        unfold emergencyR
        by_cases hin : inB x 0 (T 13 - 1)
        · rw [if_neg (fun hh => hh hin), if_neg h2, if_pos h6']
        · rw [if_pos hin]
      rw [if_neg h6, eT]
      exact ⟨K, t, rfl, by omega, hg⟩
  · obtain ⟨g1, g2, g3, g4, g5⟩ := id hg
    simp only [show ¬ (2 : Int32) = 0 by decide, show ¬ (2 : Int32) = 1 by decide, if_false, if_true, x_p4 _ hrt, Option.bind_some]
    exact ⟨K, t, rfl, by omega, g1, rrOk_15 (upd_ne (by decide)) g2, runOk_6 hr (Or.inl rfl), clOk_keep (many_upd (by decide)) g4, g5⟩
  · obtain ⟨g1, g2, g3, g4, g5⟩ := id hg
    have hm := hr.1.1
    have h8 := hm.1
    simp only [show ¬ (3 : Int32) = 0 by decide, show ¬ (3 : Int32) = 1 by decide, show ¬ (3 : Int32) = 2 by decide, if_false, x_f13, Option.bind_some, x_f22]
    by_cases hin : inB x 0 (T 13 - 1)
    · have hkm : k < manyN T := by
        have hin' := hin
        rw [ex, hm.2] at hin'
        exact (in_lt (by omega) (by omega)).mp hin'
      have en : ¬ T 13 ≤ nI k := by rw [hm.2]; exact nI_ge hkm (by omega)
      rw [if_pos hin, ex, nI_c (by omega), if_neg en]
      simp only [x_a1 (show k < 8 by omega), x_sg_p5 _ hrt (show k < 8 by omega) hkm, Option.bind_some]
      exact ⟨K, t, rfl, by omega, g1, rrOk_15 (upd_ne (by unfold sA; omega)) g2, runOk_q0 hr hkm, clOk_keep many_s g4, g5⟩
    · have hkm : ¬ k < manyN T := fun hh => hin (by rw [ex, hm.2]; exact (in_lt (by omega) (by omega)).mpr hh)
      have en : T 13 ≤ nI k := by rw [hm.2]; exact nI_le (by omega) (by omega)
      rw [if_neg hin, ex, if_pos en]
      exact ⟨K, t, rfl, by omega, hg⟩
theorem v_plSum {p1 : Int32} (hF : 40 ≤ F) (hp : planOk S) : sp_X0_ends_L29 G F (wh G (xo h bx c) (bx + 1) S J Q) F bx p1 0 0 = some (plSum S (planN S) 0 0) := by
  have h8 := hp.1
  have key : ∀ (m i f : Nat) (acc : Int32), m + i = planN S → m < f → sp_X0_ends_L29 G F (wh G (xo h bx c) (bx + 1) S J Q) f bx p1 acc (nI i) = some (plSum S m i acc) := by
    intro m
    induction m with
    | zero =>
      intro i f acc hi hf
      obtain ⟨f, rfl⟩ : ∃ z, f = z + 1 := ⟨f - 1, by omega⟩
      rw [sp_X0_ends_L29]
      simp only [v_f0, x_f21, Option.bind_some]
      rw [if_pos (by rw [hp.2.1]; exact nI_le (by omega) (by omega))]
      rfl
    | succ m ih =>
      intro i f acc hi hf
      obtain ⟨f, rfl⟩ : ∃ z, f = z + 1 := ⟨f - 1, by omega⟩
      have en : ¬ S 20 ≤ nI i := by rw [hp.2.1]; exact nI_ge (by omega) (by omega)
      rw [sp_X0_ends_L29]
      simp only [v_f0, x_f21, x_f28, Option.bind_some, en, if_false, ix_2, x_a7 (show 2 * i < 16 by omega), nI_1, x_a7 (show 2 * i + 1 < 16 by omega), plSum]
      by_cases h1 : S (355 + 2 * i) = 0
      · rw [if_pos h1, if_pos h1, show 355 + (2 * i + 1) = 356 + 2 * i by omega]
        exact ih (i + 1) f _ (by omega) (by omega)
      · rw [if_neg h1, if_neg h1]
        exact ih (i + 1) f _ (by omega) (by omega)
  exact key (planN S) 0 F 0 (by omega) (by omega)
theorem v_doesL {p1 : Int32} (hF : 200 ≤ F) (hG : gI4 G) (hp : planOk S) (h2 : ¬ S 2 = 0) (hp6 : phN S ≤ 6) (hph : phsOk S) : ∀ (m i f t : Nat) (T : Nat → Int32) (K : Nat → Nat → Int32), m + i = planN S → m < f → t + 99 * m < 2 ^ 30 → plK S T → goOk C T K R t → ∃ K', sp_X0_ends_L99 G F f (wh G (wh G (xo h bx c) (bx + 1) S J Q) (bx + 106) T K R) bx p1 (bx + 106) (nI i) = some (wh G (wh G (xo h bx c) (bx + 1) S J Q) (bx + 106) (doesL C S m i T) K' R) ∧ bsAll K' R := by
  have h8 := hp.1
  intro m
  induction m with
  | zero =>
    intro i f t T K hi hf ht hk hg
    obtain ⟨f, rfl⟩ : ∃ z, f = z + 1 := ⟨f - 1, by omega⟩
    refine ⟨K, ?_, hg.2.2.2.2⟩
    rw [sp_X0_ends_L99]
    simp only [q_f0, q_gi, x_f21, Option.bind_some]
    rw [if_pos (by rw [hp.2.1]; exact nI_le (by omega) (by omega))]
    rfl
  | succ m ih =>
    intro i f t T K hi hf ht hk hg
    obtain ⟨f, rfl⟩ : ∃ z, f = z + 1 := ⟨f - 1, by omega⟩
    have en : ¬ S 20 ≤ nI i := by rw [hp.2.1]; exact nI_ge (by omega) (by omega)
    have hw := plR_of hp (i := i) (by omega)
    have hk' := (does_ok (C := C) (by omega) hw hg.2.2.1).2
    obtain ⟨K1, t', e1, ht', hg'⟩ := g_does (G := G) (F := F) (X := wh G (xo h bx c) (bx + 1) S J Q) (b := bx + 106) hF hG (show t + 99 < 2 ^ 31 by omega) hw (plK_phs hk hp6 hph) (by rw [hk 2 (by omega)]; exact h2) hg
    obtain ⟨K2, k1, k2⟩ := ih (i + 1) f t' _ K1 (by omega) (by omega) (by omega) (plK_trans hk hk') hg'
    refine ⟨K2, ?_, k2⟩
    have e6 : 355 + (2 * i + 1) = 356 + 2 * i := by omega
    rw [sp_X0_ends_L99]
    simp only [q_f0, q_gi, q_gr, q_a7, x_f21, x_f28, Option.bind_some, en, if_false, ix_2, x_a7 (show 2 * i < 16 by omega), nI_1, x_a7 (show 2 * i + 1 < 16 by omega), e6, e1]
    exact k1
theorem v_ends {t : Nat} {p1 : Int32} (hF : 200 ≤ F) (hG : gI4 G) (ht : t < 2 ^ 29) (htr : trOk G h bx) (hset : setOk S) (hc : cntOk S) (hn : numOk S t) (hp : planOk S) (hph : phsOk S) (hS : ¬ S 2 = 0 → runOk S t) (hW : wOk S J Q) : ∃ c' h', sp_X0_ends G F (wh G (xo h bx c) (bx + 1) S J Q) bx p1 = some ((endsR (tabA A S 3) S (c 3) p1).1, wh G (xo h' bx c') (bx + 1) S J Q) ∧ cR c c' (endsR (tabA A S 3) S (c 3) p1).2 ∧ tUp G h h' bx := by
  have h8 := hp.1
  unfold sp_X0_ends
  simp only [i_in_0_1, Option.bind_some, b0]
  rcases (Classical.em (inB p1 0 1)).symm with h1 | h1
  · have eR : endsR (tabA A S 3) S (c 3) p1 = (-1, c 3) := if_pos h1
    rw [eR, if_pos h1]
    exact ⟨c, h, rfl, cR_refl, tUp_refl htr⟩
  rw [if_neg (fun hh => hh h1)]
  simp only [v_f0, x_f0, Option.bind_some, v_plSum (show 40 ≤ F by omega) hp]
  by_cases h2 : S 2 = 0
  · have eR : endsR (tabA A S 3) S (c 3) p1 = (-3, c 3) := by unfold endsR; rw [if_neg (fun hh => hh h1), if_pos h2]
    rw [eR, if_pos h2]
    exact ⟨c, h, rfl, cR_refl, tUp_refl htr⟩
  rw [if_neg h2]
  simp only [v_is, if_true, v_counts, b0, Option.bind_some]
  generalize hz : plSum S (planN S) 0 0 = z
  by_cases h3 : c 3 + z ≤ 12000
  · have eR : endsR (tabA A S 3) S (c 3) p1 = (doesL (tabA A S 3) S (planN S) 0 S (if p1 = 0 then 7 else 8), c 3 + z) := by
      unfold endsR
      rw [hz, if_neg (fun hh => hh h1), if_neg h2, if_neg (fun hh => hh h3)]
    have hr := hS h2
    obtain ⟨K, R, e1, e2⟩ := v_thought (F := F) (c := upd c 3 (c 3 + z)) (by omega) htr hc hset.2.1 hn hW
    obtain ⟨K', e3, e4⟩ := v_doesL (G := G) (F := F) (h := h) (c := upd c 3 (c 3 + z)) (J := J) (Q := Q) (p1 := p1) hF hG hp h2 hc.2.1.1 hph (planN S) 0 F t S K (by omega) (by omega) (by omega) plK_refl (goOk_of e2 hr (clOk_T (A := A) hset e2))
    have e3' : sp_X0_ends_L99 G F F (wh G (wh G (xo h bx (upd c 3 (c 3 + z))) (bx + 1) S J Q) (bx + 106) S K R) bx p1 (bx + 106) 0 = _ := e3
    rw [eR, if_neg (fun hh => hh h3)]
    simp only [h3, if_true, v_is, e1, e3', Option.bind_some, x_f5, x_f6]
    refine ⟨upd c 3 (c 3 + z), wh G h (bx + 106) (doesL (tabA A S 3) S (planN S) 0 S) K' R, ?_, cR_upd, tUp_wh e4⟩
    rw [← t_back]
    by_cases h4 : p1 = 0
    · rw [if_pos h4, if_pos h4]
    · rw [if_neg h4, if_neg h4]
  · have eR : endsR (tabA A S 3) S (c 3) p1 = (-4, c 3) := by
      unfold endsR
      rw [hz, if_neg (fun hh => hh h1), if_neg h2, if_pos h3]
    rw [eR, if_pos h3]
    simp only [h3, if_false]
    exact ⟨c, h, rfl, cR_refl, tUp_refl htr⟩
end X11
