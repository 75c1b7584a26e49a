/-! x19: phaseOf, recorded, green (both sides); told, way, clear, narrow (class) -/
set_option maxRecDepth 100000
def phaseOfR (S : Nat → Int32) (p1 p2 : Int32) : Int32 := if ¬ inB p1 0 (S 14 - 1) then -1 else if ¬ inB p2 0 3 then -1 else if p2 = 3 then bI (calledB S p1.toNatClampNeg) else S (pA p1.toNatClampNeg p2.toNatClampNeg)
def recordedR (S : Nat → Int32) (p1 p2 : Int32) : Int32 := if ¬ inB p2 0 2 then -1 else if ¬ inB p1 0 (S 15 - 1) then -2 else S (rA (recN S - 1 - p1.toNatClampNeg) p2.toNatClampNeg)
def greenR (S : Nat → Int32) (p1 p2 p3 : Int32) : Int32 × (Nat → Int32) :=
  if p1 = -1 then (0, upd S 18 0) else if ¬ inB p1 0 (S 13 - 1) then (-1, S) else if ¬ (inB p2 0 9998 ∧ p2 < p3 ∧ p3 ≤ 9999) then (-2, S) else if S 18 = 8 then (-4, S) else (nI (tolN S + 1), app3 S (321 + 3 * tolN S) 18 (tolN S) p1 p2 p3)
theorem bI_same {c : Bool} : (if bI c = 0 then some (0 : Int32) else some 1) = some (bI c) := by cases c <;> rfl
theorem told_lt {S : Nat → Int32} (hn : toldOk S) (h : ¬ S 18 = 8) : tolN S < 8 := by
  have := hn.1
  rcases Nat.lt_or_ge (tolN S) 8 with h1 | h1
  · exact h1
  · exact absurd (by rw [hn.2, show tolN S = 8 by omega]; rfl) h
section R19
variable {h : gH} {b : Nat} {A : Nat → Nat → Int32} {L : Nat → Nat → Int64} {S T : Nat → Int32} {G : gG} {F : Nat}
theorem s_isPhase {x : Int32} : sp_X13_isPhase G F (mS h b A L S) b x = some (if inB x 0 (S 14 - 1) then 1 else 0) := by
  unfold sp_X13_isPhase
  simp only [s_is, if_true, s_f0, Option.bind_some, s_r_14, i_isIn]
  rw [if_pos if01]
theorem s_phaseOf {p1 p2 : Int32} (hF : 40 ≤ F) (hm : mOk S) (hp : pOk S) : sp_X13_phaseOf G F (mS h b A L S) b p1 p2 = some (phaseOfR S p1 p2) := by
  have h6 := hp.1
  unfold sp_X13_phaseOf phaseOfR
  simp only [s_is, if_true, s_f0, Option.bind_some, s_isPhase, i_isIn, b0]
  by_cases h1 : inB p1 0 (S 14 - 1)
  · rw [if_neg (nn h1), if_neg (nn h1)]
    by_cases h2 : inB p2 0 3
    · rw [if_neg (nn h2), if_neg (nn h2)]
      have h1' := h1
      rw [hp.2] at h1'
      obtain ⟨k, hk, rfl⟩ : ∃ k, k < phN S ∧ p1 = nI k := in_nI (by omega) h1'
      obtain ⟨w, hw, rfl⟩ : ∃ k, k < 4 ∧ p2 = nI k := in_nI (m := 4) (by decide) h2
      have ei : nI (216 + 3 * k) + nI w = nI (pA k w) := nI_add _ _
      simp only [s_isCalled hF (show k < 6 by omega) hm, Option.bind_some, ix_p, ei, bI_same, nI_c (show k < 2 ^ 31 by omega), nI_c (show w < 2 ^ 31 by omega)]
      by_cases h3 : w = 3
      · rw [h3, if_pos (show (3 : Int32) ≤ nI 3 by decide), if_pos (show nI 3 = 3 from rfl)]
      · rw [if_neg (show ¬ (3 : Int32) ≤ nI w from nI_ge (b := 3) (by omega) (by decide)), if_neg (show ¬ nI w = 3 from fun e => h3 ((nI_eq (b := 3) (by omega) (by decide)).mp e)), s_a (pA k w) (by unfold pA; omega)]
        rfl
    · rw [if_pos h2, if_pos h2]
  · rw [if_pos h1, if_pos h1]
theorem s_recorded {p1 p2 : Int32} (hr : rOk S) : sp_X13_recorded G F (mS h b A L S) b p1 p2 = some (recordedR S p1 p2) := by
  have h24 := hr.1
  unfold sp_X13_recorded recordedR
  simp only [i_isIn, Option.bind_some, b0, s_is, if_true, s_f0, Option.bind_some, s_r_15]
  by_cases h2 : inB p2 0 2
  · rw [if_neg (nn h2), if_neg (nn h2)]
    by_cases h1 : inB p1 0 (S 15 - 1)
    · rw [if_neg (nn h1), if_neg (nn h1)]
      have h1' := h1
      rw [hr.2] at h1'
      obtain ⟨k, hk, rfl⟩ : ∃ k, k < recN S ∧ p1 = nI k := in_nI (by omega) h1'
      obtain ⟨w, hw, rfl⟩ : ∃ k, k < 3 ∧ p2 = nI k := in_nI (m := 3) (by decide) h2
      have e1 : S 15 - 1 - nI k = nI (recN S - 1 - k) := by rw [hr.2, show (1 : Int32) = nI 1 from rfl, pk_sub (by omega), pk_sub (by omega)]
      have ei : ∀ r : Nat, nI (234 + 3 * r) + nI w = nI (rA r w) := fun r => nI_add _ _
      rw [e1]
      unfold sp_X13_recordAt
      simp only [s_is, if_true, s_f0, Option.bind_some, ix_r, ei, s_a (rA (recN S - 1 - k) w) (by unfold rA; omega), nI_c (show k < 2 ^ 31 by omega), nI_c (show w < 2 ^ 31 by omega)]
    · rw [if_pos h1, if_pos h1]
  · rw [if_pos h2, if_pos h2]
theorem ix_tl (k : Nat) : (321 : Int32) + ((3 : Int32) * nI k) = nI (321 + 3 * k) := by
  show nI 321 + nI 3 * nI k = _
  rw [pk_mul, nI_add]
theorem s_green {p1 p2 p3 : Int32} (hn : toldOk S) : sp_X13_green G F (mS h b A L S) b p1 p2 p3 = some ((greenR S p1 p2 p3).1, mS h b A L (greenR S p1 p2 p3).2) := by
  have h8 := hn.1
  unfold sp_X13_green greenR
  simp only [s_is, if_true, s_f0, Option.bind_some, s_w_18, s_isSignal, i_isIn, b0, s_r_18]
  by_cases h0 : p1 = -1
  · rw [if_pos h0, if_pos h0]
  rw [if_neg h0, if_neg h0]
  by_cases h1 : inB p1 0 (S 13 - 1)
  · rw [if_neg (nn h1), if_neg (nn h1)]
    by_cases h2 : inB p2 0 9998
    · rw [if_neg (nn h2)]
      by_cases h3 : p3 ≤ p2
      · rw [if_pos h3, if_pos (fun hh => absurd hh.2.1 (Int32.not_lt.mpr h3))]
      · rw [if_neg h3]
        by_cases h4 : p3 ≤ 9999
        · rw [if_pos h4, if_neg (nn ⟨h2, Int32.not_le.mp h3, h4⟩)]
          by_cases h5 : S 18 = 8
          · rw [if_pos h5, if_pos h5]
          · rw [if_neg h5, if_neg h5]
            have hk := told_lt hn h5
            have e18 : upd (upd (upd S (321 + 3 * tolN S) p1) (321 + 3 * tolN S + 1) p2) (321 + 3 * tolN S + 2) p3 18 = nI (tolN S) := by
              rw [upd_ne (by omega), upd_ne (by omega), upd_ne (by omega)]
              exact hn.2
            have e2 : nI (321 + 3 * tolN S) + 2 = nI (321 + 3 * tolN S + 2) := nI_add _ 2
            rw [hn.2]
            simp only [ix_tl, s_s (321 + 3 * tolN S) _ (by omega), s_is, if_true, s_f0, Option.bind_some, nI_1, e2, s_s (321 + 3 * tolN S + 1) _ (by omega), s_s (321 + 3 * tolN S + 2) _ (by omega), s_r_18, e18, s_w_18, upd_eq]
            rfl
        · rw [if_neg h4, if_pos (fun hh => h4 hh.2.2)]
    · rw [if_pos h2, if_pos (fun hh => h2 hh.1)]
  · rw [if_pos h1, if_pos h1]
end R19
section X19
variable {G : gG} {F n bx : Nat} {h : gH} {b : Nat} {c : Nat → Int32} {S C T I : Nat → Int32} {J K : Nat → Nat → Int32} {Q R : Nat → Nat → Int64}
theorem v_told {t : Nat} {p1 : Int32} (hF : 40 ≤ F) (hG : gI4 G) (ht : t < 2 ^ 31) (hset : setOk S) (hc : cntOk S) (hn : numOk S t) (h10 : 0 ≤ S 10) : sp_X0_told G F (wh G (xo h bx c) (bx + 1) S J Q) bx p1 = some (if inB p1 0 18 then toldV S p1 else -1) := by
  unfold sp_X0_told
  simp only [i_in_0_18, Option.bind_some, b0, v_f0]
  by_cases h1 : inB p1 0 18
  · rw [if_neg (nn h1), if_pos h1, x_told hF hG ht hset.1 hc.2.1 hset.2.1 hn h10 h1]
    rfl
  · rw [if_pos h1, if_neg h1]
theorem told_out {p1 : Int32} (h1 : ¬ inB p1 0 18) : toldV S p1 = -1 := by
  have hne : ∀ k : Nat, k < 19 → ¬ p1 = nI k := fun k hk e => h1 (by rw [e]; exact ⟨nI_pos' (by omega), nI_le (b := 18) (by omega) (by decide)⟩)
  unfold toldV
  rw [if_neg (show ¬ p1 = 0 from hne 0 (by decide)), if_neg (show ¬ p1 = 1 from hne 1 (by decide)), if_neg (show ¬ p1 = 2 from hne 2 (by decide)), if_neg (show ¬ p1 = 3 from hne 3 (by decide)), if_neg (show ¬ p1 = 4 from hne 4 (by decide)), if_neg (show ¬ p1 = 5 from hne 5 (by decide)), if_neg (show ¬ p1 = 6 from hne 6 (by decide)), if_neg (show ¬ p1 = 7 from hne 7 (by decide)), if_neg (show ¬ p1 = 8 from hne 8 (by decide)), if_neg (show ¬ p1 = 9 from hne 9 (by decide)), if_neg (show ¬ p1 = 10 from hne 10 (by decide)), if_neg (show ¬ p1 = 11 from hne 11 (by decide)), if_neg (show ¬ p1 = 12 from hne 12 (by decide)), if_neg (show ¬ p1 = 13 from hne 13 (by decide)), if_neg (show ¬ p1 = 14 from hne 14 (by decide)), if_neg (show ¬ p1 = 15 from hne 15 (by decide)), if_neg (show ¬ p1 = 16 from hne 16 (by decide)), if_neg (show ¬ p1 = 17 from hne 17 (by decide)), if_neg (show ¬ p1 = 18 from hne 18 (by decide))]
theorem v_toldR {t : Nat} {p1 : Int32} (hF : 40 ≤ F) (hG : gI4 G) (ht : t < 2 ^ 31) (hset : setOk S) (hc : cntOk S) (hn : numOk S t) (h10 : 0 ≤ S 10) : sp_X0_told G F (wh G (xo h bx c) (bx + 1) S J Q) bx p1 = some (toldV S p1) := by
  rw [v_told hF hG ht hset hc hn h10]
  by_cases h1 : inB p1 0 18
  · rw [if_pos h1]
  · rw [if_neg h1, told_out h1]
theorem v_way {p1 p2 : Int32} (hset : setOk S) : sp_X0_way G F (wh G (xo h bx c) (bx + 1) S J Q) bx p1 p2 = some (wayR S p1 p2) := by
  have hm := hset.1
  have h8 := hm.1
  unfold sp_X0_way wayR
  simp only [v_is, if_true, v_isSignal, Option.bind_some, b0, v_f0, x_f22]
  by_cases h1 : inB p1 0 (S 13 - 1)
  · rw [if_neg (nn h1), if_neg (nn h1)]
    have h1' := h1
    rw [hm.2] at h1'
    obtain ⟨a, ha, rfl⟩ : ∃ k, k < manyN S ∧ p1 = nI k := in_nI (by omega) h1'
    have ha8 : a < 8 := by omega
    simp only [x_a1 ha8, x_sg_f4 ha8 ha, i_in_0v, Option.bind_some, b0, x_sg_f1 ha8, nI_c (show a < 2 ^ 31 by omega)]
    by_cases h2 : inB p2 0 (S (sA a 11) - 1)
    · rw [if_neg (nn h2), if_neg (nn h2)]
      have hc := (hset.2.1 a ha8).cells
      have h2' := h2
      rw [hc.2] at h2'
      obtain ⟨j, hj, rfl⟩ : ∃ k, k < cellsN S a ∧ p2 = nI k := in_nI (by omega) h2'
      rw [x_c ha8 ha (show j < 8 by omega) hj, nI_c (by omega)]
      rfl
    · rw [if_pos h2, if_pos h2]
  · rw [if_pos h1, if_pos h1]
theorem v_clear {p1 p2 : Int32} (hF : 100 ≤ F) (hn : bx + 106 ≤ n) (hm : mOk S) (hC : clOk C S J) : ∃ h', sp_X0_clear G F (wh G (xo h bx c) (bx + 1) S J Q) n bx p1 p2 = some (clearR C S p1 p2, wh G (xo h' bx c) (bx + 1) S J Q, n + 1) ∧ hUp h h' n (n + 1) := by
  have h8 := hm.1
  unfold sp_X0_clear
  simp only [v_up hn, v_is, if_true, v_isSignal, Option.bind_some, sb0 hn (show 2 < 100 by decide) (by decide) if01, sb1 hn (show 2 < 100 by decide) (by decide) if01, v_are hF hn (show 2 < 90 by decide), all2, bI_f]
  generalize eh : va_up h n (some (Sum.inl (3, 2, Sum.inl (upd (upd (fun _ => 0) 0 (if inB p1 0 (S 13 - 1) then 1 else 0)) 1 (if inB p2 0 (S 13 - 1) then 1 else 0))))) = h'
  have hu : hUp h h' n (n + 1) := by rw [← eh]; exact hUp_1
  refine ⟨h', ?_, hu⟩
  by_cases hin : inB p1 0 (S 13 - 1) ∧ inB p2 0 (S 13 - 1)
  · obtain ⟨g1, g2⟩ := id hin
    have eR : clearR C S p1 p2 = C (8 * p1.toNatClampNeg + p2.toNatClampNeg) := by unfold clearR; rw [if_neg (nn g1), if_neg (nn g2)]
    rw [hm.2] at g1 g2
    obtain ⟨a, ha, rfl⟩ : ∃ k, k < manyN S ∧ p1 = nI k := in_nI (by omega) g1
    obtain ⟨d, hd, rfl⟩ : ∃ k, k < manyN S ∧ p2 = nI k := in_nI (by omega) g2
    rw [eR, if_neg (nn hin), nI_c (by omega), nI_c (by omega)]
    simp only [v_f0, x_is, if_true, x_clearOf (show a < 8 by omega) (show d < 8 by omega), (hC a d ha hd).1, Option.bind_some]
  · have eR : clearR C S p1 p2 = -1 := by
      unfold clearR
      by_cases g1 : inB p1 0 (S 13 - 1)
      · rw [if_neg (nn g1), if_pos (fun hh => hin ⟨g1, hh⟩)]
      · rw [if_pos g1]
    rw [eR, if_pos hin]
theorem v_narrow {p1 p2 : Int32} {A : Nat → Nat → Int32} (hF : 100 ≤ F) (hG : gI4 G) (hn : bx + 106 ≤ n) (hset : setOk S) (hW : wOk S J Q) : ∃ h', sp_X0_narrow G F (wh G (xo h bx c) (bx + 1) S J Q) n bx p1 p2 = some (clearR (tabA A S 4) S p1 p2, wh G (xo h' bx c) (bx + 1) S J Q, n + 1) ∧ hUp h h' n (n + 1) := by
  obtain ⟨hm, hro, hsf, hcl⟩ := id hset
  have h8 := hm.1
  have hC := clOk_tab (A := A) hset hW
  unfold sp_X0_narrow
  simp only [v_up hn, v_is, if_true, v_isSignal, Option.bind_some, sb0 hn (show 2 < 100 by decide) (by decide) if01, sb1 hn (show 2 < 100 by decide) (by decide) if01, v_are hF hn (show 2 < 90 by decide), all2, bI_f]
  generalize eh : va_up h n (some (Sum.inl (3, 2, Sum.inl (upd (upd (fun _ => 0) 0 (if inB p1 0 (S 13 - 1) then 1 else 0)) 1 (if inB p2 0 (S 13 - 1) then 1 else 0))))) = h'
  have hu : hUp h h' n (n + 1) := by rw [← eh]; exact hUp_1
  refine ⟨h', ?_, hu⟩
  by_cases hin : inB p1 0 (S 13 - 1) ∧ inB p2 0 (S 13 - 1)
  · obtain ⟨g1, g2⟩ := id hin
    have eR : clearR (tabA A S 4) S p1 p2 = tabA A S 4 (8 * p1.toNatClampNeg + p2.toNatClampNeg) := by unfold clearR; rw [if_neg (nn g1), if_neg (nn g2)]
    rw [hm.2] at g1 g2
    obtain ⟨a, ha, rfl⟩ : ∃ k, k < manyN S ∧ p1 = nI k := in_nI (by omega) g1
    obtain ⟨d, hd, rfl⟩ : ∃ k, k < manyN S ∧ p2 = nI k := in_nI (by omega) g2
    have ha8 : a < 8 := by omega
    have hd8 : d < 8 := by omega
    have e1 : (8 * a + d) / 8 = a := by omega
    have e2 : (8 * a + d) % 8 = d := by omega
    have eT : tabA A S 4 (8 * a + d) = narrowV S a d := by simp [tabA, clrsA, va_up, show 8 * a + d < 64 by omega, e1, e2]
    have eT3 : tabA A S 3 (8 * a + d) = clearV S a d := by simp [tabA, clrsA, va_up, show 8 * a + d < 64 by omega, e1, e2]
    rw [eR, if_neg (nn hin), nI_c (by omega), nI_c (by omega), eT]
    simp only [v_f0, x_is, if_true, x_meet ha hd hm hC, eT3, Option.bind_some]
    have hneg := clear_neg hro hsf hcl hm ha hd
    by_cases hm2 : clearV S a d < 0
    · have eN : narrowV S a d = -5 := by
        unfold narrowV
        by_cases had : a = d
        · unfold clrV; rw [if_pos had]
        · rw [(clr_share (hro a ha8).cells.1 (hcl a ha) had).2 (fun hs => hneg.mp hm2 ⟨had, hs⟩)]
      rw [if_pos hm2, if_pos rfl, eN]
    · have hsh : a ≠ d ∧ shares S a d := Classical.byContradiction fun hh => hm2 (hneg.mpr hh)
      obtain ⟨j, hj, ej, -, ec, -⟩ := (clr_share (hro a ha8).cells.1 (hcl a ha) hsh.1).1 hsh.2
      have eN : narrowV S a d = S (sA a (12 + j)) := by unfold narrowV; rw [ec]
      have hcl8 := (hro a ha8).cells.1
      rw [if_neg hm2, if_neg (by decide), eN]
      simp only [x_f22, x_a1 ha8, x_a1 hd8, x_sg_f1 ha8, Option.bind_some, x_narrowOf (show 40 ≤ F by omega) hG hro hW.2.2.1 hW.2.2.2.1 hcl ha8 ha hd8 hd, ej, x_c ha8 ha (show j < 8 by omega) hj]
  · have eR : clearR (tabA A S 4) S p1 p2 = -1 := by
      unfold clearR
      by_cases g1 : inB p1 0 (S 13 - 1)
      · rw [if_neg (nn g1), if_pos (fun hh => hin ⟨g1, hh⟩)]
      · rw [if_pos g1]
    rw [eR, if_pos hin]
theorem v_phaseOf {p1 p2 : Int32} (hF : 40 ≤ F) (hm : mOk S) (hp : pOk S) : sp_X0_phaseOf G F (wh G (xo h bx c) (bx + 1) S J Q) bx p1 p2 = some (phaseOfR S p1 p2) := by
  have h6 := hp.1
  unfold sp_X0_phaseOf phaseOfR
  simp only [v_f0, x_f14, x_f23, i_in_0v, i_in_0_3, Option.bind_some, b0]
  by_cases h1 : inB p1 0 (S 14 - 1)
  · rw [if_neg (nn h1), if_neg (nn h1)]
    by_cases h2 : inB p2 0 3
    · rw [if_neg (nn h2), if_neg (nn h2)]
      have h1' := h1
      rw [hp.2] at h1'
      obtain ⟨k, hk, rfl⟩ : ∃ k, k < phN S ∧ p1 = nI k := in_nI (by omega) h1'
      obtain ⟨w, hw, rfl⟩ : ∃ k, k < 4 ∧ p2 = nI k := in_nI (m := 4) (by decide) h2
      have hk6 : k < 6 := by omega
      simp only [x_a2 hk6, x_ph_f0 hk6 hk, x_ph_f1 hk6 hk, x_ph_f2 hk6 hk, x_is, if_true, x_isCalled hF hm hk6 hk, Option.bind_some, bI_same, nI_c (show k < 2 ^ 31 by omega), nI_c (show w < 2 ^ 31 by omega)]
      match w, hw with
      | 0, _ => rfl
      | 1, _ => rfl
      | 2, _ => rfl
      | 3, _ => rfl
    · rw [if_pos h2, if_pos h2]
  · rw [if_pos h1, if_pos h1]
theorem v_recorded {p1 p2 : Int32} (hr : rOk S) (hJ : jOk J) : sp_X0_recorded G F (wh G (xo h bx c) (bx + 1) S J Q) bx p1 p2 = some (recordedR S p1 p2) := by
  have h24 := hr.1
  have hrt := hJ.1
  unfold sp_X0_recorded recordedR
  simp only [i_in_0_2, Option.bind_some, b0, v_f0, x_f15, i_in_0v]
  by_cases h2 : inB p2 0 2
  · rw [if_neg (nn h2), if_neg (nn h2)]
    by_cases h1 : inB p1 0 (S 15 - 1)
    · rw [if_neg (nn h1), if_neg (nn h1)]
      have h1' := h1
      rw [hr.2] at h1'
      obtain ⟨k, hk, rfl⟩ : ∃ k, k < recN S ∧ p1 = nI k := in_nI (by omega) h1'
      obtain ⟨w, hw, rfl⟩ : ∃ k, k < 3 ∧ p2 = nI k := in_nI (m := 3) (by decide) h2
      have em : ∀ x c : Int32, x - x / c * c = modV x c := fun _ _ => rfl
      have e1 : modV (J 0 16 + S 15 - 1 - nI k) 24 = nI ((rtN J + recN S - 1 - k) % 24) := by
        rw [hJ.2, hr.2, nI_add, show (1 : Int32) = nI 1 from rfl, pk_sub (by omega), pk_sub (by omega)]
        exact modV_nI (d := 24) (by omega) (by decide) (by decide)
      have hs : (rtN J + recN S - 1 - k) % 24 < 24 := Nat.mod_lt _ (by decide)
      have hlg : ((rtN J + recN S - 1 - k) % 24 + 24 - rtN J) % 24 = recN S - 1 - k := by omega
      have hl : ((rtN J + recN S - 1 - k) % 24 + 24 - rtN J) % 24 < recN S := by omega
      unfold sp_X1_latest
      simp only [x_is, if_true, x_f24, x_f16, x_f15, Option.bind_some, em, e1, x_a3 hs, x_rc_f0 hs hl, x_rc_f1 hs hl, x_rc_f2 hs hl, hlg, nI_c (show k < 2 ^ 31 by omega), nI_c (show w < 2 ^ 31 by omega)]
      match w, hw with
      | 0, _ => rfl
      | 1, _ => rfl
      | 2, _ => rfl
    · rw [if_pos h1, if_pos h1]
  · rw [if_pos h2, if_pos h2]
theorem i_in_g {p2 p3 : Int32} {H : gH} : sp_X0_in G F H p3.toInt64 (p2.toInt64 + (1 : Int64)) (9999 : Int64) = some (if p2 < p3 ∧ p3 ≤ 9999 then 1 else 0) := by
  have e1 : (p3.toInt64 < p2.toInt64 + 1) = ¬ p2 < p3 := by
    rw [Int64.lt_iff_toInt_lt, Int64.toInt_add, Int32.toInt_toInt64, Int32.toInt_toInt64, Int32.lt_iff_toInt_lt]
    have a1 := p2.toInt_lt
    have a2 := p2.le_toInt
    have e : (p2.toInt + (1 : Int64).toInt).bmod (2 ^ 64) = p2.toInt + 1 := by
      rw [show (1 : Int64).toInt = 1 by decide]
      exact Int.bmod_eq_of_le (by omega) (by omega)
    rw [e]
    exact propext ⟨fun hh => by omega, fun hh => by omega⟩
  unfold sp_X0_in
  rw [show (9999 : Int64) = (9999 : Int32).toInt64 by decide]
  simp only [lg_neg, lg_pos, i64_lt, e1]
  by_cases h1 : p2 < p3
  · rw [if_neg (nn h1)]
    by_cases h2 : (9999 : Int32) < p3
    · rw [if_pos h2, if_neg (fun hh => absurd h2 (Int32.not_lt.mpr hh.2))]
    · rw [if_neg h2, if_pos ⟨h1, Int32.not_lt.mp h2⟩]
  · rw [if_pos h1, if_neg (fun hh => h1 hh.1)]
theorem v_green {p1 p2 p3 : Int32} (hF : 100 ≤ F) (hn : bx + 106 ≤ n) (hro : rowOk S) (hm : mOk S) (ht : toldOk S) (hW : wOk S J Q) : ∃ h' n' K, sp_X0_green G F (wh G (xo h bx c) (bx + 1) S J Q) n bx p1 p2 p3 = some ((greenR S p1 p2 p3).1, wh G (xo h' bx c) (bx + 1) (greenR S p1 p2 p3).2 K Q, n') ∧ hUp h h' n n' ∧ wOk (greenR S p1 p2 p3).2 K Q := by
  unfold sp_X0_green
  by_cases h0 : p1 = -1
  · have eR : greenR S p1 p2 p3 = (0, upd S 18 0) := if_pos h0
    obtain ⟨K, e1, e2⟩ := x_p17 (G := G) (h := xo h bx c) (b := bx + 1) hro hm hW
    rw [eR, if_pos h0]
    simp only [v_f0, e1, Option.bind_some]
    exact ⟨h, n, K, rfl, hUp_refl, e2⟩
  rw [if_neg h0]
  simp only [v_is, if_true, v_isSignal, Option.bind_some, b0]
  by_cases h1 : inB p1 0 (S 13 - 1)
  · rw [if_neg (nn h1)]
    simp only [v_up hn, i_in_0_9998, i_in_g, Option.bind_some, sb0 hn (show 2 < 100 by decide) (by decide) if01, sb1 hn (show 2 < 100 by decide) (by decide) if01, v_are hF hn (show 2 < 90 by decide), all2, bI_f]
    generalize eh : va_up h n (some (Sum.inl (3, 2, Sum.inl (upd (upd (fun _ => 0) 0 (if inB p2 0 9998 then 1 else 0)) 1 (if p2 < p3 ∧ p3 ≤ 9999 then 1 else 0))))) = h'
    have hu : hUp h h' n (n + 1) := by rw [← eh]; exact hUp_1
    by_cases hin : inB p2 0 9998 ∧ p2 < p3 ∧ p3 ≤ 9999
    · rw [if_neg (nn hin)]
      simp only [v_f0, x_f17, x_f25, Option.bind_some]
      by_cases h5 : S 18 = 8
      · have eR : greenR S p1 p2 p3 = (-4, S) := by unfold greenR; rw [if_neg h0, if_neg (nn h1), if_neg (nn hin), if_pos h5]
        rw [eR, if_pos h5]
        exact ⟨h', n + 1, J, rfl, hu, hW⟩
      · have hk := told_lt ht h5
        have eR : greenR S p1 p2 p3 = (nI (tolN S + 1), app3 S (321 + 3 * tolN S) 18 (tolN S) p1 p2 p3) := by unfold greenR; rw [if_neg h0, if_neg (nn h1), if_neg (nn hin), if_neg h5]
        obtain ⟨H1, K, e1, e2, e3, e4, e5⟩ := x_toldMore (G := G) (F := F) (h := xo h' bx c) (b := bx + 1) (p1 := p1) (p2 := p2) (p3 := p3) hW hro hm hk
        have ea : gAr 7 (wh G (xo h' bx c) (bx + 1) S J Q) (bx + 1 + 4) (S 18) = some (tlA (bx + 1) (tolN S)) := by rw [ht.2]; exact x_a4 hk
        have ef : gGr 0 H1 bx 0 = some (bx + 1) := by
          unfold gGr gGv
          rw [e2 bx (by omega), xo_at]
          rfl
        have es : S 18 + 1 = nI (tolN S + 1) := by rw [← nI_1]; exact congrArg (· + 1) ht.2
        have e18 : app3 S (321 + 3 * tolN S) 18 (tolN S) p1 p2 p3 18 = nI (tolN S + 1) := upd_eq
        rw [eR, if_neg h5]
        refine ⟨h', n + 1, K, ?_, hu, e5⟩
        simp only [ea, Option.bind_some, x_tl_is hk, if_true, e1, ef, e3, es, e4, v_f0, x_f17, e18]
    · have eR : greenR S p1 p2 p3 = (-2, S) := by unfold greenR; rw [if_neg h0, if_neg (nn h1), if_pos hin]
      rw [eR, if_pos hin]
      exact ⟨h', n + 1, J, rfl, hu, hW⟩
  · have eR : greenR S p1 p2 p3 = (-1, S) := by unfold greenR; rw [if_neg h0, if_pos h1]
    rw [eR, if_pos h1]
    exact ⟨h, n, J, rfl, hUp_refl, hW⟩
end X19
