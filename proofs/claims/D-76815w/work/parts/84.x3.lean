/-! x3: the class's calls: cycle, emergency, safety, goes, signal, phase -/
set_option maxRecDepth 100000
def clT (S : Nat → Int32) : Nat → Int32 := fun k => clearV S (k / 8) (k % 8)
section X3
variable {G : gG} {F n bx : Nat} {h : gH} {c : Nat → Int32} {S : Nat → Int32} {J : Nat → Nat → Int32} {Q : Nat → Nat → Int64}
theorem sb0 {u : Int32} {k : Nat} {f : Nat → Int32} (hn : bx + 106 ≤ n) (hk : k < 100) (h0 : 0 < k) (hu : u = 0 ∨ u = 1) : gSb 3 (wh G (xo (va_up h n (some (.inl (3, k, .inl f)))) bx c) (bx + 1) S J Q) n 0 u = some (wh G (xo (va_up h n (some (.inl (3, k, .inl (upd f 0 u))))) bx c) (bx + 1) S J Q) := v_sb (i := 0) hn hk h0 hu
theorem sb1 {u : Int32} {k : Nat} {f : Nat → Int32} (hn : bx + 106 ≤ n) (hk : k < 100) (h0 : 1 < k) (hu : u = 0 ∨ u = 1) : gSb 3 (wh G (xo (va_up h n (some (.inl (3, k, .inl f)))) bx c) (bx + 1) S J Q) n 1 u = some (wh G (xo (va_up h n (some (.inl (3, k, .inl (upd f 1 u))))) bx c) (bx + 1) S J Q) := v_sb (i := 1) hn hk h0 hu
theorem sb2 {u : Int32} {k : Nat} {f : Nat → Int32} (hn : bx + 106 ≤ n) (hk : k < 100) (h0 : 2 < k) (hu : u = 0 ∨ u = 1) : gSb 3 (wh G (xo (va_up h n (some (.inl (3, k, .inl f)))) bx c) (bx + 1) S J Q) n 2 u = some (wh G (xo (va_up h n (some (.inl (3, k, .inl (upd f 2 u))))) bx c) (bx + 1) S J Q) := v_sb (i := 2) hn hk h0 hu
theorem sb3 {u : Int32} {k : Nat} {f : Nat → Int32} (hn : bx + 106 ≤ n) (hk : k < 100) (h0 : 3 < k) (hu : u = 0 ∨ u = 1) : gSb 3 (wh G (xo (va_up h n (some (.inl (3, k, .inl f)))) bx c) (bx + 1) S J Q) n 3 u = some (wh G (xo (va_up h n (some (.inl (3, k, .inl (upd f 3 u))))) bx c) (bx + 1) S J Q) := v_sb (i := 3) hn hk h0 hu
theorem sb4 {u : Int32} {k : Nat} {f : Nat → Int32} (hn : bx + 106 ≤ n) (hk : k < 100) (h0 : 4 < k) (hu : u = 0 ∨ u = 1) : gSb 3 (wh G (xo (va_up h n (some (.inl (3, k, .inl f)))) bx c) (bx + 1) S J Q) n 4 u = some (wh G (xo (va_up h n (some (.inl (3, k, .inl (upd f 4 u))))) bx c) (bx + 1) S J Q) := v_sb (i := 4) hn hk h0 hu
theorem all2 {P R : Prop} [Decidable P] [Decidable R] {f : Nat → Int32} : allN (upd (upd f 0 (if P then 1 else 0)) 1 (if R then 1 else 0)) 2 0 = decide (P ∧ R) := by
  by_cases hp : P <;> by_cases hr : R <;> simp [allN, upd, hp, hr]
theorem all3 {P R T : Prop} [Decidable P] [Decidable R] [Decidable T] {f : Nat → Int32} : allN (upd (upd (upd f 0 (if P then 1 else 0)) 1 (if R then 1 else 0)) 2 (if T then 1 else 0)) 3 0 = decide (P ∧ R ∧ T) := by
  by_cases hp : P <;> by_cases hr : R <;> by_cases ht : T <;> simp [allN, upd, hp, hr, ht]
theorem bI_f {P : Prop} [Decidable P] : (bI (decide P) = 0) = ¬ P := by
  by_cases hp : P <;> simp [bI, hp]
theorem v_cycle {p1 p2 p3 : Int32} (hF : 100 ≤ F) (hn : bx + 106 ≤ n) (hr : rtN J < 24) : ∃ h' n', sp_X0_cycle G F (wh G (xo h bx c) (bx + 1) S J Q) n bx p1 p2 p3 = some ((cycleR S p1 p2 p3).1, wh G (xo h' bx c) (bx + 1) (cycleR S p1 p2 p3).2 J Q, n') ∧ hUp h h' n n' := by
  unfold sp_X0_cycle cycleR
  by_cases h0 : p1 = 0
  · refine ⟨h, n, ?_, hUp_refl⟩
    rw [if_pos h0, if_pos h0]
    simp only [v_f0, x_f10, x_p10 _ hr, x_p11 _ hr, x_p12 _ hr, Option.bind_some, h0, if_true]
    unfold cycF
    simp only [if_true]
  · simp only [h0, if_false]
    simp only [v_up hn, i_in_20_240, i_in_0v, i_in_1v, Option.bind_some, sb0 hn (show 3 < 100 by decide) (by decide) if01, sb1 hn (show 3 < 100 by decide) (by decide) if01, sb2 hn (show 3 < 100 by decide) (by decide) if01, v_are hF hn (show 3 < 90 by decide), all3, bI_f]
    refine ⟨va_up h n (some (.inl (3, 3, .inl (upd (upd (upd (fun _ => 0) 0 (if inB p1 20 240 then 1 else 0)) 1 (if inB p2 0 (p1 - 1) then 1 else 0)) 2 (if inB p3 1 p1 then 1 else 0))))), n + 1, ?_, hUp_1⟩
    by_cases hc : inB p1 20 240 ∧ inB p2 0 (p1 - 1) ∧ inB p3 1 p1
    · rw [if_neg (fun hh => hh hc), if_neg (show ¬ ¬ inB p1 20 240 from fun hh => hh hc.1), if_neg (show ¬ ¬ inB p2 0 (p1 - 1) from fun hh => hh hc.2.1), if_neg (show ¬ ¬ inB p3 1 p1 from fun hh => hh hc.2.2)]
      simp only [v_f0, x_f10, x_p10 _ hr, x_p11 _ hr, x_p12 _ hr, Option.bind_some, h0, if_false]
      unfold cycF
      simp only [h0, if_false]
    · rw [if_pos hc]
      by_cases h1 : inB p1 20 240
      · rw [if_neg (show ¬ ¬ inB p1 20 240 from fun hh => hh h1)]
        by_cases h2 : inB p2 0 (p1 - 1)
        · rw [if_neg (show ¬ ¬ inB p2 0 (p1 - 1) from fun hh => hh h2), if_pos (show ¬ inB p3 1 p1 from fun hh => hc ⟨h1, h2, hh⟩)]
        · rw [if_pos (show ¬ inB p2 0 (p1 - 1) from h2)]
      · rw [if_pos (show ¬ inB p1 20 240 from h1)]
theorem firstV_v (hp : pOk S) {a : Int32} : firstV S a = -5 ∨ ∃ q, q < phN S ∧ firstV S a = nI q := by
  have key : ∀ (m i : Nat), m + i = phN S → fwL S a m i = -5 ∨ ∃ q, q < phN S ∧ fwL S a m i = nI q := by
    intro m
    induction m with
    | zero => intro i _; exact Or.inl rfl
    | succ m ih =>
      intro i hi
      rw [fwL]
      by_cases h1 : hasB (S (pA i 0)) a
      · rw [if_pos h1]; exact Or.inr ⟨i, by omega, rfl⟩
      · rw [if_neg h1]; exact ih (i + 1) (by omega)
  exact key (phN S) 0 (by omega)
theorem v_emergency {p1 : Int32} (hF : 100 ≤ F) (hn : bx + 106 ≤ n) (hr : rtN J < 24) (hc : cntOk S) (hg : negOk S) : ∃ h' n', sp_X0_emergency G F (wh G (xo h bx c) (bx + 1) S J Q) n bx p1 = some ((emergencyR S p1).1, wh G (xo h' bx c) (bx + 1) (emergencyR S p1).2 J Q, n') ∧ hUp h h' n n' := by
  obtain ⟨h1, h2, h3, h4, h5, h6⟩ := hc
  have h66 := h2.1
  unfold sp_X0_emergency
  simp only [v_is, if_true, v_isSignal, Option.bind_some, b0]
  rcases (Classical.em (inB p1 0 (S 13 - 1))).symm with g1 | g1
  · have eR : emergencyR S p1 = (-1, S) := if_pos g1
    exact ⟨h, n, by simp only [g1, not_false_eq_true, if_true, eR], hUp_refl⟩
  have hp6 : pOk (upd S 6 p1) := by
    unfold pOk phN at *
    rw [upd_ne (by decide)]
    exact h2
  have e6 : (if S 6 = (-5 : Int32) then some (1 : Int32) else some 0) = some (if S 6 = -5 then 1 else 0) := by split <;> rfl
  have eF : (if firstV S p1 = (-5 : Int32) then some (0 : Int32) else some 1) = some (if ¬ firstV S p1 = -5 then 1 else 0) := by
    by_cases hh : firstV S p1 = -5
    · rw [if_pos hh, if_neg (fun h => h hh)]
    · rw [if_neg hh, if_pos hh]
  have e2 : S 2 = if S 2 = 1 then 1 else 0 := by
    rcases h6 with h | h <;> rw [h] <;> decide
  simp only [eq_true g1, not_true_eq_false, if_false, v_up hn, v_f0, x_f0, x_f4, x_is, if_true, Option.bind_some, sb0 hn (show 3 < 100 by decide) (by decide) h6, e6, sb1 hn (show 3 < 100 by decide) (by decide) if01, x_phaseWith (show 40 ≤ F by omega) h2, eF, sb2 hn (show 3 < 100 by decide) (by decide) if01, v_are hF hn (show 3 < 90 by decide), sp_X1_comesToEmergency, x_p4 _ hr]
  have eall : allN (upd (upd (upd (fun _ => 0) 0 (S 2)) 1 (if S 6 = -5 then 1 else 0)) 2 (if ¬ firstV S p1 = -5 then 1 else 0)) 3 0 = decide (S 2 = 1 ∧ S 6 = -5 ∧ ¬ firstV S p1 = -5) := by rw [← all3 (f := fun _ => 0), ← e2]
  simp only [eall, bI_f]
  refine ⟨va_up h n (some (.inl (3, 3, .inl (upd (upd (upd (fun _ => 0) 0 (S 2)) 1 (if S 6 = -5 then 1 else 0)) 2 (if ¬ firstV S p1 = -5 then 1 else 0))))), n + 1, ?_, hUp_1⟩
  by_cases hall : S 2 = 1 ∧ S 6 = -5 ∧ ¬ firstV S p1 = -5
  · obtain ⟨a1, a2, a3⟩ := hall
    obtain ⟨q, hq, eq⟩ := (firstV_v h2).resolve_left a3
    have eR : emergencyR S p1 = (firstV S p1, upd S 6 p1) := by
      unfold emergencyR
      rw [if_neg (fun hh => hh g1), if_neg (by rw [a1]; decide), if_neg (by rw [a2]; decide), if_pos (by rw [eq]; exact nI_pos' (by omega))]
    rw [eR, if_neg (fun hh => hh ⟨a1, a2, a3⟩), if_pos a2, if_neg a3]
    simp only [Option.bind_some, v_f0, x_is, if_true, x_phaseWith (show 40 ≤ F by omega) hp6, firstV_upd (show 6 ≠ 14 by decide) (show 6 < 216 by decide) h2]
  · have eR : emergencyR S p1 = (-3, S) := by
      unfold emergencyR
      rw [if_neg (fun hh => hh g1)]
      by_cases a1 : S 2 = 0
      · rw [if_pos a1]
      · rw [if_neg a1]
        by_cases a2 : 0 ≤ S 6
        · rw [if_pos a2]
        · rw [if_neg a2]
          have a2' : S 6 = -5 := hg.2 (Int32.not_le.mp a2)
          have a3 : firstV S p1 = -5 := by
            apply Classical.byContradiction
            intro hh
            exact hall ⟨h6.resolve_left a1, a2', hh⟩
          rw [a3, if_neg (by decide)]
    rw [eR, if_pos hall]
theorem v_safety {p1 : Int32} (hF : 40 ≤ F) (hG : gI4 G) (hS : setOk S) (hc : cntOk S) (hW : wOk S J Q) : ∃ K, sp_X0_safety G F (wh G (xo h bx c) (bx + 1) S J Q) bx p1 = some ((safetyR S p1).1, wh G (xo h bx c) (bx + 1) (safetyR S p1).2 K Q) ∧ wOk (safetyR S p1).2 K Q ∧ setOk (safetyR S p1).2 := by
  have hr := hW.1.1
  obtain ⟨h1, h2, h3, h4⟩ := hS
  unfold sp_X0_safety safetyR
  simp only [i_in_0_5, Option.bind_some, b0]
  rcases (Classical.em (inB p1 0 5)).symm with g1 | g1
  · refine ⟨J, ?_⟩
    simp only [g1, not_false_eq_true, if_true]
    exact ⟨trivial, hW, h1, h2, h3, h4⟩
  simp only [eq_true g1, not_true_eq_false, if_false, v_f0, x_f0, x_f9, x_p9 _ hr, Option.bind_some, x_is, if_true]
  by_cases g2 : S 2 = 0
  · have g2' : ¬ S 2 = 1 := by rw [g2]; decide
    obtain ⟨s, hs, rfl⟩ : ∃ k, k < 6 ∧ p1 = nI k := in_nI (m := 6) (by decide) g1
    have em : manyN (upd S 1 (nI s)) = manyN S := many_upd (by decide)
    have k1 : mOk (upd S 1 (nI s)) := by unfold mOk; rw [em, upd_ne (by decide)]; exact h1
    have k2 : rowOk (upd S 1 (nI s)) := by
      intro a ha
      have := h2 a ha
      unfold sigOk at this ⊢
      rw [upd_ne (by unfold sA; omega), upd_ne (by unfold sA; omega)]
      exact this
    have k3 : safeOk (upd S 1 (nI s)) := ⟨s, by omega, upd_eq⟩
    have k4 : cellOk (upd S 1 (nI s)) := by
      intro a ha i hi
      rw [em] at ha
      have ec : cellsN (upd S 1 (nI s)) a = cellsN S a := by unfold cellsN; rw [upd_ne (by unfold sA; omega)]
      rw [ec] at hi
      rw [upd_ne (by unfold sA; omega)]
      exact h4 a ha i hi
    obtain ⟨w1, w2, w3, w4, w5⟩ := hW
    have k5 : bsOk (upd S 1 (nI s)) Q := by
      intro a ha z hz
      rw [em] at ha
      rw [placeV_keep (fun w _ _ => upd_ne (by unfold sA; omega)) (h2 a (by have := h1.1; omega)).cells.1]
      exact w4 a ha z hz
    obtain ⟨K, e1, e2, e3⟩ := x_settles (G := G) (h := xo h bx c) (b := bx + 1) (J := J) hF hG k1 k2 k3 k4 w3 k5
    refine ⟨K, ?_⟩
    simp only [g2, if_true, show ¬ (0 : Int32) = 1 by decide, if_false, e1, Option.bind_some]
    refine ⟨trivial, ?_, k1, k2, k3, k4⟩
    have e16 : K 0 = J 0 := e2 0 (by decide)
    refine ⟨?_, ?_, bsAll_jC e2 w3, k5, e3⟩
    · unfold jOk rtN; rw [e16]; exact w1
    · unfold rrOk rtN recN at *
      rw [e16, upd_ne (by decide)]
      exact w2
  · have g2' : S 2 = 1 := hc.2.2.2.2.2.resolve_left g2
    refine ⟨J, ?_⟩
    simp only [g2', if_true, show ¬ (1 : Int32) = 0 by decide, if_false]
    exact ⟨trivial, hW, h1, h2, h3, h4⟩
theorem v_goes {p1 p2 : Int32} (hF : 40 ≤ F) (hG : gI4 G) (hS : setOk S) (hW : wOk S J Q) : ∃ K R, sp_X0_goes G F (wh G (xo h bx c) (bx + 1) S J Q) bx p1 p2 = some ((goesR S p1 p2).1, wh G (xo h bx c) (bx + 1) (goesR S p1 p2).2 K R) ∧ wOk (goesR S p1 p2).2 K R ∧ setOk (goesR S p1 p2).2 := by
  have hm := hS.1
  have hro := hS.2.1
  unfold sp_X0_goes goesR
  simp only [v_is, if_true, v_isSignal, i_in_0_63, Option.bind_some, b0]
  rcases (Classical.em (inB p1 0 (S 13 - 1))).symm with h1 | h1
  · refine ⟨J, Q, ?_⟩
    simp only [h1, not_false_eq_true, if_true]
    exact ⟨trivial, hW, hS⟩
  simp only [eq_true h1, not_true_eq_false, if_false]
  rw [hm.2] at h1
  obtain ⟨a, ha, rfl⟩ : ∃ k, k < manyN S ∧ p1 = nI k := in_nI (by have := hm.1; omega) h1
  have h8 := hm.1
  have ha8 : a < 8 := by omega
  simp only [v_f0, x_f22, x_a1 ha8, Option.bind_some]
  rcases (Classical.em (inB p2 0 63)).symm with h2 | h2
  · refine ⟨J, Q, ?_⟩
    simp only [h2, not_false_eq_true, if_true]
    exact ⟨trivial, hW, hS⟩
  simp only [eq_true h2, not_true_eq_false, if_false]
  obtain ⟨z, hz, rfl⟩ : ∃ k, k < 64 ∧ p2 = nI k := in_nI (m := 64) (by decide) h2
  have hcl := (hro a ha8).cells
  simp only [x_sg_f2 ha8, x_sgw_is ha8, if_true, x_get hW.2.2.1 hW.2.2.2.1 ha8 ha hz, Option.bind_some, b0, x_f14, x_sg_f4 ha8 ha, x_sg_is ha8, nI_c (show a < 2 ^ 31 by omega)]
  rcases placeV_c (S := S) (a := a) (x := nI z) hcl.1 with ⟨p1', -, p2'⟩ | ⟨j, hj, -, p1', p2'⟩
  · have p1'' : ¬ ¬ placeV S a (nI z) < 0 := fun hh => hh p1'
    simp only [p2', not_false_eq_true, if_true, p1'', if_false]
    by_cases h4 : S 14 ≤ 0
    · have h4' : ¬ ¬ S 14 ≤ 0 := fun hh => hh h4
      simp only [h4, if_true, not_true_eq_false, if_false]
      by_cases h5 : S (sA a 11) = 8
      · refine ⟨J, Q, ?_⟩
        simp only [h5, if_true]
        exact ⟨trivial, hW, hS⟩
      · have hc8 : cellsN S a < 8 := by
          rcases Nat.lt_or_ge (cellsN S a) 8 with h | h
          · exact h
          · exact absurd (by rw [hcl.2, show cellsN S a = 8 by omega]; rfl) h5
        obtain ⟨K, e1, e2, e3⟩ := x_goMore (G := G) (h := xo h bx c) (b := bx + 1) (F := F) hF hG hS hW ha hc8 rfl hz
        have hm' : a < manyN (goesOnF S a (nI z)) := by rw [gm_many ha8 rfl]; exact ha
        have e11 : goesOnF S a (nI z) (sA a 11) = nI (cellsN S a + 1) := upd_eq
        refine ⟨K, gmQ Q a z, ?_⟩
        simp only [h5, if_false, e1, Option.bind_some, v_f0, x_is, if_true, e2, x_sg_f4 ha8 hm', e11]
        exact ⟨trivial, e3, gm_setOk hS ha hc8 rfl hz⟩
    · refine ⟨J, Q, ?_⟩
      simp only [h4, if_false, not_false_eq_true, if_true]
      exact ⟨trivial, hW, hS⟩
  · refine ⟨J, Q, ?_⟩
    simp only [p2', not_true_eq_false, if_false, p1', not_false_eq_true, if_true]
    exact ⟨trivial, hW, hS⟩
end X3
