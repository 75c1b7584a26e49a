/-! w8: the class's World: isOver, changes -/
set_option maxRecDepth 100000
def ovL (S : Nat → Int32) (s : Int32) : Nat → Nat → Bool → Bool → Bool
  | 0, _, l, d => l || d
  | n + 1, i, l, d => if ¬ hasB s (nI i) then ovL S s n (i + 1) l d else if g1B S 1 i = false then false else ovL S s n (i + 1) (l || g1B S 2 i) (d && g3B S i)
theorem bcL_f {S : Nat → Int32} {s : Int32} (n i : Nat) (l d : Bool) : (bcL S s n i false l d).1 = false := by
  cases e : (bcL S s n i false l d).1
  · rfl
  · exact absurd (bcL_1 _ _ _ _ _ e) (by decide)
theorem ovL_bc {S : Nat → Int32} {s : Int32} : ∀ (n i : Nat) (l d : Bool), ovL S s n i l d = ((bcL S s n i true l d).1 && ((bcL S s n i true l d).2.1 || (bcL S s n i true l d).2.2)) := by
  intro n
  induction n with
  | zero => intro i l d; simp only [ovL, bcL, Bool.true_and]
  | succ n ih =>
    intro i l d
    rw [ovL, bcL]
    by_cases h1 : hasB s (nI i)
    · have h1' : ¬ ¬ hasB s (nI i) := fun hh => hh h1
      rw [if_neg h1', if_neg h1']
      by_cases h2 : g1B S 1 i = false
      · rw [if_pos h2, h2, Bool.and_false, bcL_f, Bool.false_and]
      · have h2' : g1B S 1 i = true := by cases e : g1B S 1 i
                                          · exact absurd e h2
                                          · rfl
        rw [if_neg h2, h2', Bool.and_true]
        exact ih _ _ _
    · rw [if_pos h1, if_pos h1]
      exact ih _ _ _
theorem bcL_c {S : Nat → Int32} {s : Int32} (c : Bool) (n i : Nat) (l d : Bool) : (bcL S s n i c l d).1 = (c && (bcL S s n i true l d).1) := by
  cases c
  · rw [bcL_f, Bool.false_and]
  · rw [Bool.true_and]
theorem bcL_2 {S : Nat → Int32} {s : Int32} : ∀ (n i : Nat) (c c' l l' d : Bool), (bcL S s n i c l d).2.1 = (l || (bcL S s n i c' false d).2.1) ∧ (bcL S s n i c l d).2.2 = (bcL S s n i c' l' d).2.2 ∧ (bcL S s n i true l d).1 = (bcL S s n i true l' d).1 := by
  intro n
  induction n with
  | zero => intro i c c' l l' d; simp only [bcL, Bool.or_false, and_self]
  | succ n ih =>
    intro i c c' l l' d
    simp only [bcL]
    by_cases h1 : hasB s (nI i)
    · have h1' : ¬ ¬ hasB s (nI i) := fun hh => hh h1
      simp only [h1', if_false]
      refine ⟨?_, (ih (i + 1) _ _ _ _ _).2.1, ?_⟩
      · rw [(ih (i + 1) _ (c' && g1B S 1 i) _ true _).1, (ih (i + 1) (c' && g1B S 1 i) (c' && g1B S 1 i) (false || g1B S 2 i) true _).1, Bool.false_or, Bool.or_assoc]
      · rw [bcL_c (true && g1B S 1 i), bcL_c (true && g1B S 1 i) (l := l' || g1B S 2 i), (ih (i + 1) true true (l || g1B S 2 i) (l' || g1B S 2 i) _).2.2]
    · simp only [h1, not_false_eq_true, if_true]
      exact ih _ _ _ _ _ _
section W8
variable {G : gG} {h : gH} {b : Nat} {S : Nat → Int32} {J : Nat → Nat → Int32} {Q : Nat → Nat → Int64} {F : Nat}
theorem x_gapped {t i : Nat} (ht : t < 2 ^ 31) (hn : numOk S t) (hi : i < 8) (hm : i < manyN S) : sp_X2_isGapped G F (wh G h b S J Q) (sg b i) (S 3) = some (bI (g3B S i)) := by
  obtain ⟨-, -, -, -, h9, -⟩ := hn.2 i hm
  have e := tm_neg ht h9
  unfold sp_X2_isGapped g3B
  simp only [x_is, if_true, Option.bind_some, x_sg_f9 hi hm, x_sg_is hi, x_gap hi hm, e]
  by_cases h1 : S (sA i 9) = -5
  · rw [if_pos h1, decide_eq_true h1]
    rfl
  · rw [if_neg h1, decide_eq_false h1, Bool.false_or]
    by_cases h2 : S 3 - S (sA i 9) < S (sA i 3)
    · rw [if_pos h2, decide_eq_false (fun hh => hh h2)]
      rfl
    · rw [if_neg h2, decide_eq_true h2]
      rfl
theorem g1_ne {t i : Nat} (hn : numOk S t) (hm : i < manyN S) (w : Nat) : (decide (¬ S (sA i 6) = 0) && decide (¬ S 3 - S (sA i 7) < S (sA i w))) = g1B S w i := by
  obtain ⟨-, h6, -⟩ := hn.2 i hm
  have e : decide (¬ S (sA i 6) = 0) = decide (S (sA i 6) = 1) := by
    rcases h6 with h6 | h6 <;> rw [h6] <;> decide
  rw [e]
  rfl
theorem x_isOver {t : Nat} (hF : 100 ≤ F) (ht : t < 2 ^ 31) (hm : mOk S) (hn : numOk S t) (ho : onOk S) (hon : onN S < phN S) : sp_X1_isOver G F (wh G h b S J Q) b = some (bI (ovL S (S (pA (onN S) 0)) (manyN S) 0 (forcedB S) true)) := by
  have h8 := hm.1
  have ha2 : gAr 6 (wh G h b S J Q) (b + 2) (S 4) = some (phA b (onN S)) := by rw [ho.2]; exact x_a2 ho.1
  have key : ∀ (n i f : Nat) (l d : Bool), n + i = manyN S → n < f → sp_X1_isOver_L20 G F (wh G h b S J Q) f b (phA b (onN S)) (bI l) (bI d) (nI i) = some (bI (ovL S (S (pA (onN S) 0)) n i l d)) := by
    intro n
    induction n with
    | zero =>
      intro i f l d hi hf
      obtain ⟨f, rfl⟩ : ∃ z, f = z + 1 := ⟨f - 1, by omega⟩
      rw [sp_X1_isOver_L20]
      simp only [x_is, if_true, Option.bind_some, x_f13, ovL, bI_z]
      rw [if_pos (by rw [hm.2]; exact nI_le (by omega) (by omega))]
      cases l <;> cases d <;> rfl
    | succ n ih =>
      intro i f l d hi hf
      obtain ⟨f, rfl⟩ : ∃ z, f = z + 1 := ⟨f - 1, by omega⟩
      have en : ¬ S 13 ≤ nI i := by rw [hm.2]; exact nI_ge (by omega) (by omega)
      have hi8 : i < 8 := by omega
      have him : i < manyN S := by omega
      rw [sp_X1_isOver_L20]
      simp only [x_is, if_true, Option.bind_some, x_f13, en, if_false, x_f22, x_a1 hi8, x_ph_is ho.1, x_has ho.1 hon, b0, x_sg_is hi8, x_least hi8 him, x_most hi8 him, x_f1, x_greenFor hi8 him, g1_ne hn him, x_gapped ht hn hi8 him, bI_z, bI_and, bI_or2, nI_1, ih (i + 1) f _ _ (by omega) (by omega), ovL]
      by_cases g1 : hasB (S (pA (onN S) 0)) (nI i)
      · have g1' : ¬ ¬ hasB (S (pA (onN S) 0)) (nI i) := fun hh => hh g1
        rw [if_neg g1', if_neg g1']
        by_cases g2 : g1B S 1 i = false
        · rw [if_pos g2, if_pos g2]
          rfl
        · rw [if_neg g2, if_neg g2]
      · rw [if_pos g1, if_pos g1]
  unfold sp_X1_isOver
  simp only [x_is, if_true, Option.bind_some, x_f23, x_f2, ha2, x_isForced ho hon]
  exact key (manyN S) 0 F (forcedB S) true (by omega) (by omega)
theorem fcL_some {o m : Nat} (h31 : m ≤ 31) (h0 : 0 < m) (hp : m = phN S) : ∀ (n k N : Nat), n ≤ N → (∃ j, k ≤ j ∧ j < k + n ∧ calledB S ((o + j) % m) = true) → fcL S o m n k = nI (nxL (calledV S) o m N k) := by
  intro n
  induction n with
  | zero => intro k N _ hj; obtain ⟨j, h1, h2, -⟩ := hj; omega
  | succ n ih =>
    intro k N hN hj
    obtain ⟨N, rfl⟩ : ∃ z, N = z + 1 := ⟨N - 1, by omega⟩
    have hlt : (o + k) % m < m := Nat.mod_lt _ h0
    have hb := hasB_bits (p := calledB S) h31 hlt
    rw [hp] at hb
    rw [fcL, nxL]
    by_cases h1 : calledB S ((o + k) % m) = true
    · rw [if_pos h1, if_pos]
      unfold calledV
      rw [← hp] at hb ⊢
      exact hb.mpr h1
    · rw [if_neg h1, if_neg]
      · refine ih (k + 1) N (by omega) ?_
        obtain ⟨j, j1, j2, j3⟩ := hj
        refine ⟨j, ?_, by omega, j3⟩
        rcases Nat.lt_or_ge k j with hh | hh
        · omega
        · exfalso
          obtain rfl : j = k := by omega
          exact h1 j3
      · unfold calledV
        rw [← hp] at hb ⊢
        exact fun hh => h1 (hb.mp hh)
theorem fcL_none {o m : Nat} : ∀ (n k : Nat), (∀ j, k ≤ j → j < k + n → calledB S ((o + j) % m) = false) → fcL S o m n k = -5 := by
  intro n
  induction n with
  | zero => intro k _; rfl
  | succ n ih =>
    intro k hj
    rw [fcL, if_neg (by rw [hj k (by omega) (by omega)]; decide)]
    exact ih (k + 1) (fun j h1 h2 => hj j (by omega) (by omega))
theorem called_on (ho : onOk S) : calledB S (onN S) = false := by
  unfold calledB
  rw [decide_eq_false (show ¬ ¬ nI (onN S) = S 4 from fun hh => hh ho.2.symm), Bool.and_false, Bool.false_and]
theorem fc_nx (hp : pOk S) (ho : onOk S) (hon : onN S < phN S) : fcL S (onN S) (phN S) (phN S - 1) 1 = if calledV S = 0 then -5 else nI (nxL (calledV S) (onN S) (phN S) (phN S) 1) := by
  have h6 := hp.1
  by_cases hc : calledV S = 0
  · rw [if_pos hc]
    refine fcL_none _ _ (fun j h1 h2 => ?_)
    have hlt : (onN S + j) % phN S < phN S := Nat.mod_lt _ (by omega)
    cases e : calledB S ((onN S + j) % phN S)
    · rfl
    · have hb := (hasB_bits (p := calledB S) (show phN S ≤ 31 by omega) hlt).mpr e
      have hc' : bitsV (calledB S) (phN S) = 0 := hc
      rw [hc', hasB_lsb (by omega)] at hb
      simp at hb
  · rw [if_neg hc]
    refine fcL_some (by omega) (by omega) rfl _ _ _ (by omega) ?_
    obtain ⟨j, j1, j2, j3⟩ := called_next hp ho hon hc
    have hlt : (onN S + j) % phN S < phN S := Nat.mod_lt _ (by omega)
    have hb := (hasB_bits (p := calledB S) (show phN S ≤ 31 by omega) hlt).mp j3
    refine ⟨j, j1, ?_, hb⟩
    rcases Nat.lt_or_ge j (phN S) with hh | hh
    · omega
    · exfalso
      obtain rfl : j = phN S := by omega
      rw [Nat.add_mod_right, Nat.mod_eq_of_lt hon, called_on ho] at hb
      exact absurd hb (by decide)
/-- which phase is next (class) -/
theorem next_V (hS : secOk S) (hn : negOk S) : (if S 5 = -5 then fcL S (onN S) (phN S) (phN S - 1) 1 else if calledB S (S 5).toNatClampNeg = false then fcL S (onN S) (phN S) (phN S - 1) 1 else S 5) = if calledV S = 0 then -5 else nI (nextP S) := by
  obtain ⟨h1, h2, h3, h4, h5, h7, h9⟩ := hS
  have h6 := h2.1
  rw [fc_nx h2 h4 h5]
  unfold nextP
  by_cases e5 : S 5 = -5
  · have l5 : S 5 < 0 := by rw [e5]; decide
    rw [if_pos e5, if_pos l5]
  · have l5 : ¬ S 5 < 0 := fun hh => e5 (hn.1 hh)
    rw [if_neg e5, if_neg l5]
    obtain ⟨q, hq, eq⟩ := h7.resolve_left l5
    rw [eq, nI_c (by omega)]
    have hb := hasB_bits (p := calledB S) (show phN S ≤ 31 by omega) hq
    by_cases hc : calledB S q = true
    · have hh : hasB (calledV S) (nI q) := hb.mpr hc
      have h0 : ¬ calledV S = 0 := by
        intro e0
        rw [e0, hasB_lsb (by omega)] at hh
        simp at hh
      rw [if_neg (by rw [hc]; decide), if_neg h0, if_neg (fun hx => hx hh)]
    · have hc' : calledB S q = false := by cases e : calledB S q
                                           · rfl
                                           · exact absurd e hc
      have hh : ¬ hasB (calledV S) (nI q) := fun hx => hc (hb.mp hx)
      rw [if_pos hc', if_pos hh]
/-- whether it changes (reference) -/
theorem mid_V (hc : ¬ calledV S = 0) : byCallsF S = if heldB S = true then S else if ovL S (S (pA (onN S) 0)) (manyN S) 0 (forcedB S) true = false then S else changesF (upd S 5 (-5)) (nextP S) := by
  have eT1 : (bcT S).1 = (bcL S (S (pA (onN S) 0)) (manyN S) 0 true (forcedB S) true).1 := by
    unfold bcT
    rw [bcL_c, decide_eq_true hc, Bool.true_and, (bcL_2 (S := S) (s := S (pA (onN S) 0)) (manyN S) 0 true true false (forcedB S) true).2.2]
  have eT2 : (bcL S (S (pA (onN S) 0)) (manyN S) 0 true (forcedB S) true).2.1 = (forcedB S || (bcT S).2.1) := (bcL_2 (S := S) (s := S (pA (onN S) 0)) (manyN S) 0 true (decide (¬ calledV S = 0)) (forcedB S) true true).1
  have eT3 : (bcL S (S (pA (onN S) 0)) (manyN S) 0 true (forcedB S) true).2.2 = (bcT S).2.2 := (bcL_2 (S := S) (s := S (pA (onN S) 0)) (manyN S) 0 true (decide (¬ calledV S = 0)) (forcedB S) false true).2.1
  rw [ovL_bc, ← eT1, eT2, eT3]
  have eM1 : (bcM S).1 = ((bcT S).1 && !heldB S) := by
    unfold bcM heldB
    by_cases h1 : S 10 ≤ 0
    · rw [if_pos h1, decide_eq_false (fun hh => hh h1)]
      simp only [Bool.false_and, Bool.not_false, Bool.and_true]
    · rw [if_neg h1, decide_eq_true h1]
      by_cases h2 : S 4 = 0
      · rw [if_pos h2, decide_eq_true h2]
        simp only [Bool.true_and, decide_not]
      · rw [if_neg h2, decide_eq_false h2]
        simp only [Bool.and_false, Bool.false_and, Bool.not_false, Bool.and_true]
  have eM2 : (bcM S).2 = forcedB S := by
    unfold bcM forcedB
    by_cases h1 : S 10 ≤ 0
    · rw [if_pos h1, decide_eq_false (fun hh => hh h1)]
      simp only [Bool.false_and]
    · rw [if_neg h1, decide_eq_true h1]
      by_cases h2 : S 4 = 0
      · rw [if_pos h2, decide_eq_false (show ¬ ¬ S 4 = 0 from fun hh => hh h2)]
        simp only [Bool.and_false, Bool.false_and]
      · rw [if_neg h2, decide_eq_true h2]
        simp only [Bool.true_and]
  unfold byCallsF
  rw [eM1, eM2]
  cases heldB S <;> cases (bcT S).1 <;> cases forcedB S <;> cases (bcT S).2.1 <;> cases (bcT S).2.2 <;> rfl
theorem mid_0 (hc : calledV S = 0) : byCallsF S = S := by
  have e : (bcM S).1 = false := by
    cases e : (bcM S).1
    · rfl
    · exact absurd hc (bcM_called (by rw [e]; decide))
  unfold byCallsF
  rw [if_pos e]
theorem x_changes {t : Nat} (hF : 100 ≤ F) (ht : t < 2 ^ 31) (hJ : jOk J) (hrr : rrOk S J) (hS : secOk S) (hn : negOk S) (hnum : numOk S t) : ∃ J', sp_X1_changes G F (wh G h b S J Q) b = some (wh G h b (midF S) J' Q) ∧ jR J J' ∧ rrOk (midF S) J' := by
  have hnx := next_V hS hn
  have hS5 := secOk_5 (x := -5) hS (Or.inl (by decide))
  have hlt : nextP S < phN (upd S 5 (-5)) := by
    rw [ph_keep (keep_upd (by unfold fixedK; omega))]
    exact nextP_lt hS.2.2.2.2.1 hS.2.1 hS.2.2.2.2.2.1
  have hrr5 : rrOk (upd S 5 (-5)) J := rrOk_15 (upd_ne (by decide)) hrr
  have hr' := hJ.1
  unfold sp_X1_changes midF
  simp only [x_is, if_true, Option.bind_some, x_f4]
  by_cases h6 : S 6 < 0
  · have e6 : S 6 = -5 := hn.2 h6
    rw [if_pos e6, if_pos h6]
    obtain ⟨K, k1, k2, k3⟩ := x_changesTo (G := G) (h := h) (b := b) (Q := Q) (p := nextP S) hF hJ hrr5 hS5.1 hS5.2.2.1 hS5.2.1 hlt
    obtain ⟨h1, h2, h3, h4, h5, h7, h9⟩ := hS
    have h66 := h2.1
    have hcc : ¬ S 5 = -5 → sp_X1_isCalled G F (wh G h b S J Q) b (S 5) = some (bI (calledB S (S 5).toNatClampNeg)) := by
      intro e5
      obtain ⟨q, hq, eq⟩ := h7.resolve_left (fun hh => e5 (hn.1 hh))
      rw [eq, nI_c (by omega)]
      exact x_isCalled (by omega) h1 (by omega) hq
    have ej : (if S 5 = (-5 : Int32) then some (fcL S (onN S) (phN S) (phN S - 1) 1) else (sp_X1_isCalled G F (wh G h b S J Q) b (S 5)).bind fun u9 => if u9 = 0 then some (fcL S (onN S) (phN S) (phN S - 1) 1) else some (S 5)) = some (if calledV S = 0 then -5 else nI (nextP S)) := by
      rw [← hnx]
      by_cases e5 : S 5 = -5
      · rw [if_pos e5, if_pos e5]
      · rw [if_neg e5, if_neg e5, hcc e5]
        simp only [Option.bind_some, bI_z]
        split <;> rfl
    simp only [x_f3, x_firstCalled (show 40 ≤ F by omega) h1 h2 h4 h5, Option.bind_some, ej, x_isHeld, x_isOver hF ht h1 hnum h4 h5, bI_z, x_p3 _ hr', x_is, if_true]
    by_cases hc : calledV S = 0
    · refine ⟨J, ?_, jR_refl hJ, ?_⟩
      · rw [if_pos hc, if_pos rfl, mid_0 hc]
      · rw [mid_0 hc]; exact hrr
    · have hne : ¬ nI (nextP S) = -5 := by
        intro e
        have hlt' : nextP S < phN S := nextP_lt h5 h2 h7
        exact absurd (by rw [e]; decide) (nI_nn (e := nextP S) (by omega))
      rw [if_neg hc, if_neg hne, mid_V hc]
      by_cases hh : heldB S = true
      · refine ⟨J, ?_, jR_refl hJ, ?_⟩
        · rw [if_neg (by rw [hh]; decide), if_pos hh]
        · rw [if_pos hh]; exact hrr
      · have hh' : heldB S = false := by cases e : heldB S
                                         · rfl
                                         · exact absurd e hh
        rw [if_pos hh', if_neg hh]
        by_cases ho : ovL S (S (pA (onN S) 0)) (manyN S) 0 (forcedB S) true = false
        · refine ⟨J, ?_, jR_refl hJ, ?_⟩
          · rw [if_pos ho, if_pos ho]
          · rw [if_pos ho]; exact hrr
        · refine ⟨K, ?_, k2, ?_⟩
          · rw [if_neg ho, if_neg ho, k1]
            rfl
          · rw [if_neg ho]; exact k3
  · have e6 : ¬ S 6 = -5 := fun e => h6 (by rw [e]; decide)
    rw [if_neg e6, if_neg h6]
    obtain ⟨K, k1, k2, k3⟩ := x_cutShort (G := G) (h := h) (b := b) (Q := Q) hF hJ hrr hS hn h6
    exact ⟨K, by rw [k1]; rfl, k2, k3⟩
end W8
