/-! m26: the reference in thought: turns, best, day, chance, ends -/
set_option maxRecDepth 100000
def gap1 (g : Int32) (i : Nat) (s : Nat → Int32) : Nat → Int32 := upd s (sA i 3) g
def gapsF (S : Nat → Int32) (g : Int32) : Nat → Int32 := itN (gap1 g) (manyN S) 0 S
/-- rows that tell the same of all but gaps -/
def gapK (S T : Nat → Int32) : Prop := ∀ k, (k < 24 ∨ 216 ≤ k ∨ (k - 24) % 24 ≠ 3) → T k = S k
theorem gapK_refl {S : Nat → Int32} : gapK S S := fun _ _ => rfl
theorem gapK_1 {S T : Nat → Int32} {g : Int32} {i : Nat} (hi : i < 8) (h : gapK S T) : gapK S (gap1 g i T) := fun k hk => by
  unfold gap1
  rw [upd_ne (by unfold sA; omega)]
  exact h k hk
theorem gapK_F {S : Nat → Int32} {g : Int32} (hm : mOk S) : gapK S (gapsF S g) := by
  have h8 := hm.1
  exact it_inv (m := manyN S) (g := gap1 g) (P := fun _ T => gapK S T) (fun i s hi hs => gapK_1 (by omega) hs) (manyN S) 0 S (by omega) gapK_refl
theorem gap_many {S T : Nat → Int32} (h : gapK S T) : manyN T = manyN S := by unfold manyN; rw [h 13 (by omega)]
theorem gap_ph {S T : Nat → Int32} (h : gapK S T) : phN T = phN S := by unfold phN; rw [h 14 (by omega)]
theorem gap_mOk {S T : Nat → Int32} (h : gapK S T) (hm : mOk S) : mOk T := by
  unfold mOk
  rw [gap_many h, h 13 (by omega)]
  exact hm
theorem gap_row {S T : Nat → Int32} (h : gapK S T) (hm : rowOk S) : rowOk T := by
  intro a ha
  have := hm a ha
  unfold sigOk at this ⊢
  rw [h (sA a 0) (by unfold sA; omega), h (sA a 11) (by unfold sA; omega)]
  exact this
theorem gap_first {S T : Nat → Int32} {x : Int32} (h : gapK S T) (hp : pOk S) : firstV T x = firstV S x := by
  have e : ∀ n i, fwL T x n i = fwL S x n i := by
    intro n
    induction n with
    | zero => intro i; rfl
    | succ n ih => intro i; rw [fwL, fwL, h (pA i 0) (by unfold pA; omega), ih]
  unfold firstV
  rw [gap_ph h, e]
theorem gap_sec {S T : Nat → Int32} (h : gapK S T) (hs : secOk S) : secOk T := by
  obtain ⟨h1, h2, h3, h4, h5, h6, h7⟩ := hs
  have e4 : T 4 = S 4 := h 4 (by omega)
  have e5 : T 5 = S 5 := h 5 (by omega)
  have e6 : T 6 = S 6 := h 6 (by omega)
  have en : onN T = onN S := by unfold onN; rw [e4]
  have ep := gap_ph h
  refine ⟨gap_mOk h h1, ?_, rOk_15 (h 15 (by omega)) h3, ?_, ?_, ?_, ?_⟩
  · unfold pOk; rw [ep, h 14 (by omega)]; exact h2
  · unfold onOk; rw [en, e4]; exact h4
  · rw [en, ep]; exact h5
  · unfold cutOk; rw [e5, ep]; exact h6
  · unfold emOk; rw [e6, ep, gap_first h h2]; exact h7
theorem gap_372 {S T : Nat → Int32} (h : gapK S T) : ∀ k, 372 ≤ k → T k = S k := fun k hk => h k (by omega)
section M26
variable {h : gH} {b : Nat} {A : Nat → Nat → Int32} {L : Nat → Nat → Int64} {S : Nat → Int32} {G : gG} {F : Nat}
theorem s_gaps {g : Int32} (hF : 40 ≤ F) (hm : mOk S) : sp_X13_gaps G F (mS h b A L S) b g = some (mS h b A L (gapsF S g)) := by
  have h8 := hm.1
  have key := it_loop (m := manyN S) (fun f i s => sp_X13_gaps_L2 G F f (mS h b A L s) b g (nI i)) (gap1 g) (fun _ s => gapK S s) (fun s => mS h b A L s) (by
    intro i f s hi hs
    show sp_X13_gaps_L2 G F (f + 1) (mS h b A L s) b g (nI i) = _
    have en : ¬ s 13 ≤ nI i := by rw [hs 13 (by omega), hm.2]; exact nI_ge (by omega) (by omega)
    rw [sp_X13_gaps_L2]
    simp only [s_is, if_true, s_f0, Option.bind_some, s_r_13, en, if_false, s_puts_3 _ (show i < 8 by omega), nI_1]
    rfl) (by
    intro i s hi hs
    exact gapK_1 (by omega) hs) (by
    intro f s hs
    show sp_X13_gaps_L2 G F (f + 1) (mS h b A L s) b g (nI (manyN S)) = _
    rw [sp_X13_gaps_L2]
    simp only [s_is, if_true, s_f0, Option.bind_some, s_r_13]
    rw [if_pos (by rw [hs 13 (by omega), hm.2]; exact nI_le (by omega) (by omega))]) (manyN S) 0 F S (by omega) (by omega) gapK_refl
  unfold sp_X13_gaps gapsF
  rw [show sp_X13_gaps_L2 G F F (mS h b A L S) b g 0 = _ from key]
  rfl
theorem s_turns2 {p1 p2 : Int32} (hF : 400 ≤ F) (hm : mOk S) (hS : ¬ S 2 = 0 → secOk S ∧ ∀ k, k ≤ 99 → ∃ t : Nat, t < 2 ^ 31 ∧ itN (fun _ s => secF (A 3) s) k 0 S 3 = nI t) : ∃ A', sp_X13_turns_2 G F (mS h b A L S) b p1 p2 = some ((turnsR (A 3) S (A 9 1) p1 p2).1, mS h b A' L S) ∧ mR A A' (turnsR (A 3) S (A 9 1) p1 p2).2 := by
  have h8 := hm.1
  unfold sp_X13_turns_2 turnsR
  simp only [s_is, if_true, s_f0, Option.bind_some, s_isSignal, i_isIn, b0]
  rcases (Classical.em (inB p1 0 (S 13 - 1))).symm with h0 | h0
  · exact ⟨A, by simp only [h0, not_false_eq_true, if_true], by simp only [h0, not_false_eq_true, if_true]; exact mR_refl⟩
  rcases (Classical.em (inB p2 0 99)).symm with h1 | h1
  · exact ⟨A, by simp only [eq_true h0, h1, not_false_eq_true, not_true_eq_false, if_false, if_true], by simp only [eq_true h0, h1, not_false_eq_true, not_true_eq_false, if_false, if_true]; exact mR_refl⟩
  simp only [eq_true h0, eq_true h1, not_true_eq_false, if_false, s_is, if_true, s_f0, Option.bind_some, s_r_2]
  by_cases h2 : S 2 = 0
  · exact ⟨A, by simp only [h2, if_true], by simp only [h2, if_true]; exact mR_refl⟩
  rw [hm.2] at h0
  obtain ⟨a, ha, rfl⟩ : ∃ k, k < manyN S ∧ p1 = nI k := in_nI (by omega) h0
  obtain ⟨n, hn, rfl⟩ : ∃ k, k < 100 ∧ p2 = nI k := in_nI (m := 100) (by decide) h1
  obtain ⟨hs, hT⟩ := hS h2
  have hc := mR_cnt (A := A) (n := nI n)
  have hm3 : mindA (cntA A (nI n)) S 3 = A 3 := cntA_3
  obtain ⟨T, e, hk⟩ := s_turns2_L (h := h) (b := b) (A := mindA (cntA A (nI n)) S) (L := L) (G := G) (F := F) (a := a) (m := n) hF (by omega) (by omega) n 0 F S (by omega) (by omega) hs (fun k hk => by rw [hm3]; exact hT k (by omega))
  rw [hm3] at e
  have e' : sp_X13_turns_2_L56 G F F (mS h b (va_up (cntA A (nI n)) 2 (cp S (cntA A (nI n) 2))) L S) b (nI a) (nI n) (-5) 0 = some (trL (A 3) a n S, mS h b (va_up (cntA A (nI n)) 2 (cp S (cntA A (nI n) 2))) L T) := e
  simp only [h2, if_false, s_counts, b0, Option.bind_some, s_is, if_true, s_f0, Option.bind_some, s_thinks (show 373 < F by omega), e', s_forget (show 373 < F by omega) (keep_372 hk), nI_c (show n < 2 ^ 31 by omega), nI_c (show a < 2 ^ 31 by omega)]
  by_cases h3 : A 9 1 + nI n ≤ 12000
  · have h3' : ¬ ¬ A 9 1 + nI n ≤ 12000 := fun hh => hh h3
    rw [cnt_y h3] at hc
    refine ⟨mindA (cntA A (nI n)) S, ?_⟩
    simp only [h3', if_false]
    exact ⟨by first | rfl | trivial, mR_mind hc⟩
  · rw [cnt_n h3] at hc
    refine ⟨cntA A (nI n), ?_⟩
    simp only [h3, not_false_eq_true, if_true]
    exact ⟨by first | rfl | trivial, hc⟩
/-- the best of gaps i .. : found, its waiting -/
def bestL (C S : Nat → Int32) (n : Nat) : Nat → Nat → Int32 → Int32 → Int32 × Int32
  | 0, _, x, y => (x, y)
  | k + 1, i, x, y => if x = 0 then bestL C S n k (i + 1) (nI i) (passF C n (gapsF S (nI i)) 7) else if y ≤ passF C n (gapsF S (nI i)) 7 then bestL C S n k (i + 1) x y else bestL C S n k (i + 1) (nI i) (passF C n (gapsF S (nI i)) 7)
def bestR (C S : Nat → Int32) (c p1 p2 : Int32) : Int32 × Int32 :=
  if ¬ inB p2 0 1 then (-1, c) else if ¬ inB p1 0 60 then (-2, c) else if S 2 = 0 then (-3, c) else if ¬ c + 9 * p1 ≤ 12000 then (-4, c) else (if p2 = 0 then (bestL C S p1.toNatClampNeg 9 1 0 0).1 else (bestL C S p1.toNatClampNeg 9 1 0 0).2, c + 9 * p1)
theorem pass_372 {C T : Nat → Int32} {n : Nat} (hg : gapK S T) (hT : secOk T) : ∀ k, 372 ≤ k → passF C n T k = S k := fun k hk => by
  rw [(secOk_pass (C := C) (n := n) hT).2 k (by unfold fixedK; omega), hg k (by omega)]
theorem s_best_L {m : Nat} {y0 : Int32} (hF : 400 ≤ F) (hm : m < 100) (hS : secOk S) : ∀ (k i f : Nat) (x y : Int32), k + i = 10 → k < f → sp_X13_best_L62 G F f (mS h b (mindA A S) L S) b (nI m) y0 x y (nI i) = some ((bestL (A 3) S m k i x y).1, (bestL (A 3) S m k i x y).2, mS h b (mindA A S) L S) := by
  intro k
  induction k with
  | zero =>
    intro i f x y hi hf
    obtain ⟨f, rfl⟩ : ∃ z, f = z + 1 := ⟨f - 1, by omega⟩
    rw [sp_X13_best_L62, if_pos (show (9 : Int32) < nI i from nI_lt (a := 9) (by omega) (by omega))]
    rfl
  | succ k ih =>
    intro i f x y hi hf
    obtain ⟨f, rfl⟩ : ∃ z, f = z + 1 := ⟨f - 1, by omega⟩
    have en : ¬ (9 : Int32) < nI i := fun h2 => by
      have := (nI_ltI (a := 9) (b := i) (by decide) (by omega)).mp h2
      omega
    have hg := gapK_F (S := S) (g := nI i) hS.1
    have hsg := gap_sec hg hS
    have hfor : sp_X13_forgets G F (mS h b (mindA A S) L (passF (A 3) m (gapsF S (nI i)))) b = some (mS h b (mindA A S) L S) := s_forget (show 373 < F by omega) (pass_372 hg hsg)
    have hm3 : mindA A S 3 = A 3 := rfl
    rw [sp_X13_best_L62]
    simp only [en, if_false, s_is, if_true, s_f0, Option.bind_some, s_gaps (show 40 ≤ F by omega) hS.1, s_passes (show 100 ≤ F by omega) (show m < F by omega) (show m < 2 ^ 31 by omega) hsg, s_r_7, bestL, nI_1]
    by_cases h1 : x = 0
    · rw [if_pos h1, if_pos h1]
      simp only [Option.bind_some, hm3, hfor]
      exact ih (i + 1) f _ _ (by omega) (by omega)
    · rw [if_neg h1, if_neg h1]
      simp only [hm3]
      by_cases h2 : y ≤ passF (A 3) m (gapsF S (nI i)) 7
      · rw [if_pos h2, if_pos h2]
        simp only [Option.bind_some, hfor]
        exact ih (i + 1) f _ _ (by omega) (by omega)
      · rw [if_neg h2, if_neg h2]
        simp only [Option.bind_some, hfor]
        exact ih (i + 1) f _ _ (by omega) (by omega)
theorem s_best {p1 p2 : Int32} (hF : 400 ≤ F) (hS : ¬ S 2 = 0 → secOk S) : ∃ A', sp_X13_best G F (mS h b A L S) b p1 p2 = some ((bestR (A 3) S (A 9 1) p1 p2).1, mS h b A' L S) ∧ mR A A' (bestR (A 3) S (A 9 1) p1 p2).2 := by
  unfold sp_X13_best bestR
  simp only [i_isIn, Option.bind_some, b0]
  rcases (Classical.em (inB p2 0 1)).symm with h0 | h0
  · exact ⟨A, by simp only [h0, not_false_eq_true, if_true], by simp only [h0, not_false_eq_true, if_true]; exact mR_refl⟩
  rcases (Classical.em (inB p1 0 60)).symm with h1 | h1
  · exact ⟨A, by simp only [eq_true h0, h1, not_false_eq_true, not_true_eq_false, if_false, if_true], by simp only [eq_true h0, h1, not_false_eq_true, not_true_eq_false, if_false, if_true]; exact mR_refl⟩
  simp only [eq_true h0, eq_true h1, not_true_eq_false, if_false, s_is, if_true, s_f0, Option.bind_some, s_r_2]
  by_cases h2 : S 2 = 0
  · exact ⟨A, by simp only [h2, if_true], by simp only [h2, if_true]; exact mR_refl⟩
  obtain ⟨n, hn, rfl⟩ : ∃ k, k < 61 ∧ p1 = nI k := in_nI (m := 61) (by decide) h1
  have hs := hS h2
  generalize hz : (9 : Int32) * nI n = z
  have hc := mR_cnt (A := A) (n := z)
  have e := s_best_L (h := h) (b := b) (A := cntA A z) (L := L) (G := G) (F := F) (m := n) (y0 := p2) hF (by omega) hs 9 1 F 0 0 (by omega) (by omega)
  rw [cntA_3] at e
  have e' : sp_X13_best_L62 G F F (mS h b (va_up (cntA A z) 2 (cp S (cntA A z 2))) L S) b (nI n) p2 0 0 1 = _ := e
  simp only [h2, if_false, s_counts, b0, Option.bind_some, s_is, if_true, s_f0, Option.bind_some, s_thinks (show 373 < F by omega), e', nI_c (show n < 2 ^ 31 by omega)]
  by_cases h3 : A 9 1 + z ≤ 12000
  · have h3' : ¬ ¬ A 9 1 + z ≤ 12000 := fun hh => hh h3
    rw [cnt_y h3] at hc
    refine ⟨mindA (cntA A z) S, ?_⟩
    simp only [h3', if_false]
    refine ⟨?_, mR_mind hc⟩
    by_cases h4 : p2 = 0
    · rw [if_pos h4, if_pos h4]
    · rw [if_neg h4, if_neg h4]
  · rw [cnt_n h3] at hc
    refine ⟨cntA A z, ?_⟩
    simp only [h3, not_false_eq_true, if_true]
    exact ⟨by first | rfl | trivial, hc⟩
def dayV (C S : Nat → Int32) (n : Nat) (x : Int32) : Int32 := passF C n (upd S 0 x) 7 - S 7
theorem secOk_0 {x : Int32} (hS : secOk S) : secOk (upd S 0 x) := secOk_keep (keep_upd (by unfold fixedK; omega)) (ku_upd (by unfold freeK; omega)) hS
theorem s_dayOf {n : Nat} {x : Int32} (hF : 400 ≤ F) (hn : n < 100) (hS : secOk S) : sp_X13_dayOf G F (mS h b A L S) b x (nI n) = some (dayV (A 3) S n x, mS h b (mindA A S) L S) := by
  have h0 := secOk_0 (x := x) hS
  have hm3 : va_up A 2 (cp S (A 2)) 3 = A 3 := rfl
  have h372 : ∀ k, 372 ≤ k → passF (A 3) n (upd S 0 x) k = S k := fun k hk => by
    rw [(secOk_pass (C := A 3) (n := n) h0).2 k (by unfold fixedK; omega), upd_ne (by omega)]
  unfold sp_X13_dayOf dayV
  simp only [s_is, if_true, s_f0, Option.bind_some, s_thinks (show 373 < F by omega), s_r_7, s_w_0, s_passes (show 100 ≤ F by omega) (show n < F by omega) (show n < 2 ^ 31 by omega) h0, hm3, s_forget (show 373 < F by omega) h372]
  rfl
def dayR (C S : Nat → Int32) (c p1 p2 : Int32) : Int32 × Int32 :=
  if ¬ inB p2 0 99 then (-2, c) else if S 2 = 0 then (-3, c) else if ¬ c + p2 ≤ 12000 then (-4, c) else (dayV C S p2.toNatClampNeg p1, c + p2)
theorem s_day {p1 p2 : Int32} (hF : 400 ≤ F) (hS : ¬ S 2 = 0 → secOk S) : ∃ A', sp_X13_day G F (mS h b A L S) b p1 p2 = some ((dayR (A 3) S (A 9 1) p1 p2).1, mS h b A' L S) ∧ mR A A' (dayR (A 3) S (A 9 1) p1 p2).2 := by
  unfold sp_X13_day dayR
  simp only [i_isIn, Option.bind_some, b0]
  rcases (Classical.em (inB p2 0 99)).symm with h1 | h1
  · exact ⟨A, by simp only [h1, not_false_eq_true, if_true], by simp only [h1, not_false_eq_true, if_true]; exact mR_refl⟩
  simp only [eq_true h1, not_true_eq_false, if_false, s_is, if_true, s_f0, Option.bind_some, s_r_2]
  by_cases h2 : S 2 = 0
  · exact ⟨A, by simp only [h2, if_true], by simp only [h2, if_true]; exact mR_refl⟩
  obtain ⟨n, hn, rfl⟩ : ∃ k, k < 100 ∧ p2 = nI k := in_nI (m := 100) (by decide) h1
  have hc := mR_cnt (A := A) (n := nI n)
  simp only [h2, if_false, s_counts, b0, Option.bind_some, s_is, if_true, s_f0, Option.bind_some, s_dayOf hF hn (hS h2), cntA_3, nI_c (show n < 2 ^ 31 by omega)]
  by_cases h3 : A 9 1 + nI n ≤ 12000
  · have h3' : ¬ ¬ A 9 1 + nI n ≤ 12000 := fun hh => hh h3
    rw [cnt_y h3] at hc
    refine ⟨mindA (cntA A (nI n)) S, ?_⟩
    simp only [h3', if_false]
    exact ⟨by first | rfl | trivial, mR_mind hc⟩
  · rw [cnt_n h3] at hc
    refine ⟨cntA A (nI n), ?_⟩
    simp only [h3, not_false_eq_true, if_true]
    exact ⟨by first | rfl | trivial, hc⟩
end M26
