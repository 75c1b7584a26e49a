/-! x12: fits (both sides) -/
set_option maxRecDepth 100000
def sm (f : Nat → Nat) : Nat → Nat
  | 0 => 0
  | n + 1 => sm f n + f n
theorem sm_add {f g : Nat → Nat} : ∀ n, sm (fun i => f i + g i) n = sm f n + sm g n := by
  intro n
  induction n with
  | zero => rfl
  | succ n ih => rw [sm, sm, sm, ih]; omega
theorem sm_swap {f : Nat → Nat → Nat} {m : Nat} : ∀ n, sm (fun t => sm (f t) m) n = sm (fun i => sm (fun t => f t i) n) m := by
  intro n
  induction n with
  | zero =>
    induction m with
    | zero => rfl
    | succ m ihm => rw [sm] at ihm ⊢; rw [sm, ← ihm]; rfl
  | succ n ih =>
    rw [sm, ih]
    have e : (fun i => sm (fun t => f t i) (n + 1)) = fun i => sm (fun t => f t i) n + f n i := rfl
    rw [e, sm_add]
theorem sm_le {f : Nat → Nat} : ∀ n, (∀ i, i < n → f i ≤ 1) → sm f n ≤ n := by
  intro n
  induction n with
  | zero => intro _; exact Nat.le_refl 0
  | succ n ih =>
    intro h
    have := ih (fun i hi => h i (by omega))
    have := h n (by omega)
    rw [sm]
    omega
theorem sm_all {f : Nat → Nat} : ∀ n, (∀ i, i < n → f i ≤ 1) → (sm f n = n ↔ ∀ i, i < n → f i = 1) := by
  intro n
  induction n with
  | zero => intro _; exact ⟨fun _ i hi => by omega, fun _ => rfl⟩
  | succ n ih =>
    intro h
    have h1 := ih (fun i hi => h i (by omega))
    have h2 := h n (by omega)
    have h3 := sm_le n (fun i hi => h i (show i < n + 1 by omega))
    rw [sm]
    constructor
    · intro e i hi
      by_cases hin : i = n
      · subst hin; omega
      · exact h1.mp (by omega) i (by omega)
    · intro e
      have e1 := h1.mpr (fun i hi => e i (by omega))
      have e2 := e n (by omega)
      omega
theorem sm_one {f : Nat → Nat} {n : Nat} (h1 : ∀ i, i < n → f i ≤ 1) (hu : ∀ i j, i < n → j < n → f i = 1 → f j = 1 → i = j) : sm f n ≤ 1 ∧ (sm f n = 1 ↔ ∃ i, i < n ∧ f i = 1) := by
  induction n with
  | zero => exact ⟨by rw [sm]; omega, fun h => by rw [sm] at h; omega, fun ⟨i, hi, _⟩ => by omega⟩
  | succ n ih =>
    obtain ⟨k1, k2⟩ := ih (fun i hi => h1 i (by omega)) (fun i j hi hj => hu i j (by omega) (by omega))
    have hn := h1 n (by omega)
    rw [sm]
    by_cases hf : f n = 1
    · have h0 : sm f n = 0 := by
        rcases Nat.eq_zero_or_pos (sm f n) with h | h
        · exact h
        · obtain ⟨i, hi, e⟩ := k2.mp (by omega)
          have := hu i n (by omega) (by omega) e hf
          omega
      exact ⟨by omega, fun _ => ⟨n, by omega, hf⟩, fun _ => by omega⟩
    · have h0 : f n = 0 := by omega
      refine ⟨by omega, fun h => ?_, fun ⟨i, hi, e⟩ => ?_⟩
      · obtain ⟨i, hi, e⟩ := k2.mp (by omega)
        exact ⟨i, by omega, e⟩
      · have : i ≠ n := fun e2 => hf (e2 ▸ e)
        have := k2.mpr ⟨i, by omega, e⟩
        omega
def noteN (S : Nat → Int32) : Nat := (S 19).toNatClampNeg
def noteOk (S : Nat → Int32) : Prop := noteN S ≤ 5 ∧ S 19 = nI (noteN S) ∧ ∀ i, i < noteN S → ∃ k, k ≤ 99999 ∧ S (345 + 2 * i) = nI k
/-- whether note i is so behind second number t -/
def noteM (C S : Nat → Int32) (t i : Nat) : Nat := if S (345 + 2 * i) = passF C t S 3 ∧ S (346 + 2 * i) = lightsV (passF C (t + 1) S) 2 then 1 else 0
def fitN (C S : Nat → Int32) (m : Nat) : Nat := sm (fun t => sm (noteM C S t) (noteN S)) m
def fitB (C S : Nat → Int32) : Prop := ∀ i, i < noteN S → ∃ t, t < 60 ∧ S (345 + 2 * i) = passF C t S 3 ∧ S (346 + 2 * i) = lightsV (passF C (t + 1) S) 2
theorem pass_s {C S : Nat → Int32} : ∀ m, passF C (m + 1) S = secF C (passF C m S) := by
  intro m
  have key : ∀ (m i : Nat) (s : Nat → Int32), itN (fun _ s => secF C s) (m + 1) i s = secF C (itN (fun _ s => secF C s) m i s) := by
    intro m
    induction m with
    | zero => intro i s; rfl
    | succ m ih => intro i s; rw [itN, ih, itN]
  exact key m 0 S
theorem pass_3 {C S : Nat → Int32} {t : Nat} (hr : runOk S t) : ∀ m, t + m < 2 ^ 31 → passF C m S 3 = nI (t + m) := by
  intro m hm
  exact (runOk_pass (C := C) hm hr).2.2.1.1
theorem fit_iff {C S : Nat → Int32} {t : Nat} (ht : t + 60 < 2 ^ 31) (hr : runOk S t) : (fitN C S 60 = noteN S) ↔ fitB C S := by
  have h1 : ∀ i, sm (fun t => noteM C S t i) 60 ≤ 1 ∧ (sm (fun t => noteM C S t i) 60 = 1 ↔ ∃ k, k < 60 ∧ noteM C S k i = 1) := by
    intro i
    refine sm_one (fun k _ => ?_) (fun k j hk hj e1 e2 => ?_)
    · show noteM C S k i ≤ 1
      unfold noteM; split <;> omega
    · have a1 : S (345 + 2 * i) = passF C k S 3 := by
        have e1 : noteM C S k i = 1 := e1
        unfold noteM at e1
        by_cases h : S (345 + 2 * i) = passF C k S 3 ∧ S (346 + 2 * i) = lightsV (passF C (k + 1) S) 2
        · exact h.1
        · rw [if_neg h] at e1; omega
      have a2 : S (345 + 2 * i) = passF C j S 3 := by
        have e2 : noteM C S j i = 1 := e2
        unfold noteM at e2
        by_cases h : S (345 + 2 * i) = passF C j S 3 ∧ S (346 + 2 * i) = lightsV (passF C (j + 1) S) 2
        · exact h.1
        · rw [if_neg h] at e2; omega
      rw [a1, pass_3 hr k (by omega), pass_3 hr j (by omega)] at a2
      have := (nI_eq (by omega) (by omega)).mp a2
      omega
  unfold fitN fitB
  rw [sm_swap, sm_all _ (fun i _ => (h1 i).1)]
  constructor
  · intro hh i hi
    obtain ⟨k, hk, e⟩ := (h1 i).2.mp (hh i hi)
    refine ⟨k, hk, ?_⟩
    unfold noteM at e
    by_cases h : S (345 + 2 * i) = passF C k S 3 ∧ S (346 + 2 * i) = lightsV (passF C (k + 1) S) 2
    · exact h
    · rw [if_neg h] at e; omega
  · intro hh i hi
    obtain ⟨k, hk, e⟩ := hh i hi
    exact (h1 i).2.mpr ⟨k, hk, by unfold noteM; rw [if_pos e]⟩
/-- gaps that fit: how many, the least -/
def fitsL (C S : Nat → Int32) : Nat → Int32 → Int32 → Int32 × Int32
  | 0, x, y => (x, y)
  | k + 1, x, y => if fitN C (gapsF S (nI (k + 1))) 60 = noteN S then fitsL C S k (x + 1) (nI (k + 1)) else fitsL C S k x y
def fitsR (C S : Nat → Int32) (c p1 : Int32) : Int32 × Int32 :=
  if ¬ inB p1 0 1 then (-1, c) else if S 2 = 0 then (-3, c) else if ¬ c + 540 ≤ 12000 then (-4, c) else (if p1 = 0 then (fitsL C S 9 0 (-5)).1 else (fitsL C S 9 0 (-5)).2, c + 540)
section R12
variable {h : gH} {b : Nat} {A : Nat → Nat → Int32} {L : Nat → Nat → Int64} {S T : Nat → Int32} {G : gG} {F : Nat}
theorem ix_nt (i : Nat) : (345 : Int32) + ((2 : Int32) * nI i) = nI (345 + 2 * i) := by
  show nI 345 + nI 2 * nI i = _
  rw [pk_mul, nI_add]
theorem s_notes_L {t : Nat} {y : Int32} (hF : 40 ≤ F) (hn : noteOk S) (hm : mOk T) (ok : rowOk T) (hk : ∀ k, (k = 19 ∨ 306 ≤ k) → T k = S k) (eT : T = passF (A 3) (t + 1) S) : ∀ (m i f acc : Nat), m + i = noteN S → m < f → sp_X13_notesSo_L25 G F (mS h b A L T) f b (nI acc) y (passF (A 3) t S 3) (nI i) = some (nI (acc + (sm (noteM (A 3) S t) (m + i) - sm (noteM (A 3) S t) i))) := by
  have h5 := hn.1
  have mono : ∀ i m, sm (noteM (A 3) S t) i ≤ sm (noteM (A 3) S t) (m + i) := by
    intro i m
    induction m with
    | zero => rw [Nat.zero_add]; exact Nat.le_refl _
    | succ m ih => rw [show m + 1 + i = m + i + 1 by omega, sm]; omega
  intro m
  induction m with
  | zero =>
    intro i f acc hi hf
    obtain ⟨f, rfl⟩ : ∃ z, f = z + 1 := ⟨f - 1, by omega⟩
    rw [sp_X13_notesSo_L25]
    simp only [s_is, if_true, s_f0, Option.bind_some, s_r_19]
    rw [if_pos (by rw [hk 19 (by omega), hn.2.1]; exact nI_le (by omega) (by omega))]
    simp only [Nat.zero_add, Nat.sub_self, Nat.add_zero]
  | succ m ih =>
    intro i f acc hi hf
    obtain ⟨f, rfl⟩ : ∃ z, f = z + 1 := ⟨f - 1, by omega⟩
    have en : ¬ T 19 ≤ nI i := by rw [hk 19 (by omega), hn.2.1]; exact nI_ge (by omega) (by omega)
    have e1 : T (345 + 2 * i) = S (345 + 2 * i) := hk _ (by omega)
    have e2 : T (345 + 2 * i + 1) = S (346 + 2 * i) := by rw [hk _ (by omega)]; congr 1; omega
    have es : sm (noteM (A 3) S t) (i + 1) = sm (noteM (A 3) S t) i + noteM (A 3) S t i := rfl
    have hmo := mono (i + 1) m
    rw [sp_X13_notesSo_L25]
    simp only [s_is, if_true, s_f0, Option.bind_some, s_r_19, en, if_false, ix_nt, s_a (345 + 2 * i) (by omega), nI_1, s_a (345 + 2 * i + 1) (by omega), e1, e2, s_lights hF hm ok, Int32.add_zero]
    rw [show m + 1 + i = m + (i + 1) by omega]
    by_cases g1 : S (345 + 2 * i) = passF (A 3) t S 3
    · rw [if_pos g1]
      by_cases g2 : S (346 + 2 * i) = lightsV T 2
      · have eM : noteM (A 3) S t i = 1 := by unfold noteM; rw [if_pos ⟨g1, by rw [← eT]; exact g2⟩]
        rw [if_pos g2, ih (i + 1) f (acc + 1) (by omega) (by omega)]
        congr 2
        omega
      · have eM : noteM (A 3) S t i = 0 := by unfold noteM; rw [if_neg (fun hh => g2 (by rw [eT]; exact hh.2))]
        rw [if_neg g2, ih (i + 1) f acc (by omega) (by omega)]
        congr 2
        omega
    · have eM : noteM (A 3) S t i = 0 := by unfold noteM; rw [if_neg (fun hh => g1 hh.1)]
      rw [if_neg g1, ih (i + 1) f acc (by omega) (by omega)]
      congr 2
      omega
theorem s_notesSo {t : Nat} (hF : 400 ≤ F) (hn : noteOk S) (hr : runOk S t) (ht : t + 60 < 2 ^ 31) : sp_X13_notesSo G F (mS h b A L S) b = some (nI (fitN (A 3) S 60), mS h b A L (passF (A 3) 60 S)) := by
  have h5 := hn.1
  have key : ∀ (m i f : Nat), m + i = 60 → m < f → sp_X13_notesSo_L4 G F f (mS h b A L (passF (A 3) i S)) b (nI (fitN (A 3) S i)) (nI i) = some (nI (fitN (A 3) S 60), mS h b A L (passF (A 3) 60 S)) := by
    intro m
    induction m with
    | zero =>
      intro i f hi hf
      obtain ⟨f, rfl⟩ : ∃ z, f = z + 1 := ⟨f - 1, by omega⟩
      obtain rfl : i = 60 := by omega
      rw [sp_X13_notesSo_L4, if_pos (by decide)]
    | succ m ih =>
      intro i f hi hf
      obtain ⟨f, rfl⟩ : ∃ z, f = z + 1 := ⟨f - 1, by omega⟩
      have en : ¬ (60 : Int32) ≤ nI i := nI_ge (b := 60) (by omega) (by decide)
      have hp := secOk_pass (C := A 3) (n := i) hr.1
      have hp1 := secOk_pass (C := A 3) (n := i + 1) hr.1
      have hr1 := runOk_pass (C := A 3) (n := i + 1) (t := t) (by omega) hr
      have e1 : sp_X13_passes G F (mS h b A L (passF (A 3) i S)) b 1 = some (mS h b A L (passF (A 3) (i + 1) S)) := by
        rw [pass_s]
        exact s_passes (m := 1) (show 100 ≤ F by omega) (by omega) (by decide) hp.1
      have e2 := s_notes_L (G := G) (F := F) (h := h) (b := b) (A := A) (L := L) (T := passF (A 3) (i + 1) S) (t := i) (y := nI i) (by omega) hn hr1.1.1 hr1.2.2.2 (fun k hk => hp1.2 k (by unfold fixedK; omega)) rfl (noteN S) 0 F (fitN (A 3) S i) (by omega) (by omega)
      have e2' : sp_X13_notesSo_L25 G F (mS h b A L (passF (A 3) (i + 1) S)) F b (nI (fitN (A 3) S i)) (nI i) (passF (A 3) i S 3) 0 = some (nI (fitN (A 3) S (i + 1))) := by
        rw [show (0 : Int32) = nI 0 from rfl, e2]
        rfl
      rw [sp_X13_notesSo_L4]
      simp only [en, if_false, s_is, if_true, s_f0, Option.bind_some, s_r_3, e1, e2', nI_1]
      exact ih (i + 1) f (by omega) (by omega)
  unfold sp_X13_notesSo
  rw [show sp_X13_notesSo_L4 G F F (mS h b A L S) b 0 0 = _ from key 60 0 F (by omega) (by omega)]
  rfl
theorem fit_le {C : Nat → Int32} {t : Nat} (ht : t + 60 < 2 ^ 31) (hr : runOk S t) : fitN C S 60 ≤ 60 * noteN S := by
  have : ∀ m, fitN C S m ≤ m * noteN S := by
    intro m
    induction m with
    | zero => exact Nat.le_of_eq (by rw [Nat.zero_mul]; rfl)
    | succ m ih =>
      have h1 : sm (noteM C S m) (noteN S) ≤ noteN S := sm_le _ (fun i _ => by unfold noteM; split <;> omega)
      have e : fitN C S (m + 1) = fitN C S m + sm (noteM C S m) (noteN S) := rfl
      rw [e, Nat.succ_mul]
      omega
  exact this 60
theorem s_fits_L {t : Nat} {p1 : Int32} (hF : 400 ≤ F) (hn : noteOk S) (hr : runOk S t) (ht : t + 60 < 2 ^ 31) : ∀ (k f : Nat) (x y : Int32), k ≤ 9 → k < f → sp_X13_fits_L49 G F f (mS h b (mindA A S) L S) b p1 x y (nI k) = some ((fitsL (A 3) S k x y).1, (fitsL (A 3) S k x y).2, mS h b (mindA A S) L S) := by
  have h5 := hn.1
  intro k
  induction k with
  | zero =>
    intro f x y hk hf
    obtain ⟨f, rfl⟩ : ∃ z, f = z + 1 := ⟨f - 1, by omega⟩
    rw [sp_X13_fits_L49, if_pos (show nI 0 < 1 by decide)]
    rfl
  | succ k ih =>
    intro f x y hk hf
    obtain ⟨f, rfl⟩ : ∃ z, f = z + 1 := ⟨f - 1, by omega⟩
    have en : ¬ nI (k + 1) < 1 := fun h2 => by
      have := (nI_ltI (a := k + 1) (b := 1) (by omega) (by decide)).mp h2
      omega
    have hg := gapK_F (S := S) (g := nI (k + 1)) hr.1.1
    have hrg := gap_run hg hr
    have eN : noteN (gapsF S (nI (k + 1))) = noteN S := by unfold noteN; rw [hg 19 (by omega)]
    have hng : noteOk (gapsF S (nI (k + 1))) := by
      refine ⟨by rw [eN]; exact h5, by rw [eN, hg 19 (by omega)]; exact hn.2.1, fun i hi => ?_⟩
      rw [eN] at hi
      rw [hg _ (by omega)]
      exact hn.2.2 i hi
    have hm3 : mindA A S 3 = A 3 := rfl
    have hfor : sp_X13_forgets G F (mS h b (mindA A S) L (passF (A 3) 60 (gapsF S (nI (k + 1))))) b = some (mS h b (mindA A S) L S) := s_forget (show 373 < F by omega) (pass_372 hg hrg.1)
    have e19 : passF (A 3) 60 (gapsF S (nI (k + 1))) 19 = nI (noteN S) := by
      rw [(secOk_pass hrg.1).2 19 (by unfold fixedK; omega), hg 19 (by omega)]
      exact hn.2.1
    have hle := fit_le (C := A 3) ht hrg
    rw [eN] at hle
    have hle2 : fitN (A 3) (gapsF S (nI (k + 1))) 60 ≤ 300 := Nat.le_trans hle (by omega)
    have eC : (nI (fitN (A 3) (gapsF S (nI (k + 1))) 60) = nI (noteN S)) = (fitN (A 3) (gapsF S (nI (k + 1))) 60 = noteN S) := propext (nI_eq (by omega) (by omega))
    rw [sp_X13_fits_L49]
    simp only [en, if_false, s_is, if_true, s_f0, Option.bind_some, s_gaps (show 40 ≤ F by omega) hr.1.1, s_notesSo hF hng hrg ht, hm3, s_r_19, e19, eC, fitsL, pk_m1]
    by_cases g : fitN (A 3) (gapsF S (nI (k + 1))) 60 = noteN S
    · rw [if_pos g, if_pos g]
      simp only [Option.bind_some, hfor]
      exact ih f _ _ (by omega) (by omega)
    · rw [if_neg g, if_neg g]
      simp only [Option.bind_some, hfor]
      exact ih f _ _ (by omega) (by omega)
theorem s_fits {t : Nat} {p1 : Int32} (hF : 400 ≤ F) (ht : t + 60 < 2 ^ 31) (hn : noteOk S) (hS : ¬ S 2 = 0 → runOk S t) : ∃ A', sp_X13_fits G F (mS h b A L S) b p1 = some ((fitsR (A 3) S (A 9 1) p1).1, mS h b A' L S) ∧ mR A A' (fitsR (A 3) S (A 9 1) p1).2 := by
  unfold sp_X13_fits
  simp only [i_isIn, Option.bind_some, b0]
  rcases (Classical.em (inB p1 0 1)).symm with h1 | h1
  · have eR : fitsR (A 3) S (A 9 1) p1 = (-1, A 9 1) := if_pos h1
    rw [eR, if_pos h1]
    exact ⟨A, rfl, mR_refl⟩
  rw [if_neg (fun hh => hh h1)]
  simp only [s_is, if_true, s_f0, Option.bind_some, s_r_2]
  by_cases h2 : S 2 = 0
  · have eR : fitsR (A 3) S (A 9 1) p1 = (-3, A 9 1) := by unfold fitsR; rw [if_neg (fun hh => hh h1), if_pos h2]
    rw [eR, if_pos h2]
    exact ⟨A, rfl, mR_refl⟩
  rw [if_neg h2]
  simp only [s_counts, b0, Option.bind_some]
  have hcc := mR_cnt (A := A) (n := 540)
  by_cases h3 : A 9 1 + 540 ≤ 12000
  · have eR : fitsR (A 3) S (A 9 1) p1 = (if p1 = 0 then (fitsL (A 3) S 9 0 (-5)).1 else (fitsL (A 3) S 9 0 (-5)).2, A 9 1 + 540) := by
      unfold fitsR
      rw [if_neg (fun hh => hh h1), if_neg h2, if_neg (fun hh => hh h3)]
    rw [cnt_y h3] at hcc
    have e := s_fits_L (G := G) (F := F) (h := h) (b := b) (A := cntA A 540) (L := L) (p1 := p1) hF hn (hS h2) ht 9 F 0 (-5) (by omega) (by omega)
    rw [cntA_3] at e
    have e' : sp_X13_fits_L49 G F F (mS h b (va_up (cntA A 540) 2 (cp S (cntA A 540 2))) L S) b p1 0 (-5) 9 = _ := e
    rw [eR, if_neg (fun hh => hh h3)]
    refine ⟨mindA (cntA A 540) S, ?_, mR_mind hcc⟩
    simp only [s_is, if_true, s_f0, Option.bind_some, s_thinks (show 373 < F by omega), e']
    by_cases h4 : p1 = 0
    · rw [if_pos h4, if_pos h4]
    · rw [if_neg h4, if_neg h4]
  · have eR : fitsR (A 3) S (A 9 1) p1 = (-4, A 9 1) := by
      unfold fitsR
      rw [if_neg (fun hh => hh h1), if_neg h2, if_pos h3]
    rw [cnt_n h3] at hcc
    rw [eR, if_pos h3]
    exact ⟨cntA A 540, rfl, hcc⟩
end R12
