/-! x13: fits (class) -/
set_option maxRecDepth 100000
def gsAt (h : gH) (bx : Nat) (g : Nat → Int32) : Prop := h (bx + 322) = some (.inl (0, 60, .inl g))
def fUp (G : gG) (h h' : gH) (bx : Nat) : Prop := trOk G h' bx ∧ (∃ g, gsAt h' bx g) ∧ ∀ a, (a < bx + 106 ∨ bx + 211 ≤ a) → a ≠ bx + 322 → h' a = h a
section X13
variable {G : gG} {F n bx : Nat} {h X : gH} {c g : Nat → Int32} {S C T : Nat → Int32} {J K : Nat → Nat → Int32} {Q R : Nat → Nat → Int64} {A : Nat → Nat → Int32}
theorem t_up {a : Nat} {k : Option gC} (ha : bx + 211 ≤ a) : va_up (wh G X (bx + 106) T K R) a k = wh G (va_up X a k) (bx + 106) T K R := by
  funext x
  unfold wh
  by_cases hx : x = a
  · subst hx
    rw [wR_out (by omega)]
    exact (if_pos rfl).trans (if_pos rfl).symm
  · have e : va_up (wR G X (bx + 106) (Wof T K) R) a k x = wR G X (bx + 106) (Wof T K) R x := if_neg hx
    rw [e]
    by_cases hr : bx + 106 ≤ x ∧ x < bx + 106 + 105
    · obtain ⟨l, rfl⟩ : ∃ l, x = bx + 106 + l := ⟨x - (bx + 106), by omega⟩
      rw [wR_at (by omega), wR_at (by omega)]
    · rw [wR_out (by omega), wR_out (by omega)]
      exact (if_neg hx).symm
theorem q_at {a : Nat} (ha : bx + 211 ≤ a) : wh G (wh G (xo h bx c) (bx + 1) S J Q) (bx + 106) T K R a = h a := by
  rw [show wh G (wh G (xo h bx c) (bx + 1) S J Q) (bx + 106) T K R a = wh G (xo h bx c) (bx + 1) S J Q a from wR_out (by omega), v_low (by omega)]
def gsU (h : gH) (bx : Nat) (g : Nat → Int32) : gH := va_up h (bx + 322) (some (.inl (0, 60, .inl g)))
theorem gsU_at : gsAt (gsU h bx g) bx g := if_pos rfl
theorem q_si {d : Nat} {x : Int32} (hg : gsAt h bx g) (hd : d < 60) : gSi (wh G (wh G (xo h bx c) (bx + 1) S J Q) (bx + 106) T K R) (bx + 322) (nI d) x = some (wh G (wh G (xo (gsU h bx (upd g d x)) bx c) (bx + 1) S J Q) (bx + 106) T K R) := by
  have hi := nI_in hd (show 60 < 2 ^ 31 by decide)
  unfold gSi
  rw [q_at (by omega), hg]
  dsimp only
  rw [if_pos ⟨rfl, hi⟩, nI_c (by omega), t_up (by omega), v_up (by omega)]
  rfl
theorem v_gs {d : Nat} (hg : gsAt h bx g) (hd : d < 60) : gAi 0 (wh G (xo h bx c) (bx + 1) S J Q) (bx + 322) (nI d) = some (g d) := by
  have hi := nI_in hd (show 60 < 2 ^ 31 by decide)
  unfold gAi
  rw [v_low (by omega), hg]
  dsimp only
  rw [if_pos ⟨rfl, hi⟩, nI_c (by omega)]
theorem v_lights_L {t0 : Nat} {p1 x y z : Int32} (hF : 200 ≤ F) (hG : gI4 G) (ht : t0 + 60 < 2 ^ 31) : ∀ (m d f : Nat) (h : gH) (g : Nat → Int32) (K : Nat → Nat → Int32), m + d = 60 → m < f → gsAt h bx g → goOk C (passF C d T) K R (t0 + d) → (∀ e, e < d → g e = lightsV (passF C (e + 1) T) 2) →
    ∃ h' K' g', sp_X0_fits_L66 G F f (wh G (wh G (xo h bx c) (bx + 1) S J Q) (bx + 106) (passF C d T) K R) bx p1 x y z (bx + 106) (nI d) = some (wh G (wh G (xo h' bx c) (bx + 1) S J Q) (bx + 106) (passF C 60 T) K' R) ∧ gsAt h' bx g' ∧ (∀ e, e < 60 → g' e = lightsV (passF C (e + 1) T) 2) ∧ (∀ a, a ≠ bx + 322 → h' a = h a) ∧ bsAll K' R := by
  intro m
  induction m with
  | zero =>
    intro d f h g K hd hf hg hgo he
    obtain ⟨f, rfl⟩ : ∃ z, f = z + 1 := ⟨f - 1, by omega⟩
    obtain rfl : d = 60 := by omega
    refine ⟨h, K, g, ?_, hg, he, fun _ _ => rfl, hgo.2.2.2.2⟩
    rw [sp_X0_fits_L66, if_pos (by decide)]
  | succ m ih =>
    intro d f h g K hd hf hg hgo he
    obtain ⟨f, rfl⟩ : ∃ z, f = z + 1 := ⟨f - 1, by omega⟩
    have en : ¬ (60 : Int32) ≤ nI d := nI_ge (b := 60) (by omega) (by decide)
    obtain ⟨K1, e1, e2⟩ := g_passes (G := G) (F := F) (h := wh G (xo h bx c) (bx + 1) S J Q) (b := bx + 106) (m := 1) (t := t0 + d) (by omega) (by omega) hG (by omega) hgo
    have e1' : sp_X1_passes G F (wh G (wh G (xo h bx c) (bx + 1) S J Q) (bx + 106) (passF C d T) K R) (bx + 106) 1 = some (bx + 106, wh G (wh G (xo h bx c) (bx + 1) S J Q) (bx + 106) (passF C (d + 1) T) K1 R) := by rw [pass_s]; exact e1
    have e2' : goOk C (passF C (d + 1) T) K1 R (t0 + (d + 1)) := by rw [pass_s]; exact e2
    have hr := e2'.2.2.1
    obtain ⟨h', K', g', k1, k2, k3, k4, k5⟩ := ih (d + 1) f (gsU h bx (upd g d (lightsV (passF C (d + 1) T) 2))) (upd g d (lightsV (passF C (d + 1) T) 2)) K1 (by omega) (by omega) gsU_at e2' (fun e hee => by
      by_cases hed : e = d
      · subst hed; exact upd_eq
      · rw [upd_ne hed]; exact he e (by omega))
    refine ⟨h', K', g', ?_, k2, k3, fun a ha => (k4 a ha).trans (if_neg ha), k5⟩
    rw [sp_X0_fits_L66]
    simp only [en, if_false, q_f7, x_is, if_true, e1', Option.bind_some, x_withLight (show 40 ≤ F by omega) hG (show t0 + (d + 1) < 2 ^ 31 by omega) hr.1.1 hr.2.2.2 hr.2.2.1, q_si hg (show d < 60 by omega), nI_1]
    exact k1
theorem v_isNoted {t : Nat} (hF : 40 ≤ F) (ht : t < 2 ^ 30) (h3 : S 3 = nI t) (hn : noteOk S) (hg : gsAt h bx g) :
    ((∀ i, i < noteN S → ∃ e, e < 60 ∧ S (345 + 2 * i) = nI (t + e) ∧ S (346 + 2 * i) = g e) → sp_X0_isNoted G F (wh G (xo h bx c) (bx + 1) S J Q) bx = some 1) ∧ (¬ (∀ i, i < noteN S → ∃ e, e < 60 ∧ S (345 + 2 * i) = nI (t + e) ∧ S (346 + 2 * i) = g e) → sp_X0_isNoted G F (wh G (xo h bx c) (bx + 1) S J Q) bx = some 0) := by
  have h5 := hn.1
  have key : ∀ (m i f : Nat), m + i = noteN S → m < f → ((∀ j, i ≤ j → j < i + m → ∃ e, e < 60 ∧ S (345 + 2 * j) = nI (t + e) ∧ S (346 + 2 * j) = g e) → sp_X0_isNoted_L2 G F (wh G (xo h bx c) (bx + 1) S J Q) f bx (nI i) = some 1) ∧ (¬ (∀ j, i ≤ j → j < i + m → ∃ e, e < 60 ∧ S (345 + 2 * j) = nI (t + e) ∧ S (346 + 2 * j) = g e) → sp_X0_isNoted_L2 G F (wh G (xo h bx c) (bx + 1) S J Q) f bx (nI i) = some 0) := by
    intro m
    induction m with
    | zero =>
      intro i f hi hf
      obtain ⟨f, rfl⟩ : ∃ z, f = z + 1 := ⟨f - 1, by omega⟩
      refine ⟨fun _ => ?_, fun hh => absurd (fun j h1 h2 => by omega) hh⟩
      rw [sp_X0_isNoted_L2]
      simp only [v_f0, x_f20, Option.bind_some]
      rw [if_pos (by rw [hn.2.1]; exact nI_le (by omega) (by omega))]
    | succ m ih =>
      intro i f hi hf
      obtain ⟨f, rfl⟩ : ∃ z, f = z + 1 := ⟨f - 1, by omega⟩
      have en : ¬ S 19 ≤ nI i := by rw [hn.2.1]; exact nI_ge (by omega) (by omega)
      obtain ⟨a, ha, ea⟩ := hn.2.2 i (by omega)
      obtain ⟨k1, k2⟩ := ih (i + 1) f (by omega) (by omega)
      have e6 : 345 + (2 * i + 1) = 346 + 2 * i := by omega
      have hu : sp_X0_isNoted_L2 G F (wh G (xo h bx c) (bx + 1) S J Q) (f + 1) bx (nI i) = if ¬ inB (nI a - nI t) 0 59 then some 0 else (gAi 0 (wh G (xo h bx c) (bx + 1) S J Q) (bx + 322) (nI a - nI t)).bind fun x312 => if x312 = S (346 + 2 * i) then sp_X0_isNoted_L2 G F (wh G (xo h bx c) (bx + 1) S J Q) f bx (nI (i + 1)) else some 0 := by
        rw [sp_X0_isNoted_L2]
        simp only [v_f0, x_f20, v_f7, x_f27, x_f1, Option.bind_some, en, if_false, ix_2, x_a6 (show 2 * i < 10 by omega), x_a6 (show 2 * i + 1 < 10 by omega), nI_1, e6, ea, h3, i_in_0_59, b0]
      have hP : ∀ P : Nat → Prop, (∀ j, i ≤ j → j < i + (m + 1) → P j) ↔ (P i ∧ ∀ j, i + 1 ≤ j → j < i + 1 + m → P j) := fun P => ⟨fun hh => ⟨hh i (by omega) (by omega), fun j h1 h2 => hh j (by omega) (by omega)⟩, fun hh j h1 h2 => by
        by_cases hji : j = i
        · subst hji; exact hh.1
        · exact hh.2 j (by omega) (by omega)⟩
      rw [hu, hP]
      by_cases hin : t ≤ a ∧ a < t + 60
      · have ed : nI a - nI t = nI (a - t) := pk_sub hin.1
        have hib : inB (nI a - nI t) 0 59 := by rw [ed]; exact ⟨nI_pos' (by omega), nI_le (b := 59) (by omega) (by decide)⟩
        rw [if_neg (fun hh => hh hib), ed, v_gs hg (show a - t < 60 by omega)]
        simp only [Option.bind_some]
        by_cases hq : g (a - t) = S (346 + 2 * i)
        · rw [if_pos hq]
          refine ⟨fun hh => k1 hh.2, fun hh => k2 (fun h2 => hh ⟨⟨a - t, by omega, by rw [ea]; congr 1; omega, hq.symm⟩, h2⟩)⟩
        · rw [if_neg hq]
          refine ⟨fun hh => ?_, fun _ => rfl⟩
          obtain ⟨e, he, e1, e2⟩ := hh.1
          rw [ea] at e1
          have := (nI_eq (by omega) (by omega)).mp e1
          exact absurd (by rw [e2]; congr 1; omega) hq
      · have hib : ¬ inB (nI a - nI t) 0 59 := by
          intro hh
          rcases Nat.lt_or_ge a t with hlt | hge
          · exact absurd hh.1 (Int32.not_le.mpr (pk_sneg (by omega) hlt))
          · rw [pk_sub hge] at hh
            have := (nI_leI (a := a - t) (b := 59) (by omega) (by decide)).mp hh.2
            omega
        rw [if_pos hib]
        refine ⟨fun hh => ?_, fun _ => rfl⟩
        obtain ⟨e, he, e1, e2⟩ := hh.1
        rw [ea] at e1
        have := (nI_eq (by omega) (by omega)).mp e1
        omega
  obtain ⟨k1, k2⟩ := key (noteN S) 0 F (by omega) (by omega)
  unfold sp_X0_isNoted
  exact ⟨fun hh => k1 (fun j _ h2 => hh j (by omega)), fun hh => k2 (fun h2 => hh (fun i hi => h2 i (by omega) (by omega)))⟩
theorem fUp_refl (ht : trOk G h bx) (hg : gsAt h bx g) : fUp G h h bx := ⟨ht, ⟨g, hg⟩, fun _ _ _ => rfl⟩
theorem fUp_trans {h' h'' : gH} (h1 : fUp G h h' bx) (h2 : fUp G h' h'' bx) : fUp G h h'' bx := ⟨h2.1, h2.2.1, fun a ha hb => (h2.2.2 a ha hb).trans (h1.2.2 a ha hb)⟩
theorem v_fits_L {t : Nat} {p1 : Int32} (hF : 200 ≤ F) (hG : gI4 G) (ht : t + 99 < 2 ^ 30) (hset : setOk S) (hc : cntOk S) (hnu : numOk S t) (hn : noteOk S) (hS : runOk S t) (hW : wOk S J Q) : ∀ (k f : Nat) (x y : Int32) (h : gH), k ≤ 9 → k < f → trOk G h bx → (∃ g, gsAt h bx g) → ∃ h', sp_X0_fits_L47 G F f (wh G (xo h bx c) (bx + 1) S J Q) bx p1 x y (nI k) = some ((fitsL (tabA A S 3) S k x y).1, (fitsL (tabA A S 3) S k x y).2, wh G (xo h' bx c) (bx + 1) S J Q) ∧ fUp G h h' bx := by
  have h5 := hn.1
  intro k
  induction k with
  | zero =>
    intro f x y h hk hf htr hg
    obtain ⟨f, rfl⟩ : ∃ z, f = z + 1 := ⟨f - 1, by omega⟩
    obtain ⟨g, hg⟩ := hg
    refine ⟨h, ?_, fUp_refl htr hg⟩
    rw [sp_X0_fits_L47, if_pos (show nI 0 ≤ 0 by decide)]
    rfl
  | succ k ih =>
    intro f x y h hk hf htr hg
    obtain ⟨f, rfl⟩ : ∃ z, f = z + 1 := ⟨f - 1, by omega⟩
    obtain ⟨g, hg⟩ := hg
    have en : ¬ nI (k + 1) ≤ 0 := nI_nle (by omega) (by omega)
    obtain ⟨K, R, e1, e2⟩ := v_thought (F := F) (c := c) (by omega) htr hc hset.2.1 hnu hW
    have hgo := goOk_of e2 hS (clOk_T (A := A) hset e2)
    have hgk := gapK_F (S := S) (g := nI (k + 1)) hset.1
    have hgg := gap_go hgk hgo
    obtain ⟨h1, K1, g1, k1, k2, k3, k4, k5⟩ := v_lights_L (G := G) (F := F) (C := tabA A S 3) (S := S) (J := J) (Q := Q) (c := c) (T := gapsF S (nI (k + 1))) (R := R) (t0 := t) (p1 := p1) (x := x) (y := y) (z := nI (k + 1)) hF hG (by omega) 60 0 F h g K (by omega) (by omega) hg hgg (fun e he => by omega)
    have k1' : sp_X0_fits_L66 G F F (wh G (wh G (xo h bx c) (bx + 1) S J Q) (bx + 106) (gapsF S (nI (k + 1))) K R) bx p1 x y (nI (k + 1)) (bx + 106) 0 = _ := k1
    obtain ⟨h2, eh2⟩ : ∃ h2, h2 = wh G h1 (bx + 106) (passF (tabA A S 3) 60 (gapsF S (nI (k + 1)))) K1 R := ⟨_, rfl⟩
    have ht2 : tUp G h1 h2 bx := by rw [eh2]; exact tUp_wh k5
    have hg2 : gsAt h2 bx g1 := (ht2.2 _ (Or.inr (by omega))).trans k2
    have hf2 : fUp G h h2 bx := ⟨ht2.1, ⟨g1, hg2⟩, fun a ha hb => (ht2.2 a ha).trans (k4 a hb)⟩
    have hrg := gap_run hgk hS
    have eN : noteN (gapsF S (nI (k + 1))) = noteN S := by unfold noteN; rw [hgk 19 (by omega)]
    have hfit := fit_iff (C := tabA A S 3) (t := t) (by omega) hrg
    rw [eN] at hfit
    have hcond : fitB (tabA A S 3) (gapsF S (nI (k + 1))) ↔ ∀ i, i < noteN S → ∃ e, e < 60 ∧ S (345 + 2 * i) = nI (t + e) ∧ S (346 + 2 * i) = g1 e := by
      unfold fitB
      rw [eN]
      constructor
      · intro hh i hi
        obtain ⟨e, he, a1, a2⟩ := hh i hi
        rw [hgk _ (by omega), pass_3 hrg e (by omega)] at a1
        rw [hgk _ (by omega), ← k3 e he] at a2
        exact ⟨e, he, a1, a2⟩
      · intro hh i hi
        obtain ⟨e, he, a1, a2⟩ := hh i hi
        refine ⟨e, he, ?_, ?_⟩
        · rw [hgk _ (by omega), pass_3 hrg e (by omega)]; exact a1
        · rw [hgk _ (by omega), ← k3 e he]; exact a2
    obtain ⟨n1, n2⟩ := v_isNoted (G := G) (F := F) (c := c) (J := J) (Q := Q) (show 40 ≤ F by omega) (show t < 2 ^ 30 by omega) hnu.1 hn hg2
    rw [← hcond, ← hfit] at n1 n2
    rw [sp_X0_fits_L47]
    simp only [en, if_false, v_is, if_true, e1, Option.bind_some, x_is, x_withGap (show 40 ≤ F by omega) e2.1.1 hset.1, k1', q_is, fitsL, pk_m1]
    rw [t_back, ← eh2]
    by_cases hq : fitN (tabA A S 3) (gapsF S (nI (k + 1))) 60 = noteN S
    · rw [n1 hq, if_pos hq]
      simp only [Option.bind_some]
      rw [if_neg (by decide)]
      obtain ⟨h3, j1, j2⟩ := ih f (x + 1) (nI (k + 1)) h2 (by omega) (by omega) hf2.1 hf2.2.1
      exact ⟨h3, j1, fUp_trans hf2 j2⟩
    · rw [n2 hq, if_neg hq]
      simp only [Option.bind_some]
      rw [if_pos trivial]
      obtain ⟨h3, j1, j2⟩ := ih f x y h2 (by omega) (by omega) hf2.1 hf2.2.1
      exact ⟨h3, j1, fUp_trans hf2 j2⟩
theorem v_fits {t : Nat} {p1 : Int32} (hF : 200 ≤ F) (hG : gI4 G) (ht : t + 99 < 2 ^ 30) (htr : trOk G h bx) (hg : gsAt h bx g) (hset : setOk S) (hc : cntOk S) (hnu : numOk S t) (hn : noteOk S) (hS : ¬ S 2 = 0 → runOk S t) (hW : wOk S J Q) : ∃ c' h', sp_X0_fits G F (wh G (xo h bx c) (bx + 1) S J Q) bx p1 = some ((fitsR (tabA A S 3) S (c 3) p1).1, wh G (xo h' bx c') (bx + 1) S J Q) ∧ cR c c' (fitsR (tabA A S 3) S (c 3) p1).2 ∧ fUp G h h' bx := by
  unfold sp_X0_fits
  simp only [i_in_0_1, Option.bind_some, b0]
  rcases (Classical.em (inB p1 0 1)).symm with h1 | h1
  · have eR : fitsR (tabA A S 3) S (c 3) p1 = (-1, c 3) := if_pos h1
    rw [eR, if_pos h1]
    exact ⟨c, h, rfl, cR_refl, fUp_refl htr hg⟩
  rw [if_neg (fun hh => hh h1)]
  simp only [v_f0, x_f0, Option.bind_some]
  by_cases h2 : S 2 = 0
  · have eR : fitsR (tabA A S 3) S (c 3) p1 = (-3, c 3) := by unfold fitsR; rw [if_neg (fun hh => hh h1), if_pos h2]
    rw [eR, if_pos h2]
    exact ⟨c, h, rfl, cR_refl, fUp_refl htr hg⟩
  rw [if_neg h2]
  simp only [v_is, if_true, v_counts, b0, Option.bind_some]
  by_cases h3 : c 3 + 540 ≤ 12000
  · have eR : fitsR (tabA A S 3) S (c 3) p1 = (if p1 = 0 then (fitsL (tabA A S 3) S 9 0 (-5)).1 else (fitsL (tabA A S 3) S 9 0 (-5)).2, c 3 + 540) := by
      unfold fitsR
      rw [if_neg (fun hh => hh h1), if_neg h2, if_neg (fun hh => hh h3)]
    obtain ⟨h', e1, e2⟩ := v_fits_L (G := G) (F := F) (A := A) (c := upd c 3 (c 3 + 540)) (p1 := p1) hF hG ht hset hc hnu hn (hS h2) hW 9 F 0 (-5) h (by omega) (by omega) htr ⟨g, hg⟩
    have e1' : sp_X0_fits_L47 G F F (wh G (xo h bx (upd c 3 (c 3 + 540))) (bx + 1) S J Q) bx p1 0 (-5) 9 = _ := e1
    rw [eR, if_neg (fun hh => hh h3)]
    simp only [h3, if_true, e1', Option.bind_some]
    refine ⟨_, h', ?_, cR_upd, e2⟩
    by_cases h4 : p1 = 0
    · rw [if_pos h4, if_pos h4]
    · rw [if_neg h4, if_neg h4]
  · have eR : fitsR (tabA A S 3) S (c 3) p1 = (-4, c 3) := by
      unfold fitsR
      rw [if_neg (fun hh => hh h1), if_neg h2, if_pos h3]
    rw [eR, if_pos h3]
    simp only [h3, if_false]
    exact ⟨c, h, rfl, cR_refl, fUp_refl htr hg⟩
end X13
