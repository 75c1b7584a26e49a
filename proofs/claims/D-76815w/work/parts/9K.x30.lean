/-! x30: rowInv is kept: green, note, plan, wave, node, change, cycle -/
set_option maxRecDepth 100000
def hiK (k : Nat) : Prop := k = 0 ∨ (10 ≤ k ∧ k ≤ 12) ∨ (16 ≤ k ∧ k ≤ 20) ∨ (306 ≤ k ∧ k < 372)
section Inv2
variable {S T : Nat → Int32} {t : Nat}
theorem inv_hi (hs : samK hiK S T) (h10 : 0 ≤ T 10) (hn : noteOk T) (hp : planOk T) (hw : waveOk T) (ht : toldOk T) (htd : tldsOk T) (h : rowInv S t) : rowInv T t :=
  inv_same hs (by unfold hiK; omega) (by unfold hiK; omega) (by unfold hiK; omega) (by unfold hiK; omega) (by unfold hiK; omega) (by unfold hiK; omega) (by unfold hiK; omega) (by unfold hiK; omega) (by unfold hiK; omega) (by unfold hiK; omega) (by unfold hiK; omega) (fun k h1 h2 => by unfold hiK; omega) (fun k h1 => by unfold hiK; omega) h10 hn hp hw ht htd h
theorem i_10 (h : rowInv S t) : 0 ≤ S 10 := h.1.2.2.2.2.2.1
theorem i_note (h : rowInv S t) : noteOk S := h.2.1.1
theorem i_plan (h : rowInv S t) : planOk S := h.2.1.2.1
theorem i_wave (h : rowInv S t) : waveOk S := h.2.1.2.2
theorem i_cnt (h : rowInv S t) : cntOk S := h.1.2.1
theorem i_set (h : rowInv S t) : setOk S := h.1.1
theorem i_m (h : rowInv S t) : mOk S := h.1.1.1
theorem i_tld (h : rowInv S t) : toldOk S := h.1.2.1.2.2.2.1
theorem i_tlds (h : rowInv S t) : tldsOk S := h.2.2.2.2.1
theorem sam_t {X : Nat → Prop} {U : Nat → Int32} (h1 : samK X S T) (h2 : samK X T U) : samK X S U := fun k hk => (h2 k hk).trans (h1 k hk)
theorem sam_3 {X : Nat → Prop} {a b c : Nat} {x y z : Int32} (ha : X a) (hb : X b) (hc : X c) : samK X S (upd (upd (upd S a x) b y) c z) := sam_t (sam_t (sam_1 ha) (sam_1 hb)) (sam_1 hc)
theorem sam_app {X : Nat → Prop} {p q n : Nat} {x y z : Int32} (h0 : X p) (h1 : X (p + 1)) (h2 : X (p + 2)) (h3 : X q) : samK X S (app3 S p q n x y z) := sam_t (sam_3 h0 h1 h2) (sam_1 h3)
theorem inv_told (vo : ∀ p, p ≠ 18 → (p < 321 ∨ 345 ≤ p) → T p = S p) (ht : toldOk T) (htd : tldsOk T) (h : rowInv S t) : rowInv T t :=
  inv_hi (fun k hk => vo k (fun e => hk (by unfold hiK; omega)) (by unfold hiK at hk; omega)) (by rw [vo 10 (by decide) (by omega)]; exact i_10 h) (note_same (vo 19 (by decide) (by omega)) (fun k h1 h2 => vo k (by omega) (by omega)) (i_note h)) (plan_same (vo 20 (by decide) (by omega)) (fun k h1 h2 => vo k (by omega) (by omega)) (i_plan h)) (wave_same (vo 16 (by decide) (by omega)) (vo 17 (by decide) (by omega)) (fun k hk => vo _ (by unfold nd; omega) (by unfold nd; omega)) (i_wave h)) ht htd h
theorem inv_nt (vo : ∀ p, p ≠ 19 → (p < 345 ∨ 355 ≤ p) → T p = S p) (hn : noteOk T) (h : rowInv S t) : rowInv T t :=
  inv_hi (fun k hk => vo k (fun e => hk (by unfold hiK; omega)) (by unfold hiK at hk; omega)) (by rw [vo 10 (by decide) (by omega)]; exact i_10 h) hn (plan_same (vo 20 (by decide) (by omega)) (fun k h1 h2 => vo k (by omega) (by omega)) (i_plan h)) (wave_same (vo 16 (by decide) (by omega)) (vo 17 (by decide) (by omega)) (fun k hk => vo _ (by unfold nd; omega) (by unfold nd; omega)) (i_wave h)) (toldOk_same (vo 18 (by decide) (by omega)) (i_tld h)) (tlds_same (vo 13 (by decide) (by omega)) (vo 18 (by decide) (by omega)) (fun k h1 h2 => vo k (by omega) (by omega)) (i_tld h) (i_tlds h)) h
theorem inv_pl (vo : ∀ p, p ≠ 20 → (p < 355 ∨ 372 ≤ p) → T p = S p) (hn : planOk T) (h : rowInv S t) : rowInv T t :=
  inv_hi (fun k hk => vo k (fun e => hk (by unfold hiK; omega)) (by unfold hiK at hk; omega)) (by rw [vo 10 (by decide) (by omega)]; exact i_10 h) (note_same (vo 19 (by decide) (by omega)) (fun k h1 h2 => vo k (by omega) (by omega)) (i_note h)) hn (wave_same (vo 16 (by decide) (by omega)) (vo 17 (by decide) (by omega)) (fun k hk => vo _ (by unfold nd; omega) (by unfold nd; omega)) (i_wave h)) (toldOk_same (vo 18 (by decide) (by omega)) (i_tld h)) (tlds_same (vo 13 (by decide) (by omega)) (vo 18 (by decide) (by omega)) (fun k h1 h2 => vo k (by omega) (by omega)) (i_tld h) (i_tlds h)) h
theorem inv_wv (vo : ∀ p, p ≠ 16 → p ≠ 17 → (p < 306 ∨ 321 ≤ p) → T p = S p) (hn : waveOk T) (h : rowInv S t) : rowInv T t :=
  inv_hi (fun k hk => vo k (fun e => hk (by unfold hiK; omega)) (fun e => hk (by unfold hiK; omega)) (by unfold hiK at hk; omega)) (by rw [vo 10 (by decide) (by decide) (by omega)]; exact i_10 h) (note_same (vo 19 (by decide) (by decide) (by omega)) (fun k h1 h2 => vo k (by omega) (by omega) (by omega)) (i_note h)) (plan_same (vo 20 (by decide) (by decide) (by omega)) (fun k h1 h2 => vo k (by omega) (by omega) (by omega)) (i_plan h)) hn (toldOk_same (vo 18 (by decide) (by decide) (by omega)) (i_tld h)) (tlds_same (vo 13 (by decide) (by decide) (by omega)) (vo 18 (by decide) (by decide) (by omega)) (fun k h1 h2 => vo k (by omega) (by omega) (by omega)) (i_tld h) (i_tlds h)) h
theorem inv_cy (vo : ∀ p, p ≠ 10 → p ≠ 11 → p ≠ 12 → T p = S p) (h10 : 0 ≤ T 10) (h : rowInv S t) : rowInv T t :=
  inv_hi (fun k hk => vo k (fun e => hk (by unfold hiK; omega)) (fun e => hk (by unfold hiK; omega)) (fun e => hk (by unfold hiK; omega))) h10 (note_same (vo 19 (by decide) (by decide) (by decide)) (fun k h1 h2 => vo k (by omega) (by omega) (by omega)) (i_note h)) (plan_same (vo 20 (by decide) (by decide) (by decide)) (fun k h1 h2 => vo k (by omega) (by omega) (by omega)) (i_plan h)) (wave_same (vo 16 (by decide) (by decide) (by decide)) (vo 17 (by decide) (by decide) (by decide)) (fun k hk => vo _ (by unfold nd; omega) (by unfold nd; omega) (by unfold nd; omega)) (i_wave h)) (toldOk_same (vo 18 (by decide) (by decide) (by decide)) (i_tld h)) (tlds_same (vo 13 (by decide) (by decide) (by decide)) (vo 18 (by decide) (by decide) (by decide)) (fun k h1 h2 => vo k (by omega) (by omega) (by omega)) (i_tld h) (i_tlds h)) h
theorem i32_nat {x : Int32} {m : Nat} (h0 : 0 ≤ x) (h1 : x ≤ nI m) (hm : m < 2 ^ 31) : ∃ k, k ≤ m ∧ x = nI k := by
  have g0 := Int32.le_iff_toInt_le.mp h0
  have g1 := Int32.le_iff_toInt_le.mp h1
  rw [show (0 : Int32).toInt = 0 from rfl] at g0
  rw [nI_toInt hm] at g1
  refine ⟨x.toInt.toNat, by omega, ?_⟩
  apply Int32.toInt_inj.mp
  rw [nI_toInt (by omega)]
  omega
theorem inv_green {p1 p2 p3 : Int32} (h : rowInv S t) : rowInv (greenR S p1 p2 p3).2 t := by
  have hm := i_m h
  have h8 := hm.1
  have ht := i_tld h
  have ht8 := ht.1
  unfold greenR
  by_cases h0 : p1 = -1
  · rw [if_pos h0]
    show rowInv (upd S 18 0) t
    have hz : tolN (upd S 18 0) = 0 := by unfold tolN; rw [upd_eq]; rfl
    refine inv_told (fun p h1 _ => upd_ne h1) ⟨by rw [hz]; omega, by rw [hz, upd_eq]; rfl⟩ (fun k hk => ?_) h
    rw [hz] at hk
    omega
  rw [if_neg h0]
  by_cases h1 : inB p1 0 (S 13 - 1)
  · rw [if_neg (nn h1)]
    by_cases h2 : inB p2 0 9998 ∧ p2 < p3 ∧ p3 ≤ 9999
    · rw [if_neg (nn h2)]
      by_cases h5 : S 18 = 8
      · rw [if_pos h5]; exact h
      rw [if_neg h5]
      have hk := told_lt ht h5
      show rowInv (app3 S (321 + 3 * tolN S) 18 (tolN S) p1 p2 p3) t
      obtain ⟨v0, v1, v2, vq, vo⟩ := app3_v (S := S) (p0 := 321 + 3 * tolN S) (q0 := 18) (k := tolN S) (x := p1) (y := p2) (z := p3) (by decide) (by omega)
      generalize app3 S (321 + 3 * tolN S) 18 (tolN S) p1 p2 p3 = T at v0 v1 v2 vq vo ⊢
      have e18 : tolN T = tolN S + 1 := by unfold tolN at *; rw [vq]; exact nI_c (by omega)
      have e13 : T 13 = S 13 := vo 13 (by decide) (by omega)
      refine inv_told (fun p g1 g2 => vo p g1 (by omega)) ⟨by rw [e18]; omega, by rw [e18]; exact vq⟩ (fun k hkk => ?_) h
      rw [e18] at hkk
      rw [many_same e13]
      by_cases hl : k = tolN S
      · rw [hl, v0, v1, v2]
        have h1' := h1
        rw [hm.2] at h1'
        refine ⟨in_nI (by omega) h1', ?_⟩
        obtain ⟨⟨l1, l2⟩, l3, l4⟩ := h2
        obtain ⟨x, hx, rfl⟩ := i32_nat (m := 9999) l1 (Int32.le_of_lt (Int32.lt_of_lt_of_le l3 l4)) (by decide)
        obtain ⟨y, hy, rfl⟩ := i32_nat (m := 9999) (Int32.le_trans l1 (Int32.le_of_lt l3)) l4 (by decide)
        have g3 := Int32.lt_iff_toInt_lt.mp l3
        rw [nI_toInt (by omega), nI_toInt (by omega)] at g3
        exact ⟨x, y, by omega, hy, rfl, rfl⟩
      · have := i_tlds h k (by omega)
        rw [vo (321 + 3 * k) (by omega) (by omega), vo (321 + 3 * k + 1) (by omega) (by omega), vo (321 + 3 * k + 2) (by omega) (by omega)]
        exact this
    · rw [if_pos h2]; exact h
  · rw [if_pos h1]; exact h
theorem inv_note {p1 p2 : Int32} (h : rowInv S t) : rowInv (noteR S p1 p2).2 t := by
  have hn := i_note h
  have hn5 := hn.1
  unfold noteR
  by_cases h0 : p1 = -1
  · rw [if_pos h0]
    show rowInv (upd S 19 0) t
    have hz : noteN (upd S 19 0) = 0 := by unfold noteN; rw [upd_eq]; rfl
    refine inv_nt (fun p h1 _ => upd_ne h1) ⟨by rw [hz]; omega, by rw [hz, upd_eq]; rfl, fun k hk => ?_⟩ h
    rw [hz] at hk
    omega
  rw [if_neg h0]
  by_cases h1 : inB p1 0 99999
  · rw [if_neg (nn h1)]
    by_cases h2 : inB p2 0 255
    · rw [if_neg (nn h2)]
      by_cases h5 : S 19 = 5
      · rw [if_pos h5]; exact h
      rw [if_neg h5]
      have hk := note_lt hn h5
      show rowInv (noteF S p1 p2) t
      have v0 : noteF S p1 p2 (345 + 2 * noteN S) = p1 := by unfold noteF; rw [upd_ne (by omega), upd_ne (by omega), upd_eq]
      have vq : noteF S p1 p2 19 = nI (noteN S + 1) := upd_eq
      have vo : ∀ p, p ≠ 19 → (p < 345 + 2 * noteN S ∨ 347 + 2 * noteN S ≤ p) → noteF S p1 p2 p = S p := fun p g1 g2 => by unfold noteF; rw [upd_ne g1, upd_ne (by omega), upd_ne (by omega)]
      generalize noteF S p1 p2 = T at v0 vq vo ⊢
      have e : noteN T = noteN S + 1 := by unfold noteN at *; rw [vq]; exact nI_c (by omega)
      refine inv_nt (fun p g1 g2 => vo p g1 (by omega)) ⟨by rw [e]; omega, by rw [e]; exact vq, fun i hi => ?_⟩ h
      rw [e] at hi
      by_cases hl : i = noteN S
      · rw [hl, v0]
        exact i32_nat (m := 99999) h1.1 h1.2 (by decide)
      · rw [vo _ (by omega) (by omega)]
        exact hn.2.2 i (by omega)
    · rw [if_pos h2]; exact h
  · rw [if_pos h1]; exact h
theorem inv_cycle {p1 p2 p3 : Int32} (h : rowInv S t) : rowInv (cycleR S p1 p2 p3).2 t := by
  have key : ∀ x, 0 ≤ x → rowInv (cycF S x p2 p3) t := fun x hx => by
    have vo : ∀ p, p ≠ 10 → p ≠ 11 → p ≠ 12 → cycF S x p2 p3 p = S p := fun p g1 g2 g3 => by unfold cycF; rw [upd_ne g3, upd_ne g2, upd_ne g1]
    have v : cycF S x p2 p3 10 = x := by unfold cycF; rw [upd_ne (by decide), upd_ne (by decide), upd_eq]
    exact inv_cy vo (by rw [v]; exact hx) h
  unfold cycleR
  by_cases h0 : p1 = 0
  · rw [if_pos h0]; exact key p1 (by rw [h0]; decide)
  rw [if_neg h0]
  by_cases h1 : inB p1 20 240
  · rw [if_neg (nn h1)]
    split
    · exact h
    · split
      · exact h
      · exact key p1 (Int32.le_trans (by decide) h1.1)
  · rw [if_pos h1]; exact h
end Inv2
