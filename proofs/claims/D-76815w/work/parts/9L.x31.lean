/-! x31: rowInv is kept: plan, wave, node, change, tune, tell, safety, over, emergency -/
set_option maxRecDepth 100000
section Inv3
variable {S T : Nat → Int32} {t : Nat}
theorem inv_plan {p1 p2 : Int32} (h : rowInv S t) : rowInv (planR S p1 p2).2 t := by
  have hn := i_plan h
  have hn5 := hn.1
  unfold planR
  by_cases h0 : p1 = -1
  · rw [if_pos h0]
    show rowInv (upd S 20 0) t
    have hz : planN (upd S 20 0) = 0 := by unfold planN; rw [upd_eq]; rfl
    refine inv_pl (fun p h1 _ => upd_ne h1) ⟨by rw [hz]; omega, by rw [hz, upd_eq]; rfl, fun k hk => ?_⟩ h
    rw [hz] at hk
    omega
  rw [if_neg h0]
  by_cases h1 : inB p1 0 3
  · rw [if_neg (nn h1)]
    by_cases h2 : p1 = 2 ∨ inB p2 0 (if p1 = 0 then 99 else 7)
    · rw [if_neg (nn h2)]
      by_cases h5 : S 20 = 8
      · rw [if_pos h5]; exact h
      rw [if_neg h5]
      have hk : planN S < 8 := by
        rcases Nat.lt_or_ge (planN S) 8 with g | g
        · exact g
        · exact absurd (by rw [hn.2.1, show planN S = 8 by omega]; rfl) h5
      show rowInv (planF S p1 p2) t
      have v0 : planF S p1 p2 (355 + 2 * planN S) = p1 := by unfold planF; rw [upd_ne (by omega), upd_ne (by omega), upd_eq]
      have v1 : planF S p1 p2 (356 + 2 * planN S) = p2 := by unfold planF; rw [upd_ne (by omega), show 356 + 2 * planN S = 355 + (2 * planN S + 1) by omega, upd_eq]
      have vq : planF S p1 p2 20 = nI (planN S + 1) := upd_eq
      have vo : ∀ p, p ≠ 20 → (p < 355 + 2 * planN S ∨ 357 + 2 * planN S ≤ p) → planF S p1 p2 p = S p := fun p g1 g2 => by unfold planF; rw [upd_ne g1, upd_ne (by omega), upd_ne (by omega)]
      generalize planF S p1 p2 = T at v0 v1 vq vo ⊢
      have e : planN T = planN S + 1 := by unfold planN at *; rw [vq]; exact nI_c (by omega)
      refine inv_pl (fun p g1 g2 => vo p g1 (by omega)) ⟨by rw [e]; omega, by rw [e]; exact vq, fun i hi => ?_⟩ h
      rw [e] at hi
      by_cases hl : i = planN S
      · rw [hl, v0, v1]
        obtain ⟨w, hw, rfl⟩ : ∃ k, k < 4 ∧ p1 = nI k := in_nI (m := 4) (by decide) h1
        rcases (by omega : w = 0 ∨ w = 1 ∨ w = 2 ∨ w = 3) with rfl | rfl | rfl | rfl
        · rcases h2 with g | g
          · exact absurd g (by decide)
          · rw [if_pos (show nI 0 = 0 from rfl)] at g
            obtain ⟨k, hk, e⟩ := i32_nat (m := 99) g.1 g.2 (by decide)
            exact Or.inl ⟨rfl, k, by omega, e⟩
        · rcases h2 with g | g
          · exact absurd g (by decide)
          · rw [if_neg (by decide)] at g
            obtain ⟨k, hk, e⟩ := i32_nat (m := 7) g.1 g.2 (by decide)
            exact Or.inr (Or.inl ⟨rfl, k, by omega, e⟩)
        · exact Or.inr (Or.inr (Or.inl rfl))
        · rcases h2 with g | g
          · exact absurd g (by decide)
          · rw [if_neg (by decide)] at g
            obtain ⟨k, hk, e⟩ := i32_nat (m := 7) g.1 g.2 (by decide)
            exact Or.inr (Or.inr (Or.inr ⟨rfl, k, by omega, e⟩))
      · rw [vo _ (by omega) (by omega), vo (356 + 2 * i) (by omega) (by omega)]
        exact hn.2.2 i (by omega)
    · rw [if_pos h2]; exact h
  · rw [if_pos h1]; exact h
theorem inv_wave {p1 : Int32} (h : rowInv S t) : rowInv (waveR S p1).2 t := by
  unfold waveR
  by_cases h1 : inB p1 20 60
  · rw [if_neg (nn h1)]
    show rowInv (upd (upd S 16 p1) 17 0) t
    obtain ⟨k, hk, rfl⟩ := i32_nat (m := 60) (Int32.le_trans (by decide) h1.1) h1.2 (by decide)
    have g := Int32.le_iff_toInt_le.mp h1.1
    rw [nI_toInt (by omega), show (20 : Int32).toInt = 20 by decide] at g
    have e16 : upd (upd S 16 (nI k)) 17 0 16 = nI k := by rw [upd_ne (by decide), upd_eq]
    have er : rndN (upd (upd S 16 (nI k)) 17 0) = k := by unfold rndN; rw [e16, nI_c (by omega)]
    have hz : nodN (upd (upd S 16 (nI k)) 17 0) = 0 := by unfold nodN; rw [upd_eq]; rfl
    refine inv_wv (fun p h1 h2 _ => by rw [upd_ne h2, upd_ne h1]) ⟨⟨by rw [er]; omega, by rw [er]; exact hk, by rw [er, e16]⟩, ⟨by rw [hz]; omega, by rw [hz, upd_eq]; rfl⟩, fun i hi => ?_⟩ h
    rw [hz] at hi
    omega
  · rw [if_pos h1]; exact h
theorem inv_node {p1 p2 p3 : Int32} (h : rowInv S t) : rowInv (nodeR S p1 p2 p3).2 t := by
  obtain ⟨hr, hn, ho⟩ := id (i_wave h)
  have hn5 := hn.1
  unfold nodeR
  by_cases h1 : inB p1 0 (S 16 - 1)
  · rw [if_neg (nn h1)]
    by_cases h2 : inB p2 1 (S 16)
    · rw [if_neg (nn h2)]
      by_cases h3 : inB p3 0 99
      · rw [if_neg (nn h3)]
        by_cases h5 : S 17 = 5
        · rw [if_pos h5]; exact h
        rw [if_neg h5]
        have hk : nodN S < 5 := by
          rcases Nat.lt_or_ge (nodN S) 5 with g | g
          · exact g
          · exact absurd (by rw [hn.2, show nodN S = 5 by omega]; rfl) h5
        show rowInv (app3 S (306 + 3 * nodN S) 17 (nodN S) p1 p2 p3) t
        obtain ⟨v0, v1, v2, vq, vo⟩ := app3_v (S := S) (p0 := 306 + 3 * nodN S) (q0 := 17) (k := nodN S) (x := p1) (y := p2) (z := p3) (by decide) (by omega)
        generalize app3 S (306 + 3 * nodN S) 17 (nodN S) p1 p2 p3 = T at v0 v1 v2 vq vo ⊢
        have e : nodN T = nodN S + 1 := by unfold nodN at *; rw [vq]; exact nI_c (by omega)
        have e16 : T 16 = S 16 := vo 16 (by decide) (by omega)
        have er : rndN T = rndN S := by unfold rndN; rw [e16]
        refine inv_wv (fun p g1 g2 g3 => vo p g2 (by omega)) ⟨⟨by rw [er]; exact hr.1, by rw [er]; exact hr.2.1, by rw [er, e16]; exact hr.2.2⟩, ⟨by rw [e]; omega, by rw [e]; exact vq⟩, fun i hi => ?_⟩ h
        rw [e] at hi
        rw [er]
        by_cases hl : i = nodN S
        · rw [hl, show nd (nodN S) 0 = 306 + 3 * nodN S from rfl, v0]
          have h1' := h1
          rw [hr.2.2] at h1'
          have := hr.2.1
          exact in_nI (by omega) h1'
        · rw [vo _ (by unfold nd; omega) (by unfold nd; omega)]
          exact ho i (by omega)
      · rw [if_pos h3]; exact h
    · rw [if_pos h2]; exact h
  · rw [if_pos h1]; exact h
theorem inv_chn {p1 p2 p3 : Int32} (h : rowInv S t) : rowInv (chnR S p1 p2 p3).2 t := by
  obtain ⟨hr, hn, ho⟩ := id (i_wave h)
  have hn5 := hn.1
  have hr60 := hr.2.1
  unfold chnR
  by_cases h1 : inB p1 0 (S 17 - 1)
  · rw [if_neg (nn h1)]
    by_cases h2 : inB p2 0 2
    · rw [if_neg (nn h2)]
      by_cases h3 : inB p3 (if p2 = 1 then 1 else 0) (if p2 = 0 then S 16 - 1 else if p2 = 1 then S 16 else 99)
      · rw [if_neg (nn h3)]
        have h1' := h1
        rw [hn.2] at h1'
        obtain ⟨k, hk, rfl⟩ : ∃ k, k < nodN S ∧ p1 = nI k := in_nI (by omega) h1'
        obtain ⟨w, hw, rfl⟩ : ∃ k, k < 3 ∧ p2 = nI k := in_nI (m := 3) (by decide) h2
        rw [nI_c (show k < 2 ^ 31 by omega), nI_c (show w < 2 ^ 31 by omega)]
        show rowInv (upd S (nd k w) p3) t
        refine inv_wv (fun p g1 g2 g3 => upd_ne (by unfold nd; omega)) ⟨?_, ?_, fun i hi => ?_⟩ h
        · unfold rndOk rndN; rw [upd_ne (by unfold nd; omega)]; exact hr
        · exact nodeOk_same (upd_ne (by unfold nd; omega)) hn
        · have e : nodN (upd S (nd k w) p3) = nodN S := by unfold nodN; rw [upd_ne (by unfold nd; omega)]
          have er : rndN (upd S (nd k w) p3) = rndN S := by unfold rndN; rw [upd_ne (by unfold nd; omega)]
          rw [e] at hi
          rw [er]
          by_cases hl : nd i 0 = nd k w
          · have hw0 : w = 0 := by unfold nd at hl; omega
            subst hw0
            rw [if_neg (by decide), if_pos (show nI 0 = 0 from rfl), hr.2.2] at h3
            rw [hl, upd_eq]
            exact in_nI (by omega) h3
          · rw [upd_ne hl]
            exact ho i hi
      · rw [if_pos h3]; exact h
    · rw [if_pos h2]; exact h
  · rw [if_pos h1]; exact h
theorem inv_tune {c : Int32} (h : rowInv S t) : rowInv (tuneR S c).2.2 t := by
  have hw := i_wave h
  have hn5 := hw.2.1.1
  unfold tuneR
  split
  · exact h
  · show rowInv (tuneA S) t
    have key : samK (fun k => 306 ≤ k ∧ k < 321) S (tuneA S) := by
      unfold tuneA
      exact it_inv (m := 4) (P := fun _ s => samK (fun k => 306 ≤ k ∧ k < 321) S s) (fun _ s _ hs => it_inv (m := nodN S) (P := fun _ s => samK (fun k => 306 ≤ k ∧ k < 321) S s) (fun k s hk hs => by
        show samK _ S (tuneF k s)
        unfold tuneF
        split
        · exact hs
        · exact sam_t hs (sam_1 (by unfold nd; omega))) (nodN S) 0 s (by omega) hs) 4 0 S (by omega) (fun _ _ => rfl)
    exact inv_wv (fun p g1 g2 g3 => key p (by omega)) (tuneA_ok hw).1 h
end Inv3
