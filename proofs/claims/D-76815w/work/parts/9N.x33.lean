/-! x33: rowInv is kept: goes, phase -/
set_option maxRecDepth 100000
section Inv5
variable {S T : Nat → Int32} {t : Nat}
theorem inv_g (hhi : ∀ k, 234 ≤ k → T k = S k) (hmid : ∀ k, 15 ≤ k → k ≤ 20 → T k = S k) (hle : manyN S ≤ manyN T) (h7 : T 7 = S 7) (h8 : T 8 = S 8) (hset : setOk T) (hdst : dstOk T) (h2 : T 2 = 0 ∨ T 2 = 1) (hp : pOk T) (hphs : phsOk T) (hnum : numOk T t) (hneg : negOk T) (hsec : secI T) (h10 : 0 ≤ T 10) (h : rowInv S t) : rowInv T t := by
  obtain ⟨⟨a1, a2, a3, a4, a5, a6, a7⟩, ⟨c1, c2, c3⟩, b1, b2, b3, b4, b5⟩ := h
  have e15 := hmid 15 (by decide) (by decide)
  have e17 := hmid 17 (by decide) (by decide)
  have e18 := hmid 18 (by decide) (by decide)
  have er : recN T = recN S := by unfold recN; rw [e15]
  have et : tolN T = tolN S := by unfold tolN; rw [e18]
  have hr24 := a2.2.2.1.1
  have ht8 := a2.2.2.2.1.1
  refine ⟨⟨hset, ⟨hset.1, hp, rOk_same e15 a2.2.2.1, toldOk_same e18 a2.2.2.2.1, nodeOk_same e17 a2.2.2.2.2.1, h2⟩, hnum, hneg, hsec, h10, hphs⟩, ⟨note_same (hmid 19 (by decide) (by decide)) (fun k g1 g2 => hhi k (by omega)) c1, plan_same (hmid 20 (by decide) (by decide)) (fun k g1 g2 => hhi k (by omega)) c2, wave_same (hmid 16 (by decide) (by decide)) e17 (fun k hk => hhi _ (by unfold nd; omega)) c3⟩, sum_same h7 h8 b1, fun r hr => ?_, fun k hk => ?_, hdst, fun k hk => by rw [hhi k (by omega)]; exact b5 k hk⟩
  · rw [er] at hr
    rw [hhi (rA r 0) (by unfold rA; omega), hhi (rA r 1) (by unfold rA; omega), hhi (rA r 2) (by unfold rA; omega)]
    obtain ⟨⟨a, ha, e⟩, g⟩ := b2 r hr
    exact ⟨⟨a, by omega, e⟩, g⟩
  · rw [et] at hk
    rw [hhi (321 + 3 * k) (by omega), hhi (321 + 3 * k + 1) (by omega), hhi (321 + 3 * k + 2) (by omega)]
    obtain ⟨⟨a, ha, e⟩, g⟩ := b3 k hk
    exact ⟨⟨a, by omega, e⟩, g⟩
theorem inv_goes {p1 p2 : Int32} (h : rowInv S t) : rowInv (goesR S p1 p2).2 t := by
  have hS := i_set h
  have hm := i_m h
  have h8 := hm.1
  unfold goesR
  by_cases h1 : inB p1 0 (S 13 - 1)
  · rw [if_neg (nn h1)]
    by_cases h2 : inB p2 0 63
    · rw [if_neg (nn h2)]
      have h1' := h1
      rw [hm.2] at h1'
      obtain ⟨a, ha, rfl⟩ : ∃ k, k < manyN S ∧ p1 = nI k := in_nI (by omega) h1'
      obtain ⟨c, hc, rfl⟩ : ∃ k, k < 64 ∧ p2 = nI k := in_nI (m := 64) (by decide) h2
      rw [nI_c (show a < 2 ^ 31 by omega)]
      have ha8 : a < 8 := by omega
      have hcc := (hS.2.1 a ha8).cells
      by_cases h3 : placeV S a (nI c) < 0
      · rw [if_neg (nn h3)]
        by_cases h4 : S 14 ≤ 0
        · rw [if_neg (nn h4)]
          by_cases h5 : S (sA a 11) = 8
          · rw [if_pos h5]; exact h
          rw [if_neg h5]
          have hn : cellsN S a < 8 := by
            rcases Nat.lt_or_ge (cellsN S a) 8 with g | g
            · exact g
            · exact absurd (by rw [hcc.2, show cellsN S a = 8 by omega]; rfl) h5
          show rowInv (goesOnF S a (nI c)) t
          have hset := gm_setOk hS ha hn rfl hc
          have vo : ∀ p, p ≠ sA a 11 → p ≠ sA a (12 + cellsN S a) → goesOnF S a (nI c) p = S p := fun p g1 g2 => goesOnF_ne g1 g2
          have v11 : goesOnF S a (nI c) (sA a 11) = nI (cellsN S a + 1) := upd_eq
          have vc : goesOnF S a (nI c) (sA a (12 + cellsN S a)) = nI c := by unfold goesOnF; rw [upd_ne (by unfold sA; omega), upd_eq]
          generalize goesOnF S a (nI c) = T at hset vo v11 vc ⊢
          have lo : ∀ p, p < 24 → T p = S p := fun p hp => vo p (by unfold sA; omega) (by unfold sA; omega)
          have em : manyN T = manyN S := many_same (lo 13 (by decide))
          have hph : ∀ i, i < 6 → T (pA i 0) = S (pA i 0) := fun i hi => vo _ (by unfold pA sA; omega) (by unfold pA sA; omega)
          have hnot : ∀ j, j < cellsN S a → ¬ S (sA a (12 + j)) = nI c := by
            rcases placeV_v (S := S) (a := a) (x := nI c) hcc.1 with ⟨-, e⟩ | ⟨j, hj, -, e⟩
            · exact e
            · rw [e] at h3
              exact absurd h3 (nI_nn (by omega))
          have eca : cellsN T a = cellsN S a + 1 := by unfold cellsN at *; rw [v11]; exact nI_c (by omega)
          have hdst : dstOk T := fun k hk i j hi hj e => by
            rw [em] at hk
            by_cases hka : k = a
            · subst hka
              rw [eca] at hi hj
              by_cases g1 : i = cellsN S k
              · by_cases g2 : j = cellsN S k
                · omega
                · rw [g1, vc, vo (sA k (12 + j)) (by unfold sA; omega) (by unfold sA; omega)] at e
                  exact absurd e.symm (hnot j (by omega))
              · rw [vo (sA k (12 + i)) (by unfold sA; omega) (by unfold sA; omega)] at e
                by_cases g2 : j = cellsN S k
                · rw [g2, vc] at e
                  exact absurd e (hnot i (by omega))
                · rw [vo (sA k (12 + j)) (by unfold sA; omega) (by unfold sA; omega)] at e
                  exact h.2.2.2.2.2.1 k hk i j (by omega) (by omega) e
            · have hk8 : k < 8 := by omega
              have hk11 : T (sA k 11) = S (sA k 11) := vo _ (by unfold sA; omega) (by unfold sA; omega)
              have ek : cellsN T k = cellsN S k := by unfold cellsN; rw [hk11]
              have hck := (hS.2.1 k hk8).cells.1
              rw [ek] at hi hj
              rw [vo (sA k (12 + i)) (by unfold sA; omega) (by unfold sA; omega), vo (sA k (12 + j)) (by unfold sA; omega) (by unfold sA; omega)] at e
              exact h.2.2.2.2.2.1 k hk i j hi hj e
          exact inv_g (fun k g => vo k (by unfold sA; omega) (by unfold sA; omega)) (fun k g1 g2 => lo k (by omega)) (by rw [em]; omega) (lo 7 (by decide)) (lo 8 (by decide)) hset hdst (by rw [lo 2 (by decide)]; exact i_2 h) (pOk_same (lo 14 (by decide)) (i_cnt h).2.1) (phs_same (lo 13 (by decide)) (lo 14 (by decide)) hph (i_cnt h).2.1 h.1.2.2.2.2.2.2) (num_same (lo 3 (by decide)) (lo 13 (by decide)) (fun k w hk g1 g2 => vo _ (by unfold sA; omega) (by unfold sA; omega)) hm (i_num h)) (neg_same (lo 5 (by decide)) (lo 6 (by decide)) (i_neg h)) (sec_same (lo 2 (by decide)) (lo 4 (by decide)) (lo 5 (by decide)) (lo 6 (by decide)) (lo 13 (by decide)) (lo 14 (by decide)) (lo 15 (by decide)) hph (i_sec h)) (by rw [lo 10 (by decide)]; exact i_10 h) h
        · rw [if_pos h4]; exact h
      · rw [if_pos h3]; exact h
    · rw [if_pos h2]; exact h
  · rw [if_pos h1]; exact h
theorem two_m : ∀ m, m < 9 → ((1 : Int32) <<< (nI m &&& 31)) - 1 = nI (2 ^ m - 1) := by decide +kernel
theorem inv_phase {C : Nat → Int32} {p1 p2 : Int32} (h : rowInv S t) : rowInv (phaseR C S p1 p2).2 t := by
  have hm := i_m h
  have h8 := hm.1
  have hp := (i_cnt h).2.1
  have hp6 := hp.1
  unfold phaseR
  by_cases h1 : inB p1 1 (((1 : Int32) <<< (S 13 &&& 31)) - 1)
  · rw [if_neg (nn h1)]
    by_cases h2 : inB p2 0 239
    · rw [if_neg (nn h2)]
      by_cases h3 : S 2 = 1
      · rw [if_pos h3]; exact h
      rw [if_neg h3]
      by_cases h4 : anyB C S p1 = true
      · rw [if_pos h4]; exact h
      rw [if_neg h4]
      by_cases h5 : S 14 = 6
      · rw [if_pos h5]; exact h
      rw [if_neg h5]
      have hk : phN S < 6 := by
        rcases Nat.lt_or_ge (phN S) 6 with g | g
        · exact g
        · exact absurd (by rw [hp.2, show phN S = 6 by omega]; rfl) h5
      have h20 : S 2 = 0 := (i_2 h).resolve_right h3
      show rowInv (phaseF S p1 p2) t
      have v0 : phaseF S p1 p2 (pA (phN S) 0) = p1 := by unfold phaseF; rw [upd_ne (by unfold pA; omega), upd_ne (by unfold pA; omega), upd_ne (by unfold pA; omega), upd_eq]
      have vq : phaseF S p1 p2 14 = nI (phN S + 1) := upd_eq
      have vo : ∀ p, p ≠ 14 → (p < 216 + 3 * phN S ∨ 219 + 3 * phN S ≤ p) → phaseF S p1 p2 p = S p := fun p g1 g2 => by unfold phaseF; rw [upd_ne g1, upd_ne (by unfold pA; omega), upd_ne (by unfold pA; omega), upd_ne (by unfold pA; omega)]
      generalize phaseF S p1 p2 = T at v0 vq vo ⊢
      have e14 : phN T = phN S + 1 := by unfold phN at *; rw [vq]; exact nI_c (by omega)
      have lo : ∀ p, p < 216 → p ≠ 14 → T p = S p := fun p g1 g2 => vo p g2 (by omega)
      have em : manyN T = manyN S := many_same (lo 13 (by decide) (by decide))
      have hway : ∀ k, wayK k → T k = S k := fun k hk => lo k (by unfold wayK at hk; omega) (by unfold wayK at hk; omega)
      have hphs : phsOk T := fun p hpp => by
        rw [e14] at hpp
        rw [em]
        by_cases e : p = phN S
        · rw [e, v0]
          rw [hm.2, two_m _ (by omega)] at h1
          have hb : 2 ^ manyN S ≤ 2 ^ 8 := Nat.pow_le_pow_right (by decide) h8
          have hb1 : 0 < 2 ^ manyN S := Nat.pow_pos (by decide)
          obtain ⟨s, hs, es⟩ := i32_nat (m := 2 ^ manyN S - 1) (Int32.le_trans (by decide) h1.1) h1.2 (by omega)
          exact ⟨s, by omega, es⟩
        · rw [vo _ (by unfold pA; omega) (by unfold pA; omega)]
          exact h.1.2.2.2.2.2.2 p (by omega)
      have e2 := lo 2 (by decide) (by decide)
      have hsec : secI T := ⟨fun e => by rw [e2] at e; exact absurd e h3, fun _ => by rw [lo 5 (by decide) (by decide), lo 6 (by decide) (by decide)]; exact (i_sec h).2 h20⟩
      exact inv_g (fun k g => vo k (by omega) (by omega)) (fun k g1 g2 => lo k (by omega) (by omega)) (by rw [em]; omega) (lo 7 (by decide) (by decide)) (lo 8 (by decide) (by decide)) (setOk_same hway (safe_same (lo 1 (by decide) (by decide)) (i_set h).2.2.1) (i_set h)) (dstOk_same hway hm (i_set h).2.1 h.2.2.2.2.2.1) (by rw [e2]; exact i_2 h) ⟨by rw [e14]; omega, by rw [e14]; exact vq⟩ hphs (num_same (lo 3 (by decide) (by decide)) (lo 13 (by decide) (by decide)) (fun k w hk g1 g2 => lo _ (by unfold sA; omega) (by unfold sA; omega)) hm (i_num h)) (neg_same (lo 5 (by decide) (by decide)) (lo 6 (by decide) (by decide)) (i_neg h)) hsec (by rw [lo 10 (by decide) (by decide)]; exact i_10 h) h
    · rw [if_pos h2]; exact h
  · rw [if_pos h1]; exact h
end Inv5
