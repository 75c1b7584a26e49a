/-! x34: rowInv is kept: signal -/
set_option maxRecDepth 100000
section Inv6
variable {S T : Nat → Int32} {t : Nat}
theorem inv_ns {kd c : Nat} (hk : manyN S < 8) (hkd : kd < 4) (hc : c < 64) (h2 : ¬ S 2 = 1) (h : rowInv S t) : rowInv (nsS S kd c) t := by
  have hS := i_set h
  have hm := i_m h
  have h20 : S 2 = 0 := (i_2 h).resolve_right h2
  have hset := ns_setOk hS hk hkd hc
  obtain ⟨vw, vo, v13⟩ := nsS_v (S := S) (kd := kd) (c := c) rfl hk
  have em := ns_many (S := S) (kd := kd) (c := c) rfl hk
  have ec : ∀ a, a < 8 → cellsN (nsS S kd c) a = if a = manyN S then 1 else cellsN S a := fun a ha => ns_cells rfl hk ha
  generalize nsS S kd c = T at hset vw vo v13 em ec ⊢
  have lo : ∀ p, p < 24 → p ≠ 13 → T p = S p := fun p g1 g2 => vo p g2 (by omega)
  have hph : ∀ i, i < 6 → T (pA i 0) = S (pA i 0) := fun i hi => vo _ (by unfold pA; omega) (by unfold pA; omega)
  have e2 := lo 2 (by decide) (by decide)
  have e14 := lo 14 (by decide) (by decide)
  have hdst : dstOk T := fun a ha i j hi hj e => by
    rw [em] at ha
    rw [ec a (by omega)] at hi hj
    by_cases g : a = manyN S
    · rw [if_pos g] at hi hj
      omega
    · rw [if_neg g] at hi hj
      have h8 := (hS.2.1 a (by omega)).cells.1
      rw [vo (sA a (12 + i)) (by unfold sA; omega) (by unfold sA; omega), vo (sA a (12 + j)) (by unfold sA; omega) (by unfold sA; omega)] at e
      exact h.2.2.2.2.2.1 a (by omega) i j hi hj e
  have hphs : phsOk T := fun p hpp => by
    have e : phN T = phN S := by unfold phN; rw [e14]
    rw [e] at hpp
    have hp6 := (i_cnt h).2.1.1
    rw [hph p (by omega), em]
    obtain ⟨s, hs, es⟩ := h.1.2.2.2.2.2.2 p hpp
    exact ⟨s, Nat.lt_of_lt_of_le hs (Nat.pow_le_pow_right (by decide) (by omega)), es⟩
  have hnum : numOk T t := by
    refine ⟨by rw [lo 3 (by decide) (by decide)]; exact (i_num h).1, fun k hkk => ?_⟩
    rw [em] at hkk
    by_cases g : k = manyN S
    · subst g
      unfold sgOk
      rw [vw 5 (by decide), vw 6 (by decide), vw 7 (by decide), vw 8 (by decide), vw 9 (by decide)]
      exact ⟨⟨0, by decide, rfl⟩, Or.inl rfl, Or.inl rfl, Or.inl rfl, Or.inl rfl, fun e => absurd (show (0 : Int32) = 1 from e) (by decide)⟩
    · have := (i_num h).2 k (by omega)
      unfold sgOk at *
      rw [vo (sA k 5) (by unfold sA; omega) (by unfold sA; omega), vo (sA k 6) (by unfold sA; omega) (by unfold sA; omega), vo (sA k 7) (by unfold sA; omega) (by unfold sA; omega), vo (sA k 8) (by unfold sA; omega) (by unfold sA; omega), vo (sA k 9) (by unfold sA; omega) (by unfold sA; omega)]
      exact this
  have hsec : secI T := ⟨fun e => by rw [e2] at e; exact absurd e h2, fun _ => by rw [lo 5 (by decide) (by decide), lo 6 (by decide) (by decide)]; exact (i_sec h).2 h20⟩
  exact inv_g (fun k g => vo k (by omega) (by omega)) (fun k g1 g2 => lo k (by omega) (by omega)) (by rw [em]; omega) (lo 7 (by decide) (by decide)) (lo 8 (by decide) (by decide)) hset hdst (by rw [e2]; exact i_2 h) (pOk_same e14 (i_cnt h).2.1) hphs hnum (neg_same (lo 5 (by decide) (by decide)) (lo 6 (by decide) (by decide)) (i_neg h)) hsec (by rw [lo 10 (by decide) (by decide)]; exact i_10 h) h
theorem inv_signal {p1 p2 : Int32} (h : rowInv S t) : rowInv (signalR S p1 p2).2 t := by
  have hm := i_m h
  have h8 := hm.1
  unfold signalR
  by_cases h1 : inB p1 0 3
  · rw [if_neg (nn h1)]
    by_cases h2 : inB p2 0 63
    · rw [if_neg (nn h2)]
      by_cases h3 : S 2 = 1
      · rw [if_pos h3]; exact h
      rw [if_neg h3]
      by_cases h4 : S 13 = 8
      · rw [if_pos h4]; exact h
      rw [if_neg h4]
      have hk : manyN S < 8 := by
        rcases Nat.lt_or_ge (manyN S) 8 with g | g
        · exact g
        · exact absurd (by rw [hm.2, show manyN S = 8 by omega]; rfl) h4
      obtain ⟨kd, hkd, rfl⟩ : ∃ k, k < 4 ∧ p1 = nI k := in_nI (m := 4) (by decide) h1
      obtain ⟨c, hc, rfl⟩ : ∃ k, k < 64 ∧ p2 = nI k := in_nI (m := 64) (by decide) h2
      exact inv_ns hk hkd hc h3 h
    · rw [if_pos h2]; exact h
  · rw [if_pos h1]; exact h
end Inv6
