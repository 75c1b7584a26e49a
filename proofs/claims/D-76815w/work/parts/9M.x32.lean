/-! x32: rowInv is kept: tell, safety, over, emergency, come, start -/
set_option maxRecDepth 100000
theorem ite_P {α : Type} (P : α → Prop) {c : Prop} [Decidable c] {x y : α} (hx : P x) (hy : P y) : P (if c then x else y) := by split <;> assumption
section Inv4
variable {S T : Nat → Int32} {t : Nat}
theorem inv_lo (hhi : ∀ k, 234 ≤ k → T k = S k) (hmid : ∀ k, 13 ≤ k → k ≤ 20 → T k = S k) (h7 : T 7 = S 7) (h8 : T 8 = S 8) (hway : ∀ k, wayK k → T k = S k) (hph : ∀ i, i < 6 → T (pA i 0) = S (pA i 0)) (hsafe : safeOk T) (h2 : T 2 = 0 ∨ T 2 = 1) (hnum : numOk T t) (hneg : negOk T) (hsec : secI T) (h10 : 0 ≤ T 10) (h : rowInv S t) : rowInv T t := by
  obtain ⟨⟨a1, a2, a3, a4, a5, a6, a7⟩, ⟨c1, c2, c3⟩, b1, b2, b3, b4, b5⟩ := h
  have e13 := hmid 13 (by decide) (by decide)
  have e14 := hmid 14 (by decide) (by decide)
  have e15 := hmid 15 (by decide) (by decide)
  have e17 := hmid 17 (by decide) (by decide)
  have e18 := hmid 18 (by decide) (by decide)
  exact ⟨⟨setOk_same hway hsafe a1, ⟨mOk_same e13 a2.1, pOk_same e14 a2.2.1, rOk_same e15 a2.2.2.1, toldOk_same e18 a2.2.2.2.1, nodeOk_same e17 a2.2.2.2.2.1, h2⟩, hnum, hneg, hsec, h10, phs_same e13 e14 hph a2.2.1 a7⟩, ⟨note_same (hmid 19 (by decide) (by decide)) (fun k g1 g2 => hhi k (by omega)) c1, plan_same (hmid 20 (by decide) (by decide)) (fun k g1 g2 => hhi k (by omega)) c2, wave_same (hmid 16 (by decide) (by decide)) e17 (fun k hk => hhi _ (by unfold nd; omega)) c3⟩, sum_same h7 h8 b1, recs_same e13 e15 (fun k g1 g2 => hhi k (by omega)) a2.2.2.1 b2, tlds_same e13 e18 (fun k g1 g2 => hhi k (by omega)) a2.2.2.2.1 b3, dstOk_same hway a1.1 a1.2.1 b4, fun k hk => by rw [hhi k (by omega)]; exact b5 k hk⟩
theorem i_num (h : rowInv S t) : numOk S t := h.1.2.2.1
theorem i_neg (h : rowInv S t) : negOk S := h.1.2.2.2.1
theorem i_sec (h : rowInv S t) : secI S := h.1.2.2.2.2.1
theorem i_2 (h : rowInv S t) : S 2 = 0 ∨ S 2 = 1 := h.1.2.1.2.2.2.2.2
theorem i_run (h : rowInv S t) (h2 : S 2 = 1) : runOk S t := ⟨(i_sec h).1 h2, i_neg h, i_num h, (i_set h).2.1⟩
theorem inv_tell {p1 p2 p3 : Int32} (h : rowInv S t) : rowInv (tellR S p1 p2 p3).2 t := by
  have hm := i_m h
  have h8 := hm.1
  unfold tellR
  by_cases h1 : inB p1 0 (S 13 - 1)
  · rw [if_neg (nn h1)]
    by_cases h2 : inB p2 0 3
    · rw [if_neg (nn h2)]
      have h1' := h1
      rw [hm.2] at h1'
      obtain ⟨a, ha, rfl⟩ : ∃ k, k < manyN S ∧ p1 = nI k := in_nI (by omega) h1'
      obtain ⟨w, hw, rfl⟩ : ∃ k, k < 4 ∧ p2 = nI k := in_nI (m := 4) (by decide) h2
      rw [nI_c (show a < 2 ^ 31 by omega), nI_c (show w < 2 ^ 31 by omega)]
      have key : rowInv (upd S (sA a (1 + w)) p3) t := by
        have vo : ∀ p, p ≠ sA a (1 + w) → upd S (sA a (1 + w)) p3 p = S p := fun p hp => upd_ne hp
        have lo : ∀ p, p < 24 → upd S (sA a (1 + w)) p3 p = S p := fun p hp => vo p (by unfold sA; omega)
        refine inv_lo (fun k g => vo k (by unfold sA; omega)) (fun k g1 g2 => lo k (by omega)) (lo 7 (by decide)) (lo 8 (by decide)) (fun k hk => vo k (by unfold wayK at hk; unfold sA; omega)) (fun i hi => vo _ (by unfold pA sA; omega)) (safe_same (lo 1 (by decide)) (i_set h).2.2.1) (by rw [lo 2 (by decide)]; exact i_2 h) (num_same (lo 3 (by decide)) (lo 13 (by decide)) (fun k w hk g1 g2 => vo _ (by unfold sA; omega)) hm (i_num h)) (neg_same (lo 5 (by decide)) (lo 6 (by decide)) (i_neg h)) (sec_same (lo 2 (by decide)) (lo 4 (by decide)) (lo 5 (by decide)) (lo 6 (by decide)) (lo 13 (by decide)) (lo 14 (by decide)) (lo 15 (by decide)) (fun i hi => vo _ (by unfold pA sA; omega)) (i_sec h)) (by rw [lo 10 (by decide)]; exact i_10 h) h
      exact ite_P (fun z : Int32 × (Nat → Int32) => rowInv z.2 t) key h
    · rw [if_pos h2]; exact h
  · rw [if_pos h1]; exact h
theorem inv_safety {p1 : Int32} (h : rowInv S t) : rowInv (safetyR S p1).2 t := by
  unfold safetyR
  by_cases h1 : inB p1 0 5
  · rw [if_neg (nn h1)]
    split
    · exact h
    · show rowInv (upd S 1 p1) t
      have vo : ∀ p, p ≠ 1 → upd S 1 p1 p = S p := fun p hp => upd_ne hp
      refine inv_lo (fun k g => vo k (by omega)) (fun k g1 g2 => vo k (by omega)) (vo 7 (by decide)) (vo 8 (by decide)) (fun k hk => vo k (by unfold wayK at hk; omega)) (fun i hi => vo _ (by unfold pA; omega)) ?_ (by rw [vo 2 (by decide)]; exact i_2 h) (num_same (vo 3 (by decide)) (vo 13 (by decide)) (fun k w hk g1 g2 => vo _ (by unfold sA; omega)) (i_m h) (i_num h)) (neg_same (vo 5 (by decide)) (vo 6 (by decide)) (i_neg h)) (sec_same (vo 2 (by decide)) (vo 4 (by decide)) (vo 5 (by decide)) (vo 6 (by decide)) (vo 13 (by decide)) (vo 14 (by decide)) (vo 15 (by decide)) (fun i hi => vo _ (by unfold pA; omega)) (i_sec h)) (by rw [vo 10 (by decide)]; exact i_10 h) h
      unfold safeOk
      rw [upd_eq]
      exact i32_nat (m := 5) h1.1 h1.2 (by decide)
  · rw [if_pos h1]; exact h
theorem inv_6 {x : Int32} (h : rowInv S t) (hx : x = -5 ∨ (S 2 = 1 ∧ ¬ x < 0 ∧ ∃ q, q < phN S ∧ firstV S x = nI q)) : rowInv (upd S 6 x) t := by
  have vo : ∀ p, p ≠ 6 → upd S 6 x p = S p := fun p hp => upd_ne hp
  have hx' : x = -5 ∨ ¬ x < 0 ∧ ∃ q, q < phN S ∧ firstV S x = nI q := hx.imp id (fun g => g.2)
  have hsec : secI (upd S 6 x) := by
    refine ⟨fun e => ?_, fun e => ?_⟩
    · rw [vo 2 (by decide)] at e
      exact (runOk_6 (i_run h e) hx').1
    · rw [vo 2 (by decide)] at e
      refine ⟨by rw [vo 5 (by decide)]; exact ((i_sec h).2 e).1, ?_⟩
      rw [upd_eq]
      rcases hx with g | g
      · rw [g]; decide
      · rw [e] at g
        exact absurd g.1 (by decide)
  have hneg : negOk (upd S 6 x) := by
    refine ⟨by rw [vo 5 (by decide)]; exact (i_neg h).1, ?_⟩
    rw [upd_eq]
    intro hl
    rcases hx' with g | g
    · exact g
    · exact absurd hl g.1
  exact inv_lo (fun k g => vo k (by omega)) (fun k g1 g2 => vo k (by omega)) (vo 7 (by decide)) (vo 8 (by decide)) (fun k hk => vo k (by unfold wayK at hk; omega)) (fun i hi => vo _ (by unfold pA; omega)) (safe_same (vo 1 (by decide)) (i_set h).2.2.1) (by rw [vo 2 (by decide)]; exact i_2 h) (num_same (vo 3 (by decide)) (vo 13 (by decide)) (fun k w hk g1 g2 => vo _ (by unfold sA; omega)) (i_m h) (i_num h)) hneg hsec (by rw [vo 10 (by decide)]; exact i_10 h) h
theorem inv_over (h : rowInv S t) : rowInv (overR S).2 t := by
  unfold overR
  split
  · exact inv_6 h (Or.inl rfl)
  · exact h
theorem inv_emergency {p1 : Int32} (h : rowInv S t) : rowInv (emergencyR S p1).2 t := by
  have hm := i_m h
  have h8 := hm.1
  unfold emergencyR
  by_cases h1 : inB p1 0 (S 13 - 1)
  · rw [if_neg (nn h1)]
    by_cases h2 : S 2 = 0
    · rw [if_pos h2]; exact h
    rw [if_neg h2]
    split
    · exact h
    · by_cases h3 : 0 ≤ firstV S p1
      · rw [if_pos h3]
        refine inv_6 h (Or.inr ⟨(i_2 h).resolve_left h2, Int32.not_lt.mpr h1.1, ?_⟩)
        rcases firstV_v (S := S) (i_cnt h).2.1 (a := p1) with g | g
        · rw [g] at h3; exact absurd h3 (by decide)
        · exact g
      · rw [if_neg h3]; exact h
  · rw [if_pos h1]; exact h
theorem min99 {q n : Nat} (hn : n ≤ 1000) (hq : q ≤ 99) : ∃ r, r ≤ 99 ∧ minI 99 (nI q + nI n) = nI r := by
  rw [nI_add]
  unfold minI
  split
  · rename_i hl
    have g := Int32.lt_iff_toInt_lt.mp hl
    rw [nI_toInt (by omega), show (99 : Int32).toInt = 99 by decide] at g
    exact ⟨q + n, by omega, rfl⟩
  · exact ⟨99, by decide, rfl⟩
theorem inv_come {p1 p2 : Int32} (h : rowInv S t) : rowInv (comeR S p1 p2).2 t := by
  have hm := i_m h
  have h8 := hm.1
  unfold comeR
  by_cases h1 : inB p1 0 (S 13 - 1)
  · rw [if_neg (nn h1)]
    by_cases h2 : inB p2 1 20
    · rw [if_neg (nn h2)]
      have h1' := h1
      rw [hm.2] at h1'
      obtain ⟨a, ha, rfl⟩ : ∃ k, k < manyN S ∧ p1 = nI k := in_nI (by omega) h1'
      obtain ⟨m, hmm, rfl⟩ := i32_nat (m := 20) (Int32.le_trans (by decide) h2.1) h2.2 (by decide)
      rw [nI_c (show a < 2 ^ 31 by omega)]
      show rowInv (joinsF S a (nI m)) t
      have vo : ∀ p, p ≠ sA a 5 → p ≠ 9 → joinsF S a (nI m) p = S p := fun p g1 g2 => by unfold joinsF; rw [upd_ne g2, upd_ne g1]
      have v5 : joinsF S a (nI m) (sA a 5) = minI 99 (S (sA a 5) + nI m) := by unfold joinsF; rw [upd_ne (by unfold sA; omega), upd_eq]
      generalize joinsF S a (nI m) = T at vo v5 ⊢
      have lo : ∀ p, p < 24 → p ≠ 9 → T p = S p := fun p hp h9 => vo p (by unfold sA; omega) h9
      have hnum : numOk T t := by
        refine ⟨by rw [lo 3 (by decide) (by decide)]; exact (i_num h).1, fun k hk => ?_⟩
        rw [many_same (lo 13 (by decide) (by decide))] at hk
        have := (i_num h).2 k hk
        unfold sgOk at *
        rw [vo (sA k 6) (by unfold sA; omega) (by unfold sA; omega), vo (sA k 7) (by unfold sA; omega) (by unfold sA; omega), vo (sA k 8) (by unfold sA; omega) (by unfold sA; omega), vo (sA k 9) (by unfold sA; omega) (by unfold sA; omega)]
        refine ⟨?_, this.2⟩
        by_cases e : k = a
        · subst e
          obtain ⟨q, hq, eq⟩ := this.1
          rw [v5, eq]
          exact min99 (by omega) hq
        · rw [vo (sA k 5) (by unfold sA; omega) (by unfold sA; omega)]
          exact this.1
      exact inv_lo (fun k g => vo k (by unfold sA; omega) (by omega)) (fun k g1 g2 => lo k (by omega) (by omega)) (lo 7 (by decide) (by decide)) (lo 8 (by decide) (by decide)) (fun k hk => vo k (by unfold wayK at hk; unfold sA; omega) (by unfold wayK at hk; omega)) (fun i hi => vo _ (by unfold pA sA; omega) (by unfold pA; omega)) (safe_same (lo 1 (by decide) (by decide)) (i_set h).2.2.1) (by rw [lo 2 (by decide) (by decide)]; exact i_2 h) hnum (neg_same (lo 5 (by decide) (by decide)) (lo 6 (by decide) (by decide)) (i_neg h)) (sec_same (lo 2 (by decide) (by decide)) (lo 4 (by decide) (by decide)) (lo 5 (by decide) (by decide)) (lo 6 (by decide) (by decide)) (lo 13 (by decide) (by decide)) (lo 14 (by decide) (by decide)) (lo 15 (by decide) (by decide)) (fun i hi => vo _ (by unfold pA sA; omega) (by unfold pA; omega)) (i_sec h)) (by rw [lo 10 (by decide) (by decide)]; exact i_10 h) h
    · rw [if_pos h2]; exact h
  · rw [if_pos h1]; exact h
theorem inv_start (h : rowInv S t) : rowInv (startR S).2 t := by
  have hc := i_cnt h
  unfold startR
  by_cases h1 : S 2 = 1
  · rw [if_pos h1]; exact h
  rw [if_neg h1]
  by_cases h2 : S 14 = 0
  · rw [if_pos h2]; exact h
  rw [if_neg h2]
  show rowInv (comesOnF (upd S 2 1) 0) t
  have h20 : S 2 = 0 := (i_2 h).resolve_right h1
  have vo : ∀ p, p ≠ 2 → p ≠ 4 → p ≠ 218 → comesOnF (upd S 2 1) 0 p = S p := fun p g1 g2 g3 => by unfold comesOnF; rw [upd_ne (by unfold pA; omega), upd_ne g2, upd_ne g1]
  have v2 : comesOnF (upd S 2 1) 0 2 = 1 := by unfold comesOnF; rw [upd_ne (by unfold pA; omega), upd_ne (by decide), upd_eq]
  have v4 : comesOnF (upd S 2 1) 0 4 = 0 := by unfold comesOnF; rw [upd_ne (by unfold pA; omega), upd_eq]; rfl
  generalize comesOnF (upd S 2 1) 0 = T at vo v2 v4 ⊢
  have lo : ∀ p, p < 24 → p ≠ 2 → p ≠ 4 → T p = S p := fun p hp g1 g2 => vo p g1 g2 (by omega)
  have e14 : phN T = phN S := by unfold phN; rw [lo 14 (by decide) (by decide) (by decide)]
  have eo : onN T = 0 := by unfold onN; rw [v4]; rfl
  have hp0 : 0 < phN S := by
    rcases Nat.eq_zero_or_pos (phN S) with g | g
    · exact absurd (by rw [hc.2.1.2, g]; rfl) h2
    · exact g
  obtain ⟨g5, g6⟩ := (i_sec h).2 h20
  have hsec : secI T := by
    refine ⟨fun _ => ⟨mOk_same (lo 13 (by decide) (by decide) (by decide)) hc.1, pOk_same (lo 14 (by decide) (by decide) (by decide)) hc.2.1, rOk_same (lo 15 (by decide) (by decide) (by decide)) hc.2.2.1, ⟨by rw [eo]; decide, by rw [eo, v4]; rfl⟩, by rw [eo, e14]; exact hp0, Or.inl (by rw [lo 5 (by decide) (by decide) (by decide)]; exact g5), Or.inl (by rw [lo 6 (by decide) (by decide) (by decide)]; exact g6)⟩, fun e => ?_⟩
    rw [v2] at e
    exact absurd e (by decide)
  exact inv_lo (fun k g => vo k (by omega) (by omega) (by omega)) (fun k a1 a2 => lo k (by omega) (by omega) (by omega)) (lo 7 (by decide) (by decide) (by decide)) (lo 8 (by decide) (by decide) (by decide)) (fun k hk => vo k (by unfold wayK at hk; omega) (by unfold wayK at hk; omega) (by unfold wayK at hk; omega)) (fun i hi => vo _ (by unfold pA; omega) (by unfold pA; omega) (by unfold pA; omega)) (safe_same (lo 1 (by decide) (by decide) (by decide)) (i_set h).2.2.1) (Or.inr v2) (num_same (lo 3 (by decide) (by decide) (by decide)) (lo 13 (by decide) (by decide) (by decide)) (fun k w hk a1 a2 => vo _ (by unfold sA; omega) (by unfold sA; omega) (by unfold sA; omega)) hc.1 (i_num h)) (neg_same (lo 5 (by decide) (by decide) (by decide)) (lo 6 (by decide) (by decide) (by decide)) (i_neg h)) hsec (by rw [lo 10 (by decide) (by decide) (by decide)]; exact i_10 h) h
end Inv4
