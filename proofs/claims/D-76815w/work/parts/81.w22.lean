/-! w22: a World becomes like another -/
set_option maxRecDepth 100000
section W22
variable {G : gG} {h : gH} {b1 b2 : Nat} {S : Nat → Int32} {J : Nat → Nat → Int32} {Q Q1 Q2 : Nat → Nat → Int64} {W W1 W2 : Nat → Nat → Int32} {F : Nat}
theorem agr_low {r w : Nat → Int32} {n ns np nr nt nn : Nat} (hn : n = 6 ∨ n = 7 ∨ n = 8) (hns : ns ≤ 8) (hA : Agr W Q W2 Q2 r ns np nr nt nn) : Agr (va_up W n w) Q W2 Q2 r ns np nr nt nn := by
  obtain ⟨a0, a1, a2, a3, a4, a5, a6⟩ := hA
  have e : ∀ m, m ≠ n → va_up W n w m = W m := fun m hm => if_neg hm
  refine ⟨by rw [e 0 (by omega)]; exact a0, fun k hk => by rw [e (12 + 6 * k) (by omega)]; exact a1 k hk, fun k hk => sgEq_up (Or.inl (by omega)) (by omega) (a2 k hk), fun k j hk hj => ?_, fun k j hk hj => ?_, fun k j hk hj => ?_, fun k j hk hj => ?_⟩
  · rw [e _ (by omega)]; exact a3 k j hk hj
  · rw [e _ (by omega)]; exact a4 k j hk hj
  · rw [e _ (by omega)]; exact a5 k j hk hj
  · rw [e _ (by omega)]; exact a6 k j hk hj
theorem lk_cpy {n N src : Nat} {f' r : Nat → Int32} {X : gH} {ns np nr nt nn : Nat} (hn : n = 6 ∨ n = 7 ∨ n = 8) (hN : N < 2 ^ 31) (hns : ns ≤ 8) (hC : ∀ (w : Nat → Int32) (q : Nat → Int64), wC G b1 n w q = .inl (0, N, .inl w)) (hs : wR G X b1 W Q src = some (.inl (0, N, .inl f'))) (hA : Agr W Q W2 Q2 r ns np nr nt nn) :
    ∃ V, gCpy (wR G X b1 W Q) src 0 (b1 + n) 0 (nI N) = some (wR G X b1 V Q) ∧ Agr V Q W2 Q2 r ns np nr nt nn ∧ (∀ j, j < N → V n j = f' j) ∧ ∀ m, m ≠ n → V m = W m := by
  refine ⟨va_up W n (va_cpy f' (W n) 0 0 N), r_cpy (by omega) hN hC hs, agr_low hn hns hA, fun j hj => ?_, fun m hm => if_neg hm⟩
  have : va_up W n (va_cpy f' (W n) 0 0 N) n = va_cpy f' (W n) 0 0 N := if_pos rfl
  rw [this, pk_cpy_in (by omega) (by omega), Nat.sub_zero, Nat.zero_add]
theorem r_likeW {ns np nr nt nn : Nat} (hF : 100 ≤ F) (ap : b2 + 105 ≤ b1 ∨ b1 + 105 ≤ b2) (hs : srcOk W2 Q2 ns np nr nt nn) (hb : ∀ k, k < 8 → bsJ (W1 (12 + 6 * k) 1) (Q1 (13 + 6 * k) 0)) :
    ∃ V R, sp_X1_like G F (wR G (wR G h b2 W2 Q2) b1 W1 Q1) b1 b2 = some (b1, wR G (wR G h b2 W2 Q2) b1 V R) ∧ Agr V R W2 Q2 (lkR0 (W1 0) (W2 0)) ns np nr nt nn ∧ (∀ j, j < 10 → V 6 j = W2 6 j) ∧ (∀ j, j < 16 → V 7 j = W2 7 j) ∧ (∀ j, j < 64 → V 8 j = W2 8 j) := by
  have hA : Agr (va_up W1 0 (lkR0 (W1 0) (W2 0))) Q1 W2 Q2 (lkR0 (W1 0) (W2 0)) 0 0 0 0 0 := by
    refine ⟨if_pos rfl, fun k hk => ?_, fun k hk => by omega, fun _ _ hh => by omega, fun _ _ hh => by omega, fun _ _ hh => by omega, fun _ _ hh => by omega⟩
    have : va_up W1 0 (lkR0 (W1 0) (W2 0)) (12 + 6 * k) = W1 (12 + 6 * k) := if_neg (by omega)
    rw [this]
    exact hb k hk
  obtain ⟨h00, ⟨c13, c14, c15, c17, c18⟩, hl, hk⟩ := id hs
  obtain ⟨V1, R, k1, a1⟩ := lk_sig (G := G) (h := h) (b1 := b1) (b2 := b2) hF ap hs (by rw [lkR0_v (by decide)]; exact c13) hA
  obtain ⟨V2, k2, a2⟩ := lk_ph (G := G) (h := h) (b1 := b1) (b2 := b2) hF ap hs (by rw [lkR0_v (by decide)]; exact c14) a1
  obtain ⟨V3, k3, a3⟩ := lk_rc (G := G) (h := h) (b1 := b1) (b2 := b2) hF ap hs (by rw [lkR0_v (by decide)]; exact c15) a2
  obtain ⟨V4, k4, a4⟩ := lk_tl (G := G) (h := h) (b1 := b1) (b2 := b2) hF ap hs (by rw [lkR0_v (by decide)]; exact c17) a3
  obtain ⟨V5, k5, a5⟩ := lk_nd (G := G) (h := h) (b1 := b1) (b2 := b2) hF ap hs (by rw [lkR0_v (by decide)]; exact c18) a4
  obtain ⟨V6, e6, a6, x6, y6⟩ := lk_cpy (G := G) (X := wR G h b2 W2 Q2) (b1 := b1) (W := V5) (Q := R) (n := 6) (N := 10) (src := b2 + 6) (f' := W2 6) (Or.inl rfl) (by decide) hl.1 (fun w q => rfl) (by rw [wR_out (by omega), wc_6]; rfl) a5
  obtain ⟨V7, e7, a7, x7, y7⟩ := lk_cpy (G := G) (X := wR G h b2 W2 Q2) (b1 := b1) (W := V6) (Q := R) (n := 7) (N := 16) (src := b2 + 7) (f' := W2 7) (Or.inr (Or.inl rfl)) (by decide) hl.1 (fun w q => rfl) (by rw [wR_out (by omega), wc_7]; rfl) a6
  obtain ⟨V8, e8, a8, x8, y8⟩ := lk_cpy (G := G) (X := wR G h b2 W2 Q2) (b1 := b1) (W := V7) (Q := R) (n := 8) (N := 64) (src := b2 + 8) (f' := W2 8) (Or.inr (Or.inr rfl)) (by decide) hl.1 (fun w q => rfl) (by rw [wR_out (by omega), wc_8]; rfl) a7
  refine ⟨V8, R, ?_, a8, fun j hj => ?_, fun j hj => ?_, x8⟩
  · have u0 : ∀ (V : Nat → Nat → Int32) (w : Nat → Int32), va_up V 0 w 0 = w := fun V w => if_pos rfl
    have e6' : gCpy (wR G (wR G h b2 W2 Q2) b1 V5 R) (b2 + 6) 0 (b1 + 6) 0 10 = some (wR G (wR G h b2 W2 Q2) b1 V6 R) := e6
    have e7' : gCpy (wR G (wR G h b2 W2 Q2) b1 V6 R) (b2 + 7) 0 (b1 + 7) 0 16 = some (wR G (wR G h b2 W2 Q2) b1 V7 R) := e7
    have e8' : gCpy (wR G (wR G h b2 W2 Q2) b1 V7 R) (b2 + 8) 0 (b1 + 8) 0 64 = some (wR G (wR G h b2 W2 Q2) b1 V8 R) := e8
    unfold sp_X1_like
    simp only [o_gGi (a := b2) (show b2 < b1 ∨ b1 + 105 ≤ b2 by omega), o_gGr (a := b2) (show b2 < b1 ∨ b1 + 105 ≤ b2 by omega), w_f0, w_f1, w_f2, w_f3, w_f4, w_f5, w_f6, w_f7, w_f8, w_f9, w_f10, w_f11, w_f12, w_f13, w_f14, w_f15, w_f16, w_f17, w_f18, w_f19, w_f20, w_f21, Option.bind_some, h00, if_true, w_p0, w_p1, w_p2, w_p3, w_p4, w_p5, w_p6, w_p7, w_p8, w_p9, w_p10, w_p11, w_p12, w_p13, w_p14, w_p15, w_p16, w_p17, w_p18, w_p19, w_p20, w_p21, u0, va_up_up]
    have k1' := k1
    unfold lkR0 at k1'
    rw [k1']
    simp only [Option.bind_some, k2, k3, k4, k5, w_f27, w_f28, w_f29, e6', e7', e8', o_gGr (a := b2) (show b2 < b1 ∨ b1 + 105 ≤ b2 by omega)]
  · rw [y8 6 (by decide), y7 6 (by decide)]; exact x6 j hj
  · rw [y8 7 (by decide)]; exact x7 j hj
def cntOk (S : Nat → Int32) : Prop := mOk S ∧ pOk S ∧ rOk S ∧ toldOk S ∧ nodeOk S ∧ (S 2 = 0 ∨ S 2 = 1)
theorem wof_src {t : Nat} (hc : cntOk S) (hro : rowOk S) (hn : numOk S t) (hW : wOk S J Q) : srcOk (Wof S J) Q (manyN S) (phN S) (recN S) (tolN S) (nodN S) := by
  obtain ⟨h1, h2, h3, h4, h5, h6⟩ := hc
  have e : ∀ j p, pos (rtN J) 0 j = some p → p < 24 → Wof S J 0 j = S p := fun j p hp hlt => wof_live hp (live_lo (Or.inl hlt))
  refine ⟨?_, ⟨?_, ?_, ?_, ?_, ?_⟩, ⟨h1.1, h2.1, h3.1, h4.1, h5.1⟩, fun k hk => ?_⟩
  · rw [e 0 2 rfl (by decide)]; exact h6
  · rw [e 13 13 rfl (by decide)]; exact h1.2
  · rw [e 14 14 rfl (by decide)]; exact h2.2
  · rw [e 15 15 rfl (by decide)]; exact h3.2
  · rw [e 17 18 rfl (by decide)]; exact h4.2
  · rw [e 18 17 rfl (by decide)]; exact h5.2
  · have hk8 : k < 8 := by have := h1.1; omega
    have hkd := (hro k hk8).kind
    have e0 : Wof S J (9 + 6 * k) 0 = S (sA k 0) := wof_live (pos_s0 hk8) (live_s hk8 hk (by omega))
    have e6 : Wof S J (9 + 6 * k) 6 = S (sA k 6) := wof_live (pos_s6 hk8) (live_s hk8 hk (by omega))
    rw [e0, e6, wof_none (pos_w hk8)]
    exact ⟨hkd.1, hkd.2, (hn.2 k hk).2.1, hW.2.2.1 k hk8⟩
theorem x_like {t : Nat} (hF : 100 ≤ F) (ap : b2 + 105 ≤ b1 ∨ b1 + 105 ≤ b2) (hc : cntOk S) (hro : rowOk S) (hn : numOk S t) (hW : wOk S J Q) (hb : bsAll W1 Q1) :
    ∃ K R, sp_X1_like G F (wR G (wh G h b2 S J Q) b1 W1 Q1) b1 b2 = some (b1, wh G (wh G h b2 S J Q) b1 S K R) ∧ wOk S K R := by
  have hs := wof_src hc hro hn hW
  obtain ⟨V, R, k1, hA, k6, k7, k8⟩ := r_likeW (G := G) (h := h) (b1 := b1) (b2 := b2) (W1 := W1) (Q1 := Q1) hF ap hs hb
  obtain ⟨a0, a1, a2, a3, a4, a5, a6⟩ := hA
  obtain ⟨w1, w2, w3, w4, w5⟩ := hW
  have h8 := hc.1.1
  have v0 : ∀ j, j < 22 → V 0 j = Wof S J 0 j := fun j hj => by rw [a0, lkR0_v hj]
  have v16 : V 0 16 = J 0 16 := by rw [v0 16 (by decide), wof_16]
  have ert : rtN V = rtN J := by unfold rtN; rw [v16]
  have ht : tells S V := by
    intro n j p hp hl
    rw [ert] at hp
    have hw := wof_live hp hl
    have key : V n j = Wof S J n j := by
      have hp' := hp
      unfold pos at hp'
      by_cases h0 : n = 0
      · rw [if_pos h0] at hp'
        split at hp'
        · rename_i hj; rw [h0]; exact v0 j hj.1
        · cases hp'
      rw [if_neg h0] at hp'
      by_cases h6 : n = 6
      · rw [if_pos h6] at hp'
        split at hp'
        · rename_i hj; rw [h6]; exact k6 j hj
        · cases hp'
      rw [if_neg h6] at hp'
      by_cases h7 : n = 7
      · rw [if_pos h7] at hp'
        split at hp'
        · rename_i hj; rw [h7]; exact k7 j hj
        · cases hp'
      rw [if_neg h7] at hp'
      by_cases h9 : n < 9
      · rw [if_pos h9] at hp'; cases hp'
      rw [if_neg h9] at hp'
      by_cases h57 : n < 57
      · rw [if_pos h57] at hp'
        have hlive : ∀ w, w < 24 → some p = some (sA ((n - 9) / 6) w) → (n - 9) / 6 < manyN S := by
          intro w hw24 e
          have e := Option.some.inj e
          rw [e, live_s' (by omega) hw24] at hl
          exact (of_decide_eq_true hl).1
        by_cases c0 : (n - 9) % 6 = 0
        · rw [if_pos c0] at hp'
          have en : n = 9 + 6 * ((n - 9) / 6) := by omega
          have hk : (n - 9) / 6 < manyN S ∧ (j = 0 ∨ 4 ≤ j ∧ j < 12) := by
            split at hp'
            · exact ⟨hlive 0 (by decide) hp'.symm, by omega⟩
            · split at hp'
              · exact ⟨hlive 11 (by decide) hp'.symm, by omega⟩
              · split at hp'
                · exact ⟨hlive j (by omega) hp'.symm, by omega⟩
                · split at hp'
                  · exact ⟨hlive 20 (by decide) hp'.symm, by omega⟩
                  · cases hp'
          rw [en]
          rcases hk.2 with hj | hj
          · rw [hj]; exact (a2 _ hk.1).1
          · exact (a2 _ hk.1).2.1 j hj.1 hj.2
        rw [if_neg c0] at hp'
        by_cases c2 : (n - 9) % 6 = 2
        · rw [if_pos c2] at hp'
          have en : n = 11 + 6 * ((n - 9) / 6) := by omega
          split at hp'
          · rename_i hj
            have := hlive (12 + j) (by omega) hp'.symm
            rw [en]
            exact (a2 _ this).2.2.1 j hj
          · cases hp'
        rw [if_neg c2] at hp'
        by_cases c5 : (n - 9) % 6 = 5
        · rw [if_pos c5] at hp'
          have en : n = 14 + 6 * ((n - 9) / 6) := by omega
          split at hp'
          · rename_i hj
            have := hlive (1 + j) (by omega) hp'.symm
            rw [en]
            exact (a2 _ this).2.2.2.1 j hj
          · cases hp'
        rw [if_neg c5] at hp'
        cases hp'
      rw [if_neg h57] at hp'
      by_cases h63 : n < 63
      · rw [if_pos h63] at hp'
        split at hp'
        · rename_i hj
          have e := Option.some.inj hp'
          have en : n = 57 + (n - 57) := by omega
          have : n - 57 < phN S := by
            rw [← e] at hl
            unfold live at hl
            rw [if_neg (by unfold pA; omega), if_neg (by unfold pA; omega), if_pos (by unfold pA; omega)] at hl
            have := of_decide_eq_true hl
            unfold pA at this
            omega
          rw [en]; exact a3 _ j this hj
        · cases hp'
      rw [if_neg h63] at hp'
      by_cases h87 : n < 87
      · rw [if_pos h87] at hp'
        split at hp'
        · rename_i hj
          have e := Option.some.inj hp'
          have en : n = 63 + (n - 63) := by omega
          have hlt : (n - 63 + 24 - rtN J) % 24 < recN S := by
            rw [← e, live_rA (by omega) hj] at hl
            exact of_decide_eq_true hl
          have : n - 63 < recN S := by
            rcases w2 with h24 | h0
            · omega
            · rw [h0] at hlt; omega
          rw [en]; exact a4 _ j this hj
        · cases hp'
      rw [if_neg h87] at hp'
      by_cases h95 : n < 95
      · rw [if_pos h95] at hp'
        split at hp'
        · rename_i hj
          have e := Option.some.inj hp'
          have en : n = 87 + (n - 87) := by omega
          have : n - 87 < tolN S := by
            rw [← e] at hl
            unfold live at hl
            rw [if_neg (by omega), if_neg (by omega), if_neg (by omega), if_neg (by omega), if_neg (by omega), if_pos (by omega)] at hl
            have := of_decide_eq_true hl
            omega
          rw [en]; exact a5 _ j this hj
        · cases hp'
      rw [if_neg h95] at hp'
      split at hp'
      · rename_i hn5
        split at hp'
        · rename_i hj
          have e := Option.some.inj hp'
          have en : n = 96 + 2 * ((n - 95) / 2) := by omega
          have : (n - 95) / 2 < nodN S := by
            rw [← e] at hl
            unfold live at hl
            rw [if_neg (by omega), if_neg (by omega), if_neg (by omega), if_neg (by omega), if_pos (by omega)] at hl
            have := of_decide_eq_true hl
            omega
          rw [en]; exact a6 _ j this hj
        · cases hp'
      · cases hp'
    rw [key, hw]
  refine ⟨V, R, ?_, ?_, ?_, a1, ?_, ?_⟩
  · rw [show wR G (wh G h b2 S J Q) b1 W1 Q1 = wR G (wR G h b2 (Wof S J) Q) b1 W1 Q1 from rfl, k1]
    unfold wh
    rw [wof_tells ht]
  · unfold jOk; rw [ert, v16]; exact w1
  · unfold rrOk; rw [ert]; exact w2
  · intro k hk c hc64
    rw [(a2 k hk).2.2.2.2.2]
    exact w4 k hk c hc64
  · intro x y hx hy
    rw [k8 _ (by omega), wof_none pos_8]
    exact w5 x y hx hy
end W22
