/-! w21: a World becomes like another: the walk -/
set_option maxRecDepth 100000
section W21
variable {G : gG} {h : gH} {b1 b2 : Nat} {S : Nat → Int32} {J : Nat → Nat → Int32} {Q Q1 Q2 : Nat → Nat → Int64} {W W1 W2 : Nat → Nat → Int32} {F : Nat}
/-- what the source's rows must be -/
def srcOk (W2 : Nat → Nat → Int32) (Q2 : Nat → Nat → Int64) (ns np nr nt nn : Nat) : Prop :=
  (W2 0 0 = 0 ∨ W2 0 0 = 1) ∧ (W2 0 13 = nI ns ∧ W2 0 14 = nI np ∧ W2 0 15 = nI nr ∧ W2 0 17 = nI nt ∧ W2 0 18 = nI nn) ∧ (ns ≤ 8 ∧ np ≤ 6 ∧ nr ≤ 24 ∧ nt ≤ 8 ∧ nn ≤ 5)
  ∧ ∀ k, k < ns → (W2 (9 + 6 * k) 0).toNatClampNeg < 4 ∧ W2 (9 + 6 * k) 0 = nI (W2 (9 + 6 * k) 0).toNatClampNeg ∧ (W2 (9 + 6 * k) 6 = 0 ∨ W2 (9 + 6 * k) 6 = 1) ∧ bsJ (W2 (12 + 6 * k) 1) (Q2 (13 + 6 * k) 0)
theorem lk_sig {r : Nat → Int32} {ns np nr nt nn : Nat} (hF : 100 ≤ F) (ap : b2 + 105 ≤ b1 ∨ b1 + 105 ≤ b2) (hs : srcOk W2 Q2 ns np nr nt nn) (hr : r 13 = nI ns) (hA : Agr W Q W2 Q2 r 0 0 0 0 0) :
    ∃ V R, sp_X1_like_L178 G F F (wR G (wR G h b2 W2 Q2) b1 W Q) b1 b2 0 = some (wR G (wR G h b2 W2 Q2) b1 V R) ∧ Agr V R W2 Q2 r ns 0 0 0 0 := by
  obtain ⟨-, -, hl, hk⟩ := hs
  have key := it_loop (m := ns) (fun f k (x : (Nat → Nat → Int32) × (Nat → Nat → Int64)) => sp_X1_like_L178 G F f (wR G (wR G h b2 W2 Q2) b1 x.1 x.2) b1 b2 (nI k)) (fun k x => (lkW x.1 k (W2 (9 + 6 * k)) (W2 (11 + 6 * k)) (W2 (12 + 6 * k)) (W2 (14 + 6 * k)), lkQ x.2 k (Q2 (13 + 6 * k)))) (fun k x => Agr x.1 x.2 W2 Q2 r k 0 0 0 0) (fun x => wR G (wR G h b2 W2 Q2) b1 x.1 x.2) (by
    intro k f x hkn hx
    show sp_X1_like_L178 G F (f + 1) (wR G (wR G h b2 W2 Q2) b1 x.1 x.2) b1 b2 (nI k) = _
    obtain ⟨k1, k2, k3, k4⟩ := hk k hkn
    have hk8 : k < 8 := by omega
    have en : ¬ r 13 ≤ nI k := by rw [hr]; exact nI_ge (by omega) (by omega)
    have e13 : x.1 0 13 = r 13 := by rw [hx.1]
    rw [sp_X1_like_L178]
    simp only [w_f13, e13, Option.bind_some, en, if_false, w_f22, w_a1 hk8, o_gGr (a := b2) (show b2 < b1 ∨ b1 + 105 ≤ b2 by omega), o_gAr (a := b2 + 1) (show b2 + 1 < b1 ∨ b1 + 105 ≤ b2 + 1 by omega), w_sg_is hk8, if_true, r_like (show 10 ≤ F by omega) hk8 (wR_sgAt hk8) (show sg b2 k + 6 ≤ b1 ∨ b1 + 105 ≤ sg b2 k by unfold sg; omega) k1 k3 (hx.2.1 k hk8) k4, nI_1]) (by
    intro k x hkn hx
    obtain ⟨k1, k2, k3, k4⟩ := hk k hkn
    exact agr_s (by omega) k1 k2 k4 hx) (by
    intro f x hx
    show sp_X1_like_L178 G F (f + 1) (wR G (wR G h b2 W2 Q2) b1 x.1 x.2) b1 b2 (nI ns) = _
    have e13 : x.1 0 13 = r 13 := by rw [hx.1]
    rw [sp_X1_like_L178]
    simp only [w_f13, e13, Option.bind_some]
    rw [if_pos (by rw [hr]; exact nI_le (by omega) (by omega))]) ns 0 F (W, Q) (by omega) (by omega) hA
  have inv := it_inv (m := ns) (g := fun k (x : (Nat → Nat → Int32) × (Nat → Nat → Int64)) => (lkW x.1 k (W2 (9 + 6 * k)) (W2 (11 + 6 * k)) (W2 (12 + 6 * k)) (W2 (14 + 6 * k)), lkQ x.2 k (Q2 (13 + 6 * k)))) (P := fun k x => Agr x.1 x.2 W2 Q2 r k 0 0 0 0) (fun k x hkn hx => by
    obtain ⟨k1, k2, k3, k4⟩ := hk k hkn
    exact agr_s (by omega) k1 k2 k4 hx) ns 0 (W, Q) (by omega) hA
  exact ⟨_, _, key, inv⟩
theorem lk_ph {r : Nat → Int32} {ns np nr nt nn : Nat} (hF : 100 ≤ F) (ap : b2 + 105 ≤ b1 ∨ b1 + 105 ≤ b2) (hs : srcOk W2 Q2 ns np nr nt nn) (hr : r 14 = nI np) (hA : Agr W Q W2 Q2 r ns 0 0 0 0) :
    ∃ V, sp_X1_like_L209 G F F (wR G (wR G h b2 W2 Q2) b1 W Q) b1 b2 0 = some (wR G (wR G h b2 W2 Q2) b1 V Q) ∧ Agr V Q W2 Q2 r ns np 0 0 0 := by
  obtain ⟨-, -, hl, hk⟩ := hs
  have stp : ∀ (k : Nat) (V : Nat → Nat → Int32), k < np → Agr V Q W2 Q2 r ns k 0 0 0 → Agr (va_up V (57 + k) (up3 (V (57 + k)) (W2 (57 + k) 0) (W2 (57 + k) 1) (W2 (57 + k) 2))) Q W2 Q2 r ns (k + 1) 0 0 0 := by
    intro k V hkn hV
    have h1 := agr_up (w := up3 (V (57 + k)) (W2 (57 + k) 0) (W2 (57 + k) 1) (W2 (57 + k) 2)) (n := 57 + k) (by omega) hl.1 hV (fun l hl2 => by omega) (fun l hl2 => by omega) (fun l hl2 => by omega) (fun l hl2 => by omega)
    obtain ⟨a0, a1, a2, a3, a4, a5, a6⟩ := h1
    refine ⟨a0, a1, a2, fun l j hl2 hj => ?_, a4, a5, a6⟩
    by_cases hlk : l = k
    · subst hlk
      have : ∀ w, va_up V (57 + l) w (57 + l) = w := fun w => if_pos rfl
      rw [this, up3_3 hj]
    · exact a3 l j (by omega) hj
  have key := it_loop (m := np) (fun f k V => sp_X1_like_L209 G F f (wR G (wR G h b2 W2 Q2) b1 V Q) b1 b2 (nI k)) (fun k V => va_up V (57 + k) (up3 (V (57 + k)) (W2 (57 + k) 0) (W2 (57 + k) 1) (W2 (57 + k) 2))) (fun k V => Agr V Q W2 Q2 r ns k 0 0 0) (fun V => wR G (wR G h b2 W2 Q2) b1 V Q) (by
    intro k f V hkn hV
    show sp_X1_like_L209 G F (f + 1) (wR G (wR G h b2 W2 Q2) b1 V Q) b1 b2 (nI k) = _
    have hk8 : k < 6 := by omega
    have en : ¬ r 14 ≤ nI k := by rw [hr]; exact nI_ge (by omega) (by omega)
    have e13 : V 0 14 = r 14 := by rw [hV.1]
    rw [sp_X1_like_L209]
    simp only [w_f14, e13, Option.bind_some, en, if_false, w_f23, w_a2 hk8, o_gGr (a := b2) (show b2 < b1 ∨ b1 + 105 ≤ b2 by omega), o_gAr (a := b2 + 2) (show b2 + 2 < b1 ∨ b1 + 105 ≤ b2 + 2 by omega), o_gGi (a := phA b2 k) (show phA b2 k < b1 ∨ b1 + 105 ≤ phA b2 k by unfold phA; omega), w_phA_f0 hk8, w_phA_f1 hk8, w_phA_f2 hk8, w_phA_is hk8, if_true, w_is3 hk8, nI_1]) stp (by
    intro f V hV
    show sp_X1_like_L209 G F (f + 1) (wR G (wR G h b2 W2 Q2) b1 V Q) b1 b2 (nI np) = _
    have e13 : V 0 14 = r 14 := by rw [hV.1]
    rw [sp_X1_like_L209]
    simp only [w_f14, e13, Option.bind_some]
    rw [if_pos (by rw [hr]; exact nI_le (by omega) (by omega))]) np 0 F W (by omega) (by omega) hA
  have inv := it_inv (m := np) (g := fun k V => va_up V (57 + k) (up3 (V (57 + k)) (W2 (57 + k) 0) (W2 (57 + k) 1) (W2 (57 + k) 2))) (P := fun k V => Agr V Q W2 Q2 r ns k 0 0 0) stp np 0 W (by omega) hA
  exact ⟨_, key, inv⟩
theorem w_glike {a c : Nat} {W : Nat → Nat → Int32} {n : Nat} {X : gH} (w2 : Nat → Int32) (e0 : gGi 4 (wR G X b1 W Q) c 0 = some (w2 0)) (e1 : gGi 4 (wR G X b1 W Q) c 1 = some (w2 1)) (e2 : gGi 4 (wR G X b1 W Q) c 2 = some (w2 2)) (e3 : gIs 4 (wR G X b1 W Q) a = true) (e4 : ∀ x y z, sp_X5_is G F (wR G X b1 W Q) a x y z = some (wR G X b1 (va_up W n (up3 (W n) x y z)) Q)) : sp_X5_like G F (wR G X b1 W Q) a c = some (wR G X b1 (va_up W n (up3 (W n) (w2 0) (w2 1) (w2 2))) Q) := by
  unfold sp_X5_like
  simp only [e0, e1, e2, e3, e4, Option.bind_some, if_true]
theorem lk_rc {r : Nat → Int32} {ns np nr nt nn : Nat} (hF : 100 ≤ F) (ap : b2 + 105 ≤ b1 ∨ b1 + 105 ≤ b2) (hs : srcOk W2 Q2 ns np nr nt nn) (hr : r 15 = nI nr) (hA : Agr W Q W2 Q2 r ns np 0 0 0) :
    ∃ V, sp_X1_like_L261 G F F (wR G (wR G h b2 W2 Q2) b1 W Q) b1 b2 0 = some (wR G (wR G h b2 W2 Q2) b1 V Q) ∧ Agr V Q W2 Q2 r ns np nr 0 0 := by
  obtain ⟨-, -, hl, hk⟩ := hs
  have stp : ∀ (k : Nat) (V : Nat → Nat → Int32), k < nr → Agr V Q W2 Q2 r ns np k 0 0 → Agr (va_up V (63 + k) (up3 (V (63 + k)) (W2 (63 + k) 0) (W2 (63 + k) 1) (W2 (63 + k) 2))) Q W2 Q2 r ns np (k + 1) 0 0 := by
    intro k V hkn hV
    have h1 := agr_up (w := up3 (V (63 + k)) (W2 (63 + k) 0) (W2 (63 + k) 1) (W2 (63 + k) 2)) (n := 63 + k) (by omega) hl.1 hV (fun l hl2 => by omega) (fun l hl2 => by omega) (fun l hl2 => by omega) (fun l hl2 => by omega)
    obtain ⟨a0, a1, a2, a3, a4, a5, a6⟩ := h1
    refine ⟨a0, a1, a2, a3, fun l j hl2 hj => ?_, a5, a6⟩
    by_cases hlk : l = k
    · subst hlk
      have : ∀ w, va_up V (63 + l) w (63 + l) = w := fun w => if_pos rfl
      rw [this, up3_3 hj]
    · exact a4 l j (by omega) hj
  have key := it_loop (m := nr) (fun f k V => sp_X1_like_L261 G F f (wR G (wR G h b2 W2 Q2) b1 V Q) b1 b2 (nI k)) (fun k V => va_up V (63 + k) (up3 (V (63 + k)) (W2 (63 + k) 0) (W2 (63 + k) 1) (W2 (63 + k) 2))) (fun k V => Agr V Q W2 Q2 r ns np k 0 0) (fun V => wR G (wR G h b2 W2 Q2) b1 V Q) (by
    intro k f V hkn hV
    show sp_X1_like_L261 G F (f + 1) (wR G (wR G h b2 W2 Q2) b1 V Q) b1 b2 (nI k) = _
    have hk8 : k < 24 := by omega
    have en : ¬ r 15 ≤ nI k := by rw [hr]; exact nI_ge (by omega) (by omega)
    have e13 : V 0 15 = r 15 := by rw [hV.1]
    have eo : rcA b2 k < b1 ∨ b1 + 105 ≤ rcA b2 k := by unfold rcA; omega
    have eg := w_glike (G := G) (F := F) (Q := Q) (b1 := b1) (a := rcA b1 k) (c := rcA b2 k) (n := 63 + k) (X := wR G h b2 W2 Q2) (W := V) (W2 (63 + k)) (by rw [o_gGi eo, w_rcA_f0 hk8]) (by rw [o_gGi eo, w_rcA_f1 hk8]) (by rw [o_gGi eo, w_rcA_f2 hk8]) (w_rcA_is hk8) (fun x y z => w_green hk8)
    rw [sp_X1_like_L261]
    simp only [w_f15, e13, Option.bind_some, en, if_false, w_f24, w_a3 hk8, o_gGr (a := b2) (show b2 < b1 ∨ b1 + 105 ≤ b2 by omega), o_gAr (a := b2 + 3) (show b2 + 3 < b1 ∨ b1 + 105 ≤ b2 + 3 by omega), w_rcA_is hk8, if_true, eg, nI_1]) stp (by
    intro f V hV
    show sp_X1_like_L261 G F (f + 1) (wR G (wR G h b2 W2 Q2) b1 V Q) b1 b2 (nI nr) = _
    have e13 : V 0 15 = r 15 := by rw [hV.1]
    rw [sp_X1_like_L261]
    simp only [w_f15, e13, Option.bind_some]
    rw [if_pos (by rw [hr]; exact nI_le (by omega) (by omega))]) nr 0 F W (by omega) (by omega) hA
  have inv := it_inv (m := nr) (g := fun k V => va_up V (63 + k) (up3 (V (63 + k)) (W2 (63 + k) 0) (W2 (63 + k) 1) (W2 (63 + k) 2))) (P := fun k V => Agr V Q W2 Q2 r ns np k 0 0) stp nr 0 W (by omega) hA
  exact ⟨_, key, inv⟩
theorem lk_tl {r : Nat → Int32} {ns np nr nt nn : Nat} (hF : 100 ≤ F) (ap : b2 + 105 ≤ b1 ∨ b1 + 105 ≤ b2) (hs : srcOk W2 Q2 ns np nr nt nn) (hr : r 17 = nI nt) (hA : Agr W Q W2 Q2 r ns np nr 0 0) :
    ∃ V, sp_X1_like_L292 G F F (wR G (wR G h b2 W2 Q2) b1 W Q) b1 b2 0 = some (wR G (wR G h b2 W2 Q2) b1 V Q) ∧ Agr V Q W2 Q2 r ns np nr nt 0 := by
  obtain ⟨-, -, hl, hk⟩ := hs
  have stp : ∀ (k : Nat) (V : Nat → Nat → Int32), k < nt → Agr V Q W2 Q2 r ns np nr k 0 → Agr (va_up V (87 + k) (up3 (V (87 + k)) (W2 (87 + k) 0) (W2 (87 + k) 1) (W2 (87 + k) 2))) Q W2 Q2 r ns np nr (k + 1) 0 := by
    intro k V hkn hV
    have h1 := agr_up (w := up3 (V (87 + k)) (W2 (87 + k) 0) (W2 (87 + k) 1) (W2 (87 + k) 2)) (n := 87 + k) (by omega) hl.1 hV (fun l hl2 => by omega) (fun l hl2 => by omega) (fun l hl2 => by omega) (fun l hl2 => by omega)
    obtain ⟨a0, a1, a2, a3, a4, a5, a6⟩ := h1
    refine ⟨a0, a1, a2, a3, a4, fun l j hl2 hj => ?_, a6⟩
    by_cases hlk : l = k
    · subst hlk
      have : ∀ w, va_up V (87 + l) w (87 + l) = w := fun w => if_pos rfl
      rw [this, up3_3 hj]
    · exact a5 l j (by omega) hj
  have key := it_loop (m := nt) (fun f k V => sp_X1_like_L292 G F f (wR G (wR G h b2 W2 Q2) b1 V Q) b1 b2 (nI k)) (fun k V => va_up V (87 + k) (up3 (V (87 + k)) (W2 (87 + k) 0) (W2 (87 + k) 1) (W2 (87 + k) 2))) (fun k V => Agr V Q W2 Q2 r ns np nr k 0) (fun V => wR G (wR G h b2 W2 Q2) b1 V Q) (by
    intro k f V hkn hV
    show sp_X1_like_L292 G F (f + 1) (wR G (wR G h b2 W2 Q2) b1 V Q) b1 b2 (nI k) = _
    have hk8 : k < 8 := by omega
    have en : ¬ r 17 ≤ nI k := by rw [hr]; exact nI_ge (by omega) (by omega)
    have e13 : V 0 17 = r 17 := by rw [hV.1]
    have eo : tlA b2 k < b1 ∨ b1 + 105 ≤ tlA b2 k := by unfold tlA; omega
    have eg := w_glike (G := G) (F := F) (Q := Q) (b1 := b1) (a := tlA b1 k) (c := tlA b2 k) (n := 87 + k) (X := wR G h b2 W2 Q2) (W := V) (W2 (87 + k)) (by rw [o_gGi eo, w_tlA_f0 hk8]) (by rw [o_gGi eo, w_tlA_f1 hk8]) (by rw [o_gGi eo, w_tlA_f2 hk8]) (w_tlA_is hk8) (fun x y z => w_tol3 hk8)
    rw [sp_X1_like_L292]
    simp only [w_f17, e13, Option.bind_some, en, if_false, w_f25, w_a4 hk8, o_gGr (a := b2) (show b2 < b1 ∨ b1 + 105 ≤ b2 by omega), o_gAr (a := b2 + 4) (show b2 + 4 < b1 ∨ b1 + 105 ≤ b2 + 4 by omega), w_tlA_is hk8, if_true, eg, nI_1]) stp (by
    intro f V hV
    show sp_X1_like_L292 G F (f + 1) (wR G (wR G h b2 W2 Q2) b1 V Q) b1 b2 (nI nt) = _
    have e13 : V 0 17 = r 17 := by rw [hV.1]
    rw [sp_X1_like_L292]
    simp only [w_f17, e13, Option.bind_some]
    rw [if_pos (by rw [hr]; exact nI_le (by omega) (by omega))]) nt 0 F W (by omega) (by omega) hA
  have inv := it_inv (m := nt) (g := fun k V => va_up V (87 + k) (up3 (V (87 + k)) (W2 (87 + k) 0) (W2 (87 + k) 1) (W2 (87 + k) 2))) (P := fun k V => Agr V Q W2 Q2 r ns np nr k 0) stp nt 0 W (by omega) hA
  exact ⟨_, key, inv⟩
theorem lk_nd {r : Nat → Int32} {ns np nr nt nn : Nat} (hF : 100 ≤ F) (ap : b2 + 105 ≤ b1 ∨ b1 + 105 ≤ b2) (hs : srcOk W2 Q2 ns np nr nt nn) (hr : r 18 = nI nn) (hA : Agr W Q W2 Q2 r ns np nr nt 0) :
    ∃ V, sp_X1_like_L323 G F F (wR G (wR G h b2 W2 Q2) b1 W Q) b1 b2 0 = some (wR G (wR G h b2 W2 Q2) b1 V Q) ∧ Agr V Q W2 Q2 r ns np nr nt nn := by
  obtain ⟨-, -, hl, hk⟩ := hs
  have stp : ∀ (k : Nat) (V : Nat → Nat → Int32), k < nn → Agr V Q W2 Q2 r ns np nr nt k → Agr (va_up V (96 + 2 * k) (va_cpy (W2 (96 + 2 * k)) (V (96 + 2 * k)) 0 0 3)) Q W2 Q2 r ns np nr nt (k + 1) := by
    intro k V hkn hV
    have h1 := agr_up (w := va_cpy (W2 (96 + 2 * k)) (V (96 + 2 * k)) 0 0 3) (n := 96 + 2 * k) (by omega) hl.1 hV (fun l hl2 => by omega) (fun l hl2 => by omega) (fun l hl2 => by omega) (fun l hl2 => by omega)
    obtain ⟨a0, a1, a2, a3, a4, a5, a6⟩ := h1
    refine ⟨a0, a1, a2, a3, a4, a5, fun l j hl2 hj => ?_⟩
    by_cases hlk : l = k
    · subst hlk
      have : ∀ w, va_up V (96 + 2 * l) w (96 + 2 * l) = w := fun w => if_pos rfl
      rw [this, pk_cpy_in (by omega) (by omega), Nat.sub_zero, Nat.zero_add]
    · exact a6 l j (by omega) hj
  have key := it_loop (m := nn) (fun f k V => sp_X1_like_L323 G F f (wR G (wR G h b2 W2 Q2) b1 V Q) b1 b2 (nI k)) (fun k V => va_up V (96 + 2 * k) (va_cpy (W2 (96 + 2 * k)) (V (96 + 2 * k)) 0 0 3)) (fun k V => Agr V Q W2 Q2 r ns np nr nt k) (fun V => wR G (wR G h b2 W2 Q2) b1 V Q) (by
    intro k f V hkn hV
    show sp_X1_like_L323 G F (f + 1) (wR G (wR G h b2 W2 Q2) b1 V Q) b1 b2 (nI k) = _
    have hk8 : k < 5 := by omega
    have en : ¬ r 18 ≤ nI k := by rw [hr]; exact nI_ge (by omega) (by omega)
    have e13 : V 0 18 = r 18 := by rw [hV.1]
    have ec : gCpy (wR G (wR G h b2 W2 Q2) b1 V Q) (ndt b2 k) 0 (ndt b1 k) 0 3 = some (wR G (wR G h b2 W2 Q2) b1 (va_up V (96 + 2 * k) (va_cpy (W2 (96 + 2 * k)) (V (96 + 2 * k)) 0 0 3)) Q) := by
      exact r_cpy (n := 96 + 2 * k) (N := 3) (src := ndt b2 k) (by omega) (by decide) (fun w q => wC_ndt hk8) (by rw [wR_out (by unfold ndt; omega), wc_ndt hk8])
    rw [sp_X1_like_L323]
    simp only [w_f18, e13, Option.bind_some, en, if_false, w_f26, w_a5 hk8, o_gGr (a := b2) (show b2 < b1 ∨ b1 + 105 ≤ b2 by omega), o_gAr (a := b2 + 5) (show b2 + 5 < b1 ∨ b1 + 105 ≤ b2 + 5 by omega), o_gGr (a := ndA b2 k) (show ndA b2 k < b1 ∨ b1 + 105 ≤ ndA b2 k by unfold ndA; omega), w_ndA_f0 hk8, ec, nI_1]) stp (by
    intro f V hV
    show sp_X1_like_L323 G F (f + 1) (wR G (wR G h b2 W2 Q2) b1 V Q) b1 b2 (nI nn) = _
    have e13 : V 0 18 = r 18 := by rw [hV.1]
    rw [sp_X1_like_L323]
    simp only [w_f18, e13, Option.bind_some]
    rw [if_pos (by rw [hr]; exact nI_le (by omega) (by omega))]) nn 0 F W (by omega) (by omega) hA
  have inv := it_inv (m := nn) (g := fun k V => va_up V (96 + 2 * k) (va_cpy (W2 (96 + 2 * k)) (V (96 + 2 * k)) 0 0 3)) (P := fun k V => Agr V Q W2 Q2 r ns np nr nt k) stp nn 0 W (by omega) hA
  exact ⟨_, key, inv⟩
end W21
