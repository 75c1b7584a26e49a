/-! w20: a World becomes like another -/
set_option maxRecDepth 100000
def lkR0 (r s : Nat → Int32) : Nat → Int32 := upd (upd (upd (upd (upd (upd (upd (upd (upd (upd (upd (upd (upd (upd (upd (upd (upd (upd (upd (upd (upd (upd r 0 (s 0)) 1 (s 1)) 2 (s 2)) 3 (s 3)) 4 (s 4)) 5 (s 5)) 6 (s 6)) 7 (s 7)) 8 (s 8)) 9 (s 9)) 10 (s 10)) 11 (s 11)) 12 (s 12)) 13 (s 13)) 14 (s 14)) 15 (s 15)) 16 (s 16)) 17 (s 17)) 18 (s 18)) 19 (s 19)) 20 (s 20)) 21 (s 21)
theorem lkR0_v {r s : Nat → Int32} {j : Nat} (hj : j < 22) : lkR0 r s j = s j := by
  match j, hj with
  | 0, _ => rfl
  | 1, _ => rfl
  | 2, _ => rfl
  | 3, _ => rfl
  | 4, _ => rfl
  | 5, _ => rfl
  | 6, _ => rfl
  | 7, _ => rfl
  | 8, _ => rfl
  | 9, _ => rfl
  | 10, _ => rfl
  | 11, _ => rfl
  | 12, _ => rfl
  | 13, _ => rfl
  | 14, _ => rfl
  | 15, _ => rfl
  | 16, _ => rfl
  | 17, _ => rfl
  | 18, _ => rfl
  | 19, _ => rfl
  | 20, _ => rfl
  | 21, _ => rfl
  | k + 22, hk => exact absurd hk (by omega)
section W20
variable {G : gG} {h X : gH} {b b1 b2 : Nat} {S : Nat → Int32} {J : Nat → Nat → Int32} {Q Q1 Q2 : Nat → Nat → Int64} {W W1 W2 : Nat → Nat → Int32} {F : Nat}
theorem o_gGi {a k i : Nat} (ha : a < b1 ∨ b1 + 105 ≤ a) : gGi k (wR G X b1 W Q) a i = gGi k X a i := by unfold gGi gGv; rw [wR_out ha]
theorem o_gGr {a k i : Nat} (ha : a < b1 ∨ b1 + 105 ≤ a) : gGr k (wR G X b1 W Q) a i = gGr k X a i := by unfold gGr gGv; rw [wR_out ha]
theorem o_gIs {a k : Nat} (ha : a < b1 ∨ b1 + 105 ≤ a) : gIs k (wR G X b1 W Q) a = gIs k X a := by unfold gIs; rw [wR_out ha]
theorem o_gAi {a k : Nat} {i : Int32} (ha : a < b1 ∨ b1 + 105 ≤ a) : gAi k (wR G X b1 W Q) a i = gAi k X a i := by unfold gAi; rw [wR_out ha]
theorem o_gAr {a k : Nat} {i : Int32} (ha : a < b1 ∨ b1 + 105 ≤ a) : gAr k (wR G X b1 W Q) a i = gAr k X a i := by unfold gAr; rw [wR_out ha]
theorem o_gAl {a : Nat} {i : Int32} (ha : a < b1 ∨ b1 + 105 ≤ a) : gAl (wR G X b1 W Q) a i = gAl X a i := by unfold gAl; rw [wR_out ha]
theorem o_gAn {a k : Nat} (ha : a < b1 ∨ b1 + 105 ≤ a) : gAn k (wR G X b1 W Q) a = gAn k X a := by unfold gAn; rw [wR_out ha]
theorem r_cpy {n N src : Nat} {f' : Nat → Int32} (hn : n < 105) (hN : N < 2 ^ 31) (hC : ∀ (w : Nat → Int32) (q : Nat → Int64), wC G b1 n w q = .inl (0, N, .inl w)) (hs : wR G X b1 W Q src = some (.inl (0, N, .inl f'))) : gCpy (wR G X b1 W Q) src 0 (b1 + n) 0 (nI N) = some (wR G X b1 (va_up W n (va_cpy f' (W n) 0 0 N)) Q) := by
  unfold gCpy
  rw [hs, wR_at hn, hC]
  dsimp only
  have z0 : (0 : Int32).toNatClampNeg = 0 := by decide
  have zN : (nI N).toNatClampNeg = N := nI_c hN
  rw [z0, zN, if_pos ⟨⟨rfl, rfl⟩, by decide, by decide, nI_nn hN, by omega, by omega⟩, wR_put hn (hC _ _).symm]
theorem wR_sgAt {k : Nat} (hk : k < 8) : sgAt G (wR G X b1 W Q) (sg b1 k) (W (9 + 6 * k)) (W (11 + 6 * k)) (W (12 + 6 * k)) (Q (13 + 6 * k)) (W (14 + 6 * k)) := by
  have a2 : sgc b1 k = sg b1 k + 2 := by unfold sgc sg; omega
  have a3 : sgw b1 k = sg b1 k + 3 := by unfold sgw sg; omega
  have a4 : sgl b1 k = sg b1 k + 4 := by unfold sgl sg; omega
  have a5 : sgt b1 k = sg b1 k + 5 := by unfold sgt sg; omega
  refine ⟨?_, ?_, ?_, ?_, ?_⟩
  · rw [wc_sg hk, a2, a3, a5]
  · rw [← a2, wc_sgc hk]
  · rw [← a3, wc_sgw hk, a4]
  · rw [← a4, wc_sgl hk]
  · rw [← a5, wc_sgt hk]
theorem sgAt_wR {a : Nat} {f c g t : Nat → Int32} {q : Nat → Int64} (hs : sgAt G X a f c g q t) (ap : a + 6 ≤ b1 ∨ b1 + 105 ≤ a) : sgAt G (wR G X b1 W Q) a f c g q t := by
  obtain ⟨h0, h2, h3, h4, h5⟩ := hs
  exact ⟨by rw [wR_out (by omega)]; exact h0, by rw [wR_out (by omega)]; exact h2, by rw [wR_out (by omega)]; exact h3, by rw [wR_out (by omega)]; exact h4, by rw [wR_out (by omega)]; exact h5⟩
def lkW (W : Nat → Nat → Int32) (k : Nat) (f' c' g' t' : Nat → Int32) : Nat → Nat → Int32 := R4 W k (lkF (W (9 + 6 * k)) f') (va_cpy c' (W (11 + 6 * k)) 0 0 8) (upd (W (12 + 6 * k)) 1 (g' 1)) (va_cpy t' (W (14 + 6 * k)) 0 0 4)
def lkQ (Q : Nat → Nat → Int64) (k : Nat) (q' : Nat → Int64) : Nat → Nat → Int64 := va_up Q (13 + 6 * k) (vp_updL (Q (13 + 6 * k)) 0 (q' 0))
theorem r_like {k a' : Nat} {f' c' g' t' : Nat → Int32} {q' : Nat → Int64} (hF : 10 ≤ F) (hk : k < 8) (hs : sgAt G X a' f' c' g' q' t') (ap : a' + 6 ≤ b1 ∨ b1 + 105 ≤ a') (hkd : (f' 0).toNatClampNeg < 4) (h6 : f' 6 = 0 ∨ f' 6 = 1) (hb : bsJ (W (12 + 6 * k) 1) (Q (13 + 6 * k) 0)) (hb' : bsJ (g' 1) (q' 0)) : sp_X2_like G F (wR G X b1 W Q) (sg b1 k) a' = some (wR G X b1 (lkW W k f' c' g' t') (lkQ Q k q')) := by
  rw [wR_sgH hk, z_like hF (sgAt_wR hs ap) (by unfold sg; omega) hkd h6 hb hb', sgH_wR hk]
  rfl
/-- one Signal's rows are as another World's -/
def sgEq (W : Nat → Nat → Int32) (Q : Nat → Nat → Int64) (W2 : Nat → Nat → Int32) (Q2 : Nat → Nat → Int64) (k : Nat) : Prop :=
  W (9 + 6 * k) 0 = W2 (9 + 6 * k) 0 ∧ (∀ j, 4 ≤ j → j < 12 → W (9 + 6 * k) j = W2 (9 + 6 * k) j) ∧ (∀ j, j < 8 → W (11 + 6 * k) j = W2 (11 + 6 * k) j) ∧ (∀ j, j < 4 → W (14 + 6 * k) j = W2 (14 + 6 * k) j) ∧ W (12 + 6 * k) 1 = W2 (12 + 6 * k) 1 ∧ Q (13 + 6 * k) 0 = Q2 (13 + 6 * k) 0
theorem sgEq_lk {k : Nat} (hk4 : (W2 (9 + 6 * k) 0).toNatClampNeg < 4) (ek : W2 (9 + 6 * k) 0 = nI (W2 (9 + 6 * k) 0).toNatClampNeg) : sgEq (lkW W k (W2 (9 + 6 * k)) (W2 (11 + 6 * k)) (W2 (12 + 6 * k)) (W2 (14 + 6 * k))) (lkQ Q k (Q2 (13 + 6 * k))) W2 Q2 k := by
  unfold sgEq lkW lkQ
  rw [R4_9, R4_11, R4_12, R4_14]
  have eq : va_up Q (13 + 6 * k) (vp_updL (Q (13 + 6 * k)) 0 (Q2 (13 + 6 * k) 0)) (13 + 6 * k) = vp_updL (Q (13 + 6 * k)) 0 (Q2 (13 + 6 * k) 0) := if_pos rfl
  rw [eq]
  refine ⟨?_, fun j h1 h2 => ?_, fun j hj => ?_, fun j hj => ?_, upd_eq, pk_uLs⟩
  · exact (show lkF _ (W2 (9 + 6 * k)) 0 = nI (W2 (9 + 6 * k) 0).toNatClampNeg from rfl).trans ek.symm
  · match j, h1, h2 with
    | 4, _, _ => rfl
    | 5, _, _ => rfl
    | 6, _, _ => rfl
    | 7, _, _ => rfl
    | 8, _, _ => rfl
    | 9, _, _ => rfl
    | 10, _, _ => rfl
    | 11, _, _ => rfl
    | k + 12, _, hk => exact absurd hk (by omega)
  · rw [pk_cpy_in (by omega) (by omega), Nat.sub_zero, Nat.zero_add]
  · rw [pk_cpy_in (by omega) (by omega), Nat.sub_zero, Nat.zero_add]
theorem sgEq_ne {k l : Nat} {f c g t : Nat → Int32} {q : Nat → Int64} (hkl : k ≠ l) (hs : sgEq W Q W2 Q2 k) : sgEq (R4 W l f c g t) (va_up Q (13 + 6 * l) q) W2 Q2 k := by
  unfold sgEq
  rw [R4_ne (by omega) (by omega) (by omega) (by omega), R4_ne (by omega) (by omega) (by omega) (by omega), R4_ne (by omega) (by omega) (by omega) (by omega), R4_ne (by omega) (by omega) (by omega) (by omega)]
  have eq : va_up Q (13 + 6 * l) q (13 + 6 * k) = Q (13 + 6 * k) := if_neg (by omega)
  rw [eq]
  exact hs
theorem sgEq_up {k n : Nat} {w : Nat → Int32} (hn : n < 9 ∨ 57 + 0 ≤ n) (hk : k < 8) (hs : sgEq W Q W2 Q2 k) : sgEq (va_up W n w) Q W2 Q2 k := by
  have e : ∀ m, m ≠ n → va_up W n w m = W m := fun m hm => if_neg hm
  unfold sgEq
  rw [e (9 + 6 * k) (by omega), e (11 + 6 * k) (by omega), e (14 + 6 * k) (by omega), e (12 + 6 * k) (by omega)]
  exact hs
/-- how far W is as W2 -/
def Agr (W : Nat → Nat → Int32) (Q : Nat → Nat → Int64) (W2 : Nat → Nat → Int32) (Q2 : Nat → Nat → Int64) (r : Nat → Int32) (ns np nr nt nn : Nat) : Prop :=
  W 0 = r ∧ (∀ k, k < 8 → bsJ (W (12 + 6 * k) 1) (Q (13 + 6 * k) 0)) ∧ (∀ k, k < ns → sgEq W Q W2 Q2 k) ∧ (∀ k j, k < np → j < 3 → W (57 + k) j = W2 (57 + k) j) ∧ (∀ k j, k < nr → j < 3 → W (63 + k) j = W2 (63 + k) j) ∧ (∀ k j, k < nt → j < 3 → W (87 + k) j = W2 (87 + k) j) ∧ (∀ k j, k < nn → j < 3 → W (96 + 2 * k) j = W2 (96 + 2 * k) j)
theorem agr_s {r : Nat → Int32} {k : Nat} (hk : k < 8) (hk4 : (W2 (9 + 6 * k) 0).toNatClampNeg < 4) (ek : W2 (9 + 6 * k) 0 = nI (W2 (9 + 6 * k) 0).toNatClampNeg) (hb : bsJ (W2 (12 + 6 * k) 1) (Q2 (13 + 6 * k) 0)) (hA : Agr W Q W2 Q2 r k 0 0 0 0) : Agr (lkW W k (W2 (9 + 6 * k)) (W2 (11 + 6 * k)) (W2 (12 + 6 * k)) (W2 (14 + 6 * k))) (lkQ Q k (Q2 (13 + 6 * k))) W2 Q2 r (k + 1) 0 0 0 0 := by
  obtain ⟨a0, a1, a2, -, -, -, -⟩ := hA
  have hs := sgEq_lk (W := W) (Q := Q) (Q2 := Q2) hk4 ek
  refine ⟨?_, fun l hl => ?_, fun l hl => ?_, fun _ _ hh => by omega, fun _ _ hh => by omega, fun _ _ hh => by omega, fun _ _ hh => by omega⟩
  · have : lkW W k (W2 (9 + 6 * k)) (W2 (11 + 6 * k)) (W2 (12 + 6 * k)) (W2 (14 + 6 * k)) 0 = W 0 := R4_ne (by omega) (by omega) (by omega) (by omega)
    rw [this]; exact a0
  · by_cases hlk : l = k
    · subst hlk
      rw [hs.2.2.2.2.1, hs.2.2.2.2.2]; exact hb
    · have e1 : lkW W k (W2 (9 + 6 * k)) (W2 (11 + 6 * k)) (W2 (12 + 6 * k)) (W2 (14 + 6 * k)) (12 + 6 * l) = W (12 + 6 * l) := R4_ne (by omega) (by omega) (by omega) (by omega)
      have e2 : lkQ Q k (Q2 (13 + 6 * k)) (13 + 6 * l) = Q (13 + 6 * l) := if_neg (by omega)
      rw [e1, e2]; exact a1 l hl
  · by_cases hlk : l = k
    · subst hlk; exact hs
    · exact sgEq_ne hlk (a2 l (by omega))
theorem agr_up {r w : Nat → Int32} {n ns np nr nt nn : Nat} (hn : 57 ≤ n) (hns : ns ≤ 8) (hA : Agr W Q W2 Q2 r ns np nr nt nn) (h1 : ∀ k, k < np → n ≠ 57 + k) (h2 : ∀ k, k < nr → n ≠ 63 + k) (h3 : ∀ k, k < nt → n ≠ 87 + k) (h4 : ∀ k, k < nn → n ≠ 96 + 2 * k) : Agr (va_up W n w) Q W2 Q2 r ns np nr nt nn := by
  obtain ⟨a0, a1, a2, a3, a4, a5, a6⟩ := hA
  have e : ∀ m, m ≠ n → va_up W n w m = W m := fun m hm => if_neg hm
  refine ⟨by rw [e 0 (by omega)]; exact a0, fun k hk => by rw [e (12 + 6 * k) (by omega)]; exact a1 k hk, fun k hk => sgEq_up (Or.inr hn) (by omega) (a2 k hk), fun k j hk hj => ?_, fun k j hk hj => ?_, fun k j hk hj => ?_, fun k j hk hj => ?_⟩
  · rw [e _ (Ne.symm (h1 k hk))]; exact a3 k j hk hj
  · rw [e _ (Ne.symm (h2 k hk))]; exact a4 k j hk hj
  · rw [e _ (Ne.symm (h3 k hk))]; exact a5 k j hk hj
  · rw [e _ (Ne.symm (h4 k hk))]; exact a6 k j hk hj
theorem up3_3 {w w2 : Nat → Int32} {j : Nat} (hj : j < 3) : up3 w (w2 0) (w2 1) (w2 2) j = w2 j := by
  match j, hj with
  | 0, _ => rfl
  | 1, _ => rfl
  | 2, _ => rfl
  | k + 3, hk => exact absurd hk (by omega)
end W20
