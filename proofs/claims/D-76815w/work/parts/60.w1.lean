/-! w1: a World's 105 cells, told by rows of numbers: W n = the ints of cell n, Q n = the longs of cell n -/
set_option maxRecDepth 100000
def sg (b k : Nat) : Nat := b + (9 + 6 * k)
def sgc (b k : Nat) : Nat := b + (11 + 6 * k)
def sgw (b k : Nat) : Nat := b + (12 + 6 * k)
def sgl (b k : Nat) : Nat := b + (13 + 6 * k)
def sgt (b k : Nat) : Nat := b + (14 + 6 * k)
def phA (b k : Nat) : Nat := b + (57 + k)
def rcA (b k : Nat) : Nat := b + (63 + k)
def tlA (b k : Nat) : Nat := b + (87 + k)
def ndA (b k : Nat) : Nat := b + (95 + 2 * k)
def ndt (b k : Nat) : Nat := b + (96 + 2 * k)

def wC (G : gG) (b n : Nat) (w : Nat → Int32) (q : Nat → Int64) : gC :=
  if n = 0 then .inr (1, [.int (w 0), .int (w 1), .int (w 2), .int (w 3), .int (w 4), .int (w 5), .int (w 6), .int (w 7), .int (w 8), .int (w 9), .int (w 10), .int (w 11), .int (w 12), .int (w 13), .int (w 14), .int (w 15), .int (w 16), .int (w 17), .int (w 18), .int (w 19), .int (w 20), .int (w 21), .ref (b + 1), .ref (b + 2), .ref (b + 3), .ref (b + 4), .ref (b + 5), .ref (b + 6), .ref (b + 7), .ref (b + 8)])
  else if n = 1 then .inl (5, 8, .inr (.inr (.inr (.inr (fun i => if i < 8 then some (sg b i) else none)))))
  else if n = 2 then .inl (6, 6, .inr (.inr (.inr (.inr (fun i => if i < 6 then some (phA b i) else none)))))
  else if n = 3 then .inl (7, 24, .inr (.inr (.inr (.inr (fun i => if i < 24 then some (rcA b i) else none)))))
  else if n = 4 then .inl (7, 8, .inr (.inr (.inr (.inr (fun i => if i < 8 then some (tlA b i) else none)))))
  else if n = 5 then .inl (8, 5, .inr (.inr (.inr (.inr (fun i => if i < 5 then some (ndA b i) else none)))))
  else if n = 6 then .inl (0, 10, .inl w)
  else if n = 7 then .inl (0, 16, .inl w)
  else if n = 8 then .inl (0, 64, .inl w)
  else if n < 57 then (if (n - 9) % 6 = 0 then .inr (2, [.ref (gS G (w 0).toNatClampNeg), .ref (b + (n + 2)), .ref (b + (n + 3)), .ref (b + (n + 5)), .int (w 4), .int (w 5), .int (w 6), .int (w 7), .int (w 8), .int (w 9), .int (w 10), .int (w 11)]) else if (n - 9) % 6 = 1 then .inl (0, 4, .inl w) else if (n - 9) % 6 = 2 then .inl (0, 8, .inl w)
    else if (n - 9) % 6 = 3 then .inr (14, [.ref (b + (n + 1)), .int (w 1), .int (w 2)]) else if (n - 9) % 6 = 4 then .inl (1, 1, .inr (.inl q)) else .inl (0, 4, .inl w))
  else if n < 63 then .inr (3, [.int (w 0), .int (w 1), .int (w 2)])
  else if n < 95 then .inr (4, [.int (w 0), .int (w 1), .int (w 2)])
  else if (n - 95) % 2 = 0 then .inr (5, [.ref (b + (n + 1))])
  else .inl (0, 3, .inl w)
def wR (G : gG) (h : gH) (b : Nat) (W : Nat → Nat → Int32) (Q : Nat → Nat → Int64) : gH := fun a => if b ≤ a ∧ a < b + 105 then some (wC G b (a - b) (W (a - b)) (Q (a - b))) else h a
section W1
variable {G : gG} {h : gH} {b : Nat} {W : Nat → Nat → Int32} {Q : Nat → Nat → Int64}
theorem wR_at {n : Nat} (hn : n < 105) : wR G h b W Q (b + n) = some (wC G b n (W n) (Q n)) := by
  unfold wR
  rw [if_pos (by omega), Nat.add_sub_cancel_left]
theorem wR_out {a : Nat} (ha : a < b ∨ b + 105 ≤ a) : wR G h b W Q a = h a := if_neg (by omega)
theorem wR_put {n : Nat} {w : Nat → Int32} {c : gC} (hn : n < 105) (e : c = wC G b n w (Q n)) : va_up (wR G h b W Q) (b + n) (some c) = wR G h b (va_up W n w) Q := by
  subst e
  funext a
  by_cases ha : a = b + n
  · subst ha
    rw [wR_at hn]
    simp [va_up]
  · by_cases hr : b ≤ a ∧ a < b + 105
    · obtain ⟨k, rfl⟩ : ∃ k, a = b + k := ⟨a - b, by omega⟩
      have hk : k ≠ n := fun e => ha (by rw [e])
      rw [wR_at (by omega)]
      have : va_up (wR G h b W Q) (b + n) (some (wC G b n w (Q n))) (b + k) = wR G h b W Q (b + k) := if_neg ha
      rw [this, wR_at (by omega)]
      simp [va_up, hk]
    · rw [wR_out (by omega)]
      have : va_up (wR G h b W Q) (b + n) (some (wC G b n w (Q n))) a = wR G h b W Q a := if_neg ha
      rw [this, wR_out (by omega)]
theorem wR_putq {n : Nat} {q : Nat → Int64} {c : gC} (hn : n < 105) (e : c = wC G b n (W n) q) : va_up (wR G h b W Q) (b + n) (some c) = wR G h b W (va_up Q n q) := by
  subst e
  funext a
  by_cases ha : a = b + n
  · subst ha
    rw [wR_at hn]
    simp [va_up]
  · by_cases hr : b ≤ a ∧ a < b + 105
    · obtain ⟨k, rfl⟩ : ∃ k, a = b + k := ⟨a - b, by omega⟩
      have hk : k ≠ n := fun e => ha (by rw [e])
      rw [wR_at (by omega)]
      have : va_up (wR G h b W Q) (b + n) (some (wC G b n (W n) q)) (b + k) = wR G h b W Q (b + k) := if_neg ha
      rw [this, wR_at (by omega)]
      simp [va_up, hk]
    · rw [wR_out (by omega)]
      have : va_up (wR G h b W Q) (b + n) (some (wC G b n (W n) q)) a = wR G h b W Q a := if_neg ha
      rw [this, wR_out (by omega)]

theorem wc_0 : wR G h b W Q b = some (wC G b 0 (W 0) (Q 0)) := wR_at (n := 0) (by decide)
theorem wc_1 : wR G h b W Q (b + 1) = some (wC G b 1 (W 1) (Q 1)) := wR_at (by decide)
theorem wc_2 : wR G h b W Q (b + 2) = some (wC G b 2 (W 2) (Q 2)) := wR_at (by decide)
theorem wc_3 : wR G h b W Q (b + 3) = some (wC G b 3 (W 3) (Q 3)) := wR_at (by decide)
theorem wc_4 : wR G h b W Q (b + 4) = some (wC G b 4 (W 4) (Q 4)) := wR_at (by decide)
theorem wc_5 : wR G h b W Q (b + 5) = some (wC G b 5 (W 5) (Q 5)) := wR_at (by decide)
theorem wc_6 : wR G h b W Q (b + 6) = some (wC G b 6 (W 6) (Q 6)) := wR_at (by decide)
theorem wc_7 : wR G h b W Q (b + 7) = some (wC G b 7 (W 7) (Q 7)) := wR_at (by decide)
theorem wc_8 : wR G h b W Q (b + 8) = some (wC G b 8 (W 8) (Q 8)) := wR_at (by decide)
theorem wC_sg {k : Nat} {w : Nat → Int32} {q : Nat → Int64} (hk : k < 8) : wC G b (9 + 6 * k) w q = .inr (2, [.ref (gS G (w 0).toNatClampNeg), .ref (sgc b k), .ref (sgw b k), .ref (sgt b k), .int (w 4), .int (w 5), .int (w 6), .int (w 7), .int (w 8), .int (w 9), .int (w 10), .int (w 11)]) := by
  have e : (9 + 6 * k - 9) % 6 = 0 := by omega
  unfold wC
  rw [if_neg (by omega)]
  rw [if_neg (by omega)]
  rw [if_neg (by omega)]
  rw [if_neg (by omega)]
  rw [if_neg (by omega)]
  rw [if_neg (by omega)]
  rw [if_neg (by omega)]
  rw [if_neg (by omega)]
  rw [if_neg (by omega)]
  rw [if_pos (by omega), e]
  rw [if_pos rfl]
  simp only [sgc, sgw, sgt, show 9 + 6 * k + 2 = 11 + 6 * k by omega, show 9 + 6 * k + 3 = 12 + 6 * k by omega, show 9 + 6 * k + 5 = 14 + 6 * k by omega]
theorem wc_sg {k : Nat} (hk : k < 8) : wR G h b W Q (sg b k) = some (.inr (2, [.ref (gS G ((W (9 + 6 * k)) 0).toNatClampNeg), .ref (sgc b k), .ref (sgw b k), .ref (sgt b k), .int ((W (9 + 6 * k)) 4), .int ((W (9 + 6 * k)) 5), .int ((W (9 + 6 * k)) 6), .int ((W (9 + 6 * k)) 7), .int ((W (9 + 6 * k)) 8), .int ((W (9 + 6 * k)) 9), .int ((W (9 + 6 * k)) 10), .int ((W (9 + 6 * k)) 11)])) := by
  unfold sg
  rw [wR_at (by omega), wC_sg hk]
theorem wC_sgc {k : Nat} {w : Nat → Int32} {q : Nat → Int64} (hk : k < 8) : wC G b (11 + 6 * k) w q = .inl (0, 8, .inl w) := by
  have e : (11 + 6 * k - 9) % 6 = 2 := by omega
  unfold wC
  rw [if_neg (by omega)]
  rw [if_neg (by omega)]
  rw [if_neg (by omega)]
  rw [if_neg (by omega)]
  rw [if_neg (by omega)]
  rw [if_neg (by omega)]
  rw [if_neg (by omega)]
  rw [if_neg (by omega)]
  rw [if_neg (by omega)]
  rw [if_pos (by omega), e]
  rfl
theorem wc_sgc {k : Nat} (hk : k < 8) : wR G h b W Q (sgc b k) = some (.inl (0, 8, .inl (W (11 + 6 * k)))) := by
  unfold sgc
  rw [wR_at (by omega), wC_sgc hk]
theorem wC_sgw {k : Nat} {w : Nat → Int32} {q : Nat → Int64} (hk : k < 8) : wC G b (12 + 6 * k) w q = .inr (14, [.ref (sgl b k), .int (w 1), .int (w 2)]) := by
  have e : (12 + 6 * k - 9) % 6 = 3 := by omega
  unfold wC
  rw [if_neg (by omega)]
  rw [if_neg (by omega)]
  rw [if_neg (by omega)]
  rw [if_neg (by omega)]
  rw [if_neg (by omega)]
  rw [if_neg (by omega)]
  rw [if_neg (by omega)]
  rw [if_neg (by omega)]
  rw [if_neg (by omega)]
  rw [if_pos (by omega), e]
  rw [if_neg (by decide), if_neg (by decide), if_neg (by decide), if_pos rfl]
  simp only [sgl, show 12 + 6 * k + 1 = 13 + 6 * k by omega]
theorem wc_sgw {k : Nat} (hk : k < 8) : wR G h b W Q (sgw b k) = some (.inr (14, [.ref (sgl b k), .int ((W (12 + 6 * k)) 1), .int ((W (12 + 6 * k)) 2)])) := by
  unfold sgw
  rw [wR_at (by omega), wC_sgw hk]
theorem wC_sgl {k : Nat} {w : Nat → Int32} {q : Nat → Int64} (hk : k < 8) : wC G b (13 + 6 * k) w q = .inl (1, 1, .inr (.inl q)) := by
  have e : (13 + 6 * k - 9) % 6 = 4 := by omega
  unfold wC
  rw [if_neg (by omega)]
  rw [if_neg (by omega)]
  rw [if_neg (by omega)]
  rw [if_neg (by omega)]
  rw [if_neg (by omega)]
  rw [if_neg (by omega)]
  rw [if_neg (by omega)]
  rw [if_neg (by omega)]
  rw [if_neg (by omega)]
  rw [if_pos (by omega), e]
  rfl
theorem wc_sgl {k : Nat} (hk : k < 8) : wR G h b W Q (sgl b k) = some (.inl (1, 1, .inr (.inl (Q (13 + 6 * k))))) := by
  unfold sgl
  rw [wR_at (by omega), wC_sgl hk]
theorem wC_sgt {k : Nat} {w : Nat → Int32} {q : Nat → Int64} (hk : k < 8) : wC G b (14 + 6 * k) w q = .inl (0, 4, .inl w) := by
  have e : (14 + 6 * k - 9) % 6 = 5 := by omega
  unfold wC
  rw [if_neg (by omega)]
  rw [if_neg (by omega)]
  rw [if_neg (by omega)]
  rw [if_neg (by omega)]
  rw [if_neg (by omega)]
  rw [if_neg (by omega)]
  rw [if_neg (by omega)]
  rw [if_neg (by omega)]
  rw [if_neg (by omega)]
  rw [if_pos (by omega), e]
  rfl
theorem wc_sgt {k : Nat} (hk : k < 8) : wR G h b W Q (sgt b k) = some (.inl (0, 4, .inl (W (14 + 6 * k)))) := by
  unfold sgt
  rw [wR_at (by omega), wC_sgt hk]
theorem wC_phA {k : Nat} {w : Nat → Int32} {q : Nat → Int64} (hk : k < 6) : wC G b (57 + k) w q = .inr (3, [.int (w 0), .int (w 1), .int (w 2)]) := by
  unfold wC
  rw [if_neg (by omega)]
  rw [if_neg (by omega)]
  rw [if_neg (by omega)]
  rw [if_neg (by omega)]
  rw [if_neg (by omega)]
  rw [if_neg (by omega)]
  rw [if_neg (by omega)]
  rw [if_neg (by omega)]
  rw [if_neg (by omega)]
  rw [if_neg (by omega)]
  rw [if_pos (by omega)]
theorem wc_phA {k : Nat} (hk : k < 6) : wR G h b W Q (phA b k) = some (.inr (3, [.int ((W (57 + k)) 0), .int ((W (57 + k)) 1), .int ((W (57 + k)) 2)])) := by
  unfold phA
  rw [wR_at (by omega), wC_phA hk]
theorem wC_rcA {k : Nat} {w : Nat → Int32} {q : Nat → Int64} (hk : k < 24) : wC G b (63 + k) w q = .inr (4, [.int (w 0), .int (w 1), .int (w 2)]) := by
  unfold wC
  rw [if_neg (by omega)]
  rw [if_neg (by omega)]
  rw [if_neg (by omega)]
  rw [if_neg (by omega)]
  rw [if_neg (by omega)]
  rw [if_neg (by omega)]
  rw [if_neg (by omega)]
  rw [if_neg (by omega)]
  rw [if_neg (by omega)]
  rw [if_neg (by omega)]
  rw [if_neg (by omega)]
  rw [if_pos (by omega)]
theorem wc_rcA {k : Nat} (hk : k < 24) : wR G h b W Q (rcA b k) = some (.inr (4, [.int ((W (63 + k)) 0), .int ((W (63 + k)) 1), .int ((W (63 + k)) 2)])) := by
  unfold rcA
  rw [wR_at (by omega), wC_rcA hk]
theorem wC_tlA {k : Nat} {w : Nat → Int32} {q : Nat → Int64} (hk : k < 8) : wC G b (87 + k) w q = .inr (4, [.int (w 0), .int (w 1), .int (w 2)]) := by
  unfold wC
  rw [if_neg (by omega)]
  rw [if_neg (by omega)]
  rw [if_neg (by omega)]
  rw [if_neg (by omega)]
  rw [if_neg (by omega)]
  rw [if_neg (by omega)]
  rw [if_neg (by omega)]
  rw [if_neg (by omega)]
  rw [if_neg (by omega)]
  rw [if_neg (by omega)]
  rw [if_neg (by omega)]
  rw [if_pos (by omega)]
theorem wc_tlA {k : Nat} (hk : k < 8) : wR G h b W Q (tlA b k) = some (.inr (4, [.int ((W (87 + k)) 0), .int ((W (87 + k)) 1), .int ((W (87 + k)) 2)])) := by
  unfold tlA
  rw [wR_at (by omega), wC_tlA hk]
theorem wC_ndA {k : Nat} {w : Nat → Int32} {q : Nat → Int64} (hk : k < 5) : wC G b (95 + 2 * k) w q = .inr (5, [.ref (ndt b k)]) := by
  unfold wC
  rw [if_neg (by omega)]
  rw [if_neg (by omega)]
  rw [if_neg (by omega)]
  rw [if_neg (by omega)]
  rw [if_neg (by omega)]
  rw [if_neg (by omega)]
  rw [if_neg (by omega)]
  rw [if_neg (by omega)]
  rw [if_neg (by omega)]
  rw [if_neg (by omega)]
  rw [if_neg (by omega)]
  rw [if_neg (by omega)]
  rw [if_pos (by omega)]
  simp only [ndt, show 95 + 2 * k + 1 = 96 + 2 * k by omega]
theorem wc_ndA {k : Nat} (hk : k < 5) : wR G h b W Q (ndA b k) = some (.inr (5, [.ref (ndt b k)])) := by
  unfold ndA
  rw [wR_at (by omega), wC_ndA hk]
theorem wC_ndt {k : Nat} {w : Nat → Int32} {q : Nat → Int64} (hk : k < 5) : wC G b (96 + 2 * k) w q = .inl (0, 3, .inl w) := by
  unfold wC
  rw [if_neg (by omega)]
  rw [if_neg (by omega)]
  rw [if_neg (by omega)]
  rw [if_neg (by omega)]
  rw [if_neg (by omega)]
  rw [if_neg (by omega)]
  rw [if_neg (by omega)]
  rw [if_neg (by omega)]
  rw [if_neg (by omega)]
  rw [if_neg (by omega)]
  rw [if_neg (by omega)]
  rw [if_neg (by omega)]
  rw [if_neg (by omega)]
theorem wc_ndt {k : Nat} (hk : k < 5) : wR G h b W Q (ndt b k) = some (.inl (0, 3, .inl (W (96 + 2 * k)))) := by
  unfold ndt
  rw [wR_at (by omega), wC_ndt hk]
theorem w_is : gIs 1 (wR G h b W Q) b = true := by simp [gIs, wc_0, wC]
theorem w_f0 : gGi 1 (wR G h b W Q) b 0 = some (W 0 0) := by simp [gGi, gGv, wc_0, wC]
theorem w_f1 : gGi 1 (wR G h b W Q) b 1 = some (W 0 1) := by simp [gGi, gGv, wc_0, wC]
theorem w_f2 : gGi 1 (wR G h b W Q) b 2 = some (W 0 2) := by simp [gGi, gGv, wc_0, wC]
theorem w_f3 : gGi 1 (wR G h b W Q) b 3 = some (W 0 3) := by simp [gGi, gGv, wc_0, wC]
theorem w_f4 : gGi 1 (wR G h b W Q) b 4 = some (W 0 4) := by simp [gGi, gGv, wc_0, wC]
theorem w_f5 : gGi 1 (wR G h b W Q) b 5 = some (W 0 5) := by simp [gGi, gGv, wc_0, wC]
theorem w_f6 : gGi 1 (wR G h b W Q) b 6 = some (W 0 6) := by simp [gGi, gGv, wc_0, wC]
theorem w_f7 : gGi 1 (wR G h b W Q) b 7 = some (W 0 7) := by simp [gGi, gGv, wc_0, wC]
theorem w_f8 : gGi 1 (wR G h b W Q) b 8 = some (W 0 8) := by simp [gGi, gGv, wc_0, wC]
theorem w_f9 : gGi 1 (wR G h b W Q) b 9 = some (W 0 9) := by simp [gGi, gGv, wc_0, wC]
theorem w_f10 : gGi 1 (wR G h b W Q) b 10 = some (W 0 10) := by simp [gGi, gGv, wc_0, wC]
theorem w_f11 : gGi 1 (wR G h b W Q) b 11 = some (W 0 11) := by simp [gGi, gGv, wc_0, wC]
theorem w_f12 : gGi 1 (wR G h b W Q) b 12 = some (W 0 12) := by simp [gGi, gGv, wc_0, wC]
theorem w_f13 : gGi 1 (wR G h b W Q) b 13 = some (W 0 13) := by simp [gGi, gGv, wc_0, wC]
theorem w_f14 : gGi 1 (wR G h b W Q) b 14 = some (W 0 14) := by simp [gGi, gGv, wc_0, wC]
theorem w_f15 : gGi 1 (wR G h b W Q) b 15 = some (W 0 15) := by simp [gGi, gGv, wc_0, wC]
theorem w_f16 : gGi 1 (wR G h b W Q) b 16 = some (W 0 16) := by simp [gGi, gGv, wc_0, wC]
theorem w_f17 : gGi 1 (wR G h b W Q) b 17 = some (W 0 17) := by simp [gGi, gGv, wc_0, wC]
theorem w_f18 : gGi 1 (wR G h b W Q) b 18 = some (W 0 18) := by simp [gGi, gGv, wc_0, wC]
theorem w_f19 : gGi 1 (wR G h b W Q) b 19 = some (W 0 19) := by simp [gGi, gGv, wc_0, wC]
theorem w_f20 : gGi 1 (wR G h b W Q) b 20 = some (W 0 20) := by simp [gGi, gGv, wc_0, wC]
theorem w_f21 : gGi 1 (wR G h b W Q) b 21 = some (W 0 21) := by simp [gGi, gGv, wc_0, wC]
theorem w_f22 : gGr 1 (wR G h b W Q) b 22 = some (b + 1) := by simp [gGr, gGv, wc_0, wC]
theorem w_f23 : gGr 1 (wR G h b W Q) b 23 = some (b + 2) := by simp [gGr, gGv, wc_0, wC]
theorem w_f24 : gGr 1 (wR G h b W Q) b 24 = some (b + 3) := by simp [gGr, gGv, wc_0, wC]
theorem w_f25 : gGr 1 (wR G h b W Q) b 25 = some (b + 4) := by simp [gGr, gGv, wc_0, wC]
theorem w_f26 : gGr 1 (wR G h b W Q) b 26 = some (b + 5) := by simp [gGr, gGv, wc_0, wC]
theorem w_f27 : gGr 1 (wR G h b W Q) b 27 = some (b + 6) := by simp [gGr, gGv, wc_0, wC]
theorem w_f28 : gGr 1 (wR G h b W Q) b 28 = some (b + 7) := by simp [gGr, gGv, wc_0, wC]
theorem w_f29 : gGr 1 (wR G h b W Q) b 29 = some (b + 8) := by simp [gGr, gGv, wc_0, wC]
theorem w_p0 (x : Int32) : gPv 1 (wR G h b W Q) b 0 (.int x) = some (wR G h b (va_up W 0 (upd (W 0) 0 x)) Q) := by
  have e := wR_put (G := G) (h := h) (b := b) (W := W) (Q := Q) (n := 0) (w := upd (W 0) 0 x) (by decide) rfl
  simp [gPv, wc_0]
  rw [← e]
  simp [wC, upd]
theorem w_p1 (x : Int32) : gPv 1 (wR G h b W Q) b 1 (.int x) = some (wR G h b (va_up W 0 (upd (W 0) 1 x)) Q) := by
  have e := wR_put (G := G) (h := h) (b := b) (W := W) (Q := Q) (n := 0) (w := upd (W 0) 1 x) (by decide) rfl
  simp [gPv, wc_0]
  rw [← e]
  simp [wC, upd]
theorem w_p2 (x : Int32) : gPv 1 (wR G h b W Q) b 2 (.int x) = some (wR G h b (va_up W 0 (upd (W 0) 2 x)) Q) := by
  have e := wR_put (G := G) (h := h) (b := b) (W := W) (Q := Q) (n := 0) (w := upd (W 0) 2 x) (by decide) rfl
  simp [gPv, wc_0]
  rw [← e]
  simp [wC, upd]
theorem w_p3 (x : Int32) : gPv 1 (wR G h b W Q) b 3 (.int x) = some (wR G h b (va_up W 0 (upd (W 0) 3 x)) Q) := by
  have e := wR_put (G := G) (h := h) (b := b) (W := W) (Q := Q) (n := 0) (w := upd (W 0) 3 x) (by decide) rfl
  simp [gPv, wc_0]
  rw [← e]
  simp [wC, upd]
theorem w_p4 (x : Int32) : gPv 1 (wR G h b W Q) b 4 (.int x) = some (wR G h b (va_up W 0 (upd (W 0) 4 x)) Q) := by
  have e := wR_put (G := G) (h := h) (b := b) (W := W) (Q := Q) (n := 0) (w := upd (W 0) 4 x) (by decide) rfl
  simp [gPv, wc_0]
  rw [← e]
  simp [wC, upd]
theorem w_p5 (x : Int32) : gPv 1 (wR G h b W Q) b 5 (.int x) = some (wR G h b (va_up W 0 (upd (W 0) 5 x)) Q) := by
  have e := wR_put (G := G) (h := h) (b := b) (W := W) (Q := Q) (n := 0) (w := upd (W 0) 5 x) (by decide) rfl
  simp [gPv, wc_0]
  rw [← e]
  simp [wC, upd]
theorem w_p6 (x : Int32) : gPv 1 (wR G h b W Q) b 6 (.int x) = some (wR G h b (va_up W 0 (upd (W 0) 6 x)) Q) := by
  have e := wR_put (G := G) (h := h) (b := b) (W := W) (Q := Q) (n := 0) (w := upd (W 0) 6 x) (by decide) rfl
  simp [gPv, wc_0]
  rw [← e]
  simp [wC, upd]
theorem w_p7 (x : Int32) : gPv 1 (wR G h b W Q) b 7 (.int x) = some (wR G h b (va_up W 0 (upd (W 0) 7 x)) Q) := by
  have e := wR_put (G := G) (h := h) (b := b) (W := W) (Q := Q) (n := 0) (w := upd (W 0) 7 x) (by decide) rfl
  simp [gPv, wc_0]
  rw [← e]
  simp [wC, upd]
theorem w_p8 (x : Int32) : gPv 1 (wR G h b W Q) b 8 (.int x) = some (wR G h b (va_up W 0 (upd (W 0) 8 x)) Q) := by
  have e := wR_put (G := G) (h := h) (b := b) (W := W) (Q := Q) (n := 0) (w := upd (W 0) 8 x) (by decide) rfl
  simp [gPv, wc_0]
  rw [← e]
  simp [wC, upd]
theorem w_p9 (x : Int32) : gPv 1 (wR G h b W Q) b 9 (.int x) = some (wR G h b (va_up W 0 (upd (W 0) 9 x)) Q) := by
  have e := wR_put (G := G) (h := h) (b := b) (W := W) (Q := Q) (n := 0) (w := upd (W 0) 9 x) (by decide) rfl
  simp [gPv, wc_0]
  rw [← e]
  simp [wC, upd]
theorem w_p10 (x : Int32) : gPv 1 (wR G h b W Q) b 10 (.int x) = some (wR G h b (va_up W 0 (upd (W 0) 10 x)) Q) := by
  have e := wR_put (G := G) (h := h) (b := b) (W := W) (Q := Q) (n := 0) (w := upd (W 0) 10 x) (by decide) rfl
  simp [gPv, wc_0]
  rw [← e]
  simp [wC, upd]
theorem w_p11 (x : Int32) : gPv 1 (wR G h b W Q) b 11 (.int x) = some (wR G h b (va_up W 0 (upd (W 0) 11 x)) Q) := by
  have e := wR_put (G := G) (h := h) (b := b) (W := W) (Q := Q) (n := 0) (w := upd (W 0) 11 x) (by decide) rfl
  simp [gPv, wc_0]
  rw [← e]
  simp [wC, upd]
theorem w_p12 (x : Int32) : gPv 1 (wR G h b W Q) b 12 (.int x) = some (wR G h b (va_up W 0 (upd (W 0) 12 x)) Q) := by
  have e := wR_put (G := G) (h := h) (b := b) (W := W) (Q := Q) (n := 0) (w := upd (W 0) 12 x) (by decide) rfl
  simp [gPv, wc_0]
  rw [← e]
  simp [wC, upd]
theorem w_p13 (x : Int32) : gPv 1 (wR G h b W Q) b 13 (.int x) = some (wR G h b (va_up W 0 (upd (W 0) 13 x)) Q) := by
  have e := wR_put (G := G) (h := h) (b := b) (W := W) (Q := Q) (n := 0) (w := upd (W 0) 13 x) (by decide) rfl
  simp [gPv, wc_0]
  rw [← e]
  simp [wC, upd]
theorem w_p14 (x : Int32) : gPv 1 (wR G h b W Q) b 14 (.int x) = some (wR G h b (va_up W 0 (upd (W 0) 14 x)) Q) := by
  have e := wR_put (G := G) (h := h) (b := b) (W := W) (Q := Q) (n := 0) (w := upd (W 0) 14 x) (by decide) rfl
  simp [gPv, wc_0]
  rw [← e]
  simp [wC, upd]
theorem w_p15 (x : Int32) : gPv 1 (wR G h b W Q) b 15 (.int x) = some (wR G h b (va_up W 0 (upd (W 0) 15 x)) Q) := by
  have e := wR_put (G := G) (h := h) (b := b) (W := W) (Q := Q) (n := 0) (w := upd (W 0) 15 x) (by decide) rfl
  simp [gPv, wc_0]
  rw [← e]
  simp [wC, upd]
theorem w_p16 (x : Int32) : gPv 1 (wR G h b W Q) b 16 (.int x) = some (wR G h b (va_up W 0 (upd (W 0) 16 x)) Q) := by
  have e := wR_put (G := G) (h := h) (b := b) (W := W) (Q := Q) (n := 0) (w := upd (W 0) 16 x) (by decide) rfl
  simp [gPv, wc_0]
  rw [← e]
  simp [wC, upd]
theorem w_p17 (x : Int32) : gPv 1 (wR G h b W Q) b 17 (.int x) = some (wR G h b (va_up W 0 (upd (W 0) 17 x)) Q) := by
  have e := wR_put (G := G) (h := h) (b := b) (W := W) (Q := Q) (n := 0) (w := upd (W 0) 17 x) (by decide) rfl
  simp [gPv, wc_0]
  rw [← e]
  simp [wC, upd]
theorem w_p18 (x : Int32) : gPv 1 (wR G h b W Q) b 18 (.int x) = some (wR G h b (va_up W 0 (upd (W 0) 18 x)) Q) := by
  have e := wR_put (G := G) (h := h) (b := b) (W := W) (Q := Q) (n := 0) (w := upd (W 0) 18 x) (by decide) rfl
  simp [gPv, wc_0]
  rw [← e]
  simp [wC, upd]
theorem w_p19 (x : Int32) : gPv 1 (wR G h b W Q) b 19 (.int x) = some (wR G h b (va_up W 0 (upd (W 0) 19 x)) Q) := by
  have e := wR_put (G := G) (h := h) (b := b) (W := W) (Q := Q) (n := 0) (w := upd (W 0) 19 x) (by decide) rfl
  simp [gPv, wc_0]
  rw [← e]
  simp [wC, upd]
theorem w_p20 (x : Int32) : gPv 1 (wR G h b W Q) b 20 (.int x) = some (wR G h b (va_up W 0 (upd (W 0) 20 x)) Q) := by
  have e := wR_put (G := G) (h := h) (b := b) (W := W) (Q := Q) (n := 0) (w := upd (W 0) 20 x) (by decide) rfl
  simp [gPv, wc_0]
  rw [← e]
  simp [wC, upd]
theorem w_p21 (x : Int32) : gPv 1 (wR G h b W Q) b 21 (.int x) = some (wR G h b (va_up W 0 (upd (W 0) 21 x)) Q) := by
  have e := wR_put (G := G) (h := h) (b := b) (W := W) (Q := Q) (n := 0) (w := upd (W 0) 21 x) (by decide) rfl
  simp [gPv, wc_0]
  rw [← e]
  simp [wC, upd]
theorem w_a1 {k : Nat} (hk : k < 8) : gAr 5 (wR G h b W Q) (b + 1) (nI k) = some (sg b k) := by
  have hi := nI_in (c := k) (N := 8) hk (by decide)
  have hc := nI_c (k := k) (by omega)
  simp only [gAr, wc_1, wC]
  simp [hc, hk]
  exact (show 0 ≤ nI k ∧ k < 8 by simpa [hc] using hi).1
theorem w_a2 {k : Nat} (hk : k < 6) : gAr 6 (wR G h b W Q) (b + 2) (nI k) = some (phA b k) := by
  have hi := nI_in (c := k) (N := 6) hk (by decide)
  have hc := nI_c (k := k) (by omega)
  simp only [gAr, wc_2, wC]
  simp [hc, hk]
  exact (show 0 ≤ nI k ∧ k < 6 by simpa [hc] using hi).1
theorem w_a3 {k : Nat} (hk : k < 24) : gAr 7 (wR G h b W Q) (b + 3) (nI k) = some (rcA b k) := by
  have hi := nI_in (c := k) (N := 24) hk (by decide)
  have hc := nI_c (k := k) (by omega)
  simp only [gAr, wc_3, wC]
  simp [hc, hk]
  exact (show 0 ≤ nI k ∧ k < 24 by simpa [hc] using hi).1
theorem w_a4 {k : Nat} (hk : k < 8) : gAr 7 (wR G h b W Q) (b + 4) (nI k) = some (tlA b k) := by
  have hi := nI_in (c := k) (N := 8) hk (by decide)
  have hc := nI_c (k := k) (by omega)
  simp only [gAr, wc_4, wC]
  simp [hc, hk]
  exact (show 0 ≤ nI k ∧ k < 8 by simpa [hc] using hi).1
theorem w_a5 {k : Nat} (hk : k < 5) : gAr 8 (wR G h b W Q) (b + 5) (nI k) = some (ndA b k) := by
  have hi := nI_in (c := k) (N := 5) hk (by decide)
  have hc := nI_c (k := k) (by omega)
  simp only [gAr, wc_5, wC]
  simp [hc, hk]
  exact (show 0 ≤ nI k ∧ k < 5 by simpa [hc] using hi).1
theorem w_a6 (i : Int32) : gAi 0 (wR G h b W Q) (b + 6) i = if gin i 10 then some (W 6 i.toNatClampNeg) else none := by simp [gAi, wc_6, wC, gin]
theorem w_s6 (i x : Int32) : gSi (wR G h b W Q) (b + 6) i x = if gin i 10 then some (wR G h b (va_up W 6 (upd (W 6) i.toNatClampNeg x)) Q) else none := by
  have e := wR_put (G := G) (h := h) (b := b) (W := W) (Q := Q) (n := 6) (w := upd (W 6) i.toNatClampNeg x) (by decide) rfl
  rw [← e]
  simp [gSi, wc_6, wC, gin]
theorem w_a7 (i : Int32) : gAi 0 (wR G h b W Q) (b + 7) i = if gin i 16 then some (W 7 i.toNatClampNeg) else none := by simp [gAi, wc_7, wC, gin]
theorem w_s7 (i x : Int32) : gSi (wR G h b W Q) (b + 7) i x = if gin i 16 then some (wR G h b (va_up W 7 (upd (W 7) i.toNatClampNeg x)) Q) else none := by
  have e := wR_put (G := G) (h := h) (b := b) (W := W) (Q := Q) (n := 7) (w := upd (W 7) i.toNatClampNeg x) (by decide) rfl
  rw [← e]
  simp [gSi, wc_7, wC, gin]
theorem w_a8 (i : Int32) : gAi 0 (wR G h b W Q) (b + 8) i = if gin i 64 then some (W 8 i.toNatClampNeg) else none := by simp [gAi, wc_8, wC, gin]
theorem w_s8 (i x : Int32) : gSi (wR G h b W Q) (b + 8) i x = if gin i 64 then some (wR G h b (va_up W 8 (upd (W 8) i.toNatClampNeg x)) Q) else none := by
  have e := wR_put (G := G) (h := h) (b := b) (W := W) (Q := Q) (n := 8) (w := upd (W 8) i.toNatClampNeg x) (by decide) rfl
  rw [← e]
  simp [gSi, wc_8, wC, gin]
theorem w_sg_is {k : Nat} (hk : k < 8) : gIs 2 (wR G h b W Q) (sg b k) = true := by simp [gIs, wc_sg hk]
theorem w_sg_f4 {k : Nat} (hk : k < 8) : gGi 2 (wR G h b W Q) (sg b k) 4 = some (W (9 + 6 * k) 4) := by simp [gGi, gGv, wc_sg hk]
theorem w_sg_p4 {k : Nat} (x : Int32) (hk : k < 8) : gPv 2 (wR G h b W Q) (sg b k) 4 (.int x) = some (wR G h b (va_up W (9 + 6 * k) (upd (W (9 + 6 * k)) 4 x)) Q) := by
  have e := wR_put (G := G) (h := h) (b := b) (W := W) (Q := Q) (n := 9 + 6 * k) (w := upd (W (9 + 6 * k)) 4 x) (by omega) (wC_sg hk).symm
  rw [← e]
  simp [gPv, wc_sg hk, upd]
  rfl
theorem w_sg_f5 {k : Nat} (hk : k < 8) : gGi 2 (wR G h b W Q) (sg b k) 5 = some (W (9 + 6 * k) 5) := by simp [gGi, gGv, wc_sg hk]
theorem w_sg_p5 {k : Nat} (x : Int32) (hk : k < 8) : gPv 2 (wR G h b W Q) (sg b k) 5 (.int x) = some (wR G h b (va_up W (9 + 6 * k) (upd (W (9 + 6 * k)) 5 x)) Q) := by
  have e := wR_put (G := G) (h := h) (b := b) (W := W) (Q := Q) (n := 9 + 6 * k) (w := upd (W (9 + 6 * k)) 5 x) (by omega) (wC_sg hk).symm
  rw [← e]
  simp [gPv, wc_sg hk, upd]
  rfl
theorem w_sg_f6 {k : Nat} (hk : k < 8) : gGi 2 (wR G h b W Q) (sg b k) 6 = some (W (9 + 6 * k) 6) := by simp [gGi, gGv, wc_sg hk]
theorem w_sg_p6 {k : Nat} (x : Int32) (hk : k < 8) : gPv 2 (wR G h b W Q) (sg b k) 6 (.int x) = some (wR G h b (va_up W (9 + 6 * k) (upd (W (9 + 6 * k)) 6 x)) Q) := by
  have e := wR_put (G := G) (h := h) (b := b) (W := W) (Q := Q) (n := 9 + 6 * k) (w := upd (W (9 + 6 * k)) 6 x) (by omega) (wC_sg hk).symm
  rw [← e]
  simp [gPv, wc_sg hk, upd]
  rfl
theorem w_sg_f7 {k : Nat} (hk : k < 8) : gGi 2 (wR G h b W Q) (sg b k) 7 = some (W (9 + 6 * k) 7) := by simp [gGi, gGv, wc_sg hk]
theorem w_sg_p7 {k : Nat} (x : Int32) (hk : k < 8) : gPv 2 (wR G h b W Q) (sg b k) 7 (.int x) = some (wR G h b (va_up W (9 + 6 * k) (upd (W (9 + 6 * k)) 7 x)) Q) := by
  have e := wR_put (G := G) (h := h) (b := b) (W := W) (Q := Q) (n := 9 + 6 * k) (w := upd (W (9 + 6 * k)) 7 x) (by omega) (wC_sg hk).symm
  rw [← e]
  simp [gPv, wc_sg hk, upd]
  rfl
theorem w_sg_f8 {k : Nat} (hk : k < 8) : gGi 2 (wR G h b W Q) (sg b k) 8 = some (W (9 + 6 * k) 8) := by simp [gGi, gGv, wc_sg hk]
theorem w_sg_p8 {k : Nat} (x : Int32) (hk : k < 8) : gPv 2 (wR G h b W Q) (sg b k) 8 (.int x) = some (wR G h b (va_up W (9 + 6 * k) (upd (W (9 + 6 * k)) 8 x)) Q) := by
  have e := wR_put (G := G) (h := h) (b := b) (W := W) (Q := Q) (n := 9 + 6 * k) (w := upd (W (9 + 6 * k)) 8 x) (by omega) (wC_sg hk).symm
  rw [← e]
  simp [gPv, wc_sg hk, upd]
  rfl
theorem w_sg_f9 {k : Nat} (hk : k < 8) : gGi 2 (wR G h b W Q) (sg b k) 9 = some (W (9 + 6 * k) 9) := by simp [gGi, gGv, wc_sg hk]
theorem w_sg_p9 {k : Nat} (x : Int32) (hk : k < 8) : gPv 2 (wR G h b W Q) (sg b k) 9 (.int x) = some (wR G h b (va_up W (9 + 6 * k) (upd (W (9 + 6 * k)) 9 x)) Q) := by
  have e := wR_put (G := G) (h := h) (b := b) (W := W) (Q := Q) (n := 9 + 6 * k) (w := upd (W (9 + 6 * k)) 9 x) (by omega) (wC_sg hk).symm
  rw [← e]
  simp [gPv, wc_sg hk, upd]
  rfl
theorem w_sg_f10 {k : Nat} (hk : k < 8) : gGi 2 (wR G h b W Q) (sg b k) 10 = some (W (9 + 6 * k) 10) := by simp [gGi, gGv, wc_sg hk]
theorem w_sg_p10 {k : Nat} (x : Int32) (hk : k < 8) : gPv 2 (wR G h b W Q) (sg b k) 10 (.int x) = some (wR G h b (va_up W (9 + 6 * k) (upd (W (9 + 6 * k)) 10 x)) Q) := by
  have e := wR_put (G := G) (h := h) (b := b) (W := W) (Q := Q) (n := 9 + 6 * k) (w := upd (W (9 + 6 * k)) 10 x) (by omega) (wC_sg hk).symm
  rw [← e]
  simp [gPv, wc_sg hk, upd]
  rfl
theorem w_sg_f11 {k : Nat} (hk : k < 8) : gGi 2 (wR G h b W Q) (sg b k) 11 = some (W (9 + 6 * k) 11) := by simp [gGi, gGv, wc_sg hk]
theorem w_sg_p11 {k : Nat} (x : Int32) (hk : k < 8) : gPv 2 (wR G h b W Q) (sg b k) 11 (.int x) = some (wR G h b (va_up W (9 + 6 * k) (upd (W (9 + 6 * k)) 11 x)) Q) := by
  have e := wR_put (G := G) (h := h) (b := b) (W := W) (Q := Q) (n := 9 + 6 * k) (w := upd (W (9 + 6 * k)) 11 x) (by omega) (wC_sg hk).symm
  rw [← e]
  simp [gPv, wc_sg hk, upd]
  rfl
theorem w_sg_f0 {k : Nat} (hk : k < 8) : gGr 2 (wR G h b W Q) (sg b k) 0 = some (gS G (W (9 + 6 * k) 0).toNatClampNeg) := by simp [gGr, gGv, wc_sg hk]
theorem w_sg_f1 {k : Nat} (hk : k < 8) : gGr 2 (wR G h b W Q) (sg b k) 1 = some (sgc b k) := by simp [gGr, gGv, wc_sg hk]
theorem w_sg_f2 {k : Nat} (hk : k < 8) : gGr 2 (wR G h b W Q) (sg b k) 2 = some (sgw b k) := by simp [gGr, gGv, wc_sg hk]
theorem w_sg_f3 {k : Nat} (hk : k < 8) : gGr 2 (wR G h b W Q) (sg b k) 3 = some (sgt b k) := by simp [gGr, gGv, wc_sg hk]
theorem w_sg_p0 {k c : Nat} (hk : k < 8) (hc : c < 4) : gPv 2 (wR G h b W Q) (sg b k) 0 (.ref (gS G c)) = some (wR G h b (va_up W (9 + 6 * k) (upd (W (9 + 6 * k)) 0 (nI c))) Q) := by
  have e := wR_put (G := G) (h := h) (b := b) (W := W) (Q := Q) (n := 9 + 6 * k) (w := upd (W (9 + 6 * k)) 0 (nI c)) (by omega) (wC_sg hk).symm
  rw [← e]
  have hcc := nI_c (k := c) (by omega)
  simp [gPv, wc_sg hk, upd, hcc]
  rfl
theorem w_sgw_is {k : Nat} (hk : k < 8) : gIs 14 (wR G h b W Q) (sgw b k) = true := by simp [gIs, wc_sgw hk]
theorem w_sgw_f1 {k : Nat} (hk : k < 8) : gGi 14 (wR G h b W Q) (sgw b k) 1 = some (W (12 + 6 * k) 1) := by simp [gGi, gGv, wc_sgw hk]
theorem w_sgw_p1 {k : Nat} (x : Int32) (hk : k < 8) : gPv 14 (wR G h b W Q) (sgw b k) 1 (.int x) = some (wR G h b (va_up W (12 + 6 * k) (upd (W (12 + 6 * k)) 1 x)) Q) := by
  have e := wR_put (G := G) (h := h) (b := b) (W := W) (Q := Q) (n := 12 + 6 * k) (w := upd (W (12 + 6 * k)) 1 x) (by omega) (wC_sgw hk).symm
  rw [← e]
  simp [gPv, wc_sgw hk, upd]
  rfl
theorem w_sgw_f2 {k : Nat} (hk : k < 8) : gGi 14 (wR G h b W Q) (sgw b k) 2 = some (W (12 + 6 * k) 2) := by simp [gGi, gGv, wc_sgw hk]
theorem w_sgw_p2 {k : Nat} (x : Int32) (hk : k < 8) : gPv 14 (wR G h b W Q) (sgw b k) 2 (.int x) = some (wR G h b (va_up W (12 + 6 * k) (upd (W (12 + 6 * k)) 2 x)) Q) := by
  have e := wR_put (G := G) (h := h) (b := b) (W := W) (Q := Q) (n := 12 + 6 * k) (w := upd (W (12 + 6 * k)) 2 x) (by omega) (wC_sgw hk).symm
  rw [← e]
  simp [gPv, wc_sgw hk, upd]
  rfl
theorem w_sgw_f0 {k : Nat} (hk : k < 8) : gGr 14 (wR G h b W Q) (sgw b k) 0 = some (sgl b k) := by simp [gGr, gGv, wc_sgw hk]
theorem w_phA_is {k : Nat} (hk : k < 6) : gIs 3 (wR G h b W Q) (phA b k) = true := by simp [gIs, wc_phA hk]
theorem w_phA_f0 {k : Nat} (hk : k < 6) : gGi 3 (wR G h b W Q) (phA b k) 0 = some (W (57 + k) 0) := by simp [gGi, gGv, wc_phA hk]
theorem w_phA_p0 {k : Nat} (x : Int32) (hk : k < 6) : gPv 3 (wR G h b W Q) (phA b k) 0 (.int x) = some (wR G h b (va_up W (57 + k) (upd (W (57 + k)) 0 x)) Q) := by
  have e := wR_put (G := G) (h := h) (b := b) (W := W) (Q := Q) (n := 57 + k) (w := upd (W (57 + k)) 0 x) (by omega) (wC_phA hk).symm
  rw [← e]
  simp [gPv, wc_phA hk, upd]
  rfl
theorem w_phA_f1 {k : Nat} (hk : k < 6) : gGi 3 (wR G h b W Q) (phA b k) 1 = some (W (57 + k) 1) := by simp [gGi, gGv, wc_phA hk]
theorem w_phA_p1 {k : Nat} (x : Int32) (hk : k < 6) : gPv 3 (wR G h b W Q) (phA b k) 1 (.int x) = some (wR G h b (va_up W (57 + k) (upd (W (57 + k)) 1 x)) Q) := by
  have e := wR_put (G := G) (h := h) (b := b) (W := W) (Q := Q) (n := 57 + k) (w := upd (W (57 + k)) 1 x) (by omega) (wC_phA hk).symm
  rw [← e]
  simp [gPv, wc_phA hk, upd]
  rfl
theorem w_phA_f2 {k : Nat} (hk : k < 6) : gGi 3 (wR G h b W Q) (phA b k) 2 = some (W (57 + k) 2) := by simp [gGi, gGv, wc_phA hk]
theorem w_phA_p2 {k : Nat} (x : Int32) (hk : k < 6) : gPv 3 (wR G h b W Q) (phA b k) 2 (.int x) = some (wR G h b (va_up W (57 + k) (upd (W (57 + k)) 2 x)) Q) := by
  have e := wR_put (G := G) (h := h) (b := b) (W := W) (Q := Q) (n := 57 + k) (w := upd (W (57 + k)) 2 x) (by omega) (wC_phA hk).symm
  rw [← e]
  simp [gPv, wc_phA hk, upd]
  rfl
theorem w_rcA_is {k : Nat} (hk : k < 24) : gIs 4 (wR G h b W Q) (rcA b k) = true := by simp [gIs, wc_rcA hk]
theorem w_rcA_f0 {k : Nat} (hk : k < 24) : gGi 4 (wR G h b W Q) (rcA b k) 0 = some (W (63 + k) 0) := by simp [gGi, gGv, wc_rcA hk]
theorem w_rcA_p0 {k : Nat} (x : Int32) (hk : k < 24) : gPv 4 (wR G h b W Q) (rcA b k) 0 (.int x) = some (wR G h b (va_up W (63 + k) (upd (W (63 + k)) 0 x)) Q) := by
  have e := wR_put (G := G) (h := h) (b := b) (W := W) (Q := Q) (n := 63 + k) (w := upd (W (63 + k)) 0 x) (by omega) (wC_rcA hk).symm
  rw [← e]
  simp [gPv, wc_rcA hk, upd]
  rfl
theorem w_rcA_f1 {k : Nat} (hk : k < 24) : gGi 4 (wR G h b W Q) (rcA b k) 1 = some (W (63 + k) 1) := by simp [gGi, gGv, wc_rcA hk]
theorem w_rcA_p1 {k : Nat} (x : Int32) (hk : k < 24) : gPv 4 (wR G h b W Q) (rcA b k) 1 (.int x) = some (wR G h b (va_up W (63 + k) (upd (W (63 + k)) 1 x)) Q) := by
  have e := wR_put (G := G) (h := h) (b := b) (W := W) (Q := Q) (n := 63 + k) (w := upd (W (63 + k)) 1 x) (by omega) (wC_rcA hk).symm
  rw [← e]
  simp [gPv, wc_rcA hk, upd]
  rfl
theorem w_rcA_f2 {k : Nat} (hk : k < 24) : gGi 4 (wR G h b W Q) (rcA b k) 2 = some (W (63 + k) 2) := by simp [gGi, gGv, wc_rcA hk]
theorem w_rcA_p2 {k : Nat} (x : Int32) (hk : k < 24) : gPv 4 (wR G h b W Q) (rcA b k) 2 (.int x) = some (wR G h b (va_up W (63 + k) (upd (W (63 + k)) 2 x)) Q) := by
  have e := wR_put (G := G) (h := h) (b := b) (W := W) (Q := Q) (n := 63 + k) (w := upd (W (63 + k)) 2 x) (by omega) (wC_rcA hk).symm
  rw [← e]
  simp [gPv, wc_rcA hk, upd]
  rfl
theorem w_tlA_is {k : Nat} (hk : k < 8) : gIs 4 (wR G h b W Q) (tlA b k) = true := by simp [gIs, wc_tlA hk]
theorem w_tlA_f0 {k : Nat} (hk : k < 8) : gGi 4 (wR G h b W Q) (tlA b k) 0 = some (W (87 + k) 0) := by simp [gGi, gGv, wc_tlA hk]
theorem w_tlA_p0 {k : Nat} (x : Int32) (hk : k < 8) : gPv 4 (wR G h b W Q) (tlA b k) 0 (.int x) = some (wR G h b (va_up W (87 + k) (upd (W (87 + k)) 0 x)) Q) := by
  have e := wR_put (G := G) (h := h) (b := b) (W := W) (Q := Q) (n := 87 + k) (w := upd (W (87 + k)) 0 x) (by omega) (wC_tlA hk).symm
  rw [← e]
  simp [gPv, wc_tlA hk, upd]
  rfl
theorem w_tlA_f1 {k : Nat} (hk : k < 8) : gGi 4 (wR G h b W Q) (tlA b k) 1 = some (W (87 + k) 1) := by simp [gGi, gGv, wc_tlA hk]
theorem w_tlA_p1 {k : Nat} (x : Int32) (hk : k < 8) : gPv 4 (wR G h b W Q) (tlA b k) 1 (.int x) = some (wR G h b (va_up W (87 + k) (upd (W (87 + k)) 1 x)) Q) := by
  have e := wR_put (G := G) (h := h) (b := b) (W := W) (Q := Q) (n := 87 + k) (w := upd (W (87 + k)) 1 x) (by omega) (wC_tlA hk).symm
  rw [← e]
  simp [gPv, wc_tlA hk, upd]
  rfl
theorem w_tlA_f2 {k : Nat} (hk : k < 8) : gGi 4 (wR G h b W Q) (tlA b k) 2 = some (W (87 + k) 2) := by simp [gGi, gGv, wc_tlA hk]
theorem w_tlA_p2 {k : Nat} (x : Int32) (hk : k < 8) : gPv 4 (wR G h b W Q) (tlA b k) 2 (.int x) = some (wR G h b (va_up W (87 + k) (upd (W (87 + k)) 2 x)) Q) := by
  have e := wR_put (G := G) (h := h) (b := b) (W := W) (Q := Q) (n := 87 + k) (w := upd (W (87 + k)) 2 x) (by omega) (wC_tlA hk).symm
  rw [← e]
  simp [gPv, wc_tlA hk, upd]
  rfl
theorem w_ndA_is {k : Nat} (hk : k < 5) : gIs 5 (wR G h b W Q) (ndA b k) = true := by simp [gIs, wc_ndA hk]
theorem w_ndA_f0 {k : Nat} (hk : k < 5) : gGr 5 (wR G h b W Q) (ndA b k) 0 = some (ndt b k) := by simp [gGr, gGv, wc_ndA hk]
theorem w_sgc_a {k : Nat} (i : Int32) (hk : k < 8) : gAi 0 (wR G h b W Q) (sgc b k) i = if gin i 8 then some (W (11 + 6 * k) i.toNatClampNeg) else none := by simp [gAi, wc_sgc hk, gin]
theorem w_sgc_s {k : Nat} (i x : Int32) (hk : k < 8) : gSi (wR G h b W Q) (sgc b k) i x = if gin i 8 then some (wR G h b (va_up W (11 + 6 * k) (upd (W (11 + 6 * k)) i.toNatClampNeg x)) Q) else none := by
  have e := wR_put (G := G) (h := h) (b := b) (W := W) (Q := Q) (n := 11 + 6 * k) (w := upd (W (11 + 6 * k)) i.toNatClampNeg x) (by omega) (wC_sgc hk).symm
  rw [← e]
  simp [gSi, wc_sgc hk, gin]
  rfl
theorem w_sgt_a {k : Nat} (i : Int32) (hk : k < 8) : gAi 0 (wR G h b W Q) (sgt b k) i = if gin i 4 then some (W (14 + 6 * k) i.toNatClampNeg) else none := by simp [gAi, wc_sgt hk, gin]
theorem w_sgt_s {k : Nat} (i x : Int32) (hk : k < 8) : gSi (wR G h b W Q) (sgt b k) i x = if gin i 4 then some (wR G h b (va_up W (14 + 6 * k) (upd (W (14 + 6 * k)) i.toNatClampNeg x)) Q) else none := by
  have e := wR_put (G := G) (h := h) (b := b) (W := W) (Q := Q) (n := 14 + 6 * k) (w := upd (W (14 + 6 * k)) i.toNatClampNeg x) (by omega) (wC_sgt hk).symm
  rw [← e]
  simp [gSi, wc_sgt hk, gin]
  rfl
theorem w_ndt_a {k : Nat} (i : Int32) (hk : k < 5) : gAi 0 (wR G h b W Q) (ndt b k) i = if gin i 3 then some (W (96 + 2 * k) i.toNatClampNeg) else none := by simp [gAi, wc_ndt hk, gin]
theorem w_ndt_s {k : Nat} (i x : Int32) (hk : k < 5) : gSi (wR G h b W Q) (ndt b k) i x = if gin i 3 then some (wR G h b (va_up W (96 + 2 * k) (upd (W (96 + 2 * k)) i.toNatClampNeg x)) Q) else none := by
  have e := wR_put (G := G) (h := h) (b := b) (W := W) (Q := Q) (n := 96 + 2 * k) (w := upd (W (96 + 2 * k)) i.toNatClampNeg x) (by omega) (wC_ndt hk).symm
  rw [← e]
  simp [gSi, wc_ndt hk, gin]
  rfl
theorem w_sgl_a {k : Nat} (i : Int32) (hk : k < 8) : gAl (wR G h b W Q) (sgl b k) i = if gin i 1 then some (Q (13 + 6 * k) i.toNatClampNeg) else none := by simp [gAl, wc_sgl hk, gin]
theorem w_sgl_n {k : Nat} (hk : k < 8) : gAn 1 (wR G h b W Q) (sgl b k) = some 1 := by simp [gAn, wc_sgl hk]
theorem w_sgl_s {k : Nat} (i : Int32) (x : Int64) (hk : k < 8) : gSl (wR G h b W Q) (sgl b k) i x = if gin i 1 then some (wR G h b W (va_up Q (13 + 6 * k) (vp_updL (Q (13 + 6 * k)) i.toNatClampNeg x))) else none := by
  have e := wR_putq (G := G) (h := h) (b := b) (W := W) (Q := Q) (n := 13 + 6 * k) (q := vp_updL (Q (13 + 6 * k)) i.toNatClampNeg x) (by omega) (wC_sgl hk).symm
  rw [← e]
  simp [gSl, wc_sgl hk, gin]
  rfl
end W1
