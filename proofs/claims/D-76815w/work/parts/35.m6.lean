/-! m6: the reference's calls that build: comes, goesOn, signal, goes, tell -/
set_option maxRecDepth 100000
theorem upd_eq {S : Nat → Int32} {k : Nat} {x : Int32} : upd S k x k = x := if_pos rfl
theorem upd_ne {S : Nat → Int32} {k j : Nat} {x : Int32} (hne : j ≠ k) : upd S k x j = S j := if_neg hne
theorem b0 {P : Prop} [Decidable P] : ((if P then (1 : Int32) else 0) = 0) = ¬ P := by
  by_cases h : P <;> simp [h]
theorem b1 {P : Prop} [Decidable P] : ((if P then (1 : Int32) else 0) = 1) = P := by
  by_cases h : P <;> simp [h]
theorem b01 {P : Prop} [Decidable P] : ((if P then (1 : Int32) else 0) = 0 ∨ (if P then (1 : Int32) else 0) = 1) = True := by
  by_cases h : P <;> simp [h]
abbrev inB (x a c : Int32) : Prop := a ≤ x ∧ x ≤ c
theorem i_isIn {G : gG} {F : Nat} {h : gH} {x a c : Int32} : sp_X13_isIn G F h x a c = some (if inB x a c then 1 else 0) := by
  unfold sp_X13_isIn
  by_cases h1 : x < a
  · rw [if_pos h1, if_neg (fun h => Int32.not_le.mpr h1 h.1)]
  · rw [if_neg h1]
    by_cases h2 : c < x
    · rw [if_pos h2, if_neg (fun h => Int32.not_le.mpr h2 h.2)]
    · rw [if_neg h2, if_pos ⟨Int32.not_lt.mp h1, Int32.not_lt.mp h2⟩]
/-- a number that is no less than 0 and less than m -/
theorem in_nI {x : Int32} {m : Nat} (hm : m ≤ 1000) (hx : inB x 0 (nI m - 1)) : ∃ a, a < m ∧ x = nI a := by
  have h0 : (0 : Int) ≤ x.toInt := by have := Int32.le_iff_toInt_le.mp hx.1; simpa using this
  have hc : x.toInt ≤ (nI m - 1).toInt := Int32.le_iff_toInt_le.mp hx.2
  have e1 : (nI m - 1).toInt = (m : Int) - 1 := by
    rw [Int32.toInt_sub]
    have : (nI m).toInt = m := nI_toInt (by omega)
    rw [this]
    show ((m : Int) - 1).bmod (2 ^ 32) = _
    rw [Int.bmod_eq_of_le] <;> omega
  refine ⟨x.toInt.toNat, by omega, ?_⟩
  apply Int32.toInt_inj.mp
  rw [nI_toInt (by omega)]
  omega
/-- the row of signal a, its first i numbers put to 0 -/
def zr (S : Nat → Int32) (a i : Nat) : Nat → Int32 := fun k => if 24 + 24 * a ≤ k ∧ k < 24 + 24 * a + i then 0 else S k
theorem zr_0 {S : Nat → Int32} {a : Nat} : zr S a 0 = S := by
  funext k
  unfold zr
  rw [if_neg (by omega)]
theorem zr_s {S : Nat → Int32} {a i : Nat} : upd (zr S a i) (sA a i) 0 = zr S a (i + 1) := by
  funext k
  unfold upd zr sA
  by_cases h : k = 24 + 24 * a + i
  · rw [if_pos h, if_pos (by omega)]
  · rw [if_neg h]
    by_cases h2 : 24 + 24 * a ≤ k ∧ k < 24 + 24 * a + i
    · rw [if_pos h2, if_pos (by omega)]
    · rw [if_neg h2, if_neg (by omega)]
def comesF (S : Nat → Int32) (m : Nat) (p1 p2 p3 p4 p5 : Int32) : Nat → Int32 :=
  upd (upd (upd (upd (upd (upd (upd (upd (upd (zr S m 24) (sA m 0) p1) (sA m 1) p2) (sA m 2) p3) (sA m 3) p4) (sA m 4) p5) (sA m 7) (-5)) (sA m 8) (-5)) (sA m 9) (-5)) 13 (nI (m + 1))
def goesOnF (S : Nat → Int32) (a : Nat) (c : Int32) : Nat → Int32 := upd (upd S (sA a (12 + cellsN S a)) c) (sA a 11) (nI (cellsN S a + 1))
section M6
variable {h : gH} {b : Nat} {A : Nat → Nat → Int32} {L : Nat → Nat → Int64} {S : Nat → Int32} {G : gG} {F : Nat}
theorem s_isSignal {x : Int32} : sp_X13_isSignal G F (mS h b A L S) b x = some (if inB x 0 (S 13 - 1) then 1 else 0) := by
  unfold sp_X13_isSignal
  simp only [s_is, if_true, s_f0, Option.bind_some, s_r_13, i_isIn, b01]
theorem s_comes_L {m : Nat} {p1 p2 p3 p4 p5 : Int32} (hm : m < 8) : ∀ (n i f : Nat), n + i = 24 → n < f → sp_X13_comes_L12 G F f (mS h b A L (zr S m i)) b p1 p2 p3 p4 p5 (nI m) (nI i) = some (mS h b A L (zr S m 24)) := by
  intro n
  induction n with
  | zero =>
    intro i f hi hf
    obtain ⟨f, rfl⟩ : ∃ z, f = z + 1 := ⟨f - 1, by omega⟩
    obtain rfl : i = 24 := by omega
    rw [sp_X13_comes_L12, if_pos (show (24 : Int32) ≤ nI 24 from nI_le (a := 24) (b := 24) (by decide) (by decide))]
  | succ n ih =>
    intro i f hi hf
    obtain ⟨f, rfl⟩ : ∃ z, f = z + 1 := ⟨f - 1, by omega⟩
    rw [sp_X13_comes_L12, if_neg (show ¬ (24 : Int32) ≤ nI i from nI_ge (a := i) (b := 24) (by omega) (by decide)), if_pos s_is, s_putsN 0 hm (by omega)]
    simp only [Option.bind_some]
    rw [zr_s, nI_1]
    exact ih (i + 1) f (by omega) (by omega)
theorem s_comes {m : Nat} {p1 p2 p3 p4 p5 : Int32} (hF : 40 ≤ F) (hm : S 13 = nI m) (h8 : m < 8) : sp_X13_comes G F (mS h b A L S) b p1 p2 p3 p4 p5 = some (mS h b A L (comesF S m p1 p2 p3 p4 p5)) := by
  unfold sp_X13_comes
  have h1 := s_comes_L (h := h) (b := b) (A := A) (L := L) (S := S) (G := G) (F := F) (p1 := p1) (p2 := p2) (p3 := p3) (p4 := p4) (p5 := p5) h8 24 0 F (by omega) (by omega)
  rw [zr_0] at h1
  have e13 : zr S m 24 13 = nI m := by
    unfold zr
    rw [if_neg (by omega), hm]
  simp only [s_is, if_true, s_f0, Option.bind_some, s_r_13, hm, show (0 : Int32) = nI 0 from rfl] at h1 ⊢
  rw [h1]
  simp only [s_is, if_true, s_f0, Option.bind_some, s_puts_0, s_puts_1, s_puts_2, s_puts_3, s_puts_4, s_puts_5, s_puts_6, s_puts_7, s_puts_8, s_puts_9, s_puts_10, s_puts_11, s_puts_12, s_puts_13, s_puts_14, s_puts_15, s_puts_16, s_puts_17, s_puts_18, s_puts_19, s_puts_20, s_puts_21, s_puts_22, s_puts_23, h8, s_r_13, s_w_13]
  simp (disch := omega) only [show nI 0 = (0 : Int32) from rfl, s_is, if_true, s_f0, Option.bind_some, s_puts_0, s_puts_1, s_puts_2, s_puts_3, s_puts_4, s_puts_5, s_puts_6, s_puts_7, s_puts_8, s_puts_9, s_puts_10, s_puts_11, s_puts_12, s_puts_13, s_puts_14, s_puts_15, s_puts_16, s_puts_17, s_puts_18, s_puts_19, s_puts_20, s_puts_21, s_puts_22, s_puts_23, h8, s_r_13, s_w_13, sA, upd_ne, e13, nI_1]
  rfl
theorem s_goesOn {a : Nat} {c : Int32} (ha : a < 8) (ok : sigOk S a) (h8 : cellsN S a < 8) : sp_X13_goesOn G F (mS h b A L S) b (nI a) c = some (mS h b A L (goesOnF S a c)) := by
  unfold sp_X13_goesOn
  have e : (12 : Int32) + S (sA a 11) = nI (12 + cellsN S a) := by
    rw [ok.cells.2]; exact nI_add 12 _
  simp only [s_is, if_true, s_f0, Option.bind_some, s_at_11, ha, e]
  rw [s_putsN c ha (by omega)]
  simp only [s_is, if_true, s_f0, Option.bind_some, s_at_11, s_puts_11, ha]
  simp (disch := omega) only [sA, upd_ne]
  rw [show S (24 + 24 * a + 11) = nI (cellsN S a) from ok.cells.2, nI_1]
  rfl
end M6
