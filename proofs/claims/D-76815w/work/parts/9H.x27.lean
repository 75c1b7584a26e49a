/-! x27: the reference's shift -/
set_option maxRecDepth 100000
def sh1 (k d : Nat) (n : Nat) (L : Nat → Nat → Int64) : Nat → Nat → Int64 := itN (fun i M => mul M 1 i (M 0 (60 * k + d + i))) n 0 L
def sh2 (k d : Nat) (n : Nat) (L : Nat → Nat → Int64) : Nat → Nat → Int64 := itN (fun i M => mul M 0 (60 * k + d + i) (M 1 i)) n 0 L
def shiftR (A : Nat → Nat → Int32) (L : Nat → Nat → Int64) (p1 p2 p3 p4 p5 : Int32) : Int32 × (Nat → Nat → Int64) :=
  if ¬ inB p1 0 5 then (-1, L) else if ¬ inB p3 0 5 then (-1, L) else if A 7 p1.toNatClampNeg < 0 then (-11, L) else if ¬ 0 ≤ A 7 p3.toNatClampNeg then (-11, L) else if ¬ A 7 p1.toNatClampNeg = A 7 p3.toNatClampNeg then (-12, L)
  else if p5 < 0 then (-13, L) else if p2 < 0 then (-13, L) else if p4 < 0 then (-13, L) else if A 8 p1.toNatClampNeg - p2 < p5 then (-13, L) else if ¬ p5 ≤ A 8 p3.toNatClampNeg - p4 then (-13, L)
  else (p5, sh2 p3.toNatClampNeg p4.toNatClampNeg p5.toNatClampNeg (sh1 p1.toNatClampNeg p2.toNatClampNeg p5.toNatClampNeg L))
theorem mul_v {L : Nat → Nat → Int64} {i j a c : Nat} {x : Int64} : mul L i j x a c = if a = i ∧ c = j then x else L a c := rfl
theorem sh1_v {k d : Nat} {L : Nat → Nat → Int64} : ∀ n, (∀ j, sh1 k d n L 0 j = L 0 j) ∧ ∀ j, j < n → sh1 k d n L 1 j = L 0 (60 * k + d + j) := by
  intro n
  induction n with
  | zero => exact ⟨fun _ => rfl, fun j hj => absurd hj (Nat.not_lt_zero j)⟩
  | succ n ih =>
    obtain ⟨i1, i2⟩ := ih
    unfold sh1 at i1 i2 ⊢
    rw [it_last, Nat.zero_add]
    refine ⟨fun j => ?_, fun j hj => ?_⟩
    · rw [mul_v, if_neg (fun hh => absurd hh.1 (by decide))]
      exact i1 j
    · rw [mul_v]
      by_cases h : j = n
      · rw [if_pos ⟨rfl, h⟩, i1, h]
      · rw [if_neg (fun hh => h hh.2)]
        exact i2 j (by omega)
theorem sh2_v {k d : Nat} {L : Nat → Nat → Int64} : ∀ n, (∀ j, sh2 k d n L 1 j = L 1 j) ∧ ∀ j, sh2 k d n L 0 j = if 60 * k + d ≤ j ∧ j < 60 * k + d + n then L 1 (j - (60 * k + d)) else L 0 j := by
  intro n
  induction n with
  | zero => exact ⟨fun _ => rfl, fun j => (if_neg (by omega)).symm⟩
  | succ n ih =>
    obtain ⟨i1, i2⟩ := ih
    unfold sh2 at i1 i2 ⊢
    rw [it_last, Nat.zero_add]
    refine ⟨fun j => ?_, fun j => ?_⟩
    · rw [mul_v, if_neg (fun hh => absurd hh.1 (by decide))]
      exact i1 j
    · rw [mul_v]
      by_cases h : j = 60 * k + d + n
      · rw [if_pos ⟨rfl, h⟩, i1, if_pos (by omega), h, show 60 * k + d + n - (60 * k + d) = n by omega]
      · rw [if_neg (fun hh => h hh.2), i2]
        by_cases h2 : 60 * k + d ≤ j ∧ j < 60 * k + d + n
        · rw [if_pos h2, if_pos (by omega)]
        · rw [if_neg h2, if_neg (by omega)]
/-- what a shift leaves of the items -/
theorem sh_v {k d k' d' n : Nat} {L : Nat → Nat → Int64} {j : Nat} : sh2 k' d' n (sh1 k d n L) 0 j = if 60 * k' + d' ≤ j ∧ j < 60 * k' + d' + n then L 0 (60 * k + d + (j - (60 * k' + d'))) else L 0 j := by
  rw [(sh2_v n).2]
  by_cases h : 60 * k' + d' ≤ j ∧ j < 60 * k' + d' + n
  · rw [if_pos h, if_pos h, (sh1_v n).2 _ (by omega)]
  · rw [if_neg h, if_neg h, (sh1_v n).1]
theorem sub_fit {m : Nat} {x y : Int32} (hm : m ≤ 60) (hx : ¬ x < 0) (hy : ¬ y < 0) (h : y ≤ nI m - x) : ∃ d n, x = nI d ∧ y = nI n ∧ d + n ≤ m := by
  have x0 := Int32.le_iff_toInt_le.mp (Int32.not_lt.mp hx)
  have y0 := Int32.le_iff_toInt_le.mp (Int32.not_lt.mp hy)
  have g := Int32.le_iff_toInt_le.mp h
  have x1 := x.toInt_lt
  rw [show (0 : Int32).toInt = 0 from rfl] at x0 y0
  rw [Int32.toInt_sub, nI_toInt (by omega), Int.bmod_eq_of_le (by omega) (by omega)] at g
  refine ⟨x.toInt.toNat, y.toInt.toNat, ?_, ?_, by omega⟩
  · apply Int32.toInt_inj.mp; rw [nI_toInt (by omega)]; omega
  · apply Int32.toInt_inj.mp; rw [nI_toInt (by omega)]; omega
section R27
variable {h : gH} {b : Nat} {A : Nat → Nat → Int32} {L : Nat → Nat → Int64} {S T : Nat → Int32} {G : gG} {F : Nat}
theorem s_shift {p1 p2 p3 p4 p5 : Int32} (hF : 100 ≤ F) (hT : tpsOk A) : sp_X13_shift G F (mS h b A L S) b p1 p2 p3 p4 p5 = some ((shiftR A L p1 p2 p3 p4 p5).1, mS h b A (shiftR A L p1 p2 p3 p4 p5).2 S) := by
  unfold sp_X13_shift shiftR
  simp only [i_isTape, Option.bind_some, b0, s_f12, s_f13]
  by_cases h1 : inB p1 0 5
  · rw [if_neg (nn h1), if_neg (nn h1)]
    by_cases h2 : inB p3 0 5
    · rw [if_neg (nn h2), if_neg (nn h2)]
      obtain ⟨k, hk, rfl⟩ : ∃ k, k < 6 ∧ p1 = nI k := in_nI (m := 6) (by decide) h1
      obtain ⟨k', hk', rfl⟩ : ∃ k, k < 6 ∧ p3 = nI k := in_nI (m := 6) (by decide) h2
      simp only [s_a7 hk, s_a7 hk', s_a8 hk, s_a8 hk', Option.bind_some, nI_c (show k < 2 ^ 31 by omega), nI_c (show k' < 2 ^ 31 by omega)]
      by_cases g1 : A 7 k < 0
      · rw [if_pos g1, if_pos g1]
      rw [if_neg g1, if_neg g1]
      by_cases g2 : 0 ≤ A 7 k'
      · rw [if_pos g2, if_neg (nn g2)]
        by_cases g3 : A 7 k = A 7 k'
        · rw [if_pos g3, if_neg (nn g3)]
          by_cases q1 : p5 < 0
          · rw [if_pos q1, if_pos q1]
          rw [if_neg q1, if_neg q1]
          by_cases q2 : p2 < 0
          · rw [if_pos q2, if_pos q2]
          rw [if_neg q2, if_neg q2]
          by_cases q3 : p4 < 0
          · rw [if_pos q3, if_pos q3]
          rw [if_neg q3, if_neg q3]
          by_cases q4 : A 8 k - p2 < p5
          · rw [if_pos q4, if_pos q4]
          rw [if_neg q4, if_neg q4]
          by_cases q5 : p5 ≤ A 8 k' - p4
          · rw [if_pos q5, if_neg (nn q5)]
            rcases hT k hk with ⟨e, -⟩ | ⟨-, m, hm, em⟩
            · exact absurd (by rw [e]; decide) g1
            rcases hT k' hk' with ⟨e, -⟩ | ⟨-, m', hm', em'⟩
            · exact absurd g2 (by rw [e]; decide)
            rw [em] at q4
            rw [em'] at q5
            obtain ⟨d, n, rfl, rfl, hdn⟩ := sub_fit hm q2 q1 (Int32.not_lt.mp q4)
            obtain ⟨d', n', rfl, en, hdn'⟩ := sub_fit hm' q3 q1 q5
            obtain rfl : n = n' := by
              have e1 := congrArg Int32.toInt en
              rw [nI_toInt (by omega), nI_toInt (by omega)] at e1
              omega
            have k1 := it_loop (m := n) (fun f i M => sp_X13_shift_L102 G F f (mS h b A M S) b (nI k) (nI d) (nI k') (nI d') (nI n) (nI i)) (fun i M => mul M 1 i (M 0 (60 * k + d + i))) (fun _ _ => True) (fun M => mS h b A M S) (by
              intro i f M hi _
              show sp_X13_shift_L102 G F (f + 1) (mS h b A M S) b (nI k) (nI d) (nI k') (nI d') (nI n) (nI i) = _
              rw [sp_X13_shift_L102, if_neg (nI_ge (by omega) (by omega))]
              simp only [s_f15, s_f14, ix_60, nI_add, s_l0 (show 60 * k + d + i < 360 by omega), s_t1 _ (show i < 60 by omega), Option.bind_some, nI_1]) (fun _ _ _ _ => trivial) (by
              intro f M _
              show sp_X13_shift_L102 G F (f + 1) (mS h b A M S) b (nI k) (nI d) (nI k') (nI d') (nI n) (nI n) = _
              rw [sp_X13_shift_L102, if_pos (nI_le (by omega) (by omega))]) n 0 F L (by omega) (by omega) trivial
            have k2 := it_loop (m := n) (fun f i M => sp_X13_shift_L139 G F f (mS h b A M S) b (nI k') (nI d') (nI n) (nI i)) (fun i M => mul M 0 (60 * k' + d' + i) (M 1 i)) (fun _ _ => True) (fun M => mS h b A M S) (by
              intro i f M hi _
              show sp_X13_shift_L139 G F (f + 1) (mS h b A M S) b (nI k') (nI d') (nI n) (nI i) = _
              rw [sp_X13_shift_L139, if_neg (nI_ge (by omega) (by omega))]
              simp only [s_f15, s_f14, ix_60, nI_add, s_t0 _ (show 60 * k' + d' + i < 360 by omega), s_l1 (show i < 60 by omega), Option.bind_some, nI_1]) (fun _ _ _ _ => trivial) (by
              intro f M _
              show sp_X13_shift_L139 G F (f + 1) (mS h b A M S) b (nI k') (nI d') (nI n) (nI n) = _
              rw [sp_X13_shift_L139, if_pos (nI_le (by omega) (by omega))]) n 0 F (sh1 k d n L) (by omega) (by omega) trivial
            rw [show sp_X13_shift_L102 G F F (mS h b A L S) b (nI k) (nI d) (nI k') (nI d') (nI n) 0 = _ from k1, Option.bind_some, show sp_X13_shift_L139 G F F (mS h b A (itN (fun i M => mul M 1 i (M 0 (60 * k + d + i))) n 0 L) S) b (nI k') (nI d') (nI n) 0 = _ from k2, nI_c (show d < 2 ^ 31 by omega), nI_c (show d' < 2 ^ 31 by omega), nI_c (show n < 2 ^ 31 by omega)]
            rfl
          · rw [if_neg q5, if_pos q5]
        · rw [if_neg g3, if_pos g3]
      · rw [if_neg g2, if_pos g2]
    · rw [if_pos h2, if_pos h2]
  · rw [if_pos h1, if_pos h1]
end R27
