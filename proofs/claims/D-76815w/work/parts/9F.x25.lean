/-! x25: the reference: taken, feed, and its tapes: peek, judge, item, tape -/
set_option maxRecDepth 100000
def tkB (u w : Nat) : Bool := decide (w = 0 ∨ (w = 1 ∧ ¬ u = 1) ∨ (w = 2 ∧ (u = 0 ∨ u = 2)) ∨ (w = 3 ∧ u = 0) ∨ (w = 4 ∧ u = 1))
def takenR (S : Nat → Int32) (p1 p2 : Int32) : Int32 := if ¬ inB p1 0 (S 13 - 1) then -1 else if ¬ inB p2 0 4 then -2 else if tkB (kindN S p1.toNatClampNeg) p2.toNatClampNeg = true then S (sA p1.toNatClampNeg 0) else -12
/-- the tapes are told by rows 7, 8 of ints and row 0 of longs -/
def tpsOk (A : Nat → Nat → Int32) : Prop := ∀ k, k < 6 → (A 7 k = -1 ∧ A 8 k = 0) ∨ (∃ s, s < 5 ∧ A 7 k = nI s) ∧ ∃ m, m ≤ 60 ∧ A 8 k = nI m
def peekR (A : Nat → Nat → Int32) (L : Nat → Nat → Int64) (p1 p2 : Int32) : Int64 := if ¬ inB p1 0 5 then NOl else if A 7 p1.toNatClampNeg < 0 then NOl else if ¬ inB p2 0 (A 8 p1.toNatClampNeg - 1) then NOl else L 0 (60 * p1.toNatClampNeg + p2.toNatClampNeg)
def jdL (S : Nat → Int32) (A : Nat → Nat → Int32) (L : Nat → Nat → Int64) (k : Nat) (p2 : Int32) : Nat → Nat → Int32
  | 0, _ => -5
  | n + 1, i => if A 7 k < 0 ∨ ¬ inB p2 0 (A 8 k - 1 - nI i) then 100 + nI i else if L 0 (60 * k + p2.toNatClampNeg + i) = (lightV S i).toInt64 then jdL S A L k p2 n (i + 1) else nI i
def judgeR (S : Nat → Int32) (A : Nat → Nat → Int32) (L : Nat → Nat → Int64) (p1 p2 : Int32) : Int32 := if ¬ inB p1 0 5 then -1 else if A 7 p1.toNatClampNeg ≤ 0 then jdL S A L p1.toNatClampNeg p2 (manyN S) 0 else -12
def narV (s : Int32) (v : Int64) : Int64 := if s = 0 then v.toInt32.toInt8.toInt32.toInt64 else if s = 1 then v.toInt32.toInt16.toInt32.toInt64 else if s = 2 then v.toInt32.toInt64 else if s = 3 then v else if lg_cmp v 0 = 0 then 0 else 1
def itemR (A : Nat → Nat → Int32) (L : Nat → Nat → Int64) (p1 p2 : Int32) (v : Int64) : Int32 × (Nat → Nat → Int64) :=
  if ¬ inB p1 0 5 then (-1, L) else if ¬ 0 ≤ A 7 p1.toNatClampNeg then (-11, L) else if ¬ inB p2 0 (A 8 p1.toNatClampNeg - 1) then (-13, L) else (1, mul L 0 (60 * p1.toNatClampNeg + p2.toNatClampNeg) (narV (A 7 p1.toNatClampNeg) v))
def zerosF (k m : Nat) (L : Nat → Nat → Int64) : Nat → Nat → Int64 := itN (fun i M => mul M 0 (60 * k + i) 0) m 0 L
def tapeR (A : Nat → Nat → Int32) (L : Nat → Nat → Int64) (p1 p2 p3 : Int32) : Int32 × (Nat → Nat → Int32) × (Nat → Nat → Int64) :=
  if ¬ inB p1 0 5 then (-1, A, L) else if ¬ inB p2 (-1) 4 then (-2, A, L) else if p2 < 0 then (1, mu (mu A 7 p1.toNatClampNeg p2) 8 p1.toNatClampNeg 0, L)
  else if ¬ p3 ≤ 60 then (-2, A, L) else if ¬ 0 ≤ p3 then (-14, A, L) else (1, mu (mu A 7 p1.toNatClampNeg p2) 8 p1.toNatClampNeg p3, zerosF p1.toNatClampNeg p3.toNatClampNeg L)
def feedR (A : Nat → Nat → Int32) (p1 : Int32) : Int32 × (Nat → Nat → Int32) := if ¬ inB p1 0 127 then (-2, A) else if A 9 2 = 100 then (-4, A) else (A 9 2 + 1, mu (mu A 5 (A 9 2).toNatClampNeg p1) 9 2 (A 9 2 + 1))
theorem mu_o {A : Nat → Nat → Int32} {S : Nat → Int32} {i j : Nat} {x : Int32} (hi : i ≠ 0) : mu (va_up A 0 S) i j x = va_up (mu A i j x) 0 S := by
  funext i' j'
  by_cases h0 : i' = 0
  · subst h0
    simp [mu, va_up, Ne.symm hi]
  · simp [mu, va_up, h0]
theorem mu_eq {A : Nat → Nat → Int32} {i j : Nat} {x : Int32} : mu A i j x i j = x := if_pos ⟨rfl, rfl⟩
theorem lg_eq0 {x y : Int64} : (lg_cmp x y = 0) = (x = y) := by
  unfold lg_cmp
  by_cases h1 : x > y
  · rw [if_pos h1]
    exact propext ⟨fun hh => absurd hh (by decide), fun hh => absurd h1 (by rw [hh]; exact Int64.lt_irrefl)⟩
  · rw [if_neg h1]
    by_cases h2 : x = y
    · rw [if_pos h2]; exact propext ⟨fun _ => h2, fun _ => rfl⟩
    · rw [if_neg h2]; exact propext ⟨fun hh => absurd hh (by decide), fun hh => absurd hh h2⟩
section R25
variable {h : gH} {b : Nat} {A : Nat → Nat → Int32} {L : Nat → Nat → Int64} {S T : Nat → Int32} {G : gG} {F : Nat}
theorem s_f7 : gGr 11 (mS h b A L S) b 7 = some (b + 6) := mh_f7
theorem s_f12 : gGr 11 (mS h b A L S) b 12 = some (b + 8) := mh_f12
theorem s_f13 : gGr 11 (mS h b A L S) b 13 = some (b + 9) := mh_f13
theorem s_f14 : gGr 11 (mS h b A L S) b 14 = some (b + 10) := mh_f14
theorem s_f15 : gGr 11 (mS h b A L S) b 15 = some (b + 11) := mh_f15
theorem s_a7 {k : Nat} (hk : k < 6) : gAi 0 (mS h b A L S) (b + 8) (nI k) = some (A 7 k) := by
  unfold mS
  rw [mh_a7, if_pos (nI_in hk (by decide)), nI_c (by omega)]
  rfl
theorem s_a8 {k : Nat} (hk : k < 6) : gAi 0 (mS h b A L S) (b + 9) (nI k) = some (A 8 k) := by
  unfold mS
  rw [mh_a8, if_pos (nI_in hk (by decide)), nI_c (by omega)]
  rfl
theorem s_l0 {k : Nat} (hk : k < 360) : gAl (mS h b A L S) (b + 10) (nI k) = some (L 0 k) := by
  unfold mS
  rw [mh_l0, if_pos (nI_in hk (by decide)), nI_c (by omega)]
theorem s_l1 {k : Nat} (hk : k < 60) : gAl (mS h b A L S) (b + 11) (nI k) = some (L 1 k) := by
  unfold mS
  rw [mh_l1, if_pos (nI_in hk (by decide)), nI_c (by omega)]
theorem s_s5 {k : Nat} (x : Int32) (hk : k < 100) : gSi (mS h b A L S) (b + 6) (nI k) x = some (mS h b (mu A 5 k x) L S) := by
  unfold mS
  rw [mh_s5, if_pos (nI_in hk (by decide)), nI_c (by omega), mu_o (by decide)]
theorem s_s7 {k : Nat} (x : Int32) (hk : k < 6) : gSi (mS h b A L S) (b + 8) (nI k) x = some (mS h b (mu A 7 k x) L S) := by
  unfold mS
  rw [mh_s7, if_pos (nI_in hk (by decide)), nI_c (by omega), mu_o (by decide)]
theorem s_s8 {k : Nat} (x : Int32) (hk : k < 6) : gSi (mS h b A L S) (b + 9) (nI k) x = some (mS h b (mu A 8 k x) L S) := by
  unfold mS
  rw [mh_s8, if_pos (nI_in hk (by decide)), nI_c (by omega), mu_o (by decide)]
theorem s_t0 {k : Nat} (x : Int64) (hk : k < 360) : gSl (mS h b A L S) (b + 10) (nI k) x = some (mS h b A (mul L 0 k x) S) := by
  unfold mS
  rw [mh_t0, if_pos (nI_in hk (by decide)), nI_c (by omega)]
theorem s_t1 {k : Nat} (x : Int64) (hk : k < 60) : gSl (mS h b A L S) (b + 11) (nI k) x = some (mS h b A (mul L 1 k x) S) := by
  unfold mS
  rw [mh_t1, if_pos (nI_in hk (by decide)), nI_c (by omega)]
theorem s_p9 (x : Int32) : gPv 11 (mS h b A L S) b 9 (.int x) = some (mS h b (mu A 9 2 x) L S) := by
  unfold mS
  rw [mh_p9, mu_o (by decide)]
theorem ix_60 (k i : Nat) : ((60 : Int32) * nI k) + nI i = nI (60 * k + i) := by
  show nI 60 * nI k + nI i = _
  rw [pk_mul, nI_add]
theorem i_isTape {x : Int32} {H : gH} : sp_X13_isTape G F H x = some (if inB x 0 5 then 1 else 0) := by
  unfold sp_X13_isTape
  simp only [i_isIn, Option.bind_some]
  rw [if_pos if01]
theorem s_taken {p1 p2 : Int32} (hm : mOk S) (ok : rowOk S) : sp_X13_taken G F (mS h b A L S) b p1 p2 = some (takenR S p1 p2) := by
  have h8 := hm.1
  unfold sp_X13_taken takenR
  simp only [s_is, if_true, s_f0, Option.bind_some, s_isSignal, i_isIn, b0]
  by_cases h1 : inB p1 0 (S 13 - 1)
  · rw [if_neg (nn h1), if_neg (nn h1)]
    by_cases h2 : inB p2 0 4
    · rw [if_neg (nn h2), if_neg (nn h2)]
      have h1' := h1
      rw [hm.2] at h1'
      obtain ⟨a, ha, rfl⟩ : ∃ k, k < manyN S ∧ p1 = nI k := in_nI (by omega) h1'
      obtain ⟨w, hw, rfl⟩ : ∃ k, k < 5 ∧ p2 = nI k := in_nI (m := 5) (by decide) h2
      have ha8 : a < 8 := by omega
      obtain ⟨hk, ek⟩ := (ok a ha8).kind
      simp only [s_at_0 ha8, Option.bind_some, nI_c (show a < 2 ^ 31 by omega), nI_c (show w < 2 ^ 31 by omega)]
      rw [ek]
      generalize kindN S a = u at hk ⊢
      rcases (by omega : u = 0 ∨ u = 1 ∨ u = 2 ∨ u = 3) with rfl | rfl | rfl | rfl <;> rcases (by omega : w = 0 ∨ w = 1 ∨ w = 2 ∨ w = 3 ∨ w = 4) with rfl | rfl | rfl | rfl | rfl <;> rfl
    · rw [if_pos h2, if_pos h2]
  · rw [if_pos h1, if_pos h1]
theorem s_peek {p1 p2 : Int32} (hT : tpsOk A) : sp_X13_peek G F (mS h b A L S) b p1 p2 = some (peekR A L p1 p2) := by
  unfold sp_X13_peek peekR
  simp only [i_isTape, i_isIn, Option.bind_some, b0, s_f12, s_f13, s_f14]
  by_cases h1 : inB p1 0 5
  · rw [if_neg (nn h1), if_neg (nn h1)]
    obtain ⟨k, hk, rfl⟩ : ∃ k, k < 6 ∧ p1 = nI k := in_nI (m := 6) (by decide) h1
    simp only [s_a7 hk, s_a8 hk, Option.bind_some, nI_c (show k < 2 ^ 31 by omega), i_isIn, b0]
    by_cases h2 : A 7 k < 0
    · rw [if_pos h2, if_pos h2]
      rfl
    · rw [if_neg h2, if_neg h2]
      rcases hT k hk with ⟨e, -⟩ | ⟨-, m, hm, em⟩
      · exact absurd (by rw [e]; decide) h2
      · rw [em]
        by_cases h3 : inB p2 0 (nI m - 1)
        · obtain ⟨i, hi, rfl⟩ : ∃ i, i < m ∧ p2 = nI i := in_nI (by omega) h3
          rw [if_neg (nn h3), if_neg (nn h3), nI_c (show i < 2 ^ 31 by omega)]
          simp only [ix_60, s_l0 (show 60 * k + i < 360 by omega), Option.bind_some]
        · rw [if_pos h3, if_pos h3]
          rfl
  · rw [if_pos h1, if_pos h1]
    rfl
theorem s_judge {p1 p2 : Int32} (hF : 40 ≤ F) (hm : mOk S) (ok : rowOk S) (hT : tpsOk A) : sp_X13_judge G F (mS h b A L S) b p1 p2 = some (judgeR S A L p1 p2) := by
  have h8 := hm.1
  have key : ∀ k, k < 6 → ∀ (n i f : Nat), n + i = manyN S → n < f → sp_X13_judge_L23 G F (mS h b A L S) f b (nI k) p2 (nI i) = some (jdL S A L k p2 n i) := by
    intro k hk n
    induction n with
    | zero =>
      intro i f hi hf
      obtain ⟨f, rfl⟩ : ∃ z, f = z + 1 := ⟨f - 1, by omega⟩
      rw [sp_X13_judge_L23]
      simp only [s_is, if_true, s_f0, Option.bind_some, s_r_13]
      rw [if_pos (by rw [hm.2]; exact nI_le (by omega) (by omega))]
      rfl
    | succ n ih =>
      intro i f hi hf
      obtain ⟨f, rfl⟩ : ∃ z, f = z + 1 := ⟨f - 1, by omega⟩
      have en : ¬ S 13 ≤ nI i := by rw [hm.2]; exact nI_ge (by omega) (by omega)
      rw [sp_X13_judge_L23]
      simp only [s_is, if_true, s_f0, Option.bind_some, s_r_13, en, if_false, s_f12, s_f13, s_f14, s_a7 hk, s_a8 hk, i_isIn, b0, s_light (show i < 8 by omega) ok, nI_1, ih (i + 1) f (by omega) (by omega), jdL, lg_eq0]
      by_cases h2 : A 7 k < 0
      · rw [if_pos h2, if_pos (Or.inl h2)]
      · rw [if_neg h2]
        rcases hT k hk with ⟨e, -⟩ | ⟨-, m, hmm, em⟩
        · exact absurd (by rw [e]; decide) h2
        · rw [em]
          by_cases h3 : inB p2 0 (nI m - 1 - nI i)
          · rw [if_neg (nn h3), if_neg (fun hh => hh.elim h2 (fun g => g h3))]
            have hlt : ∃ d, d + i < m ∧ p2 = nI d := by
              have g0 := Int32.le_iff_toInt_le.mp h3.1
              have g1 := Int32.le_iff_toInt_le.mp h3.2
              have e0 : (0 : Int32).toInt = 0 := rfl
              have e1 : (nI m - 1 - nI i).toInt = (m : Int) - 1 - i := by
                rw [Int32.toInt_sub, Int32.toInt_sub, show (nI m).toInt = m from nI_toInt (by omega), show (nI i).toInt = i from nI_toInt (by omega), show (1 : Int32).toInt = 1 from rfl]
                rw [Int.bmod_eq_of_le (n := (m : Int) - 1) (by omega) (by omega)]
                exact Int.bmod_eq_of_le (by omega) (by omega)
              rw [e0] at g0
              rw [e1] at g1
              refine ⟨p2.toInt.toNat, by omega, ?_⟩
              apply Int32.toInt_inj.mp
              rw [nI_toInt (by omega)]
              omega
            obtain ⟨d, hd, rfl⟩ := hlt
            rw [nI_c (show d < 2 ^ 31 by omega), ix_60, nI_add]
            simp only [s_l0 (show 60 * k + d + i < 360 by omega), Option.bind_some]
            split <;> rfl
          · rw [if_pos h3, if_pos (Or.inr h3)]
  unfold sp_X13_judge judgeR
  simp only [i_isTape, Option.bind_some, b0, s_f12]
  by_cases h1 : inB p1 0 5
  · rw [if_neg (nn h1), if_neg (nn h1)]
    obtain ⟨k, hk, rfl⟩ : ∃ k, k < 6 ∧ p1 = nI k := in_nI (m := 6) (by decide) h1
    simp only [s_a7 hk, Option.bind_some, nI_c (show k < 2 ^ 31 by omega)]
    by_cases h2 : A 7 k ≤ 0
    · rw [if_pos h2, if_pos h2]
      exact key k hk (manyN S) 0 F (by omega) (by omega)
    · rw [if_neg h2, if_neg h2]
  · rw [if_pos h1, if_pos h1]
theorem s_item {p1 p2 : Int32} {v : Int64} (hT : tpsOk A) : sp_X13_item G F (mS h b A L S) b p1 p2 v = some ((itemR A L p1 p2 v).1, mS h b A (itemR A L p1 p2 v).2 S) := by
  unfold sp_X13_item itemR
  simp only [i_isTape, i_isIn, Option.bind_some, b0, s_f12, s_f13, s_f14]
  by_cases h1 : inB p1 0 5
  · rw [if_neg (nn h1), if_neg (nn h1)]
    obtain ⟨k, hk, rfl⟩ : ∃ k, k < 6 ∧ p1 = nI k := in_nI (m := 6) (by decide) h1
    simp only [s_a7 hk, s_a8 hk, Option.bind_some, nI_c (show k < 2 ^ 31 by omega), i_isIn, b0]
    by_cases h2 : 0 ≤ A 7 k
    · rw [if_pos h2, if_neg (nn h2)]
      rcases hT k hk with ⟨e, -⟩ | ⟨-, m, hm, em⟩
      · exact absurd h2 (by rw [e]; decide)
      · rw [em]
        by_cases h3 : inB p2 0 (nI m - 1)
        · obtain ⟨i, hi, rfl⟩ : ∃ i, i < m ∧ p2 = nI i := in_nI (by omega) h3
          rw [if_neg (nn h3), if_neg (nn h3), nI_c (show i < 2 ^ 31 by omega)]
          simp only [ix_60, s_t0 _ (show 60 * k + i < 360 by omega), Option.bind_some]
          unfold narV
          by_cases g0 : A 7 k = 0
          · rw [if_pos g0, if_pos g0]
          rw [if_neg g0, if_neg g0]
          by_cases g1 : A 7 k = 1
          · rw [if_pos g1, if_pos g1]
          rw [if_neg g1, if_neg g1]
          by_cases g2 : A 7 k = 2
          · rw [if_pos g2, if_pos g2]
          rw [if_neg g2, if_neg g2]
          by_cases g3 : A 7 k = 3
          · rw [if_pos g3, if_pos g3]
          rw [if_neg g3, if_neg g3]
          split <;> rfl
        · rw [if_pos h3, if_pos h3]
    · rw [if_neg h2, if_pos h2]
  · rw [if_pos h1, if_pos h1]
theorem s_tape_L {k m : Nat} (hk : k < 6) (hm : m ≤ 60) (hF : m < F) (e8 : A 8 k = nI m) : sp_X13_tape_L67 G F F (mS h b A L S) b (nI k) 0 = some (mS h b A (zerosF k m L) S) :=
  it_loop (m := m) (fun f i M => sp_X13_tape_L67 G F f (mS h b A M S) b (nI k) (nI i)) (fun i M => mul M 0 (60 * k + i) 0) (fun _ _ => True) (fun M => mS h b A M S) (by
    intro i f M hi _
    show sp_X13_tape_L67 G F (f + 1) (mS h b A M S) b (nI k) (nI i) = _
    have en : ¬ A 8 k ≤ nI i := by rw [e8]; exact nI_ge (by omega) (by omega)
    rw [sp_X13_tape_L67]
    simp only [s_f13, s_a8 hk, s_f14, en, if_false, ix_60, s_t0 _ (show 60 * k + i < 360 by omega), Option.bind_some, nI_1]) (fun _ _ _ _ => trivial) (by
    intro f M _
    show sp_X13_tape_L67 G F (f + 1) (mS h b A M S) b (nI k) (nI m) = _
    rw [sp_X13_tape_L67]
    simp only [s_f13, s_a8 hk, Option.bind_some]
    rw [if_pos (by rw [e8]; exact nI_le (by omega) (by omega))]) m 0 F L (by omega) hF trivial
theorem s_tape {p1 p2 p3 : Int32} (hF : 100 ≤ F) : sp_X13_tape G F (mS h b A L S) b p1 p2 p3 = some ((tapeR A L p1 p2 p3).1, mS h b (tapeR A L p1 p2 p3).2.1 (tapeR A L p1 p2 p3).2.2 S) := by
  unfold sp_X13_tape tapeR
  simp only [i_isTape, i_isIn, Option.bind_some, b0]
  by_cases h1 : inB p1 0 5
  · rw [if_neg (nn h1), if_neg (nn h1)]
    by_cases h2 : inB p2 (-1) 4
    · rw [if_neg (nn h2), if_neg (nn h2)]
      obtain ⟨k, hk, rfl⟩ : ∃ k, k < 6 ∧ p1 = nI k := in_nI (m := 6) (by decide) h1
      simp only [s_f12, s_s7 _ hk, s_f13, s_s8 _ hk, Option.bind_some, nI_c (show k < 2 ^ 31 by omega)]
      by_cases h3 : p2 < 0
      · rw [if_pos h3, if_pos h3, if_pos h3, if_neg (Int32.not_le.mpr h3), Option.bind_some, s_tape_L (A := mu (mu A 7 k p2) 8 k 0) (m := 0) hk (by decide) (by omega) mu_eq]
        rfl
      · rw [if_neg h3, if_neg h3]
        by_cases h4 : p3 ≤ 60
        · rw [if_pos h4, if_neg h3, if_neg (nn h4)]
          by_cases h5 : 0 ≤ p3
          · obtain ⟨m, hm, rfl⟩ : ∃ m, m < 61 ∧ p3 = nI m := in_nI (m := 61) (by decide) ⟨h5, h4⟩
            rw [if_pos h5, if_neg (nn h5), if_pos (Int32.not_lt.mp h3), Option.bind_some, s_tape_L hk (show m ≤ 60 by omega) (by omega) mu_eq, nI_c (show m < 2 ^ 31 by omega)]
            rfl
          · rw [if_neg h5, if_pos h5]
        · rw [if_neg h4, if_neg h3, if_pos h4]
    · rw [if_pos h2, if_pos h2]
  · rw [if_pos h1, if_pos h1]
theorem s_feed {p1 : Int32} {m : Nat} (hm : m ≤ 100) (e9 : A 9 2 = nI m) : sp_X13_feed G F (mS h b A L S) b p1 = some ((feedR A p1).1, mS h b (feedR A p1).2 L S) := by
  unfold sp_X13_feed feedR
  simp only [i_isIn, Option.bind_some, b0, s_f9, s_f7]
  by_cases h1 : inB p1 0 127
  · rw [if_neg (nn h1), if_neg (nn h1)]
    by_cases h2 : A 9 2 = 100
    · rw [if_pos h2, if_pos h2]
    · have hm2 : m < 100 := by
        rcases Nat.lt_or_ge m 100 with g | g
        · exact g
        · exact absurd (by rw [e9, show m = 100 by omega]; rfl) h2
      rw [if_neg h2, if_neg h2]
      simp only [e9, s_s5 _ hm2, Option.bind_some, s_f9, s_p9, mu_ne (show (9 : Nat) ≠ 5 by decide), mu_eq, nI_1, nI_c (show m < 2 ^ 31 by omega)]
  · rw [if_pos h1, if_pos h1]
end R25
