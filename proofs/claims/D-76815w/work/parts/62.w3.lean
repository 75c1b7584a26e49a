/-! w3: the class's World: calls, local time, comings -/
set_option maxRecDepth 100000
def tmOk (t : Nat) (x : Int32) : Prop := x = -5 ∨ ∃ e, e ≤ t ∧ x = nI e
def sgOk (S : Nat → Int32) (t k : Nat) : Prop := (∃ q, q ≤ 99 ∧ S (sA k 5) = nI q) ∧ (S (sA k 6) = 0 ∨ S (sA k 6) = 1) ∧ tmOk t (S (sA k 7)) ∧ tmOk t (S (sA k 8)) ∧ tmOk t (S (sA k 9)) ∧ (S (sA k 6) = 1 → S (sA k 7) ≠ -5)
def numOk (S : Nat → Int32) (t : Nat) : Prop := S 3 = nI t ∧ ∀ k, k < manyN S → sgOk S t k
theorem nI_nn {e : Nat} (he : e < 2 ^ 31) : ¬ nI e < 0 := Int32.not_lt.mpr (nI_le (a := 0) (Nat.zero_le e) he)
theorem tm_neg {t : Nat} {x : Int32} (ht : t < 2 ^ 31) (h : tmOk t x) : (x < 0) = (x = -5) := by
  rcases h with h | ⟨e, he, h⟩
  · subst h; exact propext ⟨fun _ => rfl, fun _ => by decide⟩
  · subst h
    refine propext ⟨fun hh => absurd hh (nI_nn (by omega)), fun hh => ?_⟩
    exact absurd (by rw [hh]; decide) (nI_nn (e := e) (by omega))
theorem upd_same {S : Nat → Int32} {k : Nat} {x : Int32} (h : x = S k) : upd S k x = S := by
  funext j
  unfold upd
  split
  · rename_i e; rw [e, h]
  · rfl
theorem many_upd {S : Nat → Int32} {p : Nat} {x : Int32} (h : p ≠ 13) : manyN (upd S p x) = manyN S := by unfold manyN; rw [upd_ne (Ne.symm h)]
theorem many_s {S : Nat → Int32} {k w : Nat} {x : Int32} : manyN (upd S (sA k w) x) = manyN S := many_upd (by unfold sA; omega)
theorem nn_msb (x : Int32) : (0 ≤ x) ↔ x.toBitVec.msb = false := by
  rw [Int32.le_iff_toInt_le, BitVec.msb_eq_toInt]
  have e : x.toBitVec.toInt = x.toInt := rfl
  rw [e, decide_eq_false_iff_not, Int.not_lt]
  exact Iff.rfl
theorem nn_xor (x y : Int32) (hy : 0 ≤ y) : (0 ≤ x ^^^ y) ↔ 0 ≤ x := by
  rw [nn_msb] at hy
  rw [nn_msb, nn_msb, Int32.toBitVec_xor, BitVec.msb_xor, hy, Bool.xor_false]
theorem tmod_i (x y : Int32) (hy : 0 < y.toInt) : (x - x / y * y).toInt = x.toInt.tmod y.toInt := by
  have hx1 := x.toInt_lt
  have hx2 := x.le_toInt
  rw [Int32.toInt_sub, Int32.toInt_mul, Int32.toInt_div, Int.bmod_mul_bmod, Int.sub_bmod_bmod, Int.mul_comm, ← Int.tmod_def]
  have h1 := Int.tmod_lt_of_pos x.toInt hy
  have hy2 := y.toInt_lt
  have h2 : - y.toInt < x.toInt.tmod y.toInt := by
    rcases Int.le_total 0 x.toInt with h | h
    · have := Int.tmod_nonneg y.toInt h; omega
    · have e : x.toInt.tmod y.toInt = - (-x.toInt).tmod y.toInt := by rw [Int.neg_tmod, Int.neg_neg]
      have := Int.tmod_lt_of_pos (-x.toInt) hy
      omega
  exact Int.bmod_eq_of_le (by omega) (by omega)
theorem mod_sign (x y : Int32) (hy : 0 < y.toInt) : (0 ≤ x → 0 ≤ modV x y) ∧ (¬ 0 ≤ x → 0 ≤ modV x y → modV x y = 0) := by
  unfold modV
  rw [Int32.le_iff_toInt_le, Int32.le_iff_toInt_le, tmod_i x y hy, ← Int32.toInt_inj, tmod_i x y hy, show (0 : Int32).toInt = 0 by decide]
  constructor
  · intro h; exact Int.tmod_nonneg _ h
  · intro h h2
    have e : x.toInt.tmod y.toInt = - (-x.toInt).tmod y.toInt := by rw [Int.neg_tmod, Int.neg_neg]
    have := Int.tmod_nonneg (a := -x.toInt) y.toInt (by omega)
    omega
section W3
variable {G : gG} {h : gH} {b : Nat} {S : Nat → Int32} {J : Nat → Nat → Int32} {Q : Nat → Nat → Int64} {F : Nat}
theorem x_least {k : Nat} (hk : k < 8) (hm : k < manyN S) : sp_X2_least G F (wh G h b S J Q) (sg b k) = some (S (sA k 1)) := by unfold sp_X2_least; simp only [x_is, if_true, Option.bind_some, x_sg_is, x_sg_f0, x_sg_f1, x_sg_f2, x_sg_f3, x_sg_f4, x_sg_f5, x_sg_f6, x_sg_f7, x_sg_f8, x_sg_f9, x_sg_f10, x_sg_f11, x_t0, x_t1, x_t2, x_t3, hk, hm]
theorem x_most {k : Nat} (hk : k < 8) (hm : k < manyN S) : sp_X2_most G F (wh G h b S J Q) (sg b k) = some (S (sA k 2)) := by unfold sp_X2_most; simp only [x_is, if_true, Option.bind_some, x_sg_is, x_sg_f0, x_sg_f1, x_sg_f2, x_sg_f3, x_sg_f4, x_sg_f5, x_sg_f6, x_sg_f7, x_sg_f8, x_sg_f9, x_sg_f10, x_sg_f11, x_t0, x_t1, x_t2, x_t3, hk, hm]
theorem x_gap {k : Nat} (hk : k < 8) (hm : k < manyN S) : sp_X2_gap G F (wh G h b S J Q) (sg b k) = some (S (sA k 3)) := by unfold sp_X2_gap; simp only [x_is, if_true, Option.bind_some, x_sg_is, x_sg_f0, x_sg_f1, x_sg_f2, x_sg_f3, x_sg_f4, x_sg_f5, x_sg_f6, x_sg_f7, x_sg_f8, x_sg_f9, x_sg_f10, x_sg_f11, x_t0, x_t1, x_t2, x_t3, hk, hm]
theorem x_rate {k : Nat} (hk : k < 8) (hm : k < manyN S) : sp_X2_rate G F (wh G h b S J Q) (sg b k) = some (S (sA k 4)) := by unfold sp_X2_rate; simp only [x_is, if_true, Option.bind_some, x_sg_is, x_sg_f0, x_sg_f1, x_sg_f2, x_sg_f3, x_sg_f4, x_sg_f5, x_sg_f6, x_sg_f7, x_sg_f8, x_sg_f9, x_sg_f10, x_sg_f11, x_t0, x_t1, x_t2, x_t3, hk, hm]
theorem x_has {p : Nat} {k : Int32} (hp : p < 6) (hm : p < phN S) : sp_X4_has G F (wh G h b S J Q) (phA b p) k = some (if hasB (S (pA p 0)) k then 1 else 0) := by
  unfold sp_X4_has
  simp only [x_is, if_true, Option.bind_some, x_ph_is, x_ph_f0, x_ph_f1, x_ph_f2, hp, hm]
  unfold hasB
  split <;> rfl
theorem x_draw {n : Int32} (hr : rtN J < 24) (hn : n ≠ 0) : sp_X1_draw G F (wh G h b S J Q) b n = some (drawV (lcg (S 0)) n, wh G h b (upd S 0 (lcg (S 0))) J Q) := by
  unfold sp_X1_draw
  simp only [x_is, if_true, Option.bind_some, x_f8, x_p8 _ hr, upd_eq]
  rw [if_pos hn]
  rfl
theorem x_phaseWith {a : Int32} (hF : 40 ≤ F) (hp : pOk S) : sp_X1_phaseWith G F (wh G h b S J Q) b a = some (firstV S a) := by
  have h6 := hp.1
  have key : ∀ (n i f : Nat), n + i = phN S → n < f → sp_X1_phaseWith_L2 G F (wh G h b S J Q) f b a (nI i) = some (fwL S a n i) := by
    intro n
    induction n with
    | zero =>
      intro i f hi hf
      obtain ⟨f, rfl⟩ : ∃ z, f = z + 1 := ⟨f - 1, by omega⟩
      rw [sp_X1_phaseWith_L2]
      simp only [x_is, if_true, Option.bind_some, x_f14]
      rw [if_pos (by rw [hp.2]; exact nI_le (by omega) (by omega))]
      rfl
    | succ n ih =>
      intro i f hi hf
      obtain ⟨f, rfl⟩ : ∃ z, f = z + 1 := ⟨f - 1, by omega⟩
      have en : ¬ S 14 ≤ nI i := by rw [hp.2]; exact nI_ge (by omega) (by omega)
      rw [sp_X1_phaseWith_L2]
      simp only [x_is, if_true, Option.bind_some, x_f14, en, if_false, x_f23, x_a2 (show i < 6 by omega), x_ph_is (show i < 6 by omega), x_has (show i < 6 by omega) (show i < phN S by omega), b0, nI_1, fwL]
      by_cases h1 : hasB (S (pA i 0)) a
      · have h1' : ¬ ¬ hasB (S (pA i 0)) a := fun hh => hh h1
        rw [if_neg h1', if_pos h1]
      · rw [if_pos h1, if_neg h1]
        exact ih (i + 1) f (by omega) (by omega)
  unfold sp_X1_phaseWith firstV
  rw [show (0 : Int32) = nI 0 from rfl]
  exact key (phN S) 0 F (by omega) (by omega)
theorem icL_t {p : Nat} : ∀ (n i : Nat), icL S p n i true = true := by
  intro n
  induction n with
  | zero => intro i; rfl
  | succ n ih => intro i; rw [icL, Bool.true_or]; exact ih _
theorem x_isCalled {p : Nat} (hF : 40 ≤ F) (hm : mOk S) (hp6 : p < 6) (hpp : p < phN S) : sp_X1_isCalled G F (wh G h b S J Q) b (nI p) = some (bI (calledB S p)) := by
  have h8 := hm.1
  have key : ∀ (n i f : Nat), n + i = manyN S → n < f → sp_X1_isCalled_L19 G F (wh G h b S J Q) f b (nI p) (nI i) = some (bI (icL S p n i (decide (nI p = 0) && decide (¬ S 10 ≤ 0)))) := by
    intro n
    induction n with
    | zero =>
      intro i f hi hf
      obtain ⟨f, rfl⟩ : ∃ z, f = z + 1 := ⟨f - 1, by omega⟩
      rw [sp_X1_isCalled_L19]
      simp only [x_is, if_true, Option.bind_some, x_f13, x_f10]
      rw [if_pos (by rw [hm.2]; exact nI_le (by omega) (by omega))]
      by_cases h3 : nI p = 0
      · by_cases h4 : S 10 ≤ 0
        · simp only [h3, h4, if_true, not_true_eq_false, decide_false, Bool.and_false, icL]
          rfl
        · simp only [h3, h4, if_true, if_false, not_false_eq_true, decide_true, Bool.and_true, icL]
          rfl
      · simp only [h3, if_false, decide_false, Bool.false_and, icL]
        rfl
    | succ n ih =>
      intro i f hi hf
      obtain ⟨f, rfl⟩ : ∃ z, f = z + 1 := ⟨f - 1, by omega⟩
      have en : ¬ S 13 ≤ nI i := by rw [hm.2]; exact nI_ge (by omega) (by omega)
      have hi8 : i < 8 := by omega
      have him : i < manyN S := by omega
      rw [sp_X1_isCalled_L19]
      simp only [x_is, if_true, Option.bind_some, x_f13, en, if_false, x_f23, x_f22, x_a2 hp6, x_ph_is hp6, x_has hp6 hpp, b0, nI_1, x_a1 hi8, x_sg_is hi8, sp_X2_isCalled, x_sg_f5 hi8 him, x_sg_f6 hi8 him, icL, ih (i + 1) f (by omega) (by omega)]
      by_cases h1 : hasB (S (pA p 0)) (nI i)
      · have h1' : ¬ ¬ hasB (S (pA p 0)) (nI i) := fun hh => hh h1
        rw [if_neg h1']
        by_cases h2 : S (sA i 5) ≤ 0
        · rw [if_pos h2, show icB S p i = false by simp only [icB, decide_eq_true h1, h2, not_true_eq_false, decide_false, Bool.and_false, Bool.false_and], Bool.or_false]
          rfl
        · rw [if_neg h2]
          by_cases h3 : S (sA i 6) = 0
          · rw [if_pos h3, show icB S p i = true by simp only [icB, decide_eq_true h1, h2, h3, not_false_eq_true, decide_true, Bool.and_true], Bool.or_true, icL_t]
            rfl
          · rw [if_neg h3, show icB S p i = false by simp only [icB, h3, decide_false, Bool.and_false], Bool.or_false]
            rfl
      · rw [if_pos h1, show icB S p i = false by simp only [icB, decide_eq_false h1, Bool.false_and], Bool.or_false]
  unfold sp_X1_isCalled calledB
  simp only [x_is, if_true, Option.bind_some, x_f0, x_f2]
  rw [show (0 : Int32) = nI 0 from rfl, key (manyN S) 0 F (by omega) (by omega), show nI 0 = (0 : Int32) from rfl]
  by_cases h1 : S 2 = 0
  · rw [if_pos h1]
    simp only [h1, not_true_eq_false, decide_false, Bool.false_and]
    rfl
  · rw [if_neg h1]
    by_cases h2 : nI p = S 4
    · rw [if_pos h2]
      simp only [h2, not_true_eq_false, decide_false, Bool.and_false, Bool.false_and]
      rfl
    · rw [if_neg h2]
      simp only [h1, h2, not_false_eq_true, decide_true, Bool.true_and]
theorem x_calledPhases (hF : 40 ≤ F) (hm : mOk S) (hp : pOk S) : sp_X1_calledPhases G F (wh G h b S J Q) b = some (calledV S) := by
  have h6 := hp.1
  have key : ∀ (n i f : Nat) (acc : Int32), n + i = phN S → n < f → sp_X1_calledPhases_L4 G F (wh G h b S J Q) f b acc (nI i) = some (bitsL (calledB S) n i acc) := by
    intro n
    induction n with
    | zero =>
      intro i f acc hi hf
      obtain ⟨f, rfl⟩ : ∃ z, f = z + 1 := ⟨f - 1, by omega⟩
      rw [sp_X1_calledPhases_L4]
      simp only [x_is, if_true, Option.bind_some, x_f14]
      rw [if_pos (by rw [hp.2]; exact nI_le (by omega) (by omega))]
      rfl
    | succ n ih =>
      intro i f acc hi hf
      obtain ⟨f, rfl⟩ : ∃ z, f = z + 1 := ⟨f - 1, by omega⟩
      have en : ¬ S 14 ≤ nI i := by rw [hp.2]; exact nI_ge (by omega) (by omega)
      rw [sp_X1_calledPhases_L4]
      simp only [x_is, if_true, Option.bind_some, x_f14, en, if_false, x_isCalled hF hm (show i < 6 by omega) (show i < phN S by omega), bI_z, nI_1, ih (i + 1) f _ (by omega) (by omega), bitsL]
      by_cases h1 : calledB S i = true
      · have h1' : ¬ calledB S i = false := by rw [h1]; decide
        rw [if_neg h1', if_pos h1]
      · have h1' : calledB S i = false := by cases e : calledB S i; · rfl
                                             · exact absurd e h1
        rw [if_pos h1', if_neg h1]
  unfold sp_X1_calledPhases calledV bitsV
  rw [show sp_X1_calledPhases_L4 G F (wh G h b S J Q) F b 0 0 = some (bitsL (calledB S) (phN S) 0 0) from key (phN S) 0 F 0 (by omega) (by omega)]
  rfl
def fcL (S : Nat → Int32) (o m : Nat) : Nat → Nat → Int32
  | 0, _ => -5
  | n + 1, k => if calledB S ((o + k) % m) = true then nI ((o + k) % m) else fcL S o m n (k + 1)
theorem x_firstCalled (hF : 40 ≤ F) (hm : mOk S) (hp : pOk S) (ho : onOk S) (hon : onN S < phN S) : sp_X1_firstCalled G F (wh G h b S J Q) b = some (fcL S (onN S) (phN S) (phN S - 1) 1) := by
  have h6 := hp.1
  have em : ∀ x c : Int32, x - x / c * c = modV x c := fun _ _ => rfl
  have e14 : ¬ nI (phN S) = 0 := fun e => by
    have := (nI_eq (a := phN S) (b := 0) (by omega) (by decide)).mp e
    omega
  have key : ∀ (n i f : Nat), n + i = phN S → n < f → sp_X1_firstCalled_L2 G F (wh G h b S J Q) f b (nI i) = some (fcL S (onN S) (phN S) n i) := by
    intro n
    induction n with
    | zero =>
      intro i f hi hf
      obtain ⟨f, rfl⟩ : ∃ z, f = z + 1 := ⟨f - 1, by omega⟩
      rw [sp_X1_firstCalled_L2]
      simp only [x_is, if_true, Option.bind_some, x_f14]
      rw [if_pos (by rw [hp.2]; exact nI_le (by omega) (by omega))]
      rfl
    | succ n ih =>
      intro i f hi hf
      obtain ⟨f, rfl⟩ : ∃ z, f = z + 1 := ⟨f - 1, by omega⟩
      have en : ¬ nI (phN S) ≤ nI i := nI_ge (by omega) (by omega)
      have hlt : (onN S + i) % phN S < phN S := Nat.mod_lt _ (by omega)
      have e1 : modV (S 4 + nI i) (nI (phN S)) = nI ((onN S + i) % phN S) := by
        rw [ho.2, nI_add]
        exact modV_nI (by omega) (by omega) (by omega)
      rw [sp_X1_firstCalled_L2]
      simp only [x_is, if_true, Option.bind_some, x_f14, x_f2, hp.2, en, if_false, e14, not_false_eq_true, em, e1, x_isCalled hF hm (show (onN S + i) % phN S < 6 by omega) hlt, bI_z, nI_1, ih (i + 1) f (by omega) (by omega), fcL]
      by_cases h1 : calledB S ((onN S + i) % phN S) = true
      · have h1' : ¬ calledB S ((onN S + i) % phN S) = false := by rw [h1]; decide
        rw [if_neg h1', if_pos h1]
      · have h1' : calledB S ((onN S + i) % phN S) = false := by cases e : calledB S ((onN S + i) % phN S); · rfl
                                                                 · exact absurd e h1
        rw [if_pos h1', if_neg h1]
  unfold sp_X1_firstCalled
  exact key (phN S - 1) 1 F (by omega) (by omega)
theorem i_floorMod {x y : Int32} {h : gH} (hy : ¬ y ≤ 0) : sp_J11_floorMod G F h x y = some (if 0 ≤ modV x y then modV x y else modV x y + y) := by
  have em : ∀ x c : Int32, x - x / c * c = modV x c := fun _ _ => rfl
  have h0 : ¬ y = 0 := fun e => hy (by rw [e]; exact Int32.le_refl 0)
  have hy2 : 0 < y.toInt := by
    have := Int32.not_le.mp hy
    rw [Int32.lt_iff_toInt_lt] at this
    exact this
  have hs := mod_sign x y hy2
  have hx := nn_xor x y (Int32.le_of_lt (Int32.not_le.mp hy))
  unfold sp_J11_floorMod
  rw [if_pos h0]
  simp only [em]
  by_cases h1 : 0 ≤ x
  · rw [if_pos (hx.mpr h1), if_pos (hs.1 h1)]
  · rw [if_neg (fun hh => h1 (hx.mp hh))]
    by_cases h2 : modV x y = 0
    · rw [if_pos h2, if_pos (by rw [h2]; exact Int32.le_refl 0)]
    · rw [if_neg h2, if_neg (fun hh => h2 (hs.2 h1 hh))]
theorem x_local (hc : ¬ S 10 ≤ 0) : sp_X1_local G F (wh G h b S J Q) b = some (localV S) := by
  have h0 : ¬ S 10 = 0 := fun e => hc (by rw [e]; exact Int32.le_refl 0)
  unfold sp_X1_local localV
  simp only [x_is, if_true, Option.bind_some, x_f10, x_f1, x_f11, h0, if_false, i_floorMod hc]
def heldB (S : Nat → Int32) : Bool := decide (¬ S 10 ≤ 0) && decide (S 4 = 0) && decide (localV S < S 12)
def forcedB (S : Nat → Int32) : Bool := decide (¬ S 10 ≤ 0) && decide (¬ S 4 = 0) && decide (¬ localV S < S (pA (onN S) 1))
theorem x_isHeld : sp_X1_isHeld G F (wh G h b S J Q) b = some (bI (heldB S)) := by
  unfold sp_X1_isHeld heldB
  simp only [x_is, if_true, Option.bind_some, x_f10, x_f2, x_f12]
  by_cases h1 : S 10 ≤ 0
  · rw [if_pos h1, decide_eq_false (fun hh => hh h1)]
    rfl
  · rw [if_neg h1, decide_eq_true h1, x_local h1]
    by_cases h2 : S 4 = 0
    · rw [if_pos h2, decide_eq_true h2]
      simp only [Option.bind_some]
      by_cases h3 : S 12 ≤ localV S
      · rw [if_pos h3, decide_eq_false (Int32.not_lt.mpr h3)]
        rfl
      · rw [if_neg h3, decide_eq_true (Int32.not_le.mp h3)]
        rfl
    · rw [if_neg h2, decide_eq_false h2]
      rfl
theorem x_isForced (ho : onOk S) (hon : onN S < phN S) : sp_X1_isForced G F (wh G h b S J Q) b = some (bI (forcedB S)) := by
  have ha : gAr 6 (wh G h b S J Q) (b + 2) (S 4) = some (phA b (onN S)) := by rw [ho.2]; exact x_a2 ho.1
  unfold sp_X1_isForced forcedB
  simp only [x_is, if_true, Option.bind_some, x_f10, x_f2, x_f23, ha, x_ph_f1 ho.1 hon]
  by_cases h1 : S 10 ≤ 0
  · rw [if_pos h1, decide_eq_false (fun hh => hh h1)]
    rfl
  · rw [if_neg h1, decide_eq_true h1, x_local h1]
    by_cases h2 : S 4 = 0
    · rw [if_pos h2, decide_eq_false (fun hh => hh h2)]
      rfl
    · rw [if_neg h2, decide_eq_true h2]
      simp only [Option.bind_some]
      by_cases h3 : localV S < S (pA (onN S) 1)
      · rw [if_pos h3, decide_eq_false (fun hh => hh h3)]
        rfl
      · rw [if_neg h3, decide_eq_true h3]
        rfl
end W3
