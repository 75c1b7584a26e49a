/-! x22: proved, table (both sides) -/
set_option maxRecDepth 100000
abbrev tsN (S : Nat → Int32) (i : Nat) : Nat := (S (321 + 3 * i)).toNatClampNeg
/-- told green i is kept apart from told green j -/
def apB (C S : Nat → Int32) (i j : Nat) : Bool := decide (C (8 * tsN S i + tsN S j) < 0 ∨ C (8 * tsN S j + tsN S i) ≤ S (321 + 3 * i + 1) - S (321 + 3 * j + 2) ∨ ¬ S (321 + 3 * j + 1) - S (321 + 3 * i + 2) < C (8 * tsN S i + tsN S j))
def pvL (C S : Nat → Int32) (i : Nat) : Nat → Nat → Bool
  | 0, _ => true
  | n + 1, j => if apB C S i j = true then pvL C S i n (j + 1) else false
def pvO (q : Bool) (x : Int32) : Int32 ⊕ Unit := match q with
  | true => .inr ()
  | false => .inl x
theorem pvL_t {C S : Nat → Int32} {i n j : Nat} (h : apB C S i j = true) : pvL C S i (n + 1) j = pvL C S i n (j + 1) := by rw [pvL, if_pos h]
theorem pvL_f {C S : Nat → Int32} {i n j : Nat} (h : apB C S i j = false) : pvL C S i (n + 1) j = false := by rw [pvL, h]; rfl
def provL (C S : Nat → Int32) : Nat → Nat → Int32
  | 0, _ => -5
  | n + 1, i => if pvL C S i i 0 = true then provL C S n (i + 1) else nI i
def provedR (C S : Nat → Int32) : Int32 := provL C S (tolN S) 0
theorem apB_t {C S : Nat → Int32} {i j : Nat} : apB C S i j = true ↔ (C (8 * tsN S i + tsN S j) < 0 ∨ C (8 * tsN S j + tsN S i) ≤ S (321 + 3 * i + 1) - S (321 + 3 * j + 2) ∨ ¬ S (321 + 3 * j + 1) - S (321 + 3 * i + 2) < C (8 * tsN S i + tsN S j)) := decide_eq_true_iff
/-- a pair of signals counted by w, the greatest and the sum of their times -/
def tbst (C : Nat → Int32) (w : Nat → Nat → Nat) (a d : Nat) (z : Int32 × Int32 × Int32) : Int32 × Int32 × Int32 := if C (8 * a + d) < 0 then z else (z.1 + nI (w a d), maxI z.2.1 (C (8 * a + d)), z.2.2 + C (8 * a + d))
def tbrow (C S : Nat → Int32) (w : Nat → Nat → Nat) (a : Nat) (z : (Int32 × Int32 × Int32) × Int32) : (Int32 × Int32 × Int32) × Int32 := (itN (tbst C w a) (manyN S) 0 z.1, maxI z.2 (S (sA a 2)))
def tbAll (C S : Nat → Int32) (w : Nat → Nat → Nat) : (Int32 × Int32 × Int32) × Int32 := itN (tbrow C S w) (manyN S) 0 ((0, 0, 0), 0)
def w1 (a d : Nat) : Nat := if a < d then 1 else 0
def w2 (_ _ : Nat) : Nat := 1
def tableR (C S : Nat → Int32) (p1 : Int32) : Int32 := if ¬ inB p1 0 3 then -1 else if p1 = 0 then (tbAll C S w1).1.1 else if p1 = 1 then (tbAll C S w1).1.2.1 else if p1 = 2 then (tbAll C S w1).1.2.2 else (S 14 + 1) * (((tbAll C S w1).1.2.1 + (tbAll C S w1).2) + 1)
def mw (C : Nat → Int32) (w : Nat → Nat → Nat) (a d : Nat) : Nat := if C (8 * a + d) < 0 then 0 else w a d
theorem sm_s {f : Nat → Nat} {n : Nat} : sm f (n + 1) = sm f n + f n := rfl
theorem it_last {α : Type} {g : Nat → α → α} : ∀ (n i : Nat) (s : α), itN g (n + 1) i s = g (i + n) (itN g n i s) := by
  intro n
  induction n with
  | zero => intro i s; rfl
  | succ n ih =>
    intro i s
    rw [itN, ih (i + 1), show i + 1 + n = i + (n + 1) by omega]
    rfl
theorem tb_in {C : Nat → Int32} {v : Nat → Nat → Nat} {a k : Nat} : ∀ (n : Nat) (z z' : Int32 × Int32 × Int32), z'.1 = nI k → z.2 = z'.2 → (itN (tbst C w1 a) n 0 z).2 = (itN (tbst C v a) n 0 z').2 ∧ (itN (tbst C v a) n 0 z').1 = nI (k + sm (mw C v a) n) := by
  intro n
  induction n with
  | zero => intro z z' h1 h2; exact ⟨h2, h1⟩
  | succ n ih =>
    intro z z' h1 h2
    obtain ⟨e1, e2⟩ := ih z z' h1 h2
    rw [it_last, it_last, Nat.zero_add, sm_s]
    by_cases h : C (8 * a + n) < 0
    · have t : ∀ u y, tbst C u a n y = y := fun u y => if_pos h
      rw [t, t, show mw C v a n = 0 from if_pos h]
      exact ⟨e1, e2⟩
    · have t : ∀ u y, tbst C u a n y = (y.1 + nI (u a n), maxI y.2.1 (C (8 * a + n)), y.2.2 + C (8 * a + n)) := fun u y => if_neg h
      rw [t, t, show mw C v a n = v a n from if_neg h]
      refine ⟨?_, ?_⟩
      · rw [e1]
      · show _ + nI (v a n) = _
        rw [e2, nI_add, Nat.add_assoc]
theorem tb_out {C S : Nat → Int32} {v : Nat → Nat → Nat} : ∀ n, ((itN (tbrow C S w1) n 0 ((0, 0, 0), 0)).1.2 = (itN (tbrow C S v) n 0 ((0, 0, 0), 0)).1.2 ∧ (itN (tbrow C S w1) n 0 ((0, 0, 0), 0)).2 = (itN (tbrow C S v) n 0 ((0, 0, 0), 0)).2) ∧ (itN (tbrow C S v) n 0 ((0, 0, 0), 0)).1.1 = nI (sm (fun a => sm (mw C v a) (manyN S)) n) := by
  intro n
  induction n with
  | zero => exact ⟨⟨rfl, rfl⟩, rfl⟩
  | succ n ih =>
    obtain ⟨⟨e1, e2⟩, e3⟩ := ih
    rw [it_last, it_last, Nat.zero_add, sm_s]
    have := tb_in (C := C) (v := v) (a := n) (manyN S) _ _ e3 e1
    refine ⟨⟨this.1, ?_⟩, this.2⟩
    show maxI _ _ = maxI _ _
    rw [e2]
theorem sm_congr {f g : Nat → Nat} : ∀ n, (∀ i, i < n → f i = g i) → sm f n = sm g n := by
  intro n
  induction n with
  | zero => intro _; rfl
  | succ n ih => intro h; rw [sm_s, sm_s, ih (fun i hi => h i (by omega)), h n (by omega)]
theorem tb_two {C : Nat → Int32} {m : Nat} (hs : ∀ a d, a < m → d < m → (C (8 * a + d) < 0 ↔ C (8 * d + a) < 0)) (hd : ∀ a, a < m → C (8 * a + a) < 0) : sm (fun a => sm (mw C w2 a) m) m = 2 * sm (fun a => sm (mw C w1 a) m) m := by
  have e1 : sm (fun a => sm (mw C w2 a) m) m = sm (fun a => sm (mw C w1 a) m + sm (fun d => mw C w1 d a) m) m := by
    refine sm_congr m fun a ha => ?_
    rw [← sm_add]
    refine sm_congr m fun d hdm => ?_
    unfold mw w1 w2
    by_cases h : C (8 * a + d) < 0
    · rw [if_pos h, if_pos h, if_pos ((hs a d ha hdm).mp h)]
    · rw [if_neg h, if_neg h, if_neg (fun hh => h ((hs a d ha hdm).mpr hh))]
      have : a ≠ d := fun e => h (by rw [← e]; exact hd a ha)
      by_cases h2 : a < d
      · rw [if_pos h2, if_neg (by omega)]
      · rw [if_neg h2, if_pos (by omega)]
  rw [e1, sm_add, ← sm_swap (f := mw C w1)]
  omega
theorem sm_bd {f : Nat → Nat} {B : Nat} : ∀ n, (∀ i, i < n → f i ≤ B) → sm f n ≤ n * B := by
  intro n
  induction n with
  | zero => intro _; exact Nat.zero_le _
  | succ n ih =>
    intro h
    have h1 := ih (fun i hi => h i (by omega))
    have h2 := h n (by omega)
    rw [sm_s, Nat.succ_mul]
    omega
section R22
variable {h : gH} {b : Nat} {A : Nat → Nat → Int32} {L : Nat → Nat → Int64} {S T : Nat → Int32} {G : gG} {F : Nat}
theorem s_isSafe {i j : Nat} (hm : mOk S) (ht : toldOk S) (hts : tldsOk S) (hi : i < tolN S) (hj : j < tolN S) : sp_X13_isSafe G F (mS h b A L S) b (nI i) (nI j) = some (bI (apB (A 3) S i j)) := by
  have h8 := hm.1
  have ht8 := ht.1
  obtain ⟨⟨a, ha, ea⟩, -⟩ := hts i hi
  obtain ⟨⟨d, hd, ed⟩, -⟩ := hts j hj
  have e2 : ∀ k : Nat, nI (321 + 3 * k) + 2 = nI (321 + 3 * k + 2) := fun k => nI_add _ 2
  have ta : tsN S i = a := by unfold tsN; rw [ea, nI_c (by omega)]
  have td : tsN S j = d := by unfold tsN; rw [ed, nI_c (by omega)]
  unfold sp_X13_isSafe
  simp only [s_is, if_true, s_f0, Option.bind_some, ix_tl, nI_1, e2, s_a (321 + 3 * i) (by omega), s_a (321 + 3 * j) (by omega), s_a (321 + 3 * i + 1) (by omega), s_a (321 + 3 * j + 1) (by omega), s_a (321 + 3 * i + 2) (by omega), s_a (321 + 3 * j + 2) (by omega), ea, ed, s_meet (show a < 8 by omega) (show d < 8 by omega), s_f5, ix_8, s_c (8 * a + d) (by omega), s_c (8 * d + a) (by omega)]
  have hB := apB_t (C := A 3) (S := S) (i := i) (j := j)
  rw [ta, td] at hB
  by_cases h1 : A 3 (8 * a + d) < 0
  · rw [if_pos h1, if_pos rfl, hB.mpr (Or.inl h1)]
    rfl
  · rw [if_neg h1, if_neg (by decide)]
    by_cases h2 : A 3 (8 * d + a) ≤ S (321 + 3 * i + 1) - S (321 + 3 * j + 2)
    · rw [if_pos h2, hB.mpr (Or.inr (Or.inl h2))]
      rfl
    · rw [if_neg h2]
      by_cases h3 : S (321 + 3 * j + 1) - S (321 + 3 * i + 2) < A 3 (8 * a + d)
      · rw [if_pos h3, show apB (A 3) S i j = false from Bool.eq_false_iff.mpr fun hh => by rcases hB.mp hh with g | g | g; exact h1 g; exact h2 g; exact g h3]
        rfl
      · rw [if_neg h3, hB.mpr (Or.inr (Or.inr h3))]
        rfl
theorem s_proved (hF : 40 ≤ F) (hm : mOk S) (ht : toldOk S) (hts : tldsOk S) : sp_X13_proved G F (mS h b A L S) b = some (provedR (A 3) S) := by
  have ht8 := ht.1
  have kin : ∀ (i : Nat), i < tolN S → ∀ (n j f : Nat), n + j = i → n < f → sp_X13_proved_L15 G F (mS h b A L S) f b (nI i) (nI j) = some (pvO (pvL (A 3) S i n j) (nI i)) := by
    intro i hi n
    induction n with
    | zero =>
      intro j f hj hf
      obtain ⟨f, rfl⟩ : ∃ z, f = z + 1 := ⟨f - 1, by omega⟩
      rw [sp_X13_proved_L15, if_pos (nI_le (by omega) (by omega))]
      rfl
    | succ n ih =>
      intro j f hj hf
      obtain ⟨f, rfl⟩ : ∃ z, f = z + 1 := ⟨f - 1, by omega⟩
      rw [sp_X13_proved_L15, if_neg (nI_ge (by omega) (by omega))]
      simp only [s_is, if_true, s_f0, Option.bind_some, s_isSafe hm ht hts hi (show j < tolN S by omega), nI_1, ih (j + 1) f (by omega) (by omega)]
      cases hh : apB (A 3) S i j
      · rw [pvL_f hh]; rfl
      · rw [pvL_t hh]; rfl
  have key : ∀ (n i f : Nat), n + i = tolN S → n < f → sp_X13_proved_L2 G F (mS h b A L S) f b (nI i) = some (provL (A 3) S n i) := by
    intro n
    induction n with
    | zero =>
      intro i f hi hf
      obtain ⟨f, rfl⟩ : ∃ z, f = z + 1 := ⟨f - 1, by omega⟩
      rw [sp_X13_proved_L2]
      simp only [s_is, if_true, s_f0, Option.bind_some, s_r_18]
      rw [if_pos (by rw [ht.2]; exact nI_le (by omega) (by omega))]
      rfl
    | succ n ih =>
      intro i f hi hf
      obtain ⟨f, rfl⟩ : ∃ z, f = z + 1 := ⟨f - 1, by omega⟩
      have en : ¬ S 18 ≤ nI i := by rw [ht.2]; exact nI_ge (by omega) (by omega)
      rw [sp_X13_proved_L2]
      simp only [s_is, if_true, s_f0, Option.bind_some, s_r_18, en, if_false]
      rw [show sp_X13_proved_L15 G F (mS h b A L S) F b (nI i) 0 = _ from kin i (by omega) i 0 F (by omega) (by omega), Option.bind_some, provL]
      cases pvL (A 3) S i i 0
      · rfl
      · rw [if_pos rfl, nI_1]
        exact ih (i + 1) f (by omega) (by omega)
  unfold sp_X13_proved provedR
  exact key (tolN S) 0 F (by omega) (by omega)
theorem s_table {p1 : Int32} (hF : 40 ≤ F) (hm : mOk S) : sp_X13_table G F (mS h b A L S) b p1 = some (tableR (A 3) S p1) := by
  have h8 := hm.1
  have k1 : ∀ (u : Int32) (a : Nat), a < manyN S → ∀ z : Int32 × Int32 × Int32, sp_X13_table_L53 G F (mS h b A L S) F b p1 z.1 z.2.1 z.2.2 u (nI a) 0 = some ((itN (tbst (A 3) w1 a) (manyN S) 0 z).1, (itN (tbst (A 3) w1 a) (manyN S) 0 z).2.1, (itN (tbst (A 3) w1 a) (manyN S) 0 z).2.2) := by
    intro u a ha z
    exact it_loop (m := manyN S) (fun f d (z : Int32 × Int32 × Int32) => sp_X13_table_L53 G F (mS h b A L S) f b p1 z.1 z.2.1 z.2.2 u (nI a) (nI d)) (tbst (A 3) w1 a) (fun _ _ => True) (fun z => (z.1, z.2.1, z.2.2)) (by
      intro d f z hd _
      show sp_X13_table_L53 G F (mS h b A L S) (f + 1) b p1 z.1 z.2.1 z.2.2 u (nI a) (nI d) = _
      have en : ¬ S 13 ≤ nI d := by rw [hm.2]; exact nI_ge (by omega) (by omega)
      rw [sp_X13_table_L53]
      unfold tbst w1
      simp only [s_is, if_true, s_f0, Option.bind_some, s_r_13, en, if_false, s_meet (show a < 8 by omega) (show d < 8 by omega), s_f5, ix_8, s_c (8 * a + d) (by omega), i_max, nI_1]
      by_cases h1 : A 3 (8 * a + d) < 0
      · rw [if_pos h1, if_pos h1, if_pos rfl]
      · rw [if_neg h1, if_neg h1, if_neg (by decide)]
        by_cases h2 : a < d
        · rw [if_neg (show ¬ nI d ≤ nI a from nI_ge (by omega) (by omega)), if_pos h2]
          rfl
        · rw [if_pos (show nI d ≤ nI a from nI_le (by omega) (by omega)), if_neg h2]
          rfl) (fun _ _ _ _ => trivial) (by
      intro f z _
      show sp_X13_table_L53 G F (mS h b A L S) (f + 1) b p1 z.1 z.2.1 z.2.2 u (nI a) (nI (manyN S)) = _
      rw [sp_X13_table_L53]
      simp only [s_is, if_true, s_f0, Option.bind_some, s_r_13]
      rw [if_pos (by rw [hm.2]; exact nI_le (by omega) (by omega))]) (manyN S) 0 F z (by omega) (by omega) trivial
  have k2 := it_loop (m := manyN S) (fun f a (z : (Int32 × Int32 × Int32) × Int32) => sp_X13_table_L24 G F (mS h b A L S) f b p1 z.1.1 z.1.2.1 z.1.2.2 z.2 (nI a)) (tbrow (A 3) S w1) (fun _ _ => True) (fun z => (z.1.1, z.1.2.1, z.1.2.2, z.2)) (by
    intro a f z ha _
    show sp_X13_table_L24 G F (mS h b A L S) (f + 1) b p1 z.1.1 z.1.2.1 z.1.2.2 z.2 (nI a) = _
    have en : ¬ S 13 ≤ nI a := by rw [hm.2]; exact nI_ge (by omega) (by omega)
    rw [sp_X13_table_L24]
    unfold tbrow
    simp only [s_is, if_true, s_f0, Option.bind_some, s_r_13, en, if_false, s_at_2 (show a < 8 by omega), i_max, k1 _ a ha, nI_1]) (fun _ _ _ _ => trivial) (by
    intro f z _
    show sp_X13_table_L24 G F (mS h b A L S) (f + 1) b p1 z.1.1 z.1.2.1 z.1.2.2 z.2 (nI (manyN S)) = _
    rw [sp_X13_table_L24]
    simp only [s_is, if_true, s_f0, Option.bind_some, s_r_13]
    rw [if_pos (by rw [hm.2]; exact nI_le (by omega) (by omega))]) (manyN S) 0 F ((0, 0, 0), 0) (by omega) (by omega) trivial
  unfold sp_X13_table tableR
  simp only [i_isIn, Option.bind_some, b0, s_is, if_true, s_f0, Option.bind_some, s_r_14]
  by_cases h1 : inB p1 0 3
  · rw [if_neg (nn h1), if_neg (nn h1), show sp_X13_table_L24 G F (mS h b A L S) F b p1 0 0 0 0 0 = _ from k2, Option.bind_some]
    unfold tbAll
    split
    · rfl
    · split
      · rfl
      · split <;> rfl
  · rw [if_pos h1, if_pos h1]
end R22
section X22
variable {G : gG} {F n bx : Nat} {h : gH} {b : Nat} {c : Nat → Int32} {S C T I : Nat → Int32} {J K : Nat → Nat → Int32} {Q R : Nat → Nat → Int64}
theorem x_ahead {i j : Nat} {y : Int32} (ht : toldOk S) (hi : i < tolN S) (hj : j < tolN S) : sp_X16_isAhead G F (wh G h b S J Q) (tlA b j) (tlA b i) y = some (if S (321 + 3 * i + 1) - S (321 + 3 * j + 2) < y then 0 else 1) := by
  have ht8 := ht.1
  unfold sp_X16_isAhead sp_X5_from sp_X5_to
  simp only [x_tl_is (show i < 8 by omega), x_tl_is (show j < 8 by omega), if_true, x_tl_f1 (show i < 8 by omega) hi, x_tl_f2 (show j < 8 by omega) hj, Option.bind_some]
  split <;> rfl
theorem v_proved (hF : 40 ≤ F) (hm : mOk S) (ht : toldOk S) (hts : tldsOk S) (hC : clOk C S J) : sp_X0_proved G F (wh G (xo h bx c) (bx + 1) S J Q) bx = some (provedR C S) := by
  have ht8 := ht.1
  have h8 := hm.1
  have kin : ∀ (i : Nat), i < tolN S → ∀ (n j f : Nat), n + j = i → n < f → sp_X0_proved_L25 G F (wh G (xo h bx c) (bx + 1) S J Q) f bx (nI i) (tlA (bx + 1) i) (nI j) = some (pvO (pvL C S i n j) (nI i)) := by
    intro i hi n
    induction n with
    | zero =>
      intro j f hj hf
      obtain ⟨f, rfl⟩ : ∃ z, f = z + 1 := ⟨f - 1, by omega⟩
      rw [sp_X0_proved_L25, if_pos (nI_le (by omega) (by omega))]
      rfl
    | succ n ih =>
      intro j f hj hf
      obtain ⟨f, rfl⟩ : ∃ z, f = z + 1 := ⟨f - 1, by omega⟩
      have hj8 : j < 8 := by omega
      have hi8 : i < 8 := by omega
      have hjt : j < tolN S := by omega
      obtain ⟨⟨a, ha, ea⟩, -⟩ := hts i hi
      obtain ⟨⟨d, hd, ed⟩, -⟩ := hts j hjt
      have ea' : S (321 + 3 * i + 0) = nI a := ea
      have ed' : S (321 + 3 * j + 0) = nI d := ed
      have ta : tsN S i = a := by unfold tsN; rw [ea, nI_c (by omega)]
      have td : tsN S j = d := by unfold tsN; rw [ed, nI_c (by omega)]
      have hB := apB_t (C := C) (S := S) (i := i) (j := j)
      rw [ta, td] at hB
      rw [sp_X0_proved_L25, if_neg (nI_ge (by omega) (by omega))]
      unfold sp_X16_hold
      simp only [v_f0, x_f25, x_a4 hj8, x_tl_f0 hj8 hjt, x_tl_f0 hi8 hi, ed', ea', x_is, if_true, x_meet hd ha hm hC, x_clearOf (show a < 8 by omega) (show d < 8 by omega), x_clearOf (show d < 8 by omega) (show a < 8 by omega), (hC a d ha hd).1, (hC d a hd ha).1, x_tl_is hj8, x_tl_is hi8, x_ahead ht hi hjt, x_ahead ht hjt hi, Option.bind_some, nI_1, ih (j + 1) f (by omega) (by omega)]
      by_cases h1 : C (8 * a + d) < 0
      · rw [if_pos ((hC a d ha hd).2.mp h1), if_pos rfl, pvL_t (hB.mpr (Or.inl h1))]
      · rw [if_neg (fun hh => h1 ((hC a d ha hd).2.mpr hh)), if_neg (by decide)]
        by_cases h2 : C (8 * d + a) ≤ S (321 + 3 * i + 1) - S (321 + 3 * j + 2)
        · rw [if_neg (Int32.not_lt.mpr h2), pvL_t (hB.mpr (Or.inr (Or.inl h2)))]
          rfl
        · rw [if_pos (Int32.not_le.mp h2)]
          by_cases h3 : S (321 + 3 * j + 1) - S (321 + 3 * i + 2) < C (8 * a + d)
          · rw [if_pos h3, pvL_f (show apB C S i j = false from Bool.eq_false_iff.mpr fun hh => by rcases hB.mp hh with g | g | g; exact h1 g; exact h2 g; exact g h3)]
            rfl
          · rw [if_neg h3, pvL_t (hB.mpr (Or.inr (Or.inr h3)))]
            rfl
  have key : ∀ (n i f : Nat), n + i = tolN S → n < f → sp_X0_proved_L2 G F (wh G (xo h bx c) (bx + 1) S J Q) f bx (nI i) = some (provL C S n i) := by
    intro n
    induction n with
    | zero =>
      intro i f hi hf
      obtain ⟨f, rfl⟩ : ∃ z, f = z + 1 := ⟨f - 1, by omega⟩
      rw [sp_X0_proved_L2]
      simp only [v_f0, x_f17, Option.bind_some]
      rw [if_pos (by rw [ht.2]; exact nI_le (by omega) (by omega))]
      rfl
    | succ n ih =>
      intro i f hi hf
      obtain ⟨f, rfl⟩ : ∃ z, f = z + 1 := ⟨f - 1, by omega⟩
      have en : ¬ S 18 ≤ nI i := by rw [ht.2]; exact nI_ge (by omega) (by omega)
      rw [sp_X0_proved_L2]
      simp only [v_f0, x_f17, x_f25, x_a4 (show i < 8 by omega), Option.bind_some, en, if_false]
      rw [show sp_X0_proved_L25 G F (wh G (xo h bx c) (bx + 1) S J Q) F bx (nI i) (tlA (bx + 1) i) 0 = _ from kin i (by omega) i 0 F (by omega) (by omega), Option.bind_some, provL]
      cases pvL C S i i 0
      · rfl
      · rw [if_pos rfl, nI_1]
        exact ih (i + 1) f (by omega) (by omega)
  unfold sp_X0_proved provedR
  exact key (tolN S) 0 F (by omega) (by omega)
theorem v_table {p1 : Int32} (hF : 40 ≤ F) (hm : mOk S) (hC : clOk C S J) (hdg : ∀ a, a < manyN S → C (8 * a + a) < 0) : sp_X0_table G F (wh G (xo h bx c) (bx + 1) S J Q) bx p1 = some (tableR C S p1) := by
  have h8 := hm.1
  have k1 : ∀ (u : Int32) (a : Nat), a < manyN S → ∀ z : Int32 × Int32 × Int32, sp_X0_table_L48 G F (wh G (xo h bx c) (bx + 1) S J Q) F bx p1 z.1 z.2.1 z.2.2 u (nI a) 0 = some ((itN (tbst C w2 a) (manyN S) 0 z).1, (itN (tbst C w2 a) (manyN S) 0 z).2.1, (itN (tbst C w2 a) (manyN S) 0 z).2.2) := by
    intro u a ha z
    exact it_loop (m := manyN S) (fun f d (z : Int32 × Int32 × Int32) => sp_X0_table_L48 G F (wh G (xo h bx c) (bx + 1) S J Q) f bx p1 z.1 z.2.1 z.2.2 u (nI a) (nI d)) (tbst C w2 a) (fun _ _ => True) (fun z => (z.1, z.2.1, z.2.2)) (by
      intro d f z hd _
      show sp_X0_table_L48 G F (wh G (xo h bx c) (bx + 1) S J Q) (f + 1) bx p1 z.1 z.2.1 z.2.2 u (nI a) (nI d) = _
      have en : ¬ S 13 ≤ nI d := by rw [hm.2]; exact nI_ge (by omega) (by omega)
      rw [sp_X0_table_L48]
      unfold tbst w2
      simp only [v_f0, x_f13, en, if_false, x_is, if_true, x_meet ha hd hm hC, x_clearOf (show a < 8 by omega) (show d < 8 by omega), (hC a d ha hd).1, i_max, nI_1, Option.bind_some]
      by_cases h1 : C (8 * a + d) < 0
      · rw [if_pos h1, if_pos h1, if_pos rfl]
      · rw [if_neg h1, if_neg h1, if_neg (by decide)]
        rfl) (fun _ _ _ _ => trivial) (by
      intro f z _
      show sp_X0_table_L48 G F (wh G (xo h bx c) (bx + 1) S J Q) (f + 1) bx p1 z.1 z.2.1 z.2.2 u (nI a) (nI (manyN S)) = _
      rw [sp_X0_table_L48]
      simp only [v_f0, x_f13, Option.bind_some]
      rw [if_pos (by rw [hm.2]; exact nI_le (by omega) (by omega))]) (manyN S) 0 F z (by omega) (by omega) trivial
  have k2 := it_loop (m := manyN S) (fun f a (z : (Int32 × Int32 × Int32) × Int32) => sp_X0_table_L13 G F (wh G (xo h bx c) (bx + 1) S J Q) f bx p1 z.1.1 z.1.2.1 z.1.2.2 z.2 (nI a)) (tbrow C S w2) (fun _ _ => True) (fun z => (z.1.1, z.1.2.1, z.1.2.2, z.2)) (by
    intro a f z ha _
    show sp_X0_table_L13 G F (wh G (xo h bx c) (bx + 1) S J Q) (f + 1) bx p1 z.1.1 z.1.2.1 z.1.2.2 z.2 (nI a) = _
    have en : ¬ S 13 ≤ nI a := by rw [hm.2]; exact nI_ge (by omega) (by omega)
    have ha8 : a < 8 := by omega
    rw [sp_X0_table_L13]
    unfold tbrow
    simp only [v_f0, x_f13, en, if_false, x_f22, x_a1 ha8, x_sg_is ha8, if_true, x_most ha8 ha, i_max, k1 _ a ha, nI_1, Option.bind_some]) (fun _ _ _ _ => trivial) (by
    intro f z _
    show sp_X0_table_L13 G F (wh G (xo h bx c) (bx + 1) S J Q) (f + 1) bx p1 z.1.1 z.1.2.1 z.1.2.2 z.2 (nI (manyN S)) = _
    rw [sp_X0_table_L13]
    simp only [v_f0, x_f13, Option.bind_some]
    rw [if_pos (by rw [hm.2]; exact nI_le (by omega) (by omega))]) (manyN S) 0 F ((0, 0, 0), 0) (by omega) (by omega) trivial
  obtain ⟨⟨e1, e2⟩, e3⟩ := tb_out (C := C) (S := S) (v := w2) (manyN S)
  obtain ⟨-, e4⟩ := tb_out (C := C) (S := S) (v := w1) (manyN S)
  rw [tb_two (fun a d ha hd => (hC a d ha hd).2) hdg] at e3
  have hb : sm (fun a => sm (mw C w1 a) (manyN S)) (manyN S) ≤ manyN S * (manyN S * 1) := sm_bd _ fun a _ => sm_bd _ fun d _ => by unfold mw w1; split; exact Nat.zero_le _; split; exact Nat.le_refl _; exact Nat.zero_le _
  have hb2 : manyN S * (manyN S * 1) ≤ 8 * (8 * 1) := Nat.mul_le_mul h8 (Nat.mul_le_mul h8 (Nat.le_refl 1))
  have e0 : (itN (tbrow C S w2) (manyN S) 0 ((0, 0, 0), 0)).1.1 / 2 = (itN (tbrow C S w1) (manyN S) 0 ((0, 0, 0), 0)).1.1 := by
    rw [e3, e4]
    generalize sm (fun a => sm (mw C w1 a) (manyN S)) (manyN S) = q at *
    have hq : q < 65 := by omega
    have : ∀ q, q < 65 → nI (2 * q) / 2 = nI q := by decide
    exact this q hq
  unfold sp_X0_table tableR
  rw [show sp_X0_table_L13 G F (wh G (xo h bx c) (bx + 1) S J Q) F bx p1 0 0 0 0 0 = _ from k2, Option.bind_some]
  unfold tbAll
  simp only [v_f0, x_f14, Option.bind_some, e0, ← e1, ← e2]
  by_cases h1 : inB p1 0 3
  · rw [if_neg (nn h1)]
    by_cases g0 : p1 = 0
    · rw [if_pos g0, if_pos g0]
    rw [if_neg g0, if_neg g0]
    by_cases g1 : p1 = 1
    · rw [if_pos g1, if_pos g1]
    rw [if_neg g1, if_neg g1]
    by_cases g2 : p1 = 2
    · rw [if_pos g2, if_pos g2]
    rw [if_neg g2, if_neg g2]
    obtain ⟨k, hk, rfl⟩ : ∃ k, k < 4 ∧ p1 = nI k := in_nI (m := 4) (by decide) h1
    have : k = 3 := by
      rcases (by omega : k = 0 ∨ k = 1 ∨ k = 2 ∨ k = 3) with e | e | e | e
      · exact absurd (by rw [e]; rfl) g0
      · exact absurd (by rw [e]; rfl) g1
      · exact absurd (by rw [e]; rfl) g2
      · exact e
    rw [this, if_pos (show nI 3 = 3 from rfl)]
  · have hne : ∀ k : Nat, k < 4 → ¬ p1 = nI k := fun k hk e => h1 (by rw [e]; exact ⟨nI_pos' (by omega), nI_le (b := 3) (by omega) (by decide)⟩)
    rw [if_pos h1, if_neg (show ¬ p1 = 0 from hne 0 (by decide)), if_neg (show ¬ p1 = 1 from hne 1 (by decide)), if_neg (show ¬ p1 = 2 from hne 2 (by decide)), if_neg (show ¬ p1 = 3 from hne 3 (by decide))]
end X22
