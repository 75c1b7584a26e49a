/-! m24: the reference: lights, told, of, way, clear, narrow -/
set_option maxRecDepth 100000
theorem bits_loop {R : Type} (L : Nat → Nat → Int32 → Option R) (p : Nat → Bool) (k : Int32 → R) {m : Nat}
    (hs : ∀ i f s, i < m → L (f + 1) i s = L f (i + 1) (if p i = true then s ||| ((1 : Int32) <<< (nI i &&& 31)) else s ||| 0)) (he : ∀ f s, L (f + 1) m s = some (k s)) : ∀ f, m < f → L f 0 0 = some (k (bitsV p m)) := by
  have e : ∀ (n i : Nat) (acc : Int32), bitsL p n i acc = itN (fun i s => if p i = true then s ||| ((1 : Int32) <<< (nI i &&& 31)) else s ||| 0) n i acc := by
    intro n
    induction n with
    | zero => intro i acc; rfl
    | succ n ih => intro i acc; rw [bitsL, itN]; exact ih _ _
  intro f hf
  unfold bitsV
  rw [e]
  exact it_loop (m := m) L _ (fun _ _ => True) k (fun i f s hi _ => hs i f s hi) (fun _ _ _ _ => trivial) (fun f s _ => he f s) m 0 f 0 (by omega) hf trivial
def lightV (S : Nat → Int32) (a : Nat) : Int32 := if S (sA a 6) = 1 then 2 else if S (sA a 8) < 0 then 0 else if S (sA a 8) + gAmb (kindN S a) ≤ S 3 then 0 else 1
def lightsV (S : Nat → Int32) (x : Int32) : Int32 := bitsV (fun a => decide (lightV S a = x)) (manyN S)
def toldV (S : Nat → Int32) (p : Int32) : Int32 :=
  if p = 0 then S 3 else if p = 1 then S 4 else if p = 2 then S 5 else if p = 3 then S 6 else if p = 4 then S 7 else if p = 5 then S 8 else if p = 6 then S 9 else if p = 7 then lightsV S 2 else if p = 8 then lightsV S 1 else if p = 9 then calledV S
  else if p = 10 then S 0 else if p = 11 then S 1 else if p = 12 then S 10 else if p = 13 then S 11 else if p = 14 then S 12 else if p = 15 then (if S 10 = 0 then -5 else localV S) else if p = 16 then S 13 else if p = 17 then S 14 else if p = 18 then queuesV S else -1
section M24
variable {h : gH} {b : Nat} {A : Nat → Nat → Int32} {L : Nat → Nat → Int64} {S : Nat → Int32} {G : gG} {F : Nat}
theorem s_amb {a : Nat} (ha : a < 8) (ok : rowOk S) : sp_X13_amber G F (mS h b A L S) b (nI a) = some (gAmb (kindN S a)) := m_amb (A := va_up A 0 S) ha (ok a ha)
theorem s_light {a : Nat} (ha : a < 8) (ok : rowOk S) : sp_X13_light G F (mS h b A L S) b (nI a) = some (lightV S a) := by
  unfold sp_X13_light lightV
  simp only [s_is, if_true, s_f0, Option.bind_some, s_at_6 ha, s_at_8 ha, s_r_3, s_amb ha ok]
  by_cases h1 : S (sA a 6) = 1
  · rw [if_pos h1, if_pos h1]
  rw [if_neg h1, if_neg h1]
  by_cases h2 : S (sA a 8) < 0
  · rw [if_pos h2, if_pos h2]
  rw [if_neg h2, if_neg h2]
  split <;> rfl
theorem s_lights {x : Int32} (hF : 40 ≤ F) (hm : mOk S) (ok : rowOk S) : sp_X13_lights G F (mS h b A L S) b x = some (lightsV S x) := by
  have h8 := hm.1
  have key := bits_loop (fun f i s => sp_X13_lights_L4 G F (mS h b A L S) f b x s (nI i)) (fun a => decide (lightV S a = x)) (fun s => s) (m := manyN S) (by
    intro i f s hi
    show sp_X13_lights_L4 G F (mS h b A L S) (f + 1) b x s (nI i) = _
    have en : ¬ S 13 ≤ nI i := by rw [hm.2]; exact nI_ge (by omega) (by omega)
    rw [sp_X13_lights_L4]
    simp only [s_is, if_true, s_f0, Option.bind_some, s_r_13, en, if_false, s_light (show i < 8 by omega) ok, nI_1, decide_eq_true_eq]
    split <;> rfl) (by
    intro f s
    show sp_X13_lights_L4 G F (mS h b A L S) (f + 1) b x s (nI (manyN S)) = _
    rw [sp_X13_lights_L4]
    simp only [s_is, if_true, s_f0, Option.bind_some, s_r_13]
    rw [if_pos (by rw [hm.2]; exact nI_le (by omega) (by omega))]) F (by omega)
  unfold sp_X13_lights lightsV
  rw [show sp_X13_lights_L4 G F (mS h b A L S) F b x 0 0 = _ from key]
  rfl
theorem s_told {p1 : Int32} (hF : 40 ≤ F) (hm : mOk S) (hp : pOk S) (ok : rowOk S) : sp_X13_told G F (mS h b A L S) b p1 = some (toldV S p1) := by
  have e15 : (if S 10 = 0 then some (-5 : Int32) else (sp_X13_local G F (mS h b A L S) b).bind fun u51 => some u51) = some (if S 10 = 0 then -5 else localV S) := by
    by_cases h1 : S 10 = 0
    · rw [if_pos h1, if_pos h1]
    · rw [if_neg h1, if_neg h1, s_local h1]
      rfl
  unfold sp_X13_told toldV
  simp only [s_is, if_true, s_f0, Option.bind_some, s_r_0, s_r_1, s_r_2, s_r_3, s_r_4, s_r_5, s_r_6, s_r_7, s_r_8, s_r_9, s_r_10, s_r_11, s_r_12, s_r_13, s_r_14, s_r_15, s_r_16, s_r_17, s_r_18, s_r_19, s_r_20, s_lights hF hm ok, s_called hF hm hp, s_queues hF hm]
  by_cases h0 : p1 = 0
  · rw [if_pos h0, if_pos h0]
  rw [if_neg h0, if_neg h0]
  by_cases h1 : p1 = 1
  · rw [if_pos h1, if_pos h1]
  rw [if_neg h1, if_neg h1]
  by_cases h2 : p1 = 2
  · rw [if_pos h2, if_pos h2]
  rw [if_neg h2, if_neg h2]
  by_cases h3 : p1 = 3
  · rw [if_pos h3, if_pos h3]
  rw [if_neg h3, if_neg h3]
  by_cases h4 : p1 = 4
  · rw [if_pos h4, if_pos h4]
  rw [if_neg h4, if_neg h4]
  by_cases h5 : p1 = 5
  · rw [if_pos h5, if_pos h5]
  rw [if_neg h5, if_neg h5]
  by_cases h6 : p1 = 6
  · rw [if_pos h6, if_pos h6]
  rw [if_neg h6, if_neg h6]
  by_cases h7 : p1 = 7
  · rw [if_pos h7, if_pos h7]
  rw [if_neg h7, if_neg h7]
  by_cases h8 : p1 = 8
  · rw [if_pos h8, if_pos h8]
  rw [if_neg h8, if_neg h8]
  by_cases h9 : p1 = 9
  · rw [if_pos h9, if_pos h9]
  rw [if_neg h9, if_neg h9]
  by_cases h10 : p1 = 10
  · rw [if_pos h10, if_pos h10]
  rw [if_neg h10, if_neg h10]
  by_cases h11 : p1 = 11
  · rw [if_pos h11, if_pos h11]
  rw [if_neg h11, if_neg h11]
  by_cases h12 : p1 = 12
  · rw [if_pos h12, if_pos h12, h12, show (10 : Int32) + 12 - 12 = 10 by decide]
    simp only [s_r_10, Option.bind_some]
  rw [if_neg h12, if_neg h12]
  by_cases h13 : p1 = 13
  · rw [if_pos h13, if_pos h13, h13, show (10 : Int32) + 13 - 12 = 11 by decide]
    simp only [s_r_11, Option.bind_some]
  rw [if_neg h13, if_neg h13]
  by_cases h14 : p1 = 14
  · rw [if_pos h14, if_pos h14, h14, show (10 : Int32) + 14 - 12 = 12 by decide]
    simp only [s_r_12, Option.bind_some]
  rw [if_neg h14, if_neg h14]
  by_cases h15 : p1 = 15
  · rw [if_pos h15, if_pos h15]
    exact e15
  rw [if_neg h15, if_neg h15]
  by_cases h16 : p1 = 16
  · rw [if_pos h16, if_pos h16]
  rw [if_neg h16, if_neg h16]
  by_cases h17 : p1 = 17
  · rw [if_pos h17, if_pos h17]
  rw [if_neg h17, if_neg h17]
  by_cases h18 : p1 = 18
  · rw [if_pos h18, if_pos h18]
  rw [if_neg h18, if_neg h18]
def ofV (C S : Nat → Int32) (a : Nat) (p : Int32) : Int32 :=
  if p = 0 then S (sA a 0) else if p = 1 then S (sA a 1) else if p = 2 then S (sA a 2) else if p = 3 then S (sA a 3) else if p = 4 then S (sA a 4) else if p = 5 then S (sA a 5) else if p = 6 then lightV S a else if p = 7 then S (sA a 7) else if p = 8 then S (sA a 8) else if p = 9 then S (sA a 9) else if p = 10 then S (sA a 10) else if p = 11 then S (sA a 11) else if p = 12 then meetsV C S a else S (sA a 20)
def ofR (C S : Nat → Int32) (p1 p2 : Int32) : Int32 := if ¬ inB p1 0 (S 13 - 1) then -1 else if ¬ inB p2 0 13 then -1 else ofV C S p1.toNatClampNeg p2
theorem s_of {p1 p2 : Int32} (hF : 40 ≤ F) (hm : mOk S) (ok : rowOk S) : sp_X13_of G F (mS h b A L S) b p1 p2 = some (ofR (A 3) S p1 p2) := by
  unfold sp_X13_of ofR
  simp only [s_is, if_true, s_f0, Option.bind_some, s_isSignal, i_isIn, b0]
  rcases (Classical.em (inB p1 0 (S 13 - 1))).symm with h1 | h1
  · simp only [h1, not_false_eq_true, if_true]
  rcases (Classical.em (inB p2 0 13)).symm with h2 | h2
  · simp only [eq_true h1, h2, not_false_eq_true, not_true_eq_false, if_true, if_false]
  simp only [eq_true h1, eq_true h2, not_true_eq_false, if_false]
  rw [hm.2] at h1
  obtain ⟨a, ha, rfl⟩ : ∃ k, k < manyN S ∧ p1 = nI k := in_nI (by have := hm.1; omega) h1
  have ha8 : a < 8 := by have := hm.1; omega
  obtain ⟨j, hj, rfl⟩ : ∃ k, k < 14 ∧ p2 = nI k := in_nI (m := 14) (by decide) h2
  rw [nI_c (show a < 2 ^ 31 by omega)]
  simp only [s_light ha8 ok, s_at_10 ha8, s_at_11 ha8, s_at_20 ha8, s_meetsV hF ha8 hm, Option.bind_some]
  have e7 : ∀ k : Nat, 7 ≤ k → ((7 : Int32) + nI k) - 7 = nI k := fun k _ => by
    rw [show (7 : Int32) = nI 7 from rfl, nI_add, pk_sub (by omega), Nat.add_sub_cancel_left]
  match j, hj with
  | 0, _ =>
    show (sp_X13_at G F (mS h b A L S) b (nI a) (nI 0)).bind _ = _
    rw [s_atN ha8 (by decide)]
    rfl
  | 1, _ =>
    show (sp_X13_at G F (mS h b A L S) b (nI a) (nI 1)).bind _ = _
    rw [s_atN ha8 (by decide)]
    rfl
  | 2, _ =>
    show (sp_X13_at G F (mS h b A L S) b (nI a) (nI 2)).bind _ = _
    rw [s_atN ha8 (by decide)]
    rfl
  | 3, _ =>
    show (sp_X13_at G F (mS h b A L S) b (nI a) (nI 3)).bind _ = _
    rw [s_atN ha8 (by decide)]
    rfl
  | 4, _ =>
    show (sp_X13_at G F (mS h b A L S) b (nI a) (nI 4)).bind _ = _
    rw [s_atN ha8 (by decide)]
    rfl
  | 5, _ =>
    show (sp_X13_at G F (mS h b A L S) b (nI a) (nI 5)).bind _ = _
    rw [s_atN ha8 (by decide)]
    rfl
  | 6, _ => rfl
  | 7, _ =>
    show (sp_X13_at G F (mS h b A L S) b (nI a) (((7 : Int32) + nI 7) - 7)).bind _ = _
    rw [e7 7 (by omega), s_atN ha8 (by decide)]
    rfl
  | 8, _ =>
    show (sp_X13_at G F (mS h b A L S) b (nI a) (((7 : Int32) + nI 8) - 7)).bind _ = _
    rw [e7 8 (by omega), s_atN ha8 (by decide)]
    rfl
  | 9, _ =>
    show (sp_X13_at G F (mS h b A L S) b (nI a) (((7 : Int32) + nI 9) - 7)).bind _ = _
    rw [e7 9 (by omega), s_atN ha8 (by decide)]
    rfl
  | 10, _ => rfl
  | 11, _ => rfl
  | 12, _ => rfl
  | 13, _ => rfl
def wayR (S : Nat → Int32) (p1 p2 : Int32) : Int32 := if ¬ inB p1 0 (S 13 - 1) then -1 else if ¬ inB p2 0 (S (sA p1.toNatClampNeg 11) - 1) then -2 else S (sA p1.toNatClampNeg (12 + p2.toNatClampNeg))
theorem s_way {p1 p2 : Int32} (hm : mOk S) (ok : rowOk S) : sp_X13_way G F (mS h b A L S) b p1 p2 = some (wayR S p1 p2) := by
  unfold sp_X13_way wayR
  simp only [s_is, if_true, s_f0, Option.bind_some, s_isSignal, i_isIn, b0]
  rcases (Classical.em (inB p1 0 (S 13 - 1))).symm with h1 | h1
  · simp only [h1, not_false_eq_true, if_true]
  simp only [eq_true h1, not_true_eq_false, if_false]
  rw [hm.2] at h1
  obtain ⟨a, ha, rfl⟩ : ∃ k, k < manyN S ∧ p1 = nI k := in_nI (by have := hm.1; omega) h1
  have ha8 : a < 8 := by have := hm.1; omega
  rw [nI_c (show a < 2 ^ 31 by omega)]
  simp only [s_at_11 ha8, Option.bind_some]
  rcases (Classical.em (inB p2 0 (S (sA a 11) - 1))).symm with h2 | h2
  · simp only [h2, not_false_eq_true, if_true]
  simp only [eq_true h2, not_true_eq_false, if_false]
  have hc := (ok a ha8).cells
  rw [hc.2] at h2
  obtain ⟨j, hj, rfl⟩ : ∃ k, k < cellsN S a ∧ p2 = nI k := in_nI (by omega) h2
  rw [nI_c (show j < 2 ^ 31 by omega), show (12 : Int32) + nI j = nI (12 + j) from nI_add 12 j, s_atN ha8 (by omega)]
  rfl
def clearR (C S : Nat → Int32) (p1 p2 : Int32) : Int32 := if ¬ inB p1 0 (S 13 - 1) then -1 else if ¬ inB p2 0 (S 13 - 1) then -1 else C (8 * p1.toNatClampNeg + p2.toNatClampNeg)
theorem s_clear {p1 p2 : Int32} (hm : mOk S) : sp_X13_clear G F (mS h b A L S) b p1 p2 = some (clearR (A 3) S p1 p2) := by
  unfold sp_X13_clear clearR
  simp only [s_is, if_true, s_f0, Option.bind_some, s_isSignal, b0]
  rcases (Classical.em (inB p1 0 (S 13 - 1))).symm with h1 | h1
  · simp only [h1, not_false_eq_true, if_true]
  rcases (Classical.em (inB p2 0 (S 13 - 1))).symm with h2 | h2
  · simp only [eq_true h1, h2, not_false_eq_true, not_true_eq_false, if_true, if_false]
  simp only [eq_true h1, eq_true h2, not_true_eq_false, if_false]
  rw [hm.2] at h1 h2
  have h8 := hm.1
  obtain ⟨a, ha, rfl⟩ : ∃ k, k < manyN S ∧ p1 = nI k := in_nI (by omega) h1
  obtain ⟨c, hc, rfl⟩ : ∃ k, k < manyN S ∧ p2 = nI k := in_nI (by omega) h2
  rw [nI_c (show a < 2 ^ 31 by omega), nI_c (show c < 2 ^ 31 by omega)]
  simp only [s_f5, Option.bind_some, ix_8, s_c (8 * a + c) (by omega)]
theorem s_narrow {p1 p2 : Int32} (hm : mOk S) : sp_X13_narrow G F (mS h b A L S) b p1 p2 = some (clearR (A 4) S p1 p2) := by
  unfold sp_X13_narrow clearR
  simp only [s_is, if_true, s_f0, Option.bind_some, s_isSignal, b0]
  rcases (Classical.em (inB p1 0 (S 13 - 1))).symm with h1 | h1
  · simp only [h1, not_false_eq_true, if_true]
  rcases (Classical.em (inB p2 0 (S 13 - 1))).symm with h2 | h2
  · simp only [eq_true h1, h2, not_false_eq_true, not_true_eq_false, if_true, if_false]
  simp only [eq_true h1, eq_true h2, not_true_eq_false, if_false]
  rw [hm.2] at h1 h2
  have h8 := hm.1
  obtain ⟨a, ha, rfl⟩ : ∃ k, k < manyN S ∧ p1 = nI k := in_nI (by omega) h1
  obtain ⟨c, hc, rfl⟩ : ∃ k, k < manyN S ∧ p2 = nI k := in_nI (by omega) h2
  rw [nI_c (show a < 2 ^ 31 by omega), nI_c (show c < 2 ^ 31 by omega)]
  simp only [s_f6, Option.bind_some, ix_8, s_n (8 * a + c) (by omega)]
end M24
