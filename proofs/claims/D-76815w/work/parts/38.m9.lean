/-! m9: what a second keeps; joins, come, draws, coming, queues, cycle, tell -/
set_option maxRecDepth 100000
def fixedK (k : Nat) : Prop := k = 1 ∨ k = 2 ∨ k = 6 ∨ (10 ≤ k ∧ k ≤ 14) ∨ (16 ≤ k ∧ k < 24) ∨ (24 ≤ k ∧ k < 216 ∧ ((k - 24) % 24 < 5 ∨ (11 ≤ (k - 24) % 24 ∧ (k - 24) % 24 < 20))) ∨ (216 ≤ k ∧ k < 234 ∧ (k - 216) % 3 < 2) ∨ 306 ≤ k
def keepS (S T : Nat → Int32) : Prop := ∀ k, fixedK k → T k = S k
theorem keep_refl {S : Nat → Int32} : keepS S S := fun _ _ => rfl
theorem keep_trans {S T U : Nat → Int32} (h1 : keepS S T) (h2 : keepS T U) : keepS S U := fun k hk => (h2 k hk).trans (h1 k hk)
theorem keep_upd {S : Nat → Int32} {k : Nat} {x : Int32} (hk : ¬ fixedK k) : keepS S (upd S k x) := fun j hj => upd_ne (fun e => hk (e ▸ hj))
theorem keep_rowOk {S T : Nat → Int32} (h : keepS S T) (ok : rowOk S) : rowOk T := by
  intro a ha
  have := ok a ha
  unfold sigOk at this ⊢
  rw [h (sA a 0) (by unfold fixedK sA; omega), h (sA a 11) (by unfold fixedK sA; omega)]
  exact this
theorem keep_tab {S T : Nat → Int32} (h : keepS S T) (ok : rowOk S) : tabEq S T := tabEq_of ok (h 1 (by unfold fixedK; omega)) (fun a w ha hw => h _ (by unfold fixedK sA; omega))
theorem keep_13 {S T : Nat → Int32} (h : keepS S T) : T 13 = S 13 := h 13 (by unfold fixedK; omega)
theorem keep_14 {S T : Nat → Int32} (h : keepS S T) : T 14 = S 14 := h 14 (by unfold fixedK; omega)
theorem keep_mT {h : gH} {b : Nat} {A : Nat → Nat → Int32} {L : Nat → Nat → Int64} {S T : Nat → Int32} (e : keepS S T) (ok : rowOk S) : mS h b (tabA A S) L T = mT h b A L T := mT_keep (keep_tab e ok)
def minI (p q : Int32) : Int32 := if q < p then q else p
def maxI (p q : Int32) : Int32 := if p < q then q else p
theorem i_min {G : gG} {F : Nat} {h : gH} {p q : Int32} : sp_J11_min G F h p q = some (minI p q) := by unfold sp_J11_min minI; split <;> rfl
theorem i_max {G : gG} {F : Nat} {h : gH} {p q : Int32} : sp_J11_max G F h p q = some (maxI p q) := by unfold sp_J11_max maxI; split <;> rfl
def lcg (s : Int32) : Int32 := (s * (1103515245 : Int32)) + (12345 : Int32)
def drawV (s n : Int32) : Int32 := (((s.toUInt32 >>> ((9 : Int32).toUInt32 &&& Int32.toUInt32 31)).toInt32) - ((s.toUInt32 >>> ((9 : Int32).toUInt32 &&& Int32.toUInt32 31)).toInt32) / n * n)
def joinsF (S : Nat → Int32) (a : Nat) (n : Int32) : Nat → Int32 := upd (upd S (sA a 5) (minI 99 (S (sA a 5) + n))) 9 (S 9 + maxI 0 ((S (sA a 5) + n) - 99))
def come1 (S : Nat → Int32) (a : Nat) : Nat → Int32 :=
  if S (sA a 4) ≤ 0 then S else if S (sA a 4) ≤ drawV (lcg (S 0)) 60 then upd S 0 (lcg (S 0)) else joinsF (upd S 0 (lcg (S 0))) a 1
def comeL : Nat → Nat → (Nat → Int32) → Nat → Int32
  | 0, _, S => S
  | n + 1, i, S => comeL n (i + 1) (come1 S i)
def seen1 (S : Nat → Int32) (a : Nat) : Nat → Int32 := if S (sA a 5) ≤ 0 then S else upd S (sA a 9) (S 3)
def seenL : Nat → Nat → (Nat → Int32) → Nat → Int32
  | 0, _, S => S
  | n + 1, i, S => seenL n (i + 1) (seen1 S i)
def comingF (S : Nat → Int32) : Nat → Int32 := seenL (manyN S) 0 (comeL (manyN S) 0 S)
theorem keep_joins {S : Nat → Int32} {a : Nat} {n : Int32} (ha : a < 8) : keepS S (joinsF S a n) := keep_trans (keep_upd (by unfold fixedK sA; omega)) (keep_upd (by unfold fixedK; omega))
theorem keep_come1 {S : Nat → Int32} {a : Nat} (ha : a < 8) : keepS S (come1 S a) := by
  unfold come1
  split
  · exact keep_refl
  · split
    · exact keep_upd (by unfold fixedK; omega)
    · exact keep_trans (keep_upd (by unfold fixedK; omega)) (keep_joins ha)
theorem keep_comeL : ∀ (n i : Nat) (S : Nat → Int32), n + i ≤ 8 → keepS S (comeL n i S) := by
  intro n
  induction n with
  | zero => intro i S _; exact keep_refl
  | succ n ih => intro i S hi; exact keep_trans (keep_come1 (by omega)) (ih (i + 1) _ (by omega))
theorem keep_seen1 {S : Nat → Int32} {a : Nat} (ha : a < 8) : keepS S (seen1 S a) := by
  unfold seen1
  split
  · exact keep_refl
  · exact keep_upd (by unfold fixedK sA; omega)
theorem keep_seenL : ∀ (n i : Nat) (S : Nat → Int32), n + i ≤ 8 → keepS S (seenL n i S) := by
  intro n
  induction n with
  | zero => intro i S _; exact keep_refl
  | succ n ih => intro i S hi; exact keep_trans (keep_seen1 (by omega)) (ih (i + 1) _ (by omega))
theorem keep_coming {S : Nat → Int32} (hm : mOk S) : keepS S (comingF S) := keep_trans (keep_comeL _ _ _ (by have := hm.1; omega)) (keep_seenL _ _ _ (by have := hm.1; omega))
def queuesL (S : Nat → Int32) : Nat → Nat → Int32 → Int32
  | 0, _, acc => acc
  | n + 1, i, acc => queuesL S n (i + 1) (acc + S (sA i 5))
def queuesV (S : Nat → Int32) : Int32 := queuesL S (manyN S) 0 0
section M9
variable {h : gH} {b : Nat} {A : Nat → Nat → Int32} {L : Nat → Nat → Int64} {S : Nat → Int32} {G : gG} {F : Nat}
theorem s_joins {a : Nat} {n : Int32} (ha : a < 8) : sp_X13_joins G F (mS h b A L S) b (nI a) n = some (joinsF S a n (sA a 5), mS h b A L (joinsF S a n)) := by
  unfold sp_X13_joins
  simp only [s_is, if_true, s_f0, Option.bind_some, s_at_0, s_at_1, s_at_2, s_at_3, s_at_4, s_at_5, s_at_6, s_at_7, s_at_8, s_at_9, s_at_10, s_at_11, s_at_12, s_at_13, s_at_14, s_at_15, s_at_16, s_at_17, s_at_18, s_at_19, s_at_20, s_at_21, s_at_22, s_at_23, s_puts_0, s_puts_1, s_puts_2, s_puts_3, s_puts_4, s_puts_5, s_puts_6, s_puts_7, s_puts_8, s_puts_9, s_puts_10, s_puts_11, s_puts_12, s_puts_13, s_puts_14, s_puts_15, s_puts_16, s_puts_17, s_puts_18, s_puts_19, s_puts_20, s_puts_21, s_puts_22, s_puts_23, ha, i_min, i_max, s_r_9, s_w_9]
  simp (disch := omega) only [sA, upd_ne, upd_eq, joinsF]
theorem s_draws {n : Int32} (hn : n ≠ 0) : sp_X13_draws G F (mS h b A L S) b n = some (drawV (lcg (S 0)) n, mS h b A L (upd S 0 (lcg (S 0)))) := by
  unfold sp_X13_draws
  simp only [s_is, if_true, s_f0, Option.bind_some, s_r_0, s_w_0, upd_eq]
  rw [if_pos hn]
  rfl
theorem come1_q (S : Nat → Int32) (i : Nat) : ∃ d q : Int32, (∀ (h : gH) (b : Nat) (A : Nat → Nat → Int32) (L : Nat → Nat → Int64) (G : gG) (F : Nat), sp_X13_draws G F (mS h b A L S) b 60 = some (d, mS h b A L (upd S 0 q))) ∧ come1 S i = if S (sA i 4) ≤ 0 then S else if S (sA i 4) ≤ d then upd S 0 q else joinsF (upd S 0 q) i 1 :=
  ⟨drawV (lcg (S 0)) 60, lcg (S 0), fun _ _ _ _ _ _ => s_draws (by decide), by unfold come1; rfl⟩
theorem s_coming_s {m i f : Nat} (h8 : m ≤ 8) (hm : S 13 = nI m) (hi : i < m) : sp_X13_coming_L2 G F (f + 1) (mS h b A L S) b (nI i) = sp_X13_coming_L2 G F f (mS h b A L (come1 S i)) b (nI (i + 1)) := by
  obtain ⟨d, q, e1, e2⟩ := come1_q S i
  rw [e2]
  have hi8 : i < 8 := by omega
  have e4 : upd S 0 q (sA i 4) = S (sA i 4) := upd_ne (by unfold sA; omega)
  have en : ¬ nI m ≤ nI i := nI_ge (by omega) (by omega)
  rw [sp_X13_coming_L2]
  simp only [s_is, if_true, s_f0, Option.bind_some, s_r_13, hm, en, if_false, s_at_4, hi8, e1, e4, s_joins, nI_1]
  by_cases h1 : S (sA i 4) ≤ 0
  · simp only [h1, if_true]
  · by_cases h2 : S (sA i 4) ≤ d
    · simp only [h1, h2, if_true, if_false]
    · simp only [h1, h2, if_false]
theorem s_coming_L2 {m : Nat} (h8 : m ≤ 8) : ∀ (n i f : Nat) (S : Nat → Int32), S 13 = nI m → n + i = m → n < f → sp_X13_coming_L2 G F f (mS h b A L S) b (nI i) = some (mS h b A L (comeL n i S)) := by
  intro n
  induction n with
  | zero =>
    intro i f S hm hi hf
    obtain ⟨f, rfl⟩ : ∃ z, f = z + 1 := ⟨f - 1, by omega⟩
    rw [sp_X13_coming_L2]
    simp only [s_is, if_true, s_f0, Option.bind_some, s_r_13, hm]
    rw [if_pos (nI_le (by omega) (by omega))]
    rfl
  | succ n ih =>
    intro i f S hm hi hf
    obtain ⟨f, rfl⟩ : ∃ z, f = z + 1 := ⟨f - 1, by omega⟩
    rw [s_coming_s h8 hm (by omega), comeL]
    exact ih (i + 1) f _ ((keep_13 (keep_come1 (by omega))).trans hm) (by omega) (by omega)
theorem s_coming_L52 {m : Nat} (h8 : m ≤ 8) : ∀ (n i f : Nat) (S : Nat → Int32), S 13 = nI m → n + i = m → n < f → sp_X13_coming_L52 G F f (mS h b A L S) b (nI i) = some (mS h b A L (seenL n i S)) := by
  intro n
  induction n with
  | zero =>
    intro i f S hm hi hf
    obtain ⟨f, rfl⟩ : ∃ z, f = z + 1 := ⟨f - 1, by omega⟩
    rw [sp_X13_coming_L52]
    simp only [s_is, if_true, s_f0, Option.bind_some, s_r_13, hm]
    rw [if_pos (nI_le (by omega) (by omega))]
    rfl
  | succ n ih =>
    intro i f S hm hi hf
    obtain ⟨f, rfl⟩ : ∃ z, f = z + 1 := ⟨f - 1, by omega⟩
    have hi8 : i < 8 := by omega
    rw [sp_X13_coming_L52]
    simp only [s_is, if_true, s_f0, Option.bind_some, s_r_13, hm]
    rw [if_neg (nI_ge (by omega) (by omega))]
    simp only [s_is, if_true, s_f0, Option.bind_some, s_at_5, s_puts_9, s_r_3, hi8, nI_1]
    rw [seenL]
    have hk := keep_13 (keep_seen1 (S := S) hi8)
    unfold seen1 at hk ⊢
    split
    · exact ih (i + 1) f _ hm (by omega) (by omega)
    · rename_i h1
      rw [if_neg h1] at hk
      exact ih (i + 1) f _ (hk.trans hm) (by omega) (by omega)
theorem s_coming (hF : 40 ≤ F) (hm : mOk S) : sp_X13_coming G F (mS h b A L S) b = some (mS h b A L (comingF S)) := by
  unfold sp_X13_coming comingF
  rw [show (0 : Int32) = nI 0 from rfl, s_coming_L2 hm.1 (manyN S) 0 F S hm.2 (by omega) (by have := hm.1; omega)]
  simp only [Option.bind_some]
  rw [s_coming_L52 hm.1 (manyN S) 0 F _ ((keep_13 (keep_comeL _ _ _ (by have := hm.1; omega))).trans hm.2) (by omega) (by have := hm.1; omega)]
  rfl
theorem t_come {p1 p2 : Int32} (ok : rowOk S) (hm : mOk S) : sp_X13_come G F (mT h b A L S) b p1 p2 = some (if ¬ inB p1 0 (S 13 - 1) then (-1, mT h b A L S) else if ¬ inB p2 1 20 then (-2, mT h b A L S)
    else (joinsF S p1.toNatClampNeg p2 (sA p1.toNatClampNeg 5), mT h b A L (joinsF S p1.toNatClampNeg p2))) := by
  unfold sp_X13_come
  unfold mT
  simp only [s_is, if_true, s_f0, Option.bind_some, s_isSignal, i_isIn, b0]
  rcases (Classical.em (inB p1 0 (S 13 - 1))).symm with h1 | h1
  · simp only [h1, not_false_eq_true, if_true]
  rcases (Classical.em (inB p2 1 20)).symm with h2 | h2
  · simp only [eq_true h1, h2, not_false_eq_true, not_true_eq_false, if_true, if_false]
  simp only [eq_true h1, eq_true h2, not_true_eq_false, if_false]
  rw [hm.2] at h1
  obtain ⟨a, ha, rfl⟩ : ∃ k, k < manyN S ∧ p1 = nI k := in_nI (by have := hm.1; omega) h1
  have ha8 : a < 8 := by have := hm.1; omega
  have ea : (nI a).toNatClampNeg = a := nI_c (by omega)
  rw [s_joins ha8, ea]
  simp only [Option.bind_some]
  rw [keep_mT (keep_joins ha8) ok]
  rfl
end M9
