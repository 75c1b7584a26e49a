/-! w4: the class's World: coming -/
set_option maxRecDepth 100000
theorem numOk_one {S T : Nat → Int32} {t a : Nat} (h : numOk S t) (hm : mOk S) (e3 : T 3 = S 3) (e13 : T 13 = S 13) (eo : ∀ k w, k ≠ a → k < 8 → 5 ≤ w → w ≤ 9 → T (sA k w) = S (sA k w)) (ha : a < manyN S → sgOk T t a) : numOk T t := by
  have em : manyN T = manyN S := by unfold manyN; rw [e13]
  refine ⟨e3.trans h.1, fun k hk => ?_⟩
  rw [em] at hk
  by_cases e : k = a
  · subst e; exact ha hk
  · have h8 : k < 8 := by have := hm.1; omega
    have := h.2 k hk
    unfold sgOk at this ⊢
    rw [eo k 5 e h8 (by omega) (by omega), eo k 6 e h8 (by omega) (by omega), eo k 7 e h8 (by omega) (by omega), eo k 8 e h8 (by omega) (by omega), eo k 9 e h8 (by omega) (by omega)]
    exact this
theorem numOk_lo {S : Nat → Int32} {t p : Nat} {x : Int32} (h : numOk S t) (hm : mOk S) (h3 : p ≠ 3) (h13 : p ≠ 13) (hp : p < 24 ∨ 216 ≤ p) : numOk (upd S p x) t := by
  have em : manyN (upd S p x) = manyN S := many_upd h13
  refine ⟨(upd_ne (Ne.symm h3)).trans h.1, fun k hk => ?_⟩
  rw [em] at hk
  have h8 : k < 8 := by have := hm.1; omega
  have := h.2 k hk
  unfold sgOk at this ⊢
  rw [upd_ne (by unfold sA; omega), upd_ne (by unfold sA; omega), upd_ne (by unfold sA; omega), upd_ne (by unfold sA; omega), upd_ne (by unfold sA; omega)]
  exact this
theorem i32_lt {a c : Nat} (hc : c < 2 ^ 31) (ha : a < 2 ^ 31) : (nI a < nI c) ↔ a < c := by
  constructor
  · intro h
    apply Classical.byContradiction
    intro hn
    exact absurd h (Int32.not_lt.mpr (nI_le (by omega) ha))
  · intro h; exact nI_lt h hc
theorem i32_le {a c : Nat} (hc : c < 2 ^ 31) (ha : a < 2 ^ 31) : (nI a ≤ nI c) ↔ a ≤ c := by
  constructor
  · intro h
    apply Classical.byContradiction
    intro hn
    exact absurd h (nI_ge (by omega) ha)
  · intro h; exact nI_le h hc
theorem join1 {S : Nat → Int32} {a q : Nat} (hq : q ≤ 99) (e : S (sA a 5) = nI q) : joinsF S a 1 = if (99 : Int32) ≤ S (sA a 5) then upd S 9 (S 9 + 1) else upd S (sA a 5) (S (sA a 5) + 1) := by
  have e1 : S (sA a 5) + 1 = nI (q + 1) := by rw [e, nI_1]
  have e99 : ∀ T : Nat → Int32, upd T 9 (T 9 + 0) = T := fun T => upd_same (Int32.add_zero _)
  have h9 : upd S (sA a 5) (nI (q + 1)) 9 = S 9 := upd_ne (by unfold sA; omega)
  unfold joinsF
  rw [e1, e]
  by_cases h99 : q = 99
  · subst h99
    have c1 : minI 99 (nI (99 + 1)) = nI 99 := by decide
    have c2 : maxI 0 (nI (99 + 1) - 99) = 1 := by decide
    rw [c1, c2, if_pos (show (99 : Int32) ≤ nI 99 by decide), upd_same (k := sA a 5) e.symm]
  · have c1 : minI 99 (nI (q + 1)) = nI (q + 1) := by
      unfold minI
      by_cases h : nI (q + 1) < 99
      · rw [if_pos h]
      · rw [if_neg h]
        have : ¬ q + 1 < 99 := fun hh => h ((i32_lt (c := 99) (by decide) (by omega)).mpr hh)
        rw [show q + 1 = 99 by omega]
        rfl
    have c2 : maxI 0 (nI (q + 1) - 99) = 0 := by
      have hs : (nI (q + 1) - 99).toInt = (q : Int) + 1 - 99 := by
        rw [Int32.toInt_sub, nI_toInt (by omega), show (99 : Int32).toInt = 99 by decide]
        exact Int.bmod_eq_of_le (by omega) (by omega)
      unfold maxI
      rw [if_neg]
      intro h
      rw [Int32.lt_iff_toInt_lt, hs, show (0 : Int32).toInt = 0 by decide] at h
      omega
    have hn : ¬ (99 : Int32) ≤ nI q := nI_ge (a := q) (b := 99) (by omega) (by decide)
    rw [c1, c2, if_neg hn, upd_same (k := 9)]
    rw [h9, Int32.add_zero]
theorem numOk_join {S : Nat → Int32} {t a : Nat} (h : numOk S t) (hm : mOk S) (ha : a < manyN S) : numOk (joinsF S a 1) t := by
  obtain ⟨⟨q, hq, e⟩, h2⟩ := h.2 a ha
  have h8 : a < 8 := by have := hm.1; omega
  rw [join1 hq e]
  split
  · exact numOk_lo h hm (by decide) (by decide) (by omega)
  · rename_i h99
    have hlt : q < 99 := by
      rcases Nat.lt_or_ge q 99 with hh | hh
      · exact hh
      · exact absurd (by rw [e]; exact nI_le (a := 99) hh (by omega)) h99
    refine numOk_one (a := a) h hm (upd_ne (by unfold sA; omega)) (upd_ne (by unfold sA; omega)) (fun k w hk hk8 h5 h9 => upd_ne (by unfold sA; omega)) (fun _ => ?_)
    unfold sgOk
    refine ⟨⟨q + 1, by omega, by rw [upd_eq, e, nI_1]⟩, ?_⟩
    rw [upd_ne (by unfold sA; omega), upd_ne (by unfold sA; omega), upd_ne (by unfold sA; omega), upd_ne (by unfold sA; omega)]
    exact h2
theorem numOk_come1 {S : Nat → Int32} {t a : Nat} (h : numOk S t) (hm : mOk S) (ha : a < manyN S) : numOk (come1 S a) t := by
  have h0 : ∀ x, numOk (upd S 0 x) t := fun x => numOk_lo h hm (by decide) (by decide) (by omega)
  have m0 : ∀ x, mOk (upd S 0 x) := fun x => by unfold mOk manyN at *; rw [upd_ne (by decide)]; exact hm
  have a0 : ∀ x, a < manyN (upd S 0 x) := fun x => by rw [many_upd (by decide)]; exact ha
  unfold come1
  split
  · exact h
  · split
    · exact h0 _
    · exact numOk_join (h0 _) (m0 _) (a0 _)
theorem numOk_seen1 {S : Nat → Int32} {t a : Nat} (h : numOk S t) (hm : mOk S) (ha : a < manyN S) : numOk (seen1 S a) t := by
  have h8 : a < 8 := by have := hm.1; omega
  unfold seen1
  split
  · exact h
  · refine numOk_one (a := a) h hm (upd_ne (by unfold sA; omega)) (upd_ne (by unfold sA; omega)) (fun k w hk hk8 h5 h9 => upd_ne (by unfold sA; omega)) (fun _ => ?_)
    obtain ⟨h1, h2, h3, h4, h5, h6⟩ := h.2 a ha
    unfold sgOk
    rw [upd_ne (by unfold sA; omega), upd_ne (by unfold sA; omega), upd_ne (by unfold sA; omega), upd_ne (by unfold sA; omega), upd_eq]
    exact ⟨h1, h2, h3, h4, Or.inr ⟨t, Nat.le_refl t, h.1⟩, h6⟩
theorem numOk_comeL {t m : Nat} : ∀ (n i : Nat) (S : Nat → Int32), numOk S t → mOk S → manyN S = m → n + i = m → numOk (comeL n i S) t := by
  intro n
  induction n with
  | zero => intro i S h _ _ _; exact h
  | succ n ih =>
    intro i S h hm em hi
    have h8 := hm.1
    have hk := keep_come1 (S := S) (a := i) (by omega)
    exact ih (i + 1) _ (numOk_come1 h hm (by omega)) (mOk_keep hk hm) (by unfold manyN at *; rw [keep_13 hk]; exact em) (by omega)
theorem numOk_seenL {t m : Nat} : ∀ (n i : Nat) (S : Nat → Int32), numOk S t → mOk S → manyN S = m → n + i = m → numOk (seenL n i S) t := by
  intro n
  induction n with
  | zero => intro i S h _ _ _; exact h
  | succ n ih =>
    intro i S h hm em hi
    have h8 := hm.1
    have hk := keep_seen1 (S := S) (a := i) (by omega)
    exact ih (i + 1) _ (numOk_seen1 h hm (by omega)) (mOk_keep hk hm) (by unfold manyN at *; rw [keep_13 hk]; exact em) (by omega)
theorem many_keep {S T : Nat → Int32} (hk : keepS S T) : manyN T = manyN S := by unfold manyN; rw [keep_13 hk]
theorem numOk_coming {S : Nat → Int32} {t : Nat} (h : numOk S t) (hm : mOk S) : numOk (comingF S) t := by
  have h8 := hm.1
  have hk := keep_comeL (manyN S) 0 S (by omega)
  exact numOk_seenL _ _ _ (numOk_comeL _ _ _ h hm rfl (by omega)) (mOk_keep hk hm) (many_keep hk) (by omega)
/-- one comes at a, then it is seen: the order of two signals does not matter -/
theorem come1_e (S : Nat → Int32) (i : Nat) : ∃ d q : Int32, ∀ T : Nat → Int32, T 0 = S 0 → come1 T i = if T (sA i 4) ≤ 0 then T else if T (sA i 4) ≤ d then upd T 0 q else joinsF (upd T 0 q) i 1 :=
  ⟨drawV (lcg (S 0)) 60, lcg (S 0), fun T e => by unfold come1; rw [e]⟩
theorem upd_comm {S : Nat → Int32} {p q : Nat} {x y : Int32} (h : p ≠ q) : upd (upd S p x) q y = upd (upd S q y) p x := by
  funext j
  unfold upd
  by_cases h1 : j = q
  · rw [if_pos h1, if_neg (by omega), if_pos h1]
  · rw [if_neg h1]
    by_cases h2 : j = p
    · rw [if_pos h2, if_pos h2]
    · rw [if_neg h2, if_neg h2, if_neg h1]
theorem joins_seen {S : Nat → Int32} {i j : Nat} {x n : Int32} (hij : i ≠ j) (hj : j < 8) : joinsF (upd S (sA i 9) x) j n = upd (joinsF S j n) (sA i 9) x := by
  have e5 : upd S (sA i 9) x (sA j 5) = S (sA j 5) := upd_ne (by unfold sA; omega)
  have e9 : upd S (sA i 9) x 9 = S 9 := upd_ne (by unfold sA; omega)
  unfold joinsF
  rw [e5, e9, upd_comm (p := sA i 9) (q := sA j 5) (by unfold sA; omega), upd_comm (p := sA i 9) (q := 9) (by unfold sA; omega)]
theorem joins_ne {S : Nat → Int32} {j p : Nat} {n : Int32} (h5 : p ≠ sA j 5) (h9 : p ≠ 9) : joinsF S j n p = S p := by
  unfold joinsF
  rw [upd_ne h9, upd_ne h5]
theorem come_seen {S : Nat → Int32} {i j : Nat} (hij : i ≠ j) (hi : i < 8) (hj : j < 8) : come1 (seen1 S i) j = seen1 (come1 S j) i := by
  obtain ⟨d, q, e⟩ := come1_e S j
  have e0 : seen1 S i 0 = S 0 := by
    unfold seen1
    split
    · rfl
    · exact upd_ne (by unfold sA; omega)
  rw [e (seen1 S i) e0, e S rfl]
  unfold seen1
  by_cases h5 : S (sA i 5) ≤ 0
  · rw [if_pos h5]
    by_cases h4 : S (sA j 4) ≤ 0
    · rw [if_pos h4, if_pos h5]
    · rw [if_neg h4]
      by_cases hd : S (sA j 4) ≤ d
      · rw [if_pos hd, upd_ne (by unfold sA; omega), if_pos h5]
      · rw [if_neg hd, joins_ne (by unfold sA; omega) (by unfold sA; omega), upd_ne (by unfold sA; omega), if_pos h5]
  · rw [if_neg h5, upd_ne (j := sA j 4) (by unfold sA; omega)]
    by_cases h4 : S (sA j 4) ≤ 0
    · rw [if_pos h4, if_pos h4, if_neg h5]
    · rw [if_neg h4, if_neg h4]
      by_cases hd : S (sA j 4) ≤ d
      · rw [if_pos hd, if_pos hd, upd_ne (j := sA i 5) (by unfold sA; omega), if_neg h5, upd_ne (j := 3) (by omega), upd_comm (by unfold sA; omega)]
      · rw [if_neg hd, if_neg hd, joins_ne (p := sA i 5) (by unfold sA; omega) (by unfold sA; omega), upd_ne (j := sA i 5) (by unfold sA; omega), if_neg h5, joins_ne (p := 3) (by unfold sA; omega) (by omega), upd_ne (j := 3) (by omega), upd_comm (p := sA i 9) (q := 0) (by unfold sA; omega), joins_seen hij hj]
theorem comeL_seen {i : Nat} (hi : i < 8) : ∀ (n j : Nat) (S : Nat → Int32), i < j → n + j ≤ 8 → comeL n j (seen1 S i) = seen1 (comeL n j S) i := by
  intro n
  induction n with
  | zero => intro j S _ _; rfl
  | succ n ih =>
    intro j S hij hj
    rw [comeL, comeL, come_seen (by omega) hi (by omega)]
    exact ih (j + 1) _ (by omega) (by omega)
theorem fuse_coming : ∀ (n i : Nat) (S : Nat → Int32), n + i ≤ 8 → itN (fun i s => seen1 (come1 s i) i) n i S = seenL n i (comeL n i S) := by
  intro n
  induction n with
  | zero => intro i S _; rfl
  | succ n ih =>
    intro i S hi
    rw [itN, ih (i + 1) _ (by omega), comeL_seen (by omega) _ _ _ (by omega) (by omega), comeL, seenL]
section W4
variable {G : gG} {h : gH} {b : Nat} {S : Nat → Int32} {J : Nat → Nat → Int32} {Q : Nat → Nat → Int64} {F : Nat}
theorem come1_x (S : Nat → Int32) (i : Nat) (hr : rtN J < 24) : ∃ d q : Int32, (∀ (h : gH) (Q : Nat → Nat → Int64), sp_X1_draw G F (wh G h b S J Q) b 60 = some (d, wh G h b (upd S 0 q) J Q)) ∧ come1 S i = if S (sA i 4) ≤ 0 then S else if S (sA i 4) ≤ d then upd S 0 q else joinsF (upd S 0 q) i 1 :=
  ⟨drawV (lcg (S 0)) 60, lcg (S 0), fun _ _ => x_draw hr (by decide), by unfold come1; rfl⟩
theorem x_seen_k {j f : Nat} {T : Nat → Int32} (hr : rtN J < 24) (hj : j < 8) (hm : j < manyN T) (k : gH → Option gH) : ((gGi 2 (wh G h b T J Q) (sg b j) 5).bind fun x320 => if x320 ≤ 0 then k (wh G h b T J Q) else (gGi 1 (wh G h b T J Q) b 1).bind fun x322 => (gPv 2 (wh G h b T J Q) (sg b j) 9 (.int x322)).bind fun h323 => k h323) = k (wh G h b (seen1 T j) J Q) := by
  simp only [x_is, if_true, Option.bind_some, x_sg_f5 hj hm, x_f1, x_sg_p9 _ hr hj hm]
  unfold seen1
  by_cases h1 : T (sA j 5) ≤ 0
  · rw [if_pos h1, if_pos h1]
  · rw [if_neg h1, if_neg h1]
theorem x_coming_s {t i f : Nat} (hr : rtN J < 24) (hm : mOk S) (hn : numOk S t) (hi : i < manyN S) : sp_X1_coming_L2 G F (f + 1) (wh G h b S J Q) b (nI i) = sp_X1_coming_L2 G F f (wh G h b (seen1 (come1 S i) i) J Q) b (nI (i + 1)) := by
  have h8 := hm.1
  have hi8 : i < 8 := by omega
  have en : ¬ S 13 ≤ nI i := by rw [hm.2]; exact nI_ge (by omega) (by omega)
  obtain ⟨d, q, e1, e2⟩ := come1_x (G := G) (F := F) (b := b) (J := J) S i hr
  have hi0 : i < manyN (upd S 0 q) := by rw [many_upd (by decide)]; exact hi
  have hiC : i < manyN (come1 S i) := by unfold manyN; rw [keep_13 (keep_come1 hi8)]; exact hi
  have e4 : upd S 0 q (sA i 4) = S (sA i 4) := upd_ne (by unfold sA; omega)
  have e5 : upd S 0 q (sA i 5) = S (sA i 5) := upd_ne (by unfold sA; omega)
  obtain ⟨⟨z, hz, ez⟩, -⟩ := hn.2 i hi
  have hj := join1 (S := upd S 0 q) (a := i) hz (by rw [e5]; exact ez)
  rw [e5] at hj
  rw [← x_seen_k (G := G) (h := h) (b := b) (Q := Q) (f := f) hr hi8 hiC (fun H => sp_X1_coming_L2 G F f H b (nI (i + 1)))]
  rw [e2, hj]
  rw [sp_X1_coming_L2]
  simp only [x_is, if_true, Option.bind_some, x_f13, en, if_false, x_f22, x_a1 hi8, x_sg_is hi8, x_rate hi8 hi, x_rate hi8 hi0, e1, e4, e5, x_sg_f5 hi8 hi0, x_f7, x_p7 _ hr, sp_X2_comes, x_sg_p5 _ hr hi8 hi0, nI_1]
  by_cases h1 : S (sA i 4) ≤ 0
  · simp only [h1, if_true, Option.bind_some]
  · by_cases h2 : S (sA i 4) ≤ d
    · simp only [h1, h2, if_true, if_false, Option.bind_some]
    · by_cases h3 : (99 : Int32) ≤ S (sA i 5)
      · simp only [h1, h2, h3, if_true, if_false, Option.bind_some]
      · simp only [h1, h2, h3, if_false, Option.bind_some]
theorem x_coming {t : Nat} (hF : 40 ≤ F) (hr : rtN J < 24) (hm : mOk S) (hn : numOk S t) : sp_X1_coming G F (wh G h b S J Q) b = some (wh G h b (comingF S) J Q) := by
  have h8 := hm.1
  have key := it_loop (m := manyN S) (fun f i s => sp_X1_coming_L2 G F f (wh G h b s J Q) b (nI i)) (fun i s => seen1 (come1 s i) i) (fun _ s => mOk s ∧ manyN s = manyN S ∧ numOk s t) (fun s => wh G h b s J Q) (by
    intro i f s hi hs
    exact x_coming_s hr hs.1 hs.2.2 (by rw [hs.2.1]; exact hi)) (by
    intro i s hi hs
    have k1 := keep_come1 (S := s) (a := i) (by omega)
    have k2 := keep_seen1 (S := come1 s i) (a := i) (by omega)
    have m1 : manyN (come1 s i) = manyN S := by unfold manyN at *; rw [keep_13 k1]; exact hs.2.1
    refine ⟨mOk_keep k2 (mOk_keep k1 hs.1), by unfold manyN at *; rw [keep_13 k2]; exact m1, numOk_seen1 (numOk_come1 hs.2.2 hs.1 (by rw [hs.2.1]; exact hi)) (mOk_keep k1 hs.1) (by rw [m1]; exact hi)⟩) (by
    intro f s hs
    show sp_X1_coming_L2 G F (f + 1) (wh G h b s J Q) b (nI (manyN S)) = _
    rw [sp_X1_coming_L2]
    simp only [x_is, if_true, Option.bind_some, x_f13]
    rw [if_pos (by rw [hs.1.2, hs.2.1]; exact nI_le (by omega) (by omega))]) (manyN S) 0 F S (by omega) (by omega) ⟨hm, rfl, hn⟩
  unfold sp_X1_coming comingF
  rw [show sp_X1_coming_L2 G F F (wh G h b S J Q) b 0 = some (wh G h b (itN (fun i s => seen1 (come1 s i) i) (manyN S) 0 S) J Q) from key, fuse_coming _ _ _ (by omega)]
  rfl
end W4
