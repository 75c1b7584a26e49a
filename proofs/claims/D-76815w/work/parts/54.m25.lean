/-! m25: the reference in thought: thinks, forgets, counts, pass, would, turns -/
set_option maxRecDepth 100000
def cp (f g : Nat → Int32) : Nat → Int32 := fun j => if j < 372 then f j else g j
theorem cp_same {S T : Nat → Int32} (h : ∀ k, 372 ≤ k → T k = S k) : cp S T = S := by
  funext j
  unfold cp
  split
  · rfl
  · exact h j (by omega)
def cpN (f g : Nat → Int32) (n : Nat) : Nat → Int32 := fun j => if j < n then f j else g j
theorem cpN_0 {f g : Nat → Int32} : cpN f g 0 = g := by
  funext j
  exact if_neg (by omega)
theorem cpN_s {f g : Nat → Int32} {n : Nat} : upd (cpN f g n) n (f n) = cpN f g (n + 1) := by
  funext j
  unfold upd cpN
  by_cases h : j = n
  · rw [if_pos h, if_pos (by omega), h]
  · rw [if_neg h]
    by_cases h2 : j < n
    · rw [if_pos h2, if_pos (by omega)]
    · rw [if_neg h2, if_neg (by omega)]
theorem mu_up {A : Nat → Nat → Int32} {q j : Nat} {f : Nat → Int32} {x : Int32} : mu (va_up A q f) q j x = va_up A q (upd f j x) := by
  funext i' j'
  unfold mu va_up upd
  by_cases hi : i' = q
  · rw [if_pos hi, if_pos hi]
    by_cases hj : j' = j
    · rw [if_pos ⟨hi, hj⟩, if_pos hj]
    · rw [if_neg (fun hh => hj hh.2), if_neg hj]
  · rw [if_neg (fun hh => hi hh.1), if_neg hi, if_neg hi]
theorem va_up_same {A : Nat → Nat → Int32} {q : Nat} : va_up A q (A q) = A := by
  funext i
  unfold va_up
  split
  · rename_i e; rw [e]
  · rfl
theorem va_up_comm {A : Nat → Nat → Int32} {p q : Nat} {f g : Nat → Int32} (h : p ≠ q) : va_up (va_up A p f) q g = va_up (va_up A q g) p f := by
  funext i
  unfold va_up
  by_cases h1 : i = q
  · rw [if_pos h1, if_neg (by omega), if_pos h1]
  · rw [if_neg h1]
    by_cases h2 : i = p
    · rw [if_pos h2, if_pos h2]
    · rw [if_neg h2, if_neg h2, if_neg h1]
theorem va_up_up {A : Nat → Nat → Int32} {p : Nat} {f g : Nat → Int32} : va_up (va_up A p f) p g = va_up A p g := by
  funext i
  unfold va_up
  split <;> rfl
theorem rowOk_keep' {S T : Nat → Int32} (hk : keepS S T) (h : rowOk S) : rowOk T := by
  intro a ha
  have := h a ha
  unfold sigOk at this ⊢
  rw [hk (sA a 0) (by unfold fixedK sA; omega), hk (sA a 11) (by unfold fixedK sA; omega)]
  exact this
section M25
variable {h : gH} {b : Nat} {A : Nat → Nat → Int32} {L : Nat → Nat → Int64} {S : Nat → Int32} {G : gG} {F : Nat}
theorem mh_n3 {r : Nat} (hr : r < 3) : gAn 0 (mh h b A L) (b + 1 + r) = some 372 := by
  match r, hr with
  | 0, _ => simp [gAn, mh]
  | 1, _ => simp [gAn, mh, Nat.add_assoc]
  | 2, _ => simp [gAn, mh, Nat.add_assoc]
theorem mh_g3 {r i : Nat} (hr : r < 3) (hi : i < 372) : gAi 0 (mh h b A L) (b + 1 + r) (nI i) = some (A r i) := by
  have e := gin_nI hi (by decide)
  have c : (nI i).toNatClampNeg = i := nI_c (by omega)
  match r, hr with
  | 0, _ => rw [show b + 1 + 0 = b + 1 from rfl, mh_a0, if_pos e, c]
  | 1, _ => rw [show b + 1 + 1 = b + 2 from rfl, mh_a1, if_pos e, c]
  | 2, _ => rw [show b + 1 + 2 = b + 3 from rfl, mh_a2, if_pos e, c]
theorem mh_p3' {r i : Nat} {x : Int32} (hr : r < 3) (hi : i < 372) : gSi (mh h b A L) (b + 1 + r) (nI i) x = some (mh h b (mu A r i x) L) := by
  have e := gin_nI hi (by decide)
  have c : (nI i).toNatClampNeg = i := nI_c (by omega)
  match r, hr with
  | 0, _ => rw [show b + 1 + 0 = b + 1 from rfl, mh_s0, if_pos e, c]
  | 1, _ => rw [show b + 1 + 1 = b + 2 from rfl, mh_s1, if_pos e, c]
  | 2, _ => rw [show b + 1 + 2 = b + 3 from rfl, mh_s2, if_pos e, c]
theorem m_copies {r q : Nat} (hF : 373 < F) (hr : r < 3) (hq : q < 3) (hne : r ≠ q) : sp_X13_copies G F (mh h b A L) (b + 1 + r) (b + 1 + q) = some (mh h b (va_up A q (cp (A r) (A q))) L) := by
  have key : ∀ (n i f : Nat), n + i = 372 → n < f → sp_X13_copies_L2 G F f (mh h b (va_up A q (cpN (A r) (A q) i)) L) (b + 1 + r) (b + 1 + q) (nI i) = some (mh h b (va_up A q (cp (A r) (A q))) L) := by
    intro n
    induction n with
    | zero =>
      intro i f hi hf
      obtain ⟨f, rfl⟩ : ∃ z, f = z + 1 := ⟨f - 1, by omega⟩
      obtain rfl : i = 372 := by omega
      rw [sp_X13_copies_L2]
      simp only [mh_n3 hr, Option.bind_some]
      rw [if_pos (by decide)]
      rfl
    | succ n ih =>
      intro i f hi hf
      obtain ⟨f, rfl⟩ : ∃ z, f = z + 1 := ⟨f - 1, by omega⟩
      have en : ¬ (372 : Int32) ≤ nI i := nI_ge (b := 372) (by omega) (by decide)
      have er : va_up A q (cpN (A r) (A q) i) r = A r := if_neg hne
      rw [sp_X13_copies_L2]
      simp only [mh_n3 hr, Option.bind_some, en, if_false, mh_g3 hr (show i < 372 by omega), mh_p3' hq (show i < 372 by omega), mu_up, er, cpN_s, nI_1]
      exact ih (i + 1) f (by omega) (by omega)
  have k0 := key 372 0 F (by omega) (by omega)
  rw [cpN_0, va_up_same] at k0
  unfold sp_X13_copies
  rw [show sp_X13_copies_L2 G F F (mh h b A L) (b + 1 + r) (b + 1 + q) 0 = _ from k0]
  rfl
theorem s_f2 : gGr 11 (mS h b A L S) b 2 = some (b + 3) := mh_f2
theorem s_f1 : gGr 11 (mS h b A L S) b 1 = some (b + 2) := mh_f1
theorem s_thinks (hF : 373 < F) : sp_X13_thinks G F (mS h b A L S) b = some (mS h b (va_up A 2 (cp S (A 2))) L S) := by
  unfold sp_X13_thinks
  simp only [s_f0, s_f2, Option.bind_some]
  unfold mS
  rw [m_copies (r := 0) (q := 2) hF (by decide) (by decide) (by decide), va_up_comm (by decide)]
  rfl
theorem s_forgets (hF : 373 < F) : sp_X13_forgets G F (mS h b A L S) b = some (mS h b A L (cp (A 2) S)) := by
  unfold sp_X13_forgets
  simp only [s_f0, s_f2, Option.bind_some]
  unfold mS
  rw [m_copies (r := 2) (q := 0) hF (by decide) (by decide) (by decide), va_up_up]
  rfl
/-- what was thought is forgotten -/
theorem s_forget {T : Nat → Int32} (hF : 373 < F) (hk : ∀ k, 372 ≤ k → T k = S k) : sp_X13_forgets G F (mS h b (va_up A 2 (cp S (A 2))) L T) b = some (mS h b (va_up A 2 (cp S (A 2))) L S) := by
  rw [s_forgets hF]
  have e : cp (va_up A 2 (cp S (A 2)) 2) T = S := by
    have e2 : va_up A 2 (cp S (A 2)) 2 = cp S (A 2) := if_pos rfl
    rw [e2]
    funext j
    unfold cp
    by_cases hj : j < 372
    · rw [if_pos hj, if_pos hj]
    · rw [if_neg hj, hk j (by omega)]
  rw [e]
theorem s_f4 : gGi 11 (mS h b A L S) b 4 = some (A 9 1) := by
  unfold mS
  rw [mh_f4]
  rfl
theorem s_p4 (x : Int32) : gPv 11 (mS h b A L S) b 4 (.int x) = some (mS h b (mu A 9 1 x) L S) := by
  unfold mS
  rw [mh_p4]
  congr 2
  funext i j
  unfold mu va_up
  by_cases hi : i = 0
  · rw [if_neg (fun hh => by omega), if_pos hi, if_pos hi]
  · rw [if_neg hi, if_neg hi]
/-- n seconds more are counted -/
def cntA (A : Nat → Nat → Int32) (n : Int32) : Nat → Nat → Int32 := if A 9 1 + n ≤ 12000 then mu A 9 1 (A 9 1 + n) else A
theorem s_counts {n : Int32} : sp_X13_counts G F (mS h b A L S) b n = some (if A 9 1 + n ≤ 12000 then 1 else 0, mS h b (cntA A n) L S) := by
  unfold sp_X13_counts cntA
  simp only [s_f4, s_p4, Option.bind_some]
  by_cases h1 : A 9 1 + n ≤ 12000
  · rw [if_pos h1, if_pos h1, if_pos h1]
  · rw [if_neg h1, if_neg h1, if_neg h1]
theorem cntA_3 {n : Int32} : cntA A n 3 = A 3 := by
  unfold cntA
  split
  · funext j
    exact if_neg (fun hh => by omega)
  · rfl
theorem cntA_2 {n : Int32} : cntA A n 2 = A 2 := by
  unfold cntA
  split
  · funext j
    exact if_neg (fun hh => by omega)
  · rfl
/-- the mind's row -/
def mindA (A : Nat → Nat → Int32) (S : Nat → Int32) : Nat → Nat → Int32 := va_up A 2 (cp S (A 2))
/-- but for the mind's row and what is counted, A' is A -/
def mR (A A' : Nat → Nat → Int32) (c : Int32) : Prop := ∀ i j, i ≠ 2 → A' i j = if i = 9 ∧ j = 1 then c else A i j
def cntV (c n : Int32) : Int32 := if c + n ≤ 12000 then c + n else c
theorem mR_refl : mR A A (A 9 1) := by
  intro i j _
  split
  · rename_i e; rw [e.1, e.2]
  · rfl
theorem mR_cnt {n : Int32} : mR A (cntA A n) (cntV (A 9 1) n) := by
  unfold cntA cntV
  split
  · intro i j _; rfl
  · exact mR_refl
theorem mR_mind {A' : Nat → Nat → Int32} {c : Int32} (hh : mR A A' c) : mR A (mindA A' S) c := by
  intro i j hi
  have : mindA A' S i j = A' i j := by unfold mindA va_up; rw [if_neg hi]
  rw [this, hh i j hi]
theorem mR_3 {A' : Nat → Nat → Int32} {c : Int32} (hh : mR A A' c) : A' 3 = A 3 := by
  funext j
  rw [hh 3 j (by decide), if_neg (by omega)]
theorem mR_trans {A' A'' : Nat → Nat → Int32} {c d : Int32} (h1 : mR A A' c) (h2 : mR A' A'' d) : mR A A'' d := by
  intro i j hi
  rw [h2 i j hi]
  split
  · rfl
  · rename_i e; rw [h1 i j hi, if_neg e]
theorem keep_372 {T : Nat → Int32} (hk : keepS S T) : ∀ k, 372 ≤ k → T k = S k := fun k hh => hk k (by unfold fixedK; omega)
/-- answer, what is counted, the row -/
def passR (C S : Nat → Int32) (c p1 : Int32) : Int32 × Int32 × (Nat → Int32) :=
  if ¬ inB p1 0 99 then (-2, c, S) else if S 2 = 0 then (-3, c, S) else if ¬ c + p1 ≤ 12000 then (-4, c, S) else (passF C p1.toNatClampNeg S 8 - S 8, c + p1, passF C p1.toNatClampNeg S)
theorem cnt_y {c n : Int32} (hc : c + n ≤ 12000) : cntV c n = c + n := if_pos hc
theorem cnt_n {c n : Int32} (hc : ¬ c + n ≤ 12000) : cntV c n = c := if_neg hc
theorem s_pass {p1 : Int32} (hF : 400 ≤ F) (hS : ¬ S 2 = 0 → secOk S) : ∃ A', sp_X13_pass G F (mS h b A L S) b p1 = some ((passR (A 3) S (A 9 1) p1).1, mS h b A' L (passR (A 3) S (A 9 1) p1).2.2) ∧ mR A A' (passR (A 3) S (A 9 1) p1).2.1 := by
  unfold sp_X13_pass passR
  simp only [i_isIn, Option.bind_some, b0]
  rcases (Classical.em (inB p1 0 99)).symm with h1 | h1
  · exact ⟨A, by simp only [h1, not_false_eq_true, if_true], by simp only [h1, not_false_eq_true, if_true]; exact mR_refl⟩
  simp only [eq_true h1, not_true_eq_false, if_false, s_is, if_true, s_f0, Option.bind_some, s_r_2]
  by_cases h2 : S 2 = 0
  · exact ⟨A, by simp only [h2, if_true], by simp only [h2, if_true]; exact mR_refl⟩
  obtain ⟨n, hn, rfl⟩ : ∃ k, k < 100 ∧ p1 = nI k := in_nI (m := 100) (by decide) h1
  have hc := mR_cnt (A := A) (n := nI n)
  refine ⟨cntA A (nI n), ?_⟩
  simp only [h2, if_false, s_counts, b0, Option.bind_some, s_r_8, s_passes (show 100 ≤ F by omega) (show n < F by omega) (show n < 2 ^ 31 by omega) (hS h2), cntA_3, nI_c (show n < 2 ^ 31 by omega), s_is, if_true, s_f0, Option.bind_some]
  by_cases h3 : A 9 1 + nI n ≤ 12000
  · have h3' : ¬ ¬ A 9 1 + nI n ≤ 12000 := fun hh => hh h3
    rw [cnt_y h3] at hc
    simp only [h3', if_false]
    exact ⟨by first | rfl | trivial, hc⟩
  · rw [cnt_n h3] at hc
    simp only [h3, not_false_eq_true, if_true]
    exact ⟨by first | rfl | trivial, hc⟩
def wouldR (C S : Nat → Int32) (c p1 p2 : Int32) : Int32 × Int32 :=
  if ¬ inB p2 0 18 then (-1, c) else if ¬ inB p1 0 99 then (-2, c) else if S 2 = 0 then (-3, c) else if ¬ c + p1 ≤ 12000 then (-4, c) else (toldV (passF C p1.toNatClampNeg S) p2, c + p1)
theorem s_would {p1 p2 : Int32} (hF : 400 ≤ F) (ok : rowOk S) (hS : ¬ S 2 = 0 → secOk S) : ∃ A', sp_X13_would G F (mS h b A L S) b p1 p2 = some ((wouldR (A 3) S (A 9 1) p1 p2).1, mS h b A' L S) ∧ mR A A' (wouldR (A 3) S (A 9 1) p1 p2).2 := by
  unfold sp_X13_would wouldR
  simp only [i_isIn, Option.bind_some, b0]
  rcases (Classical.em (inB p2 0 18)).symm with h0 | h0
  · exact ⟨A, by simp only [h0, not_false_eq_true, if_true], by simp only [h0, not_false_eq_true, if_true]; exact mR_refl⟩
  rcases (Classical.em (inB p1 0 99)).symm with h1 | h1
  · exact ⟨A, by simp only [eq_true h0, h1, not_false_eq_true, not_true_eq_false, if_false, if_true], by simp only [eq_true h0, h1, not_false_eq_true, not_true_eq_false, if_false, if_true]; exact mR_refl⟩
  simp only [eq_true h0, eq_true h1, not_true_eq_false, if_false, s_is, if_true, s_f0, Option.bind_some, s_r_2]
  by_cases h2 : S 2 = 0
  · exact ⟨A, by simp only [h2, if_true], by simp only [h2, if_true]; exact mR_refl⟩
  obtain ⟨n, hn, rfl⟩ : ∃ k, k < 100 ∧ p1 = nI k := in_nI (m := 100) (by decide) h1
  have hs := hS h2
  have hp := secOk_pass (C := A 3) (n := n) hs
  have hc := mR_cnt (A := A) (n := nI n)
  have hm3 : va_up (cntA A (nI n)) 2 (cp S (cntA A (nI n) 2)) 3 = A 3 := cntA_3
  simp only [h2, if_false, s_counts, b0, Option.bind_some, s_is, if_true, s_f0, Option.bind_some, s_thinks (show 373 < F by omega), s_passes (show 100 ≤ F by omega) (show n < F by omega) (show n < 2 ^ 31 by omega) hs, hm3, s_told (show 40 ≤ F by omega) hp.1.1 hp.1.2.1 (rowOk_keep' hp.2 ok), s_forget (show 373 < F by omega) (keep_372 hp.2), nI_c (show n < 2 ^ 31 by omega)]
  by_cases h3 : A 9 1 + nI n ≤ 12000
  · have h3' : ¬ ¬ A 9 1 + nI n ≤ 12000 := fun hh => hh h3
    rw [cnt_y h3] at hc
    refine ⟨mindA (cntA A (nI n)) S, ?_⟩
    simp only [h3', if_false]
    exact ⟨by first | rfl | trivial, mR_mind hc⟩
  · rw [cnt_n h3] at hc
    refine ⟨cntA A (nI n), ?_⟩
    simp only [h3, not_false_eq_true, if_true]
    exact ⟨by first | rfl | trivial, hc⟩
/-- the first of n seconds in which a is green behind turning -/
def trL (C : Nat → Int32) (a : Nat) : Nat → (Nat → Int32) → Int32
  | 0, _ => -5
  | n + 1, s => if turnsF C s (sA a 6) = 1 then turnsF C s 3 else trL C a n (secF C s)
def turnsR (C S : Nat → Int32) (c p1 p2 : Int32) : Int32 × Int32 :=
  if ¬ inB p1 0 (S 13 - 1) then (-1, c) else if ¬ inB p2 0 99 then (-2, c) else if S 2 = 0 then (-3, c) else if ¬ c + p2 ≤ 12000 then (-4, c) else (trL C p1.toNatClampNeg p2.toNatClampNeg S, c + p2)
theorem sec_lo {C : Nat → Int32} : secF C S = endsF (turnsF C S) := rfl
theorem turns_3 {C : Nat → Int32} (hS : secOk S) : turnsF C S 3 = S 3 := by
  have h1 := secOk_coming hS
  have e1 : comingF S 3 = S 3 := ku_coming hS.1 3 (by unfold freeK; omega)
  have e2 : midF (comingF S) 3 = comingF S 3 := by
    have hc : ∀ (T : Nat → Int32) (p : Nat), changesF T p 3 = T 3 := fun T p => changesF_lo (by decide) (by decide) (by decide)
    have u5 : upd (comingF S) 5 (-5) 3 = comingF S 3 := upd_ne (by decide)
    have c5 : cutF (comingF S) 3 = comingF S 3 := by
      unfold cutF
      split
      · rfl
      · exact upd_ne (by decide)
    unfold midF
    split
    · unfold byCallsF
      repeat' split
      all_goals first | rfl | (rw [hc]; exact u5)
    · unfold byEmF
      split
      · rfl
      · rw [hc]; exact c5
  have e3 : turnsF C S 3 = midF (comingF S) 3 := ku_turnL _ 0 _ (by have := (secOk_mid h1).1.1; omega) 3 (by unfold freeK; omega)
  rw [e3, e2, e1]
theorem s_turns2_L {a m : Nat} (hF : 400 ≤ F) (ha : a < 8) (hm : m < 2 ^ 31) : ∀ (n i f : Nat) (S : Nat → Int32), n + i = m → n + 1 < f → secOk S → (∀ k, k ≤ n → ∃ t : Nat, t < 2 ^ 31 ∧ itN (fun _ s => secF (A 3) s) k 0 S 3 = nI t) → ∃ T, sp_X13_turns_2_L56 G F f (mS h b A L S) b (nI a) (nI m) (-5) (nI i) = some (trL (A 3) a n S, mS h b A L T) ∧ keepS S T := by
  intro n
  induction n with
  | zero =>
    intro i f S hi hf hS _
    obtain ⟨f, rfl⟩ : ∃ z, f = z + 1 := ⟨f - 1, by omega⟩
    refine ⟨S, ?_, keep_refl⟩
    rw [sp_X13_turns_2_L56, if_pos (nI_le (by omega) (by omega))]
    rfl
  | succ n ih =>
    intro i f S hi hf hS hT
    obtain ⟨f, rfl⟩ : ∃ z, f = z + 1 := ⟨f - 1, by omega⟩
    have hS1 := secOk_turns (C := A 3) hS
    have hk1 := keep_turns (C := A 3) hS
    have hk2 := keep_sec (C := A 3) hS
    rw [sp_X13_turns_2_L56, if_neg (nI_ge (by omega) (by omega)), if_neg (by decide)]
    simp only [s_is, if_true, s_f0, Option.bind_some, s_turns (show 100 ≤ F by omega) hS, s_at_6 ha, s_r_3, s_ends (show 100 ≤ F by omega) hS1, nI_1, trL]
    by_cases h1 : turnsF (A 3) S (sA a 6) = 1
    · rw [if_pos h1, if_pos h1]
      obtain ⟨f, rfl⟩ : ∃ z, f = z + 1 := ⟨f - 1, by omega⟩
      obtain ⟨t, ht, et⟩ := hT 0 (by omega)
      have et' : S 3 = nI t := et
      have h3 : turnsF (A 3) S 3 = nI t := by rw [turns_3 hS, et']
      refine ⟨secF (A 3) S, ?_, hk2⟩
      simp only [Option.bind_some]
      rw [sp_X13_turns_2_L56, h3]
      by_cases hle : nI m ≤ nI (i + 1)
      · rw [if_pos hle]; rfl
      · rw [if_neg hle, if_pos (nI_pos' ht)]; rfl
    · rw [if_neg h1, if_neg h1]
      obtain ⟨T, e, hk⟩ := ih (i + 1) f (secF (A 3) S) (by omega) (by omega) (secOk_sec hS) (fun k hk => by
        obtain ⟨t, ht, et⟩ := hT (k + 1) (by omega)
        refine ⟨t, ht, ?_⟩
        rw [← et, itN]
        have : ∀ (k i j : Nat) (s : Nat → Int32), itN (fun _ s => secF (A 3) s) k i s = itN (fun _ s => secF (A 3) s) k j s := by
          intro k
          induction k with
          | zero => intro i j s; rfl
          | succ k ihk => intro i j s; rw [itN, itN]; exact ihk _ _ _
        rw [this k 0 (0 + 1)])
      refine ⟨T, ?_, keep_trans hk2 hk⟩
      simp only [Option.bind_some]
      exact e
end M25
