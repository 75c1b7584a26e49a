/-! x28: what holds of a row at all times (rowInv), told by the numbers it hangs on -/
set_option maxRecDepth 100000
/-- when it runs, and before -/
def secI (S : Nat → Int32) : Prop := (S 2 = 1 → secOk S) ∧ (S 2 = 0 → S 5 < 0 ∧ S 6 < 0)
def rowInv (S : Nat → Int32) (t : Nat) : Prop := (setOk S ∧ cntOk S ∧ numOk S t ∧ negOk S ∧ secI S ∧ 0 ≤ S 10 ∧ phsOk S) ∧ (noteOk S ∧ planOk S ∧ waveOk S) ∧ sumOk S t ∧ recsOk S ∧ tldsOk S ∧ dstOk S ∧ ∀ k, 372 ≤ k → S k = 0
def wayK (k : Nat) : Prop := k = 13 ∨ (24 ≤ k ∧ k < 216 ∧ ((k - 24) % 24 = 0 ∨ (11 ≤ (k - 24) % 24 ∧ (k - 24) % 24 < 20)))
section Inv
variable {S T : Nat → Int32} {t : Nat}
theorem many_same (h : T 13 = S 13) : manyN T = manyN S := by unfold manyN; rw [h]
theorem mOk_same (h : T 13 = S 13) (hm : mOk S) : mOk T := by unfold mOk at *; rw [many_same h, h]; exact hm
theorem way_at {a w : Nat} (h : ∀ k, wayK k → T k = S k) (ha : a < 8) (hw : w = 0 ∨ (11 ≤ w ∧ w < 20)) : T (sA a w) = S (sA a w) := h _ (by unfold wayK sA; omega)
theorem cells_same {a : Nat} (h : ∀ k, wayK k → T k = S k) (ha : a < 8) : cellsN T a = cellsN S a := by unfold cellsN; rw [way_at h ha (by omega)]
theorem rowOk_same (h : ∀ k, wayK k → T k = S k) (ok : rowOk S) : rowOk T := fun a ha => by
  have := ok a ha
  unfold sigOk at *
  rw [way_at h ha (by omega), way_at h ha (by omega)]
  exact this
theorem cellOk_same (h : ∀ k, wayK k → T k = S k) (hm : mOk S) (hro : rowOk S) (hc : cellOk S) : cellOk T := fun a ha i hi => by
  rw [many_same (h 13 (Or.inl rfl))] at ha
  have ha8 : a < 8 := Nat.lt_of_lt_of_le ha hm.1
  rw [cells_same h ha8] at hi
  have h8 := (hro a ha8).cells.1
  rw [way_at h ha8 (by omega)]
  exact hc a ha i hi
theorem setOk_same (h : ∀ k, wayK k → T k = S k) (h1 : safeOk T) (hs : setOk S) : setOk T := ⟨mOk_same (h 13 (Or.inl rfl)) hs.1, rowOk_same h hs.2.1, h1, cellOk_same h hs.1 hs.2.1 hs.2.2.2⟩
theorem dstOk_same (h : ∀ k, wayK k → T k = S k) (hm : mOk S) (hro : rowOk S) (hd : dstOk S) : dstOk T := fun a ha i j hi hj e => by
  rw [many_same (h 13 (Or.inl rfl))] at ha
  have ha8 : a < 8 := Nat.lt_of_lt_of_le ha hm.1
  have h8 := (hro a ha8).cells.1
  rw [cells_same h ha8] at hi hj
  rw [way_at h ha8 (by omega), way_at h ha8 (by omega)] at e
  exact hd a ha i j hi hj e
theorem safe_same (h : T 1 = S 1) (hs : safeOk S) : safeOk T := by unfold safeOk at *; rw [h]; exact hs
theorem pOk_same (h : T 14 = S 14) (hp : pOk S) : pOk T := by unfold pOk phN at *; rw [h]; exact hp
theorem rOk_same (h : T 15 = S 15) (hp : rOk S) : rOk T := by unfold rOk recN at *; rw [h]; exact hp
theorem toldOk_same (h : T 18 = S 18) (hp : toldOk S) : toldOk T := by unfold toldOk tolN at *; rw [h]; exact hp
theorem nodeOk_same (h : T 17 = S 17) (hp : nodeOk S) : nodeOk T := by unfold nodeOk nodN at *; rw [h]; exact hp
theorem cnt_same (h2 : T 2 = S 2) (h13 : T 13 = S 13) (h14 : T 14 = S 14) (h15 : T 15 = S 15) (ht : toldOk T) (hn : nodeOk T) (hc : cntOk S) : cntOk T := ⟨mOk_same h13 hc.1, pOk_same h14 hc.2.1, rOk_same h15 hc.2.2.1, ht, hn, by rw [h2]; exact hc.2.2.2.2.2⟩
theorem num_same (h3 : T 3 = S 3) (h13 : T 13 = S 13) (h : ∀ k w, k < 8 → 5 ≤ w → w < 10 → T (sA k w) = S (sA k w)) (hm : mOk S) (hn : numOk S t) : numOk T t := by
  refine ⟨by rw [h3]; exact hn.1, fun k hk => ?_⟩
  rw [many_same h13] at hk
  have hk8 : k < 8 := Nat.lt_of_lt_of_le hk hm.1
  have := hn.2 k hk
  unfold sgOk at *
  rw [h k 5 hk8 (by decide) (by decide), h k 6 hk8 (by decide) (by decide), h k 7 hk8 (by decide) (by decide), h k 8 hk8 (by decide) (by decide), h k 9 hk8 (by decide) (by decide)]
  exact this
theorem neg_same (h5 : T 5 = S 5) (h6 : T 6 = S 6) (hn : negOk S) : negOk T := by unfold negOk at *; rw [h5, h6]; exact hn
theorem firstV_same {a : Int32} (h14 : T 14 = S 14) (hp : ∀ i, i < 6 → T (pA i 0) = S (pA i 0)) (hpo : pOk S) : firstV T a = firstV S a := by
  have e : phN T = phN S := by unfold phN; rw [h14]
  unfold firstV
  rw [e]
  have : ∀ n i, n + i ≤ 6 → fwL T a n i = fwL S a n i := by
    intro n
    induction n with
    | zero => intro i _; rfl
    | succ n ih =>
      intro i hi
      rw [fwL, fwL, hp i (by omega), ih (i + 1) (by omega)]
  exact this _ 0 (by have := hpo.1; omega)
theorem sec_same (h2 : T 2 = S 2) (h4 : T 4 = S 4) (h5 : T 5 = S 5) (h6 : T 6 = S 6) (h13 : T 13 = S 13) (h14 : T 14 = S 14) (h15 : T 15 = S 15) (hp : ∀ i, i < 6 → T (pA i 0) = S (pA i 0)) (hs : secI S) : secI T := by
  refine ⟨fun e => ?_, fun e => by rw [h5, h6]; exact hs.2 (h2 ▸ e)⟩
  rw [h2] at e
  obtain ⟨g1, g2, g3, g4, g5, g6, g7⟩ := hs.1 e
  have e14 : phN T = phN S := by unfold phN; rw [h14]
  have e4 : onN T = onN S := by unfold onN; rw [h4]
  refine ⟨mOk_same h13 g1, pOk_same h14 g2, rOk_same h15 g3, ?_, ?_, ?_, ?_⟩
  · unfold onOk at *; rw [e4, h4]; exact g4
  · rw [e4, e14]; exact g5
  · unfold cutOk at *; rw [h5, e14]; exact g6
  · unfold emOk at *; rw [h6, e14, firstV_same h14 hp g2]; exact g7
theorem phs_same (h13 : T 13 = S 13) (h14 : T 14 = S 14) (hp : ∀ i, i < 6 → T (pA i 0) = S (pA i 0)) (hpo : pOk S) (hs : phsOk S) : phsOk T := fun p hpp => by
  have e14 : phN T = phN S := by unfold phN; rw [h14]
  rw [e14] at hpp
  rw [hp p (Nat.lt_of_lt_of_le hpp hpo.1), many_same h13]
  exact hs p hpp
theorem note_same (h19 : T 19 = S 19) (h : ∀ k, 345 ≤ k → k < 355 → T k = S k) (hs : noteOk S) : noteOk T := by
  have e : noteN T = noteN S := by unfold noteN; rw [h19]
  have := hs.1
  refine ⟨by rw [e]; exact hs.1, by rw [e, h19]; exact hs.2.1, fun i hi => ?_⟩
  rw [e] at hi
  rw [h _ (by omega) (by omega)]
  exact hs.2.2 i hi
theorem plan_same (h20 : T 20 = S 20) (h : ∀ k, 355 ≤ k → k < 372 → T k = S k) (hs : planOk S) : planOk T := by
  have e : planN T = planN S := by unfold planN; rw [h20]
  have := hs.1
  refine ⟨by rw [e]; exact hs.1, by rw [e, h20]; exact hs.2.1, fun i hi => ?_⟩
  rw [e] at hi
  rw [h _ (by omega) (by omega), h (356 + 2 * i) (by omega) (by omega)]
  exact hs.2.2 i hi
theorem wave_same (h16 : T 16 = S 16) (h17 : T 17 = S 17) (h : ∀ k, k < 5 → T (nd k 0) = S (nd k 0)) (hs : waveOk S) : waveOk T := by
  have e : nodN T = nodN S := by unfold nodN; rw [h17]
  have e6 : rndN T = rndN S := by unfold rndN; rw [h16]
  refine ⟨?_, nodeOk_same h17 hs.2.1, fun k hk => ?_⟩
  · unfold rndOk; rw [e6, h16]; exact hs.1
  · rw [e] at hk
    rw [h k (Nat.lt_of_lt_of_le hk hs.2.1.1), e6]
    exact hs.2.2 k hk
theorem sum_same (h7 : T 7 = S 7) (h8 : T 8 = S 8) (hs : sumOk S t) : sumOk T t := by unfold sumOk at *; rw [h7, h8]; exact hs
theorem recs_same (h13 : T 13 = S 13) (h15 : T 15 = S 15) (h : ∀ k, 234 ≤ k → k < 306 → T k = S k) (hr : rOk S) (hs : recsOk S) : recsOk T := fun r hrr => by
  have e : recN T = recN S := by unfold recN; rw [h15]
  rw [e] at hrr
  have := hr.1
  rw [many_same h13, h (rA r 0) (by unfold rA; omega) (by unfold rA; omega), h (rA r 1) (by unfold rA; omega) (by unfold rA; omega), h (rA r 2) (by unfold rA; omega) (by unfold rA; omega)]
  exact hs r hrr
theorem tlds_same (h13 : T 13 = S 13) (h18 : T 18 = S 18) (h : ∀ k, 321 ≤ k → k < 345 → T k = S k) (ht : toldOk S) (hs : tldsOk S) : tldsOk T := fun k hk => by
  have e : tolN T = tolN S := by unfold tolN; rw [h18]
  rw [e] at hk
  have := ht.1
  rw [many_same h13, h (321 + 3 * k) (by omega) (by omega), h (321 + 3 * k + 1) (by omega) (by omega), h (321 + 3 * k + 2) (by omega) (by omega)]
  exact hs k hk
/-- a row that is the same but for seed, longest, records of the numbers' use -/
def samK (X : Nat → Prop) (S T : Nat → Int32) : Prop := ∀ k, ¬ X k → T k = S k
theorem sam_1 {k : Nat} {x : Int32} {X : Nat → Prop} (hX : X k) : samK X S (upd S k x) := fun j hj => upd_ne (fun e => hj (e ▸ hX))
/-- what lies below 24 and the parts of a row that a call leaves as they are -/
theorem inv_same {X : Nat → Prop} (hs : samK X S T) (x1 : ¬ X 1) (x2 : ¬ X 2) (x3 : ¬ X 3) (x4 : ¬ X 4) (x5 : ¬ X 5) (x6 : ¬ X 6) (x7 : ¬ X 7) (x8 : ¬ X 8) (x13 : ¬ X 13) (x14 : ¬ X 14) (x15 : ¬ X 15) (xw : ∀ k, 24 ≤ k → k < 306 → ¬ X k) (xt : ∀ k, 372 ≤ k → ¬ X k)
    (h10 : 0 ≤ T 10) (hn : noteOk T) (hp : planOk T) (hw : waveOk T) (ht : toldOk T) (htd : tldsOk T) (h : rowInv S t) : rowInv T t := by
  obtain ⟨⟨a1, a2, a3, a4, a5, a6, a7⟩, -, b1, b2, b3, b4, b5⟩ := h
  have e : ∀ k, 24 ≤ k → k < 306 → T k = S k := fun k h1 h2 => hs k (xw k h1 h2)
  have e13 := hs 13 x13
  have hway : ∀ k, wayK k → T k = S k := fun k hk => by
    rcases hk with rfl | ⟨h1, h2, -⟩
    · exact e13
    · exact e k h1 (by omega)
  have hph : ∀ i, i < 6 → T (pA i 0) = S (pA i 0) := fun i hi => e _ (by unfold pA; omega) (by unfold pA; omega)
  exact ⟨⟨setOk_same hway (safe_same (hs 1 x1) a1.2.2.1) a1, cnt_same (hs 2 x2) e13 (hs 14 x14) (hs 15 x15) ht hw.2.1 a2, num_same (hs 3 x3) e13 (fun k w hk h1 h2 => e _ (by unfold sA; omega) (by unfold sA; omega)) a1.1 a3, neg_same (hs 5 x5) (hs 6 x6) a4, sec_same (hs 2 x2) (hs 4 x4) (hs 5 x5) (hs 6 x6) e13 (hs 14 x14) (hs 15 x15) hph a5, h10, phs_same e13 (hs 14 x14) hph a2.2.1 a7⟩, ⟨hn, hp, hw⟩, sum_same (hs 7 x7) (hs 8 x8) b1, recs_same e13 (hs 15 x15) (fun k h1 h2 => e k (by omega) (by omega)) a2.2.2.1 b2, htd, dstOk_same hway a1.1 a1.2.1 b4, fun k hk => by rw [hs k (xt k hk)]; exact b5 k hk⟩
theorem inv_0 {x : Int32} (h : rowInv S t) : rowInv (upd S 0 x) t := by
  have hs : samK (fun k => k = 0) S (upd S 0 x) := sam_1 rfl
  have h' := h
  obtain ⟨⟨a1, a2, a3, a4, a5, a6, a7⟩, ⟨c1, c2, c3⟩, b1, b2, b3, b4, b5⟩ := h'
  exact inv_same hs (by decide) (by decide) (by decide) (by decide) (by decide) (by decide) (by decide) (by decide) (by decide) (by decide) (by decide) (fun k h1 h2 e => by omega) (fun k h1 e => by omega) (by rw [hs 10 (by decide)]; exact a6) (note_same (hs 19 (by decide)) (fun k h1 h2 => hs k (by omega)) c1) (plan_same (hs 20 (by decide)) (fun k h1 h2 => hs k (by omega)) c2) (wave_same (hs 16 (by decide)) (hs 17 (by decide)) (fun k hk => hs _ (by show ¬ nd k 0 = 0; unfold nd; omega)) c3) (toldOk_same (hs 18 (by decide)) a2.2.2.2.1) (tlds_same (hs 13 (by decide)) (hs 18 (by decide)) (fun k h1 h2 => hs k (by omega)) a2.2.2.2.1 b3) h
end Inv
