/-! w12: the class's World: ways as bit sets, narrowOf, settles -/
set_option maxRecDepth 100000
theorem bit64 {c j : Nat} (hc : c < 64) (hj : j < 64) : ((1 : Int64) <<< ((nI c).toInt64 &&& 63)).toBitVec.getLsbD j = decide (j = c) := by
  have : ∀ k l : Fin 64, ((1 : Int64) <<< ((nI k.val).toInt64 &&& 63)).toBitVec.getLsbD l.val = decide (l.val = k.val) := by decide +kernel
  exact this ⟨c, hc⟩ ⟨j, hj⟩
theorem lg_z (x : Int64) : (lg_cmp x 0 = 0) = (x = 0) := by
  unfold lg_cmp
  by_cases h1 : x > 0
  · rw [if_pos h1]
    refine propext ⟨fun hh => absurd hh (by decide), fun hh => ?_⟩
    subst hh
    exact absurd h1 (by decide)
  · rw [if_neg h1]
    by_cases h2 : x = 0
    · rw [if_pos h2]; exact propext ⟨fun _ => h2, fun _ => rfl⟩
    · rw [if_neg h2]; exact propext ⟨fun hh => absurd hh (by decide), fun hh => absurd hh h2⟩
theorem and_bit {w : Int64} {c : Nat} (hc : c < 64) : (w &&& ((1 : Int64) <<< ((nI c).toInt64 &&& 63)) = 0) ↔ w.toBitVec.getLsbD c = false := by
  rw [← Int64.toBitVec_inj, Int64.toBitVec_and]
  constructor
  · intro e
    have h2 : (w.toBitVec &&& ((1 : Int64) <<< ((nI c).toInt64 &&& 63)).toBitVec).getLsbD c = false := by rw [e]; simp
    rw [BitVec.getLsbD_and, bit64 hc hc, decide_eq_true rfl, Bool.and_true] at h2
    exact h2
  · intro e
    apply BitVec.eq_of_getLsbD_eq
    intro j hj
    rw [BitVec.getLsbD_and, bit64 hc hj]
    by_cases hjc : j = c
    · subst hjc; rw [e]; simp
    · rw [decide_eq_false hjc, Bool.and_false]; simp
theorem or_bit {w : Int64} {c j : Nat} (hc : c < 64) (hj : j < 64) : (w ||| ((1 : Int64) <<< ((nI c).toInt64 &&& 63))).toBitVec.getLsbD j = (w.toBitVec.getLsbD j || decide (j = c)) := by
  rw [Int64.toBitVec_or, BitVec.getLsbD_or, bit64 hc hj]
theorem and_any {w v : Int64} : (w &&& v = 0) ↔ ∀ c, c < 64 → ¬ (w.toBitVec.getLsbD c = true ∧ v.toBitVec.getLsbD c = true) := by
  rw [← Int64.toBitVec_inj, Int64.toBitVec_and]
  constructor
  · intro e c _ hh
    have h2 : (w.toBitVec &&& v.toBitVec).getLsbD c = true := by rw [BitVec.getLsbD_and, hh.1, hh.2]; rfl
    rw [e] at h2
    simp at h2
  · intro hh
    apply BitVec.eq_of_getLsbD_eq
    intro j hj
    rw [BitVec.getLsbD_and]
    have := hh j hj
    cases e1 : w.toBitVec.getLsbD j <;> cases e2 : v.toBitVec.getLsbD j
    · simp
    · simp
    · simp
    · exact absurd ⟨e1, e2⟩ this
/-- a bit set has room for one word, and is empty or not -/
def bsJ (u : Int32) (w : Int64) : Prop := (u = 0 ∧ w = 0) ∨ u = 1
def bsAll (J : Nat → Nat → Int32) (Q : Nat → Nat → Int64) : Prop := ∀ k, k < 8 → bsJ (J (12 + 6 * k) 1) (Q (13 + 6 * k) 0)
def bsOk (S : Nat → Int32) (Q : Nat → Nat → Int64) : Prop := ∀ k, k < manyN S → ∀ c, c < 64 → ((Q (13 + 6 * k) 0).toBitVec.getLsbD c = true ↔ 0 ≤ placeV S k (nI c))
/-- the ways' cells are cells -/
def cellOk (S : Nat → Int32) : Prop := ∀ a, a < manyN S → ∀ i, i < cellsN S a → ∃ c, c < 64 ∧ S (sA a (12 + i)) = nI c
theorem place_v {S : Nat → Int32} {a : Nat} {x : Int32} : ∀ (n i : Nat), n + i < 2 ^ 31 → plc S a x n i = -5 ∧ (∀ j, i ≤ j → j < i + n → ¬ S (sA a (12 + j)) = x) ∨ ∃ j, i ≤ j ∧ j < i + n ∧ S (sA a (12 + j)) = x ∧ plc S a x n i = nI j := by
  intro n
  induction n with
  | zero => intro i _; exact Or.inl ⟨rfl, fun j h1 h2 => by omega⟩
  | succ n ih =>
    intro i hi
    rw [plc]
    by_cases h : S (sA a (12 + i)) = x
    · rw [if_pos h]
      exact Or.inr ⟨i, Nat.le_refl i, by omega, h, rfl⟩
    · rw [if_neg h]
      rcases ih (i + 1) (by omega) with ⟨e, hh⟩ | ⟨j, h1, h2, h3, h4⟩
      · refine Or.inl ⟨e, fun j h1 h2 => ?_⟩
        by_cases hj : j = i
        · subst hj; exact h
        · exact hh j (by omega) (by omega)
      · exact Or.inr ⟨j, by omega, by omega, h3, h4⟩
theorem placeV_v {S : Nat → Int32} {a : Nat} {x : Int32} (h8 : cellsN S a ≤ 8) : placeV S a x = -5 ∧ (∀ j, j < cellsN S a → ¬ S (sA a (12 + j)) = x) ∨ ∃ j, j < cellsN S a ∧ S (sA a (12 + j)) = x ∧ placeV S a x = nI j := by
  rcases place_v (S := S) (a := a) (x := x) (cellsN S a) 0 (by omega) with ⟨e, hh⟩ | ⟨j, h1, h2, h3, h4⟩
  · exact Or.inl ⟨e, fun j hj => hh j (by omega) (by omega)⟩
  · exact Or.inr ⟨j, by omega, h3, h4⟩
theorem placeV_c {S : Nat → Int32} {a : Nat} {x : Int32} (h8 : cellsN S a ≤ 8) : (placeV S a x < 0 ∧ placeV S a x = -5 ∧ ¬ 0 ≤ placeV S a x) ∨ ∃ j, j < cellsN S a ∧ placeV S a x = nI j ∧ ¬ placeV S a x < 0 ∧ 0 ≤ placeV S a x := by
  rcases placeV_v (S := S) (a := a) (x := x) h8 with ⟨e, -⟩ | ⟨j, h1, -, h3⟩
  · left; rw [e]; decide
  · right; exact ⟨j, h1, h3, by rw [h3]; exact nI_nn (by omega), by rw [h3]; exact nI_pos' (by omega)⟩
def ngV (y : Int32) : Int32 := if y < 0 then -1 else y
theorem ngV_n {j : Nat} (hj : j < 2 ^ 31) : ngV (nI j) = nI j := if_neg (nI_nn hj)
def plcV (S : Nat → Int32) (a : Nat) (x : Int32) : Int32 := ngV (placeV S a x)
section W12
variable {G : gG} {h : gH} {b : Nat} {S C : Nat → Int32} {J : Nat → Nat → Int32} {Q : Nat → Nat → Int64} {F : Nat}
theorem x_placeOf {k : Nat} {x : Int32} (hF : 40 ≤ F) (hro : rowOk S) (hk8 : k < 8) (hk : k < manyN S) : sp_X2_placeOf G F (wh G h b S J Q) (sg b k) x = some (plcV S k x) := by
  have hc := (hro k hk8).cells
  have key : ∀ (n i f : Nat), n + i = cellsN S k → n < f → sp_X2_placeOf_L2 G F (wh G h b S J Q) f (sg b k) x (nI i) = some (ngV (plc S k x n i)) := by
    intro n
    induction n with
    | zero =>
      intro i f hi hf
      obtain ⟨f, rfl⟩ : ∃ z, f = z + 1 := ⟨f - 1, by omega⟩
      rw [sp_X2_placeOf_L2]
      simp only [x_is, if_true, Option.bind_some, x_sg_f4 hk8 hk]
      rw [if_pos (by rw [hc.2]; exact nI_le (by omega) (by omega))]
      rfl
    | succ n ih =>
      intro i f hi hf
      obtain ⟨f, rfl⟩ : ∃ z, f = z + 1 := ⟨f - 1, by omega⟩
      have en : ¬ S (sA k 11) ≤ nI i := by rw [hc.2]; exact nI_ge (by omega) (by omega)
      rw [sp_X2_placeOf_L2]
      simp only [x_is, if_true, Option.bind_some, x_sg_f4 hk8 hk, en, if_false, x_sg_f1 hk8, x_c hk8 hk (show i < 8 by omega) (show i < cellsN S k by omega), nI_1, plc]
      by_cases h1 : S (sA k (12 + i)) = x
      · rw [if_pos h1, if_pos h1, ngV_n (by omega)]
      · rw [if_neg h1, if_neg h1]
        exact ih (i + 1) f (by omega) (by omega)
  unfold sp_X2_placeOf plcV placeV
  exact key (cellsN S k) 0 F (by omega) (by omega)
theorem i_wi {c : Nat} (hc : c < 64) : sp_J1_wordIndex G F h (nI c) = some 0 := by
  unfold sp_J1_wordIndex
  have : ∀ k : Fin 64, nI k.val >>> ((6 : Int32) &&& 31) = 0 := by decide +kernel
  rw [this ⟨c, hc⟩]
theorem x_get {k c : Nat} (hA : bsAll J Q) (hB : bsOk S Q) (hk8 : k < 8) (hk : k < manyN S) (hc : c < 64) : sp_J1_get G F (wh G h b S J Q) (sgw b k) (nI c) = some (if 0 ≤ placeV S k (nI c) then 1 else 0) := by
  have hb := hB k hk c hc
  unfold sp_J1_get
  rw [if_pos (nI_pos' (by omega))]
  simp only [x_sgw_is hk8, if_true, sp_J1_checkInvariants, Option.bind_some, i_wi hc, x_sgw_f1 hk8, x_sgw_f0 hk8, x_sgl_a hk8, lg_z, and_bit hc]
  rcases hA k hk8 with ⟨e1, e2⟩ | e1
  · rw [e1, if_pos (by decide)]
    rw [e2] at hb
    have : ¬ 0 ≤ placeV S k (nI c) := fun hh => by
      have := hb.mpr hh
      simp at this
    rw [if_neg this]
  · rw [e1, if_neg (by decide)]
    by_cases hh : 0 ≤ placeV S k (nI c)
    · rw [if_pos hh, if_neg (by rw [hb.mpr hh]; decide)]
    · have : (Q (13 + 6 * k) 0).toBitVec.getLsbD c = false := by
        cases e : (Q (13 + 6 * k) 0).toBitVec.getLsbD c
        · rfl
        · exact absurd (hb.mp e) hh
      rw [if_neg hh, if_pos this]
theorem x_intersects {k l : Nat} (hF : 10 ≤ F) (hA : bsAll J Q) (hk : k < 8) (hl : l < 8) : sp_J1_intersects G F (wh G h b S J Q) (sgw b k) (sgw b l) = some (if Q (13 + 6 * k) 0 &&& Q (13 + 6 * l) 0 = 0 then 0 else 1) := by
  obtain ⟨F, rfl⟩ : ∃ z, F = z + 2 := ⟨F - 2, by omega⟩
  unfold sp_J1_intersects
  simp only [x_sgw_f1 hk, x_sgw_f1 hl, Option.bind_some, i_min]
  have h0 : ∀ x y : Int32, minI x y - 1 = -1 → sp_J1_intersects_L14 G (F + 2) (wh G h b S J Q) (F + 2) (sgw b k) (sgw b l) (minI x y - 1) = some 0 := by
    intro x y e
    rw [e, sp_J1_intersects_L14, if_pos (by decide)]
  rcases hA k hk with ⟨e1, e2⟩ | e1
  · rw [e2, if_pos (by simp)]
    rcases hA l hl with ⟨e3, e4⟩ | e3
    · exact h0 _ _ (by rw [e1, e3]; decide)
    · exact h0 _ _ (by rw [e1, e3]; decide)
  · rcases hA l hl with ⟨e3, e4⟩ | e3
    · rw [e4, if_pos (by simp)]
      exact h0 _ _ (by rw [e1, e3]; decide)
    · rw [e1, e3, show minI 1 1 - 1 = (0 : Int32) by decide, sp_J1_intersects_L14, if_neg (by decide)]
      simp only [x_sgw_f0 hk, x_sgw_f0 hl, x_sgl_a hk, x_sgl_a hl, Option.bind_some, lg_z]
      by_cases hz : Q (13 + 6 * k) 0 &&& Q (13 + 6 * l) 0 = 0
      · rw [if_pos hz, if_pos hz, show (0 : Int32) + -1 = -1 by decide, sp_J1_intersects_L14, if_pos (by decide)]
      · rw [if_neg hz, if_neg hz]
def clAt (S : Nat → Int32) (a c i : Nat) : Int32 := (gAmb (kindN S a) + (gPac (kindN S a) * (nI i + 1))) - (gPac (kindN S c) * placeV S c (S (sA a (12 + i))))
theorem x_clearAt {a c i : Nat} (hF : 40 ≤ F) (hG : gI4 G) (hro : rowOk S) (ha8 : a < 8) (ha : a < manyN S) (hc8 : c < 8) (hc : c < manyN S) (hi : i < cellsN S a) (hp : 0 ≤ placeV S c (S (sA a (12 + i)))) : sp_X1_clearAt G F (wh G h b S J Q) (sg b a) (nI i) (sg b c) = some (clAt S a c i) := by
  have hka := (hro a ha8).kind
  have hkc := (hro c hc8).kind
  have hca := (hro a ha8).cells
  have ea0 : gKd G (gS G (kindN S a)) 0 = some (gAmb (kindN S a)) := i_gKd hG hka.1 0
  have ea1 : gKd G (gS G (kindN S a)) 1 = some (gPac (kindN S a)) := i_gKd hG hka.1 1
  have ec1 : gKd G (gS G (kindN S c)) 1 = some (gPac (kindN S c)) := i_gKd hG hkc.1 1
  have ep : plcV S c (S (sA a (12 + i))) = placeV S c (S (sA a (12 + i))) := if_neg (Int32.not_lt.mpr hp)
  unfold sp_X1_clearAt clAt
  simp only [x_is, if_true, Option.bind_some, x_sg_f0 ha8 ha, x_sg_f0 hc8 hc, ea0, ea1, ec1, x_sg_f1 ha8, x_c ha8 ha (show i < 8 by omega) hi, x_sg_is hc8, x_placeOf hF hro hc8 hc, ep]
def nwL (S : Nat → Int32) (a c : Nat) : Nat → Nat → Int32 → Int32
  | 0, _, x => x
  | n + 1, i, x => if 0 ≤ placeV S c (S (sA a (12 + i))) then (if x = -1 then nwL S a c n (i + 1) (nI i) else if clAt S a c i ≤ clAt S a c x.toNatClampNeg then nwL S a c n (i + 1) x else nwL S a c n (i + 1) (nI i)) else nwL S a c n (i + 1) x
/-- what is found: a place of a's way, whose cell is in c's too -/
def nwR (S : Nat → Int32) (a c : Nat) (x g w : Int32) : Prop := (x = -1 ∧ w = -5) ∨ ∃ j, j < cellsN S a ∧ x = nI j ∧ w = S (sA a (12 + j)) ∧ 0 ≤ placeV S c (S (sA a (12 + j))) ∧ g = clAt S a c j
theorem nw_clr {a c : Nat} (h8 : cellsN S a ≤ 8) (hcell : ∀ i, i < cellsN S a → ∃ z, z < 64 ∧ S (sA a (12 + i)) = nI z) : ∀ (n i : Nat) (x g w : Int32), n + i = cellsN S a → nwR S a c x g w → nwR S a c (nwL S a c n i x) (clrL S a c n i g w).1 (clrL S a c n i g w).2 := by
  intro n
  induction n with
  | zero => intro i x g w _ hr; exact hr
  | succ n ih =>
    intro i x g w hi hr
    have hic : i < cellsN S a := by omega
    rw [nwL, clrL]
    by_cases hp : 0 ≤ placeV S c (S (sA a (12 + i)))
    · rw [if_pos hp, if_pos hp]
      have hnew : nwR S a c (nI i) (clAt S a c i) (S (sA a (12 + i))) := Or.inr ⟨i, hic, rfl, rfl, hp, rfl⟩
      rcases hr with ⟨e1, e2⟩ | ⟨j, hj, e1, e2, hpj, e3⟩
      · rw [if_pos e1, if_pos (by rw [e2]; decide)]
        exact ih (i + 1) _ _ _ (by omega) hnew
      · have hx : ¬ x = -1 := by
          intro e
          rw [e1] at e
          exact absurd (by rw [e]; decide) (nI_nn (e := j) (by omega))
        obtain ⟨z, hz, ez⟩ := hcell j hj
        have hw : ¬ w < 0 := by rw [e2, ez]; exact nI_nn (by omega)
        have ex : x.toNatClampNeg = j := by rw [e1, nI_c (by omega)]
        have hold : nwR S a c x g w := Or.inr ⟨j, hj, e1, e2, hpj, e3⟩
        rw [if_neg hx, if_neg hw, ex]
        by_cases hlt : g < clAt S a c i
        · have hle : ¬ clAt S a c i ≤ clAt S a c j := by rw [← e3]; exact Int32.not_le.mpr hlt
          rw [if_neg hle]
          have hlt' : g < gAmb (kindN S a) + gPac (kindN S a) * (nI i + 1) - gPac (kindN S c) * placeV S c (S (sA a (12 + i))) := hlt
          rw [if_pos hlt']
          exact ih (i + 1) _ _ _ (by omega) hnew
        · have hle : clAt S a c i ≤ clAt S a c j := by rw [← e3]; exact Int32.not_lt.mp hlt
          rw [if_pos hle]
          have hlt' : ¬ g < gAmb (kindN S a) + gPac (kindN S a) * (nI i + 1) - gPac (kindN S c) * placeV S c (S (sA a (12 + i))) := hlt
          rw [if_neg hlt']
          exact ih (i + 1) _ _ _ (by omega) hold
    · rw [if_neg hp, if_neg hp]
      exact ih (i + 1) _ _ _ (by omega) hr
theorem x_narrowOf {a c : Nat} (hF : 40 ≤ F) (hG : gI4 G) (hro : rowOk S) (hA : bsAll J Q) (hB : bsOk S Q) (hcl : cellOk S) (ha8 : a < 8) (ha : a < manyN S) (hc8 : c < 8) (hc : c < manyN S) : sp_X1_narrowOf G F (wh G h b S J Q) (sg b a) (sg b c) = some (nwL S a c (cellsN S a) 0 (-1)) := by
  have hca := (hro a ha8).cells
  have key : ∀ (n i f : Nat) (x : Int32), n + i = cellsN S a → n < f → (x = -1 ∨ ∃ j, j < cellsN S a ∧ x = nI j ∧ 0 ≤ placeV S c (S (sA a (12 + j)))) → sp_X1_narrowOf_L4 G F (wh G h b S J Q) f (sg b a) (sg b c) x (nI i) = some (nwL S a c n i x) := by
    intro n
    induction n with
    | zero =>
      intro i f x hi hf _
      obtain ⟨f, rfl⟩ : ∃ z, f = z + 1 := ⟨f - 1, by omega⟩
      rw [sp_X1_narrowOf_L4]
      simp only [x_is, if_true, Option.bind_some, x_sg_f4 ha8 ha]
      rw [if_pos (by rw [hca.2]; exact nI_le (by omega) (by omega))]
      rfl
    | succ n ih =>
      intro i f x hi hf hx
      obtain ⟨f, rfl⟩ : ∃ z, f = z + 1 := ⟨f - 1, by omega⟩
      have en : ¬ S (sA a 11) ≤ nI i := by rw [hca.2]; exact nI_ge (by omega) (by omega)
      have hic : i < cellsN S a := by omega
      obtain ⟨z, hz, ez⟩ := hcl a ha i hic
      have eg := x_get (G := G) (F := F) (h := h) (b := b) hA hB hc8 hc hz
      rw [← ez] at eg
      rw [sp_X1_narrowOf_L4]
      simp only [x_is, if_true, Option.bind_some, x_sg_f4 ha8 ha, en, if_false, x_sg_f2 hc8, x_sg_f1 ha8, x_c ha8 ha (show i < 8 by omega) hic, x_sgw_is hc8, eg, b0, nI_1, nwL]
      by_cases hp : 0 ≤ placeV S c (S (sA a (12 + i)))
      · have hnew : (nI i : Int32) = -1 ∨ ∃ j, j < cellsN S a ∧ nI i = nI j ∧ 0 ≤ placeV S c (S (sA a (12 + j))) := Or.inr ⟨i, hic, rfl, hp⟩
        rw [if_neg (fun hh => hh hp), if_pos hp]
        by_cases h1 : x = -1
        · rw [if_pos h1, if_pos h1]
          exact ih (i + 1) f _ (by omega) (by omega) hnew
        · obtain ⟨j, hj, ej, hpj⟩ := hx.resolve_left h1
          have ex : x.toNatClampNeg = j := by rw [ej, nI_c (by omega)]
          rw [if_neg h1, if_neg h1, ex, ej, x_clearAt hF hG hro ha8 ha hc8 hc hic hp, x_clearAt hF hG hro ha8 ha hc8 hc hj hpj]
          simp only [Option.bind_some]
          by_cases h2 : clAt S a c i ≤ clAt S a c j
          · rw [if_pos h2, if_pos h2]
            exact ih (i + 1) f _ (by omega) (by omega) (Or.inr ⟨j, hj, rfl, hpj⟩)
          · rw [if_neg h2, if_neg h2]
            exact ih (i + 1) f _ (by omega) (by omega) hnew
      · rw [if_pos hp, if_neg hp]
        exact ih (i + 1) f _ (by omega) (by omega) hx
  unfold sp_X1_narrowOf
  rw [show sp_X1_narrowOf_L4 G F (wh G h b S J Q) F (sg b a) (sg b c) (-1) 0 = _ from key (cellsN S a) 0 F (-1) (by omega) (by omega) (Or.inl rfl)]
  rfl
end W12
