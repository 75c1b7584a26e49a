/-! x21: could, crowded (both sides) -/
set_option maxRecDepth 100000
/-- whether signal a, green from x to y, could have one in cell c at second t -/
def cbV (S : Nat → Int32) (a : Nat) (x y c t : Int32) : Int32 :=
  if placeV S a c < 0 then 0 else if x + gPac (kindN S a) * placeV S a c ≤ t then (if y < 0 then 1 else if y + gAmb (kindN S a) + gPac (kindN S a) * (placeV S a c + 1) ≤ t then 0 else 1) else 0
def orB (s w : Int32) : Int32 := s ||| ((1 : Int32) <<< (w &&& 31))
def rcst (S : Nat → Int32) (c t : Int32) (r : Nat) (s : Int32) : Int32 := if cbV S (S (rA r 0)).toNatClampNeg (S (rA r 1)) (S (rA r 2)) c t = 0 then s else orB s (S (rA r 0))
def tlst (S : Nat → Int32) (c t : Int32) (k : Nat) (s : Int32) : Int32 := if cbV S (S (321 + 3 * k)).toNatClampNeg (S (321 + 3 * k + 1)) (S (321 + 3 * k + 2)) c t = 0 then s else orB s (S (321 + 3 * k))
def sgst (S : Nat → Int32) (c t : Int32) (a : Nat) (s : Int32) : Int32 := if S (sA a 6) = 1 then (if cbV S a (S (sA a 7)) (-5) c t = 0 then s else orB s (nI a)) else s
def cldV (S : Nat → Int32) (c t w : Int32) : Int32 := if w = 1 then itN (tlst S c t) (tolN S) 0 0 else itN (sgst S c t) (manyN S) 0 (itN (rcst S c t) (recN S) 0 0)
def couldR (S : Nat → Int32) (p1 p2 p3 : Int32) : Int32 := if ¬ inB p3 0 1 then -1 else if ¬ (inB p1 0 63 ∧ inB p2 0 9999) then -2 else cldV S p1 p2 p3
def crL (S : Nat → Int32) (t w : Int32) : Nat → Nat → Int32
  | 0, _ => -5
  | n + 1, i => if cldV S (nI i) t w &&& (cldV S (nI i) t w - 1) = 0 then crL S t w n (i + 1) else nI i
def crowdedR (S : Nat → Int32) (p1 p2 : Int32) : Int32 := if ¬ inB p2 0 1 then -1 else if ¬ inB p1 0 9999 then -2 else crL S p1 p2 64 0
def recsOk (S : Nat → Int32) : Prop := ∀ r, r < recN S → (∃ a, a < manyN S ∧ S (rA r 0) = nI a) ∧ ∃ x y, x ≤ y ∧ y < 2 ^ 30 ∧ S (rA r 1) = nI x ∧ S (rA r 2) = nI y
def tldsOk (S : Nat → Int32) : Prop := ∀ k, k < tolN S → (∃ a, a < manyN S ∧ S (321 + 3 * k) = nI a) ∧ ∃ x y, x < y ∧ y ≤ 9999 ∧ S (321 + 3 * k + 1) = nI x ∧ S (321 + 3 * k + 2) = nI y
theorem lenOk_of {S : Nat → Int32} (h : recsOk S) : lenOk S := fun r hr => by
  obtain ⟨-, x, y, h1, h2, e1, e2⟩ := h r hr
  rw [e1, e2, pk_sub (by omega)]
  exact nI_pos' (by omega)
theorem or_comm3 {s a d : Int32} : orB (orB s a) d = orB (orB s d) a := by
  unfold orB
  rw [Int32.or_assoc, Int32.or_assoc, Int32.or_comm (1 <<< (a &&& 31))]
theorem rcst_comm {S : Nat → Int32} {c t : Int32} (i j : Nat) (s : Int32) : rcst S c t i (rcst S c t j s) = rcst S c t j (rcst S c t i s) := by
  unfold rcst
  by_cases h1 : cbV S (S (rA i 0)).toNatClampNeg (S (rA i 1)) (S (rA i 2)) c t = 0
  · rw [if_pos h1, if_pos h1]
  · rw [if_neg h1, if_neg h1]
    by_cases h2 : cbV S (S (rA j 0)).toNatClampNeg (S (rA j 1)) (S (rA j 2)) c t = 0
    · rw [if_pos h2, if_pos h2]
    · rw [if_neg h2, if_neg h2]
      exact or_comm3
section R21
variable {h : gH} {b : Nat} {A : Nat → Nat → Int32} {L : Nat → Nat → Int64} {S T : Nat → Int32} {G : gG} {F : Nat}
theorem s_pac {a : Nat} (ha : a < 8) (ok : rowOk S) : sp_X13_pace G F (mS h b A L S) b (nI a) = some (gPac (kindN S a)) := m_pac (A := va_up A 0 S) ha (ok a ha)
theorem s_placeIn {a : Nat} {c : Int32} (hF : 40 ≤ F) (ha : a < 8) (ok : rowOk S) : sp_X13_placeIn G F (mS h b A L S) b (nI a) c = some (placeV S a c) := m_placeIn (h := h) (b := b) (A := va_up A 0 S) (L := L) (G := G) (F := F) (c := c) (by omega) ha (ok a ha).cells.2 (ok a ha).cells.1
theorem s_couldBy {a : Nat} {x y c t : Int32} (hF : 40 ≤ F) (ha : a < 8) (ok : rowOk S) : sp_X13_couldBy G F (mS h b A L S) b (nI a) x y c t = some (cbV S a x y c t) := by
  unfold sp_X13_couldBy cbV
  simp only [s_is, if_true, s_f0, Option.bind_some, s_placeIn hF ha ok, s_pac ha ok, s_amb ha ok]
  split
  · rfl
  · split
    · split
      · rfl
      · split <;> rfl
    · rfl
theorem s_coulds {c t w : Int32} (hF : 40 ≤ F) (hm : mOk S) (ok : rowOk S) (hr : rOk S) (ht : toldOk S) (hrs : recsOk S) (hts : tldsOk S) : sp_X13_coulds G F (mS h b A L S) b c t w = some (cldV S c t w) := by
  have h8 := hm.1
  have h24 := hr.1
  have ht8 := ht.1
  have k1 := it_loop (m := recN S) (fun f i s => sp_X13_coulds_L93 G F (mS h b A L S) f b c t s (nI i)) (rcst S c t) (fun _ _ => True) (fun s => s) (by
    intro i f s hi _
    show sp_X13_coulds_L93 G F (mS h b A L S) (f + 1) b c t s (nI i) = _
    obtain ⟨⟨a, ha, ea⟩, -⟩ := hrs i hi
    have en : ¬ S 15 ≤ nI i := by rw [hr.2]; exact nI_ge (by omega) (by omega)
    rw [sp_X13_coulds_L93]
    unfold rcst
    simp only [s_is, if_true, s_f0, Option.bind_some, s_r_15, en, if_false, s_rec0 (show i < 24 by omega), s_rec1 (show i < 24 by omega), s_rec2 (show i < 24 by omega), ea, s_couldBy hF (show a < 8 by omega) ok, nI_1, nI_c (show a < 2 ^ 31 by omega)]
    split <;> rfl) (fun _ _ _ _ => trivial) (by
    intro f s _
    show sp_X13_coulds_L93 G F (mS h b A L S) (f + 1) b c t s (nI (recN S)) = _
    rw [sp_X13_coulds_L93]
    simp only [s_is, if_true, s_f0, Option.bind_some, s_r_15]
    rw [if_pos (by rw [hr.2]; exact nI_le (by omega) (by omega))]) (recN S) 0 F 0 (by omega) (by omega) trivial
  have k2 := it_loop (m := manyN S) (fun f i s => sp_X13_coulds_L158 G F (mS h b A L S) f b c t s (nI i)) (sgst S c t) (fun _ _ => True) (fun s => s) (by
    intro i f s hi _
    show sp_X13_coulds_L158 G F (mS h b A L S) (f + 1) b c t s (nI i) = _
    have en : ¬ S 13 ≤ nI i := by rw [hm.2]; exact nI_ge (by omega) (by omega)
    rw [sp_X13_coulds_L158]
    unfold sgst
    simp only [s_is, if_true, s_f0, Option.bind_some, s_r_13, en, if_false, s_at_6 (show i < 8 by omega), s_at_7 (show i < 8 by omega), s_couldBy hF (show i < 8 by omega) ok, nI_1]
    split
    · split <;> rfl
    · rfl) (fun _ _ _ _ => trivial) (by
    intro f s _
    show sp_X13_coulds_L158 G F (mS h b A L S) (f + 1) b c t s (nI (manyN S)) = _
    rw [sp_X13_coulds_L158]
    simp only [s_is, if_true, s_f0, Option.bind_some, s_r_13]
    rw [if_pos (by rw [hm.2]; exact nI_le (by omega) (by omega))]) (manyN S) 0 F
  have k3 := it_loop (m := tolN S) (fun f i s => sp_X13_coulds_L11 G F (mS h b A L S) f b c t s (nI i)) (tlst S c t) (fun _ _ => True) (fun s => s) (by
    intro i f s hi _
    show sp_X13_coulds_L11 G F (mS h b A L S) (f + 1) b c t s (nI i) = _
    obtain ⟨⟨a, ha, ea⟩, -⟩ := hts i hi
    have en : ¬ S 18 ≤ nI i := by rw [ht.2]; exact nI_ge (by omega) (by omega)
    have e2 : nI (321 + 3 * i) + 2 = nI (321 + 3 * i + 2) := nI_add _ 2
    rw [sp_X13_coulds_L11]
    unfold tlst
    simp only [s_is, if_true, s_f0, Option.bind_some, s_r_18, en, if_false, ix_tl, nI_1, e2, s_a (321 + 3 * i) (by omega), s_a (321 + 3 * i + 1) (by omega), s_a (321 + 3 * i + 2) (by omega), ea, s_couldBy hF (show a < 8 by omega) ok, nI_c (show a < 2 ^ 31 by omega)]
    split <;> rfl) (fun _ _ _ _ => trivial) (by
    intro f s _
    show sp_X13_coulds_L11 G F (mS h b A L S) (f + 1) b c t s (nI (tolN S)) = _
    rw [sp_X13_coulds_L11]
    simp only [s_is, if_true, s_f0, Option.bind_some, s_r_18]
    rw [if_pos (by rw [ht.2]; exact nI_le (by omega) (by omega))]) (tolN S) 0 F 0 (by omega) (by omega) trivial
  unfold sp_X13_coulds cldV
  by_cases hw : w = 1
  · rw [if_pos hw, if_pos hw, show sp_X13_coulds_L11 G F (mS h b A L S) F b c t 0 0 = _ from k3]
    rfl
  · rw [if_neg hw, if_neg hw, show sp_X13_coulds_L93 G F (mS h b A L S) F b c t 0 0 = _ from k1, Option.bind_some, show sp_X13_coulds_L158 G F (mS h b A L S) F b c t (itN (rcst S c t) (recN S) 0 0) 0 = _ from k2 _ (by omega) (by omega) trivial]
    rfl
theorem s_could {p1 p2 p3 : Int32} (hF : 40 ≤ F) (hm : mOk S) (ok : rowOk S) (hr : rOk S) (ht : toldOk S) (hrs : recsOk S) (hts : tldsOk S) : sp_X13_could G F (mS h b A L S) b p1 p2 p3 = some (couldR S p1 p2 p3) := by
  unfold sp_X13_could couldR
  simp only [i_isIn, Option.bind_some, b0, s_is, if_true, s_f0, Option.bind_some, s_coulds hF hm ok hr ht hrs hts]
  by_cases h3 : inB p3 0 1
  · rw [if_neg (nn h3), if_neg (nn h3)]
    by_cases h1 : inB p1 0 63
    · rw [if_neg (nn h1)]
      by_cases h2 : inB p2 0 9999
      · rw [if_neg (nn h2), if_neg (nn ⟨h1, h2⟩)]
      · rw [if_pos h2, if_pos (fun hh => h2 hh.2)]
    · rw [if_pos h1, if_pos (fun hh => h1 hh.1)]
  · rw [if_pos h3, if_pos h3]
theorem s_crowded {p1 p2 : Int32} (hF : 100 ≤ F) (hm : mOk S) (ok : rowOk S) (hr : rOk S) (ht : toldOk S) (hrs : recsOk S) (hts : tldsOk S) : sp_X13_crowded G F (mS h b A L S) b p1 p2 = some (crowdedR S p1 p2) := by
  have key : ∀ (n i f : Nat), n + i = 64 → n < f → sp_X13_crowded_L27 G F (mS h b A L S) f b p1 p2 (nI i) = some (crL S p1 p2 n i) := by
    intro n
    induction n with
    | zero =>
      intro i f hi hf
      obtain ⟨f, rfl⟩ : ∃ z, f = z + 1 := ⟨f - 1, by omega⟩
      rw [sp_X13_crowded_L27, if_pos (show (64 : Int32) ≤ nI i from nI_le (a := 64) (by omega) (by omega))]
      rfl
    | succ n ih =>
      intro i f hi hf
      obtain ⟨f, rfl⟩ : ∃ z, f = z + 1 := ⟨f - 1, by omega⟩
      rw [sp_X13_crowded_L27, if_neg (show ¬ (64 : Int32) ≤ nI i from nI_ge (b := 64) (by omega) (by decide))]
      simp only [s_is, if_true, s_f0, Option.bind_some, s_coulds (show 40 ≤ F by omega) hm ok hr ht hrs hts, nI_1, ih (i + 1) f (by omega) (by omega), crL]
      split <;> rfl
  unfold sp_X13_crowded crowdedR
  simp only [i_isIn, Option.bind_some, b0]
  by_cases h1 : inB p2 0 1
  · rw [if_neg (nn h1), if_neg (nn h1)]
    by_cases h2 : inB p1 0 9999
    · rw [if_neg (nn h2), if_neg (nn h2)]
      exact key 64 0 F (by omega) (by omega)
    · rw [if_pos h2, if_pos h2]
  · rw [if_pos h1, if_pos h1]
end R21
section X21
variable {G : gG} {F n bx : Nat} {h : gH} {b : Nat} {c : Nat → Int32} {S C T I : Nat → Int32} {J K : Nat → Nat → Int32} {Q R : Nat → Nat → Int64}
theorem x_couldTake {a : Nat} {x y e t : Int32} (hF : 40 ≤ F) (hG : gI4 G) (hro : rowOk S) (ha8 : a < 8) (ha : a < manyN S) (hy : y < 0 ↔ y = -5) : sp_X2_couldTake G F (wh G h b S J Q) (sg b a) e t x y = some (cbV S a x y e t) := by
  have hka := (hro a ha8).kind
  have ea0 : gKd G (gS G (kindN S a)) 0 = some (gAmb (kindN S a)) := i_gKd hG hka.1 0
  have ea1 : gKd G (gS G (kindN S a)) 1 = some (gPac (kindN S a)) := i_gKd hG hka.1 1
  unfold sp_X2_couldTake cbV
  simp only [x_sg_is ha8, if_true, x_placeOf hF hro ha8 ha, Option.bind_some, x_sg_f0 ha8 ha, ea0, ea1]
  unfold plcV ngV
  by_cases h1 : placeV S a e < 0
  · rw [if_pos h1, if_pos h1, if_pos (by decide)]
  · rw [if_neg h1, if_neg h1, if_neg h1]
    by_cases h2 : x + gPac (kindN S a) * placeV S a e ≤ t
    · rw [if_neg (Int32.not_lt.mpr h2), if_pos h2]
      by_cases h3 : y < 0
      · rw [if_pos (hy.mp h3), if_pos h3]
      · rw [if_neg (fun hh => h3 (hy.mpr hh)), if_neg h3]
        split <;> rfl
    · rw [if_pos (Int32.not_le.mp h2), if_neg h2]
theorem nn5 {y : Nat} (hy : y < 2 ^ 31) : nI y < 0 ↔ nI y = -5 := ⟨fun hh => absurd hh (nI_nn hy), fun hh => by rw [hh]; decide⟩
theorem v_couldOf {t1 : Nat} {e t w : Int32} (hF : 40 ≤ F) (hG : gI4 G) (hm : mOk S) (hro : rowOk S) (hr : rOk S) (hn : numOk S t1) (ht : toldOk S) (hrs : recsOk S) (hts : tldsOk S) (hJ : jOk J) (hrr : rrOk S J) : sp_X0_couldOf G F (wh G (xo h bx c) (bx + 1) S J Q) bx e t w = some (cldV S e t w) := by
  have h8 := hm.1
  have h24 := hr.1
  have ht8 := ht.1
  have hrt := hJ.1
  have hlt : ∀ i, i < recN S → (i + 24 - rtN J) % 24 < recN S := fun i hi => by
    rcases hrr with e | e
    · rw [e]; exact Nat.mod_lt _ (by decide)
    · rw [e]; omega
  have k1 := it_loop (m := recN S) (fun f i s => sp_X0_couldBy_L6 G F (wh G (xo h bx c) (bx + 1) S J Q) f bx (bx + 1 + 3) (S 15) e t s (nI i)) (fun i => rcst S e t ((i + 24 - rtN J) % 24)) (fun _ _ => True) (fun s => s) (by
    intro i f s hi _
    show sp_X0_couldBy_L6 G F (wh G (xo h bx c) (bx + 1) S J Q) (f + 1) bx (bx + 1 + 3) (S 15) e t s (nI i) = _
    obtain ⟨⟨a, ha, ea⟩, x, y, hxy, hy, ex, ey⟩ := hrs _ (hlt i hi)
    have en : ¬ S 15 ≤ nI i := by rw [hr.2]; exact nI_ge (by omega) (by omega)
    have hi24 : i < 24 := by omega
    rw [sp_X0_couldBy_L6]
    unfold rcst
    simp only [v_f0, en, if_false, x_f22, x_a3 hi24, x_rc_f0 hi24 (hlt i hi), x_rc_f1 hi24 (hlt i hi), x_rc_f2 hi24 (hlt i hi), ea, ex, ey, x_a1 (show a < 8 by omega), x_sg_is (show a < 8 by omega), if_true, x_couldTake hF hG hro (show a < 8 by omega) ha (nn5 (show y < 2 ^ 31 by omega)), nI_1, Option.bind_some, Int32.or_zero, nI_c (show a < 2 ^ 31 by omega)]
    split <;> rfl) (fun _ _ _ _ => trivial) (by
    intro f s _
    show sp_X0_couldBy_L6 G F (wh G (xo h bx c) (bx + 1) S J Q) (f + 1) bx (bx + 1 + 3) (S 15) e t s (nI (recN S)) = _
    rw [sp_X0_couldBy_L6]
    rw [if_pos (by rw [hr.2]; exact nI_le (by omega) (by omega))]) (recN S) 0 F 0 (by omega) (by omega) trivial
  rw [it_rot hrt hrr h24 (fun i j _ _ s => rcst_comm i j s)] at k1
  have k2 := it_loop (m := manyN S) (fun f i s => sp_X0_couldOf_L51 G F (wh G (xo h bx c) (bx + 1) S J Q) f bx e t s (nI i)) (sgst S e t) (fun _ _ => True) (fun s => s) (by
    intro i f s hi _
    show sp_X0_couldOf_L51 G F (wh G (xo h bx c) (bx + 1) S J Q) (f + 1) bx e t s (nI i) = _
    have en : ¬ S 13 ≤ nI i := by rw [hm.2]; exact nI_ge (by omega) (by omega)
    have hi8 : i < 8 := by omega
    rw [sp_X0_couldOf_L51]
    unfold sgst
    simp only [v_f0, x_f13, en, if_false, x_f22, x_a1 hi8, x_sg_f6 hi8 hi, x_sg_f7 hi8 hi, x_sg_is hi8, if_true, x_couldTake hF hG hro hi8 hi (show (-5 : Int32) < 0 ↔ (-5 : Int32) = -5 from ⟨fun _ => rfl, fun _ => by decide⟩), nI_1, Option.bind_some, Int32.or_zero]
    rcases (hn.2 i hi).2.1 with g0 | g1
    · rw [if_pos g0, if_neg (by rw [g0]; decide)]
    · rw [if_neg (by rw [g1]; decide), if_pos g1]
      split <;> rfl) (fun _ _ _ _ => trivial) (by
    intro f s _
    show sp_X0_couldOf_L51 G F (wh G (xo h bx c) (bx + 1) S J Q) (f + 1) bx e t s (nI (manyN S)) = _
    rw [sp_X0_couldOf_L51]
    simp only [v_f0, x_f13, Option.bind_some]
    rw [if_pos (by rw [hm.2]; exact nI_le (by omega) (by omega))]) (manyN S) 0 F
  have k3 := it_loop (m := tolN S) (fun f i s => sp_X0_couldBy_L6 G F (wh G (xo h bx c) (bx + 1) S J Q) f bx (bx + 1 + 4) (S 18) e t s (nI i)) (tlst S e t) (fun _ _ => True) (fun s => s) (by
    intro i f s hi _
    show sp_X0_couldBy_L6 G F (wh G (xo h bx c) (bx + 1) S J Q) (f + 1) bx (bx + 1 + 4) (S 18) e t s (nI i) = _
    obtain ⟨⟨a, ha, ea⟩, x, y, hxy, hy, ex, ey⟩ := hts i hi
    have ea' : S (321 + 3 * i + 0) = nI a := ea
    have en : ¬ S 18 ≤ nI i := by rw [ht.2]; exact nI_ge (by omega) (by omega)
    have hi8 : i < 8 := by omega
    rw [sp_X0_couldBy_L6]
    unfold tlst
    simp only [v_f0, en, if_false, x_f22, x_a4 hi8, x_tl_f0 hi8 hi, x_tl_f1 hi8 hi, x_tl_f2 hi8 hi, ea, ea', ex, ey, x_a1 (show a < 8 by omega), x_sg_is (show a < 8 by omega), if_true, x_couldTake hF hG hro (show a < 8 by omega) ha (nn5 (show y < 2 ^ 31 by omega)), nI_1, Option.bind_some, Int32.or_zero, nI_c (show a < 2 ^ 31 by omega)]
    split <;> rfl) (fun _ _ _ _ => trivial) (by
    intro f s _
    show sp_X0_couldBy_L6 G F (wh G (xo h bx c) (bx + 1) S J Q) (f + 1) bx (bx + 1 + 4) (S 18) e t s (nI (tolN S)) = _
    rw [sp_X0_couldBy_L6]
    rw [if_pos (by rw [ht.2]; exact nI_le (by omega) (by omega))]) (tolN S) 0 F 0 (by omega) (by omega) trivial
  unfold sp_X0_couldOf sp_X0_couldBy cldV
  simp only [v_f0, x_f25, x_f24, x_f17, x_f15, v_is, if_true, Option.bind_some]
  by_cases hw : w = 1
  · rw [if_pos hw, if_pos hw, show sp_X0_couldBy_L6 G F (wh G (xo h bx c) (bx + 1) S J Q) F bx (bx + 1 + 4) (S 18) e t 0 0 = _ from k3]
    rfl
  · rw [if_neg hw, if_neg hw, show sp_X0_couldBy_L6 G F (wh G (xo h bx c) (bx + 1) S J Q) F bx (bx + 1 + 3) (S 15) e t 0 0 = _ from k1, Option.bind_some, Option.bind_some, show sp_X0_couldOf_L51 G F (wh G (xo h bx c) (bx + 1) S J Q) F bx e t (itN (rcst S e t) (recN S) 0 0) 0 = _ from k2 _ (by omega) (by omega) trivial]
    rfl
theorem v_could {t1 : Nat} {p1 p2 p3 : Int32} (hF : 100 ≤ F) (hG : gI4 G) (hnb : bx + 106 ≤ n) (hm : mOk S) (hro : rowOk S) (hr : rOk S) (hn : numOk S t1) (ht : toldOk S) (hrs : recsOk S) (hts : tldsOk S) (hJ : jOk J) (hrr : rrOk S J) : ∃ h' n', sp_X0_could G F (wh G (xo h bx c) (bx + 1) S J Q) n bx p1 p2 p3 = some (couldR S p1 p2 p3, wh G (xo h' bx c) (bx + 1) S J Q, n') ∧ hUp h h' n n' := by
  unfold sp_X0_could couldR
  simp only [i_in_0_1, i_in_0_63, i_in_0_9999, Option.bind_some, b0]
  by_cases h3 : inB p3 0 1
  · rw [if_neg (nn h3), if_neg (nn h3)]
    simp only [v_up hnb, Option.bind_some, sb0 hnb (show 2 < 100 by decide) (by decide) if01, sb1 hnb (show 2 < 100 by decide) (by decide) if01, v_are hF hnb (show 2 < 90 by decide), all2, bI_f, v_is, if_true]
    generalize eh : va_up h n (some (Sum.inl (3, 2, Sum.inl (upd (upd (fun _ => 0) 0 (if inB p1 0 63 then 1 else 0)) 1 (if inB p2 0 9999 then 1 else 0))))) = h'
    have hu : hUp h h' n (n + 1) := by rw [← eh]; exact hUp_1
    refine ⟨h', n + 1, ?_, hu⟩
    by_cases hin : inB p1 0 63 ∧ inB p2 0 9999
    · rw [if_neg (nn hin), if_neg (nn hin), v_couldOf (show 40 ≤ F by omega) hG hm hro hr hn ht hrs hts hJ hrr]
      rfl
    · rw [if_pos hin, if_pos hin]
  · rw [if_pos h3, if_pos h3]
    exact ⟨h, n, rfl, hUp_refl⟩
theorem v_crowded {t1 : Nat} {p1 p2 : Int32} (hF : 100 ≤ F) (hG : gI4 G) (hm : mOk S) (hro : rowOk S) (hr : rOk S) (hn : numOk S t1) (ht : toldOk S) (hrs : recsOk S) (hts : tldsOk S) (hJ : jOk J) (hrr : rrOk S J) : sp_X0_crowded G F (wh G (xo h bx c) (bx + 1) S J Q) bx p1 p2 = some (crowdedR S p1 p2) := by
  have key : ∀ (n i f : Nat), n + i = 64 → n < f → sp_X0_crowded_L29 G F (wh G (xo h bx c) (bx + 1) S J Q) f bx p1 p2 (nI i) = some (crL S p1 p2 n i) := by
    intro n
    induction n with
    | zero =>
      intro i f hi hf
      obtain ⟨f, rfl⟩ : ∃ z, f = z + 1 := ⟨f - 1, by omega⟩
      rw [sp_X0_crowded_L29, if_pos (show (64 : Int32) ≤ nI i from nI_le (a := 64) (by omega) (by omega))]
      rfl
    | succ n ih =>
      intro i f hi hf
      obtain ⟨f, rfl⟩ : ∃ z, f = z + 1 := ⟨f - 1, by omega⟩
      rw [sp_X0_crowded_L29, if_neg (show ¬ (64 : Int32) ≤ nI i from nI_ge (b := 64) (by omega) (by decide))]
      simp only [v_is, if_true, v_couldOf (show 40 ≤ F by omega) hG hm hro hr hn ht hrs hts hJ hrr, nI_1, Option.bind_some, ih (i + 1) f (by omega) (by omega), crL]
      split <;> rfl
  unfold sp_X0_crowded crowdedR
  simp only [i_in_0_1, i_in_0_9999, Option.bind_some, b0]
  by_cases h1 : inB p2 0 1
  · rw [if_neg (nn h1), if_neg (nn h1)]
    by_cases h2 : inB p1 0 9999
    · rw [if_neg (nn h2), if_neg (nn h2)]
      exact key 64 0 F (by omega) (by omega)
    · rw [if_pos h2, if_pos h2]
  · rw [if_pos h1, if_pos h1]
end X21
