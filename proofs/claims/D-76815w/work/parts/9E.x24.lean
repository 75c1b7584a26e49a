/-! x24: bitCount on longs; cardinality; of (class) -/
set_option maxRecDepth 100000
def n64 (k : Nat) : Int64 := Int64.ofBitVec (BitVec.ofNat 64 k)
theorem n64_b {k : Nat} : (n64 k).toBitVec = BitVec.ofNat 64 k := rfl
theorem n64_of (w : Int64) : w = n64 w.toBitVec.toNat := by
  rw [← Int64.toBitVec_inj, n64_b, BitVec.ofNat_toNat, BitVec.setWidth_eq]
theorem n64_and {a d : Nat} : n64 a &&& n64 d = n64 (a &&& d) := by
  rw [← Int64.toBitVec_inj, Int64.toBitVec_and, n64_b, n64_b, n64_b, BitVec.ofNat_and]
theorem n64_add {a d : Nat} : n64 a + n64 d = n64 (a + d) := by
  rw [← Int64.toBitVec_inj, Int64.toBitVec_add, n64_b, n64_b, n64_b, BitVec.ofNat_add]
theorem n64_sub {a d : Nat} (h : d ≤ a) : n64 a - n64 d = n64 (a - d) := by
  have e : n64 a = n64 (a - d) + n64 d := by rw [n64_add, Nat.sub_add_cancel h]
  rw [e, ← Int64.toBitVec_inj, Int64.toBitVec_sub, Int64.toBitVec_add, BitVec.add_sub_cancel]
theorem n64_sh {a j : Nat} {s : UInt64} (ha : a < 2 ^ 64) (hs : s.toNat = j) (hj : j < 64) : ((n64 a).toUInt64 >>> s).toInt64 = n64 (a >>> j) := by
  rw [← Int64.toBitVec_inj]
  apply BitVec.eq_of_toNat_eq
  show ((n64 a).toUInt64 >>> s).toNat = _
  have e : (n64 a).toUInt64.toNat = a := by
    show (BitVec.ofNat 64 a).toNat = a
    rw [BitVec.toNat_ofNat, Nat.mod_eq_of_lt ha]
  rw [UInt64.toNat_shiftRight, hs, Nat.mod_eq_of_lt hj, e, n64_b, BitVec.toNat_ofNat, Nat.mod_eq_of_lt (Nat.lt_of_le_of_lt (Nat.shiftRight_le a j) ha)]
theorem n64_32 {a : Nat} : (n64 a).toInt32 = nI a := by
  rw [← Int32.toBitVec_inj]
  apply BitVec.eq_of_toNat_eq
  show ((BitVec.ofNat 64 a).signExtend 32).toNat = (BitVec.ofNat 32 a).toNat
  rw [BitVec.signExtend_eq_setWidth_of_le _ (by decide), BitVec.toNat_setWidth, BitVec.toNat_ofNat, BitVec.toNat_ofNat]
  omega
theorem nI_127 {a : Nat} : nI a &&& 127 = nI (a &&& 127) := by
  rw [← Int32.toBitVec_inj, Int32.toBitVec_and]
  show BitVec.ofNat 32 a &&& BitVec.ofNat 32 127 = BitVec.ofNat 32 (a &&& 127)
  rw [BitVec.ofNat_and]
def bcV (w : Int64) : Nat := sm (bitI w.toBitVec.toNat) 64
theorem c1_le {m x : Nat} : c1 m x ≤ x := Nat.sub_le _ _
theorem i_bitCount {G : gG} {F : Nat} {h : gH} {w : Int64} : sp_J17_bitCount G F h w = some (nI (bcV w)) := by
  have hx : w.toBitVec.toNat < 2 ^ 64 := w.toBitVec.isLt
  rw [n64_of w]
  have eb : bcV (n64 w.toBitVec.toNat) = sm (bitI w.toBitVec.toNat) 64 := by unfold bcV; rw [← n64_of w]
  rw [eb]
  generalize w.toBitVec.toNat = x at hx ⊢
  obtain ⟨k3, k4, k5, k6, -⟩ := x6_v hx
  have hc1 : c1 6148914691236517205 x < 2 ^ 64 := Nat.lt_of_le_of_lt c1_le hx
  have hc2 : c2 3689348814741910323 (c1 6148914691236517205 x) < 2 ^ 64 := by
    unfold c2
    have g1 : c1 6148914691236517205 x &&& 3689348814741910323 ≤ 3689348814741910323 := Nat.and_le_right
    have g2 : (c1 6148914691236517205 x >>> 2) &&& 3689348814741910323 ≤ 3689348814741910323 := Nat.and_le_right
    omega
  unfold sp_J17_bitCount
  have e1 : n64 x - ((((n64 x).toUInt64 >>> ((1 : Int32).toInt64.toUInt64 &&& Int64.toUInt64 63)).toInt64) &&& (6148914691236517205 : Int64)) = n64 (c1 6148914691236517205 x) := by
    rw [n64_sh hx (show ((1 : Int32).toInt64.toUInt64 &&& Int64.toUInt64 63).toNat = 1 by decide) (by decide), show (6148914691236517205 : Int64) = n64 6148914691236517205 by decide, n64_and, n64_sub (Nat.le_trans Nat.and_le_left (Nat.shiftRight_le x 1))]
    rfl
  rw [e1]
  have e2 : (n64 (c1 6148914691236517205 x) &&& (3689348814741910323 : Int64)) + ((((n64 (c1 6148914691236517205 x)).toUInt64 >>> ((2 : Int32).toInt64.toUInt64 &&& Int64.toUInt64 63)).toInt64) &&& (3689348814741910323 : Int64)) = n64 (c2 3689348814741910323 (c1 6148914691236517205 x)) := by
    rw [n64_sh hc1 (show ((2 : Int32).toInt64.toUInt64 &&& Int64.toUInt64 63).toNat = 2 by decide) (by decide), show (3689348814741910323 : Int64) = n64 3689348814741910323 by decide, n64_and, n64_and, n64_add]
    rfl
  rw [e2]
  have e3 : (n64 (c2 3689348814741910323 (c1 6148914691236517205 x)) + (((n64 (c2 3689348814741910323 (c1 6148914691236517205 x))).toUInt64 >>> ((4 : Int32).toInt64.toUInt64 &&& Int64.toUInt64 63)).toInt64)) &&& (1085102592571150095 : Int64) = n64 (x3V x) := by
    rw [n64_sh hc2 (show ((4 : Int32).toInt64.toUInt64 &&& Int64.toUInt64 63).toNat = 4 by decide) (by decide), show (1085102592571150095 : Int64) = n64 1085102592571150095 by decide, n64_add, n64_and]
    rfl
  rw [e3]
  have e4 : n64 (x3V x) + (((n64 (x3V x)).toUInt64 >>> ((8 : Int32).toInt64.toUInt64 &&& Int64.toUInt64 63)).toInt64) = n64 (x4V x) := by
    rw [n64_sh k3 (show ((8 : Int32).toInt64.toUInt64 &&& Int64.toUInt64 63).toNat = 8 by decide) (by decide), n64_add]
    rfl
  rw [e4]
  have e5 : n64 (x4V x) + (((n64 (x4V x)).toUInt64 >>> ((16 : Int32).toInt64.toUInt64 &&& Int64.toUInt64 63)).toInt64) = n64 (x5V x) := by
    rw [n64_sh k4 (show ((16 : Int32).toInt64.toUInt64 &&& Int64.toUInt64 63).toNat = 16 by decide) (by decide), n64_add]
    rfl
  rw [e5]
  have e6 : n64 (x5V x) + (((n64 (x5V x)).toUInt64 >>> ((32 : Int32).toInt64.toUInt64 &&& Int64.toUInt64 63)).toInt64) = n64 (x6V x) := by
    rw [n64_sh k5 (show ((32 : Int32).toInt64.toUInt64 &&& Int64.toUInt64 63).toNat = 32 by decide) (by decide), n64_add]
    rfl
  rw [e6, n64_32, nI_127, k6]
/-- a way's cells are all different -/
def dstOk (S : Nat → Int32) : Prop := ∀ a, a < manyN S → ∀ i j, i < cellsN S a → j < cellsN S a → S (sA a (12 + i)) = S (sA a (12 + j)) → i = j
theorem sm_0 : ∀ n, sm (fun _ => 0) n = 0 := by
  intro n
  induction n with
  | zero => rfl
  | succ n ih => rw [sm_s, ih]
theorem sm_k {k : Nat} : ∀ n, (sm (fun i => if i = k then 1 else 0) n) = if k < n then 1 else 0 := by
  intro n
  induction n with
  | zero => rfl
  | succ n ih =>
    rw [sm_s, ih]
    by_cases h1 : k < n
    · rw [if_pos h1, if_neg (by omega), if_pos (by omega)]
    · rw [if_neg h1]
      by_cases h2 : n = k
      · rw [if_pos h2, if_pos (by omega)]
      · rw [if_neg h2, if_neg (by omega)]
theorem sm_1 : ∀ n, sm (fun _ => 1) n = n := by
  intro n
  induction n with
  | zero => rfl
  | succ n ih => rw [sm_s, ih]
theorem bc_cells {S : Nat → Int32} {Q : Nat → Nat → Int64} {k : Nat} (hk : k < manyN S) (h8 : cellsN S k ≤ 8) (hB : bsOk S Q) (hcl : cellOk S) (hd : dstOk S) : bcV (Q (13 + 6 * k) 0) = cellsN S k := by
  have h1 : ∀ c, c < 64 → bitI (Q (13 + 6 * k) 0).toBitVec.toNat c = sm (fun j => if S (sA k (12 + j)) = nI c then 1 else 0) (cellsN S k) := by
    intro c hc
    have hb := hB k hk c hc
    have hone := sm_one (f := fun j => if S (sA k (12 + j)) = nI c then 1 else 0) (n := cellsN S k) (fun i _ => by show (if _ then 1 else 0) ≤ 1; split <;> decide) (fun i j hi hj e1 e2 => by
      have g1 : S (sA k (12 + i)) = nI c := Classical.byContradiction fun hh => by simp only [if_neg hh] at e1; exact absurd e1 (by decide)
      have g2 : S (sA k (12 + j)) = nI c := Classical.byContradiction fun hh => by simp only [if_neg hh] at e2; exact absurd e2 (by decide)
      exact hd k hk i j hi hj (g1.trans g2.symm))
    have hbit : (Q (13 + 6 * k) 0).toBitVec.toNat.testBit c = (Q (13 + 6 * k) 0).toBitVec.getLsbD c := rfl
    unfold bitI
    rw [hbit]
    by_cases h : 0 ≤ placeV S k (nI c)
    · rw [if_pos (hb.mpr h)]
      rcases placeV_v (S := S) (a := k) (x := nI c) h8 with ⟨e, -⟩ | ⟨j, hj, ej, -⟩
      · rw [e] at h; exact absurd h (by decide)
      · exact (hone.2.mpr ⟨j, hj, if_pos ej⟩).symm
    · rw [if_neg (fun hh => h (hb.mp hh))]
      have : ¬ sm (fun j => if S (sA k (12 + j)) = nI c then 1 else 0) (cellsN S k) = 1 := fun hh => by
        obtain ⟨j, hj, ej⟩ := hone.2.mp hh
        have g1 : S (sA k (12 + j)) = nI c := Classical.byContradiction fun hh => by simp only [if_neg hh] at ej; exact absurd ej (by decide)
        rcases placeV_v (S := S) (a := k) (x := nI c) h8 with ⟨-, e⟩ | ⟨i, hi, -, ei⟩
        · exact e j hj g1
        · exact h (by rw [ei]; exact nI_pos' (by omega))
      have := hone.1
      omega
  unfold bcV
  rw [sm_congr 64 h1, sm_swap]
  rw [sm_congr (g := fun _ => 1) (cellsN S k) fun j hj => by
    obtain ⟨c, hc, ec⟩ := hcl k hk j hj
    rw [sm_congr (g := fun t => if t = c then 1 else 0) 64 fun t ht => by
      show (if S (sA k (12 + j)) = nI t then 1 else 0) = _
      rw [ec]
      by_cases e : t = c
      · rw [if_pos e, if_pos (by rw [e])]
      · rw [if_neg e, if_neg (fun hh => e ((nI_eq (by omega) (by omega)).mp hh).symm)]]
    rw [sm_k, if_pos hc]]
  exact sm_1 _
section X24
variable {G : gG} {F n bx : Nat} {h : gH} {b : Nat} {c : Nat → Int32} {S C T I : Nat → Int32} {J K : Nat → Nat → Int32} {Q R : Nat → Nat → Int64}
theorem x_card {k : Nat} (hF : 10 ≤ F) (hk8 : k < 8) (hk : k < manyN S) (hA : bsAll J Q) (hB : bsOk S Q) (h8 : cellsN S k ≤ 8) (hcl : cellOk S) (hd : dstOk S) : sp_J1_cardinality G F (wh G h b S J Q) (sgw b k) = some (nI (cellsN S k)) := by
  have e := bc_cells hk h8 hB hcl hd
  obtain ⟨F, rfl⟩ : ∃ z, F = z + 2 := ⟨F - 2, by omega⟩
  unfold sp_J1_cardinality
  rw [sp_J1_cardinality_L4]
  simp only [x_sgw_f1 hk8, x_sgw_f0 hk8, x_sgl_a hk8, i_bitCount, e, Option.bind_some]
  rcases hA k hk8 with ⟨e1, e2⟩ | e1
  · rw [e1, if_pos (by decide)]
    have : cellsN S k = 0 := by rw [← e, e2]; decide +kernel
    rw [this]
    rfl
  · rw [e1, if_neg (by decide), sp_J1_cardinality_L4]
    simp only [x_sgw_f1 hk8, e1, Option.bind_some]
    rw [if_pos (by decide), Option.bind_some, Int32.zero_add]
theorem x_ordinal {i : Nat} (hG : gI4 G) (hi : i < 4) {H : gH} : sp_ordinal G F H (gS G i) = some (nI i) := by
  have e : gKd G (gS G i) 2 = some (gOrd i) := i_gKd hG hi 2
  have eo : gOrd i = nI i := by
    match i, hi with
    | 0, _ => rfl
    | 1, _ => rfl
    | 2, _ => rfl
    | 3, _ => rfl
  have ek : sp_J0_ordinal G F H (gS G i) = some (nI i) := by
    unfold sp_J0_ordinal
    rw [e, eo]
    rfl
  unfold sp_ordinal
  rw [ek]
  match i, hi with
  | 0, _ => simp
  | 1, _ => simp
  | 2, _ => simp
  | 3, _ => simp
theorem v_of {t : Nat} {p1 p2 : Int32} (hF : 40 ≤ F) (hG : gI4 G) (ht : t < 2 ^ 31) (hset : setOk S) (hn : numOk S t) (hW : wOk S J Q) (hC : clOk C S J) (hd : dstOk S) : sp_X0_of G F (wh G (xo h bx c) (bx + 1) S J Q) bx p1 p2 = some (ofR C S p1 p2) := by
  obtain ⟨hm, hro, -, hcl⟩ := id hset
  have h8 := hm.1
  unfold sp_X0_of ofR
  simp only [v_is, if_true, v_isSignal, i_in_0_13, Option.bind_some, b0]
  by_cases h1 : inB p1 0 (S 13 - 1)
  · rw [if_neg (nn h1), if_neg (nn h1)]
    by_cases h2 : inB p2 0 13
    · rw [if_neg (nn h2), if_neg (nn h2)]
      have h1' := h1
      rw [hm.2] at h1'
      obtain ⟨a, ha, rfl⟩ : ∃ k, k < manyN S ∧ p1 = nI k := in_nI (by omega) h1'
      obtain ⟨w, hw, rfl⟩ : ∃ k, k < 14 ∧ p2 = nI k := in_nI (m := 14) (by decide) h2
      have ha8 : a < 8 := by omega
      have hcc := (hro a ha8).cells
      have hkk := (hro a ha8).kind
      simp only [v_f0, x_f22, x_a1 ha8, x_sg_f0 ha8 ha, x_ordinal hG hkk.1, x_sg_f3 ha8, x_sg_f5 ha8 ha, x_is, if_true, x_light hG ht hro hn ha8 ha, x_sg_f7 ha8 ha, x_sg_f8 ha8 ha, x_sg_f9 ha8 ha, x_sg_f10 ha8 ha, x_sg_f11 ha8 ha, x_sg_f2 ha8, x_sgw_is ha8, x_card (show 10 ≤ F by omega) ha8 ha hW.2.2.1 hW.2.2.2.1 hcc.1 hcl hd, x_meets hF hm ha hC, Option.bind_some, nI_c (show a < 2 ^ 31 by omega)]
      unfold ofV
      rw [hkk.2.symm, hcc.2.symm]
      have et : ∀ j, j < 4 → gAi 0 (wh G (xo h bx c) (bx + 1) S J Q) (sgt (bx + 1) a) (nI j) = some (S (sA a (1 + j))) := fun j hj => x_t ha8 ha hj
      match w, hw with
      | 0, _ => rfl
      | 1, _ => exact (show Option.bind (gAi 0 (wh G (xo h bx c) (bx + 1) S J Q) (sgt (bx + 1) a) (nI 0)) (fun x => some x) = some (S (sA a 1)) by rw [et 0 (by decide)]; rfl)
      | 2, _ => exact (show Option.bind (gAi 0 (wh G (xo h bx c) (bx + 1) S J Q) (sgt (bx + 1) a) (nI 1)) (fun x => some x) = some (S (sA a 2)) by rw [et 1 (by decide)]; rfl)
      | 3, _ => exact (show Option.bind (gAi 0 (wh G (xo h bx c) (bx + 1) S J Q) (sgt (bx + 1) a) (nI 2)) (fun x => some x) = some (S (sA a 3)) by rw [et 2 (by decide)]; rfl)
      | 4, _ => exact (show Option.bind (gAi 0 (wh G (xo h bx c) (bx + 1) S J Q) (sgt (bx + 1) a) (nI 3)) (fun x => some x) = some (S (sA a 4)) by rw [et 3 (by decide)]; rfl)
      | 5, _ => rfl
      | 6, _ => rfl
      | 7, _ => rfl
      | 8, _ => rfl
      | 9, _ => rfl
      | 10, _ => rfl
      | 11, _ => rfl
      | 12, _ => rfl
      | 13, _ => rfl
    · rw [if_pos h2, if_pos h2]
  · rw [if_pos h1, if_pos h1]
end X24
