/-! x20: greens (both sides): a fold over the record, in any order -/
set_option maxRecDepth 100000
theorem it_list {α : Type} {g : Nat → α → α} : ∀ (n i : Nat) (s : α), itN g n i s = (List.range' i n).foldl (fun s r => g r s) s := by
  intro n
  induction n with
  | zero => intro i s; rfl
  | succ n ih => intro i s; exact ih (i + 1) (g i s)
theorem rot_perm : ∀ k, k < 24 → ((List.range' 0 24).map (fun i => (i + 24 - k) % 24)).Perm (List.range' 0 24) := by decide
theorem it_rot {α : Type} {g : Nat → α → α} {n k : Nat} (hk : k < 24) (h : n = 24 ∨ k = 0) (hn : n ≤ 24) (hc : ∀ i j, i < n → j < n → ∀ s, g i (g j s) = g j (g i s)) (s : α) : itN (fun i => g ((i + 24 - k) % 24)) n 0 s = itN g n 0 s := by
  have e0 : (List.range' 0 n).foldl (fun s r => g ((r + 24 - k) % 24) s) s = ((List.range' 0 n).map (fun i => (i + 24 - k) % 24)).foldl (fun s r => g r s) s := by rw [List.foldl_map]
  have hp : ((List.range' 0 n).map (fun i => (i + 24 - k) % 24)).Perm (List.range' 0 n) := by
    rcases h with h | h
    · rw [h]; exact rot_perm k hk
    · rw [h]
      have e : (List.range' 0 n).map (fun i => (i + 24 - 0) % 24) = List.range' 0 n := by
        refine (List.map_congr_left fun a ha => ?_).trans (List.map_id _)
        have := List.mem_range'_1.mp ha
        show (a + 24 - 0) % 24 = a
        omega
      rw [e]
  rw [it_list, it_list, e0]
  refine hp.foldl_eq' (fun x hx y hy z => ?_) s
  have hx' := List.mem_range'_1.mp (hp.mem_iff.mp hx)
  have hy' := List.mem_range'_1.mp (hp.mem_iff.mp hy)
  exact hc y x (by omega) (by omega) z
def gst (S : Nat → Int32) (p : Int32) (r : Nat) (z : Int32 × Int32 × Int32 × Int32) : Int32 × Int32 × Int32 × Int32 :=
  if S (rA r 0) = p then (z.1 + 1, z.2.1 + (S (rA r 2) - S (rA r 1)), (if 0 ≤ z.2.2.1 then minI z.2.2.1 (S (rA r 2) - S (rA r 1)) else S (rA r 2) - S (rA r 1)), maxI z.2.2.2 (S (rA r 2) - S (rA r 1))) else z
def gsL (S : Nat → Int32) (p : Int32) : Int32 × Int32 × Int32 × Int32 := itN (gst S p) (recN S) 0 (0, 0, -5, -5)
def greensR (S : Nat → Int32) (p1 p2 : Int32) : Int32 := if ¬ inB p1 0 (S 13 - 1) then -1 else if ¬ inB p2 0 3 then -1 else if p2 = 0 then (gsL S p1).1 else if p2 = 1 then (gsL S p1).2.1 else if p2 = 2 then (gsL S p1).2.2.1 else (gsL S p1).2.2.2
/-- no row of the record ends before it began -/
def lenOk (S : Nat → Int32) : Prop := ∀ r, r < recN S → 0 ≤ S (rA r 2) - S (rA r 1)
theorem mn_comm {z d e : Int32} (hd : 0 ≤ d) (he : 0 ≤ e) : (if 0 ≤ (if 0 ≤ z then minI z e else e) then minI (if 0 ≤ z then minI z e else e) d else d) = (if 0 ≤ (if 0 ≤ z then minI z d else d) then minI (if 0 ≤ z then minI z d else d) e else e) := by
  unfold minI
  rw [Int32.le_iff_toInt_le] at hd he
  have i0 : (0 : Int32).toInt = 0 := rfl
  rw [i0] at hd he
  have key : ∀ x y : Int32, x.toInt = y.toInt → x = y := fun x y h => Int32.toInt_inj.mp h
  apply key
  split <;> split <;> (repeat' split) <;> simp only [Int32.le_iff_toInt_le, Int32.lt_iff_toInt_lt, i0] at * <;> omega
theorem mx_comm {z d e : Int32} : maxI (maxI z e) d = maxI (maxI z d) e := by
  unfold maxI
  apply Int32.toInt_inj.mp
  (repeat' split) <;> simp only [Int32.le_iff_toInt_le, Int32.lt_iff_toInt_lt] at * <;> omega
theorem gst_comm {S : Nat → Int32} {p : Int32} (hl : lenOk S) : ∀ i j, i < recN S → j < recN S → ∀ s, gst S p i (gst S p j s) = gst S p j (gst S p i s) := by
  intro i j hi hj s
  unfold gst
  by_cases h1 : S (rA i 0) = p
  · by_cases h2 : S (rA j 0) = p
    · rw [if_pos h2, if_pos h1, if_pos h1, if_pos h2]
      refine Prod.ext rfl (Prod.ext ?_ (Prod.ext ?_ ?_))
      · show s.2.1 + _ + _ = s.2.1 + _ + _
        rw [Int32.add_assoc, Int32.add_assoc, Int32.add_comm (S (rA j 2) - S (rA j 1))]
      · exact mn_comm (hl i hi) (hl j hj)
      · exact mx_comm
    · rw [if_neg h2, if_pos h1, if_neg h2]
  · rw [if_neg h1, if_neg h1]
section R20
variable {h : gH} {b : Nat} {A : Nat → Nat → Int32} {L : Nat → Nat → Int64} {S T : Nat → Int32} {G : gG} {F : Nat}
theorem s_recAt {r w : Nat} (hr : r < 24) (hw : w < 3) : sp_X13_recordAt G F (mS h b A L S) b (nI r) (nI w) = some (S (rA r w)) := by
  unfold sp_X13_recordAt
  simp only [s_is, if_true, s_f0, Option.bind_some, ix_r, nI_add, s_a (rA r w) (by unfold rA; omega)]
theorem s_rec0 {r : Nat} (hr : r < 24) : sp_X13_recordAt G F (mS h b A L S) b (nI r) 0 = some (S (rA r 0)) := s_recAt hr (by decide)
theorem s_rec1 {r : Nat} (hr : r < 24) : sp_X13_recordAt G F (mS h b A L S) b (nI r) 1 = some (S (rA r 1)) := s_recAt hr (by decide)
theorem s_rec2 {r : Nat} (hr : r < 24) : sp_X13_recordAt G F (mS h b A L S) b (nI r) 2 = some (S (rA r 2)) := s_recAt hr (by decide)
theorem s_greens {p1 p2 : Int32} (hF : 40 ≤ F) (hr : rOk S) : sp_X13_greens G F (mS h b A L S) b p1 p2 = some (greensR S p1 p2) := by
  have h24 := hr.1
  have key := it_loop (m := recN S) (fun f i (z : Int32 × Int32 × Int32 × Int32) => sp_X13_greens_L35 G F (mS h b A L S) f b p1 p2 z.1 z.2.1 z.2.2.1 z.2.2.2 (nI i)) (gst S p1) (fun _ _ => True) (fun z => (z.1, z.2.1, z.2.2.1, z.2.2.2)) (by
    intro i f z hi _
    show sp_X13_greens_L35 G F (mS h b A L S) (f + 1) b p1 p2 z.1 z.2.1 z.2.2.1 z.2.2.2 (nI i) = _
    have en : ¬ S 15 ≤ nI i := by rw [hr.2]; exact nI_ge (by omega) (by omega)
    rw [sp_X13_greens_L35]
    simp only [s_is, if_true, s_f0, Option.bind_some, s_r_15, en, if_false, s_rec0 (show i < 24 by omega), s_rec1 (show i < 24 by omega), s_rec2 (show i < 24 by omega), i_min, i_max, nI_1]
    unfold gst
    by_cases h1 : S (rA i 0) = p1
    · rw [if_pos h1, if_pos h1]
      by_cases h2 : 0 ≤ z.2.2.1
      · rw [if_pos h2, if_pos h2]
        rfl
      · rw [if_neg h2, if_neg h2]
        rfl
    · rw [if_neg h1, if_neg h1]) (fun _ _ _ _ => trivial) (by
    intro f z _
    show sp_X13_greens_L35 G F (mS h b A L S) (f + 1) b p1 p2 z.1 z.2.1 z.2.2.1 z.2.2.2 (nI (recN S)) = _
    rw [sp_X13_greens_L35]
    simp only [s_is, if_true, s_f0, Option.bind_some, s_r_15]
    rw [if_pos (by rw [hr.2]; exact nI_le (by omega) (by omega))]) (recN S) 0 F (0, 0, -5, -5) (by omega) (by omega) trivial
  unfold sp_X13_greens greensR
  simp only [s_is, if_true, s_f0, Option.bind_some, s_isSignal, i_isIn, b0]
  by_cases h1 : inB p1 0 (S 13 - 1)
  · rw [if_neg (nn h1), if_neg (nn h1)]
    by_cases h2 : inB p2 0 3
    · rw [if_neg (nn h2), if_neg (nn h2), show sp_X13_greens_L35 G F (mS h b A L S) F b p1 p2 0 0 (-5) (-5) 0 = _ from key]
      show (if p2 = 0 then _ else _) = _
      unfold gsL
      split
      · rfl
      · split
        · rfl
        · split <;> rfl
    · rw [if_pos h2, if_pos h2]
  · rw [if_pos h1, if_pos h1]
end R20
section X20
variable {G : gG} {F n bx : Nat} {h : gH} {b : Nat} {c : Nat → Int32} {S C T I : Nat → Int32} {J K : Nat → Nat → Int32} {Q R : Nat → Nat → Int64}
theorem x_lasts {i : Nat} (hi : i < 24) (hm : (i + 24 - rtN J) % 24 < recN S) : sp_X16_lasts G F (wh G h b S J Q) (rcA b i) = some (S (rA ((i + 24 - rtN J) % 24) 2) - S (rA ((i + 24 - rtN J) % 24) 1)) := by
  unfold sp_X16_lasts sp_X5_to sp_X5_from
  simp only [x_rc_is hi, if_true, x_rc_f1 hi hm, x_rc_f2 hi hm, Option.bind_some]
def gsP (i : Nat) (z : Int32 × Int32 × Int32 × Int32) : Prop := ∃ k, k ≤ i ∧ z.1 = nI k ∧ (k = 0 → ¬ 0 ≤ z.2.2.1) ∧ (0 < k → 0 ≤ z.2.2.1)
theorem gsP_st {p : Int32} {i r : Nat} {z : Int32 × Int32 × Int32 × Int32} (hl : lenOk S) (hr : r < recN S) (h : gsP i z) : gsP (i + 1) (gst S p r z) := by
  obtain ⟨k, hk, ek, e0, e1⟩ := h
  unfold gst
  by_cases h1 : S (rA r 0) = p
  · rw [if_pos h1]
    refine ⟨k + 1, by omega, ?_, fun e => by omega, fun _ => ?_⟩
    · show z.1 + 1 = _
      rw [ek, nI_1]
    · show 0 ≤ (if 0 ≤ z.2.2.1 then minI z.2.2.1 _ else _)
      by_cases h2 : 0 ≤ z.2.2.1
      · rw [if_pos h2]
        unfold minI
        split
        · exact hl r hr
        · exact h2
      · rw [if_neg h2]
        exact hl r hr
  · rw [if_neg h1]
    exact ⟨k, by omega, ek, e0, e1⟩
theorem v_greens {p1 p2 : Int32} (hF : 40 ≤ F) (hr : rOk S) (hJ : jOk J) (hrr : rrOk S J) (hl : lenOk S) : sp_X0_greens G F (wh G (xo h bx c) (bx + 1) S J Q) bx p1 p2 = some (greensR S p1 p2) := by
  have h24 := hr.1
  have hrt := hJ.1
  have hlt : ∀ i, i < recN S → (i + 24 - rtN J) % 24 < recN S := fun i hi => by
    rcases hrr with e | e
    · rw [e]; exact Nat.mod_lt _ (by decide)
    · rw [e]; omega
  have key := it_loop (m := recN S) (fun f i (z : Int32 × Int32 × Int32 × Int32) => sp_X0_greens_L38 G F (wh G (xo h bx c) (bx + 1) S J Q) f bx p1 p2 z.1 z.2.1 z.2.2.1 z.2.2.2 (nI i)) (fun i => gst S p1 ((i + 24 - rtN J) % 24)) gsP (fun z => (z.1, z.2.1, z.2.2.1, z.2.2.2)) (by
    intro i f z hi hP
    show sp_X0_greens_L38 G F (wh G (xo h bx c) (bx + 1) S J Q) (f + 1) bx p1 p2 z.1 z.2.1 z.2.2.1 z.2.2.2 (nI i) = _
    obtain ⟨k, hk, ek, e0, e1⟩ := hP
    have en : ¬ S 15 ≤ nI i := by rw [hr.2]; exact nI_ge (by omega) (by omega)
    have hi24 : i < 24 := by omega
    rw [sp_X0_greens_L38]
    simp only [v_f0, x_f15, en, if_false, x_f24, x_a3 hi24, x_rc_f0 hi24 (hlt i hi), x_rc_is hi24, if_true, x_lasts hi24 (hlt i hi), i_min, i_max, nI_1, Option.bind_some]
    unfold gst
    by_cases h1 : S (rA ((i + 24 - rtN J) % 24) 0) = p1
    · rw [if_pos h1, if_pos h1]
      by_cases h2 : k = 0
      · rw [if_pos (show z.1 + 1 = 1 by rw [ek, h2]; rfl), if_neg (e0 h2)]
        rfl
      · rw [if_neg (show ¬ z.1 + 1 = 1 by rw [ek, nI_1]; exact fun e => h2 (by have := (nI_eq (a := k + 1) (b := 1) (by omega) (by decide)).mp e; omega)), if_pos (e1 (by omega))]
        rfl
    · rw [if_neg h1, if_neg h1]) (fun i z hi hP => gsP_st hl (hlt i hi) hP) (by
    intro f z _
    show sp_X0_greens_L38 G F (wh G (xo h bx c) (bx + 1) S J Q) (f + 1) bx p1 p2 z.1 z.2.1 z.2.2.1 z.2.2.2 (nI (recN S)) = _
    rw [sp_X0_greens_L38]
    simp only [v_f0, x_f15, Option.bind_some]
    rw [if_pos (by rw [hr.2]; exact nI_le (by omega) (by omega))]) (recN S) 0 F (0, 0, -5, -5) (by omega) (by omega) ⟨0, Nat.le_refl _, rfl, fun _ => by decide, fun hh => absurd hh (by decide)⟩
  rw [it_rot hrt hrr h24 (gst_comm hl)] at key
  unfold sp_X0_greens greensR
  simp only [v_is, if_true, v_isSignal, i_in_0_3, Option.bind_some, b0]
  by_cases h1 : inB p1 0 (S 13 - 1)
  · rw [if_neg (nn h1), if_neg (nn h1)]
    by_cases h2 : inB p2 0 3
    · rw [if_neg (nn h2), if_neg (nn h2), show sp_X0_greens_L38 G F (wh G (xo h bx c) (bx + 1) S J Q) F bx p1 p2 0 0 (-5) (-5) 0 = _ from key]
      show (if p2 = 0 then _ else _) = _
      unfold gsL
      split
      · rfl
      · split
        · rfl
        · split <;> rfl
    · rw [if_pos h2, if_pos h2]
  · rw [if_pos h1, if_pos h1]
end X20
