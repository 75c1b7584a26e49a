set_option maxRecDepth 100000
def sp_X12_init (G : gG) (F : Nat) (h : gH) (a0 : Nat) : Option (Unit) :=
 some (())
theorem yk_X12_init : gIk yX12_init cX12_init 1 0 := ⟨q784, rfl, q122, q785, ⟨by decide +kernel, by decide +kernel, by decide +kernel⟩⟩
set_option maxHeartbeats 4000000 in
theorem m_X12_init (l : Launch) (G : gG) (F : Nat) (h : gH) (n : Nat) (a0 : Nat)  (hf : sp_X12_init G F h a0 = some ()) : gMet l G yX12_init cX12_init 1 none 1 20 0 0 [.ref a0] h n none h n := by
  refine gEnter (by decide) [(0, .ref a0)] rfl (Nat.le_of_ble_eq_true rfl) ?_
  intro p e s m below meth c H ls X hin hR hS hl
  have hx := X.1.1
  have hb := X.1.2.1
  unfold sp_X12_init at hf
  generalize ([] : List Loc) = locs at hS ⊢
  refine lv_aload_n hx hb dX12_init_0 rfl (lv_at hl 0 rfl) ?_
  refine g_objInit X q786 q138 q139 hl.1 ⟨Nat.le_of_ble_eq_true rfl, Nat.le_of_ble_eq_true rfl⟩ (Nat.le_of_ble_eq_true rfl) dX12_init_1 ?_
  exact g_vret X hR hS rfl ⟨Nat.le_of_ble_eq_true rfl, Nat.le_of_ble_eq_true rfl⟩ dX12_init_4

def sp_X12_sort (G : gG) (F : Nat) (h : gH) (a0 : Nat) : Option (Int32) :=
 (gGq 10 h a0 0).bind fun q1 =>
 if q1 = none then
 some ((-1 : Int32)) else
 (gGq 10 h a0 0).bind fun q3 =>
 (gInst 2 h q3).bind fun x4 =>
 if x4 = 0 then
 (gGq 10 h a0 0).bind fun q6 =>
 (gInst 4 h q6).bind fun x7 =>
 if x7 = 0 then
 (gGq 10 h a0 0).bind fun q9 =>
 (gInst 0 h q9).bind fun x10 =>
 if x10 = 0 then
 (gGq 10 h a0 0).bind fun q12 =>
 (gInst 1 h q12).bind fun x13 =>
 if x13 = 0 then
 some ((4 : Int32)) else
 some ((3 : Int32)) else
 some ((2 : Int32)) else
 some ((1 : Int32)) else
 some ((0 : Int32))
theorem yk_X12_sort : gVk yX12_sort cX12_sort 1 (some .int) 0 10 := ⟨q1605, q1606, q122, q1607, ⟨by decide +kernel, by decide +kernel, by decide +kernel⟩, rfl⟩
set_option maxHeartbeats 4000000 in
theorem m_X12_sort (l : Launch) (G : gG) (F : Nat) (h : gH) (n : Nat) (a0 : Nat) {r : Int32} (hf : sp_X12_sort G F h a0 = some r) : gMet l G yX12_sort cX12_sort 1 (some .int) 0 0 0 0 [.ref a0] h n (some (.int r)) h n := by
  refine gEnter (by decide) [(0, .ref a0)] rfl (Nat.le_of_ble_eq_true rfl) ?_
  intro p e s m below meth c H ls X hin hR hS hl
  have hx := X.1.1
  have hb := X.1.2.1
  unfold sp_X12_sort at hf
  generalize ([] : List Loc) = locs at hS ⊢
  refine lv_aload_n hx hb dX12_sort_0 rfl (lv_at hl 0 rfl) ?_
  obtain ⟨q1, eq1, hf⟩ := gBind hf
  refine g_getq X hR gk_X12 0 (by decide) q787 rfl eq1 dX12_sort_1 ?_
  refine g_ifnonnull X (tgt := 11) dX12_sort_4 (by decide) (fun c2 => ?_) (fun c2 => ?_)
  · replace hf := gIfn c2 hf
    refine lv_aload_n hx hb dX12_sort_11 rfl (lv_at hl 0 rfl) ?_
    obtain ⟨q3, eq3, hf⟩ := gBind hf
    refine g_getq X hR gk_X12 0 (by decide) q787 rfl eq3 dX12_sort_12 ?_
    obtain ⟨x4, ex4, hf⟩ := gBind hf
    refine g_inst X hR 2 (by decide) q1608 ex4 dX12_sort_15 ?_
    refine lv_if_eq (tgt := 25) hx hb dX12_sort_18 (by decide) (fun c5 => ?_) (fun c5 => ?_)
    · replace hf := gIfp c5 hf
      refine lv_aload_n hx hb dX12_sort_25 rfl (lv_at hl 0 rfl) ?_
      obtain ⟨q6, eq6, hf⟩ := gBind hf
      refine g_getq X hR gk_X12 0 (by decide) q787 rfl eq6 dX12_sort_26 ?_
      obtain ⟨x7, ex7, hf⟩ := gBind hf
      refine g_inst X hR 4 (by decide) q1609 ex7 dX12_sort_29 ?_
      refine lv_if_eq (tgt := 39) hx hb dX12_sort_32 (by decide) (fun c8 => ?_) (fun c8 => ?_)
      · replace hf := gIfp c8 hf
        refine lv_aload_n hx hb dX12_sort_39 rfl (lv_at hl 0 rfl) ?_
        obtain ⟨q9, eq9, hf⟩ := gBind hf
        refine g_getq X hR gk_X12 0 (by decide) q787 rfl eq9 dX12_sort_40 ?_
        obtain ⟨x10, ex10, hf⟩ := gBind hf
        refine g_inst X hR 0 (by decide) q1610 ex10 dX12_sort_43 ?_
        refine lv_if_eq (tgt := 53) hx hb dX12_sort_46 (by decide) (fun c11 => ?_) (fun c11 => ?_)
        · replace hf := gIfp c11 hf
          refine lv_aload_n hx hb dX12_sort_53 rfl (lv_at hl 0 rfl) ?_
          obtain ⟨q12, eq12, hf⟩ := gBind hf
          refine g_getq X hR gk_X12 0 (by decide) q787 rfl eq12 dX12_sort_54 ?_
          obtain ⟨x13, ex13, hf⟩ := gBind hf
          refine g_inst X hR 1 (by decide) q1611 ex13 dX12_sort_57 ?_
          refine lv_if_eq (tgt := 67) hx hb dX12_sort_60 (by decide) (fun c14 => ?_) (fun c14 => ?_)
          · replace hf := gIfp c14 hf
            refine lv_iconst (v := (4 : Int32)) hx hb dX12_sort_67 (by decide) ?_
            obtain rfl := gO1 hf
            exact g_iret X hR hS _ rfl ⟨Nat.le_of_ble_eq_true rfl, Nat.le_of_ble_eq_true rfl⟩ dX12_sort_68
          · replace hf := gIfn c14 hf
            refine lv_iconst (v := (3 : Int32)) hx hb dX12_sort_63 (by decide) ?_
            refine lv_goto (tgt := 68) hx hb dX12_sort_64 (by decide) ?_
            obtain rfl := gO1 hf
            exact g_iret X hR hS _ rfl ⟨Nat.le_of_ble_eq_true rfl, Nat.le_of_ble_eq_true rfl⟩ dX12_sort_68
        · replace hf := gIfn c11 hf
          refine lv_iconst (v := (2 : Int32)) hx hb dX12_sort_49 (by decide) ?_
          refine lv_goto (tgt := 68) hx hb dX12_sort_50 (by decide) ?_
          obtain rfl := gO1 hf
          exact g_iret X hR hS _ rfl ⟨Nat.le_of_ble_eq_true rfl, Nat.le_of_ble_eq_true rfl⟩ dX12_sort_68
      · replace hf := gIfn c8 hf
        refine lv_iconst (v := (1 : Int32)) hx hb dX12_sort_35 (by decide) ?_
        refine lv_goto (tgt := 68) hx hb dX12_sort_36 (by decide) ?_
        obtain rfl := gO1 hf
        exact g_iret X hR hS _ rfl ⟨Nat.le_of_ble_eq_true rfl, Nat.le_of_ble_eq_true rfl⟩ dX12_sort_68
    · replace hf := gIfn c5 hf
      refine lv_iconst (v := (0 : Int32)) hx hb dX12_sort_21 (by decide) ?_
      refine lv_goto (tgt := 68) hx hb dX12_sort_22 (by decide) ?_
      obtain rfl := gO1 hf
      exact g_iret X hR hS _ rfl ⟨Nat.le_of_ble_eq_true rfl, Nat.le_of_ble_eq_true rfl⟩ dX12_sort_68
  · replace hf := gIfp c2 hf
    refine lv_iconst (v := (-1 : Int32)) hx hb dX12_sort_7 (by decide) ?_
    refine lv_goto (tgt := 68) hx hb dX12_sort_8 (by decide) ?_
    obtain rfl := gO1 hf
    exact g_iret X hR hS _ rfl ⟨Nat.le_of_ble_eq_true rfl, Nat.le_of_ble_eq_true rfl⟩ dX12_sort_68

def sp_X12_size (G : gG) (F : Nat) (h : gH) (a0 : Nat) : Option (Int32) :=
 if gIs 10 h a0 = true then
 (sp_X12_sort G F h a0).bind fun u2 =>
 if u2 = (-1 : Int32) then
 some ((0 : Int32)) else
 if u2 = (0 : Int32) then
 (gGq 10 h a0 0).bind fun q5 =>
 (gCast 2 h q5).bind fun a6 =>
 (gAn 2 h a6).bind fun x7 =>
 some (x7) else
 if u2 = (1 : Int32) then
 (gGq 10 h a0 0).bind fun q9 =>
 (gCast 4 h q9).bind fun a10 =>
 (gAn 4 h a10).bind fun x11 =>
 some (x11) else
 if u2 = (2 : Int32) then
 (gGq 10 h a0 0).bind fun q13 =>
 (gCast 0 h q13).bind fun a14 =>
 (gAn 0 h a14).bind fun x15 =>
 some (x15) else
 if u2 = (3 : Int32) then
 (gGq 10 h a0 0).bind fun q17 =>
 (gCast 1 h q17).bind fun a18 =>
 (gAn 1 h a18).bind fun x19 =>
 some (x19) else
 (gGq 10 h a0 0).bind fun q20 =>
 (gCast 3 h q20).bind fun a21 =>
 (gAn 3 h a21).bind fun x22 =>
 some (x22) else none
theorem yk_X12_size : gVk yX12_size cX12_size 1 (some .int) 0 10 := ⟨q1613, q1614, q122, q1615, ⟨by decide +kernel, by decide +kernel, by decide +kernel⟩, rfl⟩
set_option maxHeartbeats 4000000 in
theorem m_X12_size (l : Launch) (G : gG) (F : Nat) (h : gH) (n : Nat) (a0 : Nat) {r : Int32} (hf : sp_X12_size G F h a0 = some r) : gMet l G yX12_size cX12_size 1 (some .int) 1 20 0 0 [.ref a0] h n (some (.int r)) h n := by
  refine gEnter (by decide) [(0, .ref a0)] rfl (Nat.le_of_ble_eq_true rfl) ?_
  intro p e s m below meth c H ls X hin hR hS hl
  have hx := X.1.1
  have hb := X.1.2.1
  unfold sp_X12_size at hf
  generalize ([] : List Loc) = locs at hS ⊢
  refine lv_aload_n hx hb dX12_size_0 rfl (lv_at hl 0 rfl) ?_
  obtain ⟨k1, hf⟩ := gChk hf
  obtain ⟨u2, eu2, hf⟩ := gBind hf
  refine g_callVi X hR hS [] (m_X12_sort l G F h n a0 eu2) yk_X12_sort q1616 k1 rfl hl.1 ⟨Nat.le_of_ble_eq_true rfl, Nat.le_of_ble_eq_true rfl⟩ ⟨Nat.le_of_ble_eq_true rfl, Nat.le_of_ble_eq_true rfl⟩ rfl (Nat.le_of_ble_eq_true rfl) dX12_size_1 (fun H locs hR hS => ?_)
  by_cases c3 : u2 = (-1 : Int32)
  · replace hf := gIfp c3 hf
    refine lv_tableIn (off := 36) (tgt := 40) hx hb dX12_size_4 (by rw [c3]; decide) (by rw [c3]; decide) (by rw [c3]; rfl) (by decide) ?_
    refine lv_iconst (v := (0 : Int32)) hx hb dX12_size_40 (by decide) ?_
    obtain rfl := gO1 hf
    exact g_iret X hR hS _ rfl ⟨Nat.le_of_ble_eq_true rfl, Nat.le_of_ble_eq_true rfl⟩ dX12_size_41
  replace hf := gIfn c3 hf
  by_cases c4 : u2 = (0 : Int32)
  · replace hf := gIfp c4 hf
    refine lv_tableIn (off := 38) (tgt := 42) hx hb dX12_size_4 (by rw [c4]; decide) (by rw [c4]; decide) (by rw [c4]; rfl) (by decide) ?_
    refine lv_aload_n hx hb dX12_size_42 rfl (lv_at hl 0 rfl) ?_
    obtain ⟨q5, eq5, hf⟩ := gBind hf
    refine g_getq X hR gk_X12 0 (by decide) q787 rfl eq5 dX12_size_43 ?_
    obtain ⟨a6, ea6, hf⟩ := gBind hf
    refine g_castq X hR 2 (by decide) q1608 ea6 dX12_size_46 ?_
    obtain ⟨x7, ex7, hf⟩ := gBind hf
    refine g_alen X hR 2 (by decide) ex7 dX12_size_49 ?_
    obtain rfl := gO1 hf
    exact g_iret X hR hS _ rfl ⟨Nat.le_of_ble_eq_true rfl, Nat.le_of_ble_eq_true rfl⟩ dX12_size_50
  replace hf := gIfn c4 hf
  by_cases c8 : u2 = (1 : Int32)
  · replace hf := gIfp c8 hf
    refine lv_tableIn (off := 47) (tgt := 51) hx hb dX12_size_4 (by rw [c8]; decide) (by rw [c8]; decide) (by rw [c8]; rfl) (by decide) ?_
    refine lv_aload_n hx hb dX12_size_51 rfl (lv_at hl 0 rfl) ?_
    obtain ⟨q9, eq9, hf⟩ := gBind hf
    refine g_getq X hR gk_X12 0 (by decide) q787 rfl eq9 dX12_size_52 ?_
    obtain ⟨a10, ea10, hf⟩ := gBind hf
    refine g_castq X hR 4 (by decide) q1609 ea10 dX12_size_55 ?_
    obtain ⟨x11, ex11, hf⟩ := gBind hf
    refine g_alen X hR 4 (by decide) ex11 dX12_size_58 ?_
    obtain rfl := gO1 hf
    exact g_iret X hR hS _ rfl ⟨Nat.le_of_ble_eq_true rfl, Nat.le_of_ble_eq_true rfl⟩ dX12_size_59
  replace hf := gIfn c8 hf
  by_cases c12 : u2 = (2 : Int32)
  · replace hf := gIfp c12 hf
    refine lv_tableIn (off := 56) (tgt := 60) hx hb dX12_size_4 (by rw [c12]; decide) (by rw [c12]; decide) (by rw [c12]; rfl) (by decide) ?_
    refine lv_aload_n hx hb dX12_size_60 rfl (lv_at hl 0 rfl) ?_
    obtain ⟨q13, eq13, hf⟩ := gBind hf
    refine g_getq X hR gk_X12 0 (by decide) q787 rfl eq13 dX12_size_61 ?_
    obtain ⟨a14, ea14, hf⟩ := gBind hf
    refine g_castq X hR 0 (by decide) q1610 ea14 dX12_size_64 ?_
    obtain ⟨x15, ex15, hf⟩ := gBind hf
    refine g_alen X hR 0 (by decide) ex15 dX12_size_67 ?_
    obtain rfl := gO1 hf
    exact g_iret X hR hS _ rfl ⟨Nat.le_of_ble_eq_true rfl, Nat.le_of_ble_eq_true rfl⟩ dX12_size_68
  replace hf := gIfn c12 hf
  by_cases c16 : u2 = (3 : Int32)
  · replace hf := gIfp c16 hf
    refine lv_tableIn (off := 65) (tgt := 69) hx hb dX12_size_4 (by rw [c16]; decide) (by rw [c16]; decide) (by rw [c16]; rfl) (by decide) ?_
    refine lv_aload_n hx hb dX12_size_69 rfl (lv_at hl 0 rfl) ?_
    obtain ⟨q17, eq17, hf⟩ := gBind hf
    refine g_getq X hR gk_X12 0 (by decide) q787 rfl eq17 dX12_size_70 ?_
    obtain ⟨a18, ea18, hf⟩ := gBind hf
    refine g_castq X hR 1 (by decide) q1611 ea18 dX12_size_73 ?_
    obtain ⟨x19, ex19, hf⟩ := gBind hf
    refine g_alen X hR 1 (by decide) ex19 dX12_size_76 ?_
    obtain rfl := gO1 hf
    exact g_iret X hR hS _ rfl ⟨Nat.le_of_ble_eq_true rfl, Nat.le_of_ble_eq_true rfl⟩ dX12_size_77
  replace hf := gIfn c16 hf
  refine lv_tableOut (tgt := 78) hx hb dX12_size_4 (by have tc3 := lv_neT (k := (-1 : Int32)) (a := -1) c3 (by decide); have tc4 := lv_neT (k := (0 : Int32)) (a := 0) c4 (by decide); have tc8 := lv_neT (k := (1 : Int32)) (a := 1) c8 (by decide); have tc12 := lv_neT (k := (2 : Int32)) (a := 2) c12 (by decide); have tc16 := lv_neT (k := (3 : Int32)) (a := 3) c16 (by decide); omega) (by decide) ?_
  refine lv_aload_n hx hb dX12_size_78 rfl (lv_at hl 0 rfl) ?_
  obtain ⟨q20, eq20, hf⟩ := gBind hf
  refine g_getq X hR gk_X12 0 (by decide) q787 rfl eq20 dX12_size_79 ?_
  obtain ⟨a21, ea21, hf⟩ := gBind hf
  refine g_castq X hR 3 (by decide) q1617 ea21 dX12_size_82 ?_
  obtain ⟨x22, ex22, hf⟩ := gBind hf
  refine g_alen X hR 3 (by decide) ex22 dX12_size_85 ?_
  obtain rfl := gO1 hf
  exact g_iret X hR hS _ rfl ⟨Nat.le_of_ble_eq_true rfl, Nat.le_of_ble_eq_true rfl⟩ dX12_size_86

def sp_X12_at (G : gG) (F : Nat) (h : gH) (a0 : Nat) (p1 : Int32) : Option (Int64) :=
 if gIs 10 h a0 = true then
 (sp_X12_sort G F h a0).bind fun u2 =>
 if u2 = (0 : Int32) then
 (gGq 10 h a0 0).bind fun q4 =>
 (gCast 2 h q4).bind fun a5 =>
 (gAi 2 h a5 p1).bind fun x6 =>
 some (x6.toInt64) else
 if u2 = (1 : Int32) then
 (gGq 10 h a0 0).bind fun q8 =>
 (gCast 4 h q8).bind fun a9 =>
 (gAi 4 h a9 p1).bind fun x10 =>
 some (x10.toInt64) else
 if u2 = (2 : Int32) then
 (gGq 10 h a0 0).bind fun q12 =>
 (gCast 0 h q12).bind fun a13 =>
 (gAi 0 h a13 p1).bind fun x14 =>
 some (x14.toInt64) else
 if u2 = (3 : Int32) then
 (gGq 10 h a0 0).bind fun q16 =>
 (gCast 1 h q16).bind fun a17 =>
 (gAl h a17 p1).bind fun x18 =>
 some (x18) else
 (gGq 10 h a0 0).bind fun q19 =>
 (gCast 3 h q19).bind fun a20 =>
 (gAi 3 h a20 p1).bind fun x21 =>
 if x21 = 0 then
 some ((0 : Int64)) else
 some ((1 : Int64)) else none
theorem yk_X12_at : gVk yX12_at cX12_at 2 (some .long) 1 10 := ⟨q1619, q1620, q122, q1621, ⟨by decide +kernel, by decide +kernel, by decide +kernel⟩, rfl⟩
set_option maxHeartbeats 4000000 in
theorem m_X12_at (l : Launch) (G : gG) (F : Nat) (h : gH) (n : Nat) (a0 : Nat) (p1 : Int32) {r : Int64} (hf : sp_X12_at G F h a0 p1 = some r) : gMet l G yX12_at cX12_at 2 (some .long) 1 20 0 0 [.ref a0, .int p1] h n (some (.long r)) h n := by
  refine gEnter (by decide) [(0, .ref a0), (1, .int p1)] rfl (Nat.le_of_ble_eq_true rfl) ?_
  intro p e s m below meth c H ls X hin hR hS hl
  have hx := X.1.1
  have hb := X.1.2.1
  unfold sp_X12_at at hf
  generalize ([] : List Loc) = locs at hS ⊢
  refine lv_aload_n hx hb dX12_at_0 rfl (lv_at hl 0 rfl) ?_
  obtain ⟨k1, hf⟩ := gChk hf
  obtain ⟨u2, eu2, hf⟩ := gBind hf
  refine g_callVi X hR hS [] (m_X12_sort l G F h n a0 eu2) yk_X12_sort q1616 k1 rfl hl.1 ⟨Nat.le_of_ble_eq_true rfl, Nat.le_of_ble_eq_true rfl⟩ ⟨Nat.le_of_ble_eq_true rfl, Nat.le_of_ble_eq_true rfl⟩ rfl (Nat.le_of_ble_eq_true rfl) dX12_at_1 (fun H locs hR hS => ?_)
  by_cases c3 : u2 = (0 : Int32)
  · replace hf := gIfp c3 hf
    refine lv_tableIn (off := 32) (tgt := 36) hx hb dX12_at_4 (by rw [c3]; decide) (by rw [c3]; decide) (by rw [c3]; rfl) (by decide) ?_
    refine lv_aload_n hx hb dX12_at_36 rfl (lv_at hl 0 rfl) ?_
    obtain ⟨q4, eq4, hf⟩ := gBind hf
    refine g_getq X hR gk_X12 0 (by decide) q787 rfl eq4 dX12_at_37 ?_
    obtain ⟨a5, ea5, hf⟩ := gBind hf
    refine g_castq X hR 2 (by decide) q1608 ea5 dX12_at_40 ?_
    refine lv_iload_n hx hb dX12_at_43 rfl (lv_at hl 1 rfl) ?_
    obtain ⟨x6, ex6, hf⟩ := gBind hf
    refine g_bald X hR ex6 dX12_at_44 ?_
    refine lv_i2l (v := x6.toInt64) hx hb dX12_at_45 rfl ?_
    obtain rfl := gO1 hf
    exact g_lret X hR hS _ rfl ⟨Nat.le_of_ble_eq_true rfl, Nat.le_of_ble_eq_true rfl⟩ dX12_at_46
  replace hf := gIfn c3 hf
  by_cases c7 : u2 = (1 : Int32)
  · replace hf := gIfp c7 hf
    refine lv_tableIn (off := 43) (tgt := 47) hx hb dX12_at_4 (by rw [c7]; decide) (by rw [c7]; decide) (by rw [c7]; rfl) (by decide) ?_
    refine lv_aload_n hx hb dX12_at_47 rfl (lv_at hl 0 rfl) ?_
    obtain ⟨q8, eq8, hf⟩ := gBind hf
    refine g_getq X hR gk_X12 0 (by decide) q787 rfl eq8 dX12_at_48 ?_
    obtain ⟨a9, ea9, hf⟩ := gBind hf
    refine g_castq X hR 4 (by decide) q1609 ea9 dX12_at_51 ?_
    refine lv_iload_n hx hb dX12_at_54 rfl (lv_at hl 1 rfl) ?_
    obtain ⟨x10, ex10, hf⟩ := gBind hf
    refine g_sald X hR ex10 dX12_at_55 ?_
    refine lv_i2l (v := x10.toInt64) hx hb dX12_at_56 rfl ?_
    obtain rfl := gO1 hf
    exact g_lret X hR hS _ rfl ⟨Nat.le_of_ble_eq_true rfl, Nat.le_of_ble_eq_true rfl⟩ dX12_at_57
  replace hf := gIfn c7 hf
  by_cases c11 : u2 = (2 : Int32)
  · replace hf := gIfp c11 hf
    refine lv_tableIn (off := 54) (tgt := 58) hx hb dX12_at_4 (by rw [c11]; decide) (by rw [c11]; decide) (by rw [c11]; rfl) (by decide) ?_
    refine lv_aload_n hx hb dX12_at_58 rfl (lv_at hl 0 rfl) ?_
    obtain ⟨q12, eq12, hf⟩ := gBind hf
    refine g_getq X hR gk_X12 0 (by decide) q787 rfl eq12 dX12_at_59 ?_
    obtain ⟨a13, ea13, hf⟩ := gBind hf
    refine g_castq X hR 0 (by decide) q1610 ea13 dX12_at_62 ?_
    refine lv_iload_n hx hb dX12_at_65 rfl (lv_at hl 1 rfl) ?_
    obtain ⟨x14, ex14, hf⟩ := gBind hf
    refine g_iald X hR ex14 dX12_at_66 ?_
    refine lv_i2l (v := x14.toInt64) hx hb dX12_at_67 rfl ?_
    obtain rfl := gO1 hf
    exact g_lret X hR hS _ rfl ⟨Nat.le_of_ble_eq_true rfl, Nat.le_of_ble_eq_true rfl⟩ dX12_at_68
  replace hf := gIfn c11 hf
  by_cases c15 : u2 = (3 : Int32)
  · replace hf := gIfp c15 hf
    refine lv_tableIn (off := 65) (tgt := 69) hx hb dX12_at_4 (by rw [c15]; decide) (by rw [c15]; decide) (by rw [c15]; rfl) (by decide) ?_
    refine lv_aload_n hx hb dX12_at_69 rfl (lv_at hl 0 rfl) ?_
    obtain ⟨q16, eq16, hf⟩ := gBind hf
    refine g_getq X hR gk_X12 0 (by decide) q787 rfl eq16 dX12_at_70 ?_
    obtain ⟨a17, ea17, hf⟩ := gBind hf
    refine g_castq X hR 1 (by decide) q1611 ea17 dX12_at_73 ?_
    refine lv_iload_n hx hb dX12_at_76 rfl (lv_at hl 1 rfl) ?_
    obtain ⟨x18, ex18, hf⟩ := gBind hf
    refine g_lald X hR ex18 dX12_at_77 ?_
    obtain rfl := gO1 hf
    exact g_lret X hR hS _ rfl ⟨Nat.le_of_ble_eq_true rfl, Nat.le_of_ble_eq_true rfl⟩ dX12_at_78
  replace hf := gIfn c15 hf
  refine lv_tableOut (tgt := 79) hx hb dX12_at_4 (by have tc3 := lv_neT (k := (0 : Int32)) (a := 0) c3 (by decide); have tc7 := lv_neT (k := (1 : Int32)) (a := 1) c7 (by decide); have tc11 := lv_neT (k := (2 : Int32)) (a := 2) c11 (by decide); have tc15 := lv_neT (k := (3 : Int32)) (a := 3) c15 (by decide); omega) (by decide) ?_
  refine lv_aload_n hx hb dX12_at_79 rfl (lv_at hl 0 rfl) ?_
  obtain ⟨q19, eq19, hf⟩ := gBind hf
  refine g_getq X hR gk_X12 0 (by decide) q787 rfl eq19 dX12_at_80 ?_
  obtain ⟨a20, ea20, hf⟩ := gBind hf
  refine g_castq X hR 3 (by decide) q1617 ea20 dX12_at_83 ?_
  refine lv_iload_n hx hb dX12_at_86 rfl (lv_at hl 1 rfl) ?_
  obtain ⟨x21, ex21, hf⟩ := gBind hf
  refine g_zald X hR ex21 dX12_at_87 ?_
  refine lv_if_eq (tgt := 95) hx hb dX12_at_88 (by decide) (fun c22 => ?_) (fun c22 => ?_)
  · replace hf := gIfp c22 hf
    refine lv_lconst (v := (0 : Int64)) hx hb dX12_at_95 (by decide) ?_
    obtain rfl := gO1 hf
    exact g_lret X hR hS _ rfl ⟨Nat.le_of_ble_eq_true rfl, Nat.le_of_ble_eq_true rfl⟩ dX12_at_96
  · replace hf := gIfn c22 hf
    refine lv_lconst (v := (1 : Int64)) hx hb dX12_at_91 (by decide) ?_
    refine lv_goto (tgt := 96) hx hb dX12_at_92 (by decide) ?_
    obtain rfl := gO1 hf
    exact g_lret X hR hS _ rfl ⟨Nat.le_of_ble_eq_true rfl, Nat.le_of_ble_eq_true rfl⟩ dX12_at_96

def sp_X12_becomes (G : gG) (F : Nat) (h : gH) (n : Nat) (a0 : Nat) (p1 : Int32) (p2 : Int32) : Option (gH × Nat) :=
 if 0 ≤ p1 then
 if p1 = 0 then
 if ¬ p2 < 0 ∧ p2.toNatClampNeg ≤ 60 then
 (gPv 10 (va_up h n (some (.inl (2, p2.toNatClampNeg, .inl (fun _ => 0))))) a0 0 (.ref n)).bind fun h15 =>
 some ((h15, n + 1)) else none else
 if p1 = (1 : Int32) then
 if ¬ p2 < 0 ∧ p2.toNatClampNeg ≤ 60 then
 (gPv 10 (va_up h n (some (.inl (4, p2.toNatClampNeg, .inl (fun _ => 0))))) a0 0 (.ref n)).bind fun h13 =>
 some ((h13, n + 1)) else none else
 if p1 = (2 : Int32) then
 if ¬ p2 < 0 ∧ p2.toNatClampNeg ≤ 60 then
 (gPv 10 (va_up h n (some (.inl (0, p2.toNatClampNeg, .inl (fun _ => 0))))) a0 0 (.ref n)).bind fun h11 =>
 some ((h11, n + 1)) else none else
 if p1 = (3 : Int32) then
 if ¬ p2 < 0 ∧ p2.toNatClampNeg ≤ 60 then
 (gPv 10 (va_up h n (some (.inl (1, p2.toNatClampNeg, .inr (.inl (fun _ => 0)))))) a0 0 (.ref n)).bind fun h9 =>
 some ((h9, n + 1)) else none else
 if ¬ p2 < 0 ∧ p2.toNatClampNeg ≤ 60 then
 (gPv 10 (va_up h n (some (.inl (3, p2.toNatClampNeg, .inl (fun _ => 0))))) a0 0 (.ref n)).bind fun h7 =>
 some ((h7, n + 1)) else none else
 (gPv 10 h a0 0 (.null)).bind fun h16 =>
 some ((h16, n))
theorem yk_X12_becomes : gVk yX12_becomes cX12_becomes 3 none 2 10 := ⟨q1629, q1630, q122, q1631, ⟨by decide +kernel, by decide +kernel, by decide +kernel⟩, rfl⟩
set_option maxHeartbeats 4000000 in
theorem m_X12_becomes (l : Launch) (G : gG) (F : Nat) (h : gH) (n : Nat) (a0 : Nat) (p1 : Int32) (p2 : Int32) {h' : gH} {n' : Nat} (hf : sp_X12_becomes G F h n a0 p1 p2 = some (h', n')) : gMet l G yX12_becomes cX12_becomes 3 none 0 0 1 60 [.ref a0, .int p1, .int p2] h n none h' n' := by
  refine gEnter (by decide) [(0, .ref a0), (1, .int p1), (2, .int p2)] rfl (Nat.le_of_ble_eq_true rfl) ?_
  intro p e s m below meth c H ls X hin hR hS hl
  have hx := X.1.1
  have hb := X.1.2.1
  unfold sp_X12_becomes at hf
  generalize ([] : List Loc) = locs at hS ⊢
  refine lv_aload_n hx hb dX12_becomes_0 rfl (lv_at hl 0 rfl) ?_
  refine lv_iload_n hx hb dX12_becomes_1 rfl (lv_at hl 1 rfl) ?_
  refine lv_if_ge (tgt := 9) hx hb dX12_becomes_2 (by decide) (fun c1 => ?_) (fun c1 => ?_)
  · replace hf := gIfp c1 hf
    refine lv_iload_n hx hb dX12_becomes_9 rfl (lv_at hl 1 rfl) ?_
    refine lv_if_ne (tgt := 19) hx hb dX12_becomes_10 (by decide) (fun c2 => ?_) (fun c2 => ?_)
    · replace hf := gIfn c2 hf
      refine lv_iload_n hx hb dX12_becomes_19 rfl (lv_at hl 1 rfl) ?_
      refine lv_iconst (v := (1 : Int32)) hx hb dX12_becomes_20 (by decide) ?_
      refine lv_icmp_ne (tgt := 30) hx hb dX12_becomes_21 (by decide) (fun c3 => ?_) (fun c3 => ?_)
      · replace hf := gIfn c3 hf
        refine lv_iload_n hx hb dX12_becomes_30 rfl (lv_at hl 1 rfl) ?_
        refine lv_iconst (v := (2 : Int32)) hx hb dX12_becomes_31 (by decide) ?_
        refine lv_icmp_ne (tgt := 41) hx hb dX12_becomes_32 (by decide) (fun c4 => ?_) (fun c4 => ?_)
        · replace hf := gIfn c4 hf
          refine lv_iload_n hx hb dX12_becomes_41 rfl (lv_at hl 1 rfl) ?_
          refine lv_iconst (v := (3 : Int32)) hx hb dX12_becomes_42 (by decide) ?_
          refine lv_icmp_ne (tgt := 52) hx hb dX12_becomes_43 (by decide) (fun c5 => ?_) (fun c5 => ?_)
          · replace hf := gIfn c5 hf
            refine lv_iload_n hx hb dX12_becomes_52 rfl (lv_at hl 2 rfl) ?_
            obtain ⟨k6, hf⟩ := gChk hf
            refine g_newa3 X hR hS q879 (p2.toNatClampNeg) k6.1 rfl (by have q9 := k6.2; show _ * 1 ≤ _; omega) ⟨Nat.le_of_ble_eq_true rfl, by have q9 := k6.2; show 0 + _ ≤ 60; omega⟩ dX12_becomes_53 (fun H hR hS => ?_)
            refine W.widen (k := 1) (n := 60) (Nat.le_refl _) (by have q9 := k6.2; omega) ?_
            obtain ⟨h7, eh7, hf⟩ := gBind hf
            refine g_put X hR hS gk_X12 0 (by decide) q787 rfl rfl eh7 rfl rfl rfl dX12_becomes_55 (fun H locs hR hS => ?_)
            obtain ⟨rfl, rfl⟩ := gO2 hf
            exact g_vret X hR hS rfl ⟨Nat.le_of_ble_eq_true rfl, Nat.le_of_ble_eq_true rfl⟩ dX12_becomes_58
          · replace hf := gIfp c5 hf
            refine lv_iload_n hx hb dX12_becomes_46 rfl (lv_at hl 2 rfl) ?_
            obtain ⟨k8, hf⟩ := gChk hf
            refine g_newa1 X hR hS q506 (p2.toNatClampNeg) k8.1 rfl (by have q9 := k8.2; show _ * 8 ≤ _; omega) ⟨Nat.le_of_ble_eq_true rfl, by have q9 := k8.2; show 0 + _ ≤ 60; omega⟩ dX12_becomes_47 (fun H hR hS => ?_)
            refine W.widen (k := 1) (n := 60) (Nat.le_refl _) (by have q9 := k8.2; omega) ?_
            refine lv_goto (tgt := 55) hx hb dX12_becomes_49 (by decide) ?_
            obtain ⟨h9, eh9, hf⟩ := gBind hf
            refine g_put X hR hS gk_X12 0 (by decide) q787 rfl rfl eh9 rfl rfl rfl dX12_becomes_55 (fun H locs hR hS => ?_)
            obtain ⟨rfl, rfl⟩ := gO2 hf
            exact g_vret X hR hS rfl ⟨Nat.le_of_ble_eq_true rfl, Nat.le_of_ble_eq_true rfl⟩ dX12_becomes_58
        · replace hf := gIfp c4 hf
          refine lv_iload_n hx hb dX12_becomes_35 rfl (lv_at hl 2 rfl) ?_
          obtain ⟨k10, hf⟩ := gChk hf
          refine g_newa0 X hR hS q255 (p2.toNatClampNeg) k10.1 rfl (by have q9 := k10.2; show _ * 4 ≤ _; omega) ⟨Nat.le_of_ble_eq_true rfl, by have q9 := k10.2; show 0 + _ ≤ 60; omega⟩ dX12_becomes_36 (fun H hR hS => ?_)
          refine W.widen (k := 1) (n := 60) (Nat.le_refl _) (by have q9 := k10.2; omega) ?_
          refine lv_goto (tgt := 55) hx hb dX12_becomes_38 (by decide) ?_
          obtain ⟨h11, eh11, hf⟩ := gBind hf
          refine g_put X hR hS gk_X12 0 (by decide) q787 rfl rfl eh11 rfl rfl rfl dX12_becomes_55 (fun H locs hR hS => ?_)
          obtain ⟨rfl, rfl⟩ := gO2 hf
          exact g_vret X hR hS rfl ⟨Nat.le_of_ble_eq_true rfl, Nat.le_of_ble_eq_true rfl⟩ dX12_becomes_58
      · replace hf := gIfp c3 hf
        refine lv_iload_n hx hb dX12_becomes_24 rfl (lv_at hl 2 rfl) ?_
        obtain ⟨k12, hf⟩ := gChk hf
        refine g_newa4 X hR hS q1632 (p2.toNatClampNeg) k12.1 rfl (by have q9 := k12.2; show _ * 2 ≤ _; omega) ⟨Nat.le_of_ble_eq_true rfl, by have q9 := k12.2; show 0 + _ ≤ 60; omega⟩ dX12_becomes_25 (fun H hR hS => ?_)
        refine W.widen (k := 1) (n := 60) (Nat.le_refl _) (by have q9 := k12.2; omega) ?_
        refine lv_goto (tgt := 55) hx hb dX12_becomes_27 (by decide) ?_
        obtain ⟨h13, eh13, hf⟩ := gBind hf
        refine g_put X hR hS gk_X12 0 (by decide) q787 rfl rfl eh13 rfl rfl rfl dX12_becomes_55 (fun H locs hR hS => ?_)
        obtain ⟨rfl, rfl⟩ := gO2 hf
        exact g_vret X hR hS rfl ⟨Nat.le_of_ble_eq_true rfl, Nat.le_of_ble_eq_true rfl⟩ dX12_becomes_58
    · replace hf := gIfp c2 hf
      refine lv_iload_n hx hb dX12_becomes_13 rfl (lv_at hl 2 rfl) ?_
      obtain ⟨k14, hf⟩ := gChk hf
      refine g_newa2 X hR hS q256 (p2.toNatClampNeg) k14.1 rfl (by have q9 := k14.2; show _ * 1 ≤ _; omega) ⟨Nat.le_of_ble_eq_true rfl, by have q9 := k14.2; show 0 + _ ≤ 60; omega⟩ dX12_becomes_14 (fun H hR hS => ?_)
      refine W.widen (k := 1) (n := 60) (Nat.le_refl _) (by have q9 := k14.2; omega) ?_
      refine lv_goto (tgt := 55) hx hb dX12_becomes_16 (by decide) ?_
      obtain ⟨h15, eh15, hf⟩ := gBind hf
      refine g_put X hR hS gk_X12 0 (by decide) q787 rfl rfl eh15 rfl rfl rfl dX12_becomes_55 (fun H locs hR hS => ?_)
      obtain ⟨rfl, rfl⟩ := gO2 hf
      exact g_vret X hR hS rfl ⟨Nat.le_of_ble_eq_true rfl, Nat.le_of_ble_eq_true rfl⟩ dX12_becomes_58
  · replace hf := gIfn c1 hf
    refine lv_null hx hb dX12_becomes_5 ?_
    refine lv_goto (tgt := 55) hx hb dX12_becomes_6 (by decide) ?_
    obtain ⟨h16, eh16, hf⟩ := gBind hf
    refine g_put X hR hS gk_X12 0 (by decide) q787 rfl rfl eh16 rfl rfl rfl dX12_becomes_55 (fun H locs hR hS => ?_)
    obtain ⟨rfl, rfl⟩ := gO2 hf
    exact g_vret X hR hS rfl ⟨Nat.le_of_ble_eq_true rfl, Nat.le_of_ble_eq_true rfl⟩ dX12_becomes_58

def sp_X12_puts (G : gG) (F : Nat) (h : gH) (a0 : Nat) (p1 : Int32) (p2 : Int64) : Option (gH) :=
 if gIs 10 h a0 = true then
 (sp_X12_sort G F h a0).bind fun u2 =>
 if u2 = (0 : Int32) then
 (gGq 10 h a0 0).bind fun q4 =>
 (gCast 2 h q4).bind fun a5 =>
 (gSb 2 h a5 p1 p2.toInt32.toInt8.toInt32).bind fun h6 =>
 some (h6) else
 if u2 = (1 : Int32) then
 (gGq 10 h a0 0).bind fun q8 =>
 (gCast 4 h q8).bind fun a9 =>
 (gSb 4 h a9 p1 p2.toInt32.toInt16.toInt32).bind fun h10 =>
 some (h10) else
 if u2 = (2 : Int32) then
 (gGq 10 h a0 0).bind fun q12 =>
 (gCast 0 h q12).bind fun a13 =>
 (gSi h a13 p1 p2.toInt32).bind fun h14 =>
 some (h14) else
 if u2 = (3 : Int32) then
 (gGq 10 h a0 0).bind fun q16 =>
 (gCast 1 h q16).bind fun a17 =>
 (gSl h a17 p1 p2).bind fun h18 =>
 some (h18) else
 (gGq 10 h a0 0).bind fun q19 =>
 (gCast 3 h q19).bind fun a20 =>
 if (lg_cmp p2 (0 : Int64)) = 0 then
 (gSb 3 h a20 p1 (0 : Int32)).bind fun h22 =>
 some (h22) else
 (gSb 3 h a20 p1 (1 : Int32)).bind fun h23 =>
 some (h23) else none
theorem yk_X12_puts : gVk yX12_puts cX12_puts 4 none 2 10 := ⟨q1654, q1655, q122, q1656, ⟨by decide +kernel, by decide +kernel, by decide +kernel⟩, rfl⟩
set_option maxHeartbeats 4000000 in
theorem m_X12_puts (l : Launch) (G : gG) (F : Nat) (h : gH) (n : Nat) (a0 : Nat) (p1 : Int32) (p2 : Int64) {h' : gH} (hf : sp_X12_puts G F h a0 p1 p2 = some h') : gMet l G yX12_puts cX12_puts 4 none 1 20 0 0 [.ref a0, .int p1, .long p2] h n none h' n := by
  refine gEnter (by decide) [(0, .ref a0), (1, .int p1), (2, .long p2)] rfl (Nat.le_of_ble_eq_true rfl) ?_
  intro p e s m below meth c H ls X hin hR hS hl
  have hx := X.1.1
  have hb := X.1.2.1
  unfold sp_X12_puts at hf
  generalize ([] : List Loc) = locs at hS ⊢
  refine lv_aload_n hx hb dX12_puts_0 rfl (lv_at hl 0 rfl) ?_
  obtain ⟨k1, hf⟩ := gChk hf
  obtain ⟨u2, eu2, hf⟩ := gBind hf
  refine g_callVi X hR hS [] (m_X12_sort l G F h n a0 eu2) yk_X12_sort q1616 k1 rfl hl.1 ⟨Nat.le_of_ble_eq_true rfl, Nat.le_of_ble_eq_true rfl⟩ ⟨Nat.le_of_ble_eq_true rfl, Nat.le_of_ble_eq_true rfl⟩ rfl (Nat.le_of_ble_eq_true rfl) dX12_puts_1 (fun H locs hR hS => ?_)
  by_cases c3 : u2 = (0 : Int32)
  · replace hf := gIfp c3 hf
    refine lv_tableIn (off := 32) (tgt := 36) hx hb dX12_puts_4 (by rw [c3]; decide) (by rw [c3]; decide) (by rw [c3]; rfl) (by decide) ?_
    refine lv_aload_n hx hb dX12_puts_36 rfl (lv_at hl 0 rfl) ?_
    obtain ⟨q4, eq4, hf⟩ := gBind hf
    refine g_getq X hR gk_X12 0 (by decide) q787 rfl eq4 dX12_puts_37 ?_
    obtain ⟨a5, ea5, hf⟩ := gBind hf
    refine g_castq X hR 2 (by decide) q1608 ea5 dX12_puts_40 ?_
    refine lv_iload_n hx hb dX12_puts_43 rfl (lv_at hl 1 rfl) ?_
    refine lv_lload_n hx hb dX12_puts_44 rfl (lv_at hl 2 rfl) ?_
    refine lv_l2i (v := p2.toInt32) hx hb dX12_puts_45 rfl ?_
    refine lv_i2b (v := p2.toInt32.toInt8.toInt32) hx hb dX12_puts_46 rfl ?_
    obtain ⟨h6, eh6, hf⟩ := gBind hf
    refine g_bast X hR hS eh6 dX12_puts_47 (fun H locs hR hS => ?_)
    refine lv_goto (tgt := 113) hx hb dX12_puts_48 (by decide) ?_
    obtain rfl := gO1 hf
    exact g_vret X hR hS rfl ⟨Nat.le_of_ble_eq_true rfl, Nat.le_of_ble_eq_true rfl⟩ dX12_puts_113
  replace hf := gIfn c3 hf
  by_cases c7 : u2 = (1 : Int32)
  · replace hf := gIfp c7 hf
    refine lv_tableIn (off := 47) (tgt := 51) hx hb dX12_puts_4 (by rw [c7]; decide) (by rw [c7]; decide) (by rw [c7]; rfl) (by decide) ?_
    refine lv_aload_n hx hb dX12_puts_51 rfl (lv_at hl 0 rfl) ?_
    obtain ⟨q8, eq8, hf⟩ := gBind hf
    refine g_getq X hR gk_X12 0 (by decide) q787 rfl eq8 dX12_puts_52 ?_
    obtain ⟨a9, ea9, hf⟩ := gBind hf
    refine g_castq X hR 4 (by decide) q1609 ea9 dX12_puts_55 ?_
    refine lv_iload_n hx hb dX12_puts_58 rfl (lv_at hl 1 rfl) ?_
    refine lv_lload_n hx hb dX12_puts_59 rfl (lv_at hl 2 rfl) ?_
    refine lv_l2i (v := p2.toInt32) hx hb dX12_puts_60 rfl ?_
    refine lv_i2s (v := p2.toInt32.toInt16.toInt32) hx hb dX12_puts_61 rfl ?_
    obtain ⟨h10, eh10, hf⟩ := gBind hf
    refine g_sast X hR hS eh10 dX12_puts_62 (fun H locs hR hS => ?_)
    refine lv_goto (tgt := 113) hx hb dX12_puts_63 (by decide) ?_
    obtain rfl := gO1 hf
    exact g_vret X hR hS rfl ⟨Nat.le_of_ble_eq_true rfl, Nat.le_of_ble_eq_true rfl⟩ dX12_puts_113
  replace hf := gIfn c7 hf
  by_cases c11 : u2 = (2 : Int32)
  · replace hf := gIfp c11 hf
    refine lv_tableIn (off := 62) (tgt := 66) hx hb dX12_puts_4 (by rw [c11]; decide) (by rw [c11]; decide) (by rw [c11]; rfl) (by decide) ?_
    refine lv_aload_n hx hb dX12_puts_66 rfl (lv_at hl 0 rfl) ?_
    obtain ⟨q12, eq12, hf⟩ := gBind hf
    refine g_getq X hR gk_X12 0 (by decide) q787 rfl eq12 dX12_puts_67 ?_
    obtain ⟨a13, ea13, hf⟩ := gBind hf
    refine g_castq X hR 0 (by decide) q1610 ea13 dX12_puts_70 ?_
    refine lv_iload_n hx hb dX12_puts_73 rfl (lv_at hl 1 rfl) ?_
    refine lv_lload_n hx hb dX12_puts_74 rfl (lv_at hl 2 rfl) ?_
    refine lv_l2i (v := p2.toInt32) hx hb dX12_puts_75 rfl ?_
    obtain ⟨h14, eh14, hf⟩ := gBind hf
    refine g_iast X hR hS eh14 dX12_puts_76 (fun H locs hR hS => ?_)
    refine lv_goto (tgt := 113) hx hb dX12_puts_77 (by decide) ?_
    obtain rfl := gO1 hf
    exact g_vret X hR hS rfl ⟨Nat.le_of_ble_eq_true rfl, Nat.le_of_ble_eq_true rfl⟩ dX12_puts_113
  replace hf := gIfn c11 hf
  by_cases c15 : u2 = (3 : Int32)
  · replace hf := gIfp c15 hf
    refine lv_tableIn (off := 76) (tgt := 80) hx hb dX12_puts_4 (by rw [c15]; decide) (by rw [c15]; decide) (by rw [c15]; rfl) (by decide) ?_
    refine lv_aload_n hx hb dX12_puts_80 rfl (lv_at hl 0 rfl) ?_
    obtain ⟨q16, eq16, hf⟩ := gBind hf
    refine g_getq X hR gk_X12 0 (by decide) q787 rfl eq16 dX12_puts_81 ?_
    obtain ⟨a17, ea17, hf⟩ := gBind hf
    refine g_castq X hR 1 (by decide) q1611 ea17 dX12_puts_84 ?_
    refine lv_iload_n hx hb dX12_puts_87 rfl (lv_at hl 1 rfl) ?_
    refine lv_lload_n hx hb dX12_puts_88 rfl (lv_at hl 2 rfl) ?_
    obtain ⟨h18, eh18, hf⟩ := gBind hf
    refine g_last X hR hS eh18 dX12_puts_89 (fun H locs hR hS => ?_)
    refine lv_goto (tgt := 113) hx hb dX12_puts_90 (by decide) ?_
    obtain rfl := gO1 hf
    exact g_vret X hR hS rfl ⟨Nat.le_of_ble_eq_true rfl, Nat.le_of_ble_eq_true rfl⟩ dX12_puts_113
  replace hf := gIfn c15 hf
  refine lv_tableOut (tgt := 93) hx hb dX12_puts_4 (by have tc3 := lv_neT (k := (0 : Int32)) (a := 0) c3 (by decide); have tc7 := lv_neT (k := (1 : Int32)) (a := 1) c7 (by decide); have tc11 := lv_neT (k := (2 : Int32)) (a := 2) c11 (by decide); have tc15 := lv_neT (k := (3 : Int32)) (a := 3) c15 (by decide); omega) (by decide) ?_
  refine lv_aload_n hx hb dX12_puts_93 rfl (lv_at hl 0 rfl) ?_
  obtain ⟨q19, eq19, hf⟩ := gBind hf
  refine g_getq X hR gk_X12 0 (by decide) q787 rfl eq19 dX12_puts_94 ?_
  obtain ⟨a20, ea20, hf⟩ := gBind hf
  refine g_castq X hR 3 (by decide) q1617 ea20 dX12_puts_97 ?_
  refine lv_iload_n hx hb dX12_puts_100 rfl (lv_at hl 1 rfl) ?_
  refine lv_lload_n hx hb dX12_puts_101 rfl (lv_at hl 2 rfl) ?_
  refine lv_lconst (v := (0 : Int64)) hx hb dX12_puts_102 (by decide) ?_
  refine W.lcmp hx hb dX12_puts_103 ?_
  refine lv_if_eq (tgt := 111) hx hb dX12_puts_104 (by decide) (fun c21 => ?_) (fun c21 => ?_)
  · replace hf := gIfp c21 hf
    refine lv_iconst (v := (0 : Int32)) hx hb dX12_puts_111 (by decide) ?_
    obtain ⟨h22, eh22, hf⟩ := gBind hf
    refine g_zast X hR hS eh22 dX12_puts_112 (fun H locs hR hS => ?_)
    obtain rfl := gO1 hf
    exact g_vret X hR hS rfl ⟨Nat.le_of_ble_eq_true rfl, Nat.le_of_ble_eq_true rfl⟩ dX12_puts_113
  · replace hf := gIfn c21 hf
    refine lv_iconst (v := (1 : Int32)) hx hb dX12_puts_107 (by decide) ?_
    refine lv_goto (tgt := 112) hx hb dX12_puts_108 (by decide) ?_
    obtain ⟨h23, eh23, hf⟩ := gBind hf
    refine g_zast X hR hS eh23 dX12_puts_112 (fun H locs hR hS => ?_)
    obtain rfl := gO1 hf
    exact g_vret X hR hS rfl ⟨Nat.le_of_ble_eq_true rfl, Nat.le_of_ble_eq_true rfl⟩ dX12_puts_113

def sp_X14_init (G : gG) (F : Nat) (h : gH) (n : Nat) (a0 : Nat) (a1 : Nat) : Option (gH × Nat) :=
 (gPv 12 h a0 3 (.ref a1)).bind fun h1 =>
 (gPv 12 (va_up h1 n (some (.inl (5, 4, .inr (.inr (.inr (.inr (fun _ => none)))))))) a0 0 (.ref n)).bind fun h2 =>
 (gGr 12 h2 a0 0).bind fun x3 =>
 (sp_X2_init G F (va_up h2 (n + 1) (some (.inr (2, [.null, .null, .null, .null, .int 0, .int 0, .int 0, .int 0, .int 0, .int 0, .int 0, .int 0])))) ((n + 1) + 1) (n + 1)).bind fun u5 =>
 (gSr 5 2 u5.1 x3 (0 : Int32) (n + 1)).bind fun h6 =>
 (gGr 12 h6 a0 0).bind fun x7 =>
 (sp_X2_init G F (va_up h6 u5.2 (some (.inr (2, [.null, .null, .null, .null, .int 0, .int 0, .int 0, .int 0, .int 0, .int 0, .int 0, .int 0])))) (u5.2 + 1) u5.2).bind fun u9 =>
 (gSr 5 2 u9.1 x7 (1 : Int32) u5.2).bind fun h10 =>
 (gGr 12 h10 a0 0).bind fun x11 =>
 (sp_X2_init G F (va_up h10 u9.2 (some (.inr (2, [.null, .null, .null, .null, .int 0, .int 0, .int 0, .int 0, .int 0, .int 0, .int 0, .int 0])))) (u9.2 + 1) u9.2).bind fun u13 =>
 (gSr 5 2 u13.1 x11 (2 : Int32) u9.2).bind fun h14 =>
 (gGr 12 h14 a0 0).bind fun x15 =>
 (sp_X2_init G F (va_up h14 u13.2 (some (.inr (2, [.null, .null, .null, .null, .int 0, .int 0, .int 0, .int 0, .int 0, .int 0, .int 0, .int 0])))) (u13.2 + 1) u13.2).bind fun u17 =>
 (gSr 5 2 u17.1 x15 (3 : Int32) u13.2).bind fun h18 =>
 some ((h18, u17.2))
theorem yk_X14_init : gIk yX14_init cX14_init 3 1 := ⟨q965, rfl, q125, q966, ⟨by decide +kernel, by decide +kernel, by decide +kernel⟩⟩
set_option maxHeartbeats 4000000 in
theorem m_X14_init (l : Launch) (G : gG) (F : Nat) (h : gH) (n : Nat) (a0 : Nat) (a1 : Nat) {h' : gH} {n' : Nat} (hf : sp_X14_init G F h n a0 a1 = some (h', n')) : gMet l G yX14_init cX14_init 3 none 5 104 25 132 [.ref a0, .ref a1] h n none h' n' := by
  refine gEnter (by decide) [(0, .ref a0), (1, .ref a1)] rfl (Nat.le_of_ble_eq_true rfl) ?_
  intro p e s m below meth c H ls X hin hR hS hl
  have hx := X.1.1
  have hb := X.1.2.1
  unfold sp_X14_init at hf
  generalize ([] : List Loc) = locs at hS ⊢
  refine lv_aload_n hx hb dX14_init_0 rfl (lv_at hl 0 rfl) ?_
  refine lv_aload_n hx hb dX14_init_1 rfl (lv_at hl 1 rfl) ?_
  obtain ⟨h1, eh1, hf⟩ := gBind hf
  refine g_putF X hR hS hin gk_X14 3 (by decide) q975 rfl rfl rfl eh1 rfl rfl rfl dX14_init_2 (fun H locs hR hS => ?_)
  refine lv_aload_n hx hb dX14_init_5 rfl (lv_at hl 0 rfl) ?_
  refine g_objInit X q967 q138 q139 hl.1 ⟨Nat.le_of_ble_eq_true rfl, Nat.le_of_ble_eq_true rfl⟩ (Nat.le_of_ble_eq_true rfl) dX14_init_6 ?_
  refine lv_aload_n hx hb dX14_init_9 rfl (lv_at hl 0 rfl) ?_
  refine lv_iconst (v := (4 : Int32)) hx hb dX14_init_10 (by decide) ?_
  refine g_newq X hR hS 5 (by decide) rfl q968 q147 4 (by decide) (by decide) (by decide) ⟨Nat.le_of_ble_eq_true rfl, Nat.le_of_ble_eq_true rfl⟩ dX14_init_11 (fun H hR hS => ?_)
  obtain ⟨h2, eh2, hf⟩ := gBind hf
  refine g_putF X hR hS hin gk_X14 0 (by decide) q970 rfl rfl rfl eh2 rfl rfl rfl dX14_init_14 (fun H locs hR hS => ?_)
  refine lv_iconst (v := (0 : Int32)) hx hb dX14_init_17 (by decide) ?_
  refine lv_istore_n (lv' := [(2, .int (0 : Int32)), (0, .ref a0), (1, .ref a1)]) hx hb dX14_init_18 rfl hl (by decide) rfl (fun ls hl => ?_)
  refine lv_iload_n hx hb dX14_init_19 rfl (lv_at hl 0 rfl) ?_
  refine lv_iconst (v := (4 : Int32)) hx hb dX14_init_20 (by decide) ?_
  refine lv_icmp_ge (tgt := 43) hx hb dX14_init_21 (by decide) (fun c => absurd c (by decide)) (fun _ => ?_)
  refine lv_aload_n hx hb dX14_init_24 rfl (lv_at hl 1 rfl) ?_
  obtain ⟨x3, ex3, hf⟩ := gBind hf
  refine g_getr X hR gk_X14 0 (by decide) q970 rfl ex3 dX14_init_25 ?_
  refine lv_iload_n hx hb dX14_init_28 rfl (lv_at hl 0 rfl) ?_
  refine g_new X hR hS gk_X2 q968 q154 q94 [.null, .null, .null, .null, .int 0, .int 0, .int 0, .int 0, .int 0, .int 0, .int 0, .int 0] (by decide +kernel) ⟨Nat.le_of_ble_eq_true rfl, Nat.le_of_ble_eq_true rfl⟩ dX14_init_29 (fun H hR hS => ?_)
  refine lv_dup hx hb dX14_init_32 rfl ?_
  obtain ⟨u5, eu5, hf⟩ := gBind hf
  refine g_callI X hR hS [] (m_X2_init l G F (va_up h2 (n + 1) (some (.inr (2, [.null, .null, .null, .null, .int 0, .int 0, .int 0, .int 0, .int 0, .int 0, .int 0, .int 0])))) ((n + 1) + 1) (n + 1) eu5) yk_X2_init q969 rfl hl.1 ⟨Nat.le_of_ble_eq_true rfl, Nat.le_of_ble_eq_true rfl⟩ ⟨Nat.le_of_ble_eq_true rfl, Nat.le_of_ble_eq_true rfl⟩ rfl (Nat.le_of_ble_eq_true rfl) dX14_init_33 (fun H locs hR hS => ?_)
  obtain ⟨h6, eh6, hf⟩ := gBind hf
  refine g_aast X hR hS 5 2 (by decide) rfl gk_X2 eh6 dX14_init_36 (fun H locs hR hS => ?_)
  refine lv_iinc (v := (1 : Int32)) (lv' := [(2, .int (1 : Int32)), (0, .ref a0), (1, .ref a1)]) hx hb dX14_init_37 hl (k := 0) rfl (by decide) (by decide) rfl (fun ls hl => ?_)
  refine lv_goto (tgt := 19) hx hb dX14_init_40 (by decide) ?_
  refine lv_iload_n hx hb dX14_init_19 rfl (lv_at hl 0 rfl) ?_
  refine lv_iconst (v := (4 : Int32)) hx hb dX14_init_20 (by decide) ?_
  refine lv_icmp_ge (tgt := 43) hx hb dX14_init_21 (by decide) (fun c => absurd c (by decide)) (fun _ => ?_)
  refine lv_aload_n hx hb dX14_init_24 rfl (lv_at hl 1 rfl) ?_
  obtain ⟨x7, ex7, hf⟩ := gBind hf
  refine g_getr X hR gk_X14 0 (by decide) q970 rfl ex7 dX14_init_25 ?_
  refine lv_iload_n hx hb dX14_init_28 rfl (lv_at hl 0 rfl) ?_
  refine g_new X hR hS gk_X2 q968 q154 q94 [.null, .null, .null, .null, .int 0, .int 0, .int 0, .int 0, .int 0, .int 0, .int 0, .int 0] (by decide +kernel) ⟨Nat.le_of_ble_eq_true rfl, Nat.le_of_ble_eq_true rfl⟩ dX14_init_29 (fun H hR hS => ?_)
  refine lv_dup hx hb dX14_init_32 rfl ?_
  obtain ⟨u9, eu9, hf⟩ := gBind hf
  refine g_callI X hR hS [] (m_X2_init l G F (va_up h6 u5.2 (some (.inr (2, [.null, .null, .null, .null, .int 0, .int 0, .int 0, .int 0, .int 0, .int 0, .int 0, .int 0])))) (u5.2 + 1) u5.2 eu9) yk_X2_init q969 rfl hl.1 ⟨Nat.le_of_ble_eq_true rfl, Nat.le_of_ble_eq_true rfl⟩ ⟨Nat.le_of_ble_eq_true rfl, Nat.le_of_ble_eq_true rfl⟩ rfl (Nat.le_of_ble_eq_true rfl) dX14_init_33 (fun H locs hR hS => ?_)
  obtain ⟨h10, eh10, hf⟩ := gBind hf
  refine g_aast X hR hS 5 2 (by decide) rfl gk_X2 eh10 dX14_init_36 (fun H locs hR hS => ?_)
  refine lv_iinc (v := (2 : Int32)) (lv' := [(2, .int (2 : Int32)), (0, .ref a0), (1, .ref a1)]) hx hb dX14_init_37 hl (k := 0) rfl (by decide) (by decide) rfl (fun ls hl => ?_)
  refine lv_goto (tgt := 19) hx hb dX14_init_40 (by decide) ?_
  refine lv_iload_n hx hb dX14_init_19 rfl (lv_at hl 0 rfl) ?_
  refine lv_iconst (v := (4 : Int32)) hx hb dX14_init_20 (by decide) ?_
  refine lv_icmp_ge (tgt := 43) hx hb dX14_init_21 (by decide) (fun c => absurd c (by decide)) (fun _ => ?_)
  refine lv_aload_n hx hb dX14_init_24 rfl (lv_at hl 1 rfl) ?_
  obtain ⟨x11, ex11, hf⟩ := gBind hf
  refine g_getr X hR gk_X14 0 (by decide) q970 rfl ex11 dX14_init_25 ?_
  refine lv_iload_n hx hb dX14_init_28 rfl (lv_at hl 0 rfl) ?_
  refine g_new X hR hS gk_X2 q968 q154 q94 [.null, .null, .null, .null, .int 0, .int 0, .int 0, .int 0, .int 0, .int 0, .int 0, .int 0] (by decide +kernel) ⟨Nat.le_of_ble_eq_true rfl, Nat.le_of_ble_eq_true rfl⟩ dX14_init_29 (fun H hR hS => ?_)
  refine lv_dup hx hb dX14_init_32 rfl ?_
  obtain ⟨u13, eu13, hf⟩ := gBind hf
  refine g_callI X hR hS [] (m_X2_init l G F (va_up h10 u9.2 (some (.inr (2, [.null, .null, .null, .null, .int 0, .int 0, .int 0, .int 0, .int 0, .int 0, .int 0, .int 0])))) (u9.2 + 1) u9.2 eu13) yk_X2_init q969 rfl hl.1 ⟨Nat.le_of_ble_eq_true rfl, Nat.le_of_ble_eq_true rfl⟩ ⟨Nat.le_of_ble_eq_true rfl, Nat.le_of_ble_eq_true rfl⟩ rfl (Nat.le_of_ble_eq_true rfl) dX14_init_33 (fun H locs hR hS => ?_)
  obtain ⟨h14, eh14, hf⟩ := gBind hf
  refine g_aast X hR hS 5 2 (by decide) rfl gk_X2 eh14 dX14_init_36 (fun H locs hR hS => ?_)
  refine lv_iinc (v := (3 : Int32)) (lv' := [(2, .int (3 : Int32)), (0, .ref a0), (1, .ref a1)]) hx hb dX14_init_37 hl (k := 0) rfl (by decide) (by decide) rfl (fun ls hl => ?_)
  refine lv_goto (tgt := 19) hx hb dX14_init_40 (by decide) ?_
  refine lv_iload_n hx hb dX14_init_19 rfl (lv_at hl 0 rfl) ?_
  refine lv_iconst (v := (4 : Int32)) hx hb dX14_init_20 (by decide) ?_
  refine lv_icmp_ge (tgt := 43) hx hb dX14_init_21 (by decide) (fun c => absurd c (by decide)) (fun _ => ?_)
  refine lv_aload_n hx hb dX14_init_24 rfl (lv_at hl 1 rfl) ?_
  obtain ⟨x15, ex15, hf⟩ := gBind hf
  refine g_getr X hR gk_X14 0 (by decide) q970 rfl ex15 dX14_init_25 ?_
  refine lv_iload_n hx hb dX14_init_28 rfl (lv_at hl 0 rfl) ?_
  refine g_new X hR hS gk_X2 q968 q154 q94 [.null, .null, .null, .null, .int 0, .int 0, .int 0, .int 0, .int 0, .int 0, .int 0, .int 0] (by decide +kernel) ⟨Nat.le_of_ble_eq_true rfl, Nat.le_of_ble_eq_true rfl⟩ dX14_init_29 (fun H hR hS => ?_)
  refine lv_dup hx hb dX14_init_32 rfl ?_
  obtain ⟨u17, eu17, hf⟩ := gBind hf
  refine g_callI X hR hS [] (m_X2_init l G F (va_up h14 u13.2 (some (.inr (2, [.null, .null, .null, .null, .int 0, .int 0, .int 0, .int 0, .int 0, .int 0, .int 0, .int 0])))) (u13.2 + 1) u13.2 eu17) yk_X2_init q969 rfl hl.1 ⟨Nat.le_of_ble_eq_true rfl, Nat.le_of_ble_eq_true rfl⟩ ⟨Nat.le_of_ble_eq_true rfl, Nat.le_of_ble_eq_true rfl⟩ rfl (Nat.le_of_ble_eq_true rfl) dX14_init_33 (fun H locs hR hS => ?_)
  obtain ⟨h18, eh18, hf⟩ := gBind hf
  refine g_aast X hR hS 5 2 (by decide) rfl gk_X2 eh18 dX14_init_36 (fun H locs hR hS => ?_)
  refine lv_iinc (v := (4 : Int32)) (lv' := [(2, .int (4 : Int32)), (0, .ref a0), (1, .ref a1)]) hx hb dX14_init_37 hl (k := 0) rfl (by decide) (by decide) rfl (fun ls hl => ?_)
  refine lv_goto (tgt := 19) hx hb dX14_init_40 (by decide) ?_
  refine lv_iload_n hx hb dX14_init_19 rfl (lv_at hl 0 rfl) ?_
  refine lv_iconst (v := (4 : Int32)) hx hb dX14_init_20 (by decide) ?_
  refine lv_icmp_ge (tgt := 43) hx hb dX14_init_21 (by decide) (fun _ => ?_) (fun c => absurd c (by decide))
  obtain ⟨rfl, rfl⟩ := gO2 hf
  exact g_vret X hR hS rfl ⟨Nat.le_of_ble_eq_true rfl, Nat.le_of_ble_eq_true rfl⟩ dX14_init_43

def sp_X14_here (G : gG) (F : Nat) (h : gH) (a0 : Nat) : Option (Int32) :=
 (gGi 12 h a0 2).bind fun x1 =>
 (gGr 12 h a0 3).bind fun x2 =>
 (gGi 0 h x2 5).bind fun x3 =>
 if x3 ≤ x1 then
 some ((-1 : Int32)) else
 (gGr 12 h a0 3).bind fun x5 =>
 (gGr 0 h x5 4).bind fun x6 =>
 (gGi 12 h a0 2).bind fun x7 =>
 (gAi 2 h x6 x7).bind fun x8 =>
 some (x8)
theorem yk_X14_here : gVk yX14_here cX14_here 1 (some .int) 0 12 := ⟨q995, qs7, q125, q996, ⟨by decide +kernel, by decide +kernel, by decide +kernel⟩, rfl⟩
set_option maxHeartbeats 4000000 in
theorem m_X14_here (l : Launch) (G : gG) (F : Nat) (h : gH) (n : Nat) (a0 : Nat) {r : Int32} (hf : sp_X14_here G F h a0 = some r) : gMet l G yX14_here cX14_here 1 (some .int) 0 0 0 0 [.ref a0] h n (some (.int r)) h n := by
  refine gEnter (by decide) [(0, .ref a0)] rfl (Nat.le_of_ble_eq_true rfl) ?_
  intro p e s m below meth c H ls X hin hR hS hl
  have hx := X.1.1
  have hb := X.1.2.1
  unfold sp_X14_here at hf
  generalize ([] : List Loc) = locs at hS ⊢
  refine lv_aload_n hx hb dX14_here_0 rfl (lv_at hl 0 rfl) ?_
  obtain ⟨x1, ex1, hf⟩ := gBind hf
  refine g_geti X hR gk_X14 2 (by decide) q974 rfl ex1 dX14_here_1 ?_
  refine lv_aload_n hx hb dX14_here_4 rfl (lv_at hl 0 rfl) ?_
  obtain ⟨x2, ex2, hf⟩ := gBind hf
  refine g_getr X hR gk_X14 3 (by decide) q975 rfl ex2 dX14_here_5 ?_
  obtain ⟨x3, ex3, hf⟩ := gBind hf
  refine g_getiN X hR gk_X0 5 (by decide) q798 rfl ex3 dX14_here_8 ?_
  refine lv_icmp_ge (tgt := 29) hx hb dX14_here_11 (by decide) (fun c4 => ?_) (fun c4 => ?_)
  · replace hf := gIfp c4 hf
    refine lv_iconst (v := (-1 : Int32)) hx hb dX14_here_29 (by decide) ?_
    obtain rfl := gO1 hf
    exact g_iret X hR hS _ rfl ⟨Nat.le_of_ble_eq_true rfl, Nat.le_of_ble_eq_true rfl⟩ dX14_here_30
  · replace hf := gIfn c4 hf
    refine lv_aload_n hx hb dX14_here_14 rfl (lv_at hl 0 rfl) ?_
    obtain ⟨x5, ex5, hf⟩ := gBind hf
    refine g_getr X hR gk_X14 3 (by decide) q975 rfl ex5 dX14_here_15 ?_
    obtain ⟨x6, ex6, hf⟩ := gBind hf
    refine g_getrN X hR gk_X0 4 (by decide) q796 rfl ex6 dX14_here_18 ?_
    refine lv_aload_n hx hb dX14_here_21 rfl (lv_at hl 0 rfl) ?_
    obtain ⟨x7, ex7, hf⟩ := gBind hf
    refine g_geti X hR gk_X14 2 (by decide) q974 rfl ex7 dX14_here_22 ?_
    obtain ⟨x8, ex8, hf⟩ := gBind hf
    refine g_bald X hR ex8 dX14_here_25 ?_
    refine lv_goto (tgt := 30) hx hb dX14_here_26 (by decide) ?_
    obtain rfl := gO1 hf
    exact g_iret X hR hS _ rfl ⟨Nat.le_of_ble_eq_true rfl, Nat.le_of_ble_eq_true rfl⟩ dX14_here_30

def sp_X3_of (G : gG) (F : Nat) (h : gH) (p0 : Int32) : Option (Nat) :=
 if p0 = (0 : Int32) then
 some (gS G 0) else
 if p0 = (1 : Int32) then
 some (gS G 1) else
 if p0 = (2 : Int32) then
 some (gS G 2) else
 some (gS G 3)
theorem yk_X3_of : gSk yX3_of cX3_of 1 (some (.object "SafeClears$Kind")) 1 := ⟨q838, q96, q839, ⟨by decide +kernel, by decide +kernel, by decide +kernel⟩⟩
set_option maxHeartbeats 4000000 in
theorem m_X3_of (l : Launch) (G : gG) (F : Nat) (h : gH) (n : Nat) (p0 : Int32) {r : Nat} (hf : sp_X3_of G F h p0 = some r) : gMet l G yX3_of cX3_of 1 (some (.object "SafeClears$Kind")) 0 0 0 0 [.int p0] h n (some (.ref r)) h n := by
  refine gEnter (by decide) [(0, .int p0)] rfl (Nat.le_of_ble_eq_true rfl) ?_
  intro p e s m below meth c H ls X hin hR hS hl
  have hx := X.1.1
  have hb := X.1.2.1
  unfold sp_X3_of at hf
  generalize ([] : List Loc) = locs at hS ⊢
  refine lv_iload_n hx hb dX3_of_0 rfl (lv_at hl 0 rfl) ?_
  by_cases c1 : p0 = (0 : Int32)
  · replace hf := gIfp c1 hf
    refine lv_tableIn (off := 27) (tgt := 28) hx hb dX3_of_1 (by rw [c1]; decide) (by rw [c1]; decide) (by rw [c1]; rfl) (by decide) ?_
    refine g_kind X hS 0 (by decide) q840 dX3_of_28 ?_
    obtain rfl := gO1 hf
    exact g_aret X hR hS _ rfl ⟨Nat.le_of_ble_eq_true rfl, Nat.le_of_ble_eq_true rfl⟩ dX3_of_31
  replace hf := gIfn c1 hf
  by_cases c2 : p0 = (1 : Int32)
  · replace hf := gIfp c2 hf
    refine lv_tableIn (off := 31) (tgt := 32) hx hb dX3_of_1 (by rw [c2]; decide) (by rw [c2]; decide) (by rw [c2]; rfl) (by decide) ?_
    refine g_kind X hS 1 (by decide) q841 dX3_of_32 ?_
    obtain rfl := gO1 hf
    exact g_aret X hR hS _ rfl ⟨Nat.le_of_ble_eq_true rfl, Nat.le_of_ble_eq_true rfl⟩ dX3_of_35
  replace hf := gIfn c2 hf
  by_cases c3 : p0 = (2 : Int32)
  · replace hf := gIfp c3 hf
    refine lv_tableIn (off := 35) (tgt := 36) hx hb dX3_of_1 (by rw [c3]; decide) (by rw [c3]; decide) (by rw [c3]; rfl) (by decide) ?_
    refine g_kind X hS 2 (by decide) q843 dX3_of_36 ?_
    obtain rfl := gO1 hf
    exact g_aret X hR hS _ rfl ⟨Nat.le_of_ble_eq_true rfl, Nat.le_of_ble_eq_true rfl⟩ dX3_of_39
  replace hf := gIfn c3 hf
  refine lv_tableOut (tgt := 40) hx hb dX3_of_1 (by have tc1 := lv_neT (k := (0 : Int32)) (a := 0) c1 (by decide); have tc2 := lv_neT (k := (1 : Int32)) (a := 1) c2 (by decide); have tc3 := lv_neT (k := (2 : Int32)) (a := 2) c3 (by decide); omega) (by decide) ?_
  refine g_kind X hS 3 (by decide) q845 dX3_of_40 ?_
  obtain rfl := gO1 hf
  exact g_aret X hR hS _ rfl ⟨Nat.le_of_ble_eq_true rfl, Nat.le_of_ble_eq_true rfl⟩ dX3_of_43

def sp_X0_in (G : gG) (F : Nat) (h : gH) (p0 : Int64) (p2 : Int64) (p4 : Int64) : Option (Int32) :=
 if (lg_cmp p0 p2) < 0 then
 some ((0 : Int32)) else
 if 0 < (lg_cmp p0 p4) then
 some ((0 : Int32)) else
 some ((1 : Int32))
theorem yk_X0_in : gSk yX0_in cX0_in 6 (some .boolean) 3 := ⟨q831, q92, q832, ⟨by decide +kernel, by decide +kernel, by decide +kernel⟩⟩
set_option maxHeartbeats 4000000 in
theorem m_X0_in (l : Launch) (G : gG) (F : Nat) (h : gH) (n : Nat) (p0 : Int64) (p2 : Int64) (p4 : Int64) {r : Int32} (hf : sp_X0_in G F h p0 p2 p4 = some r) : gMet l G yX0_in cX0_in 6 (some .boolean) 0 0 0 0 [.long p0, .long p2, .long p4] h n (some (.int r)) h n := by
  refine gEnter (by decide) [(0, .long p0), (2, .long p2), (4, .long p4)] rfl (Nat.le_of_ble_eq_true rfl) ?_
  intro p e s m below meth c H ls X hin hR hS hl
  have hx := X.1.1
  have hb := X.1.2.1
  unfold sp_X0_in at hf
  generalize ([] : List Loc) = locs at hS ⊢
  refine lv_lload_n hx hb dX0_in_0 rfl (lv_at hl 0 rfl) ?_
  refine lv_lload_n hx hb dX0_in_1 rfl (lv_at hl 1 rfl) ?_
  refine W.lcmp hx hb dX0_in_2 ?_
  refine lv_if_lt (tgt := 17) hx hb dX0_in_3 (by decide) (fun c1 => ?_) (fun c1 => ?_)
  · replace hf := gIfp c1 hf
    refine lv_iconst (v := (0 : Int32)) hx hb dX0_in_17 (by decide) ?_
    obtain rfl := gO1 hf
    exact g_zret X hR hS _ rfl rfl ⟨Nat.le_of_ble_eq_true rfl, Nat.le_of_ble_eq_true rfl⟩ dX0_in_18
  · replace hf := gIfn c1 hf
    refine lv_lload_n hx hb dX0_in_6 rfl (lv_at hl 0 rfl) ?_
    refine lv_lload hx hb dX0_in_7 (lv_at hl 2 rfl) ?_
    refine W.lcmp hx hb dX0_in_9 ?_
    refine lv_if_gt (tgt := 17) hx hb dX0_in_10 (by decide) (fun c2 => ?_) (fun c2 => ?_)
    · replace hf := gIfp c2 hf
      refine lv_iconst (v := (0 : Int32)) hx hb dX0_in_17 (by decide) ?_
      obtain rfl := gO1 hf
      exact g_zret X hR hS _ rfl rfl ⟨Nat.le_of_ble_eq_true rfl, Nat.le_of_ble_eq_true rfl⟩ dX0_in_18
    · replace hf := gIfn c2 hf
      refine lv_iconst (v := (1 : Int32)) hx hb dX0_in_13 (by decide) ?_
      refine lv_goto (tgt := 18) hx hb dX0_in_14 (by decide) ?_
      obtain rfl := gO1 hf
      exact g_zret X hR hS _ rfl rfl ⟨Nat.le_of_ble_eq_true rfl, Nat.le_of_ble_eq_true rfl⟩ dX0_in_18

def sp_X14_cell (G : gG) (F : Nat) (h : gH) (a0 : Nat) (a1 : Nat) : Option (gH) :=
 if gIs 12 h a0 = true then
 (sp_X14_here G F h a0).bind fun u2 =>
 (sp_X0_in G F h u2.toInt64 (97 : Int64) (104 : Int64)).bind fun u3 =>
 if u3 = 0 then
 none else
 (gGi 2 h a1 4).bind fun x5 =>
 if x5 = (8 : Int32) then
 none else
 if gIs 12 h a0 = true then
 (sp_X14_here G F h a0).bind fun u8 =>
 (gGi 12 h a0 2).bind fun x9 =>
 (gPv 12 h a0 2 (.int (x9 + (1 : Int32)))).bind fun h10 =>
 if gIs 12 h10 a0 = true then
 (sp_X14_here G F h10 a0).bind fun u12 =>
 (sp_X0_in G F h10 u12.toInt64 (49 : Int64) (56 : Int64)).bind fun u13 =>
 if u13 = 0 then
 none else
 if gIs 12 h10 a0 = true then
 (sp_X14_here G F h10 a0).bind fun u16 =>
 (gGr 2 h10 a1 2).bind fun x17 =>
 if gIs 14 h10 x17 = true then
 (sp_J1_get G F h10 x17 ((u8 - (97 : Int32)) + ((8 : Int32) * (u16 - (49 : Int32))))).bind fun u19 =>
 if u19 = 0 then
 (gGi 12 h10 a0 2).bind fun x21 =>
 (gPv 12 h10 a0 2 (.int (x21 + (1 : Int32)))).bind fun h22 =>
 if gIs 2 h22 a1 = true then
 (sp_X2_goesOver G F h22 a1 ((u8 - (97 : Int32)) + ((8 : Int32) * (u16 - (49 : Int32))))).bind fun u24 =>
 some (u24) else none else
 none else none else none else none else none else none
theorem yk_X14_cell : gVk yX14_cell cX14_cell 4 none 1 12 := ⟨q1027, qs8, q125, q1028, ⟨by decide +kernel, by decide +kernel, by decide +kernel⟩, rfl⟩
set_option maxHeartbeats 4000000 in
theorem m_X14_cell (l : Launch) (G : gG) (F : Nat) (h : gH) (n : Nat) (a0 : Nat) (a1 : Nat) {h' : gH} (hf : sp_X14_cell G F h a0 a1 = some h') : gMet l G yX14_cell cX14_cell 4 none 5 108 0 0 [.ref a0, .ref a1] h n none h' n := by
  refine gEnter (by decide) [(0, .ref a0), (1, .ref a1)] rfl (Nat.le_of_ble_eq_true rfl) ?_
  intro p e s m below meth c H ls X hin hR hS hl
  have hx := X.1.1
  have hb := X.1.2.1
  unfold sp_X14_cell at hf
  generalize ([] : List Loc) = locs at hS ⊢
  refine lv_aload_n hx hb dX14_cell_0 rfl (lv_at hl 0 rfl) ?_
  obtain ⟨k1, hf⟩ := gChk hf
  obtain ⟨u2, eu2, hf⟩ := gBind hf
  refine g_callVi X hR hS [] (m_X14_here l G F h n a0 eu2) yk_X14_here q993 k1 rfl hl.1 ⟨Nat.le_of_ble_eq_true rfl, Nat.le_of_ble_eq_true rfl⟩ ⟨Nat.le_of_ble_eq_true rfl, Nat.le_of_ble_eq_true rfl⟩ rfl (Nat.le_of_ble_eq_true rfl) dX14_cell_1 (fun H locs hR hS => ?_)
  refine lv_i2l (v := u2.toInt64) hx hb dX14_cell_4 rfl ?_
  refine lv_ldc2 (v := (97 : Int64)) hx hb X.1.2.2.2.1 (X.1.2.2.2.2 _ q1029) dX14_cell_5 ?_
  refine lv_ldc2 (v := (104 : Int64)) hx hb X.1.2.2.2.1 (X.1.2.2.2.2 _ q1030) dX14_cell_8 ?_
  obtain ⟨u3, eu3, hf⟩ := gBind hf
  refine g_callSNi X hR hS [.long u2.toInt64, .long (97 : Int64), .long (104 : Int64)] (m_X0_in l G F h n u2.toInt64 (97 : Int64) (104 : Int64) eu3) yk_X0_in q1031 rfl hl.1 ⟨Nat.le_of_ble_eq_true rfl, Nat.le_of_ble_eq_true rfl⟩ ⟨Nat.le_of_ble_eq_true rfl, Nat.le_of_ble_eq_true rfl⟩ rfl (Nat.le_of_ble_eq_true rfl) dX14_cell_11 (fun H locs hR hS => ?_)
  refine lv_if_eq (tgt := 26) hx hb dX14_cell_14 (by decide) (fun c4 => ?_) (fun c4 => ?_)
  · replace hf := gIfp c4 hf
    cases hf
  · replace hf := gIfn c4 hf
    refine lv_aload_n hx hb dX14_cell_17 rfl (lv_at hl 1 rfl) ?_
    obtain ⟨x5, ex5, hf⟩ := gBind hf
    refine g_getiN X hR gk_X2 4 (by decide) q524 rfl ex5 dX14_cell_18 ?_
    refine lv_bipush (v := (8 : Int32)) hx hb dX14_cell_21 (by decide) ?_
    refine lv_icmp_ne (tgt := 38) hx hb dX14_cell_23 (by decide) (fun c6 => ?_) (fun c6 => ?_)
    · replace hf := gIfn c6 hf
      refine lv_aload_n hx hb dX14_cell_38 rfl (lv_at hl 0 rfl) ?_
      obtain ⟨k7, hf⟩ := gChk hf
      obtain ⟨u8, eu8, hf⟩ := gBind hf
      refine g_callVi X hR hS [] (m_X14_here l G F h n a0 eu8) yk_X14_here q993 k7 rfl hl.1 ⟨Nat.le_of_ble_eq_true rfl, Nat.le_of_ble_eq_true rfl⟩ ⟨Nat.le_of_ble_eq_true rfl, Nat.le_of_ble_eq_true rfl⟩ rfl (Nat.le_of_ble_eq_true rfl) dX14_cell_39 (fun H locs hR hS => ?_)
      refine lv_bipush (v := (97 : Int32)) hx hb dX14_cell_42 (by decide) ?_
      refine lv_isub hx hb dX14_cell_44 ?_
      refine lv_istore_n (lv' := [(2, .int (u8 - (97 : Int32))), (0, .ref a0), (1, .ref a1)]) hx hb dX14_cell_45 rfl hl (by decide) rfl (fun ls hl => ?_)
      refine lv_aload_n hx hb dX14_cell_46 rfl (lv_at hl 1 rfl) ?_
      refine lv_dup hx hb dX14_cell_47 rfl ?_
      obtain ⟨x9, ex9, hf⟩ := gBind hf
      refine g_geti X hR gk_X14 2 (by decide) q974 rfl ex9 dX14_cell_48 ?_
      refine lv_iconst (v := (1 : Int32)) hx hb dX14_cell_51 (by decide) ?_
      refine lv_iadd hx hb dX14_cell_52 ?_
      obtain ⟨h10, eh10, hf⟩ := gBind hf
      refine g_put X hR hS gk_X14 2 (by decide) q974 rfl rfl eh10 rfl rfl rfl dX14_cell_53 (fun H locs hR hS => ?_)
      refine lv_aload_n hx hb dX14_cell_56 rfl (lv_at hl 1 rfl) ?_
      obtain ⟨k11, hf⟩ := gChk hf
      obtain ⟨u12, eu12, hf⟩ := gBind hf
      refine g_callVi X hR hS [] (m_X14_here l G F h10 n a0 eu12) yk_X14_here q993 k11 rfl hl.1 ⟨Nat.le_of_ble_eq_true rfl, Nat.le_of_ble_eq_true rfl⟩ ⟨Nat.le_of_ble_eq_true rfl, Nat.le_of_ble_eq_true rfl⟩ rfl (Nat.le_of_ble_eq_true rfl) dX14_cell_57 (fun H locs hR hS => ?_)
      refine lv_i2l (v := u12.toInt64) hx hb dX14_cell_60 rfl ?_
      refine lv_ldc2 (v := (49 : Int64)) hx hb X.1.2.2.2.1 (X.1.2.2.2.2 _ q1032) dX14_cell_61 ?_
      refine lv_ldc2 (v := (56 : Int64)) hx hb X.1.2.2.2.1 (X.1.2.2.2.2 _ q1033) dX14_cell_64 ?_
      obtain ⟨u13, eu13, hf⟩ := gBind hf
      refine g_callSNi X hR hS [.long u12.toInt64, .long (49 : Int64), .long (56 : Int64)] (m_X0_in l G F h10 n u12.toInt64 (49 : Int64) (56 : Int64) eu13) yk_X0_in q1031 rfl hl.1 ⟨Nat.le_of_ble_eq_true rfl, Nat.le_of_ble_eq_true rfl⟩ ⟨Nat.le_of_ble_eq_true rfl, Nat.le_of_ble_eq_true rfl⟩ rfl (Nat.le_of_ble_eq_true rfl) dX14_cell_67 (fun H locs hR hS => ?_)
      refine lv_if_ne (tgt := 85) hx hb dX14_cell_70 (by decide) (fun c14 => ?_) (fun c14 => ?_)
      · replace hf := gIfn c14 hf
        refine lv_iload_n hx hb dX14_cell_85 rfl (lv_at hl 0 rfl) ?_
        refine lv_bipush (v := (8 : Int32)) hx hb dX14_cell_86 (by decide) ?_
        refine lv_aload_n hx hb dX14_cell_88 rfl (lv_at hl 1 rfl) ?_
        obtain ⟨k15, hf⟩ := gChk hf
        obtain ⟨u16, eu16, hf⟩ := gBind hf
        refine g_callVi X hR hS [] (m_X14_here l G F h10 n a0 eu16) yk_X14_here q993 k15 rfl hl.1 ⟨Nat.le_of_ble_eq_true rfl, Nat.le_of_ble_eq_true rfl⟩ ⟨Nat.le_of_ble_eq_true rfl, Nat.le_of_ble_eq_true rfl⟩ rfl (Nat.le_of_ble_eq_true rfl) dX14_cell_89 (fun H locs hR hS => ?_)
        refine lv_bipush (v := (49 : Int32)) hx hb dX14_cell_92 (by decide) ?_
        refine lv_isub hx hb dX14_cell_94 ?_
        refine lv_imul hx hb dX14_cell_95 ?_
        refine lv_iadd hx hb dX14_cell_96 ?_
        refine lv_istore_n (lv' := [(3, .int ((u8 - (97 : Int32)) + ((8 : Int32) * (u16 - (49 : Int32))))), (2, .int (u8 - (97 : Int32))), (0, .ref a0), (1, .ref a1)]) hx hb dX14_cell_97 rfl hl (by decide) rfl (fun ls hl => ?_)
        refine lv_aload_n hx hb dX14_cell_98 rfl (lv_at hl 3 rfl) ?_
        obtain ⟨x17, ex17, hf⟩ := gBind hf
        refine g_getrN X hR gk_X2 2 (by decide) q516 rfl ex17 dX14_cell_99 ?_
        refine lv_iload_n hx hb dX14_cell_102 rfl (lv_at hl 0 rfl) ?_
        obtain ⟨k18, hf⟩ := gChk hf
        obtain ⟨u19, eu19, hf⟩ := gBind hf
        refine g_callVi X hR hS [.int ((u8 - (97 : Int32)) + ((8 : Int32) * (u16 - (49 : Int32))))] (m_J1_get l G F h10 n x17 ((u8 - (97 : Int32)) + ((8 : Int32) * (u16 - (49 : Int32)))) eu19) yk_J1_get q1034 k18 rfl hl.1 ⟨Nat.le_of_ble_eq_true rfl, Nat.le_of_ble_eq_true rfl⟩ ⟨Nat.le_of_ble_eq_true rfl, Nat.le_of_ble_eq_true rfl⟩ rfl (Nat.le_of_ble_eq_true rfl) dX14_cell_103 (fun H locs hR hS => ?_)
        refine lv_if_eq (tgt := 121) hx hb dX14_cell_106 (by decide) (fun c20 => ?_) (fun c20 => ?_)
        · replace hf := gIfp c20 hf
          refine lv_aload_n hx hb dX14_cell_121 rfl (lv_at hl 2 rfl) ?_
          refine lv_dup hx hb dX14_cell_122 rfl ?_
          obtain ⟨x21, ex21, hf⟩ := gBind hf
          refine g_geti X hR gk_X14 2 (by decide) q974 rfl ex21 dX14_cell_123 ?_
          refine lv_iconst (v := (1 : Int32)) hx hb dX14_cell_126 (by decide) ?_
          refine lv_iadd hx hb dX14_cell_127 ?_
          obtain ⟨h22, eh22, hf⟩ := gBind hf
          refine g_put X hR hS gk_X14 2 (by decide) q974 rfl rfl eh22 rfl rfl rfl dX14_cell_128 (fun H locs hR hS => ?_)
          refine lv_aload_n hx hb dX14_cell_131 rfl (lv_at hl 3 rfl) ?_
          refine lv_iload_n hx hb dX14_cell_132 rfl (lv_at hl 0 rfl) ?_
          obtain ⟨k23, hf⟩ := gChk hf
          obtain ⟨u24, eu24, hf⟩ := gBind hf
          refine g_callVv X hR hS [.int ((u8 - (97 : Int32)) + ((8 : Int32) * (u16 - (49 : Int32))))] (m_X2_goesOver l G F h22 n a1 ((u8 - (97 : Int32)) + ((8 : Int32) * (u16 - (49 : Int32)))) eu24) yk_X2_goesOver q1035 k23 rfl hl.1 ⟨Nat.le_of_ble_eq_true rfl, Nat.le_of_ble_eq_true rfl⟩ ⟨Nat.le_of_ble_eq_true rfl, Nat.le_of_ble_eq_true rfl⟩ rfl (Nat.le_of_ble_eq_true rfl) dX14_cell_133 (fun H locs hR hS => ?_)
          obtain rfl := gO1 hf
          exact g_vret X hR hS rfl ⟨Nat.le_of_ble_eq_true rfl, Nat.le_of_ble_eq_true rfl⟩ dX14_cell_136
        · replace hf := gIfn c20 hf
          cases hf
      · replace hf := gIfp c14 hf
        cases hf
    · replace hf := gIfp c6 hf
      cases hf

def sp_X14_is (G : gG) (F : Nat) (h : gH) (a0 : Nat) (p1 : Int32) : Option (Int32 × gH) :=
 if gIs 12 h a0 = true then
 (sp_X14_here G F h a0).bind fun u2 =>
 if u2 = p1 then
 (gGi 12 h a0 2).bind fun x4 =>
 (gPv 12 h a0 2 (.int (x4 + (1 : Int32)))).bind fun h5 =>
 some (((1 : Int32), h5)) else
 some (((0 : Int32), h)) else none
theorem yk_X14_is : gVk yX14_is cX14_is 2 (some .boolean) 1 12 := ⟨q1038, qs9, q125, q1039, ⟨by decide +kernel, by decide +kernel, by decide +kernel⟩, rfl⟩
set_option maxHeartbeats 4000000 in
theorem m_X14_is (l : Launch) (G : gG) (F : Nat) (h : gH) (n : Nat) (a0 : Nat) (p1 : Int32) {r : Int32} {h' : gH} (hf : sp_X14_is G F h a0 p1 = some (r, h')) : gMet l G yX14_is cX14_is 2 (some .boolean) 1 20 0 0 [.ref a0, .int p1] h n (some (.int r)) h' n := by
  refine gEnter (by decide) [(0, .ref a0), (1, .int p1)] rfl (Nat.le_of_ble_eq_true rfl) ?_
  intro p e s m below meth c H ls X hin hR hS hl
  have hx := X.1.1
  have hb := X.1.2.1
  unfold sp_X14_is at hf
  generalize ([] : List Loc) = locs at hS ⊢
  refine lv_aload_n hx hb dX14_is_0 rfl (lv_at hl 0 rfl) ?_
  obtain ⟨k1, hf⟩ := gChk hf
  obtain ⟨u2, eu2, hf⟩ := gBind hf
  refine g_callVi X hR hS [] (m_X14_here l G F h n a0 eu2) yk_X14_here q993 k1 rfl hl.1 ⟨Nat.le_of_ble_eq_true rfl, Nat.le_of_ble_eq_true rfl⟩ ⟨Nat.le_of_ble_eq_true rfl, Nat.le_of_ble_eq_true rfl⟩ rfl (Nat.le_of_ble_eq_true rfl) dX14_is_1 (fun H locs hR hS => ?_)
  refine lv_iload_n hx hb dX14_is_4 rfl (lv_at hl 1 rfl) ?_
  refine lv_icmp_eq (tgt := 10) hx hb dX14_is_5 (by decide) (fun c3 => ?_) (fun c3 => ?_)
  · replace hf := gIfp c3 hf
    refine lv_aload_n hx hb dX14_is_10 rfl (lv_at hl 0 rfl) ?_
    refine lv_dup hx hb dX14_is_11 rfl ?_
    obtain ⟨x4, ex4, hf⟩ := gBind hf
    refine g_geti X hR gk_X14 2 (by decide) q974 rfl ex4 dX14_is_12 ?_
    refine lv_iconst (v := (1 : Int32)) hx hb dX14_is_15 (by decide) ?_
    refine lv_iadd hx hb dX14_is_16 ?_
    obtain ⟨h5, eh5, hf⟩ := gBind hf
    refine g_put X hR hS gk_X14 2 (by decide) q974 rfl rfl eh5 rfl rfl rfl dX14_is_17 (fun H locs hR hS => ?_)
    refine lv_iconst (v := (1 : Int32)) hx hb dX14_is_20 (by decide) ?_
    obtain ⟨rfl, rfl⟩ := gO2 hf
    exact g_zret X hR hS _ rfl rfl ⟨Nat.le_of_ble_eq_true rfl, Nat.le_of_ble_eq_true rfl⟩ dX14_is_21
  · replace hf := gIfn c3 hf
    refine lv_iconst (v := (0 : Int32)) hx hb dX14_is_8 (by decide) ?_
    obtain ⟨rfl, rfl⟩ := gO2 hf
    exact g_zret X hR hS _ rfl rfl ⟨Nat.le_of_ble_eq_true rfl, Nat.le_of_ble_eq_true rfl⟩ dX14_is_9

def sp_X14_number_L9 (G : gG) (F : Nat) : Nat → gH → Nat → Int32 → Int32 → Int32 → Int32 → Int32 → Option (Int32 × gH)
  | 0, _, _, _, _, _, _, _ => none
  | f + 1, h9L, v9_0, v9_1, v9_2, v9_3, v9_4, v9_5 =>
    (gGi 12 h9L v9_0 2).bind fun x1001 =>
    if v9_1 ≤ (x1001 - v9_4) then
    some (v9_5, h9L) else
    if gIs 12 h9L v9_0 = true then
    (sp_X14_here G F h9L v9_0).bind fun u1004 =>
    (sp_X0_in G F h9L u1004.toInt64 (48 : Int64) (57 : Int64)).bind fun u1005 =>
    if u1005 = 0 then
    some (v9_5, h9L) else
    if gIs 12 h9L v9_0 = true then
    (sp_X14_here G F h9L v9_0).bind fun u1008 =>
    (gGi 12 h9L v9_0 2).bind fun x1009 =>
    (gPv 12 h9L v9_0 2 (.int (x1009 + (1 : Int32)))).bind fun h1010 =>
    sp_X14_number_L9 G F f h1010 v9_0 v9_1 v9_2 v9_3 v9_4 ((((10 : Int32) * v9_5) + u1008) - (48 : Int32)) else none else none
def sp_X14_number (G : gG) (F : Nat) (h : gH) (a0 : Nat) (p1 : Int32) (p2 : Int32) (p3 : Int32) : Option (Int32 × gH) :=
 (gGi 12 h a0 2).bind fun x1 =>
 (sp_X14_number_L9 G F F h a0 p1 p2 p3 x1 (0 : Int32)).bind fun y4 =>
 (gGi 12 y4.2 a0 2).bind fun x5 =>
 if x5 = x1 then
 none else
 (sp_X0_in G F y4.2 y4.1.toInt64 p2.toInt64 p3.toInt64).bind fun u7 =>
 if u7 = 0 then
 none else
 some ((y4.1, y4.2))
theorem yk_X14_number : gVk yX14_number cX14_number 6 (some .int) 3 12 := ⟨q1042, qs10, q125, q1043, ⟨by decide +kernel, by decide +kernel, by decide +kernel⟩, rfl⟩
set_option maxHeartbeats 4000000 in
theorem m_X14_number (l : Launch) (G : gG) (F : Nat) (h : gH) (n : Nat) (a0 : Nat) (p1 : Int32) (p2 : Int32) (p3 : Int32) {r : Int32} {h' : gH} (hf : sp_X14_number G F h a0 p1 p2 p3 = some (r, h')) : gMet l G yX14_number cX14_number 6 (some .int) 1 25 0 0 [.ref a0, .int p1, .int p2, .int p3] h n (some (.int r)) h' n := by
  refine gEnter (by decide) [(0, .ref a0), (1, .int p1), (2, .int p2), (3, .int p3)] rfl (Nat.le_of_ble_eq_true rfl) ?_
  intro p e s m below meth c H ls X hin hR hS hl
  have hx := X.1.1
  have hb := X.1.2.1
  unfold sp_X14_number at hf
  generalize ([] : List Loc) = locs at hS ⊢
  refine lv_aload_n hx hb dX14_number_0 rfl (lv_at hl 0 rfl) ?_
  obtain ⟨x1, ex1, hf⟩ := gBind hf
  refine g_geti X hR gk_X14 2 (by decide) q974 rfl ex1 dX14_number_1 ?_
  refine lv_istore (lv' := [(4, .int x1), (0, .ref a0), (1, .int p1), (2, .int p2), (3, .int p3)]) hx hb dX14_number_4 hl (by decide) rfl (fun ls hl => ?_)
  refine lv_iconst (v := (0 : Int32)) hx hb dX14_number_6 (by decide) ?_
  refine lv_istore (lv' := [(5, .int (0 : Int32)), (4, .int x1), (0, .ref a0), (1, .int p1), (2, .int p2), (3, .int p3)]) hx hb dX14_number_7 hl (by decide) rfl (fun ls hl => ?_)
  have L9_q2 : ∀ (f : Nat) (h9L : gH) (v9_0 : Nat) (v9_1 : Int32) (v9_2 : Int32) (v9_3 : Int32) (v9_4 : Int32) (v9_5 : Int32) (o3 : Int32 × gH) (H : Heap) (locs : List Loc) (ls : Array Slot), sp_X14_number_L9 G F f h9L v9_0 v9_1 v9_2 v9_3 v9_4 v9_5 = some o3 → gRep G h9L n H → va_S (gFr G) s.heap H locs → lv_has ls 6 [(0, .ref v9_0), (1, .int v9_1), (2, .int v9_2), (3, .int v9_3), (4, .int v9_4), (5, .int v9_5)] → (∀ (H : Heap) (locs : List Loc) (ls : Array Slot), gRep G o3.2 n H → va_S (gFr G) s.heap H locs → lv_has ls 6 [(5, .int o3.1), (0, .ref v9_0), (2, .int v9_2), (3, .int v9_3), (4, .int v9_4)] → W p l e ({ frames := 1, cells := 0, slots := 0, locals := 25 } : Room) s m ([.ref a0, .int p1, .int p2, .int p3] : List Value).toArray below meth c H locs 0 0 (MQ below (gQ G (some (.int r)) h' n) ([.ref a0, .int p1, .int p2, .int p3] : List Value).toArray s 0 0 (gFr G)) (F0 m 65 ls [])) → W p l e ({ frames := 1, cells := 0, slots := 0, locals := 25 } : Room) s m ([.ref a0, .int p1, .int p2, .int p3] : List Value).toArray below meth c H locs 0 0 (MQ below (gQ G (some (.int r)) h' n) ([.ref a0, .int p1, .int p2, .int p3] : List Value).toArray s 0 0 (gFr G)) (F0 m 9 ls []) := by
    clear hf
    intro f
    induction f with
    | zero =>
      intro h9L v9_0 v9_1 v9_2 v9_3 v9_4 v9_5 o3 H locs ls hf
      cases hf
    | succ f ih =>
      intro h9L v9_0 v9_1 v9_2 v9_3 v9_4 v9_5 o3 H locs ls hf hR hS hl K9
      rw [sp_X14_number_L9] at hf
      refine lv_aload_n hx hb dX14_number_9 rfl (lv_at hl 0 rfl) ?_
      obtain ⟨x1001, ex1001, hf⟩ := gBind hf
      refine g_geti X hR gk_X14 2 (by decide) q974 rfl ex1001 dX14_number_10 ?_
      refine lv_iload hx hb dX14_number_13 (lv_at hl 4 rfl) ?_
      refine lv_isub hx hb dX14_number_15 ?_
      refine lv_iload_n hx hb dX14_number_16 rfl (lv_at hl 1 rfl) ?_
      refine lv_icmp_ge (tgt := 65) hx hb dX14_number_17 (by decide) (fun c1002 => ?_) (fun c1002 => ?_)
      · replace hf := gIfp c1002 hf
        obtain rfl := gO1 hf
        exact K9 _ _ _ hR hS (lv_sub hl [5, 0, 2, 3, 4] rfl)
      · replace hf := gIfn c1002 hf
        refine lv_aload_n hx hb dX14_number_20 rfl (lv_at hl 0 rfl) ?_
        obtain ⟨k1003, hf⟩ := gChk hf
        obtain ⟨u1004, eu1004, hf⟩ := gBind hf
        refine g_callVi X hR hS [] (m_X14_here l G F h9L n v9_0 eu1004) yk_X14_here q993 k1003 rfl hl.1 ⟨Nat.le_of_ble_eq_true rfl, Nat.le_of_ble_eq_true rfl⟩ ⟨Nat.le_of_ble_eq_true rfl, Nat.le_of_ble_eq_true rfl⟩ rfl (Nat.le_of_ble_eq_true rfl) dX14_number_21 (fun H locs hR hS => ?_)
        refine lv_i2l (v := u1004.toInt64) hx hb dX14_number_24 rfl ?_
        refine lv_ldc2 (v := (48 : Int64)) hx hb X.1.2.2.2.1 (X.1.2.2.2.2 _ q1044) dX14_number_25 ?_
        refine lv_ldc2 (v := (57 : Int64)) hx hb X.1.2.2.2.1 (X.1.2.2.2.2 _ q1045) dX14_number_28 ?_
        obtain ⟨u1005, eu1005, hf⟩ := gBind hf
        refine g_callSNi X hR hS [.long u1004.toInt64, .long (48 : Int64), .long (57 : Int64)] (m_X0_in l G F h9L n u1004.toInt64 (48 : Int64) (57 : Int64) eu1005) yk_X0_in q1031 rfl hl.1 ⟨Nat.le_of_ble_eq_true rfl, Nat.le_of_ble_eq_true rfl⟩ ⟨Nat.le_of_ble_eq_true rfl, Nat.le_of_ble_eq_true rfl⟩ rfl (Nat.le_of_ble_eq_true rfl) dX14_number_31 (fun H locs hR hS => ?_)
        refine lv_if_eq (tgt := 65) hx hb dX14_number_34 (by decide) (fun c1006 => ?_) (fun c1006 => ?_)
        · replace hf := gIfp c1006 hf
          obtain rfl := gO1 hf
          exact K9 _ _ _ hR hS (lv_sub hl [5, 0, 2, 3, 4] rfl)
        · replace hf := gIfn c1006 hf
          refine lv_bipush (v := (10 : Int32)) hx hb dX14_number_37 (by decide) ?_
          refine lv_iload hx hb dX14_number_39 (lv_at hl 5 rfl) ?_
          refine lv_imul hx hb dX14_number_41 ?_
          refine lv_aload_n hx hb dX14_number_42 rfl (lv_at hl 0 rfl) ?_
          obtain ⟨k1007, hf⟩ := gChk hf
          obtain ⟨u1008, eu1008, hf⟩ := gBind hf
          refine g_callVi X hR hS [] (m_X14_here l G F h9L n v9_0 eu1008) yk_X14_here q993 k1007 rfl hl.1 ⟨Nat.le_of_ble_eq_true rfl, Nat.le_of_ble_eq_true rfl⟩ ⟨Nat.le_of_ble_eq_true rfl, Nat.le_of_ble_eq_true rfl⟩ rfl (Nat.le_of_ble_eq_true rfl) dX14_number_43 (fun H locs hR hS => ?_)
          refine lv_iadd hx hb dX14_number_46 ?_
          refine lv_bipush (v := (48 : Int32)) hx hb dX14_number_47 (by decide) ?_
          refine lv_isub hx hb dX14_number_49 ?_
          refine lv_istore (lv' := [(5, .int ((((10 : Int32) * v9_5) + u1008) - (48 : Int32))), (0, .ref v9_0), (1, .int v9_1), (2, .int v9_2), (3, .int v9_3), (4, .int v9_4)]) hx hb dX14_number_50 hl (by decide) rfl (fun ls hl => ?_)
          refine lv_aload_n hx hb dX14_number_52 rfl (lv_at hl 1 rfl) ?_
          refine lv_dup hx hb dX14_number_53 rfl ?_
          obtain ⟨x1009, ex1009, hf⟩ := gBind hf
          refine g_geti X hR gk_X14 2 (by decide) q974 rfl ex1009 dX14_number_54 ?_
          refine lv_iconst (v := (1 : Int32)) hx hb dX14_number_57 (by decide) ?_
          refine lv_iadd hx hb dX14_number_58 ?_
          obtain ⟨h1010, eh1010, hf⟩ := gBind hf
          refine g_put X hR hS gk_X14 2 (by decide) q974 rfl rfl eh1010 rfl rfl rfl dX14_number_59 (fun H locs hR hS => ?_)
          refine lv_goto (tgt := 9) hx hb dX14_number_62 (by decide) ?_
          exact ih h1010 v9_0 v9_1 v9_2 v9_3 v9_4 ((((10 : Int32) * v9_5) + u1008) - (48 : Int32)) _ _ _ _ hf hR hS (lv_sub hl [1, 2, 3, 4, 5, 0] rfl) K9
  obtain ⟨y4, ey4, hf⟩ := gBind hf
  refine L9_q2 F h a0 p1 p2 p3 x1 (0 : Int32) y4 _ _ _ ey4 hR hS (lv_sub hl [2, 3, 4, 5, 1, 0] rfl) (fun H locs ls hR hS hl => ?_)
  refine lv_aload_n hx hb dX14_number_65 rfl (lv_at hl 1 rfl) ?_
  obtain ⟨x5, ex5, hf⟩ := gBind hf
  refine g_geti X hR gk_X14 2 (by decide) q974 rfl ex5 dX14_number_66 ?_
  refine lv_iload hx hb dX14_number_69 (lv_at hl 4 rfl) ?_
  refine lv_icmp_ne (tgt := 86) hx hb dX14_number_71 (by decide) (fun c6 => ?_) (fun c6 => ?_)
  · replace hf := gIfn c6 hf
    refine lv_iload hx hb dX14_number_86 (lv_at hl 0 rfl) ?_
    refine lv_i2l (v := y4.1.toInt64) hx hb dX14_number_88 rfl ?_
    refine lv_iload_n hx hb dX14_number_89 rfl (lv_at hl 2 rfl) ?_
    refine lv_i2l (v := p2.toInt64) hx hb dX14_number_90 rfl ?_
    refine lv_iload_n hx hb dX14_number_91 rfl (lv_at hl 3 rfl) ?_
    refine lv_i2l (v := p3.toInt64) hx hb dX14_number_92 rfl ?_
    obtain ⟨u7, eu7, hf⟩ := gBind hf
    refine g_callSNi X hR hS [.long y4.1.toInt64, .long p2.toInt64, .long p3.toInt64] (m_X0_in l G F y4.2 n y4.1.toInt64 p2.toInt64 p3.toInt64 eu7) yk_X0_in q1031 rfl hl.1 ⟨Nat.le_of_ble_eq_true rfl, Nat.le_of_ble_eq_true rfl⟩ ⟨Nat.le_of_ble_eq_true rfl, Nat.le_of_ble_eq_true rfl⟩ rfl (Nat.le_of_ble_eq_true rfl) dX14_number_93 (fun H locs hR hS => ?_)
    refine lv_if_ne (tgt := 113) hx hb dX14_number_96 (by decide) (fun c8 => ?_) (fun c8 => ?_)
    · replace hf := gIfn c8 hf
      refine lv_iload hx hb dX14_number_113 (lv_at hl 0 rfl) ?_
      obtain ⟨rfl, rfl⟩ := gO2 hf
      exact g_iret X hR hS _ rfl ⟨Nat.le_of_ble_eq_true rfl, Nat.le_of_ble_eq_true rfl⟩ dX14_number_115
    · replace hf := gIfp c8 hf
      cases hf
  · replace hf := gIfp c6 hf
    cases hf

def sp_X14_clause_L70 (G : gG) (F : Nat) : Nat → gH → Nat → Nat → Option (gH)
  | 0, _, _, _ => none
  | f + 1, h70L, v70_0, v70_2 =>
    if gIs 12 h70L v70_0 = true then
    (sp_X14_here G F h70L v70_0).bind fun u7102 =>
    (sp_X0_in G F h70L u7102.toInt64 (97 : Int64) (104 : Int64)).bind fun u7103 =>
    if u7103 = 0 then
    some (h70L) else
    if gIs 12 h70L v70_0 = true then
    (sp_X14_cell G F h70L v70_0 v70_2).bind fun u7106 =>
    sp_X14_clause_L70 G F f u7106 v70_0 v70_2 else none else none
def sp_X14_clause (G : gG) (F : Nat) (h : gH) (a0 : Nat) : Option (gH) :=
 if gIs 12 h a0 = true then
 (sp_X14_here G F h a0).bind fun u2 =>
 (if 0 ≤ u2 then
 if gIs 12 h a0 = true then
 (sp_X14_here G F h a0).bind fun u5 =>
 (gTab 4 u5).bind fun x6 =>
 some (x6) else none else
 some ((-1 : Int32))).bind fun j7 =>
 if j7 = (-1 : Int32) then
 none else
 (gGi 12 h a0 2).bind fun x9 =>
 (gPv 12 h a0 2 (.int (x9 + (1 : Int32)))).bind fun h10 =>
 (gGr 12 h10 a0 0).bind fun x11 =>
 (gGi 12 h10 a0 1).bind fun x12 =>
 (gAr 5 h10 x11 x12).bind fun a13 =>
 (sp_X3_of G F h10 j7).bind fun u14 =>
 if gIs 2 h10 a13 = true then
 (sp_X2_begins G F h10 a13 u14).bind fun u16 =>
 if gIs 12 u16 a0 = true then
 (sp_X14_cell G F u16 a0 a13).bind fun u18 =>
 (sp_X14_clause_L70 G F F u18 a0 a13).bind fun y21 =>
 if gIs 12 y21 a0 = true then
 (sp_X14_is G F y21 a0 (42 : Int32)).bind fun u23 =>
 (if u23.1 = 0 then
 some (u23.2) else
 (gGr 2 u23.2 a13 3).bind fun x25 =>
 if gIs 12 u23.2 a0 = true then
 (sp_X14_number G F u23.2 a0 (2 : Int32) (1 : Int32) (20 : Int32)).bind fun u27 =>
 (gSi u27.2 x25 (0 : Int32) u27.1).bind fun h28 =>
 some (h28) else none).bind fun j29 =>
 if gIs 12 j29 a0 = true then
 (sp_X14_is G F j29 a0 (47 : Int32)).bind fun u31 =>
 (if u31.1 = 0 then
 some (u31.2) else
 (gGr 2 u31.2 a13 3).bind fun x33 =>
 if gIs 2 u31.2 a13 = true then
 (sp_X2_least G F u31.2 a13).bind fun u35 =>
 if gIs 12 u31.2 a0 = true then
 (sp_X14_number G F u31.2 a0 (2 : Int32) u35 (99 : Int32)).bind fun u37 =>
 (gSi u37.2 x33 (1 : Int32) u37.1).bind fun h38 =>
 some (h38) else none else none).bind fun j39 =>
 if gIs 12 j39 a0 = true then
 (sp_X14_is G F j39 a0 (126 : Int32)).bind fun u41 =>
 (if u41.1 = 0 then
 some (u41.2) else
 (gGr 2 u41.2 a13 3).bind fun x43 =>
 if gIs 12 u41.2 a0 = true then
 (sp_X14_number G F u41.2 a0 (1 : Int32) (1 : Int32) (9 : Int32)).bind fun u45 =>
 (gSi u45.2 x43 (2 : Int32) u45.1).bind fun h46 =>
 some (h46) else none).bind fun j47 =>
 if gIs 12 j47 a0 = true then
 (sp_X14_is G F j47 a0 (64 : Int32)).bind fun u49 =>
 (if u49.1 = 0 then
 some (u49.2) else
 (gGr 2 u49.2 a13 3).bind fun x51 =>
 if gIs 12 u49.2 a0 = true then
 (sp_X14_number G F u49.2 a0 (2 : Int32) (0 : Int32) (60 : Int32)).bind fun u53 =>
 (gSi u53.2 x51 (3 : Int32) u53.1).bind fun h54 =>
 some (h54) else none).bind fun j55 =>
 (gGi 12 j55 a0 1).bind fun x56 =>
 (gPv 12 j55 a0 1 (.int (x56 + (1 : Int32)))).bind fun h57 =>
 some (h57) else none else none else none else none else none else none else none
theorem yk_X14_clause : gVk yX14_clause cX14_clause 3 none 0 12 := ⟨q991, qs6, q125, q992, ⟨by decide +kernel, by decide +kernel, by decide +kernel⟩, rfl⟩
set_option maxHeartbeats 4000000 in
theorem m_X14_clause (l : Launch) (G : gG) (F : Nat) (h : gH) (n : Nat) (a0 : Nat) {h' : gH} (hf : sp_X14_clause G F h a0 = some h') : gMet l G yX14_clause cX14_clause 3 none 6 131 0 0 [.ref a0] h n none h' n := by
  refine gEnter (by decide) [(0, .ref a0)] rfl (Nat.le_of_ble_eq_true rfl) ?_
  intro p e s m below meth c H ls X hin hR hS hl
  have hx := X.1.1
  have hb := X.1.2.1
  unfold sp_X14_clause at hf
  generalize ([] : List Loc) = locs at hS ⊢
  refine lv_aload_n hx hb dX14_clause_0 rfl (lv_at hl 0 rfl) ?_
  obtain ⟨k1, hf⟩ := gChk hf
  obtain ⟨u2, eu2, hf⟩ := gBind hf
  refine g_callVi X hR hS [] (m_X14_here l G F h n a0 eu2) yk_X14_here q993 k1 rfl hl.1 ⟨Nat.le_of_ble_eq_true rfl, Nat.le_of_ble_eq_true rfl⟩ ⟨Nat.le_of_ble_eq_true rfl, Nat.le_of_ble_eq_true rfl⟩ rfl (Nat.le_of_ble_eq_true rfl) dX14_clause_1 (fun H locs hR hS => ?_)
  obtain ⟨j7, ej7, hf⟩ := gBind hf
  have J19_j7 : ∀ (H : Heap) (locs : List Loc) (ls : Array Slot), gRep G h n H → va_S (gFr G) s.heap H locs → lv_has ls 3 [(0, .ref a0)] → W p l e ({ frames := 6, cells := 0, slots := 0, locals := 131 } : Room) s m ([.ref a0] : List Value).toArray below meth c H locs 0 0 (MQ below (gQ G none h' n) ([.ref a0] : List Value).toArray s 0 0 (gFr G)) (F0 m 19 ls [.int j7]) := by
    intro H locs ls hR hS hl
    refine lv_istore_n (lv' := [(1, .int j7), (0, .ref a0)]) hx hb dX14_clause_19 rfl hl (by decide) rfl (fun ls hl => ?_)
    refine lv_iload_n hx hb dX14_clause_20 rfl (lv_at hl 0 rfl) ?_
    refine lv_iconst (v := (-1 : Int32)) hx hb dX14_clause_21 (by decide) ?_
    refine lv_icmp_ne (tgt := 37) hx hb dX14_clause_22 (by decide) (fun c8 => ?_) (fun c8 => ?_)
    · replace hf := gIfn c8 hf
      refine lv_aload_n hx hb dX14_clause_37 rfl (lv_at hl 1 rfl) ?_
      refine lv_dup hx hb dX14_clause_38 rfl ?_
      obtain ⟨x9, ex9, hf⟩ := gBind hf
      refine g_geti X hR gk_X14 2 (by decide) q974 rfl ex9 dX14_clause_39 ?_
      refine lv_iconst (v := (1 : Int32)) hx hb dX14_clause_42 (by decide) ?_
      refine lv_iadd hx hb dX14_clause_43 ?_
      obtain ⟨h10, eh10, hf⟩ := gBind hf
      refine g_put X hR hS gk_X14 2 (by decide) q974 rfl rfl eh10 rfl rfl rfl dX14_clause_44 (fun H locs hR hS => ?_)
      refine lv_aload_n hx hb dX14_clause_47 rfl (lv_at hl 1 rfl) ?_
      obtain ⟨x11, ex11, hf⟩ := gBind hf
      refine g_getr X hR gk_X14 0 (by decide) q970 rfl ex11 dX14_clause_48 ?_
      refine lv_aload_n hx hb dX14_clause_51 rfl (lv_at hl 1 rfl) ?_
      obtain ⟨x12, ex12, hf⟩ := gBind hf
      refine g_geti X hR gk_X14 1 (by decide) q972 rfl ex12 dX14_clause_52 ?_
      obtain ⟨a13, ea13, hf⟩ := gBind hf
      refine g_aald X hR 5 (by decide) rfl ea13 dX14_clause_55 ?_
      refine lv_astore_n (lv' := [(2, .ref a13), (1, .int j7), (0, .ref a0)]) hx hb dX14_clause_56 rfl hl (by decide) rfl (fun ls hl => ?_)
      refine lv_aload_n hx hb dX14_clause_57 rfl (lv_at hl 0 rfl) ?_
      refine lv_iload_n hx hb dX14_clause_58 rfl (lv_at hl 1 rfl) ?_
      obtain ⟨u14, eu14, hf⟩ := gBind hf
      refine g_callSr X hR hS [.int j7] (m_X3_of l G F h10 n j7 eu14) yk_X3_of q1023 rfl hl.1 ⟨Nat.le_of_ble_eq_true rfl, Nat.le_of_ble_eq_true rfl⟩ ⟨Nat.le_of_ble_eq_true rfl, Nat.le_of_ble_eq_true rfl⟩ rfl (Nat.le_of_ble_eq_true rfl) dX14_clause_59 (fun H locs hR hS => ?_)
      obtain ⟨k15, hf⟩ := gChk hf
      obtain ⟨u16, eu16, hf⟩ := gBind hf
      refine g_callVv X hR hS [.ref u14] (m_X2_begins l G F h10 n a13 u14 eu16) yk_X2_begins q1024 k15 rfl hl.1 ⟨Nat.le_of_ble_eq_true rfl, Nat.le_of_ble_eq_true rfl⟩ ⟨Nat.le_of_ble_eq_true rfl, Nat.le_of_ble_eq_true rfl⟩ rfl (Nat.le_of_ble_eq_true rfl) dX14_clause_62 (fun H locs hR hS => ?_)
      refine lv_aload_n hx hb dX14_clause_65 rfl (lv_at hl 2 rfl) ?_
      refine lv_aload_n hx hb dX14_clause_66 rfl (lv_at hl 0 rfl) ?_
      obtain ⟨k17, hf⟩ := gChk hf
      obtain ⟨u18, eu18, hf⟩ := gBind hf
      refine g_callVv X hR hS [.ref a13] (m_X14_cell l G F u16 n a0 a13 eu18) yk_X14_cell q1025 k17 rfl hl.1 ⟨Nat.le_of_ble_eq_true rfl, Nat.le_of_ble_eq_true rfl⟩ ⟨Nat.le_of_ble_eq_true rfl, Nat.le_of_ble_eq_true rfl⟩ rfl (Nat.le_of_ble_eq_true rfl) dX14_clause_67 (fun H locs hR hS => ?_)
      have L70_q19 : ∀ (f : Nat) (h70L : gH) (v70_0 : Nat) (v70_2 : Nat) (o20 : gH) (H : Heap) (locs : List Loc) (ls : Array Slot), sp_X14_clause_L70 G F f h70L v70_0 v70_2 = some o20 → gRep G h70L n H → va_S (gFr G) s.heap H locs → lv_has ls 3 [(0, .ref v70_0), (2, .ref v70_2)] → (∀ (H : Heap) (locs : List Loc) (ls : Array Slot), gRep G o20 n H → va_S (gFr G) s.heap H locs → lv_has ls 3 [(0, .ref v70_0), (2, .ref v70_2)] → W p l e ({ frames := 6, cells := 0, slots := 0, locals := 131 } : Room) s m ([.ref a0] : List Value).toArray below meth c H locs 0 0 (MQ below (gQ G none h' n) ([.ref a0] : List Value).toArray s 0 0 (gFr G)) (F0 m 95 ls [])) → W p l e ({ frames := 6, cells := 0, slots := 0, locals := 131 } : Room) s m ([.ref a0] : List Value).toArray below meth c H locs 0 0 (MQ below (gQ G none h' n) ([.ref a0] : List Value).toArray s 0 0 (gFr G)) (F0 m 70 ls []) := by
        clear hf
        intro f
        induction f with
        | zero =>
          intro h70L v70_0 v70_2 o20 H locs ls hf
          cases hf
        | succ f ih =>
          intro h70L v70_0 v70_2 o20 H locs ls hf hR hS hl K70
          rw [sp_X14_clause_L70] at hf
          refine lv_aload_n hx hb dX14_clause_70 rfl (lv_at hl 0 rfl) ?_
          obtain ⟨k7101, hf⟩ := gChk hf
          obtain ⟨u7102, eu7102, hf⟩ := gBind hf
          refine g_callVi X hR hS [] (m_X14_here l G F h70L n v70_0 eu7102) yk_X14_here q993 k7101 rfl hl.1 ⟨Nat.le_of_ble_eq_true rfl, Nat.le_of_ble_eq_true rfl⟩ ⟨Nat.le_of_ble_eq_true rfl, Nat.le_of_ble_eq_true rfl⟩ rfl (Nat.le_of_ble_eq_true rfl) dX14_clause_71 (fun H locs hR hS => ?_)
          refine lv_i2l (v := u7102.toInt64) hx hb dX14_clause_74 rfl ?_
          refine lv_ldc2 (v := (97 : Int64)) hx hb X.1.2.2.2.1 (X.1.2.2.2.2 _ q1029) dX14_clause_75 ?_
          refine lv_ldc2 (v := (104 : Int64)) hx hb X.1.2.2.2.1 (X.1.2.2.2.2 _ q1030) dX14_clause_78 ?_
          obtain ⟨u7103, eu7103, hf⟩ := gBind hf
          refine g_callSNi X hR hS [.long u7102.toInt64, .long (97 : Int64), .long (104 : Int64)] (m_X0_in l G F h70L n u7102.toInt64 (97 : Int64) (104 : Int64) eu7103) yk_X0_in q1031 rfl hl.1 ⟨Nat.le_of_ble_eq_true rfl, Nat.le_of_ble_eq_true rfl⟩ ⟨Nat.le_of_ble_eq_true rfl, Nat.le_of_ble_eq_true rfl⟩ rfl (Nat.le_of_ble_eq_true rfl) dX14_clause_81 (fun H locs hR hS => ?_)
          refine lv_if_eq (tgt := 95) hx hb dX14_clause_84 (by decide) (fun c7104 => ?_) (fun c7104 => ?_)
          · replace hf := gIfp c7104 hf
            obtain rfl := gO1 hf
            exact K70 _ _ _ hR hS (lv_sub hl [0, 1] rfl)
          · replace hf := gIfn c7104 hf
            refine lv_aload_n hx hb dX14_clause_87 rfl (lv_at hl 0 rfl) ?_
            refine lv_aload_n hx hb dX14_clause_88 rfl (lv_at hl 1 rfl) ?_
            obtain ⟨k7105, hf⟩ := gChk hf
            obtain ⟨u7106, eu7106, hf⟩ := gBind hf
            refine g_callVv X hR hS [.ref v70_2] (m_X14_cell l G F h70L n v70_0 v70_2 eu7106) yk_X14_cell q1025 k7105 rfl hl.1 ⟨Nat.le_of_ble_eq_true rfl, Nat.le_of_ble_eq_true rfl⟩ ⟨Nat.le_of_ble_eq_true rfl, Nat.le_of_ble_eq_true rfl⟩ rfl (Nat.le_of_ble_eq_true rfl) dX14_clause_89 (fun H locs hR hS => ?_)
            refine lv_goto (tgt := 70) hx hb dX14_clause_92 (by decide) ?_
            exact ih u7106 v70_0 v70_2 _ _ _ _ hf hR hS (lv_sub hl [0, 1] rfl) K70
      obtain ⟨y21, ey21, hf⟩ := gBind hf
      refine L70_q19 F u18 a0 a13 y21 _ _ _ ey21 hR hS (lv_sub hl [2, 0] rfl) (fun H locs ls hR hS hl => ?_)
      refine lv_aload_n hx hb dX14_clause_95 rfl (lv_at hl 0 rfl) ?_
      refine lv_bipush (v := (42 : Int32)) hx hb dX14_clause_96 (by decide) ?_
      obtain ⟨k22, hf⟩ := gChk hf
      obtain ⟨u23, eu23, hf⟩ := gBind hf
      refine g_callVi X hR hS [.int (42 : Int32)] (m_X14_is l G F y21 n a0 (42 : Int32) eu23) yk_X14_is q1036 k22 rfl hl.1 ⟨Nat.le_of_ble_eq_true rfl, Nat.le_of_ble_eq_true rfl⟩ ⟨Nat.le_of_ble_eq_true rfl, Nat.le_of_ble_eq_true rfl⟩ rfl (Nat.le_of_ble_eq_true rfl) dX14_clause_98 (fun H locs hR hS => ?_)
      obtain ⟨j29, ej29, hf⟩ := gBind hf
      have J118_j29 : ∀ (H : Heap) (locs : List Loc) (ls : Array Slot), gRep G j29 n H → va_S (gFr G) s.heap H locs → lv_has ls 3 [(0, .ref a0), (2, .ref a13)] → W p l e ({ frames := 6, cells := 0, slots := 0, locals := 131 } : Room) s m ([.ref a0] : List Value).toArray below meth c H locs 0 0 (MQ below (gQ G none h' n) ([.ref a0] : List Value).toArray s 0 0 (gFr G)) (F0 m 118 ls []) := by
        intro H locs ls hR hS hl
        refine lv_aload_n hx hb dX14_clause_118 rfl (lv_at hl 0 rfl) ?_
        refine lv_bipush (v := (47 : Int32)) hx hb dX14_clause_119 (by decide) ?_
        obtain ⟨k30, hf⟩ := gChk hf
        obtain ⟨u31, eu31, hf⟩ := gBind hf
        refine g_callVi X hR hS [.int (47 : Int32)] (m_X14_is l G F j29 n a0 (47 : Int32) eu31) yk_X14_is q1036 k30 rfl hl.1 ⟨Nat.le_of_ble_eq_true rfl, Nat.le_of_ble_eq_true rfl⟩ ⟨Nat.le_of_ble_eq_true rfl, Nat.le_of_ble_eq_true rfl⟩ rfl (Nat.le_of_ble_eq_true rfl) dX14_clause_121 (fun H locs hR hS => ?_)
        obtain ⟨j39, ej39, hf⟩ := gBind hf
        have J144_j39 : ∀ (H : Heap) (locs : List Loc) (ls : Array Slot), gRep G j39 n H → va_S (gFr G) s.heap H locs → lv_has ls 3 [(0, .ref a0), (2, .ref a13)] → W p l e ({ frames := 6, cells := 0, slots := 0, locals := 131 } : Room) s m ([.ref a0] : List Value).toArray below meth c H locs 0 0 (MQ below (gQ G none h' n) ([.ref a0] : List Value).toArray s 0 0 (gFr G)) (F0 m 144 ls []) := by
          intro H locs ls hR hS hl
          refine lv_aload_n hx hb dX14_clause_144 rfl (lv_at hl 0 rfl) ?_
          refine lv_bipush (v := (126 : Int32)) hx hb dX14_clause_145 (by decide) ?_
          obtain ⟨k40, hf⟩ := gChk hf
          obtain ⟨u41, eu41, hf⟩ := gBind hf
          refine g_callVi X hR hS [.int (126 : Int32)] (m_X14_is l G F j39 n a0 (126 : Int32) eu41) yk_X14_is q1036 k40 rfl hl.1 ⟨Nat.le_of_ble_eq_true rfl, Nat.le_of_ble_eq_true rfl⟩ ⟨Nat.le_of_ble_eq_true rfl, Nat.le_of_ble_eq_true rfl⟩ rfl (Nat.le_of_ble_eq_true rfl) dX14_clause_147 (fun H locs hR hS => ?_)
          obtain ⟨j47, ej47, hf⟩ := gBind hf
          have J167_j47 : ∀ (H : Heap) (locs : List Loc) (ls : Array Slot), gRep G j47 n H → va_S (gFr G) s.heap H locs → lv_has ls 3 [(0, .ref a0), (2, .ref a13)] → W p l e ({ frames := 6, cells := 0, slots := 0, locals := 131 } : Room) s m ([.ref a0] : List Value).toArray below meth c H locs 0 0 (MQ below (gQ G none h' n) ([.ref a0] : List Value).toArray s 0 0 (gFr G)) (F0 m 167 ls []) := by
            intro H locs ls hR hS hl
            refine lv_aload_n hx hb dX14_clause_167 rfl (lv_at hl 0 rfl) ?_
            refine lv_bipush (v := (64 : Int32)) hx hb dX14_clause_168 (by decide) ?_
            obtain ⟨k48, hf⟩ := gChk hf
            obtain ⟨u49, eu49, hf⟩ := gBind hf
            refine g_callVi X hR hS [.int (64 : Int32)] (m_X14_is l G F j47 n a0 (64 : Int32) eu49) yk_X14_is q1036 k48 rfl hl.1 ⟨Nat.le_of_ble_eq_true rfl, Nat.le_of_ble_eq_true rfl⟩ ⟨Nat.le_of_ble_eq_true rfl, Nat.le_of_ble_eq_true rfl⟩ rfl (Nat.le_of_ble_eq_true rfl) dX14_clause_170 (fun H locs hR hS => ?_)
            obtain ⟨j55, ej55, hf⟩ := gBind hf
            have J190_j55 : ∀ (H : Heap) (locs : List Loc) (ls : Array Slot), gRep G j55 n H → va_S (gFr G) s.heap H locs → lv_has ls 3 [(0, .ref a0)] → W p l e ({ frames := 6, cells := 0, slots := 0, locals := 131 } : Room) s m ([.ref a0] : List Value).toArray below meth c H locs 0 0 (MQ below (gQ G none h' n) ([.ref a0] : List Value).toArray s 0 0 (gFr G)) (F0 m 190 ls []) := by
              intro H locs ls hR hS hl
              refine lv_aload_n hx hb dX14_clause_190 rfl (lv_at hl 0 rfl) ?_
              refine lv_dup hx hb dX14_clause_191 rfl ?_
              obtain ⟨x56, ex56, hf⟩ := gBind hf
              refine g_geti X hR gk_X14 1 (by decide) q972 rfl ex56 dX14_clause_192 ?_
              refine lv_iconst (v := (1 : Int32)) hx hb dX14_clause_195 (by decide) ?_
              refine lv_iadd hx hb dX14_clause_196 ?_
              obtain ⟨h57, eh57, hf⟩ := gBind hf
              refine g_put X hR hS gk_X14 1 (by decide) q972 rfl rfl eh57 rfl rfl rfl dX14_clause_197 (fun H locs hR hS => ?_)
              obtain rfl := gO1 hf
              exact g_vret X hR hS rfl ⟨Nat.le_of_ble_eq_true rfl, Nat.le_of_ble_eq_true rfl⟩ dX14_clause_200
            replace hf := ej55
            clear ej55
            refine lv_if_eq (tgt := 190) hx hb dX14_clause_173 (by decide) (fun c50 => ?_) (fun c50 => ?_)
            · replace hf := gIfp c50 hf
              obtain rfl := gO1 hf
              exact J190_j55 _ _ _ hR hS (lv_sub hl [0] rfl)
            · replace hf := gIfn c50 hf
              refine lv_aload_n hx hb dX14_clause_176 rfl (lv_at hl 1 rfl) ?_
              obtain ⟨x51, ex51, hf⟩ := gBind hf
              refine g_getrN X hR gk_X2 3 (by decide) q519 rfl ex51 dX14_clause_177 ?_
              refine lv_iconst (v := (3 : Int32)) hx hb dX14_clause_180 (by decide) ?_
              refine lv_aload_n hx hb dX14_clause_181 rfl (lv_at hl 0 rfl) ?_
              refine lv_iconst (v := (2 : Int32)) hx hb dX14_clause_182 (by decide) ?_
              refine lv_iconst (v := (0 : Int32)) hx hb dX14_clause_183 (by decide) ?_
              refine lv_bipush (v := (60 : Int32)) hx hb dX14_clause_184 (by decide) ?_
              obtain ⟨k52, hf⟩ := gChk hf
              obtain ⟨u53, eu53, hf⟩ := gBind hf
              refine g_callVi X hR hS [.int (2 : Int32), .int (0 : Int32), .int (60 : Int32)] (m_X14_number l G F u49.2 n a0 (2 : Int32) (0 : Int32) (60 : Int32) eu53) yk_X14_number q1040 k52 rfl hl.1 ⟨Nat.le_of_ble_eq_true rfl, Nat.le_of_ble_eq_true rfl⟩ ⟨Nat.le_of_ble_eq_true rfl, Nat.le_of_ble_eq_true rfl⟩ rfl (Nat.le_of_ble_eq_true rfl) dX14_clause_186 (fun H locs hR hS => ?_)
              obtain ⟨h54, eh54, hf⟩ := gBind hf
              refine g_iast X hR hS eh54 dX14_clause_189 (fun H locs hR hS => ?_)
              obtain rfl := gO1 hf
              exact J190_j55 _ _ _ hR hS (lv_sub hl [0] rfl)
          replace hf := ej47
          clear ej47
          refine lv_if_eq (tgt := 167) hx hb dX14_clause_150 (by decide) (fun c42 => ?_) (fun c42 => ?_)
          · replace hf := gIfp c42 hf
            obtain rfl := gO1 hf
            exact J167_j47 _ _ _ hR hS (lv_sub hl [0, 1] rfl)
          · replace hf := gIfn c42 hf
            refine lv_aload_n hx hb dX14_clause_153 rfl (lv_at hl 1 rfl) ?_
            obtain ⟨x43, ex43, hf⟩ := gBind hf
            refine g_getrN X hR gk_X2 3 (by decide) q519 rfl ex43 dX14_clause_154 ?_
            refine lv_iconst (v := (2 : Int32)) hx hb dX14_clause_157 (by decide) ?_
            refine lv_aload_n hx hb dX14_clause_158 rfl (lv_at hl 0 rfl) ?_
            refine lv_iconst (v := (1 : Int32)) hx hb dX14_clause_159 (by decide) ?_
            refine lv_iconst (v := (1 : Int32)) hx hb dX14_clause_160 (by decide) ?_
            refine lv_bipush (v := (9 : Int32)) hx hb dX14_clause_161 (by decide) ?_
            obtain ⟨k44, hf⟩ := gChk hf
            obtain ⟨u45, eu45, hf⟩ := gBind hf
            refine g_callVi X hR hS [.int (1 : Int32), .int (1 : Int32), .int (9 : Int32)] (m_X14_number l G F u41.2 n a0 (1 : Int32) (1 : Int32) (9 : Int32) eu45) yk_X14_number q1040 k44 rfl hl.1 ⟨Nat.le_of_ble_eq_true rfl, Nat.le_of_ble_eq_true rfl⟩ ⟨Nat.le_of_ble_eq_true rfl, Nat.le_of_ble_eq_true rfl⟩ rfl (Nat.le_of_ble_eq_true rfl) dX14_clause_163 (fun H locs hR hS => ?_)
            obtain ⟨h46, eh46, hf⟩ := gBind hf
            refine g_iast X hR hS eh46 dX14_clause_166 (fun H locs hR hS => ?_)
            obtain rfl := gO1 hf
            exact J167_j47 _ _ _ hR hS (lv_sub hl [0, 1] rfl)
        replace hf := ej39
        clear ej39
        refine lv_if_eq (tgt := 144) hx hb dX14_clause_124 (by decide) (fun c32 => ?_) (fun c32 => ?_)
        · replace hf := gIfp c32 hf
          obtain rfl := gO1 hf
          exact J144_j39 _ _ _ hR hS (lv_sub hl [0, 1] rfl)
        · replace hf := gIfn c32 hf
          refine lv_aload_n hx hb dX14_clause_127 rfl (lv_at hl 1 rfl) ?_
          obtain ⟨x33, ex33, hf⟩ := gBind hf
          refine g_getrN X hR gk_X2 3 (by decide) q519 rfl ex33 dX14_clause_128 ?_
          refine lv_iconst (v := (1 : Int32)) hx hb dX14_clause_131 (by decide) ?_
          refine lv_aload_n hx hb dX14_clause_132 rfl (lv_at hl 0 rfl) ?_
          refine lv_iconst (v := (2 : Int32)) hx hb dX14_clause_133 (by decide) ?_
          refine lv_aload_n hx hb dX14_clause_134 rfl (lv_at hl 1 rfl) ?_
          obtain ⟨k34, hf⟩ := gChk hf
          obtain ⟨u35, eu35, hf⟩ := gBind hf
          refine g_callVi X hR hS [] (m_X2_least l G F u31.2 n a13 eu35) yk_X2_least q1046 k34 rfl hl.1 ⟨Nat.le_of_ble_eq_true rfl, Nat.le_of_ble_eq_true rfl⟩ ⟨Nat.le_of_ble_eq_true rfl, Nat.le_of_ble_eq_true rfl⟩ rfl (Nat.le_of_ble_eq_true rfl) dX14_clause_135 (fun H locs hR hS => ?_)
          refine lv_bipush (v := (99 : Int32)) hx hb dX14_clause_138 (by decide) ?_
          obtain ⟨k36, hf⟩ := gChk hf
          obtain ⟨u37, eu37, hf⟩ := gBind hf
          refine g_callVi X hR hS [.int (2 : Int32), .int u35, .int (99 : Int32)] (m_X14_number l G F u31.2 n a0 (2 : Int32) u35 (99 : Int32) eu37) yk_X14_number q1040 k36 rfl hl.1 ⟨Nat.le_of_ble_eq_true rfl, Nat.le_of_ble_eq_true rfl⟩ ⟨Nat.le_of_ble_eq_true rfl, Nat.le_of_ble_eq_true rfl⟩ rfl (Nat.le_of_ble_eq_true rfl) dX14_clause_140 (fun H locs hR hS => ?_)
          obtain ⟨h38, eh38, hf⟩ := gBind hf
          refine g_iast X hR hS eh38 dX14_clause_143 (fun H locs hR hS => ?_)
          obtain rfl := gO1 hf
          exact J144_j39 _ _ _ hR hS (lv_sub hl [0, 1] rfl)
      replace hf := ej29
      clear ej29
      refine lv_if_eq (tgt := 118) hx hb dX14_clause_101 (by decide) (fun c24 => ?_) (fun c24 => ?_)
      · replace hf := gIfp c24 hf
        obtain rfl := gO1 hf
        exact J118_j29 _ _ _ hR hS (lv_sub hl [0, 1] rfl)
      · replace hf := gIfn c24 hf
        refine lv_aload_n hx hb dX14_clause_104 rfl (lv_at hl 1 rfl) ?_
        obtain ⟨x25, ex25, hf⟩ := gBind hf
        refine g_getrN X hR gk_X2 3 (by decide) q519 rfl ex25 dX14_clause_105 ?_
        refine lv_iconst (v := (0 : Int32)) hx hb dX14_clause_108 (by decide) ?_
        refine lv_aload_n hx hb dX14_clause_109 rfl (lv_at hl 0 rfl) ?_
        refine lv_iconst (v := (2 : Int32)) hx hb dX14_clause_110 (by decide) ?_
        refine lv_iconst (v := (1 : Int32)) hx hb dX14_clause_111 (by decide) ?_
        refine lv_bipush (v := (20 : Int32)) hx hb dX14_clause_112 (by decide) ?_
        obtain ⟨k26, hf⟩ := gChk hf
        obtain ⟨u27, eu27, hf⟩ := gBind hf
        refine g_callVi X hR hS [.int (2 : Int32), .int (1 : Int32), .int (20 : Int32)] (m_X14_number l G F u23.2 n a0 (2 : Int32) (1 : Int32) (20 : Int32) eu27) yk_X14_number q1040 k26 rfl hl.1 ⟨Nat.le_of_ble_eq_true rfl, Nat.le_of_ble_eq_true rfl⟩ ⟨Nat.le_of_ble_eq_true rfl, Nat.le_of_ble_eq_true rfl⟩ rfl (Nat.le_of_ble_eq_true rfl) dX14_clause_114 (fun H locs hR hS => ?_)
        obtain ⟨h28, eh28, hf⟩ := gBind hf
        refine g_iast X hR hS eh28 dX14_clause_117 (fun H locs hR hS => ?_)
        obtain rfl := gO1 hf
        exact J118_j29 _ _ _ hR hS (lv_sub hl [0, 1] rfl)
    · replace hf := gIfp c8 hf
      cases hf
  replace hf := ej7
  clear ej7
  refine lv_if_ge (tgt := 11) hx hb dX14_clause_4 (by decide) (fun c3 => ?_) (fun c3 => ?_)
  · replace hf := gIfp c3 hf
    refine g_stab4 X hS q997 dX14_clause_11 ?_
    refine lv_aload_n hx hb dX14_clause_14 rfl (lv_at hl 0 rfl) ?_
    obtain ⟨k4, hf⟩ := gChk hf
    obtain ⟨u5, eu5, hf⟩ := gBind hf
    refine g_callVi X hR hS [] (m_X14_here l G F h n a0 eu5) yk_X14_here q993 k4 rfl hl.1 ⟨Nat.le_of_ble_eq_true rfl, Nat.le_of_ble_eq_true rfl⟩ ⟨Nat.le_of_ble_eq_true rfl, Nat.le_of_ble_eq_true rfl⟩ rfl (Nat.le_of_ble_eq_true rfl) dX14_clause_15 (fun H locs hR hS => ?_)
    obtain ⟨x6, ex6, hf⟩ := gBind hf
    refine g_tab4 X hS ex6 dX14_clause_18 ?_
    obtain rfl := gO1 hf
    exact J19_j7 _ _ _ hR hS (lv_sub hl [0] rfl)
  · replace hf := gIfn c3 hf
    refine lv_iconst (v := (-1 : Int32)) hx hb dX14_clause_7 (by decide) ?_
    refine lv_goto (tgt := 19) hx hb dX14_clause_8 (by decide) ?_
    obtain rfl := gO1 hf
    exact J19_j7 _ _ _ hR hS (lv_sub hl [0] rfl)

def sp_X14_reads_L4 (G : gG) (F : Nat) : Nat → gH → Nat → Option (gH)
  | 0, _, _ => none
  | f + 1, h4L, v4_0 =>
    (gGi 12 h4L v4_0 2).bind fun x501 =>
    (gGr 12 h4L v4_0 3).bind fun x502 =>
    (gGi 0 h4L x502 5).bind fun x503 =>
    if x503 ≤ x501 then
    some (h4L) else
    if gIs 12 h4L v4_0 = true then
    (sp_X14_here G F h4L v4_0).bind fun u506 =>
    if u506 = (59 : Int32) then
    (gGi 12 h4L v4_0 1).bind fun x508 =>
    if x508 = (4 : Int32) then
    none else
    (gGi 12 h4L v4_0 2).bind fun x510 =>
    (gPv 12 h4L v4_0 2 (.int (x510 + (1 : Int32)))).bind fun h511 =>
    if gIs 12 h511 v4_0 = true then
    (sp_X14_clause G F h511 v4_0).bind fun u513 =>
    sp_X14_reads_L4 G F f u513 v4_0 else none else
    none else none
def sp_X14_reads (G : gG) (F : Nat) (h : gH) (a0 : Nat) : Option (gH) :=
 if gIs 12 h a0 = true then
 (sp_X14_clause G F h a0).bind fun u2 =>
 (sp_X14_reads_L4 G F F u2 a0).bind fun y5 =>
 some (y5) else none
theorem yk_X14_reads : gVk yX14_reads cX14_reads 1 none 0 12 := ⟨q986, q987, q125, q988, ⟨by decide +kernel, by decide +kernel, by decide +kernel⟩, rfl⟩
set_option maxHeartbeats 4000000 in
theorem m_X14_reads (l : Launch) (G : gG) (F : Nat) (h : gH) (n : Nat) (a0 : Nat) {h' : gH} (hf : sp_X14_reads G F h a0 = some h') : gMet l G yX14_reads cX14_reads 1 none 7 153 0 0 [.ref a0] h n none h' n := by
  refine gEnter (by decide) [(0, .ref a0)] rfl (Nat.le_of_ble_eq_true rfl) ?_
  intro p e s m below meth c H ls X hin hR hS hl
  have hx := X.1.1
  have hb := X.1.2.1
  unfold sp_X14_reads at hf
  generalize ([] : List Loc) = locs at hS ⊢
  refine lv_aload_n hx hb dX14_reads_0 rfl (lv_at hl 0 rfl) ?_
  obtain ⟨k1, hf⟩ := gChk hf
  obtain ⟨u2, eu2, hf⟩ := gBind hf
  refine g_callVv X hR hS [] (m_X14_clause l G F h n a0 eu2) yk_X14_clause q989 k1 rfl hl.1 ⟨Nat.le_of_ble_eq_true rfl, Nat.le_of_ble_eq_true rfl⟩ ⟨Nat.le_of_ble_eq_true rfl, Nat.le_of_ble_eq_true rfl⟩ rfl (Nat.le_of_ble_eq_true rfl) dX14_reads_1 (fun H locs hR hS => ?_)
  have L4_q3 : ∀ (f : Nat) (h4L : gH) (v4_0 : Nat) (o4 : gH) (H : Heap) (locs : List Loc) (ls : Array Slot), sp_X14_reads_L4 G F f h4L v4_0 = some o4 → gRep G h4L n H → va_S (gFr G) s.heap H locs → lv_has ls 1 [(0, .ref v4_0)] → (∀ (H : Heap) (locs : List Loc) (ls : Array Slot), gRep G o4 n H → va_S (gFr G) s.heap H locs → lv_has ls 1 [] → W p l e ({ frames := 7, cells := 0, slots := 0, locals := 153 } : Room) s m ([.ref a0] : List Value).toArray below meth c H locs 0 0 (MQ below (gQ G none h' n) ([.ref a0] : List Value).toArray s 0 0 (gFr G)) (F0 m 64 ls [])) → W p l e ({ frames := 7, cells := 0, slots := 0, locals := 153 } : Room) s m ([.ref a0] : List Value).toArray below meth c H locs 0 0 (MQ below (gQ G none h' n) ([.ref a0] : List Value).toArray s 0 0 (gFr G)) (F0 m 4 ls []) := by
    clear hf
    intro f
    induction f with
    | zero =>
      intro h4L v4_0 o4 H locs ls hf
      cases hf
    | succ f ih =>
      intro h4L v4_0 o4 H locs ls hf hR hS hl K4
      rw [sp_X14_reads_L4] at hf
      refine lv_aload_n hx hb dX14_reads_4 rfl (lv_at hl 0 rfl) ?_
      obtain ⟨x501, ex501, hf⟩ := gBind hf
      refine g_geti X hR gk_X14 2 (by decide) q974 rfl ex501 dX14_reads_5 ?_
      refine lv_aload_n hx hb dX14_reads_8 rfl (lv_at hl 0 rfl) ?_
      obtain ⟨x502, ex502, hf⟩ := gBind hf
      refine g_getr X hR gk_X14 3 (by decide) q975 rfl ex502 dX14_reads_9 ?_
      obtain ⟨x503, ex503, hf⟩ := gBind hf
      refine g_getiN X hR gk_X0 5 (by decide) q798 rfl ex503 dX14_reads_12 ?_
      refine lv_icmp_ge (tgt := 64) hx hb dX14_reads_15 (by decide) (fun c504 => ?_) (fun c504 => ?_)
      · replace hf := gIfp c504 hf
        obtain rfl := gO1 hf
        exact K4 _ _ _ hR hS (lv_sub hl [] rfl)
      · replace hf := gIfn c504 hf
        refine lv_aload_n hx hb dX14_reads_18 rfl (lv_at hl 0 rfl) ?_
        obtain ⟨k505, hf⟩ := gChk hf
        obtain ⟨u506, eu506, hf⟩ := gBind hf
        refine g_callVi X hR hS [] (m_X14_here l G F h4L n v4_0 eu506) yk_X14_here q993 k505 rfl hl.1 ⟨Nat.le_of_ble_eq_true rfl, Nat.le_of_ble_eq_true rfl⟩ ⟨Nat.le_of_ble_eq_true rfl, Nat.le_of_ble_eq_true rfl⟩ rfl (Nat.le_of_ble_eq_true rfl) dX14_reads_19 (fun H locs hR hS => ?_)
        refine lv_bipush (v := (59 : Int32)) hx hb dX14_reads_22 (by decide) ?_
        refine lv_icmp_ne (tgt := 35) hx hb dX14_reads_24 (by decide) (fun c507 => ?_) (fun c507 => ?_)
        · replace hf := gIfn c507 hf
          cases hf
        · replace hf := gIfp c507 hf
          refine lv_aload_n hx hb dX14_reads_27 rfl (lv_at hl 0 rfl) ?_
          obtain ⟨x508, ex508, hf⟩ := gBind hf
          refine g_geti X hR gk_X14 1 (by decide) q972 rfl ex508 dX14_reads_28 ?_
          refine lv_iconst (v := (4 : Int32)) hx hb dX14_reads_31 (by decide) ?_
          refine lv_icmp_ne (tgt := 47) hx hb dX14_reads_32 (by decide) (fun c509 => ?_) (fun c509 => ?_)
          · replace hf := gIfn c509 hf
            refine lv_aload_n hx hb dX14_reads_47 rfl (lv_at hl 0 rfl) ?_
            refine lv_dup hx hb dX14_reads_48 rfl ?_
            obtain ⟨x510, ex510, hf⟩ := gBind hf
            refine g_geti X hR gk_X14 2 (by decide) q974 rfl ex510 dX14_reads_49 ?_
            refine lv_iconst (v := (1 : Int32)) hx hb dX14_reads_52 (by decide) ?_
            refine lv_iadd hx hb dX14_reads_53 ?_
            obtain ⟨h511, eh511, hf⟩ := gBind hf
            refine g_put X hR hS gk_X14 2 (by decide) q974 rfl rfl eh511 rfl rfl rfl dX14_reads_54 (fun H locs hR hS => ?_)
            refine lv_aload_n hx hb dX14_reads_57 rfl (lv_at hl 0 rfl) ?_
            obtain ⟨k512, hf⟩ := gChk hf
            obtain ⟨u513, eu513, hf⟩ := gBind hf
            refine g_callVv X hR hS [] (m_X14_clause l G F h511 n v4_0 eu513) yk_X14_clause q989 k512 rfl hl.1 ⟨Nat.le_of_ble_eq_true rfl, Nat.le_of_ble_eq_true rfl⟩ ⟨Nat.le_of_ble_eq_true rfl, Nat.le_of_ble_eq_true rfl⟩ rfl (Nat.le_of_ble_eq_true rfl) dX14_reads_58 (fun H locs hR hS => ?_)
            refine lv_goto (tgt := 4) hx hb dX14_reads_61 (by decide) ?_
            exact ih u513 v4_0 _ _ _ _ hf hR hS (lv_sub hl [0] rfl) K4
          · replace hf := gIfp c509 hf
            cases hf
  obtain ⟨y5, ey5, hf⟩ := gBind hf
  refine L4_q3 F u2 a0 y5 _ _ _ ey5 hR hS (lv_sub hl [0] rfl) (fun H locs ls hR hS hl => ?_)
  obtain rfl := gO1 hf
  exact g_vret X hR hS rfl ⟨Nat.le_of_ble_eq_true rfl, Nat.le_of_ble_eq_true rfl⟩ dX14_reads_64

def sp_X7_init (G : gG) (F : Nat) (h : gH) (a0 : Nat) (p1 : Int32) : Option (gH) :=
 (gPa h a0 (.int p1)).bind fun h1 =>
 some (h1)
theorem yk_X7_init : gIk yX7_init cX7_init 2 1 := ⟨q755, rfl, q117, q756, ⟨by decide +kernel, by decide +kernel, by decide +kernel⟩⟩
set_option maxHeartbeats 4000000 in
theorem m_X7_init (l : Launch) (G : gG) (F : Nat) (h : gH) (n : Nat) (a0 : Nat) (p1 : Int32) {h' : gH} (hf : sp_X7_init G F h a0 p1 = some h') : gMet l G yX7_init cX7_init 2 none 1 20 0 0 [.ref a0, .int p1] h n none h' n := by
  refine gEnter (by decide) [(0, .ref a0), (1, .int p1)] rfl (Nat.le_of_ble_eq_true rfl) ?_
  intro p e s m below meth c H ls X hin hR hS hl
  have hx := X.1.1
  have hb := X.1.2.1
  unfold sp_X7_init at hf
  generalize ([] : List Loc) = locs at hS ⊢
  refine lv_aload_n hx hb dX7_init_0 rfl (lv_at hl 0 rfl) ?_
  refine g_objInit X q757 q138 q139 hl.1 ⟨Nat.le_of_ble_eq_true rfl, Nat.le_of_ble_eq_true rfl⟩ (Nat.le_of_ble_eq_true rfl) dX7_init_1 ?_
  refine lv_aload_n hx hb dX7_init_4 rfl (lv_at hl 0 rfl) ?_
  refine lv_iload_n hx hb dX7_init_5 rfl (lv_at hl 1 rfl) ?_
  obtain ⟨h1, eh1, hf⟩ := gBind hf
  refine g_putA X hR hS hin q758 eh1 dX7_init_6 (fun H locs hR hS => ?_)
  obtain rfl := gO1 hf
  exact g_vret X hR hS rfl ⟨Nat.le_of_ble_eq_true rfl, Nat.le_of_ble_eq_true rfl⟩ dX7_init_9

def sp_X8_init (G : gG) (F : Nat) (h : gH) (a0 : Nat) (p1 : Int32) : Option (gH) :=
 (sp_X7_init G F h a0 p1).bind fun u1 =>
 some (u1)
theorem yk_X8_init : gIk yX8_init cX8_init 2 1 := ⟨q752, rfl, q118, q753, ⟨by decide +kernel, by decide +kernel, by decide +kernel⟩⟩
set_option maxHeartbeats 4000000 in
theorem m_X8_init (l : Launch) (G : gG) (F : Nat) (h : gH) (n : Nat) (a0 : Nat) (p1 : Int32) {h' : gH} (hf : sp_X8_init G F h a0 p1 = some h') : gMet l G yX8_init cX8_init 2 none 2 41 0 0 [.ref a0, .int p1] h n none h' n := by
  refine gEnter (by decide) [(0, .ref a0), (1, .int p1)] rfl (Nat.le_of_ble_eq_true rfl) ?_
  intro p e s m below meth c H ls X hin hR hS hl
  have hx := X.1.1
  have hb := X.1.2.1
  unfold sp_X8_init at hf
  generalize ([] : List Loc) = locs at hS ⊢
  refine lv_aload_n hx hb dX8_init_0 rfl (lv_at hl 0 rfl) ?_
  refine lv_iload_n hx hb dX8_init_1 rfl (lv_at hl 1 rfl) ?_
  obtain ⟨u1, eu1, hf⟩ := gBind hf
  refine g_callI X hR hS [.int p1] (m_X7_init l G F h n a0 p1 eu1) yk_X7_init q754 rfl hl.1 ⟨Nat.le_of_ble_eq_true rfl, Nat.le_of_ble_eq_true rfl⟩ ⟨Nat.le_of_ble_eq_true rfl, Nat.le_of_ble_eq_true rfl⟩ rfl (Nat.le_of_ble_eq_true rfl) dX8_init_2 (fun H locs hR hS => ?_)
  obtain rfl := gO1 hf
  exact g_vret X hR hS rfl ⟨Nat.le_of_ble_eq_true rfl, Nat.le_of_ble_eq_true rfl⟩ dX8_init_5

def sp_X9_init (G : gG) (F : Nat) (h : gH) (a0 : Nat) (p1 : Int32) : Option (gH) :=
 (sp_X8_init G F h a0 p1).bind fun u1 =>
 some (u1)
theorem yk_X9_init : gIk yX9_init cX9_init 2 1 := ⟨q749, rfl, q119, q750, ⟨by decide +kernel, by decide +kernel, by decide +kernel⟩⟩
set_option maxHeartbeats 4000000 in
theorem m_X9_init (l : Launch) (G : gG) (F : Nat) (h : gH) (n : Nat) (a0 : Nat) (p1 : Int32) {h' : gH} (hf : sp_X9_init G F h a0 p1 = some h') : gMet l G yX9_init cX9_init 2 none 3 62 0 0 [.ref a0, .int p1] h n none h' n := by
  refine gEnter (by decide) [(0, .ref a0), (1, .int p1)] rfl (Nat.le_of_ble_eq_true rfl) ?_
  intro p e s m below meth c H ls X hin hR hS hl
  have hx := X.1.1
  have hb := X.1.2.1
  unfold sp_X9_init at hf
  generalize ([] : List Loc) = locs at hS ⊢
  refine lv_aload_n hx hb dX9_init_0 rfl (lv_at hl 0 rfl) ?_
  refine lv_iload_n hx hb dX9_init_1 rfl (lv_at hl 1 rfl) ?_
  obtain ⟨u1, eu1, hf⟩ := gBind hf
  refine g_callI X hR hS [.int p1] (m_X8_init l G F h n a0 p1 eu1) yk_X8_init q751 rfl hl.1 ⟨Nat.le_of_ble_eq_true rfl, Nat.le_of_ble_eq_true rfl⟩ ⟨Nat.le_of_ble_eq_true rfl, Nat.le_of_ble_eq_true rfl⟩ rfl (Nat.le_of_ble_eq_true rfl) dX9_init_2 (fun H locs hR hS => ?_)
  obtain rfl := gO1 hf
  exact g_vret X hR hS rfl ⟨Nat.le_of_ble_eq_true rfl, Nat.le_of_ble_eq_true rfl⟩ dX9_init_5

def sp_X10_init (G : gG) (F : Nat) (h : gH) (a0 : Nat) : Option (gH) :=
 (sp_X9_init G F h a0 (0 : Int32)).bind fun u1 =>
 some (u1)
theorem yk_X10_init : gIk yX10_init cX10_init 1 0 := ⟨q746, rfl, q120, q747, ⟨by decide +kernel, by decide +kernel, by decide +kernel⟩⟩
set_option maxHeartbeats 4000000 in
theorem m_X10_init (l : Launch) (G : gG) (F : Nat) (h : gH) (n : Nat) (a0 : Nat) {h' : gH} (hf : sp_X10_init G F h a0 = some h') : gMet l G yX10_init cX10_init 1 none 4 83 0 0 [.ref a0] h n none h' n := by
  refine gEnter (by decide) [(0, .ref a0)] rfl (Nat.le_of_ble_eq_true rfl) ?_
  intro p e s m below meth c H ls X hin hR hS hl
  have hx := X.1.1
  have hb := X.1.2.1
  unfold sp_X10_init at hf
  generalize ([] : List Loc) = locs at hS ⊢
  refine lv_aload_n hx hb dX10_init_0 rfl (lv_at hl 0 rfl) ?_
  refine lv_iconst (v := (0 : Int32)) hx hb dX10_init_1 (by decide) ?_
  obtain ⟨u1, eu1, hf⟩ := gBind hf
  refine g_callI X hR hS [.int (0 : Int32)] (m_X9_init l G F h n a0 (0 : Int32) eu1) yk_X9_init q748 rfl hl.1 ⟨Nat.le_of_ble_eq_true rfl, Nat.le_of_ble_eq_true rfl⟩ ⟨Nat.le_of_ble_eq_true rfl, Nat.le_of_ble_eq_true rfl⟩ rfl (Nat.le_of_ble_eq_true rfl) dX10_init_2 (fun H locs hR hS => ?_)
  obtain rfl := gO1 hf
  exact g_vret X hR hS rfl ⟨Nat.le_of_ble_eq_true rfl, Nat.le_of_ble_eq_true rfl⟩ dX10_init_5

def sp_X11_init (G : gG) (F : Nat) (h : gH) (a0 : Nat) : Option (gH) :=
 (sp_X7_init G F h a0 (1 : Int32)).bind fun u1 =>
 some (u1)
theorem yk_X11_init : gIk yX11_init cX11_init 1 0 := ⟨q765, rfl, q121, q766, ⟨by decide +kernel, by decide +kernel, by decide +kernel⟩⟩
set_option maxHeartbeats 4000000 in
theorem m_X11_init (l : Launch) (G : gG) (F : Nat) (h : gH) (n : Nat) (a0 : Nat) {h' : gH} (hf : sp_X11_init G F h a0 = some h') : gMet l G yX11_init cX11_init 1 none 2 41 0 0 [.ref a0] h n none h' n := by
  refine gEnter (by decide) [(0, .ref a0)] rfl (Nat.le_of_ble_eq_true rfl) ?_
  intro p e s m below meth c H ls X hin hR hS hl
  have hx := X.1.1
  have hb := X.1.2.1
  unfold sp_X11_init at hf
  generalize ([] : List Loc) = locs at hS ⊢
  refine lv_aload_n hx hb dX11_init_0 rfl (lv_at hl 0 rfl) ?_
  refine lv_iconst (v := (1 : Int32)) hx hb dX11_init_1 (by decide) ?_
  obtain ⟨u1, eu1, hf⟩ := gBind hf
  refine g_callI X hR hS [.int (1 : Int32)] (m_X7_init l G F h n a0 (1 : Int32) eu1) yk_X7_init q767 rfl hl.1 ⟨Nat.le_of_ble_eq_true rfl, Nat.le_of_ble_eq_true rfl⟩ ⟨Nat.le_of_ble_eq_true rfl, Nat.le_of_ble_eq_true rfl⟩ rfl (Nat.le_of_ble_eq_true rfl) dX11_init_2 (fun H locs hR hS => ?_)
  obtain rfl := gO1 hf
  exact g_vret X hR hS rfl ⟨Nat.le_of_ble_eq_true rfl, Nat.le_of_ble_eq_true rfl⟩ dX11_init_5

def sp_X0_init (G : gG) (F : Nat) (h : gH) (n : Nat) (a0 : Nat) : Option (gH × Nat) :=
 (sp_X1_init G F (va_up h n (some (.inr (1, [.int 0, .int 0, .int 0, .int 0, .int 0, .int 0, .int 0, .int 0, .int 0, .int 0, .int 0, .int 0, .int 0, .int 0, .int 0, .int 0, .int 0, .int 0, .int 0, .int 0, .int 0, .int 0, .null, .null, .null, .null, .null, .null, .null, .null])))) (n + 1) n).bind fun u2 =>
 (gPv 0 u2.1 a0 0 (.ref n)).bind fun h3 =>
 (sp_X1_init G F (va_up h3 u2.2 (some (.inr (1, [.int 0, .int 0, .int 0, .int 0, .int 0, .int 0, .int 0, .int 0, .int 0, .int 0, .int 0, .int 0, .int 0, .int 0, .int 0, .int 0, .int 0, .int 0, .int 0, .int 0, .int 0, .int 0, .null, .null, .null, .null, .null, .null, .null, .null])))) (u2.2 + 1) u2.2).bind fun u5 =>
 (gPv 0 u5.1 a0 1 (.ref u2.2)).bind fun h6 =>
 (sp_X1_init G F (va_up h6 u5.2 (some (.inr (1, [.int 0, .int 0, .int 0, .int 0, .int 0, .int 0, .int 0, .int 0, .int 0, .int 0, .int 0, .int 0, .int 0, .int 0, .int 0, .int 0, .int 0, .int 0, .int 0, .int 0, .int 0, .int 0, .null, .null, .null, .null, .null, .null, .null, .null])))) (u5.2 + 1) u5.2).bind fun u8 =>
 (gPv 0 u8.1 a0 2 (.ref u5.2)).bind fun h9 =>
 (gPv 0 (va_up h9 u8.2 (some (.inl (2, 100, .inl (fun _ => 0))))) a0 4 (.ref u8.2)).bind fun h10 =>
 (sp_X10_init G F (va_up (va_up h10 (u8.2 + 1) (some (.inl (9, 4, .inr (.inr (.inr (.inr (fun _ => none)))))))) ((u8.2 + 1) + 1) (some (.inr (8, [.int 0])))) ((u8.2 + 1) + 1)).bind fun u12 =>
 (gSr 9 8 u12 (u8.2 + 1) (0 : Int32) ((u8.2 + 1) + 1)).bind fun h13 =>
 (sp_X11_init G F (va_up h13 (((u8.2 + 1) + 1) + 1) (some (.inr (9, [.int 0])))) (((u8.2 + 1) + 1) + 1)).bind fun u15 =>
 (gSr 9 9 u15 (u8.2 + 1) (1 : Int32) (((u8.2 + 1) + 1) + 1)).bind fun h16 =>
 (sp_X9_init G F (va_up h16 ((((u8.2 + 1) + 1) + 1) + 1) (some (.inr (7, [.int 0])))) ((((u8.2 + 1) + 1) + 1) + 1) (2 : Int32)).bind fun u18 =>
 (gSr 9 7 u18 (u8.2 + 1) (2 : Int32) ((((u8.2 + 1) + 1) + 1) + 1)).bind fun h19 =>
 (sp_X8_init G F (va_up h19 (((((u8.2 + 1) + 1) + 1) + 1) + 1) (some (.inr (6, [.int 0])))) (((((u8.2 + 1) + 1) + 1) + 1) + 1) (3 : Int32)).bind fun u21 =>
 (gSr 9 6 u21 (u8.2 + 1) (3 : Int32) (((((u8.2 + 1) + 1) + 1) + 1) + 1)).bind fun h22 =>
 (gPv 0 h22 a0 6 (.ref (u8.2 + 1))).bind fun h23 =>
 (gPv 0 (va_up h23 ((((((u8.2 + 1) + 1) + 1) + 1) + 1) + 1) (some (.inl (0, 60, .inl (fun _ => 0))))) a0 7 (.ref ((((((u8.2 + 1) + 1) + 1) + 1) + 1) + 1))).bind fun h24 =>
 (sp_X12_init G F (va_up (va_up h24 (((((((u8.2 + 1) + 1) + 1) + 1) + 1) + 1) + 1) (some (.inl (10, 6, .inr (.inr (.inr (.inr (fun _ => none)))))))) ((((((((u8.2 + 1) + 1) + 1) + 1) + 1) + 1) + 1) + 1) (some (.inr (10, [.null])))) ((((((((u8.2 + 1) + 1) + 1) + 1) + 1) + 1) + 1) + 1)).bind fun u26 =>
 (gSr 10 10 (va_up (va_up h24 (((((((u8.2 + 1) + 1) + 1) + 1) + 1) + 1) + 1) (some (.inl (10, 6, .inr (.inr (.inr (.inr (fun _ => none)))))))) ((((((((u8.2 + 1) + 1) + 1) + 1) + 1) + 1) + 1) + 1) (some (.inr (10, [.null])))) (((((((u8.2 + 1) + 1) + 1) + 1) + 1) + 1) + 1) (0 : Int32) ((((((((u8.2 + 1) + 1) + 1) + 1) + 1) + 1) + 1) + 1)).bind fun h27 =>
 (sp_X12_init G F (va_up h27 (((((((((u8.2 + 1) + 1) + 1) + 1) + 1) + 1) + 1) + 1) + 1) (some (.inr (10, [.null])))) (((((((((u8.2 + 1) + 1) + 1) + 1) + 1) + 1) + 1) + 1) + 1)).bind fun u29 =>
 (gSr 10 10 (va_up h27 (((((((((u8.2 + 1) + 1) + 1) + 1) + 1) + 1) + 1) + 1) + 1) (some (.inr (10, [.null])))) (((((((u8.2 + 1) + 1) + 1) + 1) + 1) + 1) + 1) (1 : Int32) (((((((((u8.2 + 1) + 1) + 1) + 1) + 1) + 1) + 1) + 1) + 1)).bind fun h30 =>
 (sp_X12_init G F (va_up h30 ((((((((((u8.2 + 1) + 1) + 1) + 1) + 1) + 1) + 1) + 1) + 1) + 1) (some (.inr (10, [.null])))) ((((((((((u8.2 + 1) + 1) + 1) + 1) + 1) + 1) + 1) + 1) + 1) + 1)).bind fun u32 =>
 (gSr 10 10 (va_up h30 ((((((((((u8.2 + 1) + 1) + 1) + 1) + 1) + 1) + 1) + 1) + 1) + 1) (some (.inr (10, [.null])))) (((((((u8.2 + 1) + 1) + 1) + 1) + 1) + 1) + 1) (2 : Int32) ((((((((((u8.2 + 1) + 1) + 1) + 1) + 1) + 1) + 1) + 1) + 1) + 1)).bind fun h33 =>
 (sp_X12_init G F (va_up h33 (((((((((((u8.2 + 1) + 1) + 1) + 1) + 1) + 1) + 1) + 1) + 1) + 1) + 1) (some (.inr (10, [.null])))) (((((((((((u8.2 + 1) + 1) + 1) + 1) + 1) + 1) + 1) + 1) + 1) + 1) + 1)).bind fun u35 =>
 (gSr 10 10 (va_up h33 (((((((((((u8.2 + 1) + 1) + 1) + 1) + 1) + 1) + 1) + 1) + 1) + 1) + 1) (some (.inr (10, [.null])))) (((((((u8.2 + 1) + 1) + 1) + 1) + 1) + 1) + 1) (3 : Int32) (((((((((((u8.2 + 1) + 1) + 1) + 1) + 1) + 1) + 1) + 1) + 1) + 1) + 1)).bind fun h36 =>
 (sp_X12_init G F (va_up h36 ((((((((((((u8.2 + 1) + 1) + 1) + 1) + 1) + 1) + 1) + 1) + 1) + 1) + 1) + 1) (some (.inr (10, [.null])))) ((((((((((((u8.2 + 1) + 1) + 1) + 1) + 1) + 1) + 1) + 1) + 1) + 1) + 1) + 1)).bind fun u38 =>
 (gSr 10 10 (va_up h36 ((((((((((((u8.2 + 1) + 1) + 1) + 1) + 1) + 1) + 1) + 1) + 1) + 1) + 1) + 1) (some (.inr (10, [.null])))) (((((((u8.2 + 1) + 1) + 1) + 1) + 1) + 1) + 1) (4 : Int32) ((((((((((((u8.2 + 1) + 1) + 1) + 1) + 1) + 1) + 1) + 1) + 1) + 1) + 1) + 1)).bind fun h39 =>
 (sp_X12_init G F (va_up h39 (((((((((((((u8.2 + 1) + 1) + 1) + 1) + 1) + 1) + 1) + 1) + 1) + 1) + 1) + 1) + 1) (some (.inr (10, [.null])))) (((((((((((((u8.2 + 1) + 1) + 1) + 1) + 1) + 1) + 1) + 1) + 1) + 1) + 1) + 1) + 1)).bind fun u41 =>
 (gSr 10 10 (va_up h39 (((((((((((((u8.2 + 1) + 1) + 1) + 1) + 1) + 1) + 1) + 1) + 1) + 1) + 1) + 1) + 1) (some (.inr (10, [.null])))) (((((((u8.2 + 1) + 1) + 1) + 1) + 1) + 1) + 1) (5 : Int32) (((((((((((((u8.2 + 1) + 1) + 1) + 1) + 1) + 1) + 1) + 1) + 1) + 1) + 1) + 1) + 1)).bind fun h42 =>
 (gPv 0 h42 a0 9 (.ref (((((((u8.2 + 1) + 1) + 1) + 1) + 1) + 1) + 1))).bind fun h43 =>
 some ((h43, (((((((((((((u8.2 + 1) + 1) + 1) + 1) + 1) + 1) + 1) + 1) + 1) + 1) + 1) + 1) + 1) + 1))
theorem yk_X0_init : gIk yX0_init cX0_init 1 0 := ⟨q135, rfl, q92, q136, ⟨by decide +kernel, by decide +kernel, by decide +kernel⟩⟩
set_option maxHeartbeats 4000000 in
theorem m_X0_init (l : Launch) (G : gG) (F : Nat) (h : gH) (n : Nat) (a0 : Nat) {h' : gH} {n' : Nat} (hf : sp_X0_init G F h n a0 = some (h', n')) : gMet l G yX0_init cX0_init 1 none 6 125 329 1863 [.ref a0] h n none h' n' := by
  refine gEnter (by decide) [(0, .ref a0)] rfl (Nat.le_of_ble_eq_true rfl) ?_
  intro p e s m below meth c H ls X hin hR hS hl
  have hx := X.1.1
  have hb := X.1.2.1
  unfold sp_X0_init at hf
  generalize ([] : List Loc) = locs at hS ⊢
  refine lv_aload_n hx hb dX0_init_0 rfl (lv_at hl 0 rfl) ?_
  refine g_objInit X q137 q138 q139 hl.1 ⟨Nat.le_of_ble_eq_true rfl, Nat.le_of_ble_eq_true rfl⟩ (Nat.le_of_ble_eq_true rfl) dX0_init_1 ?_
  refine lv_aload_n hx hb dX0_init_4 rfl (lv_at hl 0 rfl) ?_
  refine g_new X hR hS gk_X1 q140 q141 q93 [.int 0, .int 0, .int 0, .int 0, .int 0, .int 0, .int 0, .int 0, .int 0, .int 0, .int 0, .int 0, .int 0, .int 0, .int 0, .int 0, .int 0, .int 0, .int 0, .int 0, .int 0, .int 0, .null, .null, .null, .null, .null, .null, .null, .null] (by decide +kernel) ⟨Nat.le_of_ble_eq_true rfl, Nat.le_of_ble_eq_true rfl⟩ dX0_init_5 (fun H hR hS => ?_)
  refine lv_dup hx hb dX0_init_8 rfl ?_
  obtain ⟨u2, eu2, hf⟩ := gBind hf
  refine g_callIN X hR hS [] (m_X1_init l G F (va_up h n (some (.inr (1, [.int 0, .int 0, .int 0, .int 0, .int 0, .int 0, .int 0, .int 0, .int 0, .int 0, .int 0, .int 0, .int 0, .int 0, .int 0, .int 0, .int 0, .int 0, .int 0, .int 0, .int 0, .int 0, .null, .null, .null, .null, .null, .null, .null, .null])))) (n + 1) n eu2) yk_X1_init q142 rfl hl.1 ⟨Nat.le_of_ble_eq_true rfl, Nat.le_of_ble_eq_true rfl⟩ ⟨Nat.le_of_ble_eq_true rfl, Nat.le_of_ble_eq_true rfl⟩ rfl (Nat.le_of_ble_eq_true rfl) dX0_init_9 (fun H locs hR hS => ?_)
  obtain ⟨h3, eh3, hf⟩ := gBind hf
  refine g_putF X hR hS hin gk_X0 0 (by decide) q792 rfl rfl rfl eh3 rfl rfl rfl dX0_init_12 (fun H locs hR hS => ?_)
  refine lv_aload_n hx hb dX0_init_15 rfl (lv_at hl 0 rfl) ?_
  refine g_new X hR hS gk_X1 q140 q141 q93 [.int 0, .int 0, .int 0, .int 0, .int 0, .int 0, .int 0, .int 0, .int 0, .int 0, .int 0, .int 0, .int 0, .int 0, .int 0, .int 0, .int 0, .int 0, .int 0, .int 0, .int 0, .int 0, .null, .null, .null, .null, .null, .null, .null, .null] (by decide +kernel) ⟨Nat.le_of_ble_eq_true rfl, Nat.le_of_ble_eq_true rfl⟩ dX0_init_16 (fun H hR hS => ?_)
  refine lv_dup hx hb dX0_init_19 rfl ?_
  obtain ⟨u5, eu5, hf⟩ := gBind hf
  refine g_callIN X hR hS [] (m_X1_init l G F (va_up h3 u2.2 (some (.inr (1, [.int 0, .int 0, .int 0, .int 0, .int 0, .int 0, .int 0, .int 0, .int 0, .int 0, .int 0, .int 0, .int 0, .int 0, .int 0, .int 0, .int 0, .int 0, .int 0, .int 0, .int 0, .int 0, .null, .null, .null, .null, .null, .null, .null, .null])))) (u2.2 + 1) u2.2 eu5) yk_X1_init q142 rfl hl.1 ⟨Nat.le_of_ble_eq_true rfl, Nat.le_of_ble_eq_true rfl⟩ ⟨Nat.le_of_ble_eq_true rfl, Nat.le_of_ble_eq_true rfl⟩ rfl (Nat.le_of_ble_eq_true rfl) dX0_init_20 (fun H locs hR hS => ?_)
  obtain ⟨h6, eh6, hf⟩ := gBind hf
  refine g_putF X hR hS hin gk_X0 1 (by decide) q793 rfl rfl rfl eh6 rfl rfl rfl dX0_init_23 (fun H locs hR hS => ?_)
  refine lv_aload_n hx hb dX0_init_26 rfl (lv_at hl 0 rfl) ?_
  refine g_new X hR hS gk_X1 q140 q141 q93 [.int 0, .int 0, .int 0, .int 0, .int 0, .int 0, .int 0, .int 0, .int 0, .int 0, .int 0, .int 0, .int 0, .int 0, .int 0, .int 0, .int 0, .int 0, .int 0, .int 0, .int 0, .int 0, .null, .null, .null, .null, .null, .null, .null, .null] (by decide +kernel) ⟨Nat.le_of_ble_eq_true rfl, Nat.le_of_ble_eq_true rfl⟩ dX0_init_27 (fun H hR hS => ?_)
  refine lv_dup hx hb dX0_init_30 rfl ?_
  obtain ⟨u8, eu8, hf⟩ := gBind hf
  refine g_callIN X hR hS [] (m_X1_init l G F (va_up h6 u5.2 (some (.inr (1, [.int 0, .int 0, .int 0, .int 0, .int 0, .int 0, .int 0, .int 0, .int 0, .int 0, .int 0, .int 0, .int 0, .int 0, .int 0, .int 0, .int 0, .int 0, .int 0, .int 0, .int 0, .int 0, .null, .null, .null, .null, .null, .null, .null, .null])))) (u5.2 + 1) u5.2 eu8) yk_X1_init q142 rfl hl.1 ⟨Nat.le_of_ble_eq_true rfl, Nat.le_of_ble_eq_true rfl⟩ ⟨Nat.le_of_ble_eq_true rfl, Nat.le_of_ble_eq_true rfl⟩ rfl (Nat.le_of_ble_eq_true rfl) dX0_init_31 (fun H locs hR hS => ?_)
  obtain ⟨h9, eh9, hf⟩ := gBind hf
  refine g_putF X hR hS hin gk_X0 2 (by decide) q794 rfl rfl rfl eh9 rfl rfl rfl dX0_init_34 (fun H locs hR hS => ?_)
  refine lv_aload_n hx hb dX0_init_37 rfl (lv_at hl 0 rfl) ?_
  refine lv_bipush (v := (100 : Int32)) hx hb dX0_init_38 (by decide) ?_
  refine g_newa2 X hR hS q256 100 (by decide) (by decide) (by decide) ⟨Nat.le_of_ble_eq_true rfl, Nat.le_of_ble_eq_true rfl⟩ dX0_init_40 (fun H hR hS => ?_)
  obtain ⟨h10, eh10, hf⟩ := gBind hf
  refine g_putF X hR hS hin gk_X0 4 (by decide) q797 rfl rfl rfl eh10 rfl rfl rfl dX0_init_42 (fun H locs hR hS => ?_)
  refine lv_aload_n hx hb dX0_init_45 rfl (lv_at hl 0 rfl) ?_
  refine lv_iconst (v := (4 : Int32)) hx hb dX0_init_46 (by decide) ?_
  refine g_newq X hR hS 9 (by decide) rfl q741 q742 4 (by decide) (by decide) (by decide) ⟨Nat.le_of_ble_eq_true rfl, Nat.le_of_ble_eq_true rfl⟩ dX0_init_47 (fun H hR hS => ?_)
  refine lv_dup hx hb dX0_init_50 rfl ?_
  refine lv_iconst (v := (0 : Int32)) hx hb dX0_init_51 (by decide) ?_
  refine g_new X hR hS gk_X10 q743 q744 q120 [.int 0] (by decide +kernel) ⟨Nat.le_of_ble_eq_true rfl, Nat.le_of_ble_eq_true rfl⟩ dX0_init_52 (fun H hR hS => ?_)
  refine lv_dup hx hb dX0_init_55 rfl ?_
  obtain ⟨u12, eu12, hf⟩ := gBind hf
  refine g_callI X hR hS [] (m_X10_init l G F (va_up (va_up h10 (u8.2 + 1) (some (.inl (9, 4, .inr (.inr (.inr (.inr (fun _ => none)))))))) ((u8.2 + 1) + 1) (some (.inr (8, [.int 0])))) (((u8.2 + 1) + 1) + 1) ((u8.2 + 1) + 1) eu12) yk_X10_init q745 rfl hl.1 ⟨Nat.le_of_ble_eq_true rfl, Nat.le_of_ble_eq_true rfl⟩ ⟨Nat.le_of_ble_eq_true rfl, Nat.le_of_ble_eq_true rfl⟩ rfl (Nat.le_of_ble_eq_true rfl) dX0_init_56 (fun H locs hR hS => ?_)
  obtain ⟨h13, eh13, hf⟩ := gBind hf
  refine g_aastO X hR hS 9 8 (by decide) rfl gk_X10 q2254 eh13 dX0_init_59 (fun H locs hR hS => ?_)
  refine lv_dup hx hb dX0_init_60 rfl ?_
  refine lv_iconst (v := (1 : Int32)) hx hb dX0_init_61 (by decide) ?_
  refine g_new X hR hS gk_X11 q762 q763 q121 [.int 0] (by decide +kernel) ⟨Nat.le_of_ble_eq_true rfl, Nat.le_of_ble_eq_true rfl⟩ dX0_init_62 (fun H hR hS => ?_)
  refine lv_dup hx hb dX0_init_65 rfl ?_
  obtain ⟨u15, eu15, hf⟩ := gBind hf
  refine g_callI X hR hS [] (m_X11_init l G F (va_up h13 (((u8.2 + 1) + 1) + 1) (some (.inr (9, [.int 0])))) ((((u8.2 + 1) + 1) + 1) + 1) (((u8.2 + 1) + 1) + 1) eu15) yk_X11_init q764 rfl hl.1 ⟨Nat.le_of_ble_eq_true rfl, Nat.le_of_ble_eq_true rfl⟩ ⟨Nat.le_of_ble_eq_true rfl, Nat.le_of_ble_eq_true rfl⟩ rfl (Nat.le_of_ble_eq_true rfl) dX0_init_66 (fun H locs hR hS => ?_)
  obtain ⟨h16, eh16, hf⟩ := gBind hf
  refine g_aastO X hR hS 9 9 (by decide) rfl gk_X11 q2255 eh16 dX0_init_69 (fun H locs hR hS => ?_)
  refine lv_dup hx hb dX0_init_70 rfl ?_
  refine lv_iconst (v := (2 : Int32)) hx hb dX0_init_71 (by decide) ?_
  refine g_new X hR hS gk_X9 q770 q771 q119 [.int 0] (by decide +kernel) ⟨Nat.le_of_ble_eq_true rfl, Nat.le_of_ble_eq_true rfl⟩ dX0_init_72 (fun H hR hS => ?_)
  refine lv_dup hx hb dX0_init_75 rfl ?_
  refine lv_iconst (v := (2 : Int32)) hx hb dX0_init_76 (by decide) ?_
  obtain ⟨u18, eu18, hf⟩ := gBind hf
  refine g_callI X hR hS [.int (2 : Int32)] (m_X9_init l G F (va_up h16 ((((u8.2 + 1) + 1) + 1) + 1) (some (.inr (7, [.int 0])))) (((((u8.2 + 1) + 1) + 1) + 1) + 1) ((((u8.2 + 1) + 1) + 1) + 1) (2 : Int32) eu18) yk_X9_init q772 rfl hl.1 ⟨Nat.le_of_ble_eq_true rfl, Nat.le_of_ble_eq_true rfl⟩ ⟨Nat.le_of_ble_eq_true rfl, Nat.le_of_ble_eq_true rfl⟩ rfl (Nat.le_of_ble_eq_true rfl) dX0_init_77 (fun H locs hR hS => ?_)
  obtain ⟨h19, eh19, hf⟩ := gBind hf
  refine g_aastO X hR hS 9 7 (by decide) rfl gk_X9 q2256 eh19 dX0_init_80 (fun H locs hR hS => ?_)
  refine lv_dup hx hb dX0_init_81 rfl ?_
  refine lv_iconst (v := (3 : Int32)) hx hb dX0_init_82 (by decide) ?_
  refine g_new X hR hS gk_X8 q775 q776 q118 [.int 0] (by decide +kernel) ⟨Nat.le_of_ble_eq_true rfl, Nat.le_of_ble_eq_true rfl⟩ dX0_init_83 (fun H hR hS => ?_)
  refine lv_dup hx hb dX0_init_86 rfl ?_
  refine lv_iconst (v := (3 : Int32)) hx hb dX0_init_87 (by decide) ?_
  obtain ⟨u21, eu21, hf⟩ := gBind hf
  refine g_callI X hR hS [.int (3 : Int32)] (m_X8_init l G F (va_up h19 (((((u8.2 + 1) + 1) + 1) + 1) + 1) (some (.inr (6, [.int 0])))) ((((((u8.2 + 1) + 1) + 1) + 1) + 1) + 1) (((((u8.2 + 1) + 1) + 1) + 1) + 1) (3 : Int32) eu21) yk_X8_init q777 rfl hl.1 ⟨Nat.le_of_ble_eq_true rfl, Nat.le_of_ble_eq_true rfl⟩ ⟨Nat.le_of_ble_eq_true rfl, Nat.le_of_ble_eq_true rfl⟩ rfl (Nat.le_of_ble_eq_true rfl) dX0_init_88 (fun H locs hR hS => ?_)
  obtain ⟨h22, eh22, hf⟩ := gBind hf
  refine g_aastO X hR hS 9 6 (by decide) rfl gk_X8 q2257 eh22 dX0_init_91 (fun H locs hR hS => ?_)
  obtain ⟨h23, eh23, hf⟩ := gBind hf
  refine g_putF X hR hS hin gk_X0 6 (by decide) q800 rfl rfl rfl eh23 rfl rfl rfl dX0_init_92 (fun H locs hR hS => ?_)
  refine lv_aload_n hx hb dX0_init_95 rfl (lv_at hl 0 rfl) ?_
  refine lv_bipush (v := (60 : Int32)) hx hb dX0_init_96 (by decide) ?_
  refine g_newa0 X hR hS q255 60 (by decide) (by decide) (by decide) ⟨Nat.le_of_ble_eq_true rfl, Nat.le_of_ble_eq_true rfl⟩ dX0_init_98 (fun H hR hS => ?_)
  obtain ⟨h24, eh24, hf⟩ := gBind hf
  refine g_putF X hR hS hin gk_X0 7 (by decide) q801 rfl rfl rfl eh24 rfl rfl rfl dX0_init_100 (fun H locs hR hS => ?_)
  refine lv_aload_n hx hb dX0_init_103 rfl (lv_at hl 0 rfl) ?_
  refine lv_bipush (v := (6 : Int32)) hx hb dX0_init_104 (by decide) ?_
  refine g_newq X hR hS 10 (by decide) rfl q780 q781 6 (by decide) (by decide) (by decide) ⟨Nat.le_of_ble_eq_true rfl, Nat.le_of_ble_eq_true rfl⟩ dX0_init_106 (fun H hR hS => ?_)
  refine lv_dup hx hb dX0_init_109 rfl ?_
  refine lv_iconst (v := (0 : Int32)) hx hb dX0_init_110 (by decide) ?_
  refine g_new X hR hS gk_X12 q780 q782 q122 [.null] (by decide +kernel) ⟨Nat.le_of_ble_eq_true rfl, Nat.le_of_ble_eq_true rfl⟩ dX0_init_111 (fun H hR hS => ?_)
  refine lv_dup hx hb dX0_init_114 rfl ?_
  obtain ⟨u26, eu26, hf⟩ := gBind hf
  refine g_callIN X hR hS [] (m_X12_init l G F (va_up (va_up h24 (((((((u8.2 + 1) + 1) + 1) + 1) + 1) + 1) + 1) (some (.inl (10, 6, .inr (.inr (.inr (.inr (fun _ => none)))))))) ((((((((u8.2 + 1) + 1) + 1) + 1) + 1) + 1) + 1) + 1) (some (.inr (10, [.null])))) (((((((((u8.2 + 1) + 1) + 1) + 1) + 1) + 1) + 1) + 1) + 1) ((((((((u8.2 + 1) + 1) + 1) + 1) + 1) + 1) + 1) + 1) eu26) yk_X12_init q783 rfl hl.1 ⟨Nat.le_of_ble_eq_true rfl, Nat.le_of_ble_eq_true rfl⟩ ⟨Nat.le_of_ble_eq_true rfl, Nat.le_of_ble_eq_true rfl⟩ rfl (Nat.le_of_ble_eq_true rfl) dX0_init_115 (fun H locs hR hS => ?_)
  obtain ⟨h27, eh27, hf⟩ := gBind hf
  refine g_aast X hR hS 10 10 (by decide) rfl gk_X12 eh27 dX0_init_118 (fun H locs hR hS => ?_)
  refine lv_dup hx hb dX0_init_119 rfl ?_
  refine lv_iconst (v := (1 : Int32)) hx hb dX0_init_120 (by decide) ?_
  refine g_new X hR hS gk_X12 q780 q782 q122 [.null] (by decide +kernel) ⟨Nat.le_of_ble_eq_true rfl, Nat.le_of_ble_eq_true rfl⟩ dX0_init_121 (fun H hR hS => ?_)
  refine lv_dup hx hb dX0_init_124 rfl ?_
  obtain ⟨u29, eu29, hf⟩ := gBind hf
  refine g_callIN X hR hS [] (m_X12_init l G F (va_up h27 (((((((((u8.2 + 1) + 1) + 1) + 1) + 1) + 1) + 1) + 1) + 1) (some (.inr (10, [.null])))) ((((((((((u8.2 + 1) + 1) + 1) + 1) + 1) + 1) + 1) + 1) + 1) + 1) (((((((((u8.2 + 1) + 1) + 1) + 1) + 1) + 1) + 1) + 1) + 1) eu29) yk_X12_init q783 rfl hl.1 ⟨Nat.le_of_ble_eq_true rfl, Nat.le_of_ble_eq_true rfl⟩ ⟨Nat.le_of_ble_eq_true rfl, Nat.le_of_ble_eq_true rfl⟩ rfl (Nat.le_of_ble_eq_true rfl) dX0_init_125 (fun H locs hR hS => ?_)
  obtain ⟨h30, eh30, hf⟩ := gBind hf
  refine g_aast X hR hS 10 10 (by decide) rfl gk_X12 eh30 dX0_init_128 (fun H locs hR hS => ?_)
  refine lv_dup hx hb dX0_init_129 rfl ?_
  refine lv_iconst (v := (2 : Int32)) hx hb dX0_init_130 (by decide) ?_
  refine g_new X hR hS gk_X12 q780 q782 q122 [.null] (by decide +kernel) ⟨Nat.le_of_ble_eq_true rfl, Nat.le_of_ble_eq_true rfl⟩ dX0_init_131 (fun H hR hS => ?_)
  refine lv_dup hx hb dX0_init_134 rfl ?_
  obtain ⟨u32, eu32, hf⟩ := gBind hf
  refine g_callIN X hR hS [] (m_X12_init l G F (va_up h30 ((((((((((u8.2 + 1) + 1) + 1) + 1) + 1) + 1) + 1) + 1) + 1) + 1) (some (.inr (10, [.null])))) (((((((((((u8.2 + 1) + 1) + 1) + 1) + 1) + 1) + 1) + 1) + 1) + 1) + 1) ((((((((((u8.2 + 1) + 1) + 1) + 1) + 1) + 1) + 1) + 1) + 1) + 1) eu32) yk_X12_init q783 rfl hl.1 ⟨Nat.le_of_ble_eq_true rfl, Nat.le_of_ble_eq_true rfl⟩ ⟨Nat.le_of_ble_eq_true rfl, Nat.le_of_ble_eq_true rfl⟩ rfl (Nat.le_of_ble_eq_true rfl) dX0_init_135 (fun H locs hR hS => ?_)
  obtain ⟨h33, eh33, hf⟩ := gBind hf
  refine g_aast X hR hS 10 10 (by decide) rfl gk_X12 eh33 dX0_init_138 (fun H locs hR hS => ?_)
  refine lv_dup hx hb dX0_init_139 rfl ?_
  refine lv_iconst (v := (3 : Int32)) hx hb dX0_init_140 (by decide) ?_
  refine g_new X hR hS gk_X12 q780 q782 q122 [.null] (by decide +kernel) ⟨Nat.le_of_ble_eq_true rfl, Nat.le_of_ble_eq_true rfl⟩ dX0_init_141 (fun H hR hS => ?_)
  refine lv_dup hx hb dX0_init_144 rfl ?_
  obtain ⟨u35, eu35, hf⟩ := gBind hf
  refine g_callIN X hR hS [] (m_X12_init l G F (va_up h33 (((((((((((u8.2 + 1) + 1) + 1) + 1) + 1) + 1) + 1) + 1) + 1) + 1) + 1) (some (.inr (10, [.null])))) ((((((((((((u8.2 + 1) + 1) + 1) + 1) + 1) + 1) + 1) + 1) + 1) + 1) + 1) + 1) (((((((((((u8.2 + 1) + 1) + 1) + 1) + 1) + 1) + 1) + 1) + 1) + 1) + 1) eu35) yk_X12_init q783 rfl hl.1 ⟨Nat.le_of_ble_eq_true rfl, Nat.le_of_ble_eq_true rfl⟩ ⟨Nat.le_of_ble_eq_true rfl, Nat.le_of_ble_eq_true rfl⟩ rfl (Nat.le_of_ble_eq_true rfl) dX0_init_145 (fun H locs hR hS => ?_)
  obtain ⟨h36, eh36, hf⟩ := gBind hf
  refine g_aast X hR hS 10 10 (by decide) rfl gk_X12 eh36 dX0_init_148 (fun H locs hR hS => ?_)
  refine lv_dup hx hb dX0_init_149 rfl ?_
  refine lv_iconst (v := (4 : Int32)) hx hb dX0_init_150 (by decide) ?_
  refine g_new X hR hS gk_X12 q780 q782 q122 [.null] (by decide +kernel) ⟨Nat.le_of_ble_eq_true rfl, Nat.le_of_ble_eq_true rfl⟩ dX0_init_151 (fun H hR hS => ?_)
  refine lv_dup hx hb dX0_init_154 rfl ?_
  obtain ⟨u38, eu38, hf⟩ := gBind hf
  refine g_callIN X hR hS [] (m_X12_init l G F (va_up h36 ((((((((((((u8.2 + 1) + 1) + 1) + 1) + 1) + 1) + 1) + 1) + 1) + 1) + 1) + 1) (some (.inr (10, [.null])))) (((((((((((((u8.2 + 1) + 1) + 1) + 1) + 1) + 1) + 1) + 1) + 1) + 1) + 1) + 1) + 1) ((((((((((((u8.2 + 1) + 1) + 1) + 1) + 1) + 1) + 1) + 1) + 1) + 1) + 1) + 1) eu38) yk_X12_init q783 rfl hl.1 ⟨Nat.le_of_ble_eq_true rfl, Nat.le_of_ble_eq_true rfl⟩ ⟨Nat.le_of_ble_eq_true rfl, Nat.le_of_ble_eq_true rfl⟩ rfl (Nat.le_of_ble_eq_true rfl) dX0_init_155 (fun H locs hR hS => ?_)
  obtain ⟨h39, eh39, hf⟩ := gBind hf
  refine g_aast X hR hS 10 10 (by decide) rfl gk_X12 eh39 dX0_init_158 (fun H locs hR hS => ?_)
  refine lv_dup hx hb dX0_init_159 rfl ?_
  refine lv_iconst (v := (5 : Int32)) hx hb dX0_init_160 (by decide) ?_
  refine g_new X hR hS gk_X12 q780 q782 q122 [.null] (by decide +kernel) ⟨Nat.le_of_ble_eq_true rfl, Nat.le_of_ble_eq_true rfl⟩ dX0_init_161 (fun H hR hS => ?_)
  refine lv_dup hx hb dX0_init_164 rfl ?_
  obtain ⟨u41, eu41, hf⟩ := gBind hf
  refine g_callIN X hR hS [] (m_X12_init l G F (va_up h39 (((((((((((((u8.2 + 1) + 1) + 1) + 1) + 1) + 1) + 1) + 1) + 1) + 1) + 1) + 1) + 1) (some (.inr (10, [.null])))) ((((((((((((((u8.2 + 1) + 1) + 1) + 1) + 1) + 1) + 1) + 1) + 1) + 1) + 1) + 1) + 1) + 1) (((((((((((((u8.2 + 1) + 1) + 1) + 1) + 1) + 1) + 1) + 1) + 1) + 1) + 1) + 1) + 1) eu41) yk_X12_init q783 rfl hl.1 ⟨Nat.le_of_ble_eq_true rfl, Nat.le_of_ble_eq_true rfl⟩ ⟨Nat.le_of_ble_eq_true rfl, Nat.le_of_ble_eq_true rfl⟩ rfl (Nat.le_of_ble_eq_true rfl) dX0_init_165 (fun H locs hR hS => ?_)
  obtain ⟨h42, eh42, hf⟩ := gBind hf
  refine g_aast X hR hS 10 10 (by decide) rfl gk_X12 eh42 dX0_init_168 (fun H locs hR hS => ?_)
  obtain ⟨h43, eh43, hf⟩ := gBind hf
  refine g_putF X hR hS hin gk_X0 9 (by decide) q803 rfl rfl rfl eh43 rfl rfl rfl dX0_init_169 (fun H locs hR hS => ?_)
  obtain ⟨rfl, rfl⟩ := gO2 hf
  exact g_vret X hR hS rfl ⟨Nat.le_of_ble_eq_true rfl, Nat.le_of_ble_eq_true rfl⟩ dX0_init_172

def sp_X0_are_L7 (G : gG) (F : Nat) (h7L : gH) : Nat → Nat → Int32 → Int32 → Option (Int32)
  | 0, _, _, _ => none
  | f + 1, v7_1, v7_2, v7_3 =>
    if v7_2 ≤ v7_3 then
    some ((1 : Int32)) else
    (gAi 3 h7L v7_1 v7_3).bind fun x802 =>
    if x802 = 0 then
    some ((0 : Int32)) else
    sp_X0_are_L7 G F h7L f v7_1 v7_2 (v7_3 + (1 : Int32))
def sp_X0_are (G : gG) (F : Nat) (h : gH) (a0 : Nat) : Option (Int32) :=
 (gAn 3 h a0).bind fun x1 =>
 sp_X0_are_L7 G F h F a0 x1 (0 : Int32)
theorem yk_X0_are : gSk yX0_are cX0_are 5 (some .boolean) 1 := ⟨q835, q92, q836, ⟨by decide +kernel, by decide +kernel, by decide +kernel⟩⟩
set_option maxHeartbeats 4000000 in
theorem m_X0_are (l : Launch) (G : gG) (F : Nat) (h : gH) (n : Nat) (a0 : Nat) {r : Int32} (hf : sp_X0_are G F h a0 = some r) : gMet l G yX0_are cX0_are 5 (some .boolean) 0 0 0 0 [.ref a0] h n (some (.int r)) h n := by
  refine gEnter (by decide) [(0, .ref a0)] rfl (Nat.le_of_ble_eq_true rfl) ?_
  intro p e s m below meth c H ls X hin hR hS hl
  have hx := X.1.1
  have hb := X.1.2.1
  unfold sp_X0_are at hf
  generalize ([] : List Loc) = locs at hS ⊢
  refine lv_aload_n hx hb dX0_are_0 rfl (lv_at hl 0 rfl) ?_
  refine lv_astore_n (lv' := [(1, .ref a0), (0, .ref a0)]) hx hb dX0_are_1 rfl hl (by decide) rfl (fun ls hl => ?_)
  refine lv_aload_n hx hb dX0_are_2 rfl (lv_at hl 0 rfl) ?_
  obtain ⟨x1, ex1, hf⟩ := gBind hf
  refine g_alen X hR 3 (by decide) ex1 dX0_are_3 ?_
  refine lv_istore_n (lv' := [(2, .int x1), (1, .ref a0), (0, .ref a0)]) hx hb dX0_are_4 rfl hl (by decide) rfl (fun ls hl => ?_)
  refine lv_iconst (v := (0 : Int32)) hx hb dX0_are_5 (by decide) ?_
  refine lv_istore_n (lv' := [(3, .int (0 : Int32)), (2, .int x1), (1, .ref a0), (0, .ref a0)]) hx hb dX0_are_6 rfl hl (by decide) rfl (fun ls hl => ?_)
  have L7_q2 : ∀ (f : Nat) (v7_1 : Nat) (v7_2 : Int32) (v7_3 : Int32) (H : Heap) (locs : List Loc) (ls : Array Slot), sp_X0_are_L7 G F h f v7_1 v7_2 v7_3 = some r → gRep G h n H → va_S (gFr G) s.heap H locs → lv_has ls 5 [(1, .ref v7_1), (2, .int v7_2), (3, .int v7_3)] → W p l e ({ frames := 0, cells := 0, slots := 0, locals := 0 } : Room) s m ([.ref a0] : List Value).toArray below meth c H locs 0 0 (MQ below (gQ G (some (.int r)) h n) ([.ref a0] : List Value).toArray s 0 0 (gFr G)) (F0 m 7 ls []) := by
    clear hf
    intro f
    induction f with
    | zero =>
      intro v7_1 v7_2 v7_3 H locs ls hf
      cases hf
    | succ f ih =>
      intro v7_1 v7_2 v7_3 H locs ls hf hR hS hl
      rw [sp_X0_are_L7] at hf
      refine lv_iload_n hx hb dX0_are_7 rfl (lv_at hl 2 rfl) ?_
      refine lv_iload_n hx hb dX0_are_8 rfl (lv_at hl 1 rfl) ?_
      refine lv_icmp_ge (tgt := 30) hx hb dX0_are_9 (by decide) (fun c801 => ?_) (fun c801 => ?_)
      · replace hf := gIfp c801 hf
        refine lv_iconst (v := (1 : Int32)) hx hb dX0_are_30 (by decide) ?_
        obtain rfl := gO1 hf
        exact g_zret X hR hS _ rfl rfl ⟨Nat.le_of_ble_eq_true rfl, Nat.le_of_ble_eq_true rfl⟩ dX0_are_31
      · replace hf := gIfn c801 hf
        refine lv_aload_n hx hb dX0_are_12 rfl (lv_at hl 0 rfl) ?_
        refine lv_iload_n hx hb dX0_are_13 rfl (lv_at hl 2 rfl) ?_
        obtain ⟨x802, ex802, hf⟩ := gBind hf
        refine g_zald X hR ex802 dX0_are_14 ?_
        refine lv_istore (lv' := [(4, .int x802), (1, .ref v7_1), (2, .int v7_2), (3, .int v7_3)]) hx hb dX0_are_15 hl (by decide) rfl (fun ls hl => ?_)
        refine lv_iload hx hb dX0_are_17 (lv_at hl 0 rfl) ?_
        refine lv_if_ne (tgt := 24) hx hb dX0_are_19 (by decide) (fun c803 => ?_) (fun c803 => ?_)
        · replace hf := gIfn c803 hf
          refine lv_iinc (v := v7_3 + (1 : Int32)) (lv' := [(3, .int (v7_3 + (1 : Int32))), (4, .int x802), (1, .ref v7_1), (2, .int v7_2)]) hx hb dX0_are_24 hl (k := 3) rfl rfl (by decide) rfl (fun ls hl => ?_)
          refine lv_goto (tgt := 7) hx hb dX0_are_27 (by decide) ?_
          exact ih v7_1 v7_2 (v7_3 + (1 : Int32)) _ _ _ hf hR hS (lv_sub hl [2, 3, 0] rfl)
        · replace hf := gIfp c803 hf
          refine lv_iconst (v := (0 : Int32)) hx hb dX0_are_22 (by decide) ?_
          obtain rfl := gO1 hf
          exact g_zret X hR hS _ rfl rfl ⟨Nat.le_of_ble_eq_true rfl, Nat.le_of_ble_eq_true rfl⟩ dX0_are_23
  exact L7_q2 F a0 x1 (0 : Int32) _ _ _ hf hR hS (lv_sub hl [2, 1, 0] rfl)

def sp_X0_signal (G : gG) (F : Nat) (h : gH) (n : Nat) (a0 : Nat) (p1 : Int32) (p2 : Int32) : Option (Int32 × gH × Nat) :=
 (sp_X0_in G F (va_up h n (some (.inl (3, 2, .inl (fun _ => 0))))) p1.toInt64 (0 : Int64) (3 : Int64)).bind fun u1 =>
 (gSb 3 (va_up h n (some (.inl (3, 2, .inl (fun _ => 0))))) n (0 : Int32) u1).bind fun h2 =>
 (sp_X0_in G F h2 p2.toInt64 (0 : Int64) (63 : Int64)).bind fun u3 =>
 (gSb 3 h2 n (1 : Int32) u3).bind fun h4 =>
 (sp_X0_are G F h4 n).bind fun u5 =>
 if u5 = 0 then
 some (((-2 : Int32), h4, n + 1)) else
 (gGr 0 h4 a0 0).bind fun x7 =>
 (gGi 1 h4 x7 0).bind fun x8 =>
 if x8 = 0 then
 (gGr 0 h4 a0 0).bind fun x10 =>
 (gGi 1 h4 x10 13).bind fun x11 =>
 if x11 = (8 : Int32) then
 some (((-4 : Int32), h4, n + 1)) else
 (gGr 0 h4 a0 0).bind fun x13 =>
 (gGr 1 h4 x13 22).bind fun x14 =>
 (gGr 0 h4 a0 0).bind fun x15 =>
 (gGi 1 h4 x15 13).bind fun x16 =>
 (gAr 5 h4 x14 x16).bind fun a17 =>
 (sp_X3_of G F h4 p1).bind fun u18 =>
 if gIs 2 h4 a17 = true then
 (sp_X2_begins G F h4 a17 u18).bind fun u20 =>
 if gIs 2 u20 a17 = true then
 (sp_X2_goesOver G F u20 a17 p2).bind fun u22 =>
 (gGr 0 u22 a0 0).bind fun x23 =>
 (gGi 1 u22 x23 13).bind fun x24 =>
 (gPv 1 u22 x23 13 (.int (x24 + (1 : Int32)))).bind fun h25 =>
 (gGr 0 h25 a0 0).bind fun x26 =>
 if gIs 1 h25 x26 = true then
 (sp_X1_settles G F h25 x26).bind fun u28 =>
 (gGr 0 u28 a0 0).bind fun x29 =>
 (gGi 1 u28 x29 13).bind fun x30 =>
 some ((x30 - (1 : Int32), u28, n + 1)) else none else none else none else
 some (((-3 : Int32), h4, n + 1))
theorem yk_X0_signal : gVk yX0_signal cX0_signal 4 (some .int) 2 0 := ⟨q826, q827, q92, q828, ⟨by decide +kernel, by decide +kernel, by decide +kernel⟩, rfl⟩
set_option maxHeartbeats 4000000 in
theorem m_X0_signal (l : Launch) (G : gG) (F : Nat) (h : gH) (n : Nat) (a0 : Nat) (p1 : Int32) (p2 : Int32) {r : Int32} {h' : gH} {n' : Nat} (hf : sp_X0_signal G F h n a0 p1 p2 = some (r, h', n')) : gMet l G yX0_signal cX0_signal 4 (some .int) 5 108 1 2 [.ref a0, .int p1, .int p2] h n (some (.int r)) h' n' := by
  refine gEnter (by decide) [(0, .ref a0), (1, .int p1), (2, .int p2)] rfl (Nat.le_of_ble_eq_true rfl) ?_
  intro p e s m below meth c H ls X hin hR hS hl
  have hx := X.1.1
  have hb := X.1.2.1
  unfold sp_X0_signal at hf
  generalize ([] : List Loc) = locs at hS ⊢
  refine lv_iconst (v := (2 : Int32)) hx hb dX0_signal_0 (by decide) ?_
  refine g_newa3 X hR hS q879 2 (by decide) (by decide) (by decide) ⟨Nat.le_of_ble_eq_true rfl, Nat.le_of_ble_eq_true rfl⟩ dX0_signal_1 (fun H hR hS => ?_)
  refine lv_dup hx hb dX0_signal_3 rfl ?_
  refine lv_iconst (v := (0 : Int32)) hx hb dX0_signal_4 (by decide) ?_
  refine lv_iload_n hx hb dX0_signal_5 rfl (lv_at hl 1 rfl) ?_
  refine lv_i2l (v := p1.toInt64) hx hb dX0_signal_6 rfl ?_
  refine lv_lconst (v := (0 : Int64)) hx hb dX0_signal_7 (by decide) ?_
  refine lv_ldc2 (v := (3 : Int64)) hx hb X.1.2.2.2.1 (X.1.2.2.2.2 _ q829) dX0_signal_8 ?_
  obtain ⟨u1, eu1, hf⟩ := gBind hf
  refine g_callSi X hR hS [.long p1.toInt64, .long (0 : Int64), .long (3 : Int64)] (m_X0_in l G F (va_up h n (some (.inl (3, 2, .inl (fun _ => 0))))) (n + 1) p1.toInt64 (0 : Int64) (3 : Int64) eu1) yk_X0_in q830 rfl hl.1 ⟨Nat.le_of_ble_eq_true rfl, Nat.le_of_ble_eq_true rfl⟩ ⟨Nat.le_of_ble_eq_true rfl, Nat.le_of_ble_eq_true rfl⟩ rfl (Nat.le_of_ble_eq_true rfl) dX0_signal_11 (fun H locs hR hS => ?_)
  obtain ⟨h2, eh2, hf⟩ := gBind hf
  refine g_zast X hR hS eh2 dX0_signal_14 (fun H locs hR hS => ?_)
  refine lv_dup hx hb dX0_signal_15 rfl ?_
  refine lv_iconst (v := (1 : Int32)) hx hb dX0_signal_16 (by decide) ?_
  refine lv_iload_n hx hb dX0_signal_17 rfl (lv_at hl 2 rfl) ?_
  refine lv_i2l (v := p2.toInt64) hx hb dX0_signal_18 rfl ?_
  refine lv_lconst (v := (0 : Int64)) hx hb dX0_signal_19 (by decide) ?_
  refine lv_ldc2 (v := (63 : Int64)) hx hb X.1.2.2.2.1 (X.1.2.2.2.2 _ q833) dX0_signal_20 ?_
  obtain ⟨u3, eu3, hf⟩ := gBind hf
  refine g_callSi X hR hS [.long p2.toInt64, .long (0 : Int64), .long (63 : Int64)] (m_X0_in l G F h2 (n + 1) p2.toInt64 (0 : Int64) (63 : Int64) eu3) yk_X0_in q830 rfl hl.1 ⟨Nat.le_of_ble_eq_true rfl, Nat.le_of_ble_eq_true rfl⟩ ⟨Nat.le_of_ble_eq_true rfl, Nat.le_of_ble_eq_true rfl⟩ rfl (Nat.le_of_ble_eq_true rfl) dX0_signal_23 (fun H locs hR hS => ?_)
  obtain ⟨h4, eh4, hf⟩ := gBind hf
  refine g_zast X hR hS eh4 dX0_signal_26 (fun H locs hR hS => ?_)
  obtain ⟨u5, eu5, hf⟩ := gBind hf
  refine g_callSi X hR hS [.ref n] (m_X0_are l G F h4 (n + 1) n eu5) yk_X0_are q834 rfl hl.1 ⟨Nat.le_of_ble_eq_true rfl, Nat.le_of_ble_eq_true rfl⟩ ⟨Nat.le_of_ble_eq_true rfl, Nat.le_of_ble_eq_true rfl⟩ rfl (Nat.le_of_ble_eq_true rfl) dX0_signal_27 (fun H locs hR hS => ?_)
  refine lv_if_ne (tgt := 36) hx hb dX0_signal_30 (by decide) (fun c6 => ?_) (fun c6 => ?_)
  · replace hf := gIfn c6 hf
    refine lv_aload_n hx hb dX0_signal_36 rfl (lv_at hl 0 rfl) ?_
    obtain ⟨x7, ex7, hf⟩ := gBind hf
    refine g_getr X hR gk_X0 0 (by decide) q792 rfl ex7 dX0_signal_37 ?_
    obtain ⟨x8, ex8, hf⟩ := gBind hf
    refine g_getiN X hR gk_X1 0 (by decide) q623 rfl ex8 dX0_signal_40 ?_
    refine lv_if_eq (tgt := 49) hx hb dX0_signal_43 (by decide) (fun c9 => ?_) (fun c9 => ?_)
    · replace hf := gIfp c9 hf
      refine lv_aload_n hx hb dX0_signal_49 rfl (lv_at hl 0 rfl) ?_
      obtain ⟨x10, ex10, hf⟩ := gBind hf
      refine g_getr X hR gk_X0 0 (by decide) q792 rfl ex10 dX0_signal_50 ?_
      obtain ⟨x11, ex11, hf⟩ := gBind hf
      refine g_getiN X hR gk_X1 13 (by decide) q649 rfl ex11 dX0_signal_53 ?_
      refine lv_bipush (v := (8 : Int32)) hx hb dX0_signal_56 (by decide) ?_
      refine lv_icmp_ne (tgt := 64) hx hb dX0_signal_58 (by decide) (fun c12 => ?_) (fun c12 => ?_)
      · replace hf := gIfn c12 hf
        refine lv_aload_n hx hb dX0_signal_64 rfl (lv_at hl 0 rfl) ?_
        obtain ⟨x13, ex13, hf⟩ := gBind hf
        refine g_getr X hR gk_X0 0 (by decide) q792 rfl ex13 dX0_signal_65 ?_
        obtain ⟨x14, ex14, hf⟩ := gBind hf
        refine g_getrN X hR gk_X1 22 (by decide) q666 rfl ex14 dX0_signal_68 ?_
        refine lv_aload_n hx hb dX0_signal_71 rfl (lv_at hl 0 rfl) ?_
        obtain ⟨x15, ex15, hf⟩ := gBind hf
        refine g_getr X hR gk_X0 0 (by decide) q792 rfl ex15 dX0_signal_72 ?_
        obtain ⟨x16, ex16, hf⟩ := gBind hf
        refine g_getiN X hR gk_X1 13 (by decide) q649 rfl ex16 dX0_signal_75 ?_
        obtain ⟨a17, ea17, hf⟩ := gBind hf
        refine g_aald X hR 5 (by decide) rfl ea17 dX0_signal_78 ?_
        refine lv_astore_n (lv' := [(3, .ref a17), (0, .ref a0), (1, .int p1), (2, .int p2)]) hx hb dX0_signal_79 rfl hl (by decide) rfl (fun ls hl => ?_)
        refine lv_aload_n hx hb dX0_signal_80 rfl (lv_at hl 0 rfl) ?_
        refine lv_iload_n hx hb dX0_signal_81 rfl (lv_at hl 2 rfl) ?_
        obtain ⟨u18, eu18, hf⟩ := gBind hf
        refine g_callSr X hR hS [.int p1] (m_X3_of l G F h4 (n + 1) p1 eu18) yk_X3_of q837 rfl hl.1 ⟨Nat.le_of_ble_eq_true rfl, Nat.le_of_ble_eq_true rfl⟩ ⟨Nat.le_of_ble_eq_true rfl, Nat.le_of_ble_eq_true rfl⟩ rfl (Nat.le_of_ble_eq_true rfl) dX0_signal_82 (fun H locs hR hS => ?_)
        obtain ⟨k19, hf⟩ := gChk hf
        obtain ⟨u20, eu20, hf⟩ := gBind hf
        refine g_callVv X hR hS [.ref u18] (m_X2_begins l G F h4 (n + 1) a17 u18 eu20) yk_X2_begins q847 k19 rfl hl.1 ⟨Nat.le_of_ble_eq_true rfl, Nat.le_of_ble_eq_true rfl⟩ ⟨Nat.le_of_ble_eq_true rfl, Nat.le_of_ble_eq_true rfl⟩ rfl (Nat.le_of_ble_eq_true rfl) dX0_signal_85 (fun H locs hR hS => ?_)
        refine lv_aload_n hx hb dX0_signal_88 rfl (lv_at hl 0 rfl) ?_
        refine lv_iload_n hx hb dX0_signal_89 rfl (lv_at hl 3 rfl) ?_
        obtain ⟨k21, hf⟩ := gChk hf
        obtain ⟨u22, eu22, hf⟩ := gBind hf
        refine g_callVv X hR hS [.int p2] (m_X2_goesOver l G F u20 (n + 1) a17 p2 eu22) yk_X2_goesOver q855 k21 rfl hl.1 ⟨Nat.le_of_ble_eq_true rfl, Nat.le_of_ble_eq_true rfl⟩ ⟨Nat.le_of_ble_eq_true rfl, Nat.le_of_ble_eq_true rfl⟩ rfl (Nat.le_of_ble_eq_true rfl) dX0_signal_90 (fun H locs hR hS => ?_)
        refine lv_aload_n hx hb dX0_signal_93 rfl (lv_at hl 1 rfl) ?_
        obtain ⟨x23, ex23, hf⟩ := gBind hf
        refine g_getr X hR gk_X0 0 (by decide) q792 rfl ex23 dX0_signal_94 ?_
        refine lv_dup hx hb dX0_signal_97 rfl ?_
        obtain ⟨x24, ex24, hf⟩ := gBind hf
        refine g_getiN X hR gk_X1 13 (by decide) q649 rfl ex24 dX0_signal_98 ?_
        refine lv_iconst (v := (1 : Int32)) hx hb dX0_signal_101 (by decide) ?_
        refine lv_iadd hx hb dX0_signal_102 ?_
        obtain ⟨h25, eh25, hf⟩ := gBind hf
        refine g_putN X hR hS gk_X1 13 (by decide) q649 rfl rfl eh25 rfl rfl rfl dX0_signal_103 (fun H locs hR hS => ?_)
        refine lv_aload_n hx hb dX0_signal_106 rfl (lv_at hl 1 rfl) ?_
        obtain ⟨x26, ex26, hf⟩ := gBind hf
        refine g_getr X hR gk_X0 0 (by decide) q792 rfl ex26 dX0_signal_107 ?_
        obtain ⟨k27, hf⟩ := gChk hf
        obtain ⟨u28, eu28, hf⟩ := gBind hf
        refine g_callVv X hR hS [] (m_X1_settles l G F h25 (n + 1) x26 eu28) yk_X1_settles q903 k27 rfl hl.1 ⟨Nat.le_of_ble_eq_true rfl, Nat.le_of_ble_eq_true rfl⟩ ⟨Nat.le_of_ble_eq_true rfl, Nat.le_of_ble_eq_true rfl⟩ rfl (Nat.le_of_ble_eq_true rfl) dX0_signal_110 (fun H locs hR hS => ?_)
        refine lv_aload_n hx hb dX0_signal_113 rfl (lv_at hl 1 rfl) ?_
        obtain ⟨x29, ex29, hf⟩ := gBind hf
        refine g_getr X hR gk_X0 0 (by decide) q792 rfl ex29 dX0_signal_114 ?_
        obtain ⟨x30, ex30, hf⟩ := gBind hf
        refine g_getiN X hR gk_X1 13 (by decide) q649 rfl ex30 dX0_signal_117 ?_
        refine lv_iconst (v := (1 : Int32)) hx hb dX0_signal_120 (by decide) ?_
        refine lv_isub hx hb dX0_signal_121 ?_
        obtain ⟨rfl, rfl, rfl⟩ := gO3 hf
        exact g_iret X hR hS _ rfl ⟨Nat.le_of_ble_eq_true rfl, Nat.le_of_ble_eq_true rfl⟩ dX0_signal_122
      · replace hf := gIfp c12 hf
        refine lv_bipush (v := (-4 : Int32)) hx hb dX0_signal_61 (by decide) ?_
        obtain ⟨rfl, rfl, rfl⟩ := gO3 hf
        exact g_iret X hR hS _ rfl ⟨Nat.le_of_ble_eq_true rfl, Nat.le_of_ble_eq_true rfl⟩ dX0_signal_63
    · replace hf := gIfn c9 hf
      refine lv_bipush (v := (-3 : Int32)) hx hb dX0_signal_46 (by decide) ?_
      obtain ⟨rfl, rfl, rfl⟩ := gO3 hf
      exact g_iret X hR hS _ rfl ⟨Nat.le_of_ble_eq_true rfl, Nat.le_of_ble_eq_true rfl⟩ dX0_signal_48
  · replace hf := gIfp c6 hf
    refine lv_bipush (v := (-2 : Int32)) hx hb dX0_signal_33 (by decide) ?_
    obtain ⟨rfl, rfl, rfl⟩ := gO3 hf
    exact g_iret X hR hS _ rfl ⟨Nat.le_of_ble_eq_true rfl, Nat.le_of_ble_eq_true rfl⟩ dX0_signal_35

def sp_X0_isSignal (G : gG) (F : Nat) (h : gH) (a0 : Nat) (p1 : Int32) : Option (Int32) :=
 (gGr 0 h a0 0).bind fun x1 =>
 (gGi 1 h x1 13).bind fun x2 =>
 (sp_X0_in G F h p1.toInt64 (0 : Int64) ((x2 - (1 : Int32)).toInt64)).bind fun u3 =>
 if u3 = 0 ∨ u3 = 1 then
 some (u3) else none
theorem yk_X0_isSignal : gVk yX0_isSignal cX0_isSignal 2 (some .boolean) 1 0 := ⟨q933, qs5, q92, q934, ⟨by decide +kernel, by decide +kernel, by decide +kernel⟩, rfl⟩
set_option maxHeartbeats 4000000 in
theorem m_X0_isSignal (l : Launch) (G : gG) (F : Nat) (h : gH) (n : Nat) (a0 : Nat) (p1 : Int32) {r : Int32} (hf : sp_X0_isSignal G F h a0 p1 = some r) : gMet l G yX0_isSignal cX0_isSignal 2 (some .boolean) 1 25 0 0 [.ref a0, .int p1] h n (some (.int r)) h n := by
  refine gEnter (by decide) [(0, .ref a0), (1, .int p1)] rfl (Nat.le_of_ble_eq_true rfl) ?_
  intro p e s m below meth c H ls X hin hR hS hl
  have hx := X.1.1
  have hb := X.1.2.1
  unfold sp_X0_isSignal at hf
  generalize ([] : List Loc) = locs at hS ⊢
  refine lv_iload_n hx hb dX0_isSignal_0 rfl (lv_at hl 1 rfl) ?_
  refine lv_i2l (v := p1.toInt64) hx hb dX0_isSignal_1 rfl ?_
  refine lv_lconst (v := (0 : Int64)) hx hb dX0_isSignal_2 (by decide) ?_
  refine lv_aload_n hx hb dX0_isSignal_3 rfl (lv_at hl 0 rfl) ?_
  obtain ⟨x1, ex1, hf⟩ := gBind hf
  refine g_getr X hR gk_X0 0 (by decide) q792 rfl ex1 dX0_isSignal_4 ?_
  obtain ⟨x2, ex2, hf⟩ := gBind hf
  refine g_getiN X hR gk_X1 13 (by decide) q649 rfl ex2 dX0_isSignal_7 ?_
  refine lv_iconst (v := (1 : Int32)) hx hb dX0_isSignal_10 (by decide) ?_
  refine lv_isub hx hb dX0_isSignal_11 ?_
  refine lv_i2l (v := (x2 - (1 : Int32)).toInt64) hx hb dX0_isSignal_12 rfl ?_
  obtain ⟨u3, eu3, hf⟩ := gBind hf
  refine g_callSi X hR hS [.long p1.toInt64, .long (0 : Int64), .long ((x2 - (1 : Int32)).toInt64)] (m_X0_in l G F h n p1.toInt64 (0 : Int64) ((x2 - (1 : Int32)).toInt64) eu3) yk_X0_in q830 rfl hl.1 ⟨Nat.le_of_ble_eq_true rfl, Nat.le_of_ble_eq_true rfl⟩ ⟨Nat.le_of_ble_eq_true rfl, Nat.le_of_ble_eq_true rfl⟩ rfl (Nat.le_of_ble_eq_true rfl) dX0_isSignal_13 (fun H locs hR hS => ?_)
  obtain ⟨k4, hf⟩ := gChk hf
  obtain rfl := gO1 hf
  exact g_zret X hR hS _ rfl (gNz k4).1 ⟨Nat.le_of_ble_eq_true rfl, Nat.le_of_ble_eq_true rfl⟩ dX0_isSignal_16

def sp_X0_goes (G : gG) (F : Nat) (h : gH) (a0 : Nat) (p1 : Int32) (p2 : Int32) : Option (Int32 × gH) :=
 if gIs 0 h a0 = true then
 (sp_X0_isSignal G F h a0 p1).bind fun u2 =>
 if u2 = 0 then
 some (((-1 : Int32), h)) else
 (gGr 0 h a0 0).bind fun x4 =>
 (gGr 1 h x4 22).bind fun x5 =>
 (gAr 5 h x5 p1).bind fun a6 =>
 (sp_X0_in G F h p2.toInt64 (0 : Int64) (63 : Int64)).bind fun u7 =>
 if u7 = 0 then
 some (((-2 : Int32), h)) else
 (gGr 2 h a6 2).bind fun x9 =>
 if gIs 14 h x9 = true then
 (sp_J1_get G F h x9 p2).bind fun u11 =>
 if u11 = 0 then
 (gGr 0 h a0 0).bind fun x13 =>
 (gGi 1 h x13 14).bind fun x14 =>
 if x14 ≤ 0 then
 (gGi 2 h a6 4).bind fun x16 =>
 if x16 = (8 : Int32) then
 some (((-4 : Int32), h)) else
 if gIs 2 h a6 = true then
 (sp_X2_goesOver G F h a6 p2).bind fun u19 =>
 (gGr 0 u19 a0 0).bind fun x20 =>
 if gIs 1 u19 x20 = true then
 (sp_X1_settles G F u19 x20).bind fun u22 =>
 (gGi 2 u22 a6 4).bind fun x23 =>
 some ((x23, u22)) else none else none else
 some (((-3 : Int32), h)) else
 some (((-2 : Int32), h)) else none else none
theorem yk_X0_goes : gVk yX0_goes cX0_goes 4 (some .int) 2 0 := ⟨q928, q929, q92, q930, ⟨by decide +kernel, by decide +kernel, by decide +kernel⟩, rfl⟩
set_option maxHeartbeats 4000000 in
theorem m_X0_goes (l : Launch) (G : gG) (F : Nat) (h : gH) (n : Nat) (a0 : Nat) (p1 : Int32) (p2 : Int32) {r : Int32} {h' : gH} (hf : sp_X0_goes G F h a0 p1 p2 = some (r, h')) : gMet l G yX0_goes cX0_goes 4 (some .int) 5 108 0 0 [.ref a0, .int p1, .int p2] h n (some (.int r)) h' n := by
  refine gEnter (by decide) [(0, .ref a0), (1, .int p1), (2, .int p2)] rfl (Nat.le_of_ble_eq_true rfl) ?_
  intro p e s m below meth c H ls X hin hR hS hl
  have hx := X.1.1
  have hb := X.1.2.1
  unfold sp_X0_goes at hf
  generalize ([] : List Loc) = locs at hS ⊢
  refine lv_aload_n hx hb dX0_goes_0 rfl (lv_at hl 0 rfl) ?_
  refine lv_iload_n hx hb dX0_goes_1 rfl (lv_at hl 1 rfl) ?_
  obtain ⟨k1, hf⟩ := gChk hf
  obtain ⟨u2, eu2, hf⟩ := gBind hf
  refine g_callVi X hR hS [.int p1] (m_X0_isSignal l G F h n a0 p1 eu2) yk_X0_isSignal q931 k1 rfl hl.1 ⟨Nat.le_of_ble_eq_true rfl, Nat.le_of_ble_eq_true rfl⟩ ⟨Nat.le_of_ble_eq_true rfl, Nat.le_of_ble_eq_true rfl⟩ rfl (Nat.le_of_ble_eq_true rfl) dX0_goes_2 (fun H locs hR hS => ?_)
  refine lv_if_ne (tgt := 10) hx hb dX0_goes_5 (by decide) (fun c3 => ?_) (fun c3 => ?_)
  · replace hf := gIfn c3 hf
    refine lv_aload_n hx hb dX0_goes_10 rfl (lv_at hl 0 rfl) ?_
    obtain ⟨x4, ex4, hf⟩ := gBind hf
    refine g_getr X hR gk_X0 0 (by decide) q792 rfl ex4 dX0_goes_11 ?_
    obtain ⟨x5, ex5, hf⟩ := gBind hf
    refine g_getrN X hR gk_X1 22 (by decide) q666 rfl ex5 dX0_goes_14 ?_
    refine lv_iload_n hx hb dX0_goes_17 rfl (lv_at hl 1 rfl) ?_
    obtain ⟨a6, ea6, hf⟩ := gBind hf
    refine g_aald X hR 5 (by decide) rfl ea6 dX0_goes_18 ?_
    refine lv_astore_n (lv' := [(3, .ref a6), (0, .ref a0), (1, .int p1), (2, .int p2)]) hx hb dX0_goes_19 rfl hl (by decide) rfl (fun ls hl => ?_)
    refine lv_iload_n hx hb dX0_goes_20 rfl (lv_at hl 3 rfl) ?_
    refine lv_i2l (v := p2.toInt64) hx hb dX0_goes_21 rfl ?_
    refine lv_lconst (v := (0 : Int64)) hx hb dX0_goes_22 (by decide) ?_
    refine lv_ldc2 (v := (63 : Int64)) hx hb X.1.2.2.2.1 (X.1.2.2.2.2 _ q833) dX0_goes_23 ?_
    obtain ⟨u7, eu7, hf⟩ := gBind hf
    refine g_callSi X hR hS [.long p2.toInt64, .long (0 : Int64), .long (63 : Int64)] (m_X0_in l G F h n p2.toInt64 (0 : Int64) (63 : Int64) eu7) yk_X0_in q830 rfl hl.1 ⟨Nat.le_of_ble_eq_true rfl, Nat.le_of_ble_eq_true rfl⟩ ⟨Nat.le_of_ble_eq_true rfl, Nat.le_of_ble_eq_true rfl⟩ rfl (Nat.le_of_ble_eq_true rfl) dX0_goes_26 (fun H locs hR hS => ?_)
    refine lv_if_eq (tgt := 43) hx hb dX0_goes_29 (by decide) (fun c8 => ?_) (fun c8 => ?_)
    · replace hf := gIfp c8 hf
      refine lv_bipush (v := (-2 : Int32)) hx hb dX0_goes_43 (by decide) ?_
      obtain ⟨rfl, rfl⟩ := gO2 hf
      exact g_iret X hR hS _ rfl ⟨Nat.le_of_ble_eq_true rfl, Nat.le_of_ble_eq_true rfl⟩ dX0_goes_45
    · replace hf := gIfn c8 hf
      refine lv_aload_n hx hb dX0_goes_32 rfl (lv_at hl 0 rfl) ?_
      obtain ⟨x9, ex9, hf⟩ := gBind hf
      refine g_getrN X hR gk_X2 2 (by decide) q517 rfl ex9 dX0_goes_33 ?_
      refine lv_iload_n hx hb dX0_goes_36 rfl (lv_at hl 3 rfl) ?_
      obtain ⟨k10, hf⟩ := gChk hf
      obtain ⟨u11, eu11, hf⟩ := gBind hf
      refine g_callVi X hR hS [.int p2] (m_J1_get l G F h n x9 p2 eu11) yk_J1_get q935 k10 rfl hl.1 ⟨Nat.le_of_ble_eq_true rfl, Nat.le_of_ble_eq_true rfl⟩ ⟨Nat.le_of_ble_eq_true rfl, Nat.le_of_ble_eq_true rfl⟩ rfl (Nat.le_of_ble_eq_true rfl) dX0_goes_37 (fun H locs hR hS => ?_)
      refine lv_if_eq (tgt := 46) hx hb dX0_goes_40 (by decide) (fun c12 => ?_) (fun c12 => ?_)
      · replace hf := gIfp c12 hf
        refine lv_aload_n hx hb dX0_goes_46 rfl (lv_at hl 1 rfl) ?_
        obtain ⟨x13, ex13, hf⟩ := gBind hf
        refine g_getr X hR gk_X0 0 (by decide) q792 rfl ex13 dX0_goes_47 ?_
        obtain ⟨x14, ex14, hf⟩ := gBind hf
        refine g_getiN X hR gk_X1 14 (by decide) q651 rfl ex14 dX0_goes_50 ?_
        refine lv_if_le (tgt := 59) hx hb dX0_goes_53 (by decide) (fun c15 => ?_) (fun c15 => ?_)
        · replace hf := gIfp c15 hf
          refine lv_aload_n hx hb dX0_goes_59 rfl (lv_at hl 0 rfl) ?_
          obtain ⟨x16, ex16, hf⟩ := gBind hf
          refine g_getiN X hR gk_X2 4 (by decide) q525 rfl ex16 dX0_goes_60 ?_
          refine lv_bipush (v := (8 : Int32)) hx hb dX0_goes_63 (by decide) ?_
          refine lv_icmp_ne (tgt := 71) hx hb dX0_goes_65 (by decide) (fun c17 => ?_) (fun c17 => ?_)
          · replace hf := gIfn c17 hf
            refine lv_aload_n hx hb dX0_goes_71 rfl (lv_at hl 0 rfl) ?_
            refine lv_iload_n hx hb dX0_goes_72 rfl (lv_at hl 3 rfl) ?_
            obtain ⟨k18, hf⟩ := gChk hf
            obtain ⟨u19, eu19, hf⟩ := gBind hf
            refine g_callVv X hR hS [.int p2] (m_X2_goesOver l G F h n a6 p2 eu19) yk_X2_goesOver q855 k18 rfl hl.1 ⟨Nat.le_of_ble_eq_true rfl, Nat.le_of_ble_eq_true rfl⟩ ⟨Nat.le_of_ble_eq_true rfl, Nat.le_of_ble_eq_true rfl⟩ rfl (Nat.le_of_ble_eq_true rfl) dX0_goes_73 (fun H locs hR hS => ?_)
            refine lv_aload_n hx hb dX0_goes_76 rfl (lv_at hl 1 rfl) ?_
            obtain ⟨x20, ex20, hf⟩ := gBind hf
            refine g_getr X hR gk_X0 0 (by decide) q792 rfl ex20 dX0_goes_77 ?_
            obtain ⟨k21, hf⟩ := gChk hf
            obtain ⟨u22, eu22, hf⟩ := gBind hf
            refine g_callVv X hR hS [] (m_X1_settles l G F u19 n x20 eu22) yk_X1_settles q903 k21 rfl hl.1 ⟨Nat.le_of_ble_eq_true rfl, Nat.le_of_ble_eq_true rfl⟩ ⟨Nat.le_of_ble_eq_true rfl, Nat.le_of_ble_eq_true rfl⟩ rfl (Nat.le_of_ble_eq_true rfl) dX0_goes_80 (fun H locs hR hS => ?_)
            refine lv_aload_n hx hb dX0_goes_83 rfl (lv_at hl 0 rfl) ?_
            obtain ⟨x23, ex23, hf⟩ := gBind hf
            refine g_getiN X hR gk_X2 4 (by decide) q525 rfl ex23 dX0_goes_84 ?_
            obtain ⟨rfl, rfl⟩ := gO2 hf
            exact g_iret X hR hS _ rfl ⟨Nat.le_of_ble_eq_true rfl, Nat.le_of_ble_eq_true rfl⟩ dX0_goes_87
          · replace hf := gIfp c17 hf
            refine lv_bipush (v := (-4 : Int32)) hx hb dX0_goes_68 (by decide) ?_
            obtain ⟨rfl, rfl⟩ := gO2 hf
            exact g_iret X hR hS _ rfl ⟨Nat.le_of_ble_eq_true rfl, Nat.le_of_ble_eq_true rfl⟩ dX0_goes_70
        · replace hf := gIfn c15 hf
          refine lv_bipush (v := (-3 : Int32)) hx hb dX0_goes_56 (by decide) ?_
          obtain ⟨rfl, rfl⟩ := gO2 hf
          exact g_iret X hR hS _ rfl ⟨Nat.le_of_ble_eq_true rfl, Nat.le_of_ble_eq_true rfl⟩ dX0_goes_58
      · replace hf := gIfn c12 hf
        refine lv_bipush (v := (-2 : Int32)) hx hb dX0_goes_43 (by decide) ?_
        obtain ⟨rfl, rfl⟩ := gO2 hf
        exact g_iret X hR hS _ rfl ⟨Nat.le_of_ble_eq_true rfl, Nat.le_of_ble_eq_true rfl⟩ dX0_goes_45
  · replace hf := gIfp c3 hf
    refine lv_iconst (v := (-1 : Int32)) hx hb dX0_goes_8 (by decide) ?_
    obtain ⟨rfl, rfl⟩ := gO2 hf
    exact g_iret X hR hS _ rfl ⟨Nat.le_of_ble_eq_true rfl, Nat.le_of_ble_eq_true rfl⟩ dX0_goes_9

def sp_X0_tell (G : gG) (F : Nat) (h : gH) (a0 : Nat) (p1 : Int32) (p2 : Int32) (p3 : Int32) : Option (Int32 × gH) :=
 if gIs 0 h a0 = true then
 (sp_X0_isSignal G F h a0 p1).bind fun u2 =>
 if u2 = 0 then
 some (((-1 : Int32), h)) else
 (sp_X0_in G F h p2.toInt64 (0 : Int64) (3 : Int64)).bind fun u4 =>
 if u4 = 0 then
 some (((-1 : Int32), h)) else
 (gGr 0 h a0 0).bind fun x6 =>
 (gGr 1 h x6 22).bind fun x7 =>
 (gAr 5 h x7 p1).bind fun a8 =>
 (if p2 = 0 then
 if gIs 2 h a8 = true then
 (sp_X2_most G F h a8).bind fun u18 =>
 (sp_J11_min G F h (20 : Int32) u18).bind fun u19 =>
 (sp_X0_in G F h p3.toInt64 (1 : Int64) u19.toInt64).bind fun u20 =>
 some (u20) else none else
 if p2 = (1 : Int32) then
 if gIs 2 h a8 = true then
 (sp_X2_least G F h a8).bind fun u15 =>
 (sp_X0_in G F h p3.toInt64 u15.toInt64 (99 : Int64)).bind fun u16 =>
 some (u16) else none else
 if p2 = (2 : Int32) then
 (sp_X0_in G F h p3.toInt64 (1 : Int64) (9 : Int64)).bind fun u13 =>
 some (u13) else
 (sp_X0_in G F h p3.toInt64 (0 : Int64) (60 : Int64)).bind fun u12 =>
 some (u12)).bind fun j21 =>
 if j21 = 0 then
 some (((-2 : Int32), h)) else
 (gGr 2 h a8 3).bind fun x23 =>
 (gAi 0 h x23 p2).bind fun x24 =>
 (gGr 2 h a8 3).bind fun x25 =>
 (gSi h x25 p2 p3).bind fun h26 =>
 some ((x24, h26)) else none
theorem yk_X0_tell : gVk yX0_tell cX0_tell 7 (some .int) 3 0 := ⟨q937, q938, q92, q939, ⟨by decide +kernel, by decide +kernel, by decide +kernel⟩, rfl⟩
set_option maxHeartbeats 4000000 in
theorem m_X0_tell (l : Launch) (G : gG) (F : Nat) (h : gH) (n : Nat) (a0 : Nat) (p1 : Int32) (p2 : Int32) (p3 : Int32) {r : Int32} {h' : gH} (hf : sp_X0_tell G F h a0 p1 p2 p3 = some (r, h')) : gMet l G yX0_tell cX0_tell 7 (some .int) 2 46 0 0 [.ref a0, .int p1, .int p2, .int p3] h n (some (.int r)) h' n := by
  refine gEnter (by decide) [(0, .ref a0), (1, .int p1), (2, .int p2), (3, .int p3)] rfl (Nat.le_of_ble_eq_true rfl) ?_
  intro p e s m below meth c H ls X hin hR hS hl
  have hx := X.1.1
  have hb := X.1.2.1
  unfold sp_X0_tell at hf
  generalize ([] : List Loc) = locs at hS ⊢
  refine lv_aload_n hx hb dX0_tell_0 rfl (lv_at hl 0 rfl) ?_
  refine lv_iload_n hx hb dX0_tell_1 rfl (lv_at hl 1 rfl) ?_
  obtain ⟨k1, hf⟩ := gChk hf
  obtain ⟨u2, eu2, hf⟩ := gBind hf
  refine g_callVi X hR hS [.int p1] (m_X0_isSignal l G F h n a0 p1 eu2) yk_X0_isSignal q931 k1 rfl hl.1 ⟨Nat.le_of_ble_eq_true rfl, Nat.le_of_ble_eq_true rfl⟩ ⟨Nat.le_of_ble_eq_true rfl, Nat.le_of_ble_eq_true rfl⟩ rfl (Nat.le_of_ble_eq_true rfl) dX0_tell_2 (fun H locs hR hS => ?_)
  refine lv_if_eq (tgt := 20) hx hb dX0_tell_5 (by decide) (fun c3 => ?_) (fun c3 => ?_)
  · replace hf := gIfp c3 hf
    refine lv_iconst (v := (-1 : Int32)) hx hb dX0_tell_20 (by decide) ?_
    obtain ⟨rfl, rfl⟩ := gO2 hf
    exact g_iret X hR hS _ rfl ⟨Nat.le_of_ble_eq_true rfl, Nat.le_of_ble_eq_true rfl⟩ dX0_tell_21
  · replace hf := gIfn c3 hf
    refine lv_iload_n hx hb dX0_tell_8 rfl (lv_at hl 2 rfl) ?_
    refine lv_i2l (v := p2.toInt64) hx hb dX0_tell_9 rfl ?_
    refine lv_lconst (v := (0 : Int64)) hx hb dX0_tell_10 (by decide) ?_
    refine lv_ldc2 (v := (3 : Int64)) hx hb X.1.2.2.2.1 (X.1.2.2.2.2 _ q829) dX0_tell_11 ?_
    obtain ⟨u4, eu4, hf⟩ := gBind hf
    refine g_callSi X hR hS [.long p2.toInt64, .long (0 : Int64), .long (3 : Int64)] (m_X0_in l G F h n p2.toInt64 (0 : Int64) (3 : Int64) eu4) yk_X0_in q830 rfl hl.1 ⟨Nat.le_of_ble_eq_true rfl, Nat.le_of_ble_eq_true rfl⟩ ⟨Nat.le_of_ble_eq_true rfl, Nat.le_of_ble_eq_true rfl⟩ rfl (Nat.le_of_ble_eq_true rfl) dX0_tell_14 (fun H locs hR hS => ?_)
    refine lv_if_ne (tgt := 22) hx hb dX0_tell_17 (by decide) (fun c5 => ?_) (fun c5 => ?_)
    · replace hf := gIfn c5 hf
      refine lv_aload_n hx hb dX0_tell_22 rfl (lv_at hl 0 rfl) ?_
      obtain ⟨x6, ex6, hf⟩ := gBind hf
      refine g_getr X hR gk_X0 0 (by decide) q792 rfl ex6 dX0_tell_23 ?_
      obtain ⟨x7, ex7, hf⟩ := gBind hf
      refine g_getrN X hR gk_X1 22 (by decide) q666 rfl ex7 dX0_tell_26 ?_
      refine lv_iload_n hx hb dX0_tell_29 rfl (lv_at hl 1 rfl) ?_
      obtain ⟨a8, ea8, hf⟩ := gBind hf
      refine g_aald X hR 5 (by decide) rfl ea8 dX0_tell_30 ?_
      refine lv_astore (lv' := [(4, .ref a8), (0, .ref a0), (1, .int p1), (2, .int p2), (3, .int p3)]) hx hb dX0_tell_31 hl (by decide) rfl (fun ls hl => ?_)
      refine lv_iload_n hx hb dX0_tell_33 rfl (lv_at hl 3 rfl) ?_
      obtain ⟨j21, ej21, hf⟩ := gBind hf
      have J105_j21 : ∀ (H : Heap) (locs : List Loc) (ls : Array Slot), gRep G h n H → va_S (gFr G) s.heap H locs → lv_has ls 7 [(2, .int p2), (3, .int p3), (4, .ref a8)] → W p l e ({ frames := 2, cells := 0, slots := 0, locals := 46 } : Room) s m ([.ref a0, .int p1, .int p2, .int p3] : List Value).toArray below meth c H locs 0 0 (MQ below (gQ G (some (.int r)) h' n) ([.ref a0, .int p1, .int p2, .int p3] : List Value).toArray s 0 0 (gFr G)) (F0 m 105 ls [.int j21]) := by
        intro H locs ls hR hS hl
        refine lv_istore (lv' := [(5, .int j21), (2, .int p2), (3, .int p3), (4, .ref a8)]) hx hb dX0_tell_105 hl (by decide) rfl (fun ls hl => ?_)
        refine lv_iload hx hb dX0_tell_107 (lv_at hl 0 rfl) ?_
        refine lv_if_ne (tgt := 115) hx hb dX0_tell_109 (by decide) (fun c22 => ?_) (fun c22 => ?_)
        · replace hf := gIfn c22 hf
          refine lv_aload hx hb dX0_tell_115 (lv_at hl 3 rfl) ?_
          obtain ⟨x23, ex23, hf⟩ := gBind hf
          refine g_getrN X hR gk_X2 3 (by decide) q520 rfl ex23 dX0_tell_117 ?_
          refine lv_iload_n hx hb dX0_tell_120 rfl (lv_at hl 1 rfl) ?_
          obtain ⟨x24, ex24, hf⟩ := gBind hf
          refine g_iald X hR ex24 dX0_tell_121 ?_
          refine lv_istore (lv' := [(6, .int x24), (5, .int j21), (2, .int p2), (3, .int p3), (4, .ref a8)]) hx hb dX0_tell_122 hl (by decide) rfl (fun ls hl => ?_)
          refine lv_aload hx hb dX0_tell_124 (lv_at hl 4 rfl) ?_
          obtain ⟨x25, ex25, hf⟩ := gBind hf
          refine g_getrN X hR gk_X2 3 (by decide) q520 rfl ex25 dX0_tell_126 ?_
          refine lv_iload_n hx hb dX0_tell_129 rfl (lv_at hl 2 rfl) ?_
          refine lv_iload_n hx hb dX0_tell_130 rfl (lv_at hl 3 rfl) ?_
          obtain ⟨h26, eh26, hf⟩ := gBind hf
          refine g_iast X hR hS eh26 dX0_tell_131 (fun H locs hR hS => ?_)
          refine lv_iload hx hb dX0_tell_132 (lv_at hl 0 rfl) ?_
          obtain ⟨rfl, rfl⟩ := gO2 hf
          exact g_iret X hR hS _ rfl ⟨Nat.le_of_ble_eq_true rfl, Nat.le_of_ble_eq_true rfl⟩ dX0_tell_134
        · replace hf := gIfp c22 hf
          refine lv_bipush (v := (-2 : Int32)) hx hb dX0_tell_112 (by decide) ?_
          obtain ⟨rfl, rfl⟩ := gO2 hf
          exact g_iret X hR hS _ rfl ⟨Nat.le_of_ble_eq_true rfl, Nat.le_of_ble_eq_true rfl⟩ dX0_tell_114
      replace hf := ej21
      clear ej21
      refine lv_if_ne (tgt := 57) hx hb dX0_tell_34 (by decide) (fun c9 => ?_) (fun c9 => ?_)
      · replace hf := gIfn c9 hf
        refine lv_iload_n hx hb dX0_tell_57 rfl (lv_at hl 3 rfl) ?_
        refine lv_iconst (v := (1 : Int32)) hx hb dX0_tell_58 (by decide) ?_
        refine lv_icmp_ne (tgt := 79) hx hb dX0_tell_59 (by decide) (fun c10 => ?_) (fun c10 => ?_)
        · replace hf := gIfn c10 hf
          refine lv_iload_n hx hb dX0_tell_79 rfl (lv_at hl 3 rfl) ?_
          refine lv_iconst (v := (2 : Int32)) hx hb dX0_tell_80 (by decide) ?_
          refine lv_icmp_ne (tgt := 96) hx hb dX0_tell_81 (by decide) (fun c11 => ?_) (fun c11 => ?_)
          · replace hf := gIfn c11 hf
            refine lv_iload_n hx hb dX0_tell_96 rfl (lv_at hl 4 rfl) ?_
            refine lv_i2l (v := p3.toInt64) hx hb dX0_tell_97 rfl ?_
            refine lv_lconst (v := (0 : Int64)) hx hb dX0_tell_98 (by decide) ?_
            refine lv_ldc2 (v := (60 : Int64)) hx hb X.1.2.2.2.1 (X.1.2.2.2.2 _ q951) dX0_tell_99 ?_
            obtain ⟨u12, eu12, hf⟩ := gBind hf
            refine g_callSi X hR hS [.long p3.toInt64, .long (0 : Int64), .long (60 : Int64)] (m_X0_in l G F h n p3.toInt64 (0 : Int64) (60 : Int64) eu12) yk_X0_in q830 rfl hl.1 ⟨Nat.le_of_ble_eq_true rfl, Nat.le_of_ble_eq_true rfl⟩ ⟨Nat.le_of_ble_eq_true rfl, Nat.le_of_ble_eq_true rfl⟩ rfl (Nat.le_of_ble_eq_true rfl) dX0_tell_102 (fun H locs hR hS => ?_)
            obtain rfl := gO1 hf
            exact J105_j21 _ _ _ hR hS (lv_sub hl [3, 4, 0] rfl)
          · replace hf := gIfp c11 hf
            refine lv_iload_n hx hb dX0_tell_84 rfl (lv_at hl 4 rfl) ?_
            refine lv_i2l (v := p3.toInt64) hx hb dX0_tell_85 rfl ?_
            refine lv_lconst (v := (1 : Int64)) hx hb dX0_tell_86 (by decide) ?_
            refine lv_ldc2 (v := (9 : Int64)) hx hb X.1.2.2.2.1 (X.1.2.2.2.2 _ q950) dX0_tell_87 ?_
            obtain ⟨u13, eu13, hf⟩ := gBind hf
            refine g_callSi X hR hS [.long p3.toInt64, .long (1 : Int64), .long (9 : Int64)] (m_X0_in l G F h n p3.toInt64 (1 : Int64) (9 : Int64) eu13) yk_X0_in q830 rfl hl.1 ⟨Nat.le_of_ble_eq_true rfl, Nat.le_of_ble_eq_true rfl⟩ ⟨Nat.le_of_ble_eq_true rfl, Nat.le_of_ble_eq_true rfl⟩ rfl (Nat.le_of_ble_eq_true rfl) dX0_tell_90 (fun H locs hR hS => ?_)
            refine lv_goto (tgt := 105) hx hb dX0_tell_93 (by decide) ?_
            obtain rfl := gO1 hf
            exact J105_j21 _ _ _ hR hS (lv_sub hl [3, 4, 0] rfl)
        · replace hf := gIfp c10 hf
          refine lv_iload_n hx hb dX0_tell_62 rfl (lv_at hl 4 rfl) ?_
          refine lv_i2l (v := p3.toInt64) hx hb dX0_tell_63 rfl ?_
          refine lv_aload hx hb dX0_tell_64 (lv_at hl 0 rfl) ?_
          obtain ⟨k14, hf⟩ := gChk hf
          obtain ⟨u15, eu15, hf⟩ := gBind hf
          refine g_callVi X hR hS [] (m_X2_least l G F h n a8 eu15) yk_X2_least q945 k14 rfl hl.1 ⟨Nat.le_of_ble_eq_true rfl, Nat.le_of_ble_eq_true rfl⟩ ⟨Nat.le_of_ble_eq_true rfl, Nat.le_of_ble_eq_true rfl⟩ rfl (Nat.le_of_ble_eq_true rfl) dX0_tell_66 (fun H locs hR hS => ?_)
          refine lv_i2l (v := u15.toInt64) hx hb dX0_tell_69 rfl ?_
          refine lv_ldc2 (v := (99 : Int64)) hx hb X.1.2.2.2.1 (X.1.2.2.2.2 _ q949) dX0_tell_70 ?_
          obtain ⟨u16, eu16, hf⟩ := gBind hf
          refine g_callSi X hR hS [.long p3.toInt64, .long u15.toInt64, .long (99 : Int64)] (m_X0_in l G F h n p3.toInt64 u15.toInt64 (99 : Int64) eu16) yk_X0_in q830 rfl hl.1 ⟨Nat.le_of_ble_eq_true rfl, Nat.le_of_ble_eq_true rfl⟩ ⟨Nat.le_of_ble_eq_true rfl, Nat.le_of_ble_eq_true rfl⟩ rfl (Nat.le_of_ble_eq_true rfl) dX0_tell_73 (fun H locs hR hS => ?_)
          refine lv_goto (tgt := 105) hx hb dX0_tell_76 (by decide) ?_
          obtain rfl := gO1 hf
          exact J105_j21 _ _ _ hR hS (lv_sub hl [3, 4, 0] rfl)
      · replace hf := gIfp c9 hf
        refine lv_iload_n hx hb dX0_tell_37 rfl (lv_at hl 4 rfl) ?_
        refine lv_i2l (v := p3.toInt64) hx hb dX0_tell_38 rfl ?_
        refine lv_lconst (v := (1 : Int64)) hx hb dX0_tell_39 (by decide) ?_
        refine lv_bipush (v := (20 : Int32)) hx hb dX0_tell_40 (by decide) ?_
        refine lv_aload hx hb dX0_tell_42 (lv_at hl 0 rfl) ?_
        obtain ⟨k17, hf⟩ := gChk hf
        obtain ⟨u18, eu18, hf⟩ := gBind hf
        refine g_callVi X hR hS [] (m_X2_most l G F h n a8 eu18) yk_X2_most q940 k17 rfl hl.1 ⟨Nat.le_of_ble_eq_true rfl, Nat.le_of_ble_eq_true rfl⟩ ⟨Nat.le_of_ble_eq_true rfl, Nat.le_of_ble_eq_true rfl⟩ rfl (Nat.le_of_ble_eq_true rfl) dX0_tell_44 (fun H locs hR hS => ?_)
        obtain ⟨u19, eu19, hf⟩ := gBind hf
        refine g_callSi X hR hS [.int (20 : Int32), .int u18] (m_J11_min l G F h n (20 : Int32) u18 eu19) yk_J11_min q944 rfl hl.1 ⟨Nat.le_of_ble_eq_true rfl, Nat.le_of_ble_eq_true rfl⟩ ⟨Nat.le_of_ble_eq_true rfl, Nat.le_of_ble_eq_true rfl⟩ rfl (Nat.le_of_ble_eq_true rfl) dX0_tell_47 (fun H locs hR hS => ?_)
        refine lv_i2l (v := u19.toInt64) hx hb dX0_tell_50 rfl ?_
        obtain ⟨u20, eu20, hf⟩ := gBind hf
        refine g_callSi X hR hS [.long p3.toInt64, .long (1 : Int64), .long u19.toInt64] (m_X0_in l G F h n p3.toInt64 (1 : Int64) u19.toInt64 eu20) yk_X0_in q830 rfl hl.1 ⟨Nat.le_of_ble_eq_true rfl, Nat.le_of_ble_eq_true rfl⟩ ⟨Nat.le_of_ble_eq_true rfl, Nat.le_of_ble_eq_true rfl⟩ rfl (Nat.le_of_ble_eq_true rfl) dX0_tell_51 (fun H locs hR hS => ?_)
        refine lv_goto (tgt := 105) hx hb dX0_tell_54 (by decide) ?_
        obtain rfl := gO1 hf
        exact J105_j21 _ _ _ hR hS (lv_sub hl [3, 4, 0] rfl)
    · replace hf := gIfp c5 hf
      refine lv_iconst (v := (-1 : Int32)) hx hb dX0_tell_20 (by decide) ?_
      obtain ⟨rfl, rfl⟩ := gO2 hf
      exact g_iret X hR hS _ rfl ⟨Nat.le_of_ble_eq_true rfl, Nat.le_of_ble_eq_true rfl⟩ dX0_tell_21

def sp_X0_feed (G : gG) (F : Nat) (h : gH) (a0 : Nat) (p1 : Int32) : Option (Int32 × gH) :=
 (sp_X0_in G F h p1.toInt64 (0 : Int64) (127 : Int64)).bind fun u1 =>
 if u1 = 0 then
 some (((-2 : Int32), h)) else
 (gGi 0 h a0 5).bind fun x3 =>
 if x3 = (100 : Int32) then
 some (((-4 : Int32), h)) else
 (gGr 0 h a0 4).bind fun x5 =>
 (gGi 0 h a0 5).bind fun x6 =>
 (gSb 2 h x5 x6 p1.toInt8.toInt32).bind fun h7 =>
 (gGi 0 h7 a0 5).bind fun x8 =>
 (gPv 0 h7 a0 5 (.int (x8 + (1 : Int32)))).bind fun h9 =>
 (gGi 0 h9 a0 5).bind fun x10 =>
 some ((x10, h9))
theorem yk_X0_feed : gVk yX0_feed cX0_feed 2 (some .int) 1 0 := ⟨q953, q954, q92, q955, ⟨by decide +kernel, by decide +kernel, by decide +kernel⟩, rfl⟩
set_option maxHeartbeats 4000000 in
theorem m_X0_feed (l : Launch) (G : gG) (F : Nat) (h : gH) (n : Nat) (a0 : Nat) (p1 : Int32) {r : Int32} {h' : gH} (hf : sp_X0_feed G F h a0 p1 = some (r, h')) : gMet l G yX0_feed cX0_feed 2 (some .int) 1 25 0 0 [.ref a0, .int p1] h n (some (.int r)) h' n := by
  refine gEnter (by decide) [(0, .ref a0), (1, .int p1)] rfl (Nat.le_of_ble_eq_true rfl) ?_
  intro p e s m below meth c H ls X hin hR hS hl
  have hx := X.1.1
  have hb := X.1.2.1
  unfold sp_X0_feed at hf
  generalize ([] : List Loc) = locs at hS ⊢
  refine lv_iload_n hx hb dX0_feed_0 rfl (lv_at hl 1 rfl) ?_
  refine lv_i2l (v := p1.toInt64) hx hb dX0_feed_1 rfl ?_
  refine lv_lconst (v := (0 : Int64)) hx hb dX0_feed_2 (by decide) ?_
  refine lv_ldc2 (v := (127 : Int64)) hx hb X.1.2.2.2.1 (X.1.2.2.2.2 _ q956) dX0_feed_3 ?_
  obtain ⟨u1, eu1, hf⟩ := gBind hf
  refine g_callSi X hR hS [.long p1.toInt64, .long (0 : Int64), .long (127 : Int64)] (m_X0_in l G F h n p1.toInt64 (0 : Int64) (127 : Int64) eu1) yk_X0_in q830 rfl hl.1 ⟨Nat.le_of_ble_eq_true rfl, Nat.le_of_ble_eq_true rfl⟩ ⟨Nat.le_of_ble_eq_true rfl, Nat.le_of_ble_eq_true rfl⟩ rfl (Nat.le_of_ble_eq_true rfl) dX0_feed_6 (fun H locs hR hS => ?_)
  refine lv_if_ne (tgt := 15) hx hb dX0_feed_9 (by decide) (fun c2 => ?_) (fun c2 => ?_)
  · replace hf := gIfn c2 hf
    refine lv_aload_n hx hb dX0_feed_15 rfl (lv_at hl 0 rfl) ?_
    obtain ⟨x3, ex3, hf⟩ := gBind hf
    refine g_geti X hR gk_X0 5 (by decide) q799 rfl ex3 dX0_feed_16 ?_
    refine lv_bipush (v := (100 : Int32)) hx hb dX0_feed_19 (by decide) ?_
    refine lv_icmp_ne (tgt := 27) hx hb dX0_feed_21 (by decide) (fun c4 => ?_) (fun c4 => ?_)
    · replace hf := gIfn c4 hf
      refine lv_aload_n hx hb dX0_feed_27 rfl (lv_at hl 0 rfl) ?_
      obtain ⟨x5, ex5, hf⟩ := gBind hf
      refine g_getr X hR gk_X0 4 (by decide) q797 rfl ex5 dX0_feed_28 ?_
      refine lv_aload_n hx hb dX0_feed_31 rfl (lv_at hl 0 rfl) ?_
      obtain ⟨x6, ex6, hf⟩ := gBind hf
      refine g_geti X hR gk_X0 5 (by decide) q799 rfl ex6 dX0_feed_32 ?_
      refine lv_iload_n hx hb dX0_feed_35 rfl (lv_at hl 1 rfl) ?_
      refine lv_i2b (v := p1.toInt8.toInt32) hx hb dX0_feed_36 rfl ?_
      obtain ⟨h7, eh7, hf⟩ := gBind hf
      refine g_bast X hR hS eh7 dX0_feed_37 (fun H locs hR hS => ?_)
      refine lv_aload_n hx hb dX0_feed_38 rfl (lv_at hl 0 rfl) ?_
      refine lv_dup hx hb dX0_feed_39 rfl ?_
      obtain ⟨x8, ex8, hf⟩ := gBind hf
      refine g_geti X hR gk_X0 5 (by decide) q799 rfl ex8 dX0_feed_40 ?_
      refine lv_iconst (v := (1 : Int32)) hx hb dX0_feed_43 (by decide) ?_
      refine lv_iadd hx hb dX0_feed_44 ?_
      obtain ⟨h9, eh9, hf⟩ := gBind hf
      refine g_put X hR hS gk_X0 5 (by decide) q799 rfl rfl eh9 rfl rfl rfl dX0_feed_45 (fun H locs hR hS => ?_)
      refine lv_aload_n hx hb dX0_feed_48 rfl (lv_at hl 0 rfl) ?_
      obtain ⟨x10, ex10, hf⟩ := gBind hf
      refine g_geti X hR gk_X0 5 (by decide) q799 rfl ex10 dX0_feed_49 ?_
      obtain ⟨rfl, rfl⟩ := gO2 hf
      exact g_iret X hR hS _ rfl ⟨Nat.le_of_ble_eq_true rfl, Nat.le_of_ble_eq_true rfl⟩ dX0_feed_52
    · replace hf := gIfp c4 hf
      refine lv_bipush (v := (-4 : Int32)) hx hb dX0_feed_24 (by decide) ?_
      obtain ⟨rfl, rfl⟩ := gO2 hf
      exact g_iret X hR hS _ rfl ⟨Nat.le_of_ble_eq_true rfl, Nat.le_of_ble_eq_true rfl⟩ dX0_feed_26
  · replace hf := gIfp c2 hf
    refine lv_bipush (v := (-2 : Int32)) hx hb dX0_feed_12 (by decide) ?_
    obtain ⟨rfl, rfl⟩ := gO2 hf
    exact g_iret X hR hS _ rfl ⟨Nat.le_of_ble_eq_true rfl, Nat.le_of_ble_eq_true rfl⟩ dX0_feed_14

def sp_X0_safety (G : gG) (F : Nat) (h : gH) (a0 : Nat) (p1 : Int32) : Option (Int32 × gH) :=
 (sp_X0_in G F h p1.toInt64 (0 : Int64) (5 : Int64)).bind fun u1 =>
 if u1 = 0 then
 some (((-2 : Int32), h)) else
 (gGr 0 h a0 0).bind fun x3 =>
 (gGi 1 h x3 0).bind fun x4 =>
 if x4 = 0 then
 (gGr 0 h a0 0).bind fun x6 =>
 (gGi 1 h x6 9).bind fun x7 =>
 (gGr 0 h a0 0).bind fun x8 =>
 (gPv 1 h x8 9 (.int p1)).bind fun h9 =>
 (gGr 0 h9 a0 0).bind fun x10 =>
 if gIs 1 h9 x10 = true then
 (sp_X1_settles G F h9 x10).bind fun u12 =>
 some ((x7, u12)) else none else
 some (((-3 : Int32), h))
theorem yk_X0_safety : gVk yX0_safety cX0_safety 3 (some .int) 1 0 := ⟨q1057, q1058, q92, q1059, ⟨by decide +kernel, by decide +kernel, by decide +kernel⟩, rfl⟩
set_option maxHeartbeats 4000000 in
theorem m_X0_safety (l : Launch) (G : gG) (F : Nat) (h : gH) (n : Nat) (a0 : Nat) (p1 : Int32) {r : Int32} {h' : gH} (hf : sp_X0_safety G F h a0 p1 = some (r, h')) : gMet l G yX0_safety cX0_safety 3 (some .int) 4 92 0 0 [.ref a0, .int p1] h n (some (.int r)) h' n := by
  refine gEnter (by decide) [(0, .ref a0), (1, .int p1)] rfl (Nat.le_of_ble_eq_true rfl) ?_
  intro p e s m below meth c H ls X hin hR hS hl
  have hx := X.1.1
  have hb := X.1.2.1
  unfold sp_X0_safety at hf
  generalize ([] : List Loc) = locs at hS ⊢
  refine lv_iload_n hx hb dX0_safety_0 rfl (lv_at hl 1 rfl) ?_
  refine lv_i2l (v := p1.toInt64) hx hb dX0_safety_1 rfl ?_
  refine lv_lconst (v := (0 : Int64)) hx hb dX0_safety_2 (by decide) ?_
  refine lv_ldc2 (v := (5 : Int64)) hx hb X.1.2.2.2.1 (X.1.2.2.2.2 _ q1060) dX0_safety_3 ?_
  obtain ⟨u1, eu1, hf⟩ := gBind hf
  refine g_callSi X hR hS [.long p1.toInt64, .long (0 : Int64), .long (5 : Int64)] (m_X0_in l G F h n p1.toInt64 (0 : Int64) (5 : Int64) eu1) yk_X0_in q830 rfl hl.1 ⟨Nat.le_of_ble_eq_true rfl, Nat.le_of_ble_eq_true rfl⟩ ⟨Nat.le_of_ble_eq_true rfl, Nat.le_of_ble_eq_true rfl⟩ rfl (Nat.le_of_ble_eq_true rfl) dX0_safety_6 (fun H locs hR hS => ?_)
  refine lv_if_ne (tgt := 15) hx hb dX0_safety_9 (by decide) (fun c2 => ?_) (fun c2 => ?_)
  · replace hf := gIfn c2 hf
    refine lv_aload_n hx hb dX0_safety_15 rfl (lv_at hl 0 rfl) ?_
    obtain ⟨x3, ex3, hf⟩ := gBind hf
    refine g_getr X hR gk_X0 0 (by decide) q792 rfl ex3 dX0_safety_16 ?_
    obtain ⟨x4, ex4, hf⟩ := gBind hf
    refine g_getiN X hR gk_X1 0 (by decide) q623 rfl ex4 dX0_safety_19 ?_
    refine lv_if_eq (tgt := 28) hx hb dX0_safety_22 (by decide) (fun c5 => ?_) (fun c5 => ?_)
    · replace hf := gIfp c5 hf
      refine lv_aload_n hx hb dX0_safety_28 rfl (lv_at hl 0 rfl) ?_
      obtain ⟨x6, ex6, hf⟩ := gBind hf
      refine g_getr X hR gk_X0 0 (by decide) q792 rfl ex6 dX0_safety_29 ?_
      obtain ⟨x7, ex7, hf⟩ := gBind hf
      refine g_getiN X hR gk_X1 9 (by decide) q641 rfl ex7 dX0_safety_32 ?_
      refine lv_istore_n (lv' := [(2, .int x7), (0, .ref a0), (1, .int p1)]) hx hb dX0_safety_35 rfl hl (by decide) rfl (fun ls hl => ?_)
      refine lv_aload_n hx hb dX0_safety_36 rfl (lv_at hl 1 rfl) ?_
      obtain ⟨x8, ex8, hf⟩ := gBind hf
      refine g_getr X hR gk_X0 0 (by decide) q792 rfl ex8 dX0_safety_37 ?_
      refine lv_iload_n hx hb dX0_safety_40 rfl (lv_at hl 2 rfl) ?_
      obtain ⟨h9, eh9, hf⟩ := gBind hf
      refine g_putN X hR hS gk_X1 9 (by decide) q641 rfl rfl eh9 rfl rfl rfl dX0_safety_41 (fun H locs hR hS => ?_)
      refine lv_aload_n hx hb dX0_safety_44 rfl (lv_at hl 1 rfl) ?_
      obtain ⟨x10, ex10, hf⟩ := gBind hf
      refine g_getr X hR gk_X0 0 (by decide) q792 rfl ex10 dX0_safety_45 ?_
      obtain ⟨k11, hf⟩ := gChk hf
      obtain ⟨u12, eu12, hf⟩ := gBind hf
      refine g_callVv X hR hS [] (m_X1_settles l G F h9 n x10 eu12) yk_X1_settles q903 k11 rfl hl.1 ⟨Nat.le_of_ble_eq_true rfl, Nat.le_of_ble_eq_true rfl⟩ ⟨Nat.le_of_ble_eq_true rfl, Nat.le_of_ble_eq_true rfl⟩ rfl (Nat.le_of_ble_eq_true rfl) dX0_safety_48 (fun H locs hR hS => ?_)
      refine lv_iload_n hx hb dX0_safety_51 rfl (lv_at hl 0 rfl) ?_
      obtain ⟨rfl, rfl⟩ := gO2 hf
      exact g_iret X hR hS _ rfl ⟨Nat.le_of_ble_eq_true rfl, Nat.le_of_ble_eq_true rfl⟩ dX0_safety_52
    · replace hf := gIfn c5 hf
      refine lv_bipush (v := (-3 : Int32)) hx hb dX0_safety_25 (by decide) ?_
      obtain ⟨rfl, rfl⟩ := gO2 hf
      exact g_iret X hR hS _ rfl ⟨Nat.le_of_ble_eq_true rfl, Nat.le_of_ble_eq_true rfl⟩ dX0_safety_27
  · replace hf := gIfp c2 hf
    refine lv_bipush (v := (-2 : Int32)) hx hb dX0_safety_12 (by decide) ?_
    obtain ⟨rfl, rfl⟩ := gO2 hf
    exact g_iret X hR hS _ rfl ⟨Nat.le_of_ble_eq_true rfl, Nat.le_of_ble_eq_true rfl⟩ dX0_safety_14

def sp_X0_meetIn_L2 (G : gG) (F : Nat) (h2L : gH) : Nat → Nat → Int32 → Int32 → Option (Int32)
  | 0, _, _, _ => none
  | f + 1, v2_0, v2_1, v2_2 =>
    (gGr 0 h2L v2_0 0).bind fun x301 =>
    (gGi 1 h2L x301 13).bind fun x302 =>
    if x302 ≤ v2_2 then
    some ((0 : Int32)) else
    if ((v2_1 >>> (v2_2 &&& 31)) &&& (1 : Int32)) = (1 : Int32) then
    (gGr 0 h2L v2_0 0).bind fun x305 =>
    if gIs 1 h2L x305 = true then
    (sp_X1_meets G F h2L x305 v2_2).bind fun u307 =>
    if (u307 &&& v2_1) = 0 then
    sp_X0_meetIn_L2 G F h2L f v2_0 v2_1 (v2_2 + (1 : Int32)) else
    some ((1 : Int32)) else none else
    sp_X0_meetIn_L2 G F h2L f v2_0 v2_1 (v2_2 + (1 : Int32))
def sp_X0_meetIn (G : gG) (F : Nat) (h : gH) (a0 : Nat) (p1 : Int32) : Option (Int32) :=
 sp_X0_meetIn_L2 G F h F a0 p1 (0 : Int32)
theorem yk_X0_meetIn : gVk yX0_meetIn cX0_meetIn 3 (some .boolean) 1 0 := ⟨q1068, qs11, q92, q1069, ⟨by decide +kernel, by decide +kernel, by decide +kernel⟩, rfl⟩
set_option maxHeartbeats 4000000 in
theorem m_X0_meetIn (l : Launch) (G : gG) (F : Nat) (h : gH) (n : Nat) (a0 : Nat) (p1 : Int32) {r : Int32} (hf : sp_X0_meetIn G F h a0 p1 = some r) : gMet l G yX0_meetIn cX0_meetIn 3 (some .boolean) 3 67 0 0 [.ref a0, .int p1] h n (some (.int r)) h n := by
  refine gEnter (by decide) [(0, .ref a0), (1, .int p1)] rfl (Nat.le_of_ble_eq_true rfl) ?_
  intro p e s m below meth c H ls X hin hR hS hl
  have hx := X.1.1
  have hb := X.1.2.1
  unfold sp_X0_meetIn at hf
  generalize ([] : List Loc) = locs at hS ⊢
  refine lv_iconst (v := (0 : Int32)) hx hb dX0_meetIn_0 (by decide) ?_
  refine lv_istore_n (lv' := [(2, .int (0 : Int32)), (0, .ref a0), (1, .int p1)]) hx hb dX0_meetIn_1 rfl hl (by decide) rfl (fun ls hl => ?_)
  have L2_q1 : ∀ (f : Nat) (v2_0 : Nat) (v2_1 : Int32) (v2_2 : Int32) (H : Heap) (locs : List Loc) (ls : Array Slot), sp_X0_meetIn_L2 G F h f v2_0 v2_1 v2_2 = some r → gRep G h n H → va_S (gFr G) s.heap H locs → lv_has ls 3 [(0, .ref v2_0), (1, .int v2_1), (2, .int v2_2)] → W p l e ({ frames := 3, cells := 0, slots := 0, locals := 67 } : Room) s m ([.ref a0, .int p1] : List Value).toArray below meth c H locs 0 0 (MQ below (gQ G (some (.int r)) h n) ([.ref a0, .int p1] : List Value).toArray s 0 0 (gFr G)) (F0 m 2 ls []) := by
    clear hf
    intro f
    induction f with
    | zero =>
      intro v2_0 v2_1 v2_2 H locs ls hf
      cases hf
    | succ f ih =>
      intro v2_0 v2_1 v2_2 H locs ls hf hR hS hl
      rw [sp_X0_meetIn_L2] at hf
      refine lv_iload_n hx hb dX0_meetIn_2 rfl (lv_at hl 2 rfl) ?_
      refine lv_aload_n hx hb dX0_meetIn_3 rfl (lv_at hl 0 rfl) ?_
      obtain ⟨x301, ex301, hf⟩ := gBind hf
      refine g_getr X hR gk_X0 0 (by decide) q792 rfl ex301 dX0_meetIn_4 ?_
      obtain ⟨x302, ex302, hf⟩ := gBind hf
      refine g_getiN X hR gk_X1 13 (by decide) q649 rfl ex302 dX0_meetIn_7 ?_
      refine lv_icmp_ge (tgt := 43) hx hb dX0_meetIn_10 (by decide) (fun c303 => ?_) (fun c303 => ?_)
      · replace hf := gIfp c303 hf
        refine lv_iconst (v := (0 : Int32)) hx hb dX0_meetIn_43 (by decide) ?_
        obtain rfl := gO1 hf
        exact g_zret X hR hS _ rfl rfl ⟨Nat.le_of_ble_eq_true rfl, Nat.le_of_ble_eq_true rfl⟩ dX0_meetIn_44
      · replace hf := gIfn c303 hf
        refine lv_iload_n hx hb dX0_meetIn_13 rfl (lv_at hl 1 rfl) ?_
        refine lv_iload_n hx hb dX0_meetIn_14 rfl (lv_at hl 2 rfl) ?_
        refine lv_ishr hx hb dX0_meetIn_15 ?_
        refine lv_iconst (v := (1 : Int32)) hx hb dX0_meetIn_16 (by decide) ?_
        refine lv_iand hx hb dX0_meetIn_17 ?_
        refine lv_iconst (v := (1 : Int32)) hx hb dX0_meetIn_18 (by decide) ?_
        refine lv_icmp_ne (tgt := 37) hx hb dX0_meetIn_19 (by decide) (fun c304 => ?_) (fun c304 => ?_)
        · replace hf := gIfn c304 hf
          refine lv_iinc (v := v2_2 + (1 : Int32)) (lv' := [(2, .int (v2_2 + (1 : Int32))), (0, .ref v2_0), (1, .int v2_1)]) hx hb dX0_meetIn_37 hl (k := 2) rfl rfl (by decide) rfl (fun ls hl => ?_)
          refine lv_goto (tgt := 2) hx hb dX0_meetIn_40 (by decide) ?_
          exact ih v2_0 v2_1 (v2_2 + (1 : Int32)) _ _ _ hf hR hS (lv_sub hl [1, 2, 0] rfl)
        · replace hf := gIfp c304 hf
          refine lv_aload_n hx hb dX0_meetIn_22 rfl (lv_at hl 0 rfl) ?_
          obtain ⟨x305, ex305, hf⟩ := gBind hf
          refine g_getr X hR gk_X0 0 (by decide) q792 rfl ex305 dX0_meetIn_23 ?_
          refine lv_iload_n hx hb dX0_meetIn_26 rfl (lv_at hl 2 rfl) ?_
          obtain ⟨k306, hf⟩ := gChk hf
          obtain ⟨u307, eu307, hf⟩ := gBind hf
          refine g_callVi X hR hS [.int v2_2] (m_X1_meets l G F h n x305 v2_2 eu307) yk_X1_meets q1070 k306 rfl hl.1 ⟨Nat.le_of_ble_eq_true rfl, Nat.le_of_ble_eq_true rfl⟩ ⟨Nat.le_of_ble_eq_true rfl, Nat.le_of_ble_eq_true rfl⟩ rfl (Nat.le_of_ble_eq_true rfl) dX0_meetIn_27 (fun H locs hR hS => ?_)
          refine lv_iload_n hx hb dX0_meetIn_30 rfl (lv_at hl 1 rfl) ?_
          refine lv_iand hx hb dX0_meetIn_31 ?_
          refine lv_if_eq (tgt := 37) hx hb dX0_meetIn_32 (by decide) (fun c308 => ?_) (fun c308 => ?_)
          · replace hf := gIfp c308 hf
            refine lv_iinc (v := v2_2 + (1 : Int32)) (lv' := [(2, .int (v2_2 + (1 : Int32))), (0, .ref v2_0), (1, .int v2_1)]) hx hb dX0_meetIn_37 hl (k := 2) rfl rfl (by decide) rfl (fun ls hl => ?_)
            refine lv_goto (tgt := 2) hx hb dX0_meetIn_40 (by decide) ?_
            exact ih v2_0 v2_1 (v2_2 + (1 : Int32)) _ _ _ hf hR hS (lv_sub hl [1, 2, 0] rfl)
          · replace hf := gIfn c308 hf
            refine lv_iconst (v := (1 : Int32)) hx hb dX0_meetIn_35 (by decide) ?_
            obtain rfl := gO1 hf
            exact g_zret X hR hS _ rfl rfl ⟨Nat.le_of_ble_eq_true rfl, Nat.le_of_ble_eq_true rfl⟩ dX0_meetIn_36
  exact L2_q1 F a0 p1 (0 : Int32) _ _ _ hf hR hS (lv_sub hl [1, 2, 0] rfl)

def sp_X0_phase (G : gG) (F : Nat) (h : gH) (n : Nat) (a0 : Nat) (p1 : Int32) (p2 : Int32) : Option (Int32 × gH × Nat) :=
 (gGr 0 (va_up h n (some (.inl (3, 2, .inl (fun _ => 0))))) a0 0).bind fun x1 =>
 (gGi 1 (va_up h n (some (.inl (3, 2, .inl (fun _ => 0))))) x1 13).bind fun x2 =>
 (sp_X0_in G F (va_up h n (some (.inl (3, 2, .inl (fun _ => 0))))) p1.toInt64 (1 : Int64) ((((1 : Int32) <<< (x2 &&& 31)) - (1 : Int32)).toInt64)).bind fun u3 =>
 (gSb 3 (va_up h n (some (.inl (3, 2, .inl (fun _ => 0))))) n (0 : Int32) u3).bind fun h4 =>
 (sp_X0_in G F h4 p2.toInt64 (0 : Int64) (239 : Int64)).bind fun u5 =>
 (gSb 3 h4 n (1 : Int32) u5).bind fun h6 =>
 (sp_X0_are G F h6 n).bind fun u7 =>
 if u7 = 0 then
 some (((-2 : Int32), h6, n + 1)) else
 (gGr 0 h6 a0 0).bind fun x9 =>
 (gGi 1 h6 x9 0).bind fun x10 =>
 if x10 = 0 then
 if gIs 0 h6 a0 = true then
 (sp_X0_meetIn G F h6 a0 p1).bind fun u13 =>
 if u13 = 0 then
 (gGr 0 h6 a0 0).bind fun x15 =>
 (gGi 1 h6 x15 14).bind fun x16 =>
 if x16 = (6 : Int32) then
 some (((-4 : Int32), h6, n + 1)) else
 (gGr 0 h6 a0 0).bind fun x18 =>
 (gGr 1 h6 x18 23).bind fun x19 =>
 (gGr 0 h6 a0 0).bind fun x20 =>
 (gGi 1 h6 x20 14).bind fun x21 =>
 (gAr 6 h6 x19 x21).bind fun a22 =>
 if gIs 3 h6 a22 = true then
 (sp_X4_is G F h6 a22 p1 p2 (0 : Int32)).bind fun u24 =>
 (gGr 0 u24 a0 0).bind fun x25 =>
 (gGi 1 u24 x25 14).bind fun x26 =>
 (gPv 1 u24 x25 14 (.int (x26 + (1 : Int32)))).bind fun h27 =>
 (gGr 0 h27 a0 0).bind fun x28 =>
 (gGi 1 h27 x28 14).bind fun x29 =>
 some ((x29 - (1 : Int32), h27, n + 1)) else none else
 some (((-3 : Int32), h6, n + 1)) else none else
 some (((-3 : Int32), h6, n + 1))
theorem yk_X0_phase : gVk yX0_phase cX0_phase 3 (some .int) 2 0 := ⟨q1062, q1063, q92, q1064, ⟨by decide +kernel, by decide +kernel, by decide +kernel⟩, rfl⟩
set_option maxHeartbeats 4000000 in
theorem m_X0_phase (l : Launch) (G : gG) (F : Nat) (h : gH) (n : Nat) (a0 : Nat) (p1 : Int32) (p2 : Int32) {r : Int32} {h' : gH} {n' : Nat} (hf : sp_X0_phase G F h n a0 p1 p2 = some (r, h', n')) : gMet l G yX0_phase cX0_phase 3 (some .int) 4 89 1 2 [.ref a0, .int p1, .int p2] h n (some (.int r)) h' n' := by
  refine gEnter (by decide) [(0, .ref a0), (1, .int p1), (2, .int p2)] rfl (Nat.le_of_ble_eq_true rfl) ?_
  intro p e s m below meth c H ls X hin hR hS hl
  have hx := X.1.1
  have hb := X.1.2.1
  unfold sp_X0_phase at hf
  generalize ([] : List Loc) = locs at hS ⊢
  refine lv_iconst (v := (2 : Int32)) hx hb dX0_phase_0 (by decide) ?_
  refine g_newa3 X hR hS q879 2 (by decide) (by decide) (by decide) ⟨Nat.le_of_ble_eq_true rfl, Nat.le_of_ble_eq_true rfl⟩ dX0_phase_1 (fun H hR hS => ?_)
  refine lv_dup hx hb dX0_phase_3 rfl ?_
  refine lv_iconst (v := (0 : Int32)) hx hb dX0_phase_4 (by decide) ?_
  refine lv_iload_n hx hb dX0_phase_5 rfl (lv_at hl 1 rfl) ?_
  refine lv_i2l (v := p1.toInt64) hx hb dX0_phase_6 rfl ?_
  refine lv_lconst (v := (1 : Int64)) hx hb dX0_phase_7 (by decide) ?_
  refine lv_iconst (v := (1 : Int32)) hx hb dX0_phase_8 (by decide) ?_
  refine lv_aload_n hx hb dX0_phase_9 rfl (lv_at hl 0 rfl) ?_
  obtain ⟨x1, ex1, hf⟩ := gBind hf
  refine g_getr X hR gk_X0 0 (by decide) q792 rfl ex1 dX0_phase_10 ?_
  obtain ⟨x2, ex2, hf⟩ := gBind hf
  refine g_getiN X hR gk_X1 13 (by decide) q649 rfl ex2 dX0_phase_13 ?_
  refine lv_ishl hx hb dX0_phase_16 ?_
  refine lv_iconst (v := (1 : Int32)) hx hb dX0_phase_17 (by decide) ?_
  refine lv_isub hx hb dX0_phase_18 ?_
  refine lv_i2l (v := (((1 : Int32) <<< (x2 &&& 31)) - (1 : Int32)).toInt64) hx hb dX0_phase_19 rfl ?_
  obtain ⟨u3, eu3, hf⟩ := gBind hf
  refine g_callSi X hR hS [.long p1.toInt64, .long (1 : Int64), .long ((((1 : Int32) <<< (x2 &&& 31)) - (1 : Int32)).toInt64)] (m_X0_in l G F (va_up h n (some (.inl (3, 2, .inl (fun _ => 0))))) (n + 1) p1.toInt64 (1 : Int64) ((((1 : Int32) <<< (x2 &&& 31)) - (1 : Int32)).toInt64) eu3) yk_X0_in q830 rfl hl.1 ⟨Nat.le_of_ble_eq_true rfl, Nat.le_of_ble_eq_true rfl⟩ ⟨Nat.le_of_ble_eq_true rfl, Nat.le_of_ble_eq_true rfl⟩ rfl (Nat.le_of_ble_eq_true rfl) dX0_phase_20 (fun H locs hR hS => ?_)
  obtain ⟨h4, eh4, hf⟩ := gBind hf
  refine g_zast X hR hS eh4 dX0_phase_23 (fun H locs hR hS => ?_)
  refine lv_dup hx hb dX0_phase_24 rfl ?_
  refine lv_iconst (v := (1 : Int32)) hx hb dX0_phase_25 (by decide) ?_
  refine lv_iload_n hx hb dX0_phase_26 rfl (lv_at hl 2 rfl) ?_
  refine lv_i2l (v := p2.toInt64) hx hb dX0_phase_27 rfl ?_
  refine lv_lconst (v := (0 : Int64)) hx hb dX0_phase_28 (by decide) ?_
  refine lv_ldc2 (v := (239 : Int64)) hx hb X.1.2.2.2.1 (X.1.2.2.2.2 _ q1065) dX0_phase_29 ?_
  obtain ⟨u5, eu5, hf⟩ := gBind hf
  refine g_callSi X hR hS [.long p2.toInt64, .long (0 : Int64), .long (239 : Int64)] (m_X0_in l G F h4 (n + 1) p2.toInt64 (0 : Int64) (239 : Int64) eu5) yk_X0_in q830 rfl hl.1 ⟨Nat.le_of_ble_eq_true rfl, Nat.le_of_ble_eq_true rfl⟩ ⟨Nat.le_of_ble_eq_true rfl, Nat.le_of_ble_eq_true rfl⟩ rfl (Nat.le_of_ble_eq_true rfl) dX0_phase_32 (fun H locs hR hS => ?_)
  obtain ⟨h6, eh6, hf⟩ := gBind hf
  refine g_zast X hR hS eh6 dX0_phase_35 (fun H locs hR hS => ?_)
  obtain ⟨u7, eu7, hf⟩ := gBind hf
  refine g_callSi X hR hS [.ref n] (m_X0_are l G F h6 (n + 1) n eu7) yk_X0_are q834 rfl hl.1 ⟨Nat.le_of_ble_eq_true rfl, Nat.le_of_ble_eq_true rfl⟩ ⟨Nat.le_of_ble_eq_true rfl, Nat.le_of_ble_eq_true rfl⟩ rfl (Nat.le_of_ble_eq_true rfl) dX0_phase_36 (fun H locs hR hS => ?_)
  refine lv_if_ne (tgt := 45) hx hb dX0_phase_39 (by decide) (fun c8 => ?_) (fun c8 => ?_)
  · replace hf := gIfn c8 hf
    refine lv_aload_n hx hb dX0_phase_45 rfl (lv_at hl 0 rfl) ?_
    obtain ⟨x9, ex9, hf⟩ := gBind hf
    refine g_getr X hR gk_X0 0 (by decide) q792 rfl ex9 dX0_phase_46 ?_
    obtain ⟨x10, ex10, hf⟩ := gBind hf
    refine g_getiN X hR gk_X1 0 (by decide) q623 rfl ex10 dX0_phase_49 ?_
    refine lv_if_ne (tgt := 63) hx hb dX0_phase_52 (by decide) (fun c11 => ?_) (fun c11 => ?_)
    · replace hf := gIfn c11 hf
      refine lv_bipush (v := (-3 : Int32)) hx hb dX0_phase_63 (by decide) ?_
      obtain ⟨rfl, rfl, rfl⟩ := gO3 hf
      exact g_iret X hR hS _ rfl ⟨Nat.le_of_ble_eq_true rfl, Nat.le_of_ble_eq_true rfl⟩ dX0_phase_65
    · replace hf := gIfp c11 hf
      refine lv_aload_n hx hb dX0_phase_55 rfl (lv_at hl 0 rfl) ?_
      refine lv_iload_n hx hb dX0_phase_56 rfl (lv_at hl 1 rfl) ?_
      obtain ⟨k12, hf⟩ := gChk hf
      obtain ⟨u13, eu13, hf⟩ := gBind hf
      refine g_callVi X hR hS [.int p1] (m_X0_meetIn l G F h6 (n + 1) a0 p1 eu13) yk_X0_meetIn q1066 k12 rfl hl.1 ⟨Nat.le_of_ble_eq_true rfl, Nat.le_of_ble_eq_true rfl⟩ ⟨Nat.le_of_ble_eq_true rfl, Nat.le_of_ble_eq_true rfl⟩ rfl (Nat.le_of_ble_eq_true rfl) dX0_phase_57 (fun H locs hR hS => ?_)
      refine lv_if_eq (tgt := 66) hx hb dX0_phase_60 (by decide) (fun c14 => ?_) (fun c14 => ?_)
      · replace hf := gIfp c14 hf
        refine lv_aload_n hx hb dX0_phase_66 rfl (lv_at hl 0 rfl) ?_
        obtain ⟨x15, ex15, hf⟩ := gBind hf
        refine g_getr X hR gk_X0 0 (by decide) q792 rfl ex15 dX0_phase_67 ?_
        obtain ⟨x16, ex16, hf⟩ := gBind hf
        refine g_getiN X hR gk_X1 14 (by decide) q651 rfl ex16 dX0_phase_70 ?_
        refine lv_bipush (v := (6 : Int32)) hx hb dX0_phase_73 (by decide) ?_
        refine lv_icmp_ne (tgt := 81) hx hb dX0_phase_75 (by decide) (fun c17 => ?_) (fun c17 => ?_)
        · replace hf := gIfn c17 hf
          refine lv_aload_n hx hb dX0_phase_81 rfl (lv_at hl 0 rfl) ?_
          obtain ⟨x18, ex18, hf⟩ := gBind hf
          refine g_getr X hR gk_X0 0 (by decide) q792 rfl ex18 dX0_phase_82 ?_
          obtain ⟨x19, ex19, hf⟩ := gBind hf
          refine g_getrN X hR gk_X1 23 (by decide) q668 rfl ex19 dX0_phase_85 ?_
          refine lv_aload_n hx hb dX0_phase_88 rfl (lv_at hl 0 rfl) ?_
          obtain ⟨x20, ex20, hf⟩ := gBind hf
          refine g_getr X hR gk_X0 0 (by decide) q792 rfl ex20 dX0_phase_89 ?_
          obtain ⟨x21, ex21, hf⟩ := gBind hf
          refine g_getiN X hR gk_X1 14 (by decide) q651 rfl ex21 dX0_phase_92 ?_
          obtain ⟨a22, ea22, hf⟩ := gBind hf
          refine g_aald X hR 6 (by decide) rfl ea22 dX0_phase_95 ?_
          refine lv_iload_n hx hb dX0_phase_96 rfl (lv_at hl 1 rfl) ?_
          refine lv_iload_n hx hb dX0_phase_97 rfl (lv_at hl 2 rfl) ?_
          refine lv_iconst (v := (0 : Int32)) hx hb dX0_phase_98 (by decide) ?_
          obtain ⟨k23, hf⟩ := gChk hf
          obtain ⟨u24, eu24, hf⟩ := gBind hf
          refine g_callVv X hR hS [.int p1, .int p2, .int (0 : Int32)] (m_X4_is l G F h6 (n + 1) a22 p1 p2 (0 : Int32) eu24) yk_X4_is q1082 k23 rfl hl.1 ⟨Nat.le_of_ble_eq_true rfl, Nat.le_of_ble_eq_true rfl⟩ ⟨Nat.le_of_ble_eq_true rfl, Nat.le_of_ble_eq_true rfl⟩ rfl (Nat.le_of_ble_eq_true rfl) dX0_phase_99 (fun H locs hR hS => ?_)
          refine lv_aload_n hx hb dX0_phase_102 rfl (lv_at hl 0 rfl) ?_
          obtain ⟨x25, ex25, hf⟩ := gBind hf
          refine g_getr X hR gk_X0 0 (by decide) q792 rfl ex25 dX0_phase_103 ?_
          refine lv_dup hx hb dX0_phase_106 rfl ?_
          obtain ⟨x26, ex26, hf⟩ := gBind hf
          refine g_getiN X hR gk_X1 14 (by decide) q651 rfl ex26 dX0_phase_107 ?_
          refine lv_iconst (v := (1 : Int32)) hx hb dX0_phase_110 (by decide) ?_
          refine lv_iadd hx hb dX0_phase_111 ?_
          obtain ⟨h27, eh27, hf⟩ := gBind hf
          refine g_putN X hR hS gk_X1 14 (by decide) q651 rfl rfl eh27 rfl rfl rfl dX0_phase_112 (fun H locs hR hS => ?_)
          refine lv_aload_n hx hb dX0_phase_115 rfl (lv_at hl 0 rfl) ?_
          obtain ⟨x28, ex28, hf⟩ := gBind hf
          refine g_getr X hR gk_X0 0 (by decide) q792 rfl ex28 dX0_phase_116 ?_
          obtain ⟨x29, ex29, hf⟩ := gBind hf
          refine g_getiN X hR gk_X1 14 (by decide) q651 rfl ex29 dX0_phase_119 ?_
          refine lv_iconst (v := (1 : Int32)) hx hb dX0_phase_122 (by decide) ?_
          refine lv_isub hx hb dX0_phase_123 ?_
          obtain ⟨rfl, rfl, rfl⟩ := gO3 hf
          exact g_iret X hR hS _ rfl ⟨Nat.le_of_ble_eq_true rfl, Nat.le_of_ble_eq_true rfl⟩ dX0_phase_124
        · replace hf := gIfp c17 hf
          refine lv_bipush (v := (-4 : Int32)) hx hb dX0_phase_78 (by decide) ?_
          obtain ⟨rfl, rfl, rfl⟩ := gO3 hf
          exact g_iret X hR hS _ rfl ⟨Nat.le_of_ble_eq_true rfl, Nat.le_of_ble_eq_true rfl⟩ dX0_phase_80
      · replace hf := gIfn c14 hf
        refine lv_bipush (v := (-3 : Int32)) hx hb dX0_phase_63 (by decide) ?_
        obtain ⟨rfl, rfl, rfl⟩ := gO3 hf
        exact g_iret X hR hS _ rfl ⟨Nat.le_of_ble_eq_true rfl, Nat.le_of_ble_eq_true rfl⟩ dX0_phase_65
  · replace hf := gIfp c8 hf
    refine lv_bipush (v := (-2 : Int32)) hx hb dX0_phase_42 (by decide) ?_
    obtain ⟨rfl, rfl, rfl⟩ := gO3 hf
    exact g_iret X hR hS _ rfl ⟨Nat.le_of_ble_eq_true rfl, Nat.le_of_ble_eq_true rfl⟩ dX0_phase_44

def sp_X0_start (G : gG) (F : Nat) (h : gH) (a0 : Nat) : Option (Int32 × gH) :=
 (gGr 0 h a0 0).bind fun x1 =>
 (gGi 1 h x1 0).bind fun x2 =>
 if x2 = 0 then
 (gGr 0 h a0 0).bind fun x4 =>
 (gGi 1 h x4 14).bind fun x5 =>
 if x5 = 0 then
 some (((-3 : Int32), h)) else
 (gGr 0 h a0 0).bind fun x7 =>
 (gPv 1 h x7 0 (.int (1 : Int32))).bind fun h8 =>
 (gGr 0 h8 a0 0).bind fun x9 =>
 (gPv 1 h8 x9 2 (.int (0 : Int32))).bind fun h10 =>
 (gGr 0 h10 a0 0).bind fun x11 =>
 (gGr 1 h10 x11 23).bind fun x12 =>
 (gAr 6 h10 x12 (0 : Int32)).bind fun a13 =>
 (gGi 3 h10 a13 2).bind fun x14 =>
 (gPv 3 h10 a13 2 (.int (x14 + (1 : Int32)))).bind fun h15 =>
 (gGr 0 h15 a0 0).bind fun x16 =>
 (gGi 1 h15 x16 14).bind fun x17 =>
 some ((x17, h15)) else
 some (((-3 : Int32), h))
theorem yk_X0_start : gVk yX0_start cX0_start 1 (some .int) 0 0 := ⟨q1087, q1088, q92, q1089, ⟨by decide +kernel, by decide +kernel, by decide +kernel⟩, rfl⟩
set_option maxHeartbeats 4000000 in
theorem m_X0_start (l : Launch) (G : gG) (F : Nat) (h : gH) (n : Nat) (a0 : Nat) {r : Int32} {h' : gH} (hf : sp_X0_start G F h a0 = some (r, h')) : gMet l G yX0_start cX0_start 1 (some .int) 0 0 0 0 [.ref a0] h n (some (.int r)) h' n := by
  refine gEnter (by decide) [(0, .ref a0)] rfl (Nat.le_of_ble_eq_true rfl) ?_
  intro p e s m below meth c H ls X hin hR hS hl
  have hx := X.1.1
  have hb := X.1.2.1
  unfold sp_X0_start at hf
  generalize ([] : List Loc) = locs at hS ⊢
  refine lv_aload_n hx hb dX0_start_0 rfl (lv_at hl 0 rfl) ?_
  obtain ⟨x1, ex1, hf⟩ := gBind hf
  refine g_getr X hR gk_X0 0 (by decide) q792 rfl ex1 dX0_start_1 ?_
  obtain ⟨x2, ex2, hf⟩ := gBind hf
  refine g_getiN X hR gk_X1 0 (by decide) q623 rfl ex2 dX0_start_4 ?_
  refine lv_if_ne (tgt := 20) hx hb dX0_start_7 (by decide) (fun c3 => ?_) (fun c3 => ?_)
  · replace hf := gIfn c3 hf
    refine lv_bipush (v := (-3 : Int32)) hx hb dX0_start_20 (by decide) ?_
    obtain ⟨rfl, rfl⟩ := gO2 hf
    exact g_iret X hR hS _ rfl ⟨Nat.le_of_ble_eq_true rfl, Nat.le_of_ble_eq_true rfl⟩ dX0_start_22
  · replace hf := gIfp c3 hf
    refine lv_aload_n hx hb dX0_start_10 rfl (lv_at hl 0 rfl) ?_
    obtain ⟨x4, ex4, hf⟩ := gBind hf
    refine g_getr X hR gk_X0 0 (by decide) q792 rfl ex4 dX0_start_11 ?_
    obtain ⟨x5, ex5, hf⟩ := gBind hf
    refine g_getiN X hR gk_X1 14 (by decide) q651 rfl ex5 dX0_start_14 ?_
    refine lv_if_ne (tgt := 23) hx hb dX0_start_17 (by decide) (fun c6 => ?_) (fun c6 => ?_)
    · replace hf := gIfn c6 hf
      refine lv_aload_n hx hb dX0_start_23 rfl (lv_at hl 0 rfl) ?_
      obtain ⟨x7, ex7, hf⟩ := gBind hf
      refine g_getr X hR gk_X0 0 (by decide) q792 rfl ex7 dX0_start_24 ?_
      refine lv_iconst (v := (1 : Int32)) hx hb dX0_start_27 (by decide) ?_
      obtain ⟨h8, eh8, hf⟩ := gBind hf
      refine g_putN X hR hS gk_X1 0 (by decide) q623 rfl rfl eh8 rfl rfl rfl dX0_start_28 (fun H locs hR hS => ?_)
      refine lv_aload_n hx hb dX0_start_31 rfl (lv_at hl 0 rfl) ?_
      obtain ⟨x9, ex9, hf⟩ := gBind hf
      refine g_getr X hR gk_X0 0 (by decide) q792 rfl ex9 dX0_start_32 ?_
      refine lv_iconst (v := (0 : Int32)) hx hb dX0_start_35 (by decide) ?_
      obtain ⟨h10, eh10, hf⟩ := gBind hf
      refine g_putN X hR hS gk_X1 2 (by decide) q627 rfl rfl eh10 rfl rfl rfl dX0_start_36 (fun H locs hR hS => ?_)
      refine lv_aload_n hx hb dX0_start_39 rfl (lv_at hl 0 rfl) ?_
      obtain ⟨x11, ex11, hf⟩ := gBind hf
      refine g_getr X hR gk_X0 0 (by decide) q792 rfl ex11 dX0_start_40 ?_
      obtain ⟨x12, ex12, hf⟩ := gBind hf
      refine g_getrN X hR gk_X1 23 (by decide) q668 rfl ex12 dX0_start_43 ?_
      refine lv_iconst (v := (0 : Int32)) hx hb dX0_start_46 (by decide) ?_
      obtain ⟨a13, ea13, hf⟩ := gBind hf
      refine g_aald X hR 6 (by decide) rfl ea13 dX0_start_47 ?_
      refine lv_dup hx hb dX0_start_48 rfl ?_
      obtain ⟨x14, ex14, hf⟩ := gBind hf
      refine g_getiN X hR gk_X4 2 (by decide) q585 rfl ex14 dX0_start_49 ?_
      refine lv_iconst (v := (1 : Int32)) hx hb dX0_start_52 (by decide) ?_
      refine lv_iadd hx hb dX0_start_53 ?_
      obtain ⟨h15, eh15, hf⟩ := gBind hf
      refine g_putN X hR hS gk_X4 2 (by decide) q585 rfl rfl eh15 rfl rfl rfl dX0_start_54 (fun H locs hR hS => ?_)
      refine lv_aload_n hx hb dX0_start_57 rfl (lv_at hl 0 rfl) ?_
      obtain ⟨x16, ex16, hf⟩ := gBind hf
      refine g_getr X hR gk_X0 0 (by decide) q792 rfl ex16 dX0_start_58 ?_
      obtain ⟨x17, ex17, hf⟩ := gBind hf
      refine g_getiN X hR gk_X1 14 (by decide) q651 rfl ex17 dX0_start_61 ?_
      obtain ⟨rfl, rfl⟩ := gO2 hf
      exact g_iret X hR hS _ rfl ⟨Nat.le_of_ble_eq_true rfl, Nat.le_of_ble_eq_true rfl⟩ dX0_start_64
    · replace hf := gIfp c6 hf
      refine lv_bipush (v := (-3 : Int32)) hx hb dX0_start_20 (by decide) ?_
      obtain ⟨rfl, rfl⟩ := gO2 hf
      exact g_iret X hR hS _ rfl ⟨Nat.le_of_ble_eq_true rfl, Nat.le_of_ble_eq_true rfl⟩ dX0_start_22

def sp_X0_cycle (G : gG) (F : Nat) (h : gH) (n : Nat) (a0 : Nat) (p1 : Int32) (p2 : Int32) (p3 : Int32) : Option (Int32 × gH × Nat) :=
 if p1 = 0 then
 (gGr 0 h a0 0).bind fun x2 =>
 (gGi 1 h x2 10).bind fun x3 =>
 (gGr 0 h a0 0).bind fun x4 =>
 (gPv 1 h x4 10 (.int p1)).bind fun h5 =>
 (gGr 0 h5 a0 0).bind fun x6 =>
 (if p1 = 0 then
 some ((0 : Int32)) else
 some (p2)).bind fun j8 =>
 (gPv 1 h5 x6 11 (.int j8)).bind fun h9 =>
 (gGr 0 h9 a0 0).bind fun x10 =>
 if p1 = 0 then
 (gPv 1 h9 x10 12 (.int (0 : Int32))).bind fun h13 =>
 some ((x3, h13, n)) else
 (gPv 1 h9 x10 12 (.int p3)).bind fun h12 =>
 some ((x3, h12, n)) else
 (sp_X0_in G F (va_up h n (some (.inl (3, 3, .inl (fun _ => 0))))) p1.toInt64 (20 : Int64) (240 : Int64)).bind fun u14 =>
 (gSb 3 (va_up h n (some (.inl (3, 3, .inl (fun _ => 0))))) n (0 : Int32) u14).bind fun h15 =>
 (sp_X0_in G F h15 p2.toInt64 (0 : Int64) ((p1 - (1 : Int32)).toInt64)).bind fun u16 =>
 (gSb 3 h15 n (1 : Int32) u16).bind fun h17 =>
 (sp_X0_in G F h17 p3.toInt64 (1 : Int64) p1.toInt64).bind fun u18 =>
 (gSb 3 h17 n (2 : Int32) u18).bind fun h19 =>
 (sp_X0_are G F h19 n).bind fun u20 =>
 if u20 = 0 then
 some (((-2 : Int32), h19, n + 1)) else
 (gGr 0 h19 a0 0).bind fun x22 =>
 (gGi 1 h19 x22 10).bind fun x23 =>
 (gGr 0 h19 a0 0).bind fun x24 =>
 (gPv 1 h19 x24 10 (.int p1)).bind fun h25 =>
 (gGr 0 h25 a0 0).bind fun x26 =>
 (if p1 = 0 then
 some ((0 : Int32)) else
 some (p2)).bind fun j28 =>
 (gPv 1 h25 x26 11 (.int j28)).bind fun h29 =>
 (gGr 0 h29 a0 0).bind fun x30 =>
 if p1 = 0 then
 (gPv 1 h29 x30 12 (.int (0 : Int32))).bind fun h33 =>
 some ((x23, h33, n + 1)) else
 (gPv 1 h29 x30 12 (.int p3)).bind fun h32 =>
 some ((x23, h32, n + 1))
theorem yk_X0_cycle : gVk yX0_cycle cX0_cycle 5 (some .int) 3 0 := ⟨q1091, q1092, q92, q1093, ⟨by decide +kernel, by decide +kernel, by decide +kernel⟩, rfl⟩
set_option maxHeartbeats 4000000 in
theorem m_X0_cycle (l : Launch) (G : gG) (F : Nat) (h : gH) (n : Nat) (a0 : Nat) (p1 : Int32) (p2 : Int32) (p3 : Int32) {r : Int32} {h' : gH} {n' : Nat} (hf : sp_X0_cycle G F h n a0 p1 p2 p3 = some (r, h', n')) : gMet l G yX0_cycle cX0_cycle 5 (some .int) 1 25 1 3 [.ref a0, .int p1, .int p2, .int p3] h n (some (.int r)) h' n' := by
  refine gEnter (by decide) [(0, .ref a0), (1, .int p1), (2, .int p2), (3, .int p3)] rfl (Nat.le_of_ble_eq_true rfl) ?_
  intro p e s m below meth c H ls X hin hR hS hl
  have hx := X.1.1
  have hb := X.1.2.1
  unfold sp_X0_cycle at hf
  generalize ([] : List Loc) = locs at hS ⊢
  refine lv_iload_n hx hb dX0_cycle_0 rfl (lv_at hl 1 rfl) ?_
  refine lv_if_eq (tgt := 54) hx hb dX0_cycle_1 (by decide) (fun c1 => ?_) (fun c1 => ?_)
  · replace hf := gIfp c1 hf
    refine lv_aload_n hx hb dX0_cycle_54 rfl (lv_at hl 0 rfl) ?_
    obtain ⟨x2, ex2, hf⟩ := gBind hf
    refine g_getr X hR gk_X0 0 (by decide) q792 rfl ex2 dX0_cycle_55 ?_
    obtain ⟨x3, ex3, hf⟩ := gBind hf
    refine g_getiN X hR gk_X1 10 (by decide) q643 rfl ex3 dX0_cycle_58 ?_
    refine lv_istore (lv' := [(4, .int x3), (0, .ref a0), (1, .int p1), (2, .int p2), (3, .int p3)]) hx hb dX0_cycle_61 hl (by decide) rfl (fun ls hl => ?_)
    refine lv_aload_n hx hb dX0_cycle_63 rfl (lv_at hl 1 rfl) ?_
    obtain ⟨x4, ex4, hf⟩ := gBind hf
    refine g_getr X hR gk_X0 0 (by decide) q792 rfl ex4 dX0_cycle_64 ?_
    refine lv_iload_n hx hb dX0_cycle_67 rfl (lv_at hl 2 rfl) ?_
    obtain ⟨h5, eh5, hf⟩ := gBind hf
    refine g_putN X hR hS gk_X1 10 (by decide) q643 rfl rfl eh5 rfl rfl rfl dX0_cycle_68 (fun H locs hR hS => ?_)
    refine lv_aload_n hx hb dX0_cycle_71 rfl (lv_at hl 1 rfl) ?_
    obtain ⟨x6, ex6, hf⟩ := gBind hf
    refine g_getr X hR gk_X0 0 (by decide) q792 rfl ex6 dX0_cycle_72 ?_
    refine lv_iload_n hx hb dX0_cycle_75 rfl (lv_at hl 2 rfl) ?_
    obtain ⟨j8, ej8, hf⟩ := gBind hf
    have J84_j8 : ∀ (H : Heap) (locs : List Loc) (ls : Array Slot), gRep G h5 n H → va_S (gFr G) s.heap H locs → lv_has ls 5 [(0, .ref a0), (1, .int p1), (3, .int p3), (4, .int x3)] → W p l e ({ frames := 1, cells := 1, slots := 3, locals := 25 } : Room) s m ([.ref a0, .int p1, .int p2, .int p3] : List Value).toArray below meth c H locs 0 0 (MQ below (gQ G (some (.int r)) h' n') ([.ref a0, .int p1, .int p2, .int p3] : List Value).toArray s 1 3 (gFr G)) (F0 m 84 ls [.int j8, .ref x6]) := by
      intro H locs ls hR hS hl
      obtain ⟨h9, eh9, hf⟩ := gBind hf
      refine g_putN X hR hS gk_X1 11 (by decide) q645 rfl rfl eh9 rfl rfl rfl dX0_cycle_84 (fun H locs hR hS => ?_)
      refine lv_aload_n hx hb dX0_cycle_87 rfl (lv_at hl 0 rfl) ?_
      obtain ⟨x10, ex10, hf⟩ := gBind hf
      refine g_getr X hR gk_X0 0 (by decide) q792 rfl ex10 dX0_cycle_88 ?_
      refine lv_iload_n hx hb dX0_cycle_91 rfl (lv_at hl 1 rfl) ?_
      refine lv_if_ne (tgt := 99) hx hb dX0_cycle_92 (by decide) (fun c11 => ?_) (fun c11 => ?_)
      · replace hf := gIfn c11 hf
        refine lv_iload_n hx hb dX0_cycle_99 rfl (lv_at hl 2 rfl) ?_
        obtain ⟨h12, eh12, hf⟩ := gBind hf
        refine g_putN X hR hS gk_X1 12 (by decide) q647 rfl rfl eh12 rfl rfl rfl dX0_cycle_100 (fun H locs hR hS => ?_)
        refine lv_iload hx hb dX0_cycle_103 (lv_at hl 3 rfl) ?_
        obtain ⟨rfl, rfl, rfl⟩ := gO3 hf
        exact g_iret X hR hS _ rfl ⟨Nat.le_of_ble_eq_true rfl, Nat.le_of_ble_eq_true rfl⟩ dX0_cycle_105
      · replace hf := gIfp c11 hf
        refine lv_iconst (v := (0 : Int32)) hx hb dX0_cycle_95 (by decide) ?_
        refine lv_goto (tgt := 100) hx hb dX0_cycle_96 (by decide) ?_
        obtain ⟨h13, eh13, hf⟩ := gBind hf
        refine g_putN X hR hS gk_X1 12 (by decide) q647 rfl rfl eh13 rfl rfl rfl dX0_cycle_100 (fun H locs hR hS => ?_)
        refine lv_iload hx hb dX0_cycle_103 (lv_at hl 3 rfl) ?_
        obtain ⟨rfl, rfl, rfl⟩ := gO3 hf
        exact g_iret X hR hS _ rfl ⟨Nat.le_of_ble_eq_true rfl, Nat.le_of_ble_eq_true rfl⟩ dX0_cycle_105
    replace hf := ej8
    clear ej8
    refine lv_if_ne (tgt := 83) hx hb dX0_cycle_76 (by decide) (fun c7 => ?_) (fun c7 => ?_)
    · replace hf := gIfn c7 hf
      refine lv_iload_n hx hb dX0_cycle_83 rfl (lv_at hl 3 rfl) ?_
      obtain rfl := gO1 hf
      exact J84_j8 _ _ _ hR hS (lv_sub hl [1, 2, 4, 0] rfl)
    · replace hf := gIfp c7 hf
      refine lv_iconst (v := (0 : Int32)) hx hb dX0_cycle_79 (by decide) ?_
      refine lv_goto (tgt := 84) hx hb dX0_cycle_80 (by decide) ?_
      obtain rfl := gO1 hf
      exact J84_j8 _ _ _ hR hS (lv_sub hl [1, 2, 4, 0] rfl)
  · replace hf := gIfn c1 hf
    refine lv_iconst (v := (3 : Int32)) hx hb dX0_cycle_4 (by decide) ?_
    refine g_newa3 X hR hS q879 3 (by decide) (by decide) (by decide) ⟨Nat.le_of_ble_eq_true rfl, Nat.le_of_ble_eq_true rfl⟩ dX0_cycle_5 (fun H hR hS => ?_)
    refine lv_dup hx hb dX0_cycle_7 rfl ?_
    refine lv_iconst (v := (0 : Int32)) hx hb dX0_cycle_8 (by decide) ?_
    refine lv_iload_n hx hb dX0_cycle_9 rfl (lv_at hl 1 rfl) ?_
    refine lv_i2l (v := p1.toInt64) hx hb dX0_cycle_10 rfl ?_
    refine lv_ldc2 (v := (20 : Int64)) hx hb X.1.2.2.2.1 (X.1.2.2.2.2 _ q1094) dX0_cycle_11 ?_
    refine lv_ldc2 (v := (240 : Int64)) hx hb X.1.2.2.2.1 (X.1.2.2.2.2 _ q1095) dX0_cycle_14 ?_
    obtain ⟨u14, eu14, hf⟩ := gBind hf
    refine g_callSi X hR hS [.long p1.toInt64, .long (20 : Int64), .long (240 : Int64)] (m_X0_in l G F (va_up h n (some (.inl (3, 3, .inl (fun _ => 0))))) (n + 1) p1.toInt64 (20 : Int64) (240 : Int64) eu14) yk_X0_in q830 rfl hl.1 ⟨Nat.le_of_ble_eq_true rfl, Nat.le_of_ble_eq_true rfl⟩ ⟨Nat.le_of_ble_eq_true rfl, Nat.le_of_ble_eq_true rfl⟩ rfl (Nat.le_of_ble_eq_true rfl) dX0_cycle_17 (fun H locs hR hS => ?_)
    obtain ⟨h15, eh15, hf⟩ := gBind hf
    refine g_zast X hR hS eh15 dX0_cycle_20 (fun H locs hR hS => ?_)
    refine lv_dup hx hb dX0_cycle_21 rfl ?_
    refine lv_iconst (v := (1 : Int32)) hx hb dX0_cycle_22 (by decide) ?_
    refine lv_iload_n hx hb dX0_cycle_23 rfl (lv_at hl 2 rfl) ?_
    refine lv_i2l (v := p2.toInt64) hx hb dX0_cycle_24 rfl ?_
    refine lv_lconst (v := (0 : Int64)) hx hb dX0_cycle_25 (by decide) ?_
    refine lv_iload_n hx hb dX0_cycle_26 rfl (lv_at hl 1 rfl) ?_
    refine lv_iconst (v := (1 : Int32)) hx hb dX0_cycle_27 (by decide) ?_
    refine lv_isub hx hb dX0_cycle_28 ?_
    refine lv_i2l (v := (p1 - (1 : Int32)).toInt64) hx hb dX0_cycle_29 rfl ?_
    obtain ⟨u16, eu16, hf⟩ := gBind hf
    refine g_callSi X hR hS [.long p2.toInt64, .long (0 : Int64), .long ((p1 - (1 : Int32)).toInt64)] (m_X0_in l G F h15 (n + 1) p2.toInt64 (0 : Int64) ((p1 - (1 : Int32)).toInt64) eu16) yk_X0_in q830 rfl hl.1 ⟨Nat.le_of_ble_eq_true rfl, Nat.le_of_ble_eq_true rfl⟩ ⟨Nat.le_of_ble_eq_true rfl, Nat.le_of_ble_eq_true rfl⟩ rfl (Nat.le_of_ble_eq_true rfl) dX0_cycle_30 (fun H locs hR hS => ?_)
    obtain ⟨h17, eh17, hf⟩ := gBind hf
    refine g_zast X hR hS eh17 dX0_cycle_33 (fun H locs hR hS => ?_)
    refine lv_dup hx hb dX0_cycle_34 rfl ?_
    refine lv_iconst (v := (2 : Int32)) hx hb dX0_cycle_35 (by decide) ?_
    refine lv_iload_n hx hb dX0_cycle_36 rfl (lv_at hl 3 rfl) ?_
    refine lv_i2l (v := p3.toInt64) hx hb dX0_cycle_37 rfl ?_
    refine lv_lconst (v := (1 : Int64)) hx hb dX0_cycle_38 (by decide) ?_
    refine lv_iload_n hx hb dX0_cycle_39 rfl (lv_at hl 1 rfl) ?_
    refine lv_i2l (v := p1.toInt64) hx hb dX0_cycle_40 rfl ?_
    obtain ⟨u18, eu18, hf⟩ := gBind hf
    refine g_callSi X hR hS [.long p3.toInt64, .long (1 : Int64), .long p1.toInt64] (m_X0_in l G F h17 (n + 1) p3.toInt64 (1 : Int64) p1.toInt64 eu18) yk_X0_in q830 rfl hl.1 ⟨Nat.le_of_ble_eq_true rfl, Nat.le_of_ble_eq_true rfl⟩ ⟨Nat.le_of_ble_eq_true rfl, Nat.le_of_ble_eq_true rfl⟩ rfl (Nat.le_of_ble_eq_true rfl) dX0_cycle_41 (fun H locs hR hS => ?_)
    obtain ⟨h19, eh19, hf⟩ := gBind hf
    refine g_zast X hR hS eh19 dX0_cycle_44 (fun H locs hR hS => ?_)
    obtain ⟨u20, eu20, hf⟩ := gBind hf
    refine g_callSi X hR hS [.ref n] (m_X0_are l G F h19 (n + 1) n eu20) yk_X0_are q834 rfl hl.1 ⟨Nat.le_of_ble_eq_true rfl, Nat.le_of_ble_eq_true rfl⟩ ⟨Nat.le_of_ble_eq_true rfl, Nat.le_of_ble_eq_true rfl⟩ rfl (Nat.le_of_ble_eq_true rfl) dX0_cycle_45 (fun H locs hR hS => ?_)
    refine lv_if_ne (tgt := 54) hx hb dX0_cycle_48 (by decide) (fun c21 => ?_) (fun c21 => ?_)
    · replace hf := gIfn c21 hf
      refine lv_aload_n hx hb dX0_cycle_54 rfl (lv_at hl 0 rfl) ?_
      obtain ⟨x22, ex22, hf⟩ := gBind hf
      refine g_getr X hR gk_X0 0 (by decide) q792 rfl ex22 dX0_cycle_55 ?_
      obtain ⟨x23, ex23, hf⟩ := gBind hf
      refine g_getiN X hR gk_X1 10 (by decide) q643 rfl ex23 dX0_cycle_58 ?_
      refine lv_istore (lv' := [(4, .int x23), (0, .ref a0), (1, .int p1), (2, .int p2), (3, .int p3)]) hx hb dX0_cycle_61 hl (by decide) rfl (fun ls hl => ?_)
      refine lv_aload_n hx hb dX0_cycle_63 rfl (lv_at hl 1 rfl) ?_
      obtain ⟨x24, ex24, hf⟩ := gBind hf
      refine g_getr X hR gk_X0 0 (by decide) q792 rfl ex24 dX0_cycle_64 ?_
      refine lv_iload_n hx hb dX0_cycle_67 rfl (lv_at hl 2 rfl) ?_
      obtain ⟨h25, eh25, hf⟩ := gBind hf
      refine g_putN X hR hS gk_X1 10 (by decide) q643 rfl rfl eh25 rfl rfl rfl dX0_cycle_68 (fun H locs hR hS => ?_)
      refine lv_aload_n hx hb dX0_cycle_71 rfl (lv_at hl 1 rfl) ?_
      obtain ⟨x26, ex26, hf⟩ := gBind hf
      refine g_getr X hR gk_X0 0 (by decide) q792 rfl ex26 dX0_cycle_72 ?_
      refine lv_iload_n hx hb dX0_cycle_75 rfl (lv_at hl 2 rfl) ?_
      obtain ⟨j28, ej28, hf⟩ := gBind hf
      have J84_j28 : ∀ (H : Heap) (locs : List Loc) (ls : Array Slot), gRep G h25 (n + 1) H → va_S (gFr G) s.heap H locs → lv_has ls 5 [(0, .ref a0), (1, .int p1), (3, .int p3), (4, .int x23)] → W p l e ({ frames := 1, cells := 1, slots := 3, locals := 25 } : Room) s m ([.ref a0, .int p1, .int p2, .int p3] : List Value).toArray below meth c H locs 1 3 (MQ below (gQ G (some (.int r)) h' n') ([.ref a0, .int p1, .int p2, .int p3] : List Value).toArray s 1 3 (gFr G)) (F0 m 84 ls [.int j28, .ref x26]) := by
        intro H locs ls hR hS hl
        obtain ⟨h29, eh29, hf⟩ := gBind hf
        refine g_putN X hR hS gk_X1 11 (by decide) q645 rfl rfl eh29 rfl rfl rfl dX0_cycle_84 (fun H locs hR hS => ?_)
        refine lv_aload_n hx hb dX0_cycle_87 rfl (lv_at hl 0 rfl) ?_
        obtain ⟨x30, ex30, hf⟩ := gBind hf
        refine g_getr X hR gk_X0 0 (by decide) q792 rfl ex30 dX0_cycle_88 ?_
        refine lv_iload_n hx hb dX0_cycle_91 rfl (lv_at hl 1 rfl) ?_
        refine lv_if_ne (tgt := 99) hx hb dX0_cycle_92 (by decide) (fun c31 => ?_) (fun c31 => ?_)
        · replace hf := gIfn c31 hf
          refine lv_iload_n hx hb dX0_cycle_99 rfl (lv_at hl 2 rfl) ?_
          obtain ⟨h32, eh32, hf⟩ := gBind hf
          refine g_putN X hR hS gk_X1 12 (by decide) q647 rfl rfl eh32 rfl rfl rfl dX0_cycle_100 (fun H locs hR hS => ?_)
          refine lv_iload hx hb dX0_cycle_103 (lv_at hl 3 rfl) ?_
          obtain ⟨rfl, rfl, rfl⟩ := gO3 hf
          exact g_iret X hR hS _ rfl ⟨Nat.le_of_ble_eq_true rfl, Nat.le_of_ble_eq_true rfl⟩ dX0_cycle_105
        · replace hf := gIfp c31 hf
          refine lv_iconst (v := (0 : Int32)) hx hb dX0_cycle_95 (by decide) ?_
          refine lv_goto (tgt := 100) hx hb dX0_cycle_96 (by decide) ?_
          obtain ⟨h33, eh33, hf⟩ := gBind hf
          refine g_putN X hR hS gk_X1 12 (by decide) q647 rfl rfl eh33 rfl rfl rfl dX0_cycle_100 (fun H locs hR hS => ?_)
          refine lv_iload hx hb dX0_cycle_103 (lv_at hl 3 rfl) ?_
          obtain ⟨rfl, rfl, rfl⟩ := gO3 hf
          exact g_iret X hR hS _ rfl ⟨Nat.le_of_ble_eq_true rfl, Nat.le_of_ble_eq_true rfl⟩ dX0_cycle_105
      replace hf := ej28
      clear ej28
      refine lv_if_ne (tgt := 83) hx hb dX0_cycle_76 (by decide) (fun c27 => ?_) (fun c27 => ?_)
      · replace hf := gIfn c27 hf
        refine lv_iload_n hx hb dX0_cycle_83 rfl (lv_at hl 3 rfl) ?_
        obtain rfl := gO1 hf
        exact J84_j28 _ _ _ hR hS (lv_sub hl [1, 2, 4, 0] rfl)
      · replace hf := gIfp c27 hf
        refine lv_iconst (v := (0 : Int32)) hx hb dX0_cycle_79 (by decide) ?_
        refine lv_goto (tgt := 84) hx hb dX0_cycle_80 (by decide) ?_
        obtain rfl := gO1 hf
        exact J84_j28 _ _ _ hR hS (lv_sub hl [1, 2, 4, 0] rfl)
    · replace hf := gIfp c21 hf
      refine lv_bipush (v := (-2 : Int32)) hx hb dX0_cycle_51 (by decide) ?_
      obtain ⟨rfl, rfl, rfl⟩ := gO3 hf
      exact g_iret X hR hS _ rfl ⟨Nat.le_of_ble_eq_true rfl, Nat.le_of_ble_eq_true rfl⟩ dX0_cycle_53

def sp_X0_come (G : gG) (F : Nat) (h : gH) (a0 : Nat) (p1 : Int32) (p2 : Int32) : Option (Int32 × gH) :=
 if gIs 0 h a0 = true then
 (sp_X0_isSignal G F h a0 p1).bind fun u2 =>
 if u2 = 0 then
 some (((-1 : Int32), h)) else
 (sp_X0_in G F h p2.toInt64 (1 : Int64) (20 : Int64)).bind fun u4 =>
 if u4 = 0 then
 some (((-2 : Int32), h)) else
 (gGr 0 h a0 0).bind fun x6 =>
 (gGr 1 h x6 22).bind fun x7 =>
 (gAr 5 h x7 p1).bind fun a8 =>
 (gGi 2 h a8 5).bind fun x9 =>
 (sp_J11_min G F h p2 ((99 : Int32) - x9)).bind fun u10 =>
 if gIs 2 h a8 = true then
 (sp_X2_comes G F h a8 u10).bind fun u12 =>
 (gGr 0 u12 a0 0).bind fun x13 =>
 (gGi 1 u12 x13 7).bind fun x14 =>
 (gPv 1 u12 x13 7 (.int (x14 + (p2 - u10)))).bind fun h15 =>
 (gGi 2 h15 a8 5).bind fun x16 =>
 some ((x16, h15)) else none else none
theorem yk_X0_come : gVk yX0_come cX0_come 5 (some .int) 2 0 := ⟨q1097, q1098, q92, q1099, ⟨by decide +kernel, by decide +kernel, by decide +kernel⟩, rfl⟩
set_option maxHeartbeats 4000000 in
theorem m_X0_come (l : Launch) (G : gG) (F : Nat) (h : gH) (n : Nat) (a0 : Nat) (p1 : Int32) (p2 : Int32) {r : Int32} {h' : gH} (hf : sp_X0_come G F h a0 p1 p2 = some (r, h')) : gMet l G yX0_come cX0_come 5 (some .int) 2 46 0 0 [.ref a0, .int p1, .int p2] h n (some (.int r)) h' n := by
  refine gEnter (by decide) [(0, .ref a0), (1, .int p1), (2, .int p2)] rfl (Nat.le_of_ble_eq_true rfl) ?_
  intro p e s m below meth c H ls X hin hR hS hl
  have hx := X.1.1
  have hb := X.1.2.1
  unfold sp_X0_come at hf
  generalize ([] : List Loc) = locs at hS ⊢
  refine lv_aload_n hx hb dX0_come_0 rfl (lv_at hl 0 rfl) ?_
  refine lv_iload_n hx hb dX0_come_1 rfl (lv_at hl 1 rfl) ?_
  obtain ⟨k1, hf⟩ := gChk hf
  obtain ⟨u2, eu2, hf⟩ := gBind hf
  refine g_callVi X hR hS [.int p1] (m_X0_isSignal l G F h n a0 p1 eu2) yk_X0_isSignal q931 k1 rfl hl.1 ⟨Nat.le_of_ble_eq_true rfl, Nat.le_of_ble_eq_true rfl⟩ ⟨Nat.le_of_ble_eq_true rfl, Nat.le_of_ble_eq_true rfl⟩ rfl (Nat.le_of_ble_eq_true rfl) dX0_come_2 (fun H locs hR hS => ?_)
  refine lv_if_ne (tgt := 10) hx hb dX0_come_5 (by decide) (fun c3 => ?_) (fun c3 => ?_)
  · replace hf := gIfn c3 hf
    refine lv_iload_n hx hb dX0_come_10 rfl (lv_at hl 2 rfl) ?_
    refine lv_i2l (v := p2.toInt64) hx hb dX0_come_11 rfl ?_
    refine lv_lconst (v := (1 : Int64)) hx hb dX0_come_12 (by decide) ?_
    refine lv_ldc2 (v := (20 : Int64)) hx hb X.1.2.2.2.1 (X.1.2.2.2.2 _ q1094) dX0_come_13 ?_
    obtain ⟨u4, eu4, hf⟩ := gBind hf
    refine g_callSi X hR hS [.long p2.toInt64, .long (1 : Int64), .long (20 : Int64)] (m_X0_in l G F h n p2.toInt64 (1 : Int64) (20 : Int64) eu4) yk_X0_in q830 rfl hl.1 ⟨Nat.le_of_ble_eq_true rfl, Nat.le_of_ble_eq_true rfl⟩ ⟨Nat.le_of_ble_eq_true rfl, Nat.le_of_ble_eq_true rfl⟩ rfl (Nat.le_of_ble_eq_true rfl) dX0_come_16 (fun H locs hR hS => ?_)
    refine lv_if_ne (tgt := 25) hx hb dX0_come_19 (by decide) (fun c5 => ?_) (fun c5 => ?_)
    · replace hf := gIfn c5 hf
      refine lv_aload_n hx hb dX0_come_25 rfl (lv_at hl 0 rfl) ?_
      obtain ⟨x6, ex6, hf⟩ := gBind hf
      refine g_getr X hR gk_X0 0 (by decide) q792 rfl ex6 dX0_come_26 ?_
      obtain ⟨x7, ex7, hf⟩ := gBind hf
      refine g_getrN X hR gk_X1 22 (by decide) q666 rfl ex7 dX0_come_29 ?_
      refine lv_iload_n hx hb dX0_come_32 rfl (lv_at hl 1 rfl) ?_
      obtain ⟨a8, ea8, hf⟩ := gBind hf
      refine g_aald X hR 5 (by decide) rfl ea8 dX0_come_33 ?_
      refine lv_astore_n (lv' := [(3, .ref a8), (0, .ref a0), (1, .int p1), (2, .int p2)]) hx hb dX0_come_34 rfl hl (by decide) rfl (fun ls hl => ?_)
      refine lv_iload_n hx hb dX0_come_35 rfl (lv_at hl 3 rfl) ?_
      refine lv_bipush (v := (99 : Int32)) hx hb dX0_come_36 (by decide) ?_
      refine lv_aload_n hx hb dX0_come_38 rfl (lv_at hl 0 rfl) ?_
      obtain ⟨x9, ex9, hf⟩ := gBind hf
      refine g_getiN X hR gk_X2 5 (by decide) q528 rfl ex9 dX0_come_39 ?_
      refine lv_isub hx hb dX0_come_42 ?_
      obtain ⟨u10, eu10, hf⟩ := gBind hf
      refine g_callSi X hR hS [.int p2, .int ((99 : Int32) - x9)] (m_J11_min l G F h n p2 ((99 : Int32) - x9) eu10) yk_J11_min q944 rfl hl.1 ⟨Nat.le_of_ble_eq_true rfl, Nat.le_of_ble_eq_true rfl⟩ ⟨Nat.le_of_ble_eq_true rfl, Nat.le_of_ble_eq_true rfl⟩ rfl (Nat.le_of_ble_eq_true rfl) dX0_come_43 (fun H locs hR hS => ?_)
      refine lv_istore (lv' := [(4, .int u10), (3, .ref a8), (0, .ref a0), (1, .int p1), (2, .int p2)]) hx hb dX0_come_46 hl (by decide) rfl (fun ls hl => ?_)
      refine lv_aload_n hx hb dX0_come_48 rfl (lv_at hl 1 rfl) ?_
      refine lv_iload hx hb dX0_come_49 (lv_at hl 0 rfl) ?_
      obtain ⟨k11, hf⟩ := gChk hf
      obtain ⟨u12, eu12, hf⟩ := gBind hf
      refine g_callVv X hR hS [.int u10] (m_X2_comes l G F h n a8 u10 eu12) yk_X2_comes q1100 k11 rfl hl.1 ⟨Nat.le_of_ble_eq_true rfl, Nat.le_of_ble_eq_true rfl⟩ ⟨Nat.le_of_ble_eq_true rfl, Nat.le_of_ble_eq_true rfl⟩ rfl (Nat.le_of_ble_eq_true rfl) dX0_come_51 (fun H locs hR hS => ?_)
      refine lv_aload_n hx hb dX0_come_54 rfl (lv_at hl 2 rfl) ?_
      obtain ⟨x13, ex13, hf⟩ := gBind hf
      refine g_getr X hR gk_X0 0 (by decide) q792 rfl ex13 dX0_come_55 ?_
      refine lv_dup hx hb dX0_come_58 rfl ?_
      obtain ⟨x14, ex14, hf⟩ := gBind hf
      refine g_getiN X hR gk_X1 7 (by decide) q637 rfl ex14 dX0_come_59 ?_
      refine lv_iload_n hx hb dX0_come_62 rfl (lv_at hl 4 rfl) ?_
      refine lv_iload hx hb dX0_come_63 (lv_at hl 0 rfl) ?_
      refine lv_isub hx hb dX0_come_65 ?_
      refine lv_iadd hx hb dX0_come_66 ?_
      obtain ⟨h15, eh15, hf⟩ := gBind hf
      refine g_putN X hR hS gk_X1 7 (by decide) q637 rfl rfl eh15 rfl rfl rfl dX0_come_67 (fun H locs hR hS => ?_)
      refine lv_aload_n hx hb dX0_come_70 rfl (lv_at hl 1 rfl) ?_
      obtain ⟨x16, ex16, hf⟩ := gBind hf
      refine g_getiN X hR gk_X2 5 (by decide) q528 rfl ex16 dX0_come_71 ?_
      obtain ⟨rfl, rfl⟩ := gO2 hf
      exact g_iret X hR hS _ rfl ⟨Nat.le_of_ble_eq_true rfl, Nat.le_of_ble_eq_true rfl⟩ dX0_come_74
    · replace hf := gIfp c5 hf
      refine lv_bipush (v := (-2 : Int32)) hx hb dX0_come_22 (by decide) ?_
      obtain ⟨rfl, rfl⟩ := gO2 hf
      exact g_iret X hR hS _ rfl ⟨Nat.le_of_ble_eq_true rfl, Nat.le_of_ble_eq_true rfl⟩ dX0_come_24
  · replace hf := gIfp c3 hf
    refine lv_iconst (v := (-1 : Int32)) hx hb dX0_come_8 (by decide) ?_
    obtain ⟨rfl, rfl⟩ := gO2 hf
    exact g_iret X hR hS _ rfl ⟨Nat.le_of_ble_eq_true rfl, Nat.le_of_ble_eq_true rfl⟩ dX0_come_9

def sp_X0_seed (G : gG) (F : Nat) (h : gH) (a0 : Nat) (p1 : Int32) : Option (Int32 × gH) :=
 (gGr 0 h a0 0).bind fun x1 =>
 (gGi 1 h x1 8).bind fun x2 =>
 (gGr 0 h a0 0).bind fun x3 =>
 (gPv 1 h x3 8 (.int p1)).bind fun h4 =>
 some ((x2, h4))
theorem yk_X0_seed : gVk yX0_seed cX0_seed 3 (some .int) 1 0 := ⟨q1105, q1106, q92, q1107, ⟨by decide +kernel, by decide +kernel, by decide +kernel⟩, rfl⟩
set_option maxHeartbeats 4000000 in
theorem m_X0_seed (l : Launch) (G : gG) (F : Nat) (h : gH) (n : Nat) (a0 : Nat) (p1 : Int32) {r : Int32} {h' : gH} (hf : sp_X0_seed G F h a0 p1 = some (r, h')) : gMet l G yX0_seed cX0_seed 3 (some .int) 0 0 0 0 [.ref a0, .int p1] h n (some (.int r)) h' n := by
  refine gEnter (by decide) [(0, .ref a0), (1, .int p1)] rfl (Nat.le_of_ble_eq_true rfl) ?_
  intro p e s m below meth c H ls X hin hR hS hl
  have hx := X.1.1
  have hb := X.1.2.1
  unfold sp_X0_seed at hf
  generalize ([] : List Loc) = locs at hS ⊢
  refine lv_aload_n hx hb dX0_seed_0 rfl (lv_at hl 0 rfl) ?_
  obtain ⟨x1, ex1, hf⟩ := gBind hf
  refine g_getr X hR gk_X0 0 (by decide) q792 rfl ex1 dX0_seed_1 ?_
  obtain ⟨x2, ex2, hf⟩ := gBind hf
  refine g_getiN X hR gk_X1 8 (by decide) q639 rfl ex2 dX0_seed_4 ?_
  refine lv_istore_n (lv' := [(2, .int x2), (0, .ref a0), (1, .int p1)]) hx hb dX0_seed_7 rfl hl (by decide) rfl (fun ls hl => ?_)
  refine lv_aload_n hx hb dX0_seed_8 rfl (lv_at hl 1 rfl) ?_
  obtain ⟨x3, ex3, hf⟩ := gBind hf
  refine g_getr X hR gk_X0 0 (by decide) q792 rfl ex3 dX0_seed_9 ?_
  refine lv_iload_n hx hb dX0_seed_12 rfl (lv_at hl 2 rfl) ?_
  obtain ⟨h4, eh4, hf⟩ := gBind hf
  refine g_putN X hR hS gk_X1 8 (by decide) q639 rfl rfl eh4 rfl rfl rfl dX0_seed_13 (fun H locs hR hS => ?_)
  refine lv_iload_n hx hb dX0_seed_16 rfl (lv_at hl 0 rfl) ?_
  obtain ⟨rfl, rfl⟩ := gO2 hf
  exact g_iret X hR hS _ rfl ⟨Nat.le_of_ble_eq_true rfl, Nat.le_of_ble_eq_true rfl⟩ dX0_seed_17

def sp_X0_emergency (G : gG) (F : Nat) (h : gH) (n : Nat) (a0 : Nat) (p1 : Int32) : Option (Int32 × gH × Nat) :=
 if gIs 0 h a0 = true then
 (sp_X0_isSignal G F h a0 p1).bind fun u2 =>
 if u2 = 0 then
 some (((-1 : Int32), h, n)) else
 (gGr 0 (va_up h n (some (.inl (3, 3, .inl (fun _ => 0))))) a0 0).bind fun x4 =>
 (gGi 1 (va_up h n (some (.inl (3, 3, .inl (fun _ => 0))))) x4 0).bind fun x5 =>
 (gSb 3 (va_up h n (some (.inl (3, 3, .inl (fun _ => 0))))) n (0 : Int32) x5).bind fun h6 =>
 (gGr 0 h6 a0 0).bind fun x7 =>
 (gGi 1 h6 x7 4).bind fun x8 =>
 (if x8 = (-5 : Int32) then
 some ((1 : Int32)) else
 some ((0 : Int32))).bind fun j10 =>
 (gSb 3 h6 n (1 : Int32) j10).bind fun h11 =>
 (gGr 0 h11 a0 0).bind fun x12 =>
 if gIs 1 h11 x12 = true then
 (sp_X1_phaseWith G F h11 x12 p1).bind fun u14 =>
 (if u14 = (-5 : Int32) then
 some ((0 : Int32)) else
 some ((1 : Int32))).bind fun j16 =>
 (gSb 3 h11 n (2 : Int32) j16).bind fun h17 =>
 (sp_X0_are G F h17 n).bind fun u18 =>
 if u18 = 0 then
 some (((-3 : Int32), h17, n + 1)) else
 (gGr 0 h17 a0 0).bind fun x20 =>
 if gIs 1 h17 x20 = true then
 (sp_X1_comesToEmergency G F h17 x20 p1).bind fun u22 =>
 (gGr 0 u22 a0 0).bind fun x23 =>
 if gIs 1 u22 x23 = true then
 (sp_X1_phaseWith G F u22 x23 p1).bind fun u25 =>
 some ((u25, u22, n + 1)) else none else none else none else none
theorem yk_X0_emergency : gVk yX0_emergency cX0_emergency 2 (some .int) 1 0 := ⟨q1109, q1110, q92, q1111, ⟨by decide +kernel, by decide +kernel, by decide +kernel⟩, rfl⟩
set_option maxHeartbeats 4000000 in
theorem m_X0_emergency (l : Launch) (G : gG) (F : Nat) (h : gH) (n : Nat) (a0 : Nat) (p1 : Int32) {r : Int32} {h' : gH} {n' : Nat} (hf : sp_X0_emergency G F h n a0 p1 = some (r, h', n')) : gMet l G yX0_emergency cX0_emergency 2 (some .int) 3 64 1 3 [.ref a0, .int p1] h n (some (.int r)) h' n' := by
  refine gEnter (by decide) [(0, .ref a0), (1, .int p1)] rfl (Nat.le_of_ble_eq_true rfl) ?_
  intro p e s m below meth c H ls X hin hR hS hl
  have hx := X.1.1
  have hb := X.1.2.1
  unfold sp_X0_emergency at hf
  generalize ([] : List Loc) = locs at hS ⊢
  refine lv_aload_n hx hb dX0_emergency_0 rfl (lv_at hl 0 rfl) ?_
  refine lv_iload_n hx hb dX0_emergency_1 rfl (lv_at hl 1 rfl) ?_
  obtain ⟨k1, hf⟩ := gChk hf
  obtain ⟨u2, eu2, hf⟩ := gBind hf
  refine g_callVi X hR hS [.int p1] (m_X0_isSignal l G F h n a0 p1 eu2) yk_X0_isSignal q931 k1 rfl hl.1 ⟨Nat.le_of_ble_eq_true rfl, Nat.le_of_ble_eq_true rfl⟩ ⟨Nat.le_of_ble_eq_true rfl, Nat.le_of_ble_eq_true rfl⟩ rfl (Nat.le_of_ble_eq_true rfl) dX0_emergency_2 (fun H locs hR hS => ?_)
  refine lv_if_ne (tgt := 10) hx hb dX0_emergency_5 (by decide) (fun c3 => ?_) (fun c3 => ?_)
  · replace hf := gIfn c3 hf
    refine lv_iconst (v := (3 : Int32)) hx hb dX0_emergency_10 (by decide) ?_
    refine g_newa3 X hR hS q879 3 (by decide) (by decide) (by decide) ⟨Nat.le_of_ble_eq_true rfl, Nat.le_of_ble_eq_true rfl⟩ dX0_emergency_11 (fun H hR hS => ?_)
    refine lv_dup hx hb dX0_emergency_13 rfl ?_
    refine lv_iconst (v := (0 : Int32)) hx hb dX0_emergency_14 (by decide) ?_
    refine lv_aload_n hx hb dX0_emergency_15 rfl (lv_at hl 0 rfl) ?_
    obtain ⟨x4, ex4, hf⟩ := gBind hf
    refine g_getr X hR gk_X0 0 (by decide) q792 rfl ex4 dX0_emergency_16 ?_
    obtain ⟨x5, ex5, hf⟩ := gBind hf
    refine g_getiN X hR gk_X1 0 (by decide) q623 rfl ex5 dX0_emergency_19 ?_
    obtain ⟨h6, eh6, hf⟩ := gBind hf
    refine g_zast X hR hS eh6 dX0_emergency_22 (fun H locs hR hS => ?_)
    refine lv_dup hx hb dX0_emergency_23 rfl ?_
    refine lv_iconst (v := (1 : Int32)) hx hb dX0_emergency_24 (by decide) ?_
    refine lv_aload_n hx hb dX0_emergency_25 rfl (lv_at hl 0 rfl) ?_
    obtain ⟨x7, ex7, hf⟩ := gBind hf
    refine g_getr X hR gk_X0 0 (by decide) q792 rfl ex7 dX0_emergency_26 ?_
    obtain ⟨x8, ex8, hf⟩ := gBind hf
    refine g_getiN X hR gk_X1 4 (by decide) q631 rfl ex8 dX0_emergency_29 ?_
    refine lv_bipush (v := (-5 : Int32)) hx hb dX0_emergency_32 (by decide) ?_
    obtain ⟨j10, ej10, hf⟩ := gBind hf
    have J42_j10 : ∀ (H : Heap) (locs : List Loc) (ls : Array Slot), gRep G h6 (n + 1) H → va_S (gFr G) s.heap H locs → lv_has ls 2 [(0, .ref a0), (1, .int p1)] → W p l e ({ frames := 3, cells := 1, slots := 3, locals := 64 } : Room) s m ([.ref a0, .int p1] : List Value).toArray below meth c H locs 1 3 (MQ below (gQ G (some (.int r)) h' n') ([.ref a0, .int p1] : List Value).toArray s 1 3 (gFr G)) (F0 m 42 ls [.int j10, .int (1 : Int32), .ref n, .ref n]) := by
      intro H locs ls hR hS hl
      obtain ⟨h11, eh11, hf⟩ := gBind hf
      refine g_zast X hR hS eh11 dX0_emergency_42 (fun H locs hR hS => ?_)
      refine lv_dup hx hb dX0_emergency_43 rfl ?_
      refine lv_iconst (v := (2 : Int32)) hx hb dX0_emergency_44 (by decide) ?_
      refine lv_aload_n hx hb dX0_emergency_45 rfl (lv_at hl 0 rfl) ?_
      obtain ⟨x12, ex12, hf⟩ := gBind hf
      refine g_getr X hR gk_X0 0 (by decide) q792 rfl ex12 dX0_emergency_46 ?_
      refine lv_iload_n hx hb dX0_emergency_49 rfl (lv_at hl 1 rfl) ?_
      obtain ⟨k13, hf⟩ := gChk hf
      obtain ⟨u14, eu14, hf⟩ := gBind hf
      refine g_callVi X hR hS [.int p1] (m_X1_phaseWith l G F h11 (n + 1) x12 p1 eu14) yk_X1_phaseWith q1112 k13 rfl hl.1 ⟨Nat.le_of_ble_eq_true rfl, Nat.le_of_ble_eq_true rfl⟩ ⟨Nat.le_of_ble_eq_true rfl, Nat.le_of_ble_eq_true rfl⟩ rfl (Nat.le_of_ble_eq_true rfl) dX0_emergency_50 (fun H locs hR hS => ?_)
      refine lv_bipush (v := (-5 : Int32)) hx hb dX0_emergency_53 (by decide) ?_
      obtain ⟨j16, ej16, hf⟩ := gBind hf
      have J63_j16 : ∀ (H : Heap) (locs : List Loc) (ls : Array Slot), gRep G h11 (n + 1) H → va_S (gFr G) s.heap H locs → lv_has ls 2 [(0, .ref a0), (1, .int p1)] → W p l e ({ frames := 3, cells := 1, slots := 3, locals := 64 } : Room) s m ([.ref a0, .int p1] : List Value).toArray below meth c H locs 1 3 (MQ below (gQ G (some (.int r)) h' n') ([.ref a0, .int p1] : List Value).toArray s 1 3 (gFr G)) (F0 m 63 ls [.int j16, .int (2 : Int32), .ref n, .ref n]) := by
        intro H locs ls hR hS hl
        obtain ⟨h17, eh17, hf⟩ := gBind hf
        refine g_zast X hR hS eh17 dX0_emergency_63 (fun H locs hR hS => ?_)
        obtain ⟨u18, eu18, hf⟩ := gBind hf
        refine g_callSi X hR hS [.ref n] (m_X0_are l G F h17 (n + 1) n eu18) yk_X0_are q834 rfl hl.1 ⟨Nat.le_of_ble_eq_true rfl, Nat.le_of_ble_eq_true rfl⟩ ⟨Nat.le_of_ble_eq_true rfl, Nat.le_of_ble_eq_true rfl⟩ rfl (Nat.le_of_ble_eq_true rfl) dX0_emergency_64 (fun H locs hR hS => ?_)
        refine lv_if_ne (tgt := 73) hx hb dX0_emergency_67 (by decide) (fun c19 => ?_) (fun c19 => ?_)
        · replace hf := gIfn c19 hf
          refine lv_aload_n hx hb dX0_emergency_73 rfl (lv_at hl 0 rfl) ?_
          obtain ⟨x20, ex20, hf⟩ := gBind hf
          refine g_getr X hR gk_X0 0 (by decide) q792 rfl ex20 dX0_emergency_74 ?_
          refine lv_iload_n hx hb dX0_emergency_77 rfl (lv_at hl 1 rfl) ?_
          obtain ⟨k21, hf⟩ := gChk hf
          obtain ⟨u22, eu22, hf⟩ := gBind hf
          refine g_callVv X hR hS [.int p1] (m_X1_comesToEmergency l G F h17 (n + 1) x20 p1 eu22) yk_X1_comesToEmergency q1120 k21 rfl hl.1 ⟨Nat.le_of_ble_eq_true rfl, Nat.le_of_ble_eq_true rfl⟩ ⟨Nat.le_of_ble_eq_true rfl, Nat.le_of_ble_eq_true rfl⟩ rfl (Nat.le_of_ble_eq_true rfl) dX0_emergency_78 (fun H locs hR hS => ?_)
          refine lv_aload_n hx hb dX0_emergency_81 rfl (lv_at hl 0 rfl) ?_
          obtain ⟨x23, ex23, hf⟩ := gBind hf
          refine g_getr X hR gk_X0 0 (by decide) q792 rfl ex23 dX0_emergency_82 ?_
          refine lv_iload_n hx hb dX0_emergency_85 rfl (lv_at hl 1 rfl) ?_
          obtain ⟨k24, hf⟩ := gChk hf
          obtain ⟨u25, eu25, hf⟩ := gBind hf
          refine g_callVi X hR hS [.int p1] (m_X1_phaseWith l G F u22 (n + 1) x23 p1 eu25) yk_X1_phaseWith q1112 k24 rfl hl.1 ⟨Nat.le_of_ble_eq_true rfl, Nat.le_of_ble_eq_true rfl⟩ ⟨Nat.le_of_ble_eq_true rfl, Nat.le_of_ble_eq_true rfl⟩ rfl (Nat.le_of_ble_eq_true rfl) dX0_emergency_86 (fun H locs hR hS => ?_)
          obtain ⟨rfl, rfl, rfl⟩ := gO3 hf
          exact g_iret X hR hS _ rfl ⟨Nat.le_of_ble_eq_true rfl, Nat.le_of_ble_eq_true rfl⟩ dX0_emergency_89
        · replace hf := gIfp c19 hf
          refine lv_bipush (v := (-3 : Int32)) hx hb dX0_emergency_70 (by decide) ?_
          obtain ⟨rfl, rfl, rfl⟩ := gO3 hf
          exact g_iret X hR hS _ rfl ⟨Nat.le_of_ble_eq_true rfl, Nat.le_of_ble_eq_true rfl⟩ dX0_emergency_72
      replace hf := ej16
      clear ej16
      refine lv_icmp_eq (tgt := 62) hx hb dX0_emergency_55 (by decide) (fun c15 => ?_) (fun c15 => ?_)
      · replace hf := gIfp c15 hf
        refine lv_iconst (v := (0 : Int32)) hx hb dX0_emergency_62 (by decide) ?_
        obtain rfl := gO1 hf
        exact J63_j16 _ _ _ hR hS (lv_sub hl [0, 1] rfl)
      · replace hf := gIfn c15 hf
        refine lv_iconst (v := (1 : Int32)) hx hb dX0_emergency_58 (by decide) ?_
        refine lv_goto (tgt := 63) hx hb dX0_emergency_59 (by decide) ?_
        obtain rfl := gO1 hf
        exact J63_j16 _ _ _ hR hS (lv_sub hl [0, 1] rfl)
    replace hf := ej10
    clear ej10
    refine lv_icmp_ne (tgt := 41) hx hb dX0_emergency_34 (by decide) (fun c9 => ?_) (fun c9 => ?_)
    · replace hf := gIfn c9 hf
      refine lv_iconst (v := (0 : Int32)) hx hb dX0_emergency_41 (by decide) ?_
      obtain rfl := gO1 hf
      exact J42_j10 _ _ _ hR hS (lv_sub hl [0, 1] rfl)
    · replace hf := gIfp c9 hf
      refine lv_iconst (v := (1 : Int32)) hx hb dX0_emergency_37 (by decide) ?_
      refine lv_goto (tgt := 42) hx hb dX0_emergency_38 (by decide) ?_
      obtain rfl := gO1 hf
      exact J42_j10 _ _ _ hR hS (lv_sub hl [0, 1] rfl)
  · replace hf := gIfp c3 hf
    refine lv_iconst (v := (-1 : Int32)) hx hb dX0_emergency_8 (by decide) ?_
    obtain ⟨rfl, rfl, rfl⟩ := gO3 hf
    exact g_iret X hR hS _ rfl ⟨Nat.le_of_ble_eq_true rfl, Nat.le_of_ble_eq_true rfl⟩ dX0_emergency_9

def sp_X0_over (G : gG) (F : Nat) (h : gH) (a0 : Nat) : Option (Int32 × gH) :=
 (gGr 0 h a0 0).bind fun x1 =>
 (gGi 1 h x1 4).bind fun x2 =>
 if x2 = (-5 : Int32) then
 some (((-3 : Int32), h)) else
 (gGr 0 h a0 0).bind fun x4 =>
 (gGi 1 h x4 4).bind fun x5 =>
 (gGr 0 h a0 0).bind fun x6 =>
 (gPv 1 h x6 4 (.int (-5 : Int32))).bind fun h7 =>
 some ((x5, h7))
theorem yk_X0_over : gVk yX0_over cX0_over 2 (some .int) 0 0 := ⟨q1126, q1127, q92, q1128, ⟨by decide +kernel, by decide +kernel, by decide +kernel⟩, rfl⟩
set_option maxHeartbeats 4000000 in
theorem m_X0_over (l : Launch) (G : gG) (F : Nat) (h : gH) (n : Nat) (a0 : Nat) {r : Int32} {h' : gH} (hf : sp_X0_over G F h a0 = some (r, h')) : gMet l G yX0_over cX0_over 2 (some .int) 0 0 0 0 [.ref a0] h n (some (.int r)) h' n := by
  refine gEnter (by decide) [(0, .ref a0)] rfl (Nat.le_of_ble_eq_true rfl) ?_
  intro p e s m below meth c H ls X hin hR hS hl
  have hx := X.1.1
  have hb := X.1.2.1
  unfold sp_X0_over at hf
  generalize ([] : List Loc) = locs at hS ⊢
  refine lv_aload_n hx hb dX0_over_0 rfl (lv_at hl 0 rfl) ?_
  obtain ⟨x1, ex1, hf⟩ := gBind hf
  refine g_getr X hR gk_X0 0 (by decide) q792 rfl ex1 dX0_over_1 ?_
  obtain ⟨x2, ex2, hf⟩ := gBind hf
  refine g_getiN X hR gk_X1 4 (by decide) q631 rfl ex2 dX0_over_4 ?_
  refine lv_bipush (v := (-5 : Int32)) hx hb dX0_over_7 (by decide) ?_
  refine lv_icmp_ne (tgt := 15) hx hb dX0_over_9 (by decide) (fun c3 => ?_) (fun c3 => ?_)
  · replace hf := gIfn c3 hf
    refine lv_aload_n hx hb dX0_over_15 rfl (lv_at hl 0 rfl) ?_
    obtain ⟨x4, ex4, hf⟩ := gBind hf
    refine g_getr X hR gk_X0 0 (by decide) q792 rfl ex4 dX0_over_16 ?_
    obtain ⟨x5, ex5, hf⟩ := gBind hf
    refine g_getiN X hR gk_X1 4 (by decide) q631 rfl ex5 dX0_over_19 ?_
    refine lv_istore_n (lv' := [(1, .int x5), (0, .ref a0)]) hx hb dX0_over_22 rfl hl (by decide) rfl (fun ls hl => ?_)
    refine lv_aload_n hx hb dX0_over_23 rfl (lv_at hl 1 rfl) ?_
    obtain ⟨x6, ex6, hf⟩ := gBind hf
    refine g_getr X hR gk_X0 0 (by decide) q792 rfl ex6 dX0_over_24 ?_
    refine lv_bipush (v := (-5 : Int32)) hx hb dX0_over_27 (by decide) ?_
    obtain ⟨h7, eh7, hf⟩ := gBind hf
    refine g_putN X hR hS gk_X1 4 (by decide) q631 rfl rfl eh7 rfl rfl rfl dX0_over_29 (fun H locs hR hS => ?_)
    refine lv_iload_n hx hb dX0_over_32 rfl (lv_at hl 0 rfl) ?_
    obtain ⟨rfl, rfl⟩ := gO2 hf
    exact g_iret X hR hS _ rfl ⟨Nat.le_of_ble_eq_true rfl, Nat.le_of_ble_eq_true rfl⟩ dX0_over_33
  · replace hf := gIfp c3 hf
    refine lv_bipush (v := (-3 : Int32)) hx hb dX0_over_12 (by decide) ?_
    obtain ⟨rfl, rfl⟩ := gO2 hf
    exact g_iret X hR hS _ rfl ⟨Nat.le_of_ble_eq_true rfl, Nat.le_of_ble_eq_true rfl⟩ dX0_over_14

def sp_X0_counts (G : gG) (F : Nat) (h : gH) (a0 : Nat) (p1 : Int32) : Option (Int32 × gH) :=
 (gGi 0 h a0 3).bind fun x1 =>
 if (x1 + p1) ≤ (12000 : Int32) then
 (gGi 0 h a0 3).bind fun x3 =>
 (gPv 0 h a0 3 (.int (x3 + p1))).bind fun h4 =>
 some (((1 : Int32), h4)) else
 some (((0 : Int32), h))
theorem yk_X0_counts : gVk yX0_counts cX0_counts 2 (some .boolean) 1 0 := ⟨q1135, qs12, q92, q1136, ⟨by decide +kernel, by decide +kernel, by decide +kernel⟩, rfl⟩
set_option maxHeartbeats 4000000 in
theorem m_X0_counts (l : Launch) (G : gG) (F : Nat) (h : gH) (n : Nat) (a0 : Nat) (p1 : Int32) {r : Int32} {h' : gH} (hf : sp_X0_counts G F h a0 p1 = some (r, h')) : gMet l G yX0_counts cX0_counts 2 (some .boolean) 0 0 0 0 [.ref a0, .int p1] h n (some (.int r)) h' n := by
  refine gEnter (by decide) [(0, .ref a0), (1, .int p1)] rfl (Nat.le_of_ble_eq_true rfl) ?_
  intro p e s m below meth c H ls X hin hR hS hl
  have hx := X.1.1
  have hb := X.1.2.1
  unfold sp_X0_counts at hf
  generalize ([] : List Loc) = locs at hS ⊢
  refine lv_aload_n hx hb dX0_counts_0 rfl (lv_at hl 0 rfl) ?_
  obtain ⟨x1, ex1, hf⟩ := gBind hf
  refine g_geti X hR gk_X0 3 (by decide) q795 rfl ex1 dX0_counts_1 ?_
  refine lv_iload_n hx hb dX0_counts_4 rfl (lv_at hl 1 rfl) ?_
  refine lv_iadd hx hb dX0_counts_5 ?_
  refine lv_sipush (v := (12000 : Int32)) hx hb dX0_counts_6 (by decide) ?_
  refine lv_icmp_le (tgt := 14) hx hb dX0_counts_9 (by decide) (fun c2 => ?_) (fun c2 => ?_)
  · replace hf := gIfp c2 hf
    refine lv_aload_n hx hb dX0_counts_14 rfl (lv_at hl 0 rfl) ?_
    refine lv_dup hx hb dX0_counts_15 rfl ?_
    obtain ⟨x3, ex3, hf⟩ := gBind hf
    refine g_geti X hR gk_X0 3 (by decide) q795 rfl ex3 dX0_counts_16 ?_
    refine lv_iload_n hx hb dX0_counts_19 rfl (lv_at hl 1 rfl) ?_
    refine lv_iadd hx hb dX0_counts_20 ?_
    obtain ⟨h4, eh4, hf⟩ := gBind hf
    refine g_put X hR hS gk_X0 3 (by decide) q795 rfl rfl eh4 rfl rfl rfl dX0_counts_21 (fun H locs hR hS => ?_)
    refine lv_iconst (v := (1 : Int32)) hx hb dX0_counts_24 (by decide) ?_
    obtain ⟨rfl, rfl⟩ := gO2 hf
    exact g_zret X hR hS _ rfl rfl ⟨Nat.le_of_ble_eq_true rfl, Nat.le_of_ble_eq_true rfl⟩ dX0_counts_25
  · replace hf := gIfn c2 hf
    refine lv_iconst (v := (0 : Int32)) hx hb dX0_counts_12 (by decide) ?_
    obtain ⟨rfl, rfl⟩ := gO2 hf
    exact g_zret X hR hS _ rfl rfl ⟨Nat.le_of_ble_eq_true rfl, Nat.le_of_ble_eq_true rfl⟩ dX0_counts_13

def sp_X0_pass (G : gG) (F : Nat) (h : gH) (a0 : Nat) (p1 : Int32) : Option (Int32 × gH) :=
 (sp_X0_in G F h p1.toInt64 (0 : Int64) (99 : Int64)).bind fun u1 =>
 if u1 = 0 then
 some (((-2 : Int32), h)) else
 (gGr 0 h a0 0).bind fun x3 =>
 (gGi 1 h x3 0).bind fun x4 =>
 if x4 = 0 then
 some (((-3 : Int32), h)) else
 if gIs 0 h a0 = true then
 (sp_X0_counts G F h a0 p1).bind fun u7 =>
 if u7.1 = 0 then
 some (((-4 : Int32), u7.2)) else
 (gGr 0 u7.2 a0 0).bind fun x9 =>
 (gGi 1 u7.2 x9 6).bind fun x10 =>
 (gGr 0 u7.2 a0 0).bind fun x11 =>
 if gIs 1 u7.2 x11 = true then
 (sp_X1_passes G F u7.2 x11 p1).bind fun u13 =>
 (gGi 1 u13.2 u13.1 6).bind fun x14 =>
 some ((x14 - x10, u13.2)) else none else none
theorem yk_X0_pass : gVk yX0_pass cX0_pass 3 (some .int) 1 0 := ⟨q1130, q1131, q92, q1132, ⟨by decide +kernel, by decide +kernel, by decide +kernel⟩, rfl⟩
set_option maxHeartbeats 4000000 in
theorem m_X0_pass (l : Launch) (G : gG) (F : Nat) (h : gH) (n : Nat) (a0 : Nat) (p1 : Int32) {r : Int32} {h' : gH} (hf : sp_X0_pass G F h a0 p1 = some (r, h')) : gMet l G yX0_pass cX0_pass 3 (some .int) 6 134 0 0 [.ref a0, .int p1] h n (some (.int r)) h' n := by
  refine gEnter (by decide) [(0, .ref a0), (1, .int p1)] rfl (Nat.le_of_ble_eq_true rfl) ?_
  intro p e s m below meth c H ls X hin hR hS hl
  have hx := X.1.1
  have hb := X.1.2.1
  unfold sp_X0_pass at hf
  generalize ([] : List Loc) = locs at hS ⊢
  refine lv_iload_n hx hb dX0_pass_0 rfl (lv_at hl 1 rfl) ?_
  refine lv_i2l (v := p1.toInt64) hx hb dX0_pass_1 rfl ?_
  refine lv_lconst (v := (0 : Int64)) hx hb dX0_pass_2 (by decide) ?_
  refine lv_ldc2 (v := (99 : Int64)) hx hb X.1.2.2.2.1 (X.1.2.2.2.2 _ q949) dX0_pass_3 ?_
  obtain ⟨u1, eu1, hf⟩ := gBind hf
  refine g_callSi X hR hS [.long p1.toInt64, .long (0 : Int64), .long (99 : Int64)] (m_X0_in l G F h n p1.toInt64 (0 : Int64) (99 : Int64) eu1) yk_X0_in q830 rfl hl.1 ⟨Nat.le_of_ble_eq_true rfl, Nat.le_of_ble_eq_true rfl⟩ ⟨Nat.le_of_ble_eq_true rfl, Nat.le_of_ble_eq_true rfl⟩ rfl (Nat.le_of_ble_eq_true rfl) dX0_pass_6 (fun H locs hR hS => ?_)
  refine lv_if_ne (tgt := 15) hx hb dX0_pass_9 (by decide) (fun c2 => ?_) (fun c2 => ?_)
  · replace hf := gIfn c2 hf
    refine lv_aload_n hx hb dX0_pass_15 rfl (lv_at hl 0 rfl) ?_
    obtain ⟨x3, ex3, hf⟩ := gBind hf
    refine g_getr X hR gk_X0 0 (by decide) q792 rfl ex3 dX0_pass_16 ?_
    obtain ⟨x4, ex4, hf⟩ := gBind hf
    refine g_getiN X hR gk_X1 0 (by decide) q623 rfl ex4 dX0_pass_19 ?_
    refine lv_if_ne (tgt := 28) hx hb dX0_pass_22 (by decide) (fun c5 => ?_) (fun c5 => ?_)
    · replace hf := gIfn c5 hf
      refine lv_aload_n hx hb dX0_pass_28 rfl (lv_at hl 0 rfl) ?_
      refine lv_iload_n hx hb dX0_pass_29 rfl (lv_at hl 1 rfl) ?_
      obtain ⟨k6, hf⟩ := gChk hf
      obtain ⟨u7, eu7, hf⟩ := gBind hf
      refine g_callVi X hR hS [.int p1] (m_X0_counts l G F h n a0 p1 eu7) yk_X0_counts q1133 k6 rfl hl.1 ⟨Nat.le_of_ble_eq_true rfl, Nat.le_of_ble_eq_true rfl⟩ ⟨Nat.le_of_ble_eq_true rfl, Nat.le_of_ble_eq_true rfl⟩ rfl (Nat.le_of_ble_eq_true rfl) dX0_pass_30 (fun H locs hR hS => ?_)
      refine lv_if_ne (tgt := 39) hx hb dX0_pass_33 (by decide) (fun c8 => ?_) (fun c8 => ?_)
      · replace hf := gIfn c8 hf
        refine lv_aload_n hx hb dX0_pass_39 rfl (lv_at hl 0 rfl) ?_
        obtain ⟨x9, ex9, hf⟩ := gBind hf
        refine g_getr X hR gk_X0 0 (by decide) q792 rfl ex9 dX0_pass_40 ?_
        obtain ⟨x10, ex10, hf⟩ := gBind hf
        refine g_getiN X hR gk_X1 6 (by decide) q635 rfl ex10 dX0_pass_43 ?_
        refine lv_istore_n (lv' := [(2, .int x10), (0, .ref a0), (1, .int p1)]) hx hb dX0_pass_46 rfl hl (by decide) rfl (fun ls hl => ?_)
        refine lv_aload_n hx hb dX0_pass_47 rfl (lv_at hl 1 rfl) ?_
        obtain ⟨x11, ex11, hf⟩ := gBind hf
        refine g_getr X hR gk_X0 0 (by decide) q792 rfl ex11 dX0_pass_48 ?_
        refine lv_iload_n hx hb dX0_pass_51 rfl (lv_at hl 2 rfl) ?_
        obtain ⟨k12, hf⟩ := gChk hf
        obtain ⟨u13, eu13, hf⟩ := gBind hf
        refine g_callVr X hR hS [.int p1] (m_X1_passes l G F u7.2 n x11 p1 eu13) yk_X1_passes q1137 k12 rfl hl.1 ⟨Nat.le_of_ble_eq_true rfl, Nat.le_of_ble_eq_true rfl⟩ ⟨Nat.le_of_ble_eq_true rfl, Nat.le_of_ble_eq_true rfl⟩ rfl (Nat.le_of_ble_eq_true rfl) dX0_pass_52 (fun H locs hR hS => ?_)
        obtain ⟨x14, ex14, hf⟩ := gBind hf
        refine g_getiN X hR gk_X1 6 (by decide) q635 rfl ex14 dX0_pass_55 ?_
        refine lv_iload_n hx hb dX0_pass_58 rfl (lv_at hl 0 rfl) ?_
        refine lv_isub hx hb dX0_pass_59 ?_
        obtain ⟨rfl, rfl⟩ := gO2 hf
        exact g_iret X hR hS _ rfl ⟨Nat.le_of_ble_eq_true rfl, Nat.le_of_ble_eq_true rfl⟩ dX0_pass_60
      · replace hf := gIfp c8 hf
        refine lv_bipush (v := (-4 : Int32)) hx hb dX0_pass_36 (by decide) ?_
        obtain ⟨rfl, rfl⟩ := gO2 hf
        exact g_iret X hR hS _ rfl ⟨Nat.le_of_ble_eq_true rfl, Nat.le_of_ble_eq_true rfl⟩ dX0_pass_38
    · replace hf := gIfp c5 hf
      refine lv_bipush (v := (-3 : Int32)) hx hb dX0_pass_25 (by decide) ?_
      obtain ⟨rfl, rfl⟩ := gO2 hf
      exact g_iret X hR hS _ rfl ⟨Nat.le_of_ble_eq_true rfl, Nat.le_of_ble_eq_true rfl⟩ dX0_pass_27
  · replace hf := gIfp c2 hf
    refine lv_bipush (v := (-2 : Int32)) hx hb dX0_pass_12 (by decide) ?_
    obtain ⟨rfl, rfl⟩ := gO2 hf
    exact g_iret X hR hS _ rfl ⟨Nat.le_of_ble_eq_true rfl, Nat.le_of_ble_eq_true rfl⟩ dX0_pass_14

def sp_X0_toldOf (G : gG) (F : Nat) (h : gH) (a0 : Nat) (p1 : Int32) : Option (Int32) :=
 if p1 = (0 : Int32) then
 (gGi 1 h a0 1).bind fun x2 =>
 some (x2) else
 if p1 = (1 : Int32) then
 (gGi 1 h a0 2).bind fun x4 =>
 some (x4) else
 if p1 = (2 : Int32) then
 (gGi 1 h a0 3).bind fun x6 =>
 some (x6) else
 if p1 = (3 : Int32) then
 (gGi 1 h a0 4).bind fun x8 =>
 some (x8) else
 if p1 = (4 : Int32) then
 (gGi 1 h a0 5).bind fun x10 =>
 some (x10) else
 if p1 = (5 : Int32) then
 (gGi 1 h a0 6).bind fun x12 =>
 some (x12) else
 if p1 = (6 : Int32) then
 (gGi 1 h a0 7).bind fun x14 =>
 some (x14) else
 if p1 = (7 : Int32) then
 if gIs 1 h a0 = true then
 (sp_X1_withLight G F h a0 (2 : Int32)).bind fun u17 =>
 some (u17) else none else
 if p1 = (8 : Int32) then
 if gIs 1 h a0 = true then
 (sp_X1_withLight G F h a0 (1 : Int32)).bind fun u20 =>
 some (u20) else none else
 if p1 = (9 : Int32) then
 if gIs 1 h a0 = true then
 (sp_X1_calledPhases G F h a0).bind fun u23 =>
 some (u23) else none else
 if p1 = (10 : Int32) then
 (gGi 1 h a0 8).bind fun x25 =>
 some (x25) else
 if p1 = (11 : Int32) then
 (gGi 1 h a0 9).bind fun x27 =>
 some (x27) else
 if p1 = (12 : Int32) then
 (gGi 1 h a0 10).bind fun x29 =>
 some (x29) else
 if p1 = (13 : Int32) then
 (gGi 1 h a0 11).bind fun x31 =>
 some (x31) else
 if p1 = (14 : Int32) then
 (gGi 1 h a0 12).bind fun x33 =>
 some (x33) else
 if p1 = (15 : Int32) then
 if gIs 1 h a0 = true then
 (sp_X1_local G F h a0).bind fun u36 =>
 some (u36) else none else
 if p1 = (16 : Int32) then
 (gGi 1 h a0 13).bind fun x38 =>
 some (x38) else
 if p1 = (17 : Int32) then
 (gGi 1 h a0 14).bind fun x40 =>
 some (x40) else
 if gIs 1 h a0 = true then
 (sp_X1_queues G F h a0).bind fun u42 =>
 some (u42) else none
theorem yk_X0_toldOf : gSk yX0_toldOf cX0_toldOf 2 (some .int) 2 := ⟨q1253, q92, q1254, ⟨by decide +kernel, by decide +kernel, by decide +kernel⟩⟩
set_option maxHeartbeats 4000000 in
theorem m_X0_toldOf (l : Launch) (G : gG) (F : Nat) (h : gH) (n : Nat) (a0 : Nat) (p1 : Int32) {r : Int32} (hf : sp_X0_toldOf G F h a0 p1 = some r) : gMet l G yX0_toldOf cX0_toldOf 2 (some .int) 3 65 0 0 [.ref a0, .int p1] h n (some (.int r)) h n := by
  refine gEnter (by decide) [(0, .ref a0), (1, .int p1)] rfl (Nat.le_of_ble_eq_true rfl) ?_
  intro p e s m below meth c H ls X hin hR hS hl
  have hx := X.1.1
  have hb := X.1.2.1
  unfold sp_X0_toldOf at hf
  generalize ([] : List Loc) = locs at hS ⊢
  refine lv_iload_n hx hb dX0_toldOf_0 rfl (lv_at hl 1 rfl) ?_
  by_cases c1 : p1 = (0 : Int32)
  · replace hf := gIfp c1 hf
    refine lv_tableIn (off := 87) (tgt := 88) hx hb dX0_toldOf_1 (by rw [c1]; decide) (by rw [c1]; decide) (by rw [c1]; rfl) (by decide) ?_
    refine lv_aload_n hx hb dX0_toldOf_88 rfl (lv_at hl 0 rfl) ?_
    obtain ⟨x2, ex2, hf⟩ := gBind hf
    refine g_getiN X hR gk_X1 1 (by decide) q625 rfl ex2 dX0_toldOf_89 ?_
    obtain rfl := gO1 hf
    exact g_iret X hR hS _ rfl ⟨Nat.le_of_ble_eq_true rfl, Nat.le_of_ble_eq_true rfl⟩ dX0_toldOf_92
  replace hf := gIfn c1 hf
  by_cases c3 : p1 = (1 : Int32)
  · replace hf := gIfp c3 hf
    refine lv_tableIn (off := 92) (tgt := 93) hx hb dX0_toldOf_1 (by rw [c3]; decide) (by rw [c3]; decide) (by rw [c3]; rfl) (by decide) ?_
    refine lv_aload_n hx hb dX0_toldOf_93 rfl (lv_at hl 0 rfl) ?_
    obtain ⟨x4, ex4, hf⟩ := gBind hf
    refine g_getiN X hR gk_X1 2 (by decide) q627 rfl ex4 dX0_toldOf_94 ?_
    obtain rfl := gO1 hf
    exact g_iret X hR hS _ rfl ⟨Nat.le_of_ble_eq_true rfl, Nat.le_of_ble_eq_true rfl⟩ dX0_toldOf_97
  replace hf := gIfn c3 hf
  by_cases c5 : p1 = (2 : Int32)
  · replace hf := gIfp c5 hf
    refine lv_tableIn (off := 97) (tgt := 98) hx hb dX0_toldOf_1 (by rw [c5]; decide) (by rw [c5]; decide) (by rw [c5]; rfl) (by decide) ?_
    refine lv_aload_n hx hb dX0_toldOf_98 rfl (lv_at hl 0 rfl) ?_
    obtain ⟨x6, ex6, hf⟩ := gBind hf
    refine g_getiN X hR gk_X1 3 (by decide) q629 rfl ex6 dX0_toldOf_99 ?_
    obtain rfl := gO1 hf
    exact g_iret X hR hS _ rfl ⟨Nat.le_of_ble_eq_true rfl, Nat.le_of_ble_eq_true rfl⟩ dX0_toldOf_102
  replace hf := gIfn c5 hf
  by_cases c7 : p1 = (3 : Int32)
  · replace hf := gIfp c7 hf
    refine lv_tableIn (off := 102) (tgt := 103) hx hb dX0_toldOf_1 (by rw [c7]; decide) (by rw [c7]; decide) (by rw [c7]; rfl) (by decide) ?_
    refine lv_aload_n hx hb dX0_toldOf_103 rfl (lv_at hl 0 rfl) ?_
    obtain ⟨x8, ex8, hf⟩ := gBind hf
    refine g_getiN X hR gk_X1 4 (by decide) q631 rfl ex8 dX0_toldOf_104 ?_
    obtain rfl := gO1 hf
    exact g_iret X hR hS _ rfl ⟨Nat.le_of_ble_eq_true rfl, Nat.le_of_ble_eq_true rfl⟩ dX0_toldOf_107
  replace hf := gIfn c7 hf
  by_cases c9 : p1 = (4 : Int32)
  · replace hf := gIfp c9 hf
    refine lv_tableIn (off := 107) (tgt := 108) hx hb dX0_toldOf_1 (by rw [c9]; decide) (by rw [c9]; decide) (by rw [c9]; rfl) (by decide) ?_
    refine lv_aload_n hx hb dX0_toldOf_108 rfl (lv_at hl 0 rfl) ?_
    obtain ⟨x10, ex10, hf⟩ := gBind hf
    refine g_getiN X hR gk_X1 5 (by decide) q633 rfl ex10 dX0_toldOf_109 ?_
    obtain rfl := gO1 hf
    exact g_iret X hR hS _ rfl ⟨Nat.le_of_ble_eq_true rfl, Nat.le_of_ble_eq_true rfl⟩ dX0_toldOf_112
  replace hf := gIfn c9 hf
  by_cases c11 : p1 = (5 : Int32)
  · replace hf := gIfp c11 hf
    refine lv_tableIn (off := 112) (tgt := 113) hx hb dX0_toldOf_1 (by rw [c11]; decide) (by rw [c11]; decide) (by rw [c11]; rfl) (by decide) ?_
    refine lv_aload_n hx hb dX0_toldOf_113 rfl (lv_at hl 0 rfl) ?_
    obtain ⟨x12, ex12, hf⟩ := gBind hf
    refine g_getiN X hR gk_X1 6 (by decide) q635 rfl ex12 dX0_toldOf_114 ?_
    obtain rfl := gO1 hf
    exact g_iret X hR hS _ rfl ⟨Nat.le_of_ble_eq_true rfl, Nat.le_of_ble_eq_true rfl⟩ dX0_toldOf_117
  replace hf := gIfn c11 hf
  by_cases c13 : p1 = (6 : Int32)
  · replace hf := gIfp c13 hf
    refine lv_tableIn (off := 117) (tgt := 118) hx hb dX0_toldOf_1 (by rw [c13]; decide) (by rw [c13]; decide) (by rw [c13]; rfl) (by decide) ?_
    refine lv_aload_n hx hb dX0_toldOf_118 rfl (lv_at hl 0 rfl) ?_
    obtain ⟨x14, ex14, hf⟩ := gBind hf
    refine g_getiN X hR gk_X1 7 (by decide) q637 rfl ex14 dX0_toldOf_119 ?_
    obtain rfl := gO1 hf
    exact g_iret X hR hS _ rfl ⟨Nat.le_of_ble_eq_true rfl, Nat.le_of_ble_eq_true rfl⟩ dX0_toldOf_122
  replace hf := gIfn c13 hf
  by_cases c15 : p1 = (7 : Int32)
  · replace hf := gIfp c15 hf
    refine lv_tableIn (off := 122) (tgt := 123) hx hb dX0_toldOf_1 (by rw [c15]; decide) (by rw [c15]; decide) (by rw [c15]; rfl) (by decide) ?_
    refine lv_aload_n hx hb dX0_toldOf_123 rfl (lv_at hl 0 rfl) ?_
    refine lv_iconst (v := (2 : Int32)) hx hb dX0_toldOf_124 (by decide) ?_
    obtain ⟨k16, hf⟩ := gChk hf
    obtain ⟨u17, eu17, hf⟩ := gBind hf
    refine g_callVi X hR hS [.int (2 : Int32)] (m_X1_withLight l G F h n a0 (2 : Int32) eu17) yk_X1_withLight q1255 k16 rfl hl.1 ⟨Nat.le_of_ble_eq_true rfl, Nat.le_of_ble_eq_true rfl⟩ ⟨Nat.le_of_ble_eq_true rfl, Nat.le_of_ble_eq_true rfl⟩ rfl (Nat.le_of_ble_eq_true rfl) dX0_toldOf_125 (fun H locs hR hS => ?_)
    obtain rfl := gO1 hf
    exact g_iret X hR hS _ rfl ⟨Nat.le_of_ble_eq_true rfl, Nat.le_of_ble_eq_true rfl⟩ dX0_toldOf_128
  replace hf := gIfn c15 hf
  by_cases c18 : p1 = (8 : Int32)
  · replace hf := gIfp c18 hf
    refine lv_tableIn (off := 128) (tgt := 129) hx hb dX0_toldOf_1 (by rw [c18]; decide) (by rw [c18]; decide) (by rw [c18]; rfl) (by decide) ?_
    refine lv_aload_n hx hb dX0_toldOf_129 rfl (lv_at hl 0 rfl) ?_
    refine lv_iconst (v := (1 : Int32)) hx hb dX0_toldOf_130 (by decide) ?_
    obtain ⟨k19, hf⟩ := gChk hf
    obtain ⟨u20, eu20, hf⟩ := gBind hf
    refine g_callVi X hR hS [.int (1 : Int32)] (m_X1_withLight l G F h n a0 (1 : Int32) eu20) yk_X1_withLight q1255 k19 rfl hl.1 ⟨Nat.le_of_ble_eq_true rfl, Nat.le_of_ble_eq_true rfl⟩ ⟨Nat.le_of_ble_eq_true rfl, Nat.le_of_ble_eq_true rfl⟩ rfl (Nat.le_of_ble_eq_true rfl) dX0_toldOf_131 (fun H locs hR hS => ?_)
    obtain rfl := gO1 hf
    exact g_iret X hR hS _ rfl ⟨Nat.le_of_ble_eq_true rfl, Nat.le_of_ble_eq_true rfl⟩ dX0_toldOf_134
  replace hf := gIfn c18 hf
  by_cases c21 : p1 = (9 : Int32)
  · replace hf := gIfp c21 hf
    refine lv_tableIn (off := 134) (tgt := 135) hx hb dX0_toldOf_1 (by rw [c21]; decide) (by rw [c21]; decide) (by rw [c21]; rfl) (by decide) ?_
    refine lv_aload_n hx hb dX0_toldOf_135 rfl (lv_at hl 0 rfl) ?_
    obtain ⟨k22, hf⟩ := gChk hf
    obtain ⟨u23, eu23, hf⟩ := gBind hf
    refine g_callVi X hR hS [] (m_X1_calledPhases l G F h n a0 eu23) yk_X1_calledPhases q1263 k22 rfl hl.1 ⟨Nat.le_of_ble_eq_true rfl, Nat.le_of_ble_eq_true rfl⟩ ⟨Nat.le_of_ble_eq_true rfl, Nat.le_of_ble_eq_true rfl⟩ rfl (Nat.le_of_ble_eq_true rfl) dX0_toldOf_136 (fun H locs hR hS => ?_)
    obtain rfl := gO1 hf
    exact g_iret X hR hS _ rfl ⟨Nat.le_of_ble_eq_true rfl, Nat.le_of_ble_eq_true rfl⟩ dX0_toldOf_139
  replace hf := gIfn c21 hf
  by_cases c24 : p1 = (10 : Int32)
  · replace hf := gIfp c24 hf
    refine lv_tableIn (off := 139) (tgt := 140) hx hb dX0_toldOf_1 (by rw [c24]; decide) (by rw [c24]; decide) (by rw [c24]; rfl) (by decide) ?_
    refine lv_aload_n hx hb dX0_toldOf_140 rfl (lv_at hl 0 rfl) ?_
    obtain ⟨x25, ex25, hf⟩ := gBind hf
    refine g_getiN X hR gk_X1 8 (by decide) q639 rfl ex25 dX0_toldOf_141 ?_
    obtain rfl := gO1 hf
    exact g_iret X hR hS _ rfl ⟨Nat.le_of_ble_eq_true rfl, Nat.le_of_ble_eq_true rfl⟩ dX0_toldOf_144
  replace hf := gIfn c24 hf
  by_cases c26 : p1 = (11 : Int32)
  · replace hf := gIfp c26 hf
    refine lv_tableIn (off := 144) (tgt := 145) hx hb dX0_toldOf_1 (by rw [c26]; decide) (by rw [c26]; decide) (by rw [c26]; rfl) (by decide) ?_
    refine lv_aload_n hx hb dX0_toldOf_145 rfl (lv_at hl 0 rfl) ?_
    obtain ⟨x27, ex27, hf⟩ := gBind hf
    refine g_getiN X hR gk_X1 9 (by decide) q641 rfl ex27 dX0_toldOf_146 ?_
    obtain rfl := gO1 hf
    exact g_iret X hR hS _ rfl ⟨Nat.le_of_ble_eq_true rfl, Nat.le_of_ble_eq_true rfl⟩ dX0_toldOf_149
  replace hf := gIfn c26 hf
  by_cases c28 : p1 = (12 : Int32)
  · replace hf := gIfp c28 hf
    refine lv_tableIn (off := 149) (tgt := 150) hx hb dX0_toldOf_1 (by rw [c28]; decide) (by rw [c28]; decide) (by rw [c28]; rfl) (by decide) ?_
    refine lv_aload_n hx hb dX0_toldOf_150 rfl (lv_at hl 0 rfl) ?_
    obtain ⟨x29, ex29, hf⟩ := gBind hf
    refine g_getiN X hR gk_X1 10 (by decide) q643 rfl ex29 dX0_toldOf_151 ?_
    obtain rfl := gO1 hf
    exact g_iret X hR hS _ rfl ⟨Nat.le_of_ble_eq_true rfl, Nat.le_of_ble_eq_true rfl⟩ dX0_toldOf_154
  replace hf := gIfn c28 hf
  by_cases c30 : p1 = (13 : Int32)
  · replace hf := gIfp c30 hf
    refine lv_tableIn (off := 154) (tgt := 155) hx hb dX0_toldOf_1 (by rw [c30]; decide) (by rw [c30]; decide) (by rw [c30]; rfl) (by decide) ?_
    refine lv_aload_n hx hb dX0_toldOf_155 rfl (lv_at hl 0 rfl) ?_
    obtain ⟨x31, ex31, hf⟩ := gBind hf
    refine g_getiN X hR gk_X1 11 (by decide) q645 rfl ex31 dX0_toldOf_156 ?_
    obtain rfl := gO1 hf
    exact g_iret X hR hS _ rfl ⟨Nat.le_of_ble_eq_true rfl, Nat.le_of_ble_eq_true rfl⟩ dX0_toldOf_159
  replace hf := gIfn c30 hf
  by_cases c32 : p1 = (14 : Int32)
  · replace hf := gIfp c32 hf
    refine lv_tableIn (off := 159) (tgt := 160) hx hb dX0_toldOf_1 (by rw [c32]; decide) (by rw [c32]; decide) (by rw [c32]; rfl) (by decide) ?_
    refine lv_aload_n hx hb dX0_toldOf_160 rfl (lv_at hl 0 rfl) ?_
    obtain ⟨x33, ex33, hf⟩ := gBind hf
    refine g_getiN X hR gk_X1 12 (by decide) q647 rfl ex33 dX0_toldOf_161 ?_
    obtain rfl := gO1 hf
    exact g_iret X hR hS _ rfl ⟨Nat.le_of_ble_eq_true rfl, Nat.le_of_ble_eq_true rfl⟩ dX0_toldOf_164
  replace hf := gIfn c32 hf
  by_cases c34 : p1 = (15 : Int32)
  · replace hf := gIfp c34 hf
    refine lv_tableIn (off := 164) (tgt := 165) hx hb dX0_toldOf_1 (by rw [c34]; decide) (by rw [c34]; decide) (by rw [c34]; rfl) (by decide) ?_
    refine lv_aload_n hx hb dX0_toldOf_165 rfl (lv_at hl 0 rfl) ?_
    obtain ⟨k35, hf⟩ := gChk hf
    obtain ⟨u36, eu36, hf⟩ := gBind hf
    refine g_callVi X hR hS [] (m_X1_local l G F h n a0 eu36) yk_X1_local q1267 k35 rfl hl.1 ⟨Nat.le_of_ble_eq_true rfl, Nat.le_of_ble_eq_true rfl⟩ ⟨Nat.le_of_ble_eq_true rfl, Nat.le_of_ble_eq_true rfl⟩ rfl (Nat.le_of_ble_eq_true rfl) dX0_toldOf_166 (fun H locs hR hS => ?_)
    obtain rfl := gO1 hf
    exact g_iret X hR hS _ rfl ⟨Nat.le_of_ble_eq_true rfl, Nat.le_of_ble_eq_true rfl⟩ dX0_toldOf_169
  replace hf := gIfn c34 hf
  by_cases c37 : p1 = (16 : Int32)
  · replace hf := gIfp c37 hf
    refine lv_tableIn (off := 169) (tgt := 170) hx hb dX0_toldOf_1 (by rw [c37]; decide) (by rw [c37]; decide) (by rw [c37]; rfl) (by decide) ?_
    refine lv_aload_n hx hb dX0_toldOf_170 rfl (lv_at hl 0 rfl) ?_
    obtain ⟨x38, ex38, hf⟩ := gBind hf
    refine g_getiN X hR gk_X1 13 (by decide) q649 rfl ex38 dX0_toldOf_171 ?_
    obtain rfl := gO1 hf
    exact g_iret X hR hS _ rfl ⟨Nat.le_of_ble_eq_true rfl, Nat.le_of_ble_eq_true rfl⟩ dX0_toldOf_174
  replace hf := gIfn c37 hf
  by_cases c39 : p1 = (17 : Int32)
  · replace hf := gIfp c39 hf
    refine lv_tableIn (off := 174) (tgt := 175) hx hb dX0_toldOf_1 (by rw [c39]; decide) (by rw [c39]; decide) (by rw [c39]; rfl) (by decide) ?_
    refine lv_aload_n hx hb dX0_toldOf_175 rfl (lv_at hl 0 rfl) ?_
    obtain ⟨x40, ex40, hf⟩ := gBind hf
    refine g_getiN X hR gk_X1 14 (by decide) q651 rfl ex40 dX0_toldOf_176 ?_
    obtain rfl := gO1 hf
    exact g_iret X hR hS _ rfl ⟨Nat.le_of_ble_eq_true rfl, Nat.le_of_ble_eq_true rfl⟩ dX0_toldOf_179
  replace hf := gIfn c39 hf
  refine lv_tableOut (tgt := 180) hx hb dX0_toldOf_1 (by have tc1 := lv_neT (k := (0 : Int32)) (a := 0) c1 (by decide); have tc3 := lv_neT (k := (1 : Int32)) (a := 1) c3 (by decide); have tc5 := lv_neT (k := (2 : Int32)) (a := 2) c5 (by decide); have tc7 := lv_neT (k := (3 : Int32)) (a := 3) c7 (by decide); have tc9 := lv_neT (k := (4 : Int32)) (a := 4) c9 (by decide); have tc11 := lv_neT (k := (5 : Int32)) (a := 5) c11 (by decide); have tc13 := lv_neT (k := (6 : Int32)) (a := 6) c13 (by decide); have tc15 := lv_neT (k := (7 : Int32)) (a := 7) c15 (by decide); have tc18 := lv_neT (k := (8 : Int32)) (a := 8) c18 (by decide); have tc21 := lv_neT (k := (9 : Int32)) (a := 9) c21 (by decide); have tc24 := lv_neT (k := (10 : Int32)) (a := 10) c24 (by decide); have tc26 := lv_neT (k := (11 : Int32)) (a := 11) c26 (by decide); have tc28 := lv_neT (k := (12 : Int32)) (a := 12) c28 (by decide); have tc30 := lv_neT (k := (13 : Int32)) (a := 13) c30 (by decide); have tc32 := lv_neT (k := (14 : Int32)) (a := 14) c32 (by decide); have tc34 := lv_neT (k := (15 : Int32)) (a := 15) c34 (by decide); have tc37 := lv_neT (k := (16 : Int32)) (a := 16) c37 (by decide); have tc39 := lv_neT (k := (17 : Int32)) (a := 17) c39 (by decide); omega) (by decide) ?_
  refine lv_aload_n hx hb dX0_toldOf_180 rfl (lv_at hl 0 rfl) ?_
  obtain ⟨k41, hf⟩ := gChk hf
  obtain ⟨u42, eu42, hf⟩ := gBind hf
  refine g_callVi X hR hS [] (m_X1_queues l G F h n a0 eu42) yk_X1_queues q1268 k41 rfl hl.1 ⟨Nat.le_of_ble_eq_true rfl, Nat.le_of_ble_eq_true rfl⟩ ⟨Nat.le_of_ble_eq_true rfl, Nat.le_of_ble_eq_true rfl⟩ rfl (Nat.le_of_ble_eq_true rfl) dX0_toldOf_181 (fun H locs hR hS => ?_)
  obtain rfl := gO1 hf
  exact g_iret X hR hS _ rfl ⟨Nat.le_of_ble_eq_true rfl, Nat.le_of_ble_eq_true rfl⟩ dX0_toldOf_184

def sp_X0_told (G : gG) (F : Nat) (h : gH) (a0 : Nat) (p1 : Int32) : Option (Int32) :=
 (sp_X0_in G F h p1.toInt64 (0 : Int64) (18 : Int64)).bind fun u1 =>
 if u1 = 0 then
 some ((-1 : Int32)) else
 (gGr 0 h a0 0).bind fun x3 =>
 (sp_X0_toldOf G F h x3 p1).bind fun u4 =>
 some (u4)
theorem yk_X0_told : gVk yX0_told cX0_told 2 (some .int) 1 0 := ⟨q1248, q1249, q92, q1250, ⟨by decide +kernel, by decide +kernel, by decide +kernel⟩, rfl⟩
set_option maxHeartbeats 4000000 in
theorem m_X0_told (l : Launch) (G : gG) (F : Nat) (h : gH) (n : Nat) (a0 : Nat) (p1 : Int32) {r : Int32} (hf : sp_X0_told G F h a0 p1 = some r) : gMet l G yX0_told cX0_told 2 (some .int) 4 86 0 0 [.ref a0, .int p1] h n (some (.int r)) h n := by
  refine gEnter (by decide) [(0, .ref a0), (1, .int p1)] rfl (Nat.le_of_ble_eq_true rfl) ?_
  intro p e s m below meth c H ls X hin hR hS hl
  have hx := X.1.1
  have hb := X.1.2.1
  unfold sp_X0_told at hf
  generalize ([] : List Loc) = locs at hS ⊢
  refine lv_iload_n hx hb dX0_told_0 rfl (lv_at hl 1 rfl) ?_
  refine lv_i2l (v := p1.toInt64) hx hb dX0_told_1 rfl ?_
  refine lv_lconst (v := (0 : Int64)) hx hb dX0_told_2 (by decide) ?_
  refine lv_ldc2 (v := (18 : Int64)) hx hb X.1.2.2.2.1 (X.1.2.2.2.2 _ q1251) dX0_told_3 ?_
  obtain ⟨u1, eu1, hf⟩ := gBind hf
  refine g_callSi X hR hS [.long p1.toInt64, .long (0 : Int64), .long (18 : Int64)] (m_X0_in l G F h n p1.toInt64 (0 : Int64) (18 : Int64) eu1) yk_X0_in q830 rfl hl.1 ⟨Nat.le_of_ble_eq_true rfl, Nat.le_of_ble_eq_true rfl⟩ ⟨Nat.le_of_ble_eq_true rfl, Nat.le_of_ble_eq_true rfl⟩ rfl (Nat.le_of_ble_eq_true rfl) dX0_told_6 (fun H locs hR hS => ?_)
  refine lv_if_eq (tgt := 23) hx hb dX0_told_9 (by decide) (fun c2 => ?_) (fun c2 => ?_)
  · replace hf := gIfp c2 hf
    refine lv_iconst (v := (-1 : Int32)) hx hb dX0_told_23 (by decide) ?_
    obtain rfl := gO1 hf
    exact g_iret X hR hS _ rfl ⟨Nat.le_of_ble_eq_true rfl, Nat.le_of_ble_eq_true rfl⟩ dX0_told_24
  · replace hf := gIfn c2 hf
    refine lv_aload_n hx hb dX0_told_12 rfl (lv_at hl 0 rfl) ?_
    obtain ⟨x3, ex3, hf⟩ := gBind hf
    refine g_getr X hR gk_X0 0 (by decide) q792 rfl ex3 dX0_told_13 ?_
    refine lv_iload_n hx hb dX0_told_16 rfl (lv_at hl 1 rfl) ?_
    obtain ⟨u4, eu4, hf⟩ := gBind hf
    refine g_callSi X hR hS [.ref x3, .int p1] (m_X0_toldOf l G F h n x3 p1 eu4) yk_X0_toldOf q1252 rfl hl.1 ⟨Nat.le_of_ble_eq_true rfl, Nat.le_of_ble_eq_true rfl⟩ ⟨Nat.le_of_ble_eq_true rfl, Nat.le_of_ble_eq_true rfl⟩ rfl (Nat.le_of_ble_eq_true rfl) dX0_told_17 (fun H locs hR hS => ?_)
    refine lv_goto (tgt := 24) hx hb dX0_told_20 (by decide) ?_
    obtain rfl := gO1 hf
    exact g_iret X hR hS _ rfl ⟨Nat.le_of_ble_eq_true rfl, Nat.le_of_ble_eq_true rfl⟩ dX0_told_24

def sp_X0_of (G : gG) (F : Nat) (h : gH) (a0 : Nat) (p1 : Int32) (p2 : Int32) : Option (Int32) :=
 if gIs 0 h a0 = true then
 (sp_X0_isSignal G F h a0 p1).bind fun u2 =>
 if u2 = 0 then
 some ((-1 : Int32)) else
 (sp_X0_in G F h p2.toInt64 (0 : Int64) (13 : Int64)).bind fun u4 =>
 if u4 = 0 then
 some ((-1 : Int32)) else
 (gGr 0 h a0 0).bind fun x6 =>
 (gGr 1 h x6 22).bind fun x7 =>
 (gAr 5 h x7 p1).bind fun a8 =>
 if p2 = (0 : Int32) then
 (gGr 2 h a8 0).bind fun x10 =>
 (sp_ordinal G F h x10 ).bind fun u11 =>
 some (u11) else
 if p2 = (1 : Int32) then
 (gGr 2 h a8 3).bind fun x13 =>
 (gAi 0 h x13 (p2 - (1 : Int32))).bind fun x14 =>
 some (x14) else
 if p2 = (2 : Int32) then
 (gGr 2 h a8 3).bind fun x16 =>
 (gAi 0 h x16 (p2 - (1 : Int32))).bind fun x17 =>
 some (x17) else
 if p2 = (3 : Int32) then
 (gGr 2 h a8 3).bind fun x19 =>
 (gAi 0 h x19 (p2 - (1 : Int32))).bind fun x20 =>
 some (x20) else
 if p2 = (4 : Int32) then
 (gGr 2 h a8 3).bind fun x22 =>
 (gAi 0 h x22 (p2 - (1 : Int32))).bind fun x23 =>
 some (x23) else
 if p2 = (5 : Int32) then
 (gGi 2 h a8 5).bind fun x25 =>
 some (x25) else
 if p2 = (6 : Int32) then
 (gGr 0 h a0 0).bind fun x27 =>
 if gIs 1 h x27 = true then
 (sp_X1_light G F h x27 p1).bind fun u29 =>
 some (u29) else none else
 if p2 = (7 : Int32) then
 (gGi 2 h a8 7).bind fun x31 =>
 some (x31) else
 if p2 = (8 : Int32) then
 (gGi 2 h a8 8).bind fun x33 =>
 some (x33) else
 if p2 = (9 : Int32) then
 (gGi 2 h a8 9).bind fun x35 =>
 some (x35) else
 if p2 = (10 : Int32) then
 (gGi 2 h a8 10).bind fun x37 =>
 some (x37) else
 if p2 = (11 : Int32) then
 (gGr 2 h a8 2).bind fun x39 =>
 if gIs 14 h x39 = true then
 (sp_J1_cardinality G F h x39).bind fun u41 =>
 some (u41) else none else
 if p2 = (12 : Int32) then
 (gGr 0 h a0 0).bind fun x43 =>
 if gIs 1 h x43 = true then
 (sp_X1_meets G F h x43 p1).bind fun u45 =>
 some (u45) else none else
 if p2 = (13 : Int32) then
 (gGi 2 h a8 11).bind fun x47 =>
 some (x47) else
 (gGr 2 h a8 3).bind fun x48 =>
 (gAi 0 h x48 (p2 - (1 : Int32))).bind fun x49 =>
 some (x49) else none
theorem yk_X0_of : gVk yX0_of cX0_of 4 (some .int) 2 0 := ⟨q1273, q1274, q92, q1275, ⟨by decide +kernel, by decide +kernel, by decide +kernel⟩, rfl⟩
set_option maxHeartbeats 4000000 in
theorem m_X0_of (l : Launch) (G : gG) (F : Nat) (h : gH) (n : Nat) (a0 : Nat) (p1 : Int32) (p2 : Int32) {r : Int32} (hf : sp_X0_of G F h a0 p1 p2 = some r) : gMet l G yX0_of cX0_of 4 (some .int) 3 67 0 0 [.ref a0, .int p1, .int p2] h n (some (.int r)) h n := by
  refine gEnter (by decide) [(0, .ref a0), (1, .int p1), (2, .int p2)] rfl (Nat.le_of_ble_eq_true rfl) ?_
  intro p e s m below meth c H ls X hin hR hS hl
  have hx := X.1.1
  have hb := X.1.2.1
  unfold sp_X0_of at hf
  generalize ([] : List Loc) = locs at hS ⊢
  refine lv_aload_n hx hb dX0_of_0 rfl (lv_at hl 0 rfl) ?_
  refine lv_iload_n hx hb dX0_of_1 rfl (lv_at hl 1 rfl) ?_
  obtain ⟨k1, hf⟩ := gChk hf
  obtain ⟨u2, eu2, hf⟩ := gBind hf
  refine g_callVi X hR hS [.int p1] (m_X0_isSignal l G F h n a0 p1 eu2) yk_X0_isSignal q931 k1 rfl hl.1 ⟨Nat.le_of_ble_eq_true rfl, Nat.le_of_ble_eq_true rfl⟩ ⟨Nat.le_of_ble_eq_true rfl, Nat.le_of_ble_eq_true rfl⟩ rfl (Nat.le_of_ble_eq_true rfl) dX0_of_2 (fun H locs hR hS => ?_)
  refine lv_if_eq (tgt := 20) hx hb dX0_of_5 (by decide) (fun c3 => ?_) (fun c3 => ?_)
  · replace hf := gIfp c3 hf
    refine lv_iconst (v := (-1 : Int32)) hx hb dX0_of_20 (by decide) ?_
    obtain rfl := gO1 hf
    exact g_iret X hR hS _ rfl ⟨Nat.le_of_ble_eq_true rfl, Nat.le_of_ble_eq_true rfl⟩ dX0_of_21
  · replace hf := gIfn c3 hf
    refine lv_iload_n hx hb dX0_of_8 rfl (lv_at hl 2 rfl) ?_
    refine lv_i2l (v := p2.toInt64) hx hb dX0_of_9 rfl ?_
    refine lv_lconst (v := (0 : Int64)) hx hb dX0_of_10 (by decide) ?_
    refine lv_ldc2 (v := (13 : Int64)) hx hb X.1.2.2.2.1 (X.1.2.2.2.2 _ q1276) dX0_of_11 ?_
    obtain ⟨u4, eu4, hf⟩ := gBind hf
    refine g_callSi X hR hS [.long p2.toInt64, .long (0 : Int64), .long (13 : Int64)] (m_X0_in l G F h n p2.toInt64 (0 : Int64) (13 : Int64) eu4) yk_X0_in q830 rfl hl.1 ⟨Nat.le_of_ble_eq_true rfl, Nat.le_of_ble_eq_true rfl⟩ ⟨Nat.le_of_ble_eq_true rfl, Nat.le_of_ble_eq_true rfl⟩ rfl (Nat.le_of_ble_eq_true rfl) dX0_of_14 (fun H locs hR hS => ?_)
    refine lv_if_ne (tgt := 22) hx hb dX0_of_17 (by decide) (fun c5 => ?_) (fun c5 => ?_)
    · replace hf := gIfn c5 hf
      refine lv_aload_n hx hb dX0_of_22 rfl (lv_at hl 0 rfl) ?_
      obtain ⟨x6, ex6, hf⟩ := gBind hf
      refine g_getr X hR gk_X0 0 (by decide) q792 rfl ex6 dX0_of_23 ?_
      obtain ⟨x7, ex7, hf⟩ := gBind hf
      refine g_getrN X hR gk_X1 22 (by decide) q666 rfl ex7 dX0_of_26 ?_
      refine lv_iload_n hx hb dX0_of_29 rfl (lv_at hl 1 rfl) ?_
      obtain ⟨a8, ea8, hf⟩ := gBind hf
      refine g_aald X hR 5 (by decide) rfl ea8 dX0_of_30 ?_
      refine lv_astore_n (lv' := [(3, .ref a8), (0, .ref a0), (1, .int p1), (2, .int p2)]) hx hb dX0_of_31 rfl hl (by decide) rfl (fun ls hl => ?_)
      refine lv_iload_n hx hb dX0_of_32 rfl (lv_at hl 3 rfl) ?_
      by_cases c9 : p2 = (0 : Int32)
      · replace hf := gIfp c9 hf
        refine lv_tableIn (off := 71) (tgt := 104) hx hb dX0_of_33 (by rw [c9]; decide) (by rw [c9]; decide) (by rw [c9]; rfl) (by decide) ?_
        refine lv_aload_n hx hb dX0_of_104 rfl (lv_at hl 0 rfl) ?_
        obtain ⟨x10, ex10, hf⟩ := gBind hf
        refine g_getrN X hR gk_X2 0 (by decide) q510 rfl ex10 dX0_of_105 ?_
        obtain ⟨u11, eu11, hf⟩ := gBind hf
        refine g_ordinal F X hR hS q1277 eu11 hl.1 ⟨Nat.le_of_ble_eq_true rfl, Nat.le_of_ble_eq_true rfl⟩ ⟨Nat.le_of_ble_eq_true rfl, Nat.le_of_ble_eq_true rfl⟩ (Nat.le_of_ble_eq_true rfl) dX0_of_108 (fun H locs hR hS => ?_)
        obtain rfl := gO1 hf
        exact g_iret X hR hS _ rfl ⟨Nat.le_of_ble_eq_true rfl, Nat.le_of_ble_eq_true rfl⟩ dX0_of_111
      replace hf := gIfn c9 hf
      by_cases c12 : p2 = (1 : Int32)
      · replace hf := gIfp c12 hf
        refine lv_tableIn (off := 135) (tgt := 168) hx hb dX0_of_33 (by rw [c12]; decide) (by rw [c12]; decide) (by rw [c12]; rfl) (by decide) ?_
        refine lv_aload_n hx hb dX0_of_168 rfl (lv_at hl 0 rfl) ?_
        obtain ⟨x13, ex13, hf⟩ := gBind hf
        refine g_getrN X hR gk_X2 3 (by decide) q520 rfl ex13 dX0_of_169 ?_
        refine lv_iload_n hx hb dX0_of_172 rfl (lv_at hl 3 rfl) ?_
        refine lv_iconst (v := (1 : Int32)) hx hb dX0_of_173 (by decide) ?_
        refine lv_isub hx hb dX0_of_174 ?_
        obtain ⟨x14, ex14, hf⟩ := gBind hf
        refine g_iald X hR ex14 dX0_of_175 ?_
        obtain rfl := gO1 hf
        exact g_iret X hR hS _ rfl ⟨Nat.le_of_ble_eq_true rfl, Nat.le_of_ble_eq_true rfl⟩ dX0_of_176
      replace hf := gIfn c12 hf
      by_cases c15 : p2 = (2 : Int32)
      · replace hf := gIfp c15 hf
        refine lv_tableIn (off := 135) (tgt := 168) hx hb dX0_of_33 (by rw [c15]; decide) (by rw [c15]; decide) (by rw [c15]; rfl) (by decide) ?_
        refine lv_aload_n hx hb dX0_of_168 rfl (lv_at hl 0 rfl) ?_
        obtain ⟨x16, ex16, hf⟩ := gBind hf
        refine g_getrN X hR gk_X2 3 (by decide) q520 rfl ex16 dX0_of_169 ?_
        refine lv_iload_n hx hb dX0_of_172 rfl (lv_at hl 3 rfl) ?_
        refine lv_iconst (v := (1 : Int32)) hx hb dX0_of_173 (by decide) ?_
        refine lv_isub hx hb dX0_of_174 ?_
        obtain ⟨x17, ex17, hf⟩ := gBind hf
        refine g_iald X hR ex17 dX0_of_175 ?_
        obtain rfl := gO1 hf
        exact g_iret X hR hS _ rfl ⟨Nat.le_of_ble_eq_true rfl, Nat.le_of_ble_eq_true rfl⟩ dX0_of_176
      replace hf := gIfn c15 hf
      by_cases c18 : p2 = (3 : Int32)
      · replace hf := gIfp c18 hf
        refine lv_tableIn (off := 135) (tgt := 168) hx hb dX0_of_33 (by rw [c18]; decide) (by rw [c18]; decide) (by rw [c18]; rfl) (by decide) ?_
        refine lv_aload_n hx hb dX0_of_168 rfl (lv_at hl 0 rfl) ?_
        obtain ⟨x19, ex19, hf⟩ := gBind hf
        refine g_getrN X hR gk_X2 3 (by decide) q520 rfl ex19 dX0_of_169 ?_
        refine lv_iload_n hx hb dX0_of_172 rfl (lv_at hl 3 rfl) ?_
        refine lv_iconst (v := (1 : Int32)) hx hb dX0_of_173 (by decide) ?_
        refine lv_isub hx hb dX0_of_174 ?_
        obtain ⟨x20, ex20, hf⟩ := gBind hf
        refine g_iald X hR ex20 dX0_of_175 ?_
        obtain rfl := gO1 hf
        exact g_iret X hR hS _ rfl ⟨Nat.le_of_ble_eq_true rfl, Nat.le_of_ble_eq_true rfl⟩ dX0_of_176
      replace hf := gIfn c18 hf
      by_cases c21 : p2 = (4 : Int32)
      · replace hf := gIfp c21 hf
        refine lv_tableIn (off := 135) (tgt := 168) hx hb dX0_of_33 (by rw [c21]; decide) (by rw [c21]; decide) (by rw [c21]; rfl) (by decide) ?_
        refine lv_aload_n hx hb dX0_of_168 rfl (lv_at hl 0 rfl) ?_
        obtain ⟨x22, ex22, hf⟩ := gBind hf
        refine g_getrN X hR gk_X2 3 (by decide) q520 rfl ex22 dX0_of_169 ?_
        refine lv_iload_n hx hb dX0_of_172 rfl (lv_at hl 3 rfl) ?_
        refine lv_iconst (v := (1 : Int32)) hx hb dX0_of_173 (by decide) ?_
        refine lv_isub hx hb dX0_of_174 ?_
        obtain ⟨x23, ex23, hf⟩ := gBind hf
        refine g_iald X hR ex23 dX0_of_175 ?_
        obtain rfl := gO1 hf
        exact g_iret X hR hS _ rfl ⟨Nat.le_of_ble_eq_true rfl, Nat.le_of_ble_eq_true rfl⟩ dX0_of_176
      replace hf := gIfn c21 hf
      by_cases c24 : p2 = (5 : Int32)
      · replace hf := gIfp c24 hf
        refine lv_tableIn (off := 79) (tgt := 112) hx hb dX0_of_33 (by rw [c24]; decide) (by rw [c24]; decide) (by rw [c24]; rfl) (by decide) ?_
        refine lv_aload_n hx hb dX0_of_112 rfl (lv_at hl 0 rfl) ?_
        obtain ⟨x25, ex25, hf⟩ := gBind hf
        refine g_getiN X hR gk_X2 5 (by decide) q528 rfl ex25 dX0_of_113 ?_
        obtain rfl := gO1 hf
        exact g_iret X hR hS _ rfl ⟨Nat.le_of_ble_eq_true rfl, Nat.le_of_ble_eq_true rfl⟩ dX0_of_116
      replace hf := gIfn c24 hf
      by_cases c26 : p2 = (6 : Int32)
      · replace hf := gIfp c26 hf
        refine lv_tableIn (off := 84) (tgt := 117) hx hb dX0_of_33 (by rw [c26]; decide) (by rw [c26]; decide) (by rw [c26]; rfl) (by decide) ?_
        refine lv_aload_n hx hb dX0_of_117 rfl (lv_at hl 1 rfl) ?_
        obtain ⟨x27, ex27, hf⟩ := gBind hf
        refine g_getr X hR gk_X0 0 (by decide) q792 rfl ex27 dX0_of_118 ?_
        refine lv_iload_n hx hb dX0_of_121 rfl (lv_at hl 2 rfl) ?_
        obtain ⟨k28, hf⟩ := gChk hf
        obtain ⟨u29, eu29, hf⟩ := gBind hf
        refine g_callVi X hR hS [.int p1] (m_X1_light l G F h n x27 p1 eu29) yk_X1_light q1286 k28 rfl hl.1 ⟨Nat.le_of_ble_eq_true rfl, Nat.le_of_ble_eq_true rfl⟩ ⟨Nat.le_of_ble_eq_true rfl, Nat.le_of_ble_eq_true rfl⟩ rfl (Nat.le_of_ble_eq_true rfl) dX0_of_122 (fun H locs hR hS => ?_)
        obtain rfl := gO1 hf
        exact g_iret X hR hS _ rfl ⟨Nat.le_of_ble_eq_true rfl, Nat.le_of_ble_eq_true rfl⟩ dX0_of_125
      replace hf := gIfn c26 hf
      by_cases c30 : p2 = (7 : Int32)
      · replace hf := gIfp c30 hf
        refine lv_tableIn (off := 93) (tgt := 126) hx hb dX0_of_33 (by rw [c30]; decide) (by rw [c30]; decide) (by rw [c30]; rfl) (by decide) ?_
        refine lv_aload_n hx hb dX0_of_126 rfl (lv_at hl 0 rfl) ?_
        obtain ⟨x31, ex31, hf⟩ := gBind hf
        refine g_getiN X hR gk_X2 7 (by decide) q534 rfl ex31 dX0_of_127 ?_
        obtain rfl := gO1 hf
        exact g_iret X hR hS _ rfl ⟨Nat.le_of_ble_eq_true rfl, Nat.le_of_ble_eq_true rfl⟩ dX0_of_130
      replace hf := gIfn c30 hf
      by_cases c32 : p2 = (8 : Int32)
      · replace hf := gIfp c32 hf
        refine lv_tableIn (off := 98) (tgt := 131) hx hb dX0_of_33 (by rw [c32]; decide) (by rw [c32]; decide) (by rw [c32]; rfl) (by decide) ?_
        refine lv_aload_n hx hb dX0_of_131 rfl (lv_at hl 0 rfl) ?_
        obtain ⟨x33, ex33, hf⟩ := gBind hf
        refine g_getiN X hR gk_X2 8 (by decide) q537 rfl ex33 dX0_of_132 ?_
        obtain rfl := gO1 hf
        exact g_iret X hR hS _ rfl ⟨Nat.le_of_ble_eq_true rfl, Nat.le_of_ble_eq_true rfl⟩ dX0_of_135
      replace hf := gIfn c32 hf
      by_cases c34 : p2 = (9 : Int32)
      · replace hf := gIfp c34 hf
        refine lv_tableIn (off := 103) (tgt := 136) hx hb dX0_of_33 (by rw [c34]; decide) (by rw [c34]; decide) (by rw [c34]; rfl) (by decide) ?_
        refine lv_aload_n hx hb dX0_of_136 rfl (lv_at hl 0 rfl) ?_
        obtain ⟨x35, ex35, hf⟩ := gBind hf
        refine g_getiN X hR gk_X2 9 (by decide) q540 rfl ex35 dX0_of_137 ?_
        obtain rfl := gO1 hf
        exact g_iret X hR hS _ rfl ⟨Nat.le_of_ble_eq_true rfl, Nat.le_of_ble_eq_true rfl⟩ dX0_of_140
      replace hf := gIfn c34 hf
      by_cases c36 : p2 = (10 : Int32)
      · replace hf := gIfp c36 hf
        refine lv_tableIn (off := 108) (tgt := 141) hx hb dX0_of_33 (by rw [c36]; decide) (by rw [c36]; decide) (by rw [c36]; rfl) (by decide) ?_
        refine lv_aload_n hx hb dX0_of_141 rfl (lv_at hl 0 rfl) ?_
        obtain ⟨x37, ex37, hf⟩ := gBind hf
        refine g_getiN X hR gk_X2 10 (by decide) q543 rfl ex37 dX0_of_142 ?_
        obtain rfl := gO1 hf
        exact g_iret X hR hS _ rfl ⟨Nat.le_of_ble_eq_true rfl, Nat.le_of_ble_eq_true rfl⟩ dX0_of_145
      replace hf := gIfn c36 hf
      by_cases c38 : p2 = (11 : Int32)
      · replace hf := gIfp c38 hf
        refine lv_tableIn (off := 113) (tgt := 146) hx hb dX0_of_33 (by rw [c38]; decide) (by rw [c38]; decide) (by rw [c38]; rfl) (by decide) ?_
        refine lv_aload_n hx hb dX0_of_146 rfl (lv_at hl 0 rfl) ?_
        obtain ⟨x39, ex39, hf⟩ := gBind hf
        refine g_getrN X hR gk_X2 2 (by decide) q517 rfl ex39 dX0_of_147 ?_
        obtain ⟨k40, hf⟩ := gChk hf
        obtain ⟨u41, eu41, hf⟩ := gBind hf
        refine g_callVi X hR hS [] (m_J1_cardinality l G F h n x39 eu41) yk_J1_cardinality q1287 k40 rfl hl.1 ⟨Nat.le_of_ble_eq_true rfl, Nat.le_of_ble_eq_true rfl⟩ ⟨Nat.le_of_ble_eq_true rfl, Nat.le_of_ble_eq_true rfl⟩ rfl (Nat.le_of_ble_eq_true rfl) dX0_of_150 (fun H locs hR hS => ?_)
        obtain rfl := gO1 hf
        exact g_iret X hR hS _ rfl ⟨Nat.le_of_ble_eq_true rfl, Nat.le_of_ble_eq_true rfl⟩ dX0_of_153
      replace hf := gIfn c38 hf
      by_cases c42 : p2 = (12 : Int32)
      · replace hf := gIfp c42 hf
        refine lv_tableIn (off := 121) (tgt := 154) hx hb dX0_of_33 (by rw [c42]; decide) (by rw [c42]; decide) (by rw [c42]; rfl) (by decide) ?_
        refine lv_aload_n hx hb dX0_of_154 rfl (lv_at hl 1 rfl) ?_
        obtain ⟨x43, ex43, hf⟩ := gBind hf
        refine g_getr X hR gk_X0 0 (by decide) q792 rfl ex43 dX0_of_155 ?_
        refine lv_iload_n hx hb dX0_of_158 rfl (lv_at hl 2 rfl) ?_
        obtain ⟨k44, hf⟩ := gChk hf
        obtain ⟨u45, eu45, hf⟩ := gBind hf
        refine g_callVi X hR hS [.int p1] (m_X1_meets l G F h n x43 p1 eu45) yk_X1_meets q1070 k44 rfl hl.1 ⟨Nat.le_of_ble_eq_true rfl, Nat.le_of_ble_eq_true rfl⟩ ⟨Nat.le_of_ble_eq_true rfl, Nat.le_of_ble_eq_true rfl⟩ rfl (Nat.le_of_ble_eq_true rfl) dX0_of_159 (fun H locs hR hS => ?_)
        obtain rfl := gO1 hf
        exact g_iret X hR hS _ rfl ⟨Nat.le_of_ble_eq_true rfl, Nat.le_of_ble_eq_true rfl⟩ dX0_of_162
      replace hf := gIfn c42 hf
      by_cases c46 : p2 = (13 : Int32)
      · replace hf := gIfp c46 hf
        refine lv_tableIn (off := 130) (tgt := 163) hx hb dX0_of_33 (by rw [c46]; decide) (by rw [c46]; decide) (by rw [c46]; rfl) (by decide) ?_
        refine lv_aload_n hx hb dX0_of_163 rfl (lv_at hl 0 rfl) ?_
        obtain ⟨x47, ex47, hf⟩ := gBind hf
        refine g_getiN X hR gk_X2 11 (by decide) q546 rfl ex47 dX0_of_164 ?_
        obtain rfl := gO1 hf
        exact g_iret X hR hS _ rfl ⟨Nat.le_of_ble_eq_true rfl, Nat.le_of_ble_eq_true rfl⟩ dX0_of_167
      replace hf := gIfn c46 hf
      refine lv_tableOut (tgt := 168) hx hb dX0_of_33 (by have tc9 := lv_neT (k := (0 : Int32)) (a := 0) c9 (by decide); have tc12 := lv_neT (k := (1 : Int32)) (a := 1) c12 (by decide); have tc15 := lv_neT (k := (2 : Int32)) (a := 2) c15 (by decide); have tc18 := lv_neT (k := (3 : Int32)) (a := 3) c18 (by decide); have tc21 := lv_neT (k := (4 : Int32)) (a := 4) c21 (by decide); have tc24 := lv_neT (k := (5 : Int32)) (a := 5) c24 (by decide); have tc26 := lv_neT (k := (6 : Int32)) (a := 6) c26 (by decide); have tc30 := lv_neT (k := (7 : Int32)) (a := 7) c30 (by decide); have tc32 := lv_neT (k := (8 : Int32)) (a := 8) c32 (by decide); have tc34 := lv_neT (k := (9 : Int32)) (a := 9) c34 (by decide); have tc36 := lv_neT (k := (10 : Int32)) (a := 10) c36 (by decide); have tc38 := lv_neT (k := (11 : Int32)) (a := 11) c38 (by decide); have tc42 := lv_neT (k := (12 : Int32)) (a := 12) c42 (by decide); have tc46 := lv_neT (k := (13 : Int32)) (a := 13) c46 (by decide); omega) (by decide) ?_
      refine lv_aload_n hx hb dX0_of_168 rfl (lv_at hl 0 rfl) ?_
      obtain ⟨x48, ex48, hf⟩ := gBind hf
      refine g_getrN X hR gk_X2 3 (by decide) q520 rfl ex48 dX0_of_169 ?_
      refine lv_iload_n hx hb dX0_of_172 rfl (lv_at hl 3 rfl) ?_
      refine lv_iconst (v := (1 : Int32)) hx hb dX0_of_173 (by decide) ?_
      refine lv_isub hx hb dX0_of_174 ?_
      obtain ⟨x49, ex49, hf⟩ := gBind hf
      refine g_iald X hR ex49 dX0_of_175 ?_
      obtain rfl := gO1 hf
      exact g_iret X hR hS _ rfl ⟨Nat.le_of_ble_eq_true rfl, Nat.le_of_ble_eq_true rfl⟩ dX0_of_176
    · replace hf := gIfp c5 hf
      refine lv_iconst (v := (-1 : Int32)) hx hb dX0_of_20 (by decide) ?_
      obtain rfl := gO1 hf
      exact g_iret X hR hS _ rfl ⟨Nat.le_of_ble_eq_true rfl, Nat.le_of_ble_eq_true rfl⟩ dX0_of_21

def sp_X0_way (G : gG) (F : Nat) (h : gH) (a0 : Nat) (p1 : Int32) (p2 : Int32) : Option (Int32) :=
 if gIs 0 h a0 = true then
 (sp_X0_isSignal G F h a0 p1).bind fun u2 =>
 if u2 = 0 then
 some ((-1 : Int32)) else
 (gGr 0 h a0 0).bind fun x4 =>
 (gGr 1 h x4 22).bind fun x5 =>
 (gAr 5 h x5 p1).bind fun a6 =>
 (gGi 2 h a6 4).bind fun x7 =>
 (sp_X0_in G F h p2.toInt64 (0 : Int64) ((x7 - (1 : Int32)).toInt64)).bind fun u8 =>
 if u8 = 0 then
 some ((-2 : Int32)) else
 (gGr 0 h a0 0).bind fun x10 =>
 (gGr 1 h x10 22).bind fun x11 =>
 (gAr 5 h x11 p1).bind fun a12 =>
 (gGr 2 h a12 1).bind fun x13 =>
 (gAi 0 h x13 p2).bind fun x14 =>
 some (x14) else none
theorem yk_X0_way : gVk yX0_way cX0_way 3 (some .int) 2 0 := ⟨q1298, q1299, q92, q1300, ⟨by decide +kernel, by decide +kernel, by decide +kernel⟩, rfl⟩
set_option maxHeartbeats 4000000 in
theorem m_X0_way (l : Launch) (G : gG) (F : Nat) (h : gH) (n : Nat) (a0 : Nat) (p1 : Int32) (p2 : Int32) {r : Int32} (hf : sp_X0_way G F h a0 p1 p2 = some r) : gMet l G yX0_way cX0_way 3 (some .int) 2 46 0 0 [.ref a0, .int p1, .int p2] h n (some (.int r)) h n := by
  refine gEnter (by decide) [(0, .ref a0), (1, .int p1), (2, .int p2)] rfl (Nat.le_of_ble_eq_true rfl) ?_
  intro p e s m below meth c H ls X hin hR hS hl
  have hx := X.1.1
  have hb := X.1.2.1
  unfold sp_X0_way at hf
  generalize ([] : List Loc) = locs at hS ⊢
  refine lv_aload_n hx hb dX0_way_0 rfl (lv_at hl 0 rfl) ?_
  refine lv_iload_n hx hb dX0_way_1 rfl (lv_at hl 1 rfl) ?_
  obtain ⟨k1, hf⟩ := gChk hf
  obtain ⟨u2, eu2, hf⟩ := gBind hf
  refine g_callVi X hR hS [.int p1] (m_X0_isSignal l G F h n a0 p1 eu2) yk_X0_isSignal q931 k1 rfl hl.1 ⟨Nat.le_of_ble_eq_true rfl, Nat.le_of_ble_eq_true rfl⟩ ⟨Nat.le_of_ble_eq_true rfl, Nat.le_of_ble_eq_true rfl⟩ rfl (Nat.le_of_ble_eq_true rfl) dX0_way_2 (fun H locs hR hS => ?_)
  refine lv_if_ne (tgt := 10) hx hb dX0_way_5 (by decide) (fun c3 => ?_) (fun c3 => ?_)
  · replace hf := gIfn c3 hf
    refine lv_iload_n hx hb dX0_way_10 rfl (lv_at hl 2 rfl) ?_
    refine lv_i2l (v := p2.toInt64) hx hb dX0_way_11 rfl ?_
    refine lv_lconst (v := (0 : Int64)) hx hb dX0_way_12 (by decide) ?_
    refine lv_aload_n hx hb dX0_way_13 rfl (lv_at hl 0 rfl) ?_
    obtain ⟨x4, ex4, hf⟩ := gBind hf
    refine g_getr X hR gk_X0 0 (by decide) q792 rfl ex4 dX0_way_14 ?_
    obtain ⟨x5, ex5, hf⟩ := gBind hf
    refine g_getrN X hR gk_X1 22 (by decide) q666 rfl ex5 dX0_way_17 ?_
    refine lv_iload_n hx hb dX0_way_20 rfl (lv_at hl 1 rfl) ?_
    obtain ⟨a6, ea6, hf⟩ := gBind hf
    refine g_aald X hR 5 (by decide) rfl ea6 dX0_way_21 ?_
    obtain ⟨x7, ex7, hf⟩ := gBind hf
    refine g_getiN X hR gk_X2 4 (by decide) q525 rfl ex7 dX0_way_22 ?_
    refine lv_iconst (v := (1 : Int32)) hx hb dX0_way_25 (by decide) ?_
    refine lv_isub hx hb dX0_way_26 ?_
    refine lv_i2l (v := (x7 - (1 : Int32)).toInt64) hx hb dX0_way_27 rfl ?_
    obtain ⟨u8, eu8, hf⟩ := gBind hf
    refine g_callSi X hR hS [.long p2.toInt64, .long (0 : Int64), .long ((x7 - (1 : Int32)).toInt64)] (m_X0_in l G F h n p2.toInt64 (0 : Int64) ((x7 - (1 : Int32)).toInt64) eu8) yk_X0_in q830 rfl hl.1 ⟨Nat.le_of_ble_eq_true rfl, Nat.le_of_ble_eq_true rfl⟩ ⟨Nat.le_of_ble_eq_true rfl, Nat.le_of_ble_eq_true rfl⟩ rfl (Nat.le_of_ble_eq_true rfl) dX0_way_28 (fun H locs hR hS => ?_)
    refine lv_if_eq (tgt := 51) hx hb dX0_way_31 (by decide) (fun c9 => ?_) (fun c9 => ?_)
    · replace hf := gIfp c9 hf
      refine lv_bipush (v := (-2 : Int32)) hx hb dX0_way_51 (by decide) ?_
      obtain rfl := gO1 hf
      exact g_iret X hR hS _ rfl ⟨Nat.le_of_ble_eq_true rfl, Nat.le_of_ble_eq_true rfl⟩ dX0_way_53
    · replace hf := gIfn c9 hf
      refine lv_aload_n hx hb dX0_way_34 rfl (lv_at hl 0 rfl) ?_
      obtain ⟨x10, ex10, hf⟩ := gBind hf
      refine g_getr X hR gk_X0 0 (by decide) q792 rfl ex10 dX0_way_35 ?_
      obtain ⟨x11, ex11, hf⟩ := gBind hf
      refine g_getrN X hR gk_X1 22 (by decide) q666 rfl ex11 dX0_way_38 ?_
      refine lv_iload_n hx hb dX0_way_41 rfl (lv_at hl 1 rfl) ?_
      obtain ⟨a12, ea12, hf⟩ := gBind hf
      refine g_aald X hR 5 (by decide) rfl ea12 dX0_way_42 ?_
      obtain ⟨x13, ex13, hf⟩ := gBind hf
      refine g_getrN X hR gk_X2 1 (by decide) q513 rfl ex13 dX0_way_43 ?_
      refine lv_iload_n hx hb dX0_way_46 rfl (lv_at hl 2 rfl) ?_
      obtain ⟨x14, ex14, hf⟩ := gBind hf
      refine g_iald X hR ex14 dX0_way_47 ?_
      refine lv_goto (tgt := 53) hx hb dX0_way_48 (by decide) ?_
      obtain rfl := gO1 hf
      exact g_iret X hR hS _ rfl ⟨Nat.le_of_ble_eq_true rfl, Nat.le_of_ble_eq_true rfl⟩ dX0_way_53
  · replace hf := gIfp c3 hf
    refine lv_iconst (v := (-1 : Int32)) hx hb dX0_way_8 (by decide) ?_
    obtain rfl := gO1 hf
    exact g_iret X hR hS _ rfl ⟨Nat.le_of_ble_eq_true rfl, Nat.le_of_ble_eq_true rfl⟩ dX0_way_9

def sp_X0_clear (G : gG) (F : Nat) (h : gH) (n : Nat) (a0 : Nat) (p1 : Int32) (p2 : Int32) : Option (Int32 × gH × Nat) :=
 if gIs 0 (va_up h n (some (.inl (3, 2, .inl (fun _ => 0))))) a0 = true then
 (sp_X0_isSignal G F (va_up h n (some (.inl (3, 2, .inl (fun _ => 0))))) a0 p1).bind fun u2 =>
 (gSb 3 (va_up h n (some (.inl (3, 2, .inl (fun _ => 0))))) n (0 : Int32) u2).bind fun h3 =>
 if gIs 0 h3 a0 = true then
 (sp_X0_isSignal G F h3 a0 p2).bind fun u5 =>
 (gSb 3 h3 n (1 : Int32) u5).bind fun h6 =>
 (sp_X0_are G F h6 n).bind fun u7 =>
 if u7 = 0 then
 some (((-1 : Int32), h6, n + 1)) else
 (gGr 0 h6 a0 0).bind fun x9 =>
 if gIs 1 h6 x9 = true then
 (sp_X1_clearOf G F h6 x9 p1 p2).bind fun u11 =>
 some ((u11, h6, n + 1)) else none else none else none
theorem yk_X0_clear : gVk yX0_clear cX0_clear 3 (some .int) 2 0 := ⟨q1302, q1303, q92, q1304, ⟨by decide +kernel, by decide +kernel, by decide +kernel⟩, rfl⟩
set_option maxHeartbeats 4000000 in
theorem m_X0_clear (l : Launch) (G : gG) (F : Nat) (h : gH) (n : Nat) (a0 : Nat) (p1 : Int32) (p2 : Int32) {r : Int32} {h' : gH} {n' : Nat} (hf : sp_X0_clear G F h n a0 p1 p2 = some (r, h', n')) : gMet l G yX0_clear cX0_clear 3 (some .int) 2 46 1 2 [.ref a0, .int p1, .int p2] h n (some (.int r)) h' n' := by
  refine gEnter (by decide) [(0, .ref a0), (1, .int p1), (2, .int p2)] rfl (Nat.le_of_ble_eq_true rfl) ?_
  intro p e s m below meth c H ls X hin hR hS hl
  have hx := X.1.1
  have hb := X.1.2.1
  unfold sp_X0_clear at hf
  generalize ([] : List Loc) = locs at hS ⊢
  refine lv_iconst (v := (2 : Int32)) hx hb dX0_clear_0 (by decide) ?_
  refine g_newa3 X hR hS q879 2 (by decide) (by decide) (by decide) ⟨Nat.le_of_ble_eq_true rfl, Nat.le_of_ble_eq_true rfl⟩ dX0_clear_1 (fun H hR hS => ?_)
  refine lv_dup hx hb dX0_clear_3 rfl ?_
  refine lv_iconst (v := (0 : Int32)) hx hb dX0_clear_4 (by decide) ?_
  refine lv_aload_n hx hb dX0_clear_5 rfl (lv_at hl 0 rfl) ?_
  refine lv_iload_n hx hb dX0_clear_6 rfl (lv_at hl 1 rfl) ?_
  obtain ⟨k1, hf⟩ := gChk hf
  obtain ⟨u2, eu2, hf⟩ := gBind hf
  refine g_callVi X hR hS [.int p1] (m_X0_isSignal l G F (va_up h n (some (.inl (3, 2, .inl (fun _ => 0))))) (n + 1) a0 p1 eu2) yk_X0_isSignal q931 k1 rfl hl.1 ⟨Nat.le_of_ble_eq_true rfl, Nat.le_of_ble_eq_true rfl⟩ ⟨Nat.le_of_ble_eq_true rfl, Nat.le_of_ble_eq_true rfl⟩ rfl (Nat.le_of_ble_eq_true rfl) dX0_clear_7 (fun H locs hR hS => ?_)
  obtain ⟨h3, eh3, hf⟩ := gBind hf
  refine g_zast X hR hS eh3 dX0_clear_10 (fun H locs hR hS => ?_)
  refine lv_dup hx hb dX0_clear_11 rfl ?_
  refine lv_iconst (v := (1 : Int32)) hx hb dX0_clear_12 (by decide) ?_
  refine lv_aload_n hx hb dX0_clear_13 rfl (lv_at hl 0 rfl) ?_
  refine lv_iload_n hx hb dX0_clear_14 rfl (lv_at hl 2 rfl) ?_
  obtain ⟨k4, hf⟩ := gChk hf
  obtain ⟨u5, eu5, hf⟩ := gBind hf
  refine g_callVi X hR hS [.int p2] (m_X0_isSignal l G F h3 (n + 1) a0 p2 eu5) yk_X0_isSignal q931 k4 rfl hl.1 ⟨Nat.le_of_ble_eq_true rfl, Nat.le_of_ble_eq_true rfl⟩ ⟨Nat.le_of_ble_eq_true rfl, Nat.le_of_ble_eq_true rfl⟩ rfl (Nat.le_of_ble_eq_true rfl) dX0_clear_15 (fun H locs hR hS => ?_)
  obtain ⟨h6, eh6, hf⟩ := gBind hf
  refine g_zast X hR hS eh6 dX0_clear_18 (fun H locs hR hS => ?_)
  obtain ⟨u7, eu7, hf⟩ := gBind hf
  refine g_callSi X hR hS [.ref n] (m_X0_are l G F h6 (n + 1) n eu7) yk_X0_are q834 rfl hl.1 ⟨Nat.le_of_ble_eq_true rfl, Nat.le_of_ble_eq_true rfl⟩ ⟨Nat.le_of_ble_eq_true rfl, Nat.le_of_ble_eq_true rfl⟩ rfl (Nat.le_of_ble_eq_true rfl) dX0_clear_19 (fun H locs hR hS => ?_)
  refine lv_if_eq (tgt := 37) hx hb dX0_clear_22 (by decide) (fun c8 => ?_) (fun c8 => ?_)
  · replace hf := gIfp c8 hf
    refine lv_iconst (v := (-1 : Int32)) hx hb dX0_clear_37 (by decide) ?_
    obtain ⟨rfl, rfl, rfl⟩ := gO3 hf
    exact g_iret X hR hS _ rfl ⟨Nat.le_of_ble_eq_true rfl, Nat.le_of_ble_eq_true rfl⟩ dX0_clear_38
  · replace hf := gIfn c8 hf
    refine lv_aload_n hx hb dX0_clear_25 rfl (lv_at hl 0 rfl) ?_
    obtain ⟨x9, ex9, hf⟩ := gBind hf
    refine g_getr X hR gk_X0 0 (by decide) q792 rfl ex9 dX0_clear_26 ?_
    refine lv_iload_n hx hb dX0_clear_29 rfl (lv_at hl 1 rfl) ?_
    refine lv_iload_n hx hb dX0_clear_30 rfl (lv_at hl 2 rfl) ?_
    obtain ⟨k10, hf⟩ := gChk hf
    obtain ⟨u11, eu11, hf⟩ := gBind hf
    refine g_callVi X hR hS [.int p1, .int p2] (m_X1_clearOf l G F h6 (n + 1) x9 p1 p2 eu11) yk_X1_clearOf q1305 k10 rfl hl.1 ⟨Nat.le_of_ble_eq_true rfl, Nat.le_of_ble_eq_true rfl⟩ ⟨Nat.le_of_ble_eq_true rfl, Nat.le_of_ble_eq_true rfl⟩ rfl (Nat.le_of_ble_eq_true rfl) dX0_clear_31 (fun H locs hR hS => ?_)
    refine lv_goto (tgt := 38) hx hb dX0_clear_34 (by decide) ?_
    obtain ⟨rfl, rfl, rfl⟩ := gO3 hf
    exact g_iret X hR hS _ rfl ⟨Nat.le_of_ble_eq_true rfl, Nat.le_of_ble_eq_true rfl⟩ dX0_clear_38

def sp_X0_narrow (G : gG) (F : Nat) (h : gH) (n : Nat) (a0 : Nat) (p1 : Int32) (p2 : Int32) : Option (Int32 × gH × Nat) :=
 if gIs 0 (va_up h n (some (.inl (3, 2, .inl (fun _ => 0))))) a0 = true then
 (sp_X0_isSignal G F (va_up h n (some (.inl (3, 2, .inl (fun _ => 0))))) a0 p1).bind fun u2 =>
 (gSb 3 (va_up h n (some (.inl (3, 2, .inl (fun _ => 0))))) n (0 : Int32) u2).bind fun h3 =>
 if gIs 0 h3 a0 = true then
 (sp_X0_isSignal G F h3 a0 p2).bind fun u5 =>
 (gSb 3 h3 n (1 : Int32) u5).bind fun h6 =>
 (sp_X0_are G F h6 n).bind fun u7 =>
 if u7 = 0 then
 some (((-1 : Int32), h6, n + 1)) else
 (gGr 0 h6 a0 0).bind fun x9 =>
 if gIs 1 h6 x9 = true then
 (sp_X1_meet G F h6 x9 p1 p2).bind fun u11 =>
 if u11 = 0 then
 some (((-5 : Int32), h6, n + 1)) else
 (gGr 0 h6 a0 0).bind fun x13 =>
 (gGr 1 h6 x13 22).bind fun x14 =>
 (gAr 5 h6 x14 p1).bind fun a15 =>
 (gGr 2 h6 a15 1).bind fun x16 =>
 (gGr 0 h6 a0 0).bind fun x17 =>
 (gGr 1 h6 x17 22).bind fun x18 =>
 (gAr 5 h6 x18 p1).bind fun a19 =>
 (gGr 0 h6 a0 0).bind fun x20 =>
 (gGr 1 h6 x20 22).bind fun x21 =>
 (gAr 5 h6 x21 p2).bind fun a22 =>
 (sp_X1_narrowOf G F h6 a19 a22).bind fun u23 =>
 (gAi 0 h6 x16 u23).bind fun x24 =>
 some ((x24, h6, n + 1)) else none else none else none
theorem yk_X0_narrow : gVk yX0_narrow cX0_narrow 3 (some .int) 2 0 := ⟨q1307, q1308, q92, q1309, ⟨by decide +kernel, by decide +kernel, by decide +kernel⟩, rfl⟩
set_option maxHeartbeats 4000000 in
theorem m_X0_narrow (l : Launch) (G : gG) (F : Nat) (h : gH) (n : Nat) (a0 : Nat) (p1 : Int32) (p2 : Int32) {r : Int32} {h' : gH} {n' : Nat} (hf : sp_X0_narrow G F h n a0 p1 p2 = some (r, h', n')) : gMet l G yX0_narrow cX0_narrow 3 (some .int) 3 67 1 2 [.ref a0, .int p1, .int p2] h n (some (.int r)) h' n' := by
  refine gEnter (by decide) [(0, .ref a0), (1, .int p1), (2, .int p2)] rfl (Nat.le_of_ble_eq_true rfl) ?_
  intro p e s m below meth c H ls X hin hR hS hl
  have hx := X.1.1
  have hb := X.1.2.1
  unfold sp_X0_narrow at hf
  generalize ([] : List Loc) = locs at hS ⊢
  refine lv_iconst (v := (2 : Int32)) hx hb dX0_narrow_0 (by decide) ?_
  refine g_newa3 X hR hS q879 2 (by decide) (by decide) (by decide) ⟨Nat.le_of_ble_eq_true rfl, Nat.le_of_ble_eq_true rfl⟩ dX0_narrow_1 (fun H hR hS => ?_)
  refine lv_dup hx hb dX0_narrow_3 rfl ?_
  refine lv_iconst (v := (0 : Int32)) hx hb dX0_narrow_4 (by decide) ?_
  refine lv_aload_n hx hb dX0_narrow_5 rfl (lv_at hl 0 rfl) ?_
  refine lv_iload_n hx hb dX0_narrow_6 rfl (lv_at hl 1 rfl) ?_
  obtain ⟨k1, hf⟩ := gChk hf
  obtain ⟨u2, eu2, hf⟩ := gBind hf
  refine g_callVi X hR hS [.int p1] (m_X0_isSignal l G F (va_up h n (some (.inl (3, 2, .inl (fun _ => 0))))) (n + 1) a0 p1 eu2) yk_X0_isSignal q931 k1 rfl hl.1 ⟨Nat.le_of_ble_eq_true rfl, Nat.le_of_ble_eq_true rfl⟩ ⟨Nat.le_of_ble_eq_true rfl, Nat.le_of_ble_eq_true rfl⟩ rfl (Nat.le_of_ble_eq_true rfl) dX0_narrow_7 (fun H locs hR hS => ?_)
  obtain ⟨h3, eh3, hf⟩ := gBind hf
  refine g_zast X hR hS eh3 dX0_narrow_10 (fun H locs hR hS => ?_)
  refine lv_dup hx hb dX0_narrow_11 rfl ?_
  refine lv_iconst (v := (1 : Int32)) hx hb dX0_narrow_12 (by decide) ?_
  refine lv_aload_n hx hb dX0_narrow_13 rfl (lv_at hl 0 rfl) ?_
  refine lv_iload_n hx hb dX0_narrow_14 rfl (lv_at hl 2 rfl) ?_
  obtain ⟨k4, hf⟩ := gChk hf
  obtain ⟨u5, eu5, hf⟩ := gBind hf
  refine g_callVi X hR hS [.int p2] (m_X0_isSignal l G F h3 (n + 1) a0 p2 eu5) yk_X0_isSignal q931 k4 rfl hl.1 ⟨Nat.le_of_ble_eq_true rfl, Nat.le_of_ble_eq_true rfl⟩ ⟨Nat.le_of_ble_eq_true rfl, Nat.le_of_ble_eq_true rfl⟩ rfl (Nat.le_of_ble_eq_true rfl) dX0_narrow_15 (fun H locs hR hS => ?_)
  obtain ⟨h6, eh6, hf⟩ := gBind hf
  refine g_zast X hR hS eh6 dX0_narrow_18 (fun H locs hR hS => ?_)
  obtain ⟨u7, eu7, hf⟩ := gBind hf
  refine g_callSi X hR hS [.ref n] (m_X0_are l G F h6 (n + 1) n eu7) yk_X0_are q834 rfl hl.1 ⟨Nat.le_of_ble_eq_true rfl, Nat.le_of_ble_eq_true rfl⟩ ⟨Nat.le_of_ble_eq_true rfl, Nat.le_of_ble_eq_true rfl⟩ rfl (Nat.le_of_ble_eq_true rfl) dX0_narrow_19 (fun H locs hR hS => ?_)
  refine lv_if_ne (tgt := 27) hx hb dX0_narrow_22 (by decide) (fun c8 => ?_) (fun c8 => ?_)
  · replace hf := gIfn c8 hf
    refine lv_aload_n hx hb dX0_narrow_27 rfl (lv_at hl 0 rfl) ?_
    obtain ⟨x9, ex9, hf⟩ := gBind hf
    refine g_getr X hR gk_X0 0 (by decide) q792 rfl ex9 dX0_narrow_28 ?_
    refine lv_iload_n hx hb dX0_narrow_31 rfl (lv_at hl 1 rfl) ?_
    refine lv_iload_n hx hb dX0_narrow_32 rfl (lv_at hl 2 rfl) ?_
    obtain ⟨k10, hf⟩ := gChk hf
    obtain ⟨u11, eu11, hf⟩ := gBind hf
    refine g_callVi X hR hS [.int p1, .int p2] (m_X1_meet l G F h6 (n + 1) x9 p1 p2 eu11) yk_X1_meet q1310 k10 rfl hl.1 ⟨Nat.le_of_ble_eq_true rfl, Nat.le_of_ble_eq_true rfl⟩ ⟨Nat.le_of_ble_eq_true rfl, Nat.le_of_ble_eq_true rfl⟩ rfl (Nat.le_of_ble_eq_true rfl) dX0_narrow_33 (fun H locs hR hS => ?_)
    refine lv_if_eq (tgt := 76) hx hb dX0_narrow_36 (by decide) (fun c12 => ?_) (fun c12 => ?_)
    · replace hf := gIfp c12 hf
      refine lv_bipush (v := (-5 : Int32)) hx hb dX0_narrow_76 (by decide) ?_
      obtain ⟨rfl, rfl, rfl⟩ := gO3 hf
      exact g_iret X hR hS _ rfl ⟨Nat.le_of_ble_eq_true rfl, Nat.le_of_ble_eq_true rfl⟩ dX0_narrow_78
    · replace hf := gIfn c12 hf
      refine lv_aload_n hx hb dX0_narrow_39 rfl (lv_at hl 0 rfl) ?_
      obtain ⟨x13, ex13, hf⟩ := gBind hf
      refine g_getr X hR gk_X0 0 (by decide) q792 rfl ex13 dX0_narrow_40 ?_
      obtain ⟨x14, ex14, hf⟩ := gBind hf
      refine g_getrN X hR gk_X1 22 (by decide) q666 rfl ex14 dX0_narrow_43 ?_
      refine lv_iload_n hx hb dX0_narrow_46 rfl (lv_at hl 1 rfl) ?_
      obtain ⟨a15, ea15, hf⟩ := gBind hf
      refine g_aald X hR 5 (by decide) rfl ea15 dX0_narrow_47 ?_
      obtain ⟨x16, ex16, hf⟩ := gBind hf
      refine g_getrN X hR gk_X2 1 (by decide) q513 rfl ex16 dX0_narrow_48 ?_
      refine lv_aload_n hx hb dX0_narrow_51 rfl (lv_at hl 0 rfl) ?_
      obtain ⟨x17, ex17, hf⟩ := gBind hf
      refine g_getr X hR gk_X0 0 (by decide) q792 rfl ex17 dX0_narrow_52 ?_
      obtain ⟨x18, ex18, hf⟩ := gBind hf
      refine g_getrN X hR gk_X1 22 (by decide) q666 rfl ex18 dX0_narrow_55 ?_
      refine lv_iload_n hx hb dX0_narrow_58 rfl (lv_at hl 1 rfl) ?_
      obtain ⟨a19, ea19, hf⟩ := gBind hf
      refine g_aald X hR 5 (by decide) rfl ea19 dX0_narrow_59 ?_
      refine lv_aload_n hx hb dX0_narrow_60 rfl (lv_at hl 0 rfl) ?_
      obtain ⟨x20, ex20, hf⟩ := gBind hf
      refine g_getr X hR gk_X0 0 (by decide) q792 rfl ex20 dX0_narrow_61 ?_
      obtain ⟨x21, ex21, hf⟩ := gBind hf
      refine g_getrN X hR gk_X1 22 (by decide) q666 rfl ex21 dX0_narrow_64 ?_
      refine lv_iload_n hx hb dX0_narrow_67 rfl (lv_at hl 2 rfl) ?_
      obtain ⟨a22, ea22, hf⟩ := gBind hf
      refine g_aald X hR 5 (by decide) rfl ea22 dX0_narrow_68 ?_
      obtain ⟨u23, eu23, hf⟩ := gBind hf
      refine g_callSNi X hR hS [.ref a19, .ref a22] (m_X1_narrowOf l G F h6 (n + 1) a19 a22 eu23) yk_X1_narrowOf q1311 rfl hl.1 ⟨Nat.le_of_ble_eq_true rfl, Nat.le_of_ble_eq_true rfl⟩ ⟨Nat.le_of_ble_eq_true rfl, Nat.le_of_ble_eq_true rfl⟩ rfl (Nat.le_of_ble_eq_true rfl) dX0_narrow_69 (fun H locs hR hS => ?_)
      obtain ⟨x24, ex24, hf⟩ := gBind hf
      refine g_iald X hR ex24 dX0_narrow_72 ?_
      refine lv_goto (tgt := 78) hx hb dX0_narrow_73 (by decide) ?_
      obtain ⟨rfl, rfl, rfl⟩ := gO3 hf
      exact g_iret X hR hS _ rfl ⟨Nat.le_of_ble_eq_true rfl, Nat.le_of_ble_eq_true rfl⟩ dX0_narrow_78
  · replace hf := gIfp c8 hf
    refine lv_iconst (v := (-1 : Int32)) hx hb dX0_narrow_25 (by decide) ?_
    obtain ⟨rfl, rfl, rfl⟩ := gO3 hf
    exact g_iret X hR hS _ rfl ⟨Nat.le_of_ble_eq_true rfl, Nat.le_of_ble_eq_true rfl⟩ dX0_narrow_26

def sp_X0_table_L48 (G : gG) (F : Nat) (h48L : gH) : Nat → Nat → Int32 → Int32 → Int32 → Int32 → Int32 → Int32 → Int32 → Option (Int32 × Int32 × Int32)
  | 0, _, _, _, _, _, _, _, _ => none
  | f + 1, v48_0, v48_1, v48_2, v48_3, v48_4, v48_5, v48_6, v48_7 =>
    (gGr 0 h48L v48_0 0).bind fun x4901 =>
    (gGi 1 h48L x4901 13).bind fun x4902 =>
    if x4902 ≤ v48_7 then
    some (v48_2, v48_3, v48_4) else
    (gGr 0 h48L v48_0 0).bind fun x4904 =>
    if gIs 1 h48L x4904 = true then
    (sp_X1_meet G F h48L x4904 v48_6 v48_7).bind fun u4906 =>
    if u4906 = 0 then
    sp_X0_table_L48 G F h48L f v48_0 v48_1 v48_2 v48_3 v48_4 v48_5 v48_6 (v48_7 + (1 : Int32)) else
    (gGr 0 h48L v48_0 0).bind fun x4908 =>
    if gIs 1 h48L x4908 = true then
    (sp_X1_clearOf G F h48L x4908 v48_6 v48_7).bind fun u4910 =>
    (gGr 0 h48L v48_0 0).bind fun x4911 =>
    if gIs 1 h48L x4911 = true then
    (sp_X1_clearOf G F h48L x4911 v48_6 v48_7).bind fun u4913 =>
    (sp_J11_max G F h48L v48_3 u4913).bind fun u4914 =>
    sp_X0_table_L48 G F h48L f v48_0 v48_1 (v48_2 + (1 : Int32)) u4914 (v48_4 + u4910) v48_5 v48_6 (v48_7 + (1 : Int32)) else none else none else none
def sp_X0_table_L13 (G : gG) (F : Nat) (h13L : gH) : Nat → Nat → Int32 → Int32 → Int32 → Int32 → Int32 → Int32 → Option (Int32 × Int32 × Int32 × Int32)
  | 0, _, _, _, _, _, _, _ => none
  | f + 1, v13_0, v13_1, v13_2, v13_3, v13_4, v13_5, v13_6 =>
    (gGr 0 h13L v13_0 0).bind fun x1401 =>
    (gGi 1 h13L x1401 13).bind fun x1402 =>
    if x1402 ≤ v13_6 then
    some (v13_2, v13_3, v13_4, v13_5) else
    (gGr 0 h13L v13_0 0).bind fun x1404 =>
    (gGr 1 h13L x1404 22).bind fun x1405 =>
    (gAr 5 h13L x1405 v13_6).bind fun a1406 =>
    if gIs 2 h13L a1406 = true then
    (sp_X2_most G F h13L a1406).bind fun u1408 =>
    (sp_J11_max G F h13L v13_5 u1408).bind fun u1409 =>
    (sp_X0_table_L48 G F h13L F v13_0 v13_1 v13_2 v13_3 v13_4 u1409 v13_6 (0 : Int32)).bind fun y1412 =>
    sp_X0_table_L13 G F h13L f v13_0 v13_1 y1412.1 y1412.2.1 y1412.2.2 u1409 (v13_6 + (1 : Int32)) else none
def sp_X0_table (G : gG) (F : Nat) (h : gH) (a0 : Nat) (p1 : Int32) : Option (Int32) :=
 (sp_X0_table_L13 G F h F a0 p1 (0 : Int32) (0 : Int32) (0 : Int32) (0 : Int32) (0 : Int32)).bind fun y3 =>
 if p1 = (0 : Int32) then
 some (y3.1 / (2 : Int32)) else
 if p1 = (1 : Int32) then
 some (y3.2.1) else
 if p1 = (2 : Int32) then
 some (y3.2.2.1) else
 if p1 = (3 : Int32) then
 (gGr 0 h a0 0).bind fun x8 =>
 (gGi 1 h x8 14).bind fun x9 =>
 some ((x9 + (1 : Int32)) * ((y3.2.1 + y3.2.2.2) + (1 : Int32))) else
 some ((-1 : Int32))
theorem yk_X0_table : gVk yX0_table cX0_table 8 (some .int) 1 0 := ⟨q1313, q1314, q92, q1315, ⟨by decide +kernel, by decide +kernel, by decide +kernel⟩, rfl⟩
set_option maxHeartbeats 4000000 in
theorem m_X0_table (l : Launch) (G : gG) (F : Nat) (h : gH) (n : Nat) (a0 : Nat) (p1 : Int32) {r : Int32} (hf : sp_X0_table G F h a0 p1 = some r) : gMet l G yX0_table cX0_table 8 (some .int) 2 44 0 0 [.ref a0, .int p1] h n (some (.int r)) h n := by
  refine gEnter (by decide) [(0, .ref a0), (1, .int p1)] rfl (Nat.le_of_ble_eq_true rfl) ?_
  intro p e s m below meth c H ls X hin hR hS hl
  have hx := X.1.1
  have hb := X.1.2.1
  unfold sp_X0_table at hf
  generalize ([] : List Loc) = locs at hS ⊢
  refine lv_iconst (v := (0 : Int32)) hx hb dX0_table_0 (by decide) ?_
  refine lv_istore_n (lv' := [(2, .int (0 : Int32)), (0, .ref a0), (1, .int p1)]) hx hb dX0_table_1 rfl hl (by decide) rfl (fun ls hl => ?_)
  refine lv_iconst (v := (0 : Int32)) hx hb dX0_table_2 (by decide) ?_
  refine lv_istore_n (lv' := [(3, .int (0 : Int32)), (2, .int (0 : Int32)), (0, .ref a0), (1, .int p1)]) hx hb dX0_table_3 rfl hl (by decide) rfl (fun ls hl => ?_)
  refine lv_iconst (v := (0 : Int32)) hx hb dX0_table_4 (by decide) ?_
  refine lv_istore (lv' := [(4, .int (0 : Int32)), (3, .int (0 : Int32)), (2, .int (0 : Int32)), (0, .ref a0), (1, .int p1)]) hx hb dX0_table_5 hl (by decide) rfl (fun ls hl => ?_)
  refine lv_iconst (v := (0 : Int32)) hx hb dX0_table_7 (by decide) ?_
  refine lv_istore (lv' := [(5, .int (0 : Int32)), (4, .int (0 : Int32)), (3, .int (0 : Int32)), (2, .int (0 : Int32)), (0, .ref a0), (1, .int p1)]) hx hb dX0_table_8 hl (by decide) rfl (fun ls hl => ?_)
  refine lv_iconst (v := (0 : Int32)) hx hb dX0_table_10 (by decide) ?_
  refine lv_istore (lv' := [(6, .int (0 : Int32)), (5, .int (0 : Int32)), (4, .int (0 : Int32)), (3, .int (0 : Int32)), (2, .int (0 : Int32)), (0, .ref a0), (1, .int p1)]) hx hb dX0_table_11 hl (by decide) rfl (fun ls hl => ?_)
  have L13_q1 : ∀ (f : Nat) (v13_0 : Nat) (v13_1 : Int32) (v13_2 : Int32) (v13_3 : Int32) (v13_4 : Int32) (v13_5 : Int32) (v13_6 : Int32) (o2 : Int32 × Int32 × Int32 × Int32) (H : Heap) (locs : List Loc) (ls : Array Slot), sp_X0_table_L13 G F h f v13_0 v13_1 v13_2 v13_3 v13_4 v13_5 v13_6 = some o2 → gRep G h n H → va_S (gFr G) s.heap H locs → lv_has ls 8 [(0, .ref v13_0), (1, .int v13_1), (2, .int v13_2), (3, .int v13_3), (4, .int v13_4), (5, .int v13_5), (6, .int v13_6)] → (∀ (H : Heap) (locs : List Loc) (ls : Array Slot), gRep G h n H → va_S (gFr G) s.heap H locs → lv_has ls 8 [(2, .int o2.1), (3, .int o2.2.1), (4, .int o2.2.2.1), (5, .int o2.2.2.2), (0, .ref v13_0), (1, .int v13_1)] → W p l e ({ frames := 2, cells := 0, slots := 0, locals := 44 } : Room) s m ([.ref a0, .int p1] : List Value).toArray below meth c H locs 0 0 (MQ below (gQ G (some (.int r)) h n) ([.ref a0, .int p1] : List Value).toArray s 0 0 (gFr G)) (F0 m 121 ls [])) → W p l e ({ frames := 2, cells := 0, slots := 0, locals := 44 } : Room) s m ([.ref a0, .int p1] : List Value).toArray below meth c H locs 0 0 (MQ below (gQ G (some (.int r)) h n) ([.ref a0, .int p1] : List Value).toArray s 0 0 (gFr G)) (F0 m 13 ls []) := by
    clear hf
    intro f
    induction f with
    | zero =>
      intro v13_0 v13_1 v13_2 v13_3 v13_4 v13_5 v13_6 o2 H locs ls hf
      cases hf
    | succ f ih =>
      intro v13_0 v13_1 v13_2 v13_3 v13_4 v13_5 v13_6 o2 H locs ls hf hR hS hl K13
      rw [sp_X0_table_L13] at hf
      refine lv_iload hx hb dX0_table_13 (lv_at hl 6 rfl) ?_
      refine lv_aload_n hx hb dX0_table_15 rfl (lv_at hl 0 rfl) ?_
      obtain ⟨x1401, ex1401, hf⟩ := gBind hf
      refine g_getr X hR gk_X0 0 (by decide) q792 rfl ex1401 dX0_table_16 ?_
      obtain ⟨x1402, ex1402, hf⟩ := gBind hf
      refine g_getiN X hR gk_X1 13 (by decide) q649 rfl ex1402 dX0_table_19 ?_
      refine lv_icmp_ge (tgt := 121) hx hb dX0_table_22 (by decide) (fun c1403 => ?_) (fun c1403 => ?_)
      · replace hf := gIfp c1403 hf
        obtain rfl := gO1 hf
        exact K13 _ _ _ hR hS (lv_sub hl [2, 3, 4, 5, 0, 1] rfl)
      · replace hf := gIfn c1403 hf
        refine lv_iload hx hb dX0_table_25 (lv_at hl 5 rfl) ?_
        refine lv_aload_n hx hb dX0_table_27 rfl (lv_at hl 0 rfl) ?_
        obtain ⟨x1404, ex1404, hf⟩ := gBind hf
        refine g_getr X hR gk_X0 0 (by decide) q792 rfl ex1404 dX0_table_28 ?_
        obtain ⟨x1405, ex1405, hf⟩ := gBind hf
        refine g_getrN X hR gk_X1 22 (by decide) q666 rfl ex1405 dX0_table_31 ?_
        refine lv_iload hx hb dX0_table_34 (lv_at hl 6 rfl) ?_
        obtain ⟨a1406, ea1406, hf⟩ := gBind hf
        refine g_aald X hR 5 (by decide) rfl ea1406 dX0_table_36 ?_
        obtain ⟨k1407, hf⟩ := gChk hf
        obtain ⟨u1408, eu1408, hf⟩ := gBind hf
        refine g_callVi X hR hS [] (m_X2_most l G F h n a1406 eu1408) yk_X2_most q940 k1407 rfl hl.1 ⟨Nat.le_of_ble_eq_true rfl, Nat.le_of_ble_eq_true rfl⟩ ⟨Nat.le_of_ble_eq_true rfl, Nat.le_of_ble_eq_true rfl⟩ rfl (Nat.le_of_ble_eq_true rfl) dX0_table_37 (fun H locs hR hS => ?_)
        obtain ⟨u1409, eu1409, hf⟩ := gBind hf
        refine g_callSi X hR hS [.int v13_5, .int u1408] (m_J11_max l G F h n v13_5 u1408 eu1409) yk_J11_max q1316 rfl hl.1 ⟨Nat.le_of_ble_eq_true rfl, Nat.le_of_ble_eq_true rfl⟩ ⟨Nat.le_of_ble_eq_true rfl, Nat.le_of_ble_eq_true rfl⟩ rfl (Nat.le_of_ble_eq_true rfl) dX0_table_40 (fun H locs hR hS => ?_)
        refine lv_istore (lv' := [(5, .int u1409), (0, .ref v13_0), (1, .int v13_1), (2, .int v13_2), (3, .int v13_3), (4, .int v13_4), (6, .int v13_6)]) hx hb dX0_table_43 hl (by decide) rfl (fun ls hl => ?_)
        refine lv_iconst (v := (0 : Int32)) hx hb dX0_table_45 (by decide) ?_
        refine lv_istore (lv' := [(7, .int (0 : Int32)), (5, .int u1409), (0, .ref v13_0), (1, .int v13_1), (2, .int v13_2), (3, .int v13_3), (4, .int v13_4), (6, .int v13_6)]) hx hb dX0_table_46 hl (by decide) rfl (fun ls hl => ?_)
        have L48_q1410 : ∀ (f : Nat) (v48_0 : Nat) (v48_1 : Int32) (v48_2 : Int32) (v48_3 : Int32) (v48_4 : Int32) (v48_5 : Int32) (v48_6 : Int32) (v48_7 : Int32) (o1411 : Int32 × Int32 × Int32) (H : Heap) (locs : List Loc) (ls : Array Slot), sp_X0_table_L48 G F h f v48_0 v48_1 v48_2 v48_3 v48_4 v48_5 v48_6 v48_7 = some o1411 → gRep G h n H → va_S (gFr G) s.heap H locs → lv_has ls 8 [(0, .ref v48_0), (1, .int v48_1), (2, .int v48_2), (3, .int v48_3), (4, .int v48_4), (5, .int v48_5), (6, .int v48_6), (7, .int v48_7)] → (∀ (H : Heap) (locs : List Loc) (ls : Array Slot), gRep G h n H → va_S (gFr G) s.heap H locs → lv_has ls 8 [(2, .int o1411.1), (3, .int o1411.2.1), (4, .int o1411.2.2), (0, .ref v48_0), (1, .int v48_1), (5, .int v48_5), (6, .int v48_6)] → W p l e ({ frames := 2, cells := 0, slots := 0, locals := 44 } : Room) s m ([.ref a0, .int p1] : List Value).toArray below meth c H locs 0 0 (MQ below (gQ G (some (.int r)) h n) ([.ref a0, .int p1] : List Value).toArray s 0 0 (gFr G)) (F0 m 115 ls [])) → W p l e ({ frames := 2, cells := 0, slots := 0, locals := 44 } : Room) s m ([.ref a0, .int p1] : List Value).toArray below meth c H locs 0 0 (MQ below (gQ G (some (.int r)) h n) ([.ref a0, .int p1] : List Value).toArray s 0 0 (gFr G)) (F0 m 48 ls []) := by
          clear hf
          intro f
          induction f with
          | zero =>
            intro v48_0 v48_1 v48_2 v48_3 v48_4 v48_5 v48_6 v48_7 o1411 H locs ls hf
            cases hf
          | succ f ih =>
            intro v48_0 v48_1 v48_2 v48_3 v48_4 v48_5 v48_6 v48_7 o1411 H locs ls hf hR hS hl K48
            rw [sp_X0_table_L48] at hf
            refine lv_iload hx hb dX0_table_48 (lv_at hl 7 rfl) ?_
            refine lv_aload_n hx hb dX0_table_50 rfl (lv_at hl 0 rfl) ?_
            obtain ⟨x4901, ex4901, hf⟩ := gBind hf
            refine g_getr X hR gk_X0 0 (by decide) q792 rfl ex4901 dX0_table_51 ?_
            obtain ⟨x4902, ex4902, hf⟩ := gBind hf
            refine g_getiN X hR gk_X1 13 (by decide) q649 rfl ex4902 dX0_table_54 ?_
            refine lv_icmp_ge (tgt := 115) hx hb dX0_table_57 (by decide) (fun c4903 => ?_) (fun c4903 => ?_)
            · replace hf := gIfp c4903 hf
              obtain rfl := gO1 hf
              exact K48 _ _ _ hR hS (lv_sub hl [2, 3, 4, 0, 1, 5, 6] rfl)
            · replace hf := gIfn c4903 hf
              refine lv_aload_n hx hb dX0_table_60 rfl (lv_at hl 0 rfl) ?_
              obtain ⟨x4904, ex4904, hf⟩ := gBind hf
              refine g_getr X hR gk_X0 0 (by decide) q792 rfl ex4904 dX0_table_61 ?_
              refine lv_iload hx hb dX0_table_64 (lv_at hl 6 rfl) ?_
              refine lv_iload hx hb dX0_table_66 (lv_at hl 7 rfl) ?_
              obtain ⟨k4905, hf⟩ := gChk hf
              obtain ⟨u4906, eu4906, hf⟩ := gBind hf
              refine g_callVi X hR hS [.int v48_6, .int v48_7] (m_X1_meet l G F h n x4904 v48_6 v48_7 eu4906) yk_X1_meet q1310 k4905 rfl hl.1 ⟨Nat.le_of_ble_eq_true rfl, Nat.le_of_ble_eq_true rfl⟩ ⟨Nat.le_of_ble_eq_true rfl, Nat.le_of_ble_eq_true rfl⟩ rfl (Nat.le_of_ble_eq_true rfl) dX0_table_68 (fun H locs hR hS => ?_)
              refine lv_if_eq (tgt := 109) hx hb dX0_table_71 (by decide) (fun c4907 => ?_) (fun c4907 => ?_)
              · replace hf := gIfp c4907 hf
                refine lv_iinc (v := v48_7 + (1 : Int32)) (lv' := [(7, .int (v48_7 + (1 : Int32))), (0, .ref v48_0), (1, .int v48_1), (2, .int v48_2), (3, .int v48_3), (4, .int v48_4), (5, .int v48_5), (6, .int v48_6)]) hx hb dX0_table_109 hl (k := 7) rfl rfl (by decide) rfl (fun ls hl => ?_)
                refine lv_goto (tgt := 48) hx hb dX0_table_112 (by decide) ?_
                exact ih v48_0 v48_1 v48_2 v48_3 v48_4 v48_5 v48_6 (v48_7 + (1 : Int32)) _ _ _ _ hf hR hS (lv_sub hl [1, 2, 3, 4, 5, 6, 7, 0] rfl) K48
              · replace hf := gIfn c4907 hf
                refine lv_iinc (v := v48_2 + (1 : Int32)) (lv' := [(2, .int (v48_2 + (1 : Int32))), (0, .ref v48_0), (1, .int v48_1), (3, .int v48_3), (4, .int v48_4), (5, .int v48_5), (6, .int v48_6), (7, .int v48_7)]) hx hb dX0_table_74 hl (k := 2) rfl rfl (by decide) rfl (fun ls hl => ?_)
                refine lv_iload hx hb dX0_table_77 (lv_at hl 4 rfl) ?_
                refine lv_aload_n hx hb dX0_table_79 rfl (lv_at hl 1 rfl) ?_
                obtain ⟨x4908, ex4908, hf⟩ := gBind hf
                refine g_getr X hR gk_X0 0 (by decide) q792 rfl ex4908 dX0_table_80 ?_
                refine lv_iload hx hb dX0_table_83 (lv_at hl 6 rfl) ?_
                refine lv_iload hx hb dX0_table_85 (lv_at hl 7 rfl) ?_
                obtain ⟨k4909, hf⟩ := gChk hf
                obtain ⟨u4910, eu4910, hf⟩ := gBind hf
                refine g_callVi X hR hS [.int v48_6, .int v48_7] (m_X1_clearOf l G F h n x4908 v48_6 v48_7 eu4910) yk_X1_clearOf q1305 k4909 rfl hl.1 ⟨Nat.le_of_ble_eq_true rfl, Nat.le_of_ble_eq_true rfl⟩ ⟨Nat.le_of_ble_eq_true rfl, Nat.le_of_ble_eq_true rfl⟩ rfl (Nat.le_of_ble_eq_true rfl) dX0_table_87 (fun H locs hR hS => ?_)
                refine lv_iadd hx hb dX0_table_90 ?_
                refine lv_istore (lv' := [(4, .int (v48_4 + u4910)), (2, .int (v48_2 + (1 : Int32))), (0, .ref v48_0), (1, .int v48_1), (3, .int v48_3), (5, .int v48_5), (6, .int v48_6), (7, .int v48_7)]) hx hb dX0_table_91 hl (by decide) rfl (fun ls hl => ?_)
                refine lv_iload_n hx hb dX0_table_93 rfl (lv_at hl 4 rfl) ?_
                refine lv_aload_n hx hb dX0_table_94 rfl (lv_at hl 2 rfl) ?_
                obtain ⟨x4911, ex4911, hf⟩ := gBind hf
                refine g_getr X hR gk_X0 0 (by decide) q792 rfl ex4911 dX0_table_95 ?_
                refine lv_iload hx hb dX0_table_98 (lv_at hl 6 rfl) ?_
                refine lv_iload hx hb dX0_table_100 (lv_at hl 7 rfl) ?_
                obtain ⟨k4912, hf⟩ := gChk hf
                obtain ⟨u4913, eu4913, hf⟩ := gBind hf
                refine g_callVi X hR hS [.int v48_6, .int v48_7] (m_X1_clearOf l G F h n x4911 v48_6 v48_7 eu4913) yk_X1_clearOf q1305 k4912 rfl hl.1 ⟨Nat.le_of_ble_eq_true rfl, Nat.le_of_ble_eq_true rfl⟩ ⟨Nat.le_of_ble_eq_true rfl, Nat.le_of_ble_eq_true rfl⟩ rfl (Nat.le_of_ble_eq_true rfl) dX0_table_102 (fun H locs hR hS => ?_)
                obtain ⟨u4914, eu4914, hf⟩ := gBind hf
                refine g_callSi X hR hS [.int v48_3, .int u4913] (m_J11_max l G F h n v48_3 u4913 eu4914) yk_J11_max q1316 rfl hl.1 ⟨Nat.le_of_ble_eq_true rfl, Nat.le_of_ble_eq_true rfl⟩ ⟨Nat.le_of_ble_eq_true rfl, Nat.le_of_ble_eq_true rfl⟩ rfl (Nat.le_of_ble_eq_true rfl) dX0_table_105 (fun H locs hR hS => ?_)
                refine lv_istore_n (lv' := [(3, .int u4914), (4, .int (v48_4 + u4910)), (2, .int (v48_2 + (1 : Int32))), (0, .ref v48_0), (1, .int v48_1), (5, .int v48_5), (6, .int v48_6), (7, .int v48_7)]) hx hb dX0_table_108 rfl hl (by decide) rfl (fun ls hl => ?_)
                refine lv_iinc (v := v48_7 + (1 : Int32)) (lv' := [(7, .int (v48_7 + (1 : Int32))), (3, .int u4914), (4, .int (v48_4 + u4910)), (2, .int (v48_2 + (1 : Int32))), (0, .ref v48_0), (1, .int v48_1), (5, .int v48_5), (6, .int v48_6)]) hx hb dX0_table_109 hl (k := 7) rfl rfl (by decide) rfl (fun ls hl => ?_)
                refine lv_goto (tgt := 48) hx hb dX0_table_112 (by decide) ?_
                exact ih v48_0 v48_1 (v48_2 + (1 : Int32)) u4914 (v48_4 + u4910) v48_5 v48_6 (v48_7 + (1 : Int32)) _ _ _ _ hf hR hS (lv_sub hl [4, 5, 3, 1, 2, 6, 7, 0] rfl) K48
        obtain ⟨y1412, ey1412, hf⟩ := gBind hf
        refine L48_q1410 F v13_0 v13_1 v13_2 v13_3 v13_4 u1409 v13_6 (0 : Int32) y1412 _ _ _ ey1412 hR hS (lv_sub hl [2, 3, 4, 5, 6, 1, 7, 0] rfl) (fun H locs ls hR hS hl => ?_)
        refine lv_iinc (v := v13_6 + (1 : Int32)) (lv' := [(6, .int (v13_6 + (1 : Int32))), (2, .int y1412.1), (3, .int y1412.2.1), (4, .int y1412.2.2), (0, .ref v13_0), (1, .int v13_1), (5, .int u1409)]) hx hb dX0_table_115 hl (k := 6) rfl rfl (by decide) rfl (fun ls hl => ?_)
        refine lv_goto (tgt := 13) hx hb dX0_table_118 (by decide) ?_
        exact ih v13_0 v13_1 y1412.1 y1412.2.1 y1412.2.2 u1409 (v13_6 + (1 : Int32)) _ _ _ _ hf hR hS (lv_sub hl [4, 5, 1, 2, 3, 6, 0] rfl) K13
  obtain ⟨y3, ey3, hf⟩ := gBind hf
  refine L13_q1 F a0 p1 (0 : Int32) (0 : Int32) (0 : Int32) (0 : Int32) (0 : Int32) y3 _ _ _ ey3 hR hS (lv_sub hl [5, 6, 4, 3, 2, 1, 0] rfl) (fun H locs ls hR hS hl => ?_)
  refine lv_iload_n hx hb dX0_table_121 rfl (lv_at hl 5 rfl) ?_
  by_cases c4 : p1 = (0 : Int32)
  · replace hf := gIfp c4 hf
    refine lv_tableIn (off := 30) (tgt := 152) hx hb dX0_table_122 (by rw [c4]; decide) (by rw [c4]; decide) (by rw [c4]; rfl) (by decide) ?_
    refine lv_iload_n hx hb dX0_table_152 rfl (lv_at hl 0 rfl) ?_
    refine lv_iconst (v := (2 : Int32)) hx hb dX0_table_153 (by decide) ?_
    refine lv_idiv hx hb dX0_table_154 (by decide) ?_
    obtain rfl := gO1 hf
    exact g_iret X hR hS _ rfl ⟨Nat.le_of_ble_eq_true rfl, Nat.le_of_ble_eq_true rfl⟩ dX0_table_155
  replace hf := gIfn c4 hf
  by_cases c5 : p1 = (1 : Int32)
  · replace hf := gIfp c5 hf
    refine lv_tableIn (off := 34) (tgt := 156) hx hb dX0_table_122 (by rw [c5]; decide) (by rw [c5]; decide) (by rw [c5]; rfl) (by decide) ?_
    refine lv_iload_n hx hb dX0_table_156 rfl (lv_at hl 1 rfl) ?_
    obtain rfl := gO1 hf
    exact g_iret X hR hS _ rfl ⟨Nat.le_of_ble_eq_true rfl, Nat.le_of_ble_eq_true rfl⟩ dX0_table_157
  replace hf := gIfn c5 hf
  by_cases c6 : p1 = (2 : Int32)
  · replace hf := gIfp c6 hf
    refine lv_tableIn (off := 36) (tgt := 158) hx hb dX0_table_122 (by rw [c6]; decide) (by rw [c6]; decide) (by rw [c6]; rfl) (by decide) ?_
    refine lv_iload hx hb dX0_table_158 (lv_at hl 2 rfl) ?_
    obtain rfl := gO1 hf
    exact g_iret X hR hS _ rfl ⟨Nat.le_of_ble_eq_true rfl, Nat.le_of_ble_eq_true rfl⟩ dX0_table_160
  replace hf := gIfn c6 hf
  by_cases c7 : p1 = (3 : Int32)
  · replace hf := gIfp c7 hf
    refine lv_tableIn (off := 39) (tgt := 161) hx hb dX0_table_122 (by rw [c7]; decide) (by rw [c7]; decide) (by rw [c7]; rfl) (by decide) ?_
    refine lv_aload_n hx hb dX0_table_161 rfl (lv_at hl 4 rfl) ?_
    obtain ⟨x8, ex8, hf⟩ := gBind hf
    refine g_getr X hR gk_X0 0 (by decide) q792 rfl ex8 dX0_table_162 ?_
    obtain ⟨x9, ex9, hf⟩ := gBind hf
    refine g_getiN X hR gk_X1 14 (by decide) q651 rfl ex9 dX0_table_165 ?_
    refine lv_iconst (v := (1 : Int32)) hx hb dX0_table_168 (by decide) ?_
    refine lv_iadd hx hb dX0_table_169 ?_
    refine lv_iload_n hx hb dX0_table_170 rfl (lv_at hl 1 rfl) ?_
    refine lv_iload hx hb dX0_table_171 (lv_at hl 3 rfl) ?_
    refine lv_iadd hx hb dX0_table_173 ?_
    refine lv_iconst (v := (1 : Int32)) hx hb dX0_table_174 (by decide) ?_
    refine lv_iadd hx hb dX0_table_175 ?_
    refine lv_imul hx hb dX0_table_176 ?_
    obtain rfl := gO1 hf
    exact g_iret X hR hS _ rfl ⟨Nat.le_of_ble_eq_true rfl, Nat.le_of_ble_eq_true rfl⟩ dX0_table_177
  replace hf := gIfn c7 hf
  refine lv_tableOut (tgt := 178) hx hb dX0_table_122 (by have tc4 := lv_neT (k := (0 : Int32)) (a := 0) c4 (by decide); have tc5 := lv_neT (k := (1 : Int32)) (a := 1) c5 (by decide); have tc6 := lv_neT (k := (2 : Int32)) (a := 2) c6 (by decide); have tc7 := lv_neT (k := (3 : Int32)) (a := 3) c7 (by decide); omega) (by decide) ?_
  refine lv_iconst (v := (-1 : Int32)) hx hb dX0_table_178 (by decide) ?_
  obtain rfl := gO1 hf
  exact g_iret X hR hS _ rfl ⟨Nat.le_of_ble_eq_true rfl, Nat.le_of_ble_eq_true rfl⟩ dX0_table_179

def sp_X0_phaseOf (G : gG) (F : Nat) (h : gH) (a0 : Nat) (p1 : Int32) (p2 : Int32) : Option (Int32) :=
 (gGr 0 h a0 0).bind fun x1 =>
 (gGi 1 h x1 14).bind fun x2 =>
 (sp_X0_in G F h p1.toInt64 (0 : Int64) ((x2 - (1 : Int32)).toInt64)).bind fun u3 =>
 if u3 = 0 then
 some ((-1 : Int32)) else
 (sp_X0_in G F h p2.toInt64 (0 : Int64) (3 : Int64)).bind fun u5 =>
 if u5 = 0 then
 some ((-1 : Int32)) else
 (gGr 0 h a0 0).bind fun x7 =>
 (gGr 1 h x7 23).bind fun x8 =>
 (gAr 6 h x8 p1).bind fun a9 =>
 if p2 = 0 then
 (gGi 3 h a9 0).bind fun x19 =>
 some (x19) else
 if p2 = (1 : Int32) then
 (gGi 3 h a9 1).bind fun x18 =>
 some (x18) else
 if p2 = (2 : Int32) then
 (gGi 3 h a9 2).bind fun x17 =>
 some (x17) else
 (gGr 0 h a0 0).bind fun x13 =>
 if gIs 1 h x13 = true then
 (sp_X1_isCalled G F h x13 p1).bind fun u15 =>
 if u15 = 0 then
 some ((0 : Int32)) else
 some ((1 : Int32)) else none
theorem yk_X0_phaseOf : gVk yX0_phaseOf cX0_phaseOf 4 (some .int) 2 0 := ⟨q1318, q1319, q92, q1320, ⟨by decide +kernel, by decide +kernel, by decide +kernel⟩, rfl⟩
set_option maxHeartbeats 4000000 in
theorem m_X0_phaseOf (l : Launch) (G : gG) (F : Nat) (h : gH) (n : Nat) (a0 : Nat) (p1 : Int32) (p2 : Int32) {r : Int32} (hf : sp_X0_phaseOf G F h a0 p1 p2 = some r) : gMet l G yX0_phaseOf cX0_phaseOf 4 (some .int) 2 43 0 0 [.ref a0, .int p1, .int p2] h n (some (.int r)) h n := by
  refine gEnter (by decide) [(0, .ref a0), (1, .int p1), (2, .int p2)] rfl (Nat.le_of_ble_eq_true rfl) ?_
  intro p e s m below meth c H ls X hin hR hS hl
  have hx := X.1.1
  have hb := X.1.2.1
  unfold sp_X0_phaseOf at hf
  generalize ([] : List Loc) = locs at hS ⊢
  refine lv_iload_n hx hb dX0_phaseOf_0 rfl (lv_at hl 1 rfl) ?_
  refine lv_i2l (v := p1.toInt64) hx hb dX0_phaseOf_1 rfl ?_
  refine lv_lconst (v := (0 : Int64)) hx hb dX0_phaseOf_2 (by decide) ?_
  refine lv_aload_n hx hb dX0_phaseOf_3 rfl (lv_at hl 0 rfl) ?_
  obtain ⟨x1, ex1, hf⟩ := gBind hf
  refine g_getr X hR gk_X0 0 (by decide) q792 rfl ex1 dX0_phaseOf_4 ?_
  obtain ⟨x2, ex2, hf⟩ := gBind hf
  refine g_getiN X hR gk_X1 14 (by decide) q651 rfl ex2 dX0_phaseOf_7 ?_
  refine lv_iconst (v := (1 : Int32)) hx hb dX0_phaseOf_10 (by decide) ?_
  refine lv_isub hx hb dX0_phaseOf_11 ?_
  refine lv_i2l (v := (x2 - (1 : Int32)).toInt64) hx hb dX0_phaseOf_12 rfl ?_
  obtain ⟨u3, eu3, hf⟩ := gBind hf
  refine g_callSi X hR hS [.long p1.toInt64, .long (0 : Int64), .long ((x2 - (1 : Int32)).toInt64)] (m_X0_in l G F h n p1.toInt64 (0 : Int64) ((x2 - (1 : Int32)).toInt64) eu3) yk_X0_in q830 rfl hl.1 ⟨Nat.le_of_ble_eq_true rfl, Nat.le_of_ble_eq_true rfl⟩ ⟨Nat.le_of_ble_eq_true rfl, Nat.le_of_ble_eq_true rfl⟩ rfl (Nat.le_of_ble_eq_true rfl) dX0_phaseOf_13 (fun H locs hR hS => ?_)
  refine lv_if_eq (tgt := 31) hx hb dX0_phaseOf_16 (by decide) (fun c4 => ?_) (fun c4 => ?_)
  · replace hf := gIfp c4 hf
    refine lv_iconst (v := (-1 : Int32)) hx hb dX0_phaseOf_31 (by decide) ?_
    obtain rfl := gO1 hf
    exact g_iret X hR hS _ rfl ⟨Nat.le_of_ble_eq_true rfl, Nat.le_of_ble_eq_true rfl⟩ dX0_phaseOf_32
  · replace hf := gIfn c4 hf
    refine lv_iload_n hx hb dX0_phaseOf_19 rfl (lv_at hl 2 rfl) ?_
    refine lv_i2l (v := p2.toInt64) hx hb dX0_phaseOf_20 rfl ?_
    refine lv_lconst (v := (0 : Int64)) hx hb dX0_phaseOf_21 (by decide) ?_
    refine lv_ldc2 (v := (3 : Int64)) hx hb X.1.2.2.2.1 (X.1.2.2.2.2 _ q829) dX0_phaseOf_22 ?_
    obtain ⟨u5, eu5, hf⟩ := gBind hf
    refine g_callSi X hR hS [.long p2.toInt64, .long (0 : Int64), .long (3 : Int64)] (m_X0_in l G F h n p2.toInt64 (0 : Int64) (3 : Int64) eu5) yk_X0_in q830 rfl hl.1 ⟨Nat.le_of_ble_eq_true rfl, Nat.le_of_ble_eq_true rfl⟩ ⟨Nat.le_of_ble_eq_true rfl, Nat.le_of_ble_eq_true rfl⟩ rfl (Nat.le_of_ble_eq_true rfl) dX0_phaseOf_25 (fun H locs hR hS => ?_)
    refine lv_if_ne (tgt := 33) hx hb dX0_phaseOf_28 (by decide) (fun c6 => ?_) (fun c6 => ?_)
    · replace hf := gIfn c6 hf
      refine lv_aload_n hx hb dX0_phaseOf_33 rfl (lv_at hl 0 rfl) ?_
      obtain ⟨x7, ex7, hf⟩ := gBind hf
      refine g_getr X hR gk_X0 0 (by decide) q792 rfl ex7 dX0_phaseOf_34 ?_
      obtain ⟨x8, ex8, hf⟩ := gBind hf
      refine g_getrN X hR gk_X1 23 (by decide) q668 rfl ex8 dX0_phaseOf_37 ?_
      refine lv_iload_n hx hb dX0_phaseOf_40 rfl (lv_at hl 1 rfl) ?_
      obtain ⟨a9, ea9, hf⟩ := gBind hf
      refine g_aald X hR 6 (by decide) rfl ea9 dX0_phaseOf_41 ?_
      refine lv_astore_n (lv' := [(3, .ref a9), (0, .ref a0), (1, .int p1), (2, .int p2)]) hx hb dX0_phaseOf_42 rfl hl (by decide) rfl (fun ls hl => ?_)
      refine lv_iload_n hx hb dX0_phaseOf_43 rfl (lv_at hl 3 rfl) ?_
      refine lv_if_ne (tgt := 54) hx hb dX0_phaseOf_44 (by decide) (fun c10 => ?_) (fun c10 => ?_)
      · replace hf := gIfn c10 hf
        refine lv_iload_n hx hb dX0_phaseOf_54 rfl (lv_at hl 3 rfl) ?_
        refine lv_iconst (v := (1 : Int32)) hx hb dX0_phaseOf_55 (by decide) ?_
        refine lv_icmp_ne (tgt := 66) hx hb dX0_phaseOf_56 (by decide) (fun c11 => ?_) (fun c11 => ?_)
        · replace hf := gIfn c11 hf
          refine lv_iload_n hx hb dX0_phaseOf_66 rfl (lv_at hl 3 rfl) ?_
          refine lv_iconst (v := (2 : Int32)) hx hb dX0_phaseOf_67 (by decide) ?_
          refine lv_icmp_ne (tgt := 78) hx hb dX0_phaseOf_68 (by decide) (fun c12 => ?_) (fun c12 => ?_)
          · replace hf := gIfn c12 hf
            refine lv_aload_n hx hb dX0_phaseOf_78 rfl (lv_at hl 1 rfl) ?_
            obtain ⟨x13, ex13, hf⟩ := gBind hf
            refine g_getr X hR gk_X0 0 (by decide) q792 rfl ex13 dX0_phaseOf_79 ?_
            refine lv_iload_n hx hb dX0_phaseOf_82 rfl (lv_at hl 2 rfl) ?_
            obtain ⟨k14, hf⟩ := gChk hf
            obtain ⟨u15, eu15, hf⟩ := gBind hf
            refine g_callVi X hR hS [.int p1] (m_X1_isCalled l G F h n x13 p1 eu15) yk_X1_isCalled q1321 k14 rfl hl.1 ⟨Nat.le_of_ble_eq_true rfl, Nat.le_of_ble_eq_true rfl⟩ ⟨Nat.le_of_ble_eq_true rfl, Nat.le_of_ble_eq_true rfl⟩ rfl (Nat.le_of_ble_eq_true rfl) dX0_phaseOf_83 (fun H locs hR hS => ?_)
            refine lv_if_eq (tgt := 93) hx hb dX0_phaseOf_86 (by decide) (fun c16 => ?_) (fun c16 => ?_)
            · replace hf := gIfp c16 hf
              refine lv_iconst (v := (0 : Int32)) hx hb dX0_phaseOf_93 (by decide) ?_
              obtain rfl := gO1 hf
              exact g_iret X hR hS _ rfl ⟨Nat.le_of_ble_eq_true rfl, Nat.le_of_ble_eq_true rfl⟩ dX0_phaseOf_94
            · replace hf := gIfn c16 hf
              refine lv_iconst (v := (1 : Int32)) hx hb dX0_phaseOf_89 (by decide) ?_
              refine lv_goto (tgt := 94) hx hb dX0_phaseOf_90 (by decide) ?_
              obtain rfl := gO1 hf
              exact g_iret X hR hS _ rfl ⟨Nat.le_of_ble_eq_true rfl, Nat.le_of_ble_eq_true rfl⟩ dX0_phaseOf_94
          · replace hf := gIfp c12 hf
            refine lv_aload_n hx hb dX0_phaseOf_71 rfl (lv_at hl 0 rfl) ?_
            obtain ⟨x17, ex17, hf⟩ := gBind hf
            refine g_getiN X hR gk_X4 2 (by decide) q585 rfl ex17 dX0_phaseOf_72 ?_
            refine lv_goto (tgt := 94) hx hb dX0_phaseOf_75 (by decide) ?_
            obtain rfl := gO1 hf
            exact g_iret X hR hS _ rfl ⟨Nat.le_of_ble_eq_true rfl, Nat.le_of_ble_eq_true rfl⟩ dX0_phaseOf_94
        · replace hf := gIfp c11 hf
          refine lv_aload_n hx hb dX0_phaseOf_59 rfl (lv_at hl 0 rfl) ?_
          obtain ⟨x18, ex18, hf⟩ := gBind hf
          refine g_getiN X hR gk_X4 1 (by decide) q582 rfl ex18 dX0_phaseOf_60 ?_
          refine lv_goto (tgt := 94) hx hb dX0_phaseOf_63 (by decide) ?_
          obtain rfl := gO1 hf
          exact g_iret X hR hS _ rfl ⟨Nat.le_of_ble_eq_true rfl, Nat.le_of_ble_eq_true rfl⟩ dX0_phaseOf_94
      · replace hf := gIfp c10 hf
        refine lv_aload_n hx hb dX0_phaseOf_47 rfl (lv_at hl 0 rfl) ?_
        obtain ⟨x19, ex19, hf⟩ := gBind hf
        refine g_getiN X hR gk_X4 0 (by decide) q579 rfl ex19 dX0_phaseOf_48 ?_
        refine lv_goto (tgt := 94) hx hb dX0_phaseOf_51 (by decide) ?_
        obtain rfl := gO1 hf
        exact g_iret X hR hS _ rfl ⟨Nat.le_of_ble_eq_true rfl, Nat.le_of_ble_eq_true rfl⟩ dX0_phaseOf_94
    · replace hf := gIfp c6 hf
      refine lv_iconst (v := (-1 : Int32)) hx hb dX0_phaseOf_31 (by decide) ?_
      obtain rfl := gO1 hf
      exact g_iret X hR hS _ rfl ⟨Nat.le_of_ble_eq_true rfl, Nat.le_of_ble_eq_true rfl⟩ dX0_phaseOf_32

def sp_X7_kind (G : gG) (F : Nat) (h : gH) (a0 : Nat) : Option (Int32) :=
 (gGa h a0).bind fun x1 =>
 some (x1)
set_option maxHeartbeats 4000000 in
theorem m_X7_kind (l : Launch) (G : gG) (F : Nat) (h : gH) (n : Nat) (a0 : Nat) {r : Int32} (hf : sp_X7_kind G F h a0 = some r) : gMet l G yX7_kind cX7_kind 1 (some .int) 0 0 0 0 [.ref a0] h n (some (.int r)) h n := by
  refine gEnter (by decide) [(0, .ref a0)] rfl (Nat.le_of_ble_eq_true rfl) ?_
  intro p e s m below meth c H ls X hin hR hS hl
  have hx := X.1.1
  have hb := X.1.2.1
  unfold sp_X7_kind at hf
  generalize ([] : List Loc) = locs at hS ⊢
  refine lv_aload_n hx hb dX7_kind_0 rfl (lv_at hl 0 rfl) ?_
  obtain ⟨x1, ex1, hf⟩ := gBind hf
  refine g_getA X hR q758 ex1 dX7_kind_1 ?_
  obtain rfl := gO1 hf
  exact g_iret X hR hS _ rfl ⟨Nat.le_of_ble_eq_true rfl, Nat.le_of_ble_eq_true rfl⟩ dX7_kind_4

def sp_X0_recorded (G : gG) (F : Nat) (h : gH) (a0 : Nat) (p1 : Int32) (p2 : Int32) : Option (Int32) :=
 (sp_X0_in G F h p2.toInt64 (0 : Int64) (2 : Int64)).bind fun u1 =>
 if u1 = 0 then
 some ((-1 : Int32)) else
 (gGr 0 h a0 0).bind fun x3 =>
 (gGi 1 h x3 15).bind fun x4 =>
 (sp_X0_in G F h p1.toInt64 (0 : Int64) ((x4 - (1 : Int32)).toInt64)).bind fun u5 =>
 if u5 = 0 then
 some ((-2 : Int32)) else
 (gGr 0 h a0 0).bind fun x7 =>
 if gIs 1 h x7 = true then
 (sp_X1_latest G F h x7 p1).bind fun u9 =>
 if p2 = 0 then
 (gGi 4 h u9 0).bind fun x14 =>
 some (x14) else
 if p2 = (1 : Int32) then
 (gGi 4 h u9 1).bind fun x13 =>
 some (x13) else
 (gGi 4 h u9 2).bind fun x12 =>
 some (x12) else none
theorem yk_X0_recorded : gVk yX0_recorded cX0_recorded 4 (some .int) 2 0 := ⟨q1366, q1367, q92, q1368, ⟨by decide +kernel, by decide +kernel, by decide +kernel⟩, rfl⟩
set_option maxHeartbeats 4000000 in
theorem m_X0_recorded (l : Launch) (G : gG) (F : Nat) (h : gH) (n : Nat) (a0 : Nat) (p1 : Int32) (p2 : Int32) {r : Int32} (hf : sp_X0_recorded G F h a0 p1 p2 = some r) : gMet l G yX0_recorded cX0_recorded 4 (some .int) 1 25 0 0 [.ref a0, .int p1, .int p2] h n (some (.int r)) h n := by
  refine gEnter (by decide) [(0, .ref a0), (1, .int p1), (2, .int p2)] rfl (Nat.le_of_ble_eq_true rfl) ?_
  intro p e s m below meth c H ls X hin hR hS hl
  have hx := X.1.1
  have hb := X.1.2.1
  unfold sp_X0_recorded at hf
  generalize ([] : List Loc) = locs at hS ⊢
  refine lv_iload_n hx hb dX0_recorded_0 rfl (lv_at hl 2 rfl) ?_
  refine lv_i2l (v := p2.toInt64) hx hb dX0_recorded_1 rfl ?_
  refine lv_lconst (v := (0 : Int64)) hx hb dX0_recorded_2 (by decide) ?_
  refine lv_ldc2 (v := (2 : Int64)) hx hb X.1.2.2.2.1 (X.1.2.2.2.2 _ q1369) dX0_recorded_3 ?_
  obtain ⟨u1, eu1, hf⟩ := gBind hf
  refine g_callSi X hR hS [.long p2.toInt64, .long (0 : Int64), .long (2 : Int64)] (m_X0_in l G F h n p2.toInt64 (0 : Int64) (2 : Int64) eu1) yk_X0_in q830 rfl hl.1 ⟨Nat.le_of_ble_eq_true rfl, Nat.le_of_ble_eq_true rfl⟩ ⟨Nat.le_of_ble_eq_true rfl, Nat.le_of_ble_eq_true rfl⟩ rfl (Nat.le_of_ble_eq_true rfl) dX0_recorded_6 (fun H locs hR hS => ?_)
  refine lv_if_ne (tgt := 14) hx hb dX0_recorded_9 (by decide) (fun c2 => ?_) (fun c2 => ?_)
  · replace hf := gIfn c2 hf
    refine lv_iload_n hx hb dX0_recorded_14 rfl (lv_at hl 1 rfl) ?_
    refine lv_i2l (v := p1.toInt64) hx hb dX0_recorded_15 rfl ?_
    refine lv_lconst (v := (0 : Int64)) hx hb dX0_recorded_16 (by decide) ?_
    refine lv_aload_n hx hb dX0_recorded_17 rfl (lv_at hl 0 rfl) ?_
    obtain ⟨x3, ex3, hf⟩ := gBind hf
    refine g_getr X hR gk_X0 0 (by decide) q792 rfl ex3 dX0_recorded_18 ?_
    obtain ⟨x4, ex4, hf⟩ := gBind hf
    refine g_getiN X hR gk_X1 15 (by decide) q653 rfl ex4 dX0_recorded_21 ?_
    refine lv_iconst (v := (1 : Int32)) hx hb dX0_recorded_24 (by decide) ?_
    refine lv_isub hx hb dX0_recorded_25 ?_
    refine lv_i2l (v := (x4 - (1 : Int32)).toInt64) hx hb dX0_recorded_26 rfl ?_
    obtain ⟨u5, eu5, hf⟩ := gBind hf
    refine g_callSi X hR hS [.long p1.toInt64, .long (0 : Int64), .long ((x4 - (1 : Int32)).toInt64)] (m_X0_in l G F h n p1.toInt64 (0 : Int64) ((x4 - (1 : Int32)).toInt64) eu5) yk_X0_in q830 rfl hl.1 ⟨Nat.le_of_ble_eq_true rfl, Nat.le_of_ble_eq_true rfl⟩ ⟨Nat.le_of_ble_eq_true rfl, Nat.le_of_ble_eq_true rfl⟩ rfl (Nat.le_of_ble_eq_true rfl) dX0_recorded_27 (fun H locs hR hS => ?_)
    refine lv_if_ne (tgt := 36) hx hb dX0_recorded_30 (by decide) (fun c6 => ?_) (fun c6 => ?_)
    · replace hf := gIfn c6 hf
      refine lv_aload_n hx hb dX0_recorded_36 rfl (lv_at hl 0 rfl) ?_
      obtain ⟨x7, ex7, hf⟩ := gBind hf
      refine g_getr X hR gk_X0 0 (by decide) q792 rfl ex7 dX0_recorded_37 ?_
      refine lv_iload_n hx hb dX0_recorded_40 rfl (lv_at hl 1 rfl) ?_
      obtain ⟨k8, hf⟩ := gChk hf
      obtain ⟨u9, eu9, hf⟩ := gBind hf
      refine g_callVr X hR hS [.int p1] (m_X1_latest l G F h n x7 p1 eu9) yk_X1_latest q1370 k8 rfl hl.1 ⟨Nat.le_of_ble_eq_true rfl, Nat.le_of_ble_eq_true rfl⟩ ⟨Nat.le_of_ble_eq_true rfl, Nat.le_of_ble_eq_true rfl⟩ rfl (Nat.le_of_ble_eq_true rfl) dX0_recorded_41 (fun H locs hR hS => ?_)
      refine lv_astore_n (lv' := [(3, .ref u9), (0, .ref a0), (1, .int p1), (2, .int p2)]) hx hb dX0_recorded_44 rfl hl (by decide) rfl (fun ls hl => ?_)
      refine lv_iload_n hx hb dX0_recorded_45 rfl (lv_at hl 3 rfl) ?_
      refine lv_if_ne (tgt := 56) hx hb dX0_recorded_46 (by decide) (fun c10 => ?_) (fun c10 => ?_)
      · replace hf := gIfn c10 hf
        refine lv_iload_n hx hb dX0_recorded_56 rfl (lv_at hl 3 rfl) ?_
        refine lv_iconst (v := (1 : Int32)) hx hb dX0_recorded_57 (by decide) ?_
        refine lv_icmp_ne (tgt := 68) hx hb dX0_recorded_58 (by decide) (fun c11 => ?_) (fun c11 => ?_)
        · replace hf := gIfn c11 hf
          refine lv_aload_n hx hb dX0_recorded_68 rfl (lv_at hl 0 rfl) ?_
          obtain ⟨x12, ex12, hf⟩ := gBind hf
          refine g_getiN X hR gk_X5 2 (by decide) q603 rfl ex12 dX0_recorded_69 ?_
          obtain rfl := gO1 hf
          exact g_iret X hR hS _ rfl ⟨Nat.le_of_ble_eq_true rfl, Nat.le_of_ble_eq_true rfl⟩ dX0_recorded_72
        · replace hf := gIfp c11 hf
          refine lv_aload_n hx hb dX0_recorded_61 rfl (lv_at hl 0 rfl) ?_
          obtain ⟨x13, ex13, hf⟩ := gBind hf
          refine g_getiN X hR gk_X5 1 (by decide) q601 rfl ex13 dX0_recorded_62 ?_
          refine lv_goto (tgt := 72) hx hb dX0_recorded_65 (by decide) ?_
          obtain rfl := gO1 hf
          exact g_iret X hR hS _ rfl ⟨Nat.le_of_ble_eq_true rfl, Nat.le_of_ble_eq_true rfl⟩ dX0_recorded_72
      · replace hf := gIfp c10 hf
        refine lv_aload_n hx hb dX0_recorded_49 rfl (lv_at hl 0 rfl) ?_
        obtain ⟨x14, ex14, hf⟩ := gBind hf
        refine g_getiN X hR gk_X5 0 (by decide) q599 rfl ex14 dX0_recorded_50 ?_
        refine lv_goto (tgt := 72) hx hb dX0_recorded_53 (by decide) ?_
        obtain rfl := gO1 hf
        exact g_iret X hR hS _ rfl ⟨Nat.le_of_ble_eq_true rfl, Nat.le_of_ble_eq_true rfl⟩ dX0_recorded_72
    · replace hf := gIfp c6 hf
      refine lv_bipush (v := (-2 : Int32)) hx hb dX0_recorded_33 (by decide) ?_
      obtain rfl := gO1 hf
      exact g_iret X hR hS _ rfl ⟨Nat.le_of_ble_eq_true rfl, Nat.le_of_ble_eq_true rfl⟩ dX0_recorded_35
  · replace hf := gIfp c2 hf
    refine lv_iconst (v := (-1 : Int32)) hx hb dX0_recorded_12 (by decide) ?_
    obtain rfl := gO1 hf
    exact g_iret X hR hS _ rfl ⟨Nat.le_of_ble_eq_true rfl, Nat.le_of_ble_eq_true rfl⟩ dX0_recorded_13

def sp_X0_greens_L38 (G : gG) (F : Nat) (h38L : gH) : Nat → Nat → Int32 → Int32 → Int32 → Int32 → Int32 → Int32 → Int32 → Option (Int32 × Int32 × Int32 × Int32)
  | 0, _, _, _, _, _, _, _, _ => none
  | f + 1, v38_0, v38_1, v38_2, v38_3, v38_4, v38_5, v38_6, v38_7 =>
    (gGr 0 h38L v38_0 0).bind fun x3901 =>
    (gGi 1 h38L x3901 15).bind fun x3902 =>
    if x3902 ≤ v38_7 then
    some (v38_3, v38_4, v38_5, v38_6) else
    (gGr 0 h38L v38_0 0).bind fun x3904 =>
    (gGr 1 h38L x3904 24).bind fun x3905 =>
    (gAr 7 h38L x3905 v38_7).bind fun a3906 =>
    (gGi 4 h38L a3906 0).bind fun x3907 =>
    if x3907 = v38_1 then
    (gGr 0 h38L v38_0 0).bind fun x3909 =>
    (gGr 1 h38L x3909 24).bind fun x3910 =>
    (gAr 7 h38L x3910 v38_7).bind fun a3911 =>
    if gIs 4 h38L a3911 = true then
    (sp_X16_lasts G F h38L a3911).bind fun u3913 =>
    (if (v38_3 + (1 : Int32)) = (1 : Int32) then
    if gIs 4 h38L a3911 = true then
    (sp_X16_lasts G F h38L a3911).bind fun u3919 =>
    some (u3919) else none else
    if gIs 4 h38L a3911 = true then
    (sp_X16_lasts G F h38L a3911).bind fun u3916 =>
    (sp_J11_min G F h38L v38_5 u3916).bind fun u3917 =>
    some (u3917) else none).bind fun j3920 =>
    if gIs 4 h38L a3911 = true then
    (sp_X16_lasts G F h38L a3911).bind fun u3922 =>
    (sp_J11_max G F h38L v38_6 u3922).bind fun u3923 =>
    sp_X0_greens_L38 G F h38L f v38_0 v38_1 v38_2 (v38_3 + (1 : Int32)) (v38_4 + u3913) j3920 u3923 (v38_7 + (1 : Int32)) else none else none else
    sp_X0_greens_L38 G F h38L f v38_0 v38_1 v38_2 v38_3 v38_4 v38_5 v38_6 (v38_7 + (1 : Int32))
def sp_X0_greens (G : gG) (F : Nat) (h : gH) (a0 : Nat) (p1 : Int32) (p2 : Int32) : Option (Int32) :=
 if gIs 0 h a0 = true then
 (sp_X0_isSignal G F h a0 p1).bind fun u2 =>
 if u2 = 0 then
 some ((-1 : Int32)) else
 (sp_X0_in G F h p2.toInt64 (0 : Int64) (3 : Int64)).bind fun u4 =>
 if u4 = 0 then
 some ((-1 : Int32)) else
 (sp_X0_greens_L38 G F h F a0 p1 p2 (0 : Int32) (0 : Int32) (-5 : Int32) (-5 : Int32) (0 : Int32)).bind fun y8 =>
 if p2 = 0 then
 some (y8.1) else
 if p2 = (1 : Int32) then
 some (y8.2.1) else
 if p2 = (2 : Int32) then
 some (y8.2.2.1) else
 some (y8.2.2.2) else none
theorem yk_X0_greens : gVk yX0_greens cX0_greens 9 (some .int) 2 0 := ⟨q1375, q1376, q92, q1377, ⟨by decide +kernel, by decide +kernel, by decide +kernel⟩, rfl⟩
set_option maxHeartbeats 4000000 in
theorem m_X0_greens (l : Launch) (G : gG) (F : Nat) (h : gH) (n : Nat) (a0 : Nat) (p1 : Int32) (p2 : Int32) {r : Int32} (hf : sp_X0_greens G F h a0 p1 p2 = some r) : gMet l G yX0_greens cX0_greens 9 (some .int) 2 46 0 0 [.ref a0, .int p1, .int p2] h n (some (.int r)) h n := by
  refine gEnter (by decide) [(0, .ref a0), (1, .int p1), (2, .int p2)] rfl (Nat.le_of_ble_eq_true rfl) ?_
  intro p e s m below meth c H ls X hin hR hS hl
  have hx := X.1.1
  have hb := X.1.2.1
  unfold sp_X0_greens at hf
  generalize ([] : List Loc) = locs at hS ⊢
  refine lv_aload_n hx hb dX0_greens_0 rfl (lv_at hl 0 rfl) ?_
  refine lv_iload_n hx hb dX0_greens_1 rfl (lv_at hl 1 rfl) ?_
  obtain ⟨k1, hf⟩ := gChk hf
  obtain ⟨u2, eu2, hf⟩ := gBind hf
  refine g_callVi X hR hS [.int p1] (m_X0_isSignal l G F h n a0 p1 eu2) yk_X0_isSignal q931 k1 rfl hl.1 ⟨Nat.le_of_ble_eq_true rfl, Nat.le_of_ble_eq_true rfl⟩ ⟨Nat.le_of_ble_eq_true rfl, Nat.le_of_ble_eq_true rfl⟩ rfl (Nat.le_of_ble_eq_true rfl) dX0_greens_2 (fun H locs hR hS => ?_)
  refine lv_if_eq (tgt := 20) hx hb dX0_greens_5 (by decide) (fun c3 => ?_) (fun c3 => ?_)
  · replace hf := gIfp c3 hf
    refine lv_iconst (v := (-1 : Int32)) hx hb dX0_greens_20 (by decide) ?_
    obtain rfl := gO1 hf
    exact g_iret X hR hS _ rfl ⟨Nat.le_of_ble_eq_true rfl, Nat.le_of_ble_eq_true rfl⟩ dX0_greens_21
  · replace hf := gIfn c3 hf
    refine lv_iload_n hx hb dX0_greens_8 rfl (lv_at hl 2 rfl) ?_
    refine lv_i2l (v := p2.toInt64) hx hb dX0_greens_9 rfl ?_
    refine lv_lconst (v := (0 : Int64)) hx hb dX0_greens_10 (by decide) ?_
    refine lv_ldc2 (v := (3 : Int64)) hx hb X.1.2.2.2.1 (X.1.2.2.2.2 _ q829) dX0_greens_11 ?_
    obtain ⟨u4, eu4, hf⟩ := gBind hf
    refine g_callSi X hR hS [.long p2.toInt64, .long (0 : Int64), .long (3 : Int64)] (m_X0_in l G F h n p2.toInt64 (0 : Int64) (3 : Int64) eu4) yk_X0_in q830 rfl hl.1 ⟨Nat.le_of_ble_eq_true rfl, Nat.le_of_ble_eq_true rfl⟩ ⟨Nat.le_of_ble_eq_true rfl, Nat.le_of_ble_eq_true rfl⟩ rfl (Nat.le_of_ble_eq_true rfl) dX0_greens_14 (fun H locs hR hS => ?_)
    refine lv_if_ne (tgt := 22) hx hb dX0_greens_17 (by decide) (fun c5 => ?_) (fun c5 => ?_)
    · replace hf := gIfn c5 hf
      refine lv_iconst (v := (0 : Int32)) hx hb dX0_greens_22 (by decide) ?_
      refine lv_istore_n (lv' := [(3, .int (0 : Int32)), (0, .ref a0), (1, .int p1), (2, .int p2)]) hx hb dX0_greens_23 rfl hl (by decide) rfl (fun ls hl => ?_)
      refine lv_iconst (v := (0 : Int32)) hx hb dX0_greens_24 (by decide) ?_
      refine lv_istore (lv' := [(4, .int (0 : Int32)), (3, .int (0 : Int32)), (0, .ref a0), (1, .int p1), (2, .int p2)]) hx hb dX0_greens_25 hl (by decide) rfl (fun ls hl => ?_)
      refine lv_bipush (v := (-5 : Int32)) hx hb dX0_greens_27 (by decide) ?_
      refine lv_istore (lv' := [(5, .int (-5 : Int32)), (4, .int (0 : Int32)), (3, .int (0 : Int32)), (0, .ref a0), (1, .int p1), (2, .int p2)]) hx hb dX0_greens_29 hl (by decide) rfl (fun ls hl => ?_)
      refine lv_bipush (v := (-5 : Int32)) hx hb dX0_greens_31 (by decide) ?_
      refine lv_istore (lv' := [(6, .int (-5 : Int32)), (5, .int (-5 : Int32)), (4, .int (0 : Int32)), (3, .int (0 : Int32)), (0, .ref a0), (1, .int p1), (2, .int p2)]) hx hb dX0_greens_33 hl (by decide) rfl (fun ls hl => ?_)
      refine lv_iconst (v := (0 : Int32)) hx hb dX0_greens_35 (by decide) ?_
      refine lv_istore (lv' := [(7, .int (0 : Int32)), (6, .int (-5 : Int32)), (5, .int (-5 : Int32)), (4, .int (0 : Int32)), (3, .int (0 : Int32)), (0, .ref a0), (1, .int p1), (2, .int p2)]) hx hb dX0_greens_36 hl (by decide) rfl (fun ls hl => ?_)
      have L38_q6 : ∀ (f : Nat) (v38_0 : Nat) (v38_1 : Int32) (v38_2 : Int32) (v38_3 : Int32) (v38_4 : Int32) (v38_5 : Int32) (v38_6 : Int32) (v38_7 : Int32) (o7 : Int32 × Int32 × Int32 × Int32) (H : Heap) (locs : List Loc) (ls : Array Slot), sp_X0_greens_L38 G F h f v38_0 v38_1 v38_2 v38_3 v38_4 v38_5 v38_6 v38_7 = some o7 → gRep G h n H → va_S (gFr G) s.heap H locs → lv_has ls 9 [(0, .ref v38_0), (1, .int v38_1), (2, .int v38_2), (3, .int v38_3), (4, .int v38_4), (5, .int v38_5), (6, .int v38_6), (7, .int v38_7)] → (∀ (H : Heap) (locs : List Loc) (ls : Array Slot), gRep G h n H → va_S (gFr G) s.heap H locs → lv_has ls 9 [(3, .int o7.1), (4, .int o7.2.1), (5, .int o7.2.2.1), (6, .int o7.2.2.2), (2, .int v38_2)] → W p l e ({ frames := 2, cells := 0, slots := 0, locals := 46 } : Room) s m ([.ref a0, .int p1, .int p2] : List Value).toArray below meth c H locs 0 0 (MQ below (gQ G (some (.int r)) h n) ([.ref a0, .int p1, .int p2] : List Value).toArray s 0 0 (gFr G)) (F0 m 143 ls [])) → W p l e ({ frames := 2, cells := 0, slots := 0, locals := 46 } : Room) s m ([.ref a0, .int p1, .int p2] : List Value).toArray below meth c H locs 0 0 (MQ below (gQ G (some (.int r)) h n) ([.ref a0, .int p1, .int p2] : List Value).toArray s 0 0 (gFr G)) (F0 m 38 ls []) := by
        clear hf
        intro f
        induction f with
        | zero =>
          intro v38_0 v38_1 v38_2 v38_3 v38_4 v38_5 v38_6 v38_7 o7 H locs ls hf
          cases hf
        | succ f ih =>
          intro v38_0 v38_1 v38_2 v38_3 v38_4 v38_5 v38_6 v38_7 o7 H locs ls hf hR hS hl K38
          rw [sp_X0_greens_L38] at hf
          refine lv_iload hx hb dX0_greens_38 (lv_at hl 7 rfl) ?_
          refine lv_aload_n hx hb dX0_greens_40 rfl (lv_at hl 0 rfl) ?_
          obtain ⟨x3901, ex3901, hf⟩ := gBind hf
          refine g_getr X hR gk_X0 0 (by decide) q792 rfl ex3901 dX0_greens_41 ?_
          obtain ⟨x3902, ex3902, hf⟩ := gBind hf
          refine g_getiN X hR gk_X1 15 (by decide) q653 rfl ex3902 dX0_greens_44 ?_
          refine lv_icmp_ge (tgt := 143) hx hb dX0_greens_47 (by decide) (fun c3903 => ?_) (fun c3903 => ?_)
          · replace hf := gIfp c3903 hf
            obtain rfl := gO1 hf
            exact K38 _ _ _ hR hS (lv_sub hl [3, 4, 5, 6, 2] rfl)
          · replace hf := gIfn c3903 hf
            refine lv_aload_n hx hb dX0_greens_50 rfl (lv_at hl 0 rfl) ?_
            obtain ⟨x3904, ex3904, hf⟩ := gBind hf
            refine g_getr X hR gk_X0 0 (by decide) q792 rfl ex3904 dX0_greens_51 ?_
            obtain ⟨x3905, ex3905, hf⟩ := gBind hf
            refine g_getrN X hR gk_X1 24 (by decide) q670 rfl ex3905 dX0_greens_54 ?_
            refine lv_iload hx hb dX0_greens_57 (lv_at hl 7 rfl) ?_
            obtain ⟨a3906, ea3906, hf⟩ := gBind hf
            refine g_aald X hR 7 (by decide) rfl ea3906 dX0_greens_59 ?_
            obtain ⟨x3907, ex3907, hf⟩ := gBind hf
            refine g_getiN X hR gk_X5 0 (by decide) q599 rfl ex3907 dX0_greens_60 ?_
            refine lv_iload_n hx hb dX0_greens_63 rfl (lv_at hl 1 rfl) ?_
            refine lv_icmp_ne (tgt := 137) hx hb dX0_greens_64 (by decide) (fun c3908 => ?_) (fun c3908 => ?_)
            · replace hf := gIfn c3908 hf
              refine lv_iinc (v := v38_7 + (1 : Int32)) (lv' := [(7, .int (v38_7 + (1 : Int32))), (0, .ref v38_0), (1, .int v38_1), (2, .int v38_2), (3, .int v38_3), (4, .int v38_4), (5, .int v38_5), (6, .int v38_6)]) hx hb dX0_greens_137 hl (k := 7) rfl rfl (by decide) rfl (fun ls hl => ?_)
              refine lv_goto (tgt := 38) hx hb dX0_greens_140 (by decide) ?_
              exact ih v38_0 v38_1 v38_2 v38_3 v38_4 v38_5 v38_6 (v38_7 + (1 : Int32)) _ _ _ _ hf hR hS (lv_sub hl [1, 2, 3, 4, 5, 6, 7, 0] rfl) K38
            · replace hf := gIfp c3908 hf
              refine lv_aload_n hx hb dX0_greens_67 rfl (lv_at hl 0 rfl) ?_
              obtain ⟨x3909, ex3909, hf⟩ := gBind hf
              refine g_getr X hR gk_X0 0 (by decide) q792 rfl ex3909 dX0_greens_68 ?_
              obtain ⟨x3910, ex3910, hf⟩ := gBind hf
              refine g_getrN X hR gk_X1 24 (by decide) q670 rfl ex3910 dX0_greens_71 ?_
              refine lv_iload hx hb dX0_greens_74 (lv_at hl 7 rfl) ?_
              obtain ⟨a3911, ea3911, hf⟩ := gBind hf
              refine g_aald X hR 7 (by decide) rfl ea3911 dX0_greens_76 ?_
              refine lv_astore (lv' := [(8, .ref a3911), (0, .ref v38_0), (1, .int v38_1), (2, .int v38_2), (3, .int v38_3), (4, .int v38_4), (5, .int v38_5), (6, .int v38_6), (7, .int v38_7)]) hx hb dX0_greens_77 hl (by decide) rfl (fun ls hl => ?_)
              refine lv_iinc (v := v38_3 + (1 : Int32)) (lv' := [(3, .int (v38_3 + (1 : Int32))), (8, .ref a3911), (0, .ref v38_0), (1, .int v38_1), (2, .int v38_2), (4, .int v38_4), (5, .int v38_5), (6, .int v38_6), (7, .int v38_7)]) hx hb dX0_greens_79 hl (k := 4) rfl rfl (by decide) rfl (fun ls hl => ?_)
              refine lv_iload hx hb dX0_greens_82 (lv_at hl 5 rfl) ?_
              refine lv_aload hx hb dX0_greens_84 (lv_at hl 1 rfl) ?_
              obtain ⟨k3912, hf⟩ := gChk hf
              obtain ⟨u3913, eu3913, hf⟩ := gBind hf
              refine g_callF (nn := 0) X hR hS [] (m_X16_lasts l G F h n a3911 eu3913) (gFaOf X.2.1).2.2.1 q1379 q1384 q129 q1386 (by decide +kernel) k3912 rfl hl.1 ⟨Nat.le_of_ble_eq_true rfl, Nat.le_of_ble_eq_true rfl⟩ ⟨Nat.le_of_ble_eq_true rfl, Nat.le_of_ble_eq_true rfl⟩ rfl (Nat.le_of_ble_eq_true rfl) dX0_greens_86 (fun H locs hR hS => ?_)
              refine lv_iadd hx hb dX0_greens_91 ?_
              refine lv_istore (lv' := [(4, .int (v38_4 + u3913)), (3, .int (v38_3 + (1 : Int32))), (8, .ref a3911), (0, .ref v38_0), (1, .int v38_1), (2, .int v38_2), (5, .int v38_5), (6, .int v38_6), (7, .int v38_7)]) hx hb dX0_greens_92 hl (by decide) rfl (fun ls hl => ?_)
              refine lv_iload_n hx hb dX0_greens_94 rfl (lv_at hl 1 rfl) ?_
              refine lv_iconst (v := (1 : Int32)) hx hb dX0_greens_95 (by decide) ?_
              obtain ⟨j3920, ej3920, hf⟩ := gBind hf
              have J121_j3920 : ∀ (H : Heap) (locs : List Loc) (ls : Array Slot), gRep G h n H → va_S (gFr G) s.heap H locs → lv_has ls 9 [(0, .ref v38_0), (1, .int v38_1), (2, .int v38_2), (3, .int (v38_3 + (1 : Int32))), (4, .int (v38_4 + u3913)), (6, .int v38_6), (7, .int v38_7), (8, .ref a3911)] → W p l e ({ frames := 2, cells := 0, slots := 0, locals := 46 } : Room) s m ([.ref a0, .int p1, .int p2] : List Value).toArray below meth c H locs 0 0 (MQ below (gQ G (some (.int r)) h n) ([.ref a0, .int p1, .int p2] : List Value).toArray s 0 0 (gFr G)) (F0 m 121 ls [.int j3920]) := by
                intro H locs ls hR hS hl
                refine lv_istore (lv' := [(5, .int j3920), (0, .ref v38_0), (1, .int v38_1), (2, .int v38_2), (3, .int (v38_3 + (1 : Int32))), (4, .int (v38_4 + u3913)), (6, .int v38_6), (7, .int v38_7), (8, .ref a3911)]) hx hb dX0_greens_121 hl (by decide) rfl (fun ls hl => ?_)
                refine lv_iload hx hb dX0_greens_123 (lv_at hl 6 rfl) ?_
                refine lv_aload hx hb dX0_greens_125 (lv_at hl 8 rfl) ?_
                obtain ⟨k3921, hf⟩ := gChk hf
                obtain ⟨u3922, eu3922, hf⟩ := gBind hf
                refine g_callF (nn := 0) X hR hS [] (m_X16_lasts l G F h n a3911 eu3922) (gFaOf X.2.1).2.2.1 q1379 q1384 q129 q1386 (by decide +kernel) k3921 rfl hl.1 ⟨Nat.le_of_ble_eq_true rfl, Nat.le_of_ble_eq_true rfl⟩ ⟨Nat.le_of_ble_eq_true rfl, Nat.le_of_ble_eq_true rfl⟩ rfl (Nat.le_of_ble_eq_true rfl) dX0_greens_127 (fun H locs hR hS => ?_)
                obtain ⟨u3923, eu3923, hf⟩ := gBind hf
                refine g_callSi X hR hS [.int v38_6, .int u3922] (m_J11_max l G F h n v38_6 u3922 eu3923) yk_J11_max q1316 rfl hl.1 ⟨Nat.le_of_ble_eq_true rfl, Nat.le_of_ble_eq_true rfl⟩ ⟨Nat.le_of_ble_eq_true rfl, Nat.le_of_ble_eq_true rfl⟩ rfl (Nat.le_of_ble_eq_true rfl) dX0_greens_132 (fun H locs hR hS => ?_)
                refine lv_istore (lv' := [(6, .int u3923), (5, .int j3920), (0, .ref v38_0), (1, .int v38_1), (2, .int v38_2), (3, .int (v38_3 + (1 : Int32))), (4, .int (v38_4 + u3913)), (7, .int v38_7), (8, .ref a3911)]) hx hb dX0_greens_135 hl (by decide) rfl (fun ls hl => ?_)
                refine lv_iinc (v := v38_7 + (1 : Int32)) (lv' := [(7, .int (v38_7 + (1 : Int32))), (6, .int u3923), (5, .int j3920), (0, .ref v38_0), (1, .int v38_1), (2, .int v38_2), (3, .int (v38_3 + (1 : Int32))), (4, .int (v38_4 + u3913)), (8, .ref a3911)]) hx hb dX0_greens_137 hl (k := 7) rfl rfl (by decide) rfl (fun ls hl => ?_)
                refine lv_goto (tgt := 38) hx hb dX0_greens_140 (by decide) ?_
                exact ih v38_0 v38_1 v38_2 (v38_3 + (1 : Int32)) (v38_4 + u3913) j3920 u3923 (v38_7 + (1 : Int32)) _ _ _ _ hf hR hS (lv_sub hl [3, 4, 5, 6, 7, 2, 1, 0] rfl) K38
              replace hf := ej3920
              clear ej3920
              refine lv_icmp_ne (tgt := 109) hx hb dX0_greens_96 (by decide) (fun c3914 => ?_) (fun c3914 => ?_)
              · replace hf := gIfn c3914 hf
                refine lv_iload hx hb dX0_greens_109 (lv_at hl 6 rfl) ?_
                refine lv_aload hx hb dX0_greens_111 (lv_at hl 2 rfl) ?_
                obtain ⟨k3915, hf⟩ := gChk hf
                obtain ⟨u3916, eu3916, hf⟩ := gBind hf
                refine g_callF (nn := 0) X hR hS [] (m_X16_lasts l G F h n a3911 eu3916) (gFaOf X.2.1).2.2.1 q1379 q1384 q129 q1386 (by decide +kernel) k3915 rfl hl.1 ⟨Nat.le_of_ble_eq_true rfl, Nat.le_of_ble_eq_true rfl⟩ ⟨Nat.le_of_ble_eq_true rfl, Nat.le_of_ble_eq_true rfl⟩ rfl (Nat.le_of_ble_eq_true rfl) dX0_greens_113 (fun H locs hR hS => ?_)
                obtain ⟨u3917, eu3917, hf⟩ := gBind hf
                refine g_callSi X hR hS [.int v38_5, .int u3916] (m_J11_min l G F h n v38_5 u3916 eu3917) yk_J11_min q944 rfl hl.1 ⟨Nat.le_of_ble_eq_true rfl, Nat.le_of_ble_eq_true rfl⟩ ⟨Nat.le_of_ble_eq_true rfl, Nat.le_of_ble_eq_true rfl⟩ rfl (Nat.le_of_ble_eq_true rfl) dX0_greens_118 (fun H locs hR hS => ?_)
                obtain rfl := gO1 hf
                exact J121_j3920 _ _ _ hR hS (lv_sub hl [3, 4, 5, 1, 0, 7, 8, 2] rfl)
              · replace hf := gIfp c3914 hf
                refine lv_aload hx hb dX0_greens_99 (lv_at hl 2 rfl) ?_
                obtain ⟨k3918, hf⟩ := gChk hf
                obtain ⟨u3919, eu3919, hf⟩ := gBind hf
                refine g_callF (nn := 0) X hR hS [] (m_X16_lasts l G F h n a3911 eu3919) (gFaOf X.2.1).2.2.1 q1379 q1384 q129 q1386 (by decide +kernel) k3918 rfl hl.1 ⟨Nat.le_of_ble_eq_true rfl, Nat.le_of_ble_eq_true rfl⟩ ⟨Nat.le_of_ble_eq_true rfl, Nat.le_of_ble_eq_true rfl⟩ rfl (Nat.le_of_ble_eq_true rfl) dX0_greens_101 (fun H locs hR hS => ?_)
                refine lv_goto (tgt := 121) hx hb dX0_greens_106 (by decide) ?_
                obtain rfl := gO1 hf
                exact J121_j3920 _ _ _ hR hS (lv_sub hl [3, 4, 5, 1, 0, 7, 8, 2] rfl)
      obtain ⟨y8, ey8, hf⟩ := gBind hf
      refine L38_q6 F a0 p1 p2 (0 : Int32) (0 : Int32) (-5 : Int32) (-5 : Int32) (0 : Int32) y8 _ _ _ ey8 hR hS (lv_sub hl [5, 6, 7, 4, 3, 2, 1, 0] rfl) (fun H locs ls hR hS hl => ?_)
      refine lv_iload_n hx hb dX0_greens_143 rfl (lv_at hl 4 rfl) ?_
      refine lv_if_ne (tgt := 151) hx hb dX0_greens_144 (by decide) (fun c9 => ?_) (fun c9 => ?_)
      · replace hf := gIfn c9 hf
        refine lv_iload_n hx hb dX0_greens_151 rfl (lv_at hl 4 rfl) ?_
        refine lv_iconst (v := (1 : Int32)) hx hb dX0_greens_152 (by decide) ?_
        refine lv_icmp_ne (tgt := 161) hx hb dX0_greens_153 (by decide) (fun c10 => ?_) (fun c10 => ?_)
        · replace hf := gIfn c10 hf
          refine lv_iload_n hx hb dX0_greens_161 rfl (lv_at hl 4 rfl) ?_
          refine lv_iconst (v := (2 : Int32)) hx hb dX0_greens_162 (by decide) ?_
          refine lv_icmp_ne (tgt := 171) hx hb dX0_greens_163 (by decide) (fun c11 => ?_) (fun c11 => ?_)
          · replace hf := gIfn c11 hf
            refine lv_iload hx hb dX0_greens_171 (lv_at hl 3 rfl) ?_
            obtain rfl := gO1 hf
            exact g_iret X hR hS _ rfl ⟨Nat.le_of_ble_eq_true rfl, Nat.le_of_ble_eq_true rfl⟩ dX0_greens_173
          · replace hf := gIfp c11 hf
            refine lv_iload hx hb dX0_greens_166 (lv_at hl 2 rfl) ?_
            refine lv_goto (tgt := 173) hx hb dX0_greens_168 (by decide) ?_
            obtain rfl := gO1 hf
            exact g_iret X hR hS _ rfl ⟨Nat.le_of_ble_eq_true rfl, Nat.le_of_ble_eq_true rfl⟩ dX0_greens_173
        · replace hf := gIfp c10 hf
          refine lv_iload hx hb dX0_greens_156 (lv_at hl 1 rfl) ?_
          refine lv_goto (tgt := 173) hx hb dX0_greens_158 (by decide) ?_
          obtain rfl := gO1 hf
          exact g_iret X hR hS _ rfl ⟨Nat.le_of_ble_eq_true rfl, Nat.le_of_ble_eq_true rfl⟩ dX0_greens_173
      · replace hf := gIfp c9 hf
        refine lv_iload_n hx hb dX0_greens_147 rfl (lv_at hl 0 rfl) ?_
        refine lv_goto (tgt := 173) hx hb dX0_greens_148 (by decide) ?_
        obtain rfl := gO1 hf
        exact g_iret X hR hS _ rfl ⟨Nat.le_of_ble_eq_true rfl, Nat.le_of_ble_eq_true rfl⟩ dX0_greens_173
    · replace hf := gIfp c5 hf
      refine lv_iconst (v := (-1 : Int32)) hx hb dX0_greens_20 (by decide) ?_
      obtain rfl := gO1 hf
      exact g_iret X hR hS _ rfl ⟨Nat.le_of_ble_eq_true rfl, Nat.le_of_ble_eq_true rfl⟩ dX0_greens_21

def sp_X0_couldBy_L6 (G : gG) (F : Nat) (h6L : gH) : Nat → Nat → Nat → Int32 → Int32 → Int32 → Int32 → Int32 → Option (Int32)
  | 0, _, _, _, _, _, _, _ => none
  | f + 1, v6_0, v6_1, v6_2, v6_3, v6_4, v6_5, v6_6 =>
    if v6_2 ≤ v6_6 then
    some (v6_5) else
    (gAr 7 h6L v6_1 v6_6).bind fun a702 =>
    (gGr 0 h6L v6_0 0).bind fun x703 =>
    (gGr 1 h6L x703 22).bind fun x704 =>
    (gGi 4 h6L a702 0).bind fun x705 =>
    (gAr 5 h6L x704 x705).bind fun a706 =>
    (gGi 4 h6L a702 1).bind fun x707 =>
    (gGi 4 h6L a702 2).bind fun x708 =>
    if gIs 2 h6L a706 = true then
    (sp_X2_couldTake G F h6L a706 v6_3 v6_4 x707 x708).bind fun u710 =>
    if u710 = 0 then
    sp_X0_couldBy_L6 G F h6L f v6_0 v6_1 v6_2 v6_3 v6_4 (v6_5 ||| (0 : Int32)) (v6_6 + (1 : Int32)) else
    (gGi 4 h6L a702 0).bind fun x712 =>
    sp_X0_couldBy_L6 G F h6L f v6_0 v6_1 v6_2 v6_3 v6_4 (v6_5 ||| ((1 : Int32) <<< (x712 &&& 31))) (v6_6 + (1 : Int32)) else none
def sp_X0_couldBy (G : gG) (F : Nat) (h : gH) (a0 : Nat) (a1 : Nat) (p2 : Int32) (p3 : Int32) (p4 : Int32) : Option (Int32) :=
 (sp_X0_couldBy_L6 G F h F a0 a1 p2 p3 p4 (0 : Int32) (0 : Int32)).bind fun y3 =>
 some (y3)
theorem yk_X0_couldBy : gVk yX0_couldBy cX0_couldBy 8 (some .int) 4 0 := ⟨q1416, qs26, q92, q1417, ⟨by decide +kernel, by decide +kernel, by decide +kernel⟩, rfl⟩
set_option maxHeartbeats 4000000 in
theorem m_X0_couldBy (l : Launch) (G : gG) (F : Nat) (h : gH) (n : Nat) (a0 : Nat) (a1 : Nat) (p2 : Int32) (p3 : Int32) (p4 : Int32) {r : Int32} (hf : sp_X0_couldBy G F h a0 a1 p2 p3 p4 = some r) : gMet l G yX0_couldBy cX0_couldBy 8 (some .int) 2 47 0 0 [.ref a0, .ref a1, .int p2, .int p3, .int p4] h n (some (.int r)) h n := by
  refine gEnter (by decide) [(0, .ref a0), (1, .ref a1), (2, .int p2), (3, .int p3), (4, .int p4)] rfl (Nat.le_of_ble_eq_true rfl) ?_
  intro p e s m below meth c H ls X hin hR hS hl
  have hx := X.1.1
  have hb := X.1.2.1
  unfold sp_X0_couldBy at hf
  generalize ([] : List Loc) = locs at hS ⊢
  refine lv_iconst (v := (0 : Int32)) hx hb dX0_couldBy_0 (by decide) ?_
  refine lv_istore (lv' := [(5, .int (0 : Int32)), (0, .ref a0), (1, .ref a1), (2, .int p2), (3, .int p3), (4, .int p4)]) hx hb dX0_couldBy_1 hl (by decide) rfl (fun ls hl => ?_)
  refine lv_iconst (v := (0 : Int32)) hx hb dX0_couldBy_3 (by decide) ?_
  refine lv_istore (lv' := [(6, .int (0 : Int32)), (5, .int (0 : Int32)), (0, .ref a0), (1, .ref a1), (2, .int p2), (3, .int p3), (4, .int p4)]) hx hb dX0_couldBy_4 hl (by decide) rfl (fun ls hl => ?_)
  have L6_q1 : ∀ (f : Nat) (v6_0 : Nat) (v6_1 : Nat) (v6_2 : Int32) (v6_3 : Int32) (v6_4 : Int32) (v6_5 : Int32) (v6_6 : Int32) (o2 : Int32) (H : Heap) (locs : List Loc) (ls : Array Slot), sp_X0_couldBy_L6 G F h f v6_0 v6_1 v6_2 v6_3 v6_4 v6_5 v6_6 = some o2 → gRep G h n H → va_S (gFr G) s.heap H locs → lv_has ls 8 [(0, .ref v6_0), (1, .ref v6_1), (2, .int v6_2), (3, .int v6_3), (4, .int v6_4), (5, .int v6_5), (6, .int v6_6)] → (∀ (H : Heap) (locs : List Loc) (ls : Array Slot), gRep G h n H → va_S (gFr G) s.heap H locs → lv_has ls 8 [(5, .int o2)] → W p l e ({ frames := 2, cells := 0, slots := 0, locals := 47 } : Room) s m ([.ref a0, .ref a1, .int p2, .int p3, .int p4] : List Value).toArray below meth c H locs 0 0 (MQ below (gQ G (some (.int r)) h n) ([.ref a0, .ref a1, .int p2, .int p3, .int p4] : List Value).toArray s 0 0 (gFr G)) (F0 m 72 ls [])) → W p l e ({ frames := 2, cells := 0, slots := 0, locals := 47 } : Room) s m ([.ref a0, .ref a1, .int p2, .int p3, .int p4] : List Value).toArray below meth c H locs 0 0 (MQ below (gQ G (some (.int r)) h n) ([.ref a0, .ref a1, .int p2, .int p3, .int p4] : List Value).toArray s 0 0 (gFr G)) (F0 m 6 ls []) := by
    clear hf
    intro f
    induction f with
    | zero =>
      intro v6_0 v6_1 v6_2 v6_3 v6_4 v6_5 v6_6 o2 H locs ls hf
      cases hf
    | succ f ih =>
      intro v6_0 v6_1 v6_2 v6_3 v6_4 v6_5 v6_6 o2 H locs ls hf hR hS hl K6
      rw [sp_X0_couldBy_L6] at hf
      refine lv_iload hx hb dX0_couldBy_6 (lv_at hl 6 rfl) ?_
      refine lv_iload_n hx hb dX0_couldBy_8 rfl (lv_at hl 2 rfl) ?_
      refine lv_icmp_ge (tgt := 72) hx hb dX0_couldBy_9 (by decide) (fun c701 => ?_) (fun c701 => ?_)
      · replace hf := gIfp c701 hf
        obtain rfl := gO1 hf
        exact K6 _ _ _ hR hS (lv_sub hl [5] rfl)
      · replace hf := gIfn c701 hf
        refine lv_aload_n hx hb dX0_couldBy_12 rfl (lv_at hl 1 rfl) ?_
        refine lv_iload hx hb dX0_couldBy_13 (lv_at hl 6 rfl) ?_
        obtain ⟨a702, ea702, hf⟩ := gBind hf
        refine g_aald X hR 7 (by decide) rfl ea702 dX0_couldBy_15 ?_
        refine lv_astore (lv' := [(7, .ref a702), (0, .ref v6_0), (1, .ref v6_1), (2, .int v6_2), (3, .int v6_3), (4, .int v6_4), (5, .int v6_5), (6, .int v6_6)]) hx hb dX0_couldBy_16 hl (by decide) rfl (fun ls hl => ?_)
        refine lv_iload hx hb dX0_couldBy_18 (lv_at hl 6 rfl) ?_
        refine lv_aload_n hx hb dX0_couldBy_20 rfl (lv_at hl 1 rfl) ?_
        obtain ⟨x703, ex703, hf⟩ := gBind hf
        refine g_getr X hR gk_X0 0 (by decide) q792 rfl ex703 dX0_couldBy_21 ?_
        obtain ⟨x704, ex704, hf⟩ := gBind hf
        refine g_getrN X hR gk_X1 22 (by decide) q666 rfl ex704 dX0_couldBy_24 ?_
        refine lv_aload hx hb dX0_couldBy_27 (lv_at hl 0 rfl) ?_
        obtain ⟨x705, ex705, hf⟩ := gBind hf
        refine g_getiN X hR gk_X5 0 (by decide) q599 rfl ex705 dX0_couldBy_29 ?_
        obtain ⟨a706, ea706, hf⟩ := gBind hf
        refine g_aald X hR 5 (by decide) rfl ea706 dX0_couldBy_32 ?_
        refine lv_iload_n hx hb dX0_couldBy_33 rfl (lv_at hl 4 rfl) ?_
        refine lv_iload hx hb dX0_couldBy_34 (lv_at hl 5 rfl) ?_
        refine lv_aload hx hb dX0_couldBy_36 (lv_at hl 0 rfl) ?_
        obtain ⟨x707, ex707, hf⟩ := gBind hf
        refine g_getiN X hR gk_X5 1 (by decide) q601 rfl ex707 dX0_couldBy_38 ?_
        refine lv_aload hx hb dX0_couldBy_41 (lv_at hl 0 rfl) ?_
        obtain ⟨x708, ex708, hf⟩ := gBind hf
        refine g_getiN X hR gk_X5 2 (by decide) q603 rfl ex708 dX0_couldBy_43 ?_
        obtain ⟨k709, hf⟩ := gChk hf
        obtain ⟨u710, eu710, hf⟩ := gBind hf
        refine g_callVi X hR hS [.int v6_3, .int v6_4, .int x707, .int x708] (m_X2_couldTake l G F h n a706 v6_3 v6_4 x707 x708 eu710) yk_X2_couldTake q1418 k709 rfl hl.1 ⟨Nat.le_of_ble_eq_true rfl, Nat.le_of_ble_eq_true rfl⟩ ⟨Nat.le_of_ble_eq_true rfl, Nat.le_of_ble_eq_true rfl⟩ rfl (Nat.le_of_ble_eq_true rfl) dX0_couldBy_46 (fun H locs hR hS => ?_)
        refine lv_if_eq (tgt := 62) hx hb dX0_couldBy_49 (by decide) (fun c711 => ?_) (fun c711 => ?_)
        · replace hf := gIfp c711 hf
          refine lv_iconst (v := (0 : Int32)) hx hb dX0_couldBy_62 (by decide) ?_
          refine lv_ior hx hb dX0_couldBy_63 ?_
          refine lv_istore (lv' := [(5, .int (v6_5 ||| (0 : Int32))), (7, .ref a702), (0, .ref v6_0), (1, .ref v6_1), (2, .int v6_2), (3, .int v6_3), (4, .int v6_4), (6, .int v6_6)]) hx hb dX0_couldBy_64 hl (by decide) rfl (fun ls hl => ?_)
          refine lv_iinc (v := v6_6 + (1 : Int32)) (lv' := [(6, .int (v6_6 + (1 : Int32))), (5, .int (v6_5 ||| (0 : Int32))), (7, .ref a702), (0, .ref v6_0), (1, .ref v6_1), (2, .int v6_2), (3, .int v6_3), (4, .int v6_4)]) hx hb dX0_couldBy_66 hl (k := 7) rfl rfl (by decide) rfl (fun ls hl => ?_)
          refine lv_goto (tgt := 6) hx hb dX0_couldBy_69 (by decide) ?_
          exact ih v6_0 v6_1 v6_2 v6_3 v6_4 (v6_5 ||| (0 : Int32)) (v6_6 + (1 : Int32)) _ _ _ _ hf hR hS (lv_sub hl [3, 4, 5, 6, 7, 1, 0] rfl) K6
        · replace hf := gIfn c711 hf
          refine lv_iconst (v := (1 : Int32)) hx hb dX0_couldBy_52 (by decide) ?_
          refine lv_aload hx hb dX0_couldBy_53 (lv_at hl 0 rfl) ?_
          obtain ⟨x712, ex712, hf⟩ := gBind hf
          refine g_getiN X hR gk_X5 0 (by decide) q599 rfl ex712 dX0_couldBy_55 ?_
          refine lv_ishl hx hb dX0_couldBy_58 ?_
          refine lv_goto (tgt := 63) hx hb dX0_couldBy_59 (by decide) ?_
          refine lv_ior hx hb dX0_couldBy_63 ?_
          refine lv_istore (lv' := [(5, .int (v6_5 ||| ((1 : Int32) <<< (x712 &&& 31)))), (7, .ref a702), (0, .ref v6_0), (1, .ref v6_1), (2, .int v6_2), (3, .int v6_3), (4, .int v6_4), (6, .int v6_6)]) hx hb dX0_couldBy_64 hl (by decide) rfl (fun ls hl => ?_)
          refine lv_iinc (v := v6_6 + (1 : Int32)) (lv' := [(6, .int (v6_6 + (1 : Int32))), (5, .int (v6_5 ||| ((1 : Int32) <<< (x712 &&& 31)))), (7, .ref a702), (0, .ref v6_0), (1, .ref v6_1), (2, .int v6_2), (3, .int v6_3), (4, .int v6_4)]) hx hb dX0_couldBy_66 hl (k := 7) rfl rfl (by decide) rfl (fun ls hl => ?_)
          refine lv_goto (tgt := 6) hx hb dX0_couldBy_69 (by decide) ?_
          exact ih v6_0 v6_1 v6_2 v6_3 v6_4 (v6_5 ||| ((1 : Int32) <<< (x712 &&& 31))) (v6_6 + (1 : Int32)) _ _ _ _ hf hR hS (lv_sub hl [3, 4, 5, 6, 7, 1, 0] rfl) K6
  obtain ⟨y3, ey3, hf⟩ := gBind hf
  refine L6_q1 F a0 a1 p2 p3 p4 (0 : Int32) (0 : Int32) y3 _ _ _ ey3 hR hS (lv_sub hl [2, 3, 4, 5, 6, 1, 0] rfl) (fun H locs ls hR hS hl => ?_)
  refine lv_iload hx hb dX0_couldBy_72 (lv_at hl 0 rfl) ?_
  obtain rfl := gO1 hf
  exact g_iret X hR hS _ rfl ⟨Nat.le_of_ble_eq_true rfl, Nat.le_of_ble_eq_true rfl⟩ dX0_couldBy_74

def sp_X0_couldOf_L51 (G : gG) (F : Nat) (h51L : gH) : Nat → Nat → Int32 → Int32 → Int32 → Int32 → Option (Int32)
  | 0, _, _, _, _, _ => none
  | f + 1, v51_0, v51_1, v51_2, v51_4, v51_5 =>
    (gGr 0 h51L v51_0 0).bind fun x5201 =>
    (gGi 1 h51L x5201 13).bind fun x5202 =>
    if x5202 ≤ v51_5 then
    some (v51_4) else
    (gGr 0 h51L v51_0 0).bind fun x5204 =>
    (gGr 1 h51L x5204 22).bind fun x5205 =>
    (gAr 5 h51L x5205 v51_5).bind fun a5206 =>
    (gGi 2 h51L a5206 6).bind fun x5207 =>
    if x5207 = 0 then
    sp_X0_couldOf_L51 G F h51L f v51_0 v51_1 v51_2 (v51_4 ||| (0 : Int32)) (v51_5 + (1 : Int32)) else
    (gGi 2 h51L a5206 7).bind fun x5209 =>
    if gIs 2 h51L a5206 = true then
    (sp_X2_couldTake G F h51L a5206 v51_1 v51_2 x5209 (-5 : Int32)).bind fun u5211 =>
    if u5211 = 0 then
    sp_X0_couldOf_L51 G F h51L f v51_0 v51_1 v51_2 (v51_4 ||| (0 : Int32)) (v51_5 + (1 : Int32)) else
    sp_X0_couldOf_L51 G F h51L f v51_0 v51_1 v51_2 (v51_4 ||| ((1 : Int32) <<< (v51_5 &&& 31))) (v51_5 + (1 : Int32)) else none
def sp_X0_couldOf (G : gG) (F : Nat) (h : gH) (a0 : Nat) (p1 : Int32) (p2 : Int32) (p3 : Int32) : Option (Int32) :=
 if p3 = (1 : Int32) then
 (gGr 0 h a0 0).bind fun x11 =>
 (gGr 1 h x11 25).bind fun x12 =>
 (gGr 0 h a0 0).bind fun x13 =>
 (gGi 1 h x13 17).bind fun x14 =>
 if gIs 0 h a0 = true then
 (sp_X0_couldBy G F h a0 x12 x14 p1 p2).bind fun u16 =>
 some (u16) else none else
 (gGr 0 h a0 0).bind fun x2 =>
 (gGr 1 h x2 24).bind fun x3 =>
 (gGr 0 h a0 0).bind fun x4 =>
 (gGi 1 h x4 15).bind fun x5 =>
 if gIs 0 h a0 = true then
 (sp_X0_couldBy G F h a0 x3 x5 p1 p2).bind fun u7 =>
 (sp_X0_couldOf_L51 G F h F a0 p1 p2 u7 (0 : Int32)).bind fun y10 =>
 some (y10) else none
theorem yk_X0_couldOf : gVk yX0_couldOf cX0_couldOf 7 (some .int) 3 0 := ⟨q1412, qs25, q92, q1413, ⟨by decide +kernel, by decide +kernel, by decide +kernel⟩, rfl⟩
set_option maxHeartbeats 4000000 in
theorem m_X0_couldOf (l : Launch) (G : gG) (F : Nat) (h : gH) (n : Nat) (a0 : Nat) (p1 : Int32) (p2 : Int32) (p3 : Int32) {r : Int32} (hf : sp_X0_couldOf G F h a0 p1 p2 p3 = some r) : gMet l G yX0_couldOf cX0_couldOf 7 (some .int) 3 74 0 0 [.ref a0, .int p1, .int p2, .int p3] h n (some (.int r)) h n := by
  refine gEnter (by decide) [(0, .ref a0), (1, .int p1), (2, .int p2), (3, .int p3)] rfl (Nat.le_of_ble_eq_true rfl) ?_
  intro p e s m below meth c H ls X hin hR hS hl
  have hx := X.1.1
  have hb := X.1.2.1
  unfold sp_X0_couldOf at hf
  generalize ([] : List Loc) = locs at hS ⊢
  refine lv_iload_n hx hb dX0_couldOf_0 rfl (lv_at hl 3 rfl) ?_
  refine lv_iconst (v := (1 : Int32)) hx hb dX0_couldOf_1 (by decide) ?_
  refine lv_icmp_ne (tgt := 26) hx hb dX0_couldOf_2 (by decide) (fun c1 => ?_) (fun c1 => ?_)
  · replace hf := gIfn c1 hf
    refine lv_aload_n hx hb dX0_couldOf_26 rfl (lv_at hl 0 rfl) ?_
    refine lv_aload_n hx hb dX0_couldOf_27 rfl (lv_at hl 0 rfl) ?_
    obtain ⟨x2, ex2, hf⟩ := gBind hf
    refine g_getr X hR gk_X0 0 (by decide) q792 rfl ex2 dX0_couldOf_28 ?_
    obtain ⟨x3, ex3, hf⟩ := gBind hf
    refine g_getrN X hR gk_X1 24 (by decide) q670 rfl ex3 dX0_couldOf_31 ?_
    refine lv_aload_n hx hb dX0_couldOf_34 rfl (lv_at hl 0 rfl) ?_
    obtain ⟨x4, ex4, hf⟩ := gBind hf
    refine g_getr X hR gk_X0 0 (by decide) q792 rfl ex4 dX0_couldOf_35 ?_
    obtain ⟨x5, ex5, hf⟩ := gBind hf
    refine g_getiN X hR gk_X1 15 (by decide) q653 rfl ex5 dX0_couldOf_38 ?_
    refine lv_iload_n hx hb dX0_couldOf_41 rfl (lv_at hl 1 rfl) ?_
    refine lv_iload_n hx hb dX0_couldOf_42 rfl (lv_at hl 2 rfl) ?_
    obtain ⟨k6, hf⟩ := gChk hf
    obtain ⟨u7, eu7, hf⟩ := gBind hf
    refine g_callVi X hR hS [.ref x3, .int x5, .int p1, .int p2] (m_X0_couldBy l G F h n a0 x3 x5 p1 p2 eu7) yk_X0_couldBy q1414 k6 rfl hl.1 ⟨Nat.le_of_ble_eq_true rfl, Nat.le_of_ble_eq_true rfl⟩ ⟨Nat.le_of_ble_eq_true rfl, Nat.le_of_ble_eq_true rfl⟩ rfl (Nat.le_of_ble_eq_true rfl) dX0_couldOf_43 (fun H locs hR hS => ?_)
    refine lv_istore (lv' := [(4, .int u7), (0, .ref a0), (1, .int p1), (2, .int p2), (3, .int p3)]) hx hb dX0_couldOf_46 hl (by decide) rfl (fun ls hl => ?_)
    refine lv_iconst (v := (0 : Int32)) hx hb dX0_couldOf_48 (by decide) ?_
    refine lv_istore (lv' := [(5, .int (0 : Int32)), (4, .int u7), (0, .ref a0), (1, .int p1), (2, .int p2), (3, .int p3)]) hx hb dX0_couldOf_49 hl (by decide) rfl (fun ls hl => ?_)
    have L51_q8 : ∀ (f : Nat) (v51_0 : Nat) (v51_1 : Int32) (v51_2 : Int32) (v51_4 : Int32) (v51_5 : Int32) (o9 : Int32) (H : Heap) (locs : List Loc) (ls : Array Slot), sp_X0_couldOf_L51 G F h f v51_0 v51_1 v51_2 v51_4 v51_5 = some o9 → gRep G h n H → va_S (gFr G) s.heap H locs → lv_has ls 7 [(0, .ref v51_0), (1, .int v51_1), (2, .int v51_2), (4, .int v51_4), (5, .int v51_5)] → (∀ (H : Heap) (locs : List Loc) (ls : Array Slot), gRep G h n H → va_S (gFr G) s.heap H locs → lv_has ls 7 [(4, .int o9)] → W p l e ({ frames := 3, cells := 0, slots := 0, locals := 74 } : Room) s m ([.ref a0, .int p1, .int p2, .int p3] : List Value).toArray below meth c H locs 0 0 (MQ below (gQ G (some (.int r)) h n) ([.ref a0, .int p1, .int p2, .int p3] : List Value).toArray s 0 0 (gFr G)) (F0 m 119 ls [])) → W p l e ({ frames := 3, cells := 0, slots := 0, locals := 74 } : Room) s m ([.ref a0, .int p1, .int p2, .int p3] : List Value).toArray below meth c H locs 0 0 (MQ below (gQ G (some (.int r)) h n) ([.ref a0, .int p1, .int p2, .int p3] : List Value).toArray s 0 0 (gFr G)) (F0 m 51 ls []) := by
      clear hf
      intro f
      induction f with
      | zero =>
        intro v51_0 v51_1 v51_2 v51_4 v51_5 o9 H locs ls hf
        cases hf
      | succ f ih =>
        intro v51_0 v51_1 v51_2 v51_4 v51_5 o9 H locs ls hf hR hS hl K51
        rw [sp_X0_couldOf_L51] at hf
        refine lv_iload hx hb dX0_couldOf_51 (lv_at hl 4 rfl) ?_
        refine lv_aload_n hx hb dX0_couldOf_53 rfl (lv_at hl 0 rfl) ?_
        obtain ⟨x5201, ex5201, hf⟩ := gBind hf
        refine g_getr X hR gk_X0 0 (by decide) q792 rfl ex5201 dX0_couldOf_54 ?_
        obtain ⟨x5202, ex5202, hf⟩ := gBind hf
        refine g_getiN X hR gk_X1 13 (by decide) q649 rfl ex5202 dX0_couldOf_57 ?_
        refine lv_icmp_ge (tgt := 119) hx hb dX0_couldOf_60 (by decide) (fun c5203 => ?_) (fun c5203 => ?_)
        · replace hf := gIfp c5203 hf
          obtain rfl := gO1 hf
          exact K51 _ _ _ hR hS (lv_sub hl [3] rfl)
        · replace hf := gIfn c5203 hf
          refine lv_aload_n hx hb dX0_couldOf_63 rfl (lv_at hl 0 rfl) ?_
          obtain ⟨x5204, ex5204, hf⟩ := gBind hf
          refine g_getr X hR gk_X0 0 (by decide) q792 rfl ex5204 dX0_couldOf_64 ?_
          obtain ⟨x5205, ex5205, hf⟩ := gBind hf
          refine g_getrN X hR gk_X1 22 (by decide) q666 rfl ex5205 dX0_couldOf_67 ?_
          refine lv_iload hx hb dX0_couldOf_70 (lv_at hl 4 rfl) ?_
          obtain ⟨a5206, ea5206, hf⟩ := gBind hf
          refine g_aald X hR 5 (by decide) rfl ea5206 dX0_couldOf_72 ?_
          refine lv_astore (lv' := [(6, .ref a5206), (0, .ref v51_0), (1, .int v51_1), (2, .int v51_2), (4, .int v51_4), (5, .int v51_5)]) hx hb dX0_couldOf_73 hl (by decide) rfl (fun ls hl => ?_)
          refine lv_iload hx hb dX0_couldOf_75 (lv_at hl 4 rfl) ?_
          refine lv_aload hx hb dX0_couldOf_77 (lv_at hl 0 rfl) ?_
          obtain ⟨x5207, ex5207, hf⟩ := gBind hf
          refine g_getiN X hR gk_X2 6 (by decide) q531 rfl ex5207 dX0_couldOf_79 ?_
          refine lv_if_eq (tgt := 109) hx hb dX0_couldOf_82 (by decide) (fun c5208 => ?_) (fun c5208 => ?_)
          · replace hf := gIfp c5208 hf
            refine lv_iconst (v := (0 : Int32)) hx hb dX0_couldOf_109 (by decide) ?_
            refine lv_ior hx hb dX0_couldOf_110 ?_
            refine lv_istore (lv' := [(4, .int (v51_4 ||| (0 : Int32))), (6, .ref a5206), (0, .ref v51_0), (1, .int v51_1), (2, .int v51_2), (5, .int v51_5)]) hx hb dX0_couldOf_111 hl (by decide) rfl (fun ls hl => ?_)
            refine lv_iinc (v := v51_5 + (1 : Int32)) (lv' := [(5, .int (v51_5 + (1 : Int32))), (4, .int (v51_4 ||| (0 : Int32))), (6, .ref a5206), (0, .ref v51_0), (1, .int v51_1), (2, .int v51_2)]) hx hb dX0_couldOf_113 hl (k := 5) rfl rfl (by decide) rfl (fun ls hl => ?_)
            refine lv_goto (tgt := 51) hx hb dX0_couldOf_116 (by decide) ?_
            exact ih v51_0 v51_1 v51_2 (v51_4 ||| (0 : Int32)) (v51_5 + (1 : Int32)) _ _ _ _ hf hR hS (lv_sub hl [3, 4, 5, 1, 0] rfl) K51
          · replace hf := gIfn c5208 hf
            refine lv_aload hx hb dX0_couldOf_85 (lv_at hl 0 rfl) ?_
            refine lv_iload_n hx hb dX0_couldOf_87 rfl (lv_at hl 2 rfl) ?_
            refine lv_iload_n hx hb dX0_couldOf_88 rfl (lv_at hl 3 rfl) ?_
            refine lv_aload hx hb dX0_couldOf_89 (lv_at hl 0 rfl) ?_
            obtain ⟨x5209, ex5209, hf⟩ := gBind hf
            refine g_getiN X hR gk_X2 7 (by decide) q534 rfl ex5209 dX0_couldOf_91 ?_
            refine lv_bipush (v := (-5 : Int32)) hx hb dX0_couldOf_94 (by decide) ?_
            obtain ⟨k5210, hf⟩ := gChk hf
            obtain ⟨u5211, eu5211, hf⟩ := gBind hf
            refine g_callVi X hR hS [.int v51_1, .int v51_2, .int x5209, .int (-5 : Int32)] (m_X2_couldTake l G F h n a5206 v51_1 v51_2 x5209 (-5 : Int32) eu5211) yk_X2_couldTake q1418 k5210 rfl hl.1 ⟨Nat.le_of_ble_eq_true rfl, Nat.le_of_ble_eq_true rfl⟩ ⟨Nat.le_of_ble_eq_true rfl, Nat.le_of_ble_eq_true rfl⟩ rfl (Nat.le_of_ble_eq_true rfl) dX0_couldOf_96 (fun H locs hR hS => ?_)
            refine lv_if_eq (tgt := 109) hx hb dX0_couldOf_99 (by decide) (fun c5212 => ?_) (fun c5212 => ?_)
            · replace hf := gIfp c5212 hf
              refine lv_iconst (v := (0 : Int32)) hx hb dX0_couldOf_109 (by decide) ?_
              refine lv_ior hx hb dX0_couldOf_110 ?_
              refine lv_istore (lv' := [(4, .int (v51_4 ||| (0 : Int32))), (6, .ref a5206), (0, .ref v51_0), (1, .int v51_1), (2, .int v51_2), (5, .int v51_5)]) hx hb dX0_couldOf_111 hl (by decide) rfl (fun ls hl => ?_)
              refine lv_iinc (v := v51_5 + (1 : Int32)) (lv' := [(5, .int (v51_5 + (1 : Int32))), (4, .int (v51_4 ||| (0 : Int32))), (6, .ref a5206), (0, .ref v51_0), (1, .int v51_1), (2, .int v51_2)]) hx hb dX0_couldOf_113 hl (k := 5) rfl rfl (by decide) rfl (fun ls hl => ?_)
              refine lv_goto (tgt := 51) hx hb dX0_couldOf_116 (by decide) ?_
              exact ih v51_0 v51_1 v51_2 (v51_4 ||| (0 : Int32)) (v51_5 + (1 : Int32)) _ _ _ _ hf hR hS (lv_sub hl [3, 4, 5, 1, 0] rfl) K51
            · replace hf := gIfn c5212 hf
              refine lv_iconst (v := (1 : Int32)) hx hb dX0_couldOf_102 (by decide) ?_
              refine lv_iload hx hb dX0_couldOf_103 (lv_at hl 5 rfl) ?_
              refine lv_ishl hx hb dX0_couldOf_105 ?_
              refine lv_goto (tgt := 110) hx hb dX0_couldOf_106 (by decide) ?_
              refine lv_ior hx hb dX0_couldOf_110 ?_
              refine lv_istore (lv' := [(4, .int (v51_4 ||| ((1 : Int32) <<< (v51_5 &&& 31)))), (6, .ref a5206), (0, .ref v51_0), (1, .int v51_1), (2, .int v51_2), (5, .int v51_5)]) hx hb dX0_couldOf_111 hl (by decide) rfl (fun ls hl => ?_)
              refine lv_iinc (v := v51_5 + (1 : Int32)) (lv' := [(5, .int (v51_5 + (1 : Int32))), (4, .int (v51_4 ||| ((1 : Int32) <<< (v51_5 &&& 31)))), (6, .ref a5206), (0, .ref v51_0), (1, .int v51_1), (2, .int v51_2)]) hx hb dX0_couldOf_113 hl (k := 5) rfl rfl (by decide) rfl (fun ls hl => ?_)
              refine lv_goto (tgt := 51) hx hb dX0_couldOf_116 (by decide) ?_
              exact ih v51_0 v51_1 v51_2 (v51_4 ||| ((1 : Int32) <<< (v51_5 &&& 31))) (v51_5 + (1 : Int32)) _ _ _ _ hf hR hS (lv_sub hl [3, 4, 5, 1, 0] rfl) K51
    obtain ⟨y10, ey10, hf⟩ := gBind hf
    refine L51_q8 F a0 p1 p2 u7 (0 : Int32) y10 _ _ _ ey10 hR hS (lv_sub hl [2, 3, 4, 1, 0] rfl) (fun H locs ls hR hS hl => ?_)
    refine lv_iload hx hb dX0_couldOf_119 (lv_at hl 0 rfl) ?_
    obtain rfl := gO1 hf
    exact g_iret X hR hS _ rfl ⟨Nat.le_of_ble_eq_true rfl, Nat.le_of_ble_eq_true rfl⟩ dX0_couldOf_121
  · replace hf := gIfp c1 hf
    refine lv_aload_n hx hb dX0_couldOf_5 rfl (lv_at hl 0 rfl) ?_
    refine lv_aload_n hx hb dX0_couldOf_6 rfl (lv_at hl 0 rfl) ?_
    obtain ⟨x11, ex11, hf⟩ := gBind hf
    refine g_getr X hR gk_X0 0 (by decide) q792 rfl ex11 dX0_couldOf_7 ?_
    obtain ⟨x12, ex12, hf⟩ := gBind hf
    refine g_getrN X hR gk_X1 25 (by decide) q672 rfl ex12 dX0_couldOf_10 ?_
    refine lv_aload_n hx hb dX0_couldOf_13 rfl (lv_at hl 0 rfl) ?_
    obtain ⟨x13, ex13, hf⟩ := gBind hf
    refine g_getr X hR gk_X0 0 (by decide) q792 rfl ex13 dX0_couldOf_14 ?_
    obtain ⟨x14, ex14, hf⟩ := gBind hf
    refine g_getiN X hR gk_X1 17 (by decide) q656 rfl ex14 dX0_couldOf_17 ?_
    refine lv_iload_n hx hb dX0_couldOf_20 rfl (lv_at hl 1 rfl) ?_
    refine lv_iload_n hx hb dX0_couldOf_21 rfl (lv_at hl 2 rfl) ?_
    obtain ⟨k15, hf⟩ := gChk hf
    obtain ⟨u16, eu16, hf⟩ := gBind hf
    refine g_callVi X hR hS [.ref x12, .int x14, .int p1, .int p2] (m_X0_couldBy l G F h n a0 x12 x14 p1 p2 eu16) yk_X0_couldBy q1414 k15 rfl hl.1 ⟨Nat.le_of_ble_eq_true rfl, Nat.le_of_ble_eq_true rfl⟩ ⟨Nat.le_of_ble_eq_true rfl, Nat.le_of_ble_eq_true rfl⟩ rfl (Nat.le_of_ble_eq_true rfl) dX0_couldOf_22 (fun H locs hR hS => ?_)
    obtain rfl := gO1 hf
    exact g_iret X hR hS _ rfl ⟨Nat.le_of_ble_eq_true rfl, Nat.le_of_ble_eq_true rfl⟩ dX0_couldOf_25

def sp_X0_could (G : gG) (F : Nat) (h : gH) (n : Nat) (a0 : Nat) (p1 : Int32) (p2 : Int32) (p3 : Int32) : Option (Int32 × gH × Nat) :=
 (sp_X0_in G F h p3.toInt64 (0 : Int64) (1 : Int64)).bind fun u1 =>
 if u1 = 0 then
 some (((-1 : Int32), h, n)) else
 (sp_X0_in G F (va_up h n (some (.inl (3, 2, .inl (fun _ => 0))))) p1.toInt64 (0 : Int64) (63 : Int64)).bind fun u3 =>
 (gSb 3 (va_up h n (some (.inl (3, 2, .inl (fun _ => 0))))) n (0 : Int32) u3).bind fun h4 =>
 (sp_X0_in G F h4 p2.toInt64 (0 : Int64) (9999 : Int64)).bind fun u5 =>
 (gSb 3 h4 n (1 : Int32) u5).bind fun h6 =>
 (sp_X0_are G F h6 n).bind fun u7 =>
 if u7 = 0 then
 some (((-2 : Int32), h6, n + 1)) else
 if gIs 0 h6 a0 = true then
 (sp_X0_couldOf G F h6 a0 p1 p2 p3).bind fun u10 =>
 some ((u10, h6, n + 1)) else none
theorem yk_X0_could : gVk yX0_could cX0_could 4 (some .int) 3 0 := ⟨q1406, q1407, q92, q1408, ⟨by decide +kernel, by decide +kernel, by decide +kernel⟩, rfl⟩
set_option maxHeartbeats 4000000 in
theorem m_X0_could (l : Launch) (G : gG) (F : Nat) (h : gH) (n : Nat) (a0 : Nat) (p1 : Int32) (p2 : Int32) (p3 : Int32) {r : Int32} {h' : gH} {n' : Nat} (hf : sp_X0_could G F h n a0 p1 p2 p3 = some (r, h', n')) : gMet l G yX0_could cX0_could 4 (some .int) 4 100 1 2 [.ref a0, .int p1, .int p2, .int p3] h n (some (.int r)) h' n' := by
  refine gEnter (by decide) [(0, .ref a0), (1, .int p1), (2, .int p2), (3, .int p3)] rfl (Nat.le_of_ble_eq_true rfl) ?_
  intro p e s m below meth c H ls X hin hR hS hl
  have hx := X.1.1
  have hb := X.1.2.1
  unfold sp_X0_could at hf
  generalize ([] : List Loc) = locs at hS ⊢
  refine lv_iload_n hx hb dX0_could_0 rfl (lv_at hl 3 rfl) ?_
  refine lv_i2l (v := p3.toInt64) hx hb dX0_could_1 rfl ?_
  refine lv_lconst (v := (0 : Int64)) hx hb dX0_could_2 (by decide) ?_
  refine lv_lconst (v := (1 : Int64)) hx hb dX0_could_3 (by decide) ?_
  obtain ⟨u1, eu1, hf⟩ := gBind hf
  refine g_callSi X hR hS [.long p3.toInt64, .long (0 : Int64), .long (1 : Int64)] (m_X0_in l G F h n p3.toInt64 (0 : Int64) (1 : Int64) eu1) yk_X0_in q830 rfl hl.1 ⟨Nat.le_of_ble_eq_true rfl, Nat.le_of_ble_eq_true rfl⟩ ⟨Nat.le_of_ble_eq_true rfl, Nat.le_of_ble_eq_true rfl⟩ rfl (Nat.le_of_ble_eq_true rfl) dX0_could_4 (fun H locs hR hS => ?_)
  refine lv_if_ne (tgt := 12) hx hb dX0_could_7 (by decide) (fun c2 => ?_) (fun c2 => ?_)
  · replace hf := gIfn c2 hf
    refine lv_iconst (v := (2 : Int32)) hx hb dX0_could_12 (by decide) ?_
    refine g_newa3 X hR hS q879 2 (by decide) (by decide) (by decide) ⟨Nat.le_of_ble_eq_true rfl, Nat.le_of_ble_eq_true rfl⟩ dX0_could_13 (fun H hR hS => ?_)
    refine lv_dup hx hb dX0_could_15 rfl ?_
    refine lv_iconst (v := (0 : Int32)) hx hb dX0_could_16 (by decide) ?_
    refine lv_iload_n hx hb dX0_could_17 rfl (lv_at hl 1 rfl) ?_
    refine lv_i2l (v := p1.toInt64) hx hb dX0_could_18 rfl ?_
    refine lv_lconst (v := (0 : Int64)) hx hb dX0_could_19 (by decide) ?_
    refine lv_ldc2 (v := (63 : Int64)) hx hb X.1.2.2.2.1 (X.1.2.2.2.2 _ q833) dX0_could_20 ?_
    obtain ⟨u3, eu3, hf⟩ := gBind hf
    refine g_callSi X hR hS [.long p1.toInt64, .long (0 : Int64), .long (63 : Int64)] (m_X0_in l G F (va_up h n (some (.inl (3, 2, .inl (fun _ => 0))))) (n + 1) p1.toInt64 (0 : Int64) (63 : Int64) eu3) yk_X0_in q830 rfl hl.1 ⟨Nat.le_of_ble_eq_true rfl, Nat.le_of_ble_eq_true rfl⟩ ⟨Nat.le_of_ble_eq_true rfl, Nat.le_of_ble_eq_true rfl⟩ rfl (Nat.le_of_ble_eq_true rfl) dX0_could_23 (fun H locs hR hS => ?_)
    obtain ⟨h4, eh4, hf⟩ := gBind hf
    refine g_zast X hR hS eh4 dX0_could_26 (fun H locs hR hS => ?_)
    refine lv_dup hx hb dX0_could_27 rfl ?_
    refine lv_iconst (v := (1 : Int32)) hx hb dX0_could_28 (by decide) ?_
    refine lv_iload_n hx hb dX0_could_29 rfl (lv_at hl 2 rfl) ?_
    refine lv_i2l (v := p2.toInt64) hx hb dX0_could_30 rfl ?_
    refine lv_lconst (v := (0 : Int64)) hx hb dX0_could_31 (by decide) ?_
    refine lv_ldc2 (v := (9999 : Int64)) hx hb X.1.2.2.2.1 (X.1.2.2.2.2 _ q1409) dX0_could_32 ?_
    obtain ⟨u5, eu5, hf⟩ := gBind hf
    refine g_callSi X hR hS [.long p2.toInt64, .long (0 : Int64), .long (9999 : Int64)] (m_X0_in l G F h4 (n + 1) p2.toInt64 (0 : Int64) (9999 : Int64) eu5) yk_X0_in q830 rfl hl.1 ⟨Nat.le_of_ble_eq_true rfl, Nat.le_of_ble_eq_true rfl⟩ ⟨Nat.le_of_ble_eq_true rfl, Nat.le_of_ble_eq_true rfl⟩ rfl (Nat.le_of_ble_eq_true rfl) dX0_could_35 (fun H locs hR hS => ?_)
    obtain ⟨h6, eh6, hf⟩ := gBind hf
    refine g_zast X hR hS eh6 dX0_could_38 (fun H locs hR hS => ?_)
    obtain ⟨u7, eu7, hf⟩ := gBind hf
    refine g_callSi X hR hS [.ref n] (m_X0_are l G F h6 (n + 1) n eu7) yk_X0_are q834 rfl hl.1 ⟨Nat.le_of_ble_eq_true rfl, Nat.le_of_ble_eq_true rfl⟩ ⟨Nat.le_of_ble_eq_true rfl, Nat.le_of_ble_eq_true rfl⟩ rfl (Nat.le_of_ble_eq_true rfl) dX0_could_39 (fun H locs hR hS => ?_)
    refine lv_if_eq (tgt := 55) hx hb dX0_could_42 (by decide) (fun c8 => ?_) (fun c8 => ?_)
    · replace hf := gIfp c8 hf
      refine lv_bipush (v := (-2 : Int32)) hx hb dX0_could_55 (by decide) ?_
      obtain ⟨rfl, rfl, rfl⟩ := gO3 hf
      exact g_iret X hR hS _ rfl ⟨Nat.le_of_ble_eq_true rfl, Nat.le_of_ble_eq_true rfl⟩ dX0_could_57
    · replace hf := gIfn c8 hf
      refine lv_aload_n hx hb dX0_could_45 rfl (lv_at hl 0 rfl) ?_
      refine lv_iload_n hx hb dX0_could_46 rfl (lv_at hl 1 rfl) ?_
      refine lv_iload_n hx hb dX0_could_47 rfl (lv_at hl 2 rfl) ?_
      refine lv_iload_n hx hb dX0_could_48 rfl (lv_at hl 3 rfl) ?_
      obtain ⟨k9, hf⟩ := gChk hf
      obtain ⟨u10, eu10, hf⟩ := gBind hf
      refine g_callVi X hR hS [.int p1, .int p2, .int p3] (m_X0_couldOf l G F h6 (n + 1) a0 p1 p2 p3 eu10) yk_X0_couldOf q1410 k9 rfl hl.1 ⟨Nat.le_of_ble_eq_true rfl, Nat.le_of_ble_eq_true rfl⟩ ⟨Nat.le_of_ble_eq_true rfl, Nat.le_of_ble_eq_true rfl⟩ rfl (Nat.le_of_ble_eq_true rfl) dX0_could_49 (fun H locs hR hS => ?_)
      refine lv_goto (tgt := 57) hx hb dX0_could_52 (by decide) ?_
      obtain ⟨rfl, rfl, rfl⟩ := gO3 hf
      exact g_iret X hR hS _ rfl ⟨Nat.le_of_ble_eq_true rfl, Nat.le_of_ble_eq_true rfl⟩ dX0_could_57
  · replace hf := gIfp c2 hf
    refine lv_iconst (v := (-1 : Int32)) hx hb dX0_could_10 (by decide) ?_
    obtain ⟨rfl, rfl, rfl⟩ := gO3 hf
    exact g_iret X hR hS _ rfl ⟨Nat.le_of_ble_eq_true rfl, Nat.le_of_ble_eq_true rfl⟩ dX0_could_11

def sp_X0_crowded_L29 (G : gG) (F : Nat) (h29L : gH) : Nat → Nat → Int32 → Int32 → Int32 → Option (Int32)
  | 0, _, _, _, _ => none
  | f + 1, v29_0, v29_1, v29_2, v29_3 =>
    if (64 : Int32) ≤ v29_3 then
    some ((-5 : Int32)) else
    if gIs 0 h29L v29_0 = true then
    (sp_X0_couldOf G F h29L v29_0 v29_3 v29_1 v29_2).bind fun u3003 =>
    if (u3003 &&& (u3003 - (1 : Int32))) = 0 then
    sp_X0_crowded_L29 G F h29L f v29_0 v29_1 v29_2 (v29_3 + (1 : Int32)) else
    some (v29_3) else none
def sp_X0_crowded (G : gG) (F : Nat) (h : gH) (a0 : Nat) (p1 : Int32) (p2 : Int32) : Option (Int32) :=
 (sp_X0_in G F h p2.toInt64 (0 : Int64) (1 : Int64)).bind fun u1 =>
 if u1 = 0 then
 some ((-1 : Int32)) else
 (sp_X0_in G F h p1.toInt64 (0 : Int64) (9999 : Int64)).bind fun u3 =>
 if u3 = 0 then
 some ((-2 : Int32)) else
 sp_X0_crowded_L29 G F h F a0 p1 p2 (0 : Int32)
theorem yk_X0_crowded : gVk yX0_crowded cX0_crowded 5 (some .int) 2 0 := ⟨q1424, q1425, q92, q1426, ⟨by decide +kernel, by decide +kernel, by decide +kernel⟩, rfl⟩
set_option maxHeartbeats 4000000 in
theorem m_X0_crowded (l : Launch) (G : gG) (F : Nat) (h : gH) (n : Nat) (a0 : Nat) (p1 : Int32) (p2 : Int32) {r : Int32} (hf : sp_X0_crowded G F h a0 p1 p2 = some r) : gMet l G yX0_crowded cX0_crowded 5 (some .int) 4 100 0 0 [.ref a0, .int p1, .int p2] h n (some (.int r)) h n := by
  refine gEnter (by decide) [(0, .ref a0), (1, .int p1), (2, .int p2)] rfl (Nat.le_of_ble_eq_true rfl) ?_
  intro p e s m below meth c H ls X hin hR hS hl
  have hx := X.1.1
  have hb := X.1.2.1
  unfold sp_X0_crowded at hf
  generalize ([] : List Loc) = locs at hS ⊢
  refine lv_iload_n hx hb dX0_crowded_0 rfl (lv_at hl 2 rfl) ?_
  refine lv_i2l (v := p2.toInt64) hx hb dX0_crowded_1 rfl ?_
  refine lv_lconst (v := (0 : Int64)) hx hb dX0_crowded_2 (by decide) ?_
  refine lv_lconst (v := (1 : Int64)) hx hb dX0_crowded_3 (by decide) ?_
  obtain ⟨u1, eu1, hf⟩ := gBind hf
  refine g_callSi X hR hS [.long p2.toInt64, .long (0 : Int64), .long (1 : Int64)] (m_X0_in l G F h n p2.toInt64 (0 : Int64) (1 : Int64) eu1) yk_X0_in q830 rfl hl.1 ⟨Nat.le_of_ble_eq_true rfl, Nat.le_of_ble_eq_true rfl⟩ ⟨Nat.le_of_ble_eq_true rfl, Nat.le_of_ble_eq_true rfl⟩ rfl (Nat.le_of_ble_eq_true rfl) dX0_crowded_4 (fun H locs hR hS => ?_)
  refine lv_if_ne (tgt := 12) hx hb dX0_crowded_7 (by decide) (fun c2 => ?_) (fun c2 => ?_)
  · replace hf := gIfn c2 hf
    refine lv_iload_n hx hb dX0_crowded_12 rfl (lv_at hl 1 rfl) ?_
    refine lv_i2l (v := p1.toInt64) hx hb dX0_crowded_13 rfl ?_
    refine lv_lconst (v := (0 : Int64)) hx hb dX0_crowded_14 (by decide) ?_
    refine lv_ldc2 (v := (9999 : Int64)) hx hb X.1.2.2.2.1 (X.1.2.2.2.2 _ q1409) dX0_crowded_15 ?_
    obtain ⟨u3, eu3, hf⟩ := gBind hf
    refine g_callSi X hR hS [.long p1.toInt64, .long (0 : Int64), .long (9999 : Int64)] (m_X0_in l G F h n p1.toInt64 (0 : Int64) (9999 : Int64) eu3) yk_X0_in q830 rfl hl.1 ⟨Nat.le_of_ble_eq_true rfl, Nat.le_of_ble_eq_true rfl⟩ ⟨Nat.le_of_ble_eq_true rfl, Nat.le_of_ble_eq_true rfl⟩ rfl (Nat.le_of_ble_eq_true rfl) dX0_crowded_18 (fun H locs hR hS => ?_)
    refine lv_if_ne (tgt := 27) hx hb dX0_crowded_21 (by decide) (fun c4 => ?_) (fun c4 => ?_)
    · replace hf := gIfn c4 hf
      refine lv_iconst (v := (0 : Int32)) hx hb dX0_crowded_27 (by decide) ?_
      refine lv_istore_n (lv' := [(3, .int (0 : Int32)), (0, .ref a0), (1, .int p1), (2, .int p2)]) hx hb dX0_crowded_28 rfl hl (by decide) rfl (fun ls hl => ?_)
      have L29_q5 : ∀ (f : Nat) (v29_0 : Nat) (v29_1 : Int32) (v29_2 : Int32) (v29_3 : Int32) (H : Heap) (locs : List Loc) (ls : Array Slot), sp_X0_crowded_L29 G F h f v29_0 v29_1 v29_2 v29_3 = some r → gRep G h n H → va_S (gFr G) s.heap H locs → lv_has ls 5 [(0, .ref v29_0), (1, .int v29_1), (2, .int v29_2), (3, .int v29_3)] → W p l e ({ frames := 4, cells := 0, slots := 0, locals := 100 } : Room) s m ([.ref a0, .int p1, .int p2] : List Value).toArray below meth c H locs 0 0 (MQ below (gQ G (some (.int r)) h n) ([.ref a0, .int p1, .int p2] : List Value).toArray s 0 0 (gFr G)) (F0 m 29 ls []) := by
        clear hf
        intro f
        induction f with
        | zero =>
          intro v29_0 v29_1 v29_2 v29_3 H locs ls hf
          cases hf
        | succ f ih =>
          intro v29_0 v29_1 v29_2 v29_3 H locs ls hf hR hS hl
          rw [sp_X0_crowded_L29] at hf
          refine lv_iload_n hx hb dX0_crowded_29 rfl (lv_at hl 3 rfl) ?_
          refine lv_bipush (v := (64 : Int32)) hx hb dX0_crowded_30 (by decide) ?_
          refine lv_icmp_ge (tgt := 62) hx hb dX0_crowded_32 (by decide) (fun c3001 => ?_) (fun c3001 => ?_)
          · replace hf := gIfp c3001 hf
            refine lv_bipush (v := (-5 : Int32)) hx hb dX0_crowded_62 (by decide) ?_
            obtain rfl := gO1 hf
            exact g_iret X hR hS _ rfl ⟨Nat.le_of_ble_eq_true rfl, Nat.le_of_ble_eq_true rfl⟩ dX0_crowded_64
          · replace hf := gIfn c3001 hf
            refine lv_aload_n hx hb dX0_crowded_35 rfl (lv_at hl 0 rfl) ?_
            refine lv_iload_n hx hb dX0_crowded_36 rfl (lv_at hl 3 rfl) ?_
            refine lv_iload_n hx hb dX0_crowded_37 rfl (lv_at hl 1 rfl) ?_
            refine lv_iload_n hx hb dX0_crowded_38 rfl (lv_at hl 2 rfl) ?_
            obtain ⟨k3002, hf⟩ := gChk hf
            obtain ⟨u3003, eu3003, hf⟩ := gBind hf
            refine g_callVi X hR hS [.int v29_3, .int v29_1, .int v29_2] (m_X0_couldOf l G F h n v29_0 v29_3 v29_1 v29_2 eu3003) yk_X0_couldOf q1410 k3002 rfl hl.1 ⟨Nat.le_of_ble_eq_true rfl, Nat.le_of_ble_eq_true rfl⟩ ⟨Nat.le_of_ble_eq_true rfl, Nat.le_of_ble_eq_true rfl⟩ rfl (Nat.le_of_ble_eq_true rfl) dX0_crowded_39 (fun H locs hR hS => ?_)
            refine lv_istore (lv' := [(4, .int u3003), (0, .ref v29_0), (1, .int v29_1), (2, .int v29_2), (3, .int v29_3)]) hx hb dX0_crowded_42 hl (by decide) rfl (fun ls hl => ?_)
            refine lv_iload hx hb dX0_crowded_44 (lv_at hl 0 rfl) ?_
            refine lv_iload hx hb dX0_crowded_46 (lv_at hl 0 rfl) ?_
            refine lv_iconst (v := (1 : Int32)) hx hb dX0_crowded_48 (by decide) ?_
            refine lv_isub hx hb dX0_crowded_49 ?_
            refine lv_iand hx hb dX0_crowded_50 ?_
            refine lv_if_eq (tgt := 56) hx hb dX0_crowded_51 (by decide) (fun c3004 => ?_) (fun c3004 => ?_)
            · replace hf := gIfp c3004 hf
              refine lv_iinc (v := v29_3 + (1 : Int32)) (lv' := [(3, .int (v29_3 + (1 : Int32))), (4, .int u3003), (0, .ref v29_0), (1, .int v29_1), (2, .int v29_2)]) hx hb dX0_crowded_56 hl (k := 4) rfl rfl (by decide) rfl (fun ls hl => ?_)
              refine lv_goto (tgt := 29) hx hb dX0_crowded_59 (by decide) ?_
              exact ih v29_0 v29_1 v29_2 (v29_3 + (1 : Int32)) _ _ _ hf hR hS (lv_sub hl [2, 3, 4, 0] rfl)
            · replace hf := gIfn c3004 hf
              refine lv_iload_n hx hb dX0_crowded_54 rfl (lv_at hl 4 rfl) ?_
              obtain rfl := gO1 hf
              exact g_iret X hR hS _ rfl ⟨Nat.le_of_ble_eq_true rfl, Nat.le_of_ble_eq_true rfl⟩ dX0_crowded_55
      exact L29_q5 F a0 p1 p2 (0 : Int32) _ _ _ hf hR hS (lv_sub hl [1, 2, 3, 0] rfl)
    · replace hf := gIfp c4 hf
      refine lv_bipush (v := (-2 : Int32)) hx hb dX0_crowded_24 (by decide) ?_
      obtain rfl := gO1 hf
      exact g_iret X hR hS _ rfl ⟨Nat.le_of_ble_eq_true rfl, Nat.le_of_ble_eq_true rfl⟩ dX0_crowded_26
  · replace hf := gIfp c2 hf
    refine lv_iconst (v := (-1 : Int32)) hx hb dX0_crowded_10 (by decide) ?_
    obtain rfl := gO1 hf
    exact g_iret X hR hS _ rfl ⟨Nat.le_of_ble_eq_true rfl, Nat.le_of_ble_eq_true rfl⟩ dX0_crowded_11

def sp_X0_green (G : gG) (F : Nat) (h : gH) (n : Nat) (a0 : Nat) (p1 : Int32) (p2 : Int32) (p3 : Int32) : Option (Int32 × gH × Nat) :=
 if p1 = (-1 : Int32) then
 (gGr 0 h a0 0).bind fun x26 =>
 (gPv 1 h x26 17 (.int (0 : Int32))).bind fun h27 =>
 some (((0 : Int32), h27, n)) else
 if gIs 0 h a0 = true then
 (sp_X0_isSignal G F h a0 p1).bind fun u3 =>
 if u3 = 0 then
 some (((-1 : Int32), h, n)) else
 (sp_X0_in G F (va_up h n (some (.inl (3, 2, .inl (fun _ => 0))))) p2.toInt64 (0 : Int64) (9998 : Int64)).bind fun u5 =>
 (gSb 3 (va_up h n (some (.inl (3, 2, .inl (fun _ => 0))))) n (0 : Int32) u5).bind fun h6 =>
 (sp_X0_in G F h6 p3.toInt64 (p2.toInt64 + (1 : Int64)) (9999 : Int64)).bind fun u7 =>
 (gSb 3 h6 n (1 : Int32) u7).bind fun h8 =>
 (sp_X0_are G F h8 n).bind fun u9 =>
 if u9 = 0 then
 some (((-2 : Int32), h8, n + 1)) else
 (gGr 0 h8 a0 0).bind fun x11 =>
 (gGi 1 h8 x11 17).bind fun x12 =>
 if x12 = (8 : Int32) then
 some (((-4 : Int32), h8, n + 1)) else
 (gGr 0 h8 a0 0).bind fun x14 =>
 (gGr 1 h8 x14 25).bind fun x15 =>
 (gGr 0 h8 a0 0).bind fun x16 =>
 (gGi 1 h8 x16 17).bind fun x17 =>
 (gAr 7 h8 x15 x17).bind fun a18 =>
 if gIs 4 h8 a18 = true then
 (sp_X5_is G F h8 a18 p1 p2 p3).bind fun u20 =>
 (gGr 0 u20 a0 0).bind fun x21 =>
 (gGi 1 u20 x21 17).bind fun x22 =>
 (gPv 1 u20 x21 17 (.int (x22 + (1 : Int32)))).bind fun h23 =>
 (gGr 0 h23 a0 0).bind fun x24 =>
 (gGi 1 h23 x24 17).bind fun x25 =>
 some ((x25, h23, n + 1)) else none else none
theorem yk_X0_green : gVk yX0_green cX0_green 4 (some .int) 3 0 := ⟨q1428, q1429, q92, q1430, ⟨by decide +kernel, by decide +kernel, by decide +kernel⟩, rfl⟩
set_option maxHeartbeats 4000000 in
theorem m_X0_green (l : Launch) (G : gG) (F : Nat) (h : gH) (n : Nat) (a0 : Nat) (p1 : Int32) (p2 : Int32) (p3 : Int32) {r : Int32} {h' : gH} {n' : Nat} (hf : sp_X0_green G F h n a0 p1 p2 p3 = some (r, h', n')) : gMet l G yX0_green cX0_green 4 (some .int) 2 46 1 2 [.ref a0, .int p1, .int p2, .int p3] h n (some (.int r)) h' n' := by
  refine gEnter (by decide) [(0, .ref a0), (1, .int p1), (2, .int p2), (3, .int p3)] rfl (Nat.le_of_ble_eq_true rfl) ?_
  intro p e s m below meth c H ls X hin hR hS hl
  have hx := X.1.1
  have hb := X.1.2.1
  unfold sp_X0_green at hf
  generalize ([] : List Loc) = locs at hS ⊢
  refine lv_iload_n hx hb dX0_green_0 rfl (lv_at hl 1 rfl) ?_
  refine lv_iconst (v := (-1 : Int32)) hx hb dX0_green_1 (by decide) ?_
  refine lv_icmp_ne (tgt := 15) hx hb dX0_green_2 (by decide) (fun c1 => ?_) (fun c1 => ?_)
  · replace hf := gIfn c1 hf
    refine lv_aload_n hx hb dX0_green_15 rfl (lv_at hl 0 rfl) ?_
    refine lv_iload_n hx hb dX0_green_16 rfl (lv_at hl 1 rfl) ?_
    obtain ⟨k2, hf⟩ := gChk hf
    obtain ⟨u3, eu3, hf⟩ := gBind hf
    refine g_callVi X hR hS [.int p1] (m_X0_isSignal l G F h n a0 p1 eu3) yk_X0_isSignal q931 k2 rfl hl.1 ⟨Nat.le_of_ble_eq_true rfl, Nat.le_of_ble_eq_true rfl⟩ ⟨Nat.le_of_ble_eq_true rfl, Nat.le_of_ble_eq_true rfl⟩ rfl (Nat.le_of_ble_eq_true rfl) dX0_green_17 (fun H locs hR hS => ?_)
    refine lv_if_ne (tgt := 25) hx hb dX0_green_20 (by decide) (fun c4 => ?_) (fun c4 => ?_)
    · replace hf := gIfn c4 hf
      refine lv_iconst (v := (2 : Int32)) hx hb dX0_green_25 (by decide) ?_
      refine g_newa3 X hR hS q879 2 (by decide) (by decide) (by decide) ⟨Nat.le_of_ble_eq_true rfl, Nat.le_of_ble_eq_true rfl⟩ dX0_green_26 (fun H hR hS => ?_)
      refine lv_dup hx hb dX0_green_28 rfl ?_
      refine lv_iconst (v := (0 : Int32)) hx hb dX0_green_29 (by decide) ?_
      refine lv_iload_n hx hb dX0_green_30 rfl (lv_at hl 2 rfl) ?_
      refine lv_i2l (v := p2.toInt64) hx hb dX0_green_31 rfl ?_
      refine lv_lconst (v := (0 : Int64)) hx hb dX0_green_32 (by decide) ?_
      refine lv_ldc2 (v := (9998 : Int64)) hx hb X.1.2.2.2.1 (X.1.2.2.2.2 _ q1431) dX0_green_33 ?_
      obtain ⟨u5, eu5, hf⟩ := gBind hf
      refine g_callSi X hR hS [.long p2.toInt64, .long (0 : Int64), .long (9998 : Int64)] (m_X0_in l G F (va_up h n (some (.inl (3, 2, .inl (fun _ => 0))))) (n + 1) p2.toInt64 (0 : Int64) (9998 : Int64) eu5) yk_X0_in q830 rfl hl.1 ⟨Nat.le_of_ble_eq_true rfl, Nat.le_of_ble_eq_true rfl⟩ ⟨Nat.le_of_ble_eq_true rfl, Nat.le_of_ble_eq_true rfl⟩ rfl (Nat.le_of_ble_eq_true rfl) dX0_green_36 (fun H locs hR hS => ?_)
      obtain ⟨h6, eh6, hf⟩ := gBind hf
      refine g_zast X hR hS eh6 dX0_green_39 (fun H locs hR hS => ?_)
      refine lv_dup hx hb dX0_green_40 rfl ?_
      refine lv_iconst (v := (1 : Int32)) hx hb dX0_green_41 (by decide) ?_
      refine lv_iload_n hx hb dX0_green_42 rfl (lv_at hl 3 rfl) ?_
      refine lv_i2l (v := p3.toInt64) hx hb dX0_green_43 rfl ?_
      refine lv_iload_n hx hb dX0_green_44 rfl (lv_at hl 2 rfl) ?_
      refine lv_i2l (v := p2.toInt64) hx hb dX0_green_45 rfl ?_
      refine lv_lconst (v := (1 : Int64)) hx hb dX0_green_46 (by decide) ?_
      refine lv_ladd hx hb dX0_green_47 ?_
      refine lv_ldc2 (v := (9999 : Int64)) hx hb X.1.2.2.2.1 (X.1.2.2.2.2 _ q1409) dX0_green_48 ?_
      obtain ⟨u7, eu7, hf⟩ := gBind hf
      refine g_callSi X hR hS [.long p3.toInt64, .long (p2.toInt64 + (1 : Int64)), .long (9999 : Int64)] (m_X0_in l G F h6 (n + 1) p3.toInt64 (p2.toInt64 + (1 : Int64)) (9999 : Int64) eu7) yk_X0_in q830 rfl hl.1 ⟨Nat.le_of_ble_eq_true rfl, Nat.le_of_ble_eq_true rfl⟩ ⟨Nat.le_of_ble_eq_true rfl, Nat.le_of_ble_eq_true rfl⟩ rfl (Nat.le_of_ble_eq_true rfl) dX0_green_51 (fun H locs hR hS => ?_)
      obtain ⟨h8, eh8, hf⟩ := gBind hf
      refine g_zast X hR hS eh8 dX0_green_54 (fun H locs hR hS => ?_)
      obtain ⟨u9, eu9, hf⟩ := gBind hf
      refine g_callSi X hR hS [.ref n] (m_X0_are l G F h8 (n + 1) n eu9) yk_X0_are q834 rfl hl.1 ⟨Nat.le_of_ble_eq_true rfl, Nat.le_of_ble_eq_true rfl⟩ ⟨Nat.le_of_ble_eq_true rfl, Nat.le_of_ble_eq_true rfl⟩ rfl (Nat.le_of_ble_eq_true rfl) dX0_green_55 (fun H locs hR hS => ?_)
      refine lv_if_ne (tgt := 64) hx hb dX0_green_58 (by decide) (fun c10 => ?_) (fun c10 => ?_)
      · replace hf := gIfn c10 hf
        refine lv_aload_n hx hb dX0_green_64 rfl (lv_at hl 0 rfl) ?_
        obtain ⟨x11, ex11, hf⟩ := gBind hf
        refine g_getr X hR gk_X0 0 (by decide) q792 rfl ex11 dX0_green_65 ?_
        obtain ⟨x12, ex12, hf⟩ := gBind hf
        refine g_getiN X hR gk_X1 17 (by decide) q656 rfl ex12 dX0_green_68 ?_
        refine lv_bipush (v := (8 : Int32)) hx hb dX0_green_71 (by decide) ?_
        refine lv_icmp_ne (tgt := 79) hx hb dX0_green_73 (by decide) (fun c13 => ?_) (fun c13 => ?_)
        · replace hf := gIfn c13 hf
          refine lv_aload_n hx hb dX0_green_79 rfl (lv_at hl 0 rfl) ?_
          obtain ⟨x14, ex14, hf⟩ := gBind hf
          refine g_getr X hR gk_X0 0 (by decide) q792 rfl ex14 dX0_green_80 ?_
          obtain ⟨x15, ex15, hf⟩ := gBind hf
          refine g_getrN X hR gk_X1 25 (by decide) q672 rfl ex15 dX0_green_83 ?_
          refine lv_aload_n hx hb dX0_green_86 rfl (lv_at hl 0 rfl) ?_
          obtain ⟨x16, ex16, hf⟩ := gBind hf
          refine g_getr X hR gk_X0 0 (by decide) q792 rfl ex16 dX0_green_87 ?_
          obtain ⟨x17, ex17, hf⟩ := gBind hf
          refine g_getiN X hR gk_X1 17 (by decide) q656 rfl ex17 dX0_green_90 ?_
          obtain ⟨a18, ea18, hf⟩ := gBind hf
          refine g_aald X hR 7 (by decide) rfl ea18 dX0_green_93 ?_
          refine lv_iload_n hx hb dX0_green_94 rfl (lv_at hl 1 rfl) ?_
          refine lv_iload_n hx hb dX0_green_95 rfl (lv_at hl 2 rfl) ?_
          refine lv_iload_n hx hb dX0_green_96 rfl (lv_at hl 3 rfl) ?_
          obtain ⟨k19, hf⟩ := gChk hf
          obtain ⟨u20, eu20, hf⟩ := gBind hf
          refine g_callVv X hR hS [.int p1, .int p2, .int p3] (m_X5_is l G F h8 (n + 1) a18 p1 p2 p3 eu20) yk_X5_is q1432 k19 rfl hl.1 ⟨Nat.le_of_ble_eq_true rfl, Nat.le_of_ble_eq_true rfl⟩ ⟨Nat.le_of_ble_eq_true rfl, Nat.le_of_ble_eq_true rfl⟩ rfl (Nat.le_of_ble_eq_true rfl) dX0_green_97 (fun H locs hR hS => ?_)
          refine lv_aload_n hx hb dX0_green_100 rfl (lv_at hl 0 rfl) ?_
          obtain ⟨x21, ex21, hf⟩ := gBind hf
          refine g_getr X hR gk_X0 0 (by decide) q792 rfl ex21 dX0_green_101 ?_
          refine lv_dup hx hb dX0_green_104 rfl ?_
          obtain ⟨x22, ex22, hf⟩ := gBind hf
          refine g_getiN X hR gk_X1 17 (by decide) q656 rfl ex22 dX0_green_105 ?_
          refine lv_iconst (v := (1 : Int32)) hx hb dX0_green_108 (by decide) ?_
          refine lv_iadd hx hb dX0_green_109 ?_
          obtain ⟨h23, eh23, hf⟩ := gBind hf
          refine g_putN X hR hS gk_X1 17 (by decide) q656 rfl rfl eh23 rfl rfl rfl dX0_green_110 (fun H locs hR hS => ?_)
          refine lv_aload_n hx hb dX0_green_113 rfl (lv_at hl 0 rfl) ?_
          obtain ⟨x24, ex24, hf⟩ := gBind hf
          refine g_getr X hR gk_X0 0 (by decide) q792 rfl ex24 dX0_green_114 ?_
          obtain ⟨x25, ex25, hf⟩ := gBind hf
          refine g_getiN X hR gk_X1 17 (by decide) q656 rfl ex25 dX0_green_117 ?_
          obtain ⟨rfl, rfl, rfl⟩ := gO3 hf
          exact g_iret X hR hS _ rfl ⟨Nat.le_of_ble_eq_true rfl, Nat.le_of_ble_eq_true rfl⟩ dX0_green_120
        · replace hf := gIfp c13 hf
          refine lv_bipush (v := (-4 : Int32)) hx hb dX0_green_76 (by decide) ?_
          obtain ⟨rfl, rfl, rfl⟩ := gO3 hf
          exact g_iret X hR hS _ rfl ⟨Nat.le_of_ble_eq_true rfl, Nat.le_of_ble_eq_true rfl⟩ dX0_green_78
      · replace hf := gIfp c10 hf
        refine lv_bipush (v := (-2 : Int32)) hx hb dX0_green_61 (by decide) ?_
        obtain ⟨rfl, rfl, rfl⟩ := gO3 hf
        exact g_iret X hR hS _ rfl ⟨Nat.le_of_ble_eq_true rfl, Nat.le_of_ble_eq_true rfl⟩ dX0_green_63
    · replace hf := gIfp c4 hf
      refine lv_iconst (v := (-1 : Int32)) hx hb dX0_green_23 (by decide) ?_
      obtain ⟨rfl, rfl, rfl⟩ := gO3 hf
      exact g_iret X hR hS _ rfl ⟨Nat.le_of_ble_eq_true rfl, Nat.le_of_ble_eq_true rfl⟩ dX0_green_24
  · replace hf := gIfp c1 hf
    refine lv_aload_n hx hb dX0_green_5 rfl (lv_at hl 0 rfl) ?_
    obtain ⟨x26, ex26, hf⟩ := gBind hf
    refine g_getr X hR gk_X0 0 (by decide) q792 rfl ex26 dX0_green_6 ?_
    refine lv_iconst (v := (0 : Int32)) hx hb dX0_green_9 (by decide) ?_
    obtain ⟨h27, eh27, hf⟩ := gBind hf
    refine g_putN X hR hS gk_X1 17 (by decide) q656 rfl rfl eh27 rfl rfl rfl dX0_green_10 (fun H locs hR hS => ?_)
    refine lv_iconst (v := (0 : Int32)) hx hb dX0_green_13 (by decide) ?_
    obtain ⟨rfl, rfl, rfl⟩ := gO3 hf
    exact g_iret X hR hS _ rfl ⟨Nat.le_of_ble_eq_true rfl, Nat.le_of_ble_eq_true rfl⟩ dX0_green_14

def sp_X0_proved_L25 (G : gG) (F : Nat) (h25L : gH) : Nat → Nat → Int32 → Nat → Int32 → Option ((Int32) ⊕ (Unit))
  | 0, _, _, _, _ => none
  | f + 1, v25_0, v25_1, v25_2, v25_3 =>
    if v25_1 ≤ v25_3 then
    some (.inr ()) else
    (gGr 0 h25L v25_0 0).bind fun x2602 =>
    (gGr 1 h25L x2602 25).bind fun x2603 =>
    (gAr 7 h25L x2603 v25_3).bind fun a2604 =>
    (gGi 4 h25L a2604 0).bind fun x2605 =>
    (gGi 4 h25L v25_2 0).bind fun x2606 =>
    (gGr 0 h25L v25_0 0).bind fun x2607 =>
    if gIs 1 h25L x2607 = true then
    (sp_X1_meet G F h25L x2607 x2605 x2606).bind fun u2609 =>
    if u2609 = 0 then
    sp_X0_proved_L25 G F h25L f v25_0 v25_1 v25_2 (v25_3 + (1 : Int32)) else
    (gGr 0 h25L v25_0 0).bind fun x2611 =>
    if gIs 1 h25L x2611 = true then
    (sp_X1_clearOf G F h25L x2611 x2605 x2606).bind fun u2613 =>
    (gGr 0 h25L v25_0 0).bind fun x2614 =>
    if gIs 1 h25L x2614 = true then
    (sp_X1_clearOf G F h25L x2614 x2606 x2605).bind fun u2616 =>
    (sp_X16_hold G F h25L a2604 v25_2 u2613 u2616).bind fun u2617 =>
    if u2617 = 0 then
    some (.inl (v25_1)) else
    sp_X0_proved_L25 G F h25L f v25_0 v25_1 v25_2 (v25_3 + (1 : Int32)) else none else none else none
def sp_X0_proved_L2 (G : gG) (F : Nat) (h2L : gH) : Nat → Nat → Int32 → Option (Int32)
  | 0, _, _ => none
  | f + 1, v2_0, v2_1 =>
    (gGr 0 h2L v2_0 0).bind fun x301 =>
    (gGi 1 h2L x301 17).bind fun x302 =>
    if x302 ≤ v2_1 then
    some ((-5 : Int32)) else
    (gGr 0 h2L v2_0 0).bind fun x304 =>
    (gGr 1 h2L x304 25).bind fun x305 =>
    (gAr 7 h2L x305 v2_1).bind fun a306 =>
    (sp_X0_proved_L25 G F h2L F v2_0 v2_1 a306 (0 : Int32)).bind fun y309 => (match y309 with
    | .inl z => some z
    | .inr y309x =>
    sp_X0_proved_L2 G F h2L f v2_0 (v2_1 + (1 : Int32)))
def sp_X0_proved (G : gG) (F : Nat) (h : gH) (a0 : Nat) : Option (Int32) :=
 sp_X0_proved_L2 G F h F a0 (0 : Int32)
theorem yk_X0_proved : gVk yX0_proved cX0_proved 7 (some .int) 0 0 := ⟨q1434, q1435, q92, q1436, ⟨by decide +kernel, by decide +kernel, by decide +kernel⟩, rfl⟩
set_option maxHeartbeats 4000000 in
theorem m_X0_proved (l : Launch) (G : gG) (F : Nat) (h : gH) (n : Nat) (a0 : Nat) {r : Int32} (hf : sp_X0_proved G F h a0 = some r) : gMet l G yX0_proved cX0_proved 7 (some .int) 3 65 0 0 [.ref a0] h n (some (.int r)) h n := by
  refine gEnter (by decide) [(0, .ref a0)] rfl (Nat.le_of_ble_eq_true rfl) ?_
  intro p e s m below meth c H ls X hin hR hS hl
  have hx := X.1.1
  have hb := X.1.2.1
  unfold sp_X0_proved at hf
  generalize ([] : List Loc) = locs at hS ⊢
  refine lv_iconst (v := (0 : Int32)) hx hb dX0_proved_0 (by decide) ?_
  refine lv_istore_n (lv' := [(1, .int (0 : Int32)), (0, .ref a0)]) hx hb dX0_proved_1 rfl hl (by decide) rfl (fun ls hl => ?_)
  have L2_q1 : ∀ (f : Nat) (v2_0 : Nat) (v2_1 : Int32) (H : Heap) (locs : List Loc) (ls : Array Slot), sp_X0_proved_L2 G F h f v2_0 v2_1 = some r → gRep G h n H → va_S (gFr G) s.heap H locs → lv_has ls 7 [(0, .ref v2_0), (1, .int v2_1)] → W p l e ({ frames := 3, cells := 0, slots := 0, locals := 65 } : Room) s m ([.ref a0] : List Value).toArray below meth c H locs 0 0 (MQ below (gQ G (some (.int r)) h n) ([.ref a0] : List Value).toArray s 0 0 (gFr G)) (F0 m 2 ls []) := by
    clear hf
    intro f
    induction f with
    | zero =>
      intro v2_0 v2_1 H locs ls hf
      cases hf
    | succ f ih =>
      intro v2_0 v2_1 H locs ls hf hR hS hl
      rw [sp_X0_proved_L2] at hf
      refine lv_iload_n hx hb dX0_proved_2 rfl (lv_at hl 1 rfl) ?_
      refine lv_aload_n hx hb dX0_proved_3 rfl (lv_at hl 0 rfl) ?_
      obtain ⟨x301, ex301, hf⟩ := gBind hf
      refine g_getr X hR gk_X0 0 (by decide) q792 rfl ex301 dX0_proved_4 ?_
      obtain ⟨x302, ex302, hf⟩ := gBind hf
      refine g_getiN X hR gk_X1 17 (by decide) q656 rfl ex302 dX0_proved_7 ?_
      refine lv_icmp_ge (tgt := 113) hx hb dX0_proved_10 (by decide) (fun c303 => ?_) (fun c303 => ?_)
      · replace hf := gIfp c303 hf
        refine lv_bipush (v := (-5 : Int32)) hx hb dX0_proved_113 (by decide) ?_
        obtain rfl := gO1 hf
        exact g_iret X hR hS _ rfl ⟨Nat.le_of_ble_eq_true rfl, Nat.le_of_ble_eq_true rfl⟩ dX0_proved_115
      · replace hf := gIfn c303 hf
        refine lv_aload_n hx hb dX0_proved_13 rfl (lv_at hl 0 rfl) ?_
        obtain ⟨x304, ex304, hf⟩ := gBind hf
        refine g_getr X hR gk_X0 0 (by decide) q792 rfl ex304 dX0_proved_14 ?_
        obtain ⟨x305, ex305, hf⟩ := gBind hf
        refine g_getrN X hR gk_X1 25 (by decide) q672 rfl ex305 dX0_proved_17 ?_
        refine lv_iload_n hx hb dX0_proved_20 rfl (lv_at hl 1 rfl) ?_
        obtain ⟨a306, ea306, hf⟩ := gBind hf
        refine g_aald X hR 7 (by decide) rfl ea306 dX0_proved_21 ?_
        refine lv_astore_n (lv' := [(2, .ref a306), (0, .ref v2_0), (1, .int v2_1)]) hx hb dX0_proved_22 rfl hl (by decide) rfl (fun ls hl => ?_)
        refine lv_iconst (v := (0 : Int32)) hx hb dX0_proved_23 (by decide) ?_
        refine lv_istore_n (lv' := [(3, .int (0 : Int32)), (2, .ref a306), (0, .ref v2_0), (1, .int v2_1)]) hx hb dX0_proved_24 rfl hl (by decide) rfl (fun ls hl => ?_)
        have L25_q307 : ∀ (f : Nat) (v25_0 : Nat) (v25_1 : Int32) (v25_2 : Nat) (v25_3 : Int32) (o308 : (Int32) ⊕ (Unit)) (H : Heap) (locs : List Loc) (ls : Array Slot), sp_X0_proved_L25 G F h f v25_0 v25_1 v25_2 v25_3 = some o308 → gRep G h n H → va_S (gFr G) s.heap H locs → lv_has ls 7 [(0, .ref v25_0), (1, .int v25_1), (2, .ref v25_2), (3, .int v25_3)] → (∀ z, o308 = .inl z → z = r) → (∀ (o308x : Unit), o308 = .inr o308x → ∀ (H : Heap) (locs : List Loc) (ls : Array Slot), gRep G h n H → va_S (gFr G) s.heap H locs → lv_has ls 7 [(0, .ref v25_0), (1, .int v25_1)] → W p l e ({ frames := 3, cells := 0, slots := 0, locals := 65 } : Room) s m ([.ref a0] : List Value).toArray below meth c H locs 0 0 (MQ below (gQ G (some (.int r)) h n) ([.ref a0] : List Value).toArray s 0 0 (gFr G)) (F0 m 107 ls [])) → W p l e ({ frames := 3, cells := 0, slots := 0, locals := 65 } : Room) s m ([.ref a0] : List Value).toArray below meth c H locs 0 0 (MQ below (gQ G (some (.int r)) h n) ([.ref a0] : List Value).toArray s 0 0 (gFr G)) (F0 m 25 ls []) := by
          clear hf
          intro f
          induction f with
          | zero =>
            intro v25_0 v25_1 v25_2 v25_3 o308 H locs ls hf
            cases hf
          | succ f ih =>
            intro v25_0 v25_1 v25_2 v25_3 o308 H locs ls hf hR hS hl KR25 K25
            rw [sp_X0_proved_L25] at hf
            refine lv_iload_n hx hb dX0_proved_25 rfl (lv_at hl 3 rfl) ?_
            refine lv_iload_n hx hb dX0_proved_26 rfl (lv_at hl 1 rfl) ?_
            refine lv_icmp_ge (tgt := 107) hx hb dX0_proved_27 (by decide) (fun c2601 => ?_) (fun c2601 => ?_)
            · replace hf := gIfp c2601 hf
              obtain rfl := gO1 hf
              exact K25 _ rfl _ _ _ hR hS (lv_sub hl [0, 1] rfl)
            · replace hf := gIfn c2601 hf
              refine lv_aload_n hx hb dX0_proved_30 rfl (lv_at hl 0 rfl) ?_
              obtain ⟨x2602, ex2602, hf⟩ := gBind hf
              refine g_getr X hR gk_X0 0 (by decide) q792 rfl ex2602 dX0_proved_31 ?_
              obtain ⟨x2603, ex2603, hf⟩ := gBind hf
              refine g_getrN X hR gk_X1 25 (by decide) q672 rfl ex2603 dX0_proved_34 ?_
              refine lv_iload_n hx hb dX0_proved_37 rfl (lv_at hl 3 rfl) ?_
              obtain ⟨a2604, ea2604, hf⟩ := gBind hf
              refine g_aald X hR 7 (by decide) rfl ea2604 dX0_proved_38 ?_
              refine lv_astore (lv' := [(4, .ref a2604), (0, .ref v25_0), (1, .int v25_1), (2, .ref v25_2), (3, .int v25_3)]) hx hb dX0_proved_39 hl (by decide) rfl (fun ls hl => ?_)
              refine lv_aload hx hb dX0_proved_41 (lv_at hl 0 rfl) ?_
              obtain ⟨x2605, ex2605, hf⟩ := gBind hf
              refine g_getiN X hR gk_X5 0 (by decide) q599 rfl ex2605 dX0_proved_43 ?_
              refine lv_istore (lv' := [(5, .int x2605), (4, .ref a2604), (0, .ref v25_0), (1, .int v25_1), (2, .ref v25_2), (3, .int v25_3)]) hx hb dX0_proved_46 hl (by decide) rfl (fun ls hl => ?_)
              refine lv_aload_n hx hb dX0_proved_48 rfl (lv_at hl 4 rfl) ?_
              obtain ⟨x2606, ex2606, hf⟩ := gBind hf
              refine g_getiN X hR gk_X5 0 (by decide) q599 rfl ex2606 dX0_proved_49 ?_
              refine lv_istore (lv' := [(6, .int x2606), (5, .int x2605), (4, .ref a2604), (0, .ref v25_0), (1, .int v25_1), (2, .ref v25_2), (3, .int v25_3)]) hx hb dX0_proved_52 hl (by decide) rfl (fun ls hl => ?_)
              refine lv_aload_n hx hb dX0_proved_54 rfl (lv_at hl 3 rfl) ?_
              obtain ⟨x2607, ex2607, hf⟩ := gBind hf
              refine g_getr X hR gk_X0 0 (by decide) q792 rfl ex2607 dX0_proved_55 ?_
              refine lv_iload hx hb dX0_proved_58 (lv_at hl 1 rfl) ?_
              refine lv_iload hx hb dX0_proved_60 (lv_at hl 0 rfl) ?_
              obtain ⟨k2608, hf⟩ := gChk hf
              obtain ⟨u2609, eu2609, hf⟩ := gBind hf
              refine g_callVi X hR hS [.int x2605, .int x2606] (m_X1_meet l G F h n x2607 x2605 x2606 eu2609) yk_X1_meet q1310 k2608 rfl hl.1 ⟨Nat.le_of_ble_eq_true rfl, Nat.le_of_ble_eq_true rfl⟩ ⟨Nat.le_of_ble_eq_true rfl, Nat.le_of_ble_eq_true rfl⟩ rfl (Nat.le_of_ble_eq_true rfl) dX0_proved_62 (fun H locs hR hS => ?_)
              refine lv_if_eq (tgt := 101) hx hb dX0_proved_65 (by decide) (fun c2610 => ?_) (fun c2610 => ?_)
              · replace hf := gIfp c2610 hf
                refine lv_iinc (v := v25_3 + (1 : Int32)) (lv' := [(3, .int (v25_3 + (1 : Int32))), (6, .int x2606), (5, .int x2605), (4, .ref a2604), (0, .ref v25_0), (1, .int v25_1), (2, .ref v25_2)]) hx hb dX0_proved_101 hl (k := 6) rfl rfl (by decide) rfl (fun ls hl => ?_)
                refine lv_goto (tgt := 25) hx hb dX0_proved_104 (by decide) ?_
                exact ih v25_0 v25_1 v25_2 (v25_3 + (1 : Int32)) _ _ _ _ hf hR hS (lv_sub hl [4, 5, 6, 0] rfl) KR25 K25
              · replace hf := gIfn c2610 hf
                refine lv_aload hx hb dX0_proved_68 (lv_at hl 2 rfl) ?_
                refine lv_aload_n hx hb dX0_proved_70 rfl (lv_at hl 5 rfl) ?_
                refine lv_aload_n hx hb dX0_proved_71 rfl (lv_at hl 3 rfl) ?_
                obtain ⟨x2611, ex2611, hf⟩ := gBind hf
                refine g_getr X hR gk_X0 0 (by decide) q792 rfl ex2611 dX0_proved_72 ?_
                refine lv_iload hx hb dX0_proved_75 (lv_at hl 1 rfl) ?_
                refine lv_iload hx hb dX0_proved_77 (lv_at hl 0 rfl) ?_
                obtain ⟨k2612, hf⟩ := gChk hf
                obtain ⟨u2613, eu2613, hf⟩ := gBind hf
                refine g_callVi X hR hS [.int x2605, .int x2606] (m_X1_clearOf l G F h n x2611 x2605 x2606 eu2613) yk_X1_clearOf q1305 k2612 rfl hl.1 ⟨Nat.le_of_ble_eq_true rfl, Nat.le_of_ble_eq_true rfl⟩ ⟨Nat.le_of_ble_eq_true rfl, Nat.le_of_ble_eq_true rfl⟩ rfl (Nat.le_of_ble_eq_true rfl) dX0_proved_79 (fun H locs hR hS => ?_)
                refine lv_aload_n hx hb dX0_proved_82 rfl (lv_at hl 3 rfl) ?_
                obtain ⟨x2614, ex2614, hf⟩ := gBind hf
                refine g_getr X hR gk_X0 0 (by decide) q792 rfl ex2614 dX0_proved_83 ?_
                refine lv_iload hx hb dX0_proved_86 (lv_at hl 0 rfl) ?_
                refine lv_iload hx hb dX0_proved_88 (lv_at hl 1 rfl) ?_
                obtain ⟨k2615, hf⟩ := gChk hf
                obtain ⟨u2616, eu2616, hf⟩ := gBind hf
                refine g_callVi X hR hS [.int x2606, .int x2605] (m_X1_clearOf l G F h n x2614 x2606 x2605 eu2616) yk_X1_clearOf q1305 k2615 rfl hl.1 ⟨Nat.le_of_ble_eq_true rfl, Nat.le_of_ble_eq_true rfl⟩ ⟨Nat.le_of_ble_eq_true rfl, Nat.le_of_ble_eq_true rfl⟩ rfl (Nat.le_of_ble_eq_true rfl) dX0_proved_90 (fun H locs hR hS => ?_)
                obtain ⟨u2617, eu2617, hf⟩ := gBind hf
                refine g_callSi X hR hS [.ref a2604, .ref v25_2, .int u2613, .int u2616] (m_X16_hold l G F h n a2604 v25_2 u2613 u2616 eu2617) yk_X16_hold q1437 rfl hl.1 ⟨Nat.le_of_ble_eq_true rfl, Nat.le_of_ble_eq_true rfl⟩ ⟨Nat.le_of_ble_eq_true rfl, Nat.le_of_ble_eq_true rfl⟩ rfl (Nat.le_of_ble_eq_true rfl) dX0_proved_93 (fun H locs hR hS => ?_)
                refine lv_if_ne (tgt := 101) hx hb dX0_proved_96 (by decide) (fun c2618 => ?_) (fun c2618 => ?_)
                · replace hf := gIfn c2618 hf
                  refine lv_iinc (v := v25_3 + (1 : Int32)) (lv' := [(3, .int (v25_3 + (1 : Int32))), (6, .int x2606), (5, .int x2605), (4, .ref a2604), (0, .ref v25_0), (1, .int v25_1), (2, .ref v25_2)]) hx hb dX0_proved_101 hl (k := 6) rfl rfl (by decide) rfl (fun ls hl => ?_)
                  refine lv_goto (tgt := 25) hx hb dX0_proved_104 (by decide) ?_
                  exact ih v25_0 v25_1 v25_2 (v25_3 + (1 : Int32)) _ _ _ _ hf hR hS (lv_sub hl [4, 5, 6, 0] rfl) KR25 K25
                · replace hf := gIfp c2618 hf
                  refine lv_iload_n hx hb dX0_proved_99 rfl (lv_at hl 4 rfl) ?_
                  obtain rfl := gO1 hf
                  have hf := congrArg some (KR25 _ rfl)
                  obtain rfl := gO1 hf
                  exact g_iret X hR hS _ rfl ⟨Nat.le_of_ble_eq_true rfl, Nat.le_of_ble_eq_true rfl⟩ dX0_proved_100
        obtain ⟨y309, ey309, hf⟩ := gBind hf
        refine L25_q307 F v2_0 v2_1 a306 (0 : Int32) y309 _ _ _ ey309 hR hS (lv_sub hl [2, 3, 1, 0] rfl) (fun z ez => by subst ez; exact gO1 hf) (fun y309x ez H locs ls hR hS hl => ?_)
        subst ez
        refine lv_iinc (v := v2_1 + (1 : Int32)) (lv' := [(1, .int (v2_1 + (1 : Int32))), (0, .ref v2_0)]) hx hb dX0_proved_107 hl (k := 1) rfl rfl (by decide) rfl (fun ls hl => ?_)
        refine lv_goto (tgt := 2) hx hb dX0_proved_110 (by decide) ?_
        exact ih v2_0 (v2_1 + (1 : Int32)) _ _ _ hf hR hS (lv_sub hl [1, 0] rfl)
  exact L2_q1 F a0 (0 : Int32) _ _ _ hf hR hS (lv_sub hl [1, 0] rfl)

def sp_X0_wave (G : gG) (F : Nat) (h : gH) (a0 : Nat) (p1 : Int32) : Option (Int32 × gH) :=
 (sp_X0_in G F h p1.toInt64 (20 : Int64) (60 : Int64)).bind fun u1 =>
 if u1 = 0 then
 some (((-2 : Int32), h)) else
 (gGr 0 h a0 0).bind fun x3 =>
 (gGi 1 h x3 19).bind fun x4 =>
 (gGr 0 h a0 0).bind fun x5 =>
 (gPv 1 h x5 19 (.int p1)).bind fun h6 =>
 (gGr 0 h6 a0 0).bind fun x7 =>
 (gPv 1 h6 x7 18 (.int (0 : Int32))).bind fun h8 =>
 some ((x4, h8))
theorem yk_X0_wave : gVk yX0_wave cX0_wave 3 (some .int) 1 0 := ⟨q1449, q1450, q92, q1451, ⟨by decide +kernel, by decide +kernel, by decide +kernel⟩, rfl⟩
set_option maxHeartbeats 4000000 in
theorem m_X0_wave (l : Launch) (G : gG) (F : Nat) (h : gH) (n : Nat) (a0 : Nat) (p1 : Int32) {r : Int32} {h' : gH} (hf : sp_X0_wave G F h a0 p1 = some (r, h')) : gMet l G yX0_wave cX0_wave 3 (some .int) 1 25 0 0 [.ref a0, .int p1] h n (some (.int r)) h' n := by
  refine gEnter (by decide) [(0, .ref a0), (1, .int p1)] rfl (Nat.le_of_ble_eq_true rfl) ?_
  intro p e s m below meth c H ls X hin hR hS hl
  have hx := X.1.1
  have hb := X.1.2.1
  unfold sp_X0_wave at hf
  generalize ([] : List Loc) = locs at hS ⊢
  refine lv_iload_n hx hb dX0_wave_0 rfl (lv_at hl 1 rfl) ?_
  refine lv_i2l (v := p1.toInt64) hx hb dX0_wave_1 rfl ?_
  refine lv_ldc2 (v := (20 : Int64)) hx hb X.1.2.2.2.1 (X.1.2.2.2.2 _ q1094) dX0_wave_2 ?_
  refine lv_ldc2 (v := (60 : Int64)) hx hb X.1.2.2.2.1 (X.1.2.2.2.2 _ q951) dX0_wave_5 ?_
  obtain ⟨u1, eu1, hf⟩ := gBind hf
  refine g_callSi X hR hS [.long p1.toInt64, .long (20 : Int64), .long (60 : Int64)] (m_X0_in l G F h n p1.toInt64 (20 : Int64) (60 : Int64) eu1) yk_X0_in q830 rfl hl.1 ⟨Nat.le_of_ble_eq_true rfl, Nat.le_of_ble_eq_true rfl⟩ ⟨Nat.le_of_ble_eq_true rfl, Nat.le_of_ble_eq_true rfl⟩ rfl (Nat.le_of_ble_eq_true rfl) dX0_wave_8 (fun H locs hR hS => ?_)
  refine lv_if_ne (tgt := 17) hx hb dX0_wave_11 (by decide) (fun c2 => ?_) (fun c2 => ?_)
  · replace hf := gIfn c2 hf
    refine lv_aload_n hx hb dX0_wave_17 rfl (lv_at hl 0 rfl) ?_
    obtain ⟨x3, ex3, hf⟩ := gBind hf
    refine g_getr X hR gk_X0 0 (by decide) q792 rfl ex3 dX0_wave_18 ?_
    obtain ⟨x4, ex4, hf⟩ := gBind hf
    refine g_getiN X hR gk_X1 19 (by decide) q660 rfl ex4 dX0_wave_21 ?_
    refine lv_istore_n (lv' := [(2, .int x4), (0, .ref a0), (1, .int p1)]) hx hb dX0_wave_24 rfl hl (by decide) rfl (fun ls hl => ?_)
    refine lv_aload_n hx hb dX0_wave_25 rfl (lv_at hl 1 rfl) ?_
    obtain ⟨x5, ex5, hf⟩ := gBind hf
    refine g_getr X hR gk_X0 0 (by decide) q792 rfl ex5 dX0_wave_26 ?_
    refine lv_iload_n hx hb dX0_wave_29 rfl (lv_at hl 2 rfl) ?_
    obtain ⟨h6, eh6, hf⟩ := gBind hf
    refine g_putN X hR hS gk_X1 19 (by decide) q660 rfl rfl eh6 rfl rfl rfl dX0_wave_30 (fun H locs hR hS => ?_)
    refine lv_aload_n hx hb dX0_wave_33 rfl (lv_at hl 1 rfl) ?_
    obtain ⟨x7, ex7, hf⟩ := gBind hf
    refine g_getr X hR gk_X0 0 (by decide) q792 rfl ex7 dX0_wave_34 ?_
    refine lv_iconst (v := (0 : Int32)) hx hb dX0_wave_37 (by decide) ?_
    obtain ⟨h8, eh8, hf⟩ := gBind hf
    refine g_putN X hR hS gk_X1 18 (by decide) q658 rfl rfl eh8 rfl rfl rfl dX0_wave_38 (fun H locs hR hS => ?_)
    refine lv_iload_n hx hb dX0_wave_41 rfl (lv_at hl 0 rfl) ?_
    obtain ⟨rfl, rfl⟩ := gO2 hf
    exact g_iret X hR hS _ rfl ⟨Nat.le_of_ble_eq_true rfl, Nat.le_of_ble_eq_true rfl⟩ dX0_wave_42
  · replace hf := gIfp c2 hf
    refine lv_bipush (v := (-2 : Int32)) hx hb dX0_wave_14 (by decide) ?_
    obtain ⟨rfl, rfl⟩ := gO2 hf
    exact g_iret X hR hS _ rfl ⟨Nat.le_of_ble_eq_true rfl, Nat.le_of_ble_eq_true rfl⟩ dX0_wave_16

def sp_X0_isOfNode (G : gG) (F : Nat) (h : gH) (a0 : Nat) (p1 : Int32) (p2 : Int32) : Option (Int32) :=
 if p1 = 0 then
 (gGr 0 h a0 0).bind fun x9 =>
 (gGi 1 h x9 19).bind fun x10 =>
 (sp_X0_in G F h p2.toInt64 (0 : Int64) ((x10 - (1 : Int32)).toInt64)).bind fun u11 =>
 if u11 = 0 ∨ u11 = 1 then
 some (u11) else none else
 if p1 = (1 : Int32) then
 (gGr 0 h a0 0).bind fun x5 =>
 (gGi 1 h x5 19).bind fun x6 =>
 (sp_X0_in G F h p2.toInt64 (1 : Int64) x6.toInt64).bind fun u7 =>
 if u7 = 0 ∨ u7 = 1 then
 some (u7) else none else
 (sp_X0_in G F h p2.toInt64 (0 : Int64) (99 : Int64)).bind fun u3 =>
 if u3 = 0 ∨ u3 = 1 then
 some (u3) else none
theorem yk_X0_isOfNode : gVk yX0_isOfNode cX0_isOfNode 3 (some .boolean) 2 0 := ⟨q1458, qs27, q92, q1459, ⟨by decide +kernel, by decide +kernel, by decide +kernel⟩, rfl⟩
set_option maxHeartbeats 4000000 in
theorem m_X0_isOfNode (l : Launch) (G : gG) (F : Nat) (h : gH) (n : Nat) (a0 : Nat) (p1 : Int32) (p2 : Int32) {r : Int32} (hf : sp_X0_isOfNode G F h a0 p1 p2 = some r) : gMet l G yX0_isOfNode cX0_isOfNode 3 (some .boolean) 1 25 0 0 [.ref a0, .int p1, .int p2] h n (some (.int r)) h n := by
  refine gEnter (by decide) [(0, .ref a0), (1, .int p1), (2, .int p2)] rfl (Nat.le_of_ble_eq_true rfl) ?_
  intro p e s m below meth c H ls X hin hR hS hl
  have hx := X.1.1
  have hb := X.1.2.1
  unfold sp_X0_isOfNode at hf
  generalize ([] : List Loc) = locs at hS ⊢
  refine lv_iload_n hx hb dX0_isOfNode_0 rfl (lv_at hl 1 rfl) ?_
  refine lv_if_ne (tgt := 23) hx hb dX0_isOfNode_1 (by decide) (fun c1 => ?_) (fun c1 => ?_)
  · replace hf := gIfn c1 hf
    refine lv_iload_n hx hb dX0_isOfNode_23 rfl (lv_at hl 1 rfl) ?_
    refine lv_iconst (v := (1 : Int32)) hx hb dX0_isOfNode_24 (by decide) ?_
    refine lv_icmp_ne (tgt := 45) hx hb dX0_isOfNode_25 (by decide) (fun c2 => ?_) (fun c2 => ?_)
    · replace hf := gIfn c2 hf
      refine lv_iload_n hx hb dX0_isOfNode_45 rfl (lv_at hl 2 rfl) ?_
      refine lv_i2l (v := p2.toInt64) hx hb dX0_isOfNode_46 rfl ?_
      refine lv_lconst (v := (0 : Int64)) hx hb dX0_isOfNode_47 (by decide) ?_
      refine lv_ldc2 (v := (99 : Int64)) hx hb X.1.2.2.2.1 (X.1.2.2.2.2 _ q949) dX0_isOfNode_48 ?_
      obtain ⟨u3, eu3, hf⟩ := gBind hf
      refine g_callSi X hR hS [.long p2.toInt64, .long (0 : Int64), .long (99 : Int64)] (m_X0_in l G F h n p2.toInt64 (0 : Int64) (99 : Int64) eu3) yk_X0_in q830 rfl hl.1 ⟨Nat.le_of_ble_eq_true rfl, Nat.le_of_ble_eq_true rfl⟩ ⟨Nat.le_of_ble_eq_true rfl, Nat.le_of_ble_eq_true rfl⟩ rfl (Nat.le_of_ble_eq_true rfl) dX0_isOfNode_51 (fun H locs hR hS => ?_)
      obtain ⟨k4, hf⟩ := gChk hf
      obtain rfl := gO1 hf
      exact g_zret X hR hS _ rfl (gNz k4).1 ⟨Nat.le_of_ble_eq_true rfl, Nat.le_of_ble_eq_true rfl⟩ dX0_isOfNode_54
    · replace hf := gIfp c2 hf
      refine lv_iload_n hx hb dX0_isOfNode_28 rfl (lv_at hl 2 rfl) ?_
      refine lv_i2l (v := p2.toInt64) hx hb dX0_isOfNode_29 rfl ?_
      refine lv_lconst (v := (1 : Int64)) hx hb dX0_isOfNode_30 (by decide) ?_
      refine lv_aload_n hx hb dX0_isOfNode_31 rfl (lv_at hl 0 rfl) ?_
      obtain ⟨x5, ex5, hf⟩ := gBind hf
      refine g_getr X hR gk_X0 0 (by decide) q792 rfl ex5 dX0_isOfNode_32 ?_
      obtain ⟨x6, ex6, hf⟩ := gBind hf
      refine g_getiN X hR gk_X1 19 (by decide) q660 rfl ex6 dX0_isOfNode_35 ?_
      refine lv_i2l (v := x6.toInt64) hx hb dX0_isOfNode_38 rfl ?_
      obtain ⟨u7, eu7, hf⟩ := gBind hf
      refine g_callSi X hR hS [.long p2.toInt64, .long (1 : Int64), .long x6.toInt64] (m_X0_in l G F h n p2.toInt64 (1 : Int64) x6.toInt64 eu7) yk_X0_in q830 rfl hl.1 ⟨Nat.le_of_ble_eq_true rfl, Nat.le_of_ble_eq_true rfl⟩ ⟨Nat.le_of_ble_eq_true rfl, Nat.le_of_ble_eq_true rfl⟩ rfl (Nat.le_of_ble_eq_true rfl) dX0_isOfNode_39 (fun H locs hR hS => ?_)
      refine lv_goto (tgt := 54) hx hb dX0_isOfNode_42 (by decide) ?_
      obtain ⟨k8, hf⟩ := gChk hf
      obtain rfl := gO1 hf
      exact g_zret X hR hS _ rfl (gNz k8).1 ⟨Nat.le_of_ble_eq_true rfl, Nat.le_of_ble_eq_true rfl⟩ dX0_isOfNode_54
  · replace hf := gIfp c1 hf
    refine lv_iload_n hx hb dX0_isOfNode_4 rfl (lv_at hl 2 rfl) ?_
    refine lv_i2l (v := p2.toInt64) hx hb dX0_isOfNode_5 rfl ?_
    refine lv_lconst (v := (0 : Int64)) hx hb dX0_isOfNode_6 (by decide) ?_
    refine lv_aload_n hx hb dX0_isOfNode_7 rfl (lv_at hl 0 rfl) ?_
    obtain ⟨x9, ex9, hf⟩ := gBind hf
    refine g_getr X hR gk_X0 0 (by decide) q792 rfl ex9 dX0_isOfNode_8 ?_
    obtain ⟨x10, ex10, hf⟩ := gBind hf
    refine g_getiN X hR gk_X1 19 (by decide) q660 rfl ex10 dX0_isOfNode_11 ?_
    refine lv_iconst (v := (1 : Int32)) hx hb dX0_isOfNode_14 (by decide) ?_
    refine lv_isub hx hb dX0_isOfNode_15 ?_
    refine lv_i2l (v := (x10 - (1 : Int32)).toInt64) hx hb dX0_isOfNode_16 rfl ?_
    obtain ⟨u11, eu11, hf⟩ := gBind hf
    refine g_callSi X hR hS [.long p2.toInt64, .long (0 : Int64), .long ((x10 - (1 : Int32)).toInt64)] (m_X0_in l G F h n p2.toInt64 (0 : Int64) ((x10 - (1 : Int32)).toInt64) eu11) yk_X0_in q830 rfl hl.1 ⟨Nat.le_of_ble_eq_true rfl, Nat.le_of_ble_eq_true rfl⟩ ⟨Nat.le_of_ble_eq_true rfl, Nat.le_of_ble_eq_true rfl⟩ rfl (Nat.le_of_ble_eq_true rfl) dX0_isOfNode_17 (fun H locs hR hS => ?_)
    refine lv_goto (tgt := 54) hx hb dX0_isOfNode_20 (by decide) ?_
    obtain ⟨k12, hf⟩ := gChk hf
    obtain rfl := gO1 hf
    exact g_zret X hR hS _ rfl (gNz k12).1 ⟨Nat.le_of_ble_eq_true rfl, Nat.le_of_ble_eq_true rfl⟩ dX0_isOfNode_54

def sp_X0_node (G : gG) (F : Nat) (h : gH) (n : Nat) (a0 : Nat) (p1 : Int32) (p2 : Int32) (p3 : Int32) : Option (Int32 × gH × Nat) :=
 if gIs 0 (va_up h n (some (.inl (3, 3, .inl (fun _ => 0))))) a0 = true then
 (sp_X0_isOfNode G F (va_up h n (some (.inl (3, 3, .inl (fun _ => 0))))) a0 (0 : Int32) p1).bind fun u2 =>
 (gSb 3 (va_up h n (some (.inl (3, 3, .inl (fun _ => 0))))) n (0 : Int32) u2).bind fun h3 =>
 if gIs 0 h3 a0 = true then
 (sp_X0_isOfNode G F h3 a0 (1 : Int32) p2).bind fun u5 =>
 (gSb 3 h3 n (1 : Int32) u5).bind fun h6 =>
 if gIs 0 h6 a0 = true then
 (sp_X0_isOfNode G F h6 a0 (2 : Int32) p3).bind fun u8 =>
 (gSb 3 h6 n (2 : Int32) u8).bind fun h9 =>
 (sp_X0_are G F h9 n).bind fun u10 =>
 if u10 = 0 then
 some (((-2 : Int32), h9, n + 1)) else
 (gGr 0 h9 a0 0).bind fun x12 =>
 (gGi 1 h9 x12 18).bind fun x13 =>
 if x13 = (5 : Int32) then
 some (((-4 : Int32), h9, n + 1)) else
 (gGr 0 h9 a0 0).bind fun x15 =>
 (gGr 1 h9 x15 26).bind fun x16 =>
 (gGr 0 h9 a0 0).bind fun x17 =>
 (gGi 1 h9 x17 18).bind fun x18 =>
 (gAr 8 h9 x16 x18).bind fun a19 =>
 (gGr 5 h9 a19 0).bind fun x20 =>
 (gSi h9 x20 (0 : Int32) p1).bind fun h21 =>
 (gSi h21 x20 (1 : Int32) p2).bind fun h22 =>
 (gSi h22 x20 (2 : Int32) p3).bind fun h23 =>
 (gGr 0 h23 a0 0).bind fun x24 =>
 (gGi 1 h23 x24 18).bind fun x25 =>
 (gPv 1 h23 x24 18 (.int (x25 + (1 : Int32)))).bind fun h26 =>
 (gGr 0 h26 a0 0).bind fun x27 =>
 (gGi 1 h26 x27 18).bind fun x28 =>
 some ((x28 - (1 : Int32), h26, n + 1)) else none else none else none
theorem yk_X0_node : gVk yX0_node cX0_node 5 (some .int) 3 0 := ⟨q1453, q1454, q92, q1455, ⟨by decide +kernel, by decide +kernel, by decide +kernel⟩, rfl⟩
set_option maxHeartbeats 4000000 in
theorem m_X0_node (l : Launch) (G : gG) (F : Nat) (h : gH) (n : Nat) (a0 : Nat) (p1 : Int32) (p2 : Int32) (p3 : Int32) {r : Int32} {h' : gH} {n' : Nat} (hf : sp_X0_node G F h n a0 p1 p2 p3 = some (r, h', n')) : gMet l G yX0_node cX0_node 5 (some .int) 2 47 1 3 [.ref a0, .int p1, .int p2, .int p3] h n (some (.int r)) h' n' := by
  refine gEnter (by decide) [(0, .ref a0), (1, .int p1), (2, .int p2), (3, .int p3)] rfl (Nat.le_of_ble_eq_true rfl) ?_
  intro p e s m below meth c H ls X hin hR hS hl
  have hx := X.1.1
  have hb := X.1.2.1
  unfold sp_X0_node at hf
  generalize ([] : List Loc) = locs at hS ⊢
  refine lv_iconst (v := (3 : Int32)) hx hb dX0_node_0 (by decide) ?_
  refine g_newa3 X hR hS q879 3 (by decide) (by decide) (by decide) ⟨Nat.le_of_ble_eq_true rfl, Nat.le_of_ble_eq_true rfl⟩ dX0_node_1 (fun H hR hS => ?_)
  refine lv_dup hx hb dX0_node_3 rfl ?_
  refine lv_iconst (v := (0 : Int32)) hx hb dX0_node_4 (by decide) ?_
  refine lv_aload_n hx hb dX0_node_5 rfl (lv_at hl 0 rfl) ?_
  refine lv_iconst (v := (0 : Int32)) hx hb dX0_node_6 (by decide) ?_
  refine lv_iload_n hx hb dX0_node_7 rfl (lv_at hl 1 rfl) ?_
  obtain ⟨k1, hf⟩ := gChk hf
  obtain ⟨u2, eu2, hf⟩ := gBind hf
  refine g_callVi X hR hS [.int (0 : Int32), .int p1] (m_X0_isOfNode l G F (va_up h n (some (.inl (3, 3, .inl (fun _ => 0))))) (n + 1) a0 (0 : Int32) p1 eu2) yk_X0_isOfNode q1456 k1 rfl hl.1 ⟨Nat.le_of_ble_eq_true rfl, Nat.le_of_ble_eq_true rfl⟩ ⟨Nat.le_of_ble_eq_true rfl, Nat.le_of_ble_eq_true rfl⟩ rfl (Nat.le_of_ble_eq_true rfl) dX0_node_8 (fun H locs hR hS => ?_)
  obtain ⟨h3, eh3, hf⟩ := gBind hf
  refine g_zast X hR hS eh3 dX0_node_11 (fun H locs hR hS => ?_)
  refine lv_dup hx hb dX0_node_12 rfl ?_
  refine lv_iconst (v := (1 : Int32)) hx hb dX0_node_13 (by decide) ?_
  refine lv_aload_n hx hb dX0_node_14 rfl (lv_at hl 0 rfl) ?_
  refine lv_iconst (v := (1 : Int32)) hx hb dX0_node_15 (by decide) ?_
  refine lv_iload_n hx hb dX0_node_16 rfl (lv_at hl 2 rfl) ?_
  obtain ⟨k4, hf⟩ := gChk hf
  obtain ⟨u5, eu5, hf⟩ := gBind hf
  refine g_callVi X hR hS [.int (1 : Int32), .int p2] (m_X0_isOfNode l G F h3 (n + 1) a0 (1 : Int32) p2 eu5) yk_X0_isOfNode q1456 k4 rfl hl.1 ⟨Nat.le_of_ble_eq_true rfl, Nat.le_of_ble_eq_true rfl⟩ ⟨Nat.le_of_ble_eq_true rfl, Nat.le_of_ble_eq_true rfl⟩ rfl (Nat.le_of_ble_eq_true rfl) dX0_node_17 (fun H locs hR hS => ?_)
  obtain ⟨h6, eh6, hf⟩ := gBind hf
  refine g_zast X hR hS eh6 dX0_node_20 (fun H locs hR hS => ?_)
  refine lv_dup hx hb dX0_node_21 rfl ?_
  refine lv_iconst (v := (2 : Int32)) hx hb dX0_node_22 (by decide) ?_
  refine lv_aload_n hx hb dX0_node_23 rfl (lv_at hl 0 rfl) ?_
  refine lv_iconst (v := (2 : Int32)) hx hb dX0_node_24 (by decide) ?_
  refine lv_iload_n hx hb dX0_node_25 rfl (lv_at hl 3 rfl) ?_
  obtain ⟨k7, hf⟩ := gChk hf
  obtain ⟨u8, eu8, hf⟩ := gBind hf
  refine g_callVi X hR hS [.int (2 : Int32), .int p3] (m_X0_isOfNode l G F h6 (n + 1) a0 (2 : Int32) p3 eu8) yk_X0_isOfNode q1456 k7 rfl hl.1 ⟨Nat.le_of_ble_eq_true rfl, Nat.le_of_ble_eq_true rfl⟩ ⟨Nat.le_of_ble_eq_true rfl, Nat.le_of_ble_eq_true rfl⟩ rfl (Nat.le_of_ble_eq_true rfl) dX0_node_26 (fun H locs hR hS => ?_)
  obtain ⟨h9, eh9, hf⟩ := gBind hf
  refine g_zast X hR hS eh9 dX0_node_29 (fun H locs hR hS => ?_)
  obtain ⟨u10, eu10, hf⟩ := gBind hf
  refine g_callSi X hR hS [.ref n] (m_X0_are l G F h9 (n + 1) n eu10) yk_X0_are q834 rfl hl.1 ⟨Nat.le_of_ble_eq_true rfl, Nat.le_of_ble_eq_true rfl⟩ ⟨Nat.le_of_ble_eq_true rfl, Nat.le_of_ble_eq_true rfl⟩ rfl (Nat.le_of_ble_eq_true rfl) dX0_node_30 (fun H locs hR hS => ?_)
  refine lv_if_ne (tgt := 39) hx hb dX0_node_33 (by decide) (fun c11 => ?_) (fun c11 => ?_)
  · replace hf := gIfn c11 hf
    refine lv_aload_n hx hb dX0_node_39 rfl (lv_at hl 0 rfl) ?_
    obtain ⟨x12, ex12, hf⟩ := gBind hf
    refine g_getr X hR gk_X0 0 (by decide) q792 rfl ex12 dX0_node_40 ?_
    obtain ⟨x13, ex13, hf⟩ := gBind hf
    refine g_getiN X hR gk_X1 18 (by decide) q658 rfl ex13 dX0_node_43 ?_
    refine lv_iconst (v := (5 : Int32)) hx hb dX0_node_46 (by decide) ?_
    refine lv_icmp_ne (tgt := 53) hx hb dX0_node_47 (by decide) (fun c14 => ?_) (fun c14 => ?_)
    · replace hf := gIfn c14 hf
      refine lv_aload_n hx hb dX0_node_53 rfl (lv_at hl 0 rfl) ?_
      obtain ⟨x15, ex15, hf⟩ := gBind hf
      refine g_getr X hR gk_X0 0 (by decide) q792 rfl ex15 dX0_node_54 ?_
      obtain ⟨x16, ex16, hf⟩ := gBind hf
      refine g_getrN X hR gk_X1 26 (by decide) q674 rfl ex16 dX0_node_57 ?_
      refine lv_aload_n hx hb dX0_node_60 rfl (lv_at hl 0 rfl) ?_
      obtain ⟨x17, ex17, hf⟩ := gBind hf
      refine g_getr X hR gk_X0 0 (by decide) q792 rfl ex17 dX0_node_61 ?_
      obtain ⟨x18, ex18, hf⟩ := gBind hf
      refine g_getiN X hR gk_X1 18 (by decide) q658 rfl ex18 dX0_node_64 ?_
      obtain ⟨a19, ea19, hf⟩ := gBind hf
      refine g_aald X hR 8 (by decide) rfl ea19 dX0_node_67 ?_
      obtain ⟨x20, ex20, hf⟩ := gBind hf
      refine g_getrN X hR gk_X6 0 (by decide) q618 rfl ex20 dX0_node_68 ?_
      refine lv_astore (lv' := [(4, .ref x20), (0, .ref a0), (1, .int p1), (2, .int p2), (3, .int p3)]) hx hb dX0_node_71 hl (by decide) rfl (fun ls hl => ?_)
      refine lv_aload hx hb dX0_node_73 (lv_at hl 0 rfl) ?_
      refine lv_iconst (v := (0 : Int32)) hx hb dX0_node_75 (by decide) ?_
      refine lv_iload_n hx hb dX0_node_76 rfl (lv_at hl 2 rfl) ?_
      obtain ⟨h21, eh21, hf⟩ := gBind hf
      refine g_iast X hR hS eh21 dX0_node_77 (fun H locs hR hS => ?_)
      refine lv_aload hx hb dX0_node_78 (lv_at hl 0 rfl) ?_
      refine lv_iconst (v := (1 : Int32)) hx hb dX0_node_80 (by decide) ?_
      refine lv_iload_n hx hb dX0_node_81 rfl (lv_at hl 3 rfl) ?_
      obtain ⟨h22, eh22, hf⟩ := gBind hf
      refine g_iast X hR hS eh22 dX0_node_82 (fun H locs hR hS => ?_)
      refine lv_aload hx hb dX0_node_83 (lv_at hl 0 rfl) ?_
      refine lv_iconst (v := (2 : Int32)) hx hb dX0_node_85 (by decide) ?_
      refine lv_iload_n hx hb dX0_node_86 rfl (lv_at hl 4 rfl) ?_
      obtain ⟨h23, eh23, hf⟩ := gBind hf
      refine g_iast X hR hS eh23 dX0_node_87 (fun H locs hR hS => ?_)
      refine lv_aload_n hx hb dX0_node_88 rfl (lv_at hl 1 rfl) ?_
      obtain ⟨x24, ex24, hf⟩ := gBind hf
      refine g_getr X hR gk_X0 0 (by decide) q792 rfl ex24 dX0_node_89 ?_
      refine lv_dup hx hb dX0_node_92 rfl ?_
      obtain ⟨x25, ex25, hf⟩ := gBind hf
      refine g_getiN X hR gk_X1 18 (by decide) q658 rfl ex25 dX0_node_93 ?_
      refine lv_iconst (v := (1 : Int32)) hx hb dX0_node_96 (by decide) ?_
      refine lv_iadd hx hb dX0_node_97 ?_
      obtain ⟨h26, eh26, hf⟩ := gBind hf
      refine g_putN X hR hS gk_X1 18 (by decide) q658 rfl rfl eh26 rfl rfl rfl dX0_node_98 (fun H locs hR hS => ?_)
      refine lv_aload_n hx hb dX0_node_101 rfl (lv_at hl 1 rfl) ?_
      obtain ⟨x27, ex27, hf⟩ := gBind hf
      refine g_getr X hR gk_X0 0 (by decide) q792 rfl ex27 dX0_node_102 ?_
      obtain ⟨x28, ex28, hf⟩ := gBind hf
      refine g_getiN X hR gk_X1 18 (by decide) q658 rfl ex28 dX0_node_105 ?_
      refine lv_iconst (v := (1 : Int32)) hx hb dX0_node_108 (by decide) ?_
      refine lv_isub hx hb dX0_node_109 ?_
      obtain ⟨rfl, rfl, rfl⟩ := gO3 hf
      exact g_iret X hR hS _ rfl ⟨Nat.le_of_ble_eq_true rfl, Nat.le_of_ble_eq_true rfl⟩ dX0_node_110
    · replace hf := gIfp c14 hf
      refine lv_bipush (v := (-4 : Int32)) hx hb dX0_node_50 (by decide) ?_
      obtain ⟨rfl, rfl, rfl⟩ := gO3 hf
      exact g_iret X hR hS _ rfl ⟨Nat.le_of_ble_eq_true rfl, Nat.le_of_ble_eq_true rfl⟩ dX0_node_52
  · replace hf := gIfp c11 hf
    refine lv_bipush (v := (-2 : Int32)) hx hb dX0_node_36 (by decide) ?_
    obtain ⟨rfl, rfl, rfl⟩ := gO3 hf
    exact g_iret X hR hS _ rfl ⟨Nat.le_of_ble_eq_true rfl, Nat.le_of_ble_eq_true rfl⟩ dX0_node_38

def sp_X0_isNode (G : gG) (F : Nat) (h : gH) (a0 : Nat) (p1 : Int32) : Option (Int32) :=
 (gGr 0 h a0 0).bind fun x1 =>
 (gGi 1 h x1 18).bind fun x2 =>
 (sp_X0_in G F h p1.toInt64 (0 : Int64) ((x2 - (1 : Int32)).toInt64)).bind fun u3 =>
 if u3 = 0 ∨ u3 = 1 then
 some (u3) else none
theorem yk_X0_isNode : gVk yX0_isNode cX0_isNode 2 (some .boolean) 1 0 := ⟨q1466, qs28, q92, q1467, ⟨by decide +kernel, by decide +kernel, by decide +kernel⟩, rfl⟩
set_option maxHeartbeats 4000000 in
theorem m_X0_isNode (l : Launch) (G : gG) (F : Nat) (h : gH) (n : Nat) (a0 : Nat) (p1 : Int32) {r : Int32} (hf : sp_X0_isNode G F h a0 p1 = some r) : gMet l G yX0_isNode cX0_isNode 2 (some .boolean) 1 25 0 0 [.ref a0, .int p1] h n (some (.int r)) h n := by
  refine gEnter (by decide) [(0, .ref a0), (1, .int p1)] rfl (Nat.le_of_ble_eq_true rfl) ?_
  intro p e s m below meth c H ls X hin hR hS hl
  have hx := X.1.1
  have hb := X.1.2.1
  unfold sp_X0_isNode at hf
  generalize ([] : List Loc) = locs at hS ⊢
  refine lv_iload_n hx hb dX0_isNode_0 rfl (lv_at hl 1 rfl) ?_
  refine lv_i2l (v := p1.toInt64) hx hb dX0_isNode_1 rfl ?_
  refine lv_lconst (v := (0 : Int64)) hx hb dX0_isNode_2 (by decide) ?_
  refine lv_aload_n hx hb dX0_isNode_3 rfl (lv_at hl 0 rfl) ?_
  obtain ⟨x1, ex1, hf⟩ := gBind hf
  refine g_getr X hR gk_X0 0 (by decide) q792 rfl ex1 dX0_isNode_4 ?_
  obtain ⟨x2, ex2, hf⟩ := gBind hf
  refine g_getiN X hR gk_X1 18 (by decide) q658 rfl ex2 dX0_isNode_7 ?_
  refine lv_iconst (v := (1 : Int32)) hx hb dX0_isNode_10 (by decide) ?_
  refine lv_isub hx hb dX0_isNode_11 ?_
  refine lv_i2l (v := (x2 - (1 : Int32)).toInt64) hx hb dX0_isNode_12 rfl ?_
  obtain ⟨u3, eu3, hf⟩ := gBind hf
  refine g_callSi X hR hS [.long p1.toInt64, .long (0 : Int64), .long ((x2 - (1 : Int32)).toInt64)] (m_X0_in l G F h n p1.toInt64 (0 : Int64) ((x2 - (1 : Int32)).toInt64) eu3) yk_X0_in q830 rfl hl.1 ⟨Nat.le_of_ble_eq_true rfl, Nat.le_of_ble_eq_true rfl⟩ ⟨Nat.le_of_ble_eq_true rfl, Nat.le_of_ble_eq_true rfl⟩ rfl (Nat.le_of_ble_eq_true rfl) dX0_isNode_13 (fun H locs hR hS => ?_)
  obtain ⟨k4, hf⟩ := gChk hf
  obtain rfl := gO1 hf
  exact g_zret X hR hS _ rfl (gNz k4).1 ⟨Nat.le_of_ble_eq_true rfl, Nat.le_of_ble_eq_true rfl⟩ dX0_isNode_16

def sp_X0_change (G : gG) (F : Nat) (h : gH) (a0 : Nat) (p1 : Int32) (p2 : Int32) (p3 : Int32) : Option (Int32 × gH) :=
 if gIs 0 h a0 = true then
 (sp_X0_isNode G F h a0 p1).bind fun u2 =>
 if u2 = 0 then
 some (((-1 : Int32), h)) else
 (sp_X0_in G F h p2.toInt64 (0 : Int64) (2 : Int64)).bind fun u4 =>
 if u4 = 0 then
 some (((-1 : Int32), h)) else
 if gIs 0 h a0 = true then
 (sp_X0_isOfNode G F h a0 p2 p3).bind fun u7 =>
 if u7 = 0 then
 some (((-2 : Int32), h)) else
 (gGr 0 h a0 0).bind fun x9 =>
 (gGr 1 h x9 26).bind fun x10 =>
 (gAr 8 h x10 p1).bind fun a11 =>
 (gGr 5 h a11 0).bind fun x12 =>
 (gAi 0 h x12 p2).bind fun x13 =>
 (gGr 0 h a0 0).bind fun x14 =>
 (gGr 1 h x14 26).bind fun x15 =>
 (gAr 8 h x15 p1).bind fun a16 =>
 (gGr 5 h a16 0).bind fun x17 =>
 (gSi h x17 p2 p3).bind fun h18 =>
 some ((x13, h18)) else none else none
theorem yk_X0_change : gVk yX0_change cX0_change 5 (some .int) 3 0 := ⟨q1461, q1462, q92, q1463, ⟨by decide +kernel, by decide +kernel, by decide +kernel⟩, rfl⟩
set_option maxHeartbeats 4000000 in
theorem m_X0_change (l : Launch) (G : gG) (F : Nat) (h : gH) (n : Nat) (a0 : Nat) (p1 : Int32) (p2 : Int32) (p3 : Int32) {r : Int32} {h' : gH} (hf : sp_X0_change G F h a0 p1 p2 p3 = some (r, h')) : gMet l G yX0_change cX0_change 5 (some .int) 2 47 0 0 [.ref a0, .int p1, .int p2, .int p3] h n (some (.int r)) h' n := by
  refine gEnter (by decide) [(0, .ref a0), (1, .int p1), (2, .int p2), (3, .int p3)] rfl (Nat.le_of_ble_eq_true rfl) ?_
  intro p e s m below meth c H ls X hin hR hS hl
  have hx := X.1.1
  have hb := X.1.2.1
  unfold sp_X0_change at hf
  generalize ([] : List Loc) = locs at hS ⊢
  refine lv_aload_n hx hb dX0_change_0 rfl (lv_at hl 0 rfl) ?_
  refine lv_iload_n hx hb dX0_change_1 rfl (lv_at hl 1 rfl) ?_
  obtain ⟨k1, hf⟩ := gChk hf
  obtain ⟨u2, eu2, hf⟩ := gBind hf
  refine g_callVi X hR hS [.int p1] (m_X0_isNode l G F h n a0 p1 eu2) yk_X0_isNode q1464 k1 rfl hl.1 ⟨Nat.le_of_ble_eq_true rfl, Nat.le_of_ble_eq_true rfl⟩ ⟨Nat.le_of_ble_eq_true rfl, Nat.le_of_ble_eq_true rfl⟩ rfl (Nat.le_of_ble_eq_true rfl) dX0_change_2 (fun H locs hR hS => ?_)
  refine lv_if_eq (tgt := 20) hx hb dX0_change_5 (by decide) (fun c3 => ?_) (fun c3 => ?_)
  · replace hf := gIfp c3 hf
    refine lv_iconst (v := (-1 : Int32)) hx hb dX0_change_20 (by decide) ?_
    obtain ⟨rfl, rfl⟩ := gO2 hf
    exact g_iret X hR hS _ rfl ⟨Nat.le_of_ble_eq_true rfl, Nat.le_of_ble_eq_true rfl⟩ dX0_change_21
  · replace hf := gIfn c3 hf
    refine lv_iload_n hx hb dX0_change_8 rfl (lv_at hl 2 rfl) ?_
    refine lv_i2l (v := p2.toInt64) hx hb dX0_change_9 rfl ?_
    refine lv_lconst (v := (0 : Int64)) hx hb dX0_change_10 (by decide) ?_
    refine lv_ldc2 (v := (2 : Int64)) hx hb X.1.2.2.2.1 (X.1.2.2.2.2 _ q1369) dX0_change_11 ?_
    obtain ⟨u4, eu4, hf⟩ := gBind hf
    refine g_callSi X hR hS [.long p2.toInt64, .long (0 : Int64), .long (2 : Int64)] (m_X0_in l G F h n p2.toInt64 (0 : Int64) (2 : Int64) eu4) yk_X0_in q830 rfl hl.1 ⟨Nat.le_of_ble_eq_true rfl, Nat.le_of_ble_eq_true rfl⟩ ⟨Nat.le_of_ble_eq_true rfl, Nat.le_of_ble_eq_true rfl⟩ rfl (Nat.le_of_ble_eq_true rfl) dX0_change_14 (fun H locs hR hS => ?_)
    refine lv_if_ne (tgt := 22) hx hb dX0_change_17 (by decide) (fun c5 => ?_) (fun c5 => ?_)
    · replace hf := gIfn c5 hf
      refine lv_aload_n hx hb dX0_change_22 rfl (lv_at hl 0 rfl) ?_
      refine lv_iload_n hx hb dX0_change_23 rfl (lv_at hl 2 rfl) ?_
      refine lv_iload_n hx hb dX0_change_24 rfl (lv_at hl 3 rfl) ?_
      obtain ⟨k6, hf⟩ := gChk hf
      obtain ⟨u7, eu7, hf⟩ := gBind hf
      refine g_callVi X hR hS [.int p2, .int p3] (m_X0_isOfNode l G F h n a0 p2 p3 eu7) yk_X0_isOfNode q1456 k6 rfl hl.1 ⟨Nat.le_of_ble_eq_true rfl, Nat.le_of_ble_eq_true rfl⟩ ⟨Nat.le_of_ble_eq_true rfl, Nat.le_of_ble_eq_true rfl⟩ rfl (Nat.le_of_ble_eq_true rfl) dX0_change_25 (fun H locs hR hS => ?_)
      refine lv_if_ne (tgt := 34) hx hb dX0_change_28 (by decide) (fun c8 => ?_) (fun c8 => ?_)
      · replace hf := gIfn c8 hf
        refine lv_aload_n hx hb dX0_change_34 rfl (lv_at hl 0 rfl) ?_
        obtain ⟨x9, ex9, hf⟩ := gBind hf
        refine g_getr X hR gk_X0 0 (by decide) q792 rfl ex9 dX0_change_35 ?_
        obtain ⟨x10, ex10, hf⟩ := gBind hf
        refine g_getrN X hR gk_X1 26 (by decide) q674 rfl ex10 dX0_change_38 ?_
        refine lv_iload_n hx hb dX0_change_41 rfl (lv_at hl 1 rfl) ?_
        obtain ⟨a11, ea11, hf⟩ := gBind hf
        refine g_aald X hR 8 (by decide) rfl ea11 dX0_change_42 ?_
        obtain ⟨x12, ex12, hf⟩ := gBind hf
        refine g_getrN X hR gk_X6 0 (by decide) q618 rfl ex12 dX0_change_43 ?_
        refine lv_iload_n hx hb dX0_change_46 rfl (lv_at hl 2 rfl) ?_
        obtain ⟨x13, ex13, hf⟩ := gBind hf
        refine g_iald X hR ex13 dX0_change_47 ?_
        refine lv_istore (lv' := [(4, .int x13), (0, .ref a0), (1, .int p1), (2, .int p2), (3, .int p3)]) hx hb dX0_change_48 hl (by decide) rfl (fun ls hl => ?_)
        refine lv_aload_n hx hb dX0_change_50 rfl (lv_at hl 1 rfl) ?_
        obtain ⟨x14, ex14, hf⟩ := gBind hf
        refine g_getr X hR gk_X0 0 (by decide) q792 rfl ex14 dX0_change_51 ?_
        obtain ⟨x15, ex15, hf⟩ := gBind hf
        refine g_getrN X hR gk_X1 26 (by decide) q674 rfl ex15 dX0_change_54 ?_
        refine lv_iload_n hx hb dX0_change_57 rfl (lv_at hl 2 rfl) ?_
        obtain ⟨a16, ea16, hf⟩ := gBind hf
        refine g_aald X hR 8 (by decide) rfl ea16 dX0_change_58 ?_
        obtain ⟨x17, ex17, hf⟩ := gBind hf
        refine g_getrN X hR gk_X6 0 (by decide) q618 rfl ex17 dX0_change_59 ?_
        refine lv_iload_n hx hb dX0_change_62 rfl (lv_at hl 3 rfl) ?_
        refine lv_iload_n hx hb dX0_change_63 rfl (lv_at hl 4 rfl) ?_
        obtain ⟨h18, eh18, hf⟩ := gBind hf
        refine g_iast X hR hS eh18 dX0_change_64 (fun H locs hR hS => ?_)
        refine lv_iload hx hb dX0_change_65 (lv_at hl 0 rfl) ?_
        obtain ⟨rfl, rfl⟩ := gO2 hf
        exact g_iret X hR hS _ rfl ⟨Nat.le_of_ble_eq_true rfl, Nat.le_of_ble_eq_true rfl⟩ dX0_change_67
      · replace hf := gIfp c8 hf
        refine lv_bipush (v := (-2 : Int32)) hx hb dX0_change_31 (by decide) ?_
        obtain ⟨rfl, rfl⟩ := gO2 hf
        exact g_iret X hR hS _ rfl ⟨Nat.le_of_ble_eq_true rfl, Nat.le_of_ble_eq_true rfl⟩ dX0_change_33
    · replace hf := gIfp c5 hf
      refine lv_iconst (v := (-1 : Int32)) hx hb dX0_change_20 (by decide) ?_
      obtain ⟨rfl, rfl⟩ := gO2 hf
      exact g_iret X hR hS _ rfl ⟨Nat.le_of_ble_eq_true rfl, Nat.le_of_ble_eq_true rfl⟩ dX0_change_21

def sp_X0_band (G : gG) (F : Nat) (h : gH) (a0 : Nat) (p1 : Int32) : Option (Int32) :=
 if p1 = (2 : Int32) then
 (gGr 0 h a0 0).bind fun x7 =>
 if gIs 1 h x7 = true then
 (sp_X1_bands G F h x7).bind fun u9 =>
 some (u9) else none else
 (sp_X0_in G F h p1.toInt64 (0 : Int64) (1 : Int64)).bind fun u2 =>
 if u2 = 0 then
 some ((-1 : Int32)) else
 (gGr 0 h a0 0).bind fun x4 =>
 if gIs 1 h x4 = true then
 (sp_X1_band G F h x4 p1).bind fun u6 =>
 some (u6) else none
theorem yk_X0_band : gVk yX0_band cX0_band 2 (some .int) 1 0 := ⟨q1469, q1470, q92, q1471, ⟨by decide +kernel, by decide +kernel, by decide +kernel⟩, rfl⟩
set_option maxHeartbeats 4000000 in
theorem m_X0_band (l : Launch) (G : gG) (F : Nat) (h : gH) (n : Nat) (a0 : Nat) (p1 : Int32) {r : Int32} (hf : sp_X0_band G F h a0 p1 = some r) : gMet l G yX0_band cX0_band 2 (some .int) 5 112 0 0 [.ref a0, .int p1] h n (some (.int r)) h n := by
  refine gEnter (by decide) [(0, .ref a0), (1, .int p1)] rfl (Nat.le_of_ble_eq_true rfl) ?_
  intro p e s m below meth c H ls X hin hR hS hl
  have hx := X.1.1
  have hb := X.1.2.1
  unfold sp_X0_band at hf
  generalize ([] : List Loc) = locs at hS ⊢
  refine lv_iload_n hx hb dX0_band_0 rfl (lv_at hl 1 rfl) ?_
  refine lv_iconst (v := (2 : Int32)) hx hb dX0_band_1 (by decide) ?_
  refine lv_icmp_ne (tgt := 15) hx hb dX0_band_2 (by decide) (fun c1 => ?_) (fun c1 => ?_)
  · replace hf := gIfn c1 hf
    refine lv_iload_n hx hb dX0_band_15 rfl (lv_at hl 1 rfl) ?_
    refine lv_i2l (v := p1.toInt64) hx hb dX0_band_16 rfl ?_
    refine lv_lconst (v := (0 : Int64)) hx hb dX0_band_17 (by decide) ?_
    refine lv_lconst (v := (1 : Int64)) hx hb dX0_band_18 (by decide) ?_
    obtain ⟨u2, eu2, hf⟩ := gBind hf
    refine g_callSi X hR hS [.long p1.toInt64, .long (0 : Int64), .long (1 : Int64)] (m_X0_in l G F h n p1.toInt64 (0 : Int64) (1 : Int64) eu2) yk_X0_in q830 rfl hl.1 ⟨Nat.le_of_ble_eq_true rfl, Nat.le_of_ble_eq_true rfl⟩ ⟨Nat.le_of_ble_eq_true rfl, Nat.le_of_ble_eq_true rfl⟩ rfl (Nat.le_of_ble_eq_true rfl) dX0_band_19 (fun H locs hR hS => ?_)
    refine lv_if_eq (tgt := 36) hx hb dX0_band_22 (by decide) (fun c3 => ?_) (fun c3 => ?_)
    · replace hf := gIfp c3 hf
      refine lv_iconst (v := (-1 : Int32)) hx hb dX0_band_36 (by decide) ?_
      obtain rfl := gO1 hf
      exact g_iret X hR hS _ rfl ⟨Nat.le_of_ble_eq_true rfl, Nat.le_of_ble_eq_true rfl⟩ dX0_band_37
    · replace hf := gIfn c3 hf
      refine lv_aload_n hx hb dX0_band_25 rfl (lv_at hl 0 rfl) ?_
      obtain ⟨x4, ex4, hf⟩ := gBind hf
      refine g_getr X hR gk_X0 0 (by decide) q792 rfl ex4 dX0_band_26 ?_
      refine lv_iload_n hx hb dX0_band_29 rfl (lv_at hl 1 rfl) ?_
      obtain ⟨k5, hf⟩ := gChk hf
      obtain ⟨u6, eu6, hf⟩ := gBind hf
      refine g_callVi X hR hS [.int p1] (m_X1_band l G F h n x4 p1 eu6) yk_X1_band q1489 k5 rfl hl.1 ⟨Nat.le_of_ble_eq_true rfl, Nat.le_of_ble_eq_true rfl⟩ ⟨Nat.le_of_ble_eq_true rfl, Nat.le_of_ble_eq_true rfl⟩ rfl (Nat.le_of_ble_eq_true rfl) dX0_band_30 (fun H locs hR hS => ?_)
      refine lv_goto (tgt := 37) hx hb dX0_band_33 (by decide) ?_
      obtain rfl := gO1 hf
      exact g_iret X hR hS _ rfl ⟨Nat.le_of_ble_eq_true rfl, Nat.le_of_ble_eq_true rfl⟩ dX0_band_37
  · replace hf := gIfp c1 hf
    refine lv_aload_n hx hb dX0_band_5 rfl (lv_at hl 0 rfl) ?_
    obtain ⟨x7, ex7, hf⟩ := gBind hf
    refine g_getr X hR gk_X0 0 (by decide) q792 rfl ex7 dX0_band_6 ?_
    obtain ⟨k8, hf⟩ := gChk hf
    obtain ⟨u9, eu9, hf⟩ := gBind hf
    refine g_callVi X hR hS [] (m_X1_bands l G F h n x7 eu9) yk_X1_bands q1472 k8 rfl hl.1 ⟨Nat.le_of_ble_eq_true rfl, Nat.le_of_ble_eq_true rfl⟩ ⟨Nat.le_of_ble_eq_true rfl, Nat.le_of_ble_eq_true rfl⟩ rfl (Nat.le_of_ble_eq_true rfl) dX0_band_9 (fun H locs hR hS => ?_)
    refine lv_goto (tgt := 37) hx hb dX0_band_12 (by decide) ?_
    obtain rfl := gO1 hf
    exact g_iret X hR hS _ rfl ⟨Nat.le_of_ble_eq_true rfl, Nat.le_of_ble_eq_true rfl⟩ dX0_band_37

def sp_X0_thought (G : gG) (F : Nat) (h : gH) (a0 : Nat) : Option (Nat × gH) :=
 (gGr 0 h a0 1).bind fun x1 =>
 (gGr 0 h a0 0).bind fun x2 =>
 if gIs 1 h x1 = true then
 (sp_X1_like G F h x1 x2).bind fun u4 =>
 some ((u4.1, u4.2)) else none
theorem yk_X0_thought : gVk yX0_thought cX0_thought 1 (some (.object "SafeClears$World")) 0 0 := ⟨q1496, qs30, q92, q1497, ⟨by decide +kernel, by decide +kernel, by decide +kernel⟩, rfl⟩
set_option maxHeartbeats 4000000 in
theorem m_X0_thought (l : Launch) (G : gG) (F : Nat) (h : gH) (n : Nat) (a0 : Nat) {r : Nat} {h' : gH} (hf : sp_X0_thought G F h a0 = some (r, h')) : gMet l G yX0_thought cX0_thought 1 (some (.object "SafeClears$World")) 5 109 0 0 [.ref a0] h n (some (.ref r)) h' n := by
  refine gEnter (by decide) [(0, .ref a0)] rfl (Nat.le_of_ble_eq_true rfl) ?_
  intro p e s m below meth c H ls X hin hR hS hl
  have hx := X.1.1
  have hb := X.1.2.1
  unfold sp_X0_thought at hf
  generalize ([] : List Loc) = locs at hS ⊢
  refine lv_aload_n hx hb dX0_thought_0 rfl (lv_at hl 0 rfl) ?_
  obtain ⟨x1, ex1, hf⟩ := gBind hf
  refine g_getr X hR gk_X0 1 (by decide) q793 rfl ex1 dX0_thought_1 ?_
  refine lv_aload_n hx hb dX0_thought_4 rfl (lv_at hl 0 rfl) ?_
  obtain ⟨x2, ex2, hf⟩ := gBind hf
  refine g_getr X hR gk_X0 0 (by decide) q792 rfl ex2 dX0_thought_5 ?_
  obtain ⟨k3, hf⟩ := gChk hf
  obtain ⟨u4, eu4, hf⟩ := gBind hf
  refine g_callVr X hR hS [.ref x2] (m_X1_like l G F h n x1 x2 eu4) yk_X1_like q1498 k3 rfl hl.1 ⟨Nat.le_of_ble_eq_true rfl, Nat.le_of_ble_eq_true rfl⟩ ⟨Nat.le_of_ble_eq_true rfl, Nat.le_of_ble_eq_true rfl⟩ rfl (Nat.le_of_ble_eq_true rfl) dX0_thought_8 (fun H locs hR hS => ?_)
  obtain ⟨rfl, rfl⟩ := gO2 hf
  exact g_aret X hR hS _ rfl ⟨Nat.le_of_ble_eq_true rfl, Nat.le_of_ble_eq_true rfl⟩ dX0_thought_11

def sp_X0_nodeBest (G : gG) (F : Nat) (h : gH) (a0 : Nat) (p1 : Int32) (p2 : Int32) : Option (Int32 × gH) :=
 if gIs 0 h a0 = true then
 (sp_X0_isNode G F h a0 p1).bind fun u2 =>
 if u2 = 0 then
 some (((-1 : Int32), h)) else
 (sp_X0_in G F h p2.toInt64 (0 : Int64) (1 : Int64)).bind fun u4 =>
 if u4 = 0 then
 some (((-1 : Int32), h)) else
 if gIs 0 h a0 = true then
 (sp_X0_counts G F h a0 (10 : Int32)).bind fun u7 =>
 if u7.1 = 0 then
 some (((-4 : Int32), u7.2)) else
 if gIs 0 u7.2 a0 = true then
 (sp_X0_thought G F u7.2 a0).bind fun u10 =>
 if gIs 1 u10.2 u10.1 = true then
 (sp_X1_tunes G F u10.2 u10.1 p1).bind fun u12 =>
 if p2 = 0 then
 (gGr 1 u12.2 u10.1 26).bind fun x14 =>
 (gAr 8 u12.2 x14 p1).bind fun a15 =>
 (gGr 5 u12.2 a15 0).bind fun x16 =>
 (gAi 0 u12.2 x16 (0 : Int32)).bind fun x17 =>
 some ((x17, u12.2)) else
 some ((u12.1, u12.2)) else none else none else none else none
theorem yk_X0_nodeBest : gVk yX0_nodeBest cX0_nodeBest 5 (some .int) 2 0 := ⟨q1491, q1492, q92, q1493, ⟨by decide +kernel, by decide +kernel, by decide +kernel⟩, rfl⟩
set_option maxHeartbeats 4000000 in
theorem m_X0_nodeBest (l : Launch) (G : gG) (F : Nat) (h : gH) (n : Nat) (a0 : Nat) (p1 : Int32) (p2 : Int32) {r : Int32} {h' : gH} (hf : sp_X0_nodeBest G F h a0 p1 p2 = some (r, h')) : gMet l G yX0_nodeBest cX0_nodeBest 5 (some .int) 6 137 0 0 [.ref a0, .int p1, .int p2] h n (some (.int r)) h' n := by
  refine gEnter (by decide) [(0, .ref a0), (1, .int p1), (2, .int p2)] rfl (Nat.le_of_ble_eq_true rfl) ?_
  intro p e s m below meth c H ls X hin hR hS hl
  have hx := X.1.1
  have hb := X.1.2.1
  unfold sp_X0_nodeBest at hf
  generalize ([] : List Loc) = locs at hS ⊢
  refine lv_aload_n hx hb dX0_nodeBest_0 rfl (lv_at hl 0 rfl) ?_
  refine lv_iload_n hx hb dX0_nodeBest_1 rfl (lv_at hl 1 rfl) ?_
  obtain ⟨k1, hf⟩ := gChk hf
  obtain ⟨u2, eu2, hf⟩ := gBind hf
  refine g_callVi X hR hS [.int p1] (m_X0_isNode l G F h n a0 p1 eu2) yk_X0_isNode q1464 k1 rfl hl.1 ⟨Nat.le_of_ble_eq_true rfl, Nat.le_of_ble_eq_true rfl⟩ ⟨Nat.le_of_ble_eq_true rfl, Nat.le_of_ble_eq_true rfl⟩ rfl (Nat.le_of_ble_eq_true rfl) dX0_nodeBest_2 (fun H locs hR hS => ?_)
  refine lv_if_eq (tgt := 18) hx hb dX0_nodeBest_5 (by decide) (fun c3 => ?_) (fun c3 => ?_)
  · replace hf := gIfp c3 hf
    refine lv_iconst (v := (-1 : Int32)) hx hb dX0_nodeBest_18 (by decide) ?_
    obtain ⟨rfl, rfl⟩ := gO2 hf
    exact g_iret X hR hS _ rfl ⟨Nat.le_of_ble_eq_true rfl, Nat.le_of_ble_eq_true rfl⟩ dX0_nodeBest_19
  · replace hf := gIfn c3 hf
    refine lv_iload_n hx hb dX0_nodeBest_8 rfl (lv_at hl 2 rfl) ?_
    refine lv_i2l (v := p2.toInt64) hx hb dX0_nodeBest_9 rfl ?_
    refine lv_lconst (v := (0 : Int64)) hx hb dX0_nodeBest_10 (by decide) ?_
    refine lv_lconst (v := (1 : Int64)) hx hb dX0_nodeBest_11 (by decide) ?_
    obtain ⟨u4, eu4, hf⟩ := gBind hf
    refine g_callSi X hR hS [.long p2.toInt64, .long (0 : Int64), .long (1 : Int64)] (m_X0_in l G F h n p2.toInt64 (0 : Int64) (1 : Int64) eu4) yk_X0_in q830 rfl hl.1 ⟨Nat.le_of_ble_eq_true rfl, Nat.le_of_ble_eq_true rfl⟩ ⟨Nat.le_of_ble_eq_true rfl, Nat.le_of_ble_eq_true rfl⟩ rfl (Nat.le_of_ble_eq_true rfl) dX0_nodeBest_12 (fun H locs hR hS => ?_)
    refine lv_if_ne (tgt := 20) hx hb dX0_nodeBest_15 (by decide) (fun c5 => ?_) (fun c5 => ?_)
    · replace hf := gIfn c5 hf
      refine lv_aload_n hx hb dX0_nodeBest_20 rfl (lv_at hl 0 rfl) ?_
      refine lv_bipush (v := (10 : Int32)) hx hb dX0_nodeBest_21 (by decide) ?_
      obtain ⟨k6, hf⟩ := gChk hf
      obtain ⟨u7, eu7, hf⟩ := gBind hf
      refine g_callVi X hR hS [.int (10 : Int32)] (m_X0_counts l G F h n a0 (10 : Int32) eu7) yk_X0_counts q1133 k6 rfl hl.1 ⟨Nat.le_of_ble_eq_true rfl, Nat.le_of_ble_eq_true rfl⟩ ⟨Nat.le_of_ble_eq_true rfl, Nat.le_of_ble_eq_true rfl⟩ rfl (Nat.le_of_ble_eq_true rfl) dX0_nodeBest_23 (fun H locs hR hS => ?_)
      refine lv_if_ne (tgt := 32) hx hb dX0_nodeBest_26 (by decide) (fun c8 => ?_) (fun c8 => ?_)
      · replace hf := gIfn c8 hf
        refine lv_aload_n hx hb dX0_nodeBest_32 rfl (lv_at hl 0 rfl) ?_
        obtain ⟨k9, hf⟩ := gChk hf
        obtain ⟨u10, eu10, hf⟩ := gBind hf
        refine g_callVr X hR hS [] (m_X0_thought l G F u7.2 n a0 eu10) yk_X0_thought q1494 k9 rfl hl.1 ⟨Nat.le_of_ble_eq_true rfl, Nat.le_of_ble_eq_true rfl⟩ ⟨Nat.le_of_ble_eq_true rfl, Nat.le_of_ble_eq_true rfl⟩ rfl (Nat.le_of_ble_eq_true rfl) dX0_nodeBest_33 (fun H locs hR hS => ?_)
        refine lv_astore_n (lv' := [(3, .ref u10.1), (0, .ref a0), (1, .int p1), (2, .int p2)]) hx hb dX0_nodeBest_36 rfl hl (by decide) rfl (fun ls hl => ?_)
        refine lv_aload_n hx hb dX0_nodeBest_37 rfl (lv_at hl 0 rfl) ?_
        refine lv_iload_n hx hb dX0_nodeBest_38 rfl (lv_at hl 2 rfl) ?_
        obtain ⟨k11, hf⟩ := gChk hf
        obtain ⟨u12, eu12, hf⟩ := gBind hf
        refine g_callVi X hR hS [.int p1] (m_X1_tunes l G F u10.2 n u10.1 p1 eu12) yk_X1_tunes q1510 k11 rfl hl.1 ⟨Nat.le_of_ble_eq_true rfl, Nat.le_of_ble_eq_true rfl⟩ ⟨Nat.le_of_ble_eq_true rfl, Nat.le_of_ble_eq_true rfl⟩ rfl (Nat.le_of_ble_eq_true rfl) dX0_nodeBest_39 (fun H locs hR hS => ?_)
        refine lv_istore (lv' := [(4, .int u12.1), (3, .ref u10.1), (0, .ref a0), (1, .int p1), (2, .int p2)]) hx hb dX0_nodeBest_42 hl (by decide) rfl (fun ls hl => ?_)
        refine lv_iload_n hx hb dX0_nodeBest_44 rfl (lv_at hl 4 rfl) ?_
        refine lv_if_ne (tgt := 62) hx hb dX0_nodeBest_45 (by decide) (fun c13 => ?_) (fun c13 => ?_)
        · replace hf := gIfn c13 hf
          refine lv_iload hx hb dX0_nodeBest_62 (lv_at hl 0 rfl) ?_
          obtain ⟨rfl, rfl⟩ := gO2 hf
          exact g_iret X hR hS _ rfl ⟨Nat.le_of_ble_eq_true rfl, Nat.le_of_ble_eq_true rfl⟩ dX0_nodeBest_64
        · replace hf := gIfp c13 hf
          refine lv_aload_n hx hb dX0_nodeBest_48 rfl (lv_at hl 1 rfl) ?_
          obtain ⟨x14, ex14, hf⟩ := gBind hf
          refine g_getrN X hR gk_X1 26 (by decide) q674 rfl ex14 dX0_nodeBest_49 ?_
          refine lv_iload_n hx hb dX0_nodeBest_52 rfl (lv_at hl 3 rfl) ?_
          obtain ⟨a15, ea15, hf⟩ := gBind hf
          refine g_aald X hR 8 (by decide) rfl ea15 dX0_nodeBest_53 ?_
          obtain ⟨x16, ex16, hf⟩ := gBind hf
          refine g_getrN X hR gk_X6 0 (by decide) q618 rfl ex16 dX0_nodeBest_54 ?_
          refine lv_iconst (v := (0 : Int32)) hx hb dX0_nodeBest_57 (by decide) ?_
          obtain ⟨x17, ex17, hf⟩ := gBind hf
          refine g_iald X hR ex17 dX0_nodeBest_58 ?_
          refine lv_goto (tgt := 64) hx hb dX0_nodeBest_59 (by decide) ?_
          obtain ⟨rfl, rfl⟩ := gO2 hf
          exact g_iret X hR hS _ rfl ⟨Nat.le_of_ble_eq_true rfl, Nat.le_of_ble_eq_true rfl⟩ dX0_nodeBest_64
      · replace hf := gIfp c8 hf
        refine lv_bipush (v := (-4 : Int32)) hx hb dX0_nodeBest_29 (by decide) ?_
        obtain ⟨rfl, rfl⟩ := gO2 hf
        exact g_iret X hR hS _ rfl ⟨Nat.le_of_ble_eq_true rfl, Nat.le_of_ble_eq_true rfl⟩ dX0_nodeBest_31
    · replace hf := gIfp c5 hf
      refine lv_iconst (v := (-1 : Int32)) hx hb dX0_nodeBest_18 (by decide) ?_
      obtain ⟨rfl, rfl⟩ := gO2 hf
      exact g_iret X hR hS _ rfl ⟨Nat.le_of_ble_eq_true rfl, Nat.le_of_ble_eq_true rfl⟩ dX0_nodeBest_19

def sp_X0_tune_L15 (G : gG) (F : Nat) : Nat → gH → Nat → Int32 → Option (gH)
  | 0, _, _, _ => none
  | f + 1, h15L, v15_0, v15_1 =>
    (gGr 0 h15L v15_0 0).bind fun x1601 =>
    (gGi 1 h15L x1601 18).bind fun x1602 =>
    if ((4 : Int32) * x1602) ≤ v15_1 then
    some (h15L) else
    (gGr 0 h15L v15_0 0).bind fun x1604 =>
    (gGi 1 h15L x1604 18).bind fun x1605 =>
    if ¬ x1605 = 0 then
    (gGr 0 h15L v15_0 0).bind fun x1607 =>
    (gGr 1 h15L x1607 26).bind fun x1608 =>
    (gAr 8 h15L x1608 (v15_1 - v15_1 / x1605 * x1605)).bind fun a1609 =>
    (gGr 5 h15L a1609 0).bind fun x1610 =>
    (gAi 0 h15L x1610 (0 : Int32)).bind fun x1611 =>
    (gGr 0 h15L v15_0 0).bind fun x1612 =>
    if gIs 1 h15L x1612 = true then
    (sp_X1_bands G F h15L x1612).bind fun u1614 =>
    (gGr 0 h15L v15_0 0).bind fun x1615 =>
    if gIs 1 h15L x1615 = true then
    (sp_X1_tunes G F h15L x1615 (v15_1 - v15_1 / x1605 * x1605)).bind fun u1617 =>
    if u1617.1 = u1614 then
    (gGr 0 u1617.2 v15_0 0).bind fun x1619 =>
    (gGr 1 u1617.2 x1619 26).bind fun x1620 =>
    (gAr 8 u1617.2 x1620 (v15_1 - v15_1 / x1605 * x1605)).bind fun a1621 =>
    (gGr 5 u1617.2 a1621 0).bind fun x1622 =>
    (gSi u1617.2 x1622 (0 : Int32) x1611).bind fun h1623 =>
    sp_X0_tune_L15 G F f h1623 v15_0 (v15_1 + (1 : Int32)) else
    sp_X0_tune_L15 G F f u1617.2 v15_0 (v15_1 + (1 : Int32)) else none else none else none
def sp_X0_tune (G : gG) (F : Nat) (h : gH) (a0 : Nat) : Option (Int32 × gH) :=
 if gIs 0 h a0 = true then
 (sp_X0_counts G F h a0 (200 : Int32)).bind fun u2 =>
 if u2.1 = 0 then
 some (((-4 : Int32), u2.2)) else
 (sp_X0_tune_L15 G F F u2.2 a0 (0 : Int32)).bind fun y6 =>
 (gGr 0 y6 a0 0).bind fun x7 =>
 if gIs 1 y6 x7 = true then
 (sp_X1_bands G F y6 x7).bind fun u9 =>
 some ((u9, y6)) else none else none
theorem yk_X0_tune : gVk yX0_tune cX0_tune 5 (some .int) 0 0 := ⟨q1516, q1517, q92, q1518, ⟨by decide +kernel, by decide +kernel, by decide +kernel⟩, rfl⟩
set_option maxHeartbeats 4000000 in
theorem m_X0_tune (l : Launch) (G : gG) (F : Nat) (h : gH) (n : Nat) (a0 : Nat) {r : Int32} {h' : gH} (hf : sp_X0_tune G F h a0 = some (r, h')) : gMet l G yX0_tune cX0_tune 5 (some .int) 6 137 0 0 [.ref a0] h n (some (.int r)) h' n := by
  refine gEnter (by decide) [(0, .ref a0)] rfl (Nat.le_of_ble_eq_true rfl) ?_
  intro p e s m below meth c H ls X hin hR hS hl
  have hx := X.1.1
  have hb := X.1.2.1
  unfold sp_X0_tune at hf
  generalize ([] : List Loc) = locs at hS ⊢
  refine lv_aload_n hx hb dX0_tune_0 rfl (lv_at hl 0 rfl) ?_
  refine lv_sipush (v := (200 : Int32)) hx hb dX0_tune_1 (by decide) ?_
  obtain ⟨k1, hf⟩ := gChk hf
  obtain ⟨u2, eu2, hf⟩ := gBind hf
  refine g_callVi X hR hS [.int (200 : Int32)] (m_X0_counts l G F h n a0 (200 : Int32) eu2) yk_X0_counts q1133 k1 rfl hl.1 ⟨Nat.le_of_ble_eq_true rfl, Nat.le_of_ble_eq_true rfl⟩ ⟨Nat.le_of_ble_eq_true rfl, Nat.le_of_ble_eq_true rfl⟩ rfl (Nat.le_of_ble_eq_true rfl) dX0_tune_4 (fun H locs hR hS => ?_)
  refine lv_if_ne (tgt := 13) hx hb dX0_tune_7 (by decide) (fun c3 => ?_) (fun c3 => ?_)
  · replace hf := gIfn c3 hf
    refine lv_iconst (v := (0 : Int32)) hx hb dX0_tune_13 (by decide) ?_
    refine lv_istore_n (lv' := [(1, .int (0 : Int32)), (0, .ref a0)]) hx hb dX0_tune_14 rfl hl (by decide) rfl (fun ls hl => ?_)
    have L15_q4 : ∀ (f : Nat) (h15L : gH) (v15_0 : Nat) (v15_1 : Int32) (o5 : gH) (H : Heap) (locs : List Loc) (ls : Array Slot), sp_X0_tune_L15 G F f h15L v15_0 v15_1 = some o5 → gRep G h15L n H → va_S (gFr G) s.heap H locs → lv_has ls 5 [(0, .ref v15_0), (1, .int v15_1)] → (∀ (H : Heap) (locs : List Loc) (ls : Array Slot), gRep G o5 n H → va_S (gFr G) s.heap H locs → lv_has ls 5 [(0, .ref v15_0)] → W p l e ({ frames := 6, cells := 0, slots := 0, locals := 137 } : Room) s m ([.ref a0] : List Value).toArray below meth c H locs 0 0 (MQ below (gQ G (some (.int r)) h' n) ([.ref a0] : List Value).toArray s 0 0 (gFr G)) (F0 m 96 ls [])) → W p l e ({ frames := 6, cells := 0, slots := 0, locals := 137 } : Room) s m ([.ref a0] : List Value).toArray below meth c H locs 0 0 (MQ below (gQ G (some (.int r)) h' n) ([.ref a0] : List Value).toArray s 0 0 (gFr G)) (F0 m 15 ls []) := by
      clear hf
      intro f
      induction f with
      | zero =>
        intro h15L v15_0 v15_1 o5 H locs ls hf
        cases hf
      | succ f ih =>
        intro h15L v15_0 v15_1 o5 H locs ls hf hR hS hl K15
        rw [sp_X0_tune_L15] at hf
        refine lv_iload_n hx hb dX0_tune_15 rfl (lv_at hl 1 rfl) ?_
        refine lv_iconst (v := (4 : Int32)) hx hb dX0_tune_16 (by decide) ?_
        refine lv_aload_n hx hb dX0_tune_17 rfl (lv_at hl 0 rfl) ?_
        obtain ⟨x1601, ex1601, hf⟩ := gBind hf
        refine g_getr X hR gk_X0 0 (by decide) q792 rfl ex1601 dX0_tune_18 ?_
        obtain ⟨x1602, ex1602, hf⟩ := gBind hf
        refine g_getiN X hR gk_X1 18 (by decide) q658 rfl ex1602 dX0_tune_21 ?_
        refine lv_imul hx hb dX0_tune_24 ?_
        refine lv_icmp_ge (tgt := 96) hx hb dX0_tune_25 (by decide) (fun c1603 => ?_) (fun c1603 => ?_)
        · replace hf := gIfp c1603 hf
          obtain rfl := gO1 hf
          exact K15 _ _ _ hR hS (lv_sub hl [0] rfl)
        · replace hf := gIfn c1603 hf
          refine lv_iload_n hx hb dX0_tune_28 rfl (lv_at hl 1 rfl) ?_
          refine lv_aload_n hx hb dX0_tune_29 rfl (lv_at hl 0 rfl) ?_
          obtain ⟨x1604, ex1604, hf⟩ := gBind hf
          refine g_getr X hR gk_X0 0 (by decide) q792 rfl ex1604 dX0_tune_30 ?_
          obtain ⟨x1605, ex1605, hf⟩ := gBind hf
          refine g_getiN X hR gk_X1 18 (by decide) q658 rfl ex1605 dX0_tune_33 ?_
          obtain ⟨k1606, hf⟩ := gChk hf
          refine lv_irem hx hb dX0_tune_36 k1606 ?_
          refine lv_istore_n (lv' := [(2, .int (v15_1 - v15_1 / x1605 * x1605)), (0, .ref v15_0), (1, .int v15_1)]) hx hb dX0_tune_37 rfl hl (by decide) rfl (fun ls hl => ?_)
          refine lv_aload_n hx hb dX0_tune_38 rfl (lv_at hl 1 rfl) ?_
          obtain ⟨x1607, ex1607, hf⟩ := gBind hf
          refine g_getr X hR gk_X0 0 (by decide) q792 rfl ex1607 dX0_tune_39 ?_
          obtain ⟨x1608, ex1608, hf⟩ := gBind hf
          refine g_getrN X hR gk_X1 26 (by decide) q674 rfl ex1608 dX0_tune_42 ?_
          refine lv_iload_n hx hb dX0_tune_45 rfl (lv_at hl 0 rfl) ?_
          obtain ⟨a1609, ea1609, hf⟩ := gBind hf
          refine g_aald X hR 8 (by decide) rfl ea1609 dX0_tune_46 ?_
          obtain ⟨x1610, ex1610, hf⟩ := gBind hf
          refine g_getrN X hR gk_X6 0 (by decide) q618 rfl ex1610 dX0_tune_47 ?_
          refine lv_iconst (v := (0 : Int32)) hx hb dX0_tune_50 (by decide) ?_
          obtain ⟨x1611, ex1611, hf⟩ := gBind hf
          refine g_iald X hR ex1611 dX0_tune_51 ?_
          refine lv_istore_n (lv' := [(3, .int x1611), (2, .int (v15_1 - v15_1 / x1605 * x1605)), (0, .ref v15_0), (1, .int v15_1)]) hx hb dX0_tune_52 rfl hl (by decide) rfl (fun ls hl => ?_)
          refine lv_aload_n hx hb dX0_tune_53 rfl (lv_at hl 2 rfl) ?_
          obtain ⟨x1612, ex1612, hf⟩ := gBind hf
          refine g_getr X hR gk_X0 0 (by decide) q792 rfl ex1612 dX0_tune_54 ?_
          obtain ⟨k1613, hf⟩ := gChk hf
          obtain ⟨u1614, eu1614, hf⟩ := gBind hf
          refine g_callVi X hR hS [] (m_X1_bands l G F h15L n x1612 eu1614) yk_X1_bands q1472 k1613 rfl hl.1 ⟨Nat.le_of_ble_eq_true rfl, Nat.le_of_ble_eq_true rfl⟩ ⟨Nat.le_of_ble_eq_true rfl, Nat.le_of_ble_eq_true rfl⟩ rfl (Nat.le_of_ble_eq_true rfl) dX0_tune_57 (fun H locs hR hS => ?_)
          refine lv_istore (lv' := [(4, .int u1614), (3, .int x1611), (2, .int (v15_1 - v15_1 / x1605 * x1605)), (0, .ref v15_0), (1, .int v15_1)]) hx hb dX0_tune_60 hl (by decide) rfl (fun ls hl => ?_)
          refine lv_aload_n hx hb dX0_tune_62 rfl (lv_at hl 3 rfl) ?_
          obtain ⟨x1615, ex1615, hf⟩ := gBind hf
          refine g_getr X hR gk_X0 0 (by decide) q792 rfl ex1615 dX0_tune_63 ?_
          refine lv_iload_n hx hb dX0_tune_66 rfl (lv_at hl 2 rfl) ?_
          obtain ⟨k1616, hf⟩ := gChk hf
          obtain ⟨u1617, eu1617, hf⟩ := gBind hf
          refine g_callVi X hR hS [.int (v15_1 - v15_1 / x1605 * x1605)] (m_X1_tunes l G F h15L n x1615 (v15_1 - v15_1 / x1605 * x1605) eu1617) yk_X1_tunes q1510 k1616 rfl hl.1 ⟨Nat.le_of_ble_eq_true rfl, Nat.le_of_ble_eq_true rfl⟩ ⟨Nat.le_of_ble_eq_true rfl, Nat.le_of_ble_eq_true rfl⟩ rfl (Nat.le_of_ble_eq_true rfl) dX0_tune_67 (fun H locs hR hS => ?_)
          refine lv_iload hx hb dX0_tune_70 (lv_at hl 0 rfl) ?_
          refine lv_icmp_ne (tgt := 90) hx hb dX0_tune_72 (by decide) (fun c1618 => ?_) (fun c1618 => ?_)
          · replace hf := gIfn c1618 hf
            refine lv_iinc (v := v15_1 + (1 : Int32)) (lv' := [(1, .int (v15_1 + (1 : Int32))), (4, .int u1614), (3, .int x1611), (2, .int (v15_1 - v15_1 / x1605 * x1605)), (0, .ref v15_0)]) hx hb dX0_tune_90 hl (k := 4) rfl rfl (by decide) rfl (fun ls hl => ?_)
            refine lv_goto (tgt := 15) hx hb dX0_tune_93 (by decide) ?_
            exact ih u1617.2 v15_0 (v15_1 + (1 : Int32)) _ _ _ _ hf hR hS (lv_sub hl [4, 0] rfl) K15
          · replace hf := gIfp c1618 hf
            refine lv_aload_n hx hb dX0_tune_75 rfl (lv_at hl 3 rfl) ?_
            obtain ⟨x1619, ex1619, hf⟩ := gBind hf
            refine g_getr X hR gk_X0 0 (by decide) q792 rfl ex1619 dX0_tune_76 ?_
            obtain ⟨x1620, ex1620, hf⟩ := gBind hf
            refine g_getrN X hR gk_X1 26 (by decide) q674 rfl ex1620 dX0_tune_79 ?_
            refine lv_iload_n hx hb dX0_tune_82 rfl (lv_at hl 2 rfl) ?_
            obtain ⟨a1621, ea1621, hf⟩ := gBind hf
            refine g_aald X hR 8 (by decide) rfl ea1621 dX0_tune_83 ?_
            obtain ⟨x1622, ex1622, hf⟩ := gBind hf
            refine g_getrN X hR gk_X6 0 (by decide) q618 rfl ex1622 dX0_tune_84 ?_
            refine lv_iconst (v := (0 : Int32)) hx hb dX0_tune_87 (by decide) ?_
            refine lv_iload_n hx hb dX0_tune_88 rfl (lv_at hl 1 rfl) ?_
            obtain ⟨h1623, eh1623, hf⟩ := gBind hf
            refine g_iast X hR hS eh1623 dX0_tune_89 (fun H locs hR hS => ?_)
            refine lv_iinc (v := v15_1 + (1 : Int32)) (lv' := [(1, .int (v15_1 + (1 : Int32))), (4, .int u1614), (3, .int x1611), (2, .int (v15_1 - v15_1 / x1605 * x1605)), (0, .ref v15_0)]) hx hb dX0_tune_90 hl (k := 4) rfl rfl (by decide) rfl (fun ls hl => ?_)
            refine lv_goto (tgt := 15) hx hb dX0_tune_93 (by decide) ?_
            exact ih h1623 v15_0 (v15_1 + (1 : Int32)) _ _ _ _ hf hR hS (lv_sub hl [4, 0] rfl) K15
    obtain ⟨y6, ey6, hf⟩ := gBind hf
    refine L15_q4 F u2.2 a0 (0 : Int32) y6 _ _ _ ey6 hR hS (lv_sub hl [1, 0] rfl) (fun H locs ls hR hS hl => ?_)
    refine lv_aload_n hx hb dX0_tune_96 rfl (lv_at hl 0 rfl) ?_
    obtain ⟨x7, ex7, hf⟩ := gBind hf
    refine g_getr X hR gk_X0 0 (by decide) q792 rfl ex7 dX0_tune_97 ?_
    obtain ⟨k8, hf⟩ := gChk hf
    obtain ⟨u9, eu9, hf⟩ := gBind hf
    refine g_callVi X hR hS [] (m_X1_bands l G F y6 n x7 eu9) yk_X1_bands q1472 k8 rfl hl.1 ⟨Nat.le_of_ble_eq_true rfl, Nat.le_of_ble_eq_true rfl⟩ ⟨Nat.le_of_ble_eq_true rfl, Nat.le_of_ble_eq_true rfl⟩ rfl (Nat.le_of_ble_eq_true rfl) dX0_tune_100 (fun H locs hR hS => ?_)
    obtain ⟨rfl, rfl⟩ := gO2 hf
    exact g_iret X hR hS _ rfl ⟨Nat.le_of_ble_eq_true rfl, Nat.le_of_ble_eq_true rfl⟩ dX0_tune_103
  · replace hf := gIfp c3 hf
    refine lv_bipush (v := (-4 : Int32)) hx hb dX0_tune_10 (by decide) ?_
    obtain ⟨rfl, rfl⟩ := gO2 hf
    exact g_iret X hR hS _ rfl ⟨Nat.le_of_ble_eq_true rfl, Nat.le_of_ble_eq_true rfl⟩ dX0_tune_12

def sp_X0_would (G : gG) (F : Nat) (h : gH) (a0 : Nat) (p1 : Int32) (p2 : Int32) : Option (Int32 × gH) :=
 (sp_X0_in G F h p2.toInt64 (0 : Int64) (18 : Int64)).bind fun u1 =>
 if u1 = 0 then
 some (((-1 : Int32), h)) else
 (sp_X0_in G F h p1.toInt64 (0 : Int64) (99 : Int64)).bind fun u3 =>
 if u3 = 0 then
 some (((-2 : Int32), h)) else
 (gGr 0 h a0 0).bind fun x5 =>
 (gGi 1 h x5 0).bind fun x6 =>
 if x6 = 0 then
 some (((-3 : Int32), h)) else
 if gIs 0 h a0 = true then
 (sp_X0_counts G F h a0 p1).bind fun u9 =>
 if u9.1 = 0 then
 some (((-4 : Int32), u9.2)) else
 if gIs 0 u9.2 a0 = true then
 (sp_X0_thought G F u9.2 a0).bind fun u12 =>
 if gIs 1 u12.2 u12.1 = true then
 (sp_X1_passes G F u12.2 u12.1 p1).bind fun u14 =>
 (sp_X0_toldOf G F u14.2 u14.1 p2).bind fun u15 =>
 some ((u15, u14.2)) else none else none else none
theorem yk_X0_would : gVk yX0_would cX0_would 3 (some .int) 2 0 := ⟨q1520, q1521, q92, q1522, ⟨by decide +kernel, by decide +kernel, by decide +kernel⟩, rfl⟩
set_option maxHeartbeats 4000000 in
theorem m_X0_would (l : Launch) (G : gG) (F : Nat) (h : gH) (n : Nat) (a0 : Nat) (p1 : Int32) (p2 : Int32) {r : Int32} {h' : gH} (hf : sp_X0_would G F h a0 p1 p2 = some (r, h')) : gMet l G yX0_would cX0_would 3 (some .int) 6 134 0 0 [.ref a0, .int p1, .int p2] h n (some (.int r)) h' n := by
  refine gEnter (by decide) [(0, .ref a0), (1, .int p1), (2, .int p2)] rfl (Nat.le_of_ble_eq_true rfl) ?_
  intro p e s m below meth c H ls X hin hR hS hl
  have hx := X.1.1
  have hb := X.1.2.1
  unfold sp_X0_would at hf
  generalize ([] : List Loc) = locs at hS ⊢
  refine lv_iload_n hx hb dX0_would_0 rfl (lv_at hl 2 rfl) ?_
  refine lv_i2l (v := p2.toInt64) hx hb dX0_would_1 rfl ?_
  refine lv_lconst (v := (0 : Int64)) hx hb dX0_would_2 (by decide) ?_
  refine lv_ldc2 (v := (18 : Int64)) hx hb X.1.2.2.2.1 (X.1.2.2.2.2 _ q1251) dX0_would_3 ?_
  obtain ⟨u1, eu1, hf⟩ := gBind hf
  refine g_callSi X hR hS [.long p2.toInt64, .long (0 : Int64), .long (18 : Int64)] (m_X0_in l G F h n p2.toInt64 (0 : Int64) (18 : Int64) eu1) yk_X0_in q830 rfl hl.1 ⟨Nat.le_of_ble_eq_true rfl, Nat.le_of_ble_eq_true rfl⟩ ⟨Nat.le_of_ble_eq_true rfl, Nat.le_of_ble_eq_true rfl⟩ rfl (Nat.le_of_ble_eq_true rfl) dX0_would_6 (fun H locs hR hS => ?_)
  refine lv_if_ne (tgt := 14) hx hb dX0_would_9 (by decide) (fun c2 => ?_) (fun c2 => ?_)
  · replace hf := gIfn c2 hf
    refine lv_iload_n hx hb dX0_would_14 rfl (lv_at hl 1 rfl) ?_
    refine lv_i2l (v := p1.toInt64) hx hb dX0_would_15 rfl ?_
    refine lv_lconst (v := (0 : Int64)) hx hb dX0_would_16 (by decide) ?_
    refine lv_ldc2 (v := (99 : Int64)) hx hb X.1.2.2.2.1 (X.1.2.2.2.2 _ q949) dX0_would_17 ?_
    obtain ⟨u3, eu3, hf⟩ := gBind hf
    refine g_callSi X hR hS [.long p1.toInt64, .long (0 : Int64), .long (99 : Int64)] (m_X0_in l G F h n p1.toInt64 (0 : Int64) (99 : Int64) eu3) yk_X0_in q830 rfl hl.1 ⟨Nat.le_of_ble_eq_true rfl, Nat.le_of_ble_eq_true rfl⟩ ⟨Nat.le_of_ble_eq_true rfl, Nat.le_of_ble_eq_true rfl⟩ rfl (Nat.le_of_ble_eq_true rfl) dX0_would_20 (fun H locs hR hS => ?_)
    refine lv_if_ne (tgt := 29) hx hb dX0_would_23 (by decide) (fun c4 => ?_) (fun c4 => ?_)
    · replace hf := gIfn c4 hf
      refine lv_aload_n hx hb dX0_would_29 rfl (lv_at hl 0 rfl) ?_
      obtain ⟨x5, ex5, hf⟩ := gBind hf
      refine g_getr X hR gk_X0 0 (by decide) q792 rfl ex5 dX0_would_30 ?_
      obtain ⟨x6, ex6, hf⟩ := gBind hf
      refine g_getiN X hR gk_X1 0 (by decide) q623 rfl ex6 dX0_would_33 ?_
      refine lv_if_ne (tgt := 42) hx hb dX0_would_36 (by decide) (fun c7 => ?_) (fun c7 => ?_)
      · replace hf := gIfn c7 hf
        refine lv_aload_n hx hb dX0_would_42 rfl (lv_at hl 0 rfl) ?_
        refine lv_iload_n hx hb dX0_would_43 rfl (lv_at hl 1 rfl) ?_
        obtain ⟨k8, hf⟩ := gChk hf
        obtain ⟨u9, eu9, hf⟩ := gBind hf
        refine g_callVi X hR hS [.int p1] (m_X0_counts l G F h n a0 p1 eu9) yk_X0_counts q1133 k8 rfl hl.1 ⟨Nat.le_of_ble_eq_true rfl, Nat.le_of_ble_eq_true rfl⟩ ⟨Nat.le_of_ble_eq_true rfl, Nat.le_of_ble_eq_true rfl⟩ rfl (Nat.le_of_ble_eq_true rfl) dX0_would_44 (fun H locs hR hS => ?_)
        refine lv_if_eq (tgt := 65) hx hb dX0_would_47 (by decide) (fun c10 => ?_) (fun c10 => ?_)
        · replace hf := gIfp c10 hf
          refine lv_bipush (v := (-4 : Int32)) hx hb dX0_would_65 (by decide) ?_
          obtain ⟨rfl, rfl⟩ := gO2 hf
          exact g_iret X hR hS _ rfl ⟨Nat.le_of_ble_eq_true rfl, Nat.le_of_ble_eq_true rfl⟩ dX0_would_67
        · replace hf := gIfn c10 hf
          refine lv_aload_n hx hb dX0_would_50 rfl (lv_at hl 0 rfl) ?_
          obtain ⟨k11, hf⟩ := gChk hf
          obtain ⟨u12, eu12, hf⟩ := gBind hf
          refine g_callVr X hR hS [] (m_X0_thought l G F u9.2 n a0 eu12) yk_X0_thought q1494 k11 rfl hl.1 ⟨Nat.le_of_ble_eq_true rfl, Nat.le_of_ble_eq_true rfl⟩ ⟨Nat.le_of_ble_eq_true rfl, Nat.le_of_ble_eq_true rfl⟩ rfl (Nat.le_of_ble_eq_true rfl) dX0_would_51 (fun H locs hR hS => ?_)
          refine lv_iload_n hx hb dX0_would_54 rfl (lv_at hl 1 rfl) ?_
          obtain ⟨k13, hf⟩ := gChk hf
          obtain ⟨u14, eu14, hf⟩ := gBind hf
          refine g_callVr X hR hS [.int p1] (m_X1_passes l G F u12.2 n u12.1 p1 eu14) yk_X1_passes q1137 k13 rfl hl.1 ⟨Nat.le_of_ble_eq_true rfl, Nat.le_of_ble_eq_true rfl⟩ ⟨Nat.le_of_ble_eq_true rfl, Nat.le_of_ble_eq_true rfl⟩ rfl (Nat.le_of_ble_eq_true rfl) dX0_would_55 (fun H locs hR hS => ?_)
          refine lv_iload_n hx hb dX0_would_58 rfl (lv_at hl 2 rfl) ?_
          obtain ⟨u15, eu15, hf⟩ := gBind hf
          refine g_callSi X hR hS [.ref u14.1, .int p2] (m_X0_toldOf l G F u14.2 n u14.1 p2 eu15) yk_X0_toldOf q1252 rfl hl.1 ⟨Nat.le_of_ble_eq_true rfl, Nat.le_of_ble_eq_true rfl⟩ ⟨Nat.le_of_ble_eq_true rfl, Nat.le_of_ble_eq_true rfl⟩ rfl (Nat.le_of_ble_eq_true rfl) dX0_would_59 (fun H locs hR hS => ?_)
          refine lv_goto (tgt := 67) hx hb dX0_would_62 (by decide) ?_
          obtain ⟨rfl, rfl⟩ := gO2 hf
          exact g_iret X hR hS _ rfl ⟨Nat.le_of_ble_eq_true rfl, Nat.le_of_ble_eq_true rfl⟩ dX0_would_67
      · replace hf := gIfp c7 hf
        refine lv_bipush (v := (-3 : Int32)) hx hb dX0_would_39 (by decide) ?_
        obtain ⟨rfl, rfl⟩ := gO2 hf
        exact g_iret X hR hS _ rfl ⟨Nat.le_of_ble_eq_true rfl, Nat.le_of_ble_eq_true rfl⟩ dX0_would_41
    · replace hf := gIfp c4 hf
      refine lv_bipush (v := (-2 : Int32)) hx hb dX0_would_26 (by decide) ?_
      obtain ⟨rfl, rfl⟩ := gO2 hf
      exact g_iret X hR hS _ rfl ⟨Nat.le_of_ble_eq_true rfl, Nat.le_of_ble_eq_true rfl⟩ dX0_would_28
  · replace hf := gIfp c2 hf
    refine lv_iconst (v := (-1 : Int32)) hx hb dX0_would_12 (by decide) ?_
    obtain ⟨rfl, rfl⟩ := gO2 hf
    exact g_iret X hR hS _ rfl ⟨Nat.le_of_ble_eq_true rfl, Nat.le_of_ble_eq_true rfl⟩ dX0_would_13

def sp_X0_turns_L57 (G : gG) (F : Nat) : Nat → gH → Int32 → Int32 → Nat → Int32 → Option (Int32 × gH)
  | 0, _, _, _, _, _ => none
  | f + 1, h57L, v57_1, v57_2, v57_3, v57_4 =>
    if v57_2 ≤ v57_4 then
    some (((-5 : Int32), h57L)) else
    if gIs 1 h57L v57_3 = true then
    (sp_X1_passes G F h57L v57_3 (1 : Int32)).bind fun u5803 =>
    (gGr 1 u5803.2 u5803.1 22).bind fun x5804 =>
    (gAr 5 u5803.2 x5804 v57_1).bind fun a5805 =>
    (gGi 2 u5803.2 a5805 6).bind fun x5806 =>
    if x5806 = 0 then
    sp_X0_turns_L57 G F f u5803.2 v57_1 v57_2 v57_3 (v57_4 + (1 : Int32)) else
    (gGi 1 u5803.2 v57_3 1).bind fun x5808 =>
    some ((x5808 - (1 : Int32), u5803.2)) else none
def sp_X0_turns (G : gG) (F : Nat) (h : gH) (a0 : Nat) (p1 : Int32) (p2 : Int32) : Option (Int32 × gH) :=
 if gIs 0 h a0 = true then
 (sp_X0_isSignal G F h a0 p1).bind fun u2 =>
 if u2 = 0 then
 some (((-1 : Int32), h)) else
 (sp_X0_in G F h p2.toInt64 (0 : Int64) (99 : Int64)).bind fun u4 =>
 if u4 = 0 then
 some (((-2 : Int32), h)) else
 (gGr 0 h a0 0).bind fun x6 =>
 (gGi 1 h x6 0).bind fun x7 =>
 if x7 = 0 then
 some (((-3 : Int32), h)) else
 if gIs 0 h a0 = true then
 (sp_X0_counts G F h a0 p2).bind fun u10 =>
 if u10.1 = 0 then
 some (((-4 : Int32), u10.2)) else
 if gIs 0 u10.2 a0 = true then
 (sp_X0_thought G F u10.2 a0).bind fun u13 =>
 sp_X0_turns_L57 G F F u13.2 p1 p2 u13.1 (0 : Int32) else none else none else none
theorem yk_X0_turns : gVk yX0_turns cX0_turns 5 (some .int) 2 0 := ⟨q1524, q1525, q92, q1526, ⟨by decide +kernel, by decide +kernel, by decide +kernel⟩, rfl⟩
set_option maxHeartbeats 4000000 in
theorem m_X0_turns (l : Launch) (G : gG) (F : Nat) (h : gH) (n : Nat) (a0 : Nat) (p1 : Int32) (p2 : Int32) {r : Int32} {h' : gH} (hf : sp_X0_turns G F h a0 p1 p2 = some (r, h')) : gMet l G yX0_turns cX0_turns 5 (some .int) 6 134 0 0 [.ref a0, .int p1, .int p2] h n (some (.int r)) h' n := by
  refine gEnter (by decide) [(0, .ref a0), (1, .int p1), (2, .int p2)] rfl (Nat.le_of_ble_eq_true rfl) ?_
  intro p e s m below meth c H ls X hin hR hS hl
  have hx := X.1.1
  have hb := X.1.2.1
  unfold sp_X0_turns at hf
  generalize ([] : List Loc) = locs at hS ⊢
  refine lv_aload_n hx hb dX0_turns_0 rfl (lv_at hl 0 rfl) ?_
  refine lv_iload_n hx hb dX0_turns_1 rfl (lv_at hl 1 rfl) ?_
  obtain ⟨k1, hf⟩ := gChk hf
  obtain ⟨u2, eu2, hf⟩ := gBind hf
  refine g_callVi X hR hS [.int p1] (m_X0_isSignal l G F h n a0 p1 eu2) yk_X0_isSignal q931 k1 rfl hl.1 ⟨Nat.le_of_ble_eq_true rfl, Nat.le_of_ble_eq_true rfl⟩ ⟨Nat.le_of_ble_eq_true rfl, Nat.le_of_ble_eq_true rfl⟩ rfl (Nat.le_of_ble_eq_true rfl) dX0_turns_2 (fun H locs hR hS => ?_)
  refine lv_if_ne (tgt := 10) hx hb dX0_turns_5 (by decide) (fun c3 => ?_) (fun c3 => ?_)
  · replace hf := gIfn c3 hf
    refine lv_iload_n hx hb dX0_turns_10 rfl (lv_at hl 2 rfl) ?_
    refine lv_i2l (v := p2.toInt64) hx hb dX0_turns_11 rfl ?_
    refine lv_lconst (v := (0 : Int64)) hx hb dX0_turns_12 (by decide) ?_
    refine lv_ldc2 (v := (99 : Int64)) hx hb X.1.2.2.2.1 (X.1.2.2.2.2 _ q949) dX0_turns_13 ?_
    obtain ⟨u4, eu4, hf⟩ := gBind hf
    refine g_callSi X hR hS [.long p2.toInt64, .long (0 : Int64), .long (99 : Int64)] (m_X0_in l G F h n p2.toInt64 (0 : Int64) (99 : Int64) eu4) yk_X0_in q830 rfl hl.1 ⟨Nat.le_of_ble_eq_true rfl, Nat.le_of_ble_eq_true rfl⟩ ⟨Nat.le_of_ble_eq_true rfl, Nat.le_of_ble_eq_true rfl⟩ rfl (Nat.le_of_ble_eq_true rfl) dX0_turns_16 (fun H locs hR hS => ?_)
    refine lv_if_ne (tgt := 25) hx hb dX0_turns_19 (by decide) (fun c5 => ?_) (fun c5 => ?_)
    · replace hf := gIfn c5 hf
      refine lv_aload_n hx hb dX0_turns_25 rfl (lv_at hl 0 rfl) ?_
      obtain ⟨x6, ex6, hf⟩ := gBind hf
      refine g_getr X hR gk_X0 0 (by decide) q792 rfl ex6 dX0_turns_26 ?_
      obtain ⟨x7, ex7, hf⟩ := gBind hf
      refine g_getiN X hR gk_X1 0 (by decide) q623 rfl ex7 dX0_turns_29 ?_
      refine lv_if_ne (tgt := 38) hx hb dX0_turns_32 (by decide) (fun c8 => ?_) (fun c8 => ?_)
      · replace hf := gIfn c8 hf
        refine lv_aload_n hx hb dX0_turns_38 rfl (lv_at hl 0 rfl) ?_
        refine lv_iload_n hx hb dX0_turns_39 rfl (lv_at hl 2 rfl) ?_
        obtain ⟨k9, hf⟩ := gChk hf
        obtain ⟨u10, eu10, hf⟩ := gBind hf
        refine g_callVi X hR hS [.int p2] (m_X0_counts l G F h n a0 p2 eu10) yk_X0_counts q1133 k9 rfl hl.1 ⟨Nat.le_of_ble_eq_true rfl, Nat.le_of_ble_eq_true rfl⟩ ⟨Nat.le_of_ble_eq_true rfl, Nat.le_of_ble_eq_true rfl⟩ rfl (Nat.le_of_ble_eq_true rfl) dX0_turns_40 (fun H locs hR hS => ?_)
        refine lv_if_ne (tgt := 49) hx hb dX0_turns_43 (by decide) (fun c11 => ?_) (fun c11 => ?_)
        · replace hf := gIfn c11 hf
          refine lv_aload_n hx hb dX0_turns_49 rfl (lv_at hl 0 rfl) ?_
          obtain ⟨k12, hf⟩ := gChk hf
          obtain ⟨u13, eu13, hf⟩ := gBind hf
          refine g_callVr X hR hS [] (m_X0_thought l G F u10.2 n a0 eu13) yk_X0_thought q1494 k12 rfl hl.1 ⟨Nat.le_of_ble_eq_true rfl, Nat.le_of_ble_eq_true rfl⟩ ⟨Nat.le_of_ble_eq_true rfl, Nat.le_of_ble_eq_true rfl⟩ rfl (Nat.le_of_ble_eq_true rfl) dX0_turns_50 (fun H locs hR hS => ?_)
          refine lv_astore_n (lv' := [(3, .ref u13.1), (0, .ref a0), (1, .int p1), (2, .int p2)]) hx hb dX0_turns_53 rfl hl (by decide) rfl (fun ls hl => ?_)
          refine lv_iconst (v := (0 : Int32)) hx hb dX0_turns_54 (by decide) ?_
          refine lv_istore (lv' := [(4, .int (0 : Int32)), (3, .ref u13.1), (0, .ref a0), (1, .int p1), (2, .int p2)]) hx hb dX0_turns_55 hl (by decide) rfl (fun ls hl => ?_)
          have L57_q14 : ∀ (f : Nat) (h57L : gH) (v57_1 : Int32) (v57_2 : Int32) (v57_3 : Nat) (v57_4 : Int32) (H : Heap) (locs : List Loc) (ls : Array Slot), sp_X0_turns_L57 G F f h57L v57_1 v57_2 v57_3 v57_4 = some (r, h') → gRep G h57L n H → va_S (gFr G) s.heap H locs → lv_has ls 5 [(1, .int v57_1), (2, .int v57_2), (3, .ref v57_3), (4, .int v57_4)] → W p l e ({ frames := 6, cells := 0, slots := 0, locals := 134 } : Room) s m ([.ref a0, .int p1, .int p2] : List Value).toArray below meth c H locs 0 0 (MQ below (gQ G (some (.int r)) h' n) ([.ref a0, .int p1, .int p2] : List Value).toArray s 0 0 (gFr G)) (F0 m 57 ls []) := by
            clear hf
            intro f
            induction f with
            | zero =>
              intro h57L v57_1 v57_2 v57_3 v57_4 H locs ls hf
              cases hf
            | succ f ih =>
              intro h57L v57_1 v57_2 v57_3 v57_4 H locs ls hf hR hS hl
              rw [sp_X0_turns_L57] at hf
              refine lv_iload hx hb dX0_turns_57 (lv_at hl 3 rfl) ?_
              refine lv_iload_n hx hb dX0_turns_59 rfl (lv_at hl 1 rfl) ?_
              refine lv_icmp_ge (tgt := 92) hx hb dX0_turns_60 (by decide) (fun c5801 => ?_) (fun c5801 => ?_)
              · replace hf := gIfp c5801 hf
                refine lv_bipush (v := (-5 : Int32)) hx hb dX0_turns_92 (by decide) ?_
                obtain ⟨rfl, rfl⟩ := gO2 hf
                exact g_iret X hR hS _ rfl ⟨Nat.le_of_ble_eq_true rfl, Nat.le_of_ble_eq_true rfl⟩ dX0_turns_94
              · replace hf := gIfn c5801 hf
                refine lv_aload_n hx hb dX0_turns_63 rfl (lv_at hl 2 rfl) ?_
                refine lv_iconst (v := (1 : Int32)) hx hb dX0_turns_64 (by decide) ?_
                obtain ⟨k5802, hf⟩ := gChk hf
                obtain ⟨u5803, eu5803, hf⟩ := gBind hf
                refine g_callVr X hR hS [.int (1 : Int32)] (m_X1_passes l G F h57L n v57_3 (1 : Int32) eu5803) yk_X1_passes q1137 k5802 rfl hl.1 ⟨Nat.le_of_ble_eq_true rfl, Nat.le_of_ble_eq_true rfl⟩ ⟨Nat.le_of_ble_eq_true rfl, Nat.le_of_ble_eq_true rfl⟩ rfl (Nat.le_of_ble_eq_true rfl) dX0_turns_65 (fun H locs hR hS => ?_)
                obtain ⟨x5804, ex5804, hf⟩ := gBind hf
                refine g_getrN X hR gk_X1 22 (by decide) q666 rfl ex5804 dX0_turns_68 ?_
                refine lv_iload_n hx hb dX0_turns_71 rfl (lv_at hl 0 rfl) ?_
                obtain ⟨a5805, ea5805, hf⟩ := gBind hf
                refine g_aald X hR 5 (by decide) rfl ea5805 dX0_turns_72 ?_
                obtain ⟨x5806, ex5806, hf⟩ := gBind hf
                refine g_getiN X hR gk_X2 6 (by decide) q531 rfl ex5806 dX0_turns_73 ?_
                refine lv_if_eq (tgt := 86) hx hb dX0_turns_76 (by decide) (fun c5807 => ?_) (fun c5807 => ?_)
                · replace hf := gIfp c5807 hf
                  refine lv_iinc (v := v57_4 + (1 : Int32)) (lv' := [(4, .int (v57_4 + (1 : Int32))), (1, .int v57_1), (2, .int v57_2), (3, .ref v57_3)]) hx hb dX0_turns_86 hl (k := 3) rfl rfl (by decide) rfl (fun ls hl => ?_)
                  refine lv_goto (tgt := 57) hx hb dX0_turns_89 (by decide) ?_
                  exact ih u5803.2 v57_1 v57_2 v57_3 (v57_4 + (1 : Int32)) _ _ _ hf hR hS (lv_sub hl [1, 2, 3, 0] rfl)
                · replace hf := gIfn c5807 hf
                  refine lv_aload_n hx hb dX0_turns_79 rfl (lv_at hl 2 rfl) ?_
                  obtain ⟨x5808, ex5808, hf⟩ := gBind hf
                  refine g_getiN X hR gk_X1 1 (by decide) q625 rfl ex5808 dX0_turns_80 ?_
                  refine lv_iconst (v := (1 : Int32)) hx hb dX0_turns_83 (by decide) ?_
                  refine lv_isub hx hb dX0_turns_84 ?_
                  obtain ⟨rfl, rfl⟩ := gO2 hf
                  exact g_iret X hR hS _ rfl ⟨Nat.le_of_ble_eq_true rfl, Nat.le_of_ble_eq_true rfl⟩ dX0_turns_85
          exact L57_q14 F u13.2 p1 p2 u13.1 (0 : Int32) _ _ _ hf hR hS (lv_sub hl [3, 4, 1, 0] rfl)
        · replace hf := gIfp c11 hf
          refine lv_bipush (v := (-4 : Int32)) hx hb dX0_turns_46 (by decide) ?_
          obtain ⟨rfl, rfl⟩ := gO2 hf
          exact g_iret X hR hS _ rfl ⟨Nat.le_of_ble_eq_true rfl, Nat.le_of_ble_eq_true rfl⟩ dX0_turns_48
      · replace hf := gIfp c8 hf
        refine lv_bipush (v := (-3 : Int32)) hx hb dX0_turns_35 (by decide) ?_
        obtain ⟨rfl, rfl⟩ := gO2 hf
        exact g_iret X hR hS _ rfl ⟨Nat.le_of_ble_eq_true rfl, Nat.le_of_ble_eq_true rfl⟩ dX0_turns_37
    · replace hf := gIfp c5 hf
      refine lv_bipush (v := (-2 : Int32)) hx hb dX0_turns_22 (by decide) ?_
      obtain ⟨rfl, rfl⟩ := gO2 hf
      exact g_iret X hR hS _ rfl ⟨Nat.le_of_ble_eq_true rfl, Nat.le_of_ble_eq_true rfl⟩ dX0_turns_24
  · replace hf := gIfp c3 hf
    refine lv_iconst (v := (-1 : Int32)) hx hb dX0_turns_8 (by decide) ?_
    obtain ⟨rfl, rfl⟩ := gO2 hf
    exact g_iret X hR hS _ rfl ⟨Nat.le_of_ble_eq_true rfl, Nat.le_of_ble_eq_true rfl⟩ dX0_turns_9

def sp_X0_best_L62 (G : gG) (F : Nat) : Nat → gH → Nat → Int32 → Int32 → Int32 → Int32 → Int32 → Option (Int32 × Int32 × gH)
  | 0, _, _, _, _, _, _, _ => none
  | f + 1, h62L, v62_0, v62_1, v62_2, v62_3, v62_4, v62_5 =>
    if (9 : Int32) < v62_5 then
    some (v62_3, v62_4, h62L) else
    if gIs 0 h62L v62_0 = true then
    (sp_X0_thought G F h62L v62_0).bind fun u6303 =>
    if gIs 1 u6303.2 u6303.1 = true then
    (sp_X1_withGap G F u6303.2 u6303.1 v62_5).bind fun u6305 =>
    if gIs 1 u6305.2 u6305.1 = true then
    (sp_X1_passes G F u6305.2 u6305.1 v62_1).bind fun u6307 =>
    (gGi 1 u6307.2 u6307.1 5).bind fun x6308 =>
    if v62_3 = (-1 : Int32) then
    sp_X0_best_L62 G F f u6307.2 v62_0 v62_1 v62_2 v62_5 x6308 (v62_5 + (1 : Int32)) else
    if v62_4 ≤ x6308 then
    sp_X0_best_L62 G F f u6307.2 v62_0 v62_1 v62_2 v62_3 v62_4 (v62_5 + (1 : Int32)) else
    sp_X0_best_L62 G F f u6307.2 v62_0 v62_1 v62_2 v62_5 x6308 (v62_5 + (1 : Int32)) else none else none else none
def sp_X0_best (G : gG) (F : Nat) (h : gH) (a0 : Nat) (p1 : Int32) (p2 : Int32) : Option (Int32 × gH) :=
 (sp_X0_in G F h p2.toInt64 (0 : Int64) (1 : Int64)).bind fun u1 =>
 if u1 = 0 then
 some (((-1 : Int32), h)) else
 (sp_X0_in G F h p1.toInt64 (0 : Int64) (60 : Int64)).bind fun u3 =>
 if u3 = 0 then
 some (((-2 : Int32), h)) else
 (gGr 0 h a0 0).bind fun x5 =>
 (gGi 1 h x5 0).bind fun x6 =>
 if x6 = 0 then
 some (((-3 : Int32), h)) else
 if gIs 0 h a0 = true then
 (sp_X0_counts G F h a0 ((9 : Int32) * p1)).bind fun u9 =>
 if u9.1 = 0 then
 some (((-4 : Int32), u9.2)) else
 (sp_X0_best_L62 G F F u9.2 a0 p1 p2 (-1 : Int32) (0 : Int32) (1 : Int32)).bind fun y13 =>
 if p2 = 0 then
 some ((y13.1, y13.2.2)) else
 some ((y13.2.1, y13.2.2)) else none
theorem yk_X0_best : gVk yX0_best cX0_best 7 (some .int) 2 0 := ⟨q1528, q1529, q92, q1530, ⟨by decide +kernel, by decide +kernel, by decide +kernel⟩, rfl⟩
set_option maxHeartbeats 4000000 in
theorem m_X0_best (l : Launch) (G : gG) (F : Nat) (h : gH) (n : Nat) (a0 : Nat) (p1 : Int32) (p2 : Int32) {r : Int32} {h' : gH} (hf : sp_X0_best G F h a0 p1 p2 = some (r, h')) : gMet l G yX0_best cX0_best 7 (some .int) 6 134 0 0 [.ref a0, .int p1, .int p2] h n (some (.int r)) h' n := by
  refine gEnter (by decide) [(0, .ref a0), (1, .int p1), (2, .int p2)] rfl (Nat.le_of_ble_eq_true rfl) ?_
  intro p e s m below meth c H ls X hin hR hS hl
  have hx := X.1.1
  have hb := X.1.2.1
  unfold sp_X0_best at hf
  generalize ([] : List Loc) = locs at hS ⊢
  refine lv_iload_n hx hb dX0_best_0 rfl (lv_at hl 2 rfl) ?_
  refine lv_i2l (v := p2.toInt64) hx hb dX0_best_1 rfl ?_
  refine lv_lconst (v := (0 : Int64)) hx hb dX0_best_2 (by decide) ?_
  refine lv_lconst (v := (1 : Int64)) hx hb dX0_best_3 (by decide) ?_
  obtain ⟨u1, eu1, hf⟩ := gBind hf
  refine g_callSi X hR hS [.long p2.toInt64, .long (0 : Int64), .long (1 : Int64)] (m_X0_in l G F h n p2.toInt64 (0 : Int64) (1 : Int64) eu1) yk_X0_in q830 rfl hl.1 ⟨Nat.le_of_ble_eq_true rfl, Nat.le_of_ble_eq_true rfl⟩ ⟨Nat.le_of_ble_eq_true rfl, Nat.le_of_ble_eq_true rfl⟩ rfl (Nat.le_of_ble_eq_true rfl) dX0_best_4 (fun H locs hR hS => ?_)
  refine lv_if_ne (tgt := 12) hx hb dX0_best_7 (by decide) (fun c2 => ?_) (fun c2 => ?_)
  · replace hf := gIfn c2 hf
    refine lv_iload_n hx hb dX0_best_12 rfl (lv_at hl 1 rfl) ?_
    refine lv_i2l (v := p1.toInt64) hx hb dX0_best_13 rfl ?_
    refine lv_lconst (v := (0 : Int64)) hx hb dX0_best_14 (by decide) ?_
    refine lv_ldc2 (v := (60 : Int64)) hx hb X.1.2.2.2.1 (X.1.2.2.2.2 _ q951) dX0_best_15 ?_
    obtain ⟨u3, eu3, hf⟩ := gBind hf
    refine g_callSi X hR hS [.long p1.toInt64, .long (0 : Int64), .long (60 : Int64)] (m_X0_in l G F h n p1.toInt64 (0 : Int64) (60 : Int64) eu3) yk_X0_in q830 rfl hl.1 ⟨Nat.le_of_ble_eq_true rfl, Nat.le_of_ble_eq_true rfl⟩ ⟨Nat.le_of_ble_eq_true rfl, Nat.le_of_ble_eq_true rfl⟩ rfl (Nat.le_of_ble_eq_true rfl) dX0_best_18 (fun H locs hR hS => ?_)
    refine lv_if_ne (tgt := 27) hx hb dX0_best_21 (by decide) (fun c4 => ?_) (fun c4 => ?_)
    · replace hf := gIfn c4 hf
      refine lv_aload_n hx hb dX0_best_27 rfl (lv_at hl 0 rfl) ?_
      obtain ⟨x5, ex5, hf⟩ := gBind hf
      refine g_getr X hR gk_X0 0 (by decide) q792 rfl ex5 dX0_best_28 ?_
      obtain ⟨x6, ex6, hf⟩ := gBind hf
      refine g_getiN X hR gk_X1 0 (by decide) q623 rfl ex6 dX0_best_31 ?_
      refine lv_if_ne (tgt := 40) hx hb dX0_best_34 (by decide) (fun c7 => ?_) (fun c7 => ?_)
      · replace hf := gIfn c7 hf
        refine lv_aload_n hx hb dX0_best_40 rfl (lv_at hl 0 rfl) ?_
        refine lv_bipush (v := (9 : Int32)) hx hb dX0_best_41 (by decide) ?_
        refine lv_iload_n hx hb dX0_best_43 rfl (lv_at hl 1 rfl) ?_
        refine lv_imul hx hb dX0_best_44 ?_
        obtain ⟨k8, hf⟩ := gChk hf
        obtain ⟨u9, eu9, hf⟩ := gBind hf
        refine g_callVi X hR hS [.int ((9 : Int32) * p1)] (m_X0_counts l G F h n a0 ((9 : Int32) * p1) eu9) yk_X0_counts q1133 k8 rfl hl.1 ⟨Nat.le_of_ble_eq_true rfl, Nat.le_of_ble_eq_true rfl⟩ ⟨Nat.le_of_ble_eq_true rfl, Nat.le_of_ble_eq_true rfl⟩ rfl (Nat.le_of_ble_eq_true rfl) dX0_best_45 (fun H locs hR hS => ?_)
        refine lv_if_ne (tgt := 54) hx hb dX0_best_48 (by decide) (fun c10 => ?_) (fun c10 => ?_)
        · replace hf := gIfn c10 hf
          refine lv_iconst (v := (-1 : Int32)) hx hb dX0_best_54 (by decide) ?_
          refine lv_istore_n (lv' := [(3, .int (-1 : Int32)), (0, .ref a0), (1, .int p1), (2, .int p2)]) hx hb dX0_best_55 rfl hl (by decide) rfl (fun ls hl => ?_)
          refine lv_iconst (v := (0 : Int32)) hx hb dX0_best_56 (by decide) ?_
          refine lv_istore (lv' := [(4, .int (0 : Int32)), (3, .int (-1 : Int32)), (0, .ref a0), (1, .int p1), (2, .int p2)]) hx hb dX0_best_57 hl (by decide) rfl (fun ls hl => ?_)
          refine lv_iconst (v := (1 : Int32)) hx hb dX0_best_59 (by decide) ?_
          refine lv_istore (lv' := [(5, .int (1 : Int32)), (4, .int (0 : Int32)), (3, .int (-1 : Int32)), (0, .ref a0), (1, .int p1), (2, .int p2)]) hx hb dX0_best_60 hl (by decide) rfl (fun ls hl => ?_)
          have L62_q11 : ∀ (f : Nat) (h62L : gH) (v62_0 : Nat) (v62_1 : Int32) (v62_2 : Int32) (v62_3 : Int32) (v62_4 : Int32) (v62_5 : Int32) (o12 : Int32 × Int32 × gH) (H : Heap) (locs : List Loc) (ls : Array Slot), sp_X0_best_L62 G F f h62L v62_0 v62_1 v62_2 v62_3 v62_4 v62_5 = some o12 → gRep G h62L n H → va_S (gFr G) s.heap H locs → lv_has ls 7 [(0, .ref v62_0), (1, .int v62_1), (2, .int v62_2), (3, .int v62_3), (4, .int v62_4), (5, .int v62_5)] → (∀ (H : Heap) (locs : List Loc) (ls : Array Slot), gRep G o12.2.2 n H → va_S (gFr G) s.heap H locs → lv_has ls 7 [(3, .int o12.1), (4, .int o12.2.1), (2, .int v62_2)] → W p l e ({ frames := 6, cells := 0, slots := 0, locals := 134 } : Room) s m ([.ref a0, .int p1, .int p2] : List Value).toArray below meth c H locs 0 0 (MQ below (gQ G (some (.int r)) h' n) ([.ref a0, .int p1, .int p2] : List Value).toArray s 0 0 (gFr G)) (F0 m 112 ls [])) → W p l e ({ frames := 6, cells := 0, slots := 0, locals := 134 } : Room) s m ([.ref a0, .int p1, .int p2] : List Value).toArray below meth c H locs 0 0 (MQ below (gQ G (some (.int r)) h' n) ([.ref a0, .int p1, .int p2] : List Value).toArray s 0 0 (gFr G)) (F0 m 62 ls []) := by
            clear hf
            intro f
            induction f with
            | zero =>
              intro h62L v62_0 v62_1 v62_2 v62_3 v62_4 v62_5 o12 H locs ls hf
              cases hf
            | succ f ih =>
              intro h62L v62_0 v62_1 v62_2 v62_3 v62_4 v62_5 o12 H locs ls hf hR hS hl K62
              rw [sp_X0_best_L62] at hf
              refine lv_iload hx hb dX0_best_62 (lv_at hl 5 rfl) ?_
              refine lv_bipush (v := (9 : Int32)) hx hb dX0_best_64 (by decide) ?_
              refine lv_icmp_gt (tgt := 112) hx hb dX0_best_66 (by decide) (fun c6301 => ?_) (fun c6301 => ?_)
              · replace hf := gIfp c6301 hf
                obtain rfl := gO1 hf
                exact K62 _ _ _ hR hS (lv_sub hl [3, 4, 2] rfl)
              · replace hf := gIfn c6301 hf
                refine lv_aload_n hx hb dX0_best_69 rfl (lv_at hl 0 rfl) ?_
                obtain ⟨k6302, hf⟩ := gChk hf
                obtain ⟨u6303, eu6303, hf⟩ := gBind hf
                refine g_callVr X hR hS [] (m_X0_thought l G F h62L n v62_0 eu6303) yk_X0_thought q1494 k6302 rfl hl.1 ⟨Nat.le_of_ble_eq_true rfl, Nat.le_of_ble_eq_true rfl⟩ ⟨Nat.le_of_ble_eq_true rfl, Nat.le_of_ble_eq_true rfl⟩ rfl (Nat.le_of_ble_eq_true rfl) dX0_best_70 (fun H locs hR hS => ?_)
                refine lv_iload hx hb dX0_best_73 (lv_at hl 5 rfl) ?_
                obtain ⟨k6304, hf⟩ := gChk hf
                obtain ⟨u6305, eu6305, hf⟩ := gBind hf
                refine g_callVr X hR hS [.int v62_5] (m_X1_withGap l G F u6303.2 n u6303.1 v62_5 eu6305) yk_X1_withGap q1531 k6304 rfl hl.1 ⟨Nat.le_of_ble_eq_true rfl, Nat.le_of_ble_eq_true rfl⟩ ⟨Nat.le_of_ble_eq_true rfl, Nat.le_of_ble_eq_true rfl⟩ rfl (Nat.le_of_ble_eq_true rfl) dX0_best_75 (fun H locs hR hS => ?_)
                refine lv_iload_n hx hb dX0_best_78 rfl (lv_at hl 1 rfl) ?_
                obtain ⟨k6306, hf⟩ := gChk hf
                obtain ⟨u6307, eu6307, hf⟩ := gBind hf
                refine g_callVr X hR hS [.int v62_1] (m_X1_passes l G F u6305.2 n u6305.1 v62_1 eu6307) yk_X1_passes q1137 k6306 rfl hl.1 ⟨Nat.le_of_ble_eq_true rfl, Nat.le_of_ble_eq_true rfl⟩ ⟨Nat.le_of_ble_eq_true rfl, Nat.le_of_ble_eq_true rfl⟩ rfl (Nat.le_of_ble_eq_true rfl) dX0_best_79 (fun H locs hR hS => ?_)
                obtain ⟨x6308, ex6308, hf⟩ := gBind hf
                refine g_getiN X hR gk_X1 5 (by decide) q633 rfl ex6308 dX0_best_82 ?_
                refine lv_istore (lv' := [(6, .int x6308), (0, .ref v62_0), (1, .int v62_1), (2, .int v62_2), (3, .int v62_3), (4, .int v62_4), (5, .int v62_5)]) hx hb dX0_best_85 hl (by decide) rfl (fun ls hl => ?_)
                refine lv_iload_n hx hb dX0_best_87 rfl (lv_at hl 4 rfl) ?_
                refine lv_iconst (v := (-1 : Int32)) hx hb dX0_best_88 (by decide) ?_
                refine lv_icmp_eq (tgt := 99) hx hb dX0_best_89 (by decide) (fun c6309 => ?_) (fun c6309 => ?_)
                · replace hf := gIfp c6309 hf
                  refine lv_iload hx hb dX0_best_99 (lv_at hl 6 rfl) ?_
                  refine lv_istore_n (lv' := [(3, .int v62_5), (6, .int x6308), (0, .ref v62_0), (1, .int v62_1), (2, .int v62_2), (4, .int v62_4), (5, .int v62_5)]) hx hb dX0_best_101 rfl hl (by decide) rfl (fun ls hl => ?_)
                  refine lv_iload hx hb dX0_best_102 (lv_at hl 1 rfl) ?_
                  refine lv_istore (lv' := [(4, .int x6308), (3, .int v62_5), (6, .int x6308), (0, .ref v62_0), (1, .int v62_1), (2, .int v62_2), (5, .int v62_5)]) hx hb dX0_best_104 hl (by decide) rfl (fun ls hl => ?_)
                  refine lv_iinc (v := v62_5 + (1 : Int32)) (lv' := [(5, .int (v62_5 + (1 : Int32))), (4, .int x6308), (3, .int v62_5), (6, .int x6308), (0, .ref v62_0), (1, .int v62_1), (2, .int v62_2)]) hx hb dX0_best_106 hl (k := 6) rfl rfl (by decide) rfl (fun ls hl => ?_)
                  refine lv_goto (tgt := 62) hx hb dX0_best_109 (by decide) ?_
                  exact ih u6307.2 v62_0 v62_1 v62_2 v62_5 x6308 (v62_5 + (1 : Int32)) _ _ _ _ hf hR hS (lv_sub hl [4, 5, 6, 2, 1, 0] rfl) K62
                · replace hf := gIfn c6309 hf
                  refine lv_iload hx hb dX0_best_92 (lv_at hl 0 rfl) ?_
                  refine lv_iload hx hb dX0_best_94 (lv_at hl 5 rfl) ?_
                  refine lv_icmp_ge (tgt := 106) hx hb dX0_best_96 (by decide) (fun c6310 => ?_) (fun c6310 => ?_)
                  · replace hf := gIfp c6310 hf
                    refine lv_iinc (v := v62_5 + (1 : Int32)) (lv' := [(5, .int (v62_5 + (1 : Int32))), (6, .int x6308), (0, .ref v62_0), (1, .int v62_1), (2, .int v62_2), (3, .int v62_3), (4, .int v62_4)]) hx hb dX0_best_106 hl (k := 6) rfl rfl (by decide) rfl (fun ls hl => ?_)
                    refine lv_goto (tgt := 62) hx hb dX0_best_109 (by decide) ?_
                    exact ih u6307.2 v62_0 v62_1 v62_2 v62_3 v62_4 (v62_5 + (1 : Int32)) _ _ _ _ hf hR hS (lv_sub hl [2, 3, 4, 5, 6, 0] rfl) K62
                  · replace hf := gIfn c6310 hf
                    refine lv_iload hx hb dX0_best_99 (lv_at hl 6 rfl) ?_
                    refine lv_istore_n (lv' := [(3, .int v62_5), (6, .int x6308), (0, .ref v62_0), (1, .int v62_1), (2, .int v62_2), (4, .int v62_4), (5, .int v62_5)]) hx hb dX0_best_101 rfl hl (by decide) rfl (fun ls hl => ?_)
                    refine lv_iload hx hb dX0_best_102 (lv_at hl 1 rfl) ?_
                    refine lv_istore (lv' := [(4, .int x6308), (3, .int v62_5), (6, .int x6308), (0, .ref v62_0), (1, .int v62_1), (2, .int v62_2), (5, .int v62_5)]) hx hb dX0_best_104 hl (by decide) rfl (fun ls hl => ?_)
                    refine lv_iinc (v := v62_5 + (1 : Int32)) (lv' := [(5, .int (v62_5 + (1 : Int32))), (4, .int x6308), (3, .int v62_5), (6, .int x6308), (0, .ref v62_0), (1, .int v62_1), (2, .int v62_2)]) hx hb dX0_best_106 hl (k := 6) rfl rfl (by decide) rfl (fun ls hl => ?_)
                    refine lv_goto (tgt := 62) hx hb dX0_best_109 (by decide) ?_
                    exact ih u6307.2 v62_0 v62_1 v62_2 v62_5 x6308 (v62_5 + (1 : Int32)) _ _ _ _ hf hR hS (lv_sub hl [4, 5, 6, 2, 1, 0] rfl) K62
          obtain ⟨y13, ey13, hf⟩ := gBind hf
          refine L62_q11 F u9.2 a0 p1 p2 (-1 : Int32) (0 : Int32) (1 : Int32) y13 _ _ _ ey13 hR hS (lv_sub hl [3, 4, 5, 2, 1, 0] rfl) (fun H locs ls hR hS hl => ?_)
          refine lv_iload_n hx hb dX0_best_112 rfl (lv_at hl 2 rfl) ?_
          refine lv_if_ne (tgt := 120) hx hb dX0_best_113 (by decide) (fun c14 => ?_) (fun c14 => ?_)
          · replace hf := gIfn c14 hf
            refine lv_iload hx hb dX0_best_120 (lv_at hl 1 rfl) ?_
            obtain ⟨rfl, rfl⟩ := gO2 hf
            exact g_iret X hR hS _ rfl ⟨Nat.le_of_ble_eq_true rfl, Nat.le_of_ble_eq_true rfl⟩ dX0_best_122
          · replace hf := gIfp c14 hf
            refine lv_iload_n hx hb dX0_best_116 rfl (lv_at hl 0 rfl) ?_
            refine lv_goto (tgt := 122) hx hb dX0_best_117 (by decide) ?_
            obtain ⟨rfl, rfl⟩ := gO2 hf
            exact g_iret X hR hS _ rfl ⟨Nat.le_of_ble_eq_true rfl, Nat.le_of_ble_eq_true rfl⟩ dX0_best_122
        · replace hf := gIfp c10 hf
          refine lv_bipush (v := (-4 : Int32)) hx hb dX0_best_51 (by decide) ?_
          obtain ⟨rfl, rfl⟩ := gO2 hf
          exact g_iret X hR hS _ rfl ⟨Nat.le_of_ble_eq_true rfl, Nat.le_of_ble_eq_true rfl⟩ dX0_best_53
      · replace hf := gIfp c7 hf
        refine lv_bipush (v := (-3 : Int32)) hx hb dX0_best_37 (by decide) ?_
        obtain ⟨rfl, rfl⟩ := gO2 hf
        exact g_iret X hR hS _ rfl ⟨Nat.le_of_ble_eq_true rfl, Nat.le_of_ble_eq_true rfl⟩ dX0_best_39
    · replace hf := gIfp c4 hf
      refine lv_bipush (v := (-2 : Int32)) hx hb dX0_best_24 (by decide) ?_
      obtain ⟨rfl, rfl⟩ := gO2 hf
      exact g_iret X hR hS _ rfl ⟨Nat.le_of_ble_eq_true rfl, Nat.le_of_ble_eq_true rfl⟩ dX0_best_26
  · replace hf := gIfp c2 hf
    refine lv_iconst (v := (-1 : Int32)) hx hb dX0_best_10 (by decide) ?_
    obtain ⟨rfl, rfl⟩ := gO2 hf
    exact g_iret X hR hS _ rfl ⟨Nat.le_of_ble_eq_true rfl, Nat.le_of_ble_eq_true rfl⟩ dX0_best_11

def sp_X0_note (G : gG) (F : Nat) (h : gH) (n : Nat) (a0 : Nat) (p1 : Int32) (p2 : Int32) : Option (Int32 × gH × Nat) :=
 if p1 = (-1 : Int32) then
 (gGr 0 h a0 0).bind fun x26 =>
 (gPv 1 h x26 20 (.int (0 : Int32))).bind fun h27 =>
 some (((0 : Int32), h27, n)) else
 (sp_X0_in G F (va_up h n (some (.inl (3, 2, .inl (fun _ => 0))))) p1.toInt64 (0 : Int64) (99999 : Int64)).bind fun u2 =>
 (gSb 3 (va_up h n (some (.inl (3, 2, .inl (fun _ => 0))))) n (0 : Int32) u2).bind fun h3 =>
 (sp_X0_in G F h3 p2.toInt64 (0 : Int64) (255 : Int64)).bind fun u4 =>
 (gSb 3 h3 n (1 : Int32) u4).bind fun h5 =>
 (sp_X0_are G F h5 n).bind fun u6 =>
 if u6 = 0 then
 some (((-2 : Int32), h5, n + 1)) else
 (gGr 0 h5 a0 0).bind fun x8 =>
 (gGi 1 h5 x8 20).bind fun x9 =>
 if x9 = (5 : Int32) then
 some (((-4 : Int32), h5, n + 1)) else
 (gGr 0 h5 a0 0).bind fun x11 =>
 (gGr 1 h5 x11 27).bind fun x12 =>
 (gGr 0 h5 a0 0).bind fun x13 =>
 (gGi 1 h5 x13 20).bind fun x14 =>
 (gSi h5 x12 ((2 : Int32) * x14) p1).bind fun h15 =>
 (gGr 0 h15 a0 0).bind fun x16 =>
 (gGr 1 h15 x16 27).bind fun x17 =>
 (gGr 0 h15 a0 0).bind fun x18 =>
 (gGi 1 h15 x18 20).bind fun x19 =>
 (gSi h15 x17 (((2 : Int32) * x19) + (1 : Int32)) p2).bind fun h20 =>
 (gGr 0 h20 a0 0).bind fun x21 =>
 (gGi 1 h20 x21 20).bind fun x22 =>
 (gPv 1 h20 x21 20 (.int (x22 + (1 : Int32)))).bind fun h23 =>
 (gGr 0 h23 a0 0).bind fun x24 =>
 (gGi 1 h23 x24 20).bind fun x25 =>
 some ((x25, h23, n + 1))
theorem yk_X0_note : gVk yX0_note cX0_note 3 (some .int) 2 0 := ⟨q1536, q1537, q92, q1538, ⟨by decide +kernel, by decide +kernel, by decide +kernel⟩, rfl⟩
set_option maxHeartbeats 4000000 in
theorem m_X0_note (l : Launch) (G : gG) (F : Nat) (h : gH) (n : Nat) (a0 : Nat) (p1 : Int32) (p2 : Int32) {r : Int32} {h' : gH} {n' : Nat} (hf : sp_X0_note G F h n a0 p1 p2 = some (r, h', n')) : gMet l G yX0_note cX0_note 3 (some .int) 1 25 1 2 [.ref a0, .int p1, .int p2] h n (some (.int r)) h' n' := by
  refine gEnter (by decide) [(0, .ref a0), (1, .int p1), (2, .int p2)] rfl (Nat.le_of_ble_eq_true rfl) ?_
  intro p e s m below meth c H ls X hin hR hS hl
  have hx := X.1.1
  have hb := X.1.2.1
  unfold sp_X0_note at hf
  generalize ([] : List Loc) = locs at hS ⊢
  refine lv_iload_n hx hb dX0_note_0 rfl (lv_at hl 1 rfl) ?_
  refine lv_iconst (v := (-1 : Int32)) hx hb dX0_note_1 (by decide) ?_
  refine lv_icmp_ne (tgt := 15) hx hb dX0_note_2 (by decide) (fun c1 => ?_) (fun c1 => ?_)
  · replace hf := gIfn c1 hf
    refine lv_iconst (v := (2 : Int32)) hx hb dX0_note_15 (by decide) ?_
    refine g_newa3 X hR hS q879 2 (by decide) (by decide) (by decide) ⟨Nat.le_of_ble_eq_true rfl, Nat.le_of_ble_eq_true rfl⟩ dX0_note_16 (fun H hR hS => ?_)
    refine lv_dup hx hb dX0_note_18 rfl ?_
    refine lv_iconst (v := (0 : Int32)) hx hb dX0_note_19 (by decide) ?_
    refine lv_iload_n hx hb dX0_note_20 rfl (lv_at hl 1 rfl) ?_
    refine lv_i2l (v := p1.toInt64) hx hb dX0_note_21 rfl ?_
    refine lv_lconst (v := (0 : Int64)) hx hb dX0_note_22 (by decide) ?_
    refine lv_ldc2 (v := (99999 : Int64)) hx hb X.1.2.2.2.1 (X.1.2.2.2.2 _ q1539) dX0_note_23 ?_
    obtain ⟨u2, eu2, hf⟩ := gBind hf
    refine g_callSi X hR hS [.long p1.toInt64, .long (0 : Int64), .long (99999 : Int64)] (m_X0_in l G F (va_up h n (some (.inl (3, 2, .inl (fun _ => 0))))) (n + 1) p1.toInt64 (0 : Int64) (99999 : Int64) eu2) yk_X0_in q830 rfl hl.1 ⟨Nat.le_of_ble_eq_true rfl, Nat.le_of_ble_eq_true rfl⟩ ⟨Nat.le_of_ble_eq_true rfl, Nat.le_of_ble_eq_true rfl⟩ rfl (Nat.le_of_ble_eq_true rfl) dX0_note_26 (fun H locs hR hS => ?_)
    obtain ⟨h3, eh3, hf⟩ := gBind hf
    refine g_zast X hR hS eh3 dX0_note_29 (fun H locs hR hS => ?_)
    refine lv_dup hx hb dX0_note_30 rfl ?_
    refine lv_iconst (v := (1 : Int32)) hx hb dX0_note_31 (by decide) ?_
    refine lv_iload_n hx hb dX0_note_32 rfl (lv_at hl 2 rfl) ?_
    refine lv_i2l (v := p2.toInt64) hx hb dX0_note_33 rfl ?_
    refine lv_lconst (v := (0 : Int64)) hx hb dX0_note_34 (by decide) ?_
    refine lv_ldc2 (v := (255 : Int64)) hx hb X.1.2.2.2.1 (X.1.2.2.2.2 _ q1540) dX0_note_35 ?_
    obtain ⟨u4, eu4, hf⟩ := gBind hf
    refine g_callSi X hR hS [.long p2.toInt64, .long (0 : Int64), .long (255 : Int64)] (m_X0_in l G F h3 (n + 1) p2.toInt64 (0 : Int64) (255 : Int64) eu4) yk_X0_in q830 rfl hl.1 ⟨Nat.le_of_ble_eq_true rfl, Nat.le_of_ble_eq_true rfl⟩ ⟨Nat.le_of_ble_eq_true rfl, Nat.le_of_ble_eq_true rfl⟩ rfl (Nat.le_of_ble_eq_true rfl) dX0_note_38 (fun H locs hR hS => ?_)
    obtain ⟨h5, eh5, hf⟩ := gBind hf
    refine g_zast X hR hS eh5 dX0_note_41 (fun H locs hR hS => ?_)
    obtain ⟨u6, eu6, hf⟩ := gBind hf
    refine g_callSi X hR hS [.ref n] (m_X0_are l G F h5 (n + 1) n eu6) yk_X0_are q834 rfl hl.1 ⟨Nat.le_of_ble_eq_true rfl, Nat.le_of_ble_eq_true rfl⟩ ⟨Nat.le_of_ble_eq_true rfl, Nat.le_of_ble_eq_true rfl⟩ rfl (Nat.le_of_ble_eq_true rfl) dX0_note_42 (fun H locs hR hS => ?_)
    refine lv_if_ne (tgt := 51) hx hb dX0_note_45 (by decide) (fun c7 => ?_) (fun c7 => ?_)
    · replace hf := gIfn c7 hf
      refine lv_aload_n hx hb dX0_note_51 rfl (lv_at hl 0 rfl) ?_
      obtain ⟨x8, ex8, hf⟩ := gBind hf
      refine g_getr X hR gk_X0 0 (by decide) q792 rfl ex8 dX0_note_52 ?_
      obtain ⟨x9, ex9, hf⟩ := gBind hf
      refine g_getiN X hR gk_X1 20 (by decide) q662 rfl ex9 dX0_note_55 ?_
      refine lv_iconst (v := (5 : Int32)) hx hb dX0_note_58 (by decide) ?_
      refine lv_icmp_ne (tgt := 65) hx hb dX0_note_59 (by decide) (fun c10 => ?_) (fun c10 => ?_)
      · replace hf := gIfn c10 hf
        refine lv_aload_n hx hb dX0_note_65 rfl (lv_at hl 0 rfl) ?_
        obtain ⟨x11, ex11, hf⟩ := gBind hf
        refine g_getr X hR gk_X0 0 (by decide) q792 rfl ex11 dX0_note_66 ?_
        obtain ⟨x12, ex12, hf⟩ := gBind hf
        refine g_getrN X hR gk_X1 27 (by decide) q676 rfl ex12 dX0_note_69 ?_
        refine lv_iconst (v := (2 : Int32)) hx hb dX0_note_72 (by decide) ?_
        refine lv_aload_n hx hb dX0_note_73 rfl (lv_at hl 0 rfl) ?_
        obtain ⟨x13, ex13, hf⟩ := gBind hf
        refine g_getr X hR gk_X0 0 (by decide) q792 rfl ex13 dX0_note_74 ?_
        obtain ⟨x14, ex14, hf⟩ := gBind hf
        refine g_getiN X hR gk_X1 20 (by decide) q662 rfl ex14 dX0_note_77 ?_
        refine lv_imul hx hb dX0_note_80 ?_
        refine lv_iload_n hx hb dX0_note_81 rfl (lv_at hl 1 rfl) ?_
        obtain ⟨h15, eh15, hf⟩ := gBind hf
        refine g_iast X hR hS eh15 dX0_note_82 (fun H locs hR hS => ?_)
        refine lv_aload_n hx hb dX0_note_83 rfl (lv_at hl 0 rfl) ?_
        obtain ⟨x16, ex16, hf⟩ := gBind hf
        refine g_getr X hR gk_X0 0 (by decide) q792 rfl ex16 dX0_note_84 ?_
        obtain ⟨x17, ex17, hf⟩ := gBind hf
        refine g_getrN X hR gk_X1 27 (by decide) q676 rfl ex17 dX0_note_87 ?_
        refine lv_iconst (v := (2 : Int32)) hx hb dX0_note_90 (by decide) ?_
        refine lv_aload_n hx hb dX0_note_91 rfl (lv_at hl 0 rfl) ?_
        obtain ⟨x18, ex18, hf⟩ := gBind hf
        refine g_getr X hR gk_X0 0 (by decide) q792 rfl ex18 dX0_note_92 ?_
        obtain ⟨x19, ex19, hf⟩ := gBind hf
        refine g_getiN X hR gk_X1 20 (by decide) q662 rfl ex19 dX0_note_95 ?_
        refine lv_imul hx hb dX0_note_98 ?_
        refine lv_iconst (v := (1 : Int32)) hx hb dX0_note_99 (by decide) ?_
        refine lv_iadd hx hb dX0_note_100 ?_
        refine lv_iload_n hx hb dX0_note_101 rfl (lv_at hl 2 rfl) ?_
        obtain ⟨h20, eh20, hf⟩ := gBind hf
        refine g_iast X hR hS eh20 dX0_note_102 (fun H locs hR hS => ?_)
        refine lv_aload_n hx hb dX0_note_103 rfl (lv_at hl 0 rfl) ?_
        obtain ⟨x21, ex21, hf⟩ := gBind hf
        refine g_getr X hR gk_X0 0 (by decide) q792 rfl ex21 dX0_note_104 ?_
        refine lv_dup hx hb dX0_note_107 rfl ?_
        obtain ⟨x22, ex22, hf⟩ := gBind hf
        refine g_getiN X hR gk_X1 20 (by decide) q662 rfl ex22 dX0_note_108 ?_
        refine lv_iconst (v := (1 : Int32)) hx hb dX0_note_111 (by decide) ?_
        refine lv_iadd hx hb dX0_note_112 ?_
        obtain ⟨h23, eh23, hf⟩ := gBind hf
        refine g_putN X hR hS gk_X1 20 (by decide) q662 rfl rfl eh23 rfl rfl rfl dX0_note_113 (fun H locs hR hS => ?_)
        refine lv_aload_n hx hb dX0_note_116 rfl (lv_at hl 0 rfl) ?_
        obtain ⟨x24, ex24, hf⟩ := gBind hf
        refine g_getr X hR gk_X0 0 (by decide) q792 rfl ex24 dX0_note_117 ?_
        obtain ⟨x25, ex25, hf⟩ := gBind hf
        refine g_getiN X hR gk_X1 20 (by decide) q662 rfl ex25 dX0_note_120 ?_
        obtain ⟨rfl, rfl, rfl⟩ := gO3 hf
        exact g_iret X hR hS _ rfl ⟨Nat.le_of_ble_eq_true rfl, Nat.le_of_ble_eq_true rfl⟩ dX0_note_123
      · replace hf := gIfp c10 hf
        refine lv_bipush (v := (-4 : Int32)) hx hb dX0_note_62 (by decide) ?_
        obtain ⟨rfl, rfl, rfl⟩ := gO3 hf
        exact g_iret X hR hS _ rfl ⟨Nat.le_of_ble_eq_true rfl, Nat.le_of_ble_eq_true rfl⟩ dX0_note_64
    · replace hf := gIfp c7 hf
      refine lv_bipush (v := (-2 : Int32)) hx hb dX0_note_48 (by decide) ?_
      obtain ⟨rfl, rfl, rfl⟩ := gO3 hf
      exact g_iret X hR hS _ rfl ⟨Nat.le_of_ble_eq_true rfl, Nat.le_of_ble_eq_true rfl⟩ dX0_note_50
  · replace hf := gIfp c1 hf
    refine lv_aload_n hx hb dX0_note_5 rfl (lv_at hl 0 rfl) ?_
    obtain ⟨x26, ex26, hf⟩ := gBind hf
    refine g_getr X hR gk_X0 0 (by decide) q792 rfl ex26 dX0_note_6 ?_
    refine lv_iconst (v := (0 : Int32)) hx hb dX0_note_9 (by decide) ?_
    obtain ⟨h27, eh27, hf⟩ := gBind hf
    refine g_putN X hR hS gk_X1 20 (by decide) q662 rfl rfl eh27 rfl rfl rfl dX0_note_10 (fun H locs hR hS => ?_)
    refine lv_iconst (v := (0 : Int32)) hx hb dX0_note_13 (by decide) ?_
    obtain ⟨rfl, rfl, rfl⟩ := gO3 hf
    exact g_iret X hR hS _ rfl ⟨Nat.le_of_ble_eq_true rfl, Nat.le_of_ble_eq_true rfl⟩ dX0_note_14

def sp_X0_isNoted_L2 (G : gG) (F : Nat) (h2L : gH) : Nat → Nat → Int32 → Option (Int32)
  | 0, _, _ => none
  | f + 1, v2_0, v2_1 =>
    (gGr 0 h2L v2_0 0).bind fun x301 =>
    (gGi 1 h2L x301 20).bind fun x302 =>
    if x302 ≤ v2_1 then
    some ((1 : Int32)) else
    (gGr 0 h2L v2_0 0).bind fun x304 =>
    (gGr 1 h2L x304 27).bind fun x305 =>
    (gAi 0 h2L x305 ((2 : Int32) * v2_1)).bind fun x306 =>
    (gGr 0 h2L v2_0 0).bind fun x307 =>
    (gGi 1 h2L x307 1).bind fun x308 =>
    (sp_X0_in G F h2L ((x306 - x308).toInt64) (0 : Int64) (59 : Int64)).bind fun u309 =>
    if u309 = 0 then
    some ((0 : Int32)) else
    (gGr 0 h2L v2_0 7).bind fun x311 =>
    (gAi 0 h2L x311 (x306 - x308)).bind fun x312 =>
    (gGr 0 h2L v2_0 0).bind fun x313 =>
    (gGr 1 h2L x313 27).bind fun x314 =>
    (gAi 0 h2L x314 (((2 : Int32) * v2_1) + (1 : Int32))).bind fun x315 =>
    if x312 = x315 then
    sp_X0_isNoted_L2 G F h2L f v2_0 (v2_1 + (1 : Int32)) else
    some ((0 : Int32))
def sp_X0_isNoted (G : gG) (F : Nat) (h : gH) (a0 : Nat) : Option (Int32) :=
 sp_X0_isNoted_L2 G F h F a0 (0 : Int32)
theorem yk_X0_isNoted : gVk yX0_isNoted cX0_isNoted 3 (some .boolean) 0 0 := ⟨q1547, qs31, q92, q1548, ⟨by decide +kernel, by decide +kernel, by decide +kernel⟩, rfl⟩
set_option maxHeartbeats 4000000 in
theorem m_X0_isNoted (l : Launch) (G : gG) (F : Nat) (h : gH) (n : Nat) (a0 : Nat) {r : Int32} (hf : sp_X0_isNoted G F h a0 = some r) : gMet l G yX0_isNoted cX0_isNoted 3 (some .boolean) 1 25 0 0 [.ref a0] h n (some (.int r)) h n := by
  refine gEnter (by decide) [(0, .ref a0)] rfl (Nat.le_of_ble_eq_true rfl) ?_
  intro p e s m below meth c H ls X hin hR hS hl
  have hx := X.1.1
  have hb := X.1.2.1
  unfold sp_X0_isNoted at hf
  generalize ([] : List Loc) = locs at hS ⊢
  refine lv_iconst (v := (0 : Int32)) hx hb dX0_isNoted_0 (by decide) ?_
  refine lv_istore_n (lv' := [(1, .int (0 : Int32)), (0, .ref a0)]) hx hb dX0_isNoted_1 rfl hl (by decide) rfl (fun ls hl => ?_)
  have L2_q1 : ∀ (f : Nat) (v2_0 : Nat) (v2_1 : Int32) (H : Heap) (locs : List Loc) (ls : Array Slot), sp_X0_isNoted_L2 G F h f v2_0 v2_1 = some r → gRep G h n H → va_S (gFr G) s.heap H locs → lv_has ls 3 [(0, .ref v2_0), (1, .int v2_1)] → W p l e ({ frames := 1, cells := 0, slots := 0, locals := 25 } : Room) s m ([.ref a0] : List Value).toArray below meth c H locs 0 0 (MQ below (gQ G (some (.int r)) h n) ([.ref a0] : List Value).toArray s 0 0 (gFr G)) (F0 m 2 ls []) := by
    clear hf
    intro f
    induction f with
    | zero =>
      intro v2_0 v2_1 H locs ls hf
      cases hf
    | succ f ih =>
      intro v2_0 v2_1 H locs ls hf hR hS hl
      rw [sp_X0_isNoted_L2] at hf
      refine lv_iload_n hx hb dX0_isNoted_2 rfl (lv_at hl 1 rfl) ?_
      refine lv_aload_n hx hb dX0_isNoted_3 rfl (lv_at hl 0 rfl) ?_
      obtain ⟨x301, ex301, hf⟩ := gBind hf
      refine g_getr X hR gk_X0 0 (by decide) q792 rfl ex301 dX0_isNoted_4 ?_
      obtain ⟨x302, ex302, hf⟩ := gBind hf
      refine g_getiN X hR gk_X1 20 (by decide) q662 rfl ex302 dX0_isNoted_7 ?_
      refine lv_icmp_ge (tgt := 75) hx hb dX0_isNoted_10 (by decide) (fun c303 => ?_) (fun c303 => ?_)
      · replace hf := gIfp c303 hf
        refine lv_iconst (v := (1 : Int32)) hx hb dX0_isNoted_75 (by decide) ?_
        obtain rfl := gO1 hf
        exact g_zret X hR hS _ rfl rfl ⟨Nat.le_of_ble_eq_true rfl, Nat.le_of_ble_eq_true rfl⟩ dX0_isNoted_76
      · replace hf := gIfn c303 hf
        refine lv_aload_n hx hb dX0_isNoted_13 rfl (lv_at hl 0 rfl) ?_
        obtain ⟨x304, ex304, hf⟩ := gBind hf
        refine g_getr X hR gk_X0 0 (by decide) q792 rfl ex304 dX0_isNoted_14 ?_
        obtain ⟨x305, ex305, hf⟩ := gBind hf
        refine g_getrN X hR gk_X1 27 (by decide) q676 rfl ex305 dX0_isNoted_17 ?_
        refine lv_iconst (v := (2 : Int32)) hx hb dX0_isNoted_20 (by decide) ?_
        refine lv_iload_n hx hb dX0_isNoted_21 rfl (lv_at hl 1 rfl) ?_
        refine lv_imul hx hb dX0_isNoted_22 ?_
        obtain ⟨x306, ex306, hf⟩ := gBind hf
        refine g_iald X hR ex306 dX0_isNoted_23 ?_
        refine lv_aload_n hx hb dX0_isNoted_24 rfl (lv_at hl 0 rfl) ?_
        obtain ⟨x307, ex307, hf⟩ := gBind hf
        refine g_getr X hR gk_X0 0 (by decide) q792 rfl ex307 dX0_isNoted_25 ?_
        obtain ⟨x308, ex308, hf⟩ := gBind hf
        refine g_getiN X hR gk_X1 1 (by decide) q625 rfl ex308 dX0_isNoted_28 ?_
        refine lv_isub hx hb dX0_isNoted_31 ?_
        refine lv_istore_n (lv' := [(2, .int (x306 - x308)), (0, .ref v2_0), (1, .int v2_1)]) hx hb dX0_isNoted_32 rfl hl (by decide) rfl (fun ls hl => ?_)
        refine lv_iload_n hx hb dX0_isNoted_33 rfl (lv_at hl 0 rfl) ?_
        refine lv_i2l (v := (x306 - x308).toInt64) hx hb dX0_isNoted_34 rfl ?_
        refine lv_lconst (v := (0 : Int64)) hx hb dX0_isNoted_35 (by decide) ?_
        refine lv_ldc2 (v := (59 : Int64)) hx hb X.1.2.2.2.1 (X.1.2.2.2.2 _ q1549) dX0_isNoted_36 ?_
        obtain ⟨u309, eu309, hf⟩ := gBind hf
        refine g_callSi X hR hS [.long ((x306 - x308).toInt64), .long (0 : Int64), .long (59 : Int64)] (m_X0_in l G F h n ((x306 - x308).toInt64) (0 : Int64) (59 : Int64) eu309) yk_X0_in q830 rfl hl.1 ⟨Nat.le_of_ble_eq_true rfl, Nat.le_of_ble_eq_true rfl⟩ ⟨Nat.le_of_ble_eq_true rfl, Nat.le_of_ble_eq_true rfl⟩ rfl (Nat.le_of_ble_eq_true rfl) dX0_isNoted_39 (fun H locs hR hS => ?_)
        refine lv_if_eq (tgt := 67) hx hb dX0_isNoted_42 (by decide) (fun c310 => ?_) (fun c310 => ?_)
        · replace hf := gIfp c310 hf
          refine lv_iconst (v := (0 : Int32)) hx hb dX0_isNoted_67 (by decide) ?_
          obtain rfl := gO1 hf
          exact g_zret X hR hS _ rfl rfl ⟨Nat.le_of_ble_eq_true rfl, Nat.le_of_ble_eq_true rfl⟩ dX0_isNoted_68
        · replace hf := gIfn c310 hf
          refine lv_aload_n hx hb dX0_isNoted_45 rfl (lv_at hl 1 rfl) ?_
          obtain ⟨x311, ex311, hf⟩ := gBind hf
          refine g_getr X hR gk_X0 7 (by decide) q801 rfl ex311 dX0_isNoted_46 ?_
          refine lv_iload_n hx hb dX0_isNoted_49 rfl (lv_at hl 0 rfl) ?_
          obtain ⟨x312, ex312, hf⟩ := gBind hf
          refine g_iald X hR ex312 dX0_isNoted_50 ?_
          refine lv_aload_n hx hb dX0_isNoted_51 rfl (lv_at hl 1 rfl) ?_
          obtain ⟨x313, ex313, hf⟩ := gBind hf
          refine g_getr X hR gk_X0 0 (by decide) q792 rfl ex313 dX0_isNoted_52 ?_
          obtain ⟨x314, ex314, hf⟩ := gBind hf
          refine g_getrN X hR gk_X1 27 (by decide) q676 rfl ex314 dX0_isNoted_55 ?_
          refine lv_iconst (v := (2 : Int32)) hx hb dX0_isNoted_58 (by decide) ?_
          refine lv_iload_n hx hb dX0_isNoted_59 rfl (lv_at hl 2 rfl) ?_
          refine lv_imul hx hb dX0_isNoted_60 ?_
          refine lv_iconst (v := (1 : Int32)) hx hb dX0_isNoted_61 (by decide) ?_
          refine lv_iadd hx hb dX0_isNoted_62 ?_
          obtain ⟨x315, ex315, hf⟩ := gBind hf
          refine g_iald X hR ex315 dX0_isNoted_63 ?_
          refine lv_icmp_eq (tgt := 69) hx hb dX0_isNoted_64 (by decide) (fun c316 => ?_) (fun c316 => ?_)
          · replace hf := gIfp c316 hf
            refine lv_iinc (v := v2_1 + (1 : Int32)) (lv' := [(1, .int (v2_1 + (1 : Int32))), (2, .int (x306 - x308)), (0, .ref v2_0)]) hx hb dX0_isNoted_69 hl (k := 2) rfl rfl (by decide) rfl (fun ls hl => ?_)
            refine lv_goto (tgt := 2) hx hb dX0_isNoted_72 (by decide) ?_
            exact ih v2_0 (v2_1 + (1 : Int32)) _ _ _ hf hR hS (lv_sub hl [2, 0] rfl)
          · replace hf := gIfn c316 hf
            refine lv_iconst (v := (0 : Int32)) hx hb dX0_isNoted_67 (by decide) ?_
            obtain rfl := gO1 hf
            exact g_zret X hR hS _ rfl rfl ⟨Nat.le_of_ble_eq_true rfl, Nat.le_of_ble_eq_true rfl⟩ dX0_isNoted_68
  exact L2_q1 F a0 (0 : Int32) _ _ _ hf hR hS (lv_sub hl [1, 0] rfl)

def sp_X0_fits_L66 (G : gG) (F : Nat) : Nat → gH → Nat → Int32 → Int32 → Int32 → Int32 → Nat → Int32 → Option (gH)
  | 0, _, _, _, _, _, _, _, _ => none
  | f + 1, h66L, v66_0, v66_1, v66_2, v66_3, v66_4, v66_5, v66_6 =>
    if (60 : Int32) ≤ v66_6 then
    some (h66L) else
    (gGr 0 h66L v66_0 7).bind fun x6702 =>
    if gIs 1 h66L v66_5 = true then
    (sp_X1_passes G F h66L v66_5 (1 : Int32)).bind fun u6704 =>
    if gIs 1 u6704.2 u6704.1 = true then
    (sp_X1_withLight G F u6704.2 u6704.1 (2 : Int32)).bind fun u6706 =>
    (gSi u6704.2 x6702 v66_6 u6706).bind fun h6707 =>
    sp_X0_fits_L66 G F f h6707 v66_0 v66_1 v66_2 v66_3 v66_4 v66_5 (v66_6 + (1 : Int32)) else none else none
def sp_X0_fits_L47 (G : gG) (F : Nat) : Nat → gH → Nat → Int32 → Int32 → Int32 → Int32 → Option (Int32 × Int32 × gH)
  | 0, _, _, _, _, _, _ => none
  | f + 1, h47L, v47_0, v47_1, v47_2, v47_3, v47_4 =>
    if v47_4 ≤ 0 then
    some (v47_2, v47_3, h47L) else
    if gIs 0 h47L v47_0 = true then
    (sp_X0_thought G F h47L v47_0).bind fun u4803 =>
    if gIs 1 u4803.2 u4803.1 = true then
    (sp_X1_withGap G F u4803.2 u4803.1 v47_4).bind fun u4805 =>
    (sp_X0_fits_L66 G F F u4805.2 v47_0 v47_1 v47_2 v47_3 v47_4 u4805.1 (0 : Int32)).bind fun y4808 =>
    if gIs 0 y4808 v47_0 = true then
    (sp_X0_isNoted G F y4808 v47_0).bind fun u4810 =>
    if u4810 = 0 then
    sp_X0_fits_L47 G F f y4808 v47_0 v47_1 v47_2 v47_3 (v47_4 + (-1 : Int32)) else
    sp_X0_fits_L47 G F f y4808 v47_0 v47_1 (v47_2 + (1 : Int32)) v47_4 (v47_4 + (-1 : Int32)) else none else none else none
def sp_X0_fits (G : gG) (F : Nat) (h : gH) (a0 : Nat) (p1 : Int32) : Option (Int32 × gH) :=
 (sp_X0_in G F h p1.toInt64 (0 : Int64) (1 : Int64)).bind fun u1 =>
 if u1 = 0 then
 some (((-1 : Int32), h)) else
 (gGr 0 h a0 0).bind fun x3 =>
 (gGi 1 h x3 0).bind fun x4 =>
 if x4 = 0 then
 some (((-3 : Int32), h)) else
 if gIs 0 h a0 = true then
 (sp_X0_counts G F h a0 (540 : Int32)).bind fun u7 =>
 if u7.1 = 0 then
 some (((-4 : Int32), u7.2)) else
 (sp_X0_fits_L47 G F F u7.2 a0 p1 (0 : Int32) (-5 : Int32) (9 : Int32)).bind fun y11 =>
 if p1 = 0 then
 some ((y11.1, y11.2.2)) else
 some ((y11.2.1, y11.2.2)) else none
theorem yk_X0_fits : gVk yX0_fits cX0_fits 7 (some .int) 1 0 := ⟨q1542, q1543, q92, q1544, ⟨by decide +kernel, by decide +kernel, by decide +kernel⟩, rfl⟩
set_option maxHeartbeats 4000000 in
theorem m_X0_fits (l : Launch) (G : gG) (F : Nat) (h : gH) (n : Nat) (a0 : Nat) (p1 : Int32) {r : Int32} {h' : gH} (hf : sp_X0_fits G F h a0 p1 = some (r, h')) : gMet l G yX0_fits cX0_fits 7 (some .int) 6 134 0 0 [.ref a0, .int p1] h n (some (.int r)) h' n := by
  refine gEnter (by decide) [(0, .ref a0), (1, .int p1)] rfl (Nat.le_of_ble_eq_true rfl) ?_
  intro p e s m below meth c H ls X hin hR hS hl
  have hx := X.1.1
  have hb := X.1.2.1
  unfold sp_X0_fits at hf
  generalize ([] : List Loc) = locs at hS ⊢
  refine lv_iload_n hx hb dX0_fits_0 rfl (lv_at hl 1 rfl) ?_
  refine lv_i2l (v := p1.toInt64) hx hb dX0_fits_1 rfl ?_
  refine lv_lconst (v := (0 : Int64)) hx hb dX0_fits_2 (by decide) ?_
  refine lv_lconst (v := (1 : Int64)) hx hb dX0_fits_3 (by decide) ?_
  obtain ⟨u1, eu1, hf⟩ := gBind hf
  refine g_callSi X hR hS [.long p1.toInt64, .long (0 : Int64), .long (1 : Int64)] (m_X0_in l G F h n p1.toInt64 (0 : Int64) (1 : Int64) eu1) yk_X0_in q830 rfl hl.1 ⟨Nat.le_of_ble_eq_true rfl, Nat.le_of_ble_eq_true rfl⟩ ⟨Nat.le_of_ble_eq_true rfl, Nat.le_of_ble_eq_true rfl⟩ rfl (Nat.le_of_ble_eq_true rfl) dX0_fits_4 (fun H locs hR hS => ?_)
  refine lv_if_ne (tgt := 12) hx hb dX0_fits_7 (by decide) (fun c2 => ?_) (fun c2 => ?_)
  · replace hf := gIfn c2 hf
    refine lv_aload_n hx hb dX0_fits_12 rfl (lv_at hl 0 rfl) ?_
    obtain ⟨x3, ex3, hf⟩ := gBind hf
    refine g_getr X hR gk_X0 0 (by decide) q792 rfl ex3 dX0_fits_13 ?_
    obtain ⟨x4, ex4, hf⟩ := gBind hf
    refine g_getiN X hR gk_X1 0 (by decide) q623 rfl ex4 dX0_fits_16 ?_
    refine lv_if_ne (tgt := 25) hx hb dX0_fits_19 (by decide) (fun c5 => ?_) (fun c5 => ?_)
    · replace hf := gIfn c5 hf
      refine lv_aload_n hx hb dX0_fits_25 rfl (lv_at hl 0 rfl) ?_
      refine lv_sipush (v := (540 : Int32)) hx hb dX0_fits_26 (by decide) ?_
      obtain ⟨k6, hf⟩ := gChk hf
      obtain ⟨u7, eu7, hf⟩ := gBind hf
      refine g_callVi X hR hS [.int (540 : Int32)] (m_X0_counts l G F h n a0 (540 : Int32) eu7) yk_X0_counts q1133 k6 rfl hl.1 ⟨Nat.le_of_ble_eq_true rfl, Nat.le_of_ble_eq_true rfl⟩ ⟨Nat.le_of_ble_eq_true rfl, Nat.le_of_ble_eq_true rfl⟩ rfl (Nat.le_of_ble_eq_true rfl) dX0_fits_29 (fun H locs hR hS => ?_)
      refine lv_if_ne (tgt := 38) hx hb dX0_fits_32 (by decide) (fun c8 => ?_) (fun c8 => ?_)
      · replace hf := gIfn c8 hf
        refine lv_iconst (v := (0 : Int32)) hx hb dX0_fits_38 (by decide) ?_
        refine lv_istore_n (lv' := [(2, .int (0 : Int32)), (0, .ref a0), (1, .int p1)]) hx hb dX0_fits_39 rfl hl (by decide) rfl (fun ls hl => ?_)
        refine lv_bipush (v := (-5 : Int32)) hx hb dX0_fits_40 (by decide) ?_
        refine lv_istore_n (lv' := [(3, .int (-5 : Int32)), (2, .int (0 : Int32)), (0, .ref a0), (1, .int p1)]) hx hb dX0_fits_42 rfl hl (by decide) rfl (fun ls hl => ?_)
        refine lv_bipush (v := (9 : Int32)) hx hb dX0_fits_43 (by decide) ?_
        refine lv_istore (lv' := [(4, .int (9 : Int32)), (3, .int (-5 : Int32)), (2, .int (0 : Int32)), (0, .ref a0), (1, .int p1)]) hx hb dX0_fits_45 hl (by decide) rfl (fun ls hl => ?_)
        have L47_q9 : ∀ (f : Nat) (h47L : gH) (v47_0 : Nat) (v47_1 : Int32) (v47_2 : Int32) (v47_3 : Int32) (v47_4 : Int32) (o10 : Int32 × Int32 × gH) (H : Heap) (locs : List Loc) (ls : Array Slot), sp_X0_fits_L47 G F f h47L v47_0 v47_1 v47_2 v47_3 v47_4 = some o10 → gRep G h47L n H → va_S (gFr G) s.heap H locs → lv_has ls 7 [(0, .ref v47_0), (1, .int v47_1), (2, .int v47_2), (3, .int v47_3), (4, .int v47_4)] → (∀ (H : Heap) (locs : List Loc) (ls : Array Slot), gRep G o10.2.2 n H → va_S (gFr G) s.heap H locs → lv_has ls 7 [(2, .int o10.1), (3, .int o10.2.1), (1, .int v47_1)] → W p l e ({ frames := 6, cells := 0, slots := 0, locals := 134 } : Room) s m ([.ref a0, .int p1] : List Value).toArray below meth c H locs 0 0 (MQ below (gQ G (some (.int r)) h' n) ([.ref a0, .int p1] : List Value).toArray s 0 0 (gFr G)) (F0 m 115 ls [])) → W p l e ({ frames := 6, cells := 0, slots := 0, locals := 134 } : Room) s m ([.ref a0, .int p1] : List Value).toArray below meth c H locs 0 0 (MQ below (gQ G (some (.int r)) h' n) ([.ref a0, .int p1] : List Value).toArray s 0 0 (gFr G)) (F0 m 47 ls []) := by
          clear hf
          intro f
          induction f with
          | zero =>
            intro h47L v47_0 v47_1 v47_2 v47_3 v47_4 o10 H locs ls hf
            cases hf
          | succ f ih =>
            intro h47L v47_0 v47_1 v47_2 v47_3 v47_4 o10 H locs ls hf hR hS hl K47
            rw [sp_X0_fits_L47] at hf
            refine lv_iload hx hb dX0_fits_47 (lv_at hl 4 rfl) ?_
            refine lv_if_le (tgt := 115) hx hb dX0_fits_49 (by decide) (fun c4801 => ?_) (fun c4801 => ?_)
            · replace hf := gIfp c4801 hf
              obtain rfl := gO1 hf
              exact K47 _ _ _ hR hS (lv_sub hl [2, 3, 1] rfl)
            · replace hf := gIfn c4801 hf
              refine lv_aload_n hx hb dX0_fits_52 rfl (lv_at hl 0 rfl) ?_
              obtain ⟨k4802, hf⟩ := gChk hf
              obtain ⟨u4803, eu4803, hf⟩ := gBind hf
              refine g_callVr X hR hS [] (m_X0_thought l G F h47L n v47_0 eu4803) yk_X0_thought q1494 k4802 rfl hl.1 ⟨Nat.le_of_ble_eq_true rfl, Nat.le_of_ble_eq_true rfl⟩ ⟨Nat.le_of_ble_eq_true rfl, Nat.le_of_ble_eq_true rfl⟩ rfl (Nat.le_of_ble_eq_true rfl) dX0_fits_53 (fun H locs hR hS => ?_)
              refine lv_iload hx hb dX0_fits_56 (lv_at hl 4 rfl) ?_
              obtain ⟨k4804, hf⟩ := gChk hf
              obtain ⟨u4805, eu4805, hf⟩ := gBind hf
              refine g_callVr X hR hS [.int v47_4] (m_X1_withGap l G F u4803.2 n u4803.1 v47_4 eu4805) yk_X1_withGap q1531 k4804 rfl hl.1 ⟨Nat.le_of_ble_eq_true rfl, Nat.le_of_ble_eq_true rfl⟩ ⟨Nat.le_of_ble_eq_true rfl, Nat.le_of_ble_eq_true rfl⟩ rfl (Nat.le_of_ble_eq_true rfl) dX0_fits_58 (fun H locs hR hS => ?_)
              refine lv_astore (lv' := [(5, .ref u4805.1), (0, .ref v47_0), (1, .int v47_1), (2, .int v47_2), (3, .int v47_3), (4, .int v47_4)]) hx hb dX0_fits_61 hl (by decide) rfl (fun ls hl => ?_)
              refine lv_iconst (v := (0 : Int32)) hx hb dX0_fits_63 (by decide) ?_
              refine lv_istore (lv' := [(6, .int (0 : Int32)), (5, .ref u4805.1), (0, .ref v47_0), (1, .int v47_1), (2, .int v47_2), (3, .int v47_3), (4, .int v47_4)]) hx hb dX0_fits_64 hl (by decide) rfl (fun ls hl => ?_)
              have L66_q4806 : ∀ (f : Nat) (h66L : gH) (v66_0 : Nat) (v66_1 : Int32) (v66_2 : Int32) (v66_3 : Int32) (v66_4 : Int32) (v66_5 : Nat) (v66_6 : Int32) (o4807 : gH) (H : Heap) (locs : List Loc) (ls : Array Slot), sp_X0_fits_L66 G F f h66L v66_0 v66_1 v66_2 v66_3 v66_4 v66_5 v66_6 = some o4807 → gRep G h66L n H → va_S (gFr G) s.heap H locs → lv_has ls 7 [(0, .ref v66_0), (1, .int v66_1), (2, .int v66_2), (3, .int v66_3), (4, .int v66_4), (5, .ref v66_5), (6, .int v66_6)] → (∀ (H : Heap) (locs : List Loc) (ls : Array Slot), gRep G o4807 n H → va_S (gFr G) s.heap H locs → lv_has ls 7 [(0, .ref v66_0), (1, .int v66_1), (2, .int v66_2), (3, .int v66_3), (4, .int v66_4)] → W p l e ({ frames := 6, cells := 0, slots := 0, locals := 134 } : Room) s m ([.ref a0, .int p1] : List Value).toArray below meth c H locs 0 0 (MQ below (gQ G (some (.int r)) h' n) ([.ref a0, .int p1] : List Value).toArray s 0 0 (gFr G)) (F0 m 96 ls [])) → W p l e ({ frames := 6, cells := 0, slots := 0, locals := 134 } : Room) s m ([.ref a0, .int p1] : List Value).toArray below meth c H locs 0 0 (MQ below (gQ G (some (.int r)) h' n) ([.ref a0, .int p1] : List Value).toArray s 0 0 (gFr G)) (F0 m 66 ls []) := by
                clear hf
                intro f
                induction f with
                | zero =>
                  intro h66L v66_0 v66_1 v66_2 v66_3 v66_4 v66_5 v66_6 o4807 H locs ls hf
                  cases hf
                | succ f ih =>
                  intro h66L v66_0 v66_1 v66_2 v66_3 v66_4 v66_5 v66_6 o4807 H locs ls hf hR hS hl K66
                  rw [sp_X0_fits_L66] at hf
                  refine lv_iload hx hb dX0_fits_66 (lv_at hl 6 rfl) ?_
                  refine lv_bipush (v := (60 : Int32)) hx hb dX0_fits_68 (by decide) ?_
                  refine lv_icmp_ge (tgt := 96) hx hb dX0_fits_70 (by decide) (fun c6701 => ?_) (fun c6701 => ?_)
                  · replace hf := gIfp c6701 hf
                    obtain rfl := gO1 hf
                    exact K66 _ _ _ hR hS (lv_sub hl [0, 1, 2, 3, 4] rfl)
                  · replace hf := gIfn c6701 hf
                    refine lv_aload_n hx hb dX0_fits_73 rfl (lv_at hl 0 rfl) ?_
                    obtain ⟨x6702, ex6702, hf⟩ := gBind hf
                    refine g_getr X hR gk_X0 7 (by decide) q801 rfl ex6702 dX0_fits_74 ?_
                    refine lv_iload hx hb dX0_fits_77 (lv_at hl 6 rfl) ?_
                    refine lv_aload hx hb dX0_fits_79 (lv_at hl 5 rfl) ?_
                    refine lv_iconst (v := (1 : Int32)) hx hb dX0_fits_81 (by decide) ?_
                    obtain ⟨k6703, hf⟩ := gChk hf
                    obtain ⟨u6704, eu6704, hf⟩ := gBind hf
                    refine g_callVr X hR hS [.int (1 : Int32)] (m_X1_passes l G F h66L n v66_5 (1 : Int32) eu6704) yk_X1_passes q1137 k6703 rfl hl.1 ⟨Nat.le_of_ble_eq_true rfl, Nat.le_of_ble_eq_true rfl⟩ ⟨Nat.le_of_ble_eq_true rfl, Nat.le_of_ble_eq_true rfl⟩ rfl (Nat.le_of_ble_eq_true rfl) dX0_fits_82 (fun H locs hR hS => ?_)
                    refine lv_iconst (v := (2 : Int32)) hx hb dX0_fits_85 (by decide) ?_
                    obtain ⟨k6705, hf⟩ := gChk hf
                    obtain ⟨u6706, eu6706, hf⟩ := gBind hf
                    refine g_callVi X hR hS [.int (2 : Int32)] (m_X1_withLight l G F u6704.2 n u6704.1 (2 : Int32) eu6706) yk_X1_withLight q1255 k6705 rfl hl.1 ⟨Nat.le_of_ble_eq_true rfl, Nat.le_of_ble_eq_true rfl⟩ ⟨Nat.le_of_ble_eq_true rfl, Nat.le_of_ble_eq_true rfl⟩ rfl (Nat.le_of_ble_eq_true rfl) dX0_fits_86 (fun H locs hR hS => ?_)
                    obtain ⟨h6707, eh6707, hf⟩ := gBind hf
                    refine g_iast X hR hS eh6707 dX0_fits_89 (fun H locs hR hS => ?_)
                    refine lv_iinc (v := v66_6 + (1 : Int32)) (lv' := [(6, .int (v66_6 + (1 : Int32))), (0, .ref v66_0), (1, .int v66_1), (2, .int v66_2), (3, .int v66_3), (4, .int v66_4), (5, .ref v66_5)]) hx hb dX0_fits_90 hl (k := 6) rfl rfl (by decide) rfl (fun ls hl => ?_)
                    refine lv_goto (tgt := 66) hx hb dX0_fits_93 (by decide) ?_
                    exact ih h6707 v66_0 v66_1 v66_2 v66_3 v66_4 v66_5 (v66_6 + (1 : Int32)) _ _ _ _ hf hR hS (lv_sub hl [1, 2, 3, 4, 5, 6, 0] rfl) K66
              obtain ⟨y4808, ey4808, hf⟩ := gBind hf
              refine L66_q4806 F u4805.2 v47_0 v47_1 v47_2 v47_3 v47_4 u4805.1 (0 : Int32) y4808 _ _ _ ey4808 hR hS (lv_sub hl [2, 3, 4, 5, 6, 1, 0] rfl) (fun H locs ls hR hS hl => ?_)
              refine lv_aload_n hx hb dX0_fits_96 rfl (lv_at hl 0 rfl) ?_
              obtain ⟨k4809, hf⟩ := gChk hf
              obtain ⟨u4810, eu4810, hf⟩ := gBind hf
              refine g_callVi X hR hS [] (m_X0_isNoted l G F y4808 n v47_0 eu4810) yk_X0_isNoted q1545 k4809 rfl hl.1 ⟨Nat.le_of_ble_eq_true rfl, Nat.le_of_ble_eq_true rfl⟩ ⟨Nat.le_of_ble_eq_true rfl, Nat.le_of_ble_eq_true rfl⟩ rfl (Nat.le_of_ble_eq_true rfl) dX0_fits_97 (fun H locs hR hS => ?_)
              refine lv_if_eq (tgt := 109) hx hb dX0_fits_100 (by decide) (fun c4811 => ?_) (fun c4811 => ?_)
              · replace hf := gIfp c4811 hf
                refine lv_iinc (v := v47_4 + (-1 : Int32)) (lv' := [(4, .int (v47_4 + (-1 : Int32))), (0, .ref v47_0), (1, .int v47_1), (2, .int v47_2), (3, .int v47_3)]) hx hb dX0_fits_109 hl (k := 4) rfl rfl (by decide) rfl (fun ls hl => ?_)
                refine lv_goto (tgt := 47) hx hb dX0_fits_112 (by decide) ?_
                exact ih y4808 v47_0 v47_1 v47_2 v47_3 (v47_4 + (-1 : Int32)) _ _ _ _ hf hR hS (lv_sub hl [1, 2, 3, 4, 0] rfl) K47
              · replace hf := gIfn c4811 hf
                refine lv_iinc (v := v47_2 + (1 : Int32)) (lv' := [(2, .int (v47_2 + (1 : Int32))), (0, .ref v47_0), (1, .int v47_1), (3, .int v47_3), (4, .int v47_4)]) hx hb dX0_fits_103 hl (k := 2) rfl rfl (by decide) rfl (fun ls hl => ?_)
                refine lv_iload hx hb dX0_fits_106 (lv_at hl 4 rfl) ?_
                refine lv_istore_n (lv' := [(3, .int v47_4), (2, .int (v47_2 + (1 : Int32))), (0, .ref v47_0), (1, .int v47_1), (4, .int v47_4)]) hx hb dX0_fits_108 rfl hl (by decide) rfl (fun ls hl => ?_)
                refine lv_iinc (v := v47_4 + (-1 : Int32)) (lv' := [(4, .int (v47_4 + (-1 : Int32))), (3, .int v47_4), (2, .int (v47_2 + (1 : Int32))), (0, .ref v47_0), (1, .int v47_1)]) hx hb dX0_fits_109 hl (k := 4) rfl rfl (by decide) rfl (fun ls hl => ?_)
                refine lv_goto (tgt := 47) hx hb dX0_fits_112 (by decide) ?_
                exact ih y4808 v47_0 v47_1 (v47_2 + (1 : Int32)) v47_4 (v47_4 + (-1 : Int32)) _ _ _ _ hf hR hS (lv_sub hl [3, 4, 2, 1, 0] rfl) K47
        obtain ⟨y11, ey11, hf⟩ := gBind hf
        refine L47_q9 F u7.2 a0 p1 (0 : Int32) (-5 : Int32) (9 : Int32) y11 _ _ _ ey11 hR hS (lv_sub hl [3, 4, 2, 1, 0] rfl) (fun H locs ls hR hS hl => ?_)
        refine lv_iload_n hx hb dX0_fits_115 rfl (lv_at hl 2 rfl) ?_
        refine lv_if_ne (tgt := 123) hx hb dX0_fits_116 (by decide) (fun c12 => ?_) (fun c12 => ?_)
        · replace hf := gIfn c12 hf
          refine lv_iload_n hx hb dX0_fits_123 rfl (lv_at hl 1 rfl) ?_
          obtain ⟨rfl, rfl⟩ := gO2 hf
          exact g_iret X hR hS _ rfl ⟨Nat.le_of_ble_eq_true rfl, Nat.le_of_ble_eq_true rfl⟩ dX0_fits_124
        · replace hf := gIfp c12 hf
          refine lv_iload_n hx hb dX0_fits_119 rfl (lv_at hl 0 rfl) ?_
          refine lv_goto (tgt := 124) hx hb dX0_fits_120 (by decide) ?_
          obtain ⟨rfl, rfl⟩ := gO2 hf
          exact g_iret X hR hS _ rfl ⟨Nat.le_of_ble_eq_true rfl, Nat.le_of_ble_eq_true rfl⟩ dX0_fits_124
      · replace hf := gIfp c8 hf
        refine lv_bipush (v := (-4 : Int32)) hx hb dX0_fits_35 (by decide) ?_
        obtain ⟨rfl, rfl⟩ := gO2 hf
        exact g_iret X hR hS _ rfl ⟨Nat.le_of_ble_eq_true rfl, Nat.le_of_ble_eq_true rfl⟩ dX0_fits_37
    · replace hf := gIfp c5 hf
      refine lv_bipush (v := (-3 : Int32)) hx hb dX0_fits_22 (by decide) ?_
      obtain ⟨rfl, rfl⟩ := gO2 hf
      exact g_iret X hR hS _ rfl ⟨Nat.le_of_ble_eq_true rfl, Nat.le_of_ble_eq_true rfl⟩ dX0_fits_24
  · replace hf := gIfp c2 hf
    refine lv_iconst (v := (-1 : Int32)) hx hb dX0_fits_10 (by decide) ?_
    obtain ⟨rfl, rfl⟩ := gO2 hf
    exact g_iret X hR hS _ rfl ⟨Nat.le_of_ble_eq_true rfl, Nat.le_of_ble_eq_true rfl⟩ dX0_fits_11

def sp_X0_dayBy (G : gG) (F : Nat) (h : gH) (a0 : Nat) (p1 : Int32) (p2 : Int32) : Option (Int32 × gH) :=
 if gIs 0 h a0 = true then
 (sp_X0_thought G F h a0).bind fun u2 =>
 (gPv 1 u2.2 u2.1 8 (.int p1)).bind fun h3 =>
 if gIs 1 h3 u2.1 = true then
 (sp_X1_passes G F h3 u2.1 p2).bind fun u5 =>
 (gGi 1 u5.2 u5.1 5).bind fun x6 =>
 (gGr 0 u5.2 a0 0).bind fun x7 =>
 (gGi 1 u5.2 x7 5).bind fun x8 =>
 some ((x6 - x8, u5.2)) else none else none
theorem yk_X0_dayBy : gVk yX0_dayBy cX0_dayBy 4 (some .int) 2 0 := ⟨q1556, qs32, q92, q1557, ⟨by decide +kernel, by decide +kernel, by decide +kernel⟩, rfl⟩
set_option maxHeartbeats 4000000 in
theorem m_X0_dayBy (l : Launch) (G : gG) (F : Nat) (h : gH) (n : Nat) (a0 : Nat) (p1 : Int32) (p2 : Int32) {r : Int32} {h' : gH} (hf : sp_X0_dayBy G F h a0 p1 p2 = some (r, h')) : gMet l G yX0_dayBy cX0_dayBy 4 (some .int) 6 134 0 0 [.ref a0, .int p1, .int p2] h n (some (.int r)) h' n := by
  refine gEnter (by decide) [(0, .ref a0), (1, .int p1), (2, .int p2)] rfl (Nat.le_of_ble_eq_true rfl) ?_
  intro p e s m below meth c H ls X hin hR hS hl
  have hx := X.1.1
  have hb := X.1.2.1
  unfold sp_X0_dayBy at hf
  generalize ([] : List Loc) = locs at hS ⊢
  refine lv_aload_n hx hb dX0_dayBy_0 rfl (lv_at hl 0 rfl) ?_
  obtain ⟨k1, hf⟩ := gChk hf
  obtain ⟨u2, eu2, hf⟩ := gBind hf
  refine g_callVr X hR hS [] (m_X0_thought l G F h n a0 eu2) yk_X0_thought q1494 k1 rfl hl.1 ⟨Nat.le_of_ble_eq_true rfl, Nat.le_of_ble_eq_true rfl⟩ ⟨Nat.le_of_ble_eq_true rfl, Nat.le_of_ble_eq_true rfl⟩ rfl (Nat.le_of_ble_eq_true rfl) dX0_dayBy_1 (fun H locs hR hS => ?_)
  refine lv_astore_n (lv' := [(3, .ref u2.1), (0, .ref a0), (1, .int p1), (2, .int p2)]) hx hb dX0_dayBy_4 rfl hl (by decide) rfl (fun ls hl => ?_)
  refine lv_aload_n hx hb dX0_dayBy_5 rfl (lv_at hl 0 rfl) ?_
  refine lv_iload_n hx hb dX0_dayBy_6 rfl (lv_at hl 2 rfl) ?_
  obtain ⟨h3, eh3, hf⟩ := gBind hf
  refine g_putN X hR hS gk_X1 8 (by decide) q639 rfl rfl eh3 rfl rfl rfl dX0_dayBy_7 (fun H locs hR hS => ?_)
  refine lv_aload_n hx hb dX0_dayBy_10 rfl (lv_at hl 0 rfl) ?_
  refine lv_iload_n hx hb dX0_dayBy_11 rfl (lv_at hl 3 rfl) ?_
  obtain ⟨k4, hf⟩ := gChk hf
  obtain ⟨u5, eu5, hf⟩ := gBind hf
  refine g_callVr X hR hS [.int p2] (m_X1_passes l G F h3 n u2.1 p2 eu5) yk_X1_passes q1137 k4 rfl hl.1 ⟨Nat.le_of_ble_eq_true rfl, Nat.le_of_ble_eq_true rfl⟩ ⟨Nat.le_of_ble_eq_true rfl, Nat.le_of_ble_eq_true rfl⟩ rfl (Nat.le_of_ble_eq_true rfl) dX0_dayBy_12 (fun H locs hR hS => ?_)
  obtain ⟨x6, ex6, hf⟩ := gBind hf
  refine g_getiN X hR gk_X1 5 (by decide) q633 rfl ex6 dX0_dayBy_15 ?_
  refine lv_aload_n hx hb dX0_dayBy_18 rfl (lv_at hl 1 rfl) ?_
  obtain ⟨x7, ex7, hf⟩ := gBind hf
  refine g_getr X hR gk_X0 0 (by decide) q792 rfl ex7 dX0_dayBy_19 ?_
  obtain ⟨x8, ex8, hf⟩ := gBind hf
  refine g_getiN X hR gk_X1 5 (by decide) q633 rfl ex8 dX0_dayBy_22 ?_
  refine lv_isub hx hb dX0_dayBy_25 ?_
  obtain ⟨rfl, rfl⟩ := gO2 hf
  exact g_iret X hR hS _ rfl ⟨Nat.le_of_ble_eq_true rfl, Nat.le_of_ble_eq_true rfl⟩ dX0_dayBy_26

def sp_X0_day (G : gG) (F : Nat) (h : gH) (a0 : Nat) (p1 : Int32) (p2 : Int32) : Option (Int32 × gH) :=
 (sp_X0_in G F h p2.toInt64 (0 : Int64) (99 : Int64)).bind fun u1 =>
 if u1 = 0 then
 some (((-2 : Int32), h)) else
 (gGr 0 h a0 0).bind fun x3 =>
 (gGi 1 h x3 0).bind fun x4 =>
 if x4 = 0 then
 some (((-3 : Int32), h)) else
 if gIs 0 h a0 = true then
 (sp_X0_counts G F h a0 p2).bind fun u7 =>
 if u7.1 = 0 then
 some (((-4 : Int32), u7.2)) else
 if gIs 0 u7.2 a0 = true then
 (sp_X0_dayBy G F u7.2 a0 p1 p2).bind fun u10 =>
 some ((u10.1, u10.2)) else none else none
theorem yk_X0_day : gVk yX0_day cX0_day 3 (some .int) 2 0 := ⟨q1551, q1552, q92, q1553, ⟨by decide +kernel, by decide +kernel, by decide +kernel⟩, rfl⟩
set_option maxHeartbeats 4000000 in
theorem m_X0_day (l : Launch) (G : gG) (F : Nat) (h : gH) (n : Nat) (a0 : Nat) (p1 : Int32) (p2 : Int32) {r : Int32} {h' : gH} (hf : sp_X0_day G F h a0 p1 p2 = some (r, h')) : gMet l G yX0_day cX0_day 3 (some .int) 7 157 0 0 [.ref a0, .int p1, .int p2] h n (some (.int r)) h' n := by
  refine gEnter (by decide) [(0, .ref a0), (1, .int p1), (2, .int p2)] rfl (Nat.le_of_ble_eq_true rfl) ?_
  intro p e s m below meth c H ls X hin hR hS hl
  have hx := X.1.1
  have hb := X.1.2.1
  unfold sp_X0_day at hf
  generalize ([] : List Loc) = locs at hS ⊢
  refine lv_iload_n hx hb dX0_day_0 rfl (lv_at hl 2 rfl) ?_
  refine lv_i2l (v := p2.toInt64) hx hb dX0_day_1 rfl ?_
  refine lv_lconst (v := (0 : Int64)) hx hb dX0_day_2 (by decide) ?_
  refine lv_ldc2 (v := (99 : Int64)) hx hb X.1.2.2.2.1 (X.1.2.2.2.2 _ q949) dX0_day_3 ?_
  obtain ⟨u1, eu1, hf⟩ := gBind hf
  refine g_callSi X hR hS [.long p2.toInt64, .long (0 : Int64), .long (99 : Int64)] (m_X0_in l G F h n p2.toInt64 (0 : Int64) (99 : Int64) eu1) yk_X0_in q830 rfl hl.1 ⟨Nat.le_of_ble_eq_true rfl, Nat.le_of_ble_eq_true rfl⟩ ⟨Nat.le_of_ble_eq_true rfl, Nat.le_of_ble_eq_true rfl⟩ rfl (Nat.le_of_ble_eq_true rfl) dX0_day_6 (fun H locs hR hS => ?_)
  refine lv_if_ne (tgt := 15) hx hb dX0_day_9 (by decide) (fun c2 => ?_) (fun c2 => ?_)
  · replace hf := gIfn c2 hf
    refine lv_aload_n hx hb dX0_day_15 rfl (lv_at hl 0 rfl) ?_
    obtain ⟨x3, ex3, hf⟩ := gBind hf
    refine g_getr X hR gk_X0 0 (by decide) q792 rfl ex3 dX0_day_16 ?_
    obtain ⟨x4, ex4, hf⟩ := gBind hf
    refine g_getiN X hR gk_X1 0 (by decide) q623 rfl ex4 dX0_day_19 ?_
    refine lv_if_ne (tgt := 28) hx hb dX0_day_22 (by decide) (fun c5 => ?_) (fun c5 => ?_)
    · replace hf := gIfn c5 hf
      refine lv_aload_n hx hb dX0_day_28 rfl (lv_at hl 0 rfl) ?_
      refine lv_iload_n hx hb dX0_day_29 rfl (lv_at hl 2 rfl) ?_
      obtain ⟨k6, hf⟩ := gChk hf
      obtain ⟨u7, eu7, hf⟩ := gBind hf
      refine g_callVi X hR hS [.int p2] (m_X0_counts l G F h n a0 p2 eu7) yk_X0_counts q1133 k6 rfl hl.1 ⟨Nat.le_of_ble_eq_true rfl, Nat.le_of_ble_eq_true rfl⟩ ⟨Nat.le_of_ble_eq_true rfl, Nat.le_of_ble_eq_true rfl⟩ rfl (Nat.le_of_ble_eq_true rfl) dX0_day_30 (fun H locs hR hS => ?_)
      refine lv_if_eq (tgt := 45) hx hb dX0_day_33 (by decide) (fun c8 => ?_) (fun c8 => ?_)
      · replace hf := gIfp c8 hf
        refine lv_bipush (v := (-4 : Int32)) hx hb dX0_day_45 (by decide) ?_
        obtain ⟨rfl, rfl⟩ := gO2 hf
        exact g_iret X hR hS _ rfl ⟨Nat.le_of_ble_eq_true rfl, Nat.le_of_ble_eq_true rfl⟩ dX0_day_47
      · replace hf := gIfn c8 hf
        refine lv_aload_n hx hb dX0_day_36 rfl (lv_at hl 0 rfl) ?_
        refine lv_iload_n hx hb dX0_day_37 rfl (lv_at hl 1 rfl) ?_
        refine lv_iload_n hx hb dX0_day_38 rfl (lv_at hl 2 rfl) ?_
        obtain ⟨k9, hf⟩ := gChk hf
        obtain ⟨u10, eu10, hf⟩ := gBind hf
        refine g_callVi X hR hS [.int p1, .int p2] (m_X0_dayBy l G F u7.2 n a0 p1 p2 eu10) yk_X0_dayBy q1554 k9 rfl hl.1 ⟨Nat.le_of_ble_eq_true rfl, Nat.le_of_ble_eq_true rfl⟩ ⟨Nat.le_of_ble_eq_true rfl, Nat.le_of_ble_eq_true rfl⟩ rfl (Nat.le_of_ble_eq_true rfl) dX0_day_39 (fun H locs hR hS => ?_)
        refine lv_goto (tgt := 47) hx hb dX0_day_42 (by decide) ?_
        obtain ⟨rfl, rfl⟩ := gO2 hf
        exact g_iret X hR hS _ rfl ⟨Nat.le_of_ble_eq_true rfl, Nat.le_of_ble_eq_true rfl⟩ dX0_day_47
    · replace hf := gIfp c5 hf
      refine lv_bipush (v := (-3 : Int32)) hx hb dX0_day_25 (by decide) ?_
      obtain ⟨rfl, rfl⟩ := gO2 hf
      exact g_iret X hR hS _ rfl ⟨Nat.le_of_ble_eq_true rfl, Nat.le_of_ble_eq_true rfl⟩ dX0_day_27
  · replace hf := gIfp c2 hf
    refine lv_bipush (v := (-2 : Int32)) hx hb dX0_day_12 (by decide) ?_
    obtain ⟨rfl, rfl⟩ := gO2 hf
    exact g_iret X hR hS _ rfl ⟨Nat.le_of_ble_eq_true rfl, Nat.le_of_ble_eq_true rfl⟩ dX0_day_14

def sp_X0_divisor_L6 (G : gG) (F : Nat) (h6L : gH) : Nat → Int64 → Int64 → Option (Int64)
  | 0, _, _ => none
  | f + 1, v6_4, v6_6 =>
    if (lg_cmp v6_6 (0 : Int64)) = 0 then
    some (v6_4) else
    if ¬ v6_6 = 0 then
    sp_X0_divisor_L6 G F h6L f v6_6 (v6_4 - v6_4 / v6_6 * v6_6) else none
def sp_X0_divisor (G : gG) (F : Nat) (h : gH) (p0 : Int64) (p2 : Int64) : Option (Int64) :=
 (sp_X0_divisor_L6 G F h F p0 p2).bind fun y3 =>
 some (y3)
theorem yk_X0_divisor : gSk yX0_divisor cX0_divisor 10 (some .long) 2 := ⟨q1567, q92, q1568, ⟨by decide +kernel, by decide +kernel, by decide +kernel⟩⟩
set_option maxHeartbeats 4000000 in
theorem m_X0_divisor (l : Launch) (G : gG) (F : Nat) (h : gH) (n : Nat) (p0 : Int64) (p2 : Int64) {r : Int64} (hf : sp_X0_divisor G F h p0 p2 = some r) : gMet l G yX0_divisor cX0_divisor 10 (some .long) 0 0 0 0 [.long p0, .long p2] h n (some (.long r)) h n := by
  refine gEnter (by decide) [(0, .long p0), (2, .long p2)] rfl (Nat.le_of_ble_eq_true rfl) ?_
  intro p e s m below meth c H ls X hin hR hS hl
  have hx := X.1.1
  have hb := X.1.2.1
  unfold sp_X0_divisor at hf
  generalize ([] : List Loc) = locs at hS ⊢
  refine lv_lload_n hx hb dX0_divisor_0 rfl (lv_at hl 0 rfl) ?_
  refine lv_lstore (lv' := [(4, .long p0), (0, .long p0), (2, .long p2)]) hx hb dX0_divisor_1 hl (by decide) rfl (fun ls hl => ?_)
  refine lv_lload_n hx hb dX0_divisor_3 rfl (lv_at hl 2 rfl) ?_
  refine lv_lstore (lv' := [(6, .long p2), (4, .long p0), (0, .long p0), (2, .long p2)]) hx hb dX0_divisor_4 hl (by decide) rfl (fun ls hl => ?_)
  have L6_q1 : ∀ (f : Nat) (v6_4 : Int64) (v6_6 : Int64) (o2 : Int64) (H : Heap) (locs : List Loc) (ls : Array Slot), sp_X0_divisor_L6 G F h f v6_4 v6_6 = some o2 → gRep G h n H → va_S (gFr G) s.heap H locs → lv_has ls 10 [(4, .long v6_4), (6, .long v6_6)] → (∀ (H : Heap) (locs : List Loc) (ls : Array Slot), gRep G h n H → va_S (gFr G) s.heap H locs → lv_has ls 10 [(4, .long o2)] → W p l e ({ frames := 0, cells := 0, slots := 0, locals := 0 } : Room) s m ([.long p0, .long p2] : List Value).toArray below meth c H locs 0 0 (MQ below (gQ G (some (.long r)) h n) ([.long p0, .long p2] : List Value).toArray s 0 0 (gFr G)) (F0 m 31 ls [])) → W p l e ({ frames := 0, cells := 0, slots := 0, locals := 0 } : Room) s m ([.long p0, .long p2] : List Value).toArray below meth c H locs 0 0 (MQ below (gQ G (some (.long r)) h n) ([.long p0, .long p2] : List Value).toArray s 0 0 (gFr G)) (F0 m 6 ls []) := by
    clear hf
    intro f
    induction f with
    | zero =>
      intro v6_4 v6_6 o2 H locs ls hf
      cases hf
    | succ f ih =>
      intro v6_4 v6_6 o2 H locs ls hf hR hS hl K6
      rw [sp_X0_divisor_L6] at hf
      refine lv_lload hx hb dX0_divisor_6 (lv_at hl 1 rfl) ?_
      refine lv_lconst (v := (0 : Int64)) hx hb dX0_divisor_8 (by decide) ?_
      refine W.lcmp hx hb dX0_divisor_9 ?_
      refine lv_if_eq (tgt := 31) hx hb dX0_divisor_10 (by decide) (fun c701 => ?_) (fun c701 => ?_)
      · replace hf := gIfp c701 hf
        obtain rfl := gO1 hf
        exact K6 _ _ _ hR hS (lv_sub hl [0] rfl)
      · replace hf := gIfn c701 hf
        refine lv_lload hx hb dX0_divisor_13 (lv_at hl 0 rfl) ?_
        refine lv_lload hx hb dX0_divisor_15 (lv_at hl 1 rfl) ?_
        obtain ⟨k702, hf⟩ := gChk hf
        refine lv_lrem hx hb dX0_divisor_17 k702 ?_
        refine lv_lstore (lv' := [(8, .long (v6_4 - v6_4 / v6_6 * v6_6)), (4, .long v6_4), (6, .long v6_6)]) hx hb dX0_divisor_18 hl (by decide) rfl (fun ls hl => ?_)
        refine lv_lload hx hb dX0_divisor_20 (lv_at hl 2 rfl) ?_
        refine lv_lstore (lv' := [(4, .long v6_6), (8, .long (v6_4 - v6_4 / v6_6 * v6_6)), (6, .long v6_6)]) hx hb dX0_divisor_22 hl (by decide) rfl (fun ls hl => ?_)
        refine lv_lload hx hb dX0_divisor_24 (lv_at hl 1 rfl) ?_
        refine lv_lstore (lv' := [(6, .long (v6_4 - v6_4 / v6_6 * v6_6)), (4, .long v6_6), (8, .long (v6_4 - v6_4 / v6_6 * v6_6))]) hx hb dX0_divisor_26 hl (by decide) rfl (fun ls hl => ?_)
        refine lv_goto (tgt := 6) hx hb dX0_divisor_28 (by decide) ?_
        exact ih v6_6 (v6_4 - v6_4 / v6_6 * v6_6) _ _ _ _ hf hR hS (lv_sub hl [1, 0] rfl) K6
  obtain ⟨y3, ey3, hf⟩ := gBind hf
  refine L6_q1 F p0 p2 y3 _ _ _ ey3 hR hS (lv_sub hl [1, 0] rfl) (fun H locs ls hR hS hl => ?_)
  refine lv_lload hx hb dX0_divisor_31 (lv_at hl 0 rfl) ?_
  obtain rfl := gO1 hf
  exact g_lret X hR hS _ rfl ⟨Nat.le_of_ble_eq_true rfl, Nat.le_of_ble_eq_true rfl⟩ dX0_divisor_33

def sp_X0_lowest (G : gG) (F : Nat) (h : gH) (p0 : Int64) (p2 : Int64) (p4 : Int32) : Option (Int64) :=
 (if p4 = 0 then
 some (p0) else
 some (p2)).bind fun j2 =>
 (sp_X0_divisor G F h p0 p2).bind fun u3 =>
 if ¬ u3 = 0 then
 some (j2 / u3) else none
theorem yk_X0_lowest : gSk yX0_lowest cX0_lowest 5 (some .long) 3 := ⟨q1564, q92, q1565, ⟨by decide +kernel, by decide +kernel, by decide +kernel⟩⟩
set_option maxHeartbeats 4000000 in
theorem m_X0_lowest (l : Launch) (G : gG) (F : Nat) (h : gH) (n : Nat) (p0 : Int64) (p2 : Int64) (p4 : Int32) {r : Int64} (hf : sp_X0_lowest G F h p0 p2 p4 = some r) : gMet l G yX0_lowest cX0_lowest 5 (some .long) 1 29 0 0 [.long p0, .long p2, .int p4] h n (some (.long r)) h n := by
  refine gEnter (by decide) [(0, .long p0), (2, .long p2), (4, .int p4)] rfl (Nat.le_of_ble_eq_true rfl) ?_
  intro p e s m below meth c H ls X hin hR hS hl
  have hx := X.1.1
  have hb := X.1.2.1
  unfold sp_X0_lowest at hf
  generalize ([] : List Loc) = locs at hS ⊢
  refine lv_iload hx hb dX0_lowest_0 (lv_at hl 2 rfl) ?_
  obtain ⟨j2, ej2, hf⟩ := gBind hf
  have J10_j2 : ∀ (H : Heap) (locs : List Loc) (ls : Array Slot), gRep G h n H → va_S (gFr G) s.heap H locs → lv_has ls 5 [(0, .long p0), (2, .long p2)] → W p l e ({ frames := 1, cells := 0, slots := 0, locals := 29 } : Room) s m ([.long p0, .long p2, .int p4] : List Value).toArray below meth c H locs 0 0 (MQ below (gQ G (some (.long r)) h n) ([.long p0, .long p2, .int p4] : List Value).toArray s 0 0 (gFr G)) (F0 m 10 ls [.long j2]) := by
    intro H locs ls hR hS hl
    refine lv_lload_n hx hb dX0_lowest_10 rfl (lv_at hl 0 rfl) ?_
    refine lv_lload_n hx hb dX0_lowest_11 rfl (lv_at hl 1 rfl) ?_
    obtain ⟨u3, eu3, hf⟩ := gBind hf
    refine g_callSl X hR hS [.long p0, .long p2] (m_X0_divisor l G F h n p0 p2 eu3) yk_X0_divisor q1566 rfl hl.1 ⟨Nat.le_of_ble_eq_true rfl, Nat.le_of_ble_eq_true rfl⟩ ⟨Nat.le_of_ble_eq_true rfl, Nat.le_of_ble_eq_true rfl⟩ rfl (Nat.le_of_ble_eq_true rfl) dX0_lowest_12 (fun H locs hR hS => ?_)
    obtain ⟨k4, hf⟩ := gChk hf
    refine lv_ldiv hx hb dX0_lowest_15 k4 ?_
    obtain rfl := gO1 hf
    exact g_lret X hR hS _ rfl ⟨Nat.le_of_ble_eq_true rfl, Nat.le_of_ble_eq_true rfl⟩ dX0_lowest_16
  replace hf := ej2
  clear ej2
  refine lv_if_ne (tgt := 9) hx hb dX0_lowest_2 (by decide) (fun c1 => ?_) (fun c1 => ?_)
  · replace hf := gIfn c1 hf
    refine lv_lload_n hx hb dX0_lowest_9 rfl (lv_at hl 1 rfl) ?_
    obtain rfl := gO1 hf
    exact J10_j2 _ _ _ hR hS (lv_sub hl [0, 1] rfl)
  · replace hf := gIfp c1 hf
    refine lv_lload_n hx hb dX0_lowest_5 rfl (lv_at hl 0 rfl) ?_
    refine lv_goto (tgt := 10) hx hb dX0_lowest_6 (by decide) ?_
    obtain rfl := gO1 hf
    exact J10_j2 _ _ _ hR hS (lv_sub hl [0, 1] rfl)

def sp_X0_chance_L87 (G : gG) (F : Nat) (n87L : Nat) : Nat → gH → Nat → Int32 → Int32 → Int32 → Int32 → Int32 → Int32 → Int32 → Option (Int32 × gH)
  | 0, _, _, _, _, _, _, _, _, _ => none
  | f + 1, h87L, v87_0, v87_1, v87_2, v87_3, v87_4, v87_5, v87_6, v87_7 =>
    if v87_3 ≤ v87_7 then
    some (v87_6, h87L) else
    if gIs 0 h87L v87_0 = true then
    (sp_X0_dayBy G F h87L v87_0 (v87_1 + v87_7) v87_2).bind fun u8803 =>
    if v87_4 < u8803.1 then
    sp_X0_chance_L87 G F n87L f u8803.2 v87_0 v87_1 v87_2 v87_3 v87_4 v87_5 (v87_6 + (0 : Int32)) (v87_7 + (1 : Int32)) else
    sp_X0_chance_L87 G F n87L f u8803.2 v87_0 v87_1 v87_2 v87_3 v87_4 v87_5 (v87_6 + (1 : Int32)) (v87_7 + (1 : Int32)) else none
def sp_X0_chance (G : gG) (F : Nat) (h : gH) (n : Nat) (a0 : Nat) (p1 : Int32) (p2 : Int32) (p3 : Int32) (p4 : Int32) (p5 : Int32) : Option (Int64 × gH × Nat) :=
 (sp_X0_in G F (va_up h n (some (.inl (3, 5, .inl (fun _ => 0))))) p2.toInt64 (0 : Int64) (99 : Int64)).bind fun u1 =>
 (gSb 3 (va_up h n (some (.inl (3, 5, .inl (fun _ => 0))))) n (0 : Int32) u1).bind fun h2 =>
 (sp_X0_in G F h2 p3.toInt64 (1 : Int64) (4 : Int64)).bind fun u3 =>
 (gSb 3 h2 n (1 : Int32) u3).bind fun h4 =>
 (sp_X0_in G F h4 p4.toInt64 (0 : Int64) (99999 : Int64)).bind fun u5 =>
 (gSb 3 h4 n (2 : Int32) u5).bind fun h6 =>
 (sp_X0_in G F h6 p5.toInt64 (0 : Int64) (1 : Int64)).bind fun u7 =>
 (gSb 3 h6 n (3 : Int32) u7).bind fun h8 =>
 (gGr 0 h8 a0 0).bind fun x9 =>
 (gGi 1 h8 x9 0).bind fun x10 =>
 (gSb 3 h8 n (4 : Int32) x10).bind fun h11 =>
 (sp_X0_are G F h11 n).bind fun u12 =>
 if u12 = 0 then
 some (((-9223372036854775808 : Int64), h11, n + 1)) else
 if gIs 0 h11 a0 = true then
 (sp_X0_counts G F h11 a0 (p3 * p2)).bind fun u15 =>
 if u15.1 = 0 then
 some (((-9223372036854775808 : Int64), u15.2, n + 1)) else
 (sp_X0_chance_L87 G F (n + 1) F u15.2 a0 p1 p2 p3 p4 p5 (0 : Int32) (0 : Int32)).bind fun y19 =>
 (sp_X0_lowest G F y19.2 y19.1.toInt64 p3.toInt64 p5).bind fun u20 =>
 some ((u20, y19.2, n + 1)) else none
theorem yk_X0_chance : gVk yX0_chance cX0_chance 8 (some .long) 5 0 := ⟨q1559, q1560, q92, q1561, ⟨by decide +kernel, by decide +kernel, by decide +kernel⟩, rfl⟩
set_option maxHeartbeats 4000000 in
theorem m_X0_chance (l : Launch) (G : gG) (F : Nat) (h : gH) (n : Nat) (a0 : Nat) (p1 : Int32) (p2 : Int32) (p3 : Int32) (p4 : Int32) (p5 : Int32) {r : Int64} {h' : gH} {n' : Nat} (hf : sp_X0_chance G F h n a0 p1 p2 p3 p4 p5 = some (r, h', n')) : gMet l G yX0_chance cX0_chance 8 (some .long) 7 157 1 5 [.ref a0, .int p1, .int p2, .int p3, .int p4, .int p5] h n (some (.long r)) h' n' := by
  refine gEnter (by decide) [(0, .ref a0), (1, .int p1), (2, .int p2), (3, .int p3), (4, .int p4), (5, .int p5)] rfl (Nat.le_of_ble_eq_true rfl) ?_
  intro p e s m below meth c H ls X hin hR hS hl
  have hx := X.1.1
  have hb := X.1.2.1
  unfold sp_X0_chance at hf
  generalize ([] : List Loc) = locs at hS ⊢
  refine lv_iconst (v := (5 : Int32)) hx hb dX0_chance_0 (by decide) ?_
  refine g_newa3 X hR hS q879 5 (by decide) (by decide) (by decide) ⟨Nat.le_of_ble_eq_true rfl, Nat.le_of_ble_eq_true rfl⟩ dX0_chance_1 (fun H hR hS => ?_)
  refine lv_dup hx hb dX0_chance_3 rfl ?_
  refine lv_iconst (v := (0 : Int32)) hx hb dX0_chance_4 (by decide) ?_
  refine lv_iload_n hx hb dX0_chance_5 rfl (lv_at hl 2 rfl) ?_
  refine lv_i2l (v := p2.toInt64) hx hb dX0_chance_6 rfl ?_
  refine lv_lconst (v := (0 : Int64)) hx hb dX0_chance_7 (by decide) ?_
  refine lv_ldc2 (v := (99 : Int64)) hx hb X.1.2.2.2.1 (X.1.2.2.2.2 _ q949) dX0_chance_8 ?_
  obtain ⟨u1, eu1, hf⟩ := gBind hf
  refine g_callSi X hR hS [.long p2.toInt64, .long (0 : Int64), .long (99 : Int64)] (m_X0_in l G F (va_up h n (some (.inl (3, 5, .inl (fun _ => 0))))) (n + 1) p2.toInt64 (0 : Int64) (99 : Int64) eu1) yk_X0_in q830 rfl hl.1 ⟨Nat.le_of_ble_eq_true rfl, Nat.le_of_ble_eq_true rfl⟩ ⟨Nat.le_of_ble_eq_true rfl, Nat.le_of_ble_eq_true rfl⟩ rfl (Nat.le_of_ble_eq_true rfl) dX0_chance_11 (fun H locs hR hS => ?_)
  obtain ⟨h2, eh2, hf⟩ := gBind hf
  refine g_zast X hR hS eh2 dX0_chance_14 (fun H locs hR hS => ?_)
  refine lv_dup hx hb dX0_chance_15 rfl ?_
  refine lv_iconst (v := (1 : Int32)) hx hb dX0_chance_16 (by decide) ?_
  refine lv_iload_n hx hb dX0_chance_17 rfl (lv_at hl 3 rfl) ?_
  refine lv_i2l (v := p3.toInt64) hx hb dX0_chance_18 rfl ?_
  refine lv_lconst (v := (1 : Int64)) hx hb dX0_chance_19 (by decide) ?_
  refine lv_ldc2 (v := (4 : Int64)) hx hb X.1.2.2.2.1 (X.1.2.2.2.2 _ q1340) dX0_chance_20 ?_
  obtain ⟨u3, eu3, hf⟩ := gBind hf
  refine g_callSi X hR hS [.long p3.toInt64, .long (1 : Int64), .long (4 : Int64)] (m_X0_in l G F h2 (n + 1) p3.toInt64 (1 : Int64) (4 : Int64) eu3) yk_X0_in q830 rfl hl.1 ⟨Nat.le_of_ble_eq_true rfl, Nat.le_of_ble_eq_true rfl⟩ ⟨Nat.le_of_ble_eq_true rfl, Nat.le_of_ble_eq_true rfl⟩ rfl (Nat.le_of_ble_eq_true rfl) dX0_chance_23 (fun H locs hR hS => ?_)
  obtain ⟨h4, eh4, hf⟩ := gBind hf
  refine g_zast X hR hS eh4 dX0_chance_26 (fun H locs hR hS => ?_)
  refine lv_dup hx hb dX0_chance_27 rfl ?_
  refine lv_iconst (v := (2 : Int32)) hx hb dX0_chance_28 (by decide) ?_
  refine lv_iload hx hb dX0_chance_29 (lv_at hl 4 rfl) ?_
  refine lv_i2l (v := p4.toInt64) hx hb dX0_chance_31 rfl ?_
  refine lv_lconst (v := (0 : Int64)) hx hb dX0_chance_32 (by decide) ?_
  refine lv_ldc2 (v := (99999 : Int64)) hx hb X.1.2.2.2.1 (X.1.2.2.2.2 _ q1539) dX0_chance_33 ?_
  obtain ⟨u5, eu5, hf⟩ := gBind hf
  refine g_callSi X hR hS [.long p4.toInt64, .long (0 : Int64), .long (99999 : Int64)] (m_X0_in l G F h4 (n + 1) p4.toInt64 (0 : Int64) (99999 : Int64) eu5) yk_X0_in q830 rfl hl.1 ⟨Nat.le_of_ble_eq_true rfl, Nat.le_of_ble_eq_true rfl⟩ ⟨Nat.le_of_ble_eq_true rfl, Nat.le_of_ble_eq_true rfl⟩ rfl (Nat.le_of_ble_eq_true rfl) dX0_chance_36 (fun H locs hR hS => ?_)
  obtain ⟨h6, eh6, hf⟩ := gBind hf
  refine g_zast X hR hS eh6 dX0_chance_39 (fun H locs hR hS => ?_)
  refine lv_dup hx hb dX0_chance_40 rfl ?_
  refine lv_iconst (v := (3 : Int32)) hx hb dX0_chance_41 (by decide) ?_
  refine lv_iload hx hb dX0_chance_42 (lv_at hl 5 rfl) ?_
  refine lv_i2l (v := p5.toInt64) hx hb dX0_chance_44 rfl ?_
  refine lv_lconst (v := (0 : Int64)) hx hb dX0_chance_45 (by decide) ?_
  refine lv_lconst (v := (1 : Int64)) hx hb dX0_chance_46 (by decide) ?_
  obtain ⟨u7, eu7, hf⟩ := gBind hf
  refine g_callSi X hR hS [.long p5.toInt64, .long (0 : Int64), .long (1 : Int64)] (m_X0_in l G F h6 (n + 1) p5.toInt64 (0 : Int64) (1 : Int64) eu7) yk_X0_in q830 rfl hl.1 ⟨Nat.le_of_ble_eq_true rfl, Nat.le_of_ble_eq_true rfl⟩ ⟨Nat.le_of_ble_eq_true rfl, Nat.le_of_ble_eq_true rfl⟩ rfl (Nat.le_of_ble_eq_true rfl) dX0_chance_47 (fun H locs hR hS => ?_)
  obtain ⟨h8, eh8, hf⟩ := gBind hf
  refine g_zast X hR hS eh8 dX0_chance_50 (fun H locs hR hS => ?_)
  refine lv_dup hx hb dX0_chance_51 rfl ?_
  refine lv_iconst (v := (4 : Int32)) hx hb dX0_chance_52 (by decide) ?_
  refine lv_aload_n hx hb dX0_chance_53 rfl (lv_at hl 0 rfl) ?_
  obtain ⟨x9, ex9, hf⟩ := gBind hf
  refine g_getr X hR gk_X0 0 (by decide) q792 rfl ex9 dX0_chance_54 ?_
  obtain ⟨x10, ex10, hf⟩ := gBind hf
  refine g_getiN X hR gk_X1 0 (by decide) q623 rfl ex10 dX0_chance_57 ?_
  obtain ⟨h11, eh11, hf⟩ := gBind hf
  refine g_zast X hR hS eh11 dX0_chance_60 (fun H locs hR hS => ?_)
  obtain ⟨u12, eu12, hf⟩ := gBind hf
  refine g_callSi X hR hS [.ref n] (m_X0_are l G F h11 (n + 1) n eu12) yk_X0_are q834 rfl hl.1 ⟨Nat.le_of_ble_eq_true rfl, Nat.le_of_ble_eq_true rfl⟩ ⟨Nat.le_of_ble_eq_true rfl, Nat.le_of_ble_eq_true rfl⟩ rfl (Nat.le_of_ble_eq_true rfl) dX0_chance_61 (fun H locs hR hS => ?_)
  refine lv_if_eq (tgt := 77) hx hb dX0_chance_64 (by decide) (fun c13 => ?_) (fun c13 => ?_)
  · replace hf := gIfp c13 hf
    refine lv_ldc2 (v := (-9223372036854775808 : Int64)) hx hb X.1.2.2.2.1 (X.1.2.2.2.2 _ q1562) dX0_chance_77 ?_
    obtain ⟨rfl, rfl, rfl⟩ := gO3 hf
    exact g_lret X hR hS _ rfl ⟨Nat.le_of_ble_eq_true rfl, Nat.le_of_ble_eq_true rfl⟩ dX0_chance_80
  · replace hf := gIfn c13 hf
    refine lv_aload_n hx hb dX0_chance_67 rfl (lv_at hl 0 rfl) ?_
    refine lv_iload_n hx hb dX0_chance_68 rfl (lv_at hl 3 rfl) ?_
    refine lv_iload_n hx hb dX0_chance_69 rfl (lv_at hl 2 rfl) ?_
    refine lv_imul hx hb dX0_chance_70 ?_
    obtain ⟨k14, hf⟩ := gChk hf
    obtain ⟨u15, eu15, hf⟩ := gBind hf
    refine g_callVi X hR hS [.int (p3 * p2)] (m_X0_counts l G F h11 (n + 1) a0 (p3 * p2) eu15) yk_X0_counts q1133 k14 rfl hl.1 ⟨Nat.le_of_ble_eq_true rfl, Nat.le_of_ble_eq_true rfl⟩ ⟨Nat.le_of_ble_eq_true rfl, Nat.le_of_ble_eq_true rfl⟩ rfl (Nat.le_of_ble_eq_true rfl) dX0_chance_71 (fun H locs hR hS => ?_)
    refine lv_if_ne (tgt := 81) hx hb dX0_chance_74 (by decide) (fun c16 => ?_) (fun c16 => ?_)
    · replace hf := gIfn c16 hf
      refine lv_iconst (v := (0 : Int32)) hx hb dX0_chance_81 (by decide) ?_
      refine lv_istore (lv' := [(6, .int (0 : Int32)), (0, .ref a0), (1, .int p1), (2, .int p2), (3, .int p3), (4, .int p4), (5, .int p5)]) hx hb dX0_chance_82 hl (by decide) rfl (fun ls hl => ?_)
      refine lv_iconst (v := (0 : Int32)) hx hb dX0_chance_84 (by decide) ?_
      refine lv_istore (lv' := [(7, .int (0 : Int32)), (6, .int (0 : Int32)), (0, .ref a0), (1, .int p1), (2, .int p2), (3, .int p3), (4, .int p4), (5, .int p5)]) hx hb dX0_chance_85 hl (by decide) rfl (fun ls hl => ?_)
      have L87_q17 : ∀ (f : Nat) (h87L : gH) (v87_0 : Nat) (v87_1 : Int32) (v87_2 : Int32) (v87_3 : Int32) (v87_4 : Int32) (v87_5 : Int32) (v87_6 : Int32) (v87_7 : Int32) (o18 : Int32 × gH) (H : Heap) (locs : List Loc) (ls : Array Slot), sp_X0_chance_L87 G F (n + 1) f h87L v87_0 v87_1 v87_2 v87_3 v87_4 v87_5 v87_6 v87_7 = some o18 → gRep G h87L (n + 1) H → va_S (gFr G) s.heap H locs → lv_has ls 8 [(0, .ref v87_0), (1, .int v87_1), (2, .int v87_2), (3, .int v87_3), (4, .int v87_4), (5, .int v87_5), (6, .int v87_6), (7, .int v87_7)] → (∀ (H : Heap) (locs : List Loc) (ls : Array Slot), gRep G o18.2 (n + 1) H → va_S (gFr G) s.heap H locs → lv_has ls 8 [(6, .int o18.1), (3, .int v87_3), (5, .int v87_5)] → W p l e ({ frames := 7, cells := 1, slots := 5, locals := 157 } : Room) s m ([.ref a0, .int p1, .int p2, .int p3, .int p4, .int p5] : List Value).toArray below meth c H locs 1 5 (MQ below (gQ G (some (.long r)) h' n') ([.ref a0, .int p1, .int p2, .int p3, .int p4, .int p5] : List Value).toArray s 1 5 (gFr G)) (F0 m 123 ls [])) → W p l e ({ frames := 7, cells := 1, slots := 5, locals := 157 } : Room) s m ([.ref a0, .int p1, .int p2, .int p3, .int p4, .int p5] : List Value).toArray below meth c H locs 1 5 (MQ below (gQ G (some (.long r)) h' n') ([.ref a0, .int p1, .int p2, .int p3, .int p4, .int p5] : List Value).toArray s 1 5 (gFr G)) (F0 m 87 ls []) := by
        clear hf
        intro f
        induction f with
        | zero =>
          intro h87L v87_0 v87_1 v87_2 v87_3 v87_4 v87_5 v87_6 v87_7 o18 H locs ls hf
          cases hf
        | succ f ih =>
          intro h87L v87_0 v87_1 v87_2 v87_3 v87_4 v87_5 v87_6 v87_7 o18 H locs ls hf hR hS hl K87
          rw [sp_X0_chance_L87] at hf
          refine lv_iload hx hb dX0_chance_87 (lv_at hl 7 rfl) ?_
          refine lv_iload_n hx hb dX0_chance_89 rfl (lv_at hl 3 rfl) ?_
          refine lv_icmp_ge (tgt := 123) hx hb dX0_chance_90 (by decide) (fun c8801 => ?_) (fun c8801 => ?_)
          · replace hf := gIfp c8801 hf
            obtain rfl := gO1 hf
            exact K87 _ _ _ hR hS (lv_sub hl [6, 3, 5] rfl)
          · replace hf := gIfn c8801 hf
            refine lv_iload hx hb dX0_chance_93 (lv_at hl 6 rfl) ?_
            refine lv_aload_n hx hb dX0_chance_95 rfl (lv_at hl 0 rfl) ?_
            refine lv_iload_n hx hb dX0_chance_96 rfl (lv_at hl 1 rfl) ?_
            refine lv_iload hx hb dX0_chance_97 (lv_at hl 7 rfl) ?_
            refine lv_iadd hx hb dX0_chance_99 ?_
            refine lv_iload_n hx hb dX0_chance_100 rfl (lv_at hl 2 rfl) ?_
            obtain ⟨k8802, hf⟩ := gChk hf
            obtain ⟨u8803, eu8803, hf⟩ := gBind hf
            refine g_callVi X hR hS [.int (v87_1 + v87_7), .int v87_2] (m_X0_dayBy l G F h87L (n + 1) v87_0 (v87_1 + v87_7) v87_2 eu8803) yk_X0_dayBy q1554 k8802 rfl hl.1 ⟨Nat.le_of_ble_eq_true rfl, Nat.le_of_ble_eq_true rfl⟩ ⟨Nat.le_of_ble_eq_true rfl, Nat.le_of_ble_eq_true rfl⟩ rfl (Nat.le_of_ble_eq_true rfl) dX0_chance_101 (fun H locs hR hS => ?_)
            refine lv_iload hx hb dX0_chance_104 (lv_at hl 4 rfl) ?_
            refine lv_icmp_gt (tgt := 113) hx hb dX0_chance_106 (by decide) (fun c8804 => ?_) (fun c8804 => ?_)
            · replace hf := gIfp c8804 hf
              refine lv_iconst (v := (0 : Int32)) hx hb dX0_chance_113 (by decide) ?_
              refine lv_iadd hx hb dX0_chance_114 ?_
              refine lv_istore (lv' := [(6, .int (v87_6 + (0 : Int32))), (0, .ref v87_0), (1, .int v87_1), (2, .int v87_2), (3, .int v87_3), (4, .int v87_4), (5, .int v87_5), (7, .int v87_7)]) hx hb dX0_chance_115 hl (by decide) rfl (fun ls hl => ?_)
              refine lv_iinc (v := v87_7 + (1 : Int32)) (lv' := [(7, .int (v87_7 + (1 : Int32))), (6, .int (v87_6 + (0 : Int32))), (0, .ref v87_0), (1, .int v87_1), (2, .int v87_2), (3, .int v87_3), (4, .int v87_4), (5, .int v87_5)]) hx hb dX0_chance_117 hl (k := 7) rfl rfl (by decide) rfl (fun ls hl => ?_)
              refine lv_goto (tgt := 87) hx hb dX0_chance_120 (by decide) ?_
              exact ih u8803.2 v87_0 v87_1 v87_2 v87_3 v87_4 v87_5 (v87_6 + (0 : Int32)) (v87_7 + (1 : Int32)) _ _ _ _ hf hR hS (lv_sub hl [2, 3, 4, 5, 6, 7, 1, 0] rfl) K87
            · replace hf := gIfn c8804 hf
              refine lv_iconst (v := (1 : Int32)) hx hb dX0_chance_109 (by decide) ?_
              refine lv_goto (tgt := 114) hx hb dX0_chance_110 (by decide) ?_
              refine lv_iadd hx hb dX0_chance_114 ?_
              refine lv_istore (lv' := [(6, .int (v87_6 + (1 : Int32))), (0, .ref v87_0), (1, .int v87_1), (2, .int v87_2), (3, .int v87_3), (4, .int v87_4), (5, .int v87_5), (7, .int v87_7)]) hx hb dX0_chance_115 hl (by decide) rfl (fun ls hl => ?_)
              refine lv_iinc (v := v87_7 + (1 : Int32)) (lv' := [(7, .int (v87_7 + (1 : Int32))), (6, .int (v87_6 + (1 : Int32))), (0, .ref v87_0), (1, .int v87_1), (2, .int v87_2), (3, .int v87_3), (4, .int v87_4), (5, .int v87_5)]) hx hb dX0_chance_117 hl (k := 7) rfl rfl (by decide) rfl (fun ls hl => ?_)
              refine lv_goto (tgt := 87) hx hb dX0_chance_120 (by decide) ?_
              exact ih u8803.2 v87_0 v87_1 v87_2 v87_3 v87_4 v87_5 (v87_6 + (1 : Int32)) (v87_7 + (1 : Int32)) _ _ _ _ hf hR hS (lv_sub hl [2, 3, 4, 5, 6, 7, 1, 0] rfl) K87
      obtain ⟨y19, ey19, hf⟩ := gBind hf
      refine L87_q17 F u15.2 a0 p1 p2 p3 p4 p5 (0 : Int32) (0 : Int32) y19 _ _ _ ey19 hR hS (lv_sub hl [2, 3, 4, 5, 6, 7, 1, 0] rfl) (fun H locs ls hR hS hl => ?_)
      refine lv_iload hx hb dX0_chance_123 (lv_at hl 0 rfl) ?_
      refine lv_i2l (v := y19.1.toInt64) hx hb dX0_chance_125 rfl ?_
      refine lv_iload_n hx hb dX0_chance_126 rfl (lv_at hl 1 rfl) ?_
      refine lv_i2l (v := p3.toInt64) hx hb dX0_chance_127 rfl ?_
      refine lv_iload hx hb dX0_chance_128 (lv_at hl 2 rfl) ?_
      obtain ⟨u20, eu20, hf⟩ := gBind hf
      refine g_callSl X hR hS [.long y19.1.toInt64, .long p3.toInt64, .int p5] (m_X0_lowest l G F y19.2 (n + 1) y19.1.toInt64 p3.toInt64 p5 eu20) yk_X0_lowest q1563 rfl hl.1 ⟨Nat.le_of_ble_eq_true rfl, Nat.le_of_ble_eq_true rfl⟩ ⟨Nat.le_of_ble_eq_true rfl, Nat.le_of_ble_eq_true rfl⟩ rfl (Nat.le_of_ble_eq_true rfl) dX0_chance_130 (fun H locs hR hS => ?_)
      obtain ⟨rfl, rfl, rfl⟩ := gO3 hf
      exact g_lret X hR hS _ rfl ⟨Nat.le_of_ble_eq_true rfl, Nat.le_of_ble_eq_true rfl⟩ dX0_chance_133
    · replace hf := gIfp c16 hf
      refine lv_ldc2 (v := (-9223372036854775808 : Int64)) hx hb X.1.2.2.2.1 (X.1.2.2.2.2 _ q1562) dX0_chance_77 ?_
      obtain ⟨rfl, rfl, rfl⟩ := gO3 hf
      exact g_lret X hR hS _ rfl ⟨Nat.le_of_ble_eq_true rfl, Nat.le_of_ble_eq_true rfl⟩ dX0_chance_80

def sp_X0_mean (G : gG) (F : Nat) (h : gH) (n : Nat) (a0 : Nat) (p1 : Int32) : Option (Int64 × gH × Nat) :=
 (sp_X0_in G F (va_up h n (some (.inl (3, 2, .inl (fun _ => 0))))) p1.toInt64 (0 : Int64) (1 : Int64)).bind fun u1 =>
 (gSb 3 (va_up h n (some (.inl (3, 2, .inl (fun _ => 0))))) n (0 : Int32) u1).bind fun h2 =>
 (gGr 0 h2 a0 0).bind fun x3 =>
 (gGi 1 h2 x3 6).bind fun x4 =>
 (if x4 ≤ 0 then
 some ((0 : Int32)) else
 some ((1 : Int32))).bind fun j6 =>
 (gSb 3 h2 n (1 : Int32) j6).bind fun h7 =>
 (sp_X0_are G F h7 n).bind fun u8 =>
 if u8 = 0 then
 some (((-9223372036854775808 : Int64), h7, n + 1)) else
 (gGr 0 h7 a0 0).bind fun x10 =>
 (gGi 1 h7 x10 5).bind fun x11 =>
 (gGr 0 h7 a0 0).bind fun x12 =>
 (gGi 1 h7 x12 6).bind fun x13 =>
 (sp_X0_lowest G F h7 x11.toInt64 x13.toInt64 p1).bind fun u14 =>
 some ((u14, h7, n + 1))
theorem yk_X0_mean : gVk yX0_mean cX0_mean 2 (some .long) 1 0 := ⟨q1570, q1571, q92, q1572, ⟨by decide +kernel, by decide +kernel, by decide +kernel⟩, rfl⟩
set_option maxHeartbeats 4000000 in
theorem m_X0_mean (l : Launch) (G : gG) (F : Nat) (h : gH) (n : Nat) (a0 : Nat) (p1 : Int32) {r : Int64} {h' : gH} {n' : Nat} (hf : sp_X0_mean G F h n a0 p1 = some (r, h', n')) : gMet l G yX0_mean cX0_mean 2 (some .long) 2 53 1 2 [.ref a0, .int p1] h n (some (.long r)) h' n' := by
  refine gEnter (by decide) [(0, .ref a0), (1, .int p1)] rfl (Nat.le_of_ble_eq_true rfl) ?_
  intro p e s m below meth c H ls X hin hR hS hl
  have hx := X.1.1
  have hb := X.1.2.1
  unfold sp_X0_mean at hf
  generalize ([] : List Loc) = locs at hS ⊢
  refine lv_iconst (v := (2 : Int32)) hx hb dX0_mean_0 (by decide) ?_
  refine g_newa3 X hR hS q879 2 (by decide) (by decide) (by decide) ⟨Nat.le_of_ble_eq_true rfl, Nat.le_of_ble_eq_true rfl⟩ dX0_mean_1 (fun H hR hS => ?_)
  refine lv_dup hx hb dX0_mean_3 rfl ?_
  refine lv_iconst (v := (0 : Int32)) hx hb dX0_mean_4 (by decide) ?_
  refine lv_iload_n hx hb dX0_mean_5 rfl (lv_at hl 1 rfl) ?_
  refine lv_i2l (v := p1.toInt64) hx hb dX0_mean_6 rfl ?_
  refine lv_lconst (v := (0 : Int64)) hx hb dX0_mean_7 (by decide) ?_
  refine lv_lconst (v := (1 : Int64)) hx hb dX0_mean_8 (by decide) ?_
  obtain ⟨u1, eu1, hf⟩ := gBind hf
  refine g_callSi X hR hS [.long p1.toInt64, .long (0 : Int64), .long (1 : Int64)] (m_X0_in l G F (va_up h n (some (.inl (3, 2, .inl (fun _ => 0))))) (n + 1) p1.toInt64 (0 : Int64) (1 : Int64) eu1) yk_X0_in q830 rfl hl.1 ⟨Nat.le_of_ble_eq_true rfl, Nat.le_of_ble_eq_true rfl⟩ ⟨Nat.le_of_ble_eq_true rfl, Nat.le_of_ble_eq_true rfl⟩ rfl (Nat.le_of_ble_eq_true rfl) dX0_mean_9 (fun H locs hR hS => ?_)
  obtain ⟨h2, eh2, hf⟩ := gBind hf
  refine g_zast X hR hS eh2 dX0_mean_12 (fun H locs hR hS => ?_)
  refine lv_dup hx hb dX0_mean_13 rfl ?_
  refine lv_iconst (v := (1 : Int32)) hx hb dX0_mean_14 (by decide) ?_
  refine lv_aload_n hx hb dX0_mean_15 rfl (lv_at hl 0 rfl) ?_
  obtain ⟨x3, ex3, hf⟩ := gBind hf
  refine g_getr X hR gk_X0 0 (by decide) q792 rfl ex3 dX0_mean_16 ?_
  obtain ⟨x4, ex4, hf⟩ := gBind hf
  refine g_getiN X hR gk_X1 6 (by decide) q635 rfl ex4 dX0_mean_19 ?_
  obtain ⟨j6, ej6, hf⟩ := gBind hf
  have J30_j6 : ∀ (H : Heap) (locs : List Loc) (ls : Array Slot), gRep G h2 (n + 1) H → va_S (gFr G) s.heap H locs → lv_has ls 2 [(0, .ref a0), (1, .int p1)] → W p l e ({ frames := 2, cells := 1, slots := 2, locals := 53 } : Room) s m ([.ref a0, .int p1] : List Value).toArray below meth c H locs 1 2 (MQ below (gQ G (some (.long r)) h' n') ([.ref a0, .int p1] : List Value).toArray s 1 2 (gFr G)) (F0 m 30 ls [.int j6, .int (1 : Int32), .ref n, .ref n]) := by
    intro H locs ls hR hS hl
    obtain ⟨h7, eh7, hf⟩ := gBind hf
    refine g_zast X hR hS eh7 dX0_mean_30 (fun H locs hR hS => ?_)
    obtain ⟨u8, eu8, hf⟩ := gBind hf
    refine g_callSi X hR hS [.ref n] (m_X0_are l G F h7 (n + 1) n eu8) yk_X0_are q834 rfl hl.1 ⟨Nat.le_of_ble_eq_true rfl, Nat.le_of_ble_eq_true rfl⟩ ⟨Nat.le_of_ble_eq_true rfl, Nat.le_of_ble_eq_true rfl⟩ rfl (Nat.le_of_ble_eq_true rfl) dX0_mean_31 (fun H locs hR hS => ?_)
    refine lv_if_eq (tgt := 60) hx hb dX0_mean_34 (by decide) (fun c9 => ?_) (fun c9 => ?_)
    · replace hf := gIfp c9 hf
      refine lv_ldc2 (v := (-9223372036854775808 : Int64)) hx hb X.1.2.2.2.1 (X.1.2.2.2.2 _ q1562) dX0_mean_60 ?_
      obtain ⟨rfl, rfl, rfl⟩ := gO3 hf
      exact g_lret X hR hS _ rfl ⟨Nat.le_of_ble_eq_true rfl, Nat.le_of_ble_eq_true rfl⟩ dX0_mean_63
    · replace hf := gIfn c9 hf
      refine lv_aload_n hx hb dX0_mean_37 rfl (lv_at hl 0 rfl) ?_
      obtain ⟨x10, ex10, hf⟩ := gBind hf
      refine g_getr X hR gk_X0 0 (by decide) q792 rfl ex10 dX0_mean_38 ?_
      obtain ⟨x11, ex11, hf⟩ := gBind hf
      refine g_getiN X hR gk_X1 5 (by decide) q633 rfl ex11 dX0_mean_41 ?_
      refine lv_i2l (v := x11.toInt64) hx hb dX0_mean_44 rfl ?_
      refine lv_aload_n hx hb dX0_mean_45 rfl (lv_at hl 0 rfl) ?_
      obtain ⟨x12, ex12, hf⟩ := gBind hf
      refine g_getr X hR gk_X0 0 (by decide) q792 rfl ex12 dX0_mean_46 ?_
      obtain ⟨x13, ex13, hf⟩ := gBind hf
      refine g_getiN X hR gk_X1 6 (by decide) q635 rfl ex13 dX0_mean_49 ?_
      refine lv_i2l (v := x13.toInt64) hx hb dX0_mean_52 rfl ?_
      refine lv_iload_n hx hb dX0_mean_53 rfl (lv_at hl 1 rfl) ?_
      obtain ⟨u14, eu14, hf⟩ := gBind hf
      refine g_callSl X hR hS [.long x11.toInt64, .long x13.toInt64, .int p1] (m_X0_lowest l G F h7 (n + 1) x11.toInt64 x13.toInt64 p1 eu14) yk_X0_lowest q1563 rfl hl.1 ⟨Nat.le_of_ble_eq_true rfl, Nat.le_of_ble_eq_true rfl⟩ ⟨Nat.le_of_ble_eq_true rfl, Nat.le_of_ble_eq_true rfl⟩ rfl (Nat.le_of_ble_eq_true rfl) dX0_mean_54 (fun H locs hR hS => ?_)
      refine lv_goto (tgt := 63) hx hb dX0_mean_57 (by decide) ?_
      obtain ⟨rfl, rfl, rfl⟩ := gO3 hf
      exact g_lret X hR hS _ rfl ⟨Nat.le_of_ble_eq_true rfl, Nat.le_of_ble_eq_true rfl⟩ dX0_mean_63
  replace hf := ej6
  clear ej6
  refine lv_if_le (tgt := 29) hx hb dX0_mean_22 (by decide) (fun c5 => ?_) (fun c5 => ?_)
  · replace hf := gIfp c5 hf
    refine lv_iconst (v := (0 : Int32)) hx hb dX0_mean_29 (by decide) ?_
    obtain rfl := gO1 hf
    exact J30_j6 _ _ _ hR hS (lv_sub hl [0, 1] rfl)
  · replace hf := gIfn c5 hf
    refine lv_iconst (v := (1 : Int32)) hx hb dX0_mean_25 (by decide) ?_
    refine lv_goto (tgt := 30) hx hb dX0_mean_26 (by decide) ?_
    obtain rfl := gO1 hf
    exact J30_j6 _ _ _ hR hS (lv_sub hl [0, 1] rfl)

def sp_X0_plan (G : gG) (F : Nat) (h : gH) (a0 : Nat) (p1 : Int32) (p2 : Int32) : Option (Int32 × gH) :=
 if p1 = (-1 : Int32) then
 (gGr 0 h a0 0).bind fun x45 =>
 (gPv 1 h x45 21 (.int (0 : Int32))).bind fun h46 =>
 some (((0 : Int32), h46)) else
 (sp_X0_in G F h p1.toInt64 (0 : Int64) (3 : Int64)).bind fun u2 =>
 if u2 = 0 then
 some (((-1 : Int32), h)) else
 if p1 = (2 : Int32) then
 (gGr 0 h a0 0).bind fun x5 =>
 (gGi 1 h x5 21).bind fun x6 =>
 if x6 = (8 : Int32) then
 some (((-4 : Int32), h)) else
 (gGr 0 h a0 0).bind fun x8 =>
 (gGr 1 h x8 28).bind fun x9 =>
 (gGr 0 h a0 0).bind fun x10 =>
 (gGi 1 h x10 21).bind fun x11 =>
 (gSi h x9 ((2 : Int32) * x11) p1).bind fun h12 =>
 (gGr 0 h12 a0 0).bind fun x13 =>
 (gGr 1 h12 x13 28).bind fun x14 =>
 (gGr 0 h12 a0 0).bind fun x15 =>
 (gGi 1 h12 x15 21).bind fun x16 =>
 (gSi h12 x14 (((2 : Int32) * x16) + (1 : Int32)) p2).bind fun h17 =>
 (gGr 0 h17 a0 0).bind fun x18 =>
 (gGi 1 h17 x18 21).bind fun x19 =>
 (gPv 1 h17 x18 21 (.int (x19 + (1 : Int32)))).bind fun h20 =>
 (gGr 0 h20 a0 0).bind fun x21 =>
 (gGi 1 h20 x21 21).bind fun x22 =>
 some ((x22, h20)) else
 (if p1 = 0 then
 some ((99 : Int64)) else
 some ((7 : Int64))).bind fun j24 =>
 (sp_X0_in G F h p2.toInt64 (0 : Int64) j24).bind fun u25 =>
 if u25 = 0 then
 some (((-2 : Int32), h)) else
 (gGr 0 h a0 0).bind fun x27 =>
 (gGi 1 h x27 21).bind fun x28 =>
 if x28 = (8 : Int32) then
 some (((-4 : Int32), h)) else
 (gGr 0 h a0 0).bind fun x30 =>
 (gGr 1 h x30 28).bind fun x31 =>
 (gGr 0 h a0 0).bind fun x32 =>
 (gGi 1 h x32 21).bind fun x33 =>
 (gSi h x31 ((2 : Int32) * x33) p1).bind fun h34 =>
 (gGr 0 h34 a0 0).bind fun x35 =>
 (gGr 1 h34 x35 28).bind fun x36 =>
 (gGr 0 h34 a0 0).bind fun x37 =>
 (gGi 1 h34 x37 21).bind fun x38 =>
 (gSi h34 x36 (((2 : Int32) * x38) + (1 : Int32)) p2).bind fun h39 =>
 (gGr 0 h39 a0 0).bind fun x40 =>
 (gGi 1 h39 x40 21).bind fun x41 =>
 (gPv 1 h39 x40 21 (.int (x41 + (1 : Int32)))).bind fun h42 =>
 (gGr 0 h42 a0 0).bind fun x43 =>
 (gGi 1 h42 x43 21).bind fun x44 =>
 some ((x44, h42))
theorem yk_X0_plan : gVk yX0_plan cX0_plan 3 (some .int) 2 0 := ⟨q1574, q1575, q92, q1576, ⟨by decide +kernel, by decide +kernel, by decide +kernel⟩, rfl⟩
set_option maxHeartbeats 4000000 in
theorem m_X0_plan (l : Launch) (G : gG) (F : Nat) (h : gH) (n : Nat) (a0 : Nat) (p1 : Int32) (p2 : Int32) {r : Int32} {h' : gH} (hf : sp_X0_plan G F h a0 p1 p2 = some (r, h')) : gMet l G yX0_plan cX0_plan 3 (some .int) 1 25 0 0 [.ref a0, .int p1, .int p2] h n (some (.int r)) h' n := by
  refine gEnter (by decide) [(0, .ref a0), (1, .int p1), (2, .int p2)] rfl (Nat.le_of_ble_eq_true rfl) ?_
  intro p e s m below meth c H ls X hin hR hS hl
  have hx := X.1.1
  have hb := X.1.2.1
  unfold sp_X0_plan at hf
  generalize ([] : List Loc) = locs at hS ⊢
  refine lv_iload_n hx hb dX0_plan_0 rfl (lv_at hl 1 rfl) ?_
  refine lv_iconst (v := (-1 : Int32)) hx hb dX0_plan_1 (by decide) ?_
  refine lv_icmp_ne (tgt := 15) hx hb dX0_plan_2 (by decide) (fun c1 => ?_) (fun c1 => ?_)
  · replace hf := gIfn c1 hf
    refine lv_iload_n hx hb dX0_plan_15 rfl (lv_at hl 1 rfl) ?_
    refine lv_i2l (v := p1.toInt64) hx hb dX0_plan_16 rfl ?_
    refine lv_lconst (v := (0 : Int64)) hx hb dX0_plan_17 (by decide) ?_
    refine lv_ldc2 (v := (3 : Int64)) hx hb X.1.2.2.2.1 (X.1.2.2.2.2 _ q829) dX0_plan_18 ?_
    obtain ⟨u2, eu2, hf⟩ := gBind hf
    refine g_callSi X hR hS [.long p1.toInt64, .long (0 : Int64), .long (3 : Int64)] (m_X0_in l G F h n p1.toInt64 (0 : Int64) (3 : Int64) eu2) yk_X0_in q830 rfl hl.1 ⟨Nat.le_of_ble_eq_true rfl, Nat.le_of_ble_eq_true rfl⟩ ⟨Nat.le_of_ble_eq_true rfl, Nat.le_of_ble_eq_true rfl⟩ rfl (Nat.le_of_ble_eq_true rfl) dX0_plan_21 (fun H locs hR hS => ?_)
    refine lv_if_ne (tgt := 29) hx hb dX0_plan_24 (by decide) (fun c3 => ?_) (fun c3 => ?_)
    · replace hf := gIfn c3 hf
      refine lv_iload_n hx hb dX0_plan_29 rfl (lv_at hl 1 rfl) ?_
      refine lv_iconst (v := (2 : Int32)) hx hb dX0_plan_30 (by decide) ?_
      refine lv_icmp_eq (tgt := 59) hx hb dX0_plan_31 (by decide) (fun c4 => ?_) (fun c4 => ?_)
      · replace hf := gIfp c4 hf
        refine lv_aload_n hx hb dX0_plan_59 rfl (lv_at hl 0 rfl) ?_
        obtain ⟨x5, ex5, hf⟩ := gBind hf
        refine g_getr X hR gk_X0 0 (by decide) q792 rfl ex5 dX0_plan_60 ?_
        obtain ⟨x6, ex6, hf⟩ := gBind hf
        refine g_getiN X hR gk_X1 21 (by decide) q664 rfl ex6 dX0_plan_63 ?_
        refine lv_bipush (v := (8 : Int32)) hx hb dX0_plan_66 (by decide) ?_
        refine lv_icmp_ne (tgt := 74) hx hb dX0_plan_68 (by decide) (fun c7 => ?_) (fun c7 => ?_)
        · replace hf := gIfn c7 hf
          refine lv_aload_n hx hb dX0_plan_74 rfl (lv_at hl 0 rfl) ?_
          obtain ⟨x8, ex8, hf⟩ := gBind hf
          refine g_getr X hR gk_X0 0 (by decide) q792 rfl ex8 dX0_plan_75 ?_
          obtain ⟨x9, ex9, hf⟩ := gBind hf
          refine g_getrN X hR gk_X1 28 (by decide) q678 rfl ex9 dX0_plan_78 ?_
          refine lv_iconst (v := (2 : Int32)) hx hb dX0_plan_81 (by decide) ?_
          refine lv_aload_n hx hb dX0_plan_82 rfl (lv_at hl 0 rfl) ?_
          obtain ⟨x10, ex10, hf⟩ := gBind hf
          refine g_getr X hR gk_X0 0 (by decide) q792 rfl ex10 dX0_plan_83 ?_
          obtain ⟨x11, ex11, hf⟩ := gBind hf
          refine g_getiN X hR gk_X1 21 (by decide) q664 rfl ex11 dX0_plan_86 ?_
          refine lv_imul hx hb dX0_plan_89 ?_
          refine lv_iload_n hx hb dX0_plan_90 rfl (lv_at hl 1 rfl) ?_
          obtain ⟨h12, eh12, hf⟩ := gBind hf
          refine g_iast X hR hS eh12 dX0_plan_91 (fun H locs hR hS => ?_)
          refine lv_aload_n hx hb dX0_plan_92 rfl (lv_at hl 0 rfl) ?_
          obtain ⟨x13, ex13, hf⟩ := gBind hf
          refine g_getr X hR gk_X0 0 (by decide) q792 rfl ex13 dX0_plan_93 ?_
          obtain ⟨x14, ex14, hf⟩ := gBind hf
          refine g_getrN X hR gk_X1 28 (by decide) q678 rfl ex14 dX0_plan_96 ?_
          refine lv_iconst (v := (2 : Int32)) hx hb dX0_plan_99 (by decide) ?_
          refine lv_aload_n hx hb dX0_plan_100 rfl (lv_at hl 0 rfl) ?_
          obtain ⟨x15, ex15, hf⟩ := gBind hf
          refine g_getr X hR gk_X0 0 (by decide) q792 rfl ex15 dX0_plan_101 ?_
          obtain ⟨x16, ex16, hf⟩ := gBind hf
          refine g_getiN X hR gk_X1 21 (by decide) q664 rfl ex16 dX0_plan_104 ?_
          refine lv_imul hx hb dX0_plan_107 ?_
          refine lv_iconst (v := (1 : Int32)) hx hb dX0_plan_108 (by decide) ?_
          refine lv_iadd hx hb dX0_plan_109 ?_
          refine lv_iload_n hx hb dX0_plan_110 rfl (lv_at hl 2 rfl) ?_
          obtain ⟨h17, eh17, hf⟩ := gBind hf
          refine g_iast X hR hS eh17 dX0_plan_111 (fun H locs hR hS => ?_)
          refine lv_aload_n hx hb dX0_plan_112 rfl (lv_at hl 0 rfl) ?_
          obtain ⟨x18, ex18, hf⟩ := gBind hf
          refine g_getr X hR gk_X0 0 (by decide) q792 rfl ex18 dX0_plan_113 ?_
          refine lv_dup hx hb dX0_plan_116 rfl ?_
          obtain ⟨x19, ex19, hf⟩ := gBind hf
          refine g_getiN X hR gk_X1 21 (by decide) q664 rfl ex19 dX0_plan_117 ?_
          refine lv_iconst (v := (1 : Int32)) hx hb dX0_plan_120 (by decide) ?_
          refine lv_iadd hx hb dX0_plan_121 ?_
          obtain ⟨h20, eh20, hf⟩ := gBind hf
          refine g_putN X hR hS gk_X1 21 (by decide) q664 rfl rfl eh20 rfl rfl rfl dX0_plan_122 (fun H locs hR hS => ?_)
          refine lv_aload_n hx hb dX0_plan_125 rfl (lv_at hl 0 rfl) ?_
          obtain ⟨x21, ex21, hf⟩ := gBind hf
          refine g_getr X hR gk_X0 0 (by decide) q792 rfl ex21 dX0_plan_126 ?_
          obtain ⟨x22, ex22, hf⟩ := gBind hf
          refine g_getiN X hR gk_X1 21 (by decide) q664 rfl ex22 dX0_plan_129 ?_
          obtain ⟨rfl, rfl⟩ := gO2 hf
          exact g_iret X hR hS _ rfl ⟨Nat.le_of_ble_eq_true rfl, Nat.le_of_ble_eq_true rfl⟩ dX0_plan_132
        · replace hf := gIfp c7 hf
          refine lv_bipush (v := (-4 : Int32)) hx hb dX0_plan_71 (by decide) ?_
          obtain ⟨rfl, rfl⟩ := gO2 hf
          exact g_iret X hR hS _ rfl ⟨Nat.le_of_ble_eq_true rfl, Nat.le_of_ble_eq_true rfl⟩ dX0_plan_73
      · replace hf := gIfn c4 hf
        refine lv_iload_n hx hb dX0_plan_34 rfl (lv_at hl 2 rfl) ?_
        refine lv_i2l (v := p2.toInt64) hx hb dX0_plan_35 rfl ?_
        refine lv_lconst (v := (0 : Int64)) hx hb dX0_plan_36 (by decide) ?_
        refine lv_iload_n hx hb dX0_plan_37 rfl (lv_at hl 1 rfl) ?_
        obtain ⟨j24, ej24, hf⟩ := gBind hf
        have J50_j24 : ∀ (H : Heap) (locs : List Loc) (ls : Array Slot), gRep G h n H → va_S (gFr G) s.heap H locs → lv_has ls 3 [(0, .ref a0), (1, .int p1), (2, .int p2)] → W p l e ({ frames := 1, cells := 0, slots := 0, locals := 25 } : Room) s m ([.ref a0, .int p1, .int p2] : List Value).toArray below meth c H locs 0 0 (MQ below (gQ G (some (.int r)) h' n) ([.ref a0, .int p1, .int p2] : List Value).toArray s 0 0 (gFr G)) (F0 m 50 ls [.long j24, .long (0 : Int64), .long p2.toInt64]) := by
          intro H locs ls hR hS hl
          obtain ⟨u25, eu25, hf⟩ := gBind hf
          refine g_callSi X hR hS [.long p2.toInt64, .long (0 : Int64), .long j24] (m_X0_in l G F h n p2.toInt64 (0 : Int64) j24 eu25) yk_X0_in q830 rfl hl.1 ⟨Nat.le_of_ble_eq_true rfl, Nat.le_of_ble_eq_true rfl⟩ ⟨Nat.le_of_ble_eq_true rfl, Nat.le_of_ble_eq_true rfl⟩ rfl (Nat.le_of_ble_eq_true rfl) dX0_plan_50 (fun H locs hR hS => ?_)
          refine lv_if_ne (tgt := 59) hx hb dX0_plan_53 (by decide) (fun c26 => ?_) (fun c26 => ?_)
          · replace hf := gIfn c26 hf
            refine lv_aload_n hx hb dX0_plan_59 rfl (lv_at hl 0 rfl) ?_
            obtain ⟨x27, ex27, hf⟩ := gBind hf
            refine g_getr X hR gk_X0 0 (by decide) q792 rfl ex27 dX0_plan_60 ?_
            obtain ⟨x28, ex28, hf⟩ := gBind hf
            refine g_getiN X hR gk_X1 21 (by decide) q664 rfl ex28 dX0_plan_63 ?_
            refine lv_bipush (v := (8 : Int32)) hx hb dX0_plan_66 (by decide) ?_
            refine lv_icmp_ne (tgt := 74) hx hb dX0_plan_68 (by decide) (fun c29 => ?_) (fun c29 => ?_)
            · replace hf := gIfn c29 hf
              refine lv_aload_n hx hb dX0_plan_74 rfl (lv_at hl 0 rfl) ?_
              obtain ⟨x30, ex30, hf⟩ := gBind hf
              refine g_getr X hR gk_X0 0 (by decide) q792 rfl ex30 dX0_plan_75 ?_
              obtain ⟨x31, ex31, hf⟩ := gBind hf
              refine g_getrN X hR gk_X1 28 (by decide) q678 rfl ex31 dX0_plan_78 ?_
              refine lv_iconst (v := (2 : Int32)) hx hb dX0_plan_81 (by decide) ?_
              refine lv_aload_n hx hb dX0_plan_82 rfl (lv_at hl 0 rfl) ?_
              obtain ⟨x32, ex32, hf⟩ := gBind hf
              refine g_getr X hR gk_X0 0 (by decide) q792 rfl ex32 dX0_plan_83 ?_
              obtain ⟨x33, ex33, hf⟩ := gBind hf
              refine g_getiN X hR gk_X1 21 (by decide) q664 rfl ex33 dX0_plan_86 ?_
              refine lv_imul hx hb dX0_plan_89 ?_
              refine lv_iload_n hx hb dX0_plan_90 rfl (lv_at hl 1 rfl) ?_
              obtain ⟨h34, eh34, hf⟩ := gBind hf
              refine g_iast X hR hS eh34 dX0_plan_91 (fun H locs hR hS => ?_)
              refine lv_aload_n hx hb dX0_plan_92 rfl (lv_at hl 0 rfl) ?_
              obtain ⟨x35, ex35, hf⟩ := gBind hf
              refine g_getr X hR gk_X0 0 (by decide) q792 rfl ex35 dX0_plan_93 ?_
              obtain ⟨x36, ex36, hf⟩ := gBind hf
              refine g_getrN X hR gk_X1 28 (by decide) q678 rfl ex36 dX0_plan_96 ?_
              refine lv_iconst (v := (2 : Int32)) hx hb dX0_plan_99 (by decide) ?_
              refine lv_aload_n hx hb dX0_plan_100 rfl (lv_at hl 0 rfl) ?_
              obtain ⟨x37, ex37, hf⟩ := gBind hf
              refine g_getr X hR gk_X0 0 (by decide) q792 rfl ex37 dX0_plan_101 ?_
              obtain ⟨x38, ex38, hf⟩ := gBind hf
              refine g_getiN X hR gk_X1 21 (by decide) q664 rfl ex38 dX0_plan_104 ?_
              refine lv_imul hx hb dX0_plan_107 ?_
              refine lv_iconst (v := (1 : Int32)) hx hb dX0_plan_108 (by decide) ?_
              refine lv_iadd hx hb dX0_plan_109 ?_
              refine lv_iload_n hx hb dX0_plan_110 rfl (lv_at hl 2 rfl) ?_
              obtain ⟨h39, eh39, hf⟩ := gBind hf
              refine g_iast X hR hS eh39 dX0_plan_111 (fun H locs hR hS => ?_)
              refine lv_aload_n hx hb dX0_plan_112 rfl (lv_at hl 0 rfl) ?_
              obtain ⟨x40, ex40, hf⟩ := gBind hf
              refine g_getr X hR gk_X0 0 (by decide) q792 rfl ex40 dX0_plan_113 ?_
              refine lv_dup hx hb dX0_plan_116 rfl ?_
              obtain ⟨x41, ex41, hf⟩ := gBind hf
              refine g_getiN X hR gk_X1 21 (by decide) q664 rfl ex41 dX0_plan_117 ?_
              refine lv_iconst (v := (1 : Int32)) hx hb dX0_plan_120 (by decide) ?_
              refine lv_iadd hx hb dX0_plan_121 ?_
              obtain ⟨h42, eh42, hf⟩ := gBind hf
              refine g_putN X hR hS gk_X1 21 (by decide) q664 rfl rfl eh42 rfl rfl rfl dX0_plan_122 (fun H locs hR hS => ?_)
              refine lv_aload_n hx hb dX0_plan_125 rfl (lv_at hl 0 rfl) ?_
              obtain ⟨x43, ex43, hf⟩ := gBind hf
              refine g_getr X hR gk_X0 0 (by decide) q792 rfl ex43 dX0_plan_126 ?_
              obtain ⟨x44, ex44, hf⟩ := gBind hf
              refine g_getiN X hR gk_X1 21 (by decide) q664 rfl ex44 dX0_plan_129 ?_
              obtain ⟨rfl, rfl⟩ := gO2 hf
              exact g_iret X hR hS _ rfl ⟨Nat.le_of_ble_eq_true rfl, Nat.le_of_ble_eq_true rfl⟩ dX0_plan_132
            · replace hf := gIfp c29 hf
              refine lv_bipush (v := (-4 : Int32)) hx hb dX0_plan_71 (by decide) ?_
              obtain ⟨rfl, rfl⟩ := gO2 hf
              exact g_iret X hR hS _ rfl ⟨Nat.le_of_ble_eq_true rfl, Nat.le_of_ble_eq_true rfl⟩ dX0_plan_73
          · replace hf := gIfp c26 hf
            refine lv_bipush (v := (-2 : Int32)) hx hb dX0_plan_56 (by decide) ?_
            obtain ⟨rfl, rfl⟩ := gO2 hf
            exact g_iret X hR hS _ rfl ⟨Nat.le_of_ble_eq_true rfl, Nat.le_of_ble_eq_true rfl⟩ dX0_plan_58
        replace hf := ej24
        clear ej24
        refine lv_if_ne (tgt := 47) hx hb dX0_plan_38 (by decide) (fun c23 => ?_) (fun c23 => ?_)
        · replace hf := gIfn c23 hf
          refine lv_ldc2 (v := (7 : Int64)) hx hb X.1.2.2.2.1 (X.1.2.2.2.2 _ q1577) dX0_plan_47 ?_
          obtain rfl := gO1 hf
          exact J50_j24 _ _ _ hR hS (lv_sub hl [0, 1, 2] rfl)
        · replace hf := gIfp c23 hf
          refine lv_ldc2 (v := (99 : Int64)) hx hb X.1.2.2.2.1 (X.1.2.2.2.2 _ q949) dX0_plan_41 ?_
          refine lv_goto (tgt := 50) hx hb dX0_plan_44 (by decide) ?_
          obtain rfl := gO1 hf
          exact J50_j24 _ _ _ hR hS (lv_sub hl [0, 1, 2] rfl)
    · replace hf := gIfp c3 hf
      refine lv_iconst (v := (-1 : Int32)) hx hb dX0_plan_27 (by decide) ?_
      obtain ⟨rfl, rfl⟩ := gO2 hf
      exact g_iret X hR hS _ rfl ⟨Nat.le_of_ble_eq_true rfl, Nat.le_of_ble_eq_true rfl⟩ dX0_plan_28
  · replace hf := gIfp c1 hf
    refine lv_aload_n hx hb dX0_plan_5 rfl (lv_at hl 0 rfl) ?_
    obtain ⟨x45, ex45, hf⟩ := gBind hf
    refine g_getr X hR gk_X0 0 (by decide) q792 rfl ex45 dX0_plan_6 ?_
    refine lv_iconst (v := (0 : Int32)) hx hb dX0_plan_9 (by decide) ?_
    obtain ⟨h46, eh46, hf⟩ := gBind hf
    refine g_putN X hR hS gk_X1 21 (by decide) q664 rfl rfl eh46 rfl rfl rfl dX0_plan_10 (fun H locs hR hS => ?_)
    refine lv_iconst (v := (0 : Int32)) hx hb dX0_plan_13 (by decide) ?_
    obtain ⟨rfl, rfl⟩ := gO2 hf
    exact g_iret X hR hS _ rfl ⟨Nat.le_of_ble_eq_true rfl, Nat.le_of_ble_eq_true rfl⟩ dX0_plan_14

def sp_X0_does (G : gG) (F : Nat) (h : gH) (a0 : Nat) (p1 : Int32) (p2 : Int32) : Option (gH) :=
 if p1 = (0 : Int32) then
 if gIs 1 h a0 = true then
 (sp_X1_passes G F h a0 p2).bind fun u3 =>
 some (u3.2) else none else
 if p1 = (1 : Int32) then
 if gIs 1 h a0 = true then
 (sp_X1_comesToEmergency G F h a0 p2).bind fun u6 =>
 some (u6) else none else
 if p1 = (2 : Int32) then
 (gPv 1 h a0 4 (.int (-5 : Int32))).bind fun h8 =>
 some (h8) else
 (gGi 1 h a0 13).bind fun x9 =>
 if x9 ≤ p2 then
 some (h) else
 (gGr 1 h a0 22).bind fun x11 =>
 (gAr 5 h x11 p2).bind fun a12 =>
 (gPv 2 h a12 5 (.int (0 : Int32))).bind fun h13 =>
 some (h13)
theorem yk_X0_does : gSk yX0_does cX0_does 3 none 3 := ⟨q1583, q92, q1584, ⟨by decide +kernel, by decide +kernel, by decide +kernel⟩⟩
set_option maxHeartbeats 4000000 in
theorem m_X0_does (l : Launch) (G : gG) (F : Nat) (h : gH) (n : Nat) (a0 : Nat) (p1 : Int32) (p2 : Int32) {h' : gH} (hf : sp_X0_does G F h a0 p1 p2 = some h') : gMet l G yX0_does cX0_does 3 none 6 134 0 0 [.ref a0, .int p1, .int p2] h n none h' n := by
  refine gEnter (by decide) [(0, .ref a0), (1, .int p1), (2, .int p2)] rfl (Nat.le_of_ble_eq_true rfl) ?_
  intro p e s m below meth c H ls X hin hR hS hl
  have hx := X.1.1
  have hb := X.1.2.1
  unfold sp_X0_does at hf
  generalize ([] : List Loc) = locs at hS ⊢
  refine lv_iload_n hx hb dX0_does_0 rfl (lv_at hl 1 rfl) ?_
  by_cases c1 : p1 = (0 : Int32)
  · replace hf := gIfp c1 hf
    refine lv_tableIn (off := 27) (tgt := 28) hx hb dX0_does_1 (by rw [c1]; decide) (by rw [c1]; decide) (by rw [c1]; rfl) (by decide) ?_
    refine lv_aload_n hx hb dX0_does_28 rfl (lv_at hl 0 rfl) ?_
    refine lv_iload_n hx hb dX0_does_29 rfl (lv_at hl 2 rfl) ?_
    obtain ⟨k2, hf⟩ := gChk hf
    obtain ⟨u3, eu3, hf⟩ := gBind hf
    refine g_callVr X hR hS [.int p2] (m_X1_passes l G F h n a0 p2 eu3) yk_X1_passes q1137 k2 rfl hl.1 ⟨Nat.le_of_ble_eq_true rfl, Nat.le_of_ble_eq_true rfl⟩ ⟨Nat.le_of_ble_eq_true rfl, Nat.le_of_ble_eq_true rfl⟩ rfl (Nat.le_of_ble_eq_true rfl) dX0_does_30 (fun H locs hR hS => ?_)
    refine lv_astore_n (lv' := [(0, .ref u3.1), (1, .int p1), (2, .int p2)]) hx hb dX0_does_33 rfl hl (by decide) rfl (fun ls hl => ?_)
    refine lv_goto (tgt := 72) hx hb dX0_does_34 (by decide) ?_
    obtain rfl := gO1 hf
    exact g_vret X hR hS rfl ⟨Nat.le_of_ble_eq_true rfl, Nat.le_of_ble_eq_true rfl⟩ dX0_does_72
  replace hf := gIfn c1 hf
  by_cases c4 : p1 = (1 : Int32)
  · replace hf := gIfp c4 hf
    refine lv_tableIn (off := 36) (tgt := 37) hx hb dX0_does_1 (by rw [c4]; decide) (by rw [c4]; decide) (by rw [c4]; rfl) (by decide) ?_
    refine lv_aload_n hx hb dX0_does_37 rfl (lv_at hl 0 rfl) ?_
    refine lv_iload_n hx hb dX0_does_38 rfl (lv_at hl 2 rfl) ?_
    obtain ⟨k5, hf⟩ := gChk hf
    obtain ⟨u6, eu6, hf⟩ := gBind hf
    refine g_callVv X hR hS [.int p2] (m_X1_comesToEmergency l G F h n a0 p2 eu6) yk_X1_comesToEmergency q1120 k5 rfl hl.1 ⟨Nat.le_of_ble_eq_true rfl, Nat.le_of_ble_eq_true rfl⟩ ⟨Nat.le_of_ble_eq_true rfl, Nat.le_of_ble_eq_true rfl⟩ rfl (Nat.le_of_ble_eq_true rfl) dX0_does_39 (fun H locs hR hS => ?_)
    refine lv_goto (tgt := 72) hx hb dX0_does_42 (by decide) ?_
    obtain rfl := gO1 hf
    exact g_vret X hR hS rfl ⟨Nat.le_of_ble_eq_true rfl, Nat.le_of_ble_eq_true rfl⟩ dX0_does_72
  replace hf := gIfn c4 hf
  by_cases c7 : p1 = (2 : Int32)
  · replace hf := gIfp c7 hf
    refine lv_tableIn (off := 44) (tgt := 45) hx hb dX0_does_1 (by rw [c7]; decide) (by rw [c7]; decide) (by rw [c7]; rfl) (by decide) ?_
    refine lv_aload_n hx hb dX0_does_45 rfl (lv_at hl 0 rfl) ?_
    refine lv_bipush (v := (-5 : Int32)) hx hb dX0_does_46 (by decide) ?_
    obtain ⟨h8, eh8, hf⟩ := gBind hf
    refine g_putN X hR hS gk_X1 4 (by decide) q631 rfl rfl eh8 rfl rfl rfl dX0_does_48 (fun H locs hR hS => ?_)
    refine lv_goto (tgt := 72) hx hb dX0_does_51 (by decide) ?_
    obtain rfl := gO1 hf
    exact g_vret X hR hS rfl ⟨Nat.le_of_ble_eq_true rfl, Nat.le_of_ble_eq_true rfl⟩ dX0_does_72
  replace hf := gIfn c7 hf
  refine lv_tableOut (tgt := 54) hx hb dX0_does_1 (by have tc1 := lv_neT (k := (0 : Int32)) (a := 0) c1 (by decide); have tc4 := lv_neT (k := (1 : Int32)) (a := 1) c4 (by decide); have tc7 := lv_neT (k := (2 : Int32)) (a := 2) c7 (by decide); omega) (by decide) ?_
  refine lv_iload_n hx hb dX0_does_54 rfl (lv_at hl 2 rfl) ?_
  refine lv_aload_n hx hb dX0_does_55 rfl (lv_at hl 0 rfl) ?_
  obtain ⟨x9, ex9, hf⟩ := gBind hf
  refine g_getiN X hR gk_X1 13 (by decide) q649 rfl ex9 dX0_does_56 ?_
  refine lv_icmp_ge (tgt := 72) hx hb dX0_does_59 (by decide) (fun c10 => ?_) (fun c10 => ?_)
  · replace hf := gIfp c10 hf
    obtain rfl := gO1 hf
    exact g_vret X hR hS rfl ⟨Nat.le_of_ble_eq_true rfl, Nat.le_of_ble_eq_true rfl⟩ dX0_does_72
  · replace hf := gIfn c10 hf
    refine lv_aload_n hx hb dX0_does_62 rfl (lv_at hl 0 rfl) ?_
    obtain ⟨x11, ex11, hf⟩ := gBind hf
    refine g_getrN X hR gk_X1 22 (by decide) q666 rfl ex11 dX0_does_63 ?_
    refine lv_iload_n hx hb dX0_does_66 rfl (lv_at hl 2 rfl) ?_
    obtain ⟨a12, ea12, hf⟩ := gBind hf
    refine g_aald X hR 5 (by decide) rfl ea12 dX0_does_67 ?_
    refine lv_iconst (v := (0 : Int32)) hx hb dX0_does_68 (by decide) ?_
    obtain ⟨h13, eh13, hf⟩ := gBind hf
    refine g_putN X hR hS gk_X2 5 (by decide) q528 rfl rfl eh13 rfl rfl rfl dX0_does_69 (fun H locs hR hS => ?_)
    obtain rfl := gO1 hf
    exact g_vret X hR hS rfl ⟨Nat.le_of_ble_eq_true rfl, Nat.le_of_ble_eq_true rfl⟩ dX0_does_72

def sp_X0_ends_L29 (G : gG) (F : Nat) (h29L : gH) : Nat → Nat → Int32 → Int32 → Int32 → Option (Int32)
  | 0, _, _, _, _ => none
  | f + 1, v29_0, v29_1, v29_2, v29_3 =>
    (gGr 0 h29L v29_0 0).bind fun x3001 =>
    (gGi 1 h29L x3001 21).bind fun x3002 =>
    if x3002 ≤ v29_3 then
    some (v29_2) else
    (gGr 0 h29L v29_0 0).bind fun x3004 =>
    (gGr 1 h29L x3004 28).bind fun x3005 =>
    (gAi 0 h29L x3005 ((2 : Int32) * v29_3)).bind fun x3006 =>
    if x3006 = 0 then
    (gGr 0 h29L v29_0 0).bind fun x3008 =>
    (gGr 1 h29L x3008 28).bind fun x3009 =>
    (gAi 0 h29L x3009 (((2 : Int32) * v29_3) + (1 : Int32))).bind fun x3010 =>
    sp_X0_ends_L29 G F h29L f v29_0 v29_1 (v29_2 + x3010) (v29_3 + (1 : Int32)) else
    sp_X0_ends_L29 G F h29L f v29_0 v29_1 (v29_2 + (0 : Int32)) (v29_3 + (1 : Int32))
def sp_X0_ends_L99 (G : gG) (F : Nat) : Nat → gH → Nat → Int32 → Nat → Int32 → Option (gH)
  | 0, _, _, _, _, _ => none
  | f + 1, h99L, v99_0, v99_1, v99_3, v99_4 =>
    (gGr 0 h99L v99_0 0).bind fun x10001 =>
    (gGi 1 h99L x10001 21).bind fun x10002 =>
    if x10002 ≤ v99_4 then
    some (h99L) else
    (gGr 0 h99L v99_0 0).bind fun x10004 =>
    (gGr 1 h99L x10004 28).bind fun x10005 =>
    (gAi 0 h99L x10005 ((2 : Int32) * v99_4)).bind fun x10006 =>
    (gGr 0 h99L v99_0 0).bind fun x10007 =>
    (gGr 1 h99L x10007 28).bind fun x10008 =>
    (gAi 0 h99L x10008 (((2 : Int32) * v99_4) + (1 : Int32))).bind fun x10009 =>
    (sp_X0_does G F h99L v99_3 x10006 x10009).bind fun u10010 =>
    sp_X0_ends_L99 G F f u10010 v99_0 v99_1 v99_3 (v99_4 + (1 : Int32))
def sp_X0_ends (G : gG) (F : Nat) (h : gH) (a0 : Nat) (p1 : Int32) : Option (Int32 × gH) :=
 (sp_X0_in G F h p1.toInt64 (0 : Int64) (1 : Int64)).bind fun u1 =>
 if u1 = 0 then
 some (((-1 : Int32), h)) else
 (gGr 0 h a0 0).bind fun x3 =>
 (gGi 1 h x3 0).bind fun x4 =>
 if x4 = 0 then
 some (((-3 : Int32), h)) else
 (sp_X0_ends_L29 G F h F a0 p1 (0 : Int32) (0 : Int32)).bind fun y8 =>
 if gIs 0 h a0 = true then
 (sp_X0_counts G F h a0 y8).bind fun u10 =>
 if u10.1 = 0 then
 some (((-4 : Int32), u10.2)) else
 if gIs 0 u10.2 a0 = true then
 (sp_X0_thought G F u10.2 a0).bind fun u13 =>
 (sp_X0_ends_L99 G F F u13.2 a0 p1 u13.1 (0 : Int32)).bind fun y16 =>
 if p1 = 0 then
 (gGi 1 y16 u13.1 5).bind fun x19 =>
 some ((x19, y16)) else
 (gGi 1 y16 u13.1 6).bind fun x18 =>
 some ((x18, y16)) else none else none
theorem yk_X0_ends : gVk yX0_ends cX0_ends 5 (some .int) 1 0 := ⟨q1579, q1580, q92, q1581, ⟨by decide +kernel, by decide +kernel, by decide +kernel⟩, rfl⟩
set_option maxHeartbeats 4000000 in
theorem m_X0_ends (l : Launch) (G : gG) (F : Nat) (h : gH) (n : Nat) (a0 : Nat) (p1 : Int32) {r : Int32} {h' : gH} (hf : sp_X0_ends G F h a0 p1 = some (r, h')) : gMet l G yX0_ends cX0_ends 5 (some .int) 7 156 0 0 [.ref a0, .int p1] h n (some (.int r)) h' n := by
  refine gEnter (by decide) [(0, .ref a0), (1, .int p1)] rfl (Nat.le_of_ble_eq_true rfl) ?_
  intro p e s m below meth c H ls X hin hR hS hl
  have hx := X.1.1
  have hb := X.1.2.1
  unfold sp_X0_ends at hf
  generalize ([] : List Loc) = locs at hS ⊢
  refine lv_iload_n hx hb dX0_ends_0 rfl (lv_at hl 1 rfl) ?_
  refine lv_i2l (v := p1.toInt64) hx hb dX0_ends_1 rfl ?_
  refine lv_lconst (v := (0 : Int64)) hx hb dX0_ends_2 (by decide) ?_
  refine lv_lconst (v := (1 : Int64)) hx hb dX0_ends_3 (by decide) ?_
  obtain ⟨u1, eu1, hf⟩ := gBind hf
  refine g_callSi X hR hS [.long p1.toInt64, .long (0 : Int64), .long (1 : Int64)] (m_X0_in l G F h n p1.toInt64 (0 : Int64) (1 : Int64) eu1) yk_X0_in q830 rfl hl.1 ⟨Nat.le_of_ble_eq_true rfl, Nat.le_of_ble_eq_true rfl⟩ ⟨Nat.le_of_ble_eq_true rfl, Nat.le_of_ble_eq_true rfl⟩ rfl (Nat.le_of_ble_eq_true rfl) dX0_ends_4 (fun H locs hR hS => ?_)
  refine lv_if_ne (tgt := 12) hx hb dX0_ends_7 (by decide) (fun c2 => ?_) (fun c2 => ?_)
  · replace hf := gIfn c2 hf
    refine lv_aload_n hx hb dX0_ends_12 rfl (lv_at hl 0 rfl) ?_
    obtain ⟨x3, ex3, hf⟩ := gBind hf
    refine g_getr X hR gk_X0 0 (by decide) q792 rfl ex3 dX0_ends_13 ?_
    obtain ⟨x4, ex4, hf⟩ := gBind hf
    refine g_getiN X hR gk_X1 0 (by decide) q623 rfl ex4 dX0_ends_16 ?_
    refine lv_if_ne (tgt := 25) hx hb dX0_ends_19 (by decide) (fun c5 => ?_) (fun c5 => ?_)
    · replace hf := gIfn c5 hf
      refine lv_iconst (v := (0 : Int32)) hx hb dX0_ends_25 (by decide) ?_
      refine lv_istore_n (lv' := [(2, .int (0 : Int32)), (0, .ref a0), (1, .int p1)]) hx hb dX0_ends_26 rfl hl (by decide) rfl (fun ls hl => ?_)
      refine lv_iconst (v := (0 : Int32)) hx hb dX0_ends_27 (by decide) ?_
      refine lv_istore_n (lv' := [(3, .int (0 : Int32)), (2, .int (0 : Int32)), (0, .ref a0), (1, .int p1)]) hx hb dX0_ends_28 rfl hl (by decide) rfl (fun ls hl => ?_)
      have L29_q6 : ∀ (f : Nat) (v29_0 : Nat) (v29_1 : Int32) (v29_2 : Int32) (v29_3 : Int32) (o7 : Int32) (H : Heap) (locs : List Loc) (ls : Array Slot), sp_X0_ends_L29 G F h f v29_0 v29_1 v29_2 v29_3 = some o7 → gRep G h n H → va_S (gFr G) s.heap H locs → lv_has ls 5 [(0, .ref v29_0), (1, .int v29_1), (2, .int v29_2), (3, .int v29_3)] → (∀ (H : Heap) (locs : List Loc) (ls : Array Slot), gRep G h n H → va_S (gFr G) s.heap H locs → lv_has ls 5 [(2, .int o7), (0, .ref v29_0), (1, .int v29_1)] → W p l e ({ frames := 7, cells := 0, slots := 0, locals := 156 } : Room) s m ([.ref a0, .int p1] : List Value).toArray below meth c H locs 0 0 (MQ below (gQ G (some (.int r)) h' n) ([.ref a0, .int p1] : List Value).toArray s 0 0 (gFr G)) (F0 m 80 ls [])) → W p l e ({ frames := 7, cells := 0, slots := 0, locals := 156 } : Room) s m ([.ref a0, .int p1] : List Value).toArray below meth c H locs 0 0 (MQ below (gQ G (some (.int r)) h' n) ([.ref a0, .int p1] : List Value).toArray s 0 0 (gFr G)) (F0 m 29 ls []) := by
        clear hf
        intro f
        induction f with
        | zero =>
          intro v29_0 v29_1 v29_2 v29_3 o7 H locs ls hf
          cases hf
        | succ f ih =>
          intro v29_0 v29_1 v29_2 v29_3 o7 H locs ls hf hR hS hl K29
          rw [sp_X0_ends_L29] at hf
          refine lv_iload_n hx hb dX0_ends_29 rfl (lv_at hl 3 rfl) ?_
          refine lv_aload_n hx hb dX0_ends_30 rfl (lv_at hl 0 rfl) ?_
          obtain ⟨x3001, ex3001, hf⟩ := gBind hf
          refine g_getr X hR gk_X0 0 (by decide) q792 rfl ex3001 dX0_ends_31 ?_
          obtain ⟨x3002, ex3002, hf⟩ := gBind hf
          refine g_getiN X hR gk_X1 21 (by decide) q664 rfl ex3002 dX0_ends_34 ?_
          refine lv_icmp_ge (tgt := 80) hx hb dX0_ends_37 (by decide) (fun c3003 => ?_) (fun c3003 => ?_)
          · replace hf := gIfp c3003 hf
            obtain rfl := gO1 hf
            exact K29 _ _ _ hR hS (lv_sub hl [2, 0, 1] rfl)
          · replace hf := gIfn c3003 hf
            refine lv_iload_n hx hb dX0_ends_40 rfl (lv_at hl 2 rfl) ?_
            refine lv_aload_n hx hb dX0_ends_41 rfl (lv_at hl 0 rfl) ?_
            obtain ⟨x3004, ex3004, hf⟩ := gBind hf
            refine g_getr X hR gk_X0 0 (by decide) q792 rfl ex3004 dX0_ends_42 ?_
            obtain ⟨x3005, ex3005, hf⟩ := gBind hf
            refine g_getrN X hR gk_X1 28 (by decide) q678 rfl ex3005 dX0_ends_45 ?_
            refine lv_iconst (v := (2 : Int32)) hx hb dX0_ends_48 (by decide) ?_
            refine lv_iload_n hx hb dX0_ends_49 rfl (lv_at hl 3 rfl) ?_
            refine lv_imul hx hb dX0_ends_50 ?_
            obtain ⟨x3006, ex3006, hf⟩ := gBind hf
            refine g_iald X hR ex3006 dX0_ends_51 ?_
            refine lv_if_ne (tgt := 71) hx hb dX0_ends_52 (by decide) (fun c3007 => ?_) (fun c3007 => ?_)
            · replace hf := gIfn c3007 hf
              refine lv_iconst (v := (0 : Int32)) hx hb dX0_ends_71 (by decide) ?_
              refine lv_iadd hx hb dX0_ends_72 ?_
              refine lv_istore_n (lv' := [(2, .int (v29_2 + (0 : Int32))), (0, .ref v29_0), (1, .int v29_1), (3, .int v29_3)]) hx hb dX0_ends_73 rfl hl (by decide) rfl (fun ls hl => ?_)
              refine lv_iinc (v := v29_3 + (1 : Int32)) (lv' := [(3, .int (v29_3 + (1 : Int32))), (2, .int (v29_2 + (0 : Int32))), (0, .ref v29_0), (1, .int v29_1)]) hx hb dX0_ends_74 hl (k := 3) rfl rfl (by decide) rfl (fun ls hl => ?_)
              refine lv_goto (tgt := 29) hx hb dX0_ends_77 (by decide) ?_
              exact ih v29_0 v29_1 (v29_2 + (0 : Int32)) (v29_3 + (1 : Int32)) _ _ _ _ hf hR hS (lv_sub hl [2, 3, 1, 0] rfl) K29
            · replace hf := gIfp c3007 hf
              refine lv_aload_n hx hb dX0_ends_55 rfl (lv_at hl 0 rfl) ?_
              obtain ⟨x3008, ex3008, hf⟩ := gBind hf
              refine g_getr X hR gk_X0 0 (by decide) q792 rfl ex3008 dX0_ends_56 ?_
              obtain ⟨x3009, ex3009, hf⟩ := gBind hf
              refine g_getrN X hR gk_X1 28 (by decide) q678 rfl ex3009 dX0_ends_59 ?_
              refine lv_iconst (v := (2 : Int32)) hx hb dX0_ends_62 (by decide) ?_
              refine lv_iload_n hx hb dX0_ends_63 rfl (lv_at hl 3 rfl) ?_
              refine lv_imul hx hb dX0_ends_64 ?_
              refine lv_iconst (v := (1 : Int32)) hx hb dX0_ends_65 (by decide) ?_
              refine lv_iadd hx hb dX0_ends_66 ?_
              obtain ⟨x3010, ex3010, hf⟩ := gBind hf
              refine g_iald X hR ex3010 dX0_ends_67 ?_
              refine lv_goto (tgt := 72) hx hb dX0_ends_68 (by decide) ?_
              refine lv_iadd hx hb dX0_ends_72 ?_
              refine lv_istore_n (lv' := [(2, .int (v29_2 + x3010)), (0, .ref v29_0), (1, .int v29_1), (3, .int v29_3)]) hx hb dX0_ends_73 rfl hl (by decide) rfl (fun ls hl => ?_)
              refine lv_iinc (v := v29_3 + (1 : Int32)) (lv' := [(3, .int (v29_3 + (1 : Int32))), (2, .int (v29_2 + x3010)), (0, .ref v29_0), (1, .int v29_1)]) hx hb dX0_ends_74 hl (k := 3) rfl rfl (by decide) rfl (fun ls hl => ?_)
              refine lv_goto (tgt := 29) hx hb dX0_ends_77 (by decide) ?_
              exact ih v29_0 v29_1 (v29_2 + x3010) (v29_3 + (1 : Int32)) _ _ _ _ hf hR hS (lv_sub hl [2, 3, 1, 0] rfl) K29
      obtain ⟨y8, ey8, hf⟩ := gBind hf
      refine L29_q6 F a0 p1 (0 : Int32) (0 : Int32) y8 _ _ _ ey8 hR hS (lv_sub hl [2, 3, 1, 0] rfl) (fun H locs ls hR hS hl => ?_)
      refine lv_aload_n hx hb dX0_ends_80 rfl (lv_at hl 1 rfl) ?_
      refine lv_iload_n hx hb dX0_ends_81 rfl (lv_at hl 0 rfl) ?_
      obtain ⟨k9, hf⟩ := gChk hf
      obtain ⟨u10, eu10, hf⟩ := gBind hf
      refine g_callVi X hR hS [.int y8] (m_X0_counts l G F h n a0 y8 eu10) yk_X0_counts q1133 k9 rfl hl.1 ⟨Nat.le_of_ble_eq_true rfl, Nat.le_of_ble_eq_true rfl⟩ ⟨Nat.le_of_ble_eq_true rfl, Nat.le_of_ble_eq_true rfl⟩ rfl (Nat.le_of_ble_eq_true rfl) dX0_ends_82 (fun H locs hR hS => ?_)
      refine lv_if_ne (tgt := 91) hx hb dX0_ends_85 (by decide) (fun c11 => ?_) (fun c11 => ?_)
      · replace hf := gIfn c11 hf
        refine lv_aload_n hx hb dX0_ends_91 rfl (lv_at hl 1 rfl) ?_
        obtain ⟨k12, hf⟩ := gChk hf
        obtain ⟨u13, eu13, hf⟩ := gBind hf
        refine g_callVr X hR hS [] (m_X0_thought l G F u10.2 n a0 eu13) yk_X0_thought q1494 k12 rfl hl.1 ⟨Nat.le_of_ble_eq_true rfl, Nat.le_of_ble_eq_true rfl⟩ ⟨Nat.le_of_ble_eq_true rfl, Nat.le_of_ble_eq_true rfl⟩ rfl (Nat.le_of_ble_eq_true rfl) dX0_ends_92 (fun H locs hR hS => ?_)
        refine lv_astore_n (lv' := [(3, .ref u13.1), (2, .int y8), (0, .ref a0), (1, .int p1)]) hx hb dX0_ends_95 rfl hl (by decide) rfl (fun ls hl => ?_)
        refine lv_iconst (v := (0 : Int32)) hx hb dX0_ends_96 (by decide) ?_
        refine lv_istore (lv' := [(4, .int (0 : Int32)), (3, .ref u13.1), (2, .int y8), (0, .ref a0), (1, .int p1)]) hx hb dX0_ends_97 hl (by decide) rfl (fun ls hl => ?_)
        have L99_q14 : ∀ (f : Nat) (h99L : gH) (v99_0 : Nat) (v99_1 : Int32) (v99_3 : Nat) (v99_4 : Int32) (o15 : gH) (H : Heap) (locs : List Loc) (ls : Array Slot), sp_X0_ends_L99 G F f h99L v99_0 v99_1 v99_3 v99_4 = some o15 → gRep G h99L n H → va_S (gFr G) s.heap H locs → lv_has ls 5 [(0, .ref v99_0), (1, .int v99_1), (3, .ref v99_3), (4, .int v99_4)] → (∀ (H : Heap) (locs : List Loc) (ls : Array Slot), gRep G o15 n H → va_S (gFr G) s.heap H locs → lv_has ls 5 [(1, .int v99_1), (3, .ref v99_3)] → W p l e ({ frames := 7, cells := 0, slots := 0, locals := 156 } : Room) s m ([.ref a0, .int p1] : List Value).toArray below meth c H locs 0 0 (MQ below (gQ G (some (.int r)) h' n) ([.ref a0, .int p1] : List Value).toArray s 0 0 (gFr G)) (F0 m 147 ls [])) → W p l e ({ frames := 7, cells := 0, slots := 0, locals := 156 } : Room) s m ([.ref a0, .int p1] : List Value).toArray below meth c H locs 0 0 (MQ below (gQ G (some (.int r)) h' n) ([.ref a0, .int p1] : List Value).toArray s 0 0 (gFr G)) (F0 m 99 ls []) := by
          clear hf
          intro f
          induction f with
          | zero =>
            intro h99L v99_0 v99_1 v99_3 v99_4 o15 H locs ls hf
            cases hf
          | succ f ih =>
            intro h99L v99_0 v99_1 v99_3 v99_4 o15 H locs ls hf hR hS hl K99
            rw [sp_X0_ends_L99] at hf
            refine lv_iload hx hb dX0_ends_99 (lv_at hl 3 rfl) ?_
            refine lv_aload_n hx hb dX0_ends_101 rfl (lv_at hl 0 rfl) ?_
            obtain ⟨x10001, ex10001, hf⟩ := gBind hf
            refine g_getr X hR gk_X0 0 (by decide) q792 rfl ex10001 dX0_ends_102 ?_
            obtain ⟨x10002, ex10002, hf⟩ := gBind hf
            refine g_getiN X hR gk_X1 21 (by decide) q664 rfl ex10002 dX0_ends_105 ?_
            refine lv_icmp_ge (tgt := 147) hx hb dX0_ends_108 (by decide) (fun c10003 => ?_) (fun c10003 => ?_)
            · replace hf := gIfp c10003 hf
              obtain rfl := gO1 hf
              exact K99 _ _ _ hR hS (lv_sub hl [1, 2] rfl)
            · replace hf := gIfn c10003 hf
              refine lv_aload_n hx hb dX0_ends_111 rfl (lv_at hl 2 rfl) ?_
              refine lv_aload_n hx hb dX0_ends_112 rfl (lv_at hl 0 rfl) ?_
              obtain ⟨x10004, ex10004, hf⟩ := gBind hf
              refine g_getr X hR gk_X0 0 (by decide) q792 rfl ex10004 dX0_ends_113 ?_
              obtain ⟨x10005, ex10005, hf⟩ := gBind hf
              refine g_getrN X hR gk_X1 28 (by decide) q678 rfl ex10005 dX0_ends_116 ?_
              refine lv_iconst (v := (2 : Int32)) hx hb dX0_ends_119 (by decide) ?_
              refine lv_iload hx hb dX0_ends_120 (lv_at hl 3 rfl) ?_
              refine lv_imul hx hb dX0_ends_122 ?_
              obtain ⟨x10006, ex10006, hf⟩ := gBind hf
              refine g_iald X hR ex10006 dX0_ends_123 ?_
              refine lv_aload_n hx hb dX0_ends_124 rfl (lv_at hl 0 rfl) ?_
              obtain ⟨x10007, ex10007, hf⟩ := gBind hf
              refine g_getr X hR gk_X0 0 (by decide) q792 rfl ex10007 dX0_ends_125 ?_
              obtain ⟨x10008, ex10008, hf⟩ := gBind hf
              refine g_getrN X hR gk_X1 28 (by decide) q678 rfl ex10008 dX0_ends_128 ?_
              refine lv_iconst (v := (2 : Int32)) hx hb dX0_ends_131 (by decide) ?_
              refine lv_iload hx hb dX0_ends_132 (lv_at hl 3 rfl) ?_
              refine lv_imul hx hb dX0_ends_134 ?_
              refine lv_iconst (v := (1 : Int32)) hx hb dX0_ends_135 (by decide) ?_
              refine lv_iadd hx hb dX0_ends_136 ?_
              obtain ⟨x10009, ex10009, hf⟩ := gBind hf
              refine g_iald X hR ex10009 dX0_ends_137 ?_
              obtain ⟨u10010, eu10010, hf⟩ := gBind hf
              refine g_callSv X hR hS [.ref v99_3, .int x10006, .int x10009] (m_X0_does l G F h99L n v99_3 x10006 x10009 eu10010) yk_X0_does q1582 rfl hl.1 ⟨Nat.le_of_ble_eq_true rfl, Nat.le_of_ble_eq_true rfl⟩ ⟨Nat.le_of_ble_eq_true rfl, Nat.le_of_ble_eq_true rfl⟩ rfl (Nat.le_of_ble_eq_true rfl) dX0_ends_138 (fun H locs hR hS => ?_)
              refine lv_iinc (v := v99_4 + (1 : Int32)) (lv' := [(4, .int (v99_4 + (1 : Int32))), (0, .ref v99_0), (1, .int v99_1), (3, .ref v99_3)]) hx hb dX0_ends_141 hl (k := 3) rfl rfl (by decide) rfl (fun ls hl => ?_)
              refine lv_goto (tgt := 99) hx hb dX0_ends_144 (by decide) ?_
              exact ih u10010 v99_0 v99_1 v99_3 (v99_4 + (1 : Int32)) _ _ _ _ hf hR hS (lv_sub hl [1, 2, 3, 0] rfl) K99
        obtain ⟨y16, ey16, hf⟩ := gBind hf
        refine L99_q14 F u13.2 a0 p1 u13.1 (0 : Int32) y16 _ _ _ ey16 hR hS (lv_sub hl [3, 4, 1, 0] rfl) (fun H locs ls hR hS hl => ?_)
        refine lv_iload_n hx hb dX0_ends_147 rfl (lv_at hl 0 rfl) ?_
        refine lv_if_ne (tgt := 158) hx hb dX0_ends_148 (by decide) (fun c17 => ?_) (fun c17 => ?_)
        · replace hf := gIfn c17 hf
          refine lv_aload_n hx hb dX0_ends_158 rfl (lv_at hl 1 rfl) ?_
          obtain ⟨x18, ex18, hf⟩ := gBind hf
          refine g_getiN X hR gk_X1 6 (by decide) q635 rfl ex18 dX0_ends_159 ?_
          obtain ⟨rfl, rfl⟩ := gO2 hf
          exact g_iret X hR hS _ rfl ⟨Nat.le_of_ble_eq_true rfl, Nat.le_of_ble_eq_true rfl⟩ dX0_ends_162
        · replace hf := gIfp c17 hf
          refine lv_aload_n hx hb dX0_ends_151 rfl (lv_at hl 1 rfl) ?_
          obtain ⟨x19, ex19, hf⟩ := gBind hf
          refine g_getiN X hR gk_X1 5 (by decide) q633 rfl ex19 dX0_ends_152 ?_
          refine lv_goto (tgt := 162) hx hb dX0_ends_155 (by decide) ?_
          obtain ⟨rfl, rfl⟩ := gO2 hf
          exact g_iret X hR hS _ rfl ⟨Nat.le_of_ble_eq_true rfl, Nat.le_of_ble_eq_true rfl⟩ dX0_ends_162
      · replace hf := gIfp c11 hf
        refine lv_bipush (v := (-4 : Int32)) hx hb dX0_ends_88 (by decide) ?_
        obtain ⟨rfl, rfl⟩ := gO2 hf
        exact g_iret X hR hS _ rfl ⟨Nat.le_of_ble_eq_true rfl, Nat.le_of_ble_eq_true rfl⟩ dX0_ends_90
    · replace hf := gIfp c5 hf
      refine lv_bipush (v := (-3 : Int32)) hx hb dX0_ends_22 (by decide) ?_
      obtain ⟨rfl, rfl⟩ := gO2 hf
      exact g_iret X hR hS _ rfl ⟨Nat.le_of_ble_eq_true rfl, Nat.le_of_ble_eq_true rfl⟩ dX0_ends_24
  · replace hf := gIfp c2 hf
    refine lv_iconst (v := (-1 : Int32)) hx hb dX0_ends_10 (by decide) ?_
    obtain ⟨rfl, rfl⟩ := gO2 hf
    exact g_iret X hR hS _ rfl ⟨Nat.le_of_ble_eq_true rfl, Nat.le_of_ble_eq_true rfl⟩ dX0_ends_11

def sp_X0_image (G : gG) (F : Nat) (h : gH) (a0 : Nat) : Option (Int32 × gH) :=
 (gPv 0 h a0 8 (.int (1 : Int32))).bind fun h1 =>
 (gGr 0 h1 a0 2).bind fun x2 =>
 (gGr 0 h1 a0 0).bind fun x3 =>
 if gIs 1 h1 x2 = true then
 (sp_X1_like G F h1 x2 x3).bind fun u5 =>
 (gGi 1 u5.2 u5.1 1).bind fun x6 =>
 some ((x6, u5.2)) else none
theorem yk_X0_image : gVk yX0_image cX0_image 1 (some .int) 0 0 := ⟨q1586, q1587, q92, q1588, ⟨by decide +kernel, by decide +kernel, by decide +kernel⟩, rfl⟩
set_option maxHeartbeats 4000000 in
theorem m_X0_image (l : Launch) (G : gG) (F : Nat) (h : gH) (n : Nat) (a0 : Nat) {r : Int32} {h' : gH} (hf : sp_X0_image G F h a0 = some (r, h')) : gMet l G yX0_image cX0_image 1 (some .int) 5 109 0 0 [.ref a0] h n (some (.int r)) h' n := by
  refine gEnter (by decide) [(0, .ref a0)] rfl (Nat.le_of_ble_eq_true rfl) ?_
  intro p e s m below meth c H ls X hin hR hS hl
  have hx := X.1.1
  have hb := X.1.2.1
  unfold sp_X0_image at hf
  generalize ([] : List Loc) = locs at hS ⊢
  refine lv_aload_n hx hb dX0_image_0 rfl (lv_at hl 0 rfl) ?_
  refine lv_iconst (v := (1 : Int32)) hx hb dX0_image_1 (by decide) ?_
  obtain ⟨h1, eh1, hf⟩ := gBind hf
  refine g_put X hR hS gk_X0 8 (by decide) q802 rfl rfl eh1 rfl rfl rfl dX0_image_2 (fun H locs hR hS => ?_)
  refine lv_aload_n hx hb dX0_image_5 rfl (lv_at hl 0 rfl) ?_
  obtain ⟨x2, ex2, hf⟩ := gBind hf
  refine g_getr X hR gk_X0 2 (by decide) q794 rfl ex2 dX0_image_6 ?_
  refine lv_aload_n hx hb dX0_image_9 rfl (lv_at hl 0 rfl) ?_
  obtain ⟨x3, ex3, hf⟩ := gBind hf
  refine g_getr X hR gk_X0 0 (by decide) q792 rfl ex3 dX0_image_10 ?_
  obtain ⟨k4, hf⟩ := gChk hf
  obtain ⟨u5, eu5, hf⟩ := gBind hf
  refine g_callVr X hR hS [.ref x3] (m_X1_like l G F h1 n x2 x3 eu5) yk_X1_like q1498 k4 rfl hl.1 ⟨Nat.le_of_ble_eq_true rfl, Nat.le_of_ble_eq_true rfl⟩ ⟨Nat.le_of_ble_eq_true rfl, Nat.le_of_ble_eq_true rfl⟩ rfl (Nat.le_of_ble_eq_true rfl) dX0_image_13 (fun H locs hR hS => ?_)
  obtain ⟨x6, ex6, hf⟩ := gBind hf
  refine g_getiN X hR gk_X1 1 (by decide) q625 rfl ex6 dX0_image_16 ?_
  obtain ⟨rfl, rfl⟩ := gO2 hf
  exact g_iret X hR hS _ rfl ⟨Nat.le_of_ble_eq_true rfl, Nat.le_of_ble_eq_true rfl⟩ dX0_image_19

def sp_X0_undo (G : gG) (F : Nat) (h : gH) (a0 : Nat) : Option (Int32 × gH) :=
 (gGi 0 h a0 8).bind fun x1 =>
 if x1 = 0 then
 some (((-3 : Int32), h)) else
 (gGr 0 h a0 0).bind fun x3 =>
 (gGr 0 h a0 2).bind fun x4 =>
 if gIs 1 h x3 = true then
 (sp_X1_like G F h x3 x4).bind fun u6 =>
 (gGi 1 u6.2 u6.1 1).bind fun x7 =>
 some ((x7, u6.2)) else none
theorem yk_X0_undo : gVk yX0_undo cX0_undo 1 (some .int) 0 0 := ⟨q1590, q1591, q92, q1592, ⟨by decide +kernel, by decide +kernel, by decide +kernel⟩, rfl⟩
set_option maxHeartbeats 4000000 in
theorem m_X0_undo (l : Launch) (G : gG) (F : Nat) (h : gH) (n : Nat) (a0 : Nat) {r : Int32} {h' : gH} (hf : sp_X0_undo G F h a0 = some (r, h')) : gMet l G yX0_undo cX0_undo 1 (some .int) 5 109 0 0 [.ref a0] h n (some (.int r)) h' n := by
  refine gEnter (by decide) [(0, .ref a0)] rfl (Nat.le_of_ble_eq_true rfl) ?_
  intro p e s m below meth c H ls X hin hR hS hl
  have hx := X.1.1
  have hb := X.1.2.1
  unfold sp_X0_undo at hf
  generalize ([] : List Loc) = locs at hS ⊢
  refine lv_aload_n hx hb dX0_undo_0 rfl (lv_at hl 0 rfl) ?_
  obtain ⟨x1, ex1, hf⟩ := gBind hf
  refine g_geti X hR gk_X0 8 (by decide) q802 rfl ex1 dX0_undo_1 ?_
  refine lv_if_eq (tgt := 24) hx hb dX0_undo_4 (by decide) (fun c2 => ?_) (fun c2 => ?_)
  · replace hf := gIfp c2 hf
    refine lv_bipush (v := (-3 : Int32)) hx hb dX0_undo_24 (by decide) ?_
    obtain ⟨rfl, rfl⟩ := gO2 hf
    exact g_iret X hR hS _ rfl ⟨Nat.le_of_ble_eq_true rfl, Nat.le_of_ble_eq_true rfl⟩ dX0_undo_26
  · replace hf := gIfn c2 hf
    refine lv_aload_n hx hb dX0_undo_7 rfl (lv_at hl 0 rfl) ?_
    obtain ⟨x3, ex3, hf⟩ := gBind hf
    refine g_getr X hR gk_X0 0 (by decide) q792 rfl ex3 dX0_undo_8 ?_
    refine lv_aload_n hx hb dX0_undo_11 rfl (lv_at hl 0 rfl) ?_
    obtain ⟨x4, ex4, hf⟩ := gBind hf
    refine g_getr X hR gk_X0 2 (by decide) q794 rfl ex4 dX0_undo_12 ?_
    obtain ⟨k5, hf⟩ := gChk hf
    obtain ⟨u6, eu6, hf⟩ := gBind hf
    refine g_callVr X hR hS [.ref x4] (m_X1_like l G F h n x3 x4 eu6) yk_X1_like q1498 k5 rfl hl.1 ⟨Nat.le_of_ble_eq_true rfl, Nat.le_of_ble_eq_true rfl⟩ ⟨Nat.le_of_ble_eq_true rfl, Nat.le_of_ble_eq_true rfl⟩ rfl (Nat.le_of_ble_eq_true rfl) dX0_undo_15 (fun H locs hR hS => ?_)
    obtain ⟨x7, ex7, hf⟩ := gBind hf
    refine g_getiN X hR gk_X1 1 (by decide) q625 rfl ex7 dX0_undo_18 ?_
    refine lv_goto (tgt := 26) hx hb dX0_undo_21 (by decide) ?_
    obtain ⟨rfl, rfl⟩ := gO2 hf
    exact g_iret X hR hS _ rfl ⟨Nat.le_of_ble_eq_true rfl, Nat.le_of_ble_eq_true rfl⟩ dX0_undo_26

def sp_X0_count (G : gG) (F : Nat) (h : gH) (a0 : Nat) (p1 : Int32) : Option (Int32) :=
 if p1 = (0 : Int32) then
 (gGi 0 h a0 5).bind fun x2 =>
 some (x2) else
 if p1 = (1 : Int32) then
 (gGr 0 h a0 0).bind fun x4 =>
 (gGi 1 h x4 20).bind fun x5 =>
 some (x5) else
 if p1 = (2 : Int32) then
 (gGr 0 h a0 0).bind fun x7 =>
 (gGi 1 h x7 21).bind fun x8 =>
 some (x8) else
 if p1 = (3 : Int32) then
 (gGr 0 h a0 0).bind fun x10 =>
 (gGi 1 h x10 17).bind fun x11 =>
 some (x11) else
 if p1 = (4 : Int32) then
 (gGr 0 h a0 0).bind fun x13 =>
 (gGi 1 h x13 18).bind fun x14 =>
 some (x14) else
 if p1 = (5 : Int32) then
 (gGi 0 h a0 3).bind fun x16 =>
 some (x16) else
 if p1 = (6 : Int32) then
 (gGr 0 h a0 0).bind fun x18 =>
 (gGi 1 h x18 15).bind fun x19 =>
 some (x19) else
 if p1 = (7 : Int32) then
 (gGr 0 h a0 0).bind fun x21 =>
 (gGi 1 h x21 19).bind fun x22 =>
 some (x22) else
 some ((-2 : Int32))
theorem yk_X0_count : gVk yX0_count cX0_count 2 (some .int) 1 0 := ⟨q1594, q1595, q92, q1596, ⟨by decide +kernel, by decide +kernel, by decide +kernel⟩, rfl⟩
set_option maxHeartbeats 4000000 in
theorem m_X0_count (l : Launch) (G : gG) (F : Nat) (h : gH) (n : Nat) (a0 : Nat) (p1 : Int32) {r : Int32} (hf : sp_X0_count G F h a0 p1 = some r) : gMet l G yX0_count cX0_count 2 (some .int) 0 0 0 0 [.ref a0, .int p1] h n (some (.int r)) h n := by
  refine gEnter (by decide) [(0, .ref a0), (1, .int p1)] rfl (Nat.le_of_ble_eq_true rfl) ?_
  intro p e s m below meth c H ls X hin hR hS hl
  have hx := X.1.1
  have hb := X.1.2.1
  unfold sp_X0_count at hf
  generalize ([] : List Loc) = locs at hS ⊢
  refine lv_iload_n hx hb dX0_count_0 rfl (lv_at hl 1 rfl) ?_
  by_cases c1 : p1 = (0 : Int32)
  · replace hf := gIfp c1 hf
    refine lv_tableIn (off := 47) (tgt := 48) hx hb dX0_count_1 (by rw [c1]; decide) (by rw [c1]; decide) (by rw [c1]; rfl) (by decide) ?_
    refine lv_aload_n hx hb dX0_count_48 rfl (lv_at hl 0 rfl) ?_
    obtain ⟨x2, ex2, hf⟩ := gBind hf
    refine g_geti X hR gk_X0 5 (by decide) q799 rfl ex2 dX0_count_49 ?_
    obtain rfl := gO1 hf
    exact g_iret X hR hS _ rfl ⟨Nat.le_of_ble_eq_true rfl, Nat.le_of_ble_eq_true rfl⟩ dX0_count_52
  replace hf := gIfn c1 hf
  by_cases c3 : p1 = (1 : Int32)
  · replace hf := gIfp c3 hf
    refine lv_tableIn (off := 52) (tgt := 53) hx hb dX0_count_1 (by rw [c3]; decide) (by rw [c3]; decide) (by rw [c3]; rfl) (by decide) ?_
    refine lv_aload_n hx hb dX0_count_53 rfl (lv_at hl 0 rfl) ?_
    obtain ⟨x4, ex4, hf⟩ := gBind hf
    refine g_getr X hR gk_X0 0 (by decide) q792 rfl ex4 dX0_count_54 ?_
    obtain ⟨x5, ex5, hf⟩ := gBind hf
    refine g_getiN X hR gk_X1 20 (by decide) q662 rfl ex5 dX0_count_57 ?_
    obtain rfl := gO1 hf
    exact g_iret X hR hS _ rfl ⟨Nat.le_of_ble_eq_true rfl, Nat.le_of_ble_eq_true rfl⟩ dX0_count_60
  replace hf := gIfn c3 hf
  by_cases c6 : p1 = (2 : Int32)
  · replace hf := gIfp c6 hf
    refine lv_tableIn (off := 60) (tgt := 61) hx hb dX0_count_1 (by rw [c6]; decide) (by rw [c6]; decide) (by rw [c6]; rfl) (by decide) ?_
    refine lv_aload_n hx hb dX0_count_61 rfl (lv_at hl 0 rfl) ?_
    obtain ⟨x7, ex7, hf⟩ := gBind hf
    refine g_getr X hR gk_X0 0 (by decide) q792 rfl ex7 dX0_count_62 ?_
    obtain ⟨x8, ex8, hf⟩ := gBind hf
    refine g_getiN X hR gk_X1 21 (by decide) q664 rfl ex8 dX0_count_65 ?_
    obtain rfl := gO1 hf
    exact g_iret X hR hS _ rfl ⟨Nat.le_of_ble_eq_true rfl, Nat.le_of_ble_eq_true rfl⟩ dX0_count_68
  replace hf := gIfn c6 hf
  by_cases c9 : p1 = (3 : Int32)
  · replace hf := gIfp c9 hf
    refine lv_tableIn (off := 68) (tgt := 69) hx hb dX0_count_1 (by rw [c9]; decide) (by rw [c9]; decide) (by rw [c9]; rfl) (by decide) ?_
    refine lv_aload_n hx hb dX0_count_69 rfl (lv_at hl 0 rfl) ?_
    obtain ⟨x10, ex10, hf⟩ := gBind hf
    refine g_getr X hR gk_X0 0 (by decide) q792 rfl ex10 dX0_count_70 ?_
    obtain ⟨x11, ex11, hf⟩ := gBind hf
    refine g_getiN X hR gk_X1 17 (by decide) q656 rfl ex11 dX0_count_73 ?_
    obtain rfl := gO1 hf
    exact g_iret X hR hS _ rfl ⟨Nat.le_of_ble_eq_true rfl, Nat.le_of_ble_eq_true rfl⟩ dX0_count_76
  replace hf := gIfn c9 hf
  by_cases c12 : p1 = (4 : Int32)
  · replace hf := gIfp c12 hf
    refine lv_tableIn (off := 76) (tgt := 77) hx hb dX0_count_1 (by rw [c12]; decide) (by rw [c12]; decide) (by rw [c12]; rfl) (by decide) ?_
    refine lv_aload_n hx hb dX0_count_77 rfl (lv_at hl 0 rfl) ?_
    obtain ⟨x13, ex13, hf⟩ := gBind hf
    refine g_getr X hR gk_X0 0 (by decide) q792 rfl ex13 dX0_count_78 ?_
    obtain ⟨x14, ex14, hf⟩ := gBind hf
    refine g_getiN X hR gk_X1 18 (by decide) q658 rfl ex14 dX0_count_81 ?_
    obtain rfl := gO1 hf
    exact g_iret X hR hS _ rfl ⟨Nat.le_of_ble_eq_true rfl, Nat.le_of_ble_eq_true rfl⟩ dX0_count_84
  replace hf := gIfn c12 hf
  by_cases c15 : p1 = (5 : Int32)
  · replace hf := gIfp c15 hf
    refine lv_tableIn (off := 84) (tgt := 85) hx hb dX0_count_1 (by rw [c15]; decide) (by rw [c15]; decide) (by rw [c15]; rfl) (by decide) ?_
    refine lv_aload_n hx hb dX0_count_85 rfl (lv_at hl 0 rfl) ?_
    obtain ⟨x16, ex16, hf⟩ := gBind hf
    refine g_geti X hR gk_X0 3 (by decide) q795 rfl ex16 dX0_count_86 ?_
    obtain rfl := gO1 hf
    exact g_iret X hR hS _ rfl ⟨Nat.le_of_ble_eq_true rfl, Nat.le_of_ble_eq_true rfl⟩ dX0_count_89
  replace hf := gIfn c15 hf
  by_cases c17 : p1 = (6 : Int32)
  · replace hf := gIfp c17 hf
    refine lv_tableIn (off := 89) (tgt := 90) hx hb dX0_count_1 (by rw [c17]; decide) (by rw [c17]; decide) (by rw [c17]; rfl) (by decide) ?_
    refine lv_aload_n hx hb dX0_count_90 rfl (lv_at hl 0 rfl) ?_
    obtain ⟨x18, ex18, hf⟩ := gBind hf
    refine g_getr X hR gk_X0 0 (by decide) q792 rfl ex18 dX0_count_91 ?_
    obtain ⟨x19, ex19, hf⟩ := gBind hf
    refine g_getiN X hR gk_X1 15 (by decide) q653 rfl ex19 dX0_count_94 ?_
    obtain rfl := gO1 hf
    exact g_iret X hR hS _ rfl ⟨Nat.le_of_ble_eq_true rfl, Nat.le_of_ble_eq_true rfl⟩ dX0_count_97
  replace hf := gIfn c17 hf
  by_cases c20 : p1 = (7 : Int32)
  · replace hf := gIfp c20 hf
    refine lv_tableIn (off := 97) (tgt := 98) hx hb dX0_count_1 (by rw [c20]; decide) (by rw [c20]; decide) (by rw [c20]; rfl) (by decide) ?_
    refine lv_aload_n hx hb dX0_count_98 rfl (lv_at hl 0 rfl) ?_
    obtain ⟨x21, ex21, hf⟩ := gBind hf
    refine g_getr X hR gk_X0 0 (by decide) q792 rfl ex21 dX0_count_99 ?_
    obtain ⟨x22, ex22, hf⟩ := gBind hf
    refine g_getiN X hR gk_X1 19 (by decide) q660 rfl ex22 dX0_count_102 ?_
    obtain rfl := gO1 hf
    exact g_iret X hR hS _ rfl ⟨Nat.le_of_ble_eq_true rfl, Nat.le_of_ble_eq_true rfl⟩ dX0_count_105
  replace hf := gIfn c20 hf
  refine lv_tableOut (tgt := 106) hx hb dX0_count_1 (by have tc1 := lv_neT (k := (0 : Int32)) (a := 0) c1 (by decide); have tc3 := lv_neT (k := (1 : Int32)) (a := 1) c3 (by decide); have tc6 := lv_neT (k := (2 : Int32)) (a := 2) c6 (by decide); have tc9 := lv_neT (k := (3 : Int32)) (a := 3) c9 (by decide); have tc12 := lv_neT (k := (4 : Int32)) (a := 4) c12 (by decide); have tc15 := lv_neT (k := (5 : Int32)) (a := 5) c15 (by decide); have tc17 := lv_neT (k := (6 : Int32)) (a := 6) c17 (by decide); have tc20 := lv_neT (k := (7 : Int32)) (a := 7) c20 (by decide); omega) (by decide) ?_
  refine lv_bipush (v := (-2 : Int32)) hx hb dX0_count_106 (by decide) ?_
  obtain rfl := gO1 hf
  exact g_iret X hR hS _ rfl ⟨Nat.le_of_ble_eq_true rfl, Nat.le_of_ble_eq_true rfl⟩ dX0_count_108

def sp_X0_isTape (G : gG) (F : Nat) (h : gH) (p0 : Int32) : Option (Int32) :=
 (sp_X0_in G F h p0.toInt64 (0 : Int64) (5 : Int64)).bind fun u1 =>
 if u1 = 0 ∨ u1 = 1 then
 some (u1) else none
theorem yk_X0_isTape : gSk yX0_isTape cX0_isTape 1 (some .boolean) 1 := ⟨q1602, q92, q1603, ⟨by decide +kernel, by decide +kernel, by decide +kernel⟩⟩
set_option maxHeartbeats 4000000 in
theorem m_X0_isTape (l : Launch) (G : gG) (F : Nat) (h : gH) (n : Nat) (p0 : Int32) {r : Int32} (hf : sp_X0_isTape G F h p0 = some r) : gMet l G yX0_isTape cX0_isTape 1 (some .boolean) 1 25 0 0 [.int p0] h n (some (.int r)) h n := by
  refine gEnter (by decide) [(0, .int p0)] rfl (Nat.le_of_ble_eq_true rfl) ?_
  intro p e s m below meth c H ls X hin hR hS hl
  have hx := X.1.1
  have hb := X.1.2.1
  unfold sp_X0_isTape at hf
  generalize ([] : List Loc) = locs at hS ⊢
  refine lv_iload_n hx hb dX0_isTape_0 rfl (lv_at hl 0 rfl) ?_
  refine lv_i2l (v := p0.toInt64) hx hb dX0_isTape_1 rfl ?_
  refine lv_lconst (v := (0 : Int64)) hx hb dX0_isTape_2 (by decide) ?_
  refine lv_ldc2 (v := (5 : Int64)) hx hb X.1.2.2.2.1 (X.1.2.2.2.2 _ q1060) dX0_isTape_3 ?_
  obtain ⟨u1, eu1, hf⟩ := gBind hf
  refine g_callSi X hR hS [.long p0.toInt64, .long (0 : Int64), .long (5 : Int64)] (m_X0_in l G F h n p0.toInt64 (0 : Int64) (5 : Int64) eu1) yk_X0_in q830 rfl hl.1 ⟨Nat.le_of_ble_eq_true rfl, Nat.le_of_ble_eq_true rfl⟩ ⟨Nat.le_of_ble_eq_true rfl, Nat.le_of_ble_eq_true rfl⟩ rfl (Nat.le_of_ble_eq_true rfl) dX0_isTape_6 (fun H locs hR hS => ?_)
  obtain ⟨k2, hf⟩ := gChk hf
  obtain rfl := gO1 hf
  exact g_zret X hR hS _ rfl (gNz k2).1 ⟨Nat.le_of_ble_eq_true rfl, Nat.le_of_ble_eq_true rfl⟩ dX0_isTape_9

def sp_X0_judge_L29 (G : gG) (F : Nat) (h29L : gH) : Nat → Nat → Int32 → Nat → Int32 → Option (Int32)
  | 0, _, _, _, _ => none
  | f + 1, v29_0, v29_2, v29_3, v29_4 =>
    (gGr 0 h29L v29_0 0).bind fun x3001 =>
    (gGi 1 h29L x3001 13).bind fun x3002 =>
    if x3002 ≤ v29_4 then
    some ((-5 : Int32)) else
    if v29_2 < 0 then
    some ((100 : Int32) + v29_4) else
    if gIs 10 h29L v29_3 = true then
    (sp_X12_size G F h29L v29_3).bind fun u3006 =>
    if v29_4 < (u3006 - v29_2) then
    if gIs 10 h29L v29_3 = true then
    (sp_X12_at G F h29L v29_3 (v29_2 + v29_4)).bind fun u3009 =>
    (gGr 0 h29L v29_0 0).bind fun x3010 =>
    if gIs 1 h29L x3010 = true then
    (sp_X1_light G F h29L x3010 v29_4).bind fun u3012 =>
    if (lg_cmp u3009 u3012.toInt64) = 0 then
    sp_X0_judge_L29 G F h29L f v29_0 v29_2 v29_3 (v29_4 + (1 : Int32)) else
    some (v29_4) else none else none else
    some ((100 : Int32) + v29_4) else none
def sp_X0_judge (G : gG) (F : Nat) (h : gH) (a0 : Nat) (p1 : Int32) (p2 : Int32) : Option (Int32) :=
 (sp_X0_isTape G F h p1).bind fun u1 =>
 if u1 = 0 then
 some ((-1 : Int32)) else
 (gGr 0 h a0 9).bind fun x3 =>
 (gAr 10 h x3 p1).bind fun a4 =>
 if gIs 10 h a4 = true then
 (sp_X12_sort G F h a4).bind fun u6 =>
 if u6 ≤ 0 then
 sp_X0_judge_L29 G F h F a0 p2 a4 (0 : Int32) else
 some ((-12 : Int32)) else none
theorem yk_X0_judge : gVk yX0_judge cX0_judge 5 (some .int) 2 0 := ⟨q1598, q1599, q92, q1600, ⟨by decide +kernel, by decide +kernel, by decide +kernel⟩, rfl⟩
set_option maxHeartbeats 4000000 in
theorem m_X0_judge (l : Launch) (G : gG) (F : Nat) (h : gH) (n : Nat) (a0 : Nat) (p1 : Int32) (p2 : Int32) {r : Int32} (hf : sp_X0_judge G F h a0 p1 p2 = some r) : gMet l G yX0_judge cX0_judge 5 (some .int) 2 45 0 0 [.ref a0, .int p1, .int p2] h n (some (.int r)) h n := by
  refine gEnter (by decide) [(0, .ref a0), (1, .int p1), (2, .int p2)] rfl (Nat.le_of_ble_eq_true rfl) ?_
  intro p e s m below meth c H ls X hin hR hS hl
  have hx := X.1.1
  have hb := X.1.2.1
  unfold sp_X0_judge at hf
  generalize ([] : List Loc) = locs at hS ⊢
  refine lv_iload_n hx hb dX0_judge_0 rfl (lv_at hl 1 rfl) ?_
  obtain ⟨u1, eu1, hf⟩ := gBind hf
  refine g_callSi X hR hS [.int p1] (m_X0_isTape l G F h n p1 eu1) yk_X0_isTape q1601 rfl hl.1 ⟨Nat.le_of_ble_eq_true rfl, Nat.le_of_ble_eq_true rfl⟩ ⟨Nat.le_of_ble_eq_true rfl, Nat.le_of_ble_eq_true rfl⟩ rfl (Nat.le_of_ble_eq_true rfl) dX0_judge_1 (fun H locs hR hS => ?_)
  refine lv_if_ne (tgt := 9) hx hb dX0_judge_4 (by decide) (fun c2 => ?_) (fun c2 => ?_)
  · replace hf := gIfn c2 hf
    refine lv_aload_n hx hb dX0_judge_9 rfl (lv_at hl 0 rfl) ?_
    obtain ⟨x3, ex3, hf⟩ := gBind hf
    refine g_getr X hR gk_X0 9 (by decide) q803 rfl ex3 dX0_judge_10 ?_
    refine lv_iload_n hx hb dX0_judge_13 rfl (lv_at hl 1 rfl) ?_
    obtain ⟨a4, ea4, hf⟩ := gBind hf
    refine g_aald X hR 10 (by decide) rfl ea4 dX0_judge_14 ?_
    refine lv_astore_n (lv' := [(3, .ref a4), (0, .ref a0), (1, .int p1), (2, .int p2)]) hx hb dX0_judge_15 rfl hl (by decide) rfl (fun ls hl => ?_)
    refine lv_aload_n hx hb dX0_judge_16 rfl (lv_at hl 0 rfl) ?_
    obtain ⟨k5, hf⟩ := gChk hf
    obtain ⟨u6, eu6, hf⟩ := gBind hf
    refine g_callVi X hR hS [] (m_X12_sort l G F h n a4 eu6) yk_X12_sort q1604 k5 rfl hl.1 ⟨Nat.le_of_ble_eq_true rfl, Nat.le_of_ble_eq_true rfl⟩ ⟨Nat.le_of_ble_eq_true rfl, Nat.le_of_ble_eq_true rfl⟩ rfl (Nat.le_of_ble_eq_true rfl) dX0_judge_17 (fun H locs hR hS => ?_)
    refine lv_if_le (tgt := 26) hx hb dX0_judge_20 (by decide) (fun c7 => ?_) (fun c7 => ?_)
    · replace hf := gIfp c7 hf
      refine lv_iconst (v := (0 : Int32)) hx hb dX0_judge_26 (by decide) ?_
      refine lv_istore (lv' := [(4, .int (0 : Int32)), (3, .ref a4), (0, .ref a0), (1, .int p1), (2, .int p2)]) hx hb dX0_judge_27 hl (by decide) rfl (fun ls hl => ?_)
      have L29_q8 : ∀ (f : Nat) (v29_0 : Nat) (v29_2 : Int32) (v29_3 : Nat) (v29_4 : Int32) (H : Heap) (locs : List Loc) (ls : Array Slot), sp_X0_judge_L29 G F h f v29_0 v29_2 v29_3 v29_4 = some r → gRep G h n H → va_S (gFr G) s.heap H locs → lv_has ls 5 [(0, .ref v29_0), (2, .int v29_2), (3, .ref v29_3), (4, .int v29_4)] → W p l e ({ frames := 2, cells := 0, slots := 0, locals := 45 } : Room) s m ([.ref a0, .int p1, .int p2] : List Value).toArray below meth c H locs 0 0 (MQ below (gQ G (some (.int r)) h n) ([.ref a0, .int p1, .int p2] : List Value).toArray s 0 0 (gFr G)) (F0 m 29 ls []) := by
        clear hf
        intro f
        induction f with
        | zero =>
          intro v29_0 v29_2 v29_3 v29_4 H locs ls hf
          cases hf
        | succ f ih =>
          intro v29_0 v29_2 v29_3 v29_4 H locs ls hf hR hS hl
          rw [sp_X0_judge_L29] at hf
          refine lv_iload hx hb dX0_judge_29 (lv_at hl 3 rfl) ?_
          refine lv_aload_n hx hb dX0_judge_31 rfl (lv_at hl 0 rfl) ?_
          obtain ⟨x3001, ex3001, hf⟩ := gBind hf
          refine g_getr X hR gk_X0 0 (by decide) q792 rfl ex3001 dX0_judge_32 ?_
          obtain ⟨x3002, ex3002, hf⟩ := gBind hf
          refine g_getiN X hR gk_X1 13 (by decide) q649 rfl ex3002 dX0_judge_35 ?_
          refine lv_icmp_ge (tgt := 93) hx hb dX0_judge_38 (by decide) (fun c3003 => ?_) (fun c3003 => ?_)
          · replace hf := gIfp c3003 hf
            refine lv_bipush (v := (-5 : Int32)) hx hb dX0_judge_93 (by decide) ?_
            obtain rfl := gO1 hf
            exact g_iret X hR hS _ rfl ⟨Nat.le_of_ble_eq_true rfl, Nat.le_of_ble_eq_true rfl⟩ dX0_judge_95
          · replace hf := gIfn c3003 hf
            refine lv_iload_n hx hb dX0_judge_41 rfl (lv_at hl 1 rfl) ?_
            refine lv_if_lt (tgt := 56) hx hb dX0_judge_42 (by decide) (fun c3004 => ?_) (fun c3004 => ?_)
            · replace hf := gIfp c3004 hf
              refine lv_bipush (v := (100 : Int32)) hx hb dX0_judge_56 (by decide) ?_
              refine lv_iload hx hb dX0_judge_58 (lv_at hl 3 rfl) ?_
              refine lv_iadd hx hb dX0_judge_60 ?_
              obtain rfl := gO1 hf
              exact g_iret X hR hS _ rfl ⟨Nat.le_of_ble_eq_true rfl, Nat.le_of_ble_eq_true rfl⟩ dX0_judge_61
            · replace hf := gIfn c3004 hf
              refine lv_iload hx hb dX0_judge_45 (lv_at hl 3 rfl) ?_
              refine lv_aload_n hx hb dX0_judge_47 rfl (lv_at hl 2 rfl) ?_
              obtain ⟨k3005, hf⟩ := gChk hf
              obtain ⟨u3006, eu3006, hf⟩ := gBind hf
              refine g_callVi X hR hS [] (m_X12_size l G F h n v29_3 eu3006) yk_X12_size q1612 k3005 rfl hl.1 ⟨Nat.le_of_ble_eq_true rfl, Nat.le_of_ble_eq_true rfl⟩ ⟨Nat.le_of_ble_eq_true rfl, Nat.le_of_ble_eq_true rfl⟩ rfl (Nat.le_of_ble_eq_true rfl) dX0_judge_48 (fun H locs hR hS => ?_)
              refine lv_iload_n hx hb dX0_judge_51 rfl (lv_at hl 1 rfl) ?_
              refine lv_isub hx hb dX0_judge_52 ?_
              refine lv_icmp_lt (tgt := 62) hx hb dX0_judge_53 (by decide) (fun c3007 => ?_) (fun c3007 => ?_)
              · replace hf := gIfp c3007 hf
                refine lv_aload_n hx hb dX0_judge_62 rfl (lv_at hl 2 rfl) ?_
                refine lv_iload_n hx hb dX0_judge_63 rfl (lv_at hl 1 rfl) ?_
                refine lv_iload hx hb dX0_judge_64 (lv_at hl 3 rfl) ?_
                refine lv_iadd hx hb dX0_judge_66 ?_
                obtain ⟨k3008, hf⟩ := gChk hf
                obtain ⟨u3009, eu3009, hf⟩ := gBind hf
                refine g_callVl X hR hS [.int (v29_2 + v29_4)] (m_X12_at l G F h n v29_3 (v29_2 + v29_4) eu3009) yk_X12_at q1618 k3008 rfl hl.1 ⟨Nat.le_of_ble_eq_true rfl, Nat.le_of_ble_eq_true rfl⟩ ⟨Nat.le_of_ble_eq_true rfl, Nat.le_of_ble_eq_true rfl⟩ rfl (Nat.le_of_ble_eq_true rfl) dX0_judge_67 (fun H locs hR hS => ?_)
                refine lv_aload_n hx hb dX0_judge_70 rfl (lv_at hl 0 rfl) ?_
                obtain ⟨x3010, ex3010, hf⟩ := gBind hf
                refine g_getr X hR gk_X0 0 (by decide) q792 rfl ex3010 dX0_judge_71 ?_
                refine lv_iload hx hb dX0_judge_74 (lv_at hl 3 rfl) ?_
                obtain ⟨k3011, hf⟩ := gChk hf
                obtain ⟨u3012, eu3012, hf⟩ := gBind hf
                refine g_callVi X hR hS [.int v29_4] (m_X1_light l G F h n x3010 v29_4 eu3012) yk_X1_light q1286 k3011 rfl hl.1 ⟨Nat.le_of_ble_eq_true rfl, Nat.le_of_ble_eq_true rfl⟩ ⟨Nat.le_of_ble_eq_true rfl, Nat.le_of_ble_eq_true rfl⟩ rfl (Nat.le_of_ble_eq_true rfl) dX0_judge_76 (fun H locs hR hS => ?_)
                refine lv_i2l (v := u3012.toInt64) hx hb dX0_judge_79 rfl ?_
                refine W.lcmp hx hb dX0_judge_80 ?_
                refine lv_if_eq (tgt := 87) hx hb dX0_judge_81 (by decide) (fun c3013 => ?_) (fun c3013 => ?_)
                · replace hf := gIfp c3013 hf
                  refine lv_iinc (v := v29_4 + (1 : Int32)) (lv' := [(4, .int (v29_4 + (1 : Int32))), (0, .ref v29_0), (2, .int v29_2), (3, .ref v29_3)]) hx hb dX0_judge_87 hl (k := 3) rfl rfl (by decide) rfl (fun ls hl => ?_)
                  refine lv_goto (tgt := 29) hx hb dX0_judge_90 (by decide) ?_
                  exact ih v29_0 v29_2 v29_3 (v29_4 + (1 : Int32)) _ _ _ hf hR hS (lv_sub hl [1, 2, 3, 0] rfl)
                · replace hf := gIfn c3013 hf
                  refine lv_iload hx hb dX0_judge_84 (lv_at hl 3 rfl) ?_
                  obtain rfl := gO1 hf
                  exact g_iret X hR hS _ rfl ⟨Nat.le_of_ble_eq_true rfl, Nat.le_of_ble_eq_true rfl⟩ dX0_judge_86
              · replace hf := gIfn c3007 hf
                refine lv_bipush (v := (100 : Int32)) hx hb dX0_judge_56 (by decide) ?_
                refine lv_iload hx hb dX0_judge_58 (lv_at hl 3 rfl) ?_
                refine lv_iadd hx hb dX0_judge_60 ?_
                obtain rfl := gO1 hf
                exact g_iret X hR hS _ rfl ⟨Nat.le_of_ble_eq_true rfl, Nat.le_of_ble_eq_true rfl⟩ dX0_judge_61
      exact L29_q8 F a0 p2 a4 (0 : Int32) _ _ _ hf hR hS (lv_sub hl [2, 4, 1, 0] rfl)
    · replace hf := gIfn c7 hf
      refine lv_bipush (v := (-12 : Int32)) hx hb dX0_judge_23 (by decide) ?_
      obtain rfl := gO1 hf
      exact g_iret X hR hS _ rfl ⟨Nat.le_of_ble_eq_true rfl, Nat.le_of_ble_eq_true rfl⟩ dX0_judge_25
  · replace hf := gIfp c2 hf
    refine lv_iconst (v := (-1 : Int32)) hx hb dX0_judge_7 (by decide) ?_
    obtain rfl := gO1 hf
    exact g_iret X hR hS _ rfl ⟨Nat.le_of_ble_eq_true rfl, Nat.le_of_ble_eq_true rfl⟩ dX0_judge_8

def sp_X0_peek (G : gG) (F : Nat) (h : gH) (a0 : Nat) (p1 : Int32) (p2 : Int32) : Option (Int64) :=
 (sp_X0_isTape G F h p1).bind fun u1 =>
 if u1 = 0 then
 some ((-9223372036854775808 : Int64)) else
 (gGr 0 h a0 9).bind fun x3 =>
 (gAr 10 h x3 p1).bind fun a4 =>
 if gIs 10 h a4 = true then
 (sp_X12_size G F h a4).bind fun u6 =>
 (sp_X0_in G F h p2.toInt64 (0 : Int64) ((u6 - (1 : Int32)).toInt64)).bind fun u7 =>
 if u7 = 0 then
 some ((-9223372036854775808 : Int64)) else
 (gGr 0 h a0 9).bind fun x9 =>
 (gAr 10 h x9 p1).bind fun a10 =>
 if gIs 10 h a10 = true then
 (sp_X12_at G F h a10 p2).bind fun u12 =>
 some (u12) else none else none
theorem yk_X0_peek : gVk yX0_peek cX0_peek 3 (some .long) 2 0 := ⟨q1658, q1659, q92, q1660, ⟨by decide +kernel, by decide +kernel, by decide +kernel⟩, rfl⟩
set_option maxHeartbeats 4000000 in
theorem m_X0_peek (l : Launch) (G : gG) (F : Nat) (h : gH) (n : Nat) (a0 : Nat) (p1 : Int32) (p2 : Int32) {r : Int64} (hf : sp_X0_peek G F h a0 p1 p2 = some r) : gMet l G yX0_peek cX0_peek 3 (some .long) 2 45 0 0 [.ref a0, .int p1, .int p2] h n (some (.long r)) h n := by
  refine gEnter (by decide) [(0, .ref a0), (1, .int p1), (2, .int p2)] rfl (Nat.le_of_ble_eq_true rfl) ?_
  intro p e s m below meth c H ls X hin hR hS hl
  have hx := X.1.1
  have hb := X.1.2.1
  unfold sp_X0_peek at hf
  generalize ([] : List Loc) = locs at hS ⊢
  refine lv_iload_n hx hb dX0_peek_0 rfl (lv_at hl 1 rfl) ?_
  obtain ⟨u1, eu1, hf⟩ := gBind hf
  refine g_callSi X hR hS [.int p1] (m_X0_isTape l G F h n p1 eu1) yk_X0_isTape q1601 rfl hl.1 ⟨Nat.le_of_ble_eq_true rfl, Nat.le_of_ble_eq_true rfl⟩ ⟨Nat.le_of_ble_eq_true rfl, Nat.le_of_ble_eq_true rfl⟩ rfl (Nat.le_of_ble_eq_true rfl) dX0_peek_1 (fun H locs hR hS => ?_)
  refine lv_if_eq (tgt := 41) hx hb dX0_peek_4 (by decide) (fun c2 => ?_) (fun c2 => ?_)
  · replace hf := gIfp c2 hf
    refine lv_ldc2 (v := (-9223372036854775808 : Int64)) hx hb X.1.2.2.2.1 (X.1.2.2.2.2 _ q1562) dX0_peek_41 ?_
    obtain rfl := gO1 hf
    exact g_lret X hR hS _ rfl ⟨Nat.le_of_ble_eq_true rfl, Nat.le_of_ble_eq_true rfl⟩ dX0_peek_44
  · replace hf := gIfn c2 hf
    refine lv_iload_n hx hb dX0_peek_7 rfl (lv_at hl 2 rfl) ?_
    refine lv_i2l (v := p2.toInt64) hx hb dX0_peek_8 rfl ?_
    refine lv_lconst (v := (0 : Int64)) hx hb dX0_peek_9 (by decide) ?_
    refine lv_aload_n hx hb dX0_peek_10 rfl (lv_at hl 0 rfl) ?_
    obtain ⟨x3, ex3, hf⟩ := gBind hf
    refine g_getr X hR gk_X0 9 (by decide) q803 rfl ex3 dX0_peek_11 ?_
    refine lv_iload_n hx hb dX0_peek_14 rfl (lv_at hl 1 rfl) ?_
    obtain ⟨a4, ea4, hf⟩ := gBind hf
    refine g_aald X hR 10 (by decide) rfl ea4 dX0_peek_15 ?_
    obtain ⟨k5, hf⟩ := gChk hf
    obtain ⟨u6, eu6, hf⟩ := gBind hf
    refine g_callVi X hR hS [] (m_X12_size l G F h n a4 eu6) yk_X12_size q1612 k5 rfl hl.1 ⟨Nat.le_of_ble_eq_true rfl, Nat.le_of_ble_eq_true rfl⟩ ⟨Nat.le_of_ble_eq_true rfl, Nat.le_of_ble_eq_true rfl⟩ rfl (Nat.le_of_ble_eq_true rfl) dX0_peek_16 (fun H locs hR hS => ?_)
    refine lv_iconst (v := (1 : Int32)) hx hb dX0_peek_19 (by decide) ?_
    refine lv_isub hx hb dX0_peek_20 ?_
    refine lv_i2l (v := (u6 - (1 : Int32)).toInt64) hx hb dX0_peek_21 rfl ?_
    obtain ⟨u7, eu7, hf⟩ := gBind hf
    refine g_callSi X hR hS [.long p2.toInt64, .long (0 : Int64), .long ((u6 - (1 : Int32)).toInt64)] (m_X0_in l G F h n p2.toInt64 (0 : Int64) ((u6 - (1 : Int32)).toInt64) eu7) yk_X0_in q830 rfl hl.1 ⟨Nat.le_of_ble_eq_true rfl, Nat.le_of_ble_eq_true rfl⟩ ⟨Nat.le_of_ble_eq_true rfl, Nat.le_of_ble_eq_true rfl⟩ rfl (Nat.le_of_ble_eq_true rfl) dX0_peek_22 (fun H locs hR hS => ?_)
    refine lv_if_eq (tgt := 41) hx hb dX0_peek_25 (by decide) (fun c8 => ?_) (fun c8 => ?_)
    · replace hf := gIfp c8 hf
      refine lv_ldc2 (v := (-9223372036854775808 : Int64)) hx hb X.1.2.2.2.1 (X.1.2.2.2.2 _ q1562) dX0_peek_41 ?_
      obtain rfl := gO1 hf
      exact g_lret X hR hS _ rfl ⟨Nat.le_of_ble_eq_true rfl, Nat.le_of_ble_eq_true rfl⟩ dX0_peek_44
    · replace hf := gIfn c8 hf
      refine lv_aload_n hx hb dX0_peek_28 rfl (lv_at hl 0 rfl) ?_
      obtain ⟨x9, ex9, hf⟩ := gBind hf
      refine g_getr X hR gk_X0 9 (by decide) q803 rfl ex9 dX0_peek_29 ?_
      refine lv_iload_n hx hb dX0_peek_32 rfl (lv_at hl 1 rfl) ?_
      obtain ⟨a10, ea10, hf⟩ := gBind hf
      refine g_aald X hR 10 (by decide) rfl ea10 dX0_peek_33 ?_
      refine lv_iload_n hx hb dX0_peek_34 rfl (lv_at hl 2 rfl) ?_
      obtain ⟨k11, hf⟩ := gChk hf
      obtain ⟨u12, eu12, hf⟩ := gBind hf
      refine g_callVl X hR hS [.int p2] (m_X12_at l G F h n a10 p2 eu12) yk_X12_at q1618 k11 rfl hl.1 ⟨Nat.le_of_ble_eq_true rfl, Nat.le_of_ble_eq_true rfl⟩ ⟨Nat.le_of_ble_eq_true rfl, Nat.le_of_ble_eq_true rfl⟩ rfl (Nat.le_of_ble_eq_true rfl) dX0_peek_35 (fun H locs hR hS => ?_)
      refine lv_goto (tgt := 44) hx hb dX0_peek_38 (by decide) ?_
      obtain rfl := gO1 hf
      exact g_lret X hR hS _ rfl ⟨Nat.le_of_ble_eq_true rfl, Nat.le_of_ble_eq_true rfl⟩ dX0_peek_44

