/-! e6: printed by wip/gen/genw.py -/
set_option maxRecDepth 100000
theorem gCovN (pc : Nat) (L : List ExceptionTableEntry) (h : L.all (fun z => !covers z pc) = true) : ∀ z ∈ L, covers z pc = false := by
  intro z hz
  have h1 := List.all_eq_true.mp h z hz
  cases h2 : covers z pc with
  | false => rfl
  | true => rw [h2] at h1; cases h1
def sp_X12_becomes_T (G : gG) (F : Nat) (h : gH) (n : Nat) (a0 : Nat) (p1 : Int32) (p2 : Int32) : Option gH :=
 if 0 ≤ p1 then
 if p1 = 0 then
 if p2 < 0 then
 some h else none else
 if p1 = (1 : Int32) then
 if p2 < 0 then
 some h else none else
 if p1 = (2 : Int32) then
 if p2 < 0 then
 some h else none else
 if p1 = (3 : Int32) then
 if p2 < 0 then
 some h else none else
 if p2 < 0 then
 some h else none else
 (gPv 10 h a0 0 (.null)).bind fun h11 =>
 none
set_option maxHeartbeats 8000000 in
theorem m_X12_becomes_T (l : Launch) (hlt : l.stackTraces = false) (G : gG) (F : Nat) (h : gH) (n : Nat) (a0 : Nat) (p1 : Int32) (p2 : Int32) {h' : gH} (hf : sp_X12_becomes_T G F h n a0 p1 p2 = some h') : gMetT l G yX12_becomes cX12_becomes 3 none 8 10260 3 810 [.ref a0, .int p1, .int p2] h n cl_nas none h' := by
  refine gEnterT (by decide) [(0, .ref a0), (1, .int p1), (2, .int p2)] rfl (Nat.le_of_ble_eq_true rfl) ?_
  intro p e s m below meth c H ls X hin hR hS hl ht
  have hx := X.1.1
  have hb := X.1.2.1
  unfold sp_X12_becomes_T at hf
  generalize ([] : List Loc) = locs at hS ⊢
  refine lv_aload_n hx hb dX12_becomes_0 rfl (lv_at hl 0 rfl) ?_
  refine lv_iload_n hx hb dX12_becomes_1 rfl (lv_at hl 1 rfl) ?_
  refine lv_if_ge (tgt := 9) hx hb dX12_becomes_2 (by decide) (fun c1 => ?_) (fun c1 => ?_)
  · replace hf := gIfp c1 hf
    refine lv_iload_n hx hb dX12_becomes_9 rfl (lv_at hl 1 rfl) ?_
    refine lv_if_ne (tgt := 19) hx hb dX12_becomes_10 (by decide) (fun c2 => ?_) (fun c2 => ?_)
    · replace hf := gIfn c2 hf
      refine lv_iload_n hx hb dX12_becomes_19 rfl (lv_at hl 1 rfl) ?_
      refine lv_iconst (v := (1 : Int32)) hx hb dX12_becomes_20 (by decide) ?_
      refine lv_icmp_ne (tgt := 30) hx hb dX12_becomes_21 (by decide) (fun c3 => ?_) (fun c3 => ?_)
      · replace hf := gIfn c3 hf
        refine lv_iload_n hx hb dX12_becomes_30 rfl (lv_at hl 1 rfl) ?_
        refine lv_iconst (v := (2 : Int32)) hx hb dX12_becomes_31 (by decide) ?_
        refine lv_icmp_ne (tgt := 41) hx hb dX12_becomes_32 (by decide) (fun c4 => ?_) (fun c4 => ?_)
        · replace hf := gIfn c4 hf
          refine lv_iload_n hx hb dX12_becomes_41 rfl (lv_at hl 1 rfl) ?_
          refine lv_iconst (v := (3 : Int32)) hx hb dX12_becomes_42 (by decide) ?_
          refine lv_icmp_ne (tgt := 52) hx hb dX12_becomes_43 (by decide) (fun c5 => ?_) (fun c5 => ?_)
          · replace hf := gIfn c5 hf
            refine lv_iload_n hx hb dX12_becomes_52 rfl (lv_at hl 2 rfl) ?_
            obtain ⟨k6, hf⟩ := gChk hf
            obtain rfl := gO1 hf
            exact g_newZ X hlt hR hS hl.1 k6 ⟨Nat.le_of_ble_eq_true rfl, Nat.le_of_ble_eq_true rfl⟩ ⟨Nat.le_of_ble_eq_true rfl, Nat.le_of_ble_eq_true rfl⟩ dX12_becomes_53 (fun q n1 ce H hR hS h1 h2 h3 => gx_out X ht (fun q0 h0 => nomatch h0) hR hS h1 h2 h3 ⟨Nat.le_of_ble_eq_true rfl, Nat.le_of_ble_eq_true rfl⟩)
          · replace hf := gIfp c5 hf
            refine lv_iload_n hx hb dX12_becomes_46 rfl (lv_at hl 2 rfl) ?_
            obtain ⟨k7, hf⟩ := gChk hf
            obtain rfl := gO1 hf
            exact g_newZ X hlt hR hS hl.1 k7 ⟨Nat.le_of_ble_eq_true rfl, Nat.le_of_ble_eq_true rfl⟩ ⟨Nat.le_of_ble_eq_true rfl, Nat.le_of_ble_eq_true rfl⟩ dX12_becomes_47 (fun q n1 ce H hR hS h1 h2 h3 => gx_out X ht (fun q0 h0 => nomatch h0) hR hS h1 h2 h3 ⟨Nat.le_of_ble_eq_true rfl, Nat.le_of_ble_eq_true rfl⟩)
        · replace hf := gIfp c4 hf
          refine lv_iload_n hx hb dX12_becomes_35 rfl (lv_at hl 2 rfl) ?_
          obtain ⟨k8, hf⟩ := gChk hf
          obtain rfl := gO1 hf
          exact g_newZ X hlt hR hS hl.1 k8 ⟨Nat.le_of_ble_eq_true rfl, Nat.le_of_ble_eq_true rfl⟩ ⟨Nat.le_of_ble_eq_true rfl, Nat.le_of_ble_eq_true rfl⟩ dX12_becomes_36 (fun q n1 ce H hR hS h1 h2 h3 => gx_out X ht (fun q0 h0 => nomatch h0) hR hS h1 h2 h3 ⟨Nat.le_of_ble_eq_true rfl, Nat.le_of_ble_eq_true rfl⟩)
      · replace hf := gIfp c3 hf
        refine lv_iload_n hx hb dX12_becomes_24 rfl (lv_at hl 2 rfl) ?_
        obtain ⟨k9, hf⟩ := gChk hf
        obtain rfl := gO1 hf
        exact g_newZ X hlt hR hS hl.1 k9 ⟨Nat.le_of_ble_eq_true rfl, Nat.le_of_ble_eq_true rfl⟩ ⟨Nat.le_of_ble_eq_true rfl, Nat.le_of_ble_eq_true rfl⟩ dX12_becomes_25 (fun q n1 ce H hR hS h1 h2 h3 => gx_out X ht (fun q0 h0 => nomatch h0) hR hS h1 h2 h3 ⟨Nat.le_of_ble_eq_true rfl, Nat.le_of_ble_eq_true rfl⟩)
    · replace hf := gIfp c2 hf
      refine lv_iload_n hx hb dX12_becomes_13 rfl (lv_at hl 2 rfl) ?_
      obtain ⟨k10, hf⟩ := gChk hf
      obtain rfl := gO1 hf
      exact g_newZ X hlt hR hS hl.1 k10 ⟨Nat.le_of_ble_eq_true rfl, Nat.le_of_ble_eq_true rfl⟩ ⟨Nat.le_of_ble_eq_true rfl, Nat.le_of_ble_eq_true rfl⟩ dX12_becomes_14 (fun q n1 ce H hR hS h1 h2 h3 => gx_out X ht (fun q0 h0 => nomatch h0) hR hS h1 h2 h3 ⟨Nat.le_of_ble_eq_true rfl, Nat.le_of_ble_eq_true rfl⟩)
  · replace hf := gIfn c1 hf
    refine lv_null hx hb dX12_becomes_5 ?_
    refine lv_goto (tgt := 55) hx hb dX12_becomes_6 (by decide) ?_
    obtain ⟨h11, eh11, hf⟩ := gBind hf
    refine g_put X hR hS gk_X12 0 (by decide) q787 rfl rfl eh11 rfl rfl rfl dX12_becomes_55 (fun H locs hR hS => ?_)
    cases hf
def sp_X12_puts_T (G : gG) (F : Nat) (h : gH) (n : Nat) (a0 : Nat) (p1 : Int32) (p2 : Int64) : Option gH :=
 if gIs 10 h a0 = true then
 (sp_X12_sort G F h a0).bind fun u2 =>
 if u2 = (0 : Int32) then
 (gGq 10 h a0 0).bind fun q4 =>
 (gCast 2 h q4).bind fun a5 =>
 if gOut 2 h a5 p1 = true then
 some h else none else
 if u2 = (1 : Int32) then
 (gGq 10 h a0 0).bind fun q8 =>
 (gCast 4 h q8).bind fun a9 =>
 if gOut 4 h a9 p1 = true then
 some h else none else
 if u2 = (2 : Int32) then
 (gGq 10 h a0 0).bind fun q12 =>
 (gCast 0 h q12).bind fun a13 =>
 if gOut 0 h a13 p1 = true then
 some h else none else
 if u2 = (3 : Int32) then
 (gGq 10 h a0 0).bind fun q16 =>
 (gCast 1 h q16).bind fun a17 =>
 if gOutL h a17 p1 = true then
 some h else none else
 (gGq 10 h a0 0).bind fun q19 =>
 (gCast 3 h q19).bind fun a20 =>
 if (lg_cmp p2 (0 : Int64)) = 0 then
 if gOut 3 h a20 p1 = true then
 some h else none else
 if gOut 3 h a20 p1 = true then
 some h else none else none
set_option maxHeartbeats 8000000 in
theorem m_X12_puts_T (l : Launch) (hlt : l.stackTraces = false) (G : gG) (F : Nat) (h : gH) (n : Nat) (a0 : Nat) (p1 : Int32) (p2 : Int64) {h' : gH} (hf : sp_X12_puts_T G F h n a0 p1 p2 = some h') : gMetT l G yX12_puts cX12_puts 4 none 8 10260 3 810 [.ref a0, .int p1, .long p2] h n cl_aio none h' := by
  refine gEnterT (by decide) [(0, .ref a0), (1, .int p1), (2, .long p2)] rfl (Nat.le_of_ble_eq_true rfl) ?_
  intro p e s m below meth c H ls X hin hR hS hl ht
  have hx := X.1.1
  have hb := X.1.2.1
  unfold sp_X12_puts_T at hf
  generalize ([] : List Loc) = locs at hS ⊢
  refine lv_aload_n hx hb dX12_puts_0 rfl (lv_at hl 0 rfl) ?_
  obtain ⟨k1, hf⟩ := gChk hf
  obtain ⟨u2, eu2, hf⟩ := gBind hf
  refine g_callVi X hR hS [] (m_X12_sort l G F h n a0 eu2) yk_X12_sort q1616 k1 rfl hl.1 ⟨Nat.le_of_ble_eq_true rfl, Nat.le_of_ble_eq_true rfl⟩ ⟨Nat.le_of_ble_eq_true rfl, Nat.le_of_ble_eq_true rfl⟩ rfl (Nat.le_of_ble_eq_true rfl) dX12_puts_1 (fun H locs hR hS => ?_)
  by_cases c3 : u2 = (0 : Int32)
  · replace hf := gIfp c3 hf
    refine lv_tableIn (off := 32) (tgt := 36) hx hb dX12_puts_4 (by rw [c3]; decide) (by rw [c3]; decide) (by rw [c3]; rfl) (by decide) ?_
    refine lv_aload_n hx hb dX12_puts_36 rfl (lv_at hl 0 rfl) ?_
    obtain ⟨q4, eq4, hf⟩ := gBind hf
    refine g_getq X hR gk_X12 0 (by decide) q787 rfl eq4 dX12_puts_37 ?_
    obtain ⟨a5, ea5, hf⟩ := gBind hf
    refine g_castq X hR 2 (by decide) q1608 ea5 dX12_puts_40 ?_
    refine lv_iload_n hx hb dX12_puts_43 rfl (lv_at hl 1 rfl) ?_
    refine lv_lload_n hx hb dX12_puts_44 rfl (lv_at hl 2 rfl) ?_
    refine lv_l2i (v := p2.toInt32) hx hb dX12_puts_45 rfl ?_
    refine lv_i2b (v := p2.toInt32.toInt8.toInt32) hx hb dX12_puts_46 rfl ?_
    obtain ⟨k6, hf⟩ := gChk hf
    obtain rfl := gO1 hf
    exact g_bastZ X hlt hR hS hl.1 k6 ⟨Nat.le_of_ble_eq_true rfl, Nat.le_of_ble_eq_true rfl⟩ ⟨Nat.le_of_ble_eq_true rfl, Nat.le_of_ble_eq_true rfl⟩ dX12_puts_47 (fun q n1 ce H hR hS h1 h2 h3 => gx_out X ht (fun q0 h0 => nomatch h0) hR hS h1 h2 h3 ⟨Nat.le_of_ble_eq_true rfl, Nat.le_of_ble_eq_true rfl⟩)
  replace hf := gIfn c3 hf
  by_cases c7 : u2 = (1 : Int32)
  · replace hf := gIfp c7 hf
    refine lv_tableIn (off := 47) (tgt := 51) hx hb dX12_puts_4 (by rw [c7]; decide) (by rw [c7]; decide) (by rw [c7]; rfl) (by decide) ?_
    refine lv_aload_n hx hb dX12_puts_51 rfl (lv_at hl 0 rfl) ?_
    obtain ⟨q8, eq8, hf⟩ := gBind hf
    refine g_getq X hR gk_X12 0 (by decide) q787 rfl eq8 dX12_puts_52 ?_
    obtain ⟨a9, ea9, hf⟩ := gBind hf
    refine g_castq X hR 4 (by decide) q1609 ea9 dX12_puts_55 ?_
    refine lv_iload_n hx hb dX12_puts_58 rfl (lv_at hl 1 rfl) ?_
    refine lv_lload_n hx hb dX12_puts_59 rfl (lv_at hl 2 rfl) ?_
    refine lv_l2i (v := p2.toInt32) hx hb dX12_puts_60 rfl ?_
    refine lv_i2s (v := p2.toInt32.toInt16.toInt32) hx hb dX12_puts_61 rfl ?_
    obtain ⟨k10, hf⟩ := gChk hf
    obtain rfl := gO1 hf
    exact g_sastZ X hlt hR hS hl.1 k10 ⟨Nat.le_of_ble_eq_true rfl, Nat.le_of_ble_eq_true rfl⟩ ⟨Nat.le_of_ble_eq_true rfl, Nat.le_of_ble_eq_true rfl⟩ dX12_puts_62 (fun q n1 ce H hR hS h1 h2 h3 => gx_out X ht (fun q0 h0 => nomatch h0) hR hS h1 h2 h3 ⟨Nat.le_of_ble_eq_true rfl, Nat.le_of_ble_eq_true rfl⟩)
  replace hf := gIfn c7 hf
  by_cases c11 : u2 = (2 : Int32)
  · replace hf := gIfp c11 hf
    refine lv_tableIn (off := 62) (tgt := 66) hx hb dX12_puts_4 (by rw [c11]; decide) (by rw [c11]; decide) (by rw [c11]; rfl) (by decide) ?_
    refine lv_aload_n hx hb dX12_puts_66 rfl (lv_at hl 0 rfl) ?_
    obtain ⟨q12, eq12, hf⟩ := gBind hf
    refine g_getq X hR gk_X12 0 (by decide) q787 rfl eq12 dX12_puts_67 ?_
    obtain ⟨a13, ea13, hf⟩ := gBind hf
    refine g_castq X hR 0 (by decide) q1610 ea13 dX12_puts_70 ?_
    refine lv_iload_n hx hb dX12_puts_73 rfl (lv_at hl 1 rfl) ?_
    refine lv_lload_n hx hb dX12_puts_74 rfl (lv_at hl 2 rfl) ?_
    refine lv_l2i (v := p2.toInt32) hx hb dX12_puts_75 rfl ?_
    obtain ⟨k14, hf⟩ := gChk hf
    obtain rfl := gO1 hf
    exact g_iastZ X hlt hR hS hl.1 k14 ⟨Nat.le_of_ble_eq_true rfl, Nat.le_of_ble_eq_true rfl⟩ ⟨Nat.le_of_ble_eq_true rfl, Nat.le_of_ble_eq_true rfl⟩ dX12_puts_76 (fun q n1 ce H hR hS h1 h2 h3 => gx_out X ht (fun q0 h0 => nomatch h0) hR hS h1 h2 h3 ⟨Nat.le_of_ble_eq_true rfl, Nat.le_of_ble_eq_true rfl⟩)
  replace hf := gIfn c11 hf
  by_cases c15 : u2 = (3 : Int32)
  · replace hf := gIfp c15 hf
    refine lv_tableIn (off := 76) (tgt := 80) hx hb dX12_puts_4 (by rw [c15]; decide) (by rw [c15]; decide) (by rw [c15]; rfl) (by decide) ?_
    refine lv_aload_n hx hb dX12_puts_80 rfl (lv_at hl 0 rfl) ?_
    obtain ⟨q16, eq16, hf⟩ := gBind hf
    refine g_getq X hR gk_X12 0 (by decide) q787 rfl eq16 dX12_puts_81 ?_
    obtain ⟨a17, ea17, hf⟩ := gBind hf
    refine g_castq X hR 1 (by decide) q1611 ea17 dX12_puts_84 ?_
    refine lv_iload_n hx hb dX12_puts_87 rfl (lv_at hl 1 rfl) ?_
    refine lv_lload_n hx hb dX12_puts_88 rfl (lv_at hl 2 rfl) ?_
    obtain ⟨k18, hf⟩ := gChk hf
    obtain rfl := gO1 hf
    exact g_lastZ X hlt hR hS hl.1 k18 ⟨Nat.le_of_ble_eq_true rfl, Nat.le_of_ble_eq_true rfl⟩ ⟨Nat.le_of_ble_eq_true rfl, Nat.le_of_ble_eq_true rfl⟩ dX12_puts_89 (fun q n1 ce H hR hS h1 h2 h3 => gx_out X ht (fun q0 h0 => nomatch h0) hR hS h1 h2 h3 ⟨Nat.le_of_ble_eq_true rfl, Nat.le_of_ble_eq_true rfl⟩)
  replace hf := gIfn c15 hf
  refine lv_tableOut (tgt := 93) hx hb dX12_puts_4 (by have tc3 := lv_neT (k := (0 : Int32)) (a := 0) c3 (by decide); have tc7 := lv_neT (k := (1 : Int32)) (a := 1) c7 (by decide); have tc11 := lv_neT (k := (2 : Int32)) (a := 2) c11 (by decide); have tc15 := lv_neT (k := (3 : Int32)) (a := 3) c15 (by decide); omega) (by decide) ?_
  refine lv_aload_n hx hb dX12_puts_93 rfl (lv_at hl 0 rfl) ?_
  obtain ⟨q19, eq19, hf⟩ := gBind hf
  refine g_getq X hR gk_X12 0 (by decide) q787 rfl eq19 dX12_puts_94 ?_
  obtain ⟨a20, ea20, hf⟩ := gBind hf
  refine g_castq X hR 3 (by decide) q1617 ea20 dX12_puts_97 ?_
  refine lv_iload_n hx hb dX12_puts_100 rfl (lv_at hl 1 rfl) ?_
  refine lv_lload_n hx hb dX12_puts_101 rfl (lv_at hl 2 rfl) ?_
  refine lv_lconst (v := (0 : Int64)) hx hb dX12_puts_102 (by decide) ?_
  refine W.lcmp hx hb dX12_puts_103 ?_
  refine lv_if_eq (tgt := 111) hx hb dX12_puts_104 (by decide) (fun c21 => ?_) (fun c21 => ?_)
  · replace hf := gIfp c21 hf
    refine lv_iconst (v := (0 : Int32)) hx hb dX12_puts_111 (by decide) ?_
    obtain ⟨k22, hf⟩ := gChk hf
    obtain rfl := gO1 hf
    exact g_zastZ X hlt hR hS hl.1 k22 ⟨Nat.le_of_ble_eq_true rfl, Nat.le_of_ble_eq_true rfl⟩ ⟨Nat.le_of_ble_eq_true rfl, Nat.le_of_ble_eq_true rfl⟩ dX12_puts_112 (fun q n1 ce H hR hS h1 h2 h3 => gx_out X ht (fun q0 h0 => nomatch h0) hR hS h1 h2 h3 ⟨Nat.le_of_ble_eq_true rfl, Nat.le_of_ble_eq_true rfl⟩)
  · replace hf := gIfn c21 hf
    refine lv_iconst (v := (1 : Int32)) hx hb dX12_puts_107 (by decide) ?_
    refine lv_goto (tgt := 112) hx hb dX12_puts_108 (by decide) ?_
    obtain ⟨k23, hf⟩ := gChk hf
    obtain rfl := gO1 hf
    exact g_zastZ X hlt hR hS hl.1 k23 ⟨Nat.le_of_ble_eq_true rfl, Nat.le_of_ble_eq_true rfl⟩ ⟨Nat.le_of_ble_eq_true rfl, Nat.le_of_ble_eq_true rfl⟩ dX12_puts_112 (fun q n1 ce H hR hS h1 h2 h3 => gx_out X ht (fun q0 h0 => nomatch h0) hR hS h1 h2 h3 ⟨Nat.le_of_ble_eq_true rfl, Nat.le_of_ble_eq_true rfl⟩)
def sp_X0_tape (G : gG) (F : Nat) (h : gH) (n : Nat) (a0 : Nat) (p1 : Int32) (p2 : Int32) (p3 : Int32) : Option (Int32 × gH) :=
 (sp_X0_isTape G F h p1).bind fun u1 =>
 if u1 = 0 then
 some ((-1 : Int32), h) else
 (sp_X0_in G F h p2.toInt64 (-1 : Int64) (4 : Int64)).bind fun u3 =>
 if u3 = 0 then
 some ((-2 : Int32), h) else
 if p2 < 0 then
 (gGr 0 h a0 9).bind fun x6 =>
 (gAr 10 h x6 p1).bind fun a7 =>
 if gIs 10 h a7 = true then
 gOr (sp_X12_becomes G F h n a7 p2 p3) (fun u9 =>
 some ((1 : Int32), u9.1)) ((sp_X12_becomes_T G F h n a7 p2 p3).bind fun t10 =>
 some ((-14 : Int32), t10)) else none else
 if p3 ≤ (60 : Int32) then
 (gGr 0 h a0 9).bind fun x12 =>
 (gAr 10 h x12 p1).bind fun a13 =>
 if gIs 10 h a13 = true then
 gOr (sp_X12_becomes G F h n a13 p2 p3) (fun u15 =>
 some ((1 : Int32), u15.1)) ((sp_X12_becomes_T G F h n a13 p2 p3).bind fun t16 =>
 some ((-14 : Int32), t16)) else none else
 some ((-2 : Int32), h)
abbrev hh_X0_tape : List (Nat × Nat × Nat × Nat) := [(36, 47, 50, 494)]
theorem kw_X0_tape : Cond.codeWith yX0_tape cX0_tape 5 (some .int) hh_X0_tape ∈ lw_all := q1625
set_option maxHeartbeats 8000000 in
theorem m_X0_tape (l : Launch) (hlt : l.stackTraces = false) (G : gG) (F : Nat) (h : gH) (n : Nat) (a0 : Nat) (p1 : Int32) (p2 : Int32) (p3 : Int32) {r : Int32} {h' : gH} (hf : sp_X0_tape G F h n a0 p1 p2 p3 = some (r, h')) : gMetW l G yX0_tape cX0_tape 5 (some .int) hh_X0_tape 9 10282 3 810 [.ref a0, .int p1, .int p2, .int p3] h n (some (.int r)) h' := by
  refine gEnterW (by decide) [(0, .ref a0), (1, .int p1), (2, .int p2), (3, .int p3)] rfl (Nat.le_of_ble_eq_true rfl) ?_
  intro p e s m below meth c H ls X hin hR hS hl ht
  have hx := X.1.1
  have hb := X.1.2.1
  unfold sp_X0_tape at hf
  generalize ([] : List Loc) = locs at hS ⊢
  refine lv_iload_n hx hb dX0_tape_0 rfl (lv_at hl 1 rfl) ?_
  obtain ⟨u1, eu1, hf⟩ := gBind hf
  refine g_callSi X hR hS [.int p1] (m_X0_isTape l G F h n p1 eu1) yk_X0_isTape q1601 rfl hl.1 ⟨Nat.le_of_ble_eq_true rfl, Nat.le_of_ble_eq_true rfl⟩ ⟨Nat.le_of_ble_eq_true rfl, Nat.le_of_ble_eq_true rfl⟩ rfl (Nat.le_of_ble_eq_true rfl) dX0_tape_1 (fun H locs hR hS => ?_)
  refine lv_if_ne (tgt := 9) hx hb dX0_tape_4 (by decide) (fun c2 => ?_) (fun c2 => ?_)
  · replace hf := gIfn c2 hf
    refine lv_iload_n hx hb dX0_tape_9 rfl (lv_at hl 2 rfl) ?_
    refine lv_i2l (v := p2.toInt64) hx hb dX0_tape_10 rfl ?_
    refine lv_ldc2 (v := (-1 : Int64)) hx hb X.1.2.2.2.1 (X.1.2.2.2.2 _ q1627) dX0_tape_11 ?_
    refine lv_ldc2 (v := (4 : Int64)) hx hb X.1.2.2.2.1 (X.1.2.2.2.2 _ q1340) dX0_tape_14 ?_
    obtain ⟨u3, eu3, hf⟩ := gBind hf
    refine g_callSi X hR hS [.long p2.toInt64, .long (-1 : Int64), .long (4 : Int64)] (m_X0_in l G F h n p2.toInt64 (-1 : Int64) (4 : Int64) eu3) yk_X0_in q830 rfl hl.1 ⟨Nat.le_of_ble_eq_true rfl, Nat.le_of_ble_eq_true rfl⟩ ⟨Nat.le_of_ble_eq_true rfl, Nat.le_of_ble_eq_true rfl⟩ rfl (Nat.le_of_ble_eq_true rfl) dX0_tape_17 (fun H locs hR hS => ?_)
    refine lv_if_eq (tgt := 33) hx hb dX0_tape_20 (by decide) (fun c4 => ?_) (fun c4 => ?_)
    · replace hf := gIfp c4 hf
      refine lv_bipush (v := (-2 : Int32)) hx hb dX0_tape_33 (by decide) ?_
      obtain ⟨rfl, rfl⟩ := gO2 hf
      exact g_iretW X hR hS _ rfl ⟨Nat.le_of_ble_eq_true rfl, Nat.le_of_ble_eq_true rfl⟩ dX0_tape_35
    · replace hf := gIfn c4 hf
      refine lv_iload_n hx hb dX0_tape_23 rfl (lv_at hl 2 rfl) ?_
      refine lv_if_lt (tgt := 36) hx hb dX0_tape_24 (by decide) (fun c5 => ?_) (fun c5 => ?_)
      · replace hf := gIfp c5 hf
        refine lv_aload_n hx hb dX0_tape_36 rfl (lv_at hl 0 rfl) ?_
        obtain ⟨x6, ex6, hf⟩ := gBind hf
        refine g_getr X hR gk_X0 9 (by decide) q803 rfl ex6 dX0_tape_37 ?_
        refine lv_iload_n hx hb dX0_tape_40 rfl (lv_at hl 1 rfl) ?_
        obtain ⟨a7, ea7, hf⟩ := gBind hf
        refine g_aald X hR 10 (by decide) rfl ea7 dX0_tape_41 ?_
        refine lv_iload_n hx hb dX0_tape_42 rfl (lv_at hl 2 rfl) ?_
        refine lv_iload_n hx hb dX0_tape_43 rfl (lv_at hl 3 rfl) ?_
        obtain ⟨k8, hf⟩ := gChk hf
        rcases gOr_spec hf with ⟨u9, eu9, hf⟩ | hf
        · refine g_callVv X hR hS [.int p2, .int p3] (m_X12_becomes l G F h n a7 p2 p3 eu9) yk_X12_becomes q1628 k8 rfl hl.1 ⟨Nat.le_of_ble_eq_true rfl, Nat.le_of_ble_eq_true rfl⟩ ⟨Nat.le_of_ble_eq_true rfl, Nat.le_of_ble_eq_true rfl⟩ rfl (Nat.le_of_ble_eq_true rfl) dX0_tape_44 (fun H locs hR hS => ?_)
          refine lv_goto (tgt := 55) hx hb dX0_tape_47 (by decide) ?_
          refine lv_iconst (v := (1 : Int32)) hx hb dX0_tape_55 (by decide) ?_
          obtain ⟨rfl, rfl⟩ := gO2 hf
          exact g_iretW X hR hS _ rfl ⟨Nat.le_of_ble_eq_true rfl, Nat.le_of_ble_eq_true rfl⟩ dX0_tape_56
        · obtain ⟨t10, et10, hf⟩ := gBind hf
          refine g_callT X hR hS [.int p2, .int p3] (m_X12_becomes_T l hlt G F h n a7 p2 p3 et10) yk_X12_becomes q1628 k8 rfl hl.1 ⟨Nat.le_of_ble_eq_true rfl, Nat.le_of_ble_eq_true rfl⟩ ⟨Nat.le_of_ble_eq_true rfl, Nat.le_of_ble_eq_true rfl⟩ rfl (Nat.le_of_ble_eq_true rfl) dX0_tape_44 (fun q n1 ce H locs hq hR hS h1 h2 h3 => gx_catch X ht [] ⟨36, 47, 50, 494⟩ [] rfl (fun z hz => Or.inl (gCovN 44 [] rfl z hz)) rfl (by decide) q1626 q172 h1 h2 h3 ?_)
          refine lv_astore (lv' := [(4, .ref q), (0, .ref a0), (1, .int p1), (2, .int p2), (3, .int p3)]) hx hb dX0_tape_50 hl (by decide) rfl (fun ls hl => ?_)
          refine lv_bipush (v := (-14 : Int32)) hx hb dX0_tape_52 (by decide) ?_
          obtain ⟨rfl, rfl⟩ := gO2 hf
          exact g_iretW X hR hS _ rfl ⟨Nat.le_of_ble_eq_true rfl, Nat.le_of_ble_eq_true rfl⟩ dX0_tape_54
      · replace hf := gIfn c5 hf
        refine lv_iload_n hx hb dX0_tape_27 rfl (lv_at hl 3 rfl) ?_
        refine lv_bipush (v := (60 : Int32)) hx hb dX0_tape_28 (by decide) ?_
        refine lv_icmp_le (tgt := 36) hx hb dX0_tape_30 (by decide) (fun c11 => ?_) (fun c11 => ?_)
        · replace hf := gIfp c11 hf
          refine lv_aload_n hx hb dX0_tape_36 rfl (lv_at hl 0 rfl) ?_
          obtain ⟨x12, ex12, hf⟩ := gBind hf
          refine g_getr X hR gk_X0 9 (by decide) q803 rfl ex12 dX0_tape_37 ?_
          refine lv_iload_n hx hb dX0_tape_40 rfl (lv_at hl 1 rfl) ?_
          obtain ⟨a13, ea13, hf⟩ := gBind hf
          refine g_aald X hR 10 (by decide) rfl ea13 dX0_tape_41 ?_
          refine lv_iload_n hx hb dX0_tape_42 rfl (lv_at hl 2 rfl) ?_
          refine lv_iload_n hx hb dX0_tape_43 rfl (lv_at hl 3 rfl) ?_
          obtain ⟨k14, hf⟩ := gChk hf
          rcases gOr_spec hf with ⟨u15, eu15, hf⟩ | hf
          · refine g_callVv X hR hS [.int p2, .int p3] (m_X12_becomes l G F h n a13 p2 p3 eu15) yk_X12_becomes q1628 k14 rfl hl.1 ⟨Nat.le_of_ble_eq_true rfl, Nat.le_of_ble_eq_true rfl⟩ ⟨Nat.le_of_ble_eq_true rfl, Nat.le_of_ble_eq_true rfl⟩ rfl (Nat.le_of_ble_eq_true rfl) dX0_tape_44 (fun H locs hR hS => ?_)
            refine lv_goto (tgt := 55) hx hb dX0_tape_47 (by decide) ?_
            refine lv_iconst (v := (1 : Int32)) hx hb dX0_tape_55 (by decide) ?_
            obtain ⟨rfl, rfl⟩ := gO2 hf
            exact g_iretW X hR hS _ rfl ⟨Nat.le_of_ble_eq_true rfl, Nat.le_of_ble_eq_true rfl⟩ dX0_tape_56
          · obtain ⟨t16, et16, hf⟩ := gBind hf
            refine g_callT X hR hS [.int p2, .int p3] (m_X12_becomes_T l hlt G F h n a13 p2 p3 et16) yk_X12_becomes q1628 k14 rfl hl.1 ⟨Nat.le_of_ble_eq_true rfl, Nat.le_of_ble_eq_true rfl⟩ ⟨Nat.le_of_ble_eq_true rfl, Nat.le_of_ble_eq_true rfl⟩ rfl (Nat.le_of_ble_eq_true rfl) dX0_tape_44 (fun q n1 ce H locs hq hR hS h1 h2 h3 => gx_catch X ht [] ⟨36, 47, 50, 494⟩ [] rfl (fun z hz => Or.inl (gCovN 44 [] rfl z hz)) rfl (by decide) q1626 q172 h1 h2 h3 ?_)
            refine lv_astore (lv' := [(4, .ref q), (0, .ref a0), (1, .int p1), (2, .int p2), (3, .int p3)]) hx hb dX0_tape_50 hl (by decide) rfl (fun ls hl => ?_)
            refine lv_bipush (v := (-14 : Int32)) hx hb dX0_tape_52 (by decide) ?_
            obtain ⟨rfl, rfl⟩ := gO2 hf
            exact g_iretW X hR hS _ rfl ⟨Nat.le_of_ble_eq_true rfl, Nat.le_of_ble_eq_true rfl⟩ dX0_tape_54
        · replace hf := gIfn c11 hf
          refine lv_bipush (v := (-2 : Int32)) hx hb dX0_tape_33 (by decide) ?_
          obtain ⟨rfl, rfl⟩ := gO2 hf
          exact g_iretW X hR hS _ rfl ⟨Nat.le_of_ble_eq_true rfl, Nat.le_of_ble_eq_true rfl⟩ dX0_tape_35
  · replace hf := gIfp c2 hf
    refine lv_iconst (v := (-1 : Int32)) hx hb dX0_tape_7 (by decide) ?_
    obtain ⟨rfl, rfl⟩ := gO2 hf
    exact g_iretW X hR hS _ rfl ⟨Nat.le_of_ble_eq_true rfl, Nat.le_of_ble_eq_true rfl⟩ dX0_tape_8
def sp_X0_item (G : gG) (F : Nat) (h : gH) (n : Nat) (a0 : Nat) (p1 : Int32) (p2 : Int32) (p3 : Int64) : Option (Int32 × gH) :=
 (sp_X0_isTape G F h p1).bind fun u1 =>
 if u1 = 0 then
 some ((-1 : Int32), h) else
 (gGr 0 h a0 9).bind fun x3 =>
 (gAr 10 h x3 p1).bind fun a4 =>
 (gGq 10 h a4 0).bind fun q5 =>
 if q5 = none then
 some ((-11 : Int32), h) else
 (gGr 0 h a0 9).bind fun x7 =>
 (gAr 10 h x7 p1).bind fun a8 =>
 if gIs 10 h a8 = true then
 gOr (sp_X12_puts G F h a8 p2 p3) (fun u10 =>
 some ((1 : Int32), u10)) ((sp_X12_puts_T G F h n a8 p2 p3).bind fun t11 =>
 some ((-13 : Int32), t11)) else none
abbrev hh_X0_item : List (Nat × Nat × Nat × Nat) := [(24, 35, 38, 504)]
theorem kw_X0_item : Cond.codeWith yX0_item cX0_item 6 (some .int) hh_X0_item ∈ lw_all := q1636
set_option maxHeartbeats 8000000 in
theorem m_X0_item (l : Launch) (hlt : l.stackTraces = false) (G : gG) (F : Nat) (h : gH) (n : Nat) (a0 : Nat) (p1 : Int32) (p2 : Int32) (p3 : Int64) {r : Int32} {h' : gH} (hf : sp_X0_item G F h n a0 p1 p2 p3 = some (r, h')) : gMetW l G yX0_item cX0_item 6 (some .int) hh_X0_item 9 10283 3 810 [.ref a0, .int p1, .int p2, .long p3] h n (some (.int r)) h' := by
  refine gEnterW (by decide) [(0, .ref a0), (1, .int p1), (2, .int p2), (3, .long p3)] rfl (Nat.le_of_ble_eq_true rfl) ?_
  intro p e s m below meth c H ls X hin hR hS hl ht
  have hx := X.1.1
  have hb := X.1.2.1
  unfold sp_X0_item at hf
  generalize ([] : List Loc) = locs at hS ⊢
  refine lv_iload_n hx hb dX0_item_0 rfl (lv_at hl 1 rfl) ?_
  obtain ⟨u1, eu1, hf⟩ := gBind hf
  refine g_callSi X hR hS [.int p1] (m_X0_isTape l G F h n p1 eu1) yk_X0_isTape q1601 rfl hl.1 ⟨Nat.le_of_ble_eq_true rfl, Nat.le_of_ble_eq_true rfl⟩ ⟨Nat.le_of_ble_eq_true rfl, Nat.le_of_ble_eq_true rfl⟩ rfl (Nat.le_of_ble_eq_true rfl) dX0_item_1 (fun H locs hR hS => ?_)
  refine lv_if_ne (tgt := 9) hx hb dX0_item_4 (by decide) (fun c2 => ?_) (fun c2 => ?_)
  · replace hf := gIfn c2 hf
    refine lv_aload_n hx hb dX0_item_9 rfl (lv_at hl 0 rfl) ?_
    obtain ⟨x3, ex3, hf⟩ := gBind hf
    refine g_getr X hR gk_X0 9 (by decide) q803 rfl ex3 dX0_item_10 ?_
    refine lv_iload_n hx hb dX0_item_13 rfl (lv_at hl 1 rfl) ?_
    obtain ⟨a4, ea4, hf⟩ := gBind hf
    refine g_aald X hR 10 (by decide) rfl ea4 dX0_item_14 ?_
    obtain ⟨q5, eq5, hf⟩ := gBind hf
    refine g_getqN X hR gk_X12 0 (by decide) q788 rfl eq5 dX0_item_15 ?_
    refine g_ifnonnull X (tgt := 24) dX0_item_18 (by decide) (fun c6 => ?_) (fun c6 => ?_)
    · replace hf := gIfn c6 hf
      refine lv_aload_n hx hb dX0_item_24 rfl (lv_at hl 0 rfl) ?_
      obtain ⟨x7, ex7, hf⟩ := gBind hf
      refine g_getr X hR gk_X0 9 (by decide) q803 rfl ex7 dX0_item_25 ?_
      refine lv_iload_n hx hb dX0_item_28 rfl (lv_at hl 1 rfl) ?_
      obtain ⟨a8, ea8, hf⟩ := gBind hf
      refine g_aald X hR 10 (by decide) rfl ea8 dX0_item_29 ?_
      refine lv_iload_n hx hb dX0_item_30 rfl (lv_at hl 2 rfl) ?_
      refine lv_lload_n hx hb dX0_item_31 rfl (lv_at hl 3 rfl) ?_
      obtain ⟨k9, hf⟩ := gChk hf
      rcases gOr_spec hf with ⟨u10, eu10, hf⟩ | hf
      · refine g_callVv X hR hS [.int p2, .long p3] (m_X12_puts l G F h n a8 p2 p3 eu10) yk_X12_puts q1653 k9 rfl hl.1 ⟨Nat.le_of_ble_eq_true rfl, Nat.le_of_ble_eq_true rfl⟩ ⟨Nat.le_of_ble_eq_true rfl, Nat.le_of_ble_eq_true rfl⟩ rfl (Nat.le_of_ble_eq_true rfl) dX0_item_32 (fun H locs hR hS => ?_)
        refine lv_goto (tgt := 43) hx hb dX0_item_35 (by decide) ?_
        refine lv_iconst (v := (1 : Int32)) hx hb dX0_item_43 (by decide) ?_
        obtain ⟨rfl, rfl⟩ := gO2 hf
        exact g_iretW X hR hS _ rfl ⟨Nat.le_of_ble_eq_true rfl, Nat.le_of_ble_eq_true rfl⟩ dX0_item_44
      · obtain ⟨t11, et11, hf⟩ := gBind hf
        refine g_callT X hR hS [.int p2, .long p3] (m_X12_puts_T l hlt G F h n a8 p2 p3 et11) yk_X12_puts q1653 k9 rfl hl.1 ⟨Nat.le_of_ble_eq_true rfl, Nat.le_of_ble_eq_true rfl⟩ ⟨Nat.le_of_ble_eq_true rfl, Nat.le_of_ble_eq_true rfl⟩ rfl (Nat.le_of_ble_eq_true rfl) dX0_item_32 (fun q n1 ce H locs hq hR hS h1 h2 h3 => gx_catch X ht [] ⟨24, 35, 38, 504⟩ [] rfl (fun z hz => Or.inl (gCovN 32 [] rfl z hz)) rfl (by decide) q1637 q1649 h1 h2 h3 ?_)
        refine lv_astore (lv' := [(5, .ref q), (0, .ref a0), (1, .int p1), (2, .int p2), (3, .long p3)]) hx hb dX0_item_38 hl (by decide) rfl (fun ls hl => ?_)
        refine lv_bipush (v := (-13 : Int32)) hx hb dX0_item_40 (by decide) ?_
        obtain ⟨rfl, rfl⟩ := gO2 hf
        exact g_iretW X hR hS _ rfl ⟨Nat.le_of_ble_eq_true rfl, Nat.le_of_ble_eq_true rfl⟩ dX0_item_42
    · replace hf := gIfp c6 hf
      refine lv_bipush (v := (-11 : Int32)) hx hb dX0_item_21 (by decide) ?_
      obtain ⟨rfl, rfl⟩ := gO2 hf
      exact g_iretW X hR hS _ rfl ⟨Nat.le_of_ble_eq_true rfl, Nat.le_of_ble_eq_true rfl⟩ dX0_item_23
  · replace hf := gIfp c2 hf
    refine lv_iconst (v := (-1 : Int32)) hx hb dX0_item_7 (by decide) ?_
    obtain ⟨rfl, rfl⟩ := gO2 hf
    exact g_iretW X hR hS _ rfl ⟨Nat.le_of_ble_eq_true rfl, Nat.le_of_ble_eq_true rfl⟩ dX0_item_8
def sp_X0_taken (G : gG) (F : Nat) (h : gH) (n : Nat) (a0 : Nat) (p1 : Int32) (p2 : Int32) : Option (Int32 × gH) :=
 if gIs 0 h a0 = true then
 (sp_X0_isSignal G F h a0 p1).bind fun u2 =>
 if u2 = 0 then
 some ((-1 : Int32), h) else
 (sp_X0_in G F h p2.toInt64 (0 : Int64) (4 : Int64)).bind fun u4 =>
 if u4 = 0 then
 some ((-2 : Int32), h) else
 (gGr 0 h a0 6).bind fun x6 =>
 (gGr 0 h a0 0).bind fun x7 =>
 (gGr 1 h x7 22).bind fun x8 =>
 (gAr 5 h x8 p1).bind fun a9 =>
 (gGr 2 h a9 0).bind fun x10 =>
 (sp_ordinal G F h x10 ).bind fun u11 =>
 (gAr 9 h x6 u11).bind fun a12 =>
 if p2 = (0 : Int32) then
 (gAc h a12).bind fun k14 =>
 (sp_X7_kind G F h a12).bind fun u15 =>
 some (u15, h) else
 if p2 = (1 : Int32) then
 (gAc h a12).bind fun k17 =>
 if gCa 6 k17 = true then
 (sp_X7_kind G F h a12).bind fun u19 =>
 some (u19, h) else
 some ((-12 : Int32), h) else
 if p2 = (2 : Int32) then
 (gAc h a12).bind fun k21 =>
 if gCa 7 k21 = true then
 (sp_X7_kind G F h a12).bind fun u23 =>
 some (u23, h) else
 some ((-12 : Int32), h) else
 if p2 = (3 : Int32) then
 (gAc h a12).bind fun k25 =>
 if gCa 8 k25 = true then
 (sp_X7_kind G F h a12).bind fun u27 =>
 some (u27, h) else
 some ((-12 : Int32), h) else
 (gAc h a12).bind fun k28 =>
 if gCa 9 k28 = true then
 (sp_X7_kind G F h a12).bind fun u30 =>
 some (u30, h) else
 some ((-12 : Int32), h) else none
abbrev hh_X0_taken : List (Nat × Nat × Nat × Nat) := [(46, 80, 113, 341), (81, 88, 113, 341), (89, 96, 113, 341), (97, 104, 113, 341), (105, 112, 113, 341)]
theorem kw_X0_taken : Cond.codeWith yX0_taken cX0_taken 5 (some .int) hh_X0_taken ∈ lw_all := q1325
set_option maxHeartbeats 8000000 in
theorem m_X0_taken (l : Launch) (hlt : l.stackTraces = false) (G : gG) (F : Nat) (h : gH) (n : Nat) (a0 : Nat) (p1 : Int32) (p2 : Int32) {r : Int32} {h' : gH} (hf : sp_X0_taken G F h n a0 p1 p2 = some (r, h')) : gMetW l G yX0_taken cX0_taken 5 (some .int) hh_X0_taken 8 10260 3 810 [.ref a0, .int p1, .int p2] h n (some (.int r)) h' := by
  refine gEnterW (by decide) [(0, .ref a0), (1, .int p1), (2, .int p2)] rfl (Nat.le_of_ble_eq_true rfl) ?_
  intro p e s m below meth c H ls X hin hR hS hl ht
  have hx := X.1.1
  have hb := X.1.2.1
  unfold sp_X0_taken at hf
  generalize ([] : List Loc) = locs at hS ⊢
  refine lv_aload_n hx hb dX0_taken_0 rfl (lv_at hl 0 rfl) ?_
  refine lv_iload_n hx hb dX0_taken_1 rfl (lv_at hl 1 rfl) ?_
  obtain ⟨k1, hf⟩ := gChk hf
  obtain ⟨u2, eu2, hf⟩ := gBind hf
  refine g_callVi X hR hS [.int p1] (m_X0_isSignal l G F h n a0 p1 eu2) yk_X0_isSignal q931 k1 rfl hl.1 ⟨Nat.le_of_ble_eq_true rfl, Nat.le_of_ble_eq_true rfl⟩ ⟨Nat.le_of_ble_eq_true rfl, Nat.le_of_ble_eq_true rfl⟩ rfl (Nat.le_of_ble_eq_true rfl) dX0_taken_2 (fun H locs hR hS => ?_)
  refine lv_if_ne (tgt := 10) hx hb dX0_taken_5 (by decide) (fun c3 => ?_) (fun c3 => ?_)
  · replace hf := gIfn c3 hf
    refine lv_iload_n hx hb dX0_taken_10 rfl (lv_at hl 2 rfl) ?_
    refine lv_i2l (v := p2.toInt64) hx hb dX0_taken_11 rfl ?_
    refine lv_lconst (v := (0 : Int64)) hx hb dX0_taken_12 (by decide) ?_
    refine lv_ldc2 (v := (4 : Int64)) hx hb X.1.2.2.2.1 (X.1.2.2.2.2 _ q1340) dX0_taken_13 ?_
    obtain ⟨u4, eu4, hf⟩ := gBind hf
    refine g_callSi X hR hS [.long p2.toInt64, .long (0 : Int64), .long (4 : Int64)] (m_X0_in l G F h n p2.toInt64 (0 : Int64) (4 : Int64) eu4) yk_X0_in q830 rfl hl.1 ⟨Nat.le_of_ble_eq_true rfl, Nat.le_of_ble_eq_true rfl⟩ ⟨Nat.le_of_ble_eq_true rfl, Nat.le_of_ble_eq_true rfl⟩ rfl (Nat.le_of_ble_eq_true rfl) dX0_taken_16 (fun H locs hR hS => ?_)
    refine lv_if_ne (tgt := 25) hx hb dX0_taken_19 (by decide) (fun c5 => ?_) (fun c5 => ?_)
    · replace hf := gIfn c5 hf
      refine lv_aload_n hx hb dX0_taken_25 rfl (lv_at hl 0 rfl) ?_
      obtain ⟨x6, ex6, hf⟩ := gBind hf
      refine g_getr X hR gk_X0 6 (by decide) q800 rfl ex6 dX0_taken_26 ?_
      refine lv_aload_n hx hb dX0_taken_29 rfl (lv_at hl 0 rfl) ?_
      obtain ⟨x7, ex7, hf⟩ := gBind hf
      refine g_getr X hR gk_X0 0 (by decide) q792 rfl ex7 dX0_taken_30 ?_
      obtain ⟨x8, ex8, hf⟩ := gBind hf
      refine g_getrN X hR gk_X1 22 (by decide) q666 rfl ex8 dX0_taken_33 ?_
      refine lv_iload_n hx hb dX0_taken_36 rfl (lv_at hl 1 rfl) ?_
      obtain ⟨a9, ea9, hf⟩ := gBind hf
      refine g_aald X hR 5 (by decide) rfl ea9 dX0_taken_37 ?_
      obtain ⟨x10, ex10, hf⟩ := gBind hf
      refine g_getrN X hR gk_X2 0 (by decide) q510 rfl ex10 dX0_taken_38 ?_
      obtain ⟨u11, eu11, hf⟩ := gBind hf
      refine g_ordinal F X hR hS q1277 eu11 hl.1 ⟨Nat.le_of_ble_eq_true rfl, Nat.le_of_ble_eq_true rfl⟩ ⟨Nat.le_of_ble_eq_true rfl, Nat.le_of_ble_eq_true rfl⟩ (Nat.le_of_ble_eq_true rfl) dX0_taken_41 (fun H locs hR hS => ?_)
      obtain ⟨a12, ea12, hf⟩ := gBind hf
      refine g_aald X hR 9 (by decide) rfl ea12 dX0_taken_44 ?_
      refine lv_astore_n (lv' := [(3, .ref a12), (0, .ref a0), (1, .int p1), (2, .int p2)]) hx hb dX0_taken_45 rfl hl (by decide) rfl (fun ls hl => ?_)
      refine lv_iload_n hx hb dX0_taken_46 rfl (lv_at hl 3 rfl) ?_
      by_cases c13 : p2 = (0 : Int32)
      · replace hf := gIfp c13 hf
        refine lv_tableIn (off := 29) (tgt := 76) hx hb dX0_taken_47 (by rw [c13]; decide) (by rw [c13]; decide) (by rw [c13]; rfl) (by decide) ?_
        refine lv_aload_n hx hb dX0_taken_76 rfl (lv_at hl 0 rfl) ?_
        obtain ⟨k14, ek14, hf⟩ := gBind hf
        obtain ⟨u15, eu15, hf⟩ := gBind hf
        refine g_kind0 F X hR hS ek14 eu15 hl.1 ⟨Nat.le_of_ble_eq_true rfl, Nat.le_of_ble_eq_true rfl⟩ ⟨Nat.le_of_ble_eq_true rfl, Nat.le_of_ble_eq_true rfl⟩ (Nat.le_of_ble_eq_true rfl) dX0_taken_77 (fun H locs hR hS => ?_)
        obtain ⟨rfl, rfl⟩ := gO2 hf
        exact g_iretW X hR hS _ rfl ⟨Nat.le_of_ble_eq_true rfl, Nat.le_of_ble_eq_true rfl⟩ dX0_taken_80
      replace hf := gIfn c13 hf
      by_cases c16 : p2 = (1 : Int32)
      · replace hf := gIfp c16 hf
        refine lv_tableIn (off := 34) (tgt := 81) hx hb dX0_taken_47 (by rw [c16]; decide) (by rw [c16]; decide) (by rw [c16]; rfl) (by decide) ?_
        refine lv_aload_n hx hb dX0_taken_81 rfl (lv_at hl 0 rfl) ?_
        obtain ⟨k17, ek17, hf⟩ := gBind hf
        by_cases c18 : gCa 6 k17 = true
        · replace hf := gIfp c18 hf
          refine g_castY X hR 6 (by decide) q775 ek17 c18 dX0_taken_82 ?_
          obtain ⟨u19, eu19, hf⟩ := gBind hf
          refine g_kind6 F X hR hS ek17 c18 eu19 hl.1 ⟨Nat.le_of_ble_eq_true rfl, Nat.le_of_ble_eq_true rfl⟩ ⟨Nat.le_of_ble_eq_true rfl, Nat.le_of_ble_eq_true rfl⟩ (Nat.le_of_ble_eq_true rfl) dX0_taken_85 (fun H locs hR hS => ?_)
          obtain ⟨rfl, rfl⟩ := gO2 hf
          exact g_iretW X hR hS _ rfl ⟨Nat.le_of_ble_eq_true rfl, Nat.le_of_ble_eq_true rfl⟩ dX0_taken_88
        · replace hf := gIfn c18 hf
          refine g_castN X hlt hR hS hl.1 6 (by decide) q775 ek17 c18 ⟨Nat.le_of_ble_eq_true rfl, Nat.le_of_ble_eq_true rfl⟩ ⟨Nat.le_of_ble_eq_true rfl, Nat.le_of_ble_eq_true rfl⟩ dX0_taken_82 (fun q n1 ce H hR hS h1 h2 h3 => gx_catch X ht [⟨46, 80, 113, 341⟩] ⟨81, 88, 113, 341⟩ [⟨89, 96, 113, 341⟩, ⟨97, 104, 113, 341⟩, ⟨105, 112, 113, 341⟩] rfl (fun z hz => Or.inl (gCovN 82 [⟨46, 80, 113, 341⟩] rfl z hz)) rfl (by decide) q1326 q1338 h1 h2 h3 ?_)
          refine lv_astore (lv' := [(4, .ref q), (3, .ref a12), (0, .ref a0), (1, .int p1), (2, .int p2)]) hx hb dX0_taken_113 hl (by decide) rfl (fun ls hl => ?_)
          refine lv_bipush (v := (-12 : Int32)) hx hb dX0_taken_115 (by decide) ?_
          obtain ⟨rfl, rfl⟩ := gO2 hf
          exact g_iretW X hR hS _ rfl ⟨Nat.le_of_ble_eq_true rfl, Nat.le_of_ble_eq_true rfl⟩ dX0_taken_117
      replace hf := gIfn c16 hf
      by_cases c20 : p2 = (2 : Int32)
      · replace hf := gIfp c20 hf
        refine lv_tableIn (off := 42) (tgt := 89) hx hb dX0_taken_47 (by rw [c20]; decide) (by rw [c20]; decide) (by rw [c20]; rfl) (by decide) ?_
        refine lv_aload_n hx hb dX0_taken_89 rfl (lv_at hl 0 rfl) ?_
        obtain ⟨k21, ek21, hf⟩ := gBind hf
        by_cases c22 : gCa 7 k21 = true
        · replace hf := gIfp c22 hf
          refine g_castY X hR 7 (by decide) q770 ek21 c22 dX0_taken_90 ?_
          obtain ⟨u23, eu23, hf⟩ := gBind hf
          refine g_kind7 F X hR hS ek21 c22 eu23 hl.1 ⟨Nat.le_of_ble_eq_true rfl, Nat.le_of_ble_eq_true rfl⟩ ⟨Nat.le_of_ble_eq_true rfl, Nat.le_of_ble_eq_true rfl⟩ (Nat.le_of_ble_eq_true rfl) dX0_taken_93 (fun H locs hR hS => ?_)
          obtain ⟨rfl, rfl⟩ := gO2 hf
          exact g_iretW X hR hS _ rfl ⟨Nat.le_of_ble_eq_true rfl, Nat.le_of_ble_eq_true rfl⟩ dX0_taken_96
        · replace hf := gIfn c22 hf
          refine g_castN X hlt hR hS hl.1 7 (by decide) q770 ek21 c22 ⟨Nat.le_of_ble_eq_true rfl, Nat.le_of_ble_eq_true rfl⟩ ⟨Nat.le_of_ble_eq_true rfl, Nat.le_of_ble_eq_true rfl⟩ dX0_taken_90 (fun q n1 ce H hR hS h1 h2 h3 => gx_catch X ht [⟨46, 80, 113, 341⟩, ⟨81, 88, 113, 341⟩] ⟨89, 96, 113, 341⟩ [⟨97, 104, 113, 341⟩, ⟨105, 112, 113, 341⟩] rfl (fun z hz => Or.inl (gCovN 90 [⟨46, 80, 113, 341⟩, ⟨81, 88, 113, 341⟩] rfl z hz)) rfl (by decide) q1326 q1338 h1 h2 h3 ?_)
          refine lv_astore (lv' := [(4, .ref q), (3, .ref a12), (0, .ref a0), (1, .int p1), (2, .int p2)]) hx hb dX0_taken_113 hl (by decide) rfl (fun ls hl => ?_)
          refine lv_bipush (v := (-12 : Int32)) hx hb dX0_taken_115 (by decide) ?_
          obtain ⟨rfl, rfl⟩ := gO2 hf
          exact g_iretW X hR hS _ rfl ⟨Nat.le_of_ble_eq_true rfl, Nat.le_of_ble_eq_true rfl⟩ dX0_taken_117
      replace hf := gIfn c20 hf
      by_cases c24 : p2 = (3 : Int32)
      · replace hf := gIfp c24 hf
        refine lv_tableIn (off := 50) (tgt := 97) hx hb dX0_taken_47 (by rw [c24]; decide) (by rw [c24]; decide) (by rw [c24]; rfl) (by decide) ?_
        refine lv_aload_n hx hb dX0_taken_97 rfl (lv_at hl 0 rfl) ?_
        obtain ⟨k25, ek25, hf⟩ := gBind hf
        by_cases c26 : gCa 8 k25 = true
        · replace hf := gIfp c26 hf
          refine g_castY X hR 8 (by decide) q743 ek25 c26 dX0_taken_98 ?_
          obtain ⟨u27, eu27, hf⟩ := gBind hf
          refine g_kind8 F X hR hS ek25 c26 eu27 hl.1 ⟨Nat.le_of_ble_eq_true rfl, Nat.le_of_ble_eq_true rfl⟩ ⟨Nat.le_of_ble_eq_true rfl, Nat.le_of_ble_eq_true rfl⟩ (Nat.le_of_ble_eq_true rfl) dX0_taken_101 (fun H locs hR hS => ?_)
          obtain ⟨rfl, rfl⟩ := gO2 hf
          exact g_iretW X hR hS _ rfl ⟨Nat.le_of_ble_eq_true rfl, Nat.le_of_ble_eq_true rfl⟩ dX0_taken_104
        · replace hf := gIfn c26 hf
          refine g_castN X hlt hR hS hl.1 8 (by decide) q743 ek25 c26 ⟨Nat.le_of_ble_eq_true rfl, Nat.le_of_ble_eq_true rfl⟩ ⟨Nat.le_of_ble_eq_true rfl, Nat.le_of_ble_eq_true rfl⟩ dX0_taken_98 (fun q n1 ce H hR hS h1 h2 h3 => gx_catch X ht [⟨46, 80, 113, 341⟩, ⟨81, 88, 113, 341⟩, ⟨89, 96, 113, 341⟩] ⟨97, 104, 113, 341⟩ [⟨105, 112, 113, 341⟩] rfl (fun z hz => Or.inl (gCovN 98 [⟨46, 80, 113, 341⟩, ⟨81, 88, 113, 341⟩, ⟨89, 96, 113, 341⟩] rfl z hz)) rfl (by decide) q1326 q1338 h1 h2 h3 ?_)
          refine lv_astore (lv' := [(4, .ref q), (3, .ref a12), (0, .ref a0), (1, .int p1), (2, .int p2)]) hx hb dX0_taken_113 hl (by decide) rfl (fun ls hl => ?_)
          refine lv_bipush (v := (-12 : Int32)) hx hb dX0_taken_115 (by decide) ?_
          obtain ⟨rfl, rfl⟩ := gO2 hf
          exact g_iretW X hR hS _ rfl ⟨Nat.le_of_ble_eq_true rfl, Nat.le_of_ble_eq_true rfl⟩ dX0_taken_117
      replace hf := gIfn c24 hf
      refine lv_tableOut (tgt := 105) hx hb dX0_taken_47 (by have tc13 := lv_neT (k := (0 : Int32)) (a := 0) c13 (by decide); have tc16 := lv_neT (k := (1 : Int32)) (a := 1) c16 (by decide); have tc20 := lv_neT (k := (2 : Int32)) (a := 2) c20 (by decide); have tc24 := lv_neT (k := (3 : Int32)) (a := 3) c24 (by decide); omega) (by decide) ?_
      refine lv_aload_n hx hb dX0_taken_105 rfl (lv_at hl 0 rfl) ?_
      obtain ⟨k28, ek28, hf⟩ := gBind hf
      by_cases c29 : gCa 9 k28 = true
      · replace hf := gIfp c29 hf
        refine g_castY X hR 9 (by decide) q762 ek28 c29 dX0_taken_106 ?_
        obtain ⟨u30, eu30, hf⟩ := gBind hf
        refine g_kind9 F X hR hS ek28 c29 eu30 hl.1 ⟨Nat.le_of_ble_eq_true rfl, Nat.le_of_ble_eq_true rfl⟩ ⟨Nat.le_of_ble_eq_true rfl, Nat.le_of_ble_eq_true rfl⟩ (Nat.le_of_ble_eq_true rfl) dX0_taken_109 (fun H locs hR hS => ?_)
        obtain ⟨rfl, rfl⟩ := gO2 hf
        exact g_iretW X hR hS _ rfl ⟨Nat.le_of_ble_eq_true rfl, Nat.le_of_ble_eq_true rfl⟩ dX0_taken_112
      · replace hf := gIfn c29 hf
        refine g_castN X hlt hR hS hl.1 9 (by decide) q762 ek28 c29 ⟨Nat.le_of_ble_eq_true rfl, Nat.le_of_ble_eq_true rfl⟩ ⟨Nat.le_of_ble_eq_true rfl, Nat.le_of_ble_eq_true rfl⟩ dX0_taken_106 (fun q n1 ce H hR hS h1 h2 h3 => gx_catch X ht [⟨46, 80, 113, 341⟩, ⟨81, 88, 113, 341⟩, ⟨89, 96, 113, 341⟩, ⟨97, 104, 113, 341⟩] ⟨105, 112, 113, 341⟩ [] rfl (fun z hz => Or.inl (gCovN 106 [⟨46, 80, 113, 341⟩, ⟨81, 88, 113, 341⟩, ⟨89, 96, 113, 341⟩, ⟨97, 104, 113, 341⟩] rfl z hz)) rfl (by decide) q1326 q1338 h1 h2 h3 ?_)
        refine lv_astore (lv' := [(4, .ref q), (3, .ref a12), (0, .ref a0), (1, .int p1), (2, .int p2)]) hx hb dX0_taken_113 hl (by decide) rfl (fun ls hl => ?_)
        refine lv_bipush (v := (-12 : Int32)) hx hb dX0_taken_115 (by decide) ?_
        obtain ⟨rfl, rfl⟩ := gO2 hf
        exact g_iretW X hR hS _ rfl ⟨Nat.le_of_ble_eq_true rfl, Nat.le_of_ble_eq_true rfl⟩ dX0_taken_117
    · replace hf := gIfp c5 hf
      refine lv_bipush (v := (-2 : Int32)) hx hb dX0_taken_22 (by decide) ?_
      obtain ⟨rfl, rfl⟩ := gO2 hf
      exact g_iretW X hR hS _ rfl ⟨Nat.le_of_ble_eq_true rfl, Nat.le_of_ble_eq_true rfl⟩ dX0_taken_24
  · replace hf := gIfp c3 hf
    refine lv_iconst (v := (-1 : Int32)) hx hb dX0_taken_8 (by decide) ?_
    obtain ⟨rfl, rfl⟩ := gO2 hf
    exact g_iretW X hR hS _ rfl ⟨Nat.le_of_ble_eq_true rfl, Nat.le_of_ble_eq_true rfl⟩ dX0_taken_9
def sp_X0_read_L62 (G : gG) (F : Nat) (n62L : Nat) : Nat → gH → Nat → Nat → Int32 → Option (gH)
  | 0, _, _, _, _ => none
  | f + 1, h62L, v62_0, v62_1, v62_2 =>
    (gGi 12 h62L v62_1 1).bind fun x6301 =>
    if x6301 ≤ v62_2 then
    some (h62L) else
    (gGr 0 h62L v62_0 0).bind fun x6303 =>
    (gGr 1 h62L x6303 22).bind fun x6304 =>
    (gGr 0 h62L v62_0 0).bind fun x6305 =>
    (gGi 1 h62L x6305 13).bind fun x6306 =>
    (gAr 5 h62L x6304 x6306).bind fun a6307 =>
    (gGr 12 h62L v62_1 0).bind fun x6308 =>
    (gAr 5 h62L x6308 v62_2).bind fun a6309 =>
    if gIs 2 h62L a6307 = true then
    (sp_X2_like G F h62L a6307 a6309).bind fun u6311 =>
    (gGr 0 u6311 v62_0 0).bind fun x6312 =>
    (gGi 1 u6311 x6312 13).bind fun x6313 =>
    (gPv 1 u6311 x6312 13 (.int (x6313 + (1 : Int32)))).bind fun h6314 =>
    sp_X0_read_L62 G F n62L f h6314 v62_0 v62_1 (v62_2 + (1 : Int32)) else none
def sp_X0_read (G : gG) (F : Nat) (h : gH) (n : Nat) (a0 : Nat) : Option (Int32 × gH) :=
 (sp_X14_init G F (va_up h n (some (.inr (12, [.null, .int 0, .int 0, .null])))) (n + 1) n a0).bind fun u2 =>
 (gGr 0 u2.1 a0 0).bind fun x3 =>
 (gGi 1 u2.1 x3 0).bind fun x4 =>
 if x4 = 0 then
 if gIs 12 u2.1 n = true then
 gOr (sp_X14_reads G F u2.1 n) (fun u7 =>
 (gGr 0 u7 a0 0).bind fun x9 =>
 (gGi 1 u7 x9 13).bind fun x10 =>
 (gGi 12 u7 n 1).bind fun x11 =>
 if (x10 + x11) ≤ (8 : Int32) then
 (sp_X0_read_L62 G F u2.2 F u7 a0 n (0 : Int32)).bind fun y15 =>
 (gGr 0 y15 a0 0).bind fun x16 =>
 if gIs 1 y15 x16 = true then
 (sp_X1_settles G F y15 x16).bind fun u18 =>
 (gGi 12 u18 n 1).bind fun x19 =>
 (gPv 0 u18 a0 5 (.int (0 : Int32))).bind fun h20 =>
 some (x19, h20) else none else
 (gPv 0 u7 a0 5 (.int (0 : Int32))).bind fun h21 =>
 some ((-4 : Int32), h21)) ((sp_X14_reads_T G F u2.1 u2.2 n).bind fun t8 =>
 (gGi 13 t8 u2.2 6).bind fun x22 =>
 (gPv 0 t8 a0 5 (.int (0 : Int32))).bind fun h23 =>
 some ((-10 : Int32) - x22, h23)) else none else
 (gPv 0 u2.1 a0 5 (.int (0 : Int32))).bind fun h24 =>
 some ((-3 : Int32), h24)
abbrev hh_X0_read : List (Nat × Nat × Nat × Nat) := [(9, 22, 132, 173), (29, 53, 132, 173), (60, 125, 132, 173), (9, 22, 148, 0), (29, 53, 148, 0), (60, 125, 148, 0), (132, 141, 148, 0), (148, 150, 148, 0)]
theorem kw_X0_read : Cond.codeWith yX0_read cX0_read 5 (some .int) hh_X0_read ∈ lw_all := q960
set_option maxHeartbeats 8000000 in
theorem m_X0_read (l : Launch) (hlt : l.stackTraces = false) (G : gG) (F : Nat) (h : gH) (n : Nat) (a0 : Nat) {r : Int32} {h' : gH} (hf : sp_X0_read G F h n a0 = some (r, h')) : gMetW l G yX0_read cX0_read 5 (some .int) hh_X0_read 8 173 27 143 [.ref a0] h n (some (.int r)) h' := by
  refine gEnterW (by decide) [(0, .ref a0)] rfl (Nat.le_of_ble_eq_true rfl) ?_
  intro p e s m below meth c H ls X hin hR hS hl ht
  have hx := X.1.1
  have hb := X.1.2.1
  unfold sp_X0_read at hf
  generalize ([] : List Loc) = locs at hS ⊢
  refine g_new X hR hS gk_X14 q962 q963 q125 [.null, .int 0, .int 0, .null] (by decide +kernel) ⟨Nat.le_of_ble_eq_true rfl, Nat.le_of_ble_eq_true rfl⟩ dX0_read_0 (fun H hR hS => ?_)
  refine lv_dup hx hb dX0_read_3 rfl ?_
  refine lv_aload_n hx hb dX0_read_4 rfl (lv_at hl 0 rfl) ?_
  obtain ⟨u2, eu2, hf⟩ := gBind hf
  refine g_callIN X hR hS [.ref a0] (m_X14_init l G F (va_up h n (some (.inr (12, [.null, .int 0, .int 0, .null])))) (n + 1) n a0 eu2) yk_X14_init q964 rfl hl.1 ⟨Nat.le_of_ble_eq_true rfl, Nat.le_of_ble_eq_true rfl⟩ ⟨Nat.le_of_ble_eq_true rfl, Nat.le_of_ble_eq_true rfl⟩ rfl (Nat.le_of_ble_eq_true rfl) dX0_read_5 (fun H locs hR hS => ?_)
  refine lv_astore_n (lv' := [(1, .ref n), (0, .ref a0)]) hx hb dX0_read_8 rfl hl (by decide) rfl (fun ls hl => ?_)
  refine lv_aload_n hx hb dX0_read_9 rfl (lv_at hl 1 rfl) ?_
  obtain ⟨x3, ex3, hf⟩ := gBind hf
  refine g_getr X hR gk_X0 0 (by decide) q792 rfl ex3 dX0_read_10 ?_
  obtain ⟨x4, ex4, hf⟩ := gBind hf
  refine g_getiN X hR gk_X1 0 (by decide) q623 rfl ex4 dX0_read_13 ?_
  refine lv_if_eq (tgt := 29) hx hb dX0_read_16 (by decide) (fun c5 => ?_) (fun c5 => ?_)
  · replace hf := gIfp c5 hf
    refine lv_aload_n hx hb dX0_read_29 rfl (lv_at hl 0 rfl) ?_
    obtain ⟨k6, hf⟩ := gChk hf
    rcases gOr_spec hf with ⟨u7, eu7, hf⟩ | hf
    · refine g_callVv X hR hS [] (m_X14_reads l G F u2.1 u2.2 n eu7) yk_X14_reads q985 k6 rfl hl.1 ⟨Nat.le_of_ble_eq_true rfl, Nat.le_of_ble_eq_true rfl⟩ ⟨Nat.le_of_ble_eq_true rfl, Nat.le_of_ble_eq_true rfl⟩ rfl (Nat.le_of_ble_eq_true rfl) dX0_read_30 (fun H locs hR hS => ?_)
      refine lv_aload_n hx hb dX0_read_33 rfl (lv_at hl 1 rfl) ?_
      obtain ⟨x9, ex9, hf⟩ := gBind hf
      refine g_getr X hR gk_X0 0 (by decide) q792 rfl ex9 dX0_read_34 ?_
      obtain ⟨x10, ex10, hf⟩ := gBind hf
      refine g_getiN X hR gk_X1 13 (by decide) q649 rfl ex10 dX0_read_37 ?_
      refine lv_aload_n hx hb dX0_read_40 rfl (lv_at hl 0 rfl) ?_
      obtain ⟨x11, ex11, hf⟩ := gBind hf
      refine g_getiN X hR gk_X14 1 (by decide) q973 rfl ex11 dX0_read_41 ?_
      refine lv_iadd hx hb dX0_read_44 ?_
      refine lv_bipush (v := (8 : Int32)) hx hb dX0_read_45 (by decide) ?_
      refine lv_icmp_le (tgt := 60) hx hb dX0_read_47 (by decide) (fun c12 => ?_) (fun c12 => ?_)
      · replace hf := gIfp c12 hf
        refine lv_iconst (v := (0 : Int32)) hx hb dX0_read_60 (by decide) ?_
        refine lv_istore_n (lv' := [(2, .int (0 : Int32)), (1, .ref n), (0, .ref a0)]) hx hb dX0_read_61 rfl hl (by decide) rfl (fun ls hl => ?_)
        have L62_q13 : ∀ (f : Nat) (h62L : gH) (v62_0 : Nat) (v62_1 : Nat) (v62_2 : Int32) (o14 : gH) (H : Heap) (locs : List Loc) (ls : Array Slot), sp_X0_read_L62 G F u2.2 f h62L v62_0 v62_1 v62_2 = some o14 → gRep G h62L u2.2 H → va_S (gFr G) s.heap H locs → lv_has ls 5 [(0, .ref v62_0), (1, .ref v62_1), (2, .int v62_2)] → (∀ (H : Heap) (locs : List Loc) (ls : Array Slot), gRep G o14 u2.2 H → va_S (gFr G) s.heap H locs → lv_has ls 5 [(0, .ref v62_0), (1, .ref v62_1)] → W p l e ({ frames := 8, cells := 27, slots := 143, locals := 173 } : Room) s m ([.ref a0] : List Value).toArray below meth c H locs 26 136 (MQ below (gQW G (some (.int r)) h') ([.ref a0] : List Value).toArray s 27 143 (gFr G)) (F0 m 113 ls [])) → W p l e ({ frames := 8, cells := 27, slots := 143, locals := 173 } : Room) s m ([.ref a0] : List Value).toArray below meth c H locs 26 136 (MQ below (gQW G (some (.int r)) h') ([.ref a0] : List Value).toArray s 27 143 (gFr G)) (F0 m 62 ls []) := by
          clear hf
          intro f
          induction f with
          | zero =>
            intro h62L v62_0 v62_1 v62_2 o14 H locs ls hf
            cases hf
          | succ f ih =>
            intro h62L v62_0 v62_1 v62_2 o14 H locs ls hf hR hS hl K62
            rw [sp_X0_read_L62] at hf
            refine lv_iload_n hx hb dX0_read_62 rfl (lv_at hl 2 rfl) ?_
            refine lv_aload_n hx hb dX0_read_63 rfl (lv_at hl 1 rfl) ?_
            obtain ⟨x6301, ex6301, hf⟩ := gBind hf
            refine g_getiN X hR gk_X14 1 (by decide) q973 rfl ex6301 dX0_read_64 ?_
            refine lv_icmp_ge (tgt := 113) hx hb dX0_read_67 (by decide) (fun c6302 => ?_) (fun c6302 => ?_)
            · replace hf := gIfp c6302 hf
              obtain rfl := gO1 hf
              exact K62 _ _ _ hR hS (lv_sub hl [0, 1] rfl)
            · replace hf := gIfn c6302 hf
              refine lv_aload_n hx hb dX0_read_70 rfl (lv_at hl 0 rfl) ?_
              obtain ⟨x6303, ex6303, hf⟩ := gBind hf
              refine g_getr X hR gk_X0 0 (by decide) q792 rfl ex6303 dX0_read_71 ?_
              obtain ⟨x6304, ex6304, hf⟩ := gBind hf
              refine g_getrN X hR gk_X1 22 (by decide) q666 rfl ex6304 dX0_read_74 ?_
              refine lv_aload_n hx hb dX0_read_77 rfl (lv_at hl 0 rfl) ?_
              obtain ⟨x6305, ex6305, hf⟩ := gBind hf
              refine g_getr X hR gk_X0 0 (by decide) q792 rfl ex6305 dX0_read_78 ?_
              obtain ⟨x6306, ex6306, hf⟩ := gBind hf
              refine g_getiN X hR gk_X1 13 (by decide) q649 rfl ex6306 dX0_read_81 ?_
              obtain ⟨a6307, ea6307, hf⟩ := gBind hf
              refine g_aald X hR 5 (by decide) rfl ea6307 dX0_read_84 ?_
              refine lv_aload_n hx hb dX0_read_85 rfl (lv_at hl 1 rfl) ?_
              obtain ⟨x6308, ex6308, hf⟩ := gBind hf
              refine g_getrN X hR gk_X14 0 (by decide) q971 rfl ex6308 dX0_read_86 ?_
              refine lv_iload_n hx hb dX0_read_89 rfl (lv_at hl 2 rfl) ?_
              obtain ⟨a6309, ea6309, hf⟩ := gBind hf
              refine g_aald X hR 5 (by decide) rfl ea6309 dX0_read_90 ?_
              obtain ⟨k6310, hf⟩ := gChk hf
              obtain ⟨u6311, eu6311, hf⟩ := gBind hf
              refine g_callVv X hR hS [.ref a6309] (m_X2_like l G F h62L u2.2 a6307 a6309 eu6311) yk_X2_like q1047 k6310 rfl hl.1 ⟨Nat.le_of_ble_eq_true rfl, Nat.le_of_ble_eq_true rfl⟩ ⟨Nat.le_of_ble_eq_true rfl, Nat.le_of_ble_eq_true rfl⟩ rfl (Nat.le_of_ble_eq_true rfl) dX0_read_91 (fun H locs hR hS => ?_)
              refine lv_aload_n hx hb dX0_read_94 rfl (lv_at hl 0 rfl) ?_
              obtain ⟨x6312, ex6312, hf⟩ := gBind hf
              refine g_getr X hR gk_X0 0 (by decide) q792 rfl ex6312 dX0_read_95 ?_
              refine lv_dup hx hb dX0_read_98 rfl ?_
              obtain ⟨x6313, ex6313, hf⟩ := gBind hf
              refine g_getiN X hR gk_X1 13 (by decide) q649 rfl ex6313 dX0_read_99 ?_
              refine lv_iconst (v := (1 : Int32)) hx hb dX0_read_102 (by decide) ?_
              refine lv_iadd hx hb dX0_read_103 ?_
              obtain ⟨h6314, eh6314, hf⟩ := gBind hf
              refine g_putN X hR hS gk_X1 13 (by decide) q649 rfl rfl eh6314 rfl rfl rfl dX0_read_104 (fun H locs hR hS => ?_)
              refine lv_iinc (v := v62_2 + (1 : Int32)) (lv' := [(2, .int (v62_2 + (1 : Int32))), (0, .ref v62_0), (1, .ref v62_1)]) hx hb dX0_read_107 hl (k := 2) rfl rfl (by decide) rfl (fun ls hl => ?_)
              refine lv_goto (tgt := 62) hx hb dX0_read_110 (by decide) ?_
              exact ih h6314 v62_0 v62_1 (v62_2 + (1 : Int32)) _ _ _ _ hf hR hS (lv_sub hl [1, 2, 0] rfl) K62
        obtain ⟨y15, ey15, hf⟩ := gBind hf
        refine L62_q13 F u7 a0 n (0 : Int32) y15 _ _ _ ey15 hR hS (lv_sub hl [2, 1, 0] rfl) (fun H locs ls hR hS hl => ?_)
        refine lv_aload_n hx hb dX0_read_113 rfl (lv_at hl 0 rfl) ?_
        obtain ⟨x16, ex16, hf⟩ := gBind hf
        refine g_getr X hR gk_X0 0 (by decide) q792 rfl ex16 dX0_read_114 ?_
        obtain ⟨k17, hf⟩ := gChk hf
        obtain ⟨u18, eu18, hf⟩ := gBind hf
        refine g_callVv X hR hS [] (m_X1_settles l G F y15 u2.2 x16 eu18) yk_X1_settles q903 k17 rfl hl.1 ⟨Nat.le_of_ble_eq_true rfl, Nat.le_of_ble_eq_true rfl⟩ ⟨Nat.le_of_ble_eq_true rfl, Nat.le_of_ble_eq_true rfl⟩ rfl (Nat.le_of_ble_eq_true rfl) dX0_read_117 (fun H locs hR hS => ?_)
        refine lv_aload_n hx hb dX0_read_120 rfl (lv_at hl 1 rfl) ?_
        obtain ⟨x19, ex19, hf⟩ := gBind hf
        refine g_getiN X hR gk_X14 1 (by decide) q973 rfl ex19 dX0_read_121 ?_
        refine lv_istore_n (lv' := [(2, .int x19), (0, .ref a0), (1, .ref n)]) hx hb dX0_read_124 rfl hl (by decide) rfl (fun ls hl => ?_)
        refine lv_aload_n hx hb dX0_read_125 rfl (lv_at hl 1 rfl) ?_
        refine lv_iconst (v := (0 : Int32)) hx hb dX0_read_126 (by decide) ?_
        obtain ⟨h20, eh20, hf⟩ := gBind hf
        refine g_put X hR hS gk_X0 5 (by decide) q799 rfl rfl eh20 rfl rfl rfl dX0_read_127 (fun H locs hR hS => ?_)
        refine lv_iload_n hx hb dX0_read_130 rfl (lv_at hl 0 rfl) ?_
        obtain ⟨rfl, rfl⟩ := gO2 hf
        exact g_iretW X hR hS _ rfl ⟨Nat.le_of_ble_eq_true rfl, Nat.le_of_ble_eq_true rfl⟩ dX0_read_131
      · replace hf := gIfn c12 hf
        refine lv_bipush (v := (-4 : Int32)) hx hb dX0_read_50 (by decide) ?_
        refine lv_istore_n (lv' := [(2, .int (-4 : Int32)), (1, .ref n), (0, .ref a0)]) hx hb dX0_read_52 rfl hl (by decide) rfl (fun ls hl => ?_)
        refine lv_aload_n hx hb dX0_read_53 rfl (lv_at hl 2 rfl) ?_
        refine lv_iconst (v := (0 : Int32)) hx hb dX0_read_54 (by decide) ?_
        obtain ⟨h21, eh21, hf⟩ := gBind hf
        refine g_put X hR hS gk_X0 5 (by decide) q799 rfl rfl eh21 rfl rfl rfl dX0_read_55 (fun H locs hR hS => ?_)
        refine lv_iload_n hx hb dX0_read_58 rfl (lv_at hl 0 rfl) ?_
        obtain ⟨rfl, rfl⟩ := gO2 hf
        exact g_iretW X hR hS _ rfl ⟨Nat.le_of_ble_eq_true rfl, Nat.le_of_ble_eq_true rfl⟩ dX0_read_59
    · obtain ⟨t8, et8, hf⟩ := gBind hf
      refine g_callT X hR hS [] (m_X14_reads_T l G F u2.1 u2.2 n et8) yk_X14_reads q985 k6 rfl hl.1 ⟨Nat.le_of_ble_eq_true rfl, Nat.le_of_ble_eq_true rfl⟩ ⟨Nat.le_of_ble_eq_true rfl, Nat.le_of_ble_eq_true rfl⟩ rfl (Nat.le_of_ble_eq_true rfl) dX0_read_30 (fun q n1 ce H locs hq hR hS h1 h2 h3 => gx_catch X ht [⟨9, 22, 132, 173⟩] ⟨29, 53, 132, 173⟩ [⟨60, 125, 132, 173⟩, ⟨9, 22, 148, 0⟩, ⟨29, 53, 148, 0⟩, ⟨60, 125, 148, 0⟩, ⟨132, 141, 148, 0⟩, ⟨148, 150, 148, 0⟩] rfl (fun z hz => Or.inl (gCovN 30 [⟨9, 22, 132, 173⟩] rfl z hz)) rfl (by decide) q961 q1001 h1 h2 h3 ?_)
      have hq := hq _ rfl
      subst hq
      refine lv_astore_n (lv' := [(2, .ref u2.2), (1, .ref n), (0, .ref a0)]) hx hb dX0_read_132 rfl hl (by decide) rfl (fun ls hl => ?_)
      refine lv_bipush (v := (-10 : Int32)) hx hb dX0_read_133 (by decide) ?_
      refine lv_aload_n hx hb dX0_read_135 rfl (lv_at hl 0 rfl) ?_
      obtain ⟨x22, ex22, hf⟩ := gBind hf
      refine g_getiN X hR gk_X15 6 (by decide) q1018 rfl ex22 dX0_read_136 ?_
      refine lv_isub hx hb dX0_read_139 ?_
      refine lv_istore_n (lv' := [(3, .int ((-10 : Int32) - x22)), (2, .ref u2.2), (1, .ref n), (0, .ref a0)]) hx hb dX0_read_140 rfl hl (by decide) rfl (fun ls hl => ?_)
      refine lv_aload_n hx hb dX0_read_141 rfl (lv_at hl 3 rfl) ?_
      refine lv_iconst (v := (0 : Int32)) hx hb dX0_read_142 (by decide) ?_
      obtain ⟨h23, eh23, hf⟩ := gBind hf
      refine g_put X hR hS gk_X0 5 (by decide) q799 rfl rfl eh23 rfl rfl rfl dX0_read_143 (fun H locs hR hS => ?_)
      refine lv_iload_n hx hb dX0_read_146 rfl (lv_at hl 0 rfl) ?_
      obtain ⟨rfl, rfl⟩ := gO2 hf
      exact g_iretW X hR hS _ rfl ⟨Nat.le_of_ble_eq_true rfl, Nat.le_of_ble_eq_true rfl⟩ dX0_read_147
  · replace hf := gIfn c5 hf
    refine lv_bipush (v := (-3 : Int32)) hx hb dX0_read_19 (by decide) ?_
    refine lv_istore_n (lv' := [(2, .int (-3 : Int32)), (1, .ref n), (0, .ref a0)]) hx hb dX0_read_21 rfl hl (by decide) rfl (fun ls hl => ?_)
    refine lv_aload_n hx hb dX0_read_22 rfl (lv_at hl 2 rfl) ?_
    refine lv_iconst (v := (0 : Int32)) hx hb dX0_read_23 (by decide) ?_
    obtain ⟨h24, eh24, hf⟩ := gBind hf
    refine g_put X hR hS gk_X0 5 (by decide) q799 rfl rfl eh24 rfl rfl rfl dX0_read_24 (fun H locs hR hS => ?_)
    refine lv_iload_n hx hb dX0_read_27 rfl (lv_at hl 0 rfl) ?_
    obtain ⟨rfl, rfl⟩ := gO2 hf
    exact g_iretW X hR hS _ rfl ⟨Nat.le_of_ble_eq_true rfl, Nat.le_of_ble_eq_true rfl⟩ dX0_read_28

