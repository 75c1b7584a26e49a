/-! e3: printed by wip/gen/gent.py: the throwing roads of Reader -/
set_option maxRecDepth 100000
theorem gx_fault {p : Program} {l : Launch} {e : Env} {R : Room} {s : State} {m : MethodId} {args : Array Value} {below : List Frame} {meth : Method} {c : Code} {H : Heap} {locs : List Loc} {cells slots : Nat} {cc : ByteArray} {pc nL : Nat} {ls : Array Slot} {rest : List Value} {G : gG} {own : String} {ret : Option FieldType} (X : gCx p s m args meth c cc nL own ret G) (ht : ∀ x ∈ c.exceptionTable.toList, False) {n n1 mc ms : Nat} {h' : gH} (hR : gRep G h' n1 H) (hS : va_S (gFr G) s.heap H locs) (hq : gIs 13 h' n = true) (hc : cells ≤ mc ∧ slots ≤ ms) (hdg : decode cc pc = .ok (.athrow, 1)) :
    W p l e R s m args below meth c H locs cells slots (gMQT below G "SafeClears$Fault" (some n) h' args s mc ms) (F0 m pc ls (.ref n :: rest)) := by
  obtain ⟨fs, he⟩ := gIs_spec hq
  obtain ⟨r, h1, cell, q1, q2, q3, q4⟩ := (hR.2.2 n _ he).2
  have hfc := (X.2.1.1.1 13 _ gk_X15.2.2.2).2.1
  exact gx_athrow X hdg (gx_out X ht (fun q0 h0 => Option.some.inj h0) hR hS q1 q3 (by rw [q2]; exact hfc) hc)
def sp_X14_number_TL9 (G : gG) (F : Nat) (n9L : Nat) : Nat → gH → Nat → Int32 → Int32 → Int32 → Int32 → Int32 → Option (gH)
  | 0, _, _, _, _, _, _, _ => none
  | f + 1, h9L, v9_0, v9_1, v9_2, v9_3, v9_4, v9_5 =>
    (gGi 12 h9L v9_0 2).bind fun x1001 =>
    if v9_1 ≤ (x1001 - v9_4) then
    (gGi 12 h9L v9_0 2).bind fun x1003 =>
    if x1003 = v9_4 then
    (gGi 12 (va_up h9L n9L (some (.inr (13, [.null, .null, .null, .null, .null, .int 0, .int 0])))) v9_0 2).bind fun x1010 =>
    (sp_X15_init G F (va_up h9L n9L (some (.inr (13, [.null, .null, .null, .null, .null, .int 0, .int 0])))) n9L x1010).bind fun u1011 =>
    if gIs 13 u1011 n9L = true then
    some u1011 else none else
    (sp_X0_in G F h9L v9_5.toInt64 v9_2.toInt64 v9_3.toInt64).bind fun u1005 =>
    if u1005 = 0 then
    (gGi 12 (va_up h9L n9L (some (.inr (13, [.null, .null, .null, .null, .null, .int 0, .int 0])))) v9_0 2).bind fun x1007 =>
    (sp_X15_init G F (va_up h9L n9L (some (.inr (13, [.null, .null, .null, .null, .null, .int 0, .int 0])))) n9L (x1007 - (1 : Int32))).bind fun u1008 =>
    if gIs 13 u1008 n9L = true then
    some u1008 else none else
    none else
    if gIs 12 h9L v9_0 = true then
    (sp_X14_here G F h9L v9_0).bind fun u1014 =>
    (sp_X0_in G F h9L u1014.toInt64 (48 : Int64) (57 : Int64)).bind fun u1015 =>
    if u1015 = 0 then
    (gGi 12 h9L v9_0 2).bind fun x1017 =>
    if x1017 = v9_4 then
    (gGi 12 (va_up h9L n9L (some (.inr (13, [.null, .null, .null, .null, .null, .int 0, .int 0])))) v9_0 2).bind fun x1024 =>
    (sp_X15_init G F (va_up h9L n9L (some (.inr (13, [.null, .null, .null, .null, .null, .int 0, .int 0])))) n9L x1024).bind fun u1025 =>
    if gIs 13 u1025 n9L = true then
    some u1025 else none else
    (sp_X0_in G F h9L v9_5.toInt64 v9_2.toInt64 v9_3.toInt64).bind fun u1019 =>
    if u1019 = 0 then
    (gGi 12 (va_up h9L n9L (some (.inr (13, [.null, .null, .null, .null, .null, .int 0, .int 0])))) v9_0 2).bind fun x1021 =>
    (sp_X15_init G F (va_up h9L n9L (some (.inr (13, [.null, .null, .null, .null, .null, .int 0, .int 0])))) n9L (x1021 - (1 : Int32))).bind fun u1022 =>
    if gIs 13 u1022 n9L = true then
    some u1022 else none else
    none else
    if gIs 12 h9L v9_0 = true then
    (sp_X14_here G F h9L v9_0).bind fun u1028 =>
    (gGi 12 h9L v9_0 2).bind fun x1029 =>
    (gPv 12 h9L v9_0 2 (.int (x1029 + (1 : Int32)))).bind fun h1030 =>
    sp_X14_number_TL9 G F n9L f h1030 v9_0 v9_1 v9_2 v9_3 v9_4 ((((10 : Int32) * v9_5) + u1028) - (48 : Int32)) else none else none
def sp_X14_number_T (G : gG) (F : Nat) (h : gH) (n : Nat) (a0 : Nat) (p1 : Int32) (p2 : Int32) (p3 : Int32) : Option gH :=
 (gGi 12 h a0 2).bind fun x1 =>
 sp_X14_number_TL9 G F n F h a0 p1 p2 p3 x1 (0 : Int32)
set_option maxHeartbeats 8000000 in
theorem m_X14_number_T (l : Launch) (G : gG) (F : Nat) (h : gH) (n : Nat) (a0 : Nat) (p1 : Int32) (p2 : Int32) (p3 : Int32) {h' : gH} (hf : sp_X14_number_T G F h n a0 p1 p2 p3 = some h') : gMetT l G yX14_number cX14_number 6 (some .int) 4 89 1 7 [.ref a0, .int p1, .int p2, .int p3] h n "SafeClears$Fault" (some n) h' := by
  refine gEnterT (by decide) [(0, .ref a0), (1, .int p1), (2, .int p2), (3, .int p3)] rfl (Nat.le_of_ble_eq_true rfl) ?_
  intro p e s m below meth c H ls X hin hR hS hl ht
  have hx := X.1.1
  have hb := X.1.2.1
  unfold sp_X14_number_T at hf
  generalize ([] : List Loc) = locs at hS ⊢
  refine lv_aload_n hx hb dX14_number_0 rfl (lv_at hl 0 rfl) ?_
  obtain ⟨x1, ex1, hf⟩ := gBind hf
  refine g_geti X hR gk_X14 2 (by decide) q974 rfl ex1 dX14_number_1 ?_
  refine lv_istore (lv' := [(4, .int x1), (0, .ref a0), (1, .int p1), (2, .int p2), (3, .int p3)]) hx hb dX14_number_4 hl (by decide) rfl (fun ls hl => ?_)
  refine lv_iconst (v := (0 : Int32)) hx hb dX14_number_6 (by decide) ?_
  refine lv_istore (lv' := [(5, .int (0 : Int32)), (4, .int x1), (0, .ref a0), (1, .int p1), (2, .int p2), (3, .int p3)]) hx hb dX14_number_7 hl (by decide) rfl (fun ls hl => ?_)
  have L9_q2 : ∀ (f : Nat) (h9L : gH) (v9_0 : Nat) (v9_1 : Int32) (v9_2 : Int32) (v9_3 : Int32) (v9_4 : Int32) (v9_5 : Int32) (H : Heap) (locs : List Loc) (ls : Array Slot), sp_X14_number_TL9 G F n f h9L v9_0 v9_1 v9_2 v9_3 v9_4 v9_5 = some h' → gRep G h9L n H → va_S (gFr G) s.heap H locs → lv_has ls 6 [(0, .ref v9_0), (1, .int v9_1), (2, .int v9_2), (3, .int v9_3), (4, .int v9_4), (5, .int v9_5)] → W p l e ({ frames := 4, cells := 1, slots := 7, locals := 89 } : Room) s m ([.ref a0, .int p1, .int p2, .int p3] : List Value).toArray below meth c H locs 0 0 (gMQT below G "SafeClears$Fault" (some n) h' ([.ref a0, .int p1, .int p2, .int p3] : List Value).toArray s 1 7) (F0 m 9 ls []) := by
    clear hf
    intro f
    induction f with
    | zero =>
      intro h9L v9_0 v9_1 v9_2 v9_3 v9_4 v9_5 H locs ls hf
      cases hf
    | succ f ih =>
      intro h9L v9_0 v9_1 v9_2 v9_3 v9_4 v9_5 H locs ls hf hR hS hl
      rw [sp_X14_number_TL9] at hf
      refine lv_aload_n hx hb dX14_number_9 rfl (lv_at hl 0 rfl) ?_
      obtain ⟨x1001, ex1001, hf⟩ := gBind hf
      refine g_geti X hR gk_X14 2 (by decide) q974 rfl ex1001 dX14_number_10 ?_
      refine lv_iload hx hb dX14_number_13 (lv_at hl 4 rfl) ?_
      refine lv_isub hx hb dX14_number_15 ?_
      refine lv_iload_n hx hb dX14_number_16 rfl (lv_at hl 1 rfl) ?_
      refine lv_icmp_ge (tgt := 65) hx hb dX14_number_17 (by decide) (fun c1002 => ?_) (fun c1002 => ?_)
      · replace hf := gIfp c1002 hf
        refine lv_aload_n hx hb dX14_number_65 rfl (lv_at hl 0 rfl) ?_
        obtain ⟨x1003, ex1003, hf⟩ := gBind hf
        refine g_geti X hR gk_X14 2 (by decide) q974 rfl ex1003 dX14_number_66 ?_
        refine lv_iload hx hb dX14_number_69 (lv_at hl 4 rfl) ?_
        refine lv_icmp_ne (tgt := 86) hx hb dX14_number_71 (by decide) (fun c1004 => ?_) (fun c1004 => ?_)
        · replace hf := gIfn c1004 hf
          refine lv_iload hx hb dX14_number_86 (lv_at hl 5 rfl) ?_
          refine lv_i2l (v := v9_5.toInt64) hx hb dX14_number_88 rfl ?_
          refine lv_iload_n hx hb dX14_number_89 rfl (lv_at hl 2 rfl) ?_
          refine lv_i2l (v := v9_2.toInt64) hx hb dX14_number_90 rfl ?_
          refine lv_iload_n hx hb dX14_number_91 rfl (lv_at hl 3 rfl) ?_
          refine lv_i2l (v := v9_3.toInt64) hx hb dX14_number_92 rfl ?_
          obtain ⟨u1005, eu1005, hf⟩ := gBind hf
          refine g_callSNi X hR hS [.long v9_5.toInt64, .long v9_2.toInt64, .long v9_3.toInt64] (m_X0_in l G F h9L n v9_5.toInt64 v9_2.toInt64 v9_3.toInt64 eu1005) yk_X0_in q1031 rfl hl.1 ⟨Nat.le_of_ble_eq_true rfl, Nat.le_of_ble_eq_true rfl⟩ ⟨Nat.le_of_ble_eq_true rfl, Nat.le_of_ble_eq_true rfl⟩ rfl (Nat.le_of_ble_eq_true rfl) dX14_number_93 (fun H locs hR hS => ?_)
          refine lv_if_ne (tgt := 113) hx hb dX14_number_96 (by decide) (fun c1006 => ?_) (fun c1006 => ?_)
          · replace hf := gIfn c1006 hf
            refine lv_iload hx hb dX14_number_113 (lv_at hl 5 rfl) ?_
            cases hf
          · replace hf := gIfp c1006 hf
            refine g_new X hR hS gk_X15 q999 q1000 q126 [.null, .null, .null, .null, .null, .int 0, .int 0] (by decide +kernel) ⟨Nat.le_of_ble_eq_true rfl, Nat.le_of_ble_eq_true rfl⟩ dX14_number_99 (fun H hR hS => ?_)
            refine lv_dup hx hb dX14_number_102 rfl ?_
            refine lv_aload_n hx hb dX14_number_103 rfl (lv_at hl 0 rfl) ?_
            obtain ⟨x1007, ex1007, hf⟩ := gBind hf
            refine g_geti X hR gk_X14 2 (by decide) q974 rfl ex1007 dX14_number_104 ?_
            refine lv_iconst (v := (1 : Int32)) hx hb dX14_number_107 (by decide) ?_
            refine lv_isub hx hb dX14_number_108 ?_
            obtain ⟨u1008, eu1008, hf⟩ := gBind hf
            refine g_callI X hR hS [.int (x1007 - (1 : Int32))] (m_X15_init l G F (va_up h9L n (some (.inr (13, [.null, .null, .null, .null, .null, .int 0, .int 0])))) (n + 1) n (x1007 - (1 : Int32)) eu1008) yk_X15_init q1008 rfl hl.1 ⟨Nat.le_of_ble_eq_true rfl, Nat.le_of_ble_eq_true rfl⟩ ⟨Nat.le_of_ble_eq_true rfl, Nat.le_of_ble_eq_true rfl⟩ rfl (Nat.le_of_ble_eq_true rfl) dX14_number_109 (fun H locs hR hS => ?_)
            obtain ⟨k1009, hf⟩ := gChk hf
            obtain rfl := gO1 hf
            exact gx_fault X ht hR hS k1009 ⟨Nat.le_of_ble_eq_true rfl, Nat.le_of_ble_eq_true rfl⟩ dX14_number_112
        · replace hf := gIfp c1004 hf
          refine g_new X hR hS gk_X15 q999 q1000 q126 [.null, .null, .null, .null, .null, .int 0, .int 0] (by decide +kernel) ⟨Nat.le_of_ble_eq_true rfl, Nat.le_of_ble_eq_true rfl⟩ dX14_number_74 (fun H hR hS => ?_)
          refine lv_dup hx hb dX14_number_77 rfl ?_
          refine lv_aload_n hx hb dX14_number_78 rfl (lv_at hl 0 rfl) ?_
          obtain ⟨x1010, ex1010, hf⟩ := gBind hf
          refine g_geti X hR gk_X14 2 (by decide) q974 rfl ex1010 dX14_number_79 ?_
          obtain ⟨u1011, eu1011, hf⟩ := gBind hf
          refine g_callI X hR hS [.int x1010] (m_X15_init l G F (va_up h9L n (some (.inr (13, [.null, .null, .null, .null, .null, .int 0, .int 0])))) (n + 1) n x1010 eu1011) yk_X15_init q1008 rfl hl.1 ⟨Nat.le_of_ble_eq_true rfl, Nat.le_of_ble_eq_true rfl⟩ ⟨Nat.le_of_ble_eq_true rfl, Nat.le_of_ble_eq_true rfl⟩ rfl (Nat.le_of_ble_eq_true rfl) dX14_number_82 (fun H locs hR hS => ?_)
          obtain ⟨k1012, hf⟩ := gChk hf
          obtain rfl := gO1 hf
          exact gx_fault X ht hR hS k1012 ⟨Nat.le_of_ble_eq_true rfl, Nat.le_of_ble_eq_true rfl⟩ dX14_number_85
      · replace hf := gIfn c1002 hf
        refine lv_aload_n hx hb dX14_number_20 rfl (lv_at hl 0 rfl) ?_
        obtain ⟨k1013, hf⟩ := gChk hf
        obtain ⟨u1014, eu1014, hf⟩ := gBind hf
        refine g_callVi X hR hS [] (m_X14_here l G F h9L n v9_0 eu1014) yk_X14_here q993 k1013 rfl hl.1 ⟨Nat.le_of_ble_eq_true rfl, Nat.le_of_ble_eq_true rfl⟩ ⟨Nat.le_of_ble_eq_true rfl, Nat.le_of_ble_eq_true rfl⟩ rfl (Nat.le_of_ble_eq_true rfl) dX14_number_21 (fun H locs hR hS => ?_)
        refine lv_i2l (v := u1014.toInt64) hx hb dX14_number_24 rfl ?_
        refine lv_ldc2 (v := (48 : Int64)) hx hb X.1.2.2.2.1 (X.1.2.2.2.2 _ q1044) dX14_number_25 ?_
        refine lv_ldc2 (v := (57 : Int64)) hx hb X.1.2.2.2.1 (X.1.2.2.2.2 _ q1045) dX14_number_28 ?_
        obtain ⟨u1015, eu1015, hf⟩ := gBind hf
        refine g_callSNi X hR hS [.long u1014.toInt64, .long (48 : Int64), .long (57 : Int64)] (m_X0_in l G F h9L n u1014.toInt64 (48 : Int64) (57 : Int64) eu1015) yk_X0_in q1031 rfl hl.1 ⟨Nat.le_of_ble_eq_true rfl, Nat.le_of_ble_eq_true rfl⟩ ⟨Nat.le_of_ble_eq_true rfl, Nat.le_of_ble_eq_true rfl⟩ rfl (Nat.le_of_ble_eq_true rfl) dX14_number_31 (fun H locs hR hS => ?_)
        refine lv_if_eq (tgt := 65) hx hb dX14_number_34 (by decide) (fun c1016 => ?_) (fun c1016 => ?_)
        · replace hf := gIfp c1016 hf
          refine lv_aload_n hx hb dX14_number_65 rfl (lv_at hl 0 rfl) ?_
          obtain ⟨x1017, ex1017, hf⟩ := gBind hf
          refine g_geti X hR gk_X14 2 (by decide) q974 rfl ex1017 dX14_number_66 ?_
          refine lv_iload hx hb dX14_number_69 (lv_at hl 4 rfl) ?_
          refine lv_icmp_ne (tgt := 86) hx hb dX14_number_71 (by decide) (fun c1018 => ?_) (fun c1018 => ?_)
          · replace hf := gIfn c1018 hf
            refine lv_iload hx hb dX14_number_86 (lv_at hl 5 rfl) ?_
            refine lv_i2l (v := v9_5.toInt64) hx hb dX14_number_88 rfl ?_
            refine lv_iload_n hx hb dX14_number_89 rfl (lv_at hl 2 rfl) ?_
            refine lv_i2l (v := v9_2.toInt64) hx hb dX14_number_90 rfl ?_
            refine lv_iload_n hx hb dX14_number_91 rfl (lv_at hl 3 rfl) ?_
            refine lv_i2l (v := v9_3.toInt64) hx hb dX14_number_92 rfl ?_
            obtain ⟨u1019, eu1019, hf⟩ := gBind hf
            refine g_callSNi X hR hS [.long v9_5.toInt64, .long v9_2.toInt64, .long v9_3.toInt64] (m_X0_in l G F h9L n v9_5.toInt64 v9_2.toInt64 v9_3.toInt64 eu1019) yk_X0_in q1031 rfl hl.1 ⟨Nat.le_of_ble_eq_true rfl, Nat.le_of_ble_eq_true rfl⟩ ⟨Nat.le_of_ble_eq_true rfl, Nat.le_of_ble_eq_true rfl⟩ rfl (Nat.le_of_ble_eq_true rfl) dX14_number_93 (fun H locs hR hS => ?_)
            refine lv_if_ne (tgt := 113) hx hb dX14_number_96 (by decide) (fun c1020 => ?_) (fun c1020 => ?_)
            · replace hf := gIfn c1020 hf
              refine lv_iload hx hb dX14_number_113 (lv_at hl 5 rfl) ?_
              cases hf
            · replace hf := gIfp c1020 hf
              refine g_new X hR hS gk_X15 q999 q1000 q126 [.null, .null, .null, .null, .null, .int 0, .int 0] (by decide +kernel) ⟨Nat.le_of_ble_eq_true rfl, Nat.le_of_ble_eq_true rfl⟩ dX14_number_99 (fun H hR hS => ?_)
              refine lv_dup hx hb dX14_number_102 rfl ?_
              refine lv_aload_n hx hb dX14_number_103 rfl (lv_at hl 0 rfl) ?_
              obtain ⟨x1021, ex1021, hf⟩ := gBind hf
              refine g_geti X hR gk_X14 2 (by decide) q974 rfl ex1021 dX14_number_104 ?_
              refine lv_iconst (v := (1 : Int32)) hx hb dX14_number_107 (by decide) ?_
              refine lv_isub hx hb dX14_number_108 ?_
              obtain ⟨u1022, eu1022, hf⟩ := gBind hf
              refine g_callI X hR hS [.int (x1021 - (1 : Int32))] (m_X15_init l G F (va_up h9L n (some (.inr (13, [.null, .null, .null, .null, .null, .int 0, .int 0])))) (n + 1) n (x1021 - (1 : Int32)) eu1022) yk_X15_init q1008 rfl hl.1 ⟨Nat.le_of_ble_eq_true rfl, Nat.le_of_ble_eq_true rfl⟩ ⟨Nat.le_of_ble_eq_true rfl, Nat.le_of_ble_eq_true rfl⟩ rfl (Nat.le_of_ble_eq_true rfl) dX14_number_109 (fun H locs hR hS => ?_)
              obtain ⟨k1023, hf⟩ := gChk hf
              obtain rfl := gO1 hf
              exact gx_fault X ht hR hS k1023 ⟨Nat.le_of_ble_eq_true rfl, Nat.le_of_ble_eq_true rfl⟩ dX14_number_112
          · replace hf := gIfp c1018 hf
            refine g_new X hR hS gk_X15 q999 q1000 q126 [.null, .null, .null, .null, .null, .int 0, .int 0] (by decide +kernel) ⟨Nat.le_of_ble_eq_true rfl, Nat.le_of_ble_eq_true rfl⟩ dX14_number_74 (fun H hR hS => ?_)
            refine lv_dup hx hb dX14_number_77 rfl ?_
            refine lv_aload_n hx hb dX14_number_78 rfl (lv_at hl 0 rfl) ?_
            obtain ⟨x1024, ex1024, hf⟩ := gBind hf
            refine g_geti X hR gk_X14 2 (by decide) q974 rfl ex1024 dX14_number_79 ?_
            obtain ⟨u1025, eu1025, hf⟩ := gBind hf
            refine g_callI X hR hS [.int x1024] (m_X15_init l G F (va_up h9L n (some (.inr (13, [.null, .null, .null, .null, .null, .int 0, .int 0])))) (n + 1) n x1024 eu1025) yk_X15_init q1008 rfl hl.1 ⟨Nat.le_of_ble_eq_true rfl, Nat.le_of_ble_eq_true rfl⟩ ⟨Nat.le_of_ble_eq_true rfl, Nat.le_of_ble_eq_true rfl⟩ rfl (Nat.le_of_ble_eq_true rfl) dX14_number_82 (fun H locs hR hS => ?_)
            obtain ⟨k1026, hf⟩ := gChk hf
            obtain rfl := gO1 hf
            exact gx_fault X ht hR hS k1026 ⟨Nat.le_of_ble_eq_true rfl, Nat.le_of_ble_eq_true rfl⟩ dX14_number_85
        · replace hf := gIfn c1016 hf
          refine lv_bipush (v := (10 : Int32)) hx hb dX14_number_37 (by decide) ?_
          refine lv_iload hx hb dX14_number_39 (lv_at hl 5 rfl) ?_
          refine lv_imul hx hb dX14_number_41 ?_
          refine lv_aload_n hx hb dX14_number_42 rfl (lv_at hl 0 rfl) ?_
          obtain ⟨k1027, hf⟩ := gChk hf
          obtain ⟨u1028, eu1028, hf⟩ := gBind hf
          refine g_callVi X hR hS [] (m_X14_here l G F h9L n v9_0 eu1028) yk_X14_here q993 k1027 rfl hl.1 ⟨Nat.le_of_ble_eq_true rfl, Nat.le_of_ble_eq_true rfl⟩ ⟨Nat.le_of_ble_eq_true rfl, Nat.le_of_ble_eq_true rfl⟩ rfl (Nat.le_of_ble_eq_true rfl) dX14_number_43 (fun H locs hR hS => ?_)
          refine lv_iadd hx hb dX14_number_46 ?_
          refine lv_bipush (v := (48 : Int32)) hx hb dX14_number_47 (by decide) ?_
          refine lv_isub hx hb dX14_number_49 ?_
          refine lv_istore (lv' := [(5, .int ((((10 : Int32) * v9_5) + u1028) - (48 : Int32))), (0, .ref v9_0), (1, .int v9_1), (2, .int v9_2), (3, .int v9_3), (4, .int v9_4)]) hx hb dX14_number_50 hl (by decide) rfl (fun ls hl => ?_)
          refine lv_aload_n hx hb dX14_number_52 rfl (lv_at hl 1 rfl) ?_
          refine lv_dup hx hb dX14_number_53 rfl ?_
          obtain ⟨x1029, ex1029, hf⟩ := gBind hf
          refine g_geti X hR gk_X14 2 (by decide) q974 rfl ex1029 dX14_number_54 ?_
          refine lv_iconst (v := (1 : Int32)) hx hb dX14_number_57 (by decide) ?_
          refine lv_iadd hx hb dX14_number_58 ?_
          obtain ⟨h1030, eh1030, hf⟩ := gBind hf
          refine g_put X hR hS gk_X14 2 (by decide) q974 rfl rfl eh1030 rfl rfl rfl dX14_number_59 (fun H locs hR hS => ?_)
          refine lv_goto (tgt := 9) hx hb dX14_number_62 (by decide) ?_
          exact ih h1030 v9_0 v9_1 v9_2 v9_3 v9_4 ((((10 : Int32) * v9_5) + u1028) - (48 : Int32)) _ _ _ hf hR hS (lv_sub hl [1, 2, 3, 4, 5, 0] rfl)
  exact L9_q2 F h a0 p1 p2 p3 x1 (0 : Int32) _ _ _ hf hR hS (lv_sub hl [2, 3, 4, 5, 1, 0] rfl)
def sp_X14_cell_T (G : gG) (F : Nat) (h : gH) (n : Nat) (a0 : Nat) (a1 : Nat) : Option gH :=
 if gIs 12 h a0 = true then
 (sp_X14_here G F h a0).bind fun u2 =>
 (sp_X0_in G F h u2.toInt64 (97 : Int64) (104 : Int64)).bind fun u3 =>
 if u3 = 0 then
 (gGi 12 (va_up h n (some (.inr (13, [.null, .null, .null, .null, .null, .int 0, .int 0])))) a0 2).bind fun x5 =>
 (sp_X15_init G F (va_up h n (some (.inr (13, [.null, .null, .null, .null, .null, .int 0, .int 0])))) n x5).bind fun u6 =>
 if gIs 13 u6 n = true then
 some u6 else none else
 (gGi 2 h a1 4).bind fun x8 =>
 if x8 = (8 : Int32) then
 (gGi 12 (va_up h n (some (.inr (13, [.null, .null, .null, .null, .null, .int 0, .int 0])))) a0 2).bind fun x34 =>
 (sp_X15_init G F (va_up h n (some (.inr (13, [.null, .null, .null, .null, .null, .int 0, .int 0])))) n x34).bind fun u35 =>
 if gIs 13 u35 n = true then
 some u35 else none else
 if gIs 12 h a0 = true then
 (sp_X14_here G F h a0).bind fun u11 =>
 (gGi 12 h a0 2).bind fun x12 =>
 (gPv 12 h a0 2 (.int (x12 + (1 : Int32)))).bind fun h13 =>
 if gIs 12 h13 a0 = true then
 (sp_X14_here G F h13 a0).bind fun u15 =>
 (sp_X0_in G F h13 u15.toInt64 (49 : Int64) (56 : Int64)).bind fun u16 =>
 if u16 = 0 then
 (gGi 12 (va_up h13 n (some (.inr (13, [.null, .null, .null, .null, .null, .int 0, .int 0])))) a0 2).bind fun x31 =>
 (sp_X15_init G F (va_up h13 n (some (.inr (13, [.null, .null, .null, .null, .null, .int 0, .int 0])))) n x31).bind fun u32 =>
 if gIs 13 u32 n = true then
 some u32 else none else
 if gIs 12 h13 a0 = true then
 (sp_X14_here G F h13 a0).bind fun u19 =>
 (gGr 2 h13 a1 2).bind fun x20 =>
 if gIs 14 h13 x20 = true then
 (sp_J1_get G F h13 x20 ((u11 - (97 : Int32)) + ((8 : Int32) * (u19 - (49 : Int32))))).bind fun u22 =>
 if u22 = 0 then
 (gGi 12 h13 a0 2).bind fun x24 =>
 (gPv 12 h13 a0 2 (.int (x24 + (1 : Int32)))).bind fun h25 =>
 if gIs 2 h25 a1 = true then
 (sp_X2_goesOver G F h25 a1 ((u11 - (97 : Int32)) + ((8 : Int32) * (u19 - (49 : Int32))))).bind fun u27 =>
 none else none else
 (gGi 12 (va_up h13 n (some (.inr (13, [.null, .null, .null, .null, .null, .int 0, .int 0])))) a0 2).bind fun x28 =>
 (sp_X15_init G F (va_up h13 n (some (.inr (13, [.null, .null, .null, .null, .null, .int 0, .int 0])))) n x28).bind fun u29 =>
 if gIs 13 u29 n = true then
 some u29 else none else none else none else none else none else none
set_option maxHeartbeats 8000000 in
theorem m_X14_cell_T (l : Launch) (G : gG) (F : Nat) (h : gH) (n : Nat) (a0 : Nat) (a1 : Nat) {h' : gH} (hf : sp_X14_cell_T G F h n a0 a1 = some h') : gMetT l G yX14_cell cX14_cell 4 none 5 108 1 7 [.ref a0, .ref a1] h n "SafeClears$Fault" (some n) h' := by
  refine gEnterT (by decide) [(0, .ref a0), (1, .ref a1)] rfl (Nat.le_of_ble_eq_true rfl) ?_
  intro p e s m below meth c H ls X hin hR hS hl ht
  have hx := X.1.1
  have hb := X.1.2.1
  unfold sp_X14_cell_T at hf
  generalize ([] : List Loc) = locs at hS ⊢
  refine lv_aload_n hx hb dX14_cell_0 rfl (lv_at hl 0 rfl) ?_
  obtain ⟨k1, hf⟩ := gChk hf
  obtain ⟨u2, eu2, hf⟩ := gBind hf
  refine g_callVi X hR hS [] (m_X14_here l G F h n a0 eu2) yk_X14_here q993 k1 rfl hl.1 ⟨Nat.le_of_ble_eq_true rfl, Nat.le_of_ble_eq_true rfl⟩ ⟨Nat.le_of_ble_eq_true rfl, Nat.le_of_ble_eq_true rfl⟩ rfl (Nat.le_of_ble_eq_true rfl) dX14_cell_1 (fun H locs hR hS => ?_)
  refine lv_i2l (v := u2.toInt64) hx hb dX14_cell_4 rfl ?_
  refine lv_ldc2 (v := (97 : Int64)) hx hb X.1.2.2.2.1 (X.1.2.2.2.2 _ q1029) dX14_cell_5 ?_
  refine lv_ldc2 (v := (104 : Int64)) hx hb X.1.2.2.2.1 (X.1.2.2.2.2 _ q1030) dX14_cell_8 ?_
  obtain ⟨u3, eu3, hf⟩ := gBind hf
  refine g_callSNi X hR hS [.long u2.toInt64, .long (97 : Int64), .long (104 : Int64)] (m_X0_in l G F h n u2.toInt64 (97 : Int64) (104 : Int64) eu3) yk_X0_in q1031 rfl hl.1 ⟨Nat.le_of_ble_eq_true rfl, Nat.le_of_ble_eq_true rfl⟩ ⟨Nat.le_of_ble_eq_true rfl, Nat.le_of_ble_eq_true rfl⟩ rfl (Nat.le_of_ble_eq_true rfl) dX14_cell_11 (fun H locs hR hS => ?_)
  refine lv_if_eq (tgt := 26) hx hb dX14_cell_14 (by decide) (fun c4 => ?_) (fun c4 => ?_)
  · replace hf := gIfp c4 hf
    refine g_new X hR hS gk_X15 q999 q1000 q126 [.null, .null, .null, .null, .null, .int 0, .int 0] (by decide +kernel) ⟨Nat.le_of_ble_eq_true rfl, Nat.le_of_ble_eq_true rfl⟩ dX14_cell_26 (fun H hR hS => ?_)
    refine lv_dup hx hb dX14_cell_29 rfl ?_
    refine lv_aload_n hx hb dX14_cell_30 rfl (lv_at hl 0 rfl) ?_
    obtain ⟨x5, ex5, hf⟩ := gBind hf
    refine g_geti X hR gk_X14 2 (by decide) q974 rfl ex5 dX14_cell_31 ?_
    obtain ⟨u6, eu6, hf⟩ := gBind hf
    refine g_callI X hR hS [.int x5] (m_X15_init l G F (va_up h n (some (.inr (13, [.null, .null, .null, .null, .null, .int 0, .int 0])))) (n + 1) n x5 eu6) yk_X15_init q1008 rfl hl.1 ⟨Nat.le_of_ble_eq_true rfl, Nat.le_of_ble_eq_true rfl⟩ ⟨Nat.le_of_ble_eq_true rfl, Nat.le_of_ble_eq_true rfl⟩ rfl (Nat.le_of_ble_eq_true rfl) dX14_cell_34 (fun H locs hR hS => ?_)
    obtain ⟨k7, hf⟩ := gChk hf
    obtain rfl := gO1 hf
    exact gx_fault X ht hR hS k7 ⟨Nat.le_of_ble_eq_true rfl, Nat.le_of_ble_eq_true rfl⟩ dX14_cell_37
  · replace hf := gIfn c4 hf
    refine lv_aload_n hx hb dX14_cell_17 rfl (lv_at hl 1 rfl) ?_
    obtain ⟨x8, ex8, hf⟩ := gBind hf
    refine g_getiN X hR gk_X2 4 (by decide) q524 rfl ex8 dX14_cell_18 ?_
    refine lv_bipush (v := (8 : Int32)) hx hb dX14_cell_21 (by decide) ?_
    refine lv_icmp_ne (tgt := 38) hx hb dX14_cell_23 (by decide) (fun c9 => ?_) (fun c9 => ?_)
    · replace hf := gIfn c9 hf
      refine lv_aload_n hx hb dX14_cell_38 rfl (lv_at hl 0 rfl) ?_
      obtain ⟨k10, hf⟩ := gChk hf
      obtain ⟨u11, eu11, hf⟩ := gBind hf
      refine g_callVi X hR hS [] (m_X14_here l G F h n a0 eu11) yk_X14_here q993 k10 rfl hl.1 ⟨Nat.le_of_ble_eq_true rfl, Nat.le_of_ble_eq_true rfl⟩ ⟨Nat.le_of_ble_eq_true rfl, Nat.le_of_ble_eq_true rfl⟩ rfl (Nat.le_of_ble_eq_true rfl) dX14_cell_39 (fun H locs hR hS => ?_)
      refine lv_bipush (v := (97 : Int32)) hx hb dX14_cell_42 (by decide) ?_
      refine lv_isub hx hb dX14_cell_44 ?_
      refine lv_istore_n (lv' := [(2, .int (u11 - (97 : Int32))), (0, .ref a0), (1, .ref a1)]) hx hb dX14_cell_45 rfl hl (by decide) rfl (fun ls hl => ?_)
      refine lv_aload_n hx hb dX14_cell_46 rfl (lv_at hl 1 rfl) ?_
      refine lv_dup hx hb dX14_cell_47 rfl ?_
      obtain ⟨x12, ex12, hf⟩ := gBind hf
      refine g_geti X hR gk_X14 2 (by decide) q974 rfl ex12 dX14_cell_48 ?_
      refine lv_iconst (v := (1 : Int32)) hx hb dX14_cell_51 (by decide) ?_
      refine lv_iadd hx hb dX14_cell_52 ?_
      obtain ⟨h13, eh13, hf⟩ := gBind hf
      refine g_put X hR hS gk_X14 2 (by decide) q974 rfl rfl eh13 rfl rfl rfl dX14_cell_53 (fun H locs hR hS => ?_)
      refine lv_aload_n hx hb dX14_cell_56 rfl (lv_at hl 1 rfl) ?_
      obtain ⟨k14, hf⟩ := gChk hf
      obtain ⟨u15, eu15, hf⟩ := gBind hf
      refine g_callVi X hR hS [] (m_X14_here l G F h13 n a0 eu15) yk_X14_here q993 k14 rfl hl.1 ⟨Nat.le_of_ble_eq_true rfl, Nat.le_of_ble_eq_true rfl⟩ ⟨Nat.le_of_ble_eq_true rfl, Nat.le_of_ble_eq_true rfl⟩ rfl (Nat.le_of_ble_eq_true rfl) dX14_cell_57 (fun H locs hR hS => ?_)
      refine lv_i2l (v := u15.toInt64) hx hb dX14_cell_60 rfl ?_
      refine lv_ldc2 (v := (49 : Int64)) hx hb X.1.2.2.2.1 (X.1.2.2.2.2 _ q1032) dX14_cell_61 ?_
      refine lv_ldc2 (v := (56 : Int64)) hx hb X.1.2.2.2.1 (X.1.2.2.2.2 _ q1033) dX14_cell_64 ?_
      obtain ⟨u16, eu16, hf⟩ := gBind hf
      refine g_callSNi X hR hS [.long u15.toInt64, .long (49 : Int64), .long (56 : Int64)] (m_X0_in l G F h13 n u15.toInt64 (49 : Int64) (56 : Int64) eu16) yk_X0_in q1031 rfl hl.1 ⟨Nat.le_of_ble_eq_true rfl, Nat.le_of_ble_eq_true rfl⟩ ⟨Nat.le_of_ble_eq_true rfl, Nat.le_of_ble_eq_true rfl⟩ rfl (Nat.le_of_ble_eq_true rfl) dX14_cell_67 (fun H locs hR hS => ?_)
      refine lv_if_ne (tgt := 85) hx hb dX14_cell_70 (by decide) (fun c17 => ?_) (fun c17 => ?_)
      · replace hf := gIfn c17 hf
        refine lv_iload_n hx hb dX14_cell_85 rfl (lv_at hl 0 rfl) ?_
        refine lv_bipush (v := (8 : Int32)) hx hb dX14_cell_86 (by decide) ?_
        refine lv_aload_n hx hb dX14_cell_88 rfl (lv_at hl 1 rfl) ?_
        obtain ⟨k18, hf⟩ := gChk hf
        obtain ⟨u19, eu19, hf⟩ := gBind hf
        refine g_callVi X hR hS [] (m_X14_here l G F h13 n a0 eu19) yk_X14_here q993 k18 rfl hl.1 ⟨Nat.le_of_ble_eq_true rfl, Nat.le_of_ble_eq_true rfl⟩ ⟨Nat.le_of_ble_eq_true rfl, Nat.le_of_ble_eq_true rfl⟩ rfl (Nat.le_of_ble_eq_true rfl) dX14_cell_89 (fun H locs hR hS => ?_)
        refine lv_bipush (v := (49 : Int32)) hx hb dX14_cell_92 (by decide) ?_
        refine lv_isub hx hb dX14_cell_94 ?_
        refine lv_imul hx hb dX14_cell_95 ?_
        refine lv_iadd hx hb dX14_cell_96 ?_
        refine lv_istore_n (lv' := [(3, .int ((u11 - (97 : Int32)) + ((8 : Int32) * (u19 - (49 : Int32))))), (2, .int (u11 - (97 : Int32))), (0, .ref a0), (1, .ref a1)]) hx hb dX14_cell_97 rfl hl (by decide) rfl (fun ls hl => ?_)
        refine lv_aload_n hx hb dX14_cell_98 rfl (lv_at hl 3 rfl) ?_
        obtain ⟨x20, ex20, hf⟩ := gBind hf
        refine g_getrN X hR gk_X2 2 (by decide) q516 rfl ex20 dX14_cell_99 ?_
        refine lv_iload_n hx hb dX14_cell_102 rfl (lv_at hl 0 rfl) ?_
        obtain ⟨k21, hf⟩ := gChk hf
        obtain ⟨u22, eu22, hf⟩ := gBind hf
        refine g_callVi X hR hS [.int ((u11 - (97 : Int32)) + ((8 : Int32) * (u19 - (49 : Int32))))] (m_J1_get l G F h13 n x20 ((u11 - (97 : Int32)) + ((8 : Int32) * (u19 - (49 : Int32)))) eu22) yk_J1_get q1034 k21 rfl hl.1 ⟨Nat.le_of_ble_eq_true rfl, Nat.le_of_ble_eq_true rfl⟩ ⟨Nat.le_of_ble_eq_true rfl, Nat.le_of_ble_eq_true rfl⟩ rfl (Nat.le_of_ble_eq_true rfl) dX14_cell_103 (fun H locs hR hS => ?_)
        refine lv_if_eq (tgt := 121) hx hb dX14_cell_106 (by decide) (fun c23 => ?_) (fun c23 => ?_)
        · replace hf := gIfp c23 hf
          refine lv_aload_n hx hb dX14_cell_121 rfl (lv_at hl 2 rfl) ?_
          refine lv_dup hx hb dX14_cell_122 rfl ?_
          obtain ⟨x24, ex24, hf⟩ := gBind hf
          refine g_geti X hR gk_X14 2 (by decide) q974 rfl ex24 dX14_cell_123 ?_
          refine lv_iconst (v := (1 : Int32)) hx hb dX14_cell_126 (by decide) ?_
          refine lv_iadd hx hb dX14_cell_127 ?_
          obtain ⟨h25, eh25, hf⟩ := gBind hf
          refine g_put X hR hS gk_X14 2 (by decide) q974 rfl rfl eh25 rfl rfl rfl dX14_cell_128 (fun H locs hR hS => ?_)
          refine lv_aload_n hx hb dX14_cell_131 rfl (lv_at hl 3 rfl) ?_
          refine lv_iload_n hx hb dX14_cell_132 rfl (lv_at hl 0 rfl) ?_
          obtain ⟨k26, hf⟩ := gChk hf
          obtain ⟨u27, eu27, hf⟩ := gBind hf
          refine g_callVv X hR hS [.int ((u11 - (97 : Int32)) + ((8 : Int32) * (u19 - (49 : Int32))))] (m_X2_goesOver l G F h25 n a1 ((u11 - (97 : Int32)) + ((8 : Int32) * (u19 - (49 : Int32)))) eu27) yk_X2_goesOver q1035 k26 rfl hl.1 ⟨Nat.le_of_ble_eq_true rfl, Nat.le_of_ble_eq_true rfl⟩ ⟨Nat.le_of_ble_eq_true rfl, Nat.le_of_ble_eq_true rfl⟩ rfl (Nat.le_of_ble_eq_true rfl) dX14_cell_133 (fun H locs hR hS => ?_)
          cases hf
        · replace hf := gIfn c23 hf
          refine g_new X hR hS gk_X15 q999 q1000 q126 [.null, .null, .null, .null, .null, .int 0, .int 0] (by decide +kernel) ⟨Nat.le_of_ble_eq_true rfl, Nat.le_of_ble_eq_true rfl⟩ dX14_cell_109 (fun H hR hS => ?_)
          refine lv_dup hx hb dX14_cell_112 rfl ?_
          refine lv_aload_n hx hb dX14_cell_113 rfl (lv_at hl 2 rfl) ?_
          obtain ⟨x28, ex28, hf⟩ := gBind hf
          refine g_geti X hR gk_X14 2 (by decide) q974 rfl ex28 dX14_cell_114 ?_
          obtain ⟨u29, eu29, hf⟩ := gBind hf
          refine g_callI X hR hS [.int x28] (m_X15_init l G F (va_up h13 n (some (.inr (13, [.null, .null, .null, .null, .null, .int 0, .int 0])))) (n + 1) n x28 eu29) yk_X15_init q1008 rfl hl.1 ⟨Nat.le_of_ble_eq_true rfl, Nat.le_of_ble_eq_true rfl⟩ ⟨Nat.le_of_ble_eq_true rfl, Nat.le_of_ble_eq_true rfl⟩ rfl (Nat.le_of_ble_eq_true rfl) dX14_cell_117 (fun H locs hR hS => ?_)
          obtain ⟨k30, hf⟩ := gChk hf
          obtain rfl := gO1 hf
          exact gx_fault X ht hR hS k30 ⟨Nat.le_of_ble_eq_true rfl, Nat.le_of_ble_eq_true rfl⟩ dX14_cell_120
      · replace hf := gIfp c17 hf
        refine g_new X hR hS gk_X15 q999 q1000 q126 [.null, .null, .null, .null, .null, .int 0, .int 0] (by decide +kernel) ⟨Nat.le_of_ble_eq_true rfl, Nat.le_of_ble_eq_true rfl⟩ dX14_cell_73 (fun H hR hS => ?_)
        refine lv_dup hx hb dX14_cell_76 rfl ?_
        refine lv_aload_n hx hb dX14_cell_77 rfl (lv_at hl 1 rfl) ?_
        obtain ⟨x31, ex31, hf⟩ := gBind hf
        refine g_geti X hR gk_X14 2 (by decide) q974 rfl ex31 dX14_cell_78 ?_
        obtain ⟨u32, eu32, hf⟩ := gBind hf
        refine g_callI X hR hS [.int x31] (m_X15_init l G F (va_up h13 n (some (.inr (13, [.null, .null, .null, .null, .null, .int 0, .int 0])))) (n + 1) n x31 eu32) yk_X15_init q1008 rfl hl.1 ⟨Nat.le_of_ble_eq_true rfl, Nat.le_of_ble_eq_true rfl⟩ ⟨Nat.le_of_ble_eq_true rfl, Nat.le_of_ble_eq_true rfl⟩ rfl (Nat.le_of_ble_eq_true rfl) dX14_cell_81 (fun H locs hR hS => ?_)
        obtain ⟨k33, hf⟩ := gChk hf
        obtain rfl := gO1 hf
        exact gx_fault X ht hR hS k33 ⟨Nat.le_of_ble_eq_true rfl, Nat.le_of_ble_eq_true rfl⟩ dX14_cell_84
    · replace hf := gIfp c9 hf
      refine g_new X hR hS gk_X15 q999 q1000 q126 [.null, .null, .null, .null, .null, .int 0, .int 0] (by decide +kernel) ⟨Nat.le_of_ble_eq_true rfl, Nat.le_of_ble_eq_true rfl⟩ dX14_cell_26 (fun H hR hS => ?_)
      refine lv_dup hx hb dX14_cell_29 rfl ?_
      refine lv_aload_n hx hb dX14_cell_30 rfl (lv_at hl 0 rfl) ?_
      obtain ⟨x34, ex34, hf⟩ := gBind hf
      refine g_geti X hR gk_X14 2 (by decide) q974 rfl ex34 dX14_cell_31 ?_
      obtain ⟨u35, eu35, hf⟩ := gBind hf
      refine g_callI X hR hS [.int x34] (m_X15_init l G F (va_up h n (some (.inr (13, [.null, .null, .null, .null, .null, .int 0, .int 0])))) (n + 1) n x34 eu35) yk_X15_init q1008 rfl hl.1 ⟨Nat.le_of_ble_eq_true rfl, Nat.le_of_ble_eq_true rfl⟩ ⟨Nat.le_of_ble_eq_true rfl, Nat.le_of_ble_eq_true rfl⟩ rfl (Nat.le_of_ble_eq_true rfl) dX14_cell_34 (fun H locs hR hS => ?_)
      obtain ⟨k36, hf⟩ := gChk hf
      obtain rfl := gO1 hf
      exact gx_fault X ht hR hS k36 ⟨Nat.le_of_ble_eq_true rfl, Nat.le_of_ble_eq_true rfl⟩ dX14_cell_37
def sp_X14_clause_TL70 (G : gG) (F : Nat) (n70L : Nat) : Nat → gH → Nat → Nat → Option (gH)
  | 0, _, _, _ => none
  | f + 1, h70L, v70_0, v70_2 =>
    if gIs 12 h70L v70_0 = true then
    (sp_X14_here G F h70L v70_0).bind fun u7102 =>
    (sp_X0_in G F h70L u7102.toInt64 (97 : Int64) (104 : Int64)).bind fun u7103 =>
    if u7103 = 0 then
    if gIs 12 h70L v70_0 = true then
    (sp_X14_is G F h70L v70_0 (42 : Int32)).bind fun u7106 =>
    if u7106.1 = 0 then
    if gIs 12 u7106.2 v70_0 = true then
    (sp_X14_is G F u7106.2 v70_0 (47 : Int32)).bind fun u7109 =>
    if u7109.1 = 0 then
    if gIs 12 u7109.2 v70_0 = true then
    (sp_X14_is G F u7109.2 v70_0 (126 : Int32)).bind fun u7112 =>
    if u7112.1 = 0 then
    if gIs 12 u7112.2 v70_0 = true then
    (sp_X14_is G F u7112.2 v70_0 (64 : Int32)).bind fun u7115 =>
    if u7115.1 = 0 then
    (gGi 12 u7115.2 v70_0 1).bind fun x7117 =>
    (gPv 12 u7115.2 v70_0 1 (.int (x7117 + (1 : Int32)))).bind fun h7118 =>
    none else
    (gGr 2 u7115.2 v70_2 3).bind fun x7119 =>
    if gIs 12 u7115.2 v70_0 = true then
    gOr (sp_X14_number G F u7115.2 v70_0 (2 : Int32) (0 : Int32) (60 : Int32)) (fun u7121 =>
    (gSi u7121.2 x7119 (3 : Int32) u7121.1).bind fun h7122 =>
    (gGi 12 h7122 v70_0 1).bind fun x7123 =>
    (gPv 12 h7122 v70_0 1 (.int (x7123 + (1 : Int32)))).bind fun h7124 =>
    none) (sp_X14_number_T G F u7115.2 n70L v70_0 (2 : Int32) (0 : Int32) (60 : Int32)) else none else none else
    (gGr 2 u7112.2 v70_2 3).bind fun x7125 =>
    if gIs 12 u7112.2 v70_0 = true then
    gOr (sp_X14_number G F u7112.2 v70_0 (1 : Int32) (1 : Int32) (9 : Int32)) (fun u7127 =>
    (gSi u7127.2 x7125 (2 : Int32) u7127.1).bind fun h7128 =>
    if gIs 12 h7128 v70_0 = true then
    (sp_X14_is G F h7128 v70_0 (64 : Int32)).bind fun u7130 =>
    if u7130.1 = 0 then
    (gGi 12 u7130.2 v70_0 1).bind fun x7132 =>
    (gPv 12 u7130.2 v70_0 1 (.int (x7132 + (1 : Int32)))).bind fun h7133 =>
    none else
    (gGr 2 u7130.2 v70_2 3).bind fun x7134 =>
    if gIs 12 u7130.2 v70_0 = true then
    gOr (sp_X14_number G F u7130.2 v70_0 (2 : Int32) (0 : Int32) (60 : Int32)) (fun u7136 =>
    (gSi u7136.2 x7134 (3 : Int32) u7136.1).bind fun h7137 =>
    (gGi 12 h7137 v70_0 1).bind fun x7138 =>
    (gPv 12 h7137 v70_0 1 (.int (x7138 + (1 : Int32)))).bind fun h7139 =>
    none) (sp_X14_number_T G F u7130.2 n70L v70_0 (2 : Int32) (0 : Int32) (60 : Int32)) else none else none) (sp_X14_number_T G F u7112.2 n70L v70_0 (1 : Int32) (1 : Int32) (9 : Int32)) else none else none else
    (gGr 2 u7109.2 v70_2 3).bind fun x7140 =>
    if gIs 2 u7109.2 v70_2 = true then
    (sp_X2_least G F u7109.2 v70_2).bind fun u7142 =>
    if gIs 12 u7109.2 v70_0 = true then
    gOr (sp_X14_number G F u7109.2 v70_0 (2 : Int32) u7142 (99 : Int32)) (fun u7144 =>
    (gSi u7144.2 x7140 (1 : Int32) u7144.1).bind fun h7145 =>
    if gIs 12 h7145 v70_0 = true then
    (sp_X14_is G F h7145 v70_0 (126 : Int32)).bind fun u7147 =>
    if u7147.1 = 0 then
    if gIs 12 u7147.2 v70_0 = true then
    (sp_X14_is G F u7147.2 v70_0 (64 : Int32)).bind fun u7150 =>
    if u7150.1 = 0 then
    (gGi 12 u7150.2 v70_0 1).bind fun x7152 =>
    (gPv 12 u7150.2 v70_0 1 (.int (x7152 + (1 : Int32)))).bind fun h7153 =>
    none else
    (gGr 2 u7150.2 v70_2 3).bind fun x7154 =>
    if gIs 12 u7150.2 v70_0 = true then
    gOr (sp_X14_number G F u7150.2 v70_0 (2 : Int32) (0 : Int32) (60 : Int32)) (fun u7156 =>
    (gSi u7156.2 x7154 (3 : Int32) u7156.1).bind fun h7157 =>
    (gGi 12 h7157 v70_0 1).bind fun x7158 =>
    (gPv 12 h7157 v70_0 1 (.int (x7158 + (1 : Int32)))).bind fun h7159 =>
    none) (sp_X14_number_T G F u7150.2 n70L v70_0 (2 : Int32) (0 : Int32) (60 : Int32)) else none else none else
    (gGr 2 u7147.2 v70_2 3).bind fun x7160 =>
    if gIs 12 u7147.2 v70_0 = true then
    gOr (sp_X14_number G F u7147.2 v70_0 (1 : Int32) (1 : Int32) (9 : Int32)) (fun u7162 =>
    (gSi u7162.2 x7160 (2 : Int32) u7162.1).bind fun h7163 =>
    if gIs 12 h7163 v70_0 = true then
    (sp_X14_is G F h7163 v70_0 (64 : Int32)).bind fun u7165 =>
    if u7165.1 = 0 then
    (gGi 12 u7165.2 v70_0 1).bind fun x7167 =>
    (gPv 12 u7165.2 v70_0 1 (.int (x7167 + (1 : Int32)))).bind fun h7168 =>
    none else
    (gGr 2 u7165.2 v70_2 3).bind fun x7169 =>
    if gIs 12 u7165.2 v70_0 = true then
    gOr (sp_X14_number G F u7165.2 v70_0 (2 : Int32) (0 : Int32) (60 : Int32)) (fun u7171 =>
    (gSi u7171.2 x7169 (3 : Int32) u7171.1).bind fun h7172 =>
    (gGi 12 h7172 v70_0 1).bind fun x7173 =>
    (gPv 12 h7172 v70_0 1 (.int (x7173 + (1 : Int32)))).bind fun h7174 =>
    none) (sp_X14_number_T G F u7165.2 n70L v70_0 (2 : Int32) (0 : Int32) (60 : Int32)) else none else none) (sp_X14_number_T G F u7147.2 n70L v70_0 (1 : Int32) (1 : Int32) (9 : Int32)) else none else none) (sp_X14_number_T G F u7109.2 n70L v70_0 (2 : Int32) u7142 (99 : Int32)) else none else none else none else
    (gGr 2 u7106.2 v70_2 3).bind fun x7175 =>
    if gIs 12 u7106.2 v70_0 = true then
    gOr (sp_X14_number G F u7106.2 v70_0 (2 : Int32) (1 : Int32) (20 : Int32)) (fun u7177 =>
    (gSi u7177.2 x7175 (0 : Int32) u7177.1).bind fun h7178 =>
    if gIs 12 h7178 v70_0 = true then
    (sp_X14_is G F h7178 v70_0 (47 : Int32)).bind fun u7180 =>
    if u7180.1 = 0 then
    if gIs 12 u7180.2 v70_0 = true then
    (sp_X14_is G F u7180.2 v70_0 (126 : Int32)).bind fun u7183 =>
    if u7183.1 = 0 then
    if gIs 12 u7183.2 v70_0 = true then
    (sp_X14_is G F u7183.2 v70_0 (64 : Int32)).bind fun u7186 =>
    if u7186.1 = 0 then
    (gGi 12 u7186.2 v70_0 1).bind fun x7188 =>
    (gPv 12 u7186.2 v70_0 1 (.int (x7188 + (1 : Int32)))).bind fun h7189 =>
    none else
    (gGr 2 u7186.2 v70_2 3).bind fun x7190 =>
    if gIs 12 u7186.2 v70_0 = true then
    gOr (sp_X14_number G F u7186.2 v70_0 (2 : Int32) (0 : Int32) (60 : Int32)) (fun u7192 =>
    (gSi u7192.2 x7190 (3 : Int32) u7192.1).bind fun h7193 =>
    (gGi 12 h7193 v70_0 1).bind fun x7194 =>
    (gPv 12 h7193 v70_0 1 (.int (x7194 + (1 : Int32)))).bind fun h7195 =>
    none) (sp_X14_number_T G F u7186.2 n70L v70_0 (2 : Int32) (0 : Int32) (60 : Int32)) else none else none else
    (gGr 2 u7183.2 v70_2 3).bind fun x7196 =>
    if gIs 12 u7183.2 v70_0 = true then
    gOr (sp_X14_number G F u7183.2 v70_0 (1 : Int32) (1 : Int32) (9 : Int32)) (fun u7198 =>
    (gSi u7198.2 x7196 (2 : Int32) u7198.1).bind fun h7199 =>
    if gIs 12 h7199 v70_0 = true then
    (sp_X14_is G F h7199 v70_0 (64 : Int32)).bind fun u7201 =>
    if u7201.1 = 0 then
    (gGi 12 u7201.2 v70_0 1).bind fun x7203 =>
    (gPv 12 u7201.2 v70_0 1 (.int (x7203 + (1 : Int32)))).bind fun h7204 =>
    none else
    (gGr 2 u7201.2 v70_2 3).bind fun x7205 =>
    if gIs 12 u7201.2 v70_0 = true then
    gOr (sp_X14_number G F u7201.2 v70_0 (2 : Int32) (0 : Int32) (60 : Int32)) (fun u7207 =>
    (gSi u7207.2 x7205 (3 : Int32) u7207.1).bind fun h7208 =>
    (gGi 12 h7208 v70_0 1).bind fun x7209 =>
    (gPv 12 h7208 v70_0 1 (.int (x7209 + (1 : Int32)))).bind fun h7210 =>
    none) (sp_X14_number_T G F u7201.2 n70L v70_0 (2 : Int32) (0 : Int32) (60 : Int32)) else none else none) (sp_X14_number_T G F u7183.2 n70L v70_0 (1 : Int32) (1 : Int32) (9 : Int32)) else none else none else
    (gGr 2 u7180.2 v70_2 3).bind fun x7211 =>
    if gIs 2 u7180.2 v70_2 = true then
    (sp_X2_least G F u7180.2 v70_2).bind fun u7213 =>
    if gIs 12 u7180.2 v70_0 = true then
    gOr (sp_X14_number G F u7180.2 v70_0 (2 : Int32) u7213 (99 : Int32)) (fun u7215 =>
    (gSi u7215.2 x7211 (1 : Int32) u7215.1).bind fun h7216 =>
    if gIs 12 h7216 v70_0 = true then
    (sp_X14_is G F h7216 v70_0 (126 : Int32)).bind fun u7218 =>
    if u7218.1 = 0 then
    if gIs 12 u7218.2 v70_0 = true then
    (sp_X14_is G F u7218.2 v70_0 (64 : Int32)).bind fun u7221 =>
    if u7221.1 = 0 then
    (gGi 12 u7221.2 v70_0 1).bind fun x7223 =>
    (gPv 12 u7221.2 v70_0 1 (.int (x7223 + (1 : Int32)))).bind fun h7224 =>
    none else
    (gGr 2 u7221.2 v70_2 3).bind fun x7225 =>
    if gIs 12 u7221.2 v70_0 = true then
    gOr (sp_X14_number G F u7221.2 v70_0 (2 : Int32) (0 : Int32) (60 : Int32)) (fun u7227 =>
    (gSi u7227.2 x7225 (3 : Int32) u7227.1).bind fun h7228 =>
    (gGi 12 h7228 v70_0 1).bind fun x7229 =>
    (gPv 12 h7228 v70_0 1 (.int (x7229 + (1 : Int32)))).bind fun h7230 =>
    none) (sp_X14_number_T G F u7221.2 n70L v70_0 (2 : Int32) (0 : Int32) (60 : Int32)) else none else none else
    (gGr 2 u7218.2 v70_2 3).bind fun x7231 =>
    if gIs 12 u7218.2 v70_0 = true then
    gOr (sp_X14_number G F u7218.2 v70_0 (1 : Int32) (1 : Int32) (9 : Int32)) (fun u7233 =>
    (gSi u7233.2 x7231 (2 : Int32) u7233.1).bind fun h7234 =>
    if gIs 12 h7234 v70_0 = true then
    (sp_X14_is G F h7234 v70_0 (64 : Int32)).bind fun u7236 =>
    if u7236.1 = 0 then
    (gGi 12 u7236.2 v70_0 1).bind fun x7238 =>
    (gPv 12 u7236.2 v70_0 1 (.int (x7238 + (1 : Int32)))).bind fun h7239 =>
    none else
    (gGr 2 u7236.2 v70_2 3).bind fun x7240 =>
    if gIs 12 u7236.2 v70_0 = true then
    gOr (sp_X14_number G F u7236.2 v70_0 (2 : Int32) (0 : Int32) (60 : Int32)) (fun u7242 =>
    (gSi u7242.2 x7240 (3 : Int32) u7242.1).bind fun h7243 =>
    (gGi 12 h7243 v70_0 1).bind fun x7244 =>
    (gPv 12 h7243 v70_0 1 (.int (x7244 + (1 : Int32)))).bind fun h7245 =>
    none) (sp_X14_number_T G F u7236.2 n70L v70_0 (2 : Int32) (0 : Int32) (60 : Int32)) else none else none) (sp_X14_number_T G F u7218.2 n70L v70_0 (1 : Int32) (1 : Int32) (9 : Int32)) else none else none) (sp_X14_number_T G F u7180.2 n70L v70_0 (2 : Int32) u7213 (99 : Int32)) else none else none else none) (sp_X14_number_T G F u7106.2 n70L v70_0 (2 : Int32) (1 : Int32) (20 : Int32)) else none else none else
    if gIs 12 h70L v70_0 = true then
    gOr (sp_X14_cell G F h70L v70_0 v70_2) (fun u7247 =>
    sp_X14_clause_TL70 G F n70L f u7247 v70_0 v70_2) (sp_X14_cell_T G F h70L n70L v70_0 v70_2) else none else none
def sp_X14_clause_T (G : gG) (F : Nat) (h : gH) (n : Nat) (a0 : Nat) : Option gH :=
 if gIs 12 h a0 = true then
 (sp_X14_here G F h a0).bind fun u2 =>
 if 0 ≤ u2 then
 if gIs 12 h a0 = true then
 (sp_X14_here G F h a0).bind fun u5 =>
 (gTab 4 u5).bind fun x6 =>
 if x6 = (-1 : Int32) then
 (gGi 12 (va_up h n (some (.inr (13, [.null, .null, .null, .null, .null, .int 0, .int 0])))) a0 2).bind fun x19 =>
 (sp_X15_init G F (va_up h n (some (.inr (13, [.null, .null, .null, .null, .null, .int 0, .int 0])))) n x19).bind fun u20 =>
 if gIs 13 u20 n = true then
 some u20 else none else
 (gGi 12 h a0 2).bind fun x8 =>
 (gPv 12 h a0 2 (.int (x8 + (1 : Int32)))).bind fun h9 =>
 (gGr 12 h9 a0 0).bind fun x10 =>
 (gGi 12 h9 a0 1).bind fun x11 =>
 (gAr 5 h9 x10 x11).bind fun a12 =>
 (sp_X3_of G F h9 x6).bind fun u13 =>
 if gIs 2 h9 a12 = true then
 (sp_X2_begins G F h9 a12 u13).bind fun u15 =>
 if gIs 12 u15 a0 = true then
 gOr (sp_X14_cell G F u15 a0 a12) (fun u17 =>
 sp_X14_clause_TL70 G F n F u17 a0 a12) (sp_X14_cell_T G F u15 n a0 a12) else none else none else none else
 (gGi 12 (va_up h n (some (.inr (13, [.null, .null, .null, .null, .null, .int 0, .int 0])))) a0 2).bind fun x22 =>
 (sp_X15_init G F (va_up h n (some (.inr (13, [.null, .null, .null, .null, .null, .int 0, .int 0])))) n x22).bind fun u23 =>
 if gIs 13 u23 n = true then
 some u23 else none else none
set_option maxHeartbeats 8000000 in
theorem m_X14_clause_T (l : Launch) (G : gG) (F : Nat) (h : gH) (n : Nat) (a0 : Nat) {h' : gH} (hf : sp_X14_clause_T G F h n a0 = some h') : gMetT l G yX14_clause cX14_clause 3 none 6 131 1 7 [.ref a0] h n "SafeClears$Fault" (some n) h' := by
  refine gEnterT (by decide) [(0, .ref a0)] rfl (Nat.le_of_ble_eq_true rfl) ?_
  intro p e s m below meth c H ls X hin hR hS hl ht
  have hx := X.1.1
  have hb := X.1.2.1
  unfold sp_X14_clause_T at hf
  generalize ([] : List Loc) = locs at hS ⊢
  refine lv_aload_n hx hb dX14_clause_0 rfl (lv_at hl 0 rfl) ?_
  obtain ⟨k1, hf⟩ := gChk hf
  obtain ⟨u2, eu2, hf⟩ := gBind hf
  refine g_callVi X hR hS [] (m_X14_here l G F h n a0 eu2) yk_X14_here q993 k1 rfl hl.1 ⟨Nat.le_of_ble_eq_true rfl, Nat.le_of_ble_eq_true rfl⟩ ⟨Nat.le_of_ble_eq_true rfl, Nat.le_of_ble_eq_true rfl⟩ rfl (Nat.le_of_ble_eq_true rfl) dX14_clause_1 (fun H locs hR hS => ?_)
  refine lv_if_ge (tgt := 11) hx hb dX14_clause_4 (by decide) (fun c3 => ?_) (fun c3 => ?_)
  · replace hf := gIfp c3 hf
    refine g_stab4 X hS q997 dX14_clause_11 ?_
    refine lv_aload_n hx hb dX14_clause_14 rfl (lv_at hl 0 rfl) ?_
    obtain ⟨k4, hf⟩ := gChk hf
    obtain ⟨u5, eu5, hf⟩ := gBind hf
    refine g_callVi X hR hS [] (m_X14_here l G F h n a0 eu5) yk_X14_here q993 k4 rfl hl.1 ⟨Nat.le_of_ble_eq_true rfl, Nat.le_of_ble_eq_true rfl⟩ ⟨Nat.le_of_ble_eq_true rfl, Nat.le_of_ble_eq_true rfl⟩ rfl (Nat.le_of_ble_eq_true rfl) dX14_clause_15 (fun H locs hR hS => ?_)
    obtain ⟨x6, ex6, hf⟩ := gBind hf
    refine g_tab4 X hS ex6 dX14_clause_18 ?_
    refine lv_istore_n (lv' := [(1, .int x6), (0, .ref a0)]) hx hb dX14_clause_19 rfl hl (by decide) rfl (fun ls hl => ?_)
    refine lv_iload_n hx hb dX14_clause_20 rfl (lv_at hl 0 rfl) ?_
    refine lv_iconst (v := (-1 : Int32)) hx hb dX14_clause_21 (by decide) ?_
    refine lv_icmp_ne (tgt := 37) hx hb dX14_clause_22 (by decide) (fun c7 => ?_) (fun c7 => ?_)
    · replace hf := gIfn c7 hf
      refine lv_aload_n hx hb dX14_clause_37 rfl (lv_at hl 1 rfl) ?_
      refine lv_dup hx hb dX14_clause_38 rfl ?_
      obtain ⟨x8, ex8, hf⟩ := gBind hf
      refine g_geti X hR gk_X14 2 (by decide) q974 rfl ex8 dX14_clause_39 ?_
      refine lv_iconst (v := (1 : Int32)) hx hb dX14_clause_42 (by decide) ?_
      refine lv_iadd hx hb dX14_clause_43 ?_
      obtain ⟨h9, eh9, hf⟩ := gBind hf
      refine g_put X hR hS gk_X14 2 (by decide) q974 rfl rfl eh9 rfl rfl rfl dX14_clause_44 (fun H locs hR hS => ?_)
      refine lv_aload_n hx hb dX14_clause_47 rfl (lv_at hl 1 rfl) ?_
      obtain ⟨x10, ex10, hf⟩ := gBind hf
      refine g_getr X hR gk_X14 0 (by decide) q970 rfl ex10 dX14_clause_48 ?_
      refine lv_aload_n hx hb dX14_clause_51 rfl (lv_at hl 1 rfl) ?_
      obtain ⟨x11, ex11, hf⟩ := gBind hf
      refine g_geti X hR gk_X14 1 (by decide) q972 rfl ex11 dX14_clause_52 ?_
      obtain ⟨a12, ea12, hf⟩ := gBind hf
      refine g_aald X hR 5 (by decide) rfl ea12 dX14_clause_55 ?_
      refine lv_astore_n (lv' := [(2, .ref a12), (1, .int x6), (0, .ref a0)]) hx hb dX14_clause_56 rfl hl (by decide) rfl (fun ls hl => ?_)
      refine lv_aload_n hx hb dX14_clause_57 rfl (lv_at hl 0 rfl) ?_
      refine lv_iload_n hx hb dX14_clause_58 rfl (lv_at hl 1 rfl) ?_
      obtain ⟨u13, eu13, hf⟩ := gBind hf
      refine g_callSr X hR hS [.int x6] (m_X3_of l G F h9 n x6 eu13) yk_X3_of q1023 rfl hl.1 ⟨Nat.le_of_ble_eq_true rfl, Nat.le_of_ble_eq_true rfl⟩ ⟨Nat.le_of_ble_eq_true rfl, Nat.le_of_ble_eq_true rfl⟩ rfl (Nat.le_of_ble_eq_true rfl) dX14_clause_59 (fun H locs hR hS => ?_)
      obtain ⟨k14, hf⟩ := gChk hf
      obtain ⟨u15, eu15, hf⟩ := gBind hf
      refine g_callVv X hR hS [.ref u13] (m_X2_begins l G F h9 n a12 u13 eu15) yk_X2_begins q1024 k14 rfl hl.1 ⟨Nat.le_of_ble_eq_true rfl, Nat.le_of_ble_eq_true rfl⟩ ⟨Nat.le_of_ble_eq_true rfl, Nat.le_of_ble_eq_true rfl⟩ rfl (Nat.le_of_ble_eq_true rfl) dX14_clause_62 (fun H locs hR hS => ?_)
      refine lv_aload_n hx hb dX14_clause_65 rfl (lv_at hl 2 rfl) ?_
      refine lv_aload_n hx hb dX14_clause_66 rfl (lv_at hl 0 rfl) ?_
      obtain ⟨k16, hf⟩ := gChk hf
      rcases gOr_spec hf with ⟨u17, eu17, hf⟩ | hf
      · refine g_callVv X hR hS [.ref a12] (m_X14_cell l G F u15 n a0 a12 eu17) yk_X14_cell q1025 k16 rfl hl.1 ⟨Nat.le_of_ble_eq_true rfl, Nat.le_of_ble_eq_true rfl⟩ ⟨Nat.le_of_ble_eq_true rfl, Nat.le_of_ble_eq_true rfl⟩ rfl (Nat.le_of_ble_eq_true rfl) dX14_clause_67 (fun H locs hR hS => ?_)
        have L70_q18 : ∀ (f : Nat) (h70L : gH) (v70_0 : Nat) (v70_2 : Nat) (H : Heap) (locs : List Loc) (ls : Array Slot), sp_X14_clause_TL70 G F n f h70L v70_0 v70_2 = some h' → gRep G h70L n H → va_S (gFr G) s.heap H locs → lv_has ls 3 [(0, .ref v70_0), (2, .ref v70_2)] → W p l e ({ frames := 6, cells := 1, slots := 7, locals := 131 } : Room) s m ([.ref a0] : List Value).toArray below meth c H locs 0 0 (gMQT below G "SafeClears$Fault" (some n) h' ([.ref a0] : List Value).toArray s 1 7) (F0 m 70 ls []) := by
          clear hf
          intro f
          induction f with
          | zero =>
            intro h70L v70_0 v70_2 H locs ls hf
            cases hf
          | succ f ih =>
            intro h70L v70_0 v70_2 H locs ls hf hR hS hl
            rw [sp_X14_clause_TL70] at hf
            refine lv_aload_n hx hb dX14_clause_70 rfl (lv_at hl 0 rfl) ?_
            obtain ⟨k7101, hf⟩ := gChk hf
            obtain ⟨u7102, eu7102, hf⟩ := gBind hf
            refine g_callVi X hR hS [] (m_X14_here l G F h70L n v70_0 eu7102) yk_X14_here q993 k7101 rfl hl.1 ⟨Nat.le_of_ble_eq_true rfl, Nat.le_of_ble_eq_true rfl⟩ ⟨Nat.le_of_ble_eq_true rfl, Nat.le_of_ble_eq_true rfl⟩ rfl (Nat.le_of_ble_eq_true rfl) dX14_clause_71 (fun H locs hR hS => ?_)
            refine lv_i2l (v := u7102.toInt64) hx hb dX14_clause_74 rfl ?_
            refine lv_ldc2 (v := (97 : Int64)) hx hb X.1.2.2.2.1 (X.1.2.2.2.2 _ q1029) dX14_clause_75 ?_
            refine lv_ldc2 (v := (104 : Int64)) hx hb X.1.2.2.2.1 (X.1.2.2.2.2 _ q1030) dX14_clause_78 ?_
            obtain ⟨u7103, eu7103, hf⟩ := gBind hf
            refine g_callSNi X hR hS [.long u7102.toInt64, .long (97 : Int64), .long (104 : Int64)] (m_X0_in l G F h70L n u7102.toInt64 (97 : Int64) (104 : Int64) eu7103) yk_X0_in q1031 rfl hl.1 ⟨Nat.le_of_ble_eq_true rfl, Nat.le_of_ble_eq_true rfl⟩ ⟨Nat.le_of_ble_eq_true rfl, Nat.le_of_ble_eq_true rfl⟩ rfl (Nat.le_of_ble_eq_true rfl) dX14_clause_81 (fun H locs hR hS => ?_)
            refine lv_if_eq (tgt := 95) hx hb dX14_clause_84 (by decide) (fun c7104 => ?_) (fun c7104 => ?_)
            · replace hf := gIfp c7104 hf
              refine lv_aload_n hx hb dX14_clause_95 rfl (lv_at hl 0 rfl) ?_
              refine lv_bipush (v := (42 : Int32)) hx hb dX14_clause_96 (by decide) ?_
              obtain ⟨k7105, hf⟩ := gChk hf
              obtain ⟨u7106, eu7106, hf⟩ := gBind hf
              refine g_callVi X hR hS [.int (42 : Int32)] (m_X14_is l G F h70L n v70_0 (42 : Int32) eu7106) yk_X14_is q1036 k7105 rfl hl.1 ⟨Nat.le_of_ble_eq_true rfl, Nat.le_of_ble_eq_true rfl⟩ ⟨Nat.le_of_ble_eq_true rfl, Nat.le_of_ble_eq_true rfl⟩ rfl (Nat.le_of_ble_eq_true rfl) dX14_clause_98 (fun H locs hR hS => ?_)
              refine lv_if_eq (tgt := 118) hx hb dX14_clause_101 (by decide) (fun c7107 => ?_) (fun c7107 => ?_)
              · replace hf := gIfp c7107 hf
                refine lv_aload_n hx hb dX14_clause_118 rfl (lv_at hl 0 rfl) ?_
                refine lv_bipush (v := (47 : Int32)) hx hb dX14_clause_119 (by decide) ?_
                obtain ⟨k7108, hf⟩ := gChk hf
                obtain ⟨u7109, eu7109, hf⟩ := gBind hf
                refine g_callVi X hR hS [.int (47 : Int32)] (m_X14_is l G F u7106.2 n v70_0 (47 : Int32) eu7109) yk_X14_is q1036 k7108 rfl hl.1 ⟨Nat.le_of_ble_eq_true rfl, Nat.le_of_ble_eq_true rfl⟩ ⟨Nat.le_of_ble_eq_true rfl, Nat.le_of_ble_eq_true rfl⟩ rfl (Nat.le_of_ble_eq_true rfl) dX14_clause_121 (fun H locs hR hS => ?_)
                refine lv_if_eq (tgt := 144) hx hb dX14_clause_124 (by decide) (fun c7110 => ?_) (fun c7110 => ?_)
                · replace hf := gIfp c7110 hf
                  refine lv_aload_n hx hb dX14_clause_144 rfl (lv_at hl 0 rfl) ?_
                  refine lv_bipush (v := (126 : Int32)) hx hb dX14_clause_145 (by decide) ?_
                  obtain ⟨k7111, hf⟩ := gChk hf
                  obtain ⟨u7112, eu7112, hf⟩ := gBind hf
                  refine g_callVi X hR hS [.int (126 : Int32)] (m_X14_is l G F u7109.2 n v70_0 (126 : Int32) eu7112) yk_X14_is q1036 k7111 rfl hl.1 ⟨Nat.le_of_ble_eq_true rfl, Nat.le_of_ble_eq_true rfl⟩ ⟨Nat.le_of_ble_eq_true rfl, Nat.le_of_ble_eq_true rfl⟩ rfl (Nat.le_of_ble_eq_true rfl) dX14_clause_147 (fun H locs hR hS => ?_)
                  refine lv_if_eq (tgt := 167) hx hb dX14_clause_150 (by decide) (fun c7113 => ?_) (fun c7113 => ?_)
                  · replace hf := gIfp c7113 hf
                    refine lv_aload_n hx hb dX14_clause_167 rfl (lv_at hl 0 rfl) ?_
                    refine lv_bipush (v := (64 : Int32)) hx hb dX14_clause_168 (by decide) ?_
                    obtain ⟨k7114, hf⟩ := gChk hf
                    obtain ⟨u7115, eu7115, hf⟩ := gBind hf
                    refine g_callVi X hR hS [.int (64 : Int32)] (m_X14_is l G F u7112.2 n v70_0 (64 : Int32) eu7115) yk_X14_is q1036 k7114 rfl hl.1 ⟨Nat.le_of_ble_eq_true rfl, Nat.le_of_ble_eq_true rfl⟩ ⟨Nat.le_of_ble_eq_true rfl, Nat.le_of_ble_eq_true rfl⟩ rfl (Nat.le_of_ble_eq_true rfl) dX14_clause_170 (fun H locs hR hS => ?_)
                    refine lv_if_eq (tgt := 190) hx hb dX14_clause_173 (by decide) (fun c7116 => ?_) (fun c7116 => ?_)
                    · replace hf := gIfp c7116 hf
                      refine lv_aload_n hx hb dX14_clause_190 rfl (lv_at hl 0 rfl) ?_
                      refine lv_dup hx hb dX14_clause_191 rfl ?_
                      obtain ⟨x7117, ex7117, hf⟩ := gBind hf
                      refine g_geti X hR gk_X14 1 (by decide) q972 rfl ex7117 dX14_clause_192 ?_
                      refine lv_iconst (v := (1 : Int32)) hx hb dX14_clause_195 (by decide) ?_
                      refine lv_iadd hx hb dX14_clause_196 ?_
                      obtain ⟨h7118, eh7118, hf⟩ := gBind hf
                      refine g_put X hR hS gk_X14 1 (by decide) q972 rfl rfl eh7118 rfl rfl rfl dX14_clause_197 (fun H locs hR hS => ?_)
                      cases hf
                    · replace hf := gIfn c7116 hf
                      refine lv_aload_n hx hb dX14_clause_176 rfl (lv_at hl 1 rfl) ?_
                      obtain ⟨x7119, ex7119, hf⟩ := gBind hf
                      refine g_getrN X hR gk_X2 3 (by decide) q519 rfl ex7119 dX14_clause_177 ?_
                      refine lv_iconst (v := (3 : Int32)) hx hb dX14_clause_180 (by decide) ?_
                      refine lv_aload_n hx hb dX14_clause_181 rfl (lv_at hl 0 rfl) ?_
                      refine lv_iconst (v := (2 : Int32)) hx hb dX14_clause_182 (by decide) ?_
                      refine lv_iconst (v := (0 : Int32)) hx hb dX14_clause_183 (by decide) ?_
                      refine lv_bipush (v := (60 : Int32)) hx hb dX14_clause_184 (by decide) ?_
                      obtain ⟨k7120, hf⟩ := gChk hf
                      rcases gOr_spec hf with ⟨u7121, eu7121, hf⟩ | hf
                      · refine g_callVi X hR hS [.int (2 : Int32), .int (0 : Int32), .int (60 : Int32)] (m_X14_number l G F u7115.2 n v70_0 (2 : Int32) (0 : Int32) (60 : Int32) eu7121) yk_X14_number q1040 k7120 rfl hl.1 ⟨Nat.le_of_ble_eq_true rfl, Nat.le_of_ble_eq_true rfl⟩ ⟨Nat.le_of_ble_eq_true rfl, Nat.le_of_ble_eq_true rfl⟩ rfl (Nat.le_of_ble_eq_true rfl) dX14_clause_186 (fun H locs hR hS => ?_)
                        obtain ⟨h7122, eh7122, hf⟩ := gBind hf
                        refine g_iast X hR hS eh7122 dX14_clause_189 (fun H locs hR hS => ?_)
                        refine lv_aload_n hx hb dX14_clause_190 rfl (lv_at hl 0 rfl) ?_
                        refine lv_dup hx hb dX14_clause_191 rfl ?_
                        obtain ⟨x7123, ex7123, hf⟩ := gBind hf
                        refine g_geti X hR gk_X14 1 (by decide) q972 rfl ex7123 dX14_clause_192 ?_
                        refine lv_iconst (v := (1 : Int32)) hx hb dX14_clause_195 (by decide) ?_
                        refine lv_iadd hx hb dX14_clause_196 ?_
                        obtain ⟨h7124, eh7124, hf⟩ := gBind hf
                        refine g_put X hR hS gk_X14 1 (by decide) q972 rfl rfl eh7124 rfl rfl rfl dX14_clause_197 (fun H locs hR hS => ?_)
                        cases hf
                      · exact g_callT X hR hS [.int (2 : Int32), .int (0 : Int32), .int (60 : Int32)] (m_X14_number_T l G F u7115.2 n v70_0 (2 : Int32) (0 : Int32) (60 : Int32) hf) yk_X14_number q1040 k7120 rfl hl.1 ⟨Nat.le_of_ble_eq_true rfl, Nat.le_of_ble_eq_true rfl⟩ ⟨Nat.le_of_ble_eq_true rfl, Nat.le_of_ble_eq_true rfl⟩ rfl (Nat.le_of_ble_eq_true rfl) dX14_clause_186 (fun q n1 ce H locs hq hR hS h1 h2 h3 => gx_out X ht hq hR hS h1 h2 h3 ⟨Nat.le_of_ble_eq_true rfl, Nat.le_of_ble_eq_true rfl⟩)
                  · replace hf := gIfn c7113 hf
                    refine lv_aload_n hx hb dX14_clause_153 rfl (lv_at hl 1 rfl) ?_
                    obtain ⟨x7125, ex7125, hf⟩ := gBind hf
                    refine g_getrN X hR gk_X2 3 (by decide) q519 rfl ex7125 dX14_clause_154 ?_
                    refine lv_iconst (v := (2 : Int32)) hx hb dX14_clause_157 (by decide) ?_
                    refine lv_aload_n hx hb dX14_clause_158 rfl (lv_at hl 0 rfl) ?_
                    refine lv_iconst (v := (1 : Int32)) hx hb dX14_clause_159 (by decide) ?_
                    refine lv_iconst (v := (1 : Int32)) hx hb dX14_clause_160 (by decide) ?_
                    refine lv_bipush (v := (9 : Int32)) hx hb dX14_clause_161 (by decide) ?_
                    obtain ⟨k7126, hf⟩ := gChk hf
                    rcases gOr_spec hf with ⟨u7127, eu7127, hf⟩ | hf
                    · refine g_callVi X hR hS [.int (1 : Int32), .int (1 : Int32), .int (9 : Int32)] (m_X14_number l G F u7112.2 n v70_0 (1 : Int32) (1 : Int32) (9 : Int32) eu7127) yk_X14_number q1040 k7126 rfl hl.1 ⟨Nat.le_of_ble_eq_true rfl, Nat.le_of_ble_eq_true rfl⟩ ⟨Nat.le_of_ble_eq_true rfl, Nat.le_of_ble_eq_true rfl⟩ rfl (Nat.le_of_ble_eq_true rfl) dX14_clause_163 (fun H locs hR hS => ?_)
                      obtain ⟨h7128, eh7128, hf⟩ := gBind hf
                      refine g_iast X hR hS eh7128 dX14_clause_166 (fun H locs hR hS => ?_)
                      refine lv_aload_n hx hb dX14_clause_167 rfl (lv_at hl 0 rfl) ?_
                      refine lv_bipush (v := (64 : Int32)) hx hb dX14_clause_168 (by decide) ?_
                      obtain ⟨k7129, hf⟩ := gChk hf
                      obtain ⟨u7130, eu7130, hf⟩ := gBind hf
                      refine g_callVi X hR hS [.int (64 : Int32)] (m_X14_is l G F h7128 n v70_0 (64 : Int32) eu7130) yk_X14_is q1036 k7129 rfl hl.1 ⟨Nat.le_of_ble_eq_true rfl, Nat.le_of_ble_eq_true rfl⟩ ⟨Nat.le_of_ble_eq_true rfl, Nat.le_of_ble_eq_true rfl⟩ rfl (Nat.le_of_ble_eq_true rfl) dX14_clause_170 (fun H locs hR hS => ?_)
                      refine lv_if_eq (tgt := 190) hx hb dX14_clause_173 (by decide) (fun c7131 => ?_) (fun c7131 => ?_)
                      · replace hf := gIfp c7131 hf
                        refine lv_aload_n hx hb dX14_clause_190 rfl (lv_at hl 0 rfl) ?_
                        refine lv_dup hx hb dX14_clause_191 rfl ?_
                        obtain ⟨x7132, ex7132, hf⟩ := gBind hf
                        refine g_geti X hR gk_X14 1 (by decide) q972 rfl ex7132 dX14_clause_192 ?_
                        refine lv_iconst (v := (1 : Int32)) hx hb dX14_clause_195 (by decide) ?_
                        refine lv_iadd hx hb dX14_clause_196 ?_
                        obtain ⟨h7133, eh7133, hf⟩ := gBind hf
                        refine g_put X hR hS gk_X14 1 (by decide) q972 rfl rfl eh7133 rfl rfl rfl dX14_clause_197 (fun H locs hR hS => ?_)
                        cases hf
                      · replace hf := gIfn c7131 hf
                        refine lv_aload_n hx hb dX14_clause_176 rfl (lv_at hl 1 rfl) ?_
                        obtain ⟨x7134, ex7134, hf⟩ := gBind hf
                        refine g_getrN X hR gk_X2 3 (by decide) q519 rfl ex7134 dX14_clause_177 ?_
                        refine lv_iconst (v := (3 : Int32)) hx hb dX14_clause_180 (by decide) ?_
                        refine lv_aload_n hx hb dX14_clause_181 rfl (lv_at hl 0 rfl) ?_
                        refine lv_iconst (v := (2 : Int32)) hx hb dX14_clause_182 (by decide) ?_
                        refine lv_iconst (v := (0 : Int32)) hx hb dX14_clause_183 (by decide) ?_
                        refine lv_bipush (v := (60 : Int32)) hx hb dX14_clause_184 (by decide) ?_
                        obtain ⟨k7135, hf⟩ := gChk hf
                        rcases gOr_spec hf with ⟨u7136, eu7136, hf⟩ | hf
                        · refine g_callVi X hR hS [.int (2 : Int32), .int (0 : Int32), .int (60 : Int32)] (m_X14_number l G F u7130.2 n v70_0 (2 : Int32) (0 : Int32) (60 : Int32) eu7136) yk_X14_number q1040 k7135 rfl hl.1 ⟨Nat.le_of_ble_eq_true rfl, Nat.le_of_ble_eq_true rfl⟩ ⟨Nat.le_of_ble_eq_true rfl, Nat.le_of_ble_eq_true rfl⟩ rfl (Nat.le_of_ble_eq_true rfl) dX14_clause_186 (fun H locs hR hS => ?_)
                          obtain ⟨h7137, eh7137, hf⟩ := gBind hf
                          refine g_iast X hR hS eh7137 dX14_clause_189 (fun H locs hR hS => ?_)
                          refine lv_aload_n hx hb dX14_clause_190 rfl (lv_at hl 0 rfl) ?_
                          refine lv_dup hx hb dX14_clause_191 rfl ?_
                          obtain ⟨x7138, ex7138, hf⟩ := gBind hf
                          refine g_geti X hR gk_X14 1 (by decide) q972 rfl ex7138 dX14_clause_192 ?_
                          refine lv_iconst (v := (1 : Int32)) hx hb dX14_clause_195 (by decide) ?_
                          refine lv_iadd hx hb dX14_clause_196 ?_
                          obtain ⟨h7139, eh7139, hf⟩ := gBind hf
                          refine g_put X hR hS gk_X14 1 (by decide) q972 rfl rfl eh7139 rfl rfl rfl dX14_clause_197 (fun H locs hR hS => ?_)
                          cases hf
                        · exact g_callT X hR hS [.int (2 : Int32), .int (0 : Int32), .int (60 : Int32)] (m_X14_number_T l G F u7130.2 n v70_0 (2 : Int32) (0 : Int32) (60 : Int32) hf) yk_X14_number q1040 k7135 rfl hl.1 ⟨Nat.le_of_ble_eq_true rfl, Nat.le_of_ble_eq_true rfl⟩ ⟨Nat.le_of_ble_eq_true rfl, Nat.le_of_ble_eq_true rfl⟩ rfl (Nat.le_of_ble_eq_true rfl) dX14_clause_186 (fun q n1 ce H locs hq hR hS h1 h2 h3 => gx_out X ht hq hR hS h1 h2 h3 ⟨Nat.le_of_ble_eq_true rfl, Nat.le_of_ble_eq_true rfl⟩)
                    · exact g_callT X hR hS [.int (1 : Int32), .int (1 : Int32), .int (9 : Int32)] (m_X14_number_T l G F u7112.2 n v70_0 (1 : Int32) (1 : Int32) (9 : Int32) hf) yk_X14_number q1040 k7126 rfl hl.1 ⟨Nat.le_of_ble_eq_true rfl, Nat.le_of_ble_eq_true rfl⟩ ⟨Nat.le_of_ble_eq_true rfl, Nat.le_of_ble_eq_true rfl⟩ rfl (Nat.le_of_ble_eq_true rfl) dX14_clause_163 (fun q n1 ce H locs hq hR hS h1 h2 h3 => gx_out X ht hq hR hS h1 h2 h3 ⟨Nat.le_of_ble_eq_true rfl, Nat.le_of_ble_eq_true rfl⟩)
                · replace hf := gIfn c7110 hf
                  refine lv_aload_n hx hb dX14_clause_127 rfl (lv_at hl 1 rfl) ?_
                  obtain ⟨x7140, ex7140, hf⟩ := gBind hf
                  refine g_getrN X hR gk_X2 3 (by decide) q519 rfl ex7140 dX14_clause_128 ?_
                  refine lv_iconst (v := (1 : Int32)) hx hb dX14_clause_131 (by decide) ?_
                  refine lv_aload_n hx hb dX14_clause_132 rfl (lv_at hl 0 rfl) ?_
                  refine lv_iconst (v := (2 : Int32)) hx hb dX14_clause_133 (by decide) ?_
                  refine lv_aload_n hx hb dX14_clause_134 rfl (lv_at hl 1 rfl) ?_
                  obtain ⟨k7141, hf⟩ := gChk hf
                  obtain ⟨u7142, eu7142, hf⟩ := gBind hf
                  refine g_callVi X hR hS [] (m_X2_least l G F u7109.2 n v70_2 eu7142) yk_X2_least q1046 k7141 rfl hl.1 ⟨Nat.le_of_ble_eq_true rfl, Nat.le_of_ble_eq_true rfl⟩ ⟨Nat.le_of_ble_eq_true rfl, Nat.le_of_ble_eq_true rfl⟩ rfl (Nat.le_of_ble_eq_true rfl) dX14_clause_135 (fun H locs hR hS => ?_)
                  refine lv_bipush (v := (99 : Int32)) hx hb dX14_clause_138 (by decide) ?_
                  obtain ⟨k7143, hf⟩ := gChk hf
                  rcases gOr_spec hf with ⟨u7144, eu7144, hf⟩ | hf
                  · refine g_callVi X hR hS [.int (2 : Int32), .int u7142, .int (99 : Int32)] (m_X14_number l G F u7109.2 n v70_0 (2 : Int32) u7142 (99 : Int32) eu7144) yk_X14_number q1040 k7143 rfl hl.1 ⟨Nat.le_of_ble_eq_true rfl, Nat.le_of_ble_eq_true rfl⟩ ⟨Nat.le_of_ble_eq_true rfl, Nat.le_of_ble_eq_true rfl⟩ rfl (Nat.le_of_ble_eq_true rfl) dX14_clause_140 (fun H locs hR hS => ?_)
                    obtain ⟨h7145, eh7145, hf⟩ := gBind hf
                    refine g_iast X hR hS eh7145 dX14_clause_143 (fun H locs hR hS => ?_)
                    refine lv_aload_n hx hb dX14_clause_144 rfl (lv_at hl 0 rfl) ?_
                    refine lv_bipush (v := (126 : Int32)) hx hb dX14_clause_145 (by decide) ?_
                    obtain ⟨k7146, hf⟩ := gChk hf
                    obtain ⟨u7147, eu7147, hf⟩ := gBind hf
                    refine g_callVi X hR hS [.int (126 : Int32)] (m_X14_is l G F h7145 n v70_0 (126 : Int32) eu7147) yk_X14_is q1036 k7146 rfl hl.1 ⟨Nat.le_of_ble_eq_true rfl, Nat.le_of_ble_eq_true rfl⟩ ⟨Nat.le_of_ble_eq_true rfl, Nat.le_of_ble_eq_true rfl⟩ rfl (Nat.le_of_ble_eq_true rfl) dX14_clause_147 (fun H locs hR hS => ?_)
                    refine lv_if_eq (tgt := 167) hx hb dX14_clause_150 (by decide) (fun c7148 => ?_) (fun c7148 => ?_)
                    · replace hf := gIfp c7148 hf
                      refine lv_aload_n hx hb dX14_clause_167 rfl (lv_at hl 0 rfl) ?_
                      refine lv_bipush (v := (64 : Int32)) hx hb dX14_clause_168 (by decide) ?_
                      obtain ⟨k7149, hf⟩ := gChk hf
                      obtain ⟨u7150, eu7150, hf⟩ := gBind hf
                      refine g_callVi X hR hS [.int (64 : Int32)] (m_X14_is l G F u7147.2 n v70_0 (64 : Int32) eu7150) yk_X14_is q1036 k7149 rfl hl.1 ⟨Nat.le_of_ble_eq_true rfl, Nat.le_of_ble_eq_true rfl⟩ ⟨Nat.le_of_ble_eq_true rfl, Nat.le_of_ble_eq_true rfl⟩ rfl (Nat.le_of_ble_eq_true rfl) dX14_clause_170 (fun H locs hR hS => ?_)
                      refine lv_if_eq (tgt := 190) hx hb dX14_clause_173 (by decide) (fun c7151 => ?_) (fun c7151 => ?_)
                      · replace hf := gIfp c7151 hf
                        refine lv_aload_n hx hb dX14_clause_190 rfl (lv_at hl 0 rfl) ?_
                        refine lv_dup hx hb dX14_clause_191 rfl ?_
                        obtain ⟨x7152, ex7152, hf⟩ := gBind hf
                        refine g_geti X hR gk_X14 1 (by decide) q972 rfl ex7152 dX14_clause_192 ?_
                        refine lv_iconst (v := (1 : Int32)) hx hb dX14_clause_195 (by decide) ?_
                        refine lv_iadd hx hb dX14_clause_196 ?_
                        obtain ⟨h7153, eh7153, hf⟩ := gBind hf
                        refine g_put X hR hS gk_X14 1 (by decide) q972 rfl rfl eh7153 rfl rfl rfl dX14_clause_197 (fun H locs hR hS => ?_)
                        cases hf
                      · replace hf := gIfn c7151 hf
                        refine lv_aload_n hx hb dX14_clause_176 rfl (lv_at hl 1 rfl) ?_
                        obtain ⟨x7154, ex7154, hf⟩ := gBind hf
                        refine g_getrN X hR gk_X2 3 (by decide) q519 rfl ex7154 dX14_clause_177 ?_
                        refine lv_iconst (v := (3 : Int32)) hx hb dX14_clause_180 (by decide) ?_
                        refine lv_aload_n hx hb dX14_clause_181 rfl (lv_at hl 0 rfl) ?_
                        refine lv_iconst (v := (2 : Int32)) hx hb dX14_clause_182 (by decide) ?_
                        refine lv_iconst (v := (0 : Int32)) hx hb dX14_clause_183 (by decide) ?_
                        refine lv_bipush (v := (60 : Int32)) hx hb dX14_clause_184 (by decide) ?_
                        obtain ⟨k7155, hf⟩ := gChk hf
                        rcases gOr_spec hf with ⟨u7156, eu7156, hf⟩ | hf
                        · refine g_callVi X hR hS [.int (2 : Int32), .int (0 : Int32), .int (60 : Int32)] (m_X14_number l G F u7150.2 n v70_0 (2 : Int32) (0 : Int32) (60 : Int32) eu7156) yk_X14_number q1040 k7155 rfl hl.1 ⟨Nat.le_of_ble_eq_true rfl, Nat.le_of_ble_eq_true rfl⟩ ⟨Nat.le_of_ble_eq_true rfl, Nat.le_of_ble_eq_true rfl⟩ rfl (Nat.le_of_ble_eq_true rfl) dX14_clause_186 (fun H locs hR hS => ?_)
                          obtain ⟨h7157, eh7157, hf⟩ := gBind hf
                          refine g_iast X hR hS eh7157 dX14_clause_189 (fun H locs hR hS => ?_)
                          refine lv_aload_n hx hb dX14_clause_190 rfl (lv_at hl 0 rfl) ?_
                          refine lv_dup hx hb dX14_clause_191 rfl ?_
                          obtain ⟨x7158, ex7158, hf⟩ := gBind hf
                          refine g_geti X hR gk_X14 1 (by decide) q972 rfl ex7158 dX14_clause_192 ?_
                          refine lv_iconst (v := (1 : Int32)) hx hb dX14_clause_195 (by decide) ?_
                          refine lv_iadd hx hb dX14_clause_196 ?_
                          obtain ⟨h7159, eh7159, hf⟩ := gBind hf
                          refine g_put X hR hS gk_X14 1 (by decide) q972 rfl rfl eh7159 rfl rfl rfl dX14_clause_197 (fun H locs hR hS => ?_)
                          cases hf
                        · exact g_callT X hR hS [.int (2 : Int32), .int (0 : Int32), .int (60 : Int32)] (m_X14_number_T l G F u7150.2 n v70_0 (2 : Int32) (0 : Int32) (60 : Int32) hf) yk_X14_number q1040 k7155 rfl hl.1 ⟨Nat.le_of_ble_eq_true rfl, Nat.le_of_ble_eq_true rfl⟩ ⟨Nat.le_of_ble_eq_true rfl, Nat.le_of_ble_eq_true rfl⟩ rfl (Nat.le_of_ble_eq_true rfl) dX14_clause_186 (fun q n1 ce H locs hq hR hS h1 h2 h3 => gx_out X ht hq hR hS h1 h2 h3 ⟨Nat.le_of_ble_eq_true rfl, Nat.le_of_ble_eq_true rfl⟩)
                    · replace hf := gIfn c7148 hf
                      refine lv_aload_n hx hb dX14_clause_153 rfl (lv_at hl 1 rfl) ?_
                      obtain ⟨x7160, ex7160, hf⟩ := gBind hf
                      refine g_getrN X hR gk_X2 3 (by decide) q519 rfl ex7160 dX14_clause_154 ?_
                      refine lv_iconst (v := (2 : Int32)) hx hb dX14_clause_157 (by decide) ?_
                      refine lv_aload_n hx hb dX14_clause_158 rfl (lv_at hl 0 rfl) ?_
                      refine lv_iconst (v := (1 : Int32)) hx hb dX14_clause_159 (by decide) ?_
                      refine lv_iconst (v := (1 : Int32)) hx hb dX14_clause_160 (by decide) ?_
                      refine lv_bipush (v := (9 : Int32)) hx hb dX14_clause_161 (by decide) ?_
                      obtain ⟨k7161, hf⟩ := gChk hf
                      rcases gOr_spec hf with ⟨u7162, eu7162, hf⟩ | hf
                      · refine g_callVi X hR hS [.int (1 : Int32), .int (1 : Int32), .int (9 : Int32)] (m_X14_number l G F u7147.2 n v70_0 (1 : Int32) (1 : Int32) (9 : Int32) eu7162) yk_X14_number q1040 k7161 rfl hl.1 ⟨Nat.le_of_ble_eq_true rfl, Nat.le_of_ble_eq_true rfl⟩ ⟨Nat.le_of_ble_eq_true rfl, Nat.le_of_ble_eq_true rfl⟩ rfl (Nat.le_of_ble_eq_true rfl) dX14_clause_163 (fun H locs hR hS => ?_)
                        obtain ⟨h7163, eh7163, hf⟩ := gBind hf
                        refine g_iast X hR hS eh7163 dX14_clause_166 (fun H locs hR hS => ?_)
                        refine lv_aload_n hx hb dX14_clause_167 rfl (lv_at hl 0 rfl) ?_
                        refine lv_bipush (v := (64 : Int32)) hx hb dX14_clause_168 (by decide) ?_
                        obtain ⟨k7164, hf⟩ := gChk hf
                        obtain ⟨u7165, eu7165, hf⟩ := gBind hf
                        refine g_callVi X hR hS [.int (64 : Int32)] (m_X14_is l G F h7163 n v70_0 (64 : Int32) eu7165) yk_X14_is q1036 k7164 rfl hl.1 ⟨Nat.le_of_ble_eq_true rfl, Nat.le_of_ble_eq_true rfl⟩ ⟨Nat.le_of_ble_eq_true rfl, Nat.le_of_ble_eq_true rfl⟩ rfl (Nat.le_of_ble_eq_true rfl) dX14_clause_170 (fun H locs hR hS => ?_)
                        refine lv_if_eq (tgt := 190) hx hb dX14_clause_173 (by decide) (fun c7166 => ?_) (fun c7166 => ?_)
                        · replace hf := gIfp c7166 hf
                          refine lv_aload_n hx hb dX14_clause_190 rfl (lv_at hl 0 rfl) ?_
                          refine lv_dup hx hb dX14_clause_191 rfl ?_
                          obtain ⟨x7167, ex7167, hf⟩ := gBind hf
                          refine g_geti X hR gk_X14 1 (by decide) q972 rfl ex7167 dX14_clause_192 ?_
                          refine lv_iconst (v := (1 : Int32)) hx hb dX14_clause_195 (by decide) ?_
                          refine lv_iadd hx hb dX14_clause_196 ?_
                          obtain ⟨h7168, eh7168, hf⟩ := gBind hf
                          refine g_put X hR hS gk_X14 1 (by decide) q972 rfl rfl eh7168 rfl rfl rfl dX14_clause_197 (fun H locs hR hS => ?_)
                          cases hf
                        · replace hf := gIfn c7166 hf
                          refine lv_aload_n hx hb dX14_clause_176 rfl (lv_at hl 1 rfl) ?_
                          obtain ⟨x7169, ex7169, hf⟩ := gBind hf
                          refine g_getrN X hR gk_X2 3 (by decide) q519 rfl ex7169 dX14_clause_177 ?_
                          refine lv_iconst (v := (3 : Int32)) hx hb dX14_clause_180 (by decide) ?_
                          refine lv_aload_n hx hb dX14_clause_181 rfl (lv_at hl 0 rfl) ?_
                          refine lv_iconst (v := (2 : Int32)) hx hb dX14_clause_182 (by decide) ?_
                          refine lv_iconst (v := (0 : Int32)) hx hb dX14_clause_183 (by decide) ?_
                          refine lv_bipush (v := (60 : Int32)) hx hb dX14_clause_184 (by decide) ?_
                          obtain ⟨k7170, hf⟩ := gChk hf
                          rcases gOr_spec hf with ⟨u7171, eu7171, hf⟩ | hf
                          · refine g_callVi X hR hS [.int (2 : Int32), .int (0 : Int32), .int (60 : Int32)] (m_X14_number l G F u7165.2 n v70_0 (2 : Int32) (0 : Int32) (60 : Int32) eu7171) yk_X14_number q1040 k7170 rfl hl.1 ⟨Nat.le_of_ble_eq_true rfl, Nat.le_of_ble_eq_true rfl⟩ ⟨Nat.le_of_ble_eq_true rfl, Nat.le_of_ble_eq_true rfl⟩ rfl (Nat.le_of_ble_eq_true rfl) dX14_clause_186 (fun H locs hR hS => ?_)
                            obtain ⟨h7172, eh7172, hf⟩ := gBind hf
                            refine g_iast X hR hS eh7172 dX14_clause_189 (fun H locs hR hS => ?_)
                            refine lv_aload_n hx hb dX14_clause_190 rfl (lv_at hl 0 rfl) ?_
                            refine lv_dup hx hb dX14_clause_191 rfl ?_
                            obtain ⟨x7173, ex7173, hf⟩ := gBind hf
                            refine g_geti X hR gk_X14 1 (by decide) q972 rfl ex7173 dX14_clause_192 ?_
                            refine lv_iconst (v := (1 : Int32)) hx hb dX14_clause_195 (by decide) ?_
                            refine lv_iadd hx hb dX14_clause_196 ?_
                            obtain ⟨h7174, eh7174, hf⟩ := gBind hf
                            refine g_put X hR hS gk_X14 1 (by decide) q972 rfl rfl eh7174 rfl rfl rfl dX14_clause_197 (fun H locs hR hS => ?_)
                            cases hf
                          · exact g_callT X hR hS [.int (2 : Int32), .int (0 : Int32), .int (60 : Int32)] (m_X14_number_T l G F u7165.2 n v70_0 (2 : Int32) (0 : Int32) (60 : Int32) hf) yk_X14_number q1040 k7170 rfl hl.1 ⟨Nat.le_of_ble_eq_true rfl, Nat.le_of_ble_eq_true rfl⟩ ⟨Nat.le_of_ble_eq_true rfl, Nat.le_of_ble_eq_true rfl⟩ rfl (Nat.le_of_ble_eq_true rfl) dX14_clause_186 (fun q n1 ce H locs hq hR hS h1 h2 h3 => gx_out X ht hq hR hS h1 h2 h3 ⟨Nat.le_of_ble_eq_true rfl, Nat.le_of_ble_eq_true rfl⟩)
                      · exact g_callT X hR hS [.int (1 : Int32), .int (1 : Int32), .int (9 : Int32)] (m_X14_number_T l G F u7147.2 n v70_0 (1 : Int32) (1 : Int32) (9 : Int32) hf) yk_X14_number q1040 k7161 rfl hl.1 ⟨Nat.le_of_ble_eq_true rfl, Nat.le_of_ble_eq_true rfl⟩ ⟨Nat.le_of_ble_eq_true rfl, Nat.le_of_ble_eq_true rfl⟩ rfl (Nat.le_of_ble_eq_true rfl) dX14_clause_163 (fun q n1 ce H locs hq hR hS h1 h2 h3 => gx_out X ht hq hR hS h1 h2 h3 ⟨Nat.le_of_ble_eq_true rfl, Nat.le_of_ble_eq_true rfl⟩)
                  · exact g_callT X hR hS [.int (2 : Int32), .int u7142, .int (99 : Int32)] (m_X14_number_T l G F u7109.2 n v70_0 (2 : Int32) u7142 (99 : Int32) hf) yk_X14_number q1040 k7143 rfl hl.1 ⟨Nat.le_of_ble_eq_true rfl, Nat.le_of_ble_eq_true rfl⟩ ⟨Nat.le_of_ble_eq_true rfl, Nat.le_of_ble_eq_true rfl⟩ rfl (Nat.le_of_ble_eq_true rfl) dX14_clause_140 (fun q n1 ce H locs hq hR hS h1 h2 h3 => gx_out X ht hq hR hS h1 h2 h3 ⟨Nat.le_of_ble_eq_true rfl, Nat.le_of_ble_eq_true rfl⟩)
              · replace hf := gIfn c7107 hf
                refine lv_aload_n hx hb dX14_clause_104 rfl (lv_at hl 1 rfl) ?_
                obtain ⟨x7175, ex7175, hf⟩ := gBind hf
                refine g_getrN X hR gk_X2 3 (by decide) q519 rfl ex7175 dX14_clause_105 ?_
                refine lv_iconst (v := (0 : Int32)) hx hb dX14_clause_108 (by decide) ?_
                refine lv_aload_n hx hb dX14_clause_109 rfl (lv_at hl 0 rfl) ?_
                refine lv_iconst (v := (2 : Int32)) hx hb dX14_clause_110 (by decide) ?_
                refine lv_iconst (v := (1 : Int32)) hx hb dX14_clause_111 (by decide) ?_
                refine lv_bipush (v := (20 : Int32)) hx hb dX14_clause_112 (by decide) ?_
                obtain ⟨k7176, hf⟩ := gChk hf
                rcases gOr_spec hf with ⟨u7177, eu7177, hf⟩ | hf
                · refine g_callVi X hR hS [.int (2 : Int32), .int (1 : Int32), .int (20 : Int32)] (m_X14_number l G F u7106.2 n v70_0 (2 : Int32) (1 : Int32) (20 : Int32) eu7177) yk_X14_number q1040 k7176 rfl hl.1 ⟨Nat.le_of_ble_eq_true rfl, Nat.le_of_ble_eq_true rfl⟩ ⟨Nat.le_of_ble_eq_true rfl, Nat.le_of_ble_eq_true rfl⟩ rfl (Nat.le_of_ble_eq_true rfl) dX14_clause_114 (fun H locs hR hS => ?_)
                  obtain ⟨h7178, eh7178, hf⟩ := gBind hf
                  refine g_iast X hR hS eh7178 dX14_clause_117 (fun H locs hR hS => ?_)
                  refine lv_aload_n hx hb dX14_clause_118 rfl (lv_at hl 0 rfl) ?_
                  refine lv_bipush (v := (47 : Int32)) hx hb dX14_clause_119 (by decide) ?_
                  obtain ⟨k7179, hf⟩ := gChk hf
                  obtain ⟨u7180, eu7180, hf⟩ := gBind hf
                  refine g_callVi X hR hS [.int (47 : Int32)] (m_X14_is l G F h7178 n v70_0 (47 : Int32) eu7180) yk_X14_is q1036 k7179 rfl hl.1 ⟨Nat.le_of_ble_eq_true rfl, Nat.le_of_ble_eq_true rfl⟩ ⟨Nat.le_of_ble_eq_true rfl, Nat.le_of_ble_eq_true rfl⟩ rfl (Nat.le_of_ble_eq_true rfl) dX14_clause_121 (fun H locs hR hS => ?_)
                  refine lv_if_eq (tgt := 144) hx hb dX14_clause_124 (by decide) (fun c7181 => ?_) (fun c7181 => ?_)
                  · replace hf := gIfp c7181 hf
                    refine lv_aload_n hx hb dX14_clause_144 rfl (lv_at hl 0 rfl) ?_
                    refine lv_bipush (v := (126 : Int32)) hx hb dX14_clause_145 (by decide) ?_
                    obtain ⟨k7182, hf⟩ := gChk hf
                    obtain ⟨u7183, eu7183, hf⟩ := gBind hf
                    refine g_callVi X hR hS [.int (126 : Int32)] (m_X14_is l G F u7180.2 n v70_0 (126 : Int32) eu7183) yk_X14_is q1036 k7182 rfl hl.1 ⟨Nat.le_of_ble_eq_true rfl, Nat.le_of_ble_eq_true rfl⟩ ⟨Nat.le_of_ble_eq_true rfl, Nat.le_of_ble_eq_true rfl⟩ rfl (Nat.le_of_ble_eq_true rfl) dX14_clause_147 (fun H locs hR hS => ?_)
                    refine lv_if_eq (tgt := 167) hx hb dX14_clause_150 (by decide) (fun c7184 => ?_) (fun c7184 => ?_)
                    · replace hf := gIfp c7184 hf
                      refine lv_aload_n hx hb dX14_clause_167 rfl (lv_at hl 0 rfl) ?_
                      refine lv_bipush (v := (64 : Int32)) hx hb dX14_clause_168 (by decide) ?_
                      obtain ⟨k7185, hf⟩ := gChk hf
                      obtain ⟨u7186, eu7186, hf⟩ := gBind hf
                      refine g_callVi X hR hS [.int (64 : Int32)] (m_X14_is l G F u7183.2 n v70_0 (64 : Int32) eu7186) yk_X14_is q1036 k7185 rfl hl.1 ⟨Nat.le_of_ble_eq_true rfl, Nat.le_of_ble_eq_true rfl⟩ ⟨Nat.le_of_ble_eq_true rfl, Nat.le_of_ble_eq_true rfl⟩ rfl (Nat.le_of_ble_eq_true rfl) dX14_clause_170 (fun H locs hR hS => ?_)
                      refine lv_if_eq (tgt := 190) hx hb dX14_clause_173 (by decide) (fun c7187 => ?_) (fun c7187 => ?_)
                      · replace hf := gIfp c7187 hf
                        refine lv_aload_n hx hb dX14_clause_190 rfl (lv_at hl 0 rfl) ?_
                        refine lv_dup hx hb dX14_clause_191 rfl ?_
                        obtain ⟨x7188, ex7188, hf⟩ := gBind hf
                        refine g_geti X hR gk_X14 1 (by decide) q972 rfl ex7188 dX14_clause_192 ?_
                        refine lv_iconst (v := (1 : Int32)) hx hb dX14_clause_195 (by decide) ?_
                        refine lv_iadd hx hb dX14_clause_196 ?_
                        obtain ⟨h7189, eh7189, hf⟩ := gBind hf
                        refine g_put X hR hS gk_X14 1 (by decide) q972 rfl rfl eh7189 rfl rfl rfl dX14_clause_197 (fun H locs hR hS => ?_)
                        cases hf
                      · replace hf := gIfn c7187 hf
                        refine lv_aload_n hx hb dX14_clause_176 rfl (lv_at hl 1 rfl) ?_
                        obtain ⟨x7190, ex7190, hf⟩ := gBind hf
                        refine g_getrN X hR gk_X2 3 (by decide) q519 rfl ex7190 dX14_clause_177 ?_
                        refine lv_iconst (v := (3 : Int32)) hx hb dX14_clause_180 (by decide) ?_
                        refine lv_aload_n hx hb dX14_clause_181 rfl (lv_at hl 0 rfl) ?_
                        refine lv_iconst (v := (2 : Int32)) hx hb dX14_clause_182 (by decide) ?_
                        refine lv_iconst (v := (0 : Int32)) hx hb dX14_clause_183 (by decide) ?_
                        refine lv_bipush (v := (60 : Int32)) hx hb dX14_clause_184 (by decide) ?_
                        obtain ⟨k7191, hf⟩ := gChk hf
                        rcases gOr_spec hf with ⟨u7192, eu7192, hf⟩ | hf
                        · refine g_callVi X hR hS [.int (2 : Int32), .int (0 : Int32), .int (60 : Int32)] (m_X14_number l G F u7186.2 n v70_0 (2 : Int32) (0 : Int32) (60 : Int32) eu7192) yk_X14_number q1040 k7191 rfl hl.1 ⟨Nat.le_of_ble_eq_true rfl, Nat.le_of_ble_eq_true rfl⟩ ⟨Nat.le_of_ble_eq_true rfl, Nat.le_of_ble_eq_true rfl⟩ rfl (Nat.le_of_ble_eq_true rfl) dX14_clause_186 (fun H locs hR hS => ?_)
                          obtain ⟨h7193, eh7193, hf⟩ := gBind hf
                          refine g_iast X hR hS eh7193 dX14_clause_189 (fun H locs hR hS => ?_)
                          refine lv_aload_n hx hb dX14_clause_190 rfl (lv_at hl 0 rfl) ?_
                          refine lv_dup hx hb dX14_clause_191 rfl ?_
                          obtain ⟨x7194, ex7194, hf⟩ := gBind hf
                          refine g_geti X hR gk_X14 1 (by decide) q972 rfl ex7194 dX14_clause_192 ?_
                          refine lv_iconst (v := (1 : Int32)) hx hb dX14_clause_195 (by decide) ?_
                          refine lv_iadd hx hb dX14_clause_196 ?_
                          obtain ⟨h7195, eh7195, hf⟩ := gBind hf
                          refine g_put X hR hS gk_X14 1 (by decide) q972 rfl rfl eh7195 rfl rfl rfl dX14_clause_197 (fun H locs hR hS => ?_)
                          cases hf
                        · exact g_callT X hR hS [.int (2 : Int32), .int (0 : Int32), .int (60 : Int32)] (m_X14_number_T l G F u7186.2 n v70_0 (2 : Int32) (0 : Int32) (60 : Int32) hf) yk_X14_number q1040 k7191 rfl hl.1 ⟨Nat.le_of_ble_eq_true rfl, Nat.le_of_ble_eq_true rfl⟩ ⟨Nat.le_of_ble_eq_true rfl, Nat.le_of_ble_eq_true rfl⟩ rfl (Nat.le_of_ble_eq_true rfl) dX14_clause_186 (fun q n1 ce H locs hq hR hS h1 h2 h3 => gx_out X ht hq hR hS h1 h2 h3 ⟨Nat.le_of_ble_eq_true rfl, Nat.le_of_ble_eq_true rfl⟩)
                    · replace hf := gIfn c7184 hf
                      refine lv_aload_n hx hb dX14_clause_153 rfl (lv_at hl 1 rfl) ?_
                      obtain ⟨x7196, ex7196, hf⟩ := gBind hf
                      refine g_getrN X hR gk_X2 3 (by decide) q519 rfl ex7196 dX14_clause_154 ?_
                      refine lv_iconst (v := (2 : Int32)) hx hb dX14_clause_157 (by decide) ?_
                      refine lv_aload_n hx hb dX14_clause_158 rfl (lv_at hl 0 rfl) ?_
                      refine lv_iconst (v := (1 : Int32)) hx hb dX14_clause_159 (by decide) ?_
                      refine lv_iconst (v := (1 : Int32)) hx hb dX14_clause_160 (by decide) ?_
                      refine lv_bipush (v := (9 : Int32)) hx hb dX14_clause_161 (by decide) ?_
                      obtain ⟨k7197, hf⟩ := gChk hf
                      rcases gOr_spec hf with ⟨u7198, eu7198, hf⟩ | hf
                      · refine g_callVi X hR hS [.int (1 : Int32), .int (1 : Int32), .int (9 : Int32)] (m_X14_number l G F u7183.2 n v70_0 (1 : Int32) (1 : Int32) (9 : Int32) eu7198) yk_X14_number q1040 k7197 rfl hl.1 ⟨Nat.le_of_ble_eq_true rfl, Nat.le_of_ble_eq_true rfl⟩ ⟨Nat.le_of_ble_eq_true rfl, Nat.le_of_ble_eq_true rfl⟩ rfl (Nat.le_of_ble_eq_true rfl) dX14_clause_163 (fun H locs hR hS => ?_)
                        obtain ⟨h7199, eh7199, hf⟩ := gBind hf
                        refine g_iast X hR hS eh7199 dX14_clause_166 (fun H locs hR hS => ?_)
                        refine lv_aload_n hx hb dX14_clause_167 rfl (lv_at hl 0 rfl) ?_
                        refine lv_bipush (v := (64 : Int32)) hx hb dX14_clause_168 (by decide) ?_
                        obtain ⟨k7200, hf⟩ := gChk hf
                        obtain ⟨u7201, eu7201, hf⟩ := gBind hf
                        refine g_callVi X hR hS [.int (64 : Int32)] (m_X14_is l G F h7199 n v70_0 (64 : Int32) eu7201) yk_X14_is q1036 k7200 rfl hl.1 ⟨Nat.le_of_ble_eq_true rfl, Nat.le_of_ble_eq_true rfl⟩ ⟨Nat.le_of_ble_eq_true rfl, Nat.le_of_ble_eq_true rfl⟩ rfl (Nat.le_of_ble_eq_true rfl) dX14_clause_170 (fun H locs hR hS => ?_)
                        refine lv_if_eq (tgt := 190) hx hb dX14_clause_173 (by decide) (fun c7202 => ?_) (fun c7202 => ?_)
                        · replace hf := gIfp c7202 hf
                          refine lv_aload_n hx hb dX14_clause_190 rfl (lv_at hl 0 rfl) ?_
                          refine lv_dup hx hb dX14_clause_191 rfl ?_
                          obtain ⟨x7203, ex7203, hf⟩ := gBind hf
                          refine g_geti X hR gk_X14 1 (by decide) q972 rfl ex7203 dX14_clause_192 ?_
                          refine lv_iconst (v := (1 : Int32)) hx hb dX14_clause_195 (by decide) ?_
                          refine lv_iadd hx hb dX14_clause_196 ?_
                          obtain ⟨h7204, eh7204, hf⟩ := gBind hf
                          refine g_put X hR hS gk_X14 1 (by decide) q972 rfl rfl eh7204 rfl rfl rfl dX14_clause_197 (fun H locs hR hS => ?_)
                          cases hf
                        · replace hf := gIfn c7202 hf
                          refine lv_aload_n hx hb dX14_clause_176 rfl (lv_at hl 1 rfl) ?_
                          obtain ⟨x7205, ex7205, hf⟩ := gBind hf
                          refine g_getrN X hR gk_X2 3 (by decide) q519 rfl ex7205 dX14_clause_177 ?_
                          refine lv_iconst (v := (3 : Int32)) hx hb dX14_clause_180 (by decide) ?_
                          refine lv_aload_n hx hb dX14_clause_181 rfl (lv_at hl 0 rfl) ?_
                          refine lv_iconst (v := (2 : Int32)) hx hb dX14_clause_182 (by decide) ?_
                          refine lv_iconst (v := (0 : Int32)) hx hb dX14_clause_183 (by decide) ?_
                          refine lv_bipush (v := (60 : Int32)) hx hb dX14_clause_184 (by decide) ?_
                          obtain ⟨k7206, hf⟩ := gChk hf
                          rcases gOr_spec hf with ⟨u7207, eu7207, hf⟩ | hf
                          · refine g_callVi X hR hS [.int (2 : Int32), .int (0 : Int32), .int (60 : Int32)] (m_X14_number l G F u7201.2 n v70_0 (2 : Int32) (0 : Int32) (60 : Int32) eu7207) yk_X14_number q1040 k7206 rfl hl.1 ⟨Nat.le_of_ble_eq_true rfl, Nat.le_of_ble_eq_true rfl⟩ ⟨Nat.le_of_ble_eq_true rfl, Nat.le_of_ble_eq_true rfl⟩ rfl (Nat.le_of_ble_eq_true rfl) dX14_clause_186 (fun H locs hR hS => ?_)
                            obtain ⟨h7208, eh7208, hf⟩ := gBind hf
                            refine g_iast X hR hS eh7208 dX14_clause_189 (fun H locs hR hS => ?_)
                            refine lv_aload_n hx hb dX14_clause_190 rfl (lv_at hl 0 rfl) ?_
                            refine lv_dup hx hb dX14_clause_191 rfl ?_
                            obtain ⟨x7209, ex7209, hf⟩ := gBind hf
                            refine g_geti X hR gk_X14 1 (by decide) q972 rfl ex7209 dX14_clause_192 ?_
                            refine lv_iconst (v := (1 : Int32)) hx hb dX14_clause_195 (by decide) ?_
                            refine lv_iadd hx hb dX14_clause_196 ?_
                            obtain ⟨h7210, eh7210, hf⟩ := gBind hf
                            refine g_put X hR hS gk_X14 1 (by decide) q972 rfl rfl eh7210 rfl rfl rfl dX14_clause_197 (fun H locs hR hS => ?_)
                            cases hf
                          · exact g_callT X hR hS [.int (2 : Int32), .int (0 : Int32), .int (60 : Int32)] (m_X14_number_T l G F u7201.2 n v70_0 (2 : Int32) (0 : Int32) (60 : Int32) hf) yk_X14_number q1040 k7206 rfl hl.1 ⟨Nat.le_of_ble_eq_true rfl, Nat.le_of_ble_eq_true rfl⟩ ⟨Nat.le_of_ble_eq_true rfl, Nat.le_of_ble_eq_true rfl⟩ rfl (Nat.le_of_ble_eq_true rfl) dX14_clause_186 (fun q n1 ce H locs hq hR hS h1 h2 h3 => gx_out X ht hq hR hS h1 h2 h3 ⟨Nat.le_of_ble_eq_true rfl, Nat.le_of_ble_eq_true rfl⟩)
                      · exact g_callT X hR hS [.int (1 : Int32), .int (1 : Int32), .int (9 : Int32)] (m_X14_number_T l G F u7183.2 n v70_0 (1 : Int32) (1 : Int32) (9 : Int32) hf) yk_X14_number q1040 k7197 rfl hl.1 ⟨Nat.le_of_ble_eq_true rfl, Nat.le_of_ble_eq_true rfl⟩ ⟨Nat.le_of_ble_eq_true rfl, Nat.le_of_ble_eq_true rfl⟩ rfl (Nat.le_of_ble_eq_true rfl) dX14_clause_163 (fun q n1 ce H locs hq hR hS h1 h2 h3 => gx_out X ht hq hR hS h1 h2 h3 ⟨Nat.le_of_ble_eq_true rfl, Nat.le_of_ble_eq_true rfl⟩)
                  · replace hf := gIfn c7181 hf
                    refine lv_aload_n hx hb dX14_clause_127 rfl (lv_at hl 1 rfl) ?_
                    obtain ⟨x7211, ex7211, hf⟩ := gBind hf
                    refine g_getrN X hR gk_X2 3 (by decide) q519 rfl ex7211 dX14_clause_128 ?_
                    refine lv_iconst (v := (1 : Int32)) hx hb dX14_clause_131 (by decide) ?_
                    refine lv_aload_n hx hb dX14_clause_132 rfl (lv_at hl 0 rfl) ?_
                    refine lv_iconst (v := (2 : Int32)) hx hb dX14_clause_133 (by decide) ?_
                    refine lv_aload_n hx hb dX14_clause_134 rfl (lv_at hl 1 rfl) ?_
                    obtain ⟨k7212, hf⟩ := gChk hf
                    obtain ⟨u7213, eu7213, hf⟩ := gBind hf
                    refine g_callVi X hR hS [] (m_X2_least l G F u7180.2 n v70_2 eu7213) yk_X2_least q1046 k7212 rfl hl.1 ⟨Nat.le_of_ble_eq_true rfl, Nat.le_of_ble_eq_true rfl⟩ ⟨Nat.le_of_ble_eq_true rfl, Nat.le_of_ble_eq_true rfl⟩ rfl (Nat.le_of_ble_eq_true rfl) dX14_clause_135 (fun H locs hR hS => ?_)
                    refine lv_bipush (v := (99 : Int32)) hx hb dX14_clause_138 (by decide) ?_
                    obtain ⟨k7214, hf⟩ := gChk hf
                    rcases gOr_spec hf with ⟨u7215, eu7215, hf⟩ | hf
                    · refine g_callVi X hR hS [.int (2 : Int32), .int u7213, .int (99 : Int32)] (m_X14_number l G F u7180.2 n v70_0 (2 : Int32) u7213 (99 : Int32) eu7215) yk_X14_number q1040 k7214 rfl hl.1 ⟨Nat.le_of_ble_eq_true rfl, Nat.le_of_ble_eq_true rfl⟩ ⟨Nat.le_of_ble_eq_true rfl, Nat.le_of_ble_eq_true rfl⟩ rfl (Nat.le_of_ble_eq_true rfl) dX14_clause_140 (fun H locs hR hS => ?_)
                      obtain ⟨h7216, eh7216, hf⟩ := gBind hf
                      refine g_iast X hR hS eh7216 dX14_clause_143 (fun H locs hR hS => ?_)
                      refine lv_aload_n hx hb dX14_clause_144 rfl (lv_at hl 0 rfl) ?_
                      refine lv_bipush (v := (126 : Int32)) hx hb dX14_clause_145 (by decide) ?_
                      obtain ⟨k7217, hf⟩ := gChk hf
                      obtain ⟨u7218, eu7218, hf⟩ := gBind hf
                      refine g_callVi X hR hS [.int (126 : Int32)] (m_X14_is l G F h7216 n v70_0 (126 : Int32) eu7218) yk_X14_is q1036 k7217 rfl hl.1 ⟨Nat.le_of_ble_eq_true rfl, Nat.le_of_ble_eq_true rfl⟩ ⟨Nat.le_of_ble_eq_true rfl, Nat.le_of_ble_eq_true rfl⟩ rfl (Nat.le_of_ble_eq_true rfl) dX14_clause_147 (fun H locs hR hS => ?_)
                      refine lv_if_eq (tgt := 167) hx hb dX14_clause_150 (by decide) (fun c7219 => ?_) (fun c7219 => ?_)
                      · replace hf := gIfp c7219 hf
                        refine lv_aload_n hx hb dX14_clause_167 rfl (lv_at hl 0 rfl) ?_
                        refine lv_bipush (v := (64 : Int32)) hx hb dX14_clause_168 (by decide) ?_
                        obtain ⟨k7220, hf⟩ := gChk hf
                        obtain ⟨u7221, eu7221, hf⟩ := gBind hf
                        refine g_callVi X hR hS [.int (64 : Int32)] (m_X14_is l G F u7218.2 n v70_0 (64 : Int32) eu7221) yk_X14_is q1036 k7220 rfl hl.1 ⟨Nat.le_of_ble_eq_true rfl, Nat.le_of_ble_eq_true rfl⟩ ⟨Nat.le_of_ble_eq_true rfl, Nat.le_of_ble_eq_true rfl⟩ rfl (Nat.le_of_ble_eq_true rfl) dX14_clause_170 (fun H locs hR hS => ?_)
                        refine lv_if_eq (tgt := 190) hx hb dX14_clause_173 (by decide) (fun c7222 => ?_) (fun c7222 => ?_)
                        · replace hf := gIfp c7222 hf
                          refine lv_aload_n hx hb dX14_clause_190 rfl (lv_at hl 0 rfl) ?_
                          refine lv_dup hx hb dX14_clause_191 rfl ?_
                          obtain ⟨x7223, ex7223, hf⟩ := gBind hf
                          refine g_geti X hR gk_X14 1 (by decide) q972 rfl ex7223 dX14_clause_192 ?_
                          refine lv_iconst (v := (1 : Int32)) hx hb dX14_clause_195 (by decide) ?_
                          refine lv_iadd hx hb dX14_clause_196 ?_
                          obtain ⟨h7224, eh7224, hf⟩ := gBind hf
                          refine g_put X hR hS gk_X14 1 (by decide) q972 rfl rfl eh7224 rfl rfl rfl dX14_clause_197 (fun H locs hR hS => ?_)
                          cases hf
                        · replace hf := gIfn c7222 hf
                          refine lv_aload_n hx hb dX14_clause_176 rfl (lv_at hl 1 rfl) ?_
                          obtain ⟨x7225, ex7225, hf⟩ := gBind hf
                          refine g_getrN X hR gk_X2 3 (by decide) q519 rfl ex7225 dX14_clause_177 ?_
                          refine lv_iconst (v := (3 : Int32)) hx hb dX14_clause_180 (by decide) ?_
                          refine lv_aload_n hx hb dX14_clause_181 rfl (lv_at hl 0 rfl) ?_
                          refine lv_iconst (v := (2 : Int32)) hx hb dX14_clause_182 (by decide) ?_
                          refine lv_iconst (v := (0 : Int32)) hx hb dX14_clause_183 (by decide) ?_
                          refine lv_bipush (v := (60 : Int32)) hx hb dX14_clause_184 (by decide) ?_
                          obtain ⟨k7226, hf⟩ := gChk hf
                          rcases gOr_spec hf with ⟨u7227, eu7227, hf⟩ | hf
                          · refine g_callVi X hR hS [.int (2 : Int32), .int (0 : Int32), .int (60 : Int32)] (m_X14_number l G F u7221.2 n v70_0 (2 : Int32) (0 : Int32) (60 : Int32) eu7227) yk_X14_number q1040 k7226 rfl hl.1 ⟨Nat.le_of_ble_eq_true rfl, Nat.le_of_ble_eq_true rfl⟩ ⟨Nat.le_of_ble_eq_true rfl, Nat.le_of_ble_eq_true rfl⟩ rfl (Nat.le_of_ble_eq_true rfl) dX14_clause_186 (fun H locs hR hS => ?_)
                            obtain ⟨h7228, eh7228, hf⟩ := gBind hf
                            refine g_iast X hR hS eh7228 dX14_clause_189 (fun H locs hR hS => ?_)
                            refine lv_aload_n hx hb dX14_clause_190 rfl (lv_at hl 0 rfl) ?_
                            refine lv_dup hx hb dX14_clause_191 rfl ?_
                            obtain ⟨x7229, ex7229, hf⟩ := gBind hf
                            refine g_geti X hR gk_X14 1 (by decide) q972 rfl ex7229 dX14_clause_192 ?_
                            refine lv_iconst (v := (1 : Int32)) hx hb dX14_clause_195 (by decide) ?_
                            refine lv_iadd hx hb dX14_clause_196 ?_
                            obtain ⟨h7230, eh7230, hf⟩ := gBind hf
                            refine g_put X hR hS gk_X14 1 (by decide) q972 rfl rfl eh7230 rfl rfl rfl dX14_clause_197 (fun H locs hR hS => ?_)
                            cases hf
                          · exact g_callT X hR hS [.int (2 : Int32), .int (0 : Int32), .int (60 : Int32)] (m_X14_number_T l G F u7221.2 n v70_0 (2 : Int32) (0 : Int32) (60 : Int32) hf) yk_X14_number q1040 k7226 rfl hl.1 ⟨Nat.le_of_ble_eq_true rfl, Nat.le_of_ble_eq_true rfl⟩ ⟨Nat.le_of_ble_eq_true rfl, Nat.le_of_ble_eq_true rfl⟩ rfl (Nat.le_of_ble_eq_true rfl) dX14_clause_186 (fun q n1 ce H locs hq hR hS h1 h2 h3 => gx_out X ht hq hR hS h1 h2 h3 ⟨Nat.le_of_ble_eq_true rfl, Nat.le_of_ble_eq_true rfl⟩)
                      · replace hf := gIfn c7219 hf
                        refine lv_aload_n hx hb dX14_clause_153 rfl (lv_at hl 1 rfl) ?_
                        obtain ⟨x7231, ex7231, hf⟩ := gBind hf
                        refine g_getrN X hR gk_X2 3 (by decide) q519 rfl ex7231 dX14_clause_154 ?_
                        refine lv_iconst (v := (2 : Int32)) hx hb dX14_clause_157 (by decide) ?_
                        refine lv_aload_n hx hb dX14_clause_158 rfl (lv_at hl 0 rfl) ?_
                        refine lv_iconst (v := (1 : Int32)) hx hb dX14_clause_159 (by decide) ?_
                        refine lv_iconst (v := (1 : Int32)) hx hb dX14_clause_160 (by decide) ?_
                        refine lv_bipush (v := (9 : Int32)) hx hb dX14_clause_161 (by decide) ?_
                        obtain ⟨k7232, hf⟩ := gChk hf
                        rcases gOr_spec hf with ⟨u7233, eu7233, hf⟩ | hf
                        · refine g_callVi X hR hS [.int (1 : Int32), .int (1 : Int32), .int (9 : Int32)] (m_X14_number l G F u7218.2 n v70_0 (1 : Int32) (1 : Int32) (9 : Int32) eu7233) yk_X14_number q1040 k7232 rfl hl.1 ⟨Nat.le_of_ble_eq_true rfl, Nat.le_of_ble_eq_true rfl⟩ ⟨Nat.le_of_ble_eq_true rfl, Nat.le_of_ble_eq_true rfl⟩ rfl (Nat.le_of_ble_eq_true rfl) dX14_clause_163 (fun H locs hR hS => ?_)
                          obtain ⟨h7234, eh7234, hf⟩ := gBind hf
                          refine g_iast X hR hS eh7234 dX14_clause_166 (fun H locs hR hS => ?_)
                          refine lv_aload_n hx hb dX14_clause_167 rfl (lv_at hl 0 rfl) ?_
                          refine lv_bipush (v := (64 : Int32)) hx hb dX14_clause_168 (by decide) ?_
                          obtain ⟨k7235, hf⟩ := gChk hf
                          obtain ⟨u7236, eu7236, hf⟩ := gBind hf
                          refine g_callVi X hR hS [.int (64 : Int32)] (m_X14_is l G F h7234 n v70_0 (64 : Int32) eu7236) yk_X14_is q1036 k7235 rfl hl.1 ⟨Nat.le_of_ble_eq_true rfl, Nat.le_of_ble_eq_true rfl⟩ ⟨Nat.le_of_ble_eq_true rfl, Nat.le_of_ble_eq_true rfl⟩ rfl (Nat.le_of_ble_eq_true rfl) dX14_clause_170 (fun H locs hR hS => ?_)
                          refine lv_if_eq (tgt := 190) hx hb dX14_clause_173 (by decide) (fun c7237 => ?_) (fun c7237 => ?_)
                          · replace hf := gIfp c7237 hf
                            refine lv_aload_n hx hb dX14_clause_190 rfl (lv_at hl 0 rfl) ?_
                            refine lv_dup hx hb dX14_clause_191 rfl ?_
                            obtain ⟨x7238, ex7238, hf⟩ := gBind hf
                            refine g_geti X hR gk_X14 1 (by decide) q972 rfl ex7238 dX14_clause_192 ?_
                            refine lv_iconst (v := (1 : Int32)) hx hb dX14_clause_195 (by decide) ?_
                            refine lv_iadd hx hb dX14_clause_196 ?_
                            obtain ⟨h7239, eh7239, hf⟩ := gBind hf
                            refine g_put X hR hS gk_X14 1 (by decide) q972 rfl rfl eh7239 rfl rfl rfl dX14_clause_197 (fun H locs hR hS => ?_)
                            cases hf
                          · replace hf := gIfn c7237 hf
                            refine lv_aload_n hx hb dX14_clause_176 rfl (lv_at hl 1 rfl) ?_
                            obtain ⟨x7240, ex7240, hf⟩ := gBind hf
                            refine g_getrN X hR gk_X2 3 (by decide) q519 rfl ex7240 dX14_clause_177 ?_
                            refine lv_iconst (v := (3 : Int32)) hx hb dX14_clause_180 (by decide) ?_
                            refine lv_aload_n hx hb dX14_clause_181 rfl (lv_at hl 0 rfl) ?_
                            refine lv_iconst (v := (2 : Int32)) hx hb dX14_clause_182 (by decide) ?_
                            refine lv_iconst (v := (0 : Int32)) hx hb dX14_clause_183 (by decide) ?_
                            refine lv_bipush (v := (60 : Int32)) hx hb dX14_clause_184 (by decide) ?_
                            obtain ⟨k7241, hf⟩ := gChk hf
                            rcases gOr_spec hf with ⟨u7242, eu7242, hf⟩ | hf
                            · refine g_callVi X hR hS [.int (2 : Int32), .int (0 : Int32), .int (60 : Int32)] (m_X14_number l G F u7236.2 n v70_0 (2 : Int32) (0 : Int32) (60 : Int32) eu7242) yk_X14_number q1040 k7241 rfl hl.1 ⟨Nat.le_of_ble_eq_true rfl, Nat.le_of_ble_eq_true rfl⟩ ⟨Nat.le_of_ble_eq_true rfl, Nat.le_of_ble_eq_true rfl⟩ rfl (Nat.le_of_ble_eq_true rfl) dX14_clause_186 (fun H locs hR hS => ?_)
                              obtain ⟨h7243, eh7243, hf⟩ := gBind hf
                              refine g_iast X hR hS eh7243 dX14_clause_189 (fun H locs hR hS => ?_)
                              refine lv_aload_n hx hb dX14_clause_190 rfl (lv_at hl 0 rfl) ?_
                              refine lv_dup hx hb dX14_clause_191 rfl ?_
                              obtain ⟨x7244, ex7244, hf⟩ := gBind hf
                              refine g_geti X hR gk_X14 1 (by decide) q972 rfl ex7244 dX14_clause_192 ?_
                              refine lv_iconst (v := (1 : Int32)) hx hb dX14_clause_195 (by decide) ?_
                              refine lv_iadd hx hb dX14_clause_196 ?_
                              obtain ⟨h7245, eh7245, hf⟩ := gBind hf
                              refine g_put X hR hS gk_X14 1 (by decide) q972 rfl rfl eh7245 rfl rfl rfl dX14_clause_197 (fun H locs hR hS => ?_)
                              cases hf
                            · exact g_callT X hR hS [.int (2 : Int32), .int (0 : Int32), .int (60 : Int32)] (m_X14_number_T l G F u7236.2 n v70_0 (2 : Int32) (0 : Int32) (60 : Int32) hf) yk_X14_number q1040 k7241 rfl hl.1 ⟨Nat.le_of_ble_eq_true rfl, Nat.le_of_ble_eq_true rfl⟩ ⟨Nat.le_of_ble_eq_true rfl, Nat.le_of_ble_eq_true rfl⟩ rfl (Nat.le_of_ble_eq_true rfl) dX14_clause_186 (fun q n1 ce H locs hq hR hS h1 h2 h3 => gx_out X ht hq hR hS h1 h2 h3 ⟨Nat.le_of_ble_eq_true rfl, Nat.le_of_ble_eq_true rfl⟩)
                        · exact g_callT X hR hS [.int (1 : Int32), .int (1 : Int32), .int (9 : Int32)] (m_X14_number_T l G F u7218.2 n v70_0 (1 : Int32) (1 : Int32) (9 : Int32) hf) yk_X14_number q1040 k7232 rfl hl.1 ⟨Nat.le_of_ble_eq_true rfl, Nat.le_of_ble_eq_true rfl⟩ ⟨Nat.le_of_ble_eq_true rfl, Nat.le_of_ble_eq_true rfl⟩ rfl (Nat.le_of_ble_eq_true rfl) dX14_clause_163 (fun q n1 ce H locs hq hR hS h1 h2 h3 => gx_out X ht hq hR hS h1 h2 h3 ⟨Nat.le_of_ble_eq_true rfl, Nat.le_of_ble_eq_true rfl⟩)
                    · exact g_callT X hR hS [.int (2 : Int32), .int u7213, .int (99 : Int32)] (m_X14_number_T l G F u7180.2 n v70_0 (2 : Int32) u7213 (99 : Int32) hf) yk_X14_number q1040 k7214 rfl hl.1 ⟨Nat.le_of_ble_eq_true rfl, Nat.le_of_ble_eq_true rfl⟩ ⟨Nat.le_of_ble_eq_true rfl, Nat.le_of_ble_eq_true rfl⟩ rfl (Nat.le_of_ble_eq_true rfl) dX14_clause_140 (fun q n1 ce H locs hq hR hS h1 h2 h3 => gx_out X ht hq hR hS h1 h2 h3 ⟨Nat.le_of_ble_eq_true rfl, Nat.le_of_ble_eq_true rfl⟩)
                · exact g_callT X hR hS [.int (2 : Int32), .int (1 : Int32), .int (20 : Int32)] (m_X14_number_T l G F u7106.2 n v70_0 (2 : Int32) (1 : Int32) (20 : Int32) hf) yk_X14_number q1040 k7176 rfl hl.1 ⟨Nat.le_of_ble_eq_true rfl, Nat.le_of_ble_eq_true rfl⟩ ⟨Nat.le_of_ble_eq_true rfl, Nat.le_of_ble_eq_true rfl⟩ rfl (Nat.le_of_ble_eq_true rfl) dX14_clause_114 (fun q n1 ce H locs hq hR hS h1 h2 h3 => gx_out X ht hq hR hS h1 h2 h3 ⟨Nat.le_of_ble_eq_true rfl, Nat.le_of_ble_eq_true rfl⟩)
            · replace hf := gIfn c7104 hf
              refine lv_aload_n hx hb dX14_clause_87 rfl (lv_at hl 0 rfl) ?_
              refine lv_aload_n hx hb dX14_clause_88 rfl (lv_at hl 1 rfl) ?_
              obtain ⟨k7246, hf⟩ := gChk hf
              rcases gOr_spec hf with ⟨u7247, eu7247, hf⟩ | hf
              · refine g_callVv X hR hS [.ref v70_2] (m_X14_cell l G F h70L n v70_0 v70_2 eu7247) yk_X14_cell q1025 k7246 rfl hl.1 ⟨Nat.le_of_ble_eq_true rfl, Nat.le_of_ble_eq_true rfl⟩ ⟨Nat.le_of_ble_eq_true rfl, Nat.le_of_ble_eq_true rfl⟩ rfl (Nat.le_of_ble_eq_true rfl) dX14_clause_89 (fun H locs hR hS => ?_)
                refine lv_goto (tgt := 70) hx hb dX14_clause_92 (by decide) ?_
                exact ih u7247 v70_0 v70_2 _ _ _ hf hR hS (lv_sub hl [0, 1] rfl)
              · exact g_callT X hR hS [.ref v70_2] (m_X14_cell_T l G F h70L n v70_0 v70_2 hf) yk_X14_cell q1025 k7246 rfl hl.1 ⟨Nat.le_of_ble_eq_true rfl, Nat.le_of_ble_eq_true rfl⟩ ⟨Nat.le_of_ble_eq_true rfl, Nat.le_of_ble_eq_true rfl⟩ rfl (Nat.le_of_ble_eq_true rfl) dX14_clause_89 (fun q n1 ce H locs hq hR hS h1 h2 h3 => gx_out X ht hq hR hS h1 h2 h3 ⟨Nat.le_of_ble_eq_true rfl, Nat.le_of_ble_eq_true rfl⟩)
        exact L70_q18 F u17 a0 a12 _ _ _ hf hR hS (lv_sub hl [2, 0] rfl)
      · exact g_callT X hR hS [.ref a12] (m_X14_cell_T l G F u15 n a0 a12 hf) yk_X14_cell q1025 k16 rfl hl.1 ⟨Nat.le_of_ble_eq_true rfl, Nat.le_of_ble_eq_true rfl⟩ ⟨Nat.le_of_ble_eq_true rfl, Nat.le_of_ble_eq_true rfl⟩ rfl (Nat.le_of_ble_eq_true rfl) dX14_clause_67 (fun q n1 ce H locs hq hR hS h1 h2 h3 => gx_out X ht hq hR hS h1 h2 h3 ⟨Nat.le_of_ble_eq_true rfl, Nat.le_of_ble_eq_true rfl⟩)
    · replace hf := gIfp c7 hf
      refine g_new X hR hS gk_X15 q999 q1000 q126 [.null, .null, .null, .null, .null, .int 0, .int 0] (by decide +kernel) ⟨Nat.le_of_ble_eq_true rfl, Nat.le_of_ble_eq_true rfl⟩ dX14_clause_25 (fun H hR hS => ?_)
      refine lv_dup hx hb dX14_clause_28 rfl ?_
      refine lv_aload_n hx hb dX14_clause_29 rfl (lv_at hl 1 rfl) ?_
      obtain ⟨x19, ex19, hf⟩ := gBind hf
      refine g_geti X hR gk_X14 2 (by decide) q974 rfl ex19 dX14_clause_30 ?_
      obtain ⟨u20, eu20, hf⟩ := gBind hf
      refine g_callI X hR hS [.int x19] (m_X15_init l G F (va_up h n (some (.inr (13, [.null, .null, .null, .null, .null, .int 0, .int 0])))) (n + 1) n x19 eu20) yk_X15_init q1008 rfl hl.1 ⟨Nat.le_of_ble_eq_true rfl, Nat.le_of_ble_eq_true rfl⟩ ⟨Nat.le_of_ble_eq_true rfl, Nat.le_of_ble_eq_true rfl⟩ rfl (Nat.le_of_ble_eq_true rfl) dX14_clause_33 (fun H locs hR hS => ?_)
      obtain ⟨k21, hf⟩ := gChk hf
      obtain rfl := gO1 hf
      exact gx_fault X ht hR hS k21 ⟨Nat.le_of_ble_eq_true rfl, Nat.le_of_ble_eq_true rfl⟩ dX14_clause_36
  · replace hf := gIfn c3 hf
    refine lv_iconst (v := (-1 : Int32)) hx hb dX14_clause_7 (by decide) ?_
    refine lv_goto (tgt := 19) hx hb dX14_clause_8 (by decide) ?_
    refine lv_istore_n (lv' := [(1, .int (-1 : Int32)), (0, .ref a0)]) hx hb dX14_clause_19 rfl hl (by decide) rfl (fun ls hl => ?_)
    refine lv_iload_n hx hb dX14_clause_20 rfl (lv_at hl 0 rfl) ?_
    refine lv_iconst (v := (-1 : Int32)) hx hb dX14_clause_21 (by decide) ?_
    refine lv_icmp_ne (tgt := 37) hx hb dX14_clause_22 (by decide) (fun c => absurd c (by decide)) (fun _ => ?_)
    refine g_new X hR hS gk_X15 q999 q1000 q126 [.null, .null, .null, .null, .null, .int 0, .int 0] (by decide +kernel) ⟨Nat.le_of_ble_eq_true rfl, Nat.le_of_ble_eq_true rfl⟩ dX14_clause_25 (fun H hR hS => ?_)
    refine lv_dup hx hb dX14_clause_28 rfl ?_
    refine lv_aload_n hx hb dX14_clause_29 rfl (lv_at hl 1 rfl) ?_
    obtain ⟨x22, ex22, hf⟩ := gBind hf
    refine g_geti X hR gk_X14 2 (by decide) q974 rfl ex22 dX14_clause_30 ?_
    obtain ⟨u23, eu23, hf⟩ := gBind hf
    refine g_callI X hR hS [.int x22] (m_X15_init l G F (va_up h n (some (.inr (13, [.null, .null, .null, .null, .null, .int 0, .int 0])))) (n + 1) n x22 eu23) yk_X15_init q1008 rfl hl.1 ⟨Nat.le_of_ble_eq_true rfl, Nat.le_of_ble_eq_true rfl⟩ ⟨Nat.le_of_ble_eq_true rfl, Nat.le_of_ble_eq_true rfl⟩ rfl (Nat.le_of_ble_eq_true rfl) dX14_clause_33 (fun H locs hR hS => ?_)
    obtain ⟨k24, hf⟩ := gChk hf
    obtain rfl := gO1 hf
    exact gx_fault X ht hR hS k24 ⟨Nat.le_of_ble_eq_true rfl, Nat.le_of_ble_eq_true rfl⟩ dX14_clause_36
def sp_X14_reads_TL4 (G : gG) (F : Nat) (n4L : Nat) : Nat → gH → Nat → Option (gH)
  | 0, _, _ => none
  | f + 1, h4L, v4_0 =>
    (gGi 12 h4L v4_0 2).bind fun x501 =>
    (gGr 12 h4L v4_0 3).bind fun x502 =>
    (gGi 0 h4L x502 5).bind fun x503 =>
    if x503 ≤ x501 then
    none else
    if gIs 12 h4L v4_0 = true then
    (sp_X14_here G F h4L v4_0).bind fun u506 =>
    if u506 = (59 : Int32) then
    (gGi 12 h4L v4_0 1).bind fun x511 =>
    if x511 = (4 : Int32) then
    (gGi 12 (va_up h4L n4L (some (.inr (13, [.null, .null, .null, .null, .null, .int 0, .int 0])))) v4_0 2).bind fun x517 =>
    (sp_X15_init G F (va_up h4L n4L (some (.inr (13, [.null, .null, .null, .null, .null, .int 0, .int 0])))) n4L x517).bind fun u518 =>
    if gIs 13 u518 n4L = true then
    some u518 else none else
    (gGi 12 h4L v4_0 2).bind fun x513 =>
    (gPv 12 h4L v4_0 2 (.int (x513 + (1 : Int32)))).bind fun h514 =>
    if gIs 12 h514 v4_0 = true then
    gOr (sp_X14_clause G F h514 v4_0) (fun u516 =>
    sp_X14_reads_TL4 G F n4L f u516 v4_0) (sp_X14_clause_T G F h514 n4L v4_0) else none else
    (gGi 12 (va_up h4L n4L (some (.inr (13, [.null, .null, .null, .null, .null, .int 0, .int 0])))) v4_0 2).bind fun x508 =>
    (sp_X15_init G F (va_up h4L n4L (some (.inr (13, [.null, .null, .null, .null, .null, .int 0, .int 0])))) n4L x508).bind fun u509 =>
    if gIs 13 u509 n4L = true then
    some u509 else none else none
def sp_X14_reads_T (G : gG) (F : Nat) (h : gH) (n : Nat) (a0 : Nat) : Option gH :=
 if gIs 12 h a0 = true then
 gOr (sp_X14_clause G F h a0) (fun u2 =>
 sp_X14_reads_TL4 G F n F u2 a0) (sp_X14_clause_T G F h n a0) else none
set_option maxHeartbeats 8000000 in
theorem m_X14_reads_T (l : Launch) (G : gG) (F : Nat) (h : gH) (n : Nat) (a0 : Nat) {h' : gH} (hf : sp_X14_reads_T G F h n a0 = some h') : gMetT l G yX14_reads cX14_reads 1 none 7 153 1 7 [.ref a0] h n "SafeClears$Fault" (some n) h' := by
  refine gEnterT (by decide) [(0, .ref a0)] rfl (Nat.le_of_ble_eq_true rfl) ?_
  intro p e s m below meth c H ls X hin hR hS hl ht
  have hx := X.1.1
  have hb := X.1.2.1
  unfold sp_X14_reads_T at hf
  generalize ([] : List Loc) = locs at hS ⊢
  refine lv_aload_n hx hb dX14_reads_0 rfl (lv_at hl 0 rfl) ?_
  obtain ⟨k1, hf⟩ := gChk hf
  rcases gOr_spec hf with ⟨u2, eu2, hf⟩ | hf
  · refine g_callVv X hR hS [] (m_X14_clause l G F h n a0 eu2) yk_X14_clause q989 k1 rfl hl.1 ⟨Nat.le_of_ble_eq_true rfl, Nat.le_of_ble_eq_true rfl⟩ ⟨Nat.le_of_ble_eq_true rfl, Nat.le_of_ble_eq_true rfl⟩ rfl (Nat.le_of_ble_eq_true rfl) dX14_reads_1 (fun H locs hR hS => ?_)
    have L4_q3 : ∀ (f : Nat) (h4L : gH) (v4_0 : Nat) (H : Heap) (locs : List Loc) (ls : Array Slot), sp_X14_reads_TL4 G F n f h4L v4_0 = some h' → gRep G h4L n H → va_S (gFr G) s.heap H locs → lv_has ls 1 [(0, .ref v4_0)] → W p l e ({ frames := 7, cells := 1, slots := 7, locals := 153 } : Room) s m ([.ref a0] : List Value).toArray below meth c H locs 0 0 (gMQT below G "SafeClears$Fault" (some n) h' ([.ref a0] : List Value).toArray s 1 7) (F0 m 4 ls []) := by
      clear hf
      intro f
      induction f with
      | zero =>
        intro h4L v4_0 H locs ls hf
        cases hf
      | succ f ih =>
        intro h4L v4_0 H locs ls hf hR hS hl
        rw [sp_X14_reads_TL4] at hf
        refine lv_aload_n hx hb dX14_reads_4 rfl (lv_at hl 0 rfl) ?_
        obtain ⟨x501, ex501, hf⟩ := gBind hf
        refine g_geti X hR gk_X14 2 (by decide) q974 rfl ex501 dX14_reads_5 ?_
        refine lv_aload_n hx hb dX14_reads_8 rfl (lv_at hl 0 rfl) ?_
        obtain ⟨x502, ex502, hf⟩ := gBind hf
        refine g_getr X hR gk_X14 3 (by decide) q975 rfl ex502 dX14_reads_9 ?_
        obtain ⟨x503, ex503, hf⟩ := gBind hf
        refine g_getiN X hR gk_X0 5 (by decide) q798 rfl ex503 dX14_reads_12 ?_
        refine lv_icmp_ge (tgt := 64) hx hb dX14_reads_15 (by decide) (fun c504 => ?_) (fun c504 => ?_)
        · replace hf := gIfp c504 hf
          cases hf
        · replace hf := gIfn c504 hf
          refine lv_aload_n hx hb dX14_reads_18 rfl (lv_at hl 0 rfl) ?_
          obtain ⟨k505, hf⟩ := gChk hf
          obtain ⟨u506, eu506, hf⟩ := gBind hf
          refine g_callVi X hR hS [] (m_X14_here l G F h4L n v4_0 eu506) yk_X14_here q993 k505 rfl hl.1 ⟨Nat.le_of_ble_eq_true rfl, Nat.le_of_ble_eq_true rfl⟩ ⟨Nat.le_of_ble_eq_true rfl, Nat.le_of_ble_eq_true rfl⟩ rfl (Nat.le_of_ble_eq_true rfl) dX14_reads_19 (fun H locs hR hS => ?_)
          refine lv_bipush (v := (59 : Int32)) hx hb dX14_reads_22 (by decide) ?_
          refine lv_icmp_ne (tgt := 35) hx hb dX14_reads_24 (by decide) (fun c507 => ?_) (fun c507 => ?_)
          · replace hf := gIfn c507 hf
            refine g_new X hR hS gk_X15 q999 q1000 q126 [.null, .null, .null, .null, .null, .int 0, .int 0] (by decide +kernel) ⟨Nat.le_of_ble_eq_true rfl, Nat.le_of_ble_eq_true rfl⟩ dX14_reads_35 (fun H hR hS => ?_)
            refine lv_dup hx hb dX14_reads_38 rfl ?_
            refine lv_aload_n hx hb dX14_reads_39 rfl (lv_at hl 0 rfl) ?_
            obtain ⟨x508, ex508, hf⟩ := gBind hf
            refine g_geti X hR gk_X14 2 (by decide) q974 rfl ex508 dX14_reads_40 ?_
            obtain ⟨u509, eu509, hf⟩ := gBind hf
            refine g_callI X hR hS [.int x508] (m_X15_init l G F (va_up h4L n (some (.inr (13, [.null, .null, .null, .null, .null, .int 0, .int 0])))) (n + 1) n x508 eu509) yk_X15_init q1008 rfl hl.1 ⟨Nat.le_of_ble_eq_true rfl, Nat.le_of_ble_eq_true rfl⟩ ⟨Nat.le_of_ble_eq_true rfl, Nat.le_of_ble_eq_true rfl⟩ rfl (Nat.le_of_ble_eq_true rfl) dX14_reads_43 (fun H locs hR hS => ?_)
            obtain ⟨k510, hf⟩ := gChk hf
            obtain rfl := gO1 hf
            exact gx_fault X ht hR hS k510 ⟨Nat.le_of_ble_eq_true rfl, Nat.le_of_ble_eq_true rfl⟩ dX14_reads_46
          · replace hf := gIfp c507 hf
            refine lv_aload_n hx hb dX14_reads_27 rfl (lv_at hl 0 rfl) ?_
            obtain ⟨x511, ex511, hf⟩ := gBind hf
            refine g_geti X hR gk_X14 1 (by decide) q972 rfl ex511 dX14_reads_28 ?_
            refine lv_iconst (v := (4 : Int32)) hx hb dX14_reads_31 (by decide) ?_
            refine lv_icmp_ne (tgt := 47) hx hb dX14_reads_32 (by decide) (fun c512 => ?_) (fun c512 => ?_)
            · replace hf := gIfn c512 hf
              refine lv_aload_n hx hb dX14_reads_47 rfl (lv_at hl 0 rfl) ?_
              refine lv_dup hx hb dX14_reads_48 rfl ?_
              obtain ⟨x513, ex513, hf⟩ := gBind hf
              refine g_geti X hR gk_X14 2 (by decide) q974 rfl ex513 dX14_reads_49 ?_
              refine lv_iconst (v := (1 : Int32)) hx hb dX14_reads_52 (by decide) ?_
              refine lv_iadd hx hb dX14_reads_53 ?_
              obtain ⟨h514, eh514, hf⟩ := gBind hf
              refine g_put X hR hS gk_X14 2 (by decide) q974 rfl rfl eh514 rfl rfl rfl dX14_reads_54 (fun H locs hR hS => ?_)
              refine lv_aload_n hx hb dX14_reads_57 rfl (lv_at hl 0 rfl) ?_
              obtain ⟨k515, hf⟩ := gChk hf
              rcases gOr_spec hf with ⟨u516, eu516, hf⟩ | hf
              · refine g_callVv X hR hS [] (m_X14_clause l G F h514 n v4_0 eu516) yk_X14_clause q989 k515 rfl hl.1 ⟨Nat.le_of_ble_eq_true rfl, Nat.le_of_ble_eq_true rfl⟩ ⟨Nat.le_of_ble_eq_true rfl, Nat.le_of_ble_eq_true rfl⟩ rfl (Nat.le_of_ble_eq_true rfl) dX14_reads_58 (fun H locs hR hS => ?_)
                refine lv_goto (tgt := 4) hx hb dX14_reads_61 (by decide) ?_
                exact ih u516 v4_0 _ _ _ hf hR hS (lv_sub hl [0] rfl)
              · exact g_callT X hR hS [] (m_X14_clause_T l G F h514 n v4_0 hf) yk_X14_clause q989 k515 rfl hl.1 ⟨Nat.le_of_ble_eq_true rfl, Nat.le_of_ble_eq_true rfl⟩ ⟨Nat.le_of_ble_eq_true rfl, Nat.le_of_ble_eq_true rfl⟩ rfl (Nat.le_of_ble_eq_true rfl) dX14_reads_58 (fun q n1 ce H locs hq hR hS h1 h2 h3 => gx_out X ht hq hR hS h1 h2 h3 ⟨Nat.le_of_ble_eq_true rfl, Nat.le_of_ble_eq_true rfl⟩)
            · replace hf := gIfp c512 hf
              refine g_new X hR hS gk_X15 q999 q1000 q126 [.null, .null, .null, .null, .null, .int 0, .int 0] (by decide +kernel) ⟨Nat.le_of_ble_eq_true rfl, Nat.le_of_ble_eq_true rfl⟩ dX14_reads_35 (fun H hR hS => ?_)
              refine lv_dup hx hb dX14_reads_38 rfl ?_
              refine lv_aload_n hx hb dX14_reads_39 rfl (lv_at hl 0 rfl) ?_
              obtain ⟨x517, ex517, hf⟩ := gBind hf
              refine g_geti X hR gk_X14 2 (by decide) q974 rfl ex517 dX14_reads_40 ?_
              obtain ⟨u518, eu518, hf⟩ := gBind hf
              refine g_callI X hR hS [.int x517] (m_X15_init l G F (va_up h4L n (some (.inr (13, [.null, .null, .null, .null, .null, .int 0, .int 0])))) (n + 1) n x517 eu518) yk_X15_init q1008 rfl hl.1 ⟨Nat.le_of_ble_eq_true rfl, Nat.le_of_ble_eq_true rfl⟩ ⟨Nat.le_of_ble_eq_true rfl, Nat.le_of_ble_eq_true rfl⟩ rfl (Nat.le_of_ble_eq_true rfl) dX14_reads_43 (fun H locs hR hS => ?_)
              obtain ⟨k519, hf⟩ := gChk hf
              obtain rfl := gO1 hf
              exact gx_fault X ht hR hS k519 ⟨Nat.le_of_ble_eq_true rfl, Nat.le_of_ble_eq_true rfl⟩ dX14_reads_46
    exact L4_q3 F u2 a0 _ _ _ hf hR hS (lv_sub hl [0] rfl)
  · exact g_callT X hR hS [] (m_X14_clause_T l G F h n a0 hf) yk_X14_clause q989 k1 rfl hl.1 ⟨Nat.le_of_ble_eq_true rfl, Nat.le_of_ble_eq_true rfl⟩ ⟨Nat.le_of_ble_eq_true rfl, Nat.le_of_ble_eq_true rfl⟩ rfl (Nat.le_of_ble_eq_true rfl) dX14_reads_1 (fun q n1 ce H locs hq hR hS h1 h2 h3 => gx_out X ht hq hR hS h1 h2 h3 ⟨Nat.le_of_ble_eq_true rfl, Nat.le_of_ble_eq_true rfl⟩)

