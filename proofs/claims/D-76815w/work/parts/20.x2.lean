set_option maxRecDepth 100000
def sp_J1_wordIndex (G : gG) (F : Nat) (h : gH) (p0 : Int32) : Option (Int32) :=
 some (p0 >>> ((6 : Int32) &&& 31))
theorem yk_J1_wordIndex : gSk yJ1_wordIndex cJ1_wordIndex 1 (some .int) 1 := ⟨q494, q97, q495, ⟨by decide +kernel, by decide +kernel, by decide +kernel⟩⟩
set_option maxHeartbeats 4000000 in
theorem m_J1_wordIndex (l : Launch) (G : gG) (F : Nat) (h : gH) (n : Nat) (p0 : Int32) {r : Int32} (hf : sp_J1_wordIndex G F h p0 = some r) : gMet l G yJ1_wordIndex cJ1_wordIndex 1 (some .int) 0 0 0 0 [.int p0] h n (some (.int r)) h n := by
  refine gEnter (by decide) [(0, .int p0)] rfl (Nat.le_of_ble_eq_true rfl) ?_
  intro p e s m below meth c H ls X hin hR hS hl
  have hx := X.1.1
  have hb := X.1.2.1
  unfold sp_J1_wordIndex at hf
  generalize ([] : List Loc) = locs at hS ⊢
  refine lv_iload_n hx hb dJ1_wordIndex_0 rfl (lv_at hl 0 rfl) ?_
  refine lv_bipush (v := (6 : Int32)) hx hb dJ1_wordIndex_1 (by decide) ?_
  refine lv_ishr hx hb dJ1_wordIndex_3 ?_
  obtain rfl := gO1 hf
  exact g_iret X hR hS _ rfl ⟨Nat.le_of_ble_eq_true rfl, Nat.le_of_ble_eq_true rfl⟩ dJ1_wordIndex_4

def sp_J1_initWords (G : gG) (F : Nat) (h : gH) (n : Nat) (a0 : Nat) (p1 : Int32) : Option (gH × Nat) :=
 (sp_J1_wordIndex G F h (p1 - (1 : Int32))).bind fun u1 =>
 if ¬ (u1 + (1 : Int32)) < 0 ∧ (u1 + (1 : Int32)).toNatClampNeg ≤ 1 then
 (gPv 14 (va_up h n (some (.inl (1, (u1 + (1 : Int32)).toNatClampNeg, .inr (.inl (fun _ => 0)))))) a0 0 (.ref n)).bind fun h3 =>
 some ((h3, n + 1)) else none
theorem yk_J1_initWords : gVk yJ1_initWords cJ1_initWords 2 none 1 14 := ⟨q491, qs1, q97, q492, ⟨by decide +kernel, by decide +kernel, by decide +kernel⟩, rfl⟩
set_option maxHeartbeats 4000000 in
theorem m_J1_initWords (l : Launch) (G : gG) (F : Nat) (h : gH) (n : Nat) (a0 : Nat) (p1 : Int32) {h' : gH} {n' : Nat} (hf : sp_J1_initWords G F h n a0 p1 = some (h', n')) : gMet l G yJ1_initWords cJ1_initWords 2 none 1 20 1 1 [.ref a0, .int p1] h n none h' n' := by
  refine gEnter (by decide) [(0, .ref a0), (1, .int p1)] rfl (Nat.le_of_ble_eq_true rfl) ?_
  intro p e s m below meth c H ls X hin hR hS hl
  have hx := X.1.1
  have hb := X.1.2.1
  unfold sp_J1_initWords at hf
  generalize ([] : List Loc) = locs at hS ⊢
  refine lv_aload_n hx hb dJ1_initWords_0 rfl (lv_at hl 0 rfl) ?_
  refine lv_iload_n hx hb dJ1_initWords_1 rfl (lv_at hl 1 rfl) ?_
  refine lv_iconst (v := (1 : Int32)) hx hb dJ1_initWords_2 (by decide) ?_
  refine lv_isub hx hb dJ1_initWords_3 ?_
  obtain ⟨u1, eu1, hf⟩ := gBind hf
  refine g_callSi X hR hS [.int (p1 - (1 : Int32))] (m_J1_wordIndex l G F h n (p1 - (1 : Int32)) eu1) yk_J1_wordIndex q493 rfl hl.1 ⟨Nat.le_of_ble_eq_true rfl, Nat.le_of_ble_eq_true rfl⟩ ⟨Nat.le_of_ble_eq_true rfl, Nat.le_of_ble_eq_true rfl⟩ rfl (Nat.le_of_ble_eq_true rfl) dJ1_initWords_4 (fun H locs hR hS => ?_)
  refine lv_iconst (v := (1 : Int32)) hx hb dJ1_initWords_7 (by decide) ?_
  refine lv_iadd hx hb dJ1_initWords_8 ?_
  obtain ⟨k2, hf⟩ := gChk hf
  refine g_newa1 X hR hS q506 ((u1 + (1 : Int32)).toNatClampNeg) k2.1 rfl (by have q9 := k2.2; show _ * 8 ≤ _; omega) ⟨Nat.le_of_ble_eq_true rfl, by have q9 := k2.2; show 0 + _ ≤ 1; omega⟩ dJ1_initWords_9 (fun H hR hS => ?_)
  refine W.widen (k := 1) (n := 1) (Nat.le_refl _) (by have q9 := k2.2; omega) ?_
  obtain ⟨h3, eh3, hf⟩ := gBind hf
  refine g_put X hR hS gk_J1 0 (by decide) q496 rfl rfl eh3 rfl rfl rfl dJ1_initWords_11 (fun H locs hR hS => ?_)
  obtain ⟨rfl, rfl⟩ := gO2 hf
  exact g_vret X hR hS rfl ⟨Nat.le_of_ble_eq_true rfl, Nat.le_of_ble_eq_true rfl⟩ dJ1_initWords_14

def sp_J1_init (G : gG) (F : Nat) (h : gH) (n : Nat) (a0 : Nat) (p1 : Int32) : Option (gH × Nat) :=
 (gPv 14 h a0 1 (.int (0 : Int32))).bind fun h1 =>
 (gPv 14 h1 a0 2 (.int (0 : Int32))).bind fun h2 =>
 if 0 ≤ p1 then
 if gIs 14 h2 a0 = true then
 (sp_J1_initWords G F h2 n a0 p1).bind fun u5 =>
 (gPv 14 u5.1 a0 2 (.int (1 : Int32))).bind fun h6 =>
 some ((h6, u5.2)) else none else
 none
theorem yk_J1_init : gIk yJ1_init cJ1_init 2 1 := ⟨q167, rfl, q97, q168, ⟨by decide +kernel, by decide +kernel, by decide +kernel⟩⟩
set_option maxHeartbeats 4000000 in
theorem m_J1_init (l : Launch) (G : gG) (F : Nat) (h : gH) (n : Nat) (a0 : Nat) (p1 : Int32) {h' : gH} {n' : Nat} (hf : sp_J1_init G F h n a0 p1 = some (h', n')) : gMet l G yJ1_init cJ1_init 2 none 2 41 1 1 [.ref a0, .int p1] h n none h' n' := by
  refine gEnter (by decide) [(0, .ref a0), (1, .int p1)] rfl (Nat.le_of_ble_eq_true rfl) ?_
  intro p e s m below meth c H ls X hin hR hS hl
  have hx := X.1.1
  have hb := X.1.2.1
  unfold sp_J1_init at hf
  generalize ([] : List Loc) = locs at hS ⊢
  refine lv_aload_n hx hb dJ1_init_0 rfl (lv_at hl 0 rfl) ?_
  refine g_objInit X q169 q138 q139 hl.1 ⟨Nat.le_of_ble_eq_true rfl, Nat.le_of_ble_eq_true rfl⟩ (Nat.le_of_ble_eq_true rfl) dJ1_init_1 ?_
  refine lv_aload_n hx hb dJ1_init_4 rfl (lv_at hl 0 rfl) ?_
  refine lv_iconst (v := (0 : Int32)) hx hb dJ1_init_5 (by decide) ?_
  obtain ⟨h1, eh1, hf⟩ := gBind hf
  refine g_put X hR hS gk_J1 1 (by decide) q497 rfl rfl eh1 rfl rfl rfl dJ1_init_6 (fun H locs hR hS => ?_)
  refine lv_aload_n hx hb dJ1_init_9 rfl (lv_at hl 0 rfl) ?_
  refine lv_iconst (v := (0 : Int32)) hx hb dJ1_init_10 (by decide) ?_
  obtain ⟨h2, eh2, hf⟩ := gBind hf
  refine g_put X hR hS gk_J1 2 (by decide) q498 rfl rfl eh2 rfl rfl rfl dJ1_init_11 (fun H locs hR hS => ?_)
  refine lv_iload_n hx hb dJ1_init_14 rfl (lv_at hl 1 rfl) ?_
  refine lv_if_ge (tgt := 45) hx hb dJ1_init_15 (by decide) (fun c3 => ?_) (fun c3 => ?_)
  · replace hf := gIfp c3 hf
    refine lv_aload_n hx hb dJ1_init_45 rfl (lv_at hl 0 rfl) ?_
    refine lv_iload_n hx hb dJ1_init_46 rfl (lv_at hl 1 rfl) ?_
    obtain ⟨k4, hf⟩ := gChk hf
    obtain ⟨u5, eu5, hf⟩ := gBind hf
    refine g_callVv X hR hS [.int p1] (m_J1_initWords l G F h2 n a0 p1 eu5) yk_J1_initWords q489 k4 rfl hl.1 ⟨Nat.le_of_ble_eq_true rfl, Nat.le_of_ble_eq_true rfl⟩ ⟨Nat.le_of_ble_eq_true rfl, Nat.le_of_ble_eq_true rfl⟩ rfl (Nat.le_of_ble_eq_true rfl) dJ1_init_47 (fun H locs hR hS => ?_)
    refine lv_aload_n hx hb dJ1_init_50 rfl (lv_at hl 0 rfl) ?_
    refine lv_iconst (v := (1 : Int32)) hx hb dJ1_init_51 (by decide) ?_
    obtain ⟨h6, eh6, hf⟩ := gBind hf
    refine g_put X hR hS gk_J1 2 (by decide) q498 rfl rfl eh6 rfl rfl rfl dJ1_init_52 (fun H locs hR hS => ?_)
    obtain ⟨rfl, rfl⟩ := gO2 hf
    exact g_vret X hR hS rfl ⟨Nat.le_of_ble_eq_true rfl, Nat.le_of_ble_eq_true rfl⟩ dJ1_init_55
  · replace hf := gIfn c3 hf
    cases hf

def sp_X2_init_2 (G : gG) (F : Nat) (h : gH) (n : Nat) (a0 : Nat) (a1 : Nat) (a2 : Nat) : Option (gH × Nat) :=
 (gPv 2 (va_up h n (some (.inl (0, 8, .inl (fun _ => 0))))) a0 1 (.ref n)).bind fun h1 =>
 (sp_J1_init G F (va_up h1 (n + 1) (some (.inr (14, [.null, .int 0, .int 0])))) ((n + 1) + 1) (n + 1) (64 : Int32)).bind fun u3 =>
 (gPv 2 u3.1 a0 2 (.ref (n + 1))).bind fun h4 =>
 (gPv 2 (va_up h4 u3.2 (some (.inl (0, 4, .inl (fun _ => 0))))) a0 3 (.ref u3.2)).bind fun h5 =>
 (gPv 2 h5 a0 7 (.int (-5 : Int32))).bind fun h6 =>
 (gPv 2 h6 a0 8 (.int (-5 : Int32))).bind fun h7 =>
 (gPv 2 h7 a0 9 (.int (-5 : Int32))).bind fun h8 =>
 (gPv 2 h8 a0 0 (.ref a1)).bind fun h9 =>
 (gGr 2 h9 a0 3).bind fun x10 =>
 (gCpy h9 a2 (0 : Int32) x10 (0 : Int32) (4 : Int32)).bind fun h11 =>
 some ((h11, u3.2 + 1))
theorem yk_X2_init_2 : gIk yX2_init_2 cX2_init_2 3 2 := ⟨q161, rfl, q94, q162, ⟨by decide +kernel, by decide +kernel, by decide +kernel⟩⟩
set_option maxHeartbeats 4000000 in
theorem m_X2_init_2 (l : Launch) (G : gG) (F : Nat) (h : gH) (n : Nat) (a0 : Nat) (a1 : Nat) (a2 : Nat) {h' : gH} {n' : Nat} (hf : sp_X2_init_2 G F h n a0 a1 a2 = some (h', n')) : gMet l G yX2_init_2 cX2_init_2 3 none 3 62 4 16 [.ref a0, .ref a1, .ref a2] h n none h' n' := by
  refine gEnter (by decide) [(0, .ref a0), (1, .ref a1), (2, .ref a2)] rfl (Nat.le_of_ble_eq_true rfl) ?_
  intro p e s m below meth c H ls X hin hR hS hl
  have hx := X.1.1
  have hb := X.1.2.1
  unfold sp_X2_init_2 at hf
  generalize ([] : List Loc) = locs at hS ⊢
  refine lv_aload_n hx hb dX2_init_2_0 rfl (lv_at hl 0 rfl) ?_
  refine g_objInit X q163 q138 q139 hl.1 ⟨Nat.le_of_ble_eq_true rfl, Nat.le_of_ble_eq_true rfl⟩ (Nat.le_of_ble_eq_true rfl) dX2_init_2_1 ?_
  refine lv_aload_n hx hb dX2_init_2_4 rfl (lv_at hl 0 rfl) ?_
  refine lv_bipush (v := (8 : Int32)) hx hb dX2_init_2_5 (by decide) ?_
  refine g_newa0 X hR hS q255 8 (by decide) (by decide) (by decide) ⟨Nat.le_of_ble_eq_true rfl, Nat.le_of_ble_eq_true rfl⟩ dX2_init_2_7 (fun H hR hS => ?_)
  obtain ⟨h1, eh1, hf⟩ := gBind hf
  refine g_putF X hR hS hin gk_X2 1 (by decide) q511 rfl rfl rfl eh1 rfl rfl rfl dX2_init_2_9 (fun H locs hR hS => ?_)
  refine lv_aload_n hx hb dX2_init_2_12 rfl (lv_at hl 0 rfl) ?_
  refine g_new X hR hS gk_J1 q164 q165 q97 [.null, .int 0, .int 0] (by decide +kernel) ⟨Nat.le_of_ble_eq_true rfl, Nat.le_of_ble_eq_true rfl⟩ dX2_init_2_13 (fun H hR hS => ?_)
  refine lv_dup hx hb dX2_init_2_16 rfl ?_
  refine lv_bipush (v := (64 : Int32)) hx hb dX2_init_2_17 (by decide) ?_
  obtain ⟨u3, eu3, hf⟩ := gBind hf
  refine g_callI X hR hS [.int (64 : Int32)] (m_J1_init l G F (va_up h1 (n + 1) (some (.inr (14, [.null, .int 0, .int 0])))) ((n + 1) + 1) (n + 1) (64 : Int32) eu3) yk_J1_init q166 rfl hl.1 ⟨Nat.le_of_ble_eq_true rfl, Nat.le_of_ble_eq_true rfl⟩ ⟨Nat.le_of_ble_eq_true rfl, Nat.le_of_ble_eq_true rfl⟩ rfl (Nat.le_of_ble_eq_true rfl) dX2_init_2_19 (fun H locs hR hS => ?_)
  obtain ⟨h4, eh4, hf⟩ := gBind hf
  refine g_putF X hR hS hin gk_X2 2 (by decide) q514 rfl rfl rfl eh4 rfl rfl rfl dX2_init_2_22 (fun H locs hR hS => ?_)
  refine lv_aload_n hx hb dX2_init_2_25 rfl (lv_at hl 0 rfl) ?_
  refine lv_iconst (v := (4 : Int32)) hx hb dX2_init_2_26 (by decide) ?_
  refine g_newa0 X hR hS q255 4 (by decide) (by decide) (by decide) ⟨Nat.le_of_ble_eq_true rfl, Nat.le_of_ble_eq_true rfl⟩ dX2_init_2_27 (fun H hR hS => ?_)
  obtain ⟨h5, eh5, hf⟩ := gBind hf
  refine g_putF X hR hS hin gk_X2 3 (by decide) q518 rfl rfl rfl eh5 rfl rfl rfl dX2_init_2_29 (fun H locs hR hS => ?_)
  refine lv_aload_n hx hb dX2_init_2_32 rfl (lv_at hl 0 rfl) ?_
  refine lv_bipush (v := (-5 : Int32)) hx hb dX2_init_2_33 (by decide) ?_
  obtain ⟨h6, eh6, hf⟩ := gBind hf
  refine g_put X hR hS gk_X2 7 (by decide) q532 rfl rfl eh6 rfl rfl rfl dX2_init_2_35 (fun H locs hR hS => ?_)
  refine lv_aload_n hx hb dX2_init_2_38 rfl (lv_at hl 0 rfl) ?_
  refine lv_bipush (v := (-5 : Int32)) hx hb dX2_init_2_39 (by decide) ?_
  obtain ⟨h7, eh7, hf⟩ := gBind hf
  refine g_put X hR hS gk_X2 8 (by decide) q535 rfl rfl eh7 rfl rfl rfl dX2_init_2_41 (fun H locs hR hS => ?_)
  refine lv_aload_n hx hb dX2_init_2_44 rfl (lv_at hl 0 rfl) ?_
  refine lv_bipush (v := (-5 : Int32)) hx hb dX2_init_2_45 (by decide) ?_
  obtain ⟨h8, eh8, hf⟩ := gBind hf
  refine g_put X hR hS gk_X2 9 (by decide) q538 rfl rfl eh8 rfl rfl rfl dX2_init_2_47 (fun H locs hR hS => ?_)
  refine lv_aload_n hx hb dX2_init_2_50 rfl (lv_at hl 0 rfl) ?_
  refine lv_aload_n hx hb dX2_init_2_51 rfl (lv_at hl 1 rfl) ?_
  obtain ⟨h9, eh9, hf⟩ := gBind hf
  refine g_put X hR hS gk_X2 0 (by decide) q508 rfl rfl eh9 rfl rfl rfl dX2_init_2_52 (fun H locs hR hS => ?_)
  refine lv_aload_n hx hb dX2_init_2_55 rfl (lv_at hl 2 rfl) ?_
  refine lv_iconst (v := (0 : Int32)) hx hb dX2_init_2_56 (by decide) ?_
  refine lv_aload_n hx hb dX2_init_2_57 rfl (lv_at hl 0 rfl) ?_
  obtain ⟨x10, ex10, hf⟩ := gBind hf
  refine g_getr X hR gk_X2 3 (by decide) q518 rfl ex10 dX2_init_2_58 ?_
  refine lv_iconst (v := (0 : Int32)) hx hb dX2_init_2_61 (by decide) ?_
  refine lv_iconst (v := (4 : Int32)) hx hb dX2_init_2_62 (by decide) ?_
  obtain ⟨h11, eh11, hf⟩ := gBind hf
  refine g_copy X hR hS q507 hl.1 ⟨Nat.le_of_ble_eq_true rfl, Nat.le_of_ble_eq_true rfl⟩ (Nat.le_of_ble_eq_true rfl) eh11 dX2_init_2_63 (fun H locs hR hS => ?_)
  obtain ⟨rfl, rfl⟩ := gO2 hf
  exact g_vret X hR hS rfl ⟨Nat.le_of_ble_eq_true rfl, Nat.le_of_ble_eq_true rfl⟩ dX2_init_2_66

def sp_X2_init (G : gG) (F : Nat) (h : gH) (n : Nat) (a0 : Nat) : Option (gH × Nat) :=
 (gSi (va_up h n (some (.inl (0, 4, .inl (fun _ => 0))))) n (0 : Int32) (5 : Int32)).bind fun h1 =>
 (gSi h1 n (1 : Int32) (40 : Int32)).bind fun h2 =>
 (gSi h2 n (2 : Int32) (3 : Int32)).bind fun h3 =>
 (gSi h3 n (3 : Int32) (0 : Int32)).bind fun h4 =>
 (sp_X2_init_2 G F h4 (n + 1) a0 (gS G 0) n).bind fun u5 =>
 some ((u5.1, u5.2))
theorem yk_X2_init : gIk yX2_init cX2_init 1 0 := ⟨q156, rfl, q94, q157, ⟨by decide +kernel, by decide +kernel, by decide +kernel⟩⟩
set_option maxHeartbeats 4000000 in
theorem m_X2_init (l : Launch) (G : gG) (F : Nat) (h : gH) (n : Nat) (a0 : Nat) {h' : gH} {n' : Nat} (hf : sp_X2_init G F h n a0 = some (h', n')) : gMet l G yX2_init cX2_init 1 none 4 84 5 20 [.ref a0] h n none h' n' := by
  refine gEnter (by decide) [(0, .ref a0)] rfl (Nat.le_of_ble_eq_true rfl) ?_
  intro p e s m below meth c H ls X hin hR hS hl
  have hx := X.1.1
  have hb := X.1.2.1
  unfold sp_X2_init at hf
  generalize ([] : List Loc) = locs at hS ⊢
  refine lv_aload_n hx hb dX2_init_0 rfl (lv_at hl 0 rfl) ?_
  refine g_kind X hS 0 (by decide) q158 dX2_init_1 ?_
  refine lv_iconst (v := (4 : Int32)) hx hb dX2_init_4 (by decide) ?_
  refine g_newa0 X hR hS q255 4 (by decide) (by decide) (by decide) ⟨Nat.le_of_ble_eq_true rfl, Nat.le_of_ble_eq_true rfl⟩ dX2_init_5 (fun H hR hS => ?_)
  refine lv_dup hx hb dX2_init_7 rfl ?_
  refine lv_iconst (v := (0 : Int32)) hx hb dX2_init_8 (by decide) ?_
  refine lv_iconst (v := (5 : Int32)) hx hb dX2_init_9 (by decide) ?_
  obtain ⟨h1, eh1, hf⟩ := gBind hf
  refine g_iast X hR hS eh1 dX2_init_10 (fun H locs hR hS => ?_)
  refine lv_dup hx hb dX2_init_11 rfl ?_
  refine lv_iconst (v := (1 : Int32)) hx hb dX2_init_12 (by decide) ?_
  refine lv_bipush (v := (40 : Int32)) hx hb dX2_init_13 (by decide) ?_
  obtain ⟨h2, eh2, hf⟩ := gBind hf
  refine g_iast X hR hS eh2 dX2_init_15 (fun H locs hR hS => ?_)
  refine lv_dup hx hb dX2_init_16 rfl ?_
  refine lv_iconst (v := (2 : Int32)) hx hb dX2_init_17 (by decide) ?_
  refine lv_iconst (v := (3 : Int32)) hx hb dX2_init_18 (by decide) ?_
  obtain ⟨h3, eh3, hf⟩ := gBind hf
  refine g_iast X hR hS eh3 dX2_init_19 (fun H locs hR hS => ?_)
  refine lv_dup hx hb dX2_init_20 rfl ?_
  refine lv_iconst (v := (3 : Int32)) hx hb dX2_init_21 (by decide) ?_
  refine lv_iconst (v := (0 : Int32)) hx hb dX2_init_22 (by decide) ?_
  obtain ⟨h4, eh4, hf⟩ := gBind hf
  refine g_iast X hR hS eh4 dX2_init_23 (fun H locs hR hS => ?_)
  obtain ⟨u5, eu5, hf⟩ := gBind hf
  refine g_callI X hR hS [.ref (gS G 0), .ref n] (m_X2_init_2 l G F h4 (n + 1) a0 (gS G 0) n eu5) yk_X2_init_2 q160 rfl hl.1 ⟨Nat.le_of_ble_eq_true rfl, Nat.le_of_ble_eq_true rfl⟩ ⟨Nat.le_of_ble_eq_true rfl, Nat.le_of_ble_eq_true rfl⟩ rfl (Nat.le_of_ble_eq_true rfl) dX2_init_24 (fun H locs hR hS => ?_)
  obtain ⟨rfl, rfl⟩ := gO2 hf
  exact g_vret X hR hS rfl ⟨Nat.le_of_ble_eq_true rfl, Nat.le_of_ble_eq_true rfl⟩ dX2_init_27

def sp_J1_clear_L0 (G : gG) (F : Nat) : Nat → gH → Nat → Option (gH)
  | 0, _, _ => none
  | f + 1, h0L, v0_0 =>
    (gGi 14 h0L v0_0 1).bind fun x101 =>
    if x101 ≤ 0 then
    some (h0L) else
    (gGr 14 h0L v0_0 0).bind fun x103 =>
    (gGi 14 h0L v0_0 1).bind fun x104 =>
    (gPv 14 h0L v0_0 1 (.int (x104 - (1 : Int32)))).bind fun h105 =>
    (gSl h105 x103 (x104 - (1 : Int32)) (0 : Int64)).bind fun h106 =>
    sp_J1_clear_L0 G F f h106 v0_0
def sp_J1_clear (G : gG) (F : Nat) (h : gH) (a0 : Nat) : Option (gH) :=
 (sp_J1_clear_L0 G F F h a0).bind fun y3 =>
 some (y3)
theorem yk_J1_clear : gVk yJ1_clear cJ1_clear 1 none 0 14 := ⟨q852, q853, q97, q854, ⟨by decide +kernel, by decide +kernel, by decide +kernel⟩, rfl⟩
set_option maxHeartbeats 4000000 in
theorem m_J1_clear (l : Launch) (G : gG) (F : Nat) (h : gH) (n : Nat) (a0 : Nat) {h' : gH} (hf : sp_J1_clear G F h a0 = some h') : gMet l G yJ1_clear cJ1_clear 1 none 0 0 0 0 [.ref a0] h n none h' n := by
  refine gEnter (by decide) [(0, .ref a0)] rfl (Nat.le_of_ble_eq_true rfl) ?_
  intro p e s m below meth c H ls X hin hR hS hl
  have hx := X.1.1
  have hb := X.1.2.1
  unfold sp_J1_clear at hf
  generalize ([] : List Loc) = locs at hS ⊢
  have L0_q1 : ∀ (f : Nat) (h0L : gH) (v0_0 : Nat) (o2 : gH) (H : Heap) (locs : List Loc) (ls : Array Slot), sp_J1_clear_L0 G F f h0L v0_0 = some o2 → gRep G h0L n H → va_S (gFr G) s.heap H locs → lv_has ls 1 [(0, .ref v0_0)] → (∀ (H : Heap) (locs : List Loc) (ls : Array Slot), gRep G o2 n H → va_S (gFr G) s.heap H locs → lv_has ls 1 [] → W p l e ({ frames := 0, cells := 0, slots := 0, locals := 0 } : Room) s m ([.ref a0] : List Value).toArray below meth c H locs 0 0 (MQ below (gQ G none h' n) ([.ref a0] : List Value).toArray s 0 0 (gFr G)) (F0 m 27 ls [])) → W p l e ({ frames := 0, cells := 0, slots := 0, locals := 0 } : Room) s m ([.ref a0] : List Value).toArray below meth c H locs 0 0 (MQ below (gQ G none h' n) ([.ref a0] : List Value).toArray s 0 0 (gFr G)) (F0 m 0 ls []) := by
    clear hf
    intro f
    induction f with
    | zero =>
      intro h0L v0_0 o2 H locs ls hf
      cases hf
    | succ f ih =>
      intro h0L v0_0 o2 H locs ls hf hR hS hl K0
      rw [sp_J1_clear_L0] at hf
      refine lv_aload_n hx hb dJ1_clear_0 rfl (lv_at hl 0 rfl) ?_
      obtain ⟨x101, ex101, hf⟩ := gBind hf
      refine g_geti X hR gk_J1 1 (by decide) q497 rfl ex101 dJ1_clear_1 ?_
      refine lv_if_le (tgt := 27) hx hb dJ1_clear_4 (by decide) (fun c102 => ?_) (fun c102 => ?_)
      · replace hf := gIfp c102 hf
        obtain rfl := gO1 hf
        exact K0 _ _ _ hR hS (lv_sub hl [] rfl)
      · replace hf := gIfn c102 hf
        refine lv_aload_n hx hb dJ1_clear_7 rfl (lv_at hl 0 rfl) ?_
        obtain ⟨x103, ex103, hf⟩ := gBind hf
        refine g_getr X hR gk_J1 0 (by decide) q496 rfl ex103 dJ1_clear_8 ?_
        refine lv_aload_n hx hb dJ1_clear_11 rfl (lv_at hl 0 rfl) ?_
        refine lv_dup hx hb dJ1_clear_12 rfl ?_
        obtain ⟨x104, ex104, hf⟩ := gBind hf
        refine g_geti X hR gk_J1 1 (by decide) q497 rfl ex104 dJ1_clear_13 ?_
        refine lv_iconst (v := (1 : Int32)) hx hb dJ1_clear_16 (by decide) ?_
        refine lv_isub hx hb dJ1_clear_17 ?_
        refine lv_dup_x1 hx hb dJ1_clear_18 rfl rfl ?_
        obtain ⟨h105, eh105, hf⟩ := gBind hf
        refine g_put X hR hS gk_J1 1 (by decide) q497 rfl rfl eh105 rfl rfl rfl dJ1_clear_19 (fun H locs hR hS => ?_)
        refine lv_lconst (v := (0 : Int64)) hx hb dJ1_clear_22 (by decide) ?_
        obtain ⟨h106, eh106, hf⟩ := gBind hf
        refine g_last X hR hS eh106 dJ1_clear_23 (fun H locs hR hS => ?_)
        refine lv_goto (tgt := 0) hx hb dJ1_clear_24 (by decide) ?_
        exact ih h106 v0_0 _ _ _ _ hf hR hS (lv_sub hl [0] rfl) K0
  obtain ⟨y3, ey3, hf⟩ := gBind hf
  refine L0_q1 F h a0 y3 _ _ _ ey3 hR hS (lv_sub hl [0] rfl) (fun H locs ls hR hS hl => ?_)
  obtain rfl := gO1 hf
  exact g_vret X hR hS rfl ⟨Nat.le_of_ble_eq_true rfl, Nat.le_of_ble_eq_true rfl⟩ dJ1_clear_27

def sp_X2_begins (G : gG) (F : Nat) (h : gH) (a0 : Nat) (a1 : Nat) : Option (gH) :=
 (gPv 2 h a0 0 (.ref a1)).bind fun h1 =>
 (gPv 2 h1 a0 4 (.int (0 : Int32))).bind fun h2 =>
 (gGr 2 h2 a0 2).bind fun x3 =>
 if gIs 14 h2 x3 = true then
 (sp_J1_clear G F h2 x3).bind fun u5 =>
 (gGr 2 u5 a0 3).bind fun x6 =>
 (gSi u5 x6 (0 : Int32) (5 : Int32)).bind fun h7 =>
 (gGr 2 h7 a0 3).bind fun x8 =>
 (gSi h7 x8 (1 : Int32) (40 : Int32)).bind fun h9 =>
 (gGr 2 h9 a0 3).bind fun x10 =>
 (gSi h9 x10 (2 : Int32) (3 : Int32)).bind fun h11 =>
 (gGr 2 h11 a0 3).bind fun x12 =>
 (gSi h11 x12 (3 : Int32) (0 : Int32)).bind fun h13 =>
 (gPv 2 h13 a0 5 (.int (0 : Int32))).bind fun h14 =>
 (gPv 2 h14 a0 6 (.int (0 : Int32))).bind fun h15 =>
 (gPv 2 h15 a0 7 (.int (-5 : Int32))).bind fun h16 =>
 (gPv 2 h16 a0 8 (.int (-5 : Int32))).bind fun h17 =>
 (gPv 2 h17 a0 9 (.int (-5 : Int32))).bind fun h18 =>
 (gPv 2 h18 a0 10 (.int (0 : Int32))).bind fun h19 =>
 (gPv 2 h19 a0 11 (.int (0 : Int32))).bind fun h20 =>
 some (h20) else none
theorem yk_X2_begins : gVk yX2_begins cX2_begins 2 none 1 2 := ⟨q848, q849, q94, q850, ⟨by decide +kernel, by decide +kernel, by decide +kernel⟩, rfl⟩
set_option maxHeartbeats 4000000 in
theorem m_X2_begins (l : Launch) (G : gG) (F : Nat) (h : gH) (n : Nat) (a0 : Nat) (a1 : Nat) {h' : gH} (hf : sp_X2_begins G F h a0 a1 = some h') : gMet l G yX2_begins cX2_begins 2 none 1 20 0 0 [.ref a0, .ref a1] h n none h' n := by
  refine gEnter (by decide) [(0, .ref a0), (1, .ref a1)] rfl (Nat.le_of_ble_eq_true rfl) ?_
  intro p e s m below meth c H ls X hin hR hS hl
  have hx := X.1.1
  have hb := X.1.2.1
  unfold sp_X2_begins at hf
  generalize ([] : List Loc) = locs at hS ⊢
  refine lv_aload_n hx hb dX2_begins_0 rfl (lv_at hl 0 rfl) ?_
  refine lv_aload_n hx hb dX2_begins_1 rfl (lv_at hl 1 rfl) ?_
  obtain ⟨h1, eh1, hf⟩ := gBind hf
  refine g_put X hR hS gk_X2 0 (by decide) q508 rfl rfl eh1 rfl rfl rfl dX2_begins_2 (fun H locs hR hS => ?_)
  refine lv_aload_n hx hb dX2_begins_5 rfl (lv_at hl 0 rfl) ?_
  refine lv_iconst (v := (0 : Int32)) hx hb dX2_begins_6 (by decide) ?_
  obtain ⟨h2, eh2, hf⟩ := gBind hf
  refine g_put X hR hS gk_X2 4 (by decide) q522 rfl rfl eh2 rfl rfl rfl dX2_begins_7 (fun H locs hR hS => ?_)
  refine lv_aload_n hx hb dX2_begins_10 rfl (lv_at hl 0 rfl) ?_
  obtain ⟨x3, ex3, hf⟩ := gBind hf
  refine g_getr X hR gk_X2 2 (by decide) q514 rfl ex3 dX2_begins_11 ?_
  obtain ⟨k4, hf⟩ := gChk hf
  obtain ⟨u5, eu5, hf⟩ := gBind hf
  refine g_callVv X hR hS [] (m_J1_clear l G F h2 n x3 eu5) yk_J1_clear q851 k4 rfl hl.1 ⟨Nat.le_of_ble_eq_true rfl, Nat.le_of_ble_eq_true rfl⟩ ⟨Nat.le_of_ble_eq_true rfl, Nat.le_of_ble_eq_true rfl⟩ rfl (Nat.le_of_ble_eq_true rfl) dX2_begins_14 (fun H locs hR hS => ?_)
  refine lv_aload_n hx hb dX2_begins_17 rfl (lv_at hl 0 rfl) ?_
  obtain ⟨x6, ex6, hf⟩ := gBind hf
  refine g_getr X hR gk_X2 3 (by decide) q518 rfl ex6 dX2_begins_18 ?_
  refine lv_iconst (v := (0 : Int32)) hx hb dX2_begins_21 (by decide) ?_
  refine lv_iconst (v := (5 : Int32)) hx hb dX2_begins_22 (by decide) ?_
  obtain ⟨h7, eh7, hf⟩ := gBind hf
  refine g_iast X hR hS eh7 dX2_begins_23 (fun H locs hR hS => ?_)
  refine lv_aload_n hx hb dX2_begins_24 rfl (lv_at hl 0 rfl) ?_
  obtain ⟨x8, ex8, hf⟩ := gBind hf
  refine g_getr X hR gk_X2 3 (by decide) q518 rfl ex8 dX2_begins_25 ?_
  refine lv_iconst (v := (1 : Int32)) hx hb dX2_begins_28 (by decide) ?_
  refine lv_bipush (v := (40 : Int32)) hx hb dX2_begins_29 (by decide) ?_
  obtain ⟨h9, eh9, hf⟩ := gBind hf
  refine g_iast X hR hS eh9 dX2_begins_31 (fun H locs hR hS => ?_)
  refine lv_aload_n hx hb dX2_begins_32 rfl (lv_at hl 0 rfl) ?_
  obtain ⟨x10, ex10, hf⟩ := gBind hf
  refine g_getr X hR gk_X2 3 (by decide) q518 rfl ex10 dX2_begins_33 ?_
  refine lv_iconst (v := (2 : Int32)) hx hb dX2_begins_36 (by decide) ?_
  refine lv_iconst (v := (3 : Int32)) hx hb dX2_begins_37 (by decide) ?_
  obtain ⟨h11, eh11, hf⟩ := gBind hf
  refine g_iast X hR hS eh11 dX2_begins_38 (fun H locs hR hS => ?_)
  refine lv_aload_n hx hb dX2_begins_39 rfl (lv_at hl 0 rfl) ?_
  obtain ⟨x12, ex12, hf⟩ := gBind hf
  refine g_getr X hR gk_X2 3 (by decide) q518 rfl ex12 dX2_begins_40 ?_
  refine lv_iconst (v := (3 : Int32)) hx hb dX2_begins_43 (by decide) ?_
  refine lv_iconst (v := (0 : Int32)) hx hb dX2_begins_44 (by decide) ?_
  obtain ⟨h13, eh13, hf⟩ := gBind hf
  refine g_iast X hR hS eh13 dX2_begins_45 (fun H locs hR hS => ?_)
  refine lv_aload_n hx hb dX2_begins_46 rfl (lv_at hl 0 rfl) ?_
  refine lv_iconst (v := (0 : Int32)) hx hb dX2_begins_47 (by decide) ?_
  obtain ⟨h14, eh14, hf⟩ := gBind hf
  refine g_put X hR hS gk_X2 5 (by decide) q526 rfl rfl eh14 rfl rfl rfl dX2_begins_48 (fun H locs hR hS => ?_)
  refine lv_aload_n hx hb dX2_begins_51 rfl (lv_at hl 0 rfl) ?_
  refine lv_iconst (v := (0 : Int32)) hx hb dX2_begins_52 (by decide) ?_
  obtain ⟨h15, eh15, hf⟩ := gBind hf
  refine g_put X hR hS gk_X2 6 (by decide) q529 rfl rfl eh15 rfl rfl rfl dX2_begins_53 (fun H locs hR hS => ?_)
  refine lv_aload_n hx hb dX2_begins_56 rfl (lv_at hl 0 rfl) ?_
  refine lv_bipush (v := (-5 : Int32)) hx hb dX2_begins_57 (by decide) ?_
  obtain ⟨h16, eh16, hf⟩ := gBind hf
  refine g_put X hR hS gk_X2 7 (by decide) q532 rfl rfl eh16 rfl rfl rfl dX2_begins_59 (fun H locs hR hS => ?_)
  refine lv_aload_n hx hb dX2_begins_62 rfl (lv_at hl 0 rfl) ?_
  refine lv_bipush (v := (-5 : Int32)) hx hb dX2_begins_63 (by decide) ?_
  obtain ⟨h17, eh17, hf⟩ := gBind hf
  refine g_put X hR hS gk_X2 8 (by decide) q535 rfl rfl eh17 rfl rfl rfl dX2_begins_65 (fun H locs hR hS => ?_)
  refine lv_aload_n hx hb dX2_begins_68 rfl (lv_at hl 0 rfl) ?_
  refine lv_bipush (v := (-5 : Int32)) hx hb dX2_begins_69 (by decide) ?_
  obtain ⟨h18, eh18, hf⟩ := gBind hf
  refine g_put X hR hS gk_X2 9 (by decide) q538 rfl rfl eh18 rfl rfl rfl dX2_begins_71 (fun H locs hR hS => ?_)
  refine lv_aload_n hx hb dX2_begins_74 rfl (lv_at hl 0 rfl) ?_
  refine lv_iconst (v := (0 : Int32)) hx hb dX2_begins_75 (by decide) ?_
  obtain ⟨h19, eh19, hf⟩ := gBind hf
  refine g_put X hR hS gk_X2 10 (by decide) q541 rfl rfl eh19 rfl rfl rfl dX2_begins_76 (fun H locs hR hS => ?_)
  refine lv_aload_n hx hb dX2_begins_79 rfl (lv_at hl 0 rfl) ?_
  refine lv_iconst (v := (0 : Int32)) hx hb dX2_begins_80 (by decide) ?_
  obtain ⟨h20, eh20, hf⟩ := gBind hf
  refine g_put X hR hS gk_X2 11 (by decide) q544 rfl rfl eh20 rfl rfl rfl dX2_begins_81 (fun H locs hR hS => ?_)
  obtain rfl := gO1 hf
  exact g_vret X hR hS rfl ⟨Nat.le_of_ble_eq_true rfl, Nat.le_of_ble_eq_true rfl⟩ dX2_begins_84

def sp_J11_max (G : gG) (F : Nat) (h : gH) (p0 : Int32) (p1 : Int32) : Option (Int32) :=
 if p0 < p1 then
 some (p1) else
 some (p0)
theorem yk_J11_max : gSk yJ11_max cJ11_max 2 (some .int) 2 := ⟨q295, q107, q296, ⟨by decide +kernel, by decide +kernel, by decide +kernel⟩⟩
set_option maxHeartbeats 4000000 in
theorem m_J11_max (l : Launch) (G : gG) (F : Nat) (h : gH) (n : Nat) (p0 : Int32) (p1 : Int32) {r : Int32} (hf : sp_J11_max G F h p0 p1 = some r) : gMet l G yJ11_max cJ11_max 2 (some .int) 0 0 0 0 [.int p0, .int p1] h n (some (.int r)) h n := by
  refine gEnterF (by decide +kernel) [(0, .int p0), (1, .int p1)] rfl (Nat.le_of_ble_eq_true rfl) ?_
  intro p e s m below meth c H ls X hin hR hS hl
  have hx := X.1.1
  have hb := X.1.2.1
  unfold sp_J11_max at hf
  generalize ([] : List Loc) = locs at hS ⊢
  refine lv_iload_n hx hb dJ11_max_0 rfl (lv_at hl 0 rfl) ?_
  refine lv_iload_n hx hb dJ11_max_1 rfl (lv_at hl 1 rfl) ?_
  refine lv_icmp_lt (tgt := 9) hx hb dJ11_max_2 (by decide) (fun c1 => ?_) (fun c1 => ?_)
  · replace hf := gIfp c1 hf
    refine lv_iload_n hx hb dJ11_max_9 rfl (lv_at hl 1 rfl) ?_
    obtain rfl := gO1 hf
    exact g_iret X hR hS _ rfl ⟨Nat.le_of_ble_eq_true rfl, Nat.le_of_ble_eq_true rfl⟩ dJ11_max_10
  · replace hf := gIfn c1 hf
    refine lv_iload_n hx hb dJ11_max_5 rfl (lv_at hl 0 rfl) ?_
    refine lv_goto (tgt := 10) hx hb dJ11_max_6 (by decide) ?_
    obtain rfl := gO1 hf
    exact g_iret X hR hS _ rfl ⟨Nat.le_of_ble_eq_true rfl, Nat.le_of_ble_eq_true rfl⟩ dJ11_max_10

def sp_J1_ensureCapacity (G : gG) (F : Nat) (h : gH) (a0 : Nat) (p1 : Int32) : Option (Unit) :=
 (gGr 14 h a0 0).bind fun x1 =>
 (gAn 1 h x1).bind fun x2 =>
 if p1 ≤ x2 then
 some (()) else
 (gGr 14 h a0 0).bind fun x4 =>
 (gAn 1 h x4).bind fun x5 =>
 (sp_J11_max G F h ((2 : Int32) * x5) p1).bind fun u6 =>
 (gGr 14 h a0 0).bind fun x7 =>
 none
theorem yk_J1_ensureCapacity : gVk yJ1_ensureCapacity cJ1_ensureCapacity 3 none 1 14 := ⟨q886, qs3, q97, q887, ⟨by decide +kernel, by decide +kernel, by decide +kernel⟩, rfl⟩
set_option maxHeartbeats 4000000 in
theorem m_J1_ensureCapacity (l : Launch) (G : gG) (F : Nat) (h : gH) (n : Nat) (a0 : Nat) (p1 : Int32)  (hf : sp_J1_ensureCapacity G F h a0 p1 = some ()) : gMet l G yJ1_ensureCapacity cJ1_ensureCapacity 3 none 1 21 0 0 [.ref a0, .int p1] h n none h n := by
  refine gEnter (by decide) [(0, .ref a0), (1, .int p1)] rfl (Nat.le_of_ble_eq_true rfl) ?_
  intro p e s m below meth c H ls X hin hR hS hl
  have hx := X.1.1
  have hb := X.1.2.1
  unfold sp_J1_ensureCapacity at hf
  generalize ([] : List Loc) = locs at hS ⊢
  refine lv_aload_n hx hb dJ1_ensureCapacity_0 rfl (lv_at hl 0 rfl) ?_
  obtain ⟨x1, ex1, hf⟩ := gBind hf
  refine g_getr X hR gk_J1 0 (by decide) q496 rfl ex1 dJ1_ensureCapacity_1 ?_
  obtain ⟨x2, ex2, hf⟩ := gBind hf
  refine g_alen X hR 1 (by decide) ex2 dJ1_ensureCapacity_4 ?_
  refine lv_iload_n hx hb dJ1_ensureCapacity_5 rfl (lv_at hl 1 rfl) ?_
  refine lv_icmp_ge (tgt := 38) hx hb dJ1_ensureCapacity_6 (by decide) (fun c3 => ?_) (fun c3 => ?_)
  · replace hf := gIfp c3 hf
    exact g_vret X hR hS rfl ⟨Nat.le_of_ble_eq_true rfl, Nat.le_of_ble_eq_true rfl⟩ dJ1_ensureCapacity_38
  · replace hf := gIfn c3 hf
    refine lv_iconst (v := (2 : Int32)) hx hb dJ1_ensureCapacity_9 (by decide) ?_
    refine lv_aload_n hx hb dJ1_ensureCapacity_10 rfl (lv_at hl 0 rfl) ?_
    obtain ⟨x4, ex4, hf⟩ := gBind hf
    refine g_getr X hR gk_J1 0 (by decide) q496 rfl ex4 dJ1_ensureCapacity_11 ?_
    obtain ⟨x5, ex5, hf⟩ := gBind hf
    refine g_alen X hR 1 (by decide) ex5 dJ1_ensureCapacity_14 ?_
    refine lv_imul hx hb dJ1_ensureCapacity_15 ?_
    refine lv_iload_n hx hb dJ1_ensureCapacity_16 rfl (lv_at hl 1 rfl) ?_
    obtain ⟨u6, eu6, hf⟩ := gBind hf
    refine g_callSi X hR hS [.int ((2 : Int32) * x5), .int p1] (m_J11_max l G F h n ((2 : Int32) * x5) p1 eu6) yk_J11_max q888 rfl hl.1 ⟨Nat.le_of_ble_eq_true rfl, Nat.le_of_ble_eq_true rfl⟩ ⟨Nat.le_of_ble_eq_true rfl, Nat.le_of_ble_eq_true rfl⟩ rfl (Nat.le_of_ble_eq_true rfl) dJ1_ensureCapacity_17 (fun H locs hR hS => ?_)
    refine lv_istore_n (lv' := [(2, .int u6), (0, .ref a0), (1, .int p1)]) hx hb dJ1_ensureCapacity_20 rfl hl (by decide) rfl (fun ls hl => ?_)
    refine lv_aload_n hx hb dJ1_ensureCapacity_21 rfl (lv_at hl 1 rfl) ?_
    refine lv_aload_n hx hb dJ1_ensureCapacity_22 rfl (lv_at hl 1 rfl) ?_
    obtain ⟨x7, ex7, hf⟩ := gBind hf
    refine g_getr X hR gk_J1 0 (by decide) q496 rfl ex7 dJ1_ensureCapacity_23 ?_
    refine lv_iload_n hx hb dJ1_ensureCapacity_26 rfl (lv_at hl 0 rfl) ?_
    cases hf

def sp_J1_expandTo (G : gG) (F : Nat) (h : gH) (a0 : Nat) (p1 : Int32) : Option (gH) :=
 (gGi 14 h a0 1).bind fun x1 =>
 if (p1 + (1 : Int32)) ≤ x1 then
 some (h) else
 if gIs 14 h a0 = true then
 (sp_J1_ensureCapacity G F h a0 (p1 + (1 : Int32))).bind fun u4 =>
 (gPv 14 h a0 1 (.int (p1 + (1 : Int32)))).bind fun h5 =>
 some (h5) else none
theorem yk_J1_expandTo : gVk yJ1_expandTo cJ1_expandTo 3 none 1 14 := ⟨q882, qs2, q97, q883, ⟨by decide +kernel, by decide +kernel, by decide +kernel⟩, rfl⟩
set_option maxHeartbeats 4000000 in
theorem m_J1_expandTo (l : Launch) (G : gG) (F : Nat) (h : gH) (n : Nat) (a0 : Nat) (p1 : Int32) {h' : gH} (hf : sp_J1_expandTo G F h a0 p1 = some h') : gMet l G yJ1_expandTo cJ1_expandTo 3 none 2 43 0 0 [.ref a0, .int p1] h n none h' n := by
  refine gEnter (by decide) [(0, .ref a0), (1, .int p1)] rfl (Nat.le_of_ble_eq_true rfl) ?_
  intro p e s m below meth c H ls X hin hR hS hl
  have hx := X.1.1
  have hb := X.1.2.1
  unfold sp_J1_expandTo at hf
  generalize ([] : List Loc) = locs at hS ⊢
  refine lv_iload_n hx hb dJ1_expandTo_0 rfl (lv_at hl 1 rfl) ?_
  refine lv_iconst (v := (1 : Int32)) hx hb dJ1_expandTo_1 (by decide) ?_
  refine lv_iadd hx hb dJ1_expandTo_2 ?_
  refine lv_istore_n (lv' := [(2, .int (p1 + (1 : Int32))), (0, .ref a0), (1, .int p1)]) hx hb dJ1_expandTo_3 rfl hl (by decide) rfl (fun ls hl => ?_)
  refine lv_aload_n hx hb dJ1_expandTo_4 rfl (lv_at hl 1 rfl) ?_
  obtain ⟨x1, ex1, hf⟩ := gBind hf
  refine g_geti X hR gk_J1 1 (by decide) q497 rfl ex1 dJ1_expandTo_5 ?_
  refine lv_iload_n hx hb dJ1_expandTo_8 rfl (lv_at hl 0 rfl) ?_
  refine lv_icmp_ge (tgt := 22) hx hb dJ1_expandTo_9 (by decide) (fun c2 => ?_) (fun c2 => ?_)
  · replace hf := gIfp c2 hf
    obtain rfl := gO1 hf
    exact g_vret X hR hS rfl ⟨Nat.le_of_ble_eq_true rfl, Nat.le_of_ble_eq_true rfl⟩ dJ1_expandTo_22
  · replace hf := gIfn c2 hf
    refine lv_aload_n hx hb dJ1_expandTo_12 rfl (lv_at hl 1 rfl) ?_
    refine lv_iload_n hx hb dJ1_expandTo_13 rfl (lv_at hl 0 rfl) ?_
    obtain ⟨k3, hf⟩ := gChk hf
    obtain ⟨u4, eu4, hf⟩ := gBind hf
    refine g_callVv X hR hS [.int (p1 + (1 : Int32))] (m_J1_ensureCapacity l G F h n a0 (p1 + (1 : Int32)) eu4) yk_J1_ensureCapacity q884 k3 rfl hl.1 ⟨Nat.le_of_ble_eq_true rfl, Nat.le_of_ble_eq_true rfl⟩ ⟨Nat.le_of_ble_eq_true rfl, Nat.le_of_ble_eq_true rfl⟩ rfl (Nat.le_of_ble_eq_true rfl) dJ1_expandTo_14 (fun H locs hR hS => ?_)
    refine lv_aload_n hx hb dJ1_expandTo_17 rfl (lv_at hl 1 rfl) ?_
    refine lv_iload_n hx hb dJ1_expandTo_18 rfl (lv_at hl 0 rfl) ?_
    obtain ⟨h5, eh5, hf⟩ := gBind hf
    refine g_put X hR hS gk_J1 1 (by decide) q497 rfl rfl eh5 rfl rfl rfl dJ1_expandTo_19 (fun H locs hR hS => ?_)
    obtain rfl := gO1 hf
    exact g_vret X hR hS rfl ⟨Nat.le_of_ble_eq_true rfl, Nat.le_of_ble_eq_true rfl⟩ dJ1_expandTo_22

def sp_J1_checkInvariants (G : gG) (F : Nat) (h : gH) (a0 : Nat) : Option (Unit) :=
 some (())
theorem yk_J1_checkInvariants : gVk yJ1_checkInvariants cJ1_checkInvariants 1 none 0 14 := ⟨q899, qs4, q97, q900, ⟨by decide +kernel, by decide +kernel, by decide +kernel⟩, rfl⟩
set_option maxHeartbeats 4000000 in
theorem m_J1_checkInvariants (l : Launch) (G : gG) (F : Nat) (h : gH) (n : Nat) (a0 : Nat)  (hf : sp_J1_checkInvariants G F h a0 = some ()) : gMet l G yJ1_checkInvariants cJ1_checkInvariants 1 none 0 0 0 0 [.ref a0] h n none h n := by
  refine gEnter (by decide) [(0, .ref a0)] rfl (Nat.le_of_ble_eq_true rfl) ?_
  intro p e s m below meth c H ls X hin hR hS hl
  have hx := X.1.1
  have hb := X.1.2.1
  unfold sp_J1_checkInvariants at hf
  generalize ([] : List Loc) = locs at hS ⊢
  refine g_sad X hS q901 dJ1_checkInvariants_0 ?_
  refine lv_if_ne (tgt := 37) hx hb dJ1_checkInvariants_3 (by decide) (fun _ => ?_) (fun c => absurd c (by decide))
  refine g_sad X hS q901 dJ1_checkInvariants_37 ?_
  refine lv_if_ne (tgt := 70) hx hb dJ1_checkInvariants_40 (by decide) (fun _ => ?_) (fun c => absurd c (by decide))
  refine g_sad X hS q901 dJ1_checkInvariants_70 ?_
  refine lv_if_ne (tgt := 110) hx hb dJ1_checkInvariants_73 (by decide) (fun _ => ?_) (fun c => absurd c (by decide))
  exact g_vret X hR hS rfl ⟨Nat.le_of_ble_eq_true rfl, Nat.le_of_ble_eq_true rfl⟩ dJ1_checkInvariants_110

def sp_J1_set (G : gG) (F : Nat) (h : gH) (a0 : Nat) (p1 : Int32) : Option (gH) :=
 if 0 ≤ p1 then
 (sp_J1_wordIndex G F h p1).bind fun u2 =>
 if gIs 14 h a0 = true then
 (sp_J1_expandTo G F h a0 u2).bind fun u4 =>
 (gGr 14 u4 a0 0).bind fun x5 =>
 (gAl u4 x5 u2).bind fun x6 =>
 (gSl u4 x5 u2 (x6 ||| ((1 : Int64) <<< (p1.toInt64 &&& 63)))).bind fun h7 =>
 if gIs 14 h7 a0 = true then
 (sp_J1_checkInvariants G F h7 a0).bind fun u9 =>
 some (h7) else none else none else
 none
theorem yk_J1_set : gVk yJ1_set cJ1_set 3 none 1 14 := ⟨q860, q861, q97, q862, ⟨by decide +kernel, by decide +kernel, by decide +kernel⟩, rfl⟩
set_option maxHeartbeats 4000000 in
theorem m_J1_set (l : Launch) (G : gG) (F : Nat) (h : gH) (n : Nat) (a0 : Nat) (p1 : Int32) {h' : gH} (hf : sp_J1_set G F h a0 p1 = some h') : gMet l G yJ1_set cJ1_set 3 none 3 65 0 0 [.ref a0, .int p1] h n none h' n := by
  refine gEnter (by decide) [(0, .ref a0), (1, .int p1)] rfl (Nat.le_of_ble_eq_true rfl) ?_
  intro p e s m below meth c H ls X hin hR hS hl
  have hx := X.1.1
  have hb := X.1.2.1
  unfold sp_J1_set at hf
  generalize ([] : List Loc) = locs at hS ⊢
  refine lv_iload_n hx hb dJ1_set_0 rfl (lv_at hl 1 rfl) ?_
  refine lv_if_ge (tgt := 31) hx hb dJ1_set_1 (by decide) (fun c1 => ?_) (fun c1 => ?_)
  · replace hf := gIfp c1 hf
    refine lv_iload_n hx hb dJ1_set_31 rfl (lv_at hl 1 rfl) ?_
    obtain ⟨u2, eu2, hf⟩ := gBind hf
    refine g_callSi X hR hS [.int p1] (m_J1_wordIndex l G F h n p1 eu2) yk_J1_wordIndex q493 rfl hl.1 ⟨Nat.le_of_ble_eq_true rfl, Nat.le_of_ble_eq_true rfl⟩ ⟨Nat.le_of_ble_eq_true rfl, Nat.le_of_ble_eq_true rfl⟩ rfl (Nat.le_of_ble_eq_true rfl) dJ1_set_32 (fun H locs hR hS => ?_)
    refine lv_istore_n (lv' := [(2, .int u2), (0, .ref a0), (1, .int p1)]) hx hb dJ1_set_35 rfl hl (by decide) rfl (fun ls hl => ?_)
    refine lv_aload_n hx hb dJ1_set_36 rfl (lv_at hl 1 rfl) ?_
    refine lv_iload_n hx hb dJ1_set_37 rfl (lv_at hl 0 rfl) ?_
    obtain ⟨k3, hf⟩ := gChk hf
    obtain ⟨u4, eu4, hf⟩ := gBind hf
    refine g_callVv X hR hS [.int u2] (m_J1_expandTo l G F h n a0 u2 eu4) yk_J1_expandTo q880 k3 rfl hl.1 ⟨Nat.le_of_ble_eq_true rfl, Nat.le_of_ble_eq_true rfl⟩ ⟨Nat.le_of_ble_eq_true rfl, Nat.le_of_ble_eq_true rfl⟩ rfl (Nat.le_of_ble_eq_true rfl) dJ1_set_38 (fun H locs hR hS => ?_)
    refine lv_aload_n hx hb dJ1_set_41 rfl (lv_at hl 1 rfl) ?_
    obtain ⟨x5, ex5, hf⟩ := gBind hf
    refine g_getr X hR gk_J1 0 (by decide) q496 rfl ex5 dJ1_set_42 ?_
    refine lv_iload_n hx hb dJ1_set_45 rfl (lv_at hl 0 rfl) ?_
    refine lv_dup2_11 hx hb dJ1_set_46 rfl rfl ?_
    obtain ⟨x6, ex6, hf⟩ := gBind hf
    refine g_lald X hR ex6 dJ1_set_47 ?_
    refine lv_lconst (v := (1 : Int64)) hx hb dJ1_set_48 (by decide) ?_
    refine lv_iload_n hx hb dJ1_set_49 rfl (lv_at hl 2 rfl) ?_
    refine lv_lshl (v := (1 : Int64) <<< (p1.toInt64 &&& 63)) hx hb dJ1_set_50 rfl ?_
    refine lv_lor hx hb dJ1_set_51 ?_
    obtain ⟨h7, eh7, hf⟩ := gBind hf
    refine g_last X hR hS eh7 dJ1_set_52 (fun H locs hR hS => ?_)
    refine lv_aload_n hx hb dJ1_set_53 rfl (lv_at hl 1 rfl) ?_
    obtain ⟨k8, hf⟩ := gChk hf
    obtain ⟨u9, eu9, hf⟩ := gBind hf
    refine g_callVv X hR hS [] (m_J1_checkInvariants l G F h7 n a0 eu9) yk_J1_checkInvariants q897 k8 rfl hl.1 ⟨Nat.le_of_ble_eq_true rfl, Nat.le_of_ble_eq_true rfl⟩ ⟨Nat.le_of_ble_eq_true rfl, Nat.le_of_ble_eq_true rfl⟩ rfl (Nat.le_of_ble_eq_true rfl) dJ1_set_54 (fun H locs hR hS => ?_)
    obtain rfl := gO1 hf
    exact g_vret X hR hS rfl ⟨Nat.le_of_ble_eq_true rfl, Nat.le_of_ble_eq_true rfl⟩ dJ1_set_57
  · replace hf := gIfn c1 hf
    cases hf

def sp_X2_goesOver (G : gG) (F : Nat) (h : gH) (a0 : Nat) (p1 : Int32) : Option (gH) :=
 (gGr 2 h a0 1).bind fun x1 =>
 (gGi 2 h a0 4).bind fun x2 =>
 (gSi h x1 x2 p1).bind fun h3 =>
 (gGr 2 h3 a0 2).bind fun x4 =>
 if gIs 14 h3 x4 = true then
 (sp_J1_set G F h3 x4 p1).bind fun u6 =>
 (gGi 2 u6 a0 4).bind fun x7 =>
 (gPv 2 u6 a0 4 (.int (x7 + (1 : Int32)))).bind fun h8 =>
 some (h8) else none
theorem yk_X2_goesOver : gVk yX2_goesOver cX2_goesOver 2 none 1 2 := ⟨q856, q857, q94, q858, ⟨by decide +kernel, by decide +kernel, by decide +kernel⟩, rfl⟩
set_option maxHeartbeats 4000000 in
theorem m_X2_goesOver (l : Launch) (G : gG) (F : Nat) (h : gH) (n : Nat) (a0 : Nat) (p1 : Int32) {h' : gH} (hf : sp_X2_goesOver G F h a0 p1 = some h') : gMet l G yX2_goesOver cX2_goesOver 2 none 4 87 0 0 [.ref a0, .int p1] h n none h' n := by
  refine gEnter (by decide) [(0, .ref a0), (1, .int p1)] rfl (Nat.le_of_ble_eq_true rfl) ?_
  intro p e s m below meth c H ls X hin hR hS hl
  have hx := X.1.1
  have hb := X.1.2.1
  unfold sp_X2_goesOver at hf
  generalize ([] : List Loc) = locs at hS ⊢
  refine lv_aload_n hx hb dX2_goesOver_0 rfl (lv_at hl 0 rfl) ?_
  obtain ⟨x1, ex1, hf⟩ := gBind hf
  refine g_getr X hR gk_X2 1 (by decide) q511 rfl ex1 dX2_goesOver_1 ?_
  refine lv_aload_n hx hb dX2_goesOver_4 rfl (lv_at hl 0 rfl) ?_
  obtain ⟨x2, ex2, hf⟩ := gBind hf
  refine g_geti X hR gk_X2 4 (by decide) q522 rfl ex2 dX2_goesOver_5 ?_
  refine lv_iload_n hx hb dX2_goesOver_8 rfl (lv_at hl 1 rfl) ?_
  obtain ⟨h3, eh3, hf⟩ := gBind hf
  refine g_iast X hR hS eh3 dX2_goesOver_9 (fun H locs hR hS => ?_)
  refine lv_aload_n hx hb dX2_goesOver_10 rfl (lv_at hl 0 rfl) ?_
  obtain ⟨x4, ex4, hf⟩ := gBind hf
  refine g_getr X hR gk_X2 2 (by decide) q514 rfl ex4 dX2_goesOver_11 ?_
  refine lv_iload_n hx hb dX2_goesOver_14 rfl (lv_at hl 1 rfl) ?_
  obtain ⟨k5, hf⟩ := gChk hf
  obtain ⟨u6, eu6, hf⟩ := gBind hf
  refine g_callVv X hR hS [.int p1] (m_J1_set l G F h3 n x4 p1 eu6) yk_J1_set q859 k5 rfl hl.1 ⟨Nat.le_of_ble_eq_true rfl, Nat.le_of_ble_eq_true rfl⟩ ⟨Nat.le_of_ble_eq_true rfl, Nat.le_of_ble_eq_true rfl⟩ rfl (Nat.le_of_ble_eq_true rfl) dX2_goesOver_15 (fun H locs hR hS => ?_)
  refine lv_aload_n hx hb dX2_goesOver_18 rfl (lv_at hl 0 rfl) ?_
  refine lv_dup hx hb dX2_goesOver_19 rfl ?_
  obtain ⟨x7, ex7, hf⟩ := gBind hf
  refine g_geti X hR gk_X2 4 (by decide) q522 rfl ex7 dX2_goesOver_20 ?_
  refine lv_iconst (v := (1 : Int32)) hx hb dX2_goesOver_23 (by decide) ?_
  refine lv_iadd hx hb dX2_goesOver_24 ?_
  obtain ⟨h8, eh8, hf⟩ := gBind hf
  refine g_put X hR hS gk_X2 4 (by decide) q522 rfl rfl eh8 rfl rfl rfl dX2_goesOver_25 (fun H locs hR hS => ?_)
  obtain rfl := gO1 hf
  exact g_vret X hR hS rfl ⟨Nat.le_of_ble_eq_true rfl, Nat.le_of_ble_eq_true rfl⟩ dX2_goesOver_28

def sp_X2_placeOf_L2 (G : gG) (F : Nat) (h2L : gH) : Nat → Nat → Int32 → Int32 → Option (Int32)
  | 0, _, _, _ => none
  | f + 1, v2_0, v2_1, v2_2 =>
    (gGi 2 h2L v2_0 4).bind fun x301 =>
    if x301 ≤ v2_2 then
    some ((-1 : Int32)) else
    (gGr 2 h2L v2_0 1).bind fun x303 =>
    (gAi 0 h2L x303 v2_2).bind fun x304 =>
    if x304 = v2_1 then
    some (v2_2) else
    sp_X2_placeOf_L2 G F h2L f v2_0 v2_1 (v2_2 + (1 : Int32))
def sp_X2_placeOf (G : gG) (F : Nat) (h : gH) (a0 : Nat) (p1 : Int32) : Option (Int32) :=
 sp_X2_placeOf_L2 G F h F a0 p1 (0 : Int32)
theorem yk_X2_placeOf : gVk yX2_placeOf cX2_placeOf 3 (some .int) 1 2 := ⟨q923, q924, q94, q925, ⟨by decide +kernel, by decide +kernel, by decide +kernel⟩, rfl⟩
set_option maxHeartbeats 4000000 in
theorem m_X2_placeOf (l : Launch) (G : gG) (F : Nat) (h : gH) (n : Nat) (a0 : Nat) (p1 : Int32) {r : Int32} (hf : sp_X2_placeOf G F h a0 p1 = some r) : gMet l G yX2_placeOf cX2_placeOf 3 (some .int) 0 0 0 0 [.ref a0, .int p1] h n (some (.int r)) h n := by
  refine gEnter (by decide) [(0, .ref a0), (1, .int p1)] rfl (Nat.le_of_ble_eq_true rfl) ?_
  intro p e s m below meth c H ls X hin hR hS hl
  have hx := X.1.1
  have hb := X.1.2.1
  unfold sp_X2_placeOf at hf
  generalize ([] : List Loc) = locs at hS ⊢
  refine lv_iconst (v := (0 : Int32)) hx hb dX2_placeOf_0 (by decide) ?_
  refine lv_istore_n (lv' := [(2, .int (0 : Int32)), (0, .ref a0), (1, .int p1)]) hx hb dX2_placeOf_1 rfl hl (by decide) rfl (fun ls hl => ?_)
  have L2_q1 : ∀ (f : Nat) (v2_0 : Nat) (v2_1 : Int32) (v2_2 : Int32) (H : Heap) (locs : List Loc) (ls : Array Slot), sp_X2_placeOf_L2 G F h f v2_0 v2_1 v2_2 = some r → gRep G h n H → va_S (gFr G) s.heap H locs → lv_has ls 3 [(0, .ref v2_0), (1, .int v2_1), (2, .int v2_2)] → W p l e ({ frames := 0, cells := 0, slots := 0, locals := 0 } : Room) s m ([.ref a0, .int p1] : List Value).toArray below meth c H locs 0 0 (MQ below (gQ G (some (.int r)) h n) ([.ref a0, .int p1] : List Value).toArray s 0 0 (gFr G)) (F0 m 2 ls []) := by
    clear hf
    intro f
    induction f with
    | zero =>
      intro v2_0 v2_1 v2_2 H locs ls hf
      cases hf
    | succ f ih =>
      intro v2_0 v2_1 v2_2 H locs ls hf hR hS hl
      rw [sp_X2_placeOf_L2] at hf
      refine lv_iload_n hx hb dX2_placeOf_2 rfl (lv_at hl 2 rfl) ?_
      refine lv_aload_n hx hb dX2_placeOf_3 rfl (lv_at hl 0 rfl) ?_
      obtain ⟨x301, ex301, hf⟩ := gBind hf
      refine g_geti X hR gk_X2 4 (by decide) q522 rfl ex301 dX2_placeOf_4 ?_
      refine lv_icmp_ge (tgt := 28) hx hb dX2_placeOf_7 (by decide) (fun c302 => ?_) (fun c302 => ?_)
      · replace hf := gIfp c302 hf
        refine lv_iconst (v := (-1 : Int32)) hx hb dX2_placeOf_28 (by decide) ?_
        obtain rfl := gO1 hf
        exact g_iret X hR hS _ rfl ⟨Nat.le_of_ble_eq_true rfl, Nat.le_of_ble_eq_true rfl⟩ dX2_placeOf_29
      · replace hf := gIfn c302 hf
        refine lv_aload_n hx hb dX2_placeOf_10 rfl (lv_at hl 0 rfl) ?_
        obtain ⟨x303, ex303, hf⟩ := gBind hf
        refine g_getr X hR gk_X2 1 (by decide) q511 rfl ex303 dX2_placeOf_11 ?_
        refine lv_iload_n hx hb dX2_placeOf_14 rfl (lv_at hl 2 rfl) ?_
        obtain ⟨x304, ex304, hf⟩ := gBind hf
        refine g_iald X hR ex304 dX2_placeOf_15 ?_
        refine lv_iload_n hx hb dX2_placeOf_16 rfl (lv_at hl 1 rfl) ?_
        refine lv_icmp_ne (tgt := 22) hx hb dX2_placeOf_17 (by decide) (fun c305 => ?_) (fun c305 => ?_)
        · replace hf := gIfn c305 hf
          refine lv_iinc (v := v2_2 + (1 : Int32)) (lv' := [(2, .int (v2_2 + (1 : Int32))), (0, .ref v2_0), (1, .int v2_1)]) hx hb dX2_placeOf_22 hl (k := 2) rfl rfl (by decide) rfl (fun ls hl => ?_)
          refine lv_goto (tgt := 2) hx hb dX2_placeOf_25 (by decide) ?_
          exact ih v2_0 v2_1 (v2_2 + (1 : Int32)) _ _ _ hf hR hS (lv_sub hl [1, 2, 0] rfl)
        · replace hf := gIfp c305 hf
          refine lv_iload_n hx hb dX2_placeOf_20 rfl (lv_at hl 2 rfl) ?_
          obtain rfl := gO1 hf
          exact g_iret X hR hS _ rfl ⟨Nat.le_of_ble_eq_true rfl, Nat.le_of_ble_eq_true rfl⟩ dX2_placeOf_21
  exact L2_q1 F a0 p1 (0 : Int32) _ _ _ hf hR hS (lv_sub hl [1, 2, 0] rfl)

def sp_X2_most (G : gG) (F : Nat) (h : gH) (a0 : Nat) : Option (Int32) :=
 (gGr 2 h a0 3).bind fun x1 =>
 (gAi 0 h x1 (1 : Int32)).bind fun x2 =>
 some (x2)
theorem yk_X2_most : gVk yX2_most cX2_most 1 (some .int) 0 2 := ⟨q941, q942, q94, q943, ⟨by decide +kernel, by decide +kernel, by decide +kernel⟩, rfl⟩
set_option maxHeartbeats 4000000 in
theorem m_X2_most (l : Launch) (G : gG) (F : Nat) (h : gH) (n : Nat) (a0 : Nat) {r : Int32} (hf : sp_X2_most G F h a0 = some r) : gMet l G yX2_most cX2_most 1 (some .int) 0 0 0 0 [.ref a0] h n (some (.int r)) h n := by
  refine gEnter (by decide) [(0, .ref a0)] rfl (Nat.le_of_ble_eq_true rfl) ?_
  intro p e s m below meth c H ls X hin hR hS hl
  have hx := X.1.1
  have hb := X.1.2.1
  unfold sp_X2_most at hf
  generalize ([] : List Loc) = locs at hS ⊢
  refine lv_aload_n hx hb dX2_most_0 rfl (lv_at hl 0 rfl) ?_
  obtain ⟨x1, ex1, hf⟩ := gBind hf
  refine g_getr X hR gk_X2 3 (by decide) q518 rfl ex1 dX2_most_1 ?_
  refine lv_iconst (v := (1 : Int32)) hx hb dX2_most_4 (by decide) ?_
  obtain ⟨x2, ex2, hf⟩ := gBind hf
  refine g_iald X hR ex2 dX2_most_5 ?_
  obtain rfl := gO1 hf
  exact g_iret X hR hS _ rfl ⟨Nat.le_of_ble_eq_true rfl, Nat.le_of_ble_eq_true rfl⟩ dX2_most_6

def sp_X2_least (G : gG) (F : Nat) (h : gH) (a0 : Nat) : Option (Int32) :=
 (gGr 2 h a0 3).bind fun x1 =>
 (gAi 0 h x1 (0 : Int32)).bind fun x2 =>
 some (x2)
theorem yk_X2_least : gVk yX2_least cX2_least 1 (some .int) 0 2 := ⟨q946, q947, q94, q948, ⟨by decide +kernel, by decide +kernel, by decide +kernel⟩, rfl⟩
set_option maxHeartbeats 4000000 in
theorem m_X2_least (l : Launch) (G : gG) (F : Nat) (h : gH) (n : Nat) (a0 : Nat) {r : Int32} (hf : sp_X2_least G F h a0 = some r) : gMet l G yX2_least cX2_least 1 (some .int) 0 0 0 0 [.ref a0] h n (some (.int r)) h n := by
  refine gEnter (by decide) [(0, .ref a0)] rfl (Nat.le_of_ble_eq_true rfl) ?_
  intro p e s m below meth c H ls X hin hR hS hl
  have hx := X.1.1
  have hb := X.1.2.1
  unfold sp_X2_least at hf
  generalize ([] : List Loc) = locs at hS ⊢
  refine lv_aload_n hx hb dX2_least_0 rfl (lv_at hl 0 rfl) ?_
  obtain ⟨x1, ex1, hf⟩ := gBind hf
  refine g_getr X hR gk_X2 3 (by decide) q518 rfl ex1 dX2_least_1 ?_
  refine lv_iconst (v := (0 : Int32)) hx hb dX2_least_4 (by decide) ?_
  obtain ⟨x2, ex2, hf⟩ := gBind hf
  refine g_iald X hR ex2 dX2_least_5 ?_
  obtain rfl := gO1 hf
  exact g_iret X hR hS _ rfl ⟨Nat.le_of_ble_eq_true rfl, Nat.le_of_ble_eq_true rfl⟩ dX2_least_6

def sp_J11_min (G : gG) (F : Nat) (h : gH) (p0 : Int32) (p1 : Int32) : Option (Int32) :=
 if p1 < p0 then
 some (p1) else
 some (p0)
theorem yk_J11_min : gSk yJ11_min cJ11_min 2 (some .int) 2 := ⟨q313, q107, q314, ⟨by decide +kernel, by decide +kernel, by decide +kernel⟩⟩
set_option maxHeartbeats 4000000 in
theorem m_J11_min (l : Launch) (G : gG) (F : Nat) (h : gH) (n : Nat) (p0 : Int32) (p1 : Int32) {r : Int32} (hf : sp_J11_min G F h p0 p1 = some r) : gMet l G yJ11_min cJ11_min 2 (some .int) 0 0 0 0 [.int p0, .int p1] h n (some (.int r)) h n := by
  refine gEnterF (by decide +kernel) [(0, .int p0), (1, .int p1)] rfl (Nat.le_of_ble_eq_true rfl) ?_
  intro p e s m below meth c H ls X hin hR hS hl
  have hx := X.1.1
  have hb := X.1.2.1
  unfold sp_J11_min at hf
  generalize ([] : List Loc) = locs at hS ⊢
  refine lv_iload_n hx hb dJ11_min_0 rfl (lv_at hl 0 rfl) ?_
  refine lv_iload_n hx hb dJ11_min_1 rfl (lv_at hl 1 rfl) ?_
  refine lv_icmp_gt (tgt := 9) hx hb dJ11_min_2 (by decide) (fun c1 => ?_) (fun c1 => ?_)
  · replace hf := gIfp c1 hf
    refine lv_iload_n hx hb dJ11_min_9 rfl (lv_at hl 1 rfl) ?_
    obtain rfl := gO1 hf
    exact g_iret X hR hS _ rfl ⟨Nat.le_of_ble_eq_true rfl, Nat.le_of_ble_eq_true rfl⟩ dJ11_min_10
  · replace hf := gIfn c1 hf
    refine lv_iload_n hx hb dJ11_min_5 rfl (lv_at hl 0 rfl) ?_
    refine lv_goto (tgt := 10) hx hb dJ11_min_6 (by decide) ?_
    obtain rfl := gO1 hf
    exact g_iret X hR hS _ rfl ⟨Nat.le_of_ble_eq_true rfl, Nat.le_of_ble_eq_true rfl⟩ dJ11_min_10

def sp_J1_or_L47 (G : gG) (F : Nat) : Nat → gH → Nat → Nat → Int32 → Int32 → Option (gH)
  | 0, _, _, _, _, _ => none
  | f + 1, h47L, v47_0, v47_1, v47_2, v47_3 =>
    if v47_2 ≤ v47_3 then
    some (h47L) else
    (gGr 14 h47L v47_0 0).bind fun x4802 =>
    (gAl h47L x4802 v47_3).bind fun x4803 =>
    (gGr 14 h47L v47_1 0).bind fun x4804 =>
    (gAl h47L x4804 v47_3).bind fun x4805 =>
    (gSl h47L x4802 v47_3 (x4803 ||| x4805)).bind fun h4806 =>
    sp_J1_or_L47 G F f h4806 v47_0 v47_1 v47_2 (v47_3 + (1 : Int32))
def sp_J1_or (G : gG) (F : Nat) (h : gH) (a0 : Nat) (a1 : Nat) : Option (gH) :=
 if some a0 = some a1 then
 some (h) else
 (gGi 14 h a0 1).bind fun x2 =>
 (gGi 14 h a1 1).bind fun x3 =>
 (sp_J11_min G F h x2 x3).bind fun u4 =>
 (gGi 14 h a0 1).bind fun x5 =>
 (gGi 14 h a1 1).bind fun x6 =>
 (if x6 ≤ x5 then
 some (h) else
 (gGi 14 h a1 1).bind fun x8 =>
 if gIs 14 h a0 = true then
 (sp_J1_ensureCapacity G F h a0 x8).bind fun u10 =>
 (gGi 14 h a1 1).bind fun x11 =>
 (gPv 14 h a0 1 (.int x11)).bind fun h12 =>
 some (h12) else none).bind fun j13 =>
 (sp_J1_or_L47 G F F j13 a0 a1 u4 (0 : Int32)).bind fun y16 =>
 (gGi 14 y16 a1 1).bind fun x17 =>
 (if x17 ≤ u4 then
 some (y16) else
 (gGr 14 y16 a1 0).bind fun x19 =>
 (gGr 14 y16 a0 0).bind fun x20 =>
 (gGi 14 y16 a0 1).bind fun x21 =>
 (gCpyL y16 x19 u4 x20 u4 (x21 - u4)).bind fun h22 =>
 some (h22)).bind fun j23 =>
 if gIs 14 j23 a0 = true then
 (sp_J1_checkInvariants G F j23 a0).bind fun u25 =>
 some (j23) else none
theorem yk_J1_or : gVk yJ1_or cJ1_or 4 none 1 14 := ⟨q1052, q1053, q97, q1054, ⟨by decide +kernel, by decide +kernel, by decide +kernel⟩, rfl⟩
set_option maxHeartbeats 4000000 in
theorem m_J1_or (l : Launch) (G : gG) (F : Nat) (h : gH) (n : Nat) (a0 : Nat) (a1 : Nat) {h' : gH} (hf : sp_J1_or G F h a0 a1 = some h') : gMet l G yJ1_or cJ1_or 4 none 2 43 0 0 [.ref a0, .ref a1] h n none h' n := by
  refine gEnter (by decide) [(0, .ref a0), (1, .ref a1)] rfl (Nat.le_of_ble_eq_true rfl) ?_
  intro p e s m below meth c H ls X hin hR hS hl
  have hx := X.1.1
  have hb := X.1.2.1
  unfold sp_J1_or at hf
  generalize ([] : List Loc) = locs at hS ⊢
  refine lv_aload_n hx hb dJ1_or_0 rfl (lv_at hl 0 rfl) ?_
  refine lv_aload_n hx hb dJ1_or_1 rfl (lv_at hl 1 rfl) ?_
  refine lv_acmp_ne (rx := some a0) (ry := some a1) (tgt := 6) hx hb dJ1_or_2 (by decide) (fun c1 => ?_) (fun c1 => ?_)
  · replace hf := gIfn c1 hf
    refine lv_aload_n hx hb dJ1_or_6 rfl (lv_at hl 0 rfl) ?_
    obtain ⟨x2, ex2, hf⟩ := gBind hf
    refine g_geti X hR gk_J1 1 (by decide) q497 rfl ex2 dJ1_or_7 ?_
    refine lv_aload_n hx hb dJ1_or_10 rfl (lv_at hl 1 rfl) ?_
    obtain ⟨x3, ex3, hf⟩ := gBind hf
    refine g_geti X hR gk_J1 1 (by decide) q497 rfl ex3 dJ1_or_11 ?_
    obtain ⟨u4, eu4, hf⟩ := gBind hf
    refine g_callSi X hR hS [.int x2, .int x3] (m_J11_min l G F h n x2 x3 eu4) yk_J11_min q911 rfl hl.1 ⟨Nat.le_of_ble_eq_true rfl, Nat.le_of_ble_eq_true rfl⟩ ⟨Nat.le_of_ble_eq_true rfl, Nat.le_of_ble_eq_true rfl⟩ rfl (Nat.le_of_ble_eq_true rfl) dJ1_or_14 (fun H locs hR hS => ?_)
    refine lv_istore_n (lv' := [(2, .int u4), (0, .ref a0), (1, .ref a1)]) hx hb dJ1_or_17 rfl hl (by decide) rfl (fun ls hl => ?_)
    refine lv_aload_n hx hb dJ1_or_18 rfl (lv_at hl 1 rfl) ?_
    obtain ⟨x5, ex5, hf⟩ := gBind hf
    refine g_geti X hR gk_J1 1 (by decide) q497 rfl ex5 dJ1_or_19 ?_
    refine lv_aload_n hx hb dJ1_or_22 rfl (lv_at hl 2 rfl) ?_
    obtain ⟨x6, ex6, hf⟩ := gBind hf
    refine g_geti X hR gk_J1 1 (by decide) q497 rfl ex6 dJ1_or_23 ?_
    obtain ⟨j13, ej13, hf⟩ := gBind hf
    have J45_j13 : ∀ (H : Heap) (locs : List Loc) (ls : Array Slot), gRep G j13 n H → va_S (gFr G) s.heap H locs → lv_has ls 4 [(0, .ref a0), (1, .ref a1), (2, .int u4)] → W p l e ({ frames := 2, cells := 0, slots := 0, locals := 43 } : Room) s m ([.ref a0, .ref a1] : List Value).toArray below meth c H locs 0 0 (MQ below (gQ G none h' n) ([.ref a0, .ref a1] : List Value).toArray s 0 0 (gFr G)) (F0 m 45 ls []) := by
      intro H locs ls hR hS hl
      refine lv_iconst (v := (0 : Int32)) hx hb dJ1_or_45 (by decide) ?_
      refine lv_istore_n (lv' := [(3, .int (0 : Int32)), (0, .ref a0), (1, .ref a1), (2, .int u4)]) hx hb dJ1_or_46 rfl hl (by decide) rfl (fun ls hl => ?_)
      have L47_q14 : ∀ (f : Nat) (h47L : gH) (v47_0 : Nat) (v47_1 : Nat) (v47_2 : Int32) (v47_3 : Int32) (o15 : gH) (H : Heap) (locs : List Loc) (ls : Array Slot), sp_J1_or_L47 G F f h47L v47_0 v47_1 v47_2 v47_3 = some o15 → gRep G h47L n H → va_S (gFr G) s.heap H locs → lv_has ls 4 [(0, .ref v47_0), (1, .ref v47_1), (2, .int v47_2), (3, .int v47_3)] → (∀ (H : Heap) (locs : List Loc) (ls : Array Slot), gRep G o15 n H → va_S (gFr G) s.heap H locs → lv_has ls 4 [(0, .ref v47_0), (1, .ref v47_1), (2, .int v47_2)] → W p l e ({ frames := 2, cells := 0, slots := 0, locals := 43 } : Room) s m ([.ref a0, .ref a1] : List Value).toArray below meth c H locs 0 0 (MQ below (gQ G none h' n) ([.ref a0, .ref a1] : List Value).toArray s 0 0 (gFr G)) (F0 m 73 ls [])) → W p l e ({ frames := 2, cells := 0, slots := 0, locals := 43 } : Room) s m ([.ref a0, .ref a1] : List Value).toArray below meth c H locs 0 0 (MQ below (gQ G none h' n) ([.ref a0, .ref a1] : List Value).toArray s 0 0 (gFr G)) (F0 m 47 ls []) := by
        clear hf
        intro f
        induction f with
        | zero =>
          intro h47L v47_0 v47_1 v47_2 v47_3 o15 H locs ls hf
          cases hf
        | succ f ih =>
          intro h47L v47_0 v47_1 v47_2 v47_3 o15 H locs ls hf hR hS hl K47
          rw [sp_J1_or_L47] at hf
          refine lv_iload_n hx hb dJ1_or_47 rfl (lv_at hl 3 rfl) ?_
          refine lv_iload_n hx hb dJ1_or_48 rfl (lv_at hl 2 rfl) ?_
          refine lv_icmp_ge (tgt := 73) hx hb dJ1_or_49 (by decide) (fun c4801 => ?_) (fun c4801 => ?_)
          · replace hf := gIfp c4801 hf
            obtain rfl := gO1 hf
            exact K47 _ _ _ hR hS (lv_sub hl [0, 1, 2] rfl)
          · replace hf := gIfn c4801 hf
            refine lv_aload_n hx hb dJ1_or_52 rfl (lv_at hl 0 rfl) ?_
            obtain ⟨x4802, ex4802, hf⟩ := gBind hf
            refine g_getr X hR gk_J1 0 (by decide) q496 rfl ex4802 dJ1_or_53 ?_
            refine lv_iload_n hx hb dJ1_or_56 rfl (lv_at hl 3 rfl) ?_
            refine lv_dup2_11 hx hb dJ1_or_57 rfl rfl ?_
            obtain ⟨x4803, ex4803, hf⟩ := gBind hf
            refine g_lald X hR ex4803 dJ1_or_58 ?_
            refine lv_aload_n hx hb dJ1_or_59 rfl (lv_at hl 1 rfl) ?_
            obtain ⟨x4804, ex4804, hf⟩ := gBind hf
            refine g_getr X hR gk_J1 0 (by decide) q496 rfl ex4804 dJ1_or_60 ?_
            refine lv_iload_n hx hb dJ1_or_63 rfl (lv_at hl 3 rfl) ?_
            obtain ⟨x4805, ex4805, hf⟩ := gBind hf
            refine g_lald X hR ex4805 dJ1_or_64 ?_
            refine lv_lor hx hb dJ1_or_65 ?_
            obtain ⟨h4806, eh4806, hf⟩ := gBind hf
            refine g_last X hR hS eh4806 dJ1_or_66 (fun H locs hR hS => ?_)
            refine lv_iinc (v := v47_3 + (1 : Int32)) (lv' := [(3, .int (v47_3 + (1 : Int32))), (0, .ref v47_0), (1, .ref v47_1), (2, .int v47_2)]) hx hb dJ1_or_67 hl (k := 3) rfl rfl (by decide) rfl (fun ls hl => ?_)
            refine lv_goto (tgt := 47) hx hb dJ1_or_70 (by decide) ?_
            exact ih h4806 v47_0 v47_1 v47_2 (v47_3 + (1 : Int32)) _ _ _ _ hf hR hS (lv_sub hl [1, 2, 3, 0] rfl) K47
      obtain ⟨y16, ey16, hf⟩ := gBind hf
      refine L47_q14 F j13 a0 a1 u4 (0 : Int32) y16 _ _ _ ey16 hR hS (lv_sub hl [1, 2, 3, 0] rfl) (fun H locs ls hR hS hl => ?_)
      refine lv_iload_n hx hb dJ1_or_73 rfl (lv_at hl 2 rfl) ?_
      refine lv_aload_n hx hb dJ1_or_74 rfl (lv_at hl 1 rfl) ?_
      obtain ⟨x17, ex17, hf⟩ := gBind hf
      refine g_geti X hR gk_J1 1 (by decide) q497 rfl ex17 dJ1_or_75 ?_
      obtain ⟨j23, ej23, hf⟩ := gBind hf
      have J100_j23 : ∀ (H : Heap) (locs : List Loc) (ls : Array Slot), gRep G j23 n H → va_S (gFr G) s.heap H locs → lv_has ls 4 [(0, .ref a0)] → W p l e ({ frames := 2, cells := 0, slots := 0, locals := 43 } : Room) s m ([.ref a0, .ref a1] : List Value).toArray below meth c H locs 0 0 (MQ below (gQ G none h' n) ([.ref a0, .ref a1] : List Value).toArray s 0 0 (gFr G)) (F0 m 100 ls []) := by
        intro H locs ls hR hS hl
        refine lv_aload_n hx hb dJ1_or_100 rfl (lv_at hl 0 rfl) ?_
        obtain ⟨k24, hf⟩ := gChk hf
        obtain ⟨u25, eu25, hf⟩ := gBind hf
        refine g_callVv X hR hS [] (m_J1_checkInvariants l G F j23 n a0 eu25) yk_J1_checkInvariants q897 k24 rfl hl.1 ⟨Nat.le_of_ble_eq_true rfl, Nat.le_of_ble_eq_true rfl⟩ ⟨Nat.le_of_ble_eq_true rfl, Nat.le_of_ble_eq_true rfl⟩ rfl (Nat.le_of_ble_eq_true rfl) dJ1_or_101 (fun H locs hR hS => ?_)
        obtain rfl := gO1 hf
        exact g_vret X hR hS rfl ⟨Nat.le_of_ble_eq_true rfl, Nat.le_of_ble_eq_true rfl⟩ dJ1_or_104
      replace hf := ej23
      clear ej23
      refine lv_icmp_ge (tgt := 100) hx hb dJ1_or_78 (by decide) (fun c18 => ?_) (fun c18 => ?_)
      · replace hf := gIfp c18 hf
        obtain rfl := gO1 hf
        exact J100_j23 _ _ _ hR hS (lv_sub hl [0] rfl)
      · replace hf := gIfn c18 hf
        refine lv_aload_n hx hb dJ1_or_81 rfl (lv_at hl 1 rfl) ?_
        obtain ⟨x19, ex19, hf⟩ := gBind hf
        refine g_getr X hR gk_J1 0 (by decide) q496 rfl ex19 dJ1_or_82 ?_
        refine lv_iload_n hx hb dJ1_or_85 rfl (lv_at hl 2 rfl) ?_
        refine lv_aload_n hx hb dJ1_or_86 rfl (lv_at hl 0 rfl) ?_
        obtain ⟨x20, ex20, hf⟩ := gBind hf
        refine g_getr X hR gk_J1 0 (by decide) q496 rfl ex20 dJ1_or_87 ?_
        refine lv_iload_n hx hb dJ1_or_90 rfl (lv_at hl 2 rfl) ?_
        refine lv_aload_n hx hb dJ1_or_91 rfl (lv_at hl 0 rfl) ?_
        obtain ⟨x21, ex21, hf⟩ := gBind hf
        refine g_geti X hR gk_J1 1 (by decide) q497 rfl ex21 dJ1_or_92 ?_
        refine lv_iload_n hx hb dJ1_or_95 rfl (lv_at hl 2 rfl) ?_
        refine lv_isub hx hb dJ1_or_96 ?_
        obtain ⟨h22, eh22, hf⟩ := gBind hf
        refine g_copyL X hR hS q1055 hl.1 ⟨Nat.le_of_ble_eq_true rfl, Nat.le_of_ble_eq_true rfl⟩ (Nat.le_of_ble_eq_true rfl) eh22 dJ1_or_97 (fun H locs hR hS => ?_)
        obtain rfl := gO1 hf
        exact J100_j23 _ _ _ hR hS (lv_sub hl [0] rfl)
    replace hf := ej13
    clear ej13
    refine lv_icmp_ge (tgt := 45) hx hb dJ1_or_26 (by decide) (fun c7 => ?_) (fun c7 => ?_)
    · replace hf := gIfp c7 hf
      obtain rfl := gO1 hf
      exact J45_j13 _ _ _ hR hS (lv_sub hl [1, 2, 0] rfl)
    · replace hf := gIfn c7 hf
      refine lv_aload_n hx hb dJ1_or_29 rfl (lv_at hl 1 rfl) ?_
      refine lv_aload_n hx hb dJ1_or_30 rfl (lv_at hl 2 rfl) ?_
      obtain ⟨x8, ex8, hf⟩ := gBind hf
      refine g_geti X hR gk_J1 1 (by decide) q497 rfl ex8 dJ1_or_31 ?_
      obtain ⟨k9, hf⟩ := gChk hf
      obtain ⟨u10, eu10, hf⟩ := gBind hf
      refine g_callVv X hR hS [.int x8] (m_J1_ensureCapacity l G F h n a0 x8 eu10) yk_J1_ensureCapacity q884 k9 rfl hl.1 ⟨Nat.le_of_ble_eq_true rfl, Nat.le_of_ble_eq_true rfl⟩ ⟨Nat.le_of_ble_eq_true rfl, Nat.le_of_ble_eq_true rfl⟩ rfl (Nat.le_of_ble_eq_true rfl) dJ1_or_34 (fun H locs hR hS => ?_)
      refine lv_aload_n hx hb dJ1_or_37 rfl (lv_at hl 1 rfl) ?_
      refine lv_aload_n hx hb dJ1_or_38 rfl (lv_at hl 2 rfl) ?_
      obtain ⟨x11, ex11, hf⟩ := gBind hf
      refine g_geti X hR gk_J1 1 (by decide) q497 rfl ex11 dJ1_or_39 ?_
      obtain ⟨h12, eh12, hf⟩ := gBind hf
      refine g_put X hR hS gk_J1 1 (by decide) q497 rfl rfl eh12 rfl rfl rfl dJ1_or_42 (fun H locs hR hS => ?_)
      obtain rfl := gO1 hf
      exact J45_j13 _ _ _ hR hS (lv_sub hl [1, 2, 0] rfl)
  · replace hf := gIfp c1 hf
    obtain rfl := gO1 hf
    exact g_vret X hR hS rfl ⟨Nat.le_of_ble_eq_true rfl, Nat.le_of_ble_eq_true rfl⟩ dJ1_or_5

def sp_X2_like (G : gG) (F : Nat) (h : gH) (a0 : Nat) (a1 : Nat) : Option (gH) :=
 (gGr 2 h a1 0).bind fun x1 =>
 (gPv 2 h a0 0 (.ref x1)).bind fun h2 =>
 (gGi 2 h2 a1 4).bind fun x3 =>
 (gPv 2 h2 a0 4 (.int x3)).bind fun h4 =>
 (gGr 2 h4 a1 1).bind fun x5 =>
 (gGr 2 h4 a0 1).bind fun x6 =>
 (gCpy h4 x5 (0 : Int32) x6 (0 : Int32) (8 : Int32)).bind fun h7 =>
 (gGr 2 h7 a0 2).bind fun x8 =>
 if gIs 14 h7 x8 = true then
 (sp_J1_clear G F h7 x8).bind fun u10 =>
 (gGr 2 u10 a0 2).bind fun x11 =>
 (gGr 2 u10 a1 2).bind fun x12 =>
 if gIs 14 u10 x11 = true then
 (sp_J1_or G F u10 x11 x12).bind fun u14 =>
 (gGr 2 u14 a1 3).bind fun x15 =>
 (gGr 2 u14 a0 3).bind fun x16 =>
 (gCpy u14 x15 (0 : Int32) x16 (0 : Int32) (4 : Int32)).bind fun h17 =>
 (gGi 2 h17 a1 5).bind fun x18 =>
 (gPv 2 h17 a0 5 (.int x18)).bind fun h19 =>
 (gGi 2 h19 a1 6).bind fun x20 =>
 if x20 = 0 ∨ x20 = 1 then
 (gPv 2 h19 a0 6 (.int x20)).bind fun h22 =>
 (gGi 2 h22 a1 7).bind fun x23 =>
 (gPv 2 h22 a0 7 (.int x23)).bind fun h24 =>
 (gGi 2 h24 a1 8).bind fun x25 =>
 (gPv 2 h24 a0 8 (.int x25)).bind fun h26 =>
 (gGi 2 h26 a1 9).bind fun x27 =>
 (gPv 2 h26 a0 9 (.int x27)).bind fun h28 =>
 (gGi 2 h28 a1 10).bind fun x29 =>
 (gPv 2 h28 a0 10 (.int x29)).bind fun h30 =>
 (gGi 2 h30 a1 11).bind fun x31 =>
 (gPv 2 h30 a0 11 (.int x31)).bind fun h32 =>
 some (h32) else none else none else none
theorem yk_X2_like : gVk yX2_like cX2_like 2 none 1 2 := ⟨q1048, q1049, q94, q1050, ⟨by decide +kernel, by decide +kernel, by decide +kernel⟩, rfl⟩
set_option maxHeartbeats 4000000 in
theorem m_X2_like (l : Launch) (G : gG) (F : Nat) (h : gH) (n : Nat) (a0 : Nat) (a1 : Nat) {h' : gH} (hf : sp_X2_like G F h a0 a1 = some h') : gMet l G yX2_like cX2_like 2 none 3 66 0 0 [.ref a0, .ref a1] h n none h' n := by
  refine gEnter (by decide) [(0, .ref a0), (1, .ref a1)] rfl (Nat.le_of_ble_eq_true rfl) ?_
  intro p e s m below meth c H ls X hin hR hS hl
  have hx := X.1.1
  have hb := X.1.2.1
  unfold sp_X2_like at hf
  generalize ([] : List Loc) = locs at hS ⊢
  refine lv_aload_n hx hb dX2_like_0 rfl (lv_at hl 0 rfl) ?_
  refine lv_aload_n hx hb dX2_like_1 rfl (lv_at hl 1 rfl) ?_
  obtain ⟨x1, ex1, hf⟩ := gBind hf
  refine g_getr X hR gk_X2 0 (by decide) q508 rfl ex1 dX2_like_2 ?_
  obtain ⟨h2, eh2, hf⟩ := gBind hf
  refine g_put X hR hS gk_X2 0 (by decide) q508 rfl rfl eh2 rfl rfl rfl dX2_like_5 (fun H locs hR hS => ?_)
  refine lv_aload_n hx hb dX2_like_8 rfl (lv_at hl 0 rfl) ?_
  refine lv_aload_n hx hb dX2_like_9 rfl (lv_at hl 1 rfl) ?_
  obtain ⟨x3, ex3, hf⟩ := gBind hf
  refine g_geti X hR gk_X2 4 (by decide) q522 rfl ex3 dX2_like_10 ?_
  obtain ⟨h4, eh4, hf⟩ := gBind hf
  refine g_put X hR hS gk_X2 4 (by decide) q522 rfl rfl eh4 rfl rfl rfl dX2_like_13 (fun H locs hR hS => ?_)
  refine lv_aload_n hx hb dX2_like_16 rfl (lv_at hl 1 rfl) ?_
  obtain ⟨x5, ex5, hf⟩ := gBind hf
  refine g_getr X hR gk_X2 1 (by decide) q511 rfl ex5 dX2_like_17 ?_
  refine lv_iconst (v := (0 : Int32)) hx hb dX2_like_20 (by decide) ?_
  refine lv_aload_n hx hb dX2_like_21 rfl (lv_at hl 0 rfl) ?_
  obtain ⟨x6, ex6, hf⟩ := gBind hf
  refine g_getr X hR gk_X2 1 (by decide) q511 rfl ex6 dX2_like_22 ?_
  refine lv_iconst (v := (0 : Int32)) hx hb dX2_like_25 (by decide) ?_
  refine lv_bipush (v := (8 : Int32)) hx hb dX2_like_26 (by decide) ?_
  obtain ⟨h7, eh7, hf⟩ := gBind hf
  refine g_copy X hR hS q507 hl.1 ⟨Nat.le_of_ble_eq_true rfl, Nat.le_of_ble_eq_true rfl⟩ (Nat.le_of_ble_eq_true rfl) eh7 dX2_like_28 (fun H locs hR hS => ?_)
  refine lv_aload_n hx hb dX2_like_31 rfl (lv_at hl 0 rfl) ?_
  obtain ⟨x8, ex8, hf⟩ := gBind hf
  refine g_getr X hR gk_X2 2 (by decide) q514 rfl ex8 dX2_like_32 ?_
  obtain ⟨k9, hf⟩ := gChk hf
  obtain ⟨u10, eu10, hf⟩ := gBind hf
  refine g_callVv X hR hS [] (m_J1_clear l G F h7 n x8 eu10) yk_J1_clear q851 k9 rfl hl.1 ⟨Nat.le_of_ble_eq_true rfl, Nat.le_of_ble_eq_true rfl⟩ ⟨Nat.le_of_ble_eq_true rfl, Nat.le_of_ble_eq_true rfl⟩ rfl (Nat.le_of_ble_eq_true rfl) dX2_like_35 (fun H locs hR hS => ?_)
  refine lv_aload_n hx hb dX2_like_38 rfl (lv_at hl 0 rfl) ?_
  obtain ⟨x11, ex11, hf⟩ := gBind hf
  refine g_getr X hR gk_X2 2 (by decide) q514 rfl ex11 dX2_like_39 ?_
  refine lv_aload_n hx hb dX2_like_42 rfl (lv_at hl 1 rfl) ?_
  obtain ⟨x12, ex12, hf⟩ := gBind hf
  refine g_getr X hR gk_X2 2 (by decide) q514 rfl ex12 dX2_like_43 ?_
  obtain ⟨k13, hf⟩ := gChk hf
  obtain ⟨u14, eu14, hf⟩ := gBind hf
  refine g_callVv X hR hS [.ref x12] (m_J1_or l G F u10 n x11 x12 eu14) yk_J1_or q1051 k13 rfl hl.1 ⟨Nat.le_of_ble_eq_true rfl, Nat.le_of_ble_eq_true rfl⟩ ⟨Nat.le_of_ble_eq_true rfl, Nat.le_of_ble_eq_true rfl⟩ rfl (Nat.le_of_ble_eq_true rfl) dX2_like_46 (fun H locs hR hS => ?_)
  refine lv_aload_n hx hb dX2_like_49 rfl (lv_at hl 1 rfl) ?_
  obtain ⟨x15, ex15, hf⟩ := gBind hf
  refine g_getr X hR gk_X2 3 (by decide) q518 rfl ex15 dX2_like_50 ?_
  refine lv_iconst (v := (0 : Int32)) hx hb dX2_like_53 (by decide) ?_
  refine lv_aload_n hx hb dX2_like_54 rfl (lv_at hl 0 rfl) ?_
  obtain ⟨x16, ex16, hf⟩ := gBind hf
  refine g_getr X hR gk_X2 3 (by decide) q518 rfl ex16 dX2_like_55 ?_
  refine lv_iconst (v := (0 : Int32)) hx hb dX2_like_58 (by decide) ?_
  refine lv_iconst (v := (4 : Int32)) hx hb dX2_like_59 (by decide) ?_
  obtain ⟨h17, eh17, hf⟩ := gBind hf
  refine g_copy X hR hS q507 hl.1 ⟨Nat.le_of_ble_eq_true rfl, Nat.le_of_ble_eq_true rfl⟩ (Nat.le_of_ble_eq_true rfl) eh17 dX2_like_60 (fun H locs hR hS => ?_)
  refine lv_aload_n hx hb dX2_like_63 rfl (lv_at hl 0 rfl) ?_
  refine lv_aload_n hx hb dX2_like_64 rfl (lv_at hl 1 rfl) ?_
  obtain ⟨x18, ex18, hf⟩ := gBind hf
  refine g_geti X hR gk_X2 5 (by decide) q526 rfl ex18 dX2_like_65 ?_
  obtain ⟨h19, eh19, hf⟩ := gBind hf
  refine g_put X hR hS gk_X2 5 (by decide) q526 rfl rfl eh19 rfl rfl rfl dX2_like_68 (fun H locs hR hS => ?_)
  refine lv_aload_n hx hb dX2_like_71 rfl (lv_at hl 0 rfl) ?_
  refine lv_aload_n hx hb dX2_like_72 rfl (lv_at hl 1 rfl) ?_
  obtain ⟨x20, ex20, hf⟩ := gBind hf
  refine g_geti X hR gk_X2 6 (by decide) q529 rfl ex20 dX2_like_73 ?_
  obtain ⟨k21, hf⟩ := gChk hf
  obtain ⟨h22, eh22, hf⟩ := gBind hf
  refine g_put X hR hS gk_X2 6 (by decide) q529 rfl rfl eh22 rfl (gNz k21).1 (gNz k21).2 dX2_like_76 (fun H locs hR hS => ?_)
  refine lv_aload_n hx hb dX2_like_79 rfl (lv_at hl 0 rfl) ?_
  refine lv_aload_n hx hb dX2_like_80 rfl (lv_at hl 1 rfl) ?_
  obtain ⟨x23, ex23, hf⟩ := gBind hf
  refine g_geti X hR gk_X2 7 (by decide) q532 rfl ex23 dX2_like_81 ?_
  obtain ⟨h24, eh24, hf⟩ := gBind hf
  refine g_put X hR hS gk_X2 7 (by decide) q532 rfl rfl eh24 rfl rfl rfl dX2_like_84 (fun H locs hR hS => ?_)
  refine lv_aload_n hx hb dX2_like_87 rfl (lv_at hl 0 rfl) ?_
  refine lv_aload_n hx hb dX2_like_88 rfl (lv_at hl 1 rfl) ?_
  obtain ⟨x25, ex25, hf⟩ := gBind hf
  refine g_geti X hR gk_X2 8 (by decide) q535 rfl ex25 dX2_like_89 ?_
  obtain ⟨h26, eh26, hf⟩ := gBind hf
  refine g_put X hR hS gk_X2 8 (by decide) q535 rfl rfl eh26 rfl rfl rfl dX2_like_92 (fun H locs hR hS => ?_)
  refine lv_aload_n hx hb dX2_like_95 rfl (lv_at hl 0 rfl) ?_
  refine lv_aload_n hx hb dX2_like_96 rfl (lv_at hl 1 rfl) ?_
  obtain ⟨x27, ex27, hf⟩ := gBind hf
  refine g_geti X hR gk_X2 9 (by decide) q538 rfl ex27 dX2_like_97 ?_
  obtain ⟨h28, eh28, hf⟩ := gBind hf
  refine g_put X hR hS gk_X2 9 (by decide) q538 rfl rfl eh28 rfl rfl rfl dX2_like_100 (fun H locs hR hS => ?_)
  refine lv_aload_n hx hb dX2_like_103 rfl (lv_at hl 0 rfl) ?_
  refine lv_aload_n hx hb dX2_like_104 rfl (lv_at hl 1 rfl) ?_
  obtain ⟨x29, ex29, hf⟩ := gBind hf
  refine g_geti X hR gk_X2 10 (by decide) q541 rfl ex29 dX2_like_105 ?_
  obtain ⟨h30, eh30, hf⟩ := gBind hf
  refine g_put X hR hS gk_X2 10 (by decide) q541 rfl rfl eh30 rfl rfl rfl dX2_like_108 (fun H locs hR hS => ?_)
  refine lv_aload_n hx hb dX2_like_111 rfl (lv_at hl 0 rfl) ?_
  refine lv_aload_n hx hb dX2_like_112 rfl (lv_at hl 1 rfl) ?_
  obtain ⟨x31, ex31, hf⟩ := gBind hf
  refine g_geti X hR gk_X2 11 (by decide) q544 rfl ex31 dX2_like_113 ?_
  obtain ⟨h32, eh32, hf⟩ := gBind hf
  refine g_put X hR hS gk_X2 11 (by decide) q544 rfl rfl eh32 rfl rfl rfl dX2_like_116 (fun H locs hR hS => ?_)
  obtain rfl := gO1 hf
  exact g_vret X hR hS rfl ⟨Nat.le_of_ble_eq_true rfl, Nat.le_of_ble_eq_true rfl⟩ dX2_like_119

def sp_X2_comes (G : gG) (F : Nat) (h : gH) (a0 : Nat) (p1 : Int32) : Option (gH) :=
 (gGi 2 h a0 5).bind fun x1 =>
 (gPv 2 h a0 5 (.int (x1 + p1))).bind fun h2 =>
 some (h2)
theorem yk_X2_comes : gVk yX2_comes cX2_comes 2 none 1 2 := ⟨q1101, q1102, q94, q1103, ⟨by decide +kernel, by decide +kernel, by decide +kernel⟩, rfl⟩
set_option maxHeartbeats 4000000 in
theorem m_X2_comes (l : Launch) (G : gG) (F : Nat) (h : gH) (n : Nat) (a0 : Nat) (p1 : Int32) {h' : gH} (hf : sp_X2_comes G F h a0 p1 = some h') : gMet l G yX2_comes cX2_comes 2 none 0 0 0 0 [.ref a0, .int p1] h n none h' n := by
  refine gEnter (by decide) [(0, .ref a0), (1, .int p1)] rfl (Nat.le_of_ble_eq_true rfl) ?_
  intro p e s m below meth c H ls X hin hR hS hl
  have hx := X.1.1
  have hb := X.1.2.1
  unfold sp_X2_comes at hf
  generalize ([] : List Loc) = locs at hS ⊢
  refine lv_aload_n hx hb dX2_comes_0 rfl (lv_at hl 0 rfl) ?_
  refine lv_dup hx hb dX2_comes_1 rfl ?_
  obtain ⟨x1, ex1, hf⟩ := gBind hf
  refine g_geti X hR gk_X2 5 (by decide) q526 rfl ex1 dX2_comes_2 ?_
  refine lv_iload_n hx hb dX2_comes_5 rfl (lv_at hl 1 rfl) ?_
  refine lv_iadd hx hb dX2_comes_6 ?_
  obtain ⟨h2, eh2, hf⟩ := gBind hf
  refine g_put X hR hS gk_X2 5 (by decide) q526 rfl rfl eh2 rfl rfl rfl dX2_comes_7 (fun H locs hR hS => ?_)
  obtain rfl := gO1 hf
  exact g_vret X hR hS rfl ⟨Nat.le_of_ble_eq_true rfl, Nat.le_of_ble_eq_true rfl⟩ dX2_comes_10

def sp_X2_rate (G : gG) (F : Nat) (h : gH) (a0 : Nat) : Option (Int32) :=
 (gGr 2 h a0 3).bind fun x1 =>
 (gAi 0 h x1 (3 : Int32)).bind fun x2 =>
 some (x2)
theorem yk_X2_rate : gVk yX2_rate cX2_rate 1 (some .int) 0 2 := ⟨q1146, q1147, q94, q1148, ⟨by decide +kernel, by decide +kernel, by decide +kernel⟩, rfl⟩
set_option maxHeartbeats 4000000 in
theorem m_X2_rate (l : Launch) (G : gG) (F : Nat) (h : gH) (n : Nat) (a0 : Nat) {r : Int32} (hf : sp_X2_rate G F h a0 = some r) : gMet l G yX2_rate cX2_rate 1 (some .int) 0 0 0 0 [.ref a0] h n (some (.int r)) h n := by
  refine gEnter (by decide) [(0, .ref a0)] rfl (Nat.le_of_ble_eq_true rfl) ?_
  intro p e s m below meth c H ls X hin hR hS hl
  have hx := X.1.1
  have hb := X.1.2.1
  unfold sp_X2_rate at hf
  generalize ([] : List Loc) = locs at hS ⊢
  refine lv_aload_n hx hb dX2_rate_0 rfl (lv_at hl 0 rfl) ?_
  obtain ⟨x1, ex1, hf⟩ := gBind hf
  refine g_getr X hR gk_X2 3 (by decide) q518 rfl ex1 dX2_rate_1 ?_
  refine lv_iconst (v := (3 : Int32)) hx hb dX2_rate_4 (by decide) ?_
  obtain ⟨x2, ex2, hf⟩ := gBind hf
  refine g_iald X hR ex2 dX2_rate_5 ?_
  obtain rfl := gO1 hf
  exact g_iret X hR hS _ rfl ⟨Nat.le_of_ble_eq_true rfl, Nat.le_of_ble_eq_true rfl⟩ dX2_rate_6

def sp_X2_isGreenFor (G : gG) (F : Nat) (h : gH) (a0 : Nat) (p1 : Int32) (p2 : Int32) : Option (Int32) :=
 (gGi 2 h a0 6).bind fun x1 =>
 if x1 = 0 then
 some ((0 : Int32)) else
 (gGi 2 h a0 7).bind fun x3 =>
 if (p2 - x3) < p1 then
 some ((0 : Int32)) else
 some ((1 : Int32))
theorem yk_X2_isGreenFor : gVk yX2_isGreenFor cX2_isGreenFor 3 (some .boolean) 2 2 := ⟨q1165, q1166, q94, q1167, ⟨by decide +kernel, by decide +kernel, by decide +kernel⟩, rfl⟩
set_option maxHeartbeats 4000000 in
theorem m_X2_isGreenFor (l : Launch) (G : gG) (F : Nat) (h : gH) (n : Nat) (a0 : Nat) (p1 : Int32) (p2 : Int32) {r : Int32} (hf : sp_X2_isGreenFor G F h a0 p1 p2 = some r) : gMet l G yX2_isGreenFor cX2_isGreenFor 3 (some .boolean) 0 0 0 0 [.ref a0, .int p1, .int p2] h n (some (.int r)) h n := by
  refine gEnter (by decide) [(0, .ref a0), (1, .int p1), (2, .int p2)] rfl (Nat.le_of_ble_eq_true rfl) ?_
  intro p e s m below meth c H ls X hin hR hS hl
  have hx := X.1.1
  have hb := X.1.2.1
  unfold sp_X2_isGreenFor at hf
  generalize ([] : List Loc) = locs at hS ⊢
  refine lv_aload_n hx hb dX2_isGreenFor_0 rfl (lv_at hl 0 rfl) ?_
  obtain ⟨x1, ex1, hf⟩ := gBind hf
  refine g_geti X hR gk_X2 6 (by decide) q529 rfl ex1 dX2_isGreenFor_1 ?_
  refine lv_if_eq (tgt := 21) hx hb dX2_isGreenFor_4 (by decide) (fun c2 => ?_) (fun c2 => ?_)
  · replace hf := gIfp c2 hf
    refine lv_iconst (v := (0 : Int32)) hx hb dX2_isGreenFor_21 (by decide) ?_
    obtain rfl := gO1 hf
    exact g_zret X hR hS _ rfl rfl ⟨Nat.le_of_ble_eq_true rfl, Nat.le_of_ble_eq_true rfl⟩ dX2_isGreenFor_22
  · replace hf := gIfn c2 hf
    refine lv_iload_n hx hb dX2_isGreenFor_7 rfl (lv_at hl 2 rfl) ?_
    refine lv_aload_n hx hb dX2_isGreenFor_8 rfl (lv_at hl 0 rfl) ?_
    obtain ⟨x3, ex3, hf⟩ := gBind hf
    refine g_geti X hR gk_X2 7 (by decide) q532 rfl ex3 dX2_isGreenFor_9 ?_
    refine lv_isub hx hb dX2_isGreenFor_12 ?_
    refine lv_iload_n hx hb dX2_isGreenFor_13 rfl (lv_at hl 1 rfl) ?_
    refine lv_icmp_lt (tgt := 21) hx hb dX2_isGreenFor_14 (by decide) (fun c4 => ?_) (fun c4 => ?_)
    · replace hf := gIfp c4 hf
      refine lv_iconst (v := (0 : Int32)) hx hb dX2_isGreenFor_21 (by decide) ?_
      obtain rfl := gO1 hf
      exact g_zret X hR hS _ rfl rfl ⟨Nat.le_of_ble_eq_true rfl, Nat.le_of_ble_eq_true rfl⟩ dX2_isGreenFor_22
    · replace hf := gIfn c4 hf
      refine lv_iconst (v := (1 : Int32)) hx hb dX2_isGreenFor_17 (by decide) ?_
      refine lv_goto (tgt := 22) hx hb dX2_isGreenFor_18 (by decide) ?_
      obtain rfl := gO1 hf
      exact g_zret X hR hS _ rfl rfl ⟨Nat.le_of_ble_eq_true rfl, Nat.le_of_ble_eq_true rfl⟩ dX2_isGreenFor_22

def sp_X2_isCalled (G : gG) (F : Nat) (h : gH) (a0 : Nat) : Option (Int32) :=
 (gGi 2 h a0 5).bind fun x1 =>
 if x1 ≤ 0 then
 some ((0 : Int32)) else
 (gGi 2 h a0 6).bind fun x3 =>
 if x3 = 0 then
 some ((1 : Int32)) else
 some ((0 : Int32))
theorem yk_X2_isCalled : gVk yX2_isCalled cX2_isCalled 1 (some .boolean) 0 2 := ⟨q1185, q1186, q94, q1187, ⟨by decide +kernel, by decide +kernel, by decide +kernel⟩, rfl⟩
set_option maxHeartbeats 4000000 in
theorem m_X2_isCalled (l : Launch) (G : gG) (F : Nat) (h : gH) (n : Nat) (a0 : Nat) {r : Int32} (hf : sp_X2_isCalled G F h a0 = some r) : gMet l G yX2_isCalled cX2_isCalled 1 (some .boolean) 0 0 0 0 [.ref a0] h n (some (.int r)) h n := by
  refine gEnter (by decide) [(0, .ref a0)] rfl (Nat.le_of_ble_eq_true rfl) ?_
  intro p e s m below meth c H ls X hin hR hS hl
  have hx := X.1.1
  have hb := X.1.2.1
  unfold sp_X2_isCalled at hf
  generalize ([] : List Loc) = locs at hS ⊢
  refine lv_aload_n hx hb dX2_isCalled_0 rfl (lv_at hl 0 rfl) ?_
  obtain ⟨x1, ex1, hf⟩ := gBind hf
  refine g_geti X hR gk_X2 5 (by decide) q526 rfl ex1 dX2_isCalled_1 ?_
  refine lv_if_le (tgt := 18) hx hb dX2_isCalled_4 (by decide) (fun c2 => ?_) (fun c2 => ?_)
  · replace hf := gIfp c2 hf
    refine lv_iconst (v := (0 : Int32)) hx hb dX2_isCalled_18 (by decide) ?_
    obtain rfl := gO1 hf
    exact g_zret X hR hS _ rfl rfl ⟨Nat.le_of_ble_eq_true rfl, Nat.le_of_ble_eq_true rfl⟩ dX2_isCalled_19
  · replace hf := gIfn c2 hf
    refine lv_aload_n hx hb dX2_isCalled_7 rfl (lv_at hl 0 rfl) ?_
    obtain ⟨x3, ex3, hf⟩ := gBind hf
    refine g_geti X hR gk_X2 6 (by decide) q529 rfl ex3 dX2_isCalled_8 ?_
    refine lv_if_ne (tgt := 18) hx hb dX2_isCalled_11 (by decide) (fun c4 => ?_) (fun c4 => ?_)
    · replace hf := gIfn c4 hf
      refine lv_iconst (v := (0 : Int32)) hx hb dX2_isCalled_18 (by decide) ?_
      obtain rfl := gO1 hf
      exact g_zret X hR hS _ rfl rfl ⟨Nat.le_of_ble_eq_true rfl, Nat.le_of_ble_eq_true rfl⟩ dX2_isCalled_19
    · replace hf := gIfp c4 hf
      refine lv_iconst (v := (1 : Int32)) hx hb dX2_isCalled_14 (by decide) ?_
      refine lv_goto (tgt := 19) hx hb dX2_isCalled_15 (by decide) ?_
      obtain rfl := gO1 hf
      exact g_zret X hR hS _ rfl rfl ⟨Nat.le_of_ble_eq_true rfl, Nat.le_of_ble_eq_true rfl⟩ dX2_isCalled_19

def sp_X2_gap (G : gG) (F : Nat) (h : gH) (a0 : Nat) : Option (Int32) :=
 (gGr 2 h a0 3).bind fun x1 =>
 (gAi 0 h x1 (2 : Int32)).bind fun x2 =>
 some (x2)
theorem yk_X2_gap : gVk yX2_gap cX2_gap 1 (some .int) 0 2 := ⟨q1217, q1218, q94, q1219, ⟨by decide +kernel, by decide +kernel, by decide +kernel⟩, rfl⟩
set_option maxHeartbeats 4000000 in
theorem m_X2_gap (l : Launch) (G : gG) (F : Nat) (h : gH) (n : Nat) (a0 : Nat) {r : Int32} (hf : sp_X2_gap G F h a0 = some r) : gMet l G yX2_gap cX2_gap 1 (some .int) 0 0 0 0 [.ref a0] h n (some (.int r)) h n := by
  refine gEnter (by decide) [(0, .ref a0)] rfl (Nat.le_of_ble_eq_true rfl) ?_
  intro p e s m below meth c H ls X hin hR hS hl
  have hx := X.1.1
  have hb := X.1.2.1
  unfold sp_X2_gap at hf
  generalize ([] : List Loc) = locs at hS ⊢
  refine lv_aload_n hx hb dX2_gap_0 rfl (lv_at hl 0 rfl) ?_
  obtain ⟨x1, ex1, hf⟩ := gBind hf
  refine g_getr X hR gk_X2 3 (by decide) q518 rfl ex1 dX2_gap_1 ?_
  refine lv_iconst (v := (2 : Int32)) hx hb dX2_gap_4 (by decide) ?_
  obtain ⟨x2, ex2, hf⟩ := gBind hf
  refine g_iald X hR ex2 dX2_gap_5 ?_
  obtain rfl := gO1 hf
  exact g_iret X hR hS _ rfl ⟨Nat.le_of_ble_eq_true rfl, Nat.le_of_ble_eq_true rfl⟩ dX2_gap_6

def sp_X2_isGapped (G : gG) (F : Nat) (h : gH) (a0 : Nat) (p1 : Int32) : Option (Int32) :=
 (gGi 2 h a0 9).bind fun x1 =>
 if x1 = (-5 : Int32) then
 some ((1 : Int32)) else
 (gGi 2 h a0 9).bind fun x3 =>
 if gIs 2 h a0 = true then
 (sp_X2_gap G F h a0).bind fun u5 =>
 if (p1 - x3) < u5 then
 some ((0 : Int32)) else
 some ((1 : Int32)) else none
theorem yk_X2_isGapped : gVk yX2_isGapped cX2_isGapped 2 (some .boolean) 1 2 := ⟨q1213, q1214, q94, q1215, ⟨by decide +kernel, by decide +kernel, by decide +kernel⟩, rfl⟩
set_option maxHeartbeats 4000000 in
theorem m_X2_isGapped (l : Launch) (G : gG) (F : Nat) (h : gH) (n : Nat) (a0 : Nat) (p1 : Int32) {r : Int32} (hf : sp_X2_isGapped G F h a0 p1 = some r) : gMet l G yX2_isGapped cX2_isGapped 2 (some .boolean) 1 20 0 0 [.ref a0, .int p1] h n (some (.int r)) h n := by
  refine gEnter (by decide) [(0, .ref a0), (1, .int p1)] rfl (Nat.le_of_ble_eq_true rfl) ?_
  intro p e s m below meth c H ls X hin hR hS hl
  have hx := X.1.1
  have hb := X.1.2.1
  unfold sp_X2_isGapped at hf
  generalize ([] : List Loc) = locs at hS ⊢
  refine lv_aload_n hx hb dX2_isGapped_0 rfl (lv_at hl 0 rfl) ?_
  obtain ⟨x1, ex1, hf⟩ := gBind hf
  refine g_geti X hR gk_X2 9 (by decide) q538 rfl ex1 dX2_isGapped_1 ?_
  refine lv_bipush (v := (-5 : Int32)) hx hb dX2_isGapped_4 (by decide) ?_
  refine lv_icmp_eq (tgt := 22) hx hb dX2_isGapped_6 (by decide) (fun c2 => ?_) (fun c2 => ?_)
  · replace hf := gIfp c2 hf
    refine lv_iconst (v := (1 : Int32)) hx hb dX2_isGapped_22 (by decide) ?_
    refine lv_goto (tgt := 27) hx hb dX2_isGapped_23 (by decide) ?_
    obtain rfl := gO1 hf
    exact g_zret X hR hS _ rfl rfl ⟨Nat.le_of_ble_eq_true rfl, Nat.le_of_ble_eq_true rfl⟩ dX2_isGapped_27
  · replace hf := gIfn c2 hf
    refine lv_iload_n hx hb dX2_isGapped_9 rfl (lv_at hl 1 rfl) ?_
    refine lv_aload_n hx hb dX2_isGapped_10 rfl (lv_at hl 0 rfl) ?_
    obtain ⟨x3, ex3, hf⟩ := gBind hf
    refine g_geti X hR gk_X2 9 (by decide) q538 rfl ex3 dX2_isGapped_11 ?_
    refine lv_isub hx hb dX2_isGapped_14 ?_
    refine lv_aload_n hx hb dX2_isGapped_15 rfl (lv_at hl 0 rfl) ?_
    obtain ⟨k4, hf⟩ := gChk hf
    obtain ⟨u5, eu5, hf⟩ := gBind hf
    refine g_callVi X hR hS [] (m_X2_gap l G F h n a0 eu5) yk_X2_gap q1216 k4 rfl hl.1 ⟨Nat.le_of_ble_eq_true rfl, Nat.le_of_ble_eq_true rfl⟩ ⟨Nat.le_of_ble_eq_true rfl, Nat.le_of_ble_eq_true rfl⟩ rfl (Nat.le_of_ble_eq_true rfl) dX2_isGapped_16 (fun H locs hR hS => ?_)
    refine lv_icmp_lt (tgt := 26) hx hb dX2_isGapped_19 (by decide) (fun c6 => ?_) (fun c6 => ?_)
    · replace hf := gIfp c6 hf
      refine lv_iconst (v := (0 : Int32)) hx hb dX2_isGapped_26 (by decide) ?_
      obtain rfl := gO1 hf
      exact g_zret X hR hS _ rfl rfl ⟨Nat.le_of_ble_eq_true rfl, Nat.le_of_ble_eq_true rfl⟩ dX2_isGapped_27
    · replace hf := gIfn c6 hf
      refine lv_iconst (v := (1 : Int32)) hx hb dX2_isGapped_22 (by decide) ?_
      refine lv_goto (tgt := 27) hx hb dX2_isGapped_23 (by decide) ?_
      obtain rfl := gO1 hf
      exact g_zret X hR hS _ rfl rfl ⟨Nat.le_of_ble_eq_true rfl, Nat.le_of_ble_eq_true rfl⟩ dX2_isGapped_27

def sp_X2_couldTake (G : gG) (F : Nat) (h : gH) (a0 : Nat) (p1 : Int32) (p2 : Int32) (p3 : Int32) (p4 : Int32) : Option (Int32) :=
 if gIs 2 h a0 = true then
 (sp_X2_placeOf G F h a0 p1).bind fun u2 =>
 if u2 < 0 then
 some ((0 : Int32)) else
 (gGr 2 h a0 0).bind fun x4 =>
 (gKd G x4 1).bind fun x5 =>
 if p2 < (p3 + (x5 * u2)) then
 some ((0 : Int32)) else
 if p4 = (-5 : Int32) then
 some ((1 : Int32)) else
 (gGr 2 h a0 0).bind fun x8 =>
 (gKd G x8 0).bind fun x9 =>
 (gGr 2 h a0 0).bind fun x10 =>
 (gKd G x10 1).bind fun x11 =>
 if ((p4 + x9) + (x11 * (u2 + (1 : Int32)))) ≤ p2 then
 some ((0 : Int32)) else
 some ((1 : Int32)) else none
theorem yk_X2_couldTake : gVk yX2_couldTake cX2_couldTake 6 (some .boolean) 4 2 := ⟨q1419, q1420, q94, q1421, ⟨by decide +kernel, by decide +kernel, by decide +kernel⟩, rfl⟩
set_option maxHeartbeats 4000000 in
theorem m_X2_couldTake (l : Launch) (G : gG) (F : Nat) (h : gH) (n : Nat) (a0 : Nat) (p1 : Int32) (p2 : Int32) (p3 : Int32) (p4 : Int32) {r : Int32} (hf : sp_X2_couldTake G F h a0 p1 p2 p3 p4 = some r) : gMet l G yX2_couldTake cX2_couldTake 6 (some .boolean) 1 22 0 0 [.ref a0, .int p1, .int p2, .int p3, .int p4] h n (some (.int r)) h n := by
  refine gEnter (by decide) [(0, .ref a0), (1, .int p1), (2, .int p2), (3, .int p3), (4, .int p4)] rfl (Nat.le_of_ble_eq_true rfl) ?_
  intro p e s m below meth c H ls X hin hR hS hl
  have hx := X.1.1
  have hb := X.1.2.1
  unfold sp_X2_couldTake at hf
  generalize ([] : List Loc) = locs at hS ⊢
  refine lv_aload_n hx hb dX2_couldTake_0 rfl (lv_at hl 0 rfl) ?_
  refine lv_iload_n hx hb dX2_couldTake_1 rfl (lv_at hl 1 rfl) ?_
  obtain ⟨k1, hf⟩ := gChk hf
  obtain ⟨u2, eu2, hf⟩ := gBind hf
  refine g_callVi X hR hS [.int p1] (m_X2_placeOf l G F h n a0 p1 eu2) yk_X2_placeOf q1422 k1 rfl hl.1 ⟨Nat.le_of_ble_eq_true rfl, Nat.le_of_ble_eq_true rfl⟩ ⟨Nat.le_of_ble_eq_true rfl, Nat.le_of_ble_eq_true rfl⟩ rfl (Nat.le_of_ble_eq_true rfl) dX2_couldTake_2 (fun H locs hR hS => ?_)
  refine lv_istore (lv' := [(5, .int u2), (0, .ref a0), (1, .int p1), (2, .int p2), (3, .int p3), (4, .int p4)]) hx hb dX2_couldTake_5 hl (by decide) rfl (fun ls hl => ?_)
  refine lv_iload hx hb dX2_couldTake_7 (lv_at hl 0 rfl) ?_
  refine lv_if_lt (tgt := 66) hx hb dX2_couldTake_9 (by decide) (fun c3 => ?_) (fun c3 => ?_)
  · replace hf := gIfp c3 hf
    refine lv_iconst (v := (0 : Int32)) hx hb dX2_couldTake_66 (by decide) ?_
    obtain rfl := gO1 hf
    exact g_zret X hR hS _ rfl rfl ⟨Nat.le_of_ble_eq_true rfl, Nat.le_of_ble_eq_true rfl⟩ dX2_couldTake_67
  · replace hf := gIfn c3 hf
    refine lv_iload_n hx hb dX2_couldTake_12 rfl (lv_at hl 3 rfl) ?_
    refine lv_iload_n hx hb dX2_couldTake_13 rfl (lv_at hl 4 rfl) ?_
    refine lv_aload_n hx hb dX2_couldTake_14 rfl (lv_at hl 1 rfl) ?_
    obtain ⟨x4, ex4, hf⟩ := gBind hf
    refine g_getr X hR gk_X2 0 (by decide) q508 rfl ex4 dX2_couldTake_15 ?_
    obtain ⟨x5, ex5, hf⟩ := gBind hf
    refine g_kfldN X hS 1 (by decide) q2261 ex5 dX2_couldTake_18 ?_
    refine lv_iload hx hb dX2_couldTake_21 (lv_at hl 0 rfl) ?_
    refine lv_imul hx hb dX2_couldTake_23 ?_
    refine lv_iadd hx hb dX2_couldTake_24 ?_
    refine lv_icmp_lt (tgt := 66) hx hb dX2_couldTake_25 (by decide) (fun c6 => ?_) (fun c6 => ?_)
    · replace hf := gIfp c6 hf
      refine lv_iconst (v := (0 : Int32)) hx hb dX2_couldTake_66 (by decide) ?_
      obtain rfl := gO1 hf
      exact g_zret X hR hS _ rfl rfl ⟨Nat.le_of_ble_eq_true rfl, Nat.le_of_ble_eq_true rfl⟩ dX2_couldTake_67
    · replace hf := gIfn c6 hf
      refine lv_iload hx hb dX2_couldTake_28 (lv_at hl 5 rfl) ?_
      refine lv_bipush (v := (-5 : Int32)) hx hb dX2_couldTake_30 (by decide) ?_
      refine lv_icmp_eq (tgt := 62) hx hb dX2_couldTake_32 (by decide) (fun c7 => ?_) (fun c7 => ?_)
      · replace hf := gIfp c7 hf
        refine lv_iconst (v := (1 : Int32)) hx hb dX2_couldTake_62 (by decide) ?_
        refine lv_goto (tgt := 67) hx hb dX2_couldTake_63 (by decide) ?_
        obtain rfl := gO1 hf
        exact g_zret X hR hS _ rfl rfl ⟨Nat.le_of_ble_eq_true rfl, Nat.le_of_ble_eq_true rfl⟩ dX2_couldTake_67
      · replace hf := gIfn c7 hf
        refine lv_iload_n hx hb dX2_couldTake_35 rfl (lv_at hl 3 rfl) ?_
        refine lv_iload hx hb dX2_couldTake_36 (lv_at hl 5 rfl) ?_
        refine lv_aload_n hx hb dX2_couldTake_38 rfl (lv_at hl 1 rfl) ?_
        obtain ⟨x8, ex8, hf⟩ := gBind hf
        refine g_getr X hR gk_X2 0 (by decide) q508 rfl ex8 dX2_couldTake_39 ?_
        obtain ⟨x9, ex9, hf⟩ := gBind hf
        refine g_kfldN X hS 0 (by decide) q2262 ex9 dX2_couldTake_42 ?_
        refine lv_iadd hx hb dX2_couldTake_45 ?_
        refine lv_aload_n hx hb dX2_couldTake_46 rfl (lv_at hl 1 rfl) ?_
        obtain ⟨x10, ex10, hf⟩ := gBind hf
        refine g_getr X hR gk_X2 0 (by decide) q508 rfl ex10 dX2_couldTake_47 ?_
        obtain ⟨x11, ex11, hf⟩ := gBind hf
        refine g_kfldN X hS 1 (by decide) q2261 ex11 dX2_couldTake_50 ?_
        refine lv_iload hx hb dX2_couldTake_53 (lv_at hl 0 rfl) ?_
        refine lv_iconst (v := (1 : Int32)) hx hb dX2_couldTake_55 (by decide) ?_
        refine lv_iadd hx hb dX2_couldTake_56 ?_
        refine lv_imul hx hb dX2_couldTake_57 ?_
        refine lv_iadd hx hb dX2_couldTake_58 ?_
        refine lv_icmp_ge (tgt := 66) hx hb dX2_couldTake_59 (by decide) (fun c12 => ?_) (fun c12 => ?_)
        · replace hf := gIfp c12 hf
          refine lv_iconst (v := (0 : Int32)) hx hb dX2_couldTake_66 (by decide) ?_
          obtain rfl := gO1 hf
          exact g_zret X hR hS _ rfl rfl ⟨Nat.le_of_ble_eq_true rfl, Nat.le_of_ble_eq_true rfl⟩ dX2_couldTake_67
        · replace hf := gIfn c12 hf
          refine lv_iconst (v := (1 : Int32)) hx hb dX2_couldTake_62 (by decide) ?_
          refine lv_goto (tgt := 67) hx hb dX2_couldTake_63 (by decide) ?_
          obtain rfl := gO1 hf
          exact g_zret X hR hS _ rfl rfl ⟨Nat.le_of_ble_eq_true rfl, Nat.le_of_ble_eq_true rfl⟩ dX2_couldTake_67

def sp_X4_init (G : gG) (F : Nat) (h : gH) (a0 : Nat) : Option (Unit) :=
 some (())
theorem yk_X4_init : gIk yX4_init cX4_init 1 0 := ⟨q574, rfl, q114, q575, ⟨by decide +kernel, by decide +kernel, by decide +kernel⟩⟩
set_option maxHeartbeats 4000000 in
theorem m_X4_init (l : Launch) (G : gG) (F : Nat) (h : gH) (n : Nat) (a0 : Nat)  (hf : sp_X4_init G F h a0 = some ()) : gMet l G yX4_init cX4_init 1 none 1 20 0 0 [.ref a0] h n none h n := by
  refine gEnter (by decide) [(0, .ref a0)] rfl (Nat.le_of_ble_eq_true rfl) ?_
  intro p e s m below meth c H ls X hin hR hS hl
  have hx := X.1.1
  have hb := X.1.2.1
  unfold sp_X4_init at hf
  generalize ([] : List Loc) = locs at hS ⊢
  refine lv_aload_n hx hb dX4_init_0 rfl (lv_at hl 0 rfl) ?_
  refine g_objInit X q576 q138 q139 hl.1 ⟨Nat.le_of_ble_eq_true rfl, Nat.le_of_ble_eq_true rfl⟩ (Nat.le_of_ble_eq_true rfl) dX4_init_1 ?_
  exact g_vret X hR hS rfl ⟨Nat.le_of_ble_eq_true rfl, Nat.le_of_ble_eq_true rfl⟩ dX4_init_4

def sp_X4_is (G : gG) (F : Nat) (h : gH) (a0 : Nat) (p1 : Int32) (p2 : Int32) (p3 : Int32) : Option (gH) :=
 (gPv 3 h a0 0 (.int p1)).bind fun h1 =>
 (gPv 3 h1 a0 1 (.int p2)).bind fun h2 =>
 (gPv 3 h2 a0 2 (.int p3)).bind fun h3 =>
 some (h3)
theorem yk_X4_is : gVk yX4_is cX4_is 4 none 3 3 := ⟨q1083, q1084, q114, q1085, ⟨by decide +kernel, by decide +kernel, by decide +kernel⟩, rfl⟩
set_option maxHeartbeats 4000000 in
theorem m_X4_is (l : Launch) (G : gG) (F : Nat) (h : gH) (n : Nat) (a0 : Nat) (p1 : Int32) (p2 : Int32) (p3 : Int32) {h' : gH} (hf : sp_X4_is G F h a0 p1 p2 p3 = some h') : gMet l G yX4_is cX4_is 4 none 0 0 0 0 [.ref a0, .int p1, .int p2, .int p3] h n none h' n := by
  refine gEnter (by decide) [(0, .ref a0), (1, .int p1), (2, .int p2), (3, .int p3)] rfl (Nat.le_of_ble_eq_true rfl) ?_
  intro p e s m below meth c H ls X hin hR hS hl
  have hx := X.1.1
  have hb := X.1.2.1
  unfold sp_X4_is at hf
  generalize ([] : List Loc) = locs at hS ⊢
  refine lv_aload_n hx hb dX4_is_0 rfl (lv_at hl 0 rfl) ?_
  refine lv_iload_n hx hb dX4_is_1 rfl (lv_at hl 1 rfl) ?_
  obtain ⟨h1, eh1, hf⟩ := gBind hf
  refine g_put X hR hS gk_X4 0 (by decide) q577 rfl rfl eh1 rfl rfl rfl dX4_is_2 (fun H locs hR hS => ?_)
  refine lv_aload_n hx hb dX4_is_5 rfl (lv_at hl 0 rfl) ?_
  refine lv_iload_n hx hb dX4_is_6 rfl (lv_at hl 2 rfl) ?_
  obtain ⟨h2, eh2, hf⟩ := gBind hf
  refine g_put X hR hS gk_X4 1 (by decide) q581 rfl rfl eh2 rfl rfl rfl dX4_is_7 (fun H locs hR hS => ?_)
  refine lv_aload_n hx hb dX4_is_10 rfl (lv_at hl 0 rfl) ?_
  refine lv_iload_n hx hb dX4_is_11 rfl (lv_at hl 3 rfl) ?_
  obtain ⟨h3, eh3, hf⟩ := gBind hf
  refine g_put X hR hS gk_X4 2 (by decide) q584 rfl rfl eh3 rfl rfl rfl dX4_is_12 (fun H locs hR hS => ?_)
  obtain rfl := gO1 hf
  exact g_vret X hR hS rfl ⟨Nat.le_of_ble_eq_true rfl, Nat.le_of_ble_eq_true rfl⟩ dX4_is_15

def sp_X4_has (G : gG) (F : Nat) (h : gH) (a0 : Nat) (p1 : Int32) : Option (Int32) :=
 (gGi 3 h a0 0).bind fun x1 =>
 if ((x1 >>> (p1 &&& 31)) &&& (1 : Int32)) = (1 : Int32) then
 some ((1 : Int32)) else
 some ((0 : Int32))
theorem yk_X4_has : gVk yX4_has cX4_has 2 (some .boolean) 1 3 := ⟨q1117, q1118, q114, q1119, ⟨by decide +kernel, by decide +kernel, by decide +kernel⟩, rfl⟩
set_option maxHeartbeats 4000000 in
theorem m_X4_has (l : Launch) (G : gG) (F : Nat) (h : gH) (n : Nat) (a0 : Nat) (p1 : Int32) {r : Int32} (hf : sp_X4_has G F h a0 p1 = some r) : gMet l G yX4_has cX4_has 2 (some .boolean) 0 0 0 0 [.ref a0, .int p1] h n (some (.int r)) h n := by
  refine gEnter (by decide) [(0, .ref a0), (1, .int p1)] rfl (Nat.le_of_ble_eq_true rfl) ?_
  intro p e s m below meth c H ls X hin hR hS hl
  have hx := X.1.1
  have hb := X.1.2.1
  unfold sp_X4_has at hf
  generalize ([] : List Loc) = locs at hS ⊢
  refine lv_aload_n hx hb dX4_has_0 rfl (lv_at hl 0 rfl) ?_
  obtain ⟨x1, ex1, hf⟩ := gBind hf
  refine g_geti X hR gk_X4 0 (by decide) q577 rfl ex1 dX4_has_1 ?_
  refine lv_iload_n hx hb dX4_has_4 rfl (lv_at hl 1 rfl) ?_
  refine lv_ishr hx hb dX4_has_5 ?_
  refine lv_iconst (v := (1 : Int32)) hx hb dX4_has_6 (by decide) ?_
  refine lv_iand hx hb dX4_has_7 ?_
  refine lv_iconst (v := (1 : Int32)) hx hb dX4_has_8 (by decide) ?_
  refine lv_icmp_ne (tgt := 16) hx hb dX4_has_9 (by decide) (fun c2 => ?_) (fun c2 => ?_)
  · replace hf := gIfn c2 hf
    refine lv_iconst (v := (0 : Int32)) hx hb dX4_has_16 (by decide) ?_
    obtain rfl := gO1 hf
    exact g_zret X hR hS _ rfl rfl ⟨Nat.le_of_ble_eq_true rfl, Nat.le_of_ble_eq_true rfl⟩ dX4_has_17
  · replace hf := gIfp c2 hf
    refine lv_iconst (v := (1 : Int32)) hx hb dX4_has_12 (by decide) ?_
    refine lv_goto (tgt := 17) hx hb dX4_has_13 (by decide) ?_
    obtain rfl := gO1 hf
    exact g_zret X hR hS _ rfl rfl ⟨Nat.le_of_ble_eq_true rfl, Nat.le_of_ble_eq_true rfl⟩ dX4_has_17

def sp_X5_init (G : gG) (F : Nat) (h : gH) (a0 : Nat) : Option (Unit) :=
 some (())
theorem yk_X5_init : gIk yX5_init cX5_init 1 0 := ⟨q595, rfl, q115, q596, ⟨by decide +kernel, by decide +kernel, by decide +kernel⟩⟩
set_option maxHeartbeats 4000000 in
theorem m_X5_init (l : Launch) (G : gG) (F : Nat) (h : gH) (n : Nat) (a0 : Nat)  (hf : sp_X5_init G F h a0 = some ()) : gMet l G yX5_init cX5_init 1 none 1 20 0 0 [.ref a0] h n none h n := by
  refine gEnter (by decide) [(0, .ref a0)] rfl (Nat.le_of_ble_eq_true rfl) ?_
  intro p e s m below meth c H ls X hin hR hS hl
  have hx := X.1.1
  have hb := X.1.2.1
  unfold sp_X5_init at hf
  generalize ([] : List Loc) = locs at hS ⊢
  refine lv_aload_n hx hb dX5_init_0 rfl (lv_at hl 0 rfl) ?_
  refine g_objInit X q597 q138 q139 hl.1 ⟨Nat.le_of_ble_eq_true rfl, Nat.le_of_ble_eq_true rfl⟩ (Nat.le_of_ble_eq_true rfl) dX5_init_1 ?_
  exact g_vret X hR hS rfl ⟨Nat.le_of_ble_eq_true rfl, Nat.le_of_ble_eq_true rfl⟩ dX5_init_4

def sp_X5_is (G : gG) (F : Nat) (h : gH) (a0 : Nat) (p1 : Int32) (p2 : Int32) (p3 : Int32) : Option (gH) :=
 (gPv 4 h a0 0 (.int p1)).bind fun h1 =>
 (gPv 4 h1 a0 1 (.int p2)).bind fun h2 =>
 (gPv 4 h2 a0 2 (.int p3)).bind fun h3 =>
 some (h3)
theorem yk_X5_is : gVk yX5_is cX5_is 4 none 3 4 := ⟨q1177, q1178, q115, q1179, ⟨by decide +kernel, by decide +kernel, by decide +kernel⟩, rfl⟩
set_option maxHeartbeats 4000000 in
theorem m_X5_is (l : Launch) (G : gG) (F : Nat) (h : gH) (n : Nat) (a0 : Nat) (p1 : Int32) (p2 : Int32) (p3 : Int32) {h' : gH} (hf : sp_X5_is G F h a0 p1 p2 p3 = some h') : gMet l G yX5_is cX5_is 4 none 0 0 0 0 [.ref a0, .int p1, .int p2, .int p3] h n none h' n := by
  refine gEnter (by decide) [(0, .ref a0), (1, .int p1), (2, .int p2), (3, .int p3)] rfl (Nat.le_of_ble_eq_true rfl) ?_
  intro p e s m below meth c H ls X hin hR hS hl
  have hx := X.1.1
  have hb := X.1.2.1
  unfold sp_X5_is at hf
  generalize ([] : List Loc) = locs at hS ⊢
  refine lv_aload_n hx hb dX5_is_0 rfl (lv_at hl 0 rfl) ?_
  refine lv_iload_n hx hb dX5_is_1 rfl (lv_at hl 1 rfl) ?_
  obtain ⟨h1, eh1, hf⟩ := gBind hf
  refine g_put X hR hS gk_X5 0 (by decide) q598 rfl rfl eh1 rfl rfl rfl dX5_is_2 (fun H locs hR hS => ?_)
  refine lv_aload_n hx hb dX5_is_5 rfl (lv_at hl 0 rfl) ?_
  refine lv_iload_n hx hb dX5_is_6 rfl (lv_at hl 2 rfl) ?_
  obtain ⟨h2, eh2, hf⟩ := gBind hf
  refine g_put X hR hS gk_X5 1 (by decide) q600 rfl rfl eh2 rfl rfl rfl dX5_is_7 (fun H locs hR hS => ?_)
  refine lv_aload_n hx hb dX5_is_10 rfl (lv_at hl 0 rfl) ?_
  refine lv_iload_n hx hb dX5_is_11 rfl (lv_at hl 3 rfl) ?_
  obtain ⟨h3, eh3, hf⟩ := gBind hf
  refine g_put X hR hS gk_X5 2 (by decide) q602 rfl rfl eh3 rfl rfl rfl dX5_is_12 (fun H locs hR hS => ?_)
  obtain rfl := gO1 hf
  exact g_vret X hR hS rfl ⟨Nat.le_of_ble_eq_true rfl, Nat.le_of_ble_eq_true rfl⟩ dX5_is_15

def sp_X5_to (G : gG) (F : Nat) (h : gH) (a0 : Nat) : Option (Int32) :=
 (gGi 4 h a0 2).bind fun x1 =>
 some (x1)
set_option maxHeartbeats 4000000 in
theorem m_X5_to (l : Launch) (G : gG) (F : Nat) (h : gH) (n : Nat) (a0 : Nat) {r : Int32} (hf : sp_X5_to G F h a0 = some r) : gMet l G yX5_to cX5_to 1 (some .int) 0 0 0 0 [.ref a0] h n (some (.int r)) h n := by
  refine gEnter (by decide) [(0, .ref a0)] rfl (Nat.le_of_ble_eq_true rfl) ?_
  intro p e s m below meth c H ls X hin hR hS hl
  have hx := X.1.1
  have hb := X.1.2.1
  unfold sp_X5_to at hf
  generalize ([] : List Loc) = locs at hS ⊢
  refine lv_aload_n hx hb dX5_to_0 rfl (lv_at hl 0 rfl) ?_
  obtain ⟨x1, ex1, hf⟩ := gBind hf
  refine g_geti X hR gk_X5 2 (by decide) q602 rfl ex1 dX5_to_1 ?_
  obtain rfl := gO1 hf
  exact g_iret X hR hS _ rfl ⟨Nat.le_of_ble_eq_true rfl, Nat.le_of_ble_eq_true rfl⟩ dX5_to_4

def sp_X5_from (G : gG) (F : Nat) (h : gH) (a0 : Nat) : Option (Int32) :=
 (gGi 4 h a0 1).bind fun x1 =>
 some (x1)
set_option maxHeartbeats 4000000 in
theorem m_X5_from (l : Launch) (G : gG) (F : Nat) (h : gH) (n : Nat) (a0 : Nat) {r : Int32} (hf : sp_X5_from G F h a0 = some r) : gMet l G yX5_from cX5_from 1 (some .int) 0 0 0 0 [.ref a0] h n (some (.int r)) h n := by
  refine gEnter (by decide) [(0, .ref a0)] rfl (Nat.le_of_ble_eq_true rfl) ?_
  intro p e s m below meth c H ls X hin hR hS hl
  have hx := X.1.1
  have hb := X.1.2.1
  unfold sp_X5_from at hf
  generalize ([] : List Loc) = locs at hS ⊢
  refine lv_aload_n hx hb dX5_from_0 rfl (lv_at hl 0 rfl) ?_
  obtain ⟨x1, ex1, hf⟩ := gBind hf
  refine g_geti X hR gk_X5 1 (by decide) q600 rfl ex1 dX5_from_1 ?_
  obtain rfl := gO1 hf
  exact g_iret X hR hS _ rfl ⟨Nat.le_of_ble_eq_true rfl, Nat.le_of_ble_eq_true rfl⟩ dX5_from_4

def sp_X5_like (G : gG) (F : Nat) (h : gH) (a0 : Nat) (a1 : Nat) : Option (gH) :=
 (gGi 4 h a1 0).bind fun x1 =>
 (gGi 4 h a1 1).bind fun x2 =>
 (gGi 4 h a1 2).bind fun x3 =>
 if gIs 4 h a0 = true then
 (sp_X5_is G F h a0 x1 x2 x3).bind fun u5 =>
 some (u5) else none
theorem yk_X5_like : gVk yX5_like cX5_like 2 none 1 4 := ⟨q1505, q1506, q115, q1507, ⟨by decide +kernel, by decide +kernel, by decide +kernel⟩, rfl⟩
set_option maxHeartbeats 4000000 in
theorem m_X5_like (l : Launch) (G : gG) (F : Nat) (h : gH) (n : Nat) (a0 : Nat) (a1 : Nat) {h' : gH} (hf : sp_X5_like G F h a0 a1 = some h') : gMet l G yX5_like cX5_like 2 none 1 23 0 0 [.ref a0, .ref a1] h n none h' n := by
  refine gEnter (by decide) [(0, .ref a0), (1, .ref a1)] rfl (Nat.le_of_ble_eq_true rfl) ?_
  intro p e s m below meth c H ls X hin hR hS hl
  have hx := X.1.1
  have hb := X.1.2.1
  unfold sp_X5_like at hf
  generalize ([] : List Loc) = locs at hS ⊢
  refine lv_aload_n hx hb dX5_like_0 rfl (lv_at hl 0 rfl) ?_
  refine lv_aload_n hx hb dX5_like_1 rfl (lv_at hl 1 rfl) ?_
  obtain ⟨x1, ex1, hf⟩ := gBind hf
  refine g_geti X hR gk_X5 0 (by decide) q598 rfl ex1 dX5_like_2 ?_
  refine lv_aload_n hx hb dX5_like_5 rfl (lv_at hl 1 rfl) ?_
  obtain ⟨x2, ex2, hf⟩ := gBind hf
  refine g_geti X hR gk_X5 1 (by decide) q600 rfl ex2 dX5_like_6 ?_
  refine lv_aload_n hx hb dX5_like_9 rfl (lv_at hl 1 rfl) ?_
  obtain ⟨x3, ex3, hf⟩ := gBind hf
  refine g_geti X hR gk_X5 2 (by decide) q602 rfl ex3 dX5_like_10 ?_
  obtain ⟨k4, hf⟩ := gChk hf
  obtain ⟨u5, eu5, hf⟩ := gBind hf
  refine g_callVv X hR hS [.int x1, .int x2, .int x3] (m_X5_is l G F h n a0 x1 x2 x3 eu5) yk_X5_is q1508 k4 rfl hl.1 ⟨Nat.le_of_ble_eq_true rfl, Nat.le_of_ble_eq_true rfl⟩ ⟨Nat.le_of_ble_eq_true rfl, Nat.le_of_ble_eq_true rfl⟩ rfl (Nat.le_of_ble_eq_true rfl) dX5_like_13 (fun H locs hR hS => ?_)
  obtain rfl := gO1 hf
  exact g_vret X hR hS rfl ⟨Nat.le_of_ble_eq_true rfl, Nat.le_of_ble_eq_true rfl⟩ dX5_like_16

def sp_X16_lasts (G : gG) (F : Nat) (h : gH) (a0 : Nat) : Option (Int32) :=
 if gIs 4 h a0 = true then
 (sp_X5_to G F h a0).bind fun u2 =>
 if gIs 4 h a0 = true then
 (sp_X5_from G F h a0).bind fun u4 =>
 some (u2 - u4) else none else none
set_option maxHeartbeats 4000000 in
theorem m_X16_lasts (l : Launch) (G : gG) (F : Nat) (h : gH) (n : Nat) (a0 : Nat) {r : Int32} (hf : sp_X16_lasts G F h a0 = some r) : gMet l G yX16_lasts cX16_lasts 1 (some .int) 1 20 0 0 [.ref a0] h n (some (.int r)) h n := by
  refine gEnter (by decide) [(0, .ref a0)] rfl (Nat.le_of_ble_eq_true rfl) ?_
  intro p e s m below meth c H ls X hin hR hS hl
  have hx := X.1.1
  have hb := X.1.2.1
  unfold sp_X16_lasts at hf
  generalize ([] : List Loc) = locs at hS ⊢
  refine lv_aload_n hx hb dX16_lasts_0 rfl (lv_at hl 0 rfl) ?_
  obtain ⟨k1, hf⟩ := gChk hf
  obtain ⟨u2, eu2, hf⟩ := gBind hf
  refine g_callF (nn := 0) X hR hS [] (m_X5_to l G F h n a0 eu2) (gFaOf X.2.1).2.1 q1388 q1393 q115 q1395 (by decide +kernel) k1 rfl hl.1 ⟨Nat.le_of_ble_eq_true rfl, Nat.le_of_ble_eq_true rfl⟩ ⟨Nat.le_of_ble_eq_true rfl, Nat.le_of_ble_eq_true rfl⟩ rfl (Nat.le_of_ble_eq_true rfl) dX16_lasts_1 (fun H locs hR hS => ?_)
  refine lv_aload_n hx hb dX16_lasts_6 rfl (lv_at hl 0 rfl) ?_
  obtain ⟨k3, hf⟩ := gChk hf
  obtain ⟨u4, eu4, hf⟩ := gBind hf
  refine g_callF (nn := 0) X hR hS [] (m_X5_from l G F h n a0 eu4) (gFaOf X.2.1).1 q1397 q1402 q115 q1404 (by decide +kernel) k3 rfl hl.1 ⟨Nat.le_of_ble_eq_true rfl, Nat.le_of_ble_eq_true rfl⟩ ⟨Nat.le_of_ble_eq_true rfl, Nat.le_of_ble_eq_true rfl⟩ rfl (Nat.le_of_ble_eq_true rfl) dX16_lasts_7 (fun H locs hR hS => ?_)
  refine lv_isub hx hb dX16_lasts_12 ?_
  obtain rfl := gO1 hf
  exact g_iret X hR hS _ rfl ⟨Nat.le_of_ble_eq_true rfl, Nat.le_of_ble_eq_true rfl⟩ dX16_lasts_13

def sp_X16_isAhead (G : gG) (F : Nat) (h : gH) (a0 : Nat) (a1 : Nat) (p2 : Int32) : Option (Int32) :=
 if gIs 4 h a1 = true then
 (sp_X5_from G F h a1).bind fun u2 =>
 if gIs 4 h a0 = true then
 (sp_X5_to G F h a0).bind fun u4 =>
 if (u2 - u4) < p2 then
 some ((0 : Int32)) else
 some ((1 : Int32)) else none else none
set_option maxHeartbeats 4000000 in
theorem m_X16_isAhead (l : Launch) (G : gG) (F : Nat) (h : gH) (n : Nat) (a0 : Nat) (a1 : Nat) (p2 : Int32) {r : Int32} (hf : sp_X16_isAhead G F h a0 a1 p2 = some r) : gMet l G yX16_isAhead cX16_isAhead 3 (some .boolean) 1 20 0 0 [.ref a0, .ref a1, .int p2] h n (some (.int r)) h n := by
  refine gEnter (by decide) [(0, .ref a0), (1, .ref a1), (2, .int p2)] rfl (Nat.le_of_ble_eq_true rfl) ?_
  intro p e s m below meth c H ls X hin hR hS hl
  have hx := X.1.1
  have hb := X.1.2.1
  unfold sp_X16_isAhead at hf
  generalize ([] : List Loc) = locs at hS ⊢
  refine lv_aload_n hx hb dX16_isAhead_0 rfl (lv_at hl 1 rfl) ?_
  obtain ⟨k1, hf⟩ := gChk hf
  obtain ⟨u2, eu2, hf⟩ := gBind hf
  refine g_callF (nn := 0) X hR hS [] (m_X5_from l G F h n a1 eu2) (gFaOf X.2.1).1 q1397 q1402 q115 q1404 (by decide +kernel) k1 rfl hl.1 ⟨Nat.le_of_ble_eq_true rfl, Nat.le_of_ble_eq_true rfl⟩ ⟨Nat.le_of_ble_eq_true rfl, Nat.le_of_ble_eq_true rfl⟩ rfl (Nat.le_of_ble_eq_true rfl) dX16_isAhead_1 (fun H locs hR hS => ?_)
  refine lv_aload_n hx hb dX16_isAhead_6 rfl (lv_at hl 0 rfl) ?_
  obtain ⟨k3, hf⟩ := gChk hf
  obtain ⟨u4, eu4, hf⟩ := gBind hf
  refine g_callF (nn := 0) X hR hS [] (m_X5_to l G F h n a0 eu4) (gFaOf X.2.1).2.1 q1388 q1393 q115 q1395 (by decide +kernel) k3 rfl hl.1 ⟨Nat.le_of_ble_eq_true rfl, Nat.le_of_ble_eq_true rfl⟩ ⟨Nat.le_of_ble_eq_true rfl, Nat.le_of_ble_eq_true rfl⟩ rfl (Nat.le_of_ble_eq_true rfl) dX16_isAhead_7 (fun H locs hR hS => ?_)
  refine lv_isub hx hb dX16_isAhead_12 ?_
  refine lv_iload_n hx hb dX16_isAhead_13 rfl (lv_at hl 2 rfl) ?_
  refine lv_icmp_lt (tgt := 21) hx hb dX16_isAhead_14 (by decide) (fun c5 => ?_) (fun c5 => ?_)
  · replace hf := gIfp c5 hf
    refine lv_iconst (v := (0 : Int32)) hx hb dX16_isAhead_21 (by decide) ?_
    obtain rfl := gO1 hf
    exact g_zret X hR hS _ rfl rfl ⟨Nat.le_of_ble_eq_true rfl, Nat.le_of_ble_eq_true rfl⟩ dX16_isAhead_22
  · replace hf := gIfn c5 hf
    refine lv_iconst (v := (1 : Int32)) hx hb dX16_isAhead_17 (by decide) ?_
    refine lv_goto (tgt := 22) hx hb dX16_isAhead_18 (by decide) ?_
    obtain rfl := gO1 hf
    exact g_zret X hR hS _ rfl rfl ⟨Nat.le_of_ble_eq_true rfl, Nat.le_of_ble_eq_true rfl⟩ dX16_isAhead_22

def sp_X16_hold (G : gG) (F : Nat) (h : gH) (a0 : Nat) (a1 : Nat) (p2 : Int32) (p3 : Int32) : Option (Int32) :=
 if gIs 4 h a0 = true then
 (sp_X16_isAhead G F h a0 a1 p2).bind fun u2 =>
 if u2 = 0 then
 if gIs 4 h a1 = true then
 (sp_X16_isAhead G F h a1 a0 p3).bind fun u5 =>
 if u5 = 0 then
 some ((0 : Int32)) else
 some ((1 : Int32)) else none else
 some ((1 : Int32)) else none
theorem yk_X16_hold : gSk yX16_hold cX16_hold 4 (some .boolean) 4 := ⟨q1438, q129, q1439, ⟨by decide +kernel, by decide +kernel, by decide +kernel⟩⟩
set_option maxHeartbeats 4000000 in
theorem m_X16_hold (l : Launch) (G : gG) (F : Nat) (h : gH) (n : Nat) (a0 : Nat) (a1 : Nat) (p2 : Int32) (p3 : Int32) {r : Int32} (hf : sp_X16_hold G F h a0 a1 p2 p3 = some r) : gMet l G yX16_hold cX16_hold 4 (some .boolean) 2 42 0 0 [.ref a0, .ref a1, .int p2, .int p3] h n (some (.int r)) h n := by
  refine gEnter (by decide) [(0, .ref a0), (1, .ref a1), (2, .int p2), (3, .int p3)] rfl (Nat.le_of_ble_eq_true rfl) ?_
  intro p e s m below meth c H ls X hin hR hS hl
  have hx := X.1.1
  have hb := X.1.2.1
  unfold sp_X16_hold at hf
  generalize ([] : List Loc) = locs at hS ⊢
  refine lv_aload_n hx hb dX16_hold_0 rfl (lv_at hl 0 rfl) ?_
  refine lv_aload_n hx hb dX16_hold_1 rfl (lv_at hl 1 rfl) ?_
  refine lv_iload_n hx hb dX16_hold_2 rfl (lv_at hl 2 rfl) ?_
  obtain ⟨k1, hf⟩ := gChk hf
  obtain ⟨u2, eu2, hf⟩ := gBind hf
  refine g_callF (nn := 2) X hR hS [.ref a1, .int p2] (m_X16_isAhead l G F h n a0 a1 p2 eu2) (gFaOf X.2.1).2.2.2.1 q1441 q1445 q129 q1447 (by decide +kernel) k1 rfl hl.1 ⟨Nat.le_of_ble_eq_true rfl, Nat.le_of_ble_eq_true rfl⟩ ⟨Nat.le_of_ble_eq_true rfl, Nat.le_of_ble_eq_true rfl⟩ rfl (Nat.le_of_ble_eq_true rfl) dX16_hold_3 (fun H locs hR hS => ?_)
  refine lv_if_ne (tgt := 22) hx hb dX16_hold_8 (by decide) (fun c3 => ?_) (fun c3 => ?_)
  · replace hf := gIfn c3 hf
    refine lv_iconst (v := (1 : Int32)) hx hb dX16_hold_22 (by decide) ?_
    refine lv_goto (tgt := 27) hx hb dX16_hold_23 (by decide) ?_
    obtain rfl := gO1 hf
    exact g_zret X hR hS _ rfl rfl ⟨Nat.le_of_ble_eq_true rfl, Nat.le_of_ble_eq_true rfl⟩ dX16_hold_27
  · replace hf := gIfp c3 hf
    refine lv_aload_n hx hb dX16_hold_11 rfl (lv_at hl 1 rfl) ?_
    refine lv_aload_n hx hb dX16_hold_12 rfl (lv_at hl 0 rfl) ?_
    refine lv_iload_n hx hb dX16_hold_13 rfl (lv_at hl 3 rfl) ?_
    obtain ⟨k4, hf⟩ := gChk hf
    obtain ⟨u5, eu5, hf⟩ := gBind hf
    refine g_callF (nn := 2) X hR hS [.ref a0, .int p3] (m_X16_isAhead l G F h n a1 a0 p3 eu5) (gFaOf X.2.1).2.2.2.1 q1441 q1445 q129 q1447 (by decide +kernel) k4 rfl hl.1 ⟨Nat.le_of_ble_eq_true rfl, Nat.le_of_ble_eq_true rfl⟩ ⟨Nat.le_of_ble_eq_true rfl, Nat.le_of_ble_eq_true rfl⟩ rfl (Nat.le_of_ble_eq_true rfl) dX16_hold_14 (fun H locs hR hS => ?_)
    refine lv_if_eq (tgt := 26) hx hb dX16_hold_19 (by decide) (fun c6 => ?_) (fun c6 => ?_)
    · replace hf := gIfp c6 hf
      refine lv_iconst (v := (0 : Int32)) hx hb dX16_hold_26 (by decide) ?_
      obtain rfl := gO1 hf
      exact g_zret X hR hS _ rfl rfl ⟨Nat.le_of_ble_eq_true rfl, Nat.le_of_ble_eq_true rfl⟩ dX16_hold_27
    · replace hf := gIfn c6 hf
      refine lv_iconst (v := (1 : Int32)) hx hb dX16_hold_22 (by decide) ?_
      refine lv_goto (tgt := 27) hx hb dX16_hold_23 (by decide) ?_
      obtain rfl := gO1 hf
      exact g_zret X hR hS _ rfl rfl ⟨Nat.le_of_ble_eq_true rfl, Nat.le_of_ble_eq_true rfl⟩ dX16_hold_27

def sp_X6_init (G : gG) (F : Nat) (h : gH) (n : Nat) (a0 : Nat) : Option (gH × Nat) :=
 (gPv 5 (va_up h n (some (.inl (0, 3, .inl (fun _ => 0))))) a0 0 (.ref n)).bind fun h1 =>
 some ((h1, n + 1))
theorem yk_X6_init : gIk yX6_init cX6_init 1 0 := ⟨q613, rfl, q116, q614, ⟨by decide +kernel, by decide +kernel, by decide +kernel⟩⟩
set_option maxHeartbeats 4000000 in
theorem m_X6_init (l : Launch) (G : gG) (F : Nat) (h : gH) (n : Nat) (a0 : Nat) {h' : gH} {n' : Nat} (hf : sp_X6_init G F h n a0 = some (h', n')) : gMet l G yX6_init cX6_init 1 none 1 20 1 3 [.ref a0] h n none h' n' := by
  refine gEnter (by decide) [(0, .ref a0)] rfl (Nat.le_of_ble_eq_true rfl) ?_
  intro p e s m below meth c H ls X hin hR hS hl
  have hx := X.1.1
  have hb := X.1.2.1
  unfold sp_X6_init at hf
  generalize ([] : List Loc) = locs at hS ⊢
  refine lv_aload_n hx hb dX6_init_0 rfl (lv_at hl 0 rfl) ?_
  refine g_objInit X q615 q138 q139 hl.1 ⟨Nat.le_of_ble_eq_true rfl, Nat.le_of_ble_eq_true rfl⟩ (Nat.le_of_ble_eq_true rfl) dX6_init_1 ?_
  refine lv_aload_n hx hb dX6_init_4 rfl (lv_at hl 0 rfl) ?_
  refine lv_iconst (v := (3 : Int32)) hx hb dX6_init_5 (by decide) ?_
  refine g_newa0 X hR hS q255 3 (by decide) (by decide) (by decide) ⟨Nat.le_of_ble_eq_true rfl, Nat.le_of_ble_eq_true rfl⟩ dX6_init_6 (fun H hR hS => ?_)
  obtain ⟨h1, eh1, hf⟩ := gBind hf
  refine g_putF X hR hS hin gk_X6 0 (by decide) q616 rfl rfl rfl eh1 rfl rfl rfl dX6_init_8 (fun H locs hR hS => ?_)
  obtain ⟨rfl, rfl⟩ := gO2 hf
  exact g_vret X hR hS rfl ⟨Nat.le_of_ble_eq_true rfl, Nat.le_of_ble_eq_true rfl⟩ dX6_init_11

def sp_J11_floorMod (G : gG) (F : Nat) (h : gH) (p0 : Int32) (p1 : Int32) : Option (Int32) :=
 if ¬ p1 = 0 then
 if 0 ≤ (p0 ^^^ p1) then
 some (p0 - p0 / p1 * p1) else
 if (p0 - p0 / p1 * p1) = 0 then
 some (p0 - p0 / p1 * p1) else
 some ((p0 - p0 / p1 * p1) + p1) else none
theorem yk_J11_floorMod : gSk yJ11_floorMod cJ11_floorMod 3 (some .int) 2 := ⟨q1201, q107, q1202, ⟨by decide +kernel, by decide +kernel, by decide +kernel⟩⟩
set_option maxHeartbeats 4000000 in
theorem m_J11_floorMod (l : Launch) (G : gG) (F : Nat) (h : gH) (n : Nat) (p0 : Int32) (p1 : Int32) {r : Int32} (hf : sp_J11_floorMod G F h p0 p1 = some r) : gMet l G yJ11_floorMod cJ11_floorMod 3 (some .int) 0 0 0 0 [.int p0, .int p1] h n (some (.int r)) h n := by
  refine gEnterF (by decide +kernel) [(0, .int p0), (1, .int p1)] rfl (Nat.le_of_ble_eq_true rfl) ?_
  intro p e s m below meth c H ls X hin hR hS hl
  have hx := X.1.1
  have hb := X.1.2.1
  unfold sp_J11_floorMod at hf
  generalize ([] : List Loc) = locs at hS ⊢
  refine lv_iload_n hx hb dJ11_floorMod_0 rfl (lv_at hl 0 rfl) ?_
  refine lv_iload_n hx hb dJ11_floorMod_1 rfl (lv_at hl 1 rfl) ?_
  obtain ⟨k1, hf⟩ := gChk hf
  refine lv_irem hx hb dJ11_floorMod_2 k1 ?_
  refine lv_istore_n (lv' := [(2, .int (p0 - p0 / p1 * p1)), (0, .int p0), (1, .int p1)]) hx hb dJ11_floorMod_3 rfl hl (by decide) rfl (fun ls hl => ?_)
  refine lv_iload_n hx hb dJ11_floorMod_4 rfl (lv_at hl 1 rfl) ?_
  refine lv_iload_n hx hb dJ11_floorMod_5 rfl (lv_at hl 2 rfl) ?_
  refine lv_ixor hx hb dJ11_floorMod_6 ?_
  refine lv_if_ge (tgt := 18) hx hb dJ11_floorMod_7 (by decide) (fun c2 => ?_) (fun c2 => ?_)
  · replace hf := gIfp c2 hf
    refine lv_iload_n hx hb dJ11_floorMod_18 rfl (lv_at hl 0 rfl) ?_
    obtain rfl := gO1 hf
    exact g_iret X hR hS _ rfl ⟨Nat.le_of_ble_eq_true rfl, Nat.le_of_ble_eq_true rfl⟩ dJ11_floorMod_19
  · replace hf := gIfn c2 hf
    refine lv_iload_n hx hb dJ11_floorMod_10 rfl (lv_at hl 0 rfl) ?_
    refine lv_if_eq (tgt := 18) hx hb dJ11_floorMod_11 (by decide) (fun c3 => ?_) (fun c3 => ?_)
    · replace hf := gIfp c3 hf
      refine lv_iload_n hx hb dJ11_floorMod_18 rfl (lv_at hl 0 rfl) ?_
      obtain rfl := gO1 hf
      exact g_iret X hR hS _ rfl ⟨Nat.le_of_ble_eq_true rfl, Nat.le_of_ble_eq_true rfl⟩ dJ11_floorMod_19
    · replace hf := gIfn c3 hf
      refine lv_iload_n hx hb dJ11_floorMod_14 rfl (lv_at hl 0 rfl) ?_
      refine lv_iload_n hx hb dJ11_floorMod_15 rfl (lv_at hl 2 rfl) ?_
      refine lv_iadd hx hb dJ11_floorMod_16 ?_
      obtain rfl := gO1 hf
      exact g_iret X hR hS _ rfl ⟨Nat.le_of_ble_eq_true rfl, Nat.le_of_ble_eq_true rfl⟩ dJ11_floorMod_17

def sp_X6_isOpen (G : gG) (F : Nat) (h : gH) (a0 : Nat) (p1 : Int32) (p2 : Int32) : Option (Int32) :=
 (gGr 5 h a0 0).bind fun x1 =>
 (gAi 0 h x1 (0 : Int32)).bind fun x2 =>
 (sp_J11_floorMod G F h (p1 - x2) p2).bind fun u3 =>
 (gGr 5 h a0 0).bind fun x4 =>
 (gAi 0 h x4 (1 : Int32)).bind fun x5 =>
 if x5 ≤ u3 then
 some ((0 : Int32)) else
 some ((1 : Int32))
theorem yk_X6_isOpen : gVk yX6_isOpen cX6_isOpen 3 (some .boolean) 2 5 := ⟨q1485, q1486, q116, q1487, ⟨by decide +kernel, by decide +kernel, by decide +kernel⟩, rfl⟩
set_option maxHeartbeats 4000000 in
theorem m_X6_isOpen (l : Launch) (G : gG) (F : Nat) (h : gH) (n : Nat) (a0 : Nat) (p1 : Int32) (p2 : Int32) {r : Int32} (hf : sp_X6_isOpen G F h a0 p1 p2 = some r) : gMet l G yX6_isOpen cX6_isOpen 3 (some .boolean) 1 22 0 0 [.ref a0, .int p1, .int p2] h n (some (.int r)) h n := by
  refine gEnter (by decide) [(0, .ref a0), (1, .int p1), (2, .int p2)] rfl (Nat.le_of_ble_eq_true rfl) ?_
  intro p e s m below meth c H ls X hin hR hS hl
  have hx := X.1.1
  have hb := X.1.2.1
  unfold sp_X6_isOpen at hf
  generalize ([] : List Loc) = locs at hS ⊢
  refine lv_iload_n hx hb dX6_isOpen_0 rfl (lv_at hl 1 rfl) ?_
  refine lv_aload_n hx hb dX6_isOpen_1 rfl (lv_at hl 0 rfl) ?_
  obtain ⟨x1, ex1, hf⟩ := gBind hf
  refine g_getr X hR gk_X6 0 (by decide) q616 rfl ex1 dX6_isOpen_2 ?_
  refine lv_iconst (v := (0 : Int32)) hx hb dX6_isOpen_5 (by decide) ?_
  obtain ⟨x2, ex2, hf⟩ := gBind hf
  refine g_iald X hR ex2 dX6_isOpen_6 ?_
  refine lv_isub hx hb dX6_isOpen_7 ?_
  refine lv_iload_n hx hb dX6_isOpen_8 rfl (lv_at hl 2 rfl) ?_
  obtain ⟨u3, eu3, hf⟩ := gBind hf
  refine g_callSi X hR hS [.int (p1 - x2), .int p2] (m_J11_floorMod l G F h n (p1 - x2) p2 eu3) yk_J11_floorMod q1488 rfl hl.1 ⟨Nat.le_of_ble_eq_true rfl, Nat.le_of_ble_eq_true rfl⟩ ⟨Nat.le_of_ble_eq_true rfl, Nat.le_of_ble_eq_true rfl⟩ rfl (Nat.le_of_ble_eq_true rfl) dX6_isOpen_9 (fun H locs hR hS => ?_)
  refine lv_aload_n hx hb dX6_isOpen_12 rfl (lv_at hl 0 rfl) ?_
  obtain ⟨x4, ex4, hf⟩ := gBind hf
  refine g_getr X hR gk_X6 0 (by decide) q616 rfl ex4 dX6_isOpen_13 ?_
  refine lv_iconst (v := (1 : Int32)) hx hb dX6_isOpen_16 (by decide) ?_
  obtain ⟨x5, ex5, hf⟩ := gBind hf
  refine g_iald X hR ex5 dX6_isOpen_17 ?_
  refine lv_icmp_ge (tgt := 25) hx hb dX6_isOpen_18 (by decide) (fun c6 => ?_) (fun c6 => ?_)
  · replace hf := gIfp c6 hf
    refine lv_iconst (v := (0 : Int32)) hx hb dX6_isOpen_25 (by decide) ?_
    obtain rfl := gO1 hf
    exact g_zret X hR hS _ rfl rfl ⟨Nat.le_of_ble_eq_true rfl, Nat.le_of_ble_eq_true rfl⟩ dX6_isOpen_26
  · replace hf := gIfn c6 hf
    refine lv_iconst (v := (1 : Int32)) hx hb dX6_isOpen_21 (by decide) ?_
    refine lv_goto (tgt := 26) hx hb dX6_isOpen_22 (by decide) ?_
    obtain rfl := gO1 hf
    exact g_zret X hR hS _ rfl rfl ⟨Nat.le_of_ble_eq_true rfl, Nat.le_of_ble_eq_true rfl⟩ dX6_isOpen_26

def sp_J1_intersects_L14 (G : gG) (F : Nat) (h14L : gH) : Nat → Nat → Nat → Int32 → Option (Int32)
  | 0, _, _, _ => none
  | f + 1, v14_0, v14_1, v14_2 =>
    if v14_2 < 0 then
    some ((0 : Int32)) else
    (gGr 14 h14L v14_0 0).bind fun x1502 =>
    (gAl h14L x1502 v14_2).bind fun x1503 =>
    (gGr 14 h14L v14_1 0).bind fun x1504 =>
    (gAl h14L x1504 v14_2).bind fun x1505 =>
    if (lg_cmp (x1503 &&& x1505) (0 : Int64)) = 0 then
    sp_J1_intersects_L14 G F h14L f v14_0 v14_1 (v14_2 + (-1 : Int32)) else
    some ((1 : Int32))
def sp_J1_intersects (G : gG) (F : Nat) (h : gH) (a0 : Nat) (a1 : Nat) : Option (Int32) :=
 (gGi 14 h a0 1).bind fun x1 =>
 (gGi 14 h a1 1).bind fun x2 =>
 (sp_J11_min G F h x1 x2).bind fun u3 =>
 sp_J1_intersects_L14 G F h F a0 a1 (u3 - (1 : Int32))
theorem yk_J1_intersects : gVk yJ1_intersects cJ1_intersects 3 (some .boolean) 1 14 := ⟨q908, q909, q97, q910, ⟨by decide +kernel, by decide +kernel, by decide +kernel⟩, rfl⟩
set_option maxHeartbeats 4000000 in
theorem m_J1_intersects (l : Launch) (G : gG) (F : Nat) (h : gH) (n : Nat) (a0 : Nat) (a1 : Nat) {r : Int32} (hf : sp_J1_intersects G F h a0 a1 = some r) : gMet l G yJ1_intersects cJ1_intersects 3 (some .boolean) 1 21 0 0 [.ref a0, .ref a1] h n (some (.int r)) h n := by
  refine gEnter (by decide) [(0, .ref a0), (1, .ref a1)] rfl (Nat.le_of_ble_eq_true rfl) ?_
  intro p e s m below meth c H ls X hin hR hS hl
  have hx := X.1.1
  have hb := X.1.2.1
  unfold sp_J1_intersects at hf
  generalize ([] : List Loc) = locs at hS ⊢
  refine lv_aload_n hx hb dJ1_intersects_0 rfl (lv_at hl 0 rfl) ?_
  obtain ⟨x1, ex1, hf⟩ := gBind hf
  refine g_geti X hR gk_J1 1 (by decide) q497 rfl ex1 dJ1_intersects_1 ?_
  refine lv_aload_n hx hb dJ1_intersects_4 rfl (lv_at hl 1 rfl) ?_
  obtain ⟨x2, ex2, hf⟩ := gBind hf
  refine g_geti X hR gk_J1 1 (by decide) q497 rfl ex2 dJ1_intersects_5 ?_
  obtain ⟨u3, eu3, hf⟩ := gBind hf
  refine g_callSi X hR hS [.int x1, .int x2] (m_J11_min l G F h n x1 x2 eu3) yk_J11_min q911 rfl hl.1 ⟨Nat.le_of_ble_eq_true rfl, Nat.le_of_ble_eq_true rfl⟩ ⟨Nat.le_of_ble_eq_true rfl, Nat.le_of_ble_eq_true rfl⟩ rfl (Nat.le_of_ble_eq_true rfl) dJ1_intersects_8 (fun H locs hR hS => ?_)
  refine lv_iconst (v := (1 : Int32)) hx hb dJ1_intersects_11 (by decide) ?_
  refine lv_isub hx hb dJ1_intersects_12 ?_
  refine lv_istore_n (lv' := [(2, .int (u3 - (1 : Int32))), (0, .ref a0), (1, .ref a1)]) hx hb dJ1_intersects_13 rfl hl (by decide) rfl (fun ls hl => ?_)
  have L14_q4 : ∀ (f : Nat) (v14_0 : Nat) (v14_1 : Nat) (v14_2 : Int32) (H : Heap) (locs : List Loc) (ls : Array Slot), sp_J1_intersects_L14 G F h f v14_0 v14_1 v14_2 = some r → gRep G h n H → va_S (gFr G) s.heap H locs → lv_has ls 3 [(0, .ref v14_0), (1, .ref v14_1), (2, .int v14_2)] → W p l e ({ frames := 1, cells := 0, slots := 0, locals := 21 } : Room) s m ([.ref a0, .ref a1] : List Value).toArray below meth c H locs 0 0 (MQ below (gQ G (some (.int r)) h n) ([.ref a0, .ref a1] : List Value).toArray s 0 0 (gFr G)) (F0 m 14 ls []) := by
    clear hf
    intro f
    induction f with
    | zero =>
      intro v14_0 v14_1 v14_2 H locs ls hf
      cases hf
    | succ f ih =>
      intro v14_0 v14_1 v14_2 H locs ls hf hR hS hl
      rw [sp_J1_intersects_L14] at hf
      refine lv_iload_n hx hb dJ1_intersects_14 rfl (lv_at hl 2 rfl) ?_
      refine lv_if_lt (tgt := 44) hx hb dJ1_intersects_15 (by decide) (fun c1501 => ?_) (fun c1501 => ?_)
      · replace hf := gIfp c1501 hf
        refine lv_iconst (v := (0 : Int32)) hx hb dJ1_intersects_44 (by decide) ?_
        obtain rfl := gO1 hf
        exact g_zret X hR hS _ rfl rfl ⟨Nat.le_of_ble_eq_true rfl, Nat.le_of_ble_eq_true rfl⟩ dJ1_intersects_45
      · replace hf := gIfn c1501 hf
        refine lv_aload_n hx hb dJ1_intersects_18 rfl (lv_at hl 0 rfl) ?_
        obtain ⟨x1502, ex1502, hf⟩ := gBind hf
        refine g_getr X hR gk_J1 0 (by decide) q496 rfl ex1502 dJ1_intersects_19 ?_
        refine lv_iload_n hx hb dJ1_intersects_22 rfl (lv_at hl 2 rfl) ?_
        obtain ⟨x1503, ex1503, hf⟩ := gBind hf
        refine g_lald X hR ex1503 dJ1_intersects_23 ?_
        refine lv_aload_n hx hb dJ1_intersects_24 rfl (lv_at hl 1 rfl) ?_
        obtain ⟨x1504, ex1504, hf⟩ := gBind hf
        refine g_getr X hR gk_J1 0 (by decide) q496 rfl ex1504 dJ1_intersects_25 ?_
        refine lv_iload_n hx hb dJ1_intersects_28 rfl (lv_at hl 2 rfl) ?_
        obtain ⟨x1505, ex1505, hf⟩ := gBind hf
        refine g_lald X hR ex1505 dJ1_intersects_29 ?_
        refine lv_land hx hb dJ1_intersects_30 ?_
        refine lv_lconst (v := (0 : Int64)) hx hb dJ1_intersects_31 (by decide) ?_
        refine W.lcmp hx hb dJ1_intersects_32 ?_
        refine lv_if_eq (tgt := 38) hx hb dJ1_intersects_33 (by decide) (fun c1506 => ?_) (fun c1506 => ?_)
        · replace hf := gIfp c1506 hf
          refine lv_iinc (v := v14_2 + (-1 : Int32)) (lv' := [(2, .int (v14_2 + (-1 : Int32))), (0, .ref v14_0), (1, .ref v14_1)]) hx hb dJ1_intersects_38 hl (k := 2) rfl rfl (by decide) rfl (fun ls hl => ?_)
          refine lv_goto (tgt := 14) hx hb dJ1_intersects_41 (by decide) ?_
          exact ih v14_0 v14_1 (v14_2 + (-1 : Int32)) _ _ _ hf hR hS (lv_sub hl [1, 2, 0] rfl)
        · replace hf := gIfn c1506 hf
          refine lv_iconst (v := (1 : Int32)) hx hb dJ1_intersects_36 (by decide) ?_
          obtain rfl := gO1 hf
          exact g_zret X hR hS _ rfl rfl ⟨Nat.le_of_ble_eq_true rfl, Nat.le_of_ble_eq_true rfl⟩ dJ1_intersects_37
  exact L14_q4 F a0 a1 (u3 - (1 : Int32)) _ _ _ hf hR hS (lv_sub hl [1, 2, 0] rfl)

def sp_J1_get (G : gG) (F : Nat) (h : gH) (a0 : Nat) (p1 : Int32) : Option (Int32) :=
 if 0 ≤ p1 then
 if gIs 14 h a0 = true then
 (sp_J1_checkInvariants G F h a0).bind fun u3 =>
 (sp_J1_wordIndex G F h p1).bind fun u4 =>
 (gGi 14 h a0 1).bind fun x5 =>
 if x5 ≤ u4 then
 some ((0 : Int32)) else
 (gGr 14 h a0 0).bind fun x7 =>
 (gAl h x7 u4).bind fun x8 =>
 if (lg_cmp (x8 &&& ((1 : Int64) <<< (p1.toInt64 &&& 63))) (0 : Int64)) = 0 then
 some ((0 : Int32)) else
 some ((1 : Int32)) else none else
 none
theorem yk_J1_get : gVk yJ1_get cJ1_get 3 (some .boolean) 1 14 := ⟨q916, q917, q97, q918, ⟨by decide +kernel, by decide +kernel, by decide +kernel⟩, rfl⟩
set_option maxHeartbeats 4000000 in
theorem m_J1_get (l : Launch) (G : gG) (F : Nat) (h : gH) (n : Nat) (a0 : Nat) (p1 : Int32) {r : Int32} (hf : sp_J1_get G F h a0 p1 = some r) : gMet l G yJ1_get cJ1_get 3 (some .boolean) 1 20 0 0 [.ref a0, .int p1] h n (some (.int r)) h n := by
  refine gEnter (by decide) [(0, .ref a0), (1, .int p1)] rfl (Nat.le_of_ble_eq_true rfl) ?_
  intro p e s m below meth c H ls X hin hR hS hl
  have hx := X.1.1
  have hb := X.1.2.1
  unfold sp_J1_get at hf
  generalize ([] : List Loc) = locs at hS ⊢
  refine lv_iload_n hx hb dJ1_get_0 rfl (lv_at hl 1 rfl) ?_
  refine lv_if_ge (tgt := 31) hx hb dJ1_get_1 (by decide) (fun c1 => ?_) (fun c1 => ?_)
  · replace hf := gIfp c1 hf
    refine lv_aload_n hx hb dJ1_get_31 rfl (lv_at hl 0 rfl) ?_
    obtain ⟨k2, hf⟩ := gChk hf
    obtain ⟨u3, eu3, hf⟩ := gBind hf
    refine g_callVv X hR hS [] (m_J1_checkInvariants l G F h n a0 eu3) yk_J1_checkInvariants q897 k2 rfl hl.1 ⟨Nat.le_of_ble_eq_true rfl, Nat.le_of_ble_eq_true rfl⟩ ⟨Nat.le_of_ble_eq_true rfl, Nat.le_of_ble_eq_true rfl⟩ rfl (Nat.le_of_ble_eq_true rfl) dJ1_get_32 (fun H locs hR hS => ?_)
    refine lv_iload_n hx hb dJ1_get_35 rfl (lv_at hl 1 rfl) ?_
    obtain ⟨u4, eu4, hf⟩ := gBind hf
    refine g_callSi X hR hS [.int p1] (m_J1_wordIndex l G F h n p1 eu4) yk_J1_wordIndex q493 rfl hl.1 ⟨Nat.le_of_ble_eq_true rfl, Nat.le_of_ble_eq_true rfl⟩ ⟨Nat.le_of_ble_eq_true rfl, Nat.le_of_ble_eq_true rfl⟩ rfl (Nat.le_of_ble_eq_true rfl) dJ1_get_36 (fun H locs hR hS => ?_)
    refine lv_istore_n (lv' := [(2, .int u4), (0, .ref a0), (1, .int p1)]) hx hb dJ1_get_39 rfl hl (by decide) rfl (fun ls hl => ?_)
    refine lv_iload_n hx hb dJ1_get_40 rfl (lv_at hl 0 rfl) ?_
    refine lv_aload_n hx hb dJ1_get_41 rfl (lv_at hl 1 rfl) ?_
    obtain ⟨x5, ex5, hf⟩ := gBind hf
    refine g_geti X hR gk_J1 1 (by decide) q497 rfl ex5 dJ1_get_42 ?_
    refine lv_icmp_ge (tgt := 67) hx hb dJ1_get_45 (by decide) (fun c6 => ?_) (fun c6 => ?_)
    · replace hf := gIfp c6 hf
      refine lv_iconst (v := (0 : Int32)) hx hb dJ1_get_67 (by decide) ?_
      obtain rfl := gO1 hf
      exact g_zret X hR hS _ rfl rfl ⟨Nat.le_of_ble_eq_true rfl, Nat.le_of_ble_eq_true rfl⟩ dJ1_get_68
    · replace hf := gIfn c6 hf
      refine lv_aload_n hx hb dJ1_get_48 rfl (lv_at hl 1 rfl) ?_
      obtain ⟨x7, ex7, hf⟩ := gBind hf
      refine g_getr X hR gk_J1 0 (by decide) q496 rfl ex7 dJ1_get_49 ?_
      refine lv_iload_n hx hb dJ1_get_52 rfl (lv_at hl 0 rfl) ?_
      obtain ⟨x8, ex8, hf⟩ := gBind hf
      refine g_lald X hR ex8 dJ1_get_53 ?_
      refine lv_lconst (v := (1 : Int64)) hx hb dJ1_get_54 (by decide) ?_
      refine lv_iload_n hx hb dJ1_get_55 rfl (lv_at hl 2 rfl) ?_
      refine lv_lshl (v := (1 : Int64) <<< (p1.toInt64 &&& 63)) hx hb dJ1_get_56 rfl ?_
      refine lv_land hx hb dJ1_get_57 ?_
      refine lv_lconst (v := (0 : Int64)) hx hb dJ1_get_58 (by decide) ?_
      refine W.lcmp hx hb dJ1_get_59 ?_
      refine lv_if_eq (tgt := 67) hx hb dJ1_get_60 (by decide) (fun c9 => ?_) (fun c9 => ?_)
      · replace hf := gIfp c9 hf
        refine lv_iconst (v := (0 : Int32)) hx hb dJ1_get_67 (by decide) ?_
        obtain rfl := gO1 hf
        exact g_zret X hR hS _ rfl rfl ⟨Nat.le_of_ble_eq_true rfl, Nat.le_of_ble_eq_true rfl⟩ dJ1_get_68
      · replace hf := gIfn c9 hf
        refine lv_iconst (v := (1 : Int32)) hx hb dJ1_get_63 (by decide) ?_
        refine lv_goto (tgt := 68) hx hb dJ1_get_64 (by decide) ?_
        obtain rfl := gO1 hf
        exact g_zret X hR hS _ rfl rfl ⟨Nat.le_of_ble_eq_true rfl, Nat.le_of_ble_eq_true rfl⟩ dJ1_get_68
  · replace hf := gIfn c1 hf
    cases hf

def sp_J17_bitCount (G : gG) (F : Nat) (h : gH) (p0 : Int64) : Option (Int32) :=
 some ((((((((((p0 - (((p0.toUInt64 >>> ((1 : Int32).toInt64.toUInt64 &&& Int64.toUInt64 63)).toInt64) &&& (6148914691236517205 : Int64))) &&& (3689348814741910323 : Int64)) + ((((p0 - (((p0.toUInt64 >>> ((1 : Int32).toInt64.toUInt64 &&& Int64.toUInt64 63)).toInt64) &&& (6148914691236517205 : Int64))).toUInt64 >>> ((2 : Int32).toInt64.toUInt64 &&& Int64.toUInt64 63)).toInt64) &&& (3689348814741910323 : Int64))) + (((((p0 - (((p0.toUInt64 >>> ((1 : Int32).toInt64.toUInt64 &&& Int64.toUInt64 63)).toInt64) &&& (6148914691236517205 : Int64))) &&& (3689348814741910323 : Int64)) + ((((p0 - (((p0.toUInt64 >>> ((1 : Int32).toInt64.toUInt64 &&& Int64.toUInt64 63)).toInt64) &&& (6148914691236517205 : Int64))).toUInt64 >>> ((2 : Int32).toInt64.toUInt64 &&& Int64.toUInt64 63)).toInt64) &&& (3689348814741910323 : Int64))).toUInt64 >>> ((4 : Int32).toInt64.toUInt64 &&& Int64.toUInt64 63)).toInt64)) &&& (1085102592571150095 : Int64)) + (((((((p0 - (((p0.toUInt64 >>> ((1 : Int32).toInt64.toUInt64 &&& Int64.toUInt64 63)).toInt64) &&& (6148914691236517205 : Int64))) &&& (3689348814741910323 : Int64)) + ((((p0 - (((p0.toUInt64 >>> ((1 : Int32).toInt64.toUInt64 &&& Int64.toUInt64 63)).toInt64) &&& (6148914691236517205 : Int64))).toUInt64 >>> ((2 : Int32).toInt64.toUInt64 &&& Int64.toUInt64 63)).toInt64) &&& (3689348814741910323 : Int64))) + (((((p0 - (((p0.toUInt64 >>> ((1 : Int32).toInt64.toUInt64 &&& Int64.toUInt64 63)).toInt64) &&& (6148914691236517205 : Int64))) &&& (3689348814741910323 : Int64)) + ((((p0 - (((p0.toUInt64 >>> ((1 : Int32).toInt64.toUInt64 &&& Int64.toUInt64 63)).toInt64) &&& (6148914691236517205 : Int64))).toUInt64 >>> ((2 : Int32).toInt64.toUInt64 &&& Int64.toUInt64 63)).toInt64) &&& (3689348814741910323 : Int64))).toUInt64 >>> ((4 : Int32).toInt64.toUInt64 &&& Int64.toUInt64 63)).toInt64)) &&& (1085102592571150095 : Int64)).toUInt64 >>> ((8 : Int32).toInt64.toUInt64 &&& Int64.toUInt64 63)).toInt64)) + ((((((((p0 - (((p0.toUInt64 >>> ((1 : Int32).toInt64.toUInt64 &&& Int64.toUInt64 63)).toInt64) &&& (6148914691236517205 : Int64))) &&& (3689348814741910323 : Int64)) + ((((p0 - (((p0.toUInt64 >>> ((1 : Int32).toInt64.toUInt64 &&& Int64.toUInt64 63)).toInt64) &&& (6148914691236517205 : Int64))).toUInt64 >>> ((2 : Int32).toInt64.toUInt64 &&& Int64.toUInt64 63)).toInt64) &&& (3689348814741910323 : Int64))) + (((((p0 - (((p0.toUInt64 >>> ((1 : Int32).toInt64.toUInt64 &&& Int64.toUInt64 63)).toInt64) &&& (6148914691236517205 : Int64))) &&& (3689348814741910323 : Int64)) + ((((p0 - (((p0.toUInt64 >>> ((1 : Int32).toInt64.toUInt64 &&& Int64.toUInt64 63)).toInt64) &&& (6148914691236517205 : Int64))).toUInt64 >>> ((2 : Int32).toInt64.toUInt64 &&& Int64.toUInt64 63)).toInt64) &&& (3689348814741910323 : Int64))).toUInt64 >>> ((4 : Int32).toInt64.toUInt64 &&& Int64.toUInt64 63)).toInt64)) &&& (1085102592571150095 : Int64)) + (((((((p0 - (((p0.toUInt64 >>> ((1 : Int32).toInt64.toUInt64 &&& Int64.toUInt64 63)).toInt64) &&& (6148914691236517205 : Int64))) &&& (3689348814741910323 : Int64)) + ((((p0 - (((p0.toUInt64 >>> ((1 : Int32).toInt64.toUInt64 &&& Int64.toUInt64 63)).toInt64) &&& (6148914691236517205 : Int64))).toUInt64 >>> ((2 : Int32).toInt64.toUInt64 &&& Int64.toUInt64 63)).toInt64) &&& (3689348814741910323 : Int64))) + (((((p0 - (((p0.toUInt64 >>> ((1 : Int32).toInt64.toUInt64 &&& Int64.toUInt64 63)).toInt64) &&& (6148914691236517205 : Int64))) &&& (3689348814741910323 : Int64)) + ((((p0 - (((p0.toUInt64 >>> ((1 : Int32).toInt64.toUInt64 &&& Int64.toUInt64 63)).toInt64) &&& (6148914691236517205 : Int64))).toUInt64 >>> ((2 : Int32).toInt64.toUInt64 &&& Int64.toUInt64 63)).toInt64) &&& (3689348814741910323 : Int64))).toUInt64 >>> ((4 : Int32).toInt64.toUInt64 &&& Int64.toUInt64 63)).toInt64)) &&& (1085102592571150095 : Int64)).toUInt64 >>> ((8 : Int32).toInt64.toUInt64 &&& Int64.toUInt64 63)).toInt64)).toUInt64 >>> ((16 : Int32).toInt64.toUInt64 &&& Int64.toUInt64 63)).toInt64)) + (((((((((p0 - (((p0.toUInt64 >>> ((1 : Int32).toInt64.toUInt64 &&& Int64.toUInt64 63)).toInt64) &&& (6148914691236517205 : Int64))) &&& (3689348814741910323 : Int64)) + ((((p0 - (((p0.toUInt64 >>> ((1 : Int32).toInt64.toUInt64 &&& Int64.toUInt64 63)).toInt64) &&& (6148914691236517205 : Int64))).toUInt64 >>> ((2 : Int32).toInt64.toUInt64 &&& Int64.toUInt64 63)).toInt64) &&& (3689348814741910323 : Int64))) + (((((p0 - (((p0.toUInt64 >>> ((1 : Int32).toInt64.toUInt64 &&& Int64.toUInt64 63)).toInt64) &&& (6148914691236517205 : Int64))) &&& (3689348814741910323 : Int64)) + ((((p0 - (((p0.toUInt64 >>> ((1 : Int32).toInt64.toUInt64 &&& Int64.toUInt64 63)).toInt64) &&& (6148914691236517205 : Int64))).toUInt64 >>> ((2 : Int32).toInt64.toUInt64 &&& Int64.toUInt64 63)).toInt64) &&& (3689348814741910323 : Int64))).toUInt64 >>> ((4 : Int32).toInt64.toUInt64 &&& Int64.toUInt64 63)).toInt64)) &&& (1085102592571150095 : Int64)) + (((((((p0 - (((p0.toUInt64 >>> ((1 : Int32).toInt64.toUInt64 &&& Int64.toUInt64 63)).toInt64) &&& (6148914691236517205 : Int64))) &&& (3689348814741910323 : Int64)) + ((((p0 - (((p0.toUInt64 >>> ((1 : Int32).toInt64.toUInt64 &&& Int64.toUInt64 63)).toInt64) &&& (6148914691236517205 : Int64))).toUInt64 >>> ((2 : Int32).toInt64.toUInt64 &&& Int64.toUInt64 63)).toInt64) &&& (3689348814741910323 : Int64))) + (((((p0 - (((p0.toUInt64 >>> ((1 : Int32).toInt64.toUInt64 &&& Int64.toUInt64 63)).toInt64) &&& (6148914691236517205 : Int64))) &&& (3689348814741910323 : Int64)) + ((((p0 - (((p0.toUInt64 >>> ((1 : Int32).toInt64.toUInt64 &&& Int64.toUInt64 63)).toInt64) &&& (6148914691236517205 : Int64))).toUInt64 >>> ((2 : Int32).toInt64.toUInt64 &&& Int64.toUInt64 63)).toInt64) &&& (3689348814741910323 : Int64))).toUInt64 >>> ((4 : Int32).toInt64.toUInt64 &&& Int64.toUInt64 63)).toInt64)) &&& (1085102592571150095 : Int64)).toUInt64 >>> ((8 : Int32).toInt64.toUInt64 &&& Int64.toUInt64 63)).toInt64)) + ((((((((p0 - (((p0.toUInt64 >>> ((1 : Int32).toInt64.toUInt64 &&& Int64.toUInt64 63)).toInt64) &&& (6148914691236517205 : Int64))) &&& (3689348814741910323 : Int64)) + ((((p0 - (((p0.toUInt64 >>> ((1 : Int32).toInt64.toUInt64 &&& Int64.toUInt64 63)).toInt64) &&& (6148914691236517205 : Int64))).toUInt64 >>> ((2 : Int32).toInt64.toUInt64 &&& Int64.toUInt64 63)).toInt64) &&& (3689348814741910323 : Int64))) + (((((p0 - (((p0.toUInt64 >>> ((1 : Int32).toInt64.toUInt64 &&& Int64.toUInt64 63)).toInt64) &&& (6148914691236517205 : Int64))) &&& (3689348814741910323 : Int64)) + ((((p0 - (((p0.toUInt64 >>> ((1 : Int32).toInt64.toUInt64 &&& Int64.toUInt64 63)).toInt64) &&& (6148914691236517205 : Int64))).toUInt64 >>> ((2 : Int32).toInt64.toUInt64 &&& Int64.toUInt64 63)).toInt64) &&& (3689348814741910323 : Int64))).toUInt64 >>> ((4 : Int32).toInt64.toUInt64 &&& Int64.toUInt64 63)).toInt64)) &&& (1085102592571150095 : Int64)) + (((((((p0 - (((p0.toUInt64 >>> ((1 : Int32).toInt64.toUInt64 &&& Int64.toUInt64 63)).toInt64) &&& (6148914691236517205 : Int64))) &&& (3689348814741910323 : Int64)) + ((((p0 - (((p0.toUInt64 >>> ((1 : Int32).toInt64.toUInt64 &&& Int64.toUInt64 63)).toInt64) &&& (6148914691236517205 : Int64))).toUInt64 >>> ((2 : Int32).toInt64.toUInt64 &&& Int64.toUInt64 63)).toInt64) &&& (3689348814741910323 : Int64))) + (((((p0 - (((p0.toUInt64 >>> ((1 : Int32).toInt64.toUInt64 &&& Int64.toUInt64 63)).toInt64) &&& (6148914691236517205 : Int64))) &&& (3689348814741910323 : Int64)) + ((((p0 - (((p0.toUInt64 >>> ((1 : Int32).toInt64.toUInt64 &&& Int64.toUInt64 63)).toInt64) &&& (6148914691236517205 : Int64))).toUInt64 >>> ((2 : Int32).toInt64.toUInt64 &&& Int64.toUInt64 63)).toInt64) &&& (3689348814741910323 : Int64))).toUInt64 >>> ((4 : Int32).toInt64.toUInt64 &&& Int64.toUInt64 63)).toInt64)) &&& (1085102592571150095 : Int64)).toUInt64 >>> ((8 : Int32).toInt64.toUInt64 &&& Int64.toUInt64 63)).toInt64)).toUInt64 >>> ((16 : Int32).toInt64.toUInt64 &&& Int64.toUInt64 63)).toInt64)).toUInt64 >>> ((32 : Int32).toInt64.toUInt64 &&& Int64.toUInt64 63)).toInt64)).toInt32) &&& (127 : Int32))
theorem yk_J17_bitCount : gSk yJ17_bitCount cJ17_bitCount 2 (some .int) 1 := ⟨q1292, q127, q1293, ⟨by decide +kernel, by decide +kernel, by decide +kernel⟩⟩
set_option maxHeartbeats 4000000 in
theorem m_J17_bitCount (l : Launch) (G : gG) (F : Nat) (h : gH) (n : Nat) (p0 : Int64) {r : Int32} (hf : sp_J17_bitCount G F h p0 = some r) : gMet l G yJ17_bitCount cJ17_bitCount 2 (some .int) 0 0 0 0 [.long p0] h n (some (.int r)) h n := by
  refine gEnter (by decide) [(0, .long p0)] rfl (Nat.le_of_ble_eq_true rfl) ?_
  intro p e s m below meth c H ls X hin hR hS hl
  have hx := X.1.1
  have hb := X.1.2.1
  unfold sp_J17_bitCount at hf
  generalize ([] : List Loc) = locs at hS ⊢
  refine lv_lload_n hx hb dJ17_bitCount_0 rfl (lv_at hl 0 rfl) ?_
  refine lv_lload_n hx hb dJ17_bitCount_1 rfl (lv_at hl 0 rfl) ?_
  refine lv_iconst (v := (1 : Int32)) hx hb dJ17_bitCount_2 (by decide) ?_
  refine lv_lushr (v := (p0.toUInt64 >>> ((1 : Int32).toInt64.toUInt64 &&& Int64.toUInt64 63)).toInt64) hx hb dJ17_bitCount_3 rfl ?_
  refine lv_ldc2 (v := (6148914691236517205 : Int64)) hx hb X.1.2.2.2.1 (X.1.2.2.2.2 _ q1294) dJ17_bitCount_4 ?_
  refine lv_land hx hb dJ17_bitCount_7 ?_
  refine lv_lsub hx hb dJ17_bitCount_8 ?_
  refine lv_lstore_n (lv' := [(0, .long (p0 - (((p0.toUInt64 >>> ((1 : Int32).toInt64.toUInt64 &&& Int64.toUInt64 63)).toInt64) &&& (6148914691236517205 : Int64))))]) hx hb dJ17_bitCount_9 rfl hl (by decide) rfl (fun ls hl => ?_)
  refine lv_lload_n hx hb dJ17_bitCount_10 rfl (lv_at hl 0 rfl) ?_
  refine lv_ldc2 (v := (3689348814741910323 : Int64)) hx hb X.1.2.2.2.1 (X.1.2.2.2.2 _ q1295) dJ17_bitCount_11 ?_
  refine lv_land hx hb dJ17_bitCount_14 ?_
  refine lv_lload_n hx hb dJ17_bitCount_15 rfl (lv_at hl 0 rfl) ?_
  refine lv_iconst (v := (2 : Int32)) hx hb dJ17_bitCount_16 (by decide) ?_
  refine lv_lushr (v := ((p0 - (((p0.toUInt64 >>> ((1 : Int32).toInt64.toUInt64 &&& Int64.toUInt64 63)).toInt64) &&& (6148914691236517205 : Int64))).toUInt64 >>> ((2 : Int32).toInt64.toUInt64 &&& Int64.toUInt64 63)).toInt64) hx hb dJ17_bitCount_17 rfl ?_
  refine lv_ldc2 (v := (3689348814741910323 : Int64)) hx hb X.1.2.2.2.1 (X.1.2.2.2.2 _ q1295) dJ17_bitCount_18 ?_
  refine lv_land hx hb dJ17_bitCount_21 ?_
  refine lv_ladd hx hb dJ17_bitCount_22 ?_
  refine lv_lstore_n (lv' := [(0, .long (((p0 - (((p0.toUInt64 >>> ((1 : Int32).toInt64.toUInt64 &&& Int64.toUInt64 63)).toInt64) &&& (6148914691236517205 : Int64))) &&& (3689348814741910323 : Int64)) + ((((p0 - (((p0.toUInt64 >>> ((1 : Int32).toInt64.toUInt64 &&& Int64.toUInt64 63)).toInt64) &&& (6148914691236517205 : Int64))).toUInt64 >>> ((2 : Int32).toInt64.toUInt64 &&& Int64.toUInt64 63)).toInt64) &&& (3689348814741910323 : Int64))))]) hx hb dJ17_bitCount_23 rfl hl (by decide) rfl (fun ls hl => ?_)
  refine lv_lload_n hx hb dJ17_bitCount_24 rfl (lv_at hl 0 rfl) ?_
  refine lv_lload_n hx hb dJ17_bitCount_25 rfl (lv_at hl 0 rfl) ?_
  refine lv_iconst (v := (4 : Int32)) hx hb dJ17_bitCount_26 (by decide) ?_
  refine lv_lushr (v := ((((p0 - (((p0.toUInt64 >>> ((1 : Int32).toInt64.toUInt64 &&& Int64.toUInt64 63)).toInt64) &&& (6148914691236517205 : Int64))) &&& (3689348814741910323 : Int64)) + ((((p0 - (((p0.toUInt64 >>> ((1 : Int32).toInt64.toUInt64 &&& Int64.toUInt64 63)).toInt64) &&& (6148914691236517205 : Int64))).toUInt64 >>> ((2 : Int32).toInt64.toUInt64 &&& Int64.toUInt64 63)).toInt64) &&& (3689348814741910323 : Int64))).toUInt64 >>> ((4 : Int32).toInt64.toUInt64 &&& Int64.toUInt64 63)).toInt64) hx hb dJ17_bitCount_27 rfl ?_
  refine lv_ladd hx hb dJ17_bitCount_28 ?_
  refine lv_ldc2 (v := (1085102592571150095 : Int64)) hx hb X.1.2.2.2.1 (X.1.2.2.2.2 _ q1296) dJ17_bitCount_29 ?_
  refine lv_land hx hb dJ17_bitCount_32 ?_
  refine lv_lstore_n (lv' := [(0, .long (((((p0 - (((p0.toUInt64 >>> ((1 : Int32).toInt64.toUInt64 &&& Int64.toUInt64 63)).toInt64) &&& (6148914691236517205 : Int64))) &&& (3689348814741910323 : Int64)) + ((((p0 - (((p0.toUInt64 >>> ((1 : Int32).toInt64.toUInt64 &&& Int64.toUInt64 63)).toInt64) &&& (6148914691236517205 : Int64))).toUInt64 >>> ((2 : Int32).toInt64.toUInt64 &&& Int64.toUInt64 63)).toInt64) &&& (3689348814741910323 : Int64))) + (((((p0 - (((p0.toUInt64 >>> ((1 : Int32).toInt64.toUInt64 &&& Int64.toUInt64 63)).toInt64) &&& (6148914691236517205 : Int64))) &&& (3689348814741910323 : Int64)) + ((((p0 - (((p0.toUInt64 >>> ((1 : Int32).toInt64.toUInt64 &&& Int64.toUInt64 63)).toInt64) &&& (6148914691236517205 : Int64))).toUInt64 >>> ((2 : Int32).toInt64.toUInt64 &&& Int64.toUInt64 63)).toInt64) &&& (3689348814741910323 : Int64))).toUInt64 >>> ((4 : Int32).toInt64.toUInt64 &&& Int64.toUInt64 63)).toInt64)) &&& (1085102592571150095 : Int64)))]) hx hb dJ17_bitCount_33 rfl hl (by decide) rfl (fun ls hl => ?_)
  refine lv_lload_n hx hb dJ17_bitCount_34 rfl (lv_at hl 0 rfl) ?_
  refine lv_lload_n hx hb dJ17_bitCount_35 rfl (lv_at hl 0 rfl) ?_
  refine lv_bipush (v := (8 : Int32)) hx hb dJ17_bitCount_36 (by decide) ?_
  refine lv_lushr (v := ((((((p0 - (((p0.toUInt64 >>> ((1 : Int32).toInt64.toUInt64 &&& Int64.toUInt64 63)).toInt64) &&& (6148914691236517205 : Int64))) &&& (3689348814741910323 : Int64)) + ((((p0 - (((p0.toUInt64 >>> ((1 : Int32).toInt64.toUInt64 &&& Int64.toUInt64 63)).toInt64) &&& (6148914691236517205 : Int64))).toUInt64 >>> ((2 : Int32).toInt64.toUInt64 &&& Int64.toUInt64 63)).toInt64) &&& (3689348814741910323 : Int64))) + (((((p0 - (((p0.toUInt64 >>> ((1 : Int32).toInt64.toUInt64 &&& Int64.toUInt64 63)).toInt64) &&& (6148914691236517205 : Int64))) &&& (3689348814741910323 : Int64)) + ((((p0 - (((p0.toUInt64 >>> ((1 : Int32).toInt64.toUInt64 &&& Int64.toUInt64 63)).toInt64) &&& (6148914691236517205 : Int64))).toUInt64 >>> ((2 : Int32).toInt64.toUInt64 &&& Int64.toUInt64 63)).toInt64) &&& (3689348814741910323 : Int64))).toUInt64 >>> ((4 : Int32).toInt64.toUInt64 &&& Int64.toUInt64 63)).toInt64)) &&& (1085102592571150095 : Int64)).toUInt64 >>> ((8 : Int32).toInt64.toUInt64 &&& Int64.toUInt64 63)).toInt64) hx hb dJ17_bitCount_38 rfl ?_
  refine lv_ladd hx hb dJ17_bitCount_39 ?_
  refine lv_lstore_n (lv' := [(0, .long ((((((p0 - (((p0.toUInt64 >>> ((1 : Int32).toInt64.toUInt64 &&& Int64.toUInt64 63)).toInt64) &&& (6148914691236517205 : Int64))) &&& (3689348814741910323 : Int64)) + ((((p0 - (((p0.toUInt64 >>> ((1 : Int32).toInt64.toUInt64 &&& Int64.toUInt64 63)).toInt64) &&& (6148914691236517205 : Int64))).toUInt64 >>> ((2 : Int32).toInt64.toUInt64 &&& Int64.toUInt64 63)).toInt64) &&& (3689348814741910323 : Int64))) + (((((p0 - (((p0.toUInt64 >>> ((1 : Int32).toInt64.toUInt64 &&& Int64.toUInt64 63)).toInt64) &&& (6148914691236517205 : Int64))) &&& (3689348814741910323 : Int64)) + ((((p0 - (((p0.toUInt64 >>> ((1 : Int32).toInt64.toUInt64 &&& Int64.toUInt64 63)).toInt64) &&& (6148914691236517205 : Int64))).toUInt64 >>> ((2 : Int32).toInt64.toUInt64 &&& Int64.toUInt64 63)).toInt64) &&& (3689348814741910323 : Int64))).toUInt64 >>> ((4 : Int32).toInt64.toUInt64 &&& Int64.toUInt64 63)).toInt64)) &&& (1085102592571150095 : Int64)) + (((((((p0 - (((p0.toUInt64 >>> ((1 : Int32).toInt64.toUInt64 &&& Int64.toUInt64 63)).toInt64) &&& (6148914691236517205 : Int64))) &&& (3689348814741910323 : Int64)) + ((((p0 - (((p0.toUInt64 >>> ((1 : Int32).toInt64.toUInt64 &&& Int64.toUInt64 63)).toInt64) &&& (6148914691236517205 : Int64))).toUInt64 >>> ((2 : Int32).toInt64.toUInt64 &&& Int64.toUInt64 63)).toInt64) &&& (3689348814741910323 : Int64))) + (((((p0 - (((p0.toUInt64 >>> ((1 : Int32).toInt64.toUInt64 &&& Int64.toUInt64 63)).toInt64) &&& (6148914691236517205 : Int64))) &&& (3689348814741910323 : Int64)) + ((((p0 - (((p0.toUInt64 >>> ((1 : Int32).toInt64.toUInt64 &&& Int64.toUInt64 63)).toInt64) &&& (6148914691236517205 : Int64))).toUInt64 >>> ((2 : Int32).toInt64.toUInt64 &&& Int64.toUInt64 63)).toInt64) &&& (3689348814741910323 : Int64))).toUInt64 >>> ((4 : Int32).toInt64.toUInt64 &&& Int64.toUInt64 63)).toInt64)) &&& (1085102592571150095 : Int64)).toUInt64 >>> ((8 : Int32).toInt64.toUInt64 &&& Int64.toUInt64 63)).toInt64)))]) hx hb dJ17_bitCount_40 rfl hl (by decide) rfl (fun ls hl => ?_)
  refine lv_lload_n hx hb dJ17_bitCount_41 rfl (lv_at hl 0 rfl) ?_
  refine lv_lload_n hx hb dJ17_bitCount_42 rfl (lv_at hl 0 rfl) ?_
  refine lv_bipush (v := (16 : Int32)) hx hb dJ17_bitCount_43 (by decide) ?_
  refine lv_lushr (v := (((((((p0 - (((p0.toUInt64 >>> ((1 : Int32).toInt64.toUInt64 &&& Int64.toUInt64 63)).toInt64) &&& (6148914691236517205 : Int64))) &&& (3689348814741910323 : Int64)) + ((((p0 - (((p0.toUInt64 >>> ((1 : Int32).toInt64.toUInt64 &&& Int64.toUInt64 63)).toInt64) &&& (6148914691236517205 : Int64))).toUInt64 >>> ((2 : Int32).toInt64.toUInt64 &&& Int64.toUInt64 63)).toInt64) &&& (3689348814741910323 : Int64))) + (((((p0 - (((p0.toUInt64 >>> ((1 : Int32).toInt64.toUInt64 &&& Int64.toUInt64 63)).toInt64) &&& (6148914691236517205 : Int64))) &&& (3689348814741910323 : Int64)) + ((((p0 - (((p0.toUInt64 >>> ((1 : Int32).toInt64.toUInt64 &&& Int64.toUInt64 63)).toInt64) &&& (6148914691236517205 : Int64))).toUInt64 >>> ((2 : Int32).toInt64.toUInt64 &&& Int64.toUInt64 63)).toInt64) &&& (3689348814741910323 : Int64))).toUInt64 >>> ((4 : Int32).toInt64.toUInt64 &&& Int64.toUInt64 63)).toInt64)) &&& (1085102592571150095 : Int64)) + (((((((p0 - (((p0.toUInt64 >>> ((1 : Int32).toInt64.toUInt64 &&& Int64.toUInt64 63)).toInt64) &&& (6148914691236517205 : Int64))) &&& (3689348814741910323 : Int64)) + ((((p0 - (((p0.toUInt64 >>> ((1 : Int32).toInt64.toUInt64 &&& Int64.toUInt64 63)).toInt64) &&& (6148914691236517205 : Int64))).toUInt64 >>> ((2 : Int32).toInt64.toUInt64 &&& Int64.toUInt64 63)).toInt64) &&& (3689348814741910323 : Int64))) + (((((p0 - (((p0.toUInt64 >>> ((1 : Int32).toInt64.toUInt64 &&& Int64.toUInt64 63)).toInt64) &&& (6148914691236517205 : Int64))) &&& (3689348814741910323 : Int64)) + ((((p0 - (((p0.toUInt64 >>> ((1 : Int32).toInt64.toUInt64 &&& Int64.toUInt64 63)).toInt64) &&& (6148914691236517205 : Int64))).toUInt64 >>> ((2 : Int32).toInt64.toUInt64 &&& Int64.toUInt64 63)).toInt64) &&& (3689348814741910323 : Int64))).toUInt64 >>> ((4 : Int32).toInt64.toUInt64 &&& Int64.toUInt64 63)).toInt64)) &&& (1085102592571150095 : Int64)).toUInt64 >>> ((8 : Int32).toInt64.toUInt64 &&& Int64.toUInt64 63)).toInt64)).toUInt64 >>> ((16 : Int32).toInt64.toUInt64 &&& Int64.toUInt64 63)).toInt64) hx hb dJ17_bitCount_45 rfl ?_
  refine lv_ladd hx hb dJ17_bitCount_46 ?_
  refine lv_lstore_n (lv' := [(0, .long (((((((p0 - (((p0.toUInt64 >>> ((1 : Int32).toInt64.toUInt64 &&& Int64.toUInt64 63)).toInt64) &&& (6148914691236517205 : Int64))) &&& (3689348814741910323 : Int64)) + ((((p0 - (((p0.toUInt64 >>> ((1 : Int32).toInt64.toUInt64 &&& Int64.toUInt64 63)).toInt64) &&& (6148914691236517205 : Int64))).toUInt64 >>> ((2 : Int32).toInt64.toUInt64 &&& Int64.toUInt64 63)).toInt64) &&& (3689348814741910323 : Int64))) + (((((p0 - (((p0.toUInt64 >>> ((1 : Int32).toInt64.toUInt64 &&& Int64.toUInt64 63)).toInt64) &&& (6148914691236517205 : Int64))) &&& (3689348814741910323 : Int64)) + ((((p0 - (((p0.toUInt64 >>> ((1 : Int32).toInt64.toUInt64 &&& Int64.toUInt64 63)).toInt64) &&& (6148914691236517205 : Int64))).toUInt64 >>> ((2 : Int32).toInt64.toUInt64 &&& Int64.toUInt64 63)).toInt64) &&& (3689348814741910323 : Int64))).toUInt64 >>> ((4 : Int32).toInt64.toUInt64 &&& Int64.toUInt64 63)).toInt64)) &&& (1085102592571150095 : Int64)) + (((((((p0 - (((p0.toUInt64 >>> ((1 : Int32).toInt64.toUInt64 &&& Int64.toUInt64 63)).toInt64) &&& (6148914691236517205 : Int64))) &&& (3689348814741910323 : Int64)) + ((((p0 - (((p0.toUInt64 >>> ((1 : Int32).toInt64.toUInt64 &&& Int64.toUInt64 63)).toInt64) &&& (6148914691236517205 : Int64))).toUInt64 >>> ((2 : Int32).toInt64.toUInt64 &&& Int64.toUInt64 63)).toInt64) &&& (3689348814741910323 : Int64))) + (((((p0 - (((p0.toUInt64 >>> ((1 : Int32).toInt64.toUInt64 &&& Int64.toUInt64 63)).toInt64) &&& (6148914691236517205 : Int64))) &&& (3689348814741910323 : Int64)) + ((((p0 - (((p0.toUInt64 >>> ((1 : Int32).toInt64.toUInt64 &&& Int64.toUInt64 63)).toInt64) &&& (6148914691236517205 : Int64))).toUInt64 >>> ((2 : Int32).toInt64.toUInt64 &&& Int64.toUInt64 63)).toInt64) &&& (3689348814741910323 : Int64))).toUInt64 >>> ((4 : Int32).toInt64.toUInt64 &&& Int64.toUInt64 63)).toInt64)) &&& (1085102592571150095 : Int64)).toUInt64 >>> ((8 : Int32).toInt64.toUInt64 &&& Int64.toUInt64 63)).toInt64)) + ((((((((p0 - (((p0.toUInt64 >>> ((1 : Int32).toInt64.toUInt64 &&& Int64.toUInt64 63)).toInt64) &&& (6148914691236517205 : Int64))) &&& (3689348814741910323 : Int64)) + ((((p0 - (((p0.toUInt64 >>> ((1 : Int32).toInt64.toUInt64 &&& Int64.toUInt64 63)).toInt64) &&& (6148914691236517205 : Int64))).toUInt64 >>> ((2 : Int32).toInt64.toUInt64 &&& Int64.toUInt64 63)).toInt64) &&& (3689348814741910323 : Int64))) + (((((p0 - (((p0.toUInt64 >>> ((1 : Int32).toInt64.toUInt64 &&& Int64.toUInt64 63)).toInt64) &&& (6148914691236517205 : Int64))) &&& (3689348814741910323 : Int64)) + ((((p0 - (((p0.toUInt64 >>> ((1 : Int32).toInt64.toUInt64 &&& Int64.toUInt64 63)).toInt64) &&& (6148914691236517205 : Int64))).toUInt64 >>> ((2 : Int32).toInt64.toUInt64 &&& Int64.toUInt64 63)).toInt64) &&& (3689348814741910323 : Int64))).toUInt64 >>> ((4 : Int32).toInt64.toUInt64 &&& Int64.toUInt64 63)).toInt64)) &&& (1085102592571150095 : Int64)) + (((((((p0 - (((p0.toUInt64 >>> ((1 : Int32).toInt64.toUInt64 &&& Int64.toUInt64 63)).toInt64) &&& (6148914691236517205 : Int64))) &&& (3689348814741910323 : Int64)) + ((((p0 - (((p0.toUInt64 >>> ((1 : Int32).toInt64.toUInt64 &&& Int64.toUInt64 63)).toInt64) &&& (6148914691236517205 : Int64))).toUInt64 >>> ((2 : Int32).toInt64.toUInt64 &&& Int64.toUInt64 63)).toInt64) &&& (3689348814741910323 : Int64))) + (((((p0 - (((p0.toUInt64 >>> ((1 : Int32).toInt64.toUInt64 &&& Int64.toUInt64 63)).toInt64) &&& (6148914691236517205 : Int64))) &&& (3689348814741910323 : Int64)) + ((((p0 - (((p0.toUInt64 >>> ((1 : Int32).toInt64.toUInt64 &&& Int64.toUInt64 63)).toInt64) &&& (6148914691236517205 : Int64))).toUInt64 >>> ((2 : Int32).toInt64.toUInt64 &&& Int64.toUInt64 63)).toInt64) &&& (3689348814741910323 : Int64))).toUInt64 >>> ((4 : Int32).toInt64.toUInt64 &&& Int64.toUInt64 63)).toInt64)) &&& (1085102592571150095 : Int64)).toUInt64 >>> ((8 : Int32).toInt64.toUInt64 &&& Int64.toUInt64 63)).toInt64)).toUInt64 >>> ((16 : Int32).toInt64.toUInt64 &&& Int64.toUInt64 63)).toInt64)))]) hx hb dJ17_bitCount_47 rfl hl (by decide) rfl (fun ls hl => ?_)
  refine lv_lload_n hx hb dJ17_bitCount_48 rfl (lv_at hl 0 rfl) ?_
  refine lv_lload_n hx hb dJ17_bitCount_49 rfl (lv_at hl 0 rfl) ?_
  refine lv_bipush (v := (32 : Int32)) hx hb dJ17_bitCount_50 (by decide) ?_
  refine lv_lushr (v := ((((((((p0 - (((p0.toUInt64 >>> ((1 : Int32).toInt64.toUInt64 &&& Int64.toUInt64 63)).toInt64) &&& (6148914691236517205 : Int64))) &&& (3689348814741910323 : Int64)) + ((((p0 - (((p0.toUInt64 >>> ((1 : Int32).toInt64.toUInt64 &&& Int64.toUInt64 63)).toInt64) &&& (6148914691236517205 : Int64))).toUInt64 >>> ((2 : Int32).toInt64.toUInt64 &&& Int64.toUInt64 63)).toInt64) &&& (3689348814741910323 : Int64))) + (((((p0 - (((p0.toUInt64 >>> ((1 : Int32).toInt64.toUInt64 &&& Int64.toUInt64 63)).toInt64) &&& (6148914691236517205 : Int64))) &&& (3689348814741910323 : Int64)) + ((((p0 - (((p0.toUInt64 >>> ((1 : Int32).toInt64.toUInt64 &&& Int64.toUInt64 63)).toInt64) &&& (6148914691236517205 : Int64))).toUInt64 >>> ((2 : Int32).toInt64.toUInt64 &&& Int64.toUInt64 63)).toInt64) &&& (3689348814741910323 : Int64))).toUInt64 >>> ((4 : Int32).toInt64.toUInt64 &&& Int64.toUInt64 63)).toInt64)) &&& (1085102592571150095 : Int64)) + (((((((p0 - (((p0.toUInt64 >>> ((1 : Int32).toInt64.toUInt64 &&& Int64.toUInt64 63)).toInt64) &&& (6148914691236517205 : Int64))) &&& (3689348814741910323 : Int64)) + ((((p0 - (((p0.toUInt64 >>> ((1 : Int32).toInt64.toUInt64 &&& Int64.toUInt64 63)).toInt64) &&& (6148914691236517205 : Int64))).toUInt64 >>> ((2 : Int32).toInt64.toUInt64 &&& Int64.toUInt64 63)).toInt64) &&& (3689348814741910323 : Int64))) + (((((p0 - (((p0.toUInt64 >>> ((1 : Int32).toInt64.toUInt64 &&& Int64.toUInt64 63)).toInt64) &&& (6148914691236517205 : Int64))) &&& (3689348814741910323 : Int64)) + ((((p0 - (((p0.toUInt64 >>> ((1 : Int32).toInt64.toUInt64 &&& Int64.toUInt64 63)).toInt64) &&& (6148914691236517205 : Int64))).toUInt64 >>> ((2 : Int32).toInt64.toUInt64 &&& Int64.toUInt64 63)).toInt64) &&& (3689348814741910323 : Int64))).toUInt64 >>> ((4 : Int32).toInt64.toUInt64 &&& Int64.toUInt64 63)).toInt64)) &&& (1085102592571150095 : Int64)).toUInt64 >>> ((8 : Int32).toInt64.toUInt64 &&& Int64.toUInt64 63)).toInt64)) + ((((((((p0 - (((p0.toUInt64 >>> ((1 : Int32).toInt64.toUInt64 &&& Int64.toUInt64 63)).toInt64) &&& (6148914691236517205 : Int64))) &&& (3689348814741910323 : Int64)) + ((((p0 - (((p0.toUInt64 >>> ((1 : Int32).toInt64.toUInt64 &&& Int64.toUInt64 63)).toInt64) &&& (6148914691236517205 : Int64))).toUInt64 >>> ((2 : Int32).toInt64.toUInt64 &&& Int64.toUInt64 63)).toInt64) &&& (3689348814741910323 : Int64))) + (((((p0 - (((p0.toUInt64 >>> ((1 : Int32).toInt64.toUInt64 &&& Int64.toUInt64 63)).toInt64) &&& (6148914691236517205 : Int64))) &&& (3689348814741910323 : Int64)) + ((((p0 - (((p0.toUInt64 >>> ((1 : Int32).toInt64.toUInt64 &&& Int64.toUInt64 63)).toInt64) &&& (6148914691236517205 : Int64))).toUInt64 >>> ((2 : Int32).toInt64.toUInt64 &&& Int64.toUInt64 63)).toInt64) &&& (3689348814741910323 : Int64))).toUInt64 >>> ((4 : Int32).toInt64.toUInt64 &&& Int64.toUInt64 63)).toInt64)) &&& (1085102592571150095 : Int64)) + (((((((p0 - (((p0.toUInt64 >>> ((1 : Int32).toInt64.toUInt64 &&& Int64.toUInt64 63)).toInt64) &&& (6148914691236517205 : Int64))) &&& (3689348814741910323 : Int64)) + ((((p0 - (((p0.toUInt64 >>> ((1 : Int32).toInt64.toUInt64 &&& Int64.toUInt64 63)).toInt64) &&& (6148914691236517205 : Int64))).toUInt64 >>> ((2 : Int32).toInt64.toUInt64 &&& Int64.toUInt64 63)).toInt64) &&& (3689348814741910323 : Int64))) + (((((p0 - (((p0.toUInt64 >>> ((1 : Int32).toInt64.toUInt64 &&& Int64.toUInt64 63)).toInt64) &&& (6148914691236517205 : Int64))) &&& (3689348814741910323 : Int64)) + ((((p0 - (((p0.toUInt64 >>> ((1 : Int32).toInt64.toUInt64 &&& Int64.toUInt64 63)).toInt64) &&& (6148914691236517205 : Int64))).toUInt64 >>> ((2 : Int32).toInt64.toUInt64 &&& Int64.toUInt64 63)).toInt64) &&& (3689348814741910323 : Int64))).toUInt64 >>> ((4 : Int32).toInt64.toUInt64 &&& Int64.toUInt64 63)).toInt64)) &&& (1085102592571150095 : Int64)).toUInt64 >>> ((8 : Int32).toInt64.toUInt64 &&& Int64.toUInt64 63)).toInt64)).toUInt64 >>> ((16 : Int32).toInt64.toUInt64 &&& Int64.toUInt64 63)).toInt64)).toUInt64 >>> ((32 : Int32).toInt64.toUInt64 &&& Int64.toUInt64 63)).toInt64) hx hb dJ17_bitCount_52 rfl ?_
  refine lv_ladd hx hb dJ17_bitCount_53 ?_
  refine lv_lstore_n (lv' := [(0, .long ((((((((p0 - (((p0.toUInt64 >>> ((1 : Int32).toInt64.toUInt64 &&& Int64.toUInt64 63)).toInt64) &&& (6148914691236517205 : Int64))) &&& (3689348814741910323 : Int64)) + ((((p0 - (((p0.toUInt64 >>> ((1 : Int32).toInt64.toUInt64 &&& Int64.toUInt64 63)).toInt64) &&& (6148914691236517205 : Int64))).toUInt64 >>> ((2 : Int32).toInt64.toUInt64 &&& Int64.toUInt64 63)).toInt64) &&& (3689348814741910323 : Int64))) + (((((p0 - (((p0.toUInt64 >>> ((1 : Int32).toInt64.toUInt64 &&& Int64.toUInt64 63)).toInt64) &&& (6148914691236517205 : Int64))) &&& (3689348814741910323 : Int64)) + ((((p0 - (((p0.toUInt64 >>> ((1 : Int32).toInt64.toUInt64 &&& Int64.toUInt64 63)).toInt64) &&& (6148914691236517205 : Int64))).toUInt64 >>> ((2 : Int32).toInt64.toUInt64 &&& Int64.toUInt64 63)).toInt64) &&& (3689348814741910323 : Int64))).toUInt64 >>> ((4 : Int32).toInt64.toUInt64 &&& Int64.toUInt64 63)).toInt64)) &&& (1085102592571150095 : Int64)) + (((((((p0 - (((p0.toUInt64 >>> ((1 : Int32).toInt64.toUInt64 &&& Int64.toUInt64 63)).toInt64) &&& (6148914691236517205 : Int64))) &&& (3689348814741910323 : Int64)) + ((((p0 - (((p0.toUInt64 >>> ((1 : Int32).toInt64.toUInt64 &&& Int64.toUInt64 63)).toInt64) &&& (6148914691236517205 : Int64))).toUInt64 >>> ((2 : Int32).toInt64.toUInt64 &&& Int64.toUInt64 63)).toInt64) &&& (3689348814741910323 : Int64))) + (((((p0 - (((p0.toUInt64 >>> ((1 : Int32).toInt64.toUInt64 &&& Int64.toUInt64 63)).toInt64) &&& (6148914691236517205 : Int64))) &&& (3689348814741910323 : Int64)) + ((((p0 - (((p0.toUInt64 >>> ((1 : Int32).toInt64.toUInt64 &&& Int64.toUInt64 63)).toInt64) &&& (6148914691236517205 : Int64))).toUInt64 >>> ((2 : Int32).toInt64.toUInt64 &&& Int64.toUInt64 63)).toInt64) &&& (3689348814741910323 : Int64))).toUInt64 >>> ((4 : Int32).toInt64.toUInt64 &&& Int64.toUInt64 63)).toInt64)) &&& (1085102592571150095 : Int64)).toUInt64 >>> ((8 : Int32).toInt64.toUInt64 &&& Int64.toUInt64 63)).toInt64)) + ((((((((p0 - (((p0.toUInt64 >>> ((1 : Int32).toInt64.toUInt64 &&& Int64.toUInt64 63)).toInt64) &&& (6148914691236517205 : Int64))) &&& (3689348814741910323 : Int64)) + ((((p0 - (((p0.toUInt64 >>> ((1 : Int32).toInt64.toUInt64 &&& Int64.toUInt64 63)).toInt64) &&& (6148914691236517205 : Int64))).toUInt64 >>> ((2 : Int32).toInt64.toUInt64 &&& Int64.toUInt64 63)).toInt64) &&& (3689348814741910323 : Int64))) + (((((p0 - (((p0.toUInt64 >>> ((1 : Int32).toInt64.toUInt64 &&& Int64.toUInt64 63)).toInt64) &&& (6148914691236517205 : Int64))) &&& (3689348814741910323 : Int64)) + ((((p0 - (((p0.toUInt64 >>> ((1 : Int32).toInt64.toUInt64 &&& Int64.toUInt64 63)).toInt64) &&& (6148914691236517205 : Int64))).toUInt64 >>> ((2 : Int32).toInt64.toUInt64 &&& Int64.toUInt64 63)).toInt64) &&& (3689348814741910323 : Int64))).toUInt64 >>> ((4 : Int32).toInt64.toUInt64 &&& Int64.toUInt64 63)).toInt64)) &&& (1085102592571150095 : Int64)) + (((((((p0 - (((p0.toUInt64 >>> ((1 : Int32).toInt64.toUInt64 &&& Int64.toUInt64 63)).toInt64) &&& (6148914691236517205 : Int64))) &&& (3689348814741910323 : Int64)) + ((((p0 - (((p0.toUInt64 >>> ((1 : Int32).toInt64.toUInt64 &&& Int64.toUInt64 63)).toInt64) &&& (6148914691236517205 : Int64))).toUInt64 >>> ((2 : Int32).toInt64.toUInt64 &&& Int64.toUInt64 63)).toInt64) &&& (3689348814741910323 : Int64))) + (((((p0 - (((p0.toUInt64 >>> ((1 : Int32).toInt64.toUInt64 &&& Int64.toUInt64 63)).toInt64) &&& (6148914691236517205 : Int64))) &&& (3689348814741910323 : Int64)) + ((((p0 - (((p0.toUInt64 >>> ((1 : Int32).toInt64.toUInt64 &&& Int64.toUInt64 63)).toInt64) &&& (6148914691236517205 : Int64))).toUInt64 >>> ((2 : Int32).toInt64.toUInt64 &&& Int64.toUInt64 63)).toInt64) &&& (3689348814741910323 : Int64))).toUInt64 >>> ((4 : Int32).toInt64.toUInt64 &&& Int64.toUInt64 63)).toInt64)) &&& (1085102592571150095 : Int64)).toUInt64 >>> ((8 : Int32).toInt64.toUInt64 &&& Int64.toUInt64 63)).toInt64)).toUInt64 >>> ((16 : Int32).toInt64.toUInt64 &&& Int64.toUInt64 63)).toInt64)) + (((((((((p0 - (((p0.toUInt64 >>> ((1 : Int32).toInt64.toUInt64 &&& Int64.toUInt64 63)).toInt64) &&& (6148914691236517205 : Int64))) &&& (3689348814741910323 : Int64)) + ((((p0 - (((p0.toUInt64 >>> ((1 : Int32).toInt64.toUInt64 &&& Int64.toUInt64 63)).toInt64) &&& (6148914691236517205 : Int64))).toUInt64 >>> ((2 : Int32).toInt64.toUInt64 &&& Int64.toUInt64 63)).toInt64) &&& (3689348814741910323 : Int64))) + (((((p0 - (((p0.toUInt64 >>> ((1 : Int32).toInt64.toUInt64 &&& Int64.toUInt64 63)).toInt64) &&& (6148914691236517205 : Int64))) &&& (3689348814741910323 : Int64)) + ((((p0 - (((p0.toUInt64 >>> ((1 : Int32).toInt64.toUInt64 &&& Int64.toUInt64 63)).toInt64) &&& (6148914691236517205 : Int64))).toUInt64 >>> ((2 : Int32).toInt64.toUInt64 &&& Int64.toUInt64 63)).toInt64) &&& (3689348814741910323 : Int64))).toUInt64 >>> ((4 : Int32).toInt64.toUInt64 &&& Int64.toUInt64 63)).toInt64)) &&& (1085102592571150095 : Int64)) + (((((((p0 - (((p0.toUInt64 >>> ((1 : Int32).toInt64.toUInt64 &&& Int64.toUInt64 63)).toInt64) &&& (6148914691236517205 : Int64))) &&& (3689348814741910323 : Int64)) + ((((p0 - (((p0.toUInt64 >>> ((1 : Int32).toInt64.toUInt64 &&& Int64.toUInt64 63)).toInt64) &&& (6148914691236517205 : Int64))).toUInt64 >>> ((2 : Int32).toInt64.toUInt64 &&& Int64.toUInt64 63)).toInt64) &&& (3689348814741910323 : Int64))) + (((((p0 - (((p0.toUInt64 >>> ((1 : Int32).toInt64.toUInt64 &&& Int64.toUInt64 63)).toInt64) &&& (6148914691236517205 : Int64))) &&& (3689348814741910323 : Int64)) + ((((p0 - (((p0.toUInt64 >>> ((1 : Int32).toInt64.toUInt64 &&& Int64.toUInt64 63)).toInt64) &&& (6148914691236517205 : Int64))).toUInt64 >>> ((2 : Int32).toInt64.toUInt64 &&& Int64.toUInt64 63)).toInt64) &&& (3689348814741910323 : Int64))).toUInt64 >>> ((4 : Int32).toInt64.toUInt64 &&& Int64.toUInt64 63)).toInt64)) &&& (1085102592571150095 : Int64)).toUInt64 >>> ((8 : Int32).toInt64.toUInt64 &&& Int64.toUInt64 63)).toInt64)) + ((((((((p0 - (((p0.toUInt64 >>> ((1 : Int32).toInt64.toUInt64 &&& Int64.toUInt64 63)).toInt64) &&& (6148914691236517205 : Int64))) &&& (3689348814741910323 : Int64)) + ((((p0 - (((p0.toUInt64 >>> ((1 : Int32).toInt64.toUInt64 &&& Int64.toUInt64 63)).toInt64) &&& (6148914691236517205 : Int64))).toUInt64 >>> ((2 : Int32).toInt64.toUInt64 &&& Int64.toUInt64 63)).toInt64) &&& (3689348814741910323 : Int64))) + (((((p0 - (((p0.toUInt64 >>> ((1 : Int32).toInt64.toUInt64 &&& Int64.toUInt64 63)).toInt64) &&& (6148914691236517205 : Int64))) &&& (3689348814741910323 : Int64)) + ((((p0 - (((p0.toUInt64 >>> ((1 : Int32).toInt64.toUInt64 &&& Int64.toUInt64 63)).toInt64) &&& (6148914691236517205 : Int64))).toUInt64 >>> ((2 : Int32).toInt64.toUInt64 &&& Int64.toUInt64 63)).toInt64) &&& (3689348814741910323 : Int64))).toUInt64 >>> ((4 : Int32).toInt64.toUInt64 &&& Int64.toUInt64 63)).toInt64)) &&& (1085102592571150095 : Int64)) + (((((((p0 - (((p0.toUInt64 >>> ((1 : Int32).toInt64.toUInt64 &&& Int64.toUInt64 63)).toInt64) &&& (6148914691236517205 : Int64))) &&& (3689348814741910323 : Int64)) + ((((p0 - (((p0.toUInt64 >>> ((1 : Int32).toInt64.toUInt64 &&& Int64.toUInt64 63)).toInt64) &&& (6148914691236517205 : Int64))).toUInt64 >>> ((2 : Int32).toInt64.toUInt64 &&& Int64.toUInt64 63)).toInt64) &&& (3689348814741910323 : Int64))) + (((((p0 - (((p0.toUInt64 >>> ((1 : Int32).toInt64.toUInt64 &&& Int64.toUInt64 63)).toInt64) &&& (6148914691236517205 : Int64))) &&& (3689348814741910323 : Int64)) + ((((p0 - (((p0.toUInt64 >>> ((1 : Int32).toInt64.toUInt64 &&& Int64.toUInt64 63)).toInt64) &&& (6148914691236517205 : Int64))).toUInt64 >>> ((2 : Int32).toInt64.toUInt64 &&& Int64.toUInt64 63)).toInt64) &&& (3689348814741910323 : Int64))).toUInt64 >>> ((4 : Int32).toInt64.toUInt64 &&& Int64.toUInt64 63)).toInt64)) &&& (1085102592571150095 : Int64)).toUInt64 >>> ((8 : Int32).toInt64.toUInt64 &&& Int64.toUInt64 63)).toInt64)).toUInt64 >>> ((16 : Int32).toInt64.toUInt64 &&& Int64.toUInt64 63)).toInt64)).toUInt64 >>> ((32 : Int32).toInt64.toUInt64 &&& Int64.toUInt64 63)).toInt64)))]) hx hb dJ17_bitCount_54 rfl hl (by decide) rfl (fun ls hl => ?_)
  refine lv_lload_n hx hb dJ17_bitCount_55 rfl (lv_at hl 0 rfl) ?_
  refine lv_l2i (v := ((((((((p0 - (((p0.toUInt64 >>> ((1 : Int32).toInt64.toUInt64 &&& Int64.toUInt64 63)).toInt64) &&& (6148914691236517205 : Int64))) &&& (3689348814741910323 : Int64)) + ((((p0 - (((p0.toUInt64 >>> ((1 : Int32).toInt64.toUInt64 &&& Int64.toUInt64 63)).toInt64) &&& (6148914691236517205 : Int64))).toUInt64 >>> ((2 : Int32).toInt64.toUInt64 &&& Int64.toUInt64 63)).toInt64) &&& (3689348814741910323 : Int64))) + (((((p0 - (((p0.toUInt64 >>> ((1 : Int32).toInt64.toUInt64 &&& Int64.toUInt64 63)).toInt64) &&& (6148914691236517205 : Int64))) &&& (3689348814741910323 : Int64)) + ((((p0 - (((p0.toUInt64 >>> ((1 : Int32).toInt64.toUInt64 &&& Int64.toUInt64 63)).toInt64) &&& (6148914691236517205 : Int64))).toUInt64 >>> ((2 : Int32).toInt64.toUInt64 &&& Int64.toUInt64 63)).toInt64) &&& (3689348814741910323 : Int64))).toUInt64 >>> ((4 : Int32).toInt64.toUInt64 &&& Int64.toUInt64 63)).toInt64)) &&& (1085102592571150095 : Int64)) + (((((((p0 - (((p0.toUInt64 >>> ((1 : Int32).toInt64.toUInt64 &&& Int64.toUInt64 63)).toInt64) &&& (6148914691236517205 : Int64))) &&& (3689348814741910323 : Int64)) + ((((p0 - (((p0.toUInt64 >>> ((1 : Int32).toInt64.toUInt64 &&& Int64.toUInt64 63)).toInt64) &&& (6148914691236517205 : Int64))).toUInt64 >>> ((2 : Int32).toInt64.toUInt64 &&& Int64.toUInt64 63)).toInt64) &&& (3689348814741910323 : Int64))) + (((((p0 - (((p0.toUInt64 >>> ((1 : Int32).toInt64.toUInt64 &&& Int64.toUInt64 63)).toInt64) &&& (6148914691236517205 : Int64))) &&& (3689348814741910323 : Int64)) + ((((p0 - (((p0.toUInt64 >>> ((1 : Int32).toInt64.toUInt64 &&& Int64.toUInt64 63)).toInt64) &&& (6148914691236517205 : Int64))).toUInt64 >>> ((2 : Int32).toInt64.toUInt64 &&& Int64.toUInt64 63)).toInt64) &&& (3689348814741910323 : Int64))).toUInt64 >>> ((4 : Int32).toInt64.toUInt64 &&& Int64.toUInt64 63)).toInt64)) &&& (1085102592571150095 : Int64)).toUInt64 >>> ((8 : Int32).toInt64.toUInt64 &&& Int64.toUInt64 63)).toInt64)) + ((((((((p0 - (((p0.toUInt64 >>> ((1 : Int32).toInt64.toUInt64 &&& Int64.toUInt64 63)).toInt64) &&& (6148914691236517205 : Int64))) &&& (3689348814741910323 : Int64)) + ((((p0 - (((p0.toUInt64 >>> ((1 : Int32).toInt64.toUInt64 &&& Int64.toUInt64 63)).toInt64) &&& (6148914691236517205 : Int64))).toUInt64 >>> ((2 : Int32).toInt64.toUInt64 &&& Int64.toUInt64 63)).toInt64) &&& (3689348814741910323 : Int64))) + (((((p0 - (((p0.toUInt64 >>> ((1 : Int32).toInt64.toUInt64 &&& Int64.toUInt64 63)).toInt64) &&& (6148914691236517205 : Int64))) &&& (3689348814741910323 : Int64)) + ((((p0 - (((p0.toUInt64 >>> ((1 : Int32).toInt64.toUInt64 &&& Int64.toUInt64 63)).toInt64) &&& (6148914691236517205 : Int64))).toUInt64 >>> ((2 : Int32).toInt64.toUInt64 &&& Int64.toUInt64 63)).toInt64) &&& (3689348814741910323 : Int64))).toUInt64 >>> ((4 : Int32).toInt64.toUInt64 &&& Int64.toUInt64 63)).toInt64)) &&& (1085102592571150095 : Int64)) + (((((((p0 - (((p0.toUInt64 >>> ((1 : Int32).toInt64.toUInt64 &&& Int64.toUInt64 63)).toInt64) &&& (6148914691236517205 : Int64))) &&& (3689348814741910323 : Int64)) + ((((p0 - (((p0.toUInt64 >>> ((1 : Int32).toInt64.toUInt64 &&& Int64.toUInt64 63)).toInt64) &&& (6148914691236517205 : Int64))).toUInt64 >>> ((2 : Int32).toInt64.toUInt64 &&& Int64.toUInt64 63)).toInt64) &&& (3689348814741910323 : Int64))) + (((((p0 - (((p0.toUInt64 >>> ((1 : Int32).toInt64.toUInt64 &&& Int64.toUInt64 63)).toInt64) &&& (6148914691236517205 : Int64))) &&& (3689348814741910323 : Int64)) + ((((p0 - (((p0.toUInt64 >>> ((1 : Int32).toInt64.toUInt64 &&& Int64.toUInt64 63)).toInt64) &&& (6148914691236517205 : Int64))).toUInt64 >>> ((2 : Int32).toInt64.toUInt64 &&& Int64.toUInt64 63)).toInt64) &&& (3689348814741910323 : Int64))).toUInt64 >>> ((4 : Int32).toInt64.toUInt64 &&& Int64.toUInt64 63)).toInt64)) &&& (1085102592571150095 : Int64)).toUInt64 >>> ((8 : Int32).toInt64.toUInt64 &&& Int64.toUInt64 63)).toInt64)).toUInt64 >>> ((16 : Int32).toInt64.toUInt64 &&& Int64.toUInt64 63)).toInt64)) + (((((((((p0 - (((p0.toUInt64 >>> ((1 : Int32).toInt64.toUInt64 &&& Int64.toUInt64 63)).toInt64) &&& (6148914691236517205 : Int64))) &&& (3689348814741910323 : Int64)) + ((((p0 - (((p0.toUInt64 >>> ((1 : Int32).toInt64.toUInt64 &&& Int64.toUInt64 63)).toInt64) &&& (6148914691236517205 : Int64))).toUInt64 >>> ((2 : Int32).toInt64.toUInt64 &&& Int64.toUInt64 63)).toInt64) &&& (3689348814741910323 : Int64))) + (((((p0 - (((p0.toUInt64 >>> ((1 : Int32).toInt64.toUInt64 &&& Int64.toUInt64 63)).toInt64) &&& (6148914691236517205 : Int64))) &&& (3689348814741910323 : Int64)) + ((((p0 - (((p0.toUInt64 >>> ((1 : Int32).toInt64.toUInt64 &&& Int64.toUInt64 63)).toInt64) &&& (6148914691236517205 : Int64))).toUInt64 >>> ((2 : Int32).toInt64.toUInt64 &&& Int64.toUInt64 63)).toInt64) &&& (3689348814741910323 : Int64))).toUInt64 >>> ((4 : Int32).toInt64.toUInt64 &&& Int64.toUInt64 63)).toInt64)) &&& (1085102592571150095 : Int64)) + (((((((p0 - (((p0.toUInt64 >>> ((1 : Int32).toInt64.toUInt64 &&& Int64.toUInt64 63)).toInt64) &&& (6148914691236517205 : Int64))) &&& (3689348814741910323 : Int64)) + ((((p0 - (((p0.toUInt64 >>> ((1 : Int32).toInt64.toUInt64 &&& Int64.toUInt64 63)).toInt64) &&& (6148914691236517205 : Int64))).toUInt64 >>> ((2 : Int32).toInt64.toUInt64 &&& Int64.toUInt64 63)).toInt64) &&& (3689348814741910323 : Int64))) + (((((p0 - (((p0.toUInt64 >>> ((1 : Int32).toInt64.toUInt64 &&& Int64.toUInt64 63)).toInt64) &&& (6148914691236517205 : Int64))) &&& (3689348814741910323 : Int64)) + ((((p0 - (((p0.toUInt64 >>> ((1 : Int32).toInt64.toUInt64 &&& Int64.toUInt64 63)).toInt64) &&& (6148914691236517205 : Int64))).toUInt64 >>> ((2 : Int32).toInt64.toUInt64 &&& Int64.toUInt64 63)).toInt64) &&& (3689348814741910323 : Int64))).toUInt64 >>> ((4 : Int32).toInt64.toUInt64 &&& Int64.toUInt64 63)).toInt64)) &&& (1085102592571150095 : Int64)).toUInt64 >>> ((8 : Int32).toInt64.toUInt64 &&& Int64.toUInt64 63)).toInt64)) + ((((((((p0 - (((p0.toUInt64 >>> ((1 : Int32).toInt64.toUInt64 &&& Int64.toUInt64 63)).toInt64) &&& (6148914691236517205 : Int64))) &&& (3689348814741910323 : Int64)) + ((((p0 - (((p0.toUInt64 >>> ((1 : Int32).toInt64.toUInt64 &&& Int64.toUInt64 63)).toInt64) &&& (6148914691236517205 : Int64))).toUInt64 >>> ((2 : Int32).toInt64.toUInt64 &&& Int64.toUInt64 63)).toInt64) &&& (3689348814741910323 : Int64))) + (((((p0 - (((p0.toUInt64 >>> ((1 : Int32).toInt64.toUInt64 &&& Int64.toUInt64 63)).toInt64) &&& (6148914691236517205 : Int64))) &&& (3689348814741910323 : Int64)) + ((((p0 - (((p0.toUInt64 >>> ((1 : Int32).toInt64.toUInt64 &&& Int64.toUInt64 63)).toInt64) &&& (6148914691236517205 : Int64))).toUInt64 >>> ((2 : Int32).toInt64.toUInt64 &&& Int64.toUInt64 63)).toInt64) &&& (3689348814741910323 : Int64))).toUInt64 >>> ((4 : Int32).toInt64.toUInt64 &&& Int64.toUInt64 63)).toInt64)) &&& (1085102592571150095 : Int64)) + (((((((p0 - (((p0.toUInt64 >>> ((1 : Int32).toInt64.toUInt64 &&& Int64.toUInt64 63)).toInt64) &&& (6148914691236517205 : Int64))) &&& (3689348814741910323 : Int64)) + ((((p0 - (((p0.toUInt64 >>> ((1 : Int32).toInt64.toUInt64 &&& Int64.toUInt64 63)).toInt64) &&& (6148914691236517205 : Int64))).toUInt64 >>> ((2 : Int32).toInt64.toUInt64 &&& Int64.toUInt64 63)).toInt64) &&& (3689348814741910323 : Int64))) + (((((p0 - (((p0.toUInt64 >>> ((1 : Int32).toInt64.toUInt64 &&& Int64.toUInt64 63)).toInt64) &&& (6148914691236517205 : Int64))) &&& (3689348814741910323 : Int64)) + ((((p0 - (((p0.toUInt64 >>> ((1 : Int32).toInt64.toUInt64 &&& Int64.toUInt64 63)).toInt64) &&& (6148914691236517205 : Int64))).toUInt64 >>> ((2 : Int32).toInt64.toUInt64 &&& Int64.toUInt64 63)).toInt64) &&& (3689348814741910323 : Int64))).toUInt64 >>> ((4 : Int32).toInt64.toUInt64 &&& Int64.toUInt64 63)).toInt64)) &&& (1085102592571150095 : Int64)).toUInt64 >>> ((8 : Int32).toInt64.toUInt64 &&& Int64.toUInt64 63)).toInt64)).toUInt64 >>> ((16 : Int32).toInt64.toUInt64 &&& Int64.toUInt64 63)).toInt64)).toUInt64 >>> ((32 : Int32).toInt64.toUInt64 &&& Int64.toUInt64 63)).toInt64)).toInt32) hx hb dJ17_bitCount_56 rfl ?_
  refine lv_bipush (v := (127 : Int32)) hx hb dJ17_bitCount_57 (by decide) ?_
  refine lv_iand hx hb dJ17_bitCount_59 ?_
  obtain rfl := gO1 hf
  exact g_iret X hR hS _ rfl ⟨Nat.le_of_ble_eq_true rfl, Nat.le_of_ble_eq_true rfl⟩ dJ17_bitCount_60

def sp_J1_cardinality_L4 (G : gG) (F : Nat) (h4L : gH) : Nat → Nat → Int32 → Int32 → Option (Int32)
  | 0, _, _, _ => none
  | f + 1, v4_0, v4_1, v4_2 =>
    (gGi 14 h4L v4_0 1).bind fun x501 =>
    if x501 ≤ v4_2 then
    some (v4_1) else
    (gGr 14 h4L v4_0 0).bind fun x503 =>
    (gAl h4L x503 v4_2).bind fun x504 =>
    (sp_J17_bitCount G F h4L x504).bind fun u505 =>
    sp_J1_cardinality_L4 G F h4L f v4_0 (v4_1 + u505) (v4_2 + (1 : Int32))
def sp_J1_cardinality (G : gG) (F : Nat) (h : gH) (a0 : Nat) : Option (Int32) :=
 (sp_J1_cardinality_L4 G F h F a0 (0 : Int32) (0 : Int32)).bind fun y3 =>
 some (y3)
theorem yk_J1_cardinality : gVk yJ1_cardinality cJ1_cardinality 3 (some .int) 0 14 := ⟨q1288, q1289, q97, q1290, ⟨by decide +kernel, by decide +kernel, by decide +kernel⟩, rfl⟩
set_option maxHeartbeats 4000000 in
theorem m_J1_cardinality (l : Launch) (G : gG) (F : Nat) (h : gH) (n : Nat) (a0 : Nat) {r : Int32} (hf : sp_J1_cardinality G F h a0 = some r) : gMet l G yJ1_cardinality cJ1_cardinality 3 (some .int) 1 21 0 0 [.ref a0] h n (some (.int r)) h n := by
  refine gEnter (by decide) [(0, .ref a0)] rfl (Nat.le_of_ble_eq_true rfl) ?_
  intro p e s m below meth c H ls X hin hR hS hl
  have hx := X.1.1
  have hb := X.1.2.1
  unfold sp_J1_cardinality at hf
  generalize ([] : List Loc) = locs at hS ⊢
  refine lv_iconst (v := (0 : Int32)) hx hb dJ1_cardinality_0 (by decide) ?_
  refine lv_istore_n (lv' := [(1, .int (0 : Int32)), (0, .ref a0)]) hx hb dJ1_cardinality_1 rfl hl (by decide) rfl (fun ls hl => ?_)
  refine lv_iconst (v := (0 : Int32)) hx hb dJ1_cardinality_2 (by decide) ?_
  refine lv_istore_n (lv' := [(2, .int (0 : Int32)), (1, .int (0 : Int32)), (0, .ref a0)]) hx hb dJ1_cardinality_3 rfl hl (by decide) rfl (fun ls hl => ?_)
  have L4_q1 : ∀ (f : Nat) (v4_0 : Nat) (v4_1 : Int32) (v4_2 : Int32) (o2 : Int32) (H : Heap) (locs : List Loc) (ls : Array Slot), sp_J1_cardinality_L4 G F h f v4_0 v4_1 v4_2 = some o2 → gRep G h n H → va_S (gFr G) s.heap H locs → lv_has ls 3 [(0, .ref v4_0), (1, .int v4_1), (2, .int v4_2)] → (∀ (H : Heap) (locs : List Loc) (ls : Array Slot), gRep G h n H → va_S (gFr G) s.heap H locs → lv_has ls 3 [(1, .int o2)] → W p l e ({ frames := 1, cells := 0, slots := 0, locals := 21 } : Room) s m ([.ref a0] : List Value).toArray below meth c H locs 0 0 (MQ below (gQ G (some (.int r)) h n) ([.ref a0] : List Value).toArray s 0 0 (gFr G)) (F0 m 30 ls [])) → W p l e ({ frames := 1, cells := 0, slots := 0, locals := 21 } : Room) s m ([.ref a0] : List Value).toArray below meth c H locs 0 0 (MQ below (gQ G (some (.int r)) h n) ([.ref a0] : List Value).toArray s 0 0 (gFr G)) (F0 m 4 ls []) := by
    clear hf
    intro f
    induction f with
    | zero =>
      intro v4_0 v4_1 v4_2 o2 H locs ls hf
      cases hf
    | succ f ih =>
      intro v4_0 v4_1 v4_2 o2 H locs ls hf hR hS hl K4
      rw [sp_J1_cardinality_L4] at hf
      refine lv_iload_n hx hb dJ1_cardinality_4 rfl (lv_at hl 2 rfl) ?_
      refine lv_aload_n hx hb dJ1_cardinality_5 rfl (lv_at hl 0 rfl) ?_
      obtain ⟨x501, ex501, hf⟩ := gBind hf
      refine g_geti X hR gk_J1 1 (by decide) q497 rfl ex501 dJ1_cardinality_6 ?_
      refine lv_icmp_ge (tgt := 30) hx hb dJ1_cardinality_9 (by decide) (fun c502 => ?_) (fun c502 => ?_)
      · replace hf := gIfp c502 hf
        obtain rfl := gO1 hf
        exact K4 _ _ _ hR hS (lv_sub hl [1] rfl)
      · replace hf := gIfn c502 hf
        refine lv_iload_n hx hb dJ1_cardinality_12 rfl (lv_at hl 1 rfl) ?_
        refine lv_aload_n hx hb dJ1_cardinality_13 rfl (lv_at hl 0 rfl) ?_
        obtain ⟨x503, ex503, hf⟩ := gBind hf
        refine g_getr X hR gk_J1 0 (by decide) q496 rfl ex503 dJ1_cardinality_14 ?_
        refine lv_iload_n hx hb dJ1_cardinality_17 rfl (lv_at hl 2 rfl) ?_
        obtain ⟨x504, ex504, hf⟩ := gBind hf
        refine g_lald X hR ex504 dJ1_cardinality_18 ?_
        obtain ⟨u505, eu505, hf⟩ := gBind hf
        refine g_callSi X hR hS [.long x504] (m_J17_bitCount l G F h n x504 eu505) yk_J17_bitCount q1291 rfl hl.1 ⟨Nat.le_of_ble_eq_true rfl, Nat.le_of_ble_eq_true rfl⟩ ⟨Nat.le_of_ble_eq_true rfl, Nat.le_of_ble_eq_true rfl⟩ rfl (Nat.le_of_ble_eq_true rfl) dJ1_cardinality_19 (fun H locs hR hS => ?_)
        refine lv_iadd hx hb dJ1_cardinality_22 ?_
        refine lv_istore_n (lv' := [(1, .int (v4_1 + u505)), (0, .ref v4_0), (2, .int v4_2)]) hx hb dJ1_cardinality_23 rfl hl (by decide) rfl (fun ls hl => ?_)
        refine lv_iinc (v := v4_2 + (1 : Int32)) (lv' := [(2, .int (v4_2 + (1 : Int32))), (1, .int (v4_1 + u505)), (0, .ref v4_0)]) hx hb dJ1_cardinality_24 hl (k := 2) rfl rfl (by decide) rfl (fun ls hl => ?_)
        refine lv_goto (tgt := 4) hx hb dJ1_cardinality_27 (by decide) ?_
        exact ih v4_0 (v4_1 + u505) (v4_2 + (1 : Int32)) _ _ _ _ hf hR hS (lv_sub hl [2, 1, 0] rfl) K4
  obtain ⟨y3, ey3, hf⟩ := gBind hf
  refine L4_q1 F a0 (0 : Int32) (0 : Int32) y3 _ _ _ ey3 hR hS (lv_sub hl [2, 1, 0] rfl) (fun H locs ls hR hS hl => ?_)
  refine lv_iload_n hx hb dJ1_cardinality_30 rfl (lv_at hl 0 rfl) ?_
  obtain rfl := gO1 hf
  exact g_iret X hR hS _ rfl ⟨Nat.le_of_ble_eq_true rfl, Nat.le_of_ble_eq_true rfl⟩ dJ1_cardinality_31

def sp_X1_init (G : gG) (F : Nat) (h : gH) (n : Nat) (a0 : Nat) : Option (gH × Nat) :=
 (gPv 1 h a0 2 (.int (-5 : Int32))).bind fun h1 =>
 (gPv 1 h1 a0 3 (.int (-5 : Int32))).bind fun h2 =>
 (gPv 1 h2 a0 4 (.int (-5 : Int32))).bind fun h3 =>
 (gPv 1 h3 a0 8 (.int (1 : Int32))).bind fun h4 =>
 (gPv 1 h4 a0 9 (.int (1 : Int32))).bind fun h5 =>
 (gPv 1 h5 a0 19 (.int (30 : Int32))).bind fun h6 =>
 (gPv 1 (va_up h6 n (some (.inl (5, 8, .inr (.inr (.inr (.inr (fun _ => none)))))))) a0 22 (.ref n)).bind fun h7 =>
 (gPv 1 (va_up h7 (n + 1) (some (.inl (6, 6, .inr (.inr (.inr (.inr (fun _ => none)))))))) a0 23 (.ref (n + 1))).bind fun h8 =>
 (gPv 1 (va_up h8 ((n + 1) + 1) (some (.inl (7, 24, .inr (.inr (.inr (.inr (fun _ => none)))))))) a0 24 (.ref ((n + 1) + 1))).bind fun h9 =>
 (gPv 1 (va_up h9 (((n + 1) + 1) + 1) (some (.inl (7, 8, .inr (.inr (.inr (.inr (fun _ => none)))))))) a0 25 (.ref (((n + 1) + 1) + 1))).bind fun h10 =>
 (gPv 1 (va_up h10 ((((n + 1) + 1) + 1) + 1) (some (.inl (8, 5, .inr (.inr (.inr (.inr (fun _ => none)))))))) a0 26 (.ref ((((n + 1) + 1) + 1) + 1))).bind fun h11 =>
 (gPv 1 (va_up h11 (((((n + 1) + 1) + 1) + 1) + 1) (some (.inl (0, 10, .inl (fun _ => 0))))) a0 27 (.ref (((((n + 1) + 1) + 1) + 1) + 1))).bind fun h12 =>
 (gPv 1 (va_up h12 ((((((n + 1) + 1) + 1) + 1) + 1) + 1) (some (.inl (0, 16, .inl (fun _ => 0))))) a0 28 (.ref ((((((n + 1) + 1) + 1) + 1) + 1) + 1))).bind fun h13 =>
 (gPv 1 (va_up h13 (((((((n + 1) + 1) + 1) + 1) + 1) + 1) + 1) (some (.inl (0, 64, .inl (fun _ => 0))))) a0 29 (.ref (((((((n + 1) + 1) + 1) + 1) + 1) + 1) + 1))).bind fun h14 =>
 (gGr 1 h14 a0 22).bind fun x15 =>
 (sp_X2_init G F (va_up h14 ((((((((n + 1) + 1) + 1) + 1) + 1) + 1) + 1) + 1) (some (.inr (2, [.null, .null, .null, .null, .int 0, .int 0, .int 0, .int 0, .int 0, .int 0, .int 0, .int 0])))) (((((((((n + 1) + 1) + 1) + 1) + 1) + 1) + 1) + 1) + 1) ((((((((n + 1) + 1) + 1) + 1) + 1) + 1) + 1) + 1)).bind fun u17 =>
 (gSr 5 2 u17.1 x15 (0 : Int32) ((((((((n + 1) + 1) + 1) + 1) + 1) + 1) + 1) + 1)).bind fun h18 =>
 (gGr 1 h18 a0 22).bind fun x19 =>
 (sp_X2_init G F (va_up h18 u17.2 (some (.inr (2, [.null, .null, .null, .null, .int 0, .int 0, .int 0, .int 0, .int 0, .int 0, .int 0, .int 0])))) (u17.2 + 1) u17.2).bind fun u21 =>
 (gSr 5 2 u21.1 x19 (1 : Int32) u17.2).bind fun h22 =>
 (gGr 1 h22 a0 22).bind fun x23 =>
 (sp_X2_init G F (va_up h22 u21.2 (some (.inr (2, [.null, .null, .null, .null, .int 0, .int 0, .int 0, .int 0, .int 0, .int 0, .int 0, .int 0])))) (u21.2 + 1) u21.2).bind fun u25 =>
 (gSr 5 2 u25.1 x23 (2 : Int32) u21.2).bind fun h26 =>
 (gGr 1 h26 a0 22).bind fun x27 =>
 (sp_X2_init G F (va_up h26 u25.2 (some (.inr (2, [.null, .null, .null, .null, .int 0, .int 0, .int 0, .int 0, .int 0, .int 0, .int 0, .int 0])))) (u25.2 + 1) u25.2).bind fun u29 =>
 (gSr 5 2 u29.1 x27 (3 : Int32) u25.2).bind fun h30 =>
 (gGr 1 h30 a0 22).bind fun x31 =>
 (sp_X2_init G F (va_up h30 u29.2 (some (.inr (2, [.null, .null, .null, .null, .int 0, .int 0, .int 0, .int 0, .int 0, .int 0, .int 0, .int 0])))) (u29.2 + 1) u29.2).bind fun u33 =>
 (gSr 5 2 u33.1 x31 (4 : Int32) u29.2).bind fun h34 =>
 (gGr 1 h34 a0 22).bind fun x35 =>
 (sp_X2_init G F (va_up h34 u33.2 (some (.inr (2, [.null, .null, .null, .null, .int 0, .int 0, .int 0, .int 0, .int 0, .int 0, .int 0, .int 0])))) (u33.2 + 1) u33.2).bind fun u37 =>
 (gSr 5 2 u37.1 x35 (5 : Int32) u33.2).bind fun h38 =>
 (gGr 1 h38 a0 22).bind fun x39 =>
 (sp_X2_init G F (va_up h38 u37.2 (some (.inr (2, [.null, .null, .null, .null, .int 0, .int 0, .int 0, .int 0, .int 0, .int 0, .int 0, .int 0])))) (u37.2 + 1) u37.2).bind fun u41 =>
 (gSr 5 2 u41.1 x39 (6 : Int32) u37.2).bind fun h42 =>
 (gGr 1 h42 a0 22).bind fun x43 =>
 (sp_X2_init G F (va_up h42 u41.2 (some (.inr (2, [.null, .null, .null, .null, .int 0, .int 0, .int 0, .int 0, .int 0, .int 0, .int 0, .int 0])))) (u41.2 + 1) u41.2).bind fun u45 =>
 (gSr 5 2 u45.1 x43 (7 : Int32) u41.2).bind fun h46 =>
 (gGr 1 h46 a0 23).bind fun x47 =>
 (sp_X4_init G F (va_up h46 u45.2 (some (.inr (3, [.int 0, .int 0, .int 0])))) u45.2).bind fun u49 =>
 (gSr 6 3 (va_up h46 u45.2 (some (.inr (3, [.int 0, .int 0, .int 0])))) x47 (0 : Int32) u45.2).bind fun h50 =>
 (gGr 1 h50 a0 23).bind fun x51 =>
 (sp_X4_init G F (va_up h50 (u45.2 + 1) (some (.inr (3, [.int 0, .int 0, .int 0])))) (u45.2 + 1)).bind fun u53 =>
 (gSr 6 3 (va_up h50 (u45.2 + 1) (some (.inr (3, [.int 0, .int 0, .int 0])))) x51 (1 : Int32) (u45.2 + 1)).bind fun h54 =>
 (gGr 1 h54 a0 23).bind fun x55 =>
 (sp_X4_init G F (va_up h54 ((u45.2 + 1) + 1) (some (.inr (3, [.int 0, .int 0, .int 0])))) ((u45.2 + 1) + 1)).bind fun u57 =>
 (gSr 6 3 (va_up h54 ((u45.2 + 1) + 1) (some (.inr (3, [.int 0, .int 0, .int 0])))) x55 (2 : Int32) ((u45.2 + 1) + 1)).bind fun h58 =>
 (gGr 1 h58 a0 23).bind fun x59 =>
 (sp_X4_init G F (va_up h58 (((u45.2 + 1) + 1) + 1) (some (.inr (3, [.int 0, .int 0, .int 0])))) (((u45.2 + 1) + 1) + 1)).bind fun u61 =>
 (gSr 6 3 (va_up h58 (((u45.2 + 1) + 1) + 1) (some (.inr (3, [.int 0, .int 0, .int 0])))) x59 (3 : Int32) (((u45.2 + 1) + 1) + 1)).bind fun h62 =>
 (gGr 1 h62 a0 23).bind fun x63 =>
 (sp_X4_init G F (va_up h62 ((((u45.2 + 1) + 1) + 1) + 1) (some (.inr (3, [.int 0, .int 0, .int 0])))) ((((u45.2 + 1) + 1) + 1) + 1)).bind fun u65 =>
 (gSr 6 3 (va_up h62 ((((u45.2 + 1) + 1) + 1) + 1) (some (.inr (3, [.int 0, .int 0, .int 0])))) x63 (4 : Int32) ((((u45.2 + 1) + 1) + 1) + 1)).bind fun h66 =>
 (gGr 1 h66 a0 23).bind fun x67 =>
 (sp_X4_init G F (va_up h66 (((((u45.2 + 1) + 1) + 1) + 1) + 1) (some (.inr (3, [.int 0, .int 0, .int 0])))) (((((u45.2 + 1) + 1) + 1) + 1) + 1)).bind fun u69 =>
 (gSr 6 3 (va_up h66 (((((u45.2 + 1) + 1) + 1) + 1) + 1) (some (.inr (3, [.int 0, .int 0, .int 0])))) x67 (5 : Int32) (((((u45.2 + 1) + 1) + 1) + 1) + 1)).bind fun h70 =>
 (gGr 1 h70 a0 24).bind fun x71 =>
 (sp_X5_init G F (va_up h70 ((((((u45.2 + 1) + 1) + 1) + 1) + 1) + 1) (some (.inr (4, [.int 0, .int 0, .int 0])))) ((((((u45.2 + 1) + 1) + 1) + 1) + 1) + 1)).bind fun u73 =>
 (gSr 7 4 (va_up h70 ((((((u45.2 + 1) + 1) + 1) + 1) + 1) + 1) (some (.inr (4, [.int 0, .int 0, .int 0])))) x71 (0 : Int32) ((((((u45.2 + 1) + 1) + 1) + 1) + 1) + 1)).bind fun h74 =>
 (gGr 1 h74 a0 24).bind fun x75 =>
 (sp_X5_init G F (va_up h74 (((((((u45.2 + 1) + 1) + 1) + 1) + 1) + 1) + 1) (some (.inr (4, [.int 0, .int 0, .int 0])))) (((((((u45.2 + 1) + 1) + 1) + 1) + 1) + 1) + 1)).bind fun u77 =>
 (gSr 7 4 (va_up h74 (((((((u45.2 + 1) + 1) + 1) + 1) + 1) + 1) + 1) (some (.inr (4, [.int 0, .int 0, .int 0])))) x75 (1 : Int32) (((((((u45.2 + 1) + 1) + 1) + 1) + 1) + 1) + 1)).bind fun h78 =>
 (gGr 1 h78 a0 24).bind fun x79 =>
 (sp_X5_init G F (va_up h78 ((((((((u45.2 + 1) + 1) + 1) + 1) + 1) + 1) + 1) + 1) (some (.inr (4, [.int 0, .int 0, .int 0])))) ((((((((u45.2 + 1) + 1) + 1) + 1) + 1) + 1) + 1) + 1)).bind fun u81 =>
 (gSr 7 4 (va_up h78 ((((((((u45.2 + 1) + 1) + 1) + 1) + 1) + 1) + 1) + 1) (some (.inr (4, [.int 0, .int 0, .int 0])))) x79 (2 : Int32) ((((((((u45.2 + 1) + 1) + 1) + 1) + 1) + 1) + 1) + 1)).bind fun h82 =>
 (gGr 1 h82 a0 24).bind fun x83 =>
 (sp_X5_init G F (va_up h82 (((((((((u45.2 + 1) + 1) + 1) + 1) + 1) + 1) + 1) + 1) + 1) (some (.inr (4, [.int 0, .int 0, .int 0])))) (((((((((u45.2 + 1) + 1) + 1) + 1) + 1) + 1) + 1) + 1) + 1)).bind fun u85 =>
 (gSr 7 4 (va_up h82 (((((((((u45.2 + 1) + 1) + 1) + 1) + 1) + 1) + 1) + 1) + 1) (some (.inr (4, [.int 0, .int 0, .int 0])))) x83 (3 : Int32) (((((((((u45.2 + 1) + 1) + 1) + 1) + 1) + 1) + 1) + 1) + 1)).bind fun h86 =>
 (gGr 1 h86 a0 24).bind fun x87 =>
 (sp_X5_init G F (va_up h86 ((((((((((u45.2 + 1) + 1) + 1) + 1) + 1) + 1) + 1) + 1) + 1) + 1) (some (.inr (4, [.int 0, .int 0, .int 0])))) ((((((((((u45.2 + 1) + 1) + 1) + 1) + 1) + 1) + 1) + 1) + 1) + 1)).bind fun u89 =>
 (gSr 7 4 (va_up h86 ((((((((((u45.2 + 1) + 1) + 1) + 1) + 1) + 1) + 1) + 1) + 1) + 1) (some (.inr (4, [.int 0, .int 0, .int 0])))) x87 (4 : Int32) ((((((((((u45.2 + 1) + 1) + 1) + 1) + 1) + 1) + 1) + 1) + 1) + 1)).bind fun h90 =>
 (gGr 1 h90 a0 24).bind fun x91 =>
 (sp_X5_init G F (va_up h90 (((((((((((u45.2 + 1) + 1) + 1) + 1) + 1) + 1) + 1) + 1) + 1) + 1) + 1) (some (.inr (4, [.int 0, .int 0, .int 0])))) (((((((((((u45.2 + 1) + 1) + 1) + 1) + 1) + 1) + 1) + 1) + 1) + 1) + 1)).bind fun u93 =>
 (gSr 7 4 (va_up h90 (((((((((((u45.2 + 1) + 1) + 1) + 1) + 1) + 1) + 1) + 1) + 1) + 1) + 1) (some (.inr (4, [.int 0, .int 0, .int 0])))) x91 (5 : Int32) (((((((((((u45.2 + 1) + 1) + 1) + 1) + 1) + 1) + 1) + 1) + 1) + 1) + 1)).bind fun h94 =>
 (gGr 1 h94 a0 24).bind fun x95 =>
 (sp_X5_init G F (va_up h94 ((((((((((((u45.2 + 1) + 1) + 1) + 1) + 1) + 1) + 1) + 1) + 1) + 1) + 1) + 1) (some (.inr (4, [.int 0, .int 0, .int 0])))) ((((((((((((u45.2 + 1) + 1) + 1) + 1) + 1) + 1) + 1) + 1) + 1) + 1) + 1) + 1)).bind fun u97 =>
 (gSr 7 4 (va_up h94 ((((((((((((u45.2 + 1) + 1) + 1) + 1) + 1) + 1) + 1) + 1) + 1) + 1) + 1) + 1) (some (.inr (4, [.int 0, .int 0, .int 0])))) x95 (6 : Int32) ((((((((((((u45.2 + 1) + 1) + 1) + 1) + 1) + 1) + 1) + 1) + 1) + 1) + 1) + 1)).bind fun h98 =>
 (gGr 1 h98 a0 24).bind fun x99 =>
 (sp_X5_init G F (va_up h98 (((((((((((((u45.2 + 1) + 1) + 1) + 1) + 1) + 1) + 1) + 1) + 1) + 1) + 1) + 1) + 1) (some (.inr (4, [.int 0, .int 0, .int 0])))) (((((((((((((u45.2 + 1) + 1) + 1) + 1) + 1) + 1) + 1) + 1) + 1) + 1) + 1) + 1) + 1)).bind fun u101 =>
 (gSr 7 4 (va_up h98 (((((((((((((u45.2 + 1) + 1) + 1) + 1) + 1) + 1) + 1) + 1) + 1) + 1) + 1) + 1) + 1) (some (.inr (4, [.int 0, .int 0, .int 0])))) x99 (7 : Int32) (((((((((((((u45.2 + 1) + 1) + 1) + 1) + 1) + 1) + 1) + 1) + 1) + 1) + 1) + 1) + 1)).bind fun h102 =>
 (gGr 1 h102 a0 24).bind fun x103 =>
 (sp_X5_init G F (va_up h102 ((((((((((((((u45.2 + 1) + 1) + 1) + 1) + 1) + 1) + 1) + 1) + 1) + 1) + 1) + 1) + 1) + 1) (some (.inr (4, [.int 0, .int 0, .int 0])))) ((((((((((((((u45.2 + 1) + 1) + 1) + 1) + 1) + 1) + 1) + 1) + 1) + 1) + 1) + 1) + 1) + 1)).bind fun u105 =>
 (gSr 7 4 (va_up h102 ((((((((((((((u45.2 + 1) + 1) + 1) + 1) + 1) + 1) + 1) + 1) + 1) + 1) + 1) + 1) + 1) + 1) (some (.inr (4, [.int 0, .int 0, .int 0])))) x103 (8 : Int32) ((((((((((((((u45.2 + 1) + 1) + 1) + 1) + 1) + 1) + 1) + 1) + 1) + 1) + 1) + 1) + 1) + 1)).bind fun h106 =>
 (gGr 1 h106 a0 24).bind fun x107 =>
 (sp_X5_init G F (va_up h106 (((((((((((((((u45.2 + 1) + 1) + 1) + 1) + 1) + 1) + 1) + 1) + 1) + 1) + 1) + 1) + 1) + 1) + 1) (some (.inr (4, [.int 0, .int 0, .int 0])))) (((((((((((((((u45.2 + 1) + 1) + 1) + 1) + 1) + 1) + 1) + 1) + 1) + 1) + 1) + 1) + 1) + 1) + 1)).bind fun u109 =>
 (gSr 7 4 (va_up h106 (((((((((((((((u45.2 + 1) + 1) + 1) + 1) + 1) + 1) + 1) + 1) + 1) + 1) + 1) + 1) + 1) + 1) + 1) (some (.inr (4, [.int 0, .int 0, .int 0])))) x107 (9 : Int32) (((((((((((((((u45.2 + 1) + 1) + 1) + 1) + 1) + 1) + 1) + 1) + 1) + 1) + 1) + 1) + 1) + 1) + 1)).bind fun h110 =>
 (gGr 1 h110 a0 24).bind fun x111 =>
 (sp_X5_init G F (va_up h110 ((((((((((((((((u45.2 + 1) + 1) + 1) + 1) + 1) + 1) + 1) + 1) + 1) + 1) + 1) + 1) + 1) + 1) + 1) + 1) (some (.inr (4, [.int 0, .int 0, .int 0])))) ((((((((((((((((u45.2 + 1) + 1) + 1) + 1) + 1) + 1) + 1) + 1) + 1) + 1) + 1) + 1) + 1) + 1) + 1) + 1)).bind fun u113 =>
 (gSr 7 4 (va_up h110 ((((((((((((((((u45.2 + 1) + 1) + 1) + 1) + 1) + 1) + 1) + 1) + 1) + 1) + 1) + 1) + 1) + 1) + 1) + 1) (some (.inr (4, [.int 0, .int 0, .int 0])))) x111 (10 : Int32) ((((((((((((((((u45.2 + 1) + 1) + 1) + 1) + 1) + 1) + 1) + 1) + 1) + 1) + 1) + 1) + 1) + 1) + 1) + 1)).bind fun h114 =>
 (gGr 1 h114 a0 24).bind fun x115 =>
 (sp_X5_init G F (va_up h114 (((((((((((((((((u45.2 + 1) + 1) + 1) + 1) + 1) + 1) + 1) + 1) + 1) + 1) + 1) + 1) + 1) + 1) + 1) + 1) + 1) (some (.inr (4, [.int 0, .int 0, .int 0])))) (((((((((((((((((u45.2 + 1) + 1) + 1) + 1) + 1) + 1) + 1) + 1) + 1) + 1) + 1) + 1) + 1) + 1) + 1) + 1) + 1)).bind fun u117 =>
 (gSr 7 4 (va_up h114 (((((((((((((((((u45.2 + 1) + 1) + 1) + 1) + 1) + 1) + 1) + 1) + 1) + 1) + 1) + 1) + 1) + 1) + 1) + 1) + 1) (some (.inr (4, [.int 0, .int 0, .int 0])))) x115 (11 : Int32) (((((((((((((((((u45.2 + 1) + 1) + 1) + 1) + 1) + 1) + 1) + 1) + 1) + 1) + 1) + 1) + 1) + 1) + 1) + 1) + 1)).bind fun h118 =>
 (gGr 1 h118 a0 24).bind fun x119 =>
 (sp_X5_init G F (va_up h118 ((((((((((((((((((u45.2 + 1) + 1) + 1) + 1) + 1) + 1) + 1) + 1) + 1) + 1) + 1) + 1) + 1) + 1) + 1) + 1) + 1) + 1) (some (.inr (4, [.int 0, .int 0, .int 0])))) ((((((((((((((((((u45.2 + 1) + 1) + 1) + 1) + 1) + 1) + 1) + 1) + 1) + 1) + 1) + 1) + 1) + 1) + 1) + 1) + 1) + 1)).bind fun u121 =>
 (gSr 7 4 (va_up h118 ((((((((((((((((((u45.2 + 1) + 1) + 1) + 1) + 1) + 1) + 1) + 1) + 1) + 1) + 1) + 1) + 1) + 1) + 1) + 1) + 1) + 1) (some (.inr (4, [.int 0, .int 0, .int 0])))) x119 (12 : Int32) ((((((((((((((((((u45.2 + 1) + 1) + 1) + 1) + 1) + 1) + 1) + 1) + 1) + 1) + 1) + 1) + 1) + 1) + 1) + 1) + 1) + 1)).bind fun h122 =>
 (gGr 1 h122 a0 24).bind fun x123 =>
 (sp_X5_init G F (va_up h122 (((((((((((((((((((u45.2 + 1) + 1) + 1) + 1) + 1) + 1) + 1) + 1) + 1) + 1) + 1) + 1) + 1) + 1) + 1) + 1) + 1) + 1) + 1) (some (.inr (4, [.int 0, .int 0, .int 0])))) (((((((((((((((((((u45.2 + 1) + 1) + 1) + 1) + 1) + 1) + 1) + 1) + 1) + 1) + 1) + 1) + 1) + 1) + 1) + 1) + 1) + 1) + 1)).bind fun u125 =>
 (gSr 7 4 (va_up h122 (((((((((((((((((((u45.2 + 1) + 1) + 1) + 1) + 1) + 1) + 1) + 1) + 1) + 1) + 1) + 1) + 1) + 1) + 1) + 1) + 1) + 1) + 1) (some (.inr (4, [.int 0, .int 0, .int 0])))) x123 (13 : Int32) (((((((((((((((((((u45.2 + 1) + 1) + 1) + 1) + 1) + 1) + 1) + 1) + 1) + 1) + 1) + 1) + 1) + 1) + 1) + 1) + 1) + 1) + 1)).bind fun h126 =>
 (gGr 1 h126 a0 24).bind fun x127 =>
 (sp_X5_init G F (va_up h126 ((((((((((((((((((((u45.2 + 1) + 1) + 1) + 1) + 1) + 1) + 1) + 1) + 1) + 1) + 1) + 1) + 1) + 1) + 1) + 1) + 1) + 1) + 1) + 1) (some (.inr (4, [.int 0, .int 0, .int 0])))) ((((((((((((((((((((u45.2 + 1) + 1) + 1) + 1) + 1) + 1) + 1) + 1) + 1) + 1) + 1) + 1) + 1) + 1) + 1) + 1) + 1) + 1) + 1) + 1)).bind fun u129 =>
 (gSr 7 4 (va_up h126 ((((((((((((((((((((u45.2 + 1) + 1) + 1) + 1) + 1) + 1) + 1) + 1) + 1) + 1) + 1) + 1) + 1) + 1) + 1) + 1) + 1) + 1) + 1) + 1) (some (.inr (4, [.int 0, .int 0, .int 0])))) x127 (14 : Int32) ((((((((((((((((((((u45.2 + 1) + 1) + 1) + 1) + 1) + 1) + 1) + 1) + 1) + 1) + 1) + 1) + 1) + 1) + 1) + 1) + 1) + 1) + 1) + 1)).bind fun h130 =>
 (gGr 1 h130 a0 24).bind fun x131 =>
 (sp_X5_init G F (va_up h130 (((((((((((((((((((((u45.2 + 1) + 1) + 1) + 1) + 1) + 1) + 1) + 1) + 1) + 1) + 1) + 1) + 1) + 1) + 1) + 1) + 1) + 1) + 1) + 1) + 1) (some (.inr (4, [.int 0, .int 0, .int 0])))) (((((((((((((((((((((u45.2 + 1) + 1) + 1) + 1) + 1) + 1) + 1) + 1) + 1) + 1) + 1) + 1) + 1) + 1) + 1) + 1) + 1) + 1) + 1) + 1) + 1)).bind fun u133 =>
 (gSr 7 4 (va_up h130 (((((((((((((((((((((u45.2 + 1) + 1) + 1) + 1) + 1) + 1) + 1) + 1) + 1) + 1) + 1) + 1) + 1) + 1) + 1) + 1) + 1) + 1) + 1) + 1) + 1) (some (.inr (4, [.int 0, .int 0, .int 0])))) x131 (15 : Int32) (((((((((((((((((((((u45.2 + 1) + 1) + 1) + 1) + 1) + 1) + 1) + 1) + 1) + 1) + 1) + 1) + 1) + 1) + 1) + 1) + 1) + 1) + 1) + 1) + 1)).bind fun h134 =>
 (gGr 1 h134 a0 24).bind fun x135 =>
 (sp_X5_init G F (va_up h134 ((((((((((((((((((((((u45.2 + 1) + 1) + 1) + 1) + 1) + 1) + 1) + 1) + 1) + 1) + 1) + 1) + 1) + 1) + 1) + 1) + 1) + 1) + 1) + 1) + 1) + 1) (some (.inr (4, [.int 0, .int 0, .int 0])))) ((((((((((((((((((((((u45.2 + 1) + 1) + 1) + 1) + 1) + 1) + 1) + 1) + 1) + 1) + 1) + 1) + 1) + 1) + 1) + 1) + 1) + 1) + 1) + 1) + 1) + 1)).bind fun u137 =>
 (gSr 7 4 (va_up h134 ((((((((((((((((((((((u45.2 + 1) + 1) + 1) + 1) + 1) + 1) + 1) + 1) + 1) + 1) + 1) + 1) + 1) + 1) + 1) + 1) + 1) + 1) + 1) + 1) + 1) + 1) (some (.inr (4, [.int 0, .int 0, .int 0])))) x135 (16 : Int32) ((((((((((((((((((((((u45.2 + 1) + 1) + 1) + 1) + 1) + 1) + 1) + 1) + 1) + 1) + 1) + 1) + 1) + 1) + 1) + 1) + 1) + 1) + 1) + 1) + 1) + 1)).bind fun h138 =>
 (gGr 1 h138 a0 24).bind fun x139 =>
 (sp_X5_init G F (va_up h138 (((((((((((((((((((((((u45.2 + 1) + 1) + 1) + 1) + 1) + 1) + 1) + 1) + 1) + 1) + 1) + 1) + 1) + 1) + 1) + 1) + 1) + 1) + 1) + 1) + 1) + 1) + 1) (some (.inr (4, [.int 0, .int 0, .int 0])))) (((((((((((((((((((((((u45.2 + 1) + 1) + 1) + 1) + 1) + 1) + 1) + 1) + 1) + 1) + 1) + 1) + 1) + 1) + 1) + 1) + 1) + 1) + 1) + 1) + 1) + 1) + 1)).bind fun u141 =>
 (gSr 7 4 (va_up h138 (((((((((((((((((((((((u45.2 + 1) + 1) + 1) + 1) + 1) + 1) + 1) + 1) + 1) + 1) + 1) + 1) + 1) + 1) + 1) + 1) + 1) + 1) + 1) + 1) + 1) + 1) + 1) (some (.inr (4, [.int 0, .int 0, .int 0])))) x139 (17 : Int32) (((((((((((((((((((((((u45.2 + 1) + 1) + 1) + 1) + 1) + 1) + 1) + 1) + 1) + 1) + 1) + 1) + 1) + 1) + 1) + 1) + 1) + 1) + 1) + 1) + 1) + 1) + 1)).bind fun h142 =>
 (gGr 1 h142 a0 24).bind fun x143 =>
 (sp_X5_init G F (va_up h142 ((((((((((((((((((((((((u45.2 + 1) + 1) + 1) + 1) + 1) + 1) + 1) + 1) + 1) + 1) + 1) + 1) + 1) + 1) + 1) + 1) + 1) + 1) + 1) + 1) + 1) + 1) + 1) + 1) (some (.inr (4, [.int 0, .int 0, .int 0])))) ((((((((((((((((((((((((u45.2 + 1) + 1) + 1) + 1) + 1) + 1) + 1) + 1) + 1) + 1) + 1) + 1) + 1) + 1) + 1) + 1) + 1) + 1) + 1) + 1) + 1) + 1) + 1) + 1)).bind fun u145 =>
 (gSr 7 4 (va_up h142 ((((((((((((((((((((((((u45.2 + 1) + 1) + 1) + 1) + 1) + 1) + 1) + 1) + 1) + 1) + 1) + 1) + 1) + 1) + 1) + 1) + 1) + 1) + 1) + 1) + 1) + 1) + 1) + 1) (some (.inr (4, [.int 0, .int 0, .int 0])))) x143 (18 : Int32) ((((((((((((((((((((((((u45.2 + 1) + 1) + 1) + 1) + 1) + 1) + 1) + 1) + 1) + 1) + 1) + 1) + 1) + 1) + 1) + 1) + 1) + 1) + 1) + 1) + 1) + 1) + 1) + 1)).bind fun h146 =>
 (gGr 1 h146 a0 24).bind fun x147 =>
 (sp_X5_init G F (va_up h146 (((((((((((((((((((((((((u45.2 + 1) + 1) + 1) + 1) + 1) + 1) + 1) + 1) + 1) + 1) + 1) + 1) + 1) + 1) + 1) + 1) + 1) + 1) + 1) + 1) + 1) + 1) + 1) + 1) + 1) (some (.inr (4, [.int 0, .int 0, .int 0])))) (((((((((((((((((((((((((u45.2 + 1) + 1) + 1) + 1) + 1) + 1) + 1) + 1) + 1) + 1) + 1) + 1) + 1) + 1) + 1) + 1) + 1) + 1) + 1) + 1) + 1) + 1) + 1) + 1) + 1)).bind fun u149 =>
 (gSr 7 4 (va_up h146 (((((((((((((((((((((((((u45.2 + 1) + 1) + 1) + 1) + 1) + 1) + 1) + 1) + 1) + 1) + 1) + 1) + 1) + 1) + 1) + 1) + 1) + 1) + 1) + 1) + 1) + 1) + 1) + 1) + 1) (some (.inr (4, [.int 0, .int 0, .int 0])))) x147 (19 : Int32) (((((((((((((((((((((((((u45.2 + 1) + 1) + 1) + 1) + 1) + 1) + 1) + 1) + 1) + 1) + 1) + 1) + 1) + 1) + 1) + 1) + 1) + 1) + 1) + 1) + 1) + 1) + 1) + 1) + 1)).bind fun h150 =>
 (gGr 1 h150 a0 24).bind fun x151 =>
 (sp_X5_init G F (va_up h150 ((((((((((((((((((((((((((u45.2 + 1) + 1) + 1) + 1) + 1) + 1) + 1) + 1) + 1) + 1) + 1) + 1) + 1) + 1) + 1) + 1) + 1) + 1) + 1) + 1) + 1) + 1) + 1) + 1) + 1) + 1) (some (.inr (4, [.int 0, .int 0, .int 0])))) ((((((((((((((((((((((((((u45.2 + 1) + 1) + 1) + 1) + 1) + 1) + 1) + 1) + 1) + 1) + 1) + 1) + 1) + 1) + 1) + 1) + 1) + 1) + 1) + 1) + 1) + 1) + 1) + 1) + 1) + 1)).bind fun u153 =>
 (gSr 7 4 (va_up h150 ((((((((((((((((((((((((((u45.2 + 1) + 1) + 1) + 1) + 1) + 1) + 1) + 1) + 1) + 1) + 1) + 1) + 1) + 1) + 1) + 1) + 1) + 1) + 1) + 1) + 1) + 1) + 1) + 1) + 1) + 1) (some (.inr (4, [.int 0, .int 0, .int 0])))) x151 (20 : Int32) ((((((((((((((((((((((((((u45.2 + 1) + 1) + 1) + 1) + 1) + 1) + 1) + 1) + 1) + 1) + 1) + 1) + 1) + 1) + 1) + 1) + 1) + 1) + 1) + 1) + 1) + 1) + 1) + 1) + 1) + 1)).bind fun h154 =>
 (gGr 1 h154 a0 24).bind fun x155 =>
 (sp_X5_init G F (va_up h154 (((((((((((((((((((((((((((u45.2 + 1) + 1) + 1) + 1) + 1) + 1) + 1) + 1) + 1) + 1) + 1) + 1) + 1) + 1) + 1) + 1) + 1) + 1) + 1) + 1) + 1) + 1) + 1) + 1) + 1) + 1) + 1) (some (.inr (4, [.int 0, .int 0, .int 0])))) (((((((((((((((((((((((((((u45.2 + 1) + 1) + 1) + 1) + 1) + 1) + 1) + 1) + 1) + 1) + 1) + 1) + 1) + 1) + 1) + 1) + 1) + 1) + 1) + 1) + 1) + 1) + 1) + 1) + 1) + 1) + 1)).bind fun u157 =>
 (gSr 7 4 (va_up h154 (((((((((((((((((((((((((((u45.2 + 1) + 1) + 1) + 1) + 1) + 1) + 1) + 1) + 1) + 1) + 1) + 1) + 1) + 1) + 1) + 1) + 1) + 1) + 1) + 1) + 1) + 1) + 1) + 1) + 1) + 1) + 1) (some (.inr (4, [.int 0, .int 0, .int 0])))) x155 (21 : Int32) (((((((((((((((((((((((((((u45.2 + 1) + 1) + 1) + 1) + 1) + 1) + 1) + 1) + 1) + 1) + 1) + 1) + 1) + 1) + 1) + 1) + 1) + 1) + 1) + 1) + 1) + 1) + 1) + 1) + 1) + 1) + 1)).bind fun h158 =>
 (gGr 1 h158 a0 24).bind fun x159 =>
 (sp_X5_init G F (va_up h158 ((((((((((((((((((((((((((((u45.2 + 1) + 1) + 1) + 1) + 1) + 1) + 1) + 1) + 1) + 1) + 1) + 1) + 1) + 1) + 1) + 1) + 1) + 1) + 1) + 1) + 1) + 1) + 1) + 1) + 1) + 1) + 1) + 1) (some (.inr (4, [.int 0, .int 0, .int 0])))) ((((((((((((((((((((((((((((u45.2 + 1) + 1) + 1) + 1) + 1) + 1) + 1) + 1) + 1) + 1) + 1) + 1) + 1) + 1) + 1) + 1) + 1) + 1) + 1) + 1) + 1) + 1) + 1) + 1) + 1) + 1) + 1) + 1)).bind fun u161 =>
 (gSr 7 4 (va_up h158 ((((((((((((((((((((((((((((u45.2 + 1) + 1) + 1) + 1) + 1) + 1) + 1) + 1) + 1) + 1) + 1) + 1) + 1) + 1) + 1) + 1) + 1) + 1) + 1) + 1) + 1) + 1) + 1) + 1) + 1) + 1) + 1) + 1) (some (.inr (4, [.int 0, .int 0, .int 0])))) x159 (22 : Int32) ((((((((((((((((((((((((((((u45.2 + 1) + 1) + 1) + 1) + 1) + 1) + 1) + 1) + 1) + 1) + 1) + 1) + 1) + 1) + 1) + 1) + 1) + 1) + 1) + 1) + 1) + 1) + 1) + 1) + 1) + 1) + 1) + 1)).bind fun h162 =>
 (gGr 1 h162 a0 24).bind fun x163 =>
 (sp_X5_init G F (va_up h162 (((((((((((((((((((((((((((((u45.2 + 1) + 1) + 1) + 1) + 1) + 1) + 1) + 1) + 1) + 1) + 1) + 1) + 1) + 1) + 1) + 1) + 1) + 1) + 1) + 1) + 1) + 1) + 1) + 1) + 1) + 1) + 1) + 1) + 1) (some (.inr (4, [.int 0, .int 0, .int 0])))) (((((((((((((((((((((((((((((u45.2 + 1) + 1) + 1) + 1) + 1) + 1) + 1) + 1) + 1) + 1) + 1) + 1) + 1) + 1) + 1) + 1) + 1) + 1) + 1) + 1) + 1) + 1) + 1) + 1) + 1) + 1) + 1) + 1) + 1)).bind fun u165 =>
 (gSr 7 4 (va_up h162 (((((((((((((((((((((((((((((u45.2 + 1) + 1) + 1) + 1) + 1) + 1) + 1) + 1) + 1) + 1) + 1) + 1) + 1) + 1) + 1) + 1) + 1) + 1) + 1) + 1) + 1) + 1) + 1) + 1) + 1) + 1) + 1) + 1) + 1) (some (.inr (4, [.int 0, .int 0, .int 0])))) x163 (23 : Int32) (((((((((((((((((((((((((((((u45.2 + 1) + 1) + 1) + 1) + 1) + 1) + 1) + 1) + 1) + 1) + 1) + 1) + 1) + 1) + 1) + 1) + 1) + 1) + 1) + 1) + 1) + 1) + 1) + 1) + 1) + 1) + 1) + 1) + 1)).bind fun h166 =>
 (gGr 1 h166 a0 25).bind fun x167 =>
 (sp_X5_init G F (va_up h166 ((((((((((((((((((((((((((((((u45.2 + 1) + 1) + 1) + 1) + 1) + 1) + 1) + 1) + 1) + 1) + 1) + 1) + 1) + 1) + 1) + 1) + 1) + 1) + 1) + 1) + 1) + 1) + 1) + 1) + 1) + 1) + 1) + 1) + 1) + 1) (some (.inr (4, [.int 0, .int 0, .int 0])))) ((((((((((((((((((((((((((((((u45.2 + 1) + 1) + 1) + 1) + 1) + 1) + 1) + 1) + 1) + 1) + 1) + 1) + 1) + 1) + 1) + 1) + 1) + 1) + 1) + 1) + 1) + 1) + 1) + 1) + 1) + 1) + 1) + 1) + 1) + 1)).bind fun u169 =>
 (gSr 7 4 (va_up h166 ((((((((((((((((((((((((((((((u45.2 + 1) + 1) + 1) + 1) + 1) + 1) + 1) + 1) + 1) + 1) + 1) + 1) + 1) + 1) + 1) + 1) + 1) + 1) + 1) + 1) + 1) + 1) + 1) + 1) + 1) + 1) + 1) + 1) + 1) + 1) (some (.inr (4, [.int 0, .int 0, .int 0])))) x167 (0 : Int32) ((((((((((((((((((((((((((((((u45.2 + 1) + 1) + 1) + 1) + 1) + 1) + 1) + 1) + 1) + 1) + 1) + 1) + 1) + 1) + 1) + 1) + 1) + 1) + 1) + 1) + 1) + 1) + 1) + 1) + 1) + 1) + 1) + 1) + 1) + 1)).bind fun h170 =>
 (gGr 1 h170 a0 25).bind fun x171 =>
 (sp_X5_init G F (va_up h170 (((((((((((((((((((((((((((((((u45.2 + 1) + 1) + 1) + 1) + 1) + 1) + 1) + 1) + 1) + 1) + 1) + 1) + 1) + 1) + 1) + 1) + 1) + 1) + 1) + 1) + 1) + 1) + 1) + 1) + 1) + 1) + 1) + 1) + 1) + 1) + 1) (some (.inr (4, [.int 0, .int 0, .int 0])))) (((((((((((((((((((((((((((((((u45.2 + 1) + 1) + 1) + 1) + 1) + 1) + 1) + 1) + 1) + 1) + 1) + 1) + 1) + 1) + 1) + 1) + 1) + 1) + 1) + 1) + 1) + 1) + 1) + 1) + 1) + 1) + 1) + 1) + 1) + 1) + 1)).bind fun u173 =>
 (gSr 7 4 (va_up h170 (((((((((((((((((((((((((((((((u45.2 + 1) + 1) + 1) + 1) + 1) + 1) + 1) + 1) + 1) + 1) + 1) + 1) + 1) + 1) + 1) + 1) + 1) + 1) + 1) + 1) + 1) + 1) + 1) + 1) + 1) + 1) + 1) + 1) + 1) + 1) + 1) (some (.inr (4, [.int 0, .int 0, .int 0])))) x171 (1 : Int32) (((((((((((((((((((((((((((((((u45.2 + 1) + 1) + 1) + 1) + 1) + 1) + 1) + 1) + 1) + 1) + 1) + 1) + 1) + 1) + 1) + 1) + 1) + 1) + 1) + 1) + 1) + 1) + 1) + 1) + 1) + 1) + 1) + 1) + 1) + 1) + 1)).bind fun h174 =>
 (gGr 1 h174 a0 25).bind fun x175 =>
 (sp_X5_init G F (va_up h174 ((((((((((((((((((((((((((((((((u45.2 + 1) + 1) + 1) + 1) + 1) + 1) + 1) + 1) + 1) + 1) + 1) + 1) + 1) + 1) + 1) + 1) + 1) + 1) + 1) + 1) + 1) + 1) + 1) + 1) + 1) + 1) + 1) + 1) + 1) + 1) + 1) + 1) (some (.inr (4, [.int 0, .int 0, .int 0])))) ((((((((((((((((((((((((((((((((u45.2 + 1) + 1) + 1) + 1) + 1) + 1) + 1) + 1) + 1) + 1) + 1) + 1) + 1) + 1) + 1) + 1) + 1) + 1) + 1) + 1) + 1) + 1) + 1) + 1) + 1) + 1) + 1) + 1) + 1) + 1) + 1) + 1)).bind fun u177 =>
 (gSr 7 4 (va_up h174 ((((((((((((((((((((((((((((((((u45.2 + 1) + 1) + 1) + 1) + 1) + 1) + 1) + 1) + 1) + 1) + 1) + 1) + 1) + 1) + 1) + 1) + 1) + 1) + 1) + 1) + 1) + 1) + 1) + 1) + 1) + 1) + 1) + 1) + 1) + 1) + 1) + 1) (some (.inr (4, [.int 0, .int 0, .int 0])))) x175 (2 : Int32) ((((((((((((((((((((((((((((((((u45.2 + 1) + 1) + 1) + 1) + 1) + 1) + 1) + 1) + 1) + 1) + 1) + 1) + 1) + 1) + 1) + 1) + 1) + 1) + 1) + 1) + 1) + 1) + 1) + 1) + 1) + 1) + 1) + 1) + 1) + 1) + 1) + 1)).bind fun h178 =>
 (gGr 1 h178 a0 25).bind fun x179 =>
 (sp_X5_init G F (va_up h178 (((((((((((((((((((((((((((((((((u45.2 + 1) + 1) + 1) + 1) + 1) + 1) + 1) + 1) + 1) + 1) + 1) + 1) + 1) + 1) + 1) + 1) + 1) + 1) + 1) + 1) + 1) + 1) + 1) + 1) + 1) + 1) + 1) + 1) + 1) + 1) + 1) + 1) + 1) (some (.inr (4, [.int 0, .int 0, .int 0])))) (((((((((((((((((((((((((((((((((u45.2 + 1) + 1) + 1) + 1) + 1) + 1) + 1) + 1) + 1) + 1) + 1) + 1) + 1) + 1) + 1) + 1) + 1) + 1) + 1) + 1) + 1) + 1) + 1) + 1) + 1) + 1) + 1) + 1) + 1) + 1) + 1) + 1) + 1)).bind fun u181 =>
 (gSr 7 4 (va_up h178 (((((((((((((((((((((((((((((((((u45.2 + 1) + 1) + 1) + 1) + 1) + 1) + 1) + 1) + 1) + 1) + 1) + 1) + 1) + 1) + 1) + 1) + 1) + 1) + 1) + 1) + 1) + 1) + 1) + 1) + 1) + 1) + 1) + 1) + 1) + 1) + 1) + 1) + 1) (some (.inr (4, [.int 0, .int 0, .int 0])))) x179 (3 : Int32) (((((((((((((((((((((((((((((((((u45.2 + 1) + 1) + 1) + 1) + 1) + 1) + 1) + 1) + 1) + 1) + 1) + 1) + 1) + 1) + 1) + 1) + 1) + 1) + 1) + 1) + 1) + 1) + 1) + 1) + 1) + 1) + 1) + 1) + 1) + 1) + 1) + 1) + 1)).bind fun h182 =>
 (gGr 1 h182 a0 25).bind fun x183 =>
 (sp_X5_init G F (va_up h182 ((((((((((((((((((((((((((((((((((u45.2 + 1) + 1) + 1) + 1) + 1) + 1) + 1) + 1) + 1) + 1) + 1) + 1) + 1) + 1) + 1) + 1) + 1) + 1) + 1) + 1) + 1) + 1) + 1) + 1) + 1) + 1) + 1) + 1) + 1) + 1) + 1) + 1) + 1) + 1) (some (.inr (4, [.int 0, .int 0, .int 0])))) ((((((((((((((((((((((((((((((((((u45.2 + 1) + 1) + 1) + 1) + 1) + 1) + 1) + 1) + 1) + 1) + 1) + 1) + 1) + 1) + 1) + 1) + 1) + 1) + 1) + 1) + 1) + 1) + 1) + 1) + 1) + 1) + 1) + 1) + 1) + 1) + 1) + 1) + 1) + 1)).bind fun u185 =>
 (gSr 7 4 (va_up h182 ((((((((((((((((((((((((((((((((((u45.2 + 1) + 1) + 1) + 1) + 1) + 1) + 1) + 1) + 1) + 1) + 1) + 1) + 1) + 1) + 1) + 1) + 1) + 1) + 1) + 1) + 1) + 1) + 1) + 1) + 1) + 1) + 1) + 1) + 1) + 1) + 1) + 1) + 1) + 1) (some (.inr (4, [.int 0, .int 0, .int 0])))) x183 (4 : Int32) ((((((((((((((((((((((((((((((((((u45.2 + 1) + 1) + 1) + 1) + 1) + 1) + 1) + 1) + 1) + 1) + 1) + 1) + 1) + 1) + 1) + 1) + 1) + 1) + 1) + 1) + 1) + 1) + 1) + 1) + 1) + 1) + 1) + 1) + 1) + 1) + 1) + 1) + 1) + 1)).bind fun h186 =>
 (gGr 1 h186 a0 25).bind fun x187 =>
 (sp_X5_init G F (va_up h186 (((((((((((((((((((((((((((((((((((u45.2 + 1) + 1) + 1) + 1) + 1) + 1) + 1) + 1) + 1) + 1) + 1) + 1) + 1) + 1) + 1) + 1) + 1) + 1) + 1) + 1) + 1) + 1) + 1) + 1) + 1) + 1) + 1) + 1) + 1) + 1) + 1) + 1) + 1) + 1) + 1) (some (.inr (4, [.int 0, .int 0, .int 0])))) (((((((((((((((((((((((((((((((((((u45.2 + 1) + 1) + 1) + 1) + 1) + 1) + 1) + 1) + 1) + 1) + 1) + 1) + 1) + 1) + 1) + 1) + 1) + 1) + 1) + 1) + 1) + 1) + 1) + 1) + 1) + 1) + 1) + 1) + 1) + 1) + 1) + 1) + 1) + 1) + 1)).bind fun u189 =>
 (gSr 7 4 (va_up h186 (((((((((((((((((((((((((((((((((((u45.2 + 1) + 1) + 1) + 1) + 1) + 1) + 1) + 1) + 1) + 1) + 1) + 1) + 1) + 1) + 1) + 1) + 1) + 1) + 1) + 1) + 1) + 1) + 1) + 1) + 1) + 1) + 1) + 1) + 1) + 1) + 1) + 1) + 1) + 1) + 1) (some (.inr (4, [.int 0, .int 0, .int 0])))) x187 (5 : Int32) (((((((((((((((((((((((((((((((((((u45.2 + 1) + 1) + 1) + 1) + 1) + 1) + 1) + 1) + 1) + 1) + 1) + 1) + 1) + 1) + 1) + 1) + 1) + 1) + 1) + 1) + 1) + 1) + 1) + 1) + 1) + 1) + 1) + 1) + 1) + 1) + 1) + 1) + 1) + 1) + 1)).bind fun h190 =>
 (gGr 1 h190 a0 25).bind fun x191 =>
 (sp_X5_init G F (va_up h190 ((((((((((((((((((((((((((((((((((((u45.2 + 1) + 1) + 1) + 1) + 1) + 1) + 1) + 1) + 1) + 1) + 1) + 1) + 1) + 1) + 1) + 1) + 1) + 1) + 1) + 1) + 1) + 1) + 1) + 1) + 1) + 1) + 1) + 1) + 1) + 1) + 1) + 1) + 1) + 1) + 1) + 1) (some (.inr (4, [.int 0, .int 0, .int 0])))) ((((((((((((((((((((((((((((((((((((u45.2 + 1) + 1) + 1) + 1) + 1) + 1) + 1) + 1) + 1) + 1) + 1) + 1) + 1) + 1) + 1) + 1) + 1) + 1) + 1) + 1) + 1) + 1) + 1) + 1) + 1) + 1) + 1) + 1) + 1) + 1) + 1) + 1) + 1) + 1) + 1) + 1)).bind fun u193 =>
 (gSr 7 4 (va_up h190 ((((((((((((((((((((((((((((((((((((u45.2 + 1) + 1) + 1) + 1) + 1) + 1) + 1) + 1) + 1) + 1) + 1) + 1) + 1) + 1) + 1) + 1) + 1) + 1) + 1) + 1) + 1) + 1) + 1) + 1) + 1) + 1) + 1) + 1) + 1) + 1) + 1) + 1) + 1) + 1) + 1) + 1) (some (.inr (4, [.int 0, .int 0, .int 0])))) x191 (6 : Int32) ((((((((((((((((((((((((((((((((((((u45.2 + 1) + 1) + 1) + 1) + 1) + 1) + 1) + 1) + 1) + 1) + 1) + 1) + 1) + 1) + 1) + 1) + 1) + 1) + 1) + 1) + 1) + 1) + 1) + 1) + 1) + 1) + 1) + 1) + 1) + 1) + 1) + 1) + 1) + 1) + 1) + 1)).bind fun h194 =>
 (gGr 1 h194 a0 25).bind fun x195 =>
 (sp_X5_init G F (va_up h194 (((((((((((((((((((((((((((((((((((((u45.2 + 1) + 1) + 1) + 1) + 1) + 1) + 1) + 1) + 1) + 1) + 1) + 1) + 1) + 1) + 1) + 1) + 1) + 1) + 1) + 1) + 1) + 1) + 1) + 1) + 1) + 1) + 1) + 1) + 1) + 1) + 1) + 1) + 1) + 1) + 1) + 1) + 1) (some (.inr (4, [.int 0, .int 0, .int 0])))) (((((((((((((((((((((((((((((((((((((u45.2 + 1) + 1) + 1) + 1) + 1) + 1) + 1) + 1) + 1) + 1) + 1) + 1) + 1) + 1) + 1) + 1) + 1) + 1) + 1) + 1) + 1) + 1) + 1) + 1) + 1) + 1) + 1) + 1) + 1) + 1) + 1) + 1) + 1) + 1) + 1) + 1) + 1)).bind fun u197 =>
 (gSr 7 4 (va_up h194 (((((((((((((((((((((((((((((((((((((u45.2 + 1) + 1) + 1) + 1) + 1) + 1) + 1) + 1) + 1) + 1) + 1) + 1) + 1) + 1) + 1) + 1) + 1) + 1) + 1) + 1) + 1) + 1) + 1) + 1) + 1) + 1) + 1) + 1) + 1) + 1) + 1) + 1) + 1) + 1) + 1) + 1) + 1) (some (.inr (4, [.int 0, .int 0, .int 0])))) x195 (7 : Int32) (((((((((((((((((((((((((((((((((((((u45.2 + 1) + 1) + 1) + 1) + 1) + 1) + 1) + 1) + 1) + 1) + 1) + 1) + 1) + 1) + 1) + 1) + 1) + 1) + 1) + 1) + 1) + 1) + 1) + 1) + 1) + 1) + 1) + 1) + 1) + 1) + 1) + 1) + 1) + 1) + 1) + 1) + 1)).bind fun h198 =>
 (gGr 1 h198 a0 26).bind fun x199 =>
 (sp_X6_init G F (va_up h198 ((((((((((((((((((((((((((((((((((((((u45.2 + 1) + 1) + 1) + 1) + 1) + 1) + 1) + 1) + 1) + 1) + 1) + 1) + 1) + 1) + 1) + 1) + 1) + 1) + 1) + 1) + 1) + 1) + 1) + 1) + 1) + 1) + 1) + 1) + 1) + 1) + 1) + 1) + 1) + 1) + 1) + 1) + 1) + 1) (some (.inr (5, [.null])))) (((((((((((((((((((((((((((((((((((((((u45.2 + 1) + 1) + 1) + 1) + 1) + 1) + 1) + 1) + 1) + 1) + 1) + 1) + 1) + 1) + 1) + 1) + 1) + 1) + 1) + 1) + 1) + 1) + 1) + 1) + 1) + 1) + 1) + 1) + 1) + 1) + 1) + 1) + 1) + 1) + 1) + 1) + 1) + 1) + 1) ((((((((((((((((((((((((((((((((((((((u45.2 + 1) + 1) + 1) + 1) + 1) + 1) + 1) + 1) + 1) + 1) + 1) + 1) + 1) + 1) + 1) + 1) + 1) + 1) + 1) + 1) + 1) + 1) + 1) + 1) + 1) + 1) + 1) + 1) + 1) + 1) + 1) + 1) + 1) + 1) + 1) + 1) + 1) + 1)).bind fun u201 =>
 (gSr 8 5 u201.1 x199 (0 : Int32) ((((((((((((((((((((((((((((((((((((((u45.2 + 1) + 1) + 1) + 1) + 1) + 1) + 1) + 1) + 1) + 1) + 1) + 1) + 1) + 1) + 1) + 1) + 1) + 1) + 1) + 1) + 1) + 1) + 1) + 1) + 1) + 1) + 1) + 1) + 1) + 1) + 1) + 1) + 1) + 1) + 1) + 1) + 1) + 1)).bind fun h202 =>
 (gGr 1 h202 a0 26).bind fun x203 =>
 (sp_X6_init G F (va_up h202 u201.2 (some (.inr (5, [.null])))) (u201.2 + 1) u201.2).bind fun u205 =>
 (gSr 8 5 u205.1 x203 (1 : Int32) u201.2).bind fun h206 =>
 (gGr 1 h206 a0 26).bind fun x207 =>
 (sp_X6_init G F (va_up h206 u205.2 (some (.inr (5, [.null])))) (u205.2 + 1) u205.2).bind fun u209 =>
 (gSr 8 5 u209.1 x207 (2 : Int32) u205.2).bind fun h210 =>
 (gGr 1 h210 a0 26).bind fun x211 =>
 (sp_X6_init G F (va_up h210 u209.2 (some (.inr (5, [.null])))) (u209.2 + 1) u209.2).bind fun u213 =>
 (gSr 8 5 u213.1 x211 (3 : Int32) u209.2).bind fun h214 =>
 (gGr 1 h214 a0 26).bind fun x215 =>
 (sp_X6_init G F (va_up h214 u213.2 (some (.inr (5, [.null])))) (u213.2 + 1) u213.2).bind fun u217 =>
 (gSr 8 5 u217.1 x215 (4 : Int32) u213.2).bind fun h218 =>
 some ((h218, u217.2))
theorem yk_X1_init : gIk yX1_init cX1_init 2 0 := ⟨q143, rfl, q93, q144, ⟨by decide +kernel, by decide +kernel, by decide +kernel⟩⟩
set_option maxHeartbeats 4000000 in
theorem m_X1_init (l : Launch) (G : gG) (F : Nat) (h : gH) (n : Nat) (a0 : Nat) {h' : gH} {n' : Nat} (hf : sp_X1_init G F h n a0 = some (h', n')) : gMet l G yX1_init cX1_init 2 none 5 104 104 531 [.ref a0] h n none h' n' := by
  refine gEnter (by decide) [(0, .ref a0)] rfl (Nat.le_of_ble_eq_true rfl) ?_
  intro p e s m below meth c H ls X hin hR hS hl
  have hx := X.1.1
  have hb := X.1.2.1
  unfold sp_X1_init at hf
  generalize ([] : List Loc) = locs at hS ⊢
  refine lv_aload_n hx hb dX1_init_0 rfl (lv_at hl 0 rfl) ?_
  refine g_objInit X q145 q138 q139 hl.1 ⟨Nat.le_of_ble_eq_true rfl, Nat.le_of_ble_eq_true rfl⟩ (Nat.le_of_ble_eq_true rfl) dX1_init_1 ?_
  refine lv_aload_n hx hb dX1_init_4 rfl (lv_at hl 0 rfl) ?_
  refine lv_bipush (v := (-5 : Int32)) hx hb dX1_init_5 (by decide) ?_
  obtain ⟨h1, eh1, hf⟩ := gBind hf
  refine g_put X hR hS gk_X1 2 (by decide) q626 rfl rfl eh1 rfl rfl rfl dX1_init_7 (fun H locs hR hS => ?_)
  refine lv_aload_n hx hb dX1_init_10 rfl (lv_at hl 0 rfl) ?_
  refine lv_bipush (v := (-5 : Int32)) hx hb dX1_init_11 (by decide) ?_
  obtain ⟨h2, eh2, hf⟩ := gBind hf
  refine g_put X hR hS gk_X1 3 (by decide) q628 rfl rfl eh2 rfl rfl rfl dX1_init_13 (fun H locs hR hS => ?_)
  refine lv_aload_n hx hb dX1_init_16 rfl (lv_at hl 0 rfl) ?_
  refine lv_bipush (v := (-5 : Int32)) hx hb dX1_init_17 (by decide) ?_
  obtain ⟨h3, eh3, hf⟩ := gBind hf
  refine g_put X hR hS gk_X1 4 (by decide) q630 rfl rfl eh3 rfl rfl rfl dX1_init_19 (fun H locs hR hS => ?_)
  refine lv_aload_n hx hb dX1_init_22 rfl (lv_at hl 0 rfl) ?_
  refine lv_iconst (v := (1 : Int32)) hx hb dX1_init_23 (by decide) ?_
  obtain ⟨h4, eh4, hf⟩ := gBind hf
  refine g_put X hR hS gk_X1 8 (by decide) q638 rfl rfl eh4 rfl rfl rfl dX1_init_24 (fun H locs hR hS => ?_)
  refine lv_aload_n hx hb dX1_init_27 rfl (lv_at hl 0 rfl) ?_
  refine lv_iconst (v := (1 : Int32)) hx hb dX1_init_28 (by decide) ?_
  obtain ⟨h5, eh5, hf⟩ := gBind hf
  refine g_put X hR hS gk_X1 9 (by decide) q640 rfl rfl eh5 rfl rfl rfl dX1_init_29 (fun H locs hR hS => ?_)
  refine lv_aload_n hx hb dX1_init_32 rfl (lv_at hl 0 rfl) ?_
  refine lv_bipush (v := (30 : Int32)) hx hb dX1_init_33 (by decide) ?_
  obtain ⟨h6, eh6, hf⟩ := gBind hf
  refine g_put X hR hS gk_X1 19 (by decide) q659 rfl rfl eh6 rfl rfl rfl dX1_init_35 (fun H locs hR hS => ?_)
  refine lv_aload_n hx hb dX1_init_38 rfl (lv_at hl 0 rfl) ?_
  refine lv_bipush (v := (8 : Int32)) hx hb dX1_init_39 (by decide) ?_
  refine g_newq X hR hS 5 (by decide) rfl q146 q147 8 (by decide) (by decide) (by decide) ⟨Nat.le_of_ble_eq_true rfl, Nat.le_of_ble_eq_true rfl⟩ dX1_init_41 (fun H hR hS => ?_)
  obtain ⟨h7, eh7, hf⟩ := gBind hf
  refine g_putF X hR hS hin gk_X1 22 (by decide) q665 rfl rfl rfl eh7 rfl rfl rfl dX1_init_44 (fun H locs hR hS => ?_)
  refine lv_aload_n hx hb dX1_init_47 rfl (lv_at hl 0 rfl) ?_
  refine lv_bipush (v := (6 : Int32)) hx hb dX1_init_48 (by decide) ?_
  refine g_newq X hR hS 6 (by decide) rfl q148 q149 6 (by decide) (by decide) (by decide) ⟨Nat.le_of_ble_eq_true rfl, Nat.le_of_ble_eq_true rfl⟩ dX1_init_50 (fun H hR hS => ?_)
  obtain ⟨h8, eh8, hf⟩ := gBind hf
  refine g_putF X hR hS hin gk_X1 23 (by decide) q667 rfl rfl rfl eh8 rfl rfl rfl dX1_init_53 (fun H locs hR hS => ?_)
  refine lv_aload_n hx hb dX1_init_56 rfl (lv_at hl 0 rfl) ?_
  refine lv_bipush (v := (24 : Int32)) hx hb dX1_init_57 (by decide) ?_
  refine g_newq X hR hS 7 (by decide) rfl q150 q151 24 (by decide) (by decide) (by decide) ⟨Nat.le_of_ble_eq_true rfl, Nat.le_of_ble_eq_true rfl⟩ dX1_init_59 (fun H hR hS => ?_)
  obtain ⟨h9, eh9, hf⟩ := gBind hf
  refine g_putF X hR hS hin gk_X1 24 (by decide) q669 rfl rfl rfl eh9 rfl rfl rfl dX1_init_62 (fun H locs hR hS => ?_)
  refine lv_aload_n hx hb dX1_init_65 rfl (lv_at hl 0 rfl) ?_
  refine lv_bipush (v := (8 : Int32)) hx hb dX1_init_66 (by decide) ?_
  refine g_newq X hR hS 7 (by decide) rfl q150 q151 8 (by decide) (by decide) (by decide) ⟨Nat.le_of_ble_eq_true rfl, Nat.le_of_ble_eq_true rfl⟩ dX1_init_68 (fun H hR hS => ?_)
  obtain ⟨h10, eh10, hf⟩ := gBind hf
  refine g_putF X hR hS hin gk_X1 25 (by decide) q671 rfl rfl rfl eh10 rfl rfl rfl dX1_init_71 (fun H locs hR hS => ?_)
  refine lv_aload_n hx hb dX1_init_74 rfl (lv_at hl 0 rfl) ?_
  refine lv_iconst (v := (5 : Int32)) hx hb dX1_init_75 (by decide) ?_
  refine g_newq X hR hS 8 (by decide) rfl q152 q153 5 (by decide) (by decide) (by decide) ⟨Nat.le_of_ble_eq_true rfl, Nat.le_of_ble_eq_true rfl⟩ dX1_init_76 (fun H hR hS => ?_)
  obtain ⟨h11, eh11, hf⟩ := gBind hf
  refine g_putF X hR hS hin gk_X1 26 (by decide) q673 rfl rfl rfl eh11 rfl rfl rfl dX1_init_79 (fun H locs hR hS => ?_)
  refine lv_aload_n hx hb dX1_init_82 rfl (lv_at hl 0 rfl) ?_
  refine lv_bipush (v := (10 : Int32)) hx hb dX1_init_83 (by decide) ?_
  refine g_newa0 X hR hS q255 10 (by decide) (by decide) (by decide) ⟨Nat.le_of_ble_eq_true rfl, Nat.le_of_ble_eq_true rfl⟩ dX1_init_85 (fun H hR hS => ?_)
  obtain ⟨h12, eh12, hf⟩ := gBind hf
  refine g_putF X hR hS hin gk_X1 27 (by decide) q675 rfl rfl rfl eh12 rfl rfl rfl dX1_init_87 (fun H locs hR hS => ?_)
  refine lv_aload_n hx hb dX1_init_90 rfl (lv_at hl 0 rfl) ?_
  refine lv_bipush (v := (16 : Int32)) hx hb dX1_init_91 (by decide) ?_
  refine g_newa0 X hR hS q255 16 (by decide) (by decide) (by decide) ⟨Nat.le_of_ble_eq_true rfl, Nat.le_of_ble_eq_true rfl⟩ dX1_init_93 (fun H hR hS => ?_)
  obtain ⟨h13, eh13, hf⟩ := gBind hf
  refine g_putF X hR hS hin gk_X1 28 (by decide) q677 rfl rfl rfl eh13 rfl rfl rfl dX1_init_95 (fun H locs hR hS => ?_)
  refine lv_aload_n hx hb dX1_init_98 rfl (lv_at hl 0 rfl) ?_
  refine lv_bipush (v := (64 : Int32)) hx hb dX1_init_99 (by decide) ?_
  refine g_newa0 X hR hS q255 64 (by decide) (by decide) (by decide) ⟨Nat.le_of_ble_eq_true rfl, Nat.le_of_ble_eq_true rfl⟩ dX1_init_101 (fun H hR hS => ?_)
  obtain ⟨h14, eh14, hf⟩ := gBind hf
  refine g_putF X hR hS hin gk_X1 29 (by decide) q679 rfl rfl rfl eh14 rfl rfl rfl dX1_init_103 (fun H locs hR hS => ?_)
  refine lv_iconst (v := (0 : Int32)) hx hb dX1_init_106 (by decide) ?_
  refine lv_istore_n (lv' := [(1, .int (0 : Int32)), (0, .ref a0)]) hx hb dX1_init_107 rfl hl (by decide) rfl (fun ls hl => ?_)
  refine lv_iload_n hx hb dX1_init_108 rfl (lv_at hl 0 rfl) ?_
  refine lv_bipush (v := (8 : Int32)) hx hb dX1_init_109 (by decide) ?_
  refine lv_icmp_ge (tgt := 133) hx hb dX1_init_111 (by decide) (fun c => absurd c (by decide)) (fun _ => ?_)
  refine lv_aload_n hx hb dX1_init_114 rfl (lv_at hl 1 rfl) ?_
  obtain ⟨x15, ex15, hf⟩ := gBind hf
  refine g_getr X hR gk_X1 22 (by decide) q665 rfl ex15 dX1_init_115 ?_
  refine lv_iload_n hx hb dX1_init_118 rfl (lv_at hl 0 rfl) ?_
  refine g_new X hR hS gk_X2 q146 q154 q94 [.null, .null, .null, .null, .int 0, .int 0, .int 0, .int 0, .int 0, .int 0, .int 0, .int 0] (by decide +kernel) ⟨Nat.le_of_ble_eq_true rfl, Nat.le_of_ble_eq_true rfl⟩ dX1_init_119 (fun H hR hS => ?_)
  refine lv_dup hx hb dX1_init_122 rfl ?_
  obtain ⟨u17, eu17, hf⟩ := gBind hf
  refine g_callI X hR hS [] (m_X2_init l G F (va_up h14 ((((((((n + 1) + 1) + 1) + 1) + 1) + 1) + 1) + 1) (some (.inr (2, [.null, .null, .null, .null, .int 0, .int 0, .int 0, .int 0, .int 0, .int 0, .int 0, .int 0])))) (((((((((n + 1) + 1) + 1) + 1) + 1) + 1) + 1) + 1) + 1) ((((((((n + 1) + 1) + 1) + 1) + 1) + 1) + 1) + 1) eu17) yk_X2_init q155 rfl hl.1 ⟨Nat.le_of_ble_eq_true rfl, Nat.le_of_ble_eq_true rfl⟩ ⟨Nat.le_of_ble_eq_true rfl, Nat.le_of_ble_eq_true rfl⟩ rfl (Nat.le_of_ble_eq_true rfl) dX1_init_123 (fun H locs hR hS => ?_)
  obtain ⟨h18, eh18, hf⟩ := gBind hf
  refine g_aast X hR hS 5 2 (by decide) rfl gk_X2 eh18 dX1_init_126 (fun H locs hR hS => ?_)
  refine lv_iinc (v := (1 : Int32)) (lv' := [(1, .int (1 : Int32)), (0, .ref a0)]) hx hb dX1_init_127 hl (k := 0) rfl (by decide) (by decide) rfl (fun ls hl => ?_)
  refine lv_goto (tgt := 108) hx hb dX1_init_130 (by decide) ?_
  refine lv_iload_n hx hb dX1_init_108 rfl (lv_at hl 0 rfl) ?_
  refine lv_bipush (v := (8 : Int32)) hx hb dX1_init_109 (by decide) ?_
  refine lv_icmp_ge (tgt := 133) hx hb dX1_init_111 (by decide) (fun c => absurd c (by decide)) (fun _ => ?_)
  refine lv_aload_n hx hb dX1_init_114 rfl (lv_at hl 1 rfl) ?_
  obtain ⟨x19, ex19, hf⟩ := gBind hf
  refine g_getr X hR gk_X1 22 (by decide) q665 rfl ex19 dX1_init_115 ?_
  refine lv_iload_n hx hb dX1_init_118 rfl (lv_at hl 0 rfl) ?_
  refine g_new X hR hS gk_X2 q146 q154 q94 [.null, .null, .null, .null, .int 0, .int 0, .int 0, .int 0, .int 0, .int 0, .int 0, .int 0] (by decide +kernel) ⟨Nat.le_of_ble_eq_true rfl, Nat.le_of_ble_eq_true rfl⟩ dX1_init_119 (fun H hR hS => ?_)
  refine lv_dup hx hb dX1_init_122 rfl ?_
  obtain ⟨u21, eu21, hf⟩ := gBind hf
  refine g_callI X hR hS [] (m_X2_init l G F (va_up h18 u17.2 (some (.inr (2, [.null, .null, .null, .null, .int 0, .int 0, .int 0, .int 0, .int 0, .int 0, .int 0, .int 0])))) (u17.2 + 1) u17.2 eu21) yk_X2_init q155 rfl hl.1 ⟨Nat.le_of_ble_eq_true rfl, Nat.le_of_ble_eq_true rfl⟩ ⟨Nat.le_of_ble_eq_true rfl, Nat.le_of_ble_eq_true rfl⟩ rfl (Nat.le_of_ble_eq_true rfl) dX1_init_123 (fun H locs hR hS => ?_)
  obtain ⟨h22, eh22, hf⟩ := gBind hf
  refine g_aast X hR hS 5 2 (by decide) rfl gk_X2 eh22 dX1_init_126 (fun H locs hR hS => ?_)
  refine lv_iinc (v := (2 : Int32)) (lv' := [(1, .int (2 : Int32)), (0, .ref a0)]) hx hb dX1_init_127 hl (k := 0) rfl (by decide) (by decide) rfl (fun ls hl => ?_)
  refine lv_goto (tgt := 108) hx hb dX1_init_130 (by decide) ?_
  refine lv_iload_n hx hb dX1_init_108 rfl (lv_at hl 0 rfl) ?_
  refine lv_bipush (v := (8 : Int32)) hx hb dX1_init_109 (by decide) ?_
  refine lv_icmp_ge (tgt := 133) hx hb dX1_init_111 (by decide) (fun c => absurd c (by decide)) (fun _ => ?_)
  refine lv_aload_n hx hb dX1_init_114 rfl (lv_at hl 1 rfl) ?_
  obtain ⟨x23, ex23, hf⟩ := gBind hf
  refine g_getr X hR gk_X1 22 (by decide) q665 rfl ex23 dX1_init_115 ?_
  refine lv_iload_n hx hb dX1_init_118 rfl (lv_at hl 0 rfl) ?_
  refine g_new X hR hS gk_X2 q146 q154 q94 [.null, .null, .null, .null, .int 0, .int 0, .int 0, .int 0, .int 0, .int 0, .int 0, .int 0] (by decide +kernel) ⟨Nat.le_of_ble_eq_true rfl, Nat.le_of_ble_eq_true rfl⟩ dX1_init_119 (fun H hR hS => ?_)
  refine lv_dup hx hb dX1_init_122 rfl ?_
  obtain ⟨u25, eu25, hf⟩ := gBind hf
  refine g_callI X hR hS [] (m_X2_init l G F (va_up h22 u21.2 (some (.inr (2, [.null, .null, .null, .null, .int 0, .int 0, .int 0, .int 0, .int 0, .int 0, .int 0, .int 0])))) (u21.2 + 1) u21.2 eu25) yk_X2_init q155 rfl hl.1 ⟨Nat.le_of_ble_eq_true rfl, Nat.le_of_ble_eq_true rfl⟩ ⟨Nat.le_of_ble_eq_true rfl, Nat.le_of_ble_eq_true rfl⟩ rfl (Nat.le_of_ble_eq_true rfl) dX1_init_123 (fun H locs hR hS => ?_)
  obtain ⟨h26, eh26, hf⟩ := gBind hf
  refine g_aast X hR hS 5 2 (by decide) rfl gk_X2 eh26 dX1_init_126 (fun H locs hR hS => ?_)
  refine lv_iinc (v := (3 : Int32)) (lv' := [(1, .int (3 : Int32)), (0, .ref a0)]) hx hb dX1_init_127 hl (k := 0) rfl (by decide) (by decide) rfl (fun ls hl => ?_)
  refine lv_goto (tgt := 108) hx hb dX1_init_130 (by decide) ?_
  refine lv_iload_n hx hb dX1_init_108 rfl (lv_at hl 0 rfl) ?_
  refine lv_bipush (v := (8 : Int32)) hx hb dX1_init_109 (by decide) ?_
  refine lv_icmp_ge (tgt := 133) hx hb dX1_init_111 (by decide) (fun c => absurd c (by decide)) (fun _ => ?_)
  refine lv_aload_n hx hb dX1_init_114 rfl (lv_at hl 1 rfl) ?_
  obtain ⟨x27, ex27, hf⟩ := gBind hf
  refine g_getr X hR gk_X1 22 (by decide) q665 rfl ex27 dX1_init_115 ?_
  refine lv_iload_n hx hb dX1_init_118 rfl (lv_at hl 0 rfl) ?_
  refine g_new X hR hS gk_X2 q146 q154 q94 [.null, .null, .null, .null, .int 0, .int 0, .int 0, .int 0, .int 0, .int 0, .int 0, .int 0] (by decide +kernel) ⟨Nat.le_of_ble_eq_true rfl, Nat.le_of_ble_eq_true rfl⟩ dX1_init_119 (fun H hR hS => ?_)
  refine lv_dup hx hb dX1_init_122 rfl ?_
  obtain ⟨u29, eu29, hf⟩ := gBind hf
  refine g_callI X hR hS [] (m_X2_init l G F (va_up h26 u25.2 (some (.inr (2, [.null, .null, .null, .null, .int 0, .int 0, .int 0, .int 0, .int 0, .int 0, .int 0, .int 0])))) (u25.2 + 1) u25.2 eu29) yk_X2_init q155 rfl hl.1 ⟨Nat.le_of_ble_eq_true rfl, Nat.le_of_ble_eq_true rfl⟩ ⟨Nat.le_of_ble_eq_true rfl, Nat.le_of_ble_eq_true rfl⟩ rfl (Nat.le_of_ble_eq_true rfl) dX1_init_123 (fun H locs hR hS => ?_)
  obtain ⟨h30, eh30, hf⟩ := gBind hf
  refine g_aast X hR hS 5 2 (by decide) rfl gk_X2 eh30 dX1_init_126 (fun H locs hR hS => ?_)
  refine lv_iinc (v := (4 : Int32)) (lv' := [(1, .int (4 : Int32)), (0, .ref a0)]) hx hb dX1_init_127 hl (k := 0) rfl (by decide) (by decide) rfl (fun ls hl => ?_)
  refine lv_goto (tgt := 108) hx hb dX1_init_130 (by decide) ?_
  refine lv_iload_n hx hb dX1_init_108 rfl (lv_at hl 0 rfl) ?_
  refine lv_bipush (v := (8 : Int32)) hx hb dX1_init_109 (by decide) ?_
  refine lv_icmp_ge (tgt := 133) hx hb dX1_init_111 (by decide) (fun c => absurd c (by decide)) (fun _ => ?_)
  refine lv_aload_n hx hb dX1_init_114 rfl (lv_at hl 1 rfl) ?_
  obtain ⟨x31, ex31, hf⟩ := gBind hf
  refine g_getr X hR gk_X1 22 (by decide) q665 rfl ex31 dX1_init_115 ?_
  refine lv_iload_n hx hb dX1_init_118 rfl (lv_at hl 0 rfl) ?_
  refine g_new X hR hS gk_X2 q146 q154 q94 [.null, .null, .null, .null, .int 0, .int 0, .int 0, .int 0, .int 0, .int 0, .int 0, .int 0] (by decide +kernel) ⟨Nat.le_of_ble_eq_true rfl, Nat.le_of_ble_eq_true rfl⟩ dX1_init_119 (fun H hR hS => ?_)
  refine lv_dup hx hb dX1_init_122 rfl ?_
  obtain ⟨u33, eu33, hf⟩ := gBind hf
  refine g_callI X hR hS [] (m_X2_init l G F (va_up h30 u29.2 (some (.inr (2, [.null, .null, .null, .null, .int 0, .int 0, .int 0, .int 0, .int 0, .int 0, .int 0, .int 0])))) (u29.2 + 1) u29.2 eu33) yk_X2_init q155 rfl hl.1 ⟨Nat.le_of_ble_eq_true rfl, Nat.le_of_ble_eq_true rfl⟩ ⟨Nat.le_of_ble_eq_true rfl, Nat.le_of_ble_eq_true rfl⟩ rfl (Nat.le_of_ble_eq_true rfl) dX1_init_123 (fun H locs hR hS => ?_)
  obtain ⟨h34, eh34, hf⟩ := gBind hf
  refine g_aast X hR hS 5 2 (by decide) rfl gk_X2 eh34 dX1_init_126 (fun H locs hR hS => ?_)
  refine lv_iinc (v := (5 : Int32)) (lv' := [(1, .int (5 : Int32)), (0, .ref a0)]) hx hb dX1_init_127 hl (k := 0) rfl (by decide) (by decide) rfl (fun ls hl => ?_)
  refine lv_goto (tgt := 108) hx hb dX1_init_130 (by decide) ?_
  refine lv_iload_n hx hb dX1_init_108 rfl (lv_at hl 0 rfl) ?_
  refine lv_bipush (v := (8 : Int32)) hx hb dX1_init_109 (by decide) ?_
  refine lv_icmp_ge (tgt := 133) hx hb dX1_init_111 (by decide) (fun c => absurd c (by decide)) (fun _ => ?_)
  refine lv_aload_n hx hb dX1_init_114 rfl (lv_at hl 1 rfl) ?_
  obtain ⟨x35, ex35, hf⟩ := gBind hf
  refine g_getr X hR gk_X1 22 (by decide) q665 rfl ex35 dX1_init_115 ?_
  refine lv_iload_n hx hb dX1_init_118 rfl (lv_at hl 0 rfl) ?_
  refine g_new X hR hS gk_X2 q146 q154 q94 [.null, .null, .null, .null, .int 0, .int 0, .int 0, .int 0, .int 0, .int 0, .int 0, .int 0] (by decide +kernel) ⟨Nat.le_of_ble_eq_true rfl, Nat.le_of_ble_eq_true rfl⟩ dX1_init_119 (fun H hR hS => ?_)
  refine lv_dup hx hb dX1_init_122 rfl ?_
  obtain ⟨u37, eu37, hf⟩ := gBind hf
  refine g_callI X hR hS [] (m_X2_init l G F (va_up h34 u33.2 (some (.inr (2, [.null, .null, .null, .null, .int 0, .int 0, .int 0, .int 0, .int 0, .int 0, .int 0, .int 0])))) (u33.2 + 1) u33.2 eu37) yk_X2_init q155 rfl hl.1 ⟨Nat.le_of_ble_eq_true rfl, Nat.le_of_ble_eq_true rfl⟩ ⟨Nat.le_of_ble_eq_true rfl, Nat.le_of_ble_eq_true rfl⟩ rfl (Nat.le_of_ble_eq_true rfl) dX1_init_123 (fun H locs hR hS => ?_)
  obtain ⟨h38, eh38, hf⟩ := gBind hf
  refine g_aast X hR hS 5 2 (by decide) rfl gk_X2 eh38 dX1_init_126 (fun H locs hR hS => ?_)
  refine lv_iinc (v := (6 : Int32)) (lv' := [(1, .int (6 : Int32)), (0, .ref a0)]) hx hb dX1_init_127 hl (k := 0) rfl (by decide) (by decide) rfl (fun ls hl => ?_)
  refine lv_goto (tgt := 108) hx hb dX1_init_130 (by decide) ?_
  refine lv_iload_n hx hb dX1_init_108 rfl (lv_at hl 0 rfl) ?_
  refine lv_bipush (v := (8 : Int32)) hx hb dX1_init_109 (by decide) ?_
  refine lv_icmp_ge (tgt := 133) hx hb dX1_init_111 (by decide) (fun c => absurd c (by decide)) (fun _ => ?_)
  refine lv_aload_n hx hb dX1_init_114 rfl (lv_at hl 1 rfl) ?_
  obtain ⟨x39, ex39, hf⟩ := gBind hf
  refine g_getr X hR gk_X1 22 (by decide) q665 rfl ex39 dX1_init_115 ?_
  refine lv_iload_n hx hb dX1_init_118 rfl (lv_at hl 0 rfl) ?_
  refine g_new X hR hS gk_X2 q146 q154 q94 [.null, .null, .null, .null, .int 0, .int 0, .int 0, .int 0, .int 0, .int 0, .int 0, .int 0] (by decide +kernel) ⟨Nat.le_of_ble_eq_true rfl, Nat.le_of_ble_eq_true rfl⟩ dX1_init_119 (fun H hR hS => ?_)
  refine lv_dup hx hb dX1_init_122 rfl ?_
  obtain ⟨u41, eu41, hf⟩ := gBind hf
  refine g_callI X hR hS [] (m_X2_init l G F (va_up h38 u37.2 (some (.inr (2, [.null, .null, .null, .null, .int 0, .int 0, .int 0, .int 0, .int 0, .int 0, .int 0, .int 0])))) (u37.2 + 1) u37.2 eu41) yk_X2_init q155 rfl hl.1 ⟨Nat.le_of_ble_eq_true rfl, Nat.le_of_ble_eq_true rfl⟩ ⟨Nat.le_of_ble_eq_true rfl, Nat.le_of_ble_eq_true rfl⟩ rfl (Nat.le_of_ble_eq_true rfl) dX1_init_123 (fun H locs hR hS => ?_)
  obtain ⟨h42, eh42, hf⟩ := gBind hf
  refine g_aast X hR hS 5 2 (by decide) rfl gk_X2 eh42 dX1_init_126 (fun H locs hR hS => ?_)
  refine lv_iinc (v := (7 : Int32)) (lv' := [(1, .int (7 : Int32)), (0, .ref a0)]) hx hb dX1_init_127 hl (k := 0) rfl (by decide) (by decide) rfl (fun ls hl => ?_)
  refine lv_goto (tgt := 108) hx hb dX1_init_130 (by decide) ?_
  refine lv_iload_n hx hb dX1_init_108 rfl (lv_at hl 0 rfl) ?_
  refine lv_bipush (v := (8 : Int32)) hx hb dX1_init_109 (by decide) ?_
  refine lv_icmp_ge (tgt := 133) hx hb dX1_init_111 (by decide) (fun c => absurd c (by decide)) (fun _ => ?_)
  refine lv_aload_n hx hb dX1_init_114 rfl (lv_at hl 1 rfl) ?_
  obtain ⟨x43, ex43, hf⟩ := gBind hf
  refine g_getr X hR gk_X1 22 (by decide) q665 rfl ex43 dX1_init_115 ?_
  refine lv_iload_n hx hb dX1_init_118 rfl (lv_at hl 0 rfl) ?_
  refine g_new X hR hS gk_X2 q146 q154 q94 [.null, .null, .null, .null, .int 0, .int 0, .int 0, .int 0, .int 0, .int 0, .int 0, .int 0] (by decide +kernel) ⟨Nat.le_of_ble_eq_true rfl, Nat.le_of_ble_eq_true rfl⟩ dX1_init_119 (fun H hR hS => ?_)
  refine lv_dup hx hb dX1_init_122 rfl ?_
  obtain ⟨u45, eu45, hf⟩ := gBind hf
  refine g_callI X hR hS [] (m_X2_init l G F (va_up h42 u41.2 (some (.inr (2, [.null, .null, .null, .null, .int 0, .int 0, .int 0, .int 0, .int 0, .int 0, .int 0, .int 0])))) (u41.2 + 1) u41.2 eu45) yk_X2_init q155 rfl hl.1 ⟨Nat.le_of_ble_eq_true rfl, Nat.le_of_ble_eq_true rfl⟩ ⟨Nat.le_of_ble_eq_true rfl, Nat.le_of_ble_eq_true rfl⟩ rfl (Nat.le_of_ble_eq_true rfl) dX1_init_123 (fun H locs hR hS => ?_)
  obtain ⟨h46, eh46, hf⟩ := gBind hf
  refine g_aast X hR hS 5 2 (by decide) rfl gk_X2 eh46 dX1_init_126 (fun H locs hR hS => ?_)
  refine lv_iinc (v := (8 : Int32)) (lv' := [(1, .int (8 : Int32)), (0, .ref a0)]) hx hb dX1_init_127 hl (k := 0) rfl (by decide) (by decide) rfl (fun ls hl => ?_)
  refine lv_goto (tgt := 108) hx hb dX1_init_130 (by decide) ?_
  refine lv_iload_n hx hb dX1_init_108 rfl (lv_at hl 0 rfl) ?_
  refine lv_bipush (v := (8 : Int32)) hx hb dX1_init_109 (by decide) ?_
  refine lv_icmp_ge (tgt := 133) hx hb dX1_init_111 (by decide) (fun _ => ?_) (fun c => absurd c (by decide))
  refine lv_iconst (v := (0 : Int32)) hx hb dX1_init_133 (by decide) ?_
  refine lv_istore_n (lv' := [(1, .int (0 : Int32)), (0, .ref a0)]) hx hb dX1_init_134 rfl hl (by decide) rfl (fun ls hl => ?_)
  refine lv_iload_n hx hb dX1_init_135 rfl (lv_at hl 0 rfl) ?_
  refine lv_bipush (v := (6 : Int32)) hx hb dX1_init_136 (by decide) ?_
  refine lv_icmp_ge (tgt := 160) hx hb dX1_init_138 (by decide) (fun c => absurd c (by decide)) (fun _ => ?_)
  refine lv_aload_n hx hb dX1_init_141 rfl (lv_at hl 1 rfl) ?_
  obtain ⟨x47, ex47, hf⟩ := gBind hf
  refine g_getr X hR gk_X1 23 (by decide) q667 rfl ex47 dX1_init_142 ?_
  refine lv_iload_n hx hb dX1_init_145 rfl (lv_at hl 0 rfl) ?_
  refine g_new X hR hS gk_X4 q148 q572 q114 [.int 0, .int 0, .int 0] (by decide +kernel) ⟨Nat.le_of_ble_eq_true rfl, Nat.le_of_ble_eq_true rfl⟩ dX1_init_146 (fun H hR hS => ?_)
  refine lv_dup hx hb dX1_init_149 rfl ?_
  obtain ⟨u49, eu49, hf⟩ := gBind hf
  refine g_callIN X hR hS [] (m_X4_init l G F (va_up h46 u45.2 (some (.inr (3, [.int 0, .int 0, .int 0])))) (u45.2 + 1) u45.2 eu49) yk_X4_init q573 rfl hl.1 ⟨Nat.le_of_ble_eq_true rfl, Nat.le_of_ble_eq_true rfl⟩ ⟨Nat.le_of_ble_eq_true rfl, Nat.le_of_ble_eq_true rfl⟩ rfl (Nat.le_of_ble_eq_true rfl) dX1_init_150 (fun H locs hR hS => ?_)
  obtain ⟨h50, eh50, hf⟩ := gBind hf
  refine g_aast X hR hS 6 3 (by decide) rfl gk_X4 eh50 dX1_init_153 (fun H locs hR hS => ?_)
  refine lv_iinc (v := (1 : Int32)) (lv' := [(1, .int (1 : Int32)), (0, .ref a0)]) hx hb dX1_init_154 hl (k := 0) rfl (by decide) (by decide) rfl (fun ls hl => ?_)
  refine lv_goto (tgt := 135) hx hb dX1_init_157 (by decide) ?_
  refine lv_iload_n hx hb dX1_init_135 rfl (lv_at hl 0 rfl) ?_
  refine lv_bipush (v := (6 : Int32)) hx hb dX1_init_136 (by decide) ?_
  refine lv_icmp_ge (tgt := 160) hx hb dX1_init_138 (by decide) (fun c => absurd c (by decide)) (fun _ => ?_)
  refine lv_aload_n hx hb dX1_init_141 rfl (lv_at hl 1 rfl) ?_
  obtain ⟨x51, ex51, hf⟩ := gBind hf
  refine g_getr X hR gk_X1 23 (by decide) q667 rfl ex51 dX1_init_142 ?_
  refine lv_iload_n hx hb dX1_init_145 rfl (lv_at hl 0 rfl) ?_
  refine g_new X hR hS gk_X4 q148 q572 q114 [.int 0, .int 0, .int 0] (by decide +kernel) ⟨Nat.le_of_ble_eq_true rfl, Nat.le_of_ble_eq_true rfl⟩ dX1_init_146 (fun H hR hS => ?_)
  refine lv_dup hx hb dX1_init_149 rfl ?_
  obtain ⟨u53, eu53, hf⟩ := gBind hf
  refine g_callIN X hR hS [] (m_X4_init l G F (va_up h50 (u45.2 + 1) (some (.inr (3, [.int 0, .int 0, .int 0])))) ((u45.2 + 1) + 1) (u45.2 + 1) eu53) yk_X4_init q573 rfl hl.1 ⟨Nat.le_of_ble_eq_true rfl, Nat.le_of_ble_eq_true rfl⟩ ⟨Nat.le_of_ble_eq_true rfl, Nat.le_of_ble_eq_true rfl⟩ rfl (Nat.le_of_ble_eq_true rfl) dX1_init_150 (fun H locs hR hS => ?_)
  obtain ⟨h54, eh54, hf⟩ := gBind hf
  refine g_aast X hR hS 6 3 (by decide) rfl gk_X4 eh54 dX1_init_153 (fun H locs hR hS => ?_)
  refine lv_iinc (v := (2 : Int32)) (lv' := [(1, .int (2 : Int32)), (0, .ref a0)]) hx hb dX1_init_154 hl (k := 0) rfl (by decide) (by decide) rfl (fun ls hl => ?_)
  refine lv_goto (tgt := 135) hx hb dX1_init_157 (by decide) ?_
  refine lv_iload_n hx hb dX1_init_135 rfl (lv_at hl 0 rfl) ?_
  refine lv_bipush (v := (6 : Int32)) hx hb dX1_init_136 (by decide) ?_
  refine lv_icmp_ge (tgt := 160) hx hb dX1_init_138 (by decide) (fun c => absurd c (by decide)) (fun _ => ?_)
  refine lv_aload_n hx hb dX1_init_141 rfl (lv_at hl 1 rfl) ?_
  obtain ⟨x55, ex55, hf⟩ := gBind hf
  refine g_getr X hR gk_X1 23 (by decide) q667 rfl ex55 dX1_init_142 ?_
  refine lv_iload_n hx hb dX1_init_145 rfl (lv_at hl 0 rfl) ?_
  refine g_new X hR hS gk_X4 q148 q572 q114 [.int 0, .int 0, .int 0] (by decide +kernel) ⟨Nat.le_of_ble_eq_true rfl, Nat.le_of_ble_eq_true rfl⟩ dX1_init_146 (fun H hR hS => ?_)
  refine lv_dup hx hb dX1_init_149 rfl ?_
  obtain ⟨u57, eu57, hf⟩ := gBind hf
  refine g_callIN X hR hS [] (m_X4_init l G F (va_up h54 ((u45.2 + 1) + 1) (some (.inr (3, [.int 0, .int 0, .int 0])))) (((u45.2 + 1) + 1) + 1) ((u45.2 + 1) + 1) eu57) yk_X4_init q573 rfl hl.1 ⟨Nat.le_of_ble_eq_true rfl, Nat.le_of_ble_eq_true rfl⟩ ⟨Nat.le_of_ble_eq_true rfl, Nat.le_of_ble_eq_true rfl⟩ rfl (Nat.le_of_ble_eq_true rfl) dX1_init_150 (fun H locs hR hS => ?_)
  obtain ⟨h58, eh58, hf⟩ := gBind hf
  refine g_aast X hR hS 6 3 (by decide) rfl gk_X4 eh58 dX1_init_153 (fun H locs hR hS => ?_)
  refine lv_iinc (v := (3 : Int32)) (lv' := [(1, .int (3 : Int32)), (0, .ref a0)]) hx hb dX1_init_154 hl (k := 0) rfl (by decide) (by decide) rfl (fun ls hl => ?_)
  refine lv_goto (tgt := 135) hx hb dX1_init_157 (by decide) ?_
  refine lv_iload_n hx hb dX1_init_135 rfl (lv_at hl 0 rfl) ?_
  refine lv_bipush (v := (6 : Int32)) hx hb dX1_init_136 (by decide) ?_
  refine lv_icmp_ge (tgt := 160) hx hb dX1_init_138 (by decide) (fun c => absurd c (by decide)) (fun _ => ?_)
  refine lv_aload_n hx hb dX1_init_141 rfl (lv_at hl 1 rfl) ?_
  obtain ⟨x59, ex59, hf⟩ := gBind hf
  refine g_getr X hR gk_X1 23 (by decide) q667 rfl ex59 dX1_init_142 ?_
  refine lv_iload_n hx hb dX1_init_145 rfl (lv_at hl 0 rfl) ?_
  refine g_new X hR hS gk_X4 q148 q572 q114 [.int 0, .int 0, .int 0] (by decide +kernel) ⟨Nat.le_of_ble_eq_true rfl, Nat.le_of_ble_eq_true rfl⟩ dX1_init_146 (fun H hR hS => ?_)
  refine lv_dup hx hb dX1_init_149 rfl ?_
  obtain ⟨u61, eu61, hf⟩ := gBind hf
  refine g_callIN X hR hS [] (m_X4_init l G F (va_up h58 (((u45.2 + 1) + 1) + 1) (some (.inr (3, [.int 0, .int 0, .int 0])))) ((((u45.2 + 1) + 1) + 1) + 1) (((u45.2 + 1) + 1) + 1) eu61) yk_X4_init q573 rfl hl.1 ⟨Nat.le_of_ble_eq_true rfl, Nat.le_of_ble_eq_true rfl⟩ ⟨Nat.le_of_ble_eq_true rfl, Nat.le_of_ble_eq_true rfl⟩ rfl (Nat.le_of_ble_eq_true rfl) dX1_init_150 (fun H locs hR hS => ?_)
  obtain ⟨h62, eh62, hf⟩ := gBind hf
  refine g_aast X hR hS 6 3 (by decide) rfl gk_X4 eh62 dX1_init_153 (fun H locs hR hS => ?_)
  refine lv_iinc (v := (4 : Int32)) (lv' := [(1, .int (4 : Int32)), (0, .ref a0)]) hx hb dX1_init_154 hl (k := 0) rfl (by decide) (by decide) rfl (fun ls hl => ?_)
  refine lv_goto (tgt := 135) hx hb dX1_init_157 (by decide) ?_
  refine lv_iload_n hx hb dX1_init_135 rfl (lv_at hl 0 rfl) ?_
  refine lv_bipush (v := (6 : Int32)) hx hb dX1_init_136 (by decide) ?_
  refine lv_icmp_ge (tgt := 160) hx hb dX1_init_138 (by decide) (fun c => absurd c (by decide)) (fun _ => ?_)
  refine lv_aload_n hx hb dX1_init_141 rfl (lv_at hl 1 rfl) ?_
  obtain ⟨x63, ex63, hf⟩ := gBind hf
  refine g_getr X hR gk_X1 23 (by decide) q667 rfl ex63 dX1_init_142 ?_
  refine lv_iload_n hx hb dX1_init_145 rfl (lv_at hl 0 rfl) ?_
  refine g_new X hR hS gk_X4 q148 q572 q114 [.int 0, .int 0, .int 0] (by decide +kernel) ⟨Nat.le_of_ble_eq_true rfl, Nat.le_of_ble_eq_true rfl⟩ dX1_init_146 (fun H hR hS => ?_)
  refine lv_dup hx hb dX1_init_149 rfl ?_
  obtain ⟨u65, eu65, hf⟩ := gBind hf
  refine g_callIN X hR hS [] (m_X4_init l G F (va_up h62 ((((u45.2 + 1) + 1) + 1) + 1) (some (.inr (3, [.int 0, .int 0, .int 0])))) (((((u45.2 + 1) + 1) + 1) + 1) + 1) ((((u45.2 + 1) + 1) + 1) + 1) eu65) yk_X4_init q573 rfl hl.1 ⟨Nat.le_of_ble_eq_true rfl, Nat.le_of_ble_eq_true rfl⟩ ⟨Nat.le_of_ble_eq_true rfl, Nat.le_of_ble_eq_true rfl⟩ rfl (Nat.le_of_ble_eq_true rfl) dX1_init_150 (fun H locs hR hS => ?_)
  obtain ⟨h66, eh66, hf⟩ := gBind hf
  refine g_aast X hR hS 6 3 (by decide) rfl gk_X4 eh66 dX1_init_153 (fun H locs hR hS => ?_)
  refine lv_iinc (v := (5 : Int32)) (lv' := [(1, .int (5 : Int32)), (0, .ref a0)]) hx hb dX1_init_154 hl (k := 0) rfl (by decide) (by decide) rfl (fun ls hl => ?_)
  refine lv_goto (tgt := 135) hx hb dX1_init_157 (by decide) ?_
  refine lv_iload_n hx hb dX1_init_135 rfl (lv_at hl 0 rfl) ?_
  refine lv_bipush (v := (6 : Int32)) hx hb dX1_init_136 (by decide) ?_
  refine lv_icmp_ge (tgt := 160) hx hb dX1_init_138 (by decide) (fun c => absurd c (by decide)) (fun _ => ?_)
  refine lv_aload_n hx hb dX1_init_141 rfl (lv_at hl 1 rfl) ?_
  obtain ⟨x67, ex67, hf⟩ := gBind hf
  refine g_getr X hR gk_X1 23 (by decide) q667 rfl ex67 dX1_init_142 ?_
  refine lv_iload_n hx hb dX1_init_145 rfl (lv_at hl 0 rfl) ?_
  refine g_new X hR hS gk_X4 q148 q572 q114 [.int 0, .int 0, .int 0] (by decide +kernel) ⟨Nat.le_of_ble_eq_true rfl, Nat.le_of_ble_eq_true rfl⟩ dX1_init_146 (fun H hR hS => ?_)
  refine lv_dup hx hb dX1_init_149 rfl ?_
  obtain ⟨u69, eu69, hf⟩ := gBind hf
  refine g_callIN X hR hS [] (m_X4_init l G F (va_up h66 (((((u45.2 + 1) + 1) + 1) + 1) + 1) (some (.inr (3, [.int 0, .int 0, .int 0])))) ((((((u45.2 + 1) + 1) + 1) + 1) + 1) + 1) (((((u45.2 + 1) + 1) + 1) + 1) + 1) eu69) yk_X4_init q573 rfl hl.1 ⟨Nat.le_of_ble_eq_true rfl, Nat.le_of_ble_eq_true rfl⟩ ⟨Nat.le_of_ble_eq_true rfl, Nat.le_of_ble_eq_true rfl⟩ rfl (Nat.le_of_ble_eq_true rfl) dX1_init_150 (fun H locs hR hS => ?_)
  obtain ⟨h70, eh70, hf⟩ := gBind hf
  refine g_aast X hR hS 6 3 (by decide) rfl gk_X4 eh70 dX1_init_153 (fun H locs hR hS => ?_)
  refine lv_iinc (v := (6 : Int32)) (lv' := [(1, .int (6 : Int32)), (0, .ref a0)]) hx hb dX1_init_154 hl (k := 0) rfl (by decide) (by decide) rfl (fun ls hl => ?_)
  refine lv_goto (tgt := 135) hx hb dX1_init_157 (by decide) ?_
  refine lv_iload_n hx hb dX1_init_135 rfl (lv_at hl 0 rfl) ?_
  refine lv_bipush (v := (6 : Int32)) hx hb dX1_init_136 (by decide) ?_
  refine lv_icmp_ge (tgt := 160) hx hb dX1_init_138 (by decide) (fun _ => ?_) (fun c => absurd c (by decide))
  refine lv_iconst (v := (0 : Int32)) hx hb dX1_init_160 (by decide) ?_
  refine lv_istore_n (lv' := [(1, .int (0 : Int32)), (0, .ref a0)]) hx hb dX1_init_161 rfl hl (by decide) rfl (fun ls hl => ?_)
  refine lv_iload_n hx hb dX1_init_162 rfl (lv_at hl 0 rfl) ?_
  refine lv_bipush (v := (24 : Int32)) hx hb dX1_init_163 (by decide) ?_
  refine lv_icmp_ge (tgt := 187) hx hb dX1_init_165 (by decide) (fun c => absurd c (by decide)) (fun _ => ?_)
  refine lv_aload_n hx hb dX1_init_168 rfl (lv_at hl 1 rfl) ?_
  obtain ⟨x71, ex71, hf⟩ := gBind hf
  refine g_getr X hR gk_X1 24 (by decide) q669 rfl ex71 dX1_init_169 ?_
  refine lv_iload_n hx hb dX1_init_172 rfl (lv_at hl 0 rfl) ?_
  refine g_new X hR hS gk_X5 q150 q593 q115 [.int 0, .int 0, .int 0] (by decide +kernel) ⟨Nat.le_of_ble_eq_true rfl, Nat.le_of_ble_eq_true rfl⟩ dX1_init_173 (fun H hR hS => ?_)
  refine lv_dup hx hb dX1_init_176 rfl ?_
  obtain ⟨u73, eu73, hf⟩ := gBind hf
  refine g_callIN X hR hS [] (m_X5_init l G F (va_up h70 ((((((u45.2 + 1) + 1) + 1) + 1) + 1) + 1) (some (.inr (4, [.int 0, .int 0, .int 0])))) (((((((u45.2 + 1) + 1) + 1) + 1) + 1) + 1) + 1) ((((((u45.2 + 1) + 1) + 1) + 1) + 1) + 1) eu73) yk_X5_init q594 rfl hl.1 ⟨Nat.le_of_ble_eq_true rfl, Nat.le_of_ble_eq_true rfl⟩ ⟨Nat.le_of_ble_eq_true rfl, Nat.le_of_ble_eq_true rfl⟩ rfl (Nat.le_of_ble_eq_true rfl) dX1_init_177 (fun H locs hR hS => ?_)
  obtain ⟨h74, eh74, hf⟩ := gBind hf
  refine g_aast X hR hS 7 4 (by decide) rfl gk_X5 eh74 dX1_init_180 (fun H locs hR hS => ?_)
  refine lv_iinc (v := (1 : Int32)) (lv' := [(1, .int (1 : Int32)), (0, .ref a0)]) hx hb dX1_init_181 hl (k := 0) rfl (by decide) (by decide) rfl (fun ls hl => ?_)
  refine lv_goto (tgt := 162) hx hb dX1_init_184 (by decide) ?_
  refine lv_iload_n hx hb dX1_init_162 rfl (lv_at hl 0 rfl) ?_
  refine lv_bipush (v := (24 : Int32)) hx hb dX1_init_163 (by decide) ?_
  refine lv_icmp_ge (tgt := 187) hx hb dX1_init_165 (by decide) (fun c => absurd c (by decide)) (fun _ => ?_)
  refine lv_aload_n hx hb dX1_init_168 rfl (lv_at hl 1 rfl) ?_
  obtain ⟨x75, ex75, hf⟩ := gBind hf
  refine g_getr X hR gk_X1 24 (by decide) q669 rfl ex75 dX1_init_169 ?_
  refine lv_iload_n hx hb dX1_init_172 rfl (lv_at hl 0 rfl) ?_
  refine g_new X hR hS gk_X5 q150 q593 q115 [.int 0, .int 0, .int 0] (by decide +kernel) ⟨Nat.le_of_ble_eq_true rfl, Nat.le_of_ble_eq_true rfl⟩ dX1_init_173 (fun H hR hS => ?_)
  refine lv_dup hx hb dX1_init_176 rfl ?_
  obtain ⟨u77, eu77, hf⟩ := gBind hf
  refine g_callIN X hR hS [] (m_X5_init l G F (va_up h74 (((((((u45.2 + 1) + 1) + 1) + 1) + 1) + 1) + 1) (some (.inr (4, [.int 0, .int 0, .int 0])))) ((((((((u45.2 + 1) + 1) + 1) + 1) + 1) + 1) + 1) + 1) (((((((u45.2 + 1) + 1) + 1) + 1) + 1) + 1) + 1) eu77) yk_X5_init q594 rfl hl.1 ⟨Nat.le_of_ble_eq_true rfl, Nat.le_of_ble_eq_true rfl⟩ ⟨Nat.le_of_ble_eq_true rfl, Nat.le_of_ble_eq_true rfl⟩ rfl (Nat.le_of_ble_eq_true rfl) dX1_init_177 (fun H locs hR hS => ?_)
  obtain ⟨h78, eh78, hf⟩ := gBind hf
  refine g_aast X hR hS 7 4 (by decide) rfl gk_X5 eh78 dX1_init_180 (fun H locs hR hS => ?_)
  refine lv_iinc (v := (2 : Int32)) (lv' := [(1, .int (2 : Int32)), (0, .ref a0)]) hx hb dX1_init_181 hl (k := 0) rfl (by decide) (by decide) rfl (fun ls hl => ?_)
  refine lv_goto (tgt := 162) hx hb dX1_init_184 (by decide) ?_
  refine lv_iload_n hx hb dX1_init_162 rfl (lv_at hl 0 rfl) ?_
  refine lv_bipush (v := (24 : Int32)) hx hb dX1_init_163 (by decide) ?_
  refine lv_icmp_ge (tgt := 187) hx hb dX1_init_165 (by decide) (fun c => absurd c (by decide)) (fun _ => ?_)
  refine lv_aload_n hx hb dX1_init_168 rfl (lv_at hl 1 rfl) ?_
  obtain ⟨x79, ex79, hf⟩ := gBind hf
  refine g_getr X hR gk_X1 24 (by decide) q669 rfl ex79 dX1_init_169 ?_
  refine lv_iload_n hx hb dX1_init_172 rfl (lv_at hl 0 rfl) ?_
  refine g_new X hR hS gk_X5 q150 q593 q115 [.int 0, .int 0, .int 0] (by decide +kernel) ⟨Nat.le_of_ble_eq_true rfl, Nat.le_of_ble_eq_true rfl⟩ dX1_init_173 (fun H hR hS => ?_)
  refine lv_dup hx hb dX1_init_176 rfl ?_
  obtain ⟨u81, eu81, hf⟩ := gBind hf
  refine g_callIN X hR hS [] (m_X5_init l G F (va_up h78 ((((((((u45.2 + 1) + 1) + 1) + 1) + 1) + 1) + 1) + 1) (some (.inr (4, [.int 0, .int 0, .int 0])))) (((((((((u45.2 + 1) + 1) + 1) + 1) + 1) + 1) + 1) + 1) + 1) ((((((((u45.2 + 1) + 1) + 1) + 1) + 1) + 1) + 1) + 1) eu81) yk_X5_init q594 rfl hl.1 ⟨Nat.le_of_ble_eq_true rfl, Nat.le_of_ble_eq_true rfl⟩ ⟨Nat.le_of_ble_eq_true rfl, Nat.le_of_ble_eq_true rfl⟩ rfl (Nat.le_of_ble_eq_true rfl) dX1_init_177 (fun H locs hR hS => ?_)
  obtain ⟨h82, eh82, hf⟩ := gBind hf
  refine g_aast X hR hS 7 4 (by decide) rfl gk_X5 eh82 dX1_init_180 (fun H locs hR hS => ?_)
  refine lv_iinc (v := (3 : Int32)) (lv' := [(1, .int (3 : Int32)), (0, .ref a0)]) hx hb dX1_init_181 hl (k := 0) rfl (by decide) (by decide) rfl (fun ls hl => ?_)
  refine lv_goto (tgt := 162) hx hb dX1_init_184 (by decide) ?_
  refine lv_iload_n hx hb dX1_init_162 rfl (lv_at hl 0 rfl) ?_
  refine lv_bipush (v := (24 : Int32)) hx hb dX1_init_163 (by decide) ?_
  refine lv_icmp_ge (tgt := 187) hx hb dX1_init_165 (by decide) (fun c => absurd c (by decide)) (fun _ => ?_)
  refine lv_aload_n hx hb dX1_init_168 rfl (lv_at hl 1 rfl) ?_
  obtain ⟨x83, ex83, hf⟩ := gBind hf
  refine g_getr X hR gk_X1 24 (by decide) q669 rfl ex83 dX1_init_169 ?_
  refine lv_iload_n hx hb dX1_init_172 rfl (lv_at hl 0 rfl) ?_
  refine g_new X hR hS gk_X5 q150 q593 q115 [.int 0, .int 0, .int 0] (by decide +kernel) ⟨Nat.le_of_ble_eq_true rfl, Nat.le_of_ble_eq_true rfl⟩ dX1_init_173 (fun H hR hS => ?_)
  refine lv_dup hx hb dX1_init_176 rfl ?_
  obtain ⟨u85, eu85, hf⟩ := gBind hf
  refine g_callIN X hR hS [] (m_X5_init l G F (va_up h82 (((((((((u45.2 + 1) + 1) + 1) + 1) + 1) + 1) + 1) + 1) + 1) (some (.inr (4, [.int 0, .int 0, .int 0])))) ((((((((((u45.2 + 1) + 1) + 1) + 1) + 1) + 1) + 1) + 1) + 1) + 1) (((((((((u45.2 + 1) + 1) + 1) + 1) + 1) + 1) + 1) + 1) + 1) eu85) yk_X5_init q594 rfl hl.1 ⟨Nat.le_of_ble_eq_true rfl, Nat.le_of_ble_eq_true rfl⟩ ⟨Nat.le_of_ble_eq_true rfl, Nat.le_of_ble_eq_true rfl⟩ rfl (Nat.le_of_ble_eq_true rfl) dX1_init_177 (fun H locs hR hS => ?_)
  obtain ⟨h86, eh86, hf⟩ := gBind hf
  refine g_aast X hR hS 7 4 (by decide) rfl gk_X5 eh86 dX1_init_180 (fun H locs hR hS => ?_)
  refine lv_iinc (v := (4 : Int32)) (lv' := [(1, .int (4 : Int32)), (0, .ref a0)]) hx hb dX1_init_181 hl (k := 0) rfl (by decide) (by decide) rfl (fun ls hl => ?_)
  refine lv_goto (tgt := 162) hx hb dX1_init_184 (by decide) ?_
  refine lv_iload_n hx hb dX1_init_162 rfl (lv_at hl 0 rfl) ?_
  refine lv_bipush (v := (24 : Int32)) hx hb dX1_init_163 (by decide) ?_
  refine lv_icmp_ge (tgt := 187) hx hb dX1_init_165 (by decide) (fun c => absurd c (by decide)) (fun _ => ?_)
  refine lv_aload_n hx hb dX1_init_168 rfl (lv_at hl 1 rfl) ?_
  obtain ⟨x87, ex87, hf⟩ := gBind hf
  refine g_getr X hR gk_X1 24 (by decide) q669 rfl ex87 dX1_init_169 ?_
  refine lv_iload_n hx hb dX1_init_172 rfl (lv_at hl 0 rfl) ?_
  refine g_new X hR hS gk_X5 q150 q593 q115 [.int 0, .int 0, .int 0] (by decide +kernel) ⟨Nat.le_of_ble_eq_true rfl, Nat.le_of_ble_eq_true rfl⟩ dX1_init_173 (fun H hR hS => ?_)
  refine lv_dup hx hb dX1_init_176 rfl ?_
  obtain ⟨u89, eu89, hf⟩ := gBind hf
  refine g_callIN X hR hS [] (m_X5_init l G F (va_up h86 ((((((((((u45.2 + 1) + 1) + 1) + 1) + 1) + 1) + 1) + 1) + 1) + 1) (some (.inr (4, [.int 0, .int 0, .int 0])))) (((((((((((u45.2 + 1) + 1) + 1) + 1) + 1) + 1) + 1) + 1) + 1) + 1) + 1) ((((((((((u45.2 + 1) + 1) + 1) + 1) + 1) + 1) + 1) + 1) + 1) + 1) eu89) yk_X5_init q594 rfl hl.1 ⟨Nat.le_of_ble_eq_true rfl, Nat.le_of_ble_eq_true rfl⟩ ⟨Nat.le_of_ble_eq_true rfl, Nat.le_of_ble_eq_true rfl⟩ rfl (Nat.le_of_ble_eq_true rfl) dX1_init_177 (fun H locs hR hS => ?_)
  obtain ⟨h90, eh90, hf⟩ := gBind hf
  refine g_aast X hR hS 7 4 (by decide) rfl gk_X5 eh90 dX1_init_180 (fun H locs hR hS => ?_)
  refine lv_iinc (v := (5 : Int32)) (lv' := [(1, .int (5 : Int32)), (0, .ref a0)]) hx hb dX1_init_181 hl (k := 0) rfl (by decide) (by decide) rfl (fun ls hl => ?_)
  refine lv_goto (tgt := 162) hx hb dX1_init_184 (by decide) ?_
  refine lv_iload_n hx hb dX1_init_162 rfl (lv_at hl 0 rfl) ?_
  refine lv_bipush (v := (24 : Int32)) hx hb dX1_init_163 (by decide) ?_
  refine lv_icmp_ge (tgt := 187) hx hb dX1_init_165 (by decide) (fun c => absurd c (by decide)) (fun _ => ?_)
  refine lv_aload_n hx hb dX1_init_168 rfl (lv_at hl 1 rfl) ?_
  obtain ⟨x91, ex91, hf⟩ := gBind hf
  refine g_getr X hR gk_X1 24 (by decide) q669 rfl ex91 dX1_init_169 ?_
  refine lv_iload_n hx hb dX1_init_172 rfl (lv_at hl 0 rfl) ?_
  refine g_new X hR hS gk_X5 q150 q593 q115 [.int 0, .int 0, .int 0] (by decide +kernel) ⟨Nat.le_of_ble_eq_true rfl, Nat.le_of_ble_eq_true rfl⟩ dX1_init_173 (fun H hR hS => ?_)
  refine lv_dup hx hb dX1_init_176 rfl ?_
  obtain ⟨u93, eu93, hf⟩ := gBind hf
  refine g_callIN X hR hS [] (m_X5_init l G F (va_up h90 (((((((((((u45.2 + 1) + 1) + 1) + 1) + 1) + 1) + 1) + 1) + 1) + 1) + 1) (some (.inr (4, [.int 0, .int 0, .int 0])))) ((((((((((((u45.2 + 1) + 1) + 1) + 1) + 1) + 1) + 1) + 1) + 1) + 1) + 1) + 1) (((((((((((u45.2 + 1) + 1) + 1) + 1) + 1) + 1) + 1) + 1) + 1) + 1) + 1) eu93) yk_X5_init q594 rfl hl.1 ⟨Nat.le_of_ble_eq_true rfl, Nat.le_of_ble_eq_true rfl⟩ ⟨Nat.le_of_ble_eq_true rfl, Nat.le_of_ble_eq_true rfl⟩ rfl (Nat.le_of_ble_eq_true rfl) dX1_init_177 (fun H locs hR hS => ?_)
  obtain ⟨h94, eh94, hf⟩ := gBind hf
  refine g_aast X hR hS 7 4 (by decide) rfl gk_X5 eh94 dX1_init_180 (fun H locs hR hS => ?_)
  refine lv_iinc (v := (6 : Int32)) (lv' := [(1, .int (6 : Int32)), (0, .ref a0)]) hx hb dX1_init_181 hl (k := 0) rfl (by decide) (by decide) rfl (fun ls hl => ?_)
  refine lv_goto (tgt := 162) hx hb dX1_init_184 (by decide) ?_
  refine lv_iload_n hx hb dX1_init_162 rfl (lv_at hl 0 rfl) ?_
  refine lv_bipush (v := (24 : Int32)) hx hb dX1_init_163 (by decide) ?_
  refine lv_icmp_ge (tgt := 187) hx hb dX1_init_165 (by decide) (fun c => absurd c (by decide)) (fun _ => ?_)
  refine lv_aload_n hx hb dX1_init_168 rfl (lv_at hl 1 rfl) ?_
  obtain ⟨x95, ex95, hf⟩ := gBind hf
  refine g_getr X hR gk_X1 24 (by decide) q669 rfl ex95 dX1_init_169 ?_
  refine lv_iload_n hx hb dX1_init_172 rfl (lv_at hl 0 rfl) ?_
  refine g_new X hR hS gk_X5 q150 q593 q115 [.int 0, .int 0, .int 0] (by decide +kernel) ⟨Nat.le_of_ble_eq_true rfl, Nat.le_of_ble_eq_true rfl⟩ dX1_init_173 (fun H hR hS => ?_)
  refine lv_dup hx hb dX1_init_176 rfl ?_
  obtain ⟨u97, eu97, hf⟩ := gBind hf
  refine g_callIN X hR hS [] (m_X5_init l G F (va_up h94 ((((((((((((u45.2 + 1) + 1) + 1) + 1) + 1) + 1) + 1) + 1) + 1) + 1) + 1) + 1) (some (.inr (4, [.int 0, .int 0, .int 0])))) (((((((((((((u45.2 + 1) + 1) + 1) + 1) + 1) + 1) + 1) + 1) + 1) + 1) + 1) + 1) + 1) ((((((((((((u45.2 + 1) + 1) + 1) + 1) + 1) + 1) + 1) + 1) + 1) + 1) + 1) + 1) eu97) yk_X5_init q594 rfl hl.1 ⟨Nat.le_of_ble_eq_true rfl, Nat.le_of_ble_eq_true rfl⟩ ⟨Nat.le_of_ble_eq_true rfl, Nat.le_of_ble_eq_true rfl⟩ rfl (Nat.le_of_ble_eq_true rfl) dX1_init_177 (fun H locs hR hS => ?_)
  obtain ⟨h98, eh98, hf⟩ := gBind hf
  refine g_aast X hR hS 7 4 (by decide) rfl gk_X5 eh98 dX1_init_180 (fun H locs hR hS => ?_)
  refine lv_iinc (v := (7 : Int32)) (lv' := [(1, .int (7 : Int32)), (0, .ref a0)]) hx hb dX1_init_181 hl (k := 0) rfl (by decide) (by decide) rfl (fun ls hl => ?_)
  refine lv_goto (tgt := 162) hx hb dX1_init_184 (by decide) ?_
  refine lv_iload_n hx hb dX1_init_162 rfl (lv_at hl 0 rfl) ?_
  refine lv_bipush (v := (24 : Int32)) hx hb dX1_init_163 (by decide) ?_
  refine lv_icmp_ge (tgt := 187) hx hb dX1_init_165 (by decide) (fun c => absurd c (by decide)) (fun _ => ?_)
  refine lv_aload_n hx hb dX1_init_168 rfl (lv_at hl 1 rfl) ?_
  obtain ⟨x99, ex99, hf⟩ := gBind hf
  refine g_getr X hR gk_X1 24 (by decide) q669 rfl ex99 dX1_init_169 ?_
  refine lv_iload_n hx hb dX1_init_172 rfl (lv_at hl 0 rfl) ?_
  refine g_new X hR hS gk_X5 q150 q593 q115 [.int 0, .int 0, .int 0] (by decide +kernel) ⟨Nat.le_of_ble_eq_true rfl, Nat.le_of_ble_eq_true rfl⟩ dX1_init_173 (fun H hR hS => ?_)
  refine lv_dup hx hb dX1_init_176 rfl ?_
  obtain ⟨u101, eu101, hf⟩ := gBind hf
  refine g_callIN X hR hS [] (m_X5_init l G F (va_up h98 (((((((((((((u45.2 + 1) + 1) + 1) + 1) + 1) + 1) + 1) + 1) + 1) + 1) + 1) + 1) + 1) (some (.inr (4, [.int 0, .int 0, .int 0])))) ((((((((((((((u45.2 + 1) + 1) + 1) + 1) + 1) + 1) + 1) + 1) + 1) + 1) + 1) + 1) + 1) + 1) (((((((((((((u45.2 + 1) + 1) + 1) + 1) + 1) + 1) + 1) + 1) + 1) + 1) + 1) + 1) + 1) eu101) yk_X5_init q594 rfl hl.1 ⟨Nat.le_of_ble_eq_true rfl, Nat.le_of_ble_eq_true rfl⟩ ⟨Nat.le_of_ble_eq_true rfl, Nat.le_of_ble_eq_true rfl⟩ rfl (Nat.le_of_ble_eq_true rfl) dX1_init_177 (fun H locs hR hS => ?_)
  obtain ⟨h102, eh102, hf⟩ := gBind hf
  refine g_aast X hR hS 7 4 (by decide) rfl gk_X5 eh102 dX1_init_180 (fun H locs hR hS => ?_)
  refine lv_iinc (v := (8 : Int32)) (lv' := [(1, .int (8 : Int32)), (0, .ref a0)]) hx hb dX1_init_181 hl (k := 0) rfl (by decide) (by decide) rfl (fun ls hl => ?_)
  refine lv_goto (tgt := 162) hx hb dX1_init_184 (by decide) ?_
  refine lv_iload_n hx hb dX1_init_162 rfl (lv_at hl 0 rfl) ?_
  refine lv_bipush (v := (24 : Int32)) hx hb dX1_init_163 (by decide) ?_
  refine lv_icmp_ge (tgt := 187) hx hb dX1_init_165 (by decide) (fun c => absurd c (by decide)) (fun _ => ?_)
  refine lv_aload_n hx hb dX1_init_168 rfl (lv_at hl 1 rfl) ?_
  obtain ⟨x103, ex103, hf⟩ := gBind hf
  refine g_getr X hR gk_X1 24 (by decide) q669 rfl ex103 dX1_init_169 ?_
  refine lv_iload_n hx hb dX1_init_172 rfl (lv_at hl 0 rfl) ?_
  refine g_new X hR hS gk_X5 q150 q593 q115 [.int 0, .int 0, .int 0] (by decide +kernel) ⟨Nat.le_of_ble_eq_true rfl, Nat.le_of_ble_eq_true rfl⟩ dX1_init_173 (fun H hR hS => ?_)
  refine lv_dup hx hb dX1_init_176 rfl ?_
  obtain ⟨u105, eu105, hf⟩ := gBind hf
  refine g_callIN X hR hS [] (m_X5_init l G F (va_up h102 ((((((((((((((u45.2 + 1) + 1) + 1) + 1) + 1) + 1) + 1) + 1) + 1) + 1) + 1) + 1) + 1) + 1) (some (.inr (4, [.int 0, .int 0, .int 0])))) (((((((((((((((u45.2 + 1) + 1) + 1) + 1) + 1) + 1) + 1) + 1) + 1) + 1) + 1) + 1) + 1) + 1) + 1) ((((((((((((((u45.2 + 1) + 1) + 1) + 1) + 1) + 1) + 1) + 1) + 1) + 1) + 1) + 1) + 1) + 1) eu105) yk_X5_init q594 rfl hl.1 ⟨Nat.le_of_ble_eq_true rfl, Nat.le_of_ble_eq_true rfl⟩ ⟨Nat.le_of_ble_eq_true rfl, Nat.le_of_ble_eq_true rfl⟩ rfl (Nat.le_of_ble_eq_true rfl) dX1_init_177 (fun H locs hR hS => ?_)
  obtain ⟨h106, eh106, hf⟩ := gBind hf
  refine g_aast X hR hS 7 4 (by decide) rfl gk_X5 eh106 dX1_init_180 (fun H locs hR hS => ?_)
  refine lv_iinc (v := (9 : Int32)) (lv' := [(1, .int (9 : Int32)), (0, .ref a0)]) hx hb dX1_init_181 hl (k := 0) rfl (by decide) (by decide) rfl (fun ls hl => ?_)
  refine lv_goto (tgt := 162) hx hb dX1_init_184 (by decide) ?_
  refine lv_iload_n hx hb dX1_init_162 rfl (lv_at hl 0 rfl) ?_
  refine lv_bipush (v := (24 : Int32)) hx hb dX1_init_163 (by decide) ?_
  refine lv_icmp_ge (tgt := 187) hx hb dX1_init_165 (by decide) (fun c => absurd c (by decide)) (fun _ => ?_)
  refine lv_aload_n hx hb dX1_init_168 rfl (lv_at hl 1 rfl) ?_
  obtain ⟨x107, ex107, hf⟩ := gBind hf
  refine g_getr X hR gk_X1 24 (by decide) q669 rfl ex107 dX1_init_169 ?_
  refine lv_iload_n hx hb dX1_init_172 rfl (lv_at hl 0 rfl) ?_
  refine g_new X hR hS gk_X5 q150 q593 q115 [.int 0, .int 0, .int 0] (by decide +kernel) ⟨Nat.le_of_ble_eq_true rfl, Nat.le_of_ble_eq_true rfl⟩ dX1_init_173 (fun H hR hS => ?_)
  refine lv_dup hx hb dX1_init_176 rfl ?_
  obtain ⟨u109, eu109, hf⟩ := gBind hf
  refine g_callIN X hR hS [] (m_X5_init l G F (va_up h106 (((((((((((((((u45.2 + 1) + 1) + 1) + 1) + 1) + 1) + 1) + 1) + 1) + 1) + 1) + 1) + 1) + 1) + 1) (some (.inr (4, [.int 0, .int 0, .int 0])))) ((((((((((((((((u45.2 + 1) + 1) + 1) + 1) + 1) + 1) + 1) + 1) + 1) + 1) + 1) + 1) + 1) + 1) + 1) + 1) (((((((((((((((u45.2 + 1) + 1) + 1) + 1) + 1) + 1) + 1) + 1) + 1) + 1) + 1) + 1) + 1) + 1) + 1) eu109) yk_X5_init q594 rfl hl.1 ⟨Nat.le_of_ble_eq_true rfl, Nat.le_of_ble_eq_true rfl⟩ ⟨Nat.le_of_ble_eq_true rfl, Nat.le_of_ble_eq_true rfl⟩ rfl (Nat.le_of_ble_eq_true rfl) dX1_init_177 (fun H locs hR hS => ?_)
  obtain ⟨h110, eh110, hf⟩ := gBind hf
  refine g_aast X hR hS 7 4 (by decide) rfl gk_X5 eh110 dX1_init_180 (fun H locs hR hS => ?_)
  refine lv_iinc (v := (10 : Int32)) (lv' := [(1, .int (10 : Int32)), (0, .ref a0)]) hx hb dX1_init_181 hl (k := 0) rfl (by decide) (by decide) rfl (fun ls hl => ?_)
  refine lv_goto (tgt := 162) hx hb dX1_init_184 (by decide) ?_
  refine lv_iload_n hx hb dX1_init_162 rfl (lv_at hl 0 rfl) ?_
  refine lv_bipush (v := (24 : Int32)) hx hb dX1_init_163 (by decide) ?_
  refine lv_icmp_ge (tgt := 187) hx hb dX1_init_165 (by decide) (fun c => absurd c (by decide)) (fun _ => ?_)
  refine lv_aload_n hx hb dX1_init_168 rfl (lv_at hl 1 rfl) ?_
  obtain ⟨x111, ex111, hf⟩ := gBind hf
  refine g_getr X hR gk_X1 24 (by decide) q669 rfl ex111 dX1_init_169 ?_
  refine lv_iload_n hx hb dX1_init_172 rfl (lv_at hl 0 rfl) ?_
  refine g_new X hR hS gk_X5 q150 q593 q115 [.int 0, .int 0, .int 0] (by decide +kernel) ⟨Nat.le_of_ble_eq_true rfl, Nat.le_of_ble_eq_true rfl⟩ dX1_init_173 (fun H hR hS => ?_)
  refine lv_dup hx hb dX1_init_176 rfl ?_
  obtain ⟨u113, eu113, hf⟩ := gBind hf
  refine g_callIN X hR hS [] (m_X5_init l G F (va_up h110 ((((((((((((((((u45.2 + 1) + 1) + 1) + 1) + 1) + 1) + 1) + 1) + 1) + 1) + 1) + 1) + 1) + 1) + 1) + 1) (some (.inr (4, [.int 0, .int 0, .int 0])))) (((((((((((((((((u45.2 + 1) + 1) + 1) + 1) + 1) + 1) + 1) + 1) + 1) + 1) + 1) + 1) + 1) + 1) + 1) + 1) + 1) ((((((((((((((((u45.2 + 1) + 1) + 1) + 1) + 1) + 1) + 1) + 1) + 1) + 1) + 1) + 1) + 1) + 1) + 1) + 1) eu113) yk_X5_init q594 rfl hl.1 ⟨Nat.le_of_ble_eq_true rfl, Nat.le_of_ble_eq_true rfl⟩ ⟨Nat.le_of_ble_eq_true rfl, Nat.le_of_ble_eq_true rfl⟩ rfl (Nat.le_of_ble_eq_true rfl) dX1_init_177 (fun H locs hR hS => ?_)
  obtain ⟨h114, eh114, hf⟩ := gBind hf
  refine g_aast X hR hS 7 4 (by decide) rfl gk_X5 eh114 dX1_init_180 (fun H locs hR hS => ?_)
  refine lv_iinc (v := (11 : Int32)) (lv' := [(1, .int (11 : Int32)), (0, .ref a0)]) hx hb dX1_init_181 hl (k := 0) rfl (by decide) (by decide) rfl (fun ls hl => ?_)
  refine lv_goto (tgt := 162) hx hb dX1_init_184 (by decide) ?_
  refine lv_iload_n hx hb dX1_init_162 rfl (lv_at hl 0 rfl) ?_
  refine lv_bipush (v := (24 : Int32)) hx hb dX1_init_163 (by decide) ?_
  refine lv_icmp_ge (tgt := 187) hx hb dX1_init_165 (by decide) (fun c => absurd c (by decide)) (fun _ => ?_)
  refine lv_aload_n hx hb dX1_init_168 rfl (lv_at hl 1 rfl) ?_
  obtain ⟨x115, ex115, hf⟩ := gBind hf
  refine g_getr X hR gk_X1 24 (by decide) q669 rfl ex115 dX1_init_169 ?_
  refine lv_iload_n hx hb dX1_init_172 rfl (lv_at hl 0 rfl) ?_
  refine g_new X hR hS gk_X5 q150 q593 q115 [.int 0, .int 0, .int 0] (by decide +kernel) ⟨Nat.le_of_ble_eq_true rfl, Nat.le_of_ble_eq_true rfl⟩ dX1_init_173 (fun H hR hS => ?_)
  refine lv_dup hx hb dX1_init_176 rfl ?_
  obtain ⟨u117, eu117, hf⟩ := gBind hf
  refine g_callIN X hR hS [] (m_X5_init l G F (va_up h114 (((((((((((((((((u45.2 + 1) + 1) + 1) + 1) + 1) + 1) + 1) + 1) + 1) + 1) + 1) + 1) + 1) + 1) + 1) + 1) + 1) (some (.inr (4, [.int 0, .int 0, .int 0])))) ((((((((((((((((((u45.2 + 1) + 1) + 1) + 1) + 1) + 1) + 1) + 1) + 1) + 1) + 1) + 1) + 1) + 1) + 1) + 1) + 1) + 1) (((((((((((((((((u45.2 + 1) + 1) + 1) + 1) + 1) + 1) + 1) + 1) + 1) + 1) + 1) + 1) + 1) + 1) + 1) + 1) + 1) eu117) yk_X5_init q594 rfl hl.1 ⟨Nat.le_of_ble_eq_true rfl, Nat.le_of_ble_eq_true rfl⟩ ⟨Nat.le_of_ble_eq_true rfl, Nat.le_of_ble_eq_true rfl⟩ rfl (Nat.le_of_ble_eq_true rfl) dX1_init_177 (fun H locs hR hS => ?_)
  obtain ⟨h118, eh118, hf⟩ := gBind hf
  refine g_aast X hR hS 7 4 (by decide) rfl gk_X5 eh118 dX1_init_180 (fun H locs hR hS => ?_)
  refine lv_iinc (v := (12 : Int32)) (lv' := [(1, .int (12 : Int32)), (0, .ref a0)]) hx hb dX1_init_181 hl (k := 0) rfl (by decide) (by decide) rfl (fun ls hl => ?_)
  refine lv_goto (tgt := 162) hx hb dX1_init_184 (by decide) ?_
  refine lv_iload_n hx hb dX1_init_162 rfl (lv_at hl 0 rfl) ?_
  refine lv_bipush (v := (24 : Int32)) hx hb dX1_init_163 (by decide) ?_
  refine lv_icmp_ge (tgt := 187) hx hb dX1_init_165 (by decide) (fun c => absurd c (by decide)) (fun _ => ?_)
  refine lv_aload_n hx hb dX1_init_168 rfl (lv_at hl 1 rfl) ?_
  obtain ⟨x119, ex119, hf⟩ := gBind hf
  refine g_getr X hR gk_X1 24 (by decide) q669 rfl ex119 dX1_init_169 ?_
  refine lv_iload_n hx hb dX1_init_172 rfl (lv_at hl 0 rfl) ?_
  refine g_new X hR hS gk_X5 q150 q593 q115 [.int 0, .int 0, .int 0] (by decide +kernel) ⟨Nat.le_of_ble_eq_true rfl, Nat.le_of_ble_eq_true rfl⟩ dX1_init_173 (fun H hR hS => ?_)
  refine lv_dup hx hb dX1_init_176 rfl ?_
  obtain ⟨u121, eu121, hf⟩ := gBind hf
  refine g_callIN X hR hS [] (m_X5_init l G F (va_up h118 ((((((((((((((((((u45.2 + 1) + 1) + 1) + 1) + 1) + 1) + 1) + 1) + 1) + 1) + 1) + 1) + 1) + 1) + 1) + 1) + 1) + 1) (some (.inr (4, [.int 0, .int 0, .int 0])))) (((((((((((((((((((u45.2 + 1) + 1) + 1) + 1) + 1) + 1) + 1) + 1) + 1) + 1) + 1) + 1) + 1) + 1) + 1) + 1) + 1) + 1) + 1) ((((((((((((((((((u45.2 + 1) + 1) + 1) + 1) + 1) + 1) + 1) + 1) + 1) + 1) + 1) + 1) + 1) + 1) + 1) + 1) + 1) + 1) eu121) yk_X5_init q594 rfl hl.1 ⟨Nat.le_of_ble_eq_true rfl, Nat.le_of_ble_eq_true rfl⟩ ⟨Nat.le_of_ble_eq_true rfl, Nat.le_of_ble_eq_true rfl⟩ rfl (Nat.le_of_ble_eq_true rfl) dX1_init_177 (fun H locs hR hS => ?_)
  obtain ⟨h122, eh122, hf⟩ := gBind hf
  refine g_aast X hR hS 7 4 (by decide) rfl gk_X5 eh122 dX1_init_180 (fun H locs hR hS => ?_)
  refine lv_iinc (v := (13 : Int32)) (lv' := [(1, .int (13 : Int32)), (0, .ref a0)]) hx hb dX1_init_181 hl (k := 0) rfl (by decide) (by decide) rfl (fun ls hl => ?_)
  refine lv_goto (tgt := 162) hx hb dX1_init_184 (by decide) ?_
  refine lv_iload_n hx hb dX1_init_162 rfl (lv_at hl 0 rfl) ?_
  refine lv_bipush (v := (24 : Int32)) hx hb dX1_init_163 (by decide) ?_
  refine lv_icmp_ge (tgt := 187) hx hb dX1_init_165 (by decide) (fun c => absurd c (by decide)) (fun _ => ?_)
  refine lv_aload_n hx hb dX1_init_168 rfl (lv_at hl 1 rfl) ?_
  obtain ⟨x123, ex123, hf⟩ := gBind hf
  refine g_getr X hR gk_X1 24 (by decide) q669 rfl ex123 dX1_init_169 ?_
  refine lv_iload_n hx hb dX1_init_172 rfl (lv_at hl 0 rfl) ?_
  refine g_new X hR hS gk_X5 q150 q593 q115 [.int 0, .int 0, .int 0] (by decide +kernel) ⟨Nat.le_of_ble_eq_true rfl, Nat.le_of_ble_eq_true rfl⟩ dX1_init_173 (fun H hR hS => ?_)
  refine lv_dup hx hb dX1_init_176 rfl ?_
  obtain ⟨u125, eu125, hf⟩ := gBind hf
  refine g_callIN X hR hS [] (m_X5_init l G F (va_up h122 (((((((((((((((((((u45.2 + 1) + 1) + 1) + 1) + 1) + 1) + 1) + 1) + 1) + 1) + 1) + 1) + 1) + 1) + 1) + 1) + 1) + 1) + 1) (some (.inr (4, [.int 0, .int 0, .int 0])))) ((((((((((((((((((((u45.2 + 1) + 1) + 1) + 1) + 1) + 1) + 1) + 1) + 1) + 1) + 1) + 1) + 1) + 1) + 1) + 1) + 1) + 1) + 1) + 1) (((((((((((((((((((u45.2 + 1) + 1) + 1) + 1) + 1) + 1) + 1) + 1) + 1) + 1) + 1) + 1) + 1) + 1) + 1) + 1) + 1) + 1) + 1) eu125) yk_X5_init q594 rfl hl.1 ⟨Nat.le_of_ble_eq_true rfl, Nat.le_of_ble_eq_true rfl⟩ ⟨Nat.le_of_ble_eq_true rfl, Nat.le_of_ble_eq_true rfl⟩ rfl (Nat.le_of_ble_eq_true rfl) dX1_init_177 (fun H locs hR hS => ?_)
  obtain ⟨h126, eh126, hf⟩ := gBind hf
  refine g_aast X hR hS 7 4 (by decide) rfl gk_X5 eh126 dX1_init_180 (fun H locs hR hS => ?_)
  refine lv_iinc (v := (14 : Int32)) (lv' := [(1, .int (14 : Int32)), (0, .ref a0)]) hx hb dX1_init_181 hl (k := 0) rfl (by decide) (by decide) rfl (fun ls hl => ?_)
  refine lv_goto (tgt := 162) hx hb dX1_init_184 (by decide) ?_
  refine lv_iload_n hx hb dX1_init_162 rfl (lv_at hl 0 rfl) ?_
  refine lv_bipush (v := (24 : Int32)) hx hb dX1_init_163 (by decide) ?_
  refine lv_icmp_ge (tgt := 187) hx hb dX1_init_165 (by decide) (fun c => absurd c (by decide)) (fun _ => ?_)
  refine lv_aload_n hx hb dX1_init_168 rfl (lv_at hl 1 rfl) ?_
  obtain ⟨x127, ex127, hf⟩ := gBind hf
  refine g_getr X hR gk_X1 24 (by decide) q669 rfl ex127 dX1_init_169 ?_
  refine lv_iload_n hx hb dX1_init_172 rfl (lv_at hl 0 rfl) ?_
  refine g_new X hR hS gk_X5 q150 q593 q115 [.int 0, .int 0, .int 0] (by decide +kernel) ⟨Nat.le_of_ble_eq_true rfl, Nat.le_of_ble_eq_true rfl⟩ dX1_init_173 (fun H hR hS => ?_)
  refine lv_dup hx hb dX1_init_176 rfl ?_
  obtain ⟨u129, eu129, hf⟩ := gBind hf
  refine g_callIN X hR hS [] (m_X5_init l G F (va_up h126 ((((((((((((((((((((u45.2 + 1) + 1) + 1) + 1) + 1) + 1) + 1) + 1) + 1) + 1) + 1) + 1) + 1) + 1) + 1) + 1) + 1) + 1) + 1) + 1) (some (.inr (4, [.int 0, .int 0, .int 0])))) (((((((((((((((((((((u45.2 + 1) + 1) + 1) + 1) + 1) + 1) + 1) + 1) + 1) + 1) + 1) + 1) + 1) + 1) + 1) + 1) + 1) + 1) + 1) + 1) + 1) ((((((((((((((((((((u45.2 + 1) + 1) + 1) + 1) + 1) + 1) + 1) + 1) + 1) + 1) + 1) + 1) + 1) + 1) + 1) + 1) + 1) + 1) + 1) + 1) eu129) yk_X5_init q594 rfl hl.1 ⟨Nat.le_of_ble_eq_true rfl, Nat.le_of_ble_eq_true rfl⟩ ⟨Nat.le_of_ble_eq_true rfl, Nat.le_of_ble_eq_true rfl⟩ rfl (Nat.le_of_ble_eq_true rfl) dX1_init_177 (fun H locs hR hS => ?_)
  obtain ⟨h130, eh130, hf⟩ := gBind hf
  refine g_aast X hR hS 7 4 (by decide) rfl gk_X5 eh130 dX1_init_180 (fun H locs hR hS => ?_)
  refine lv_iinc (v := (15 : Int32)) (lv' := [(1, .int (15 : Int32)), (0, .ref a0)]) hx hb dX1_init_181 hl (k := 0) rfl (by decide) (by decide) rfl (fun ls hl => ?_)
  refine lv_goto (tgt := 162) hx hb dX1_init_184 (by decide) ?_
  refine lv_iload_n hx hb dX1_init_162 rfl (lv_at hl 0 rfl) ?_
  refine lv_bipush (v := (24 : Int32)) hx hb dX1_init_163 (by decide) ?_
  refine lv_icmp_ge (tgt := 187) hx hb dX1_init_165 (by decide) (fun c => absurd c (by decide)) (fun _ => ?_)
  refine lv_aload_n hx hb dX1_init_168 rfl (lv_at hl 1 rfl) ?_
  obtain ⟨x131, ex131, hf⟩ := gBind hf
  refine g_getr X hR gk_X1 24 (by decide) q669 rfl ex131 dX1_init_169 ?_
  refine lv_iload_n hx hb dX1_init_172 rfl (lv_at hl 0 rfl) ?_
  refine g_new X hR hS gk_X5 q150 q593 q115 [.int 0, .int 0, .int 0] (by decide +kernel) ⟨Nat.le_of_ble_eq_true rfl, Nat.le_of_ble_eq_true rfl⟩ dX1_init_173 (fun H hR hS => ?_)
  refine lv_dup hx hb dX1_init_176 rfl ?_
  obtain ⟨u133, eu133, hf⟩ := gBind hf
  refine g_callIN X hR hS [] (m_X5_init l G F (va_up h130 (((((((((((((((((((((u45.2 + 1) + 1) + 1) + 1) + 1) + 1) + 1) + 1) + 1) + 1) + 1) + 1) + 1) + 1) + 1) + 1) + 1) + 1) + 1) + 1) + 1) (some (.inr (4, [.int 0, .int 0, .int 0])))) ((((((((((((((((((((((u45.2 + 1) + 1) + 1) + 1) + 1) + 1) + 1) + 1) + 1) + 1) + 1) + 1) + 1) + 1) + 1) + 1) + 1) + 1) + 1) + 1) + 1) + 1) (((((((((((((((((((((u45.2 + 1) + 1) + 1) + 1) + 1) + 1) + 1) + 1) + 1) + 1) + 1) + 1) + 1) + 1) + 1) + 1) + 1) + 1) + 1) + 1) + 1) eu133) yk_X5_init q594 rfl hl.1 ⟨Nat.le_of_ble_eq_true rfl, Nat.le_of_ble_eq_true rfl⟩ ⟨Nat.le_of_ble_eq_true rfl, Nat.le_of_ble_eq_true rfl⟩ rfl (Nat.le_of_ble_eq_true rfl) dX1_init_177 (fun H locs hR hS => ?_)
  obtain ⟨h134, eh134, hf⟩ := gBind hf
  refine g_aast X hR hS 7 4 (by decide) rfl gk_X5 eh134 dX1_init_180 (fun H locs hR hS => ?_)
  refine lv_iinc (v := (16 : Int32)) (lv' := [(1, .int (16 : Int32)), (0, .ref a0)]) hx hb dX1_init_181 hl (k := 0) rfl (by decide) (by decide) rfl (fun ls hl => ?_)
  refine lv_goto (tgt := 162) hx hb dX1_init_184 (by decide) ?_
  refine lv_iload_n hx hb dX1_init_162 rfl (lv_at hl 0 rfl) ?_
  refine lv_bipush (v := (24 : Int32)) hx hb dX1_init_163 (by decide) ?_
  refine lv_icmp_ge (tgt := 187) hx hb dX1_init_165 (by decide) (fun c => absurd c (by decide)) (fun _ => ?_)
  refine lv_aload_n hx hb dX1_init_168 rfl (lv_at hl 1 rfl) ?_
  obtain ⟨x135, ex135, hf⟩ := gBind hf
  refine g_getr X hR gk_X1 24 (by decide) q669 rfl ex135 dX1_init_169 ?_
  refine lv_iload_n hx hb dX1_init_172 rfl (lv_at hl 0 rfl) ?_
  refine g_new X hR hS gk_X5 q150 q593 q115 [.int 0, .int 0, .int 0] (by decide +kernel) ⟨Nat.le_of_ble_eq_true rfl, Nat.le_of_ble_eq_true rfl⟩ dX1_init_173 (fun H hR hS => ?_)
  refine lv_dup hx hb dX1_init_176 rfl ?_
  obtain ⟨u137, eu137, hf⟩ := gBind hf
  refine g_callIN X hR hS [] (m_X5_init l G F (va_up h134 ((((((((((((((((((((((u45.2 + 1) + 1) + 1) + 1) + 1) + 1) + 1) + 1) + 1) + 1) + 1) + 1) + 1) + 1) + 1) + 1) + 1) + 1) + 1) + 1) + 1) + 1) (some (.inr (4, [.int 0, .int 0, .int 0])))) (((((((((((((((((((((((u45.2 + 1) + 1) + 1) + 1) + 1) + 1) + 1) + 1) + 1) + 1) + 1) + 1) + 1) + 1) + 1) + 1) + 1) + 1) + 1) + 1) + 1) + 1) + 1) ((((((((((((((((((((((u45.2 + 1) + 1) + 1) + 1) + 1) + 1) + 1) + 1) + 1) + 1) + 1) + 1) + 1) + 1) + 1) + 1) + 1) + 1) + 1) + 1) + 1) + 1) eu137) yk_X5_init q594 rfl hl.1 ⟨Nat.le_of_ble_eq_true rfl, Nat.le_of_ble_eq_true rfl⟩ ⟨Nat.le_of_ble_eq_true rfl, Nat.le_of_ble_eq_true rfl⟩ rfl (Nat.le_of_ble_eq_true rfl) dX1_init_177 (fun H locs hR hS => ?_)
  obtain ⟨h138, eh138, hf⟩ := gBind hf
  refine g_aast X hR hS 7 4 (by decide) rfl gk_X5 eh138 dX1_init_180 (fun H locs hR hS => ?_)
  refine lv_iinc (v := (17 : Int32)) (lv' := [(1, .int (17 : Int32)), (0, .ref a0)]) hx hb dX1_init_181 hl (k := 0) rfl (by decide) (by decide) rfl (fun ls hl => ?_)
  refine lv_goto (tgt := 162) hx hb dX1_init_184 (by decide) ?_
  refine lv_iload_n hx hb dX1_init_162 rfl (lv_at hl 0 rfl) ?_
  refine lv_bipush (v := (24 : Int32)) hx hb dX1_init_163 (by decide) ?_
  refine lv_icmp_ge (tgt := 187) hx hb dX1_init_165 (by decide) (fun c => absurd c (by decide)) (fun _ => ?_)
  refine lv_aload_n hx hb dX1_init_168 rfl (lv_at hl 1 rfl) ?_
  obtain ⟨x139, ex139, hf⟩ := gBind hf
  refine g_getr X hR gk_X1 24 (by decide) q669 rfl ex139 dX1_init_169 ?_
  refine lv_iload_n hx hb dX1_init_172 rfl (lv_at hl 0 rfl) ?_
  refine g_new X hR hS gk_X5 q150 q593 q115 [.int 0, .int 0, .int 0] (by decide +kernel) ⟨Nat.le_of_ble_eq_true rfl, Nat.le_of_ble_eq_true rfl⟩ dX1_init_173 (fun H hR hS => ?_)
  refine lv_dup hx hb dX1_init_176 rfl ?_
  obtain ⟨u141, eu141, hf⟩ := gBind hf
  refine g_callIN X hR hS [] (m_X5_init l G F (va_up h138 (((((((((((((((((((((((u45.2 + 1) + 1) + 1) + 1) + 1) + 1) + 1) + 1) + 1) + 1) + 1) + 1) + 1) + 1) + 1) + 1) + 1) + 1) + 1) + 1) + 1) + 1) + 1) (some (.inr (4, [.int 0, .int 0, .int 0])))) ((((((((((((((((((((((((u45.2 + 1) + 1) + 1) + 1) + 1) + 1) + 1) + 1) + 1) + 1) + 1) + 1) + 1) + 1) + 1) + 1) + 1) + 1) + 1) + 1) + 1) + 1) + 1) + 1) (((((((((((((((((((((((u45.2 + 1) + 1) + 1) + 1) + 1) + 1) + 1) + 1) + 1) + 1) + 1) + 1) + 1) + 1) + 1) + 1) + 1) + 1) + 1) + 1) + 1) + 1) + 1) eu141) yk_X5_init q594 rfl hl.1 ⟨Nat.le_of_ble_eq_true rfl, Nat.le_of_ble_eq_true rfl⟩ ⟨Nat.le_of_ble_eq_true rfl, Nat.le_of_ble_eq_true rfl⟩ rfl (Nat.le_of_ble_eq_true rfl) dX1_init_177 (fun H locs hR hS => ?_)
  obtain ⟨h142, eh142, hf⟩ := gBind hf
  refine g_aast X hR hS 7 4 (by decide) rfl gk_X5 eh142 dX1_init_180 (fun H locs hR hS => ?_)
  refine lv_iinc (v := (18 : Int32)) (lv' := [(1, .int (18 : Int32)), (0, .ref a0)]) hx hb dX1_init_181 hl (k := 0) rfl (by decide) (by decide) rfl (fun ls hl => ?_)
  refine lv_goto (tgt := 162) hx hb dX1_init_184 (by decide) ?_
  refine lv_iload_n hx hb dX1_init_162 rfl (lv_at hl 0 rfl) ?_
  refine lv_bipush (v := (24 : Int32)) hx hb dX1_init_163 (by decide) ?_
  refine lv_icmp_ge (tgt := 187) hx hb dX1_init_165 (by decide) (fun c => absurd c (by decide)) (fun _ => ?_)
  refine lv_aload_n hx hb dX1_init_168 rfl (lv_at hl 1 rfl) ?_
  obtain ⟨x143, ex143, hf⟩ := gBind hf
  refine g_getr X hR gk_X1 24 (by decide) q669 rfl ex143 dX1_init_169 ?_
  refine lv_iload_n hx hb dX1_init_172 rfl (lv_at hl 0 rfl) ?_
  refine g_new X hR hS gk_X5 q150 q593 q115 [.int 0, .int 0, .int 0] (by decide +kernel) ⟨Nat.le_of_ble_eq_true rfl, Nat.le_of_ble_eq_true rfl⟩ dX1_init_173 (fun H hR hS => ?_)
  refine lv_dup hx hb dX1_init_176 rfl ?_
  obtain ⟨u145, eu145, hf⟩ := gBind hf
  refine g_callIN X hR hS [] (m_X5_init l G F (va_up h142 ((((((((((((((((((((((((u45.2 + 1) + 1) + 1) + 1) + 1) + 1) + 1) + 1) + 1) + 1) + 1) + 1) + 1) + 1) + 1) + 1) + 1) + 1) + 1) + 1) + 1) + 1) + 1) + 1) (some (.inr (4, [.int 0, .int 0, .int 0])))) (((((((((((((((((((((((((u45.2 + 1) + 1) + 1) + 1) + 1) + 1) + 1) + 1) + 1) + 1) + 1) + 1) + 1) + 1) + 1) + 1) + 1) + 1) + 1) + 1) + 1) + 1) + 1) + 1) + 1) ((((((((((((((((((((((((u45.2 + 1) + 1) + 1) + 1) + 1) + 1) + 1) + 1) + 1) + 1) + 1) + 1) + 1) + 1) + 1) + 1) + 1) + 1) + 1) + 1) + 1) + 1) + 1) + 1) eu145) yk_X5_init q594 rfl hl.1 ⟨Nat.le_of_ble_eq_true rfl, Nat.le_of_ble_eq_true rfl⟩ ⟨Nat.le_of_ble_eq_true rfl, Nat.le_of_ble_eq_true rfl⟩ rfl (Nat.le_of_ble_eq_true rfl) dX1_init_177 (fun H locs hR hS => ?_)
  obtain ⟨h146, eh146, hf⟩ := gBind hf
  refine g_aast X hR hS 7 4 (by decide) rfl gk_X5 eh146 dX1_init_180 (fun H locs hR hS => ?_)
  refine lv_iinc (v := (19 : Int32)) (lv' := [(1, .int (19 : Int32)), (0, .ref a0)]) hx hb dX1_init_181 hl (k := 0) rfl (by decide) (by decide) rfl (fun ls hl => ?_)
  refine lv_goto (tgt := 162) hx hb dX1_init_184 (by decide) ?_
  refine lv_iload_n hx hb dX1_init_162 rfl (lv_at hl 0 rfl) ?_
  refine lv_bipush (v := (24 : Int32)) hx hb dX1_init_163 (by decide) ?_
  refine lv_icmp_ge (tgt := 187) hx hb dX1_init_165 (by decide) (fun c => absurd c (by decide)) (fun _ => ?_)
  refine lv_aload_n hx hb dX1_init_168 rfl (lv_at hl 1 rfl) ?_
  obtain ⟨x147, ex147, hf⟩ := gBind hf
  refine g_getr X hR gk_X1 24 (by decide) q669 rfl ex147 dX1_init_169 ?_
  refine lv_iload_n hx hb dX1_init_172 rfl (lv_at hl 0 rfl) ?_
  refine g_new X hR hS gk_X5 q150 q593 q115 [.int 0, .int 0, .int 0] (by decide +kernel) ⟨Nat.le_of_ble_eq_true rfl, Nat.le_of_ble_eq_true rfl⟩ dX1_init_173 (fun H hR hS => ?_)
  refine lv_dup hx hb dX1_init_176 rfl ?_
  obtain ⟨u149, eu149, hf⟩ := gBind hf
  refine g_callIN X hR hS [] (m_X5_init l G F (va_up h146 (((((((((((((((((((((((((u45.2 + 1) + 1) + 1) + 1) + 1) + 1) + 1) + 1) + 1) + 1) + 1) + 1) + 1) + 1) + 1) + 1) + 1) + 1) + 1) + 1) + 1) + 1) + 1) + 1) + 1) (some (.inr (4, [.int 0, .int 0, .int 0])))) ((((((((((((((((((((((((((u45.2 + 1) + 1) + 1) + 1) + 1) + 1) + 1) + 1) + 1) + 1) + 1) + 1) + 1) + 1) + 1) + 1) + 1) + 1) + 1) + 1) + 1) + 1) + 1) + 1) + 1) + 1) (((((((((((((((((((((((((u45.2 + 1) + 1) + 1) + 1) + 1) + 1) + 1) + 1) + 1) + 1) + 1) + 1) + 1) + 1) + 1) + 1) + 1) + 1) + 1) + 1) + 1) + 1) + 1) + 1) + 1) eu149) yk_X5_init q594 rfl hl.1 ⟨Nat.le_of_ble_eq_true rfl, Nat.le_of_ble_eq_true rfl⟩ ⟨Nat.le_of_ble_eq_true rfl, Nat.le_of_ble_eq_true rfl⟩ rfl (Nat.le_of_ble_eq_true rfl) dX1_init_177 (fun H locs hR hS => ?_)
  obtain ⟨h150, eh150, hf⟩ := gBind hf
  refine g_aast X hR hS 7 4 (by decide) rfl gk_X5 eh150 dX1_init_180 (fun H locs hR hS => ?_)
  refine lv_iinc (v := (20 : Int32)) (lv' := [(1, .int (20 : Int32)), (0, .ref a0)]) hx hb dX1_init_181 hl (k := 0) rfl (by decide) (by decide) rfl (fun ls hl => ?_)
  refine lv_goto (tgt := 162) hx hb dX1_init_184 (by decide) ?_
  refine lv_iload_n hx hb dX1_init_162 rfl (lv_at hl 0 rfl) ?_
  refine lv_bipush (v := (24 : Int32)) hx hb dX1_init_163 (by decide) ?_
  refine lv_icmp_ge (tgt := 187) hx hb dX1_init_165 (by decide) (fun c => absurd c (by decide)) (fun _ => ?_)
  refine lv_aload_n hx hb dX1_init_168 rfl (lv_at hl 1 rfl) ?_
  obtain ⟨x151, ex151, hf⟩ := gBind hf
  refine g_getr X hR gk_X1 24 (by decide) q669 rfl ex151 dX1_init_169 ?_
  refine lv_iload_n hx hb dX1_init_172 rfl (lv_at hl 0 rfl) ?_
  refine g_new X hR hS gk_X5 q150 q593 q115 [.int 0, .int 0, .int 0] (by decide +kernel) ⟨Nat.le_of_ble_eq_true rfl, Nat.le_of_ble_eq_true rfl⟩ dX1_init_173 (fun H hR hS => ?_)
  refine lv_dup hx hb dX1_init_176 rfl ?_
  obtain ⟨u153, eu153, hf⟩ := gBind hf
  refine g_callIN X hR hS [] (m_X5_init l G F (va_up h150 ((((((((((((((((((((((((((u45.2 + 1) + 1) + 1) + 1) + 1) + 1) + 1) + 1) + 1) + 1) + 1) + 1) + 1) + 1) + 1) + 1) + 1) + 1) + 1) + 1) + 1) + 1) + 1) + 1) + 1) + 1) (some (.inr (4, [.int 0, .int 0, .int 0])))) (((((((((((((((((((((((((((u45.2 + 1) + 1) + 1) + 1) + 1) + 1) + 1) + 1) + 1) + 1) + 1) + 1) + 1) + 1) + 1) + 1) + 1) + 1) + 1) + 1) + 1) + 1) + 1) + 1) + 1) + 1) + 1) ((((((((((((((((((((((((((u45.2 + 1) + 1) + 1) + 1) + 1) + 1) + 1) + 1) + 1) + 1) + 1) + 1) + 1) + 1) + 1) + 1) + 1) + 1) + 1) + 1) + 1) + 1) + 1) + 1) + 1) + 1) eu153) yk_X5_init q594 rfl hl.1 ⟨Nat.le_of_ble_eq_true rfl, Nat.le_of_ble_eq_true rfl⟩ ⟨Nat.le_of_ble_eq_true rfl, Nat.le_of_ble_eq_true rfl⟩ rfl (Nat.le_of_ble_eq_true rfl) dX1_init_177 (fun H locs hR hS => ?_)
  obtain ⟨h154, eh154, hf⟩ := gBind hf
  refine g_aast X hR hS 7 4 (by decide) rfl gk_X5 eh154 dX1_init_180 (fun H locs hR hS => ?_)
  refine lv_iinc (v := (21 : Int32)) (lv' := [(1, .int (21 : Int32)), (0, .ref a0)]) hx hb dX1_init_181 hl (k := 0) rfl (by decide) (by decide) rfl (fun ls hl => ?_)
  refine lv_goto (tgt := 162) hx hb dX1_init_184 (by decide) ?_
  refine lv_iload_n hx hb dX1_init_162 rfl (lv_at hl 0 rfl) ?_
  refine lv_bipush (v := (24 : Int32)) hx hb dX1_init_163 (by decide) ?_
  refine lv_icmp_ge (tgt := 187) hx hb dX1_init_165 (by decide) (fun c => absurd c (by decide)) (fun _ => ?_)
  refine lv_aload_n hx hb dX1_init_168 rfl (lv_at hl 1 rfl) ?_
  obtain ⟨x155, ex155, hf⟩ := gBind hf
  refine g_getr X hR gk_X1 24 (by decide) q669 rfl ex155 dX1_init_169 ?_
  refine lv_iload_n hx hb dX1_init_172 rfl (lv_at hl 0 rfl) ?_
  refine g_new X hR hS gk_X5 q150 q593 q115 [.int 0, .int 0, .int 0] (by decide +kernel) ⟨Nat.le_of_ble_eq_true rfl, Nat.le_of_ble_eq_true rfl⟩ dX1_init_173 (fun H hR hS => ?_)
  refine lv_dup hx hb dX1_init_176 rfl ?_
  obtain ⟨u157, eu157, hf⟩ := gBind hf
  refine g_callIN X hR hS [] (m_X5_init l G F (va_up h154 (((((((((((((((((((((((((((u45.2 + 1) + 1) + 1) + 1) + 1) + 1) + 1) + 1) + 1) + 1) + 1) + 1) + 1) + 1) + 1) + 1) + 1) + 1) + 1) + 1) + 1) + 1) + 1) + 1) + 1) + 1) + 1) (some (.inr (4, [.int 0, .int 0, .int 0])))) ((((((((((((((((((((((((((((u45.2 + 1) + 1) + 1) + 1) + 1) + 1) + 1) + 1) + 1) + 1) + 1) + 1) + 1) + 1) + 1) + 1) + 1) + 1) + 1) + 1) + 1) + 1) + 1) + 1) + 1) + 1) + 1) + 1) (((((((((((((((((((((((((((u45.2 + 1) + 1) + 1) + 1) + 1) + 1) + 1) + 1) + 1) + 1) + 1) + 1) + 1) + 1) + 1) + 1) + 1) + 1) + 1) + 1) + 1) + 1) + 1) + 1) + 1) + 1) + 1) eu157) yk_X5_init q594 rfl hl.1 ⟨Nat.le_of_ble_eq_true rfl, Nat.le_of_ble_eq_true rfl⟩ ⟨Nat.le_of_ble_eq_true rfl, Nat.le_of_ble_eq_true rfl⟩ rfl (Nat.le_of_ble_eq_true rfl) dX1_init_177 (fun H locs hR hS => ?_)
  obtain ⟨h158, eh158, hf⟩ := gBind hf
  refine g_aast X hR hS 7 4 (by decide) rfl gk_X5 eh158 dX1_init_180 (fun H locs hR hS => ?_)
  refine lv_iinc (v := (22 : Int32)) (lv' := [(1, .int (22 : Int32)), (0, .ref a0)]) hx hb dX1_init_181 hl (k := 0) rfl (by decide) (by decide) rfl (fun ls hl => ?_)
  refine lv_goto (tgt := 162) hx hb dX1_init_184 (by decide) ?_
  refine lv_iload_n hx hb dX1_init_162 rfl (lv_at hl 0 rfl) ?_
  refine lv_bipush (v := (24 : Int32)) hx hb dX1_init_163 (by decide) ?_
  refine lv_icmp_ge (tgt := 187) hx hb dX1_init_165 (by decide) (fun c => absurd c (by decide)) (fun _ => ?_)
  refine lv_aload_n hx hb dX1_init_168 rfl (lv_at hl 1 rfl) ?_
  obtain ⟨x159, ex159, hf⟩ := gBind hf
  refine g_getr X hR gk_X1 24 (by decide) q669 rfl ex159 dX1_init_169 ?_
  refine lv_iload_n hx hb dX1_init_172 rfl (lv_at hl 0 rfl) ?_
  refine g_new X hR hS gk_X5 q150 q593 q115 [.int 0, .int 0, .int 0] (by decide +kernel) ⟨Nat.le_of_ble_eq_true rfl, Nat.le_of_ble_eq_true rfl⟩ dX1_init_173 (fun H hR hS => ?_)
  refine lv_dup hx hb dX1_init_176 rfl ?_
  obtain ⟨u161, eu161, hf⟩ := gBind hf
  refine g_callIN X hR hS [] (m_X5_init l G F (va_up h158 ((((((((((((((((((((((((((((u45.2 + 1) + 1) + 1) + 1) + 1) + 1) + 1) + 1) + 1) + 1) + 1) + 1) + 1) + 1) + 1) + 1) + 1) + 1) + 1) + 1) + 1) + 1) + 1) + 1) + 1) + 1) + 1) + 1) (some (.inr (4, [.int 0, .int 0, .int 0])))) (((((((((((((((((((((((((((((u45.2 + 1) + 1) + 1) + 1) + 1) + 1) + 1) + 1) + 1) + 1) + 1) + 1) + 1) + 1) + 1) + 1) + 1) + 1) + 1) + 1) + 1) + 1) + 1) + 1) + 1) + 1) + 1) + 1) + 1) ((((((((((((((((((((((((((((u45.2 + 1) + 1) + 1) + 1) + 1) + 1) + 1) + 1) + 1) + 1) + 1) + 1) + 1) + 1) + 1) + 1) + 1) + 1) + 1) + 1) + 1) + 1) + 1) + 1) + 1) + 1) + 1) + 1) eu161) yk_X5_init q594 rfl hl.1 ⟨Nat.le_of_ble_eq_true rfl, Nat.le_of_ble_eq_true rfl⟩ ⟨Nat.le_of_ble_eq_true rfl, Nat.le_of_ble_eq_true rfl⟩ rfl (Nat.le_of_ble_eq_true rfl) dX1_init_177 (fun H locs hR hS => ?_)
  obtain ⟨h162, eh162, hf⟩ := gBind hf
  refine g_aast X hR hS 7 4 (by decide) rfl gk_X5 eh162 dX1_init_180 (fun H locs hR hS => ?_)
  refine lv_iinc (v := (23 : Int32)) (lv' := [(1, .int (23 : Int32)), (0, .ref a0)]) hx hb dX1_init_181 hl (k := 0) rfl (by decide) (by decide) rfl (fun ls hl => ?_)
  refine lv_goto (tgt := 162) hx hb dX1_init_184 (by decide) ?_
  refine lv_iload_n hx hb dX1_init_162 rfl (lv_at hl 0 rfl) ?_
  refine lv_bipush (v := (24 : Int32)) hx hb dX1_init_163 (by decide) ?_
  refine lv_icmp_ge (tgt := 187) hx hb dX1_init_165 (by decide) (fun c => absurd c (by decide)) (fun _ => ?_)
  refine lv_aload_n hx hb dX1_init_168 rfl (lv_at hl 1 rfl) ?_
  obtain ⟨x163, ex163, hf⟩ := gBind hf
  refine g_getr X hR gk_X1 24 (by decide) q669 rfl ex163 dX1_init_169 ?_
  refine lv_iload_n hx hb dX1_init_172 rfl (lv_at hl 0 rfl) ?_
  refine g_new X hR hS gk_X5 q150 q593 q115 [.int 0, .int 0, .int 0] (by decide +kernel) ⟨Nat.le_of_ble_eq_true rfl, Nat.le_of_ble_eq_true rfl⟩ dX1_init_173 (fun H hR hS => ?_)
  refine lv_dup hx hb dX1_init_176 rfl ?_
  obtain ⟨u165, eu165, hf⟩ := gBind hf
  refine g_callIN X hR hS [] (m_X5_init l G F (va_up h162 (((((((((((((((((((((((((((((u45.2 + 1) + 1) + 1) + 1) + 1) + 1) + 1) + 1) + 1) + 1) + 1) + 1) + 1) + 1) + 1) + 1) + 1) + 1) + 1) + 1) + 1) + 1) + 1) + 1) + 1) + 1) + 1) + 1) + 1) (some (.inr (4, [.int 0, .int 0, .int 0])))) ((((((((((((((((((((((((((((((u45.2 + 1) + 1) + 1) + 1) + 1) + 1) + 1) + 1) + 1) + 1) + 1) + 1) + 1) + 1) + 1) + 1) + 1) + 1) + 1) + 1) + 1) + 1) + 1) + 1) + 1) + 1) + 1) + 1) + 1) + 1) (((((((((((((((((((((((((((((u45.2 + 1) + 1) + 1) + 1) + 1) + 1) + 1) + 1) + 1) + 1) + 1) + 1) + 1) + 1) + 1) + 1) + 1) + 1) + 1) + 1) + 1) + 1) + 1) + 1) + 1) + 1) + 1) + 1) + 1) eu165) yk_X5_init q594 rfl hl.1 ⟨Nat.le_of_ble_eq_true rfl, Nat.le_of_ble_eq_true rfl⟩ ⟨Nat.le_of_ble_eq_true rfl, Nat.le_of_ble_eq_true rfl⟩ rfl (Nat.le_of_ble_eq_true rfl) dX1_init_177 (fun H locs hR hS => ?_)
  obtain ⟨h166, eh166, hf⟩ := gBind hf
  refine g_aast X hR hS 7 4 (by decide) rfl gk_X5 eh166 dX1_init_180 (fun H locs hR hS => ?_)
  refine lv_iinc (v := (24 : Int32)) (lv' := [(1, .int (24 : Int32)), (0, .ref a0)]) hx hb dX1_init_181 hl (k := 0) rfl (by decide) (by decide) rfl (fun ls hl => ?_)
  refine lv_goto (tgt := 162) hx hb dX1_init_184 (by decide) ?_
  refine lv_iload_n hx hb dX1_init_162 rfl (lv_at hl 0 rfl) ?_
  refine lv_bipush (v := (24 : Int32)) hx hb dX1_init_163 (by decide) ?_
  refine lv_icmp_ge (tgt := 187) hx hb dX1_init_165 (by decide) (fun _ => ?_) (fun c => absurd c (by decide))
  refine lv_iconst (v := (0 : Int32)) hx hb dX1_init_187 (by decide) ?_
  refine lv_istore_n (lv' := [(1, .int (0 : Int32)), (0, .ref a0)]) hx hb dX1_init_188 rfl hl (by decide) rfl (fun ls hl => ?_)
  refine lv_iload_n hx hb dX1_init_189 rfl (lv_at hl 0 rfl) ?_
  refine lv_bipush (v := (8 : Int32)) hx hb dX1_init_190 (by decide) ?_
  refine lv_icmp_ge (tgt := 214) hx hb dX1_init_192 (by decide) (fun c => absurd c (by decide)) (fun _ => ?_)
  refine lv_aload_n hx hb dX1_init_195 rfl (lv_at hl 1 rfl) ?_
  obtain ⟨x167, ex167, hf⟩ := gBind hf
  refine g_getr X hR gk_X1 25 (by decide) q671 rfl ex167 dX1_init_196 ?_
  refine lv_iload_n hx hb dX1_init_199 rfl (lv_at hl 0 rfl) ?_
  refine g_new X hR hS gk_X5 q150 q593 q115 [.int 0, .int 0, .int 0] (by decide +kernel) ⟨Nat.le_of_ble_eq_true rfl, Nat.le_of_ble_eq_true rfl⟩ dX1_init_200 (fun H hR hS => ?_)
  refine lv_dup hx hb dX1_init_203 rfl ?_
  obtain ⟨u169, eu169, hf⟩ := gBind hf
  refine g_callIN X hR hS [] (m_X5_init l G F (va_up h166 ((((((((((((((((((((((((((((((u45.2 + 1) + 1) + 1) + 1) + 1) + 1) + 1) + 1) + 1) + 1) + 1) + 1) + 1) + 1) + 1) + 1) + 1) + 1) + 1) + 1) + 1) + 1) + 1) + 1) + 1) + 1) + 1) + 1) + 1) + 1) (some (.inr (4, [.int 0, .int 0, .int 0])))) (((((((((((((((((((((((((((((((u45.2 + 1) + 1) + 1) + 1) + 1) + 1) + 1) + 1) + 1) + 1) + 1) + 1) + 1) + 1) + 1) + 1) + 1) + 1) + 1) + 1) + 1) + 1) + 1) + 1) + 1) + 1) + 1) + 1) + 1) + 1) + 1) ((((((((((((((((((((((((((((((u45.2 + 1) + 1) + 1) + 1) + 1) + 1) + 1) + 1) + 1) + 1) + 1) + 1) + 1) + 1) + 1) + 1) + 1) + 1) + 1) + 1) + 1) + 1) + 1) + 1) + 1) + 1) + 1) + 1) + 1) + 1) eu169) yk_X5_init q594 rfl hl.1 ⟨Nat.le_of_ble_eq_true rfl, Nat.le_of_ble_eq_true rfl⟩ ⟨Nat.le_of_ble_eq_true rfl, Nat.le_of_ble_eq_true rfl⟩ rfl (Nat.le_of_ble_eq_true rfl) dX1_init_204 (fun H locs hR hS => ?_)
  obtain ⟨h170, eh170, hf⟩ := gBind hf
  refine g_aast X hR hS 7 4 (by decide) rfl gk_X5 eh170 dX1_init_207 (fun H locs hR hS => ?_)
  refine lv_iinc (v := (1 : Int32)) (lv' := [(1, .int (1 : Int32)), (0, .ref a0)]) hx hb dX1_init_208 hl (k := 0) rfl (by decide) (by decide) rfl (fun ls hl => ?_)
  refine lv_goto (tgt := 189) hx hb dX1_init_211 (by decide) ?_
  refine lv_iload_n hx hb dX1_init_189 rfl (lv_at hl 0 rfl) ?_
  refine lv_bipush (v := (8 : Int32)) hx hb dX1_init_190 (by decide) ?_
  refine lv_icmp_ge (tgt := 214) hx hb dX1_init_192 (by decide) (fun c => absurd c (by decide)) (fun _ => ?_)
  refine lv_aload_n hx hb dX1_init_195 rfl (lv_at hl 1 rfl) ?_
  obtain ⟨x171, ex171, hf⟩ := gBind hf
  refine g_getr X hR gk_X1 25 (by decide) q671 rfl ex171 dX1_init_196 ?_
  refine lv_iload_n hx hb dX1_init_199 rfl (lv_at hl 0 rfl) ?_
  refine g_new X hR hS gk_X5 q150 q593 q115 [.int 0, .int 0, .int 0] (by decide +kernel) ⟨Nat.le_of_ble_eq_true rfl, Nat.le_of_ble_eq_true rfl⟩ dX1_init_200 (fun H hR hS => ?_)
  refine lv_dup hx hb dX1_init_203 rfl ?_
  obtain ⟨u173, eu173, hf⟩ := gBind hf
  refine g_callIN X hR hS [] (m_X5_init l G F (va_up h170 (((((((((((((((((((((((((((((((u45.2 + 1) + 1) + 1) + 1) + 1) + 1) + 1) + 1) + 1) + 1) + 1) + 1) + 1) + 1) + 1) + 1) + 1) + 1) + 1) + 1) + 1) + 1) + 1) + 1) + 1) + 1) + 1) + 1) + 1) + 1) + 1) (some (.inr (4, [.int 0, .int 0, .int 0])))) ((((((((((((((((((((((((((((((((u45.2 + 1) + 1) + 1) + 1) + 1) + 1) + 1) + 1) + 1) + 1) + 1) + 1) + 1) + 1) + 1) + 1) + 1) + 1) + 1) + 1) + 1) + 1) + 1) + 1) + 1) + 1) + 1) + 1) + 1) + 1) + 1) + 1) (((((((((((((((((((((((((((((((u45.2 + 1) + 1) + 1) + 1) + 1) + 1) + 1) + 1) + 1) + 1) + 1) + 1) + 1) + 1) + 1) + 1) + 1) + 1) + 1) + 1) + 1) + 1) + 1) + 1) + 1) + 1) + 1) + 1) + 1) + 1) + 1) eu173) yk_X5_init q594 rfl hl.1 ⟨Nat.le_of_ble_eq_true rfl, Nat.le_of_ble_eq_true rfl⟩ ⟨Nat.le_of_ble_eq_true rfl, Nat.le_of_ble_eq_true rfl⟩ rfl (Nat.le_of_ble_eq_true rfl) dX1_init_204 (fun H locs hR hS => ?_)
  obtain ⟨h174, eh174, hf⟩ := gBind hf
  refine g_aast X hR hS 7 4 (by decide) rfl gk_X5 eh174 dX1_init_207 (fun H locs hR hS => ?_)
  refine lv_iinc (v := (2 : Int32)) (lv' := [(1, .int (2 : Int32)), (0, .ref a0)]) hx hb dX1_init_208 hl (k := 0) rfl (by decide) (by decide) rfl (fun ls hl => ?_)
  refine lv_goto (tgt := 189) hx hb dX1_init_211 (by decide) ?_
  refine lv_iload_n hx hb dX1_init_189 rfl (lv_at hl 0 rfl) ?_
  refine lv_bipush (v := (8 : Int32)) hx hb dX1_init_190 (by decide) ?_
  refine lv_icmp_ge (tgt := 214) hx hb dX1_init_192 (by decide) (fun c => absurd c (by decide)) (fun _ => ?_)
  refine lv_aload_n hx hb dX1_init_195 rfl (lv_at hl 1 rfl) ?_
  obtain ⟨x175, ex175, hf⟩ := gBind hf
  refine g_getr X hR gk_X1 25 (by decide) q671 rfl ex175 dX1_init_196 ?_
  refine lv_iload_n hx hb dX1_init_199 rfl (lv_at hl 0 rfl) ?_
  refine g_new X hR hS gk_X5 q150 q593 q115 [.int 0, .int 0, .int 0] (by decide +kernel) ⟨Nat.le_of_ble_eq_true rfl, Nat.le_of_ble_eq_true rfl⟩ dX1_init_200 (fun H hR hS => ?_)
  refine lv_dup hx hb dX1_init_203 rfl ?_
  obtain ⟨u177, eu177, hf⟩ := gBind hf
  refine g_callIN X hR hS [] (m_X5_init l G F (va_up h174 ((((((((((((((((((((((((((((((((u45.2 + 1) + 1) + 1) + 1) + 1) + 1) + 1) + 1) + 1) + 1) + 1) + 1) + 1) + 1) + 1) + 1) + 1) + 1) + 1) + 1) + 1) + 1) + 1) + 1) + 1) + 1) + 1) + 1) + 1) + 1) + 1) + 1) (some (.inr (4, [.int 0, .int 0, .int 0])))) (((((((((((((((((((((((((((((((((u45.2 + 1) + 1) + 1) + 1) + 1) + 1) + 1) + 1) + 1) + 1) + 1) + 1) + 1) + 1) + 1) + 1) + 1) + 1) + 1) + 1) + 1) + 1) + 1) + 1) + 1) + 1) + 1) + 1) + 1) + 1) + 1) + 1) + 1) ((((((((((((((((((((((((((((((((u45.2 + 1) + 1) + 1) + 1) + 1) + 1) + 1) + 1) + 1) + 1) + 1) + 1) + 1) + 1) + 1) + 1) + 1) + 1) + 1) + 1) + 1) + 1) + 1) + 1) + 1) + 1) + 1) + 1) + 1) + 1) + 1) + 1) eu177) yk_X5_init q594 rfl hl.1 ⟨Nat.le_of_ble_eq_true rfl, Nat.le_of_ble_eq_true rfl⟩ ⟨Nat.le_of_ble_eq_true rfl, Nat.le_of_ble_eq_true rfl⟩ rfl (Nat.le_of_ble_eq_true rfl) dX1_init_204 (fun H locs hR hS => ?_)
  obtain ⟨h178, eh178, hf⟩ := gBind hf
  refine g_aast X hR hS 7 4 (by decide) rfl gk_X5 eh178 dX1_init_207 (fun H locs hR hS => ?_)
  refine lv_iinc (v := (3 : Int32)) (lv' := [(1, .int (3 : Int32)), (0, .ref a0)]) hx hb dX1_init_208 hl (k := 0) rfl (by decide) (by decide) rfl (fun ls hl => ?_)
  refine lv_goto (tgt := 189) hx hb dX1_init_211 (by decide) ?_
  refine lv_iload_n hx hb dX1_init_189 rfl (lv_at hl 0 rfl) ?_
  refine lv_bipush (v := (8 : Int32)) hx hb dX1_init_190 (by decide) ?_
  refine lv_icmp_ge (tgt := 214) hx hb dX1_init_192 (by decide) (fun c => absurd c (by decide)) (fun _ => ?_)
  refine lv_aload_n hx hb dX1_init_195 rfl (lv_at hl 1 rfl) ?_
  obtain ⟨x179, ex179, hf⟩ := gBind hf
  refine g_getr X hR gk_X1 25 (by decide) q671 rfl ex179 dX1_init_196 ?_
  refine lv_iload_n hx hb dX1_init_199 rfl (lv_at hl 0 rfl) ?_
  refine g_new X hR hS gk_X5 q150 q593 q115 [.int 0, .int 0, .int 0] (by decide +kernel) ⟨Nat.le_of_ble_eq_true rfl, Nat.le_of_ble_eq_true rfl⟩ dX1_init_200 (fun H hR hS => ?_)
  refine lv_dup hx hb dX1_init_203 rfl ?_
  obtain ⟨u181, eu181, hf⟩ := gBind hf
  refine g_callIN X hR hS [] (m_X5_init l G F (va_up h178 (((((((((((((((((((((((((((((((((u45.2 + 1) + 1) + 1) + 1) + 1) + 1) + 1) + 1) + 1) + 1) + 1) + 1) + 1) + 1) + 1) + 1) + 1) + 1) + 1) + 1) + 1) + 1) + 1) + 1) + 1) + 1) + 1) + 1) + 1) + 1) + 1) + 1) + 1) (some (.inr (4, [.int 0, .int 0, .int 0])))) ((((((((((((((((((((((((((((((((((u45.2 + 1) + 1) + 1) + 1) + 1) + 1) + 1) + 1) + 1) + 1) + 1) + 1) + 1) + 1) + 1) + 1) + 1) + 1) + 1) + 1) + 1) + 1) + 1) + 1) + 1) + 1) + 1) + 1) + 1) + 1) + 1) + 1) + 1) + 1) (((((((((((((((((((((((((((((((((u45.2 + 1) + 1) + 1) + 1) + 1) + 1) + 1) + 1) + 1) + 1) + 1) + 1) + 1) + 1) + 1) + 1) + 1) + 1) + 1) + 1) + 1) + 1) + 1) + 1) + 1) + 1) + 1) + 1) + 1) + 1) + 1) + 1) + 1) eu181) yk_X5_init q594 rfl hl.1 ⟨Nat.le_of_ble_eq_true rfl, Nat.le_of_ble_eq_true rfl⟩ ⟨Nat.le_of_ble_eq_true rfl, Nat.le_of_ble_eq_true rfl⟩ rfl (Nat.le_of_ble_eq_true rfl) dX1_init_204 (fun H locs hR hS => ?_)
  obtain ⟨h182, eh182, hf⟩ := gBind hf
  refine g_aast X hR hS 7 4 (by decide) rfl gk_X5 eh182 dX1_init_207 (fun H locs hR hS => ?_)
  refine lv_iinc (v := (4 : Int32)) (lv' := [(1, .int (4 : Int32)), (0, .ref a0)]) hx hb dX1_init_208 hl (k := 0) rfl (by decide) (by decide) rfl (fun ls hl => ?_)
  refine lv_goto (tgt := 189) hx hb dX1_init_211 (by decide) ?_
  refine lv_iload_n hx hb dX1_init_189 rfl (lv_at hl 0 rfl) ?_
  refine lv_bipush (v := (8 : Int32)) hx hb dX1_init_190 (by decide) ?_
  refine lv_icmp_ge (tgt := 214) hx hb dX1_init_192 (by decide) (fun c => absurd c (by decide)) (fun _ => ?_)
  refine lv_aload_n hx hb dX1_init_195 rfl (lv_at hl 1 rfl) ?_
  obtain ⟨x183, ex183, hf⟩ := gBind hf
  refine g_getr X hR gk_X1 25 (by decide) q671 rfl ex183 dX1_init_196 ?_
  refine lv_iload_n hx hb dX1_init_199 rfl (lv_at hl 0 rfl) ?_
  refine g_new X hR hS gk_X5 q150 q593 q115 [.int 0, .int 0, .int 0] (by decide +kernel) ⟨Nat.le_of_ble_eq_true rfl, Nat.le_of_ble_eq_true rfl⟩ dX1_init_200 (fun H hR hS => ?_)
  refine lv_dup hx hb dX1_init_203 rfl ?_
  obtain ⟨u185, eu185, hf⟩ := gBind hf
  refine g_callIN X hR hS [] (m_X5_init l G F (va_up h182 ((((((((((((((((((((((((((((((((((u45.2 + 1) + 1) + 1) + 1) + 1) + 1) + 1) + 1) + 1) + 1) + 1) + 1) + 1) + 1) + 1) + 1) + 1) + 1) + 1) + 1) + 1) + 1) + 1) + 1) + 1) + 1) + 1) + 1) + 1) + 1) + 1) + 1) + 1) + 1) (some (.inr (4, [.int 0, .int 0, .int 0])))) (((((((((((((((((((((((((((((((((((u45.2 + 1) + 1) + 1) + 1) + 1) + 1) + 1) + 1) + 1) + 1) + 1) + 1) + 1) + 1) + 1) + 1) + 1) + 1) + 1) + 1) + 1) + 1) + 1) + 1) + 1) + 1) + 1) + 1) + 1) + 1) + 1) + 1) + 1) + 1) + 1) ((((((((((((((((((((((((((((((((((u45.2 + 1) + 1) + 1) + 1) + 1) + 1) + 1) + 1) + 1) + 1) + 1) + 1) + 1) + 1) + 1) + 1) + 1) + 1) + 1) + 1) + 1) + 1) + 1) + 1) + 1) + 1) + 1) + 1) + 1) + 1) + 1) + 1) + 1) + 1) eu185) yk_X5_init q594 rfl hl.1 ⟨Nat.le_of_ble_eq_true rfl, Nat.le_of_ble_eq_true rfl⟩ ⟨Nat.le_of_ble_eq_true rfl, Nat.le_of_ble_eq_true rfl⟩ rfl (Nat.le_of_ble_eq_true rfl) dX1_init_204 (fun H locs hR hS => ?_)
  obtain ⟨h186, eh186, hf⟩ := gBind hf
  refine g_aast X hR hS 7 4 (by decide) rfl gk_X5 eh186 dX1_init_207 (fun H locs hR hS => ?_)
  refine lv_iinc (v := (5 : Int32)) (lv' := [(1, .int (5 : Int32)), (0, .ref a0)]) hx hb dX1_init_208 hl (k := 0) rfl (by decide) (by decide) rfl (fun ls hl => ?_)
  refine lv_goto (tgt := 189) hx hb dX1_init_211 (by decide) ?_
  refine lv_iload_n hx hb dX1_init_189 rfl (lv_at hl 0 rfl) ?_
  refine lv_bipush (v := (8 : Int32)) hx hb dX1_init_190 (by decide) ?_
  refine lv_icmp_ge (tgt := 214) hx hb dX1_init_192 (by decide) (fun c => absurd c (by decide)) (fun _ => ?_)
  refine lv_aload_n hx hb dX1_init_195 rfl (lv_at hl 1 rfl) ?_
  obtain ⟨x187, ex187, hf⟩ := gBind hf
  refine g_getr X hR gk_X1 25 (by decide) q671 rfl ex187 dX1_init_196 ?_
  refine lv_iload_n hx hb dX1_init_199 rfl (lv_at hl 0 rfl) ?_
  refine g_new X hR hS gk_X5 q150 q593 q115 [.int 0, .int 0, .int 0] (by decide +kernel) ⟨Nat.le_of_ble_eq_true rfl, Nat.le_of_ble_eq_true rfl⟩ dX1_init_200 (fun H hR hS => ?_)
  refine lv_dup hx hb dX1_init_203 rfl ?_
  obtain ⟨u189, eu189, hf⟩ := gBind hf
  refine g_callIN X hR hS [] (m_X5_init l G F (va_up h186 (((((((((((((((((((((((((((((((((((u45.2 + 1) + 1) + 1) + 1) + 1) + 1) + 1) + 1) + 1) + 1) + 1) + 1) + 1) + 1) + 1) + 1) + 1) + 1) + 1) + 1) + 1) + 1) + 1) + 1) + 1) + 1) + 1) + 1) + 1) + 1) + 1) + 1) + 1) + 1) + 1) (some (.inr (4, [.int 0, .int 0, .int 0])))) ((((((((((((((((((((((((((((((((((((u45.2 + 1) + 1) + 1) + 1) + 1) + 1) + 1) + 1) + 1) + 1) + 1) + 1) + 1) + 1) + 1) + 1) + 1) + 1) + 1) + 1) + 1) + 1) + 1) + 1) + 1) + 1) + 1) + 1) + 1) + 1) + 1) + 1) + 1) + 1) + 1) + 1) (((((((((((((((((((((((((((((((((((u45.2 + 1) + 1) + 1) + 1) + 1) + 1) + 1) + 1) + 1) + 1) + 1) + 1) + 1) + 1) + 1) + 1) + 1) + 1) + 1) + 1) + 1) + 1) + 1) + 1) + 1) + 1) + 1) + 1) + 1) + 1) + 1) + 1) + 1) + 1) + 1) eu189) yk_X5_init q594 rfl hl.1 ⟨Nat.le_of_ble_eq_true rfl, Nat.le_of_ble_eq_true rfl⟩ ⟨Nat.le_of_ble_eq_true rfl, Nat.le_of_ble_eq_true rfl⟩ rfl (Nat.le_of_ble_eq_true rfl) dX1_init_204 (fun H locs hR hS => ?_)
  obtain ⟨h190, eh190, hf⟩ := gBind hf
  refine g_aast X hR hS 7 4 (by decide) rfl gk_X5 eh190 dX1_init_207 (fun H locs hR hS => ?_)
  refine lv_iinc (v := (6 : Int32)) (lv' := [(1, .int (6 : Int32)), (0, .ref a0)]) hx hb dX1_init_208 hl (k := 0) rfl (by decide) (by decide) rfl (fun ls hl => ?_)
  refine lv_goto (tgt := 189) hx hb dX1_init_211 (by decide) ?_
  refine lv_iload_n hx hb dX1_init_189 rfl (lv_at hl 0 rfl) ?_
  refine lv_bipush (v := (8 : Int32)) hx hb dX1_init_190 (by decide) ?_
  refine lv_icmp_ge (tgt := 214) hx hb dX1_init_192 (by decide) (fun c => absurd c (by decide)) (fun _ => ?_)
  refine lv_aload_n hx hb dX1_init_195 rfl (lv_at hl 1 rfl) ?_
  obtain ⟨x191, ex191, hf⟩ := gBind hf
  refine g_getr X hR gk_X1 25 (by decide) q671 rfl ex191 dX1_init_196 ?_
  refine lv_iload_n hx hb dX1_init_199 rfl (lv_at hl 0 rfl) ?_
  refine g_new X hR hS gk_X5 q150 q593 q115 [.int 0, .int 0, .int 0] (by decide +kernel) ⟨Nat.le_of_ble_eq_true rfl, Nat.le_of_ble_eq_true rfl⟩ dX1_init_200 (fun H hR hS => ?_)
  refine lv_dup hx hb dX1_init_203 rfl ?_
  obtain ⟨u193, eu193, hf⟩ := gBind hf
  refine g_callIN X hR hS [] (m_X5_init l G F (va_up h190 ((((((((((((((((((((((((((((((((((((u45.2 + 1) + 1) + 1) + 1) + 1) + 1) + 1) + 1) + 1) + 1) + 1) + 1) + 1) + 1) + 1) + 1) + 1) + 1) + 1) + 1) + 1) + 1) + 1) + 1) + 1) + 1) + 1) + 1) + 1) + 1) + 1) + 1) + 1) + 1) + 1) + 1) (some (.inr (4, [.int 0, .int 0, .int 0])))) (((((((((((((((((((((((((((((((((((((u45.2 + 1) + 1) + 1) + 1) + 1) + 1) + 1) + 1) + 1) + 1) + 1) + 1) + 1) + 1) + 1) + 1) + 1) + 1) + 1) + 1) + 1) + 1) + 1) + 1) + 1) + 1) + 1) + 1) + 1) + 1) + 1) + 1) + 1) + 1) + 1) + 1) + 1) ((((((((((((((((((((((((((((((((((((u45.2 + 1) + 1) + 1) + 1) + 1) + 1) + 1) + 1) + 1) + 1) + 1) + 1) + 1) + 1) + 1) + 1) + 1) + 1) + 1) + 1) + 1) + 1) + 1) + 1) + 1) + 1) + 1) + 1) + 1) + 1) + 1) + 1) + 1) + 1) + 1) + 1) eu193) yk_X5_init q594 rfl hl.1 ⟨Nat.le_of_ble_eq_true rfl, Nat.le_of_ble_eq_true rfl⟩ ⟨Nat.le_of_ble_eq_true rfl, Nat.le_of_ble_eq_true rfl⟩ rfl (Nat.le_of_ble_eq_true rfl) dX1_init_204 (fun H locs hR hS => ?_)
  obtain ⟨h194, eh194, hf⟩ := gBind hf
  refine g_aast X hR hS 7 4 (by decide) rfl gk_X5 eh194 dX1_init_207 (fun H locs hR hS => ?_)
  refine lv_iinc (v := (7 : Int32)) (lv' := [(1, .int (7 : Int32)), (0, .ref a0)]) hx hb dX1_init_208 hl (k := 0) rfl (by decide) (by decide) rfl (fun ls hl => ?_)
  refine lv_goto (tgt := 189) hx hb dX1_init_211 (by decide) ?_
  refine lv_iload_n hx hb dX1_init_189 rfl (lv_at hl 0 rfl) ?_
  refine lv_bipush (v := (8 : Int32)) hx hb dX1_init_190 (by decide) ?_
  refine lv_icmp_ge (tgt := 214) hx hb dX1_init_192 (by decide) (fun c => absurd c (by decide)) (fun _ => ?_)
  refine lv_aload_n hx hb dX1_init_195 rfl (lv_at hl 1 rfl) ?_
  obtain ⟨x195, ex195, hf⟩ := gBind hf
  refine g_getr X hR gk_X1 25 (by decide) q671 rfl ex195 dX1_init_196 ?_
  refine lv_iload_n hx hb dX1_init_199 rfl (lv_at hl 0 rfl) ?_
  refine g_new X hR hS gk_X5 q150 q593 q115 [.int 0, .int 0, .int 0] (by decide +kernel) ⟨Nat.le_of_ble_eq_true rfl, Nat.le_of_ble_eq_true rfl⟩ dX1_init_200 (fun H hR hS => ?_)
  refine lv_dup hx hb dX1_init_203 rfl ?_
  obtain ⟨u197, eu197, hf⟩ := gBind hf
  refine g_callIN X hR hS [] (m_X5_init l G F (va_up h194 (((((((((((((((((((((((((((((((((((((u45.2 + 1) + 1) + 1) + 1) + 1) + 1) + 1) + 1) + 1) + 1) + 1) + 1) + 1) + 1) + 1) + 1) + 1) + 1) + 1) + 1) + 1) + 1) + 1) + 1) + 1) + 1) + 1) + 1) + 1) + 1) + 1) + 1) + 1) + 1) + 1) + 1) + 1) (some (.inr (4, [.int 0, .int 0, .int 0])))) ((((((((((((((((((((((((((((((((((((((u45.2 + 1) + 1) + 1) + 1) + 1) + 1) + 1) + 1) + 1) + 1) + 1) + 1) + 1) + 1) + 1) + 1) + 1) + 1) + 1) + 1) + 1) + 1) + 1) + 1) + 1) + 1) + 1) + 1) + 1) + 1) + 1) + 1) + 1) + 1) + 1) + 1) + 1) + 1) (((((((((((((((((((((((((((((((((((((u45.2 + 1) + 1) + 1) + 1) + 1) + 1) + 1) + 1) + 1) + 1) + 1) + 1) + 1) + 1) + 1) + 1) + 1) + 1) + 1) + 1) + 1) + 1) + 1) + 1) + 1) + 1) + 1) + 1) + 1) + 1) + 1) + 1) + 1) + 1) + 1) + 1) + 1) eu197) yk_X5_init q594 rfl hl.1 ⟨Nat.le_of_ble_eq_true rfl, Nat.le_of_ble_eq_true rfl⟩ ⟨Nat.le_of_ble_eq_true rfl, Nat.le_of_ble_eq_true rfl⟩ rfl (Nat.le_of_ble_eq_true rfl) dX1_init_204 (fun H locs hR hS => ?_)
  obtain ⟨h198, eh198, hf⟩ := gBind hf
  refine g_aast X hR hS 7 4 (by decide) rfl gk_X5 eh198 dX1_init_207 (fun H locs hR hS => ?_)
  refine lv_iinc (v := (8 : Int32)) (lv' := [(1, .int (8 : Int32)), (0, .ref a0)]) hx hb dX1_init_208 hl (k := 0) rfl (by decide) (by decide) rfl (fun ls hl => ?_)
  refine lv_goto (tgt := 189) hx hb dX1_init_211 (by decide) ?_
  refine lv_iload_n hx hb dX1_init_189 rfl (lv_at hl 0 rfl) ?_
  refine lv_bipush (v := (8 : Int32)) hx hb dX1_init_190 (by decide) ?_
  refine lv_icmp_ge (tgt := 214) hx hb dX1_init_192 (by decide) (fun _ => ?_) (fun c => absurd c (by decide))
  refine lv_iconst (v := (0 : Int32)) hx hb dX1_init_214 (by decide) ?_
  refine lv_istore_n (lv' := [(1, .int (0 : Int32)), (0, .ref a0)]) hx hb dX1_init_215 rfl hl (by decide) rfl (fun ls hl => ?_)
  refine lv_iload_n hx hb dX1_init_216 rfl (lv_at hl 0 rfl) ?_
  refine lv_iconst (v := (5 : Int32)) hx hb dX1_init_217 (by decide) ?_
  refine lv_icmp_ge (tgt := 240) hx hb dX1_init_218 (by decide) (fun c => absurd c (by decide)) (fun _ => ?_)
  refine lv_aload_n hx hb dX1_init_221 rfl (lv_at hl 1 rfl) ?_
  obtain ⟨x199, ex199, hf⟩ := gBind hf
  refine g_getr X hR gk_X1 26 (by decide) q673 rfl ex199 dX1_init_222 ?_
  refine lv_iload_n hx hb dX1_init_225 rfl (lv_at hl 0 rfl) ?_
  refine g_new X hR hS gk_X6 q152 q611 q116 [.null] (by decide +kernel) ⟨Nat.le_of_ble_eq_true rfl, Nat.le_of_ble_eq_true rfl⟩ dX1_init_226 (fun H hR hS => ?_)
  refine lv_dup hx hb dX1_init_229 rfl ?_
  obtain ⟨u201, eu201, hf⟩ := gBind hf
  refine g_callIN X hR hS [] (m_X6_init l G F (va_up h198 ((((((((((((((((((((((((((((((((((((((u45.2 + 1) + 1) + 1) + 1) + 1) + 1) + 1) + 1) + 1) + 1) + 1) + 1) + 1) + 1) + 1) + 1) + 1) + 1) + 1) + 1) + 1) + 1) + 1) + 1) + 1) + 1) + 1) + 1) + 1) + 1) + 1) + 1) + 1) + 1) + 1) + 1) + 1) + 1) (some (.inr (5, [.null])))) (((((((((((((((((((((((((((((((((((((((u45.2 + 1) + 1) + 1) + 1) + 1) + 1) + 1) + 1) + 1) + 1) + 1) + 1) + 1) + 1) + 1) + 1) + 1) + 1) + 1) + 1) + 1) + 1) + 1) + 1) + 1) + 1) + 1) + 1) + 1) + 1) + 1) + 1) + 1) + 1) + 1) + 1) + 1) + 1) + 1) ((((((((((((((((((((((((((((((((((((((u45.2 + 1) + 1) + 1) + 1) + 1) + 1) + 1) + 1) + 1) + 1) + 1) + 1) + 1) + 1) + 1) + 1) + 1) + 1) + 1) + 1) + 1) + 1) + 1) + 1) + 1) + 1) + 1) + 1) + 1) + 1) + 1) + 1) + 1) + 1) + 1) + 1) + 1) + 1) eu201) yk_X6_init q612 rfl hl.1 ⟨Nat.le_of_ble_eq_true rfl, Nat.le_of_ble_eq_true rfl⟩ ⟨Nat.le_of_ble_eq_true rfl, Nat.le_of_ble_eq_true rfl⟩ rfl (Nat.le_of_ble_eq_true rfl) dX1_init_230 (fun H locs hR hS => ?_)
  obtain ⟨h202, eh202, hf⟩ := gBind hf
  refine g_aast X hR hS 8 5 (by decide) rfl gk_X6 eh202 dX1_init_233 (fun H locs hR hS => ?_)
  refine lv_iinc (v := (1 : Int32)) (lv' := [(1, .int (1 : Int32)), (0, .ref a0)]) hx hb dX1_init_234 hl (k := 0) rfl (by decide) (by decide) rfl (fun ls hl => ?_)
  refine lv_goto (tgt := 216) hx hb dX1_init_237 (by decide) ?_
  refine lv_iload_n hx hb dX1_init_216 rfl (lv_at hl 0 rfl) ?_
  refine lv_iconst (v := (5 : Int32)) hx hb dX1_init_217 (by decide) ?_
  refine lv_icmp_ge (tgt := 240) hx hb dX1_init_218 (by decide) (fun c => absurd c (by decide)) (fun _ => ?_)
  refine lv_aload_n hx hb dX1_init_221 rfl (lv_at hl 1 rfl) ?_
  obtain ⟨x203, ex203, hf⟩ := gBind hf
  refine g_getr X hR gk_X1 26 (by decide) q673 rfl ex203 dX1_init_222 ?_
  refine lv_iload_n hx hb dX1_init_225 rfl (lv_at hl 0 rfl) ?_
  refine g_new X hR hS gk_X6 q152 q611 q116 [.null] (by decide +kernel) ⟨Nat.le_of_ble_eq_true rfl, Nat.le_of_ble_eq_true rfl⟩ dX1_init_226 (fun H hR hS => ?_)
  refine lv_dup hx hb dX1_init_229 rfl ?_
  obtain ⟨u205, eu205, hf⟩ := gBind hf
  refine g_callIN X hR hS [] (m_X6_init l G F (va_up h202 u201.2 (some (.inr (5, [.null])))) (u201.2 + 1) u201.2 eu205) yk_X6_init q612 rfl hl.1 ⟨Nat.le_of_ble_eq_true rfl, Nat.le_of_ble_eq_true rfl⟩ ⟨Nat.le_of_ble_eq_true rfl, Nat.le_of_ble_eq_true rfl⟩ rfl (Nat.le_of_ble_eq_true rfl) dX1_init_230 (fun H locs hR hS => ?_)
  obtain ⟨h206, eh206, hf⟩ := gBind hf
  refine g_aast X hR hS 8 5 (by decide) rfl gk_X6 eh206 dX1_init_233 (fun H locs hR hS => ?_)
  refine lv_iinc (v := (2 : Int32)) (lv' := [(1, .int (2 : Int32)), (0, .ref a0)]) hx hb dX1_init_234 hl (k := 0) rfl (by decide) (by decide) rfl (fun ls hl => ?_)
  refine lv_goto (tgt := 216) hx hb dX1_init_237 (by decide) ?_
  refine lv_iload_n hx hb dX1_init_216 rfl (lv_at hl 0 rfl) ?_
  refine lv_iconst (v := (5 : Int32)) hx hb dX1_init_217 (by decide) ?_
  refine lv_icmp_ge (tgt := 240) hx hb dX1_init_218 (by decide) (fun c => absurd c (by decide)) (fun _ => ?_)
  refine lv_aload_n hx hb dX1_init_221 rfl (lv_at hl 1 rfl) ?_
  obtain ⟨x207, ex207, hf⟩ := gBind hf
  refine g_getr X hR gk_X1 26 (by decide) q673 rfl ex207 dX1_init_222 ?_
  refine lv_iload_n hx hb dX1_init_225 rfl (lv_at hl 0 rfl) ?_
  refine g_new X hR hS gk_X6 q152 q611 q116 [.null] (by decide +kernel) ⟨Nat.le_of_ble_eq_true rfl, Nat.le_of_ble_eq_true rfl⟩ dX1_init_226 (fun H hR hS => ?_)
  refine lv_dup hx hb dX1_init_229 rfl ?_
  obtain ⟨u209, eu209, hf⟩ := gBind hf
  refine g_callIN X hR hS [] (m_X6_init l G F (va_up h206 u205.2 (some (.inr (5, [.null])))) (u205.2 + 1) u205.2 eu209) yk_X6_init q612 rfl hl.1 ⟨Nat.le_of_ble_eq_true rfl, Nat.le_of_ble_eq_true rfl⟩ ⟨Nat.le_of_ble_eq_true rfl, Nat.le_of_ble_eq_true rfl⟩ rfl (Nat.le_of_ble_eq_true rfl) dX1_init_230 (fun H locs hR hS => ?_)
  obtain ⟨h210, eh210, hf⟩ := gBind hf
  refine g_aast X hR hS 8 5 (by decide) rfl gk_X6 eh210 dX1_init_233 (fun H locs hR hS => ?_)
  refine lv_iinc (v := (3 : Int32)) (lv' := [(1, .int (3 : Int32)), (0, .ref a0)]) hx hb dX1_init_234 hl (k := 0) rfl (by decide) (by decide) rfl (fun ls hl => ?_)
  refine lv_goto (tgt := 216) hx hb dX1_init_237 (by decide) ?_
  refine lv_iload_n hx hb dX1_init_216 rfl (lv_at hl 0 rfl) ?_
  refine lv_iconst (v := (5 : Int32)) hx hb dX1_init_217 (by decide) ?_
  refine lv_icmp_ge (tgt := 240) hx hb dX1_init_218 (by decide) (fun c => absurd c (by decide)) (fun _ => ?_)
  refine lv_aload_n hx hb dX1_init_221 rfl (lv_at hl 1 rfl) ?_
  obtain ⟨x211, ex211, hf⟩ := gBind hf
  refine g_getr X hR gk_X1 26 (by decide) q673 rfl ex211 dX1_init_222 ?_
  refine lv_iload_n hx hb dX1_init_225 rfl (lv_at hl 0 rfl) ?_
  refine g_new X hR hS gk_X6 q152 q611 q116 [.null] (by decide +kernel) ⟨Nat.le_of_ble_eq_true rfl, Nat.le_of_ble_eq_true rfl⟩ dX1_init_226 (fun H hR hS => ?_)
  refine lv_dup hx hb dX1_init_229 rfl ?_
  obtain ⟨u213, eu213, hf⟩ := gBind hf
  refine g_callIN X hR hS [] (m_X6_init l G F (va_up h210 u209.2 (some (.inr (5, [.null])))) (u209.2 + 1) u209.2 eu213) yk_X6_init q612 rfl hl.1 ⟨Nat.le_of_ble_eq_true rfl, Nat.le_of_ble_eq_true rfl⟩ ⟨Nat.le_of_ble_eq_true rfl, Nat.le_of_ble_eq_true rfl⟩ rfl (Nat.le_of_ble_eq_true rfl) dX1_init_230 (fun H locs hR hS => ?_)
  obtain ⟨h214, eh214, hf⟩ := gBind hf
  refine g_aast X hR hS 8 5 (by decide) rfl gk_X6 eh214 dX1_init_233 (fun H locs hR hS => ?_)
  refine lv_iinc (v := (4 : Int32)) (lv' := [(1, .int (4 : Int32)), (0, .ref a0)]) hx hb dX1_init_234 hl (k := 0) rfl (by decide) (by decide) rfl (fun ls hl => ?_)
  refine lv_goto (tgt := 216) hx hb dX1_init_237 (by decide) ?_
  refine lv_iload_n hx hb dX1_init_216 rfl (lv_at hl 0 rfl) ?_
  refine lv_iconst (v := (5 : Int32)) hx hb dX1_init_217 (by decide) ?_
  refine lv_icmp_ge (tgt := 240) hx hb dX1_init_218 (by decide) (fun c => absurd c (by decide)) (fun _ => ?_)
  refine lv_aload_n hx hb dX1_init_221 rfl (lv_at hl 1 rfl) ?_
  obtain ⟨x215, ex215, hf⟩ := gBind hf
  refine g_getr X hR gk_X1 26 (by decide) q673 rfl ex215 dX1_init_222 ?_
  refine lv_iload_n hx hb dX1_init_225 rfl (lv_at hl 0 rfl) ?_
  refine g_new X hR hS gk_X6 q152 q611 q116 [.null] (by decide +kernel) ⟨Nat.le_of_ble_eq_true rfl, Nat.le_of_ble_eq_true rfl⟩ dX1_init_226 (fun H hR hS => ?_)
  refine lv_dup hx hb dX1_init_229 rfl ?_
  obtain ⟨u217, eu217, hf⟩ := gBind hf
  refine g_callIN X hR hS [] (m_X6_init l G F (va_up h214 u213.2 (some (.inr (5, [.null])))) (u213.2 + 1) u213.2 eu217) yk_X6_init q612 rfl hl.1 ⟨Nat.le_of_ble_eq_true rfl, Nat.le_of_ble_eq_true rfl⟩ ⟨Nat.le_of_ble_eq_true rfl, Nat.le_of_ble_eq_true rfl⟩ rfl (Nat.le_of_ble_eq_true rfl) dX1_init_230 (fun H locs hR hS => ?_)
  obtain ⟨h218, eh218, hf⟩ := gBind hf
  refine g_aast X hR hS 8 5 (by decide) rfl gk_X6 eh218 dX1_init_233 (fun H locs hR hS => ?_)
  refine lv_iinc (v := (5 : Int32)) (lv' := [(1, .int (5 : Int32)), (0, .ref a0)]) hx hb dX1_init_234 hl (k := 0) rfl (by decide) (by decide) rfl (fun ls hl => ?_)
  refine lv_goto (tgt := 216) hx hb dX1_init_237 (by decide) ?_
  refine lv_iload_n hx hb dX1_init_216 rfl (lv_at hl 0 rfl) ?_
  refine lv_iconst (v := (5 : Int32)) hx hb dX1_init_217 (by decide) ?_
  refine lv_icmp_ge (tgt := 240) hx hb dX1_init_218 (by decide) (fun _ => ?_) (fun c => absurd c (by decide))
  obtain ⟨rfl, rfl⟩ := gO2 hf
  exact g_vret X hR hS rfl ⟨Nat.le_of_ble_eq_true rfl, Nat.le_of_ble_eq_true rfl⟩ dX1_init_240

def sp_X1_clearAt (G : gG) (F : Nat) (h : gH) (a0 : Nat) (p1 : Int32) (a2 : Nat) : Option (Int32) :=
 (gGr 2 h a0 0).bind fun x1 =>
 (gKd G x1 0).bind fun x2 =>
 (gGr 2 h a0 0).bind fun x3 =>
 (gKd G x3 1).bind fun x4 =>
 (gGr 2 h a2 0).bind fun x5 =>
 (gKd G x5 1).bind fun x6 =>
 (gGr 2 h a0 1).bind fun x7 =>
 (gAi 0 h x7 p1).bind fun x8 =>
 if gIs 2 h a2 = true then
 (sp_X2_placeOf G F h a2 x8).bind fun u10 =>
 some ((x2 + (x4 * (p1 + (1 : Int32)))) - (x6 * u10)) else none
theorem yk_X1_clearAt : gSk yX1_clearAt cX1_clearAt 3 (some .int) 3 := ⟨q920, q93, q921, ⟨by decide +kernel, by decide +kernel, by decide +kernel⟩⟩
set_option maxHeartbeats 4000000 in
theorem m_X1_clearAt (l : Launch) (G : gG) (F : Nat) (h : gH) (n : Nat) (a0 : Nat) (p1 : Int32) (a2 : Nat) {r : Int32} (hf : sp_X1_clearAt G F h a0 p1 a2 = some r) : gMet l G yX1_clearAt cX1_clearAt 3 (some .int) 1 22 0 0 [.ref a0, .int p1, .ref a2] h n (some (.int r)) h n := by
  refine gEnter (by decide) [(0, .ref a0), (1, .int p1), (2, .ref a2)] rfl (Nat.le_of_ble_eq_true rfl) ?_
  intro p e s m below meth c H ls X hin hR hS hl
  have hx := X.1.1
  have hb := X.1.2.1
  unfold sp_X1_clearAt at hf
  generalize ([] : List Loc) = locs at hS ⊢
  refine lv_aload_n hx hb dX1_clearAt_0 rfl (lv_at hl 0 rfl) ?_
  obtain ⟨x1, ex1, hf⟩ := gBind hf
  refine g_getrN X hR gk_X2 0 (by decide) q509 rfl ex1 dX1_clearAt_1 ?_
  obtain ⟨x2, ex2, hf⟩ := gBind hf
  refine g_kfldN X hS 0 (by decide) q2258 ex2 dX1_clearAt_4 ?_
  refine lv_aload_n hx hb dX1_clearAt_7 rfl (lv_at hl 0 rfl) ?_
  obtain ⟨x3, ex3, hf⟩ := gBind hf
  refine g_getrN X hR gk_X2 0 (by decide) q509 rfl ex3 dX1_clearAt_8 ?_
  obtain ⟨x4, ex4, hf⟩ := gBind hf
  refine g_kfldN X hS 1 (by decide) q2259 ex4 dX1_clearAt_11 ?_
  refine lv_iload_n hx hb dX1_clearAt_14 rfl (lv_at hl 1 rfl) ?_
  refine lv_iconst (v := (1 : Int32)) hx hb dX1_clearAt_15 (by decide) ?_
  refine lv_iadd hx hb dX1_clearAt_16 ?_
  refine lv_imul hx hb dX1_clearAt_17 ?_
  refine lv_iadd hx hb dX1_clearAt_18 ?_
  refine lv_aload_n hx hb dX1_clearAt_19 rfl (lv_at hl 2 rfl) ?_
  obtain ⟨x5, ex5, hf⟩ := gBind hf
  refine g_getrN X hR gk_X2 0 (by decide) q509 rfl ex5 dX1_clearAt_20 ?_
  obtain ⟨x6, ex6, hf⟩ := gBind hf
  refine g_kfldN X hS 1 (by decide) q2259 ex6 dX1_clearAt_23 ?_
  refine lv_aload_n hx hb dX1_clearAt_26 rfl (lv_at hl 2 rfl) ?_
  refine lv_aload_n hx hb dX1_clearAt_27 rfl (lv_at hl 0 rfl) ?_
  obtain ⟨x7, ex7, hf⟩ := gBind hf
  refine g_getrN X hR gk_X2 1 (by decide) q512 rfl ex7 dX1_clearAt_28 ?_
  refine lv_iload_n hx hb dX1_clearAt_31 rfl (lv_at hl 1 rfl) ?_
  obtain ⟨x8, ex8, hf⟩ := gBind hf
  refine g_iald X hR ex8 dX1_clearAt_32 ?_
  obtain ⟨k9, hf⟩ := gChk hf
  obtain ⟨u10, eu10, hf⟩ := gBind hf
  refine g_callVi X hR hS [.int x8] (m_X2_placeOf l G F h n a2 x8 eu10) yk_X2_placeOf q922 k9 rfl hl.1 ⟨Nat.le_of_ble_eq_true rfl, Nat.le_of_ble_eq_true rfl⟩ ⟨Nat.le_of_ble_eq_true rfl, Nat.le_of_ble_eq_true rfl⟩ rfl (Nat.le_of_ble_eq_true rfl) dX1_clearAt_33 (fun H locs hR hS => ?_)
  refine lv_imul hx hb dX1_clearAt_36 ?_
  refine lv_isub hx hb dX1_clearAt_37 ?_
  obtain rfl := gO1 hf
  exact g_iret X hR hS _ rfl ⟨Nat.le_of_ble_eq_true rfl, Nat.le_of_ble_eq_true rfl⟩ dX1_clearAt_38

def sp_X1_narrowOf_L4 (G : gG) (F : Nat) (h4L : gH) : Nat → Nat → Nat → Int32 → Int32 → Option (Int32)
  | 0, _, _, _, _ => none
  | f + 1, v4_0, v4_1, v4_2, v4_3 =>
    (gGi 2 h4L v4_0 4).bind fun x501 =>
    if x501 ≤ v4_3 then
    some (v4_2) else
    (gGr 2 h4L v4_1 2).bind fun x503 =>
    (gGr 2 h4L v4_0 1).bind fun x504 =>
    (gAi 0 h4L x504 v4_3).bind fun x505 =>
    if gIs 14 h4L x503 = true then
    (sp_J1_get G F h4L x503 x505).bind fun u507 =>
    if u507 = 0 then
    sp_X1_narrowOf_L4 G F h4L f v4_0 v4_1 v4_2 (v4_3 + (1 : Int32)) else
    if v4_2 = (-1 : Int32) then
    sp_X1_narrowOf_L4 G F h4L f v4_0 v4_1 v4_3 (v4_3 + (1 : Int32)) else
    (sp_X1_clearAt G F h4L v4_0 v4_3 v4_1).bind fun u510 =>
    (sp_X1_clearAt G F h4L v4_0 v4_2 v4_1).bind fun u511 =>
    if u510 ≤ u511 then
    sp_X1_narrowOf_L4 G F h4L f v4_0 v4_1 v4_2 (v4_3 + (1 : Int32)) else
    sp_X1_narrowOf_L4 G F h4L f v4_0 v4_1 v4_3 (v4_3 + (1 : Int32)) else none
def sp_X1_narrowOf (G : gG) (F : Nat) (h : gH) (a0 : Nat) (a1 : Nat) : Option (Int32) :=
 (sp_X1_narrowOf_L4 G F h F a0 a1 (-1 : Int32) (0 : Int32)).bind fun y3 =>
 some (y3)
theorem yk_X1_narrowOf : gSk yX1_narrowOf cX1_narrowOf 4 (some .int) 2 := ⟨q913, q93, q914, ⟨by decide +kernel, by decide +kernel, by decide +kernel⟩⟩
set_option maxHeartbeats 4000000 in
theorem m_X1_narrowOf (l : Launch) (G : gG) (F : Nat) (h : gH) (n : Nat) (a0 : Nat) (a1 : Nat) {r : Int32} (hf : sp_X1_narrowOf G F h a0 a1 = some r) : gMet l G yX1_narrowOf cX1_narrowOf 4 (some .int) 2 44 0 0 [.ref a0, .ref a1] h n (some (.int r)) h n := by
  refine gEnter (by decide) [(0, .ref a0), (1, .ref a1)] rfl (Nat.le_of_ble_eq_true rfl) ?_
  intro p e s m below meth c H ls X hin hR hS hl
  have hx := X.1.1
  have hb := X.1.2.1
  unfold sp_X1_narrowOf at hf
  generalize ([] : List Loc) = locs at hS ⊢
  refine lv_iconst (v := (-1 : Int32)) hx hb dX1_narrowOf_0 (by decide) ?_
  refine lv_istore_n (lv' := [(2, .int (-1 : Int32)), (0, .ref a0), (1, .ref a1)]) hx hb dX1_narrowOf_1 rfl hl (by decide) rfl (fun ls hl => ?_)
  refine lv_iconst (v := (0 : Int32)) hx hb dX1_narrowOf_2 (by decide) ?_
  refine lv_istore_n (lv' := [(3, .int (0 : Int32)), (2, .int (-1 : Int32)), (0, .ref a0), (1, .ref a1)]) hx hb dX1_narrowOf_3 rfl hl (by decide) rfl (fun ls hl => ?_)
  have L4_q1 : ∀ (f : Nat) (v4_0 : Nat) (v4_1 : Nat) (v4_2 : Int32) (v4_3 : Int32) (o2 : Int32) (H : Heap) (locs : List Loc) (ls : Array Slot), sp_X1_narrowOf_L4 G F h f v4_0 v4_1 v4_2 v4_3 = some o2 → gRep G h n H → va_S (gFr G) s.heap H locs → lv_has ls 4 [(0, .ref v4_0), (1, .ref v4_1), (2, .int v4_2), (3, .int v4_3)] → (∀ (H : Heap) (locs : List Loc) (ls : Array Slot), gRep G h n H → va_S (gFr G) s.heap H locs → lv_has ls 4 [(2, .int o2)] → W p l e ({ frames := 2, cells := 0, slots := 0, locals := 44 } : Room) s m ([.ref a0, .ref a1] : List Value).toArray below meth c H locs 0 0 (MQ below (gQ G (some (.int r)) h n) ([.ref a0, .ref a1] : List Value).toArray s 0 0 (gFr G)) (F0 m 56 ls [])) → W p l e ({ frames := 2, cells := 0, slots := 0, locals := 44 } : Room) s m ([.ref a0, .ref a1] : List Value).toArray below meth c H locs 0 0 (MQ below (gQ G (some (.int r)) h n) ([.ref a0, .ref a1] : List Value).toArray s 0 0 (gFr G)) (F0 m 4 ls []) := by
    clear hf
    intro f
    induction f with
    | zero =>
      intro v4_0 v4_1 v4_2 v4_3 o2 H locs ls hf
      cases hf
    | succ f ih =>
      intro v4_0 v4_1 v4_2 v4_3 o2 H locs ls hf hR hS hl K4
      rw [sp_X1_narrowOf_L4] at hf
      refine lv_iload_n hx hb dX1_narrowOf_4 rfl (lv_at hl 3 rfl) ?_
      refine lv_aload_n hx hb dX1_narrowOf_5 rfl (lv_at hl 0 rfl) ?_
      obtain ⟨x501, ex501, hf⟩ := gBind hf
      refine g_getiN X hR gk_X2 4 (by decide) q523 rfl ex501 dX1_narrowOf_6 ?_
      refine lv_icmp_ge (tgt := 56) hx hb dX1_narrowOf_9 (by decide) (fun c502 => ?_) (fun c502 => ?_)
      · replace hf := gIfp c502 hf
        obtain rfl := gO1 hf
        exact K4 _ _ _ hR hS (lv_sub hl [2] rfl)
      · replace hf := gIfn c502 hf
        refine lv_aload_n hx hb dX1_narrowOf_12 rfl (lv_at hl 1 rfl) ?_
        obtain ⟨x503, ex503, hf⟩ := gBind hf
        refine g_getrN X hR gk_X2 2 (by decide) q515 rfl ex503 dX1_narrowOf_13 ?_
        refine lv_aload_n hx hb dX1_narrowOf_16 rfl (lv_at hl 0 rfl) ?_
        obtain ⟨x504, ex504, hf⟩ := gBind hf
        refine g_getrN X hR gk_X2 1 (by decide) q512 rfl ex504 dX1_narrowOf_17 ?_
        refine lv_iload_n hx hb dX1_narrowOf_20 rfl (lv_at hl 3 rfl) ?_
        obtain ⟨x505, ex505, hf⟩ := gBind hf
        refine g_iald X hR ex505 dX1_narrowOf_21 ?_
        obtain ⟨k506, hf⟩ := gChk hf
        obtain ⟨u507, eu507, hf⟩ := gBind hf
        refine g_callVi X hR hS [.int x505] (m_J1_get l G F h n x503 x505 eu507) yk_J1_get q915 k506 rfl hl.1 ⟨Nat.le_of_ble_eq_true rfl, Nat.le_of_ble_eq_true rfl⟩ ⟨Nat.le_of_ble_eq_true rfl, Nat.le_of_ble_eq_true rfl⟩ rfl (Nat.le_of_ble_eq_true rfl) dX1_narrowOf_22 (fun H locs hR hS => ?_)
        refine lv_if_eq (tgt := 50) hx hb dX1_narrowOf_25 (by decide) (fun c508 => ?_) (fun c508 => ?_)
        · replace hf := gIfp c508 hf
          refine lv_iinc (v := v4_3 + (1 : Int32)) (lv' := [(3, .int (v4_3 + (1 : Int32))), (0, .ref v4_0), (1, .ref v4_1), (2, .int v4_2)]) hx hb dX1_narrowOf_50 hl (k := 3) rfl rfl (by decide) rfl (fun ls hl => ?_)
          refine lv_goto (tgt := 4) hx hb dX1_narrowOf_53 (by decide) ?_
          exact ih v4_0 v4_1 v4_2 (v4_3 + (1 : Int32)) _ _ _ _ hf hR hS (lv_sub hl [1, 2, 3, 0] rfl) K4
        · replace hf := gIfn c508 hf
          refine lv_iload_n hx hb dX1_narrowOf_28 rfl (lv_at hl 2 rfl) ?_
          refine lv_iconst (v := (-1 : Int32)) hx hb dX1_narrowOf_29 (by decide) ?_
          refine lv_icmp_eq (tgt := 48) hx hb dX1_narrowOf_30 (by decide) (fun c509 => ?_) (fun c509 => ?_)
          · replace hf := gIfp c509 hf
            refine lv_iload_n hx hb dX1_narrowOf_48 rfl (lv_at hl 3 rfl) ?_
            refine lv_istore_n (lv' := [(2, .int v4_3), (0, .ref v4_0), (1, .ref v4_1), (3, .int v4_3)]) hx hb dX1_narrowOf_49 rfl hl (by decide) rfl (fun ls hl => ?_)
            refine lv_iinc (v := v4_3 + (1 : Int32)) (lv' := [(3, .int (v4_3 + (1 : Int32))), (2, .int v4_3), (0, .ref v4_0), (1, .ref v4_1)]) hx hb dX1_narrowOf_50 hl (k := 3) rfl rfl (by decide) rfl (fun ls hl => ?_)
            refine lv_goto (tgt := 4) hx hb dX1_narrowOf_53 (by decide) ?_
            exact ih v4_0 v4_1 v4_3 (v4_3 + (1 : Int32)) _ _ _ _ hf hR hS (lv_sub hl [2, 3, 1, 0] rfl) K4
          · replace hf := gIfn c509 hf
            refine lv_aload_n hx hb dX1_narrowOf_33 rfl (lv_at hl 0 rfl) ?_
            refine lv_iload_n hx hb dX1_narrowOf_34 rfl (lv_at hl 3 rfl) ?_
            refine lv_aload_n hx hb dX1_narrowOf_35 rfl (lv_at hl 1 rfl) ?_
            obtain ⟨u510, eu510, hf⟩ := gBind hf
            refine g_callSi X hR hS [.ref v4_0, .int v4_3, .ref v4_1] (m_X1_clearAt l G F h n v4_0 v4_3 v4_1 eu510) yk_X1_clearAt q919 rfl hl.1 ⟨Nat.le_of_ble_eq_true rfl, Nat.le_of_ble_eq_true rfl⟩ ⟨Nat.le_of_ble_eq_true rfl, Nat.le_of_ble_eq_true rfl⟩ rfl (Nat.le_of_ble_eq_true rfl) dX1_narrowOf_36 (fun H locs hR hS => ?_)
            refine lv_aload_n hx hb dX1_narrowOf_39 rfl (lv_at hl 0 rfl) ?_
            refine lv_iload_n hx hb dX1_narrowOf_40 rfl (lv_at hl 2 rfl) ?_
            refine lv_aload_n hx hb dX1_narrowOf_41 rfl (lv_at hl 1 rfl) ?_
            obtain ⟨u511, eu511, hf⟩ := gBind hf
            refine g_callSi X hR hS [.ref v4_0, .int v4_2, .ref v4_1] (m_X1_clearAt l G F h n v4_0 v4_2 v4_1 eu511) yk_X1_clearAt q919 rfl hl.1 ⟨Nat.le_of_ble_eq_true rfl, Nat.le_of_ble_eq_true rfl⟩ ⟨Nat.le_of_ble_eq_true rfl, Nat.le_of_ble_eq_true rfl⟩ rfl (Nat.le_of_ble_eq_true rfl) dX1_narrowOf_42 (fun H locs hR hS => ?_)
            refine lv_icmp_le (tgt := 50) hx hb dX1_narrowOf_45 (by decide) (fun c512 => ?_) (fun c512 => ?_)
            · replace hf := gIfp c512 hf
              refine lv_iinc (v := v4_3 + (1 : Int32)) (lv' := [(3, .int (v4_3 + (1 : Int32))), (0, .ref v4_0), (1, .ref v4_1), (2, .int v4_2)]) hx hb dX1_narrowOf_50 hl (k := 3) rfl rfl (by decide) rfl (fun ls hl => ?_)
              refine lv_goto (tgt := 4) hx hb dX1_narrowOf_53 (by decide) ?_
              exact ih v4_0 v4_1 v4_2 (v4_3 + (1 : Int32)) _ _ _ _ hf hR hS (lv_sub hl [1, 2, 3, 0] rfl) K4
            · replace hf := gIfn c512 hf
              refine lv_iload_n hx hb dX1_narrowOf_48 rfl (lv_at hl 3 rfl) ?_
              refine lv_istore_n (lv' := [(2, .int v4_3), (0, .ref v4_0), (1, .ref v4_1), (3, .int v4_3)]) hx hb dX1_narrowOf_49 rfl hl (by decide) rfl (fun ls hl => ?_)
              refine lv_iinc (v := v4_3 + (1 : Int32)) (lv' := [(3, .int (v4_3 + (1 : Int32))), (2, .int v4_3), (0, .ref v4_0), (1, .ref v4_1)]) hx hb dX1_narrowOf_50 hl (k := 3) rfl rfl (by decide) rfl (fun ls hl => ?_)
              refine lv_goto (tgt := 4) hx hb dX1_narrowOf_53 (by decide) ?_
              exact ih v4_0 v4_1 v4_3 (v4_3 + (1 : Int32)) _ _ _ _ hf hR hS (lv_sub hl [2, 3, 1, 0] rfl) K4
  obtain ⟨y3, ey3, hf⟩ := gBind hf
  refine L4_q1 F a0 a1 (-1 : Int32) (0 : Int32) y3 _ _ _ ey3 hR hS (lv_sub hl [2, 3, 1, 0] rfl) (fun H locs ls hR hS hl => ?_)
  refine lv_iload_n hx hb dX1_narrowOf_56 rfl (lv_at hl 0 rfl) ?_
  obtain rfl := gO1 hf
  exact g_iret X hR hS _ rfl ⟨Nat.le_of_ble_eq_true rfl, Nat.le_of_ble_eq_true rfl⟩ dX1_narrowOf_57

def sp_X1_settles_L12 (G : gG) (F : Nat) : Nat → gH → Nat → Int32 → Int32 → Option (gH)
  | 0, _, _, _, _ => none
  | f + 1, h12L, v12_0, v12_1, v12_2 =>
    (gGi 1 h12L v12_0 13).bind fun x1301 =>
    if x1301 ≤ v12_2 then
    some (h12L) else
    (gGr 1 h12L v12_0 22).bind fun x1303 =>
    (gAr 5 h12L x1303 v12_1).bind fun a1304 =>
    (gGr 1 h12L v12_0 22).bind fun x1305 =>
    (gAr 5 h12L x1305 v12_2).bind fun a1306 =>
    (if v12_1 = v12_2 then
    some ((0 : Int32)) else
    (gGr 2 h12L a1304 2).bind fun x1308 =>
    (gGr 2 h12L a1306 2).bind fun x1309 =>
    if gIs 14 h12L x1308 = true then
    (sp_J1_intersects G F h12L x1308 x1309).bind fun u1311 =>
    if u1311 = 0 then
    some ((0 : Int32)) else
    some ((1 : Int32)) else none).bind fun j1313 =>
    (gGr 1 h12L v12_0 29).bind fun x1314 =>
    if j1313 = 0 then
    (gSi h12L x1314 (((8 : Int32) * v12_1) + v12_2) (-5 : Int32)).bind fun h1316 =>
    sp_X1_settles_L12 G F f h1316 v12_0 v12_1 (v12_2 + (1 : Int32)) else
    (sp_X1_narrowOf G F h12L a1304 a1306).bind fun u1317 =>
    (sp_X1_clearAt G F h12L a1304 u1317 a1306).bind fun u1318 =>
    (gGr 2 h12L a1304 0).bind fun x1319 =>
    (gKd G x1319 0).bind fun x1320 =>
    (sp_J11_max G F h12L u1318 x1320).bind fun u1321 =>
    (gGi 1 h12L v12_0 9).bind fun x1322 =>
    (gSi h12L x1314 (((8 : Int32) * v12_1) + v12_2) (u1321 + x1322)).bind fun h1323 =>
    sp_X1_settles_L12 G F f h1323 v12_0 v12_1 (v12_2 + (1 : Int32))
def sp_X1_settles_L2 (G : gG) (F : Nat) : Nat → gH → Nat → Int32 → Option (gH)
  | 0, _, _, _ => none
  | f + 1, h2L, v2_0, v2_1 =>
    (gGi 1 h2L v2_0 13).bind fun x301 =>
    if x301 ≤ v2_1 then
    some (h2L) else
    (sp_X1_settles_L12 G F F h2L v2_0 v2_1 (0 : Int32)).bind fun y305 =>
    sp_X1_settles_L2 G F f y305 v2_0 (v2_1 + (1 : Int32))
def sp_X1_settles (G : gG) (F : Nat) (h : gH) (a0 : Nat) : Option (gH) :=
 (sp_X1_settles_L2 G F F h a0 (0 : Int32)).bind fun y3 =>
 some (y3)
theorem yk_X1_settles : gVk yX1_settles cX1_settles 6 none 0 1 := ⟨q904, q905, q93, q906, ⟨by decide +kernel, by decide +kernel, by decide +kernel⟩, rfl⟩
set_option maxHeartbeats 4000000 in
theorem m_X1_settles (l : Launch) (G : gG) (F : Nat) (h : gH) (n : Nat) (a0 : Nat) {h' : gH} (hf : sp_X1_settles G F h a0 = some h') : gMet l G yX1_settles cX1_settles 6 none 3 67 0 0 [.ref a0] h n none h' n := by
  refine gEnter (by decide) [(0, .ref a0)] rfl (Nat.le_of_ble_eq_true rfl) ?_
  intro p e s m below meth c H ls X hin hR hS hl
  have hx := X.1.1
  have hb := X.1.2.1
  unfold sp_X1_settles at hf
  generalize ([] : List Loc) = locs at hS ⊢
  refine lv_iconst (v := (0 : Int32)) hx hb dX1_settles_0 (by decide) ?_
  refine lv_istore_n (lv' := [(1, .int (0 : Int32)), (0, .ref a0)]) hx hb dX1_settles_1 rfl hl (by decide) rfl (fun ls hl => ?_)
  have L2_q1 : ∀ (f : Nat) (h2L : gH) (v2_0 : Nat) (v2_1 : Int32) (o2 : gH) (H : Heap) (locs : List Loc) (ls : Array Slot), sp_X1_settles_L2 G F f h2L v2_0 v2_1 = some o2 → gRep G h2L n H → va_S (gFr G) s.heap H locs → lv_has ls 6 [(0, .ref v2_0), (1, .int v2_1)] → (∀ (H : Heap) (locs : List Loc) (ls : Array Slot), gRep G o2 n H → va_S (gFr G) s.heap H locs → lv_has ls 6 [] → W p l e ({ frames := 3, cells := 0, slots := 0, locals := 67 } : Room) s m ([.ref a0] : List Value).toArray below meth c H locs 0 0 (MQ below (gQ G none h' n) ([.ref a0] : List Value).toArray s 0 0 (gFr G)) (F0 m 122 ls [])) → W p l e ({ frames := 3, cells := 0, slots := 0, locals := 67 } : Room) s m ([.ref a0] : List Value).toArray below meth c H locs 0 0 (MQ below (gQ G none h' n) ([.ref a0] : List Value).toArray s 0 0 (gFr G)) (F0 m 2 ls []) := by
    clear hf
    intro f
    induction f with
    | zero =>
      intro h2L v2_0 v2_1 o2 H locs ls hf
      cases hf
    | succ f ih =>
      intro h2L v2_0 v2_1 o2 H locs ls hf hR hS hl K2
      rw [sp_X1_settles_L2] at hf
      refine lv_iload_n hx hb dX1_settles_2 rfl (lv_at hl 1 rfl) ?_
      refine lv_aload_n hx hb dX1_settles_3 rfl (lv_at hl 0 rfl) ?_
      obtain ⟨x301, ex301, hf⟩ := gBind hf
      refine g_geti X hR gk_X1 13 (by decide) q648 rfl ex301 dX1_settles_4 ?_
      refine lv_icmp_ge (tgt := 122) hx hb dX1_settles_7 (by decide) (fun c302 => ?_) (fun c302 => ?_)
      · replace hf := gIfp c302 hf
        obtain rfl := gO1 hf
        exact K2 _ _ _ hR hS (lv_sub hl [] rfl)
      · replace hf := gIfn c302 hf
        refine lv_iconst (v := (0 : Int32)) hx hb dX1_settles_10 (by decide) ?_
        refine lv_istore_n (lv' := [(2, .int (0 : Int32)), (0, .ref v2_0), (1, .int v2_1)]) hx hb dX1_settles_11 rfl hl (by decide) rfl (fun ls hl => ?_)
        have L12_q303 : ∀ (f : Nat) (h12L : gH) (v12_0 : Nat) (v12_1 : Int32) (v12_2 : Int32) (o304 : gH) (H : Heap) (locs : List Loc) (ls : Array Slot), sp_X1_settles_L12 G F f h12L v12_0 v12_1 v12_2 = some o304 → gRep G h12L n H → va_S (gFr G) s.heap H locs → lv_has ls 6 [(0, .ref v12_0), (1, .int v12_1), (2, .int v12_2)] → (∀ (H : Heap) (locs : List Loc) (ls : Array Slot), gRep G o304 n H → va_S (gFr G) s.heap H locs → lv_has ls 6 [(0, .ref v12_0), (1, .int v12_1)] → W p l e ({ frames := 3, cells := 0, slots := 0, locals := 67 } : Room) s m ([.ref a0] : List Value).toArray below meth c H locs 0 0 (MQ below (gQ G none h' n) ([.ref a0] : List Value).toArray s 0 0 (gFr G)) (F0 m 116 ls [])) → W p l e ({ frames := 3, cells := 0, slots := 0, locals := 67 } : Room) s m ([.ref a0] : List Value).toArray below meth c H locs 0 0 (MQ below (gQ G none h' n) ([.ref a0] : List Value).toArray s 0 0 (gFr G)) (F0 m 12 ls []) := by
          clear hf
          intro f
          induction f with
          | zero =>
            intro h12L v12_0 v12_1 v12_2 o304 H locs ls hf
            cases hf
          | succ f ih =>
            intro h12L v12_0 v12_1 v12_2 o304 H locs ls hf hR hS hl K12
            rw [sp_X1_settles_L12] at hf
            refine lv_iload_n hx hb dX1_settles_12 rfl (lv_at hl 2 rfl) ?_
            refine lv_aload_n hx hb dX1_settles_13 rfl (lv_at hl 0 rfl) ?_
            obtain ⟨x1301, ex1301, hf⟩ := gBind hf
            refine g_geti X hR gk_X1 13 (by decide) q648 rfl ex1301 dX1_settles_14 ?_
            refine lv_icmp_ge (tgt := 116) hx hb dX1_settles_17 (by decide) (fun c1302 => ?_) (fun c1302 => ?_)
            · replace hf := gIfp c1302 hf
              obtain rfl := gO1 hf
              exact K12 _ _ _ hR hS (lv_sub hl [0, 1] rfl)
            · replace hf := gIfn c1302 hf
              refine lv_aload_n hx hb dX1_settles_20 rfl (lv_at hl 0 rfl) ?_
              obtain ⟨x1303, ex1303, hf⟩ := gBind hf
              refine g_getr X hR gk_X1 22 (by decide) q665 rfl ex1303 dX1_settles_21 ?_
              refine lv_iload_n hx hb dX1_settles_24 rfl (lv_at hl 1 rfl) ?_
              obtain ⟨a1304, ea1304, hf⟩ := gBind hf
              refine g_aald X hR 5 (by decide) rfl ea1304 dX1_settles_25 ?_
              refine lv_astore_n (lv' := [(3, .ref a1304), (0, .ref v12_0), (1, .int v12_1), (2, .int v12_2)]) hx hb dX1_settles_26 rfl hl (by decide) rfl (fun ls hl => ?_)
              refine lv_aload_n hx hb dX1_settles_27 rfl (lv_at hl 1 rfl) ?_
              obtain ⟨x1305, ex1305, hf⟩ := gBind hf
              refine g_getr X hR gk_X1 22 (by decide) q665 rfl ex1305 dX1_settles_28 ?_
              refine lv_iload_n hx hb dX1_settles_31 rfl (lv_at hl 3 rfl) ?_
              obtain ⟨a1306, ea1306, hf⟩ := gBind hf
              refine g_aald X hR 5 (by decide) rfl ea1306 dX1_settles_32 ?_
              refine lv_astore (lv' := [(4, .ref a1306), (3, .ref a1304), (0, .ref v12_0), (1, .int v12_1), (2, .int v12_2)]) hx hb dX1_settles_33 hl (by decide) rfl (fun ls hl => ?_)
              refine lv_iload_n hx hb dX1_settles_35 rfl (lv_at hl 3 rfl) ?_
              refine lv_iload_n hx hb dX1_settles_36 rfl (lv_at hl 4 rfl) ?_
              obtain ⟨j1313, ej1313, hf⟩ := gBind hf
              have J60_j1313 : ∀ (H : Heap) (locs : List Loc) (ls : Array Slot), gRep G h12L n H → va_S (gFr G) s.heap H locs → lv_has ls 6 [(0, .ref v12_0), (1, .int v12_1), (2, .int v12_2), (3, .ref a1304), (4, .ref a1306)] → W p l e ({ frames := 3, cells := 0, slots := 0, locals := 67 } : Room) s m ([.ref a0] : List Value).toArray below meth c H locs 0 0 (MQ below (gQ G none h' n) ([.ref a0] : List Value).toArray s 0 0 (gFr G)) (F0 m 60 ls [.int j1313]) := by
                intro H locs ls hR hS hl
                refine lv_istore (lv' := [(5, .int j1313), (0, .ref v12_0), (1, .int v12_1), (2, .int v12_2), (3, .ref a1304), (4, .ref a1306)]) hx hb dX1_settles_60 hl (by decide) rfl (fun ls hl => ?_)
                refine lv_aload_n hx hb dX1_settles_62 rfl (lv_at hl 1 rfl) ?_
                obtain ⟨x1314, ex1314, hf⟩ := gBind hf
                refine g_getr X hR gk_X1 29 (by decide) q679 rfl ex1314 dX1_settles_63 ?_
                refine lv_bipush (v := (8 : Int32)) hx hb dX1_settles_66 (by decide) ?_
                refine lv_iload_n hx hb dX1_settles_68 rfl (lv_at hl 2 rfl) ?_
                refine lv_imul hx hb dX1_settles_69 ?_
                refine lv_iload_n hx hb dX1_settles_70 rfl (lv_at hl 3 rfl) ?_
                refine lv_iadd hx hb dX1_settles_71 ?_
                refine lv_iload hx hb dX1_settles_72 (lv_at hl 0 rfl) ?_
                refine lv_if_eq (tgt := 107) hx hb dX1_settles_74 (by decide) (fun c1315 => ?_) (fun c1315 => ?_)
                · replace hf := gIfp c1315 hf
                  refine lv_bipush (v := (-5 : Int32)) hx hb dX1_settles_107 (by decide) ?_
                  obtain ⟨h1316, eh1316, hf⟩ := gBind hf
                  refine g_iast X hR hS eh1316 dX1_settles_109 (fun H locs hR hS => ?_)
                  refine lv_iinc (v := v12_2 + (1 : Int32)) (lv' := [(2, .int (v12_2 + (1 : Int32))), (5, .int j1313), (0, .ref v12_0), (1, .int v12_1), (3, .ref a1304), (4, .ref a1306)]) hx hb dX1_settles_110 hl (k := 3) rfl rfl (by decide) rfl (fun ls hl => ?_)
                  refine lv_goto (tgt := 12) hx hb dX1_settles_113 (by decide) ?_
                  exact ih h1316 v12_0 v12_1 (v12_2 + (1 : Int32)) _ _ _ _ hf hR hS (lv_sub hl [2, 3, 0] rfl) K12
                · replace hf := gIfn c1315 hf
                  refine lv_aload_n hx hb dX1_settles_77 rfl (lv_at hl 4 rfl) ?_
                  refine lv_aload_n hx hb dX1_settles_78 rfl (lv_at hl 4 rfl) ?_
                  refine lv_aload hx hb dX1_settles_79 (lv_at hl 5 rfl) ?_
                  obtain ⟨u1317, eu1317, hf⟩ := gBind hf
                  refine g_callSi X hR hS [.ref a1304, .ref a1306] (m_X1_narrowOf l G F h12L n a1304 a1306 eu1317) yk_X1_narrowOf q912 rfl hl.1 ⟨Nat.le_of_ble_eq_true rfl, Nat.le_of_ble_eq_true rfl⟩ ⟨Nat.le_of_ble_eq_true rfl, Nat.le_of_ble_eq_true rfl⟩ rfl (Nat.le_of_ble_eq_true rfl) dX1_settles_81 (fun H locs hR hS => ?_)
                  refine lv_aload hx hb dX1_settles_84 (lv_at hl 5 rfl) ?_
                  obtain ⟨u1318, eu1318, hf⟩ := gBind hf
                  refine g_callSi X hR hS [.ref a1304, .int u1317, .ref a1306] (m_X1_clearAt l G F h12L n a1304 u1317 a1306 eu1318) yk_X1_clearAt q919 rfl hl.1 ⟨Nat.le_of_ble_eq_true rfl, Nat.le_of_ble_eq_true rfl⟩ ⟨Nat.le_of_ble_eq_true rfl, Nat.le_of_ble_eq_true rfl⟩ rfl (Nat.le_of_ble_eq_true rfl) dX1_settles_86 (fun H locs hR hS => ?_)
                  refine lv_aload_n hx hb dX1_settles_89 rfl (lv_at hl 4 rfl) ?_
                  obtain ⟨x1319, ex1319, hf⟩ := gBind hf
                  refine g_getrN X hR gk_X2 0 (by decide) q509 rfl ex1319 dX1_settles_90 ?_
                  obtain ⟨x1320, ex1320, hf⟩ := gBind hf
                  refine g_kfldN X hS 0 (by decide) q2258 ex1320 dX1_settles_93 ?_
                  obtain ⟨u1321, eu1321, hf⟩ := gBind hf
                  refine g_callSi X hR hS [.int u1318, .int x1320] (m_J11_max l G F h12L n u1318 x1320 eu1321) yk_J11_max q926 rfl hl.1 ⟨Nat.le_of_ble_eq_true rfl, Nat.le_of_ble_eq_true rfl⟩ ⟨Nat.le_of_ble_eq_true rfl, Nat.le_of_ble_eq_true rfl⟩ rfl (Nat.le_of_ble_eq_true rfl) dX1_settles_96 (fun H locs hR hS => ?_)
                  refine lv_aload_n hx hb dX1_settles_99 rfl (lv_at hl 1 rfl) ?_
                  obtain ⟨x1322, ex1322, hf⟩ := gBind hf
                  refine g_geti X hR gk_X1 9 (by decide) q640 rfl ex1322 dX1_settles_100 ?_
                  refine lv_iadd hx hb dX1_settles_103 ?_
                  refine lv_goto (tgt := 109) hx hb dX1_settles_104 (by decide) ?_
                  obtain ⟨h1323, eh1323, hf⟩ := gBind hf
                  refine g_iast X hR hS eh1323 dX1_settles_109 (fun H locs hR hS => ?_)
                  refine lv_iinc (v := v12_2 + (1 : Int32)) (lv' := [(2, .int (v12_2 + (1 : Int32))), (5, .int j1313), (0, .ref v12_0), (1, .int v12_1), (3, .ref a1304), (4, .ref a1306)]) hx hb dX1_settles_110 hl (k := 3) rfl rfl (by decide) rfl (fun ls hl => ?_)
                  refine lv_goto (tgt := 12) hx hb dX1_settles_113 (by decide) ?_
                  exact ih h1323 v12_0 v12_1 (v12_2 + (1 : Int32)) _ _ _ _ hf hR hS (lv_sub hl [2, 3, 0] rfl) K12
              replace hf := ej1313
              clear ej1313
              refine lv_icmp_eq (tgt := 59) hx hb dX1_settles_37 (by decide) (fun c1307 => ?_) (fun c1307 => ?_)
              · replace hf := gIfp c1307 hf
                refine lv_iconst (v := (0 : Int32)) hx hb dX1_settles_59 (by decide) ?_
                obtain rfl := gO1 hf
                exact J60_j1313 _ _ _ hR hS (lv_sub hl [2, 3, 4, 1, 0] rfl)
              · replace hf := gIfn c1307 hf
                refine lv_aload_n hx hb dX1_settles_40 rfl (lv_at hl 1 rfl) ?_
                obtain ⟨x1308, ex1308, hf⟩ := gBind hf
                refine g_getrN X hR gk_X2 2 (by decide) q515 rfl ex1308 dX1_settles_41 ?_
                refine lv_aload hx hb dX1_settles_44 (lv_at hl 0 rfl) ?_
                obtain ⟨x1309, ex1309, hf⟩ := gBind hf
                refine g_getrN X hR gk_X2 2 (by decide) q515 rfl ex1309 dX1_settles_46 ?_
                obtain ⟨k1310, hf⟩ := gChk hf
                obtain ⟨u1311, eu1311, hf⟩ := gBind hf
                refine g_callVi X hR hS [.ref x1309] (m_J1_intersects l G F h12L n x1308 x1309 eu1311) yk_J1_intersects q907 k1310 rfl hl.1 ⟨Nat.le_of_ble_eq_true rfl, Nat.le_of_ble_eq_true rfl⟩ ⟨Nat.le_of_ble_eq_true rfl, Nat.le_of_ble_eq_true rfl⟩ rfl (Nat.le_of_ble_eq_true rfl) dX1_settles_49 (fun H locs hR hS => ?_)
                refine lv_if_eq (tgt := 59) hx hb dX1_settles_52 (by decide) (fun c1312 => ?_) (fun c1312 => ?_)
                · replace hf := gIfp c1312 hf
                  refine lv_iconst (v := (0 : Int32)) hx hb dX1_settles_59 (by decide) ?_
                  obtain rfl := gO1 hf
                  exact J60_j1313 _ _ _ hR hS (lv_sub hl [2, 3, 4, 1, 0] rfl)
                · replace hf := gIfn c1312 hf
                  refine lv_iconst (v := (1 : Int32)) hx hb dX1_settles_55 (by decide) ?_
                  refine lv_goto (tgt := 60) hx hb dX1_settles_56 (by decide) ?_
                  obtain rfl := gO1 hf
                  exact J60_j1313 _ _ _ hR hS (lv_sub hl [2, 3, 4, 1, 0] rfl)
        obtain ⟨y305, ey305, hf⟩ := gBind hf
        refine L12_q303 F h2L v2_0 v2_1 (0 : Int32) y305 _ _ _ ey305 hR hS (lv_sub hl [1, 2, 0] rfl) (fun H locs ls hR hS hl => ?_)
        refine lv_iinc (v := v2_1 + (1 : Int32)) (lv' := [(1, .int (v2_1 + (1 : Int32))), (0, .ref v2_0)]) hx hb dX1_settles_116 hl (k := 1) rfl rfl (by decide) rfl (fun ls hl => ?_)
        refine lv_goto (tgt := 2) hx hb dX1_settles_119 (by decide) ?_
        exact ih y305 v2_0 (v2_1 + (1 : Int32)) _ _ _ _ hf hR hS (lv_sub hl [1, 0] rfl) K2
  obtain ⟨y3, ey3, hf⟩ := gBind hf
  refine L2_q1 F h a0 (0 : Int32) y3 _ _ _ ey3 hR hS (lv_sub hl [1, 0] rfl) (fun H locs ls hR hS hl => ?_)
  obtain rfl := gO1 hf
  exact g_vret X hR hS rfl ⟨Nat.le_of_ble_eq_true rfl, Nat.le_of_ble_eq_true rfl⟩ dX1_settles_122

def sp_X1_clearOf (G : gG) (F : Nat) (h : gH) (a0 : Nat) (p1 : Int32) (p2 : Int32) : Option (Int32) :=
 (gGr 1 h a0 29).bind fun x1 =>
 (gAi 0 h x1 (((8 : Int32) * p1) + p2)).bind fun x2 =>
 some (x2)
theorem yk_X1_clearOf : gVk yX1_clearOf cX1_clearOf 3 (some .int) 2 1 := ⟨q1079, q1080, q93, q1081, ⟨by decide +kernel, by decide +kernel, by decide +kernel⟩, rfl⟩
set_option maxHeartbeats 4000000 in
theorem m_X1_clearOf (l : Launch) (G : gG) (F : Nat) (h : gH) (n : Nat) (a0 : Nat) (p1 : Int32) (p2 : Int32) {r : Int32} (hf : sp_X1_clearOf G F h a0 p1 p2 = some r) : gMet l G yX1_clearOf cX1_clearOf 3 (some .int) 0 0 0 0 [.ref a0, .int p1, .int p2] h n (some (.int r)) h n := by
  refine gEnter (by decide) [(0, .ref a0), (1, .int p1), (2, .int p2)] rfl (Nat.le_of_ble_eq_true rfl) ?_
  intro p e s m below meth c H ls X hin hR hS hl
  have hx := X.1.1
  have hb := X.1.2.1
  unfold sp_X1_clearOf at hf
  generalize ([] : List Loc) = locs at hS ⊢
  refine lv_aload_n hx hb dX1_clearOf_0 rfl (lv_at hl 0 rfl) ?_
  obtain ⟨x1, ex1, hf⟩ := gBind hf
  refine g_getr X hR gk_X1 29 (by decide) q679 rfl ex1 dX1_clearOf_1 ?_
  refine lv_bipush (v := (8 : Int32)) hx hb dX1_clearOf_4 (by decide) ?_
  refine lv_iload_n hx hb dX1_clearOf_6 rfl (lv_at hl 1 rfl) ?_
  refine lv_imul hx hb dX1_clearOf_7 ?_
  refine lv_iload_n hx hb dX1_clearOf_8 rfl (lv_at hl 2 rfl) ?_
  refine lv_iadd hx hb dX1_clearOf_9 ?_
  obtain ⟨x2, ex2, hf⟩ := gBind hf
  refine g_iald X hR ex2 dX1_clearOf_10 ?_
  obtain rfl := gO1 hf
  exact g_iret X hR hS _ rfl ⟨Nat.le_of_ble_eq_true rfl, Nat.le_of_ble_eq_true rfl⟩ dX1_clearOf_11

def sp_X1_meet (G : gG) (F : Nat) (h : gH) (a0 : Nat) (p1 : Int32) (p2 : Int32) : Option (Int32) :=
 if gIs 1 h a0 = true then
 (sp_X1_clearOf G F h a0 p1 p2).bind fun u2 =>
 if u2 < 0 then
 some ((0 : Int32)) else
 some ((1 : Int32)) else none
theorem yk_X1_meet : gVk yX1_meet cX1_meet 3 (some .boolean) 2 1 := ⟨q1075, q1076, q93, q1077, ⟨by decide +kernel, by decide +kernel, by decide +kernel⟩, rfl⟩
set_option maxHeartbeats 4000000 in
theorem m_X1_meet (l : Launch) (G : gG) (F : Nat) (h : gH) (n : Nat) (a0 : Nat) (p1 : Int32) (p2 : Int32) {r : Int32} (hf : sp_X1_meet G F h a0 p1 p2 = some r) : gMet l G yX1_meet cX1_meet 3 (some .boolean) 1 22 0 0 [.ref a0, .int p1, .int p2] h n (some (.int r)) h n := by
  refine gEnter (by decide) [(0, .ref a0), (1, .int p1), (2, .int p2)] rfl (Nat.le_of_ble_eq_true rfl) ?_
  intro p e s m below meth c H ls X hin hR hS hl
  have hx := X.1.1
  have hb := X.1.2.1
  unfold sp_X1_meet at hf
  generalize ([] : List Loc) = locs at hS ⊢
  refine lv_aload_n hx hb dX1_meet_0 rfl (lv_at hl 0 rfl) ?_
  refine lv_iload_n hx hb dX1_meet_1 rfl (lv_at hl 1 rfl) ?_
  refine lv_iload_n hx hb dX1_meet_2 rfl (lv_at hl 2 rfl) ?_
  obtain ⟨k1, hf⟩ := gChk hf
  obtain ⟨u2, eu2, hf⟩ := gBind hf
  refine g_callVi X hR hS [.int p1, .int p2] (m_X1_clearOf l G F h n a0 p1 p2 eu2) yk_X1_clearOf q1078 k1 rfl hl.1 ⟨Nat.le_of_ble_eq_true rfl, Nat.le_of_ble_eq_true rfl⟩ ⟨Nat.le_of_ble_eq_true rfl, Nat.le_of_ble_eq_true rfl⟩ rfl (Nat.le_of_ble_eq_true rfl) dX1_meet_3 (fun H locs hR hS => ?_)
  refine lv_if_lt (tgt := 13) hx hb dX1_meet_6 (by decide) (fun c3 => ?_) (fun c3 => ?_)
  · replace hf := gIfp c3 hf
    refine lv_iconst (v := (0 : Int32)) hx hb dX1_meet_13 (by decide) ?_
    obtain rfl := gO1 hf
    exact g_zret X hR hS _ rfl rfl ⟨Nat.le_of_ble_eq_true rfl, Nat.le_of_ble_eq_true rfl⟩ dX1_meet_14
  · replace hf := gIfn c3 hf
    refine lv_iconst (v := (1 : Int32)) hx hb dX1_meet_9 (by decide) ?_
    refine lv_goto (tgt := 14) hx hb dX1_meet_10 (by decide) ?_
    obtain rfl := gO1 hf
    exact g_zret X hR hS _ rfl rfl ⟨Nat.le_of_ble_eq_true rfl, Nat.le_of_ble_eq_true rfl⟩ dX1_meet_14

def sp_X1_meets_L4 (G : gG) (F : Nat) (h4L : gH) : Nat → Nat → Int32 → Int32 → Int32 → Option (Int32)
  | 0, _, _, _, _ => none
  | f + 1, v4_0, v4_1, v4_2, v4_3 =>
    (gGi 1 h4L v4_0 13).bind fun x501 =>
    if x501 ≤ v4_3 then
    some (v4_2) else
    if gIs 1 h4L v4_0 = true then
    (sp_X1_meet G F h4L v4_0 v4_1 v4_3).bind fun u504 =>
    if u504 = 0 then
    sp_X1_meets_L4 G F h4L f v4_0 v4_1 (v4_2 ||| (0 : Int32)) (v4_3 + (1 : Int32)) else
    sp_X1_meets_L4 G F h4L f v4_0 v4_1 (v4_2 ||| ((1 : Int32) <<< (v4_3 &&& 31))) (v4_3 + (1 : Int32)) else none
def sp_X1_meets (G : gG) (F : Nat) (h : gH) (a0 : Nat) (p1 : Int32) : Option (Int32) :=
 (sp_X1_meets_L4 G F h F a0 p1 (0 : Int32) (0 : Int32)).bind fun y3 =>
 some (y3)
theorem yk_X1_meets : gVk yX1_meets cX1_meets 4 (some .int) 1 1 := ⟨q1071, q1072, q93, q1073, ⟨by decide +kernel, by decide +kernel, by decide +kernel⟩, rfl⟩
set_option maxHeartbeats 4000000 in
theorem m_X1_meets (l : Launch) (G : gG) (F : Nat) (h : gH) (n : Nat) (a0 : Nat) (p1 : Int32) {r : Int32} (hf : sp_X1_meets G F h a0 p1 = some r) : gMet l G yX1_meets cX1_meets 4 (some .int) 2 44 0 0 [.ref a0, .int p1] h n (some (.int r)) h n := by
  refine gEnter (by decide) [(0, .ref a0), (1, .int p1)] rfl (Nat.le_of_ble_eq_true rfl) ?_
  intro p e s m below meth c H ls X hin hR hS hl
  have hx := X.1.1
  have hb := X.1.2.1
  unfold sp_X1_meets at hf
  generalize ([] : List Loc) = locs at hS ⊢
  refine lv_iconst (v := (0 : Int32)) hx hb dX1_meets_0 (by decide) ?_
  refine lv_istore_n (lv' := [(2, .int (0 : Int32)), (0, .ref a0), (1, .int p1)]) hx hb dX1_meets_1 rfl hl (by decide) rfl (fun ls hl => ?_)
  refine lv_iconst (v := (0 : Int32)) hx hb dX1_meets_2 (by decide) ?_
  refine lv_istore_n (lv' := [(3, .int (0 : Int32)), (2, .int (0 : Int32)), (0, .ref a0), (1, .int p1)]) hx hb dX1_meets_3 rfl hl (by decide) rfl (fun ls hl => ?_)
  have L4_q1 : ∀ (f : Nat) (v4_0 : Nat) (v4_1 : Int32) (v4_2 : Int32) (v4_3 : Int32) (o2 : Int32) (H : Heap) (locs : List Loc) (ls : Array Slot), sp_X1_meets_L4 G F h f v4_0 v4_1 v4_2 v4_3 = some o2 → gRep G h n H → va_S (gFr G) s.heap H locs → lv_has ls 4 [(0, .ref v4_0), (1, .int v4_1), (2, .int v4_2), (3, .int v4_3)] → (∀ (H : Heap) (locs : List Loc) (ls : Array Slot), gRep G h n H → va_S (gFr G) s.heap H locs → lv_has ls 4 [(2, .int o2)] → W p l e ({ frames := 2, cells := 0, slots := 0, locals := 44 } : Room) s m ([.ref a0, .int p1] : List Value).toArray below meth c H locs 0 0 (MQ below (gQ G (some (.int r)) h n) ([.ref a0, .int p1] : List Value).toArray s 0 0 (gFr G)) (F0 m 37 ls [])) → W p l e ({ frames := 2, cells := 0, slots := 0, locals := 44 } : Room) s m ([.ref a0, .int p1] : List Value).toArray below meth c H locs 0 0 (MQ below (gQ G (some (.int r)) h n) ([.ref a0, .int p1] : List Value).toArray s 0 0 (gFr G)) (F0 m 4 ls []) := by
    clear hf
    intro f
    induction f with
    | zero =>
      intro v4_0 v4_1 v4_2 v4_3 o2 H locs ls hf
      cases hf
    | succ f ih =>
      intro v4_0 v4_1 v4_2 v4_3 o2 H locs ls hf hR hS hl K4
      rw [sp_X1_meets_L4] at hf
      refine lv_iload_n hx hb dX1_meets_4 rfl (lv_at hl 3 rfl) ?_
      refine lv_aload_n hx hb dX1_meets_5 rfl (lv_at hl 0 rfl) ?_
      obtain ⟨x501, ex501, hf⟩ := gBind hf
      refine g_geti X hR gk_X1 13 (by decide) q648 rfl ex501 dX1_meets_6 ?_
      refine lv_icmp_ge (tgt := 37) hx hb dX1_meets_9 (by decide) (fun c502 => ?_) (fun c502 => ?_)
      · replace hf := gIfp c502 hf
        obtain rfl := gO1 hf
        exact K4 _ _ _ hR hS (lv_sub hl [2] rfl)
      · replace hf := gIfn c502 hf
        refine lv_iload_n hx hb dX1_meets_12 rfl (lv_at hl 2 rfl) ?_
        refine lv_aload_n hx hb dX1_meets_13 rfl (lv_at hl 0 rfl) ?_
        refine lv_iload_n hx hb dX1_meets_14 rfl (lv_at hl 1 rfl) ?_
        refine lv_iload_n hx hb dX1_meets_15 rfl (lv_at hl 3 rfl) ?_
        obtain ⟨k503, hf⟩ := gChk hf
        obtain ⟨u504, eu504, hf⟩ := gBind hf
        refine g_callVi X hR hS [.int v4_1, .int v4_3] (m_X1_meet l G F h n v4_0 v4_1 v4_3 eu504) yk_X1_meet q1074 k503 rfl hl.1 ⟨Nat.le_of_ble_eq_true rfl, Nat.le_of_ble_eq_true rfl⟩ ⟨Nat.le_of_ble_eq_true rfl, Nat.le_of_ble_eq_true rfl⟩ rfl (Nat.le_of_ble_eq_true rfl) dX1_meets_16 (fun H locs hR hS => ?_)
        refine lv_if_eq (tgt := 28) hx hb dX1_meets_19 (by decide) (fun c505 => ?_) (fun c505 => ?_)
        · replace hf := gIfp c505 hf
          refine lv_iconst (v := (0 : Int32)) hx hb dX1_meets_28 (by decide) ?_
          refine lv_ior hx hb dX1_meets_29 ?_
          refine lv_istore_n (lv' := [(2, .int (v4_2 ||| (0 : Int32))), (0, .ref v4_0), (1, .int v4_1), (3, .int v4_3)]) hx hb dX1_meets_30 rfl hl (by decide) rfl (fun ls hl => ?_)
          refine lv_iinc (v := v4_3 + (1 : Int32)) (lv' := [(3, .int (v4_3 + (1 : Int32))), (2, .int (v4_2 ||| (0 : Int32))), (0, .ref v4_0), (1, .int v4_1)]) hx hb dX1_meets_31 hl (k := 3) rfl rfl (by decide) rfl (fun ls hl => ?_)
          refine lv_goto (tgt := 4) hx hb dX1_meets_34 (by decide) ?_
          exact ih v4_0 v4_1 (v4_2 ||| (0 : Int32)) (v4_3 + (1 : Int32)) _ _ _ _ hf hR hS (lv_sub hl [2, 3, 1, 0] rfl) K4
        · replace hf := gIfn c505 hf
          refine lv_iconst (v := (1 : Int32)) hx hb dX1_meets_22 (by decide) ?_
          refine lv_iload_n hx hb dX1_meets_23 rfl (lv_at hl 3 rfl) ?_
          refine lv_ishl hx hb dX1_meets_24 ?_
          refine lv_goto (tgt := 29) hx hb dX1_meets_25 (by decide) ?_
          refine lv_ior hx hb dX1_meets_29 ?_
          refine lv_istore_n (lv' := [(2, .int (v4_2 ||| ((1 : Int32) <<< (v4_3 &&& 31)))), (0, .ref v4_0), (1, .int v4_1), (3, .int v4_3)]) hx hb dX1_meets_30 rfl hl (by decide) rfl (fun ls hl => ?_)
          refine lv_iinc (v := v4_3 + (1 : Int32)) (lv' := [(3, .int (v4_3 + (1 : Int32))), (2, .int (v4_2 ||| ((1 : Int32) <<< (v4_3 &&& 31)))), (0, .ref v4_0), (1, .int v4_1)]) hx hb dX1_meets_31 hl (k := 3) rfl rfl (by decide) rfl (fun ls hl => ?_)
          refine lv_goto (tgt := 4) hx hb dX1_meets_34 (by decide) ?_
          exact ih v4_0 v4_1 (v4_2 ||| ((1 : Int32) <<< (v4_3 &&& 31))) (v4_3 + (1 : Int32)) _ _ _ _ hf hR hS (lv_sub hl [2, 3, 1, 0] rfl) K4
  obtain ⟨y3, ey3, hf⟩ := gBind hf
  refine L4_q1 F a0 p1 (0 : Int32) (0 : Int32) y3 _ _ _ ey3 hR hS (lv_sub hl [2, 3, 1, 0] rfl) (fun H locs ls hR hS hl => ?_)
  refine lv_iload_n hx hb dX1_meets_37 rfl (lv_at hl 0 rfl) ?_
  obtain rfl := gO1 hf
  exact g_iret X hR hS _ rfl ⟨Nat.le_of_ble_eq_true rfl, Nat.le_of_ble_eq_true rfl⟩ dX1_meets_38

def sp_X1_phaseWith_L2 (G : gG) (F : Nat) (h2L : gH) : Nat → Nat → Int32 → Int32 → Option (Int32)
  | 0, _, _, _ => none
  | f + 1, v2_0, v2_1, v2_2 =>
    (gGi 1 h2L v2_0 14).bind fun x301 =>
    if x301 ≤ v2_2 then
    some ((-5 : Int32)) else
    (gGr 1 h2L v2_0 23).bind fun x303 =>
    (gAr 6 h2L x303 v2_2).bind fun a304 =>
    if gIs 3 h2L a304 = true then
    (sp_X4_has G F h2L a304 v2_1).bind fun u306 =>
    if u306 = 0 then
    sp_X1_phaseWith_L2 G F h2L f v2_0 v2_1 (v2_2 + (1 : Int32)) else
    some (v2_2) else none
def sp_X1_phaseWith (G : gG) (F : Nat) (h : gH) (a0 : Nat) (p1 : Int32) : Option (Int32) :=
 sp_X1_phaseWith_L2 G F h F a0 p1 (0 : Int32)
theorem yk_X1_phaseWith : gVk yX1_phaseWith cX1_phaseWith 3 (some .int) 1 1 := ⟨q1113, q1114, q93, q1115, ⟨by decide +kernel, by decide +kernel, by decide +kernel⟩, rfl⟩
set_option maxHeartbeats 4000000 in
theorem m_X1_phaseWith (l : Launch) (G : gG) (F : Nat) (h : gH) (n : Nat) (a0 : Nat) (p1 : Int32) {r : Int32} (hf : sp_X1_phaseWith G F h a0 p1 = some r) : gMet l G yX1_phaseWith cX1_phaseWith 3 (some .int) 1 21 0 0 [.ref a0, .int p1] h n (some (.int r)) h n := by
  refine gEnter (by decide) [(0, .ref a0), (1, .int p1)] rfl (Nat.le_of_ble_eq_true rfl) ?_
  intro p e s m below meth c H ls X hin hR hS hl
  have hx := X.1.1
  have hb := X.1.2.1
  unfold sp_X1_phaseWith at hf
  generalize ([] : List Loc) = locs at hS ⊢
  refine lv_iconst (v := (0 : Int32)) hx hb dX1_phaseWith_0 (by decide) ?_
  refine lv_istore_n (lv' := [(2, .int (0 : Int32)), (0, .ref a0), (1, .int p1)]) hx hb dX1_phaseWith_1 rfl hl (by decide) rfl (fun ls hl => ?_)
  have L2_q1 : ∀ (f : Nat) (v2_0 : Nat) (v2_1 : Int32) (v2_2 : Int32) (H : Heap) (locs : List Loc) (ls : Array Slot), sp_X1_phaseWith_L2 G F h f v2_0 v2_1 v2_2 = some r → gRep G h n H → va_S (gFr G) s.heap H locs → lv_has ls 3 [(0, .ref v2_0), (1, .int v2_1), (2, .int v2_2)] → W p l e ({ frames := 1, cells := 0, slots := 0, locals := 21 } : Room) s m ([.ref a0, .int p1] : List Value).toArray below meth c H locs 0 0 (MQ below (gQ G (some (.int r)) h n) ([.ref a0, .int p1] : List Value).toArray s 0 0 (gFr G)) (F0 m 2 ls []) := by
    clear hf
    intro f
    induction f with
    | zero =>
      intro v2_0 v2_1 v2_2 H locs ls hf
      cases hf
    | succ f ih =>
      intro v2_0 v2_1 v2_2 H locs ls hf hR hS hl
      rw [sp_X1_phaseWith_L2] at hf
      refine lv_iload_n hx hb dX1_phaseWith_2 rfl (lv_at hl 2 rfl) ?_
      refine lv_aload_n hx hb dX1_phaseWith_3 rfl (lv_at hl 0 rfl) ?_
      obtain ⟨x301, ex301, hf⟩ := gBind hf
      refine g_geti X hR gk_X1 14 (by decide) q650 rfl ex301 dX1_phaseWith_4 ?_
      refine lv_icmp_ge (tgt := 31) hx hb dX1_phaseWith_7 (by decide) (fun c302 => ?_) (fun c302 => ?_)
      · replace hf := gIfp c302 hf
        refine lv_bipush (v := (-5 : Int32)) hx hb dX1_phaseWith_31 (by decide) ?_
        obtain rfl := gO1 hf
        exact g_iret X hR hS _ rfl ⟨Nat.le_of_ble_eq_true rfl, Nat.le_of_ble_eq_true rfl⟩ dX1_phaseWith_33
      · replace hf := gIfn c302 hf
        refine lv_aload_n hx hb dX1_phaseWith_10 rfl (lv_at hl 0 rfl) ?_
        obtain ⟨x303, ex303, hf⟩ := gBind hf
        refine g_getr X hR gk_X1 23 (by decide) q667 rfl ex303 dX1_phaseWith_11 ?_
        refine lv_iload_n hx hb dX1_phaseWith_14 rfl (lv_at hl 2 rfl) ?_
        obtain ⟨a304, ea304, hf⟩ := gBind hf
        refine g_aald X hR 6 (by decide) rfl ea304 dX1_phaseWith_15 ?_
        refine lv_iload_n hx hb dX1_phaseWith_16 rfl (lv_at hl 1 rfl) ?_
        obtain ⟨k305, hf⟩ := gChk hf
        obtain ⟨u306, eu306, hf⟩ := gBind hf
        refine g_callVi X hR hS [.int v2_1] (m_X4_has l G F h n a304 v2_1 eu306) yk_X4_has q1116 k305 rfl hl.1 ⟨Nat.le_of_ble_eq_true rfl, Nat.le_of_ble_eq_true rfl⟩ ⟨Nat.le_of_ble_eq_true rfl, Nat.le_of_ble_eq_true rfl⟩ rfl (Nat.le_of_ble_eq_true rfl) dX1_phaseWith_17 (fun H locs hR hS => ?_)
        refine lv_if_eq (tgt := 25) hx hb dX1_phaseWith_20 (by decide) (fun c307 => ?_) (fun c307 => ?_)
        · replace hf := gIfp c307 hf
          refine lv_iinc (v := v2_2 + (1 : Int32)) (lv' := [(2, .int (v2_2 + (1 : Int32))), (0, .ref v2_0), (1, .int v2_1)]) hx hb dX1_phaseWith_25 hl (k := 2) rfl rfl (by decide) rfl (fun ls hl => ?_)
          refine lv_goto (tgt := 2) hx hb dX1_phaseWith_28 (by decide) ?_
          exact ih v2_0 v2_1 (v2_2 + (1 : Int32)) _ _ _ hf hR hS (lv_sub hl [1, 2, 0] rfl)
        · replace hf := gIfn c307 hf
          refine lv_iload_n hx hb dX1_phaseWith_23 rfl (lv_at hl 2 rfl) ?_
          obtain rfl := gO1 hf
          exact g_iret X hR hS _ rfl ⟨Nat.le_of_ble_eq_true rfl, Nat.le_of_ble_eq_true rfl⟩ dX1_phaseWith_24
  exact L2_q1 F a0 p1 (0 : Int32) _ _ _ hf hR hS (lv_sub hl [1, 2, 0] rfl)

def sp_X1_comesToEmergency (G : gG) (F : Nat) (h : gH) (a0 : Nat) (p1 : Int32) : Option (gH) :=
 (gGi 1 h a0 4).bind fun x1 =>
 if x1 = (-5 : Int32) then
 if gIs 1 h a0 = true then
 (sp_X1_phaseWith G F h a0 p1).bind fun u4 =>
 if u4 = (-5 : Int32) then
 some (h) else
 (gPv 1 h a0 4 (.int p1)).bind fun h6 =>
 some (h6) else none else
 some (h)
theorem yk_X1_comesToEmergency : gVk yX1_comesToEmergency cX1_comesToEmergency 2 none 1 1 := ⟨q1121, q1122, q93, q1123, ⟨by decide +kernel, by decide +kernel, by decide +kernel⟩, rfl⟩
set_option maxHeartbeats 4000000 in
theorem m_X1_comesToEmergency (l : Launch) (G : gG) (F : Nat) (h : gH) (n : Nat) (a0 : Nat) (p1 : Int32) {h' : gH} (hf : sp_X1_comesToEmergency G F h a0 p1 = some h') : gMet l G yX1_comesToEmergency cX1_comesToEmergency 2 none 2 43 0 0 [.ref a0, .int p1] h n none h' n := by
  refine gEnter (by decide) [(0, .ref a0), (1, .int p1)] rfl (Nat.le_of_ble_eq_true rfl) ?_
  intro p e s m below meth c H ls X hin hR hS hl
  have hx := X.1.1
  have hb := X.1.2.1
  unfold sp_X1_comesToEmergency at hf
  generalize ([] : List Loc) = locs at hS ⊢
  refine lv_aload_n hx hb dX1_comesToEmergency_0 rfl (lv_at hl 0 rfl) ?_
  obtain ⟨x1, ex1, hf⟩ := gBind hf
  refine g_geti X hR gk_X1 4 (by decide) q630 rfl ex1 dX1_comesToEmergency_1 ?_
  refine lv_bipush (v := (-5 : Int32)) hx hb dX1_comesToEmergency_4 (by decide) ?_
  refine lv_icmp_ne (tgt := 24) hx hb dX1_comesToEmergency_6 (by decide) (fun c2 => ?_) (fun c2 => ?_)
  · replace hf := gIfn c2 hf
    obtain rfl := gO1 hf
    exact g_vret X hR hS rfl ⟨Nat.le_of_ble_eq_true rfl, Nat.le_of_ble_eq_true rfl⟩ dX1_comesToEmergency_24
  · replace hf := gIfp c2 hf
    refine lv_aload_n hx hb dX1_comesToEmergency_9 rfl (lv_at hl 0 rfl) ?_
    refine lv_iload_n hx hb dX1_comesToEmergency_10 rfl (lv_at hl 1 rfl) ?_
    obtain ⟨k3, hf⟩ := gChk hf
    obtain ⟨u4, eu4, hf⟩ := gBind hf
    refine g_callVi X hR hS [.int p1] (m_X1_phaseWith l G F h n a0 p1 eu4) yk_X1_phaseWith q1124 k3 rfl hl.1 ⟨Nat.le_of_ble_eq_true rfl, Nat.le_of_ble_eq_true rfl⟩ ⟨Nat.le_of_ble_eq_true rfl, Nat.le_of_ble_eq_true rfl⟩ rfl (Nat.le_of_ble_eq_true rfl) dX1_comesToEmergency_11 (fun H locs hR hS => ?_)
    refine lv_bipush (v := (-5 : Int32)) hx hb dX1_comesToEmergency_14 (by decide) ?_
    refine lv_icmp_eq (tgt := 24) hx hb dX1_comesToEmergency_16 (by decide) (fun c5 => ?_) (fun c5 => ?_)
    · replace hf := gIfp c5 hf
      obtain rfl := gO1 hf
      exact g_vret X hR hS rfl ⟨Nat.le_of_ble_eq_true rfl, Nat.le_of_ble_eq_true rfl⟩ dX1_comesToEmergency_24
    · replace hf := gIfn c5 hf
      refine lv_aload_n hx hb dX1_comesToEmergency_19 rfl (lv_at hl 0 rfl) ?_
      refine lv_iload_n hx hb dX1_comesToEmergency_20 rfl (lv_at hl 1 rfl) ?_
      obtain ⟨h6, eh6, hf⟩ := gBind hf
      refine g_put X hR hS gk_X1 4 (by decide) q630 rfl rfl eh6 rfl rfl rfl dX1_comesToEmergency_21 (fun H locs hR hS => ?_)
      obtain rfl := gO1 hf
      exact g_vret X hR hS rfl ⟨Nat.le_of_ble_eq_true rfl, Nat.le_of_ble_eq_true rfl⟩ dX1_comesToEmergency_24

def sp_X1_draw (G : gG) (F : Nat) (h : gH) (a0 : Nat) (p1 : Int32) : Option (Int32 × gH) :=
 (gGi 1 h a0 8).bind fun x1 =>
 (gPv 1 h a0 8 (.int ((x1 * (1103515245 : Int32)) + (12345 : Int32)))).bind fun h2 =>
 (gGi 1 h2 a0 8).bind fun x3 =>
 if ¬ p1 = 0 then
 some ((((x3.toUInt32 >>> ((9 : Int32).toUInt32 &&& Int32.toUInt32 31)).toInt32) - ((x3.toUInt32 >>> ((9 : Int32).toUInt32 &&& Int32.toUInt32 31)).toInt32) / p1 * p1, h2)) else none
theorem yk_X1_draw : gVk yX1_draw cX1_draw 2 (some .int) 1 1 := ⟨q1150, q1151, q93, q1152, ⟨by decide +kernel, by decide +kernel, by decide +kernel⟩, rfl⟩
set_option maxHeartbeats 4000000 in
theorem m_X1_draw (l : Launch) (G : gG) (F : Nat) (h : gH) (n : Nat) (a0 : Nat) (p1 : Int32) {r : Int32} {h' : gH} (hf : sp_X1_draw G F h a0 p1 = some (r, h')) : gMet l G yX1_draw cX1_draw 2 (some .int) 0 0 0 0 [.ref a0, .int p1] h n (some (.int r)) h' n := by
  refine gEnter (by decide) [(0, .ref a0), (1, .int p1)] rfl (Nat.le_of_ble_eq_true rfl) ?_
  intro p e s m below meth c H ls X hin hR hS hl
  have hx := X.1.1
  have hb := X.1.2.1
  unfold sp_X1_draw at hf
  generalize ([] : List Loc) = locs at hS ⊢
  refine lv_aload_n hx hb dX1_draw_0 rfl (lv_at hl 0 rfl) ?_
  refine lv_aload_n hx hb dX1_draw_1 rfl (lv_at hl 0 rfl) ?_
  obtain ⟨x1, ex1, hf⟩ := gBind hf
  refine g_geti X hR gk_X1 8 (by decide) q638 rfl ex1 dX1_draw_2 ?_
  refine lv_ldc (v := (1103515245 : Int32)) hx hb X.1.2.2.2.1 (X.1.2.2.2.2 _ q1153) dX1_draw_5 ?_
  refine lv_imul hx hb dX1_draw_7 ?_
  refine lv_sipush (v := (12345 : Int32)) hx hb dX1_draw_8 (by decide) ?_
  refine lv_iadd hx hb dX1_draw_11 ?_
  obtain ⟨h2, eh2, hf⟩ := gBind hf
  refine g_put X hR hS gk_X1 8 (by decide) q638 rfl rfl eh2 rfl rfl rfl dX1_draw_12 (fun H locs hR hS => ?_)
  refine lv_aload_n hx hb dX1_draw_15 rfl (lv_at hl 0 rfl) ?_
  obtain ⟨x3, ex3, hf⟩ := gBind hf
  refine g_geti X hR gk_X1 8 (by decide) q638 rfl ex3 dX1_draw_16 ?_
  refine lv_bipush (v := (9 : Int32)) hx hb dX1_draw_19 (by decide) ?_
  refine lv_iushr (v := (x3.toUInt32 >>> ((9 : Int32).toUInt32 &&& Int32.toUInt32 31)).toInt32) hx hb dX1_draw_21 rfl ?_
  refine lv_iload_n hx hb dX1_draw_22 rfl (lv_at hl 1 rfl) ?_
  obtain ⟨k4, hf⟩ := gChk hf
  refine lv_irem hx hb dX1_draw_23 k4 ?_
  obtain ⟨rfl, rfl⟩ := gO2 hf
  exact g_iret X hR hS _ rfl ⟨Nat.le_of_ble_eq_true rfl, Nat.le_of_ble_eq_true rfl⟩ dX1_draw_24

def sp_X1_coming_L2 (G : gG) (F : Nat) : Nat → gH → Nat → Int32 → Option (gH)
  | 0, _, _, _ => none
  | f + 1, h2L, v2_0, v2_1 =>
    (gGi 1 h2L v2_0 13).bind fun x301 =>
    if x301 ≤ v2_1 then
    some (h2L) else
    (gGr 1 h2L v2_0 22).bind fun x303 =>
    (gAr 5 h2L x303 v2_1).bind fun a304 =>
    if gIs 2 h2L a304 = true then
    (sp_X2_rate G F h2L a304).bind fun u306 =>
    (if u306 ≤ 0 then
    some (h2L) else
    if gIs 1 h2L v2_0 = true then
    (sp_X1_draw G F h2L v2_0 (60 : Int32)).bind fun u309 =>
    if gIs 2 u309.2 a304 = true then
    (sp_X2_rate G F u309.2 a304).bind fun u311 =>
    if u311 ≤ u309.1 then
    some (u309.2) else
    (gGi 2 u309.2 a304 5).bind fun x313 =>
    if (99 : Int32) ≤ x313 then
    (gGi 1 u309.2 v2_0 7).bind fun x315 =>
    (gPv 1 u309.2 v2_0 7 (.int (x315 + (1 : Int32)))).bind fun h316 =>
    some (h316) else
    if gIs 2 u309.2 a304 = true then
    (sp_X2_comes G F u309.2 a304 (1 : Int32)).bind fun u318 =>
    some (u318) else none else none else none).bind fun j319 =>
    (gGi 2 j319 a304 5).bind fun x320 =>
    if x320 ≤ 0 then
    sp_X1_coming_L2 G F f j319 v2_0 (v2_1 + (1 : Int32)) else
    (gGi 1 j319 v2_0 1).bind fun x322 =>
    (gPv 2 j319 a304 9 (.int x322)).bind fun h323 =>
    sp_X1_coming_L2 G F f h323 v2_0 (v2_1 + (1 : Int32)) else none
def sp_X1_coming (G : gG) (F : Nat) (h : gH) (a0 : Nat) : Option (gH) :=
 (sp_X1_coming_L2 G F F h a0 (0 : Int32)).bind fun y3 =>
 some (y3)
theorem yk_X1_coming : gVk yX1_coming cX1_coming 3 none 0 1 := ⟨q1143, qs13, q93, q1144, ⟨by decide +kernel, by decide +kernel, by decide +kernel⟩, rfl⟩
set_option maxHeartbeats 4000000 in
theorem m_X1_coming (l : Launch) (G : gG) (F : Nat) (h : gH) (n : Nat) (a0 : Nat) {h' : gH} (hf : sp_X1_coming G F h a0 = some h') : gMet l G yX1_coming cX1_coming 3 none 1 21 0 0 [.ref a0] h n none h' n := by
  refine gEnter (by decide) [(0, .ref a0)] rfl (Nat.le_of_ble_eq_true rfl) ?_
  intro p e s m below meth c H ls X hin hR hS hl
  have hx := X.1.1
  have hb := X.1.2.1
  unfold sp_X1_coming at hf
  generalize ([] : List Loc) = locs at hS ⊢
  refine lv_iconst (v := (0 : Int32)) hx hb dX1_coming_0 (by decide) ?_
  refine lv_istore_n (lv' := [(1, .int (0 : Int32)), (0, .ref a0)]) hx hb dX1_coming_1 rfl hl (by decide) rfl (fun ls hl => ?_)
  have L2_q1 : ∀ (f : Nat) (h2L : gH) (v2_0 : Nat) (v2_1 : Int32) (o2 : gH) (H : Heap) (locs : List Loc) (ls : Array Slot), sp_X1_coming_L2 G F f h2L v2_0 v2_1 = some o2 → gRep G h2L n H → va_S (gFr G) s.heap H locs → lv_has ls 3 [(0, .ref v2_0), (1, .int v2_1)] → (∀ (H : Heap) (locs : List Loc) (ls : Array Slot), gRep G o2 n H → va_S (gFr G) s.heap H locs → lv_has ls 3 [] → W p l e ({ frames := 1, cells := 0, slots := 0, locals := 21 } : Room) s m ([.ref a0] : List Value).toArray below meth c H locs 0 0 (MQ below (gQ G none h' n) ([.ref a0] : List Value).toArray s 0 0 (gFr G)) (F0 m 85 ls [])) → W p l e ({ frames := 1, cells := 0, slots := 0, locals := 21 } : Room) s m ([.ref a0] : List Value).toArray below meth c H locs 0 0 (MQ below (gQ G none h' n) ([.ref a0] : List Value).toArray s 0 0 (gFr G)) (F0 m 2 ls []) := by
    clear hf
    intro f
    induction f with
    | zero =>
      intro h2L v2_0 v2_1 o2 H locs ls hf
      cases hf
    | succ f ih =>
      intro h2L v2_0 v2_1 o2 H locs ls hf hR hS hl K2
      rw [sp_X1_coming_L2] at hf
      refine lv_iload_n hx hb dX1_coming_2 rfl (lv_at hl 1 rfl) ?_
      refine lv_aload_n hx hb dX1_coming_3 rfl (lv_at hl 0 rfl) ?_
      obtain ⟨x301, ex301, hf⟩ := gBind hf
      refine g_geti X hR gk_X1 13 (by decide) q648 rfl ex301 dX1_coming_4 ?_
      refine lv_icmp_ge (tgt := 85) hx hb dX1_coming_7 (by decide) (fun c302 => ?_) (fun c302 => ?_)
      · replace hf := gIfp c302 hf
        obtain rfl := gO1 hf
        exact K2 _ _ _ hR hS (lv_sub hl [] rfl)
      · replace hf := gIfn c302 hf
        refine lv_aload_n hx hb dX1_coming_10 rfl (lv_at hl 0 rfl) ?_
        obtain ⟨x303, ex303, hf⟩ := gBind hf
        refine g_getr X hR gk_X1 22 (by decide) q665 rfl ex303 dX1_coming_11 ?_
        refine lv_iload_n hx hb dX1_coming_14 rfl (lv_at hl 1 rfl) ?_
        obtain ⟨a304, ea304, hf⟩ := gBind hf
        refine g_aald X hR 5 (by decide) rfl ea304 dX1_coming_15 ?_
        refine lv_astore_n (lv' := [(2, .ref a304), (0, .ref v2_0), (1, .int v2_1)]) hx hb dX1_coming_16 rfl hl (by decide) rfl (fun ls hl => ?_)
        refine lv_aload_n hx hb dX1_coming_17 rfl (lv_at hl 0 rfl) ?_
        obtain ⟨k305, hf⟩ := gChk hf
        obtain ⟨u306, eu306, hf⟩ := gBind hf
        refine g_callVi X hR hS [] (m_X2_rate l G F h2L n a304 eu306) yk_X2_rate q1145 k305 rfl hl.1 ⟨Nat.le_of_ble_eq_true rfl, Nat.le_of_ble_eq_true rfl⟩ ⟨Nat.le_of_ble_eq_true rfl, Nat.le_of_ble_eq_true rfl⟩ rfl (Nat.le_of_ble_eq_true rfl) dX1_coming_18 (fun H locs hR hS => ?_)
        obtain ⟨j319, ej319, hf⟩ := gBind hf
        have J64_j319 : ∀ (H : Heap) (locs : List Loc) (ls : Array Slot), gRep G j319 n H → va_S (gFr G) s.heap H locs → lv_has ls 3 [(0, .ref v2_0), (1, .int v2_1), (2, .ref a304)] → W p l e ({ frames := 1, cells := 0, slots := 0, locals := 21 } : Room) s m ([.ref a0] : List Value).toArray below meth c H locs 0 0 (MQ below (gQ G none h' n) ([.ref a0] : List Value).toArray s 0 0 (gFr G)) (F0 m 64 ls []) := by
          intro H locs ls hR hS hl
          refine lv_aload_n hx hb dX1_coming_64 rfl (lv_at hl 2 rfl) ?_
          obtain ⟨x320, ex320, hf⟩ := gBind hf
          refine g_getiN X hR gk_X2 5 (by decide) q527 rfl ex320 dX1_coming_65 ?_
          refine lv_if_le (tgt := 79) hx hb dX1_coming_68 (by decide) (fun c321 => ?_) (fun c321 => ?_)
          · replace hf := gIfp c321 hf
            refine lv_iinc (v := v2_1 + (1 : Int32)) (lv' := [(1, .int (v2_1 + (1 : Int32))), (0, .ref v2_0), (2, .ref a304)]) hx hb dX1_coming_79 hl (k := 1) rfl rfl (by decide) rfl (fun ls hl => ?_)
            refine lv_goto (tgt := 2) hx hb dX1_coming_82 (by decide) ?_
            exact ih j319 v2_0 (v2_1 + (1 : Int32)) _ _ _ _ hf hR hS (lv_sub hl [1, 0] rfl) K2
          · replace hf := gIfn c321 hf
            refine lv_aload_n hx hb dX1_coming_71 rfl (lv_at hl 2 rfl) ?_
            refine lv_aload_n hx hb dX1_coming_72 rfl (lv_at hl 0 rfl) ?_
            obtain ⟨x322, ex322, hf⟩ := gBind hf
            refine g_geti X hR gk_X1 1 (by decide) q624 rfl ex322 dX1_coming_73 ?_
            obtain ⟨h323, eh323, hf⟩ := gBind hf
            refine g_putN X hR hS gk_X2 9 (by decide) q539 rfl rfl eh323 rfl rfl rfl dX1_coming_76 (fun H locs hR hS => ?_)
            refine lv_iinc (v := v2_1 + (1 : Int32)) (lv' := [(1, .int (v2_1 + (1 : Int32))), (0, .ref v2_0), (2, .ref a304)]) hx hb dX1_coming_79 hl (k := 1) rfl rfl (by decide) rfl (fun ls hl => ?_)
            refine lv_goto (tgt := 2) hx hb dX1_coming_82 (by decide) ?_
            exact ih h323 v2_0 (v2_1 + (1 : Int32)) _ _ _ _ hf hR hS (lv_sub hl [1, 0] rfl) K2
        replace hf := ej319
        clear ej319
        refine lv_if_le (tgt := 64) hx hb dX1_coming_21 (by decide) (fun c307 => ?_) (fun c307 => ?_)
        · replace hf := gIfp c307 hf
          obtain rfl := gO1 hf
          exact J64_j319 _ _ _ hR hS (lv_sub hl [1, 2, 0] rfl)
        · replace hf := gIfn c307 hf
          refine lv_aload_n hx hb dX1_coming_24 rfl (lv_at hl 1 rfl) ?_
          refine lv_bipush (v := (60 : Int32)) hx hb dX1_coming_25 (by decide) ?_
          obtain ⟨k308, hf⟩ := gChk hf
          obtain ⟨u309, eu309, hf⟩ := gBind hf
          refine g_callVi X hR hS [.int (60 : Int32)] (m_X1_draw l G F h2L n v2_0 (60 : Int32) eu309) yk_X1_draw q1149 k308 rfl hl.1 ⟨Nat.le_of_ble_eq_true rfl, Nat.le_of_ble_eq_true rfl⟩ ⟨Nat.le_of_ble_eq_true rfl, Nat.le_of_ble_eq_true rfl⟩ rfl (Nat.le_of_ble_eq_true rfl) dX1_coming_27 (fun H locs hR hS => ?_)
          refine lv_aload_n hx hb dX1_coming_30 rfl (lv_at hl 0 rfl) ?_
          obtain ⟨k310, hf⟩ := gChk hf
          obtain ⟨u311, eu311, hf⟩ := gBind hf
          refine g_callVi X hR hS [] (m_X2_rate l G F u309.2 n a304 eu311) yk_X2_rate q1145 k310 rfl hl.1 ⟨Nat.le_of_ble_eq_true rfl, Nat.le_of_ble_eq_true rfl⟩ ⟨Nat.le_of_ble_eq_true rfl, Nat.le_of_ble_eq_true rfl⟩ rfl (Nat.le_of_ble_eq_true rfl) dX1_coming_31 (fun H locs hR hS => ?_)
          refine lv_icmp_ge (tgt := 64) hx hb dX1_coming_34 (by decide) (fun c312 => ?_) (fun c312 => ?_)
          · replace hf := gIfp c312 hf
            obtain rfl := gO1 hf
            exact J64_j319 _ _ _ hR hS (lv_sub hl [1, 2, 0] rfl)
          · replace hf := gIfn c312 hf
            refine lv_aload_n hx hb dX1_coming_37 rfl (lv_at hl 0 rfl) ?_
            obtain ⟨x313, ex313, hf⟩ := gBind hf
            refine g_getiN X hR gk_X2 5 (by decide) q527 rfl ex313 dX1_coming_38 ?_
            refine lv_bipush (v := (99 : Int32)) hx hb dX1_coming_41 (by decide) ?_
            refine lv_icmp_ge (tgt := 54) hx hb dX1_coming_43 (by decide) (fun c314 => ?_) (fun c314 => ?_)
            · replace hf := gIfp c314 hf
              refine lv_aload_n hx hb dX1_coming_54 rfl (lv_at hl 1 rfl) ?_
              refine lv_dup hx hb dX1_coming_55 rfl ?_
              obtain ⟨x315, ex315, hf⟩ := gBind hf
              refine g_geti X hR gk_X1 7 (by decide) q636 rfl ex315 dX1_coming_56 ?_
              refine lv_iconst (v := (1 : Int32)) hx hb dX1_coming_59 (by decide) ?_
              refine lv_iadd hx hb dX1_coming_60 ?_
              obtain ⟨h316, eh316, hf⟩ := gBind hf
              refine g_put X hR hS gk_X1 7 (by decide) q636 rfl rfl eh316 rfl rfl rfl dX1_coming_61 (fun H locs hR hS => ?_)
              obtain rfl := gO1 hf
              exact J64_j319 _ _ _ hR hS (lv_sub hl [1, 2, 0] rfl)
            · replace hf := gIfn c314 hf
              refine lv_aload_n hx hb dX1_coming_46 rfl (lv_at hl 0 rfl) ?_
              refine lv_iconst (v := (1 : Int32)) hx hb dX1_coming_47 (by decide) ?_
              obtain ⟨k317, hf⟩ := gChk hf
              obtain ⟨u318, eu318, hf⟩ := gBind hf
              refine g_callVv X hR hS [.int (1 : Int32)] (m_X2_comes l G F u309.2 n a304 (1 : Int32) eu318) yk_X2_comes q1154 k317 rfl hl.1 ⟨Nat.le_of_ble_eq_true rfl, Nat.le_of_ble_eq_true rfl⟩ ⟨Nat.le_of_ble_eq_true rfl, Nat.le_of_ble_eq_true rfl⟩ rfl (Nat.le_of_ble_eq_true rfl) dX1_coming_48 (fun H locs hR hS => ?_)
              refine lv_goto (tgt := 64) hx hb dX1_coming_51 (by decide) ?_
              obtain rfl := gO1 hf
              exact J64_j319 _ _ _ hR hS (lv_sub hl [1, 2, 0] rfl)
  obtain ⟨y3, ey3, hf⟩ := gBind hf
  refine L2_q1 F h a0 (0 : Int32) y3 _ _ _ ey3 hR hS (lv_sub hl [1, 0] rfl) (fun H locs ls hR hS hl => ?_)
  obtain rfl := gO1 hf
  exact g_vret X hR hS rfl ⟨Nat.le_of_ble_eq_true rfl, Nat.le_of_ble_eq_true rfl⟩ dX1_coming_85

def sp_X1_keepsGreen (G : gG) (F : Nat) (h : gH) (a0 : Nat) (p1 : Int32) : Option (gH) :=
 (gGi 1 h a0 15).bind fun x1 =>
 (if (24 : Int32) ≤ x1 then
 (gGr 1 h a0 24).bind fun x3 =>
 (gGi 1 h a0 16).bind fun x4 =>
 (gAr 7 h x3 x4).bind fun a5 =>
 (gGi 1 h a0 16).bind fun x6 =>
 (gPv 1 h a0 16 (.int ((x6 + (1 : Int32)) - (x6 + (1 : Int32)) / (24 : Int32) * (24 : Int32)))).bind fun h7 =>
 some (a5, h7) else
 (gGr 1 h a0 24).bind fun x8 =>
 (gGi 1 h a0 16).bind fun x9 =>
 (gGi 1 h a0 15).bind fun x10 =>
 (gAr 7 h x8 ((x9 + x10) - (x9 + x10) / (24 : Int32) * (24 : Int32))).bind fun a11 =>
 (gGi 1 h a0 15).bind fun x12 =>
 (gPv 1 h a0 15 (.int (x12 + (1 : Int32)))).bind fun h13 =>
 some (a11, h13)).bind fun j14 =>
 (gGr 1 j14.2 a0 22).bind fun x15 =>
 (gAr 5 j14.2 x15 p1).bind fun a16 =>
 (gGi 2 j14.2 a16 7).bind fun x17 =>
 (gGr 1 j14.2 a0 22).bind fun x18 =>
 (gAr 5 j14.2 x18 p1).bind fun a19 =>
 (gGi 2 j14.2 a19 8).bind fun x20 =>
 if gIs 4 j14.2 j14.1 = true then
 (sp_X5_is G F j14.2 j14.1 p1 x17 x20).bind fun u22 =>
 some (u22) else none
theorem yk_X1_keepsGreen : gVk yX1_keepsGreen cX1_keepsGreen 3 none 1 1 := ⟨q1174, qs17, q93, q1175, ⟨by decide +kernel, by decide +kernel, by decide +kernel⟩, rfl⟩
set_option maxHeartbeats 4000000 in
theorem m_X1_keepsGreen (l : Launch) (G : gG) (F : Nat) (h : gH) (n : Nat) (a0 : Nat) (p1 : Int32) {h' : gH} (hf : sp_X1_keepsGreen G F h a0 p1 = some h') : gMet l G yX1_keepsGreen cX1_keepsGreen 3 none 1 23 0 0 [.ref a0, .int p1] h n none h' n := by
  refine gEnter (by decide) [(0, .ref a0), (1, .int p1)] rfl (Nat.le_of_ble_eq_true rfl) ?_
  intro p e s m below meth c H ls X hin hR hS hl
  have hx := X.1.1
  have hb := X.1.2.1
  unfold sp_X1_keepsGreen at hf
  generalize ([] : List Loc) = locs at hS ⊢
  refine lv_aload_n hx hb dX1_keepsGreen_0 rfl (lv_at hl 0 rfl) ?_
  obtain ⟨x1, ex1, hf⟩ := gBind hf
  refine g_geti X hR gk_X1 15 (by decide) q652 rfl ex1 dX1_keepsGreen_1 ?_
  refine lv_bipush (v := (24 : Int32)) hx hb dX1_keepsGreen_4 (by decide) ?_
  obtain ⟨j14, ej14, hf⟩ := gBind hf
  have J63_j14 : ∀ (H : Heap) (locs : List Loc) (ls : Array Slot), gRep G j14.2 n H → va_S (gFr G) s.heap H locs → lv_has ls 3 [(0, .ref a0), (1, .int p1), (2, .ref j14.1)] → W p l e ({ frames := 1, cells := 0, slots := 0, locals := 23 } : Room) s m ([.ref a0, .int p1] : List Value).toArray below meth c H locs 0 0 (MQ below (gQ G none h' n) ([.ref a0, .int p1] : List Value).toArray s 0 0 (gFr G)) (F0 m 63 ls []) := by
    intro H locs ls hR hS hl
    refine lv_aload_n hx hb dX1_keepsGreen_63 rfl (lv_at hl 2 rfl) ?_
    refine lv_iload_n hx hb dX1_keepsGreen_64 rfl (lv_at hl 1 rfl) ?_
    refine lv_aload_n hx hb dX1_keepsGreen_65 rfl (lv_at hl 0 rfl) ?_
    obtain ⟨x15, ex15, hf⟩ := gBind hf
    refine g_getr X hR gk_X1 22 (by decide) q665 rfl ex15 dX1_keepsGreen_66 ?_
    refine lv_iload_n hx hb dX1_keepsGreen_69 rfl (lv_at hl 1 rfl) ?_
    obtain ⟨a16, ea16, hf⟩ := gBind hf
    refine g_aald X hR 5 (by decide) rfl ea16 dX1_keepsGreen_70 ?_
    obtain ⟨x17, ex17, hf⟩ := gBind hf
    refine g_getiN X hR gk_X2 7 (by decide) q533 rfl ex17 dX1_keepsGreen_71 ?_
    refine lv_aload_n hx hb dX1_keepsGreen_74 rfl (lv_at hl 0 rfl) ?_
    obtain ⟨x18, ex18, hf⟩ := gBind hf
    refine g_getr X hR gk_X1 22 (by decide) q665 rfl ex18 dX1_keepsGreen_75 ?_
    refine lv_iload_n hx hb dX1_keepsGreen_78 rfl (lv_at hl 1 rfl) ?_
    obtain ⟨a19, ea19, hf⟩ := gBind hf
    refine g_aald X hR 5 (by decide) rfl ea19 dX1_keepsGreen_79 ?_
    obtain ⟨x20, ex20, hf⟩ := gBind hf
    refine g_getiN X hR gk_X2 8 (by decide) q536 rfl ex20 dX1_keepsGreen_80 ?_
    obtain ⟨k21, hf⟩ := gChk hf
    obtain ⟨u22, eu22, hf⟩ := gBind hf
    refine g_callVv X hR hS [.int p1, .int x17, .int x20] (m_X5_is l G F j14.2 n j14.1 p1 x17 x20 eu22) yk_X5_is q1176 k21 rfl hl.1 ⟨Nat.le_of_ble_eq_true rfl, Nat.le_of_ble_eq_true rfl⟩ ⟨Nat.le_of_ble_eq_true rfl, Nat.le_of_ble_eq_true rfl⟩ rfl (Nat.le_of_ble_eq_true rfl) dX1_keepsGreen_83 (fun H locs hR hS => ?_)
    obtain rfl := gO1 hf
    exact g_vret X hR hS rfl ⟨Nat.le_of_ble_eq_true rfl, Nat.le_of_ble_eq_true rfl⟩ dX1_keepsGreen_86
  replace hf := ej14
  clear ej14
  refine lv_icmp_ge (tgt := 40) hx hb dX1_keepsGreen_6 (by decide) (fun c2 => ?_) (fun c2 => ?_)
  · replace hf := gIfp c2 hf
    refine lv_aload_n hx hb dX1_keepsGreen_40 rfl (lv_at hl 0 rfl) ?_
    obtain ⟨x3, ex3, hf⟩ := gBind hf
    refine g_getr X hR gk_X1 24 (by decide) q669 rfl ex3 dX1_keepsGreen_41 ?_
    refine lv_aload_n hx hb dX1_keepsGreen_44 rfl (lv_at hl 0 rfl) ?_
    obtain ⟨x4, ex4, hf⟩ := gBind hf
    refine g_geti X hR gk_X1 16 (by decide) q654 rfl ex4 dX1_keepsGreen_45 ?_
    obtain ⟨a5, ea5, hf⟩ := gBind hf
    refine g_aald X hR 7 (by decide) rfl ea5 dX1_keepsGreen_48 ?_
    refine lv_astore_n (lv' := [(2, .ref a5), (0, .ref a0), (1, .int p1)]) hx hb dX1_keepsGreen_49 rfl hl (by decide) rfl (fun ls hl => ?_)
    refine lv_aload_n hx hb dX1_keepsGreen_50 rfl (lv_at hl 1 rfl) ?_
    refine lv_aload_n hx hb dX1_keepsGreen_51 rfl (lv_at hl 1 rfl) ?_
    obtain ⟨x6, ex6, hf⟩ := gBind hf
    refine g_geti X hR gk_X1 16 (by decide) q654 rfl ex6 dX1_keepsGreen_52 ?_
    refine lv_iconst (v := (1 : Int32)) hx hb dX1_keepsGreen_55 (by decide) ?_
    refine lv_iadd hx hb dX1_keepsGreen_56 ?_
    refine lv_bipush (v := (24 : Int32)) hx hb dX1_keepsGreen_57 (by decide) ?_
    refine lv_irem hx hb dX1_keepsGreen_59 (by decide) ?_
    obtain ⟨h7, eh7, hf⟩ := gBind hf
    refine g_put X hR hS gk_X1 16 (by decide) q654 rfl rfl eh7 rfl rfl rfl dX1_keepsGreen_60 (fun H locs hR hS => ?_)
    obtain rfl := gO1 hf
    exact J63_j14 _ _ _ hR hS (lv_sub hl [1, 2, 0] rfl)
  · replace hf := gIfn c2 hf
    refine lv_aload_n hx hb dX1_keepsGreen_9 rfl (lv_at hl 0 rfl) ?_
    obtain ⟨x8, ex8, hf⟩ := gBind hf
    refine g_getr X hR gk_X1 24 (by decide) q669 rfl ex8 dX1_keepsGreen_10 ?_
    refine lv_aload_n hx hb dX1_keepsGreen_13 rfl (lv_at hl 0 rfl) ?_
    obtain ⟨x9, ex9, hf⟩ := gBind hf
    refine g_geti X hR gk_X1 16 (by decide) q654 rfl ex9 dX1_keepsGreen_14 ?_
    refine lv_aload_n hx hb dX1_keepsGreen_17 rfl (lv_at hl 0 rfl) ?_
    obtain ⟨x10, ex10, hf⟩ := gBind hf
    refine g_geti X hR gk_X1 15 (by decide) q652 rfl ex10 dX1_keepsGreen_18 ?_
    refine lv_iadd hx hb dX1_keepsGreen_21 ?_
    refine lv_bipush (v := (24 : Int32)) hx hb dX1_keepsGreen_22 (by decide) ?_
    refine lv_irem hx hb dX1_keepsGreen_24 (by decide) ?_
    obtain ⟨a11, ea11, hf⟩ := gBind hf
    refine g_aald X hR 7 (by decide) rfl ea11 dX1_keepsGreen_25 ?_
    refine lv_astore_n (lv' := [(2, .ref a11), (0, .ref a0), (1, .int p1)]) hx hb dX1_keepsGreen_26 rfl hl (by decide) rfl (fun ls hl => ?_)
    refine lv_aload_n hx hb dX1_keepsGreen_27 rfl (lv_at hl 1 rfl) ?_
    refine lv_dup hx hb dX1_keepsGreen_28 rfl ?_
    obtain ⟨x12, ex12, hf⟩ := gBind hf
    refine g_geti X hR gk_X1 15 (by decide) q652 rfl ex12 dX1_keepsGreen_29 ?_
    refine lv_iconst (v := (1 : Int32)) hx hb dX1_keepsGreen_32 (by decide) ?_
    refine lv_iadd hx hb dX1_keepsGreen_33 ?_
    obtain ⟨h13, eh13, hf⟩ := gBind hf
    refine g_put X hR hS gk_X1 15 (by decide) q652 rfl rfl eh13 rfl rfl rfl dX1_keepsGreen_34 (fun H locs hR hS => ?_)
    refine lv_goto (tgt := 63) hx hb dX1_keepsGreen_37 (by decide) ?_
    obtain rfl := gO1 hf
    exact J63_j14 _ _ _ hR hS (lv_sub hl [1, 2, 0] rfl)

def sp_X1_changesTo_L2 (G : gG) (F : Nat) : Nat → gH → Nat → Int32 → Int32 → Option (gH)
  | 0, _, _, _, _ => none
  | f + 1, h2L, v2_0, v2_1, v2_2 =>
    (gGi 1 h2L v2_0 13).bind fun x301 =>
    if x301 ≤ v2_2 then
    some (h2L) else
    (gGr 1 h2L v2_0 22).bind fun x303 =>
    (gAr 5 h2L x303 v2_2).bind fun a304 =>
    (gGi 2 h2L a304 6).bind fun x305 =>
    if x305 = 0 then
    sp_X1_changesTo_L2 G F f h2L v2_0 v2_1 (v2_2 + (1 : Int32)) else
    (gGr 1 h2L v2_0 23).bind fun x307 =>
    (gAr 6 h2L x307 v2_1).bind fun a308 =>
    if gIs 3 h2L a308 = true then
    (sp_X4_has G F h2L a308 v2_2).bind fun u310 =>
    if u310 = 0 then
    (gPv 2 h2L a304 6 (.int (0 : Int32))).bind fun h312 =>
    (gGi 1 h312 v2_0 1).bind fun x313 =>
    (gPv 2 h312 a304 8 (.int x313)).bind fun h314 =>
    if gIs 1 h314 v2_0 = true then
    (sp_X1_keepsGreen G F h314 v2_0 v2_2).bind fun u316 =>
    sp_X1_changesTo_L2 G F f u316 v2_0 v2_1 (v2_2 + (1 : Int32)) else none else
    sp_X1_changesTo_L2 G F f h2L v2_0 v2_1 (v2_2 + (1 : Int32)) else none
def sp_X1_changesTo (G : gG) (F : Nat) (h : gH) (a0 : Nat) (p1 : Int32) : Option (gH) :=
 (sp_X1_changesTo_L2 G F F h a0 p1 (0 : Int32)).bind fun y3 =>
 (gPv 1 y3 a0 2 (.int p1)).bind fun h4 =>
 (gGr 1 h4 a0 23).bind fun x5 =>
 (gAr 6 h4 x5 p1).bind fun a6 =>
 (gGi 3 h4 a6 2).bind fun x7 =>
 (gPv 3 h4 a6 2 (.int (x7 + (1 : Int32)))).bind fun h8 =>
 some (h8)
theorem yk_X1_changesTo : gVk yX1_changesTo cX1_changesTo 4 none 1 1 := ⟨q1170, qs16, q93, q1171, ⟨by decide +kernel, by decide +kernel, by decide +kernel⟩, rfl⟩
set_option maxHeartbeats 4000000 in
theorem m_X1_changesTo (l : Launch) (G : gG) (F : Nat) (h : gH) (n : Nat) (a0 : Nat) (p1 : Int32) {h' : gH} (hf : sp_X1_changesTo G F h a0 p1 = some h') : gMet l G yX1_changesTo cX1_changesTo 4 none 2 45 0 0 [.ref a0, .int p1] h n none h' n := by
  refine gEnter (by decide) [(0, .ref a0), (1, .int p1)] rfl (Nat.le_of_ble_eq_true rfl) ?_
  intro p e s m below meth c H ls X hin hR hS hl
  have hx := X.1.1
  have hb := X.1.2.1
  unfold sp_X1_changesTo at hf
  generalize ([] : List Loc) = locs at hS ⊢
  refine lv_iconst (v := (0 : Int32)) hx hb dX1_changesTo_0 (by decide) ?_
  refine lv_istore_n (lv' := [(2, .int (0 : Int32)), (0, .ref a0), (1, .int p1)]) hx hb dX1_changesTo_1 rfl hl (by decide) rfl (fun ls hl => ?_)
  have L2_q1 : ∀ (f : Nat) (h2L : gH) (v2_0 : Nat) (v2_1 : Int32) (v2_2 : Int32) (o2 : gH) (H : Heap) (locs : List Loc) (ls : Array Slot), sp_X1_changesTo_L2 G F f h2L v2_0 v2_1 v2_2 = some o2 → gRep G h2L n H → va_S (gFr G) s.heap H locs → lv_has ls 4 [(0, .ref v2_0), (1, .int v2_1), (2, .int v2_2)] → (∀ (H : Heap) (locs : List Loc) (ls : Array Slot), gRep G o2 n H → va_S (gFr G) s.heap H locs → lv_has ls 4 [(0, .ref v2_0), (1, .int v2_1)] → W p l e ({ frames := 2, cells := 0, slots := 0, locals := 45 } : Room) s m ([.ref a0, .int p1] : List Value).toArray below meth c H locs 0 0 (MQ below (gQ G none h' n) ([.ref a0, .int p1] : List Value).toArray s 0 0 (gFr G)) (F0 m 61 ls [])) → W p l e ({ frames := 2, cells := 0, slots := 0, locals := 45 } : Room) s m ([.ref a0, .int p1] : List Value).toArray below meth c H locs 0 0 (MQ below (gQ G none h' n) ([.ref a0, .int p1] : List Value).toArray s 0 0 (gFr G)) (F0 m 2 ls []) := by
    clear hf
    intro f
    induction f with
    | zero =>
      intro h2L v2_0 v2_1 v2_2 o2 H locs ls hf
      cases hf
    | succ f ih =>
      intro h2L v2_0 v2_1 v2_2 o2 H locs ls hf hR hS hl K2
      rw [sp_X1_changesTo_L2] at hf
      refine lv_iload_n hx hb dX1_changesTo_2 rfl (lv_at hl 2 rfl) ?_
      refine lv_aload_n hx hb dX1_changesTo_3 rfl (lv_at hl 0 rfl) ?_
      obtain ⟨x301, ex301, hf⟩ := gBind hf
      refine g_geti X hR gk_X1 13 (by decide) q648 rfl ex301 dX1_changesTo_4 ?_
      refine lv_icmp_ge (tgt := 61) hx hb dX1_changesTo_7 (by decide) (fun c302 => ?_) (fun c302 => ?_)
      · replace hf := gIfp c302 hf
        obtain rfl := gO1 hf
        exact K2 _ _ _ hR hS (lv_sub hl [0, 1] rfl)
      · replace hf := gIfn c302 hf
        refine lv_aload_n hx hb dX1_changesTo_10 rfl (lv_at hl 0 rfl) ?_
        obtain ⟨x303, ex303, hf⟩ := gBind hf
        refine g_getr X hR gk_X1 22 (by decide) q665 rfl ex303 dX1_changesTo_11 ?_
        refine lv_iload_n hx hb dX1_changesTo_14 rfl (lv_at hl 2 rfl) ?_
        obtain ⟨a304, ea304, hf⟩ := gBind hf
        refine g_aald X hR 5 (by decide) rfl ea304 dX1_changesTo_15 ?_
        refine lv_astore_n (lv' := [(3, .ref a304), (0, .ref v2_0), (1, .int v2_1), (2, .int v2_2)]) hx hb dX1_changesTo_16 rfl hl (by decide) rfl (fun ls hl => ?_)
        refine lv_aload_n hx hb dX1_changesTo_17 rfl (lv_at hl 0 rfl) ?_
        obtain ⟨x305, ex305, hf⟩ := gBind hf
        refine g_getiN X hR gk_X2 6 (by decide) q530 rfl ex305 dX1_changesTo_18 ?_
        refine lv_if_eq (tgt := 55) hx hb dX1_changesTo_21 (by decide) (fun c306 => ?_) (fun c306 => ?_)
        · replace hf := gIfp c306 hf
          refine lv_iinc (v := v2_2 + (1 : Int32)) (lv' := [(2, .int (v2_2 + (1 : Int32))), (3, .ref a304), (0, .ref v2_0), (1, .int v2_1)]) hx hb dX1_changesTo_55 hl (k := 3) rfl rfl (by decide) rfl (fun ls hl => ?_)
          refine lv_goto (tgt := 2) hx hb dX1_changesTo_58 (by decide) ?_
          exact ih h2L v2_0 v2_1 (v2_2 + (1 : Int32)) _ _ _ _ hf hR hS (lv_sub hl [2, 3, 0] rfl) K2
        · replace hf := gIfn c306 hf
          refine lv_aload_n hx hb dX1_changesTo_24 rfl (lv_at hl 1 rfl) ?_
          obtain ⟨x307, ex307, hf⟩ := gBind hf
          refine g_getr X hR gk_X1 23 (by decide) q667 rfl ex307 dX1_changesTo_25 ?_
          refine lv_iload_n hx hb dX1_changesTo_28 rfl (lv_at hl 2 rfl) ?_
          obtain ⟨a308, ea308, hf⟩ := gBind hf
          refine g_aald X hR 6 (by decide) rfl ea308 dX1_changesTo_29 ?_
          refine lv_iload_n hx hb dX1_changesTo_30 rfl (lv_at hl 3 rfl) ?_
          obtain ⟨k309, hf⟩ := gChk hf
          obtain ⟨u310, eu310, hf⟩ := gBind hf
          refine g_callVi X hR hS [.int v2_2] (m_X4_has l G F h2L n a308 v2_2 eu310) yk_X4_has q1116 k309 rfl hl.1 ⟨Nat.le_of_ble_eq_true rfl, Nat.le_of_ble_eq_true rfl⟩ ⟨Nat.le_of_ble_eq_true rfl, Nat.le_of_ble_eq_true rfl⟩ rfl (Nat.le_of_ble_eq_true rfl) dX1_changesTo_31 (fun H locs hR hS => ?_)
          refine lv_if_ne (tgt := 55) hx hb dX1_changesTo_34 (by decide) (fun c311 => ?_) (fun c311 => ?_)
          · replace hf := gIfn c311 hf
            refine lv_iinc (v := v2_2 + (1 : Int32)) (lv' := [(2, .int (v2_2 + (1 : Int32))), (3, .ref a304), (0, .ref v2_0), (1, .int v2_1)]) hx hb dX1_changesTo_55 hl (k := 3) rfl rfl (by decide) rfl (fun ls hl => ?_)
            refine lv_goto (tgt := 2) hx hb dX1_changesTo_58 (by decide) ?_
            exact ih h2L v2_0 v2_1 (v2_2 + (1 : Int32)) _ _ _ _ hf hR hS (lv_sub hl [2, 3, 0] rfl) K2
          · replace hf := gIfp c311 hf
            refine lv_aload_n hx hb dX1_changesTo_37 rfl (lv_at hl 0 rfl) ?_
            refine lv_iconst (v := (0 : Int32)) hx hb dX1_changesTo_38 (by decide) ?_
            obtain ⟨h312, eh312, hf⟩ := gBind hf
            refine g_putN X hR hS gk_X2 6 (by decide) q530 rfl rfl eh312 rfl rfl rfl dX1_changesTo_39 (fun H locs hR hS => ?_)
            refine lv_aload_n hx hb dX1_changesTo_42 rfl (lv_at hl 0 rfl) ?_
            refine lv_aload_n hx hb dX1_changesTo_43 rfl (lv_at hl 1 rfl) ?_
            obtain ⟨x313, ex313, hf⟩ := gBind hf
            refine g_geti X hR gk_X1 1 (by decide) q624 rfl ex313 dX1_changesTo_44 ?_
            obtain ⟨h314, eh314, hf⟩ := gBind hf
            refine g_putN X hR hS gk_X2 8 (by decide) q536 rfl rfl eh314 rfl rfl rfl dX1_changesTo_47 (fun H locs hR hS => ?_)
            refine lv_aload_n hx hb dX1_changesTo_50 rfl (lv_at hl 1 rfl) ?_
            refine lv_iload_n hx hb dX1_changesTo_51 rfl (lv_at hl 3 rfl) ?_
            obtain ⟨k315, hf⟩ := gChk hf
            obtain ⟨u316, eu316, hf⟩ := gBind hf
            refine g_callVv X hR hS [.int v2_2] (m_X1_keepsGreen l G F h314 n v2_0 v2_2 eu316) yk_X1_keepsGreen q1172 k315 rfl hl.1 ⟨Nat.le_of_ble_eq_true rfl, Nat.le_of_ble_eq_true rfl⟩ ⟨Nat.le_of_ble_eq_true rfl, Nat.le_of_ble_eq_true rfl⟩ rfl (Nat.le_of_ble_eq_true rfl) dX1_changesTo_52 (fun H locs hR hS => ?_)
            refine lv_iinc (v := v2_2 + (1 : Int32)) (lv' := [(2, .int (v2_2 + (1 : Int32))), (3, .ref a304), (0, .ref v2_0), (1, .int v2_1)]) hx hb dX1_changesTo_55 hl (k := 3) rfl rfl (by decide) rfl (fun ls hl => ?_)
            refine lv_goto (tgt := 2) hx hb dX1_changesTo_58 (by decide) ?_
            exact ih u316 v2_0 v2_1 (v2_2 + (1 : Int32)) _ _ _ _ hf hR hS (lv_sub hl [2, 3, 0] rfl) K2
  obtain ⟨y3, ey3, hf⟩ := gBind hf
  refine L2_q1 F h a0 p1 (0 : Int32) y3 _ _ _ ey3 hR hS (lv_sub hl [1, 2, 0] rfl) (fun H locs ls hR hS hl => ?_)
  refine lv_aload_n hx hb dX1_changesTo_61 rfl (lv_at hl 0 rfl) ?_
  refine lv_iload_n hx hb dX1_changesTo_62 rfl (lv_at hl 1 rfl) ?_
  obtain ⟨h4, eh4, hf⟩ := gBind hf
  refine g_put X hR hS gk_X1 2 (by decide) q626 rfl rfl eh4 rfl rfl rfl dX1_changesTo_63 (fun H locs hR hS => ?_)
  refine lv_aload_n hx hb dX1_changesTo_66 rfl (lv_at hl 0 rfl) ?_
  obtain ⟨x5, ex5, hf⟩ := gBind hf
  refine g_getr X hR gk_X1 23 (by decide) q667 rfl ex5 dX1_changesTo_67 ?_
  refine lv_iload_n hx hb dX1_changesTo_70 rfl (lv_at hl 1 rfl) ?_
  obtain ⟨a6, ea6, hf⟩ := gBind hf
  refine g_aald X hR 6 (by decide) rfl ea6 dX1_changesTo_71 ?_
  refine lv_dup hx hb dX1_changesTo_72 rfl ?_
  obtain ⟨x7, ex7, hf⟩ := gBind hf
  refine g_getiN X hR gk_X4 2 (by decide) q583 rfl ex7 dX1_changesTo_73 ?_
  refine lv_iconst (v := (1 : Int32)) hx hb dX1_changesTo_76 (by decide) ?_
  refine lv_iadd hx hb dX1_changesTo_77 ?_
  obtain ⟨h8, eh8, hf⟩ := gBind hf
  refine g_putN X hR hS gk_X4 2 (by decide) q583 rfl rfl eh8 rfl rfl rfl dX1_changesTo_78 (fun H locs hR hS => ?_)
  obtain rfl := gO1 hf
  exact g_vret X hR hS rfl ⟨Nat.le_of_ble_eq_true rfl, Nat.le_of_ble_eq_true rfl⟩ dX1_changesTo_81

def sp_X1_isCutShort_L24 (G : gG) (F : Nat) : Nat → gH → Nat → Nat → Int32 → Option (gH)
  | 0, _, _, _, _ => none
  | f + 1, h24L, v24_0, v24_1, v24_2 =>
    (gGi 1 h24L v24_0 13).bind fun x2501 =>
    if x2501 ≤ v24_2 then
    (gGi 1 h24L v24_0 3).bind fun x2503 =>
    if x2503 = (-5 : Int32) then
    (gGi 1 h24L v24_0 2).bind fun x2512 =>
    (gPv 1 h24L v24_0 3 (.int x2512)).bind fun h2513 =>
    (gGi 1 h2513 v24_0 4).bind fun x2514 =>
    if gIs 1 h2513 v24_0 = true then
    (sp_X1_phaseWith G F h2513 v24_0 x2514).bind fun u2516 =>
    if gIs 1 h2513 v24_0 = true then
    (sp_X1_changesTo G F h2513 v24_0 u2516).bind fun u2518 =>
    some (u2518) else none else none else
    (gGi 1 h24L v24_0 3).bind fun x2505 =>
    (gPv 1 h24L v24_0 3 (.int x2505)).bind fun h2506 =>
    (gGi 1 h2506 v24_0 4).bind fun x2507 =>
    if gIs 1 h2506 v24_0 = true then
    (sp_X1_phaseWith G F h2506 v24_0 x2507).bind fun u2509 =>
    if gIs 1 h2506 v24_0 = true then
    (sp_X1_changesTo G F h2506 v24_0 u2509).bind fun u2511 =>
    some (u2511) else none else none else
    (gGr 1 h24L v24_0 22).bind fun x2519 =>
    (gAr 5 h24L x2519 v24_2).bind fun a2520 =>
    if gIs 3 h24L v24_1 = true then
    (sp_X4_has G F h24L v24_1 v24_2).bind fun u2522 =>
    if u2522 = 0 then
    sp_X1_isCutShort_L24 G F f h24L v24_0 v24_1 (v24_2 + (1 : Int32)) else
    (gGi 2 h24L a2520 6).bind fun x2524 =>
    if x2524 = 0 then
    sp_X1_isCutShort_L24 G F f h24L v24_0 v24_1 (v24_2 + (1 : Int32)) else
    if gIs 2 h24L a2520 = true then
    (sp_X2_least G F h24L a2520).bind fun u2527 =>
    (gGi 1 h24L v24_0 1).bind fun x2528 =>
    if gIs 2 h24L a2520 = true then
    (sp_X2_isGreenFor G F h24L a2520 ((u2527 + (1 : Int32)) / (2 : Int32)) x2528).bind fun u2530 =>
    if u2530 = 0 then
    some (h24L) else
    sp_X1_isCutShort_L24 G F f h24L v24_0 v24_1 (v24_2 + (1 : Int32)) else none else none else none
def sp_X1_isCutShort (G : gG) (F : Nat) (h : gH) (a0 : Nat) : Option (gH) :=
 (gGr 1 h a0 23).bind fun x1 =>
 (gGi 1 h a0 2).bind fun x2 =>
 (gAr 6 h x1 x2).bind fun a3 =>
 (gGi 1 h a0 4).bind fun x4 =>
 if gIs 3 h a3 = true then
 (sp_X4_has G F h a3 x4).bind fun u6 =>
 if u6 = 0 then
 sp_X1_isCutShort_L24 G F F h a0 a3 (0 : Int32) else
 some (h) else none
theorem yk_X1_isCutShort : gVk yX1_isCutShort cX1_isCutShort 4 none 0 1 := ⟨q1161, qs15, q93, q1162, ⟨by decide +kernel, by decide +kernel, by decide +kernel⟩, rfl⟩
set_option maxHeartbeats 4000000 in
theorem m_X1_isCutShort (l : Launch) (G : gG) (F : Nat) (h : gH) (n : Nat) (a0 : Nat) {h' : gH} (hf : sp_X1_isCutShort G F h a0 = some h') : gMet l G yX1_isCutShort cX1_isCutShort 4 none 3 68 0 0 [.ref a0] h n none h' n := by
  refine gEnter (by decide) [(0, .ref a0)] rfl (Nat.le_of_ble_eq_true rfl) ?_
  intro p e s m below meth c H ls X hin hR hS hl
  have hx := X.1.1
  have hb := X.1.2.1
  unfold sp_X1_isCutShort at hf
  generalize ([] : List Loc) = locs at hS ⊢
  refine lv_aload_n hx hb dX1_isCutShort_0 rfl (lv_at hl 0 rfl) ?_
  obtain ⟨x1, ex1, hf⟩ := gBind hf
  refine g_getr X hR gk_X1 23 (by decide) q667 rfl ex1 dX1_isCutShort_1 ?_
  refine lv_aload_n hx hb dX1_isCutShort_4 rfl (lv_at hl 0 rfl) ?_
  obtain ⟨x2, ex2, hf⟩ := gBind hf
  refine g_geti X hR gk_X1 2 (by decide) q626 rfl ex2 dX1_isCutShort_5 ?_
  obtain ⟨a3, ea3, hf⟩ := gBind hf
  refine g_aald X hR 6 (by decide) rfl ea3 dX1_isCutShort_8 ?_
  refine lv_astore_n (lv' := [(1, .ref a3), (0, .ref a0)]) hx hb dX1_isCutShort_9 rfl hl (by decide) rfl (fun ls hl => ?_)
  refine lv_aload_n hx hb dX1_isCutShort_10 rfl (lv_at hl 0 rfl) ?_
  refine lv_aload_n hx hb dX1_isCutShort_11 rfl (lv_at hl 1 rfl) ?_
  obtain ⟨x4, ex4, hf⟩ := gBind hf
  refine g_geti X hR gk_X1 4 (by decide) q630 rfl ex4 dX1_isCutShort_12 ?_
  obtain ⟨k5, hf⟩ := gChk hf
  obtain ⟨u6, eu6, hf⟩ := gBind hf
  refine g_callVi X hR hS [.int x4] (m_X4_has l G F h n a3 x4 eu6) yk_X4_has q1116 k5 rfl hl.1 ⟨Nat.le_of_ble_eq_true rfl, Nat.le_of_ble_eq_true rfl⟩ ⟨Nat.le_of_ble_eq_true rfl, Nat.le_of_ble_eq_true rfl⟩ rfl (Nat.le_of_ble_eq_true rfl) dX1_isCutShort_15 (fun H locs hR hS => ?_)
  refine lv_if_eq (tgt := 22) hx hb dX1_isCutShort_18 (by decide) (fun c7 => ?_) (fun c7 => ?_)
  · replace hf := gIfp c7 hf
    refine lv_iconst (v := (0 : Int32)) hx hb dX1_isCutShort_22 (by decide) ?_
    refine lv_istore_n (lv' := [(2, .int (0 : Int32)), (1, .ref a3), (0, .ref a0)]) hx hb dX1_isCutShort_23 rfl hl (by decide) rfl (fun ls hl => ?_)
    have L24_q8 : ∀ (f : Nat) (h24L : gH) (v24_0 : Nat) (v24_1 : Nat) (v24_2 : Int32) (H : Heap) (locs : List Loc) (ls : Array Slot), sp_X1_isCutShort_L24 G F f h24L v24_0 v24_1 v24_2 = some h' → gRep G h24L n H → va_S (gFr G) s.heap H locs → lv_has ls 4 [(0, .ref v24_0), (1, .ref v24_1), (2, .int v24_2)] → W p l e ({ frames := 3, cells := 0, slots := 0, locals := 68 } : Room) s m ([.ref a0] : List Value).toArray below meth c H locs 0 0 (MQ below (gQ G none h' n) ([.ref a0] : List Value).toArray s 0 0 (gFr G)) (F0 m 24 ls []) := by
      clear hf
      intro f
      induction f with
      | zero =>
        intro h24L v24_0 v24_1 v24_2 H locs ls hf
        cases hf
      | succ f ih =>
        intro h24L v24_0 v24_1 v24_2 H locs ls hf hR hS hl
        rw [sp_X1_isCutShort_L24] at hf
        refine lv_iload_n hx hb dX1_isCutShort_24 rfl (lv_at hl 2 rfl) ?_
        refine lv_aload_n hx hb dX1_isCutShort_25 rfl (lv_at hl 0 rfl) ?_
        obtain ⟨x2501, ex2501, hf⟩ := gBind hf
        refine g_geti X hR gk_X1 13 (by decide) q648 rfl ex2501 dX1_isCutShort_26 ?_
        refine lv_icmp_ge (tgt := 80) hx hb dX1_isCutShort_29 (by decide) (fun c2502 => ?_) (fun c2502 => ?_)
        · replace hf := gIfp c2502 hf
          refine lv_aload_n hx hb dX1_isCutShort_80 rfl (lv_at hl 0 rfl) ?_
          refine lv_aload_n hx hb dX1_isCutShort_81 rfl (lv_at hl 0 rfl) ?_
          obtain ⟨x2503, ex2503, hf⟩ := gBind hf
          refine g_geti X hR gk_X1 3 (by decide) q628 rfl ex2503 dX1_isCutShort_82 ?_
          refine lv_bipush (v := (-5 : Int32)) hx hb dX1_isCutShort_85 (by decide) ?_
          refine lv_icmp_ne (tgt := 97) hx hb dX1_isCutShort_87 (by decide) (fun c2504 => ?_) (fun c2504 => ?_)
          · replace hf := gIfn c2504 hf
            refine lv_aload_n hx hb dX1_isCutShort_97 rfl (lv_at hl 0 rfl) ?_
            obtain ⟨x2505, ex2505, hf⟩ := gBind hf
            refine g_geti X hR gk_X1 3 (by decide) q628 rfl ex2505 dX1_isCutShort_98 ?_
            obtain ⟨h2506, eh2506, hf⟩ := gBind hf
            refine g_put X hR hS gk_X1 3 (by decide) q628 rfl rfl eh2506 rfl rfl rfl dX1_isCutShort_101 (fun H locs hR hS => ?_)
            refine lv_aload_n hx hb dX1_isCutShort_104 rfl (lv_at hl 0 rfl) ?_
            refine lv_aload_n hx hb dX1_isCutShort_105 rfl (lv_at hl 0 rfl) ?_
            refine lv_aload_n hx hb dX1_isCutShort_106 rfl (lv_at hl 0 rfl) ?_
            obtain ⟨x2507, ex2507, hf⟩ := gBind hf
            refine g_geti X hR gk_X1 4 (by decide) q630 rfl ex2507 dX1_isCutShort_107 ?_
            obtain ⟨k2508, hf⟩ := gChk hf
            obtain ⟨u2509, eu2509, hf⟩ := gBind hf
            refine g_callVi X hR hS [.int x2507] (m_X1_phaseWith l G F h2506 n v24_0 x2507 eu2509) yk_X1_phaseWith q1124 k2508 rfl hl.1 ⟨Nat.le_of_ble_eq_true rfl, Nat.le_of_ble_eq_true rfl⟩ ⟨Nat.le_of_ble_eq_true rfl, Nat.le_of_ble_eq_true rfl⟩ rfl (Nat.le_of_ble_eq_true rfl) dX1_isCutShort_110 (fun H locs hR hS => ?_)
            obtain ⟨k2510, hf⟩ := gChk hf
            obtain ⟨u2511, eu2511, hf⟩ := gBind hf
            refine g_callVv X hR hS [.int u2509] (m_X1_changesTo l G F h2506 n v24_0 u2509 eu2511) yk_X1_changesTo q1168 k2510 rfl hl.1 ⟨Nat.le_of_ble_eq_true rfl, Nat.le_of_ble_eq_true rfl⟩ ⟨Nat.le_of_ble_eq_true rfl, Nat.le_of_ble_eq_true rfl⟩ rfl (Nat.le_of_ble_eq_true rfl) dX1_isCutShort_113 (fun H locs hR hS => ?_)
            obtain rfl := gO1 hf
            exact g_vret X hR hS rfl ⟨Nat.le_of_ble_eq_true rfl, Nat.le_of_ble_eq_true rfl⟩ dX1_isCutShort_116
          · replace hf := gIfp c2504 hf
            refine lv_aload_n hx hb dX1_isCutShort_90 rfl (lv_at hl 0 rfl) ?_
            obtain ⟨x2512, ex2512, hf⟩ := gBind hf
            refine g_geti X hR gk_X1 2 (by decide) q626 rfl ex2512 dX1_isCutShort_91 ?_
            refine lv_goto (tgt := 101) hx hb dX1_isCutShort_94 (by decide) ?_
            obtain ⟨h2513, eh2513, hf⟩ := gBind hf
            refine g_put X hR hS gk_X1 3 (by decide) q628 rfl rfl eh2513 rfl rfl rfl dX1_isCutShort_101 (fun H locs hR hS => ?_)
            refine lv_aload_n hx hb dX1_isCutShort_104 rfl (lv_at hl 0 rfl) ?_
            refine lv_aload_n hx hb dX1_isCutShort_105 rfl (lv_at hl 0 rfl) ?_
            refine lv_aload_n hx hb dX1_isCutShort_106 rfl (lv_at hl 0 rfl) ?_
            obtain ⟨x2514, ex2514, hf⟩ := gBind hf
            refine g_geti X hR gk_X1 4 (by decide) q630 rfl ex2514 dX1_isCutShort_107 ?_
            obtain ⟨k2515, hf⟩ := gChk hf
            obtain ⟨u2516, eu2516, hf⟩ := gBind hf
            refine g_callVi X hR hS [.int x2514] (m_X1_phaseWith l G F h2513 n v24_0 x2514 eu2516) yk_X1_phaseWith q1124 k2515 rfl hl.1 ⟨Nat.le_of_ble_eq_true rfl, Nat.le_of_ble_eq_true rfl⟩ ⟨Nat.le_of_ble_eq_true rfl, Nat.le_of_ble_eq_true rfl⟩ rfl (Nat.le_of_ble_eq_true rfl) dX1_isCutShort_110 (fun H locs hR hS => ?_)
            obtain ⟨k2517, hf⟩ := gChk hf
            obtain ⟨u2518, eu2518, hf⟩ := gBind hf
            refine g_callVv X hR hS [.int u2516] (m_X1_changesTo l G F h2513 n v24_0 u2516 eu2518) yk_X1_changesTo q1168 k2517 rfl hl.1 ⟨Nat.le_of_ble_eq_true rfl, Nat.le_of_ble_eq_true rfl⟩ ⟨Nat.le_of_ble_eq_true rfl, Nat.le_of_ble_eq_true rfl⟩ rfl (Nat.le_of_ble_eq_true rfl) dX1_isCutShort_113 (fun H locs hR hS => ?_)
            obtain rfl := gO1 hf
            exact g_vret X hR hS rfl ⟨Nat.le_of_ble_eq_true rfl, Nat.le_of_ble_eq_true rfl⟩ dX1_isCutShort_116
        · replace hf := gIfn c2502 hf
          refine lv_aload_n hx hb dX1_isCutShort_32 rfl (lv_at hl 0 rfl) ?_
          obtain ⟨x2519, ex2519, hf⟩ := gBind hf
          refine g_getr X hR gk_X1 22 (by decide) q665 rfl ex2519 dX1_isCutShort_33 ?_
          refine lv_iload_n hx hb dX1_isCutShort_36 rfl (lv_at hl 2 rfl) ?_
          obtain ⟨a2520, ea2520, hf⟩ := gBind hf
          refine g_aald X hR 5 (by decide) rfl ea2520 dX1_isCutShort_37 ?_
          refine lv_astore_n (lv' := [(3, .ref a2520), (0, .ref v24_0), (1, .ref v24_1), (2, .int v24_2)]) hx hb dX1_isCutShort_38 rfl hl (by decide) rfl (fun ls hl => ?_)
          refine lv_aload_n hx hb dX1_isCutShort_39 rfl (lv_at hl 2 rfl) ?_
          refine lv_iload_n hx hb dX1_isCutShort_40 rfl (lv_at hl 3 rfl) ?_
          obtain ⟨k2521, hf⟩ := gChk hf
          obtain ⟨u2522, eu2522, hf⟩ := gBind hf
          refine g_callVi X hR hS [.int v24_2] (m_X4_has l G F h24L n v24_1 v24_2 eu2522) yk_X4_has q1116 k2521 rfl hl.1 ⟨Nat.le_of_ble_eq_true rfl, Nat.le_of_ble_eq_true rfl⟩ ⟨Nat.le_of_ble_eq_true rfl, Nat.le_of_ble_eq_true rfl⟩ rfl (Nat.le_of_ble_eq_true rfl) dX1_isCutShort_41 (fun H locs hR hS => ?_)
          refine lv_if_eq (tgt := 74) hx hb dX1_isCutShort_44 (by decide) (fun c2523 => ?_) (fun c2523 => ?_)
          · replace hf := gIfp c2523 hf
            refine lv_iinc (v := v24_2 + (1 : Int32)) (lv' := [(2, .int (v24_2 + (1 : Int32))), (3, .ref a2520), (0, .ref v24_0), (1, .ref v24_1)]) hx hb dX1_isCutShort_74 hl (k := 3) rfl rfl (by decide) rfl (fun ls hl => ?_)
            refine lv_goto (tgt := 24) hx hb dX1_isCutShort_77 (by decide) ?_
            exact ih h24L v24_0 v24_1 (v24_2 + (1 : Int32)) _ _ _ hf hR hS (lv_sub hl [2, 3, 0] rfl)
          · replace hf := gIfn c2523 hf
            refine lv_aload_n hx hb dX1_isCutShort_47 rfl (lv_at hl 0 rfl) ?_
            obtain ⟨x2524, ex2524, hf⟩ := gBind hf
            refine g_getiN X hR gk_X2 6 (by decide) q530 rfl ex2524 dX1_isCutShort_48 ?_
            refine lv_if_eq (tgt := 74) hx hb dX1_isCutShort_51 (by decide) (fun c2525 => ?_) (fun c2525 => ?_)
            · replace hf := gIfp c2525 hf
              refine lv_iinc (v := v24_2 + (1 : Int32)) (lv' := [(2, .int (v24_2 + (1 : Int32))), (3, .ref a2520), (0, .ref v24_0), (1, .ref v24_1)]) hx hb dX1_isCutShort_74 hl (k := 3) rfl rfl (by decide) rfl (fun ls hl => ?_)
              refine lv_goto (tgt := 24) hx hb dX1_isCutShort_77 (by decide) ?_
              exact ih h24L v24_0 v24_1 (v24_2 + (1 : Int32)) _ _ _ hf hR hS (lv_sub hl [2, 3, 0] rfl)
            · replace hf := gIfn c2525 hf
              refine lv_aload_n hx hb dX1_isCutShort_54 rfl (lv_at hl 0 rfl) ?_
              refine lv_aload_n hx hb dX1_isCutShort_55 rfl (lv_at hl 0 rfl) ?_
              obtain ⟨k2526, hf⟩ := gChk hf
              obtain ⟨u2527, eu2527, hf⟩ := gBind hf
              refine g_callVi X hR hS [] (m_X2_least l G F h24L n a2520 eu2527) yk_X2_least q1163 k2526 rfl hl.1 ⟨Nat.le_of_ble_eq_true rfl, Nat.le_of_ble_eq_true rfl⟩ ⟨Nat.le_of_ble_eq_true rfl, Nat.le_of_ble_eq_true rfl⟩ rfl (Nat.le_of_ble_eq_true rfl) dX1_isCutShort_56 (fun H locs hR hS => ?_)
              refine lv_iconst (v := (1 : Int32)) hx hb dX1_isCutShort_59 (by decide) ?_
              refine lv_iadd hx hb dX1_isCutShort_60 ?_
              refine lv_iconst (v := (2 : Int32)) hx hb dX1_isCutShort_61 (by decide) ?_
              refine lv_idiv hx hb dX1_isCutShort_62 (by decide) ?_
              refine lv_aload_n hx hb dX1_isCutShort_63 rfl (lv_at hl 1 rfl) ?_
              obtain ⟨x2528, ex2528, hf⟩ := gBind hf
              refine g_geti X hR gk_X1 1 (by decide) q624 rfl ex2528 dX1_isCutShort_64 ?_
              obtain ⟨k2529, hf⟩ := gChk hf
              obtain ⟨u2530, eu2530, hf⟩ := gBind hf
              refine g_callVi X hR hS [.int ((u2527 + (1 : Int32)) / (2 : Int32)), .int x2528] (m_X2_isGreenFor l G F h24L n a2520 ((u2527 + (1 : Int32)) / (2 : Int32)) x2528 eu2530) yk_X2_isGreenFor q1164 k2529 rfl hl.1 ⟨Nat.le_of_ble_eq_true rfl, Nat.le_of_ble_eq_true rfl⟩ ⟨Nat.le_of_ble_eq_true rfl, Nat.le_of_ble_eq_true rfl⟩ rfl (Nat.le_of_ble_eq_true rfl) dX1_isCutShort_67 (fun H locs hR hS => ?_)
              refine lv_if_ne (tgt := 74) hx hb dX1_isCutShort_70 (by decide) (fun c2531 => ?_) (fun c2531 => ?_)
              · replace hf := gIfn c2531 hf
                refine lv_iinc (v := v24_2 + (1 : Int32)) (lv' := [(2, .int (v24_2 + (1 : Int32))), (3, .ref a2520), (0, .ref v24_0), (1, .ref v24_1)]) hx hb dX1_isCutShort_74 hl (k := 3) rfl rfl (by decide) rfl (fun ls hl => ?_)
                refine lv_goto (tgt := 24) hx hb dX1_isCutShort_77 (by decide) ?_
                exact ih h24L v24_0 v24_1 (v24_2 + (1 : Int32)) _ _ _ hf hR hS (lv_sub hl [2, 3, 0] rfl)
              · replace hf := gIfp c2531 hf
                obtain rfl := gO1 hf
                exact g_vret X hR hS rfl ⟨Nat.le_of_ble_eq_true rfl, Nat.le_of_ble_eq_true rfl⟩ dX1_isCutShort_73
    exact L24_q8 F h a0 a3 (0 : Int32) _ _ _ hf hR hS (lv_sub hl [2, 1, 0] rfl)
  · replace hf := gIfn c7 hf
    obtain rfl := gO1 hf
    exact g_vret X hR hS rfl ⟨Nat.le_of_ble_eq_true rfl, Nat.le_of_ble_eq_true rfl⟩ dX1_isCutShort_21

def sp_X1_isCalled_L19 (G : gG) (F : Nat) (h19L : gH) : Nat → Nat → Int32 → Int32 → Option (Int32)
  | 0, _, _, _ => none
  | f + 1, v19_0, v19_1, v19_2 =>
    (gGi 1 h19L v19_0 13).bind fun x2001 =>
    if x2001 ≤ v19_2 then
    if v19_1 = 0 then
    (gGi 1 h19L v19_0 10).bind fun x2004 =>
    if x2004 ≤ 0 then
    some ((0 : Int32)) else
    some ((1 : Int32)) else
    some ((0 : Int32)) else
    (gGr 1 h19L v19_0 23).bind fun x2006 =>
    (gAr 6 h19L x2006 v19_1).bind fun a2007 =>
    if gIs 3 h19L a2007 = true then
    (sp_X4_has G F h19L a2007 v19_2).bind fun u2009 =>
    if u2009 = 0 then
    sp_X1_isCalled_L19 G F h19L f v19_0 v19_1 (v19_2 + (1 : Int32)) else
    (gGr 1 h19L v19_0 22).bind fun x2011 =>
    (gAr 5 h19L x2011 v19_2).bind fun a2012 =>
    if gIs 2 h19L a2012 = true then
    (sp_X2_isCalled G F h19L a2012).bind fun u2014 =>
    if u2014 = 0 then
    sp_X1_isCalled_L19 G F h19L f v19_0 v19_1 (v19_2 + (1 : Int32)) else
    some ((1 : Int32)) else none else none
def sp_X1_isCalled (G : gG) (F : Nat) (h : gH) (a0 : Nat) (p1 : Int32) : Option (Int32) :=
 (gGi 1 h a0 0).bind fun x1 =>
 if x1 = 0 then
 some ((0 : Int32)) else
 (gGi 1 h a0 2).bind fun x3 =>
 if p1 = x3 then
 some ((0 : Int32)) else
 sp_X1_isCalled_L19 G F h F a0 p1 (0 : Int32)
theorem yk_X1_isCalled : gVk yX1_isCalled cX1_isCalled 3 (some .boolean) 1 1 := ⟨q1181, q1182, q93, q1183, ⟨by decide +kernel, by decide +kernel, by decide +kernel⟩, rfl⟩
set_option maxHeartbeats 4000000 in
theorem m_X1_isCalled (l : Launch) (G : gG) (F : Nat) (h : gH) (n : Nat) (a0 : Nat) (p1 : Int32) {r : Int32} (hf : sp_X1_isCalled G F h a0 p1 = some r) : gMet l G yX1_isCalled cX1_isCalled 3 (some .boolean) 1 21 0 0 [.ref a0, .int p1] h n (some (.int r)) h n := by
  refine gEnter (by decide) [(0, .ref a0), (1, .int p1)] rfl (Nat.le_of_ble_eq_true rfl) ?_
  intro p e s m below meth c H ls X hin hR hS hl
  have hx := X.1.1
  have hb := X.1.2.1
  unfold sp_X1_isCalled at hf
  generalize ([] : List Loc) = locs at hS ⊢
  refine lv_aload_n hx hb dX1_isCalled_0 rfl (lv_at hl 0 rfl) ?_
  obtain ⟨x1, ex1, hf⟩ := gBind hf
  refine g_geti X hR gk_X1 0 (by decide) q622 rfl ex1 dX1_isCalled_1 ?_
  refine lv_if_eq (tgt := 15) hx hb dX1_isCalled_4 (by decide) (fun c2 => ?_) (fun c2 => ?_)
  · replace hf := gIfp c2 hf
    refine lv_iconst (v := (0 : Int32)) hx hb dX1_isCalled_15 (by decide) ?_
    obtain rfl := gO1 hf
    exact g_zret X hR hS _ rfl rfl ⟨Nat.le_of_ble_eq_true rfl, Nat.le_of_ble_eq_true rfl⟩ dX1_isCalled_16
  · replace hf := gIfn c2 hf
    refine lv_iload_n hx hb dX1_isCalled_7 rfl (lv_at hl 1 rfl) ?_
    refine lv_aload_n hx hb dX1_isCalled_8 rfl (lv_at hl 0 rfl) ?_
    obtain ⟨x3, ex3, hf⟩ := gBind hf
    refine g_geti X hR gk_X1 2 (by decide) q626 rfl ex3 dX1_isCalled_9 ?_
    refine lv_icmp_ne (tgt := 17) hx hb dX1_isCalled_12 (by decide) (fun c4 => ?_) (fun c4 => ?_)
    · replace hf := gIfn c4 hf
      refine lv_iconst (v := (0 : Int32)) hx hb dX1_isCalled_17 (by decide) ?_
      refine lv_istore_n (lv' := [(2, .int (0 : Int32)), (0, .ref a0), (1, .int p1)]) hx hb dX1_isCalled_18 rfl hl (by decide) rfl (fun ls hl => ?_)
      have L19_q5 : ∀ (f : Nat) (v19_0 : Nat) (v19_1 : Int32) (v19_2 : Int32) (H : Heap) (locs : List Loc) (ls : Array Slot), sp_X1_isCalled_L19 G F h f v19_0 v19_1 v19_2 = some r → gRep G h n H → va_S (gFr G) s.heap H locs → lv_has ls 3 [(0, .ref v19_0), (1, .int v19_1), (2, .int v19_2)] → W p l e ({ frames := 1, cells := 0, slots := 0, locals := 21 } : Room) s m ([.ref a0, .int p1] : List Value).toArray below meth c H locs 0 0 (MQ below (gQ G (some (.int r)) h n) ([.ref a0, .int p1] : List Value).toArray s 0 0 (gFr G)) (F0 m 19 ls []) := by
        clear hf
        intro f
        induction f with
        | zero =>
          intro v19_0 v19_1 v19_2 H locs ls hf
          cases hf
        | succ f ih =>
          intro v19_0 v19_1 v19_2 H locs ls hf hR hS hl
          rw [sp_X1_isCalled_L19] at hf
          refine lv_iload_n hx hb dX1_isCalled_19 rfl (lv_at hl 2 rfl) ?_
          refine lv_aload_n hx hb dX1_isCalled_20 rfl (lv_at hl 0 rfl) ?_
          obtain ⟨x2001, ex2001, hf⟩ := gBind hf
          refine g_geti X hR gk_X1 13 (by decide) q648 rfl ex2001 dX1_isCalled_21 ?_
          refine lv_icmp_ge (tgt := 60) hx hb dX1_isCalled_24 (by decide) (fun c2002 => ?_) (fun c2002 => ?_)
          · replace hf := gIfp c2002 hf
            refine lv_iload_n hx hb dX1_isCalled_60 rfl (lv_at hl 1 rfl) ?_
            refine lv_if_ne (tgt := 75) hx hb dX1_isCalled_61 (by decide) (fun c2003 => ?_) (fun c2003 => ?_)
            · replace hf := gIfn c2003 hf
              refine lv_iconst (v := (0 : Int32)) hx hb dX1_isCalled_75 (by decide) ?_
              obtain rfl := gO1 hf
              exact g_zret X hR hS _ rfl rfl ⟨Nat.le_of_ble_eq_true rfl, Nat.le_of_ble_eq_true rfl⟩ dX1_isCalled_76
            · replace hf := gIfp c2003 hf
              refine lv_aload_n hx hb dX1_isCalled_64 rfl (lv_at hl 0 rfl) ?_
              obtain ⟨x2004, ex2004, hf⟩ := gBind hf
              refine g_geti X hR gk_X1 10 (by decide) q642 rfl ex2004 dX1_isCalled_65 ?_
              refine lv_if_le (tgt := 75) hx hb dX1_isCalled_68 (by decide) (fun c2005 => ?_) (fun c2005 => ?_)
              · replace hf := gIfp c2005 hf
                refine lv_iconst (v := (0 : Int32)) hx hb dX1_isCalled_75 (by decide) ?_
                obtain rfl := gO1 hf
                exact g_zret X hR hS _ rfl rfl ⟨Nat.le_of_ble_eq_true rfl, Nat.le_of_ble_eq_true rfl⟩ dX1_isCalled_76
              · replace hf := gIfn c2005 hf
                refine lv_iconst (v := (1 : Int32)) hx hb dX1_isCalled_71 (by decide) ?_
                refine lv_goto (tgt := 76) hx hb dX1_isCalled_72 (by decide) ?_
                obtain rfl := gO1 hf
                exact g_zret X hR hS _ rfl rfl ⟨Nat.le_of_ble_eq_true rfl, Nat.le_of_ble_eq_true rfl⟩ dX1_isCalled_76
          · replace hf := gIfn c2002 hf
            refine lv_aload_n hx hb dX1_isCalled_27 rfl (lv_at hl 0 rfl) ?_
            obtain ⟨x2006, ex2006, hf⟩ := gBind hf
            refine g_getr X hR gk_X1 23 (by decide) q667 rfl ex2006 dX1_isCalled_28 ?_
            refine lv_iload_n hx hb dX1_isCalled_31 rfl (lv_at hl 1 rfl) ?_
            obtain ⟨a2007, ea2007, hf⟩ := gBind hf
            refine g_aald X hR 6 (by decide) rfl ea2007 dX1_isCalled_32 ?_
            refine lv_iload_n hx hb dX1_isCalled_33 rfl (lv_at hl 2 rfl) ?_
            obtain ⟨k2008, hf⟩ := gChk hf
            obtain ⟨u2009, eu2009, hf⟩ := gBind hf
            refine g_callVi X hR hS [.int v19_2] (m_X4_has l G F h n a2007 v19_2 eu2009) yk_X4_has q1116 k2008 rfl hl.1 ⟨Nat.le_of_ble_eq_true rfl, Nat.le_of_ble_eq_true rfl⟩ ⟨Nat.le_of_ble_eq_true rfl, Nat.le_of_ble_eq_true rfl⟩ rfl (Nat.le_of_ble_eq_true rfl) dX1_isCalled_34 (fun H locs hR hS => ?_)
            refine lv_if_eq (tgt := 54) hx hb dX1_isCalled_37 (by decide) (fun c2010 => ?_) (fun c2010 => ?_)
            · replace hf := gIfp c2010 hf
              refine lv_iinc (v := v19_2 + (1 : Int32)) (lv' := [(2, .int (v19_2 + (1 : Int32))), (0, .ref v19_0), (1, .int v19_1)]) hx hb dX1_isCalled_54 hl (k := 2) rfl rfl (by decide) rfl (fun ls hl => ?_)
              refine lv_goto (tgt := 19) hx hb dX1_isCalled_57 (by decide) ?_
              exact ih v19_0 v19_1 (v19_2 + (1 : Int32)) _ _ _ hf hR hS (lv_sub hl [1, 2, 0] rfl)
            · replace hf := gIfn c2010 hf
              refine lv_aload_n hx hb dX1_isCalled_40 rfl (lv_at hl 0 rfl) ?_
              obtain ⟨x2011, ex2011, hf⟩ := gBind hf
              refine g_getr X hR gk_X1 22 (by decide) q665 rfl ex2011 dX1_isCalled_41 ?_
              refine lv_iload_n hx hb dX1_isCalled_44 rfl (lv_at hl 2 rfl) ?_
              obtain ⟨a2012, ea2012, hf⟩ := gBind hf
              refine g_aald X hR 5 (by decide) rfl ea2012 dX1_isCalled_45 ?_
              obtain ⟨k2013, hf⟩ := gChk hf
              obtain ⟨u2014, eu2014, hf⟩ := gBind hf
              refine g_callVi X hR hS [] (m_X2_isCalled l G F h n a2012 eu2014) yk_X2_isCalled q1184 k2013 rfl hl.1 ⟨Nat.le_of_ble_eq_true rfl, Nat.le_of_ble_eq_true rfl⟩ ⟨Nat.le_of_ble_eq_true rfl, Nat.le_of_ble_eq_true rfl⟩ rfl (Nat.le_of_ble_eq_true rfl) dX1_isCalled_46 (fun H locs hR hS => ?_)
              refine lv_if_eq (tgt := 54) hx hb dX1_isCalled_49 (by decide) (fun c2015 => ?_) (fun c2015 => ?_)
              · replace hf := gIfp c2015 hf
                refine lv_iinc (v := v19_2 + (1 : Int32)) (lv' := [(2, .int (v19_2 + (1 : Int32))), (0, .ref v19_0), (1, .int v19_1)]) hx hb dX1_isCalled_54 hl (k := 2) rfl rfl (by decide) rfl (fun ls hl => ?_)
                refine lv_goto (tgt := 19) hx hb dX1_isCalled_57 (by decide) ?_
                exact ih v19_0 v19_1 (v19_2 + (1 : Int32)) _ _ _ hf hR hS (lv_sub hl [1, 2, 0] rfl)
              · replace hf := gIfn c2015 hf
                refine lv_iconst (v := (1 : Int32)) hx hb dX1_isCalled_52 (by decide) ?_
                obtain rfl := gO1 hf
                exact g_zret X hR hS _ rfl rfl ⟨Nat.le_of_ble_eq_true rfl, Nat.le_of_ble_eq_true rfl⟩ dX1_isCalled_53
      exact L19_q5 F a0 p1 (0 : Int32) _ _ _ hf hR hS (lv_sub hl [1, 2, 0] rfl)
    · replace hf := gIfp c4 hf
      refine lv_iconst (v := (0 : Int32)) hx hb dX1_isCalled_15 (by decide) ?_
      obtain rfl := gO1 hf
      exact g_zret X hR hS _ rfl rfl ⟨Nat.le_of_ble_eq_true rfl, Nat.le_of_ble_eq_true rfl⟩ dX1_isCalled_16

def sp_X1_firstCalled_L2 (G : gG) (F : Nat) (h2L : gH) : Nat → Nat → Int32 → Option (Int32)
  | 0, _, _ => none
  | f + 1, v2_0, v2_1 =>
    (gGi 1 h2L v2_0 14).bind fun x301 =>
    if x301 ≤ v2_1 then
    some ((-5 : Int32)) else
    (gGi 1 h2L v2_0 2).bind fun x303 =>
    (gGi 1 h2L v2_0 14).bind fun x304 =>
    if ¬ x304 = 0 then
    if gIs 1 h2L v2_0 = true then
    (sp_X1_isCalled G F h2L v2_0 ((x303 + v2_1) - (x303 + v2_1) / x304 * x304)).bind fun u307 =>
    if u307 = 0 then
    sp_X1_firstCalled_L2 G F h2L f v2_0 (v2_1 + (1 : Int32)) else
    some ((x303 + v2_1) - (x303 + v2_1) / x304 * x304) else none else none
def sp_X1_firstCalled (G : gG) (F : Nat) (h : gH) (a0 : Nat) : Option (Int32) :=
 sp_X1_firstCalled_L2 G F h F a0 (1 : Int32)
theorem yk_X1_firstCalled : gVk yX1_firstCalled cX1_firstCalled 3 (some .int) 0 1 := ⟨q1190, qs18, q93, q1191, ⟨by decide +kernel, by decide +kernel, by decide +kernel⟩, rfl⟩
set_option maxHeartbeats 4000000 in
theorem m_X1_firstCalled (l : Launch) (G : gG) (F : Nat) (h : gH) (n : Nat) (a0 : Nat) {r : Int32} (hf : sp_X1_firstCalled G F h a0 = some r) : gMet l G yX1_firstCalled cX1_firstCalled 3 (some .int) 2 43 0 0 [.ref a0] h n (some (.int r)) h n := by
  refine gEnter (by decide) [(0, .ref a0)] rfl (Nat.le_of_ble_eq_true rfl) ?_
  intro p e s m below meth c H ls X hin hR hS hl
  have hx := X.1.1
  have hb := X.1.2.1
  unfold sp_X1_firstCalled at hf
  generalize ([] : List Loc) = locs at hS ⊢
  refine lv_iconst (v := (1 : Int32)) hx hb dX1_firstCalled_0 (by decide) ?_
  refine lv_istore_n (lv' := [(1, .int (1 : Int32)), (0, .ref a0)]) hx hb dX1_firstCalled_1 rfl hl (by decide) rfl (fun ls hl => ?_)
  have L2_q1 : ∀ (f : Nat) (v2_0 : Nat) (v2_1 : Int32) (H : Heap) (locs : List Loc) (ls : Array Slot), sp_X1_firstCalled_L2 G F h f v2_0 v2_1 = some r → gRep G h n H → va_S (gFr G) s.heap H locs → lv_has ls 3 [(0, .ref v2_0), (1, .int v2_1)] → W p l e ({ frames := 2, cells := 0, slots := 0, locals := 43 } : Room) s m ([.ref a0] : List Value).toArray below meth c H locs 0 0 (MQ below (gQ G (some (.int r)) h n) ([.ref a0] : List Value).toArray s 0 0 (gFr G)) (F0 m 2 ls []) := by
    clear hf
    intro f
    induction f with
    | zero =>
      intro v2_0 v2_1 H locs ls hf
      cases hf
    | succ f ih =>
      intro v2_0 v2_1 H locs ls hf hR hS hl
      rw [sp_X1_firstCalled_L2] at hf
      refine lv_iload_n hx hb dX1_firstCalled_2 rfl (lv_at hl 1 rfl) ?_
      refine lv_aload_n hx hb dX1_firstCalled_3 rfl (lv_at hl 0 rfl) ?_
      obtain ⟨x301, ex301, hf⟩ := gBind hf
      refine g_geti X hR gk_X1 14 (by decide) q650 rfl ex301 dX1_firstCalled_4 ?_
      refine lv_icmp_ge (tgt := 38) hx hb dX1_firstCalled_7 (by decide) (fun c302 => ?_) (fun c302 => ?_)
      · replace hf := gIfp c302 hf
        refine lv_bipush (v := (-5 : Int32)) hx hb dX1_firstCalled_38 (by decide) ?_
        obtain rfl := gO1 hf
        exact g_iret X hR hS _ rfl ⟨Nat.le_of_ble_eq_true rfl, Nat.le_of_ble_eq_true rfl⟩ dX1_firstCalled_40
      · replace hf := gIfn c302 hf
        refine lv_aload_n hx hb dX1_firstCalled_10 rfl (lv_at hl 0 rfl) ?_
        obtain ⟨x303, ex303, hf⟩ := gBind hf
        refine g_geti X hR gk_X1 2 (by decide) q626 rfl ex303 dX1_firstCalled_11 ?_
        refine lv_iload_n hx hb dX1_firstCalled_14 rfl (lv_at hl 1 rfl) ?_
        refine lv_iadd hx hb dX1_firstCalled_15 ?_
        refine lv_aload_n hx hb dX1_firstCalled_16 rfl (lv_at hl 0 rfl) ?_
        obtain ⟨x304, ex304, hf⟩ := gBind hf
        refine g_geti X hR gk_X1 14 (by decide) q650 rfl ex304 dX1_firstCalled_17 ?_
        obtain ⟨k305, hf⟩ := gChk hf
        refine lv_irem hx hb dX1_firstCalled_20 k305 ?_
        refine lv_istore_n (lv' := [(2, .int ((x303 + v2_1) - (x303 + v2_1) / x304 * x304)), (0, .ref v2_0), (1, .int v2_1)]) hx hb dX1_firstCalled_21 rfl hl (by decide) rfl (fun ls hl => ?_)
        refine lv_aload_n hx hb dX1_firstCalled_22 rfl (lv_at hl 1 rfl) ?_
        refine lv_iload_n hx hb dX1_firstCalled_23 rfl (lv_at hl 0 rfl) ?_
        obtain ⟨k306, hf⟩ := gChk hf
        obtain ⟨u307, eu307, hf⟩ := gBind hf
        refine g_callVi X hR hS [.int ((x303 + v2_1) - (x303 + v2_1) / x304 * x304)] (m_X1_isCalled l G F h n v2_0 ((x303 + v2_1) - (x303 + v2_1) / x304 * x304) eu307) yk_X1_isCalled q1180 k306 rfl hl.1 ⟨Nat.le_of_ble_eq_true rfl, Nat.le_of_ble_eq_true rfl⟩ ⟨Nat.le_of_ble_eq_true rfl, Nat.le_of_ble_eq_true rfl⟩ rfl (Nat.le_of_ble_eq_true rfl) dX1_firstCalled_24 (fun H locs hR hS => ?_)
        refine lv_if_eq (tgt := 32) hx hb dX1_firstCalled_27 (by decide) (fun c308 => ?_) (fun c308 => ?_)
        · replace hf := gIfp c308 hf
          refine lv_iinc (v := v2_1 + (1 : Int32)) (lv' := [(1, .int (v2_1 + (1 : Int32))), (2, .int ((x303 + v2_1) - (x303 + v2_1) / x304 * x304)), (0, .ref v2_0)]) hx hb dX1_firstCalled_32 hl (k := 2) rfl rfl (by decide) rfl (fun ls hl => ?_)
          refine lv_goto (tgt := 2) hx hb dX1_firstCalled_35 (by decide) ?_
          exact ih v2_0 (v2_1 + (1 : Int32)) _ _ _ hf hR hS (lv_sub hl [2, 0] rfl)
        · replace hf := gIfn c308 hf
          refine lv_iload_n hx hb dX1_firstCalled_30 rfl (lv_at hl 0 rfl) ?_
          obtain rfl := gO1 hf
          exact g_iret X hR hS _ rfl ⟨Nat.le_of_ble_eq_true rfl, Nat.le_of_ble_eq_true rfl⟩ dX1_firstCalled_31
  exact L2_q1 F a0 (1 : Int32) _ _ _ hf hR hS (lv_sub hl [1, 0] rfl)

def sp_X1_local (G : gG) (F : Nat) (h : gH) (a0 : Nat) : Option (Int32) :=
 (gGi 1 h a0 10).bind fun x1 =>
 if x1 = 0 then
 some ((-5 : Int32)) else
 (gGi 1 h a0 1).bind fun x3 =>
 (gGi 1 h a0 11).bind fun x4 =>
 (gGi 1 h a0 10).bind fun x5 =>
 (sp_J11_floorMod G F h (x3 - x4) x5).bind fun u6 =>
 some (u6)
theorem yk_X1_local : gVk yX1_local cX1_local 1 (some .int) 0 1 := ⟨q1197, q1198, q93, q1199, ⟨by decide +kernel, by decide +kernel, by decide +kernel⟩, rfl⟩
set_option maxHeartbeats 4000000 in
theorem m_X1_local (l : Launch) (G : gG) (F : Nat) (h : gH) (n : Nat) (a0 : Nat) {r : Int32} (hf : sp_X1_local G F h a0 = some r) : gMet l G yX1_local cX1_local 1 (some .int) 1 22 0 0 [.ref a0] h n (some (.int r)) h n := by
  refine gEnter (by decide) [(0, .ref a0)] rfl (Nat.le_of_ble_eq_true rfl) ?_
  intro p e s m below meth c H ls X hin hR hS hl
  have hx := X.1.1
  have hb := X.1.2.1
  unfold sp_X1_local at hf
  generalize ([] : List Loc) = locs at hS ⊢
  refine lv_aload_n hx hb dX1_local_0 rfl (lv_at hl 0 rfl) ?_
  obtain ⟨x1, ex1, hf⟩ := gBind hf
  refine g_geti X hR gk_X1 10 (by decide) q642 rfl ex1 dX1_local_1 ?_
  refine lv_if_ne (tgt := 12) hx hb dX1_local_4 (by decide) (fun c2 => ?_) (fun c2 => ?_)
  · replace hf := gIfn c2 hf
    refine lv_aload_n hx hb dX1_local_12 rfl (lv_at hl 0 rfl) ?_
    obtain ⟨x3, ex3, hf⟩ := gBind hf
    refine g_geti X hR gk_X1 1 (by decide) q624 rfl ex3 dX1_local_13 ?_
    refine lv_aload_n hx hb dX1_local_16 rfl (lv_at hl 0 rfl) ?_
    obtain ⟨x4, ex4, hf⟩ := gBind hf
    refine g_geti X hR gk_X1 11 (by decide) q644 rfl ex4 dX1_local_17 ?_
    refine lv_isub hx hb dX1_local_20 ?_
    refine lv_aload_n hx hb dX1_local_21 rfl (lv_at hl 0 rfl) ?_
    obtain ⟨x5, ex5, hf⟩ := gBind hf
    refine g_geti X hR gk_X1 10 (by decide) q642 rfl ex5 dX1_local_22 ?_
    obtain ⟨u6, eu6, hf⟩ := gBind hf
    refine g_callSi X hR hS [.int (x3 - x4), .int x5] (m_J11_floorMod l G F h n (x3 - x4) x5 eu6) yk_J11_floorMod q1200 rfl hl.1 ⟨Nat.le_of_ble_eq_true rfl, Nat.le_of_ble_eq_true rfl⟩ ⟨Nat.le_of_ble_eq_true rfl, Nat.le_of_ble_eq_true rfl⟩ rfl (Nat.le_of_ble_eq_true rfl) dX1_local_25 (fun H locs hR hS => ?_)
    obtain rfl := gO1 hf
    exact g_iret X hR hS _ rfl ⟨Nat.le_of_ble_eq_true rfl, Nat.le_of_ble_eq_true rfl⟩ dX1_local_28
  · replace hf := gIfp c2 hf
    refine lv_bipush (v := (-5 : Int32)) hx hb dX1_local_7 (by decide) ?_
    refine lv_goto (tgt := 28) hx hb dX1_local_9 (by decide) ?_
    obtain rfl := gO1 hf
    exact g_iret X hR hS _ rfl ⟨Nat.le_of_ble_eq_true rfl, Nat.le_of_ble_eq_true rfl⟩ dX1_local_28

def sp_X1_isHeld (G : gG) (F : Nat) (h : gH) (a0 : Nat) : Option (Int32) :=
 (gGi 1 h a0 10).bind fun x1 =>
 if x1 ≤ 0 then
 some ((0 : Int32)) else
 (gGi 1 h a0 2).bind fun x3 =>
 if x3 = 0 then
 if gIs 1 h a0 = true then
 (sp_X1_local G F h a0).bind fun u6 =>
 (gGi 1 h a0 12).bind fun x7 =>
 if x7 ≤ u6 then
 some ((0 : Int32)) else
 some ((1 : Int32)) else none else
 some ((0 : Int32))
theorem yk_X1_isHeld : gVk yX1_isHeld cX1_isHeld 1 (some .boolean) 0 1 := ⟨q1194, qs19, q93, q1195, ⟨by decide +kernel, by decide +kernel, by decide +kernel⟩, rfl⟩
set_option maxHeartbeats 4000000 in
theorem m_X1_isHeld (l : Launch) (G : gG) (F : Nat) (h : gH) (n : Nat) (a0 : Nat) {r : Int32} (hf : sp_X1_isHeld G F h a0 = some r) : gMet l G yX1_isHeld cX1_isHeld 1 (some .boolean) 2 42 0 0 [.ref a0] h n (some (.int r)) h n := by
  refine gEnter (by decide) [(0, .ref a0)] rfl (Nat.le_of_ble_eq_true rfl) ?_
  intro p e s m below meth c H ls X hin hR hS hl
  have hx := X.1.1
  have hb := X.1.2.1
  unfold sp_X1_isHeld at hf
  generalize ([] : List Loc) = locs at hS ⊢
  refine lv_aload_n hx hb dX1_isHeld_0 rfl (lv_at hl 0 rfl) ?_
  obtain ⟨x1, ex1, hf⟩ := gBind hf
  refine g_geti X hR gk_X1 10 (by decide) q642 rfl ex1 dX1_isHeld_1 ?_
  refine lv_if_le (tgt := 29) hx hb dX1_isHeld_4 (by decide) (fun c2 => ?_) (fun c2 => ?_)
  · replace hf := gIfp c2 hf
    refine lv_iconst (v := (0 : Int32)) hx hb dX1_isHeld_29 (by decide) ?_
    obtain rfl := gO1 hf
    exact g_zret X hR hS _ rfl rfl ⟨Nat.le_of_ble_eq_true rfl, Nat.le_of_ble_eq_true rfl⟩ dX1_isHeld_30
  · replace hf := gIfn c2 hf
    refine lv_aload_n hx hb dX1_isHeld_7 rfl (lv_at hl 0 rfl) ?_
    obtain ⟨x3, ex3, hf⟩ := gBind hf
    refine g_geti X hR gk_X1 2 (by decide) q626 rfl ex3 dX1_isHeld_8 ?_
    refine lv_if_ne (tgt := 29) hx hb dX1_isHeld_11 (by decide) (fun c4 => ?_) (fun c4 => ?_)
    · replace hf := gIfn c4 hf
      refine lv_iconst (v := (0 : Int32)) hx hb dX1_isHeld_29 (by decide) ?_
      obtain rfl := gO1 hf
      exact g_zret X hR hS _ rfl rfl ⟨Nat.le_of_ble_eq_true rfl, Nat.le_of_ble_eq_true rfl⟩ dX1_isHeld_30
    · replace hf := gIfp c4 hf
      refine lv_aload_n hx hb dX1_isHeld_14 rfl (lv_at hl 0 rfl) ?_
      obtain ⟨k5, hf⟩ := gChk hf
      obtain ⟨u6, eu6, hf⟩ := gBind hf
      refine g_callVi X hR hS [] (m_X1_local l G F h n a0 eu6) yk_X1_local q1196 k5 rfl hl.1 ⟨Nat.le_of_ble_eq_true rfl, Nat.le_of_ble_eq_true rfl⟩ ⟨Nat.le_of_ble_eq_true rfl, Nat.le_of_ble_eq_true rfl⟩ rfl (Nat.le_of_ble_eq_true rfl) dX1_isHeld_15 (fun H locs hR hS => ?_)
      refine lv_aload_n hx hb dX1_isHeld_18 rfl (lv_at hl 0 rfl) ?_
      obtain ⟨x7, ex7, hf⟩ := gBind hf
      refine g_geti X hR gk_X1 12 (by decide) q646 rfl ex7 dX1_isHeld_19 ?_
      refine lv_icmp_ge (tgt := 29) hx hb dX1_isHeld_22 (by decide) (fun c8 => ?_) (fun c8 => ?_)
      · replace hf := gIfp c8 hf
        refine lv_iconst (v := (0 : Int32)) hx hb dX1_isHeld_29 (by decide) ?_
        obtain rfl := gO1 hf
        exact g_zret X hR hS _ rfl rfl ⟨Nat.le_of_ble_eq_true rfl, Nat.le_of_ble_eq_true rfl⟩ dX1_isHeld_30
      · replace hf := gIfn c8 hf
        refine lv_iconst (v := (1 : Int32)) hx hb dX1_isHeld_25 (by decide) ?_
        refine lv_goto (tgt := 30) hx hb dX1_isHeld_26 (by decide) ?_
        obtain rfl := gO1 hf
        exact g_zret X hR hS _ rfl rfl ⟨Nat.le_of_ble_eq_true rfl, Nat.le_of_ble_eq_true rfl⟩ dX1_isHeld_30

def sp_X1_isForced (G : gG) (F : Nat) (h : gH) (a0 : Nat) : Option (Int32) :=
 (gGi 1 h a0 10).bind fun x1 =>
 if x1 ≤ 0 then
 some ((0 : Int32)) else
 (gGi 1 h a0 2).bind fun x3 =>
 if x3 = 0 then
 some ((0 : Int32)) else
 if gIs 1 h a0 = true then
 (sp_X1_local G F h a0).bind fun u6 =>
 (gGr 1 h a0 23).bind fun x7 =>
 (gGi 1 h a0 2).bind fun x8 =>
 (gAr 6 h x7 x8).bind fun a9 =>
 (gGi 3 h a9 1).bind fun x10 =>
 if u6 < x10 then
 some ((0 : Int32)) else
 some ((1 : Int32)) else none
theorem yk_X1_isForced : gVk yX1_isForced cX1_isForced 1 (some .boolean) 0 1 := ⟨q1209, qs21, q93, q1210, ⟨by decide +kernel, by decide +kernel, by decide +kernel⟩, rfl⟩
set_option maxHeartbeats 4000000 in
theorem m_X1_isForced (l : Launch) (G : gG) (F : Nat) (h : gH) (n : Nat) (a0 : Nat) {r : Int32} (hf : sp_X1_isForced G F h a0 = some r) : gMet l G yX1_isForced cX1_isForced 1 (some .boolean) 2 42 0 0 [.ref a0] h n (some (.int r)) h n := by
  refine gEnter (by decide) [(0, .ref a0)] rfl (Nat.le_of_ble_eq_true rfl) ?_
  intro p e s m below meth c H ls X hin hR hS hl
  have hx := X.1.1
  have hb := X.1.2.1
  unfold sp_X1_isForced at hf
  generalize ([] : List Loc) = locs at hS ⊢
  refine lv_aload_n hx hb dX1_isForced_0 rfl (lv_at hl 0 rfl) ?_
  obtain ⟨x1, ex1, hf⟩ := gBind hf
  refine g_geti X hR gk_X1 10 (by decide) q642 rfl ex1 dX1_isForced_1 ?_
  refine lv_if_le (tgt := 37) hx hb dX1_isForced_4 (by decide) (fun c2 => ?_) (fun c2 => ?_)
  · replace hf := gIfp c2 hf
    refine lv_iconst (v := (0 : Int32)) hx hb dX1_isForced_37 (by decide) ?_
    obtain rfl := gO1 hf
    exact g_zret X hR hS _ rfl rfl ⟨Nat.le_of_ble_eq_true rfl, Nat.le_of_ble_eq_true rfl⟩ dX1_isForced_38
  · replace hf := gIfn c2 hf
    refine lv_aload_n hx hb dX1_isForced_7 rfl (lv_at hl 0 rfl) ?_
    obtain ⟨x3, ex3, hf⟩ := gBind hf
    refine g_geti X hR gk_X1 2 (by decide) q626 rfl ex3 dX1_isForced_8 ?_
    refine lv_if_eq (tgt := 37) hx hb dX1_isForced_11 (by decide) (fun c4 => ?_) (fun c4 => ?_)
    · replace hf := gIfp c4 hf
      refine lv_iconst (v := (0 : Int32)) hx hb dX1_isForced_37 (by decide) ?_
      obtain rfl := gO1 hf
      exact g_zret X hR hS _ rfl rfl ⟨Nat.le_of_ble_eq_true rfl, Nat.le_of_ble_eq_true rfl⟩ dX1_isForced_38
    · replace hf := gIfn c4 hf
      refine lv_aload_n hx hb dX1_isForced_14 rfl (lv_at hl 0 rfl) ?_
      obtain ⟨k5, hf⟩ := gChk hf
      obtain ⟨u6, eu6, hf⟩ := gBind hf
      refine g_callVi X hR hS [] (m_X1_local l G F h n a0 eu6) yk_X1_local q1196 k5 rfl hl.1 ⟨Nat.le_of_ble_eq_true rfl, Nat.le_of_ble_eq_true rfl⟩ ⟨Nat.le_of_ble_eq_true rfl, Nat.le_of_ble_eq_true rfl⟩ rfl (Nat.le_of_ble_eq_true rfl) dX1_isForced_15 (fun H locs hR hS => ?_)
      refine lv_aload_n hx hb dX1_isForced_18 rfl (lv_at hl 0 rfl) ?_
      obtain ⟨x7, ex7, hf⟩ := gBind hf
      refine g_getr X hR gk_X1 23 (by decide) q667 rfl ex7 dX1_isForced_19 ?_
      refine lv_aload_n hx hb dX1_isForced_22 rfl (lv_at hl 0 rfl) ?_
      obtain ⟨x8, ex8, hf⟩ := gBind hf
      refine g_geti X hR gk_X1 2 (by decide) q626 rfl ex8 dX1_isForced_23 ?_
      obtain ⟨a9, ea9, hf⟩ := gBind hf
      refine g_aald X hR 6 (by decide) rfl ea9 dX1_isForced_26 ?_
      obtain ⟨x10, ex10, hf⟩ := gBind hf
      refine g_getiN X hR gk_X4 1 (by decide) q580 rfl ex10 dX1_isForced_27 ?_
      refine lv_icmp_lt (tgt := 37) hx hb dX1_isForced_30 (by decide) (fun c11 => ?_) (fun c11 => ?_)
      · replace hf := gIfp c11 hf
        refine lv_iconst (v := (0 : Int32)) hx hb dX1_isForced_37 (by decide) ?_
        obtain rfl := gO1 hf
        exact g_zret X hR hS _ rfl rfl ⟨Nat.le_of_ble_eq_true rfl, Nat.le_of_ble_eq_true rfl⟩ dX1_isForced_38
      · replace hf := gIfn c11 hf
        refine lv_iconst (v := (1 : Int32)) hx hb dX1_isForced_33 (by decide) ?_
        refine lv_goto (tgt := 38) hx hb dX1_isForced_34 (by decide) ?_
        obtain rfl := gO1 hf
        exact g_zret X hR hS _ rfl rfl ⟨Nat.le_of_ble_eq_true rfl, Nat.le_of_ble_eq_true rfl⟩ dX1_isForced_38

def sp_X1_isOver_L20 (G : gG) (F : Nat) (h20L : gH) : Nat → Nat → Nat → Int32 → Int32 → Int32 → Option (Int32)
  | 0, _, _, _, _, _ => none
  | f + 1, v20_0, v20_1, v20_2, v20_3, v20_4 =>
    (gGi 1 h20L v20_0 13).bind fun x2101 =>
    if x2101 ≤ v20_4 then
    if v20_2 = 0 then
    if v20_3 = 0 then
    some ((0 : Int32)) else
    some ((1 : Int32)) else
    some ((1 : Int32)) else
    (gGr 1 h20L v20_0 22).bind fun x2105 =>
    (gAr 5 h20L x2105 v20_4).bind fun a2106 =>
    if gIs 3 h20L v20_1 = true then
    (sp_X4_has G F h20L v20_1 v20_4).bind fun u2108 =>
    if u2108 = 0 then
    sp_X1_isOver_L20 G F h20L f v20_0 v20_1 v20_2 v20_3 (v20_4 + (1 : Int32)) else
    if gIs 2 h20L a2106 = true then
    (sp_X2_least G F h20L a2106).bind fun u2111 =>
    (gGi 1 h20L v20_0 1).bind fun x2112 =>
    if gIs 2 h20L a2106 = true then
    (sp_X2_isGreenFor G F h20L a2106 u2111 x2112).bind fun u2114 =>
    if u2114 = 0 then
    some ((0 : Int32)) else
    if gIs 2 h20L a2106 = true then
    (sp_X2_most G F h20L a2106).bind fun u2117 =>
    (gGi 1 h20L v20_0 1).bind fun x2118 =>
    if gIs 2 h20L a2106 = true then
    (sp_X2_isGreenFor G F h20L a2106 u2117 x2118).bind fun u2120 =>
    (gGi 1 h20L v20_0 1).bind fun x2121 =>
    if gIs 2 h20L a2106 = true then
    (sp_X2_isGapped G F h20L a2106 x2121).bind fun u2123 =>
    sp_X1_isOver_L20 G F h20L f v20_0 v20_1 (v20_2 ||| u2120) (v20_3 &&& u2123) (v20_4 + (1 : Int32)) else none else none else none else none else none else none
def sp_X1_isOver (G : gG) (F : Nat) (h : gH) (a0 : Nat) : Option (Int32) :=
 (gGr 1 h a0 23).bind fun x1 =>
 (gGi 1 h a0 2).bind fun x2 =>
 (gAr 6 h x1 x2).bind fun a3 =>
 if gIs 1 h a0 = true then
 (sp_X1_isForced G F h a0).bind fun u5 =>
 sp_X1_isOver_L20 G F h F a0 a3 u5 (1 : Int32) (0 : Int32) else none
theorem yk_X1_isOver : gVk yX1_isOver cX1_isOver 6 (some .boolean) 0 1 := ⟨q1205, qs20, q93, q1206, ⟨by decide +kernel, by decide +kernel, by decide +kernel⟩, rfl⟩
set_option maxHeartbeats 4000000 in
theorem m_X1_isOver (l : Launch) (G : gG) (F : Nat) (h : gH) (n : Nat) (a0 : Nat) {r : Int32} (hf : sp_X1_isOver G F h a0 = some r) : gMet l G yX1_isOver cX1_isOver 6 (some .boolean) 3 62 0 0 [.ref a0] h n (some (.int r)) h n := by
  refine gEnter (by decide) [(0, .ref a0)] rfl (Nat.le_of_ble_eq_true rfl) ?_
  intro p e s m below meth c H ls X hin hR hS hl
  have hx := X.1.1
  have hb := X.1.2.1
  unfold sp_X1_isOver at hf
  generalize ([] : List Loc) = locs at hS ⊢
  refine lv_aload_n hx hb dX1_isOver_0 rfl (lv_at hl 0 rfl) ?_
  obtain ⟨x1, ex1, hf⟩ := gBind hf
  refine g_getr X hR gk_X1 23 (by decide) q667 rfl ex1 dX1_isOver_1 ?_
  refine lv_aload_n hx hb dX1_isOver_4 rfl (lv_at hl 0 rfl) ?_
  obtain ⟨x2, ex2, hf⟩ := gBind hf
  refine g_geti X hR gk_X1 2 (by decide) q626 rfl ex2 dX1_isOver_5 ?_
  obtain ⟨a3, ea3, hf⟩ := gBind hf
  refine g_aald X hR 6 (by decide) rfl ea3 dX1_isOver_8 ?_
  refine lv_astore_n (lv' := [(1, .ref a3), (0, .ref a0)]) hx hb dX1_isOver_9 rfl hl (by decide) rfl (fun ls hl => ?_)
  refine lv_aload_n hx hb dX1_isOver_10 rfl (lv_at hl 1 rfl) ?_
  obtain ⟨k4, hf⟩ := gChk hf
  obtain ⟨u5, eu5, hf⟩ := gBind hf
  refine g_callVi X hR hS [] (m_X1_isForced l G F h n a0 eu5) yk_X1_isForced q1207 k4 rfl hl.1 ⟨Nat.le_of_ble_eq_true rfl, Nat.le_of_ble_eq_true rfl⟩ ⟨Nat.le_of_ble_eq_true rfl, Nat.le_of_ble_eq_true rfl⟩ rfl (Nat.le_of_ble_eq_true rfl) dX1_isOver_11 (fun H locs hR hS => ?_)
  refine lv_istore_n (lv' := [(2, .int u5), (1, .ref a3), (0, .ref a0)]) hx hb dX1_isOver_14 rfl hl (by decide) rfl (fun ls hl => ?_)
  refine lv_iconst (v := (1 : Int32)) hx hb dX1_isOver_15 (by decide) ?_
  refine lv_istore_n (lv' := [(3, .int (1 : Int32)), (2, .int u5), (1, .ref a3), (0, .ref a0)]) hx hb dX1_isOver_16 rfl hl (by decide) rfl (fun ls hl => ?_)
  refine lv_iconst (v := (0 : Int32)) hx hb dX1_isOver_17 (by decide) ?_
  refine lv_istore (lv' := [(4, .int (0 : Int32)), (3, .int (1 : Int32)), (2, .int u5), (1, .ref a3), (0, .ref a0)]) hx hb dX1_isOver_18 hl (by decide) rfl (fun ls hl => ?_)
  have L20_q6 : ∀ (f : Nat) (v20_0 : Nat) (v20_1 : Nat) (v20_2 : Int32) (v20_3 : Int32) (v20_4 : Int32) (H : Heap) (locs : List Loc) (ls : Array Slot), sp_X1_isOver_L20 G F h f v20_0 v20_1 v20_2 v20_3 v20_4 = some r → gRep G h n H → va_S (gFr G) s.heap H locs → lv_has ls 6 [(0, .ref v20_0), (1, .ref v20_1), (2, .int v20_2), (3, .int v20_3), (4, .int v20_4)] → W p l e ({ frames := 3, cells := 0, slots := 0, locals := 62 } : Room) s m ([.ref a0] : List Value).toArray below meth c H locs 0 0 (MQ below (gQ G (some (.int r)) h n) ([.ref a0] : List Value).toArray s 0 0 (gFr G)) (F0 m 20 ls []) := by
    clear hf
    intro f
    induction f with
    | zero =>
      intro v20_0 v20_1 v20_2 v20_3 v20_4 H locs ls hf
      cases hf
    | succ f ih =>
      intro v20_0 v20_1 v20_2 v20_3 v20_4 H locs ls hf hR hS hl
      rw [sp_X1_isOver_L20] at hf
      refine lv_iload hx hb dX1_isOver_20 (lv_at hl 4 rfl) ?_
      refine lv_aload_n hx hb dX1_isOver_22 rfl (lv_at hl 0 rfl) ?_
      obtain ⟨x2101, ex2101, hf⟩ := gBind hf
      refine g_geti X hR gk_X1 13 (by decide) q648 rfl ex2101 dX1_isOver_23 ?_
      refine lv_icmp_ge (tgt := 104) hx hb dX1_isOver_26 (by decide) (fun c2102 => ?_) (fun c2102 => ?_)
      · replace hf := gIfp c2102 hf
        refine lv_iload_n hx hb dX1_isOver_104 rfl (lv_at hl 2 rfl) ?_
        refine lv_if_ne (tgt := 112) hx hb dX1_isOver_105 (by decide) (fun c2103 => ?_) (fun c2103 => ?_)
        · replace hf := gIfn c2103 hf
          refine lv_iconst (v := (1 : Int32)) hx hb dX1_isOver_112 (by decide) ?_
          refine lv_goto (tgt := 117) hx hb dX1_isOver_113 (by decide) ?_
          obtain rfl := gO1 hf
          exact g_zret X hR hS _ rfl rfl ⟨Nat.le_of_ble_eq_true rfl, Nat.le_of_ble_eq_true rfl⟩ dX1_isOver_117
        · replace hf := gIfp c2103 hf
          refine lv_iload_n hx hb dX1_isOver_108 rfl (lv_at hl 3 rfl) ?_
          refine lv_if_eq (tgt := 116) hx hb dX1_isOver_109 (by decide) (fun c2104 => ?_) (fun c2104 => ?_)
          · replace hf := gIfp c2104 hf
            refine lv_iconst (v := (0 : Int32)) hx hb dX1_isOver_116 (by decide) ?_
            obtain rfl := gO1 hf
            exact g_zret X hR hS _ rfl rfl ⟨Nat.le_of_ble_eq_true rfl, Nat.le_of_ble_eq_true rfl⟩ dX1_isOver_117
          · replace hf := gIfn c2104 hf
            refine lv_iconst (v := (1 : Int32)) hx hb dX1_isOver_112 (by decide) ?_
            refine lv_goto (tgt := 117) hx hb dX1_isOver_113 (by decide) ?_
            obtain rfl := gO1 hf
            exact g_zret X hR hS _ rfl rfl ⟨Nat.le_of_ble_eq_true rfl, Nat.le_of_ble_eq_true rfl⟩ dX1_isOver_117
      · replace hf := gIfn c2102 hf
        refine lv_aload_n hx hb dX1_isOver_29 rfl (lv_at hl 0 rfl) ?_
        obtain ⟨x2105, ex2105, hf⟩ := gBind hf
        refine g_getr X hR gk_X1 22 (by decide) q665 rfl ex2105 dX1_isOver_30 ?_
        refine lv_iload hx hb dX1_isOver_33 (lv_at hl 4 rfl) ?_
        obtain ⟨a2106, ea2106, hf⟩ := gBind hf
        refine g_aald X hR 5 (by decide) rfl ea2106 dX1_isOver_35 ?_
        refine lv_astore (lv' := [(5, .ref a2106), (0, .ref v20_0), (1, .ref v20_1), (2, .int v20_2), (3, .int v20_3), (4, .int v20_4)]) hx hb dX1_isOver_36 hl (by decide) rfl (fun ls hl => ?_)
        refine lv_aload_n hx hb dX1_isOver_38 rfl (lv_at hl 2 rfl) ?_
        refine lv_iload hx hb dX1_isOver_39 (lv_at hl 5 rfl) ?_
        obtain ⟨k2107, hf⟩ := gChk hf
        obtain ⟨u2108, eu2108, hf⟩ := gBind hf
        refine g_callVi X hR hS [.int v20_4] (m_X4_has l G F h n v20_1 v20_4 eu2108) yk_X4_has q1116 k2107 rfl hl.1 ⟨Nat.le_of_ble_eq_true rfl, Nat.le_of_ble_eq_true rfl⟩ ⟨Nat.le_of_ble_eq_true rfl, Nat.le_of_ble_eq_true rfl⟩ rfl (Nat.le_of_ble_eq_true rfl) dX1_isOver_41 (fun H locs hR hS => ?_)
        refine lv_if_ne (tgt := 50) hx hb dX1_isOver_44 (by decide) (fun c2109 => ?_) (fun c2109 => ?_)
        · replace hf := gIfn c2109 hf
          refine lv_aload hx hb dX1_isOver_50 (lv_at hl 0 rfl) ?_
          refine lv_aload hx hb dX1_isOver_52 (lv_at hl 0 rfl) ?_
          obtain ⟨k2110, hf⟩ := gChk hf
          obtain ⟨u2111, eu2111, hf⟩ := gBind hf
          refine g_callVi X hR hS [] (m_X2_least l G F h n a2106 eu2111) yk_X2_least q1163 k2110 rfl hl.1 ⟨Nat.le_of_ble_eq_true rfl, Nat.le_of_ble_eq_true rfl⟩ ⟨Nat.le_of_ble_eq_true rfl, Nat.le_of_ble_eq_true rfl⟩ rfl (Nat.le_of_ble_eq_true rfl) dX1_isOver_54 (fun H locs hR hS => ?_)
          refine lv_aload_n hx hb dX1_isOver_57 rfl (lv_at hl 1 rfl) ?_
          obtain ⟨x2112, ex2112, hf⟩ := gBind hf
          refine g_geti X hR gk_X1 1 (by decide) q624 rfl ex2112 dX1_isOver_58 ?_
          obtain ⟨k2113, hf⟩ := gChk hf
          obtain ⟨u2114, eu2114, hf⟩ := gBind hf
          refine g_callVi X hR hS [.int u2111, .int x2112] (m_X2_isGreenFor l G F h n a2106 u2111 x2112 eu2114) yk_X2_isGreenFor q1164 k2113 rfl hl.1 ⟨Nat.le_of_ble_eq_true rfl, Nat.le_of_ble_eq_true rfl⟩ ⟨Nat.le_of_ble_eq_true rfl, Nat.le_of_ble_eq_true rfl⟩ rfl (Nat.le_of_ble_eq_true rfl) dX1_isOver_61 (fun H locs hR hS => ?_)
          refine lv_if_ne (tgt := 69) hx hb dX1_isOver_64 (by decide) (fun c2115 => ?_) (fun c2115 => ?_)
          · replace hf := gIfn c2115 hf
            refine lv_iload_n hx hb dX1_isOver_69 rfl (lv_at hl 3 rfl) ?_
            refine lv_aload hx hb dX1_isOver_70 (lv_at hl 0 rfl) ?_
            refine lv_aload hx hb dX1_isOver_72 (lv_at hl 0 rfl) ?_
            obtain ⟨k2116, hf⟩ := gChk hf
            obtain ⟨u2117, eu2117, hf⟩ := gBind hf
            refine g_callVi X hR hS [] (m_X2_most l G F h n a2106 eu2117) yk_X2_most q1211 k2116 rfl hl.1 ⟨Nat.le_of_ble_eq_true rfl, Nat.le_of_ble_eq_true rfl⟩ ⟨Nat.le_of_ble_eq_true rfl, Nat.le_of_ble_eq_true rfl⟩ rfl (Nat.le_of_ble_eq_true rfl) dX1_isOver_74 (fun H locs hR hS => ?_)
            refine lv_aload_n hx hb dX1_isOver_77 rfl (lv_at hl 1 rfl) ?_
            obtain ⟨x2118, ex2118, hf⟩ := gBind hf
            refine g_geti X hR gk_X1 1 (by decide) q624 rfl ex2118 dX1_isOver_78 ?_
            obtain ⟨k2119, hf⟩ := gChk hf
            obtain ⟨u2120, eu2120, hf⟩ := gBind hf
            refine g_callVi X hR hS [.int u2117, .int x2118] (m_X2_isGreenFor l G F h n a2106 u2117 x2118 eu2120) yk_X2_isGreenFor q1164 k2119 rfl hl.1 ⟨Nat.le_of_ble_eq_true rfl, Nat.le_of_ble_eq_true rfl⟩ ⟨Nat.le_of_ble_eq_true rfl, Nat.le_of_ble_eq_true rfl⟩ rfl (Nat.le_of_ble_eq_true rfl) dX1_isOver_81 (fun H locs hR hS => ?_)
            refine lv_ior hx hb dX1_isOver_84 ?_
            refine lv_istore_n (lv' := [(2, .int (v20_2 ||| u2120)), (5, .ref a2106), (0, .ref v20_0), (1, .ref v20_1), (3, .int v20_3), (4, .int v20_4)]) hx hb dX1_isOver_85 rfl hl (by decide) rfl (fun ls hl => ?_)
            refine lv_iload_n hx hb dX1_isOver_86 rfl (lv_at hl 4 rfl) ?_
            refine lv_aload hx hb dX1_isOver_87 (lv_at hl 1 rfl) ?_
            refine lv_aload_n hx hb dX1_isOver_89 rfl (lv_at hl 2 rfl) ?_
            obtain ⟨x2121, ex2121, hf⟩ := gBind hf
            refine g_geti X hR gk_X1 1 (by decide) q624 rfl ex2121 dX1_isOver_90 ?_
            obtain ⟨k2122, hf⟩ := gChk hf
            obtain ⟨u2123, eu2123, hf⟩ := gBind hf
            refine g_callVi X hR hS [.int x2121] (m_X2_isGapped l G F h n a2106 x2121 eu2123) yk_X2_isGapped q1212 k2122 rfl hl.1 ⟨Nat.le_of_ble_eq_true rfl, Nat.le_of_ble_eq_true rfl⟩ ⟨Nat.le_of_ble_eq_true rfl, Nat.le_of_ble_eq_true rfl⟩ rfl (Nat.le_of_ble_eq_true rfl) dX1_isOver_93 (fun H locs hR hS => ?_)
            refine lv_iand hx hb dX1_isOver_96 ?_
            refine lv_istore_n (lv' := [(3, .int (v20_3 &&& u2123)), (2, .int (v20_2 ||| u2120)), (5, .ref a2106), (0, .ref v20_0), (1, .ref v20_1), (4, .int v20_4)]) hx hb dX1_isOver_97 rfl hl (by decide) rfl (fun ls hl => ?_)
            refine lv_iinc (v := v20_4 + (1 : Int32)) (lv' := [(4, .int (v20_4 + (1 : Int32))), (3, .int (v20_3 &&& u2123)), (2, .int (v20_2 ||| u2120)), (5, .ref a2106), (0, .ref v20_0), (1, .ref v20_1)]) hx hb dX1_isOver_98 hl (k := 5) rfl rfl (by decide) rfl (fun ls hl => ?_)
            refine lv_goto (tgt := 20) hx hb dX1_isOver_101 (by decide) ?_
            exact ih v20_0 v20_1 (v20_2 ||| u2120) (v20_3 &&& u2123) (v20_4 + (1 : Int32)) _ _ _ hf hR hS (lv_sub hl [4, 5, 2, 1, 0] rfl)
          · replace hf := gIfp c2115 hf
            refine lv_iconst (v := (0 : Int32)) hx hb dX1_isOver_67 (by decide) ?_
            obtain rfl := gO1 hf
            exact g_zret X hR hS _ rfl rfl ⟨Nat.le_of_ble_eq_true rfl, Nat.le_of_ble_eq_true rfl⟩ dX1_isOver_68
        · replace hf := gIfp c2109 hf
          refine lv_goto (tgt := 98) hx hb dX1_isOver_47 (by decide) ?_
          refine lv_iinc (v := v20_4 + (1 : Int32)) (lv' := [(4, .int (v20_4 + (1 : Int32))), (5, .ref a2106), (0, .ref v20_0), (1, .ref v20_1), (2, .int v20_2), (3, .int v20_3)]) hx hb dX1_isOver_98 hl (k := 5) rfl rfl (by decide) rfl (fun ls hl => ?_)
          refine lv_goto (tgt := 20) hx hb dX1_isOver_101 (by decide) ?_
          exact ih v20_0 v20_1 v20_2 v20_3 (v20_4 + (1 : Int32)) _ _ _ hf hR hS (lv_sub hl [2, 3, 4, 5, 0] rfl)
  exact L20_q6 F a0 a3 u5 (1 : Int32) (0 : Int32) _ _ _ hf hR hS (lv_sub hl [4, 3, 2, 1, 0] rfl)

def sp_X1_changes (G : gG) (F : Nat) (h : gH) (a0 : Nat) : Option (gH) :=
 (gGi 1 h a0 4).bind fun x1 =>
 if x1 = (-5 : Int32) then
 (gGi 1 h a0 3).bind fun x3 =>
 (if x3 = (-5 : Int32) then
 if gIs 1 h a0 = true then
 (sp_X1_firstCalled G F h a0).bind fun u6 =>
 some (u6) else none else
 (gGi 1 h a0 3).bind fun x7 =>
 if gIs 1 h a0 = true then
 (sp_X1_isCalled G F h a0 x7).bind fun u9 =>
 if u9 = 0 then
 if gIs 1 h a0 = true then
 (sp_X1_firstCalled G F h a0).bind fun u12 =>
 some (u12) else none else
 (gGi 1 h a0 3).bind fun x13 =>
 some (x13) else none).bind fun j14 =>
 if j14 = (-5 : Int32) then
 some (h) else
 if gIs 1 h a0 = true then
 (sp_X1_isHeld G F h a0).bind fun u17 =>
 if u17 = 0 then
 if gIs 1 h a0 = true then
 (sp_X1_isOver G F h a0).bind fun u20 =>
 if u20 = 0 then
 some (h) else
 (gPv 1 h a0 3 (.int (-5 : Int32))).bind fun h22 =>
 if gIs 1 h22 a0 = true then
 (sp_X1_changesTo G F h22 a0 j14).bind fun u24 =>
 some (u24) else none else none else
 some (h) else none else
 if gIs 1 h a0 = true then
 (sp_X1_isCutShort G F h a0).bind fun u26 =>
 some (u26) else none
theorem yk_X1_changes : gVk yX1_changes cX1_changes 2 none 0 1 := ⟨q1157, qs14, q93, q1158, ⟨by decide +kernel, by decide +kernel, by decide +kernel⟩, rfl⟩
set_option maxHeartbeats 4000000 in
theorem m_X1_changes (l : Launch) (G : gG) (F : Nat) (h : gH) (n : Nat) (a0 : Nat) {h' : gH} (hf : sp_X1_changes G F h a0 = some h') : gMet l G yX1_changes cX1_changes 2 none 4 91 0 0 [.ref a0] h n none h' n := by
  refine gEnter (by decide) [(0, .ref a0)] rfl (Nat.le_of_ble_eq_true rfl) ?_
  intro p e s m below meth c H ls X hin hR hS hl
  have hx := X.1.1
  have hb := X.1.2.1
  unfold sp_X1_changes at hf
  generalize ([] : List Loc) = locs at hS ⊢
  refine lv_aload_n hx hb dX1_changes_0 rfl (lv_at hl 0 rfl) ?_
  obtain ⟨x1, ex1, hf⟩ := gBind hf
  refine g_geti X hR gk_X1 4 (by decide) q630 rfl ex1 dX1_changes_1 ?_
  refine lv_bipush (v := (-5 : Int32)) hx hb dX1_changes_4 (by decide) ?_
  refine lv_icmp_eq (tgt := 14) hx hb dX1_changes_6 (by decide) (fun c2 => ?_) (fun c2 => ?_)
  · replace hf := gIfp c2 hf
    refine lv_aload_n hx hb dX1_changes_14 rfl (lv_at hl 0 rfl) ?_
    obtain ⟨x3, ex3, hf⟩ := gBind hf
    refine g_geti X hR gk_X1 3 (by decide) q628 rfl ex3 dX1_changes_15 ?_
    refine lv_bipush (v := (-5 : Int32)) hx hb dX1_changes_18 (by decide) ?_
    obtain ⟨j14, ej14, hf⟩ := gBind hf
    have J45_j14 : ∀ (H : Heap) (locs : List Loc) (ls : Array Slot), gRep G h n H → va_S (gFr G) s.heap H locs → lv_has ls 2 [(0, .ref a0)] → W p l e ({ frames := 4, cells := 0, slots := 0, locals := 91 } : Room) s m ([.ref a0] : List Value).toArray below meth c H locs 0 0 (MQ below (gQ G none h' n) ([.ref a0] : List Value).toArray s 0 0 (gFr G)) (F0 m 45 ls [.int j14]) := by
      intro H locs ls hR hS hl
      refine lv_istore_n (lv' := [(1, .int j14), (0, .ref a0)]) hx hb dX1_changes_45 rfl hl (by decide) rfl (fun ls hl => ?_)
      refine lv_iload_n hx hb dX1_changes_46 rfl (lv_at hl 0 rfl) ?_
      refine lv_bipush (v := (-5 : Int32)) hx hb dX1_changes_47 (by decide) ?_
      refine lv_icmp_eq (tgt := 66) hx hb dX1_changes_49 (by decide) (fun c15 => ?_) (fun c15 => ?_)
      · replace hf := gIfp c15 hf
        obtain rfl := gO1 hf
        exact g_vret X hR hS rfl ⟨Nat.le_of_ble_eq_true rfl, Nat.le_of_ble_eq_true rfl⟩ dX1_changes_66
      · replace hf := gIfn c15 hf
        refine lv_aload_n hx hb dX1_changes_52 rfl (lv_at hl 1 rfl) ?_
        obtain ⟨k16, hf⟩ := gChk hf
        obtain ⟨u17, eu17, hf⟩ := gBind hf
        refine g_callVi X hR hS [] (m_X1_isHeld l G F h n a0 eu17) yk_X1_isHeld q1192 k16 rfl hl.1 ⟨Nat.le_of_ble_eq_true rfl, Nat.le_of_ble_eq_true rfl⟩ ⟨Nat.le_of_ble_eq_true rfl, Nat.le_of_ble_eq_true rfl⟩ rfl (Nat.le_of_ble_eq_true rfl) dX1_changes_53 (fun H locs hR hS => ?_)
        refine lv_if_ne (tgt := 66) hx hb dX1_changes_56 (by decide) (fun c18 => ?_) (fun c18 => ?_)
        · replace hf := gIfn c18 hf
          obtain rfl := gO1 hf
          exact g_vret X hR hS rfl ⟨Nat.le_of_ble_eq_true rfl, Nat.le_of_ble_eq_true rfl⟩ dX1_changes_66
        · replace hf := gIfp c18 hf
          refine lv_aload_n hx hb dX1_changes_59 rfl (lv_at hl 1 rfl) ?_
          obtain ⟨k19, hf⟩ := gChk hf
          obtain ⟨u20, eu20, hf⟩ := gBind hf
          refine g_callVi X hR hS [] (m_X1_isOver l G F h n a0 eu20) yk_X1_isOver q1203 k19 rfl hl.1 ⟨Nat.le_of_ble_eq_true rfl, Nat.le_of_ble_eq_true rfl⟩ ⟨Nat.le_of_ble_eq_true rfl, Nat.le_of_ble_eq_true rfl⟩ rfl (Nat.le_of_ble_eq_true rfl) dX1_changes_60 (fun H locs hR hS => ?_)
          refine lv_if_ne (tgt := 67) hx hb dX1_changes_63 (by decide) (fun c21 => ?_) (fun c21 => ?_)
          · replace hf := gIfn c21 hf
            refine lv_aload_n hx hb dX1_changes_67 rfl (lv_at hl 1 rfl) ?_
            refine lv_bipush (v := (-5 : Int32)) hx hb dX1_changes_68 (by decide) ?_
            obtain ⟨h22, eh22, hf⟩ := gBind hf
            refine g_put X hR hS gk_X1 3 (by decide) q628 rfl rfl eh22 rfl rfl rfl dX1_changes_70 (fun H locs hR hS => ?_)
            refine lv_aload_n hx hb dX1_changes_73 rfl (lv_at hl 1 rfl) ?_
            refine lv_iload_n hx hb dX1_changes_74 rfl (lv_at hl 0 rfl) ?_
            obtain ⟨k23, hf⟩ := gChk hf
            obtain ⟨u24, eu24, hf⟩ := gBind hf
            refine g_callVv X hR hS [.int j14] (m_X1_changesTo l G F h22 n a0 j14 eu24) yk_X1_changesTo q1168 k23 rfl hl.1 ⟨Nat.le_of_ble_eq_true rfl, Nat.le_of_ble_eq_true rfl⟩ ⟨Nat.le_of_ble_eq_true rfl, Nat.le_of_ble_eq_true rfl⟩ rfl (Nat.le_of_ble_eq_true rfl) dX1_changes_75 (fun H locs hR hS => ?_)
            obtain rfl := gO1 hf
            exact g_vret X hR hS rfl ⟨Nat.le_of_ble_eq_true rfl, Nat.le_of_ble_eq_true rfl⟩ dX1_changes_78
          · replace hf := gIfp c21 hf
            obtain rfl := gO1 hf
            exact g_vret X hR hS rfl ⟨Nat.le_of_ble_eq_true rfl, Nat.le_of_ble_eq_true rfl⟩ dX1_changes_66
    replace hf := ej14
    clear ej14
    refine lv_icmp_eq (tgt := 41) hx hb dX1_changes_20 (by decide) (fun c4 => ?_) (fun c4 => ?_)
    · replace hf := gIfp c4 hf
      refine lv_aload_n hx hb dX1_changes_41 rfl (lv_at hl 0 rfl) ?_
      obtain ⟨k5, hf⟩ := gChk hf
      obtain ⟨u6, eu6, hf⟩ := gBind hf
      refine g_callVi X hR hS [] (m_X1_firstCalled l G F h n a0 eu6) yk_X1_firstCalled q1188 k5 rfl hl.1 ⟨Nat.le_of_ble_eq_true rfl, Nat.le_of_ble_eq_true rfl⟩ ⟨Nat.le_of_ble_eq_true rfl, Nat.le_of_ble_eq_true rfl⟩ rfl (Nat.le_of_ble_eq_true rfl) dX1_changes_42 (fun H locs hR hS => ?_)
      obtain rfl := gO1 hf
      exact J45_j14 _ _ _ hR hS (lv_sub hl [0] rfl)
    · replace hf := gIfn c4 hf
      refine lv_aload_n hx hb dX1_changes_23 rfl (lv_at hl 0 rfl) ?_
      refine lv_aload_n hx hb dX1_changes_24 rfl (lv_at hl 0 rfl) ?_
      obtain ⟨x7, ex7, hf⟩ := gBind hf
      refine g_geti X hR gk_X1 3 (by decide) q628 rfl ex7 dX1_changes_25 ?_
      obtain ⟨k8, hf⟩ := gChk hf
      obtain ⟨u9, eu9, hf⟩ := gBind hf
      refine g_callVi X hR hS [.int x7] (m_X1_isCalled l G F h n a0 x7 eu9) yk_X1_isCalled q1180 k8 rfl hl.1 ⟨Nat.le_of_ble_eq_true rfl, Nat.le_of_ble_eq_true rfl⟩ ⟨Nat.le_of_ble_eq_true rfl, Nat.le_of_ble_eq_true rfl⟩ rfl (Nat.le_of_ble_eq_true rfl) dX1_changes_28 (fun H locs hR hS => ?_)
      refine lv_if_eq (tgt := 41) hx hb dX1_changes_31 (by decide) (fun c10 => ?_) (fun c10 => ?_)
      · replace hf := gIfp c10 hf
        refine lv_aload_n hx hb dX1_changes_41 rfl (lv_at hl 0 rfl) ?_
        obtain ⟨k11, hf⟩ := gChk hf
        obtain ⟨u12, eu12, hf⟩ := gBind hf
        refine g_callVi X hR hS [] (m_X1_firstCalled l G F h n a0 eu12) yk_X1_firstCalled q1188 k11 rfl hl.1 ⟨Nat.le_of_ble_eq_true rfl, Nat.le_of_ble_eq_true rfl⟩ ⟨Nat.le_of_ble_eq_true rfl, Nat.le_of_ble_eq_true rfl⟩ rfl (Nat.le_of_ble_eq_true rfl) dX1_changes_42 (fun H locs hR hS => ?_)
        obtain rfl := gO1 hf
        exact J45_j14 _ _ _ hR hS (lv_sub hl [0] rfl)
      · replace hf := gIfn c10 hf
        refine lv_aload_n hx hb dX1_changes_34 rfl (lv_at hl 0 rfl) ?_
        obtain ⟨x13, ex13, hf⟩ := gBind hf
        refine g_geti X hR gk_X1 3 (by decide) q628 rfl ex13 dX1_changes_35 ?_
        refine lv_goto (tgt := 45) hx hb dX1_changes_38 (by decide) ?_
        obtain rfl := gO1 hf
        exact J45_j14 _ _ _ hR hS (lv_sub hl [0] rfl)
  · replace hf := gIfn c2 hf
    refine lv_aload_n hx hb dX1_changes_9 rfl (lv_at hl 0 rfl) ?_
    obtain ⟨k25, hf⟩ := gChk hf
    obtain ⟨u26, eu26, hf⟩ := gBind hf
    refine g_callVv X hR hS [] (m_X1_isCutShort l G F h n a0 eu26) yk_X1_isCutShort q1159 k25 rfl hl.1 ⟨Nat.le_of_ble_eq_true rfl, Nat.le_of_ble_eq_true rfl⟩ ⟨Nat.le_of_ble_eq_true rfl, Nat.le_of_ble_eq_true rfl⟩ rfl (Nat.le_of_ble_eq_true rfl) dX1_changes_10 (fun H locs hR hS => ?_)
    obtain rfl := gO1 hf
    exact g_vret X hR hS rfl ⟨Nat.le_of_ble_eq_true rfl, Nat.le_of_ble_eq_true rfl⟩ dX1_changes_13

def sp_X1_mayTurn_L2 (G : gG) (F : Nat) (h2L : gH) : Nat → Nat → Int32 → Int32 → Option (Int32)
  | 0, _, _, _ => none
  | f + 1, v2_0, v2_1, v2_2 =>
    (gGi 1 h2L v2_0 13).bind fun x301 =>
    if x301 ≤ v2_2 then
    some ((1 : Int32)) else
    if gIs 1 h2L v2_0 = true then
    (sp_X1_clearOf G F h2L v2_0 v2_2 v2_1).bind fun u304 =>
    if u304 < 0 then
    sp_X1_mayTurn_L2 G F h2L f v2_0 v2_1 (v2_2 + (1 : Int32)) else
    (gGr 1 h2L v2_0 22).bind fun x306 =>
    (gAr 5 h2L x306 v2_2).bind fun a307 =>
    (gGi 2 h2L a307 8).bind fun x308 =>
    if x308 = (-5 : Int32) then
    sp_X1_mayTurn_L2 G F h2L f v2_0 v2_1 (v2_2 + (1 : Int32)) else
    (gGi 1 h2L v2_0 1).bind fun x310 =>
    (gGr 1 h2L v2_0 22).bind fun x311 =>
    (gAr 5 h2L x311 v2_2).bind fun a312 =>
    (gGi 2 h2L a312 8).bind fun x313 =>
    if u304 ≤ (x310 - x313) then
    sp_X1_mayTurn_L2 G F h2L f v2_0 v2_1 (v2_2 + (1 : Int32)) else
    some ((0 : Int32)) else none
def sp_X1_mayTurn (G : gG) (F : Nat) (h : gH) (a0 : Nat) (p1 : Int32) : Option (Int32) :=
 sp_X1_mayTurn_L2 G F h F a0 p1 (0 : Int32)
theorem yk_X1_mayTurn : gVk yX1_mayTurn cX1_mayTurn 4 (some .boolean) 1 1 := ⟨q1226, qs23, q93, q1227, ⟨by decide +kernel, by decide +kernel, by decide +kernel⟩, rfl⟩
set_option maxHeartbeats 4000000 in
theorem m_X1_mayTurn (l : Launch) (G : gG) (F : Nat) (h : gH) (n : Nat) (a0 : Nat) (p1 : Int32) {r : Int32} (hf : sp_X1_mayTurn G F h a0 p1 = some r) : gMet l G yX1_mayTurn cX1_mayTurn 4 (some .boolean) 1 22 0 0 [.ref a0, .int p1] h n (some (.int r)) h n := by
  refine gEnter (by decide) [(0, .ref a0), (1, .int p1)] rfl (Nat.le_of_ble_eq_true rfl) ?_
  intro p e s m below meth c H ls X hin hR hS hl
  have hx := X.1.1
  have hb := X.1.2.1
  unfold sp_X1_mayTurn at hf
  generalize ([] : List Loc) = locs at hS ⊢
  refine lv_iconst (v := (0 : Int32)) hx hb dX1_mayTurn_0 (by decide) ?_
  refine lv_istore_n (lv' := [(2, .int (0 : Int32)), (0, .ref a0), (1, .int p1)]) hx hb dX1_mayTurn_1 rfl hl (by decide) rfl (fun ls hl => ?_)
  have L2_q1 : ∀ (f : Nat) (v2_0 : Nat) (v2_1 : Int32) (v2_2 : Int32) (H : Heap) (locs : List Loc) (ls : Array Slot), sp_X1_mayTurn_L2 G F h f v2_0 v2_1 v2_2 = some r → gRep G h n H → va_S (gFr G) s.heap H locs → lv_has ls 4 [(0, .ref v2_0), (1, .int v2_1), (2, .int v2_2)] → W p l e ({ frames := 1, cells := 0, slots := 0, locals := 22 } : Room) s m ([.ref a0, .int p1] : List Value).toArray below meth c H locs 0 0 (MQ below (gQ G (some (.int r)) h n) ([.ref a0, .int p1] : List Value).toArray s 0 0 (gFr G)) (F0 m 2 ls []) := by
    clear hf
    intro f
    induction f with
    | zero =>
      intro v2_0 v2_1 v2_2 H locs ls hf
      cases hf
    | succ f ih =>
      intro v2_0 v2_1 v2_2 H locs ls hf hR hS hl
      rw [sp_X1_mayTurn_L2] at hf
      refine lv_iload_n hx hb dX1_mayTurn_2 rfl (lv_at hl 2 rfl) ?_
      refine lv_aload_n hx hb dX1_mayTurn_3 rfl (lv_at hl 0 rfl) ?_
      obtain ⟨x301, ex301, hf⟩ := gBind hf
      refine g_geti X hR gk_X1 13 (by decide) q648 rfl ex301 dX1_mayTurn_4 ?_
      refine lv_icmp_ge (tgt := 61) hx hb dX1_mayTurn_7 (by decide) (fun c302 => ?_) (fun c302 => ?_)
      · replace hf := gIfp c302 hf
        refine lv_iconst (v := (1 : Int32)) hx hb dX1_mayTurn_61 (by decide) ?_
        obtain rfl := gO1 hf
        exact g_zret X hR hS _ rfl rfl ⟨Nat.le_of_ble_eq_true rfl, Nat.le_of_ble_eq_true rfl⟩ dX1_mayTurn_62
      · replace hf := gIfn c302 hf
        refine lv_aload_n hx hb dX1_mayTurn_10 rfl (lv_at hl 0 rfl) ?_
        refine lv_iload_n hx hb dX1_mayTurn_11 rfl (lv_at hl 2 rfl) ?_
        refine lv_iload_n hx hb dX1_mayTurn_12 rfl (lv_at hl 1 rfl) ?_
        obtain ⟨k303, hf⟩ := gChk hf
        obtain ⟨u304, eu304, hf⟩ := gBind hf
        refine g_callVi X hR hS [.int v2_2, .int v2_1] (m_X1_clearOf l G F h n v2_0 v2_2 v2_1 eu304) yk_X1_clearOf q1078 k303 rfl hl.1 ⟨Nat.le_of_ble_eq_true rfl, Nat.le_of_ble_eq_true rfl⟩ ⟨Nat.le_of_ble_eq_true rfl, Nat.le_of_ble_eq_true rfl⟩ rfl (Nat.le_of_ble_eq_true rfl) dX1_mayTurn_13 (fun H locs hR hS => ?_)
        refine lv_istore_n (lv' := [(3, .int u304), (0, .ref v2_0), (1, .int v2_1), (2, .int v2_2)]) hx hb dX1_mayTurn_16 rfl hl (by decide) rfl (fun ls hl => ?_)
        refine lv_iload_n hx hb dX1_mayTurn_17 rfl (lv_at hl 0 rfl) ?_
        refine lv_if_lt (tgt := 55) hx hb dX1_mayTurn_18 (by decide) (fun c305 => ?_) (fun c305 => ?_)
        · replace hf := gIfp c305 hf
          refine lv_iinc (v := v2_2 + (1 : Int32)) (lv' := [(2, .int (v2_2 + (1 : Int32))), (3, .int u304), (0, .ref v2_0), (1, .int v2_1)]) hx hb dX1_mayTurn_55 hl (k := 3) rfl rfl (by decide) rfl (fun ls hl => ?_)
          refine lv_goto (tgt := 2) hx hb dX1_mayTurn_58 (by decide) ?_
          exact ih v2_0 v2_1 (v2_2 + (1 : Int32)) _ _ _ hf hR hS (lv_sub hl [2, 3, 0] rfl)
        · replace hf := gIfn c305 hf
          refine lv_aload_n hx hb dX1_mayTurn_21 rfl (lv_at hl 1 rfl) ?_
          obtain ⟨x306, ex306, hf⟩ := gBind hf
          refine g_getr X hR gk_X1 22 (by decide) q665 rfl ex306 dX1_mayTurn_22 ?_
          refine lv_iload_n hx hb dX1_mayTurn_25 rfl (lv_at hl 3 rfl) ?_
          obtain ⟨a307, ea307, hf⟩ := gBind hf
          refine g_aald X hR 5 (by decide) rfl ea307 dX1_mayTurn_26 ?_
          obtain ⟨x308, ex308, hf⟩ := gBind hf
          refine g_getiN X hR gk_X2 8 (by decide) q536 rfl ex308 dX1_mayTurn_27 ?_
          refine lv_bipush (v := (-5 : Int32)) hx hb dX1_mayTurn_30 (by decide) ?_
          refine lv_icmp_eq (tgt := 55) hx hb dX1_mayTurn_32 (by decide) (fun c309 => ?_) (fun c309 => ?_)
          · replace hf := gIfp c309 hf
            refine lv_iinc (v := v2_2 + (1 : Int32)) (lv' := [(2, .int (v2_2 + (1 : Int32))), (3, .int u304), (0, .ref v2_0), (1, .int v2_1)]) hx hb dX1_mayTurn_55 hl (k := 3) rfl rfl (by decide) rfl (fun ls hl => ?_)
            refine lv_goto (tgt := 2) hx hb dX1_mayTurn_58 (by decide) ?_
            exact ih v2_0 v2_1 (v2_2 + (1 : Int32)) _ _ _ hf hR hS (lv_sub hl [2, 3, 0] rfl)
          · replace hf := gIfn c309 hf
            refine lv_aload_n hx hb dX1_mayTurn_35 rfl (lv_at hl 1 rfl) ?_
            obtain ⟨x310, ex310, hf⟩ := gBind hf
            refine g_geti X hR gk_X1 1 (by decide) q624 rfl ex310 dX1_mayTurn_36 ?_
            refine lv_aload_n hx hb dX1_mayTurn_39 rfl (lv_at hl 1 rfl) ?_
            obtain ⟨x311, ex311, hf⟩ := gBind hf
            refine g_getr X hR gk_X1 22 (by decide) q665 rfl ex311 dX1_mayTurn_40 ?_
            refine lv_iload_n hx hb dX1_mayTurn_43 rfl (lv_at hl 3 rfl) ?_
            obtain ⟨a312, ea312, hf⟩ := gBind hf
            refine g_aald X hR 5 (by decide) rfl ea312 dX1_mayTurn_44 ?_
            obtain ⟨x313, ex313, hf⟩ := gBind hf
            refine g_getiN X hR gk_X2 8 (by decide) q536 rfl ex313 dX1_mayTurn_45 ?_
            refine lv_isub hx hb dX1_mayTurn_48 ?_
            refine lv_iload_n hx hb dX1_mayTurn_49 rfl (lv_at hl 0 rfl) ?_
            refine lv_icmp_ge (tgt := 55) hx hb dX1_mayTurn_50 (by decide) (fun c314 => ?_) (fun c314 => ?_)
            · replace hf := gIfp c314 hf
              refine lv_iinc (v := v2_2 + (1 : Int32)) (lv' := [(2, .int (v2_2 + (1 : Int32))), (3, .int u304), (0, .ref v2_0), (1, .int v2_1)]) hx hb dX1_mayTurn_55 hl (k := 3) rfl rfl (by decide) rfl (fun ls hl => ?_)
              refine lv_goto (tgt := 2) hx hb dX1_mayTurn_58 (by decide) ?_
              exact ih v2_0 v2_1 (v2_2 + (1 : Int32)) _ _ _ hf hR hS (lv_sub hl [2, 3, 0] rfl)
            · replace hf := gIfn c314 hf
              refine lv_iconst (v := (0 : Int32)) hx hb dX1_mayTurn_53 (by decide) ?_
              obtain rfl := gO1 hf
              exact g_zret X hR hS _ rfl rfl ⟨Nat.le_of_ble_eq_true rfl, Nat.le_of_ble_eq_true rfl⟩ dX1_mayTurn_54
  exact L2_q1 F a0 p1 (0 : Int32) _ _ _ hf hR hS (lv_sub hl [1, 2, 0] rfl)

def sp_X1_turning_L2 (G : gG) (F : Nat) : Nat → gH → Nat → Int32 → Option (gH)
  | 0, _, _, _ => none
  | f + 1, h2L, v2_0, v2_1 =>
    (gGi 1 h2L v2_0 13).bind fun x301 =>
    if x301 ≤ v2_1 then
    some (h2L) else
    (gGr 1 h2L v2_0 22).bind fun x303 =>
    (gAr 5 h2L x303 v2_1).bind fun a304 =>
    (gGr 1 h2L v2_0 23).bind fun x305 =>
    (gGi 1 h2L v2_0 2).bind fun x306 =>
    (gAr 6 h2L x305 x306).bind fun a307 =>
    if gIs 3 h2L a307 = true then
    (sp_X4_has G F h2L a307 v2_1).bind fun u309 =>
    if u309 = 0 then
    sp_X1_turning_L2 G F f h2L v2_0 (v2_1 + (1 : Int32)) else
    (gGi 2 h2L a304 6).bind fun x311 =>
    if x311 = 0 then
    if gIs 1 h2L v2_0 = true then
    (sp_X1_mayTurn G F h2L v2_0 v2_1).bind fun u314 =>
    if u314 = 0 then
    sp_X1_turning_L2 G F f h2L v2_0 (v2_1 + (1 : Int32)) else
    (gPv 2 h2L a304 6 (.int (1 : Int32))).bind fun h316 =>
    (gGi 1 h316 v2_0 1).bind fun x317 =>
    (gPv 2 h316 a304 7 (.int x317)).bind fun h318 =>
    (gGi 2 h318 a304 11).bind fun x319 =>
    (gPv 2 h318 a304 11 (.int (x319 + (1 : Int32)))).bind fun h320 =>
    sp_X1_turning_L2 G F f h320 v2_0 (v2_1 + (1 : Int32)) else none else
    sp_X1_turning_L2 G F f h2L v2_0 (v2_1 + (1 : Int32)) else none
def sp_X1_turning (G : gG) (F : Nat) (h : gH) (a0 : Nat) : Option (gH) :=
 (sp_X1_turning_L2 G F F h a0 (0 : Int32)).bind fun y3 =>
 some (y3)
theorem yk_X1_turning : gVk yX1_turning cX1_turning 3 none 0 1 := ⟨q1222, qs22, q93, q1223, ⟨by decide +kernel, by decide +kernel, by decide +kernel⟩, rfl⟩
set_option maxHeartbeats 4000000 in
theorem m_X1_turning (l : Launch) (G : gG) (F : Nat) (h : gH) (n : Nat) (a0 : Nat) {h' : gH} (hf : sp_X1_turning G F h a0 = some h') : gMet l G yX1_turning cX1_turning 3 none 2 45 0 0 [.ref a0] h n none h' n := by
  refine gEnter (by decide) [(0, .ref a0)] rfl (Nat.le_of_ble_eq_true rfl) ?_
  intro p e s m below meth c H ls X hin hR hS hl
  have hx := X.1.1
  have hb := X.1.2.1
  unfold sp_X1_turning at hf
  generalize ([] : List Loc) = locs at hS ⊢
  refine lv_iconst (v := (0 : Int32)) hx hb dX1_turning_0 (by decide) ?_
  refine lv_istore_n (lv' := [(1, .int (0 : Int32)), (0, .ref a0)]) hx hb dX1_turning_1 rfl hl (by decide) rfl (fun ls hl => ?_)
  have L2_q1 : ∀ (f : Nat) (h2L : gH) (v2_0 : Nat) (v2_1 : Int32) (o2 : gH) (H : Heap) (locs : List Loc) (ls : Array Slot), sp_X1_turning_L2 G F f h2L v2_0 v2_1 = some o2 → gRep G h2L n H → va_S (gFr G) s.heap H locs → lv_has ls 3 [(0, .ref v2_0), (1, .int v2_1)] → (∀ (H : Heap) (locs : List Loc) (ls : Array Slot), gRep G o2 n H → va_S (gFr G) s.heap H locs → lv_has ls 3 [] → W p l e ({ frames := 2, cells := 0, slots := 0, locals := 45 } : Room) s m ([.ref a0] : List Value).toArray below meth c H locs 0 0 (MQ below (gQ G none h' n) ([.ref a0] : List Value).toArray s 0 0 (gFr G)) (F0 m 77 ls [])) → W p l e ({ frames := 2, cells := 0, slots := 0, locals := 45 } : Room) s m ([.ref a0] : List Value).toArray below meth c H locs 0 0 (MQ below (gQ G none h' n) ([.ref a0] : List Value).toArray s 0 0 (gFr G)) (F0 m 2 ls []) := by
    clear hf
    intro f
    induction f with
    | zero =>
      intro h2L v2_0 v2_1 o2 H locs ls hf
      cases hf
    | succ f ih =>
      intro h2L v2_0 v2_1 o2 H locs ls hf hR hS hl K2
      rw [sp_X1_turning_L2] at hf
      refine lv_iload_n hx hb dX1_turning_2 rfl (lv_at hl 1 rfl) ?_
      refine lv_aload_n hx hb dX1_turning_3 rfl (lv_at hl 0 rfl) ?_
      obtain ⟨x301, ex301, hf⟩ := gBind hf
      refine g_geti X hR gk_X1 13 (by decide) q648 rfl ex301 dX1_turning_4 ?_
      refine lv_icmp_ge (tgt := 77) hx hb dX1_turning_7 (by decide) (fun c302 => ?_) (fun c302 => ?_)
      · replace hf := gIfp c302 hf
        obtain rfl := gO1 hf
        exact K2 _ _ _ hR hS (lv_sub hl [] rfl)
      · replace hf := gIfn c302 hf
        refine lv_aload_n hx hb dX1_turning_10 rfl (lv_at hl 0 rfl) ?_
        obtain ⟨x303, ex303, hf⟩ := gBind hf
        refine g_getr X hR gk_X1 22 (by decide) q665 rfl ex303 dX1_turning_11 ?_
        refine lv_iload_n hx hb dX1_turning_14 rfl (lv_at hl 1 rfl) ?_
        obtain ⟨a304, ea304, hf⟩ := gBind hf
        refine g_aald X hR 5 (by decide) rfl ea304 dX1_turning_15 ?_
        refine lv_astore_n (lv' := [(2, .ref a304), (0, .ref v2_0), (1, .int v2_1)]) hx hb dX1_turning_16 rfl hl (by decide) rfl (fun ls hl => ?_)
        refine lv_aload_n hx hb dX1_turning_17 rfl (lv_at hl 1 rfl) ?_
        obtain ⟨x305, ex305, hf⟩ := gBind hf
        refine g_getr X hR gk_X1 23 (by decide) q667 rfl ex305 dX1_turning_18 ?_
        refine lv_aload_n hx hb dX1_turning_21 rfl (lv_at hl 1 rfl) ?_
        obtain ⟨x306, ex306, hf⟩ := gBind hf
        refine g_geti X hR gk_X1 2 (by decide) q626 rfl ex306 dX1_turning_22 ?_
        obtain ⟨a307, ea307, hf⟩ := gBind hf
        refine g_aald X hR 6 (by decide) rfl ea307 dX1_turning_25 ?_
        refine lv_iload_n hx hb dX1_turning_26 rfl (lv_at hl 2 rfl) ?_
        obtain ⟨k308, hf⟩ := gChk hf
        obtain ⟨u309, eu309, hf⟩ := gBind hf
        refine g_callVi X hR hS [.int v2_1] (m_X4_has l G F h2L n a307 v2_1 eu309) yk_X4_has q1116 k308 rfl hl.1 ⟨Nat.le_of_ble_eq_true rfl, Nat.le_of_ble_eq_true rfl⟩ ⟨Nat.le_of_ble_eq_true rfl, Nat.le_of_ble_eq_true rfl⟩ rfl (Nat.le_of_ble_eq_true rfl) dX1_turning_27 (fun H locs hR hS => ?_)
        refine lv_if_eq (tgt := 71) hx hb dX1_turning_30 (by decide) (fun c310 => ?_) (fun c310 => ?_)
        · replace hf := gIfp c310 hf
          refine lv_iinc (v := v2_1 + (1 : Int32)) (lv' := [(1, .int (v2_1 + (1 : Int32))), (2, .ref a304), (0, .ref v2_0)]) hx hb dX1_turning_71 hl (k := 2) rfl rfl (by decide) rfl (fun ls hl => ?_)
          refine lv_goto (tgt := 2) hx hb dX1_turning_74 (by decide) ?_
          exact ih h2L v2_0 (v2_1 + (1 : Int32)) _ _ _ _ hf hR hS (lv_sub hl [2, 0] rfl) K2
        · replace hf := gIfn c310 hf
          refine lv_aload_n hx hb dX1_turning_33 rfl (lv_at hl 0 rfl) ?_
          obtain ⟨x311, ex311, hf⟩ := gBind hf
          refine g_getiN X hR gk_X2 6 (by decide) q530 rfl ex311 dX1_turning_34 ?_
          refine lv_if_ne (tgt := 71) hx hb dX1_turning_37 (by decide) (fun c312 => ?_) (fun c312 => ?_)
          · replace hf := gIfn c312 hf
            refine lv_iinc (v := v2_1 + (1 : Int32)) (lv' := [(1, .int (v2_1 + (1 : Int32))), (2, .ref a304), (0, .ref v2_0)]) hx hb dX1_turning_71 hl (k := 2) rfl rfl (by decide) rfl (fun ls hl => ?_)
            refine lv_goto (tgt := 2) hx hb dX1_turning_74 (by decide) ?_
            exact ih h2L v2_0 (v2_1 + (1 : Int32)) _ _ _ _ hf hR hS (lv_sub hl [2, 0] rfl) K2
          · replace hf := gIfp c312 hf
            refine lv_aload_n hx hb dX1_turning_40 rfl (lv_at hl 1 rfl) ?_
            refine lv_iload_n hx hb dX1_turning_41 rfl (lv_at hl 2 rfl) ?_
            obtain ⟨k313, hf⟩ := gChk hf
            obtain ⟨u314, eu314, hf⟩ := gBind hf
            refine g_callVi X hR hS [.int v2_1] (m_X1_mayTurn l G F h2L n v2_0 v2_1 eu314) yk_X1_mayTurn q1224 k313 rfl hl.1 ⟨Nat.le_of_ble_eq_true rfl, Nat.le_of_ble_eq_true rfl⟩ ⟨Nat.le_of_ble_eq_true rfl, Nat.le_of_ble_eq_true rfl⟩ rfl (Nat.le_of_ble_eq_true rfl) dX1_turning_42 (fun H locs hR hS => ?_)
            refine lv_if_eq (tgt := 71) hx hb dX1_turning_45 (by decide) (fun c315 => ?_) (fun c315 => ?_)
            · replace hf := gIfp c315 hf
              refine lv_iinc (v := v2_1 + (1 : Int32)) (lv' := [(1, .int (v2_1 + (1 : Int32))), (2, .ref a304), (0, .ref v2_0)]) hx hb dX1_turning_71 hl (k := 2) rfl rfl (by decide) rfl (fun ls hl => ?_)
              refine lv_goto (tgt := 2) hx hb dX1_turning_74 (by decide) ?_
              exact ih h2L v2_0 (v2_1 + (1 : Int32)) _ _ _ _ hf hR hS (lv_sub hl [2, 0] rfl) K2
            · replace hf := gIfn c315 hf
              refine lv_aload_n hx hb dX1_turning_48 rfl (lv_at hl 0 rfl) ?_
              refine lv_iconst (v := (1 : Int32)) hx hb dX1_turning_49 (by decide) ?_
              obtain ⟨h316, eh316, hf⟩ := gBind hf
              refine g_putN X hR hS gk_X2 6 (by decide) q530 rfl rfl eh316 rfl rfl rfl dX1_turning_50 (fun H locs hR hS => ?_)
              refine lv_aload_n hx hb dX1_turning_53 rfl (lv_at hl 0 rfl) ?_
              refine lv_aload_n hx hb dX1_turning_54 rfl (lv_at hl 1 rfl) ?_
              obtain ⟨x317, ex317, hf⟩ := gBind hf
              refine g_geti X hR gk_X1 1 (by decide) q624 rfl ex317 dX1_turning_55 ?_
              obtain ⟨h318, eh318, hf⟩ := gBind hf
              refine g_putN X hR hS gk_X2 7 (by decide) q533 rfl rfl eh318 rfl rfl rfl dX1_turning_58 (fun H locs hR hS => ?_)
              refine lv_aload_n hx hb dX1_turning_61 rfl (lv_at hl 0 rfl) ?_
              refine lv_dup hx hb dX1_turning_62 rfl ?_
              obtain ⟨x319, ex319, hf⟩ := gBind hf
              refine g_getiN X hR gk_X2 11 (by decide) q545 rfl ex319 dX1_turning_63 ?_
              refine lv_iconst (v := (1 : Int32)) hx hb dX1_turning_66 (by decide) ?_
              refine lv_iadd hx hb dX1_turning_67 ?_
              obtain ⟨h320, eh320, hf⟩ := gBind hf
              refine g_putN X hR hS gk_X2 11 (by decide) q545 rfl rfl eh320 rfl rfl rfl dX1_turning_68 (fun H locs hR hS => ?_)
              refine lv_iinc (v := v2_1 + (1 : Int32)) (lv' := [(1, .int (v2_1 + (1 : Int32))), (2, .ref a304), (0, .ref v2_0)]) hx hb dX1_turning_71 hl (k := 2) rfl rfl (by decide) rfl (fun ls hl => ?_)
              refine lv_goto (tgt := 2) hx hb dX1_turning_74 (by decide) ?_
              exact ih h320 v2_0 (v2_1 + (1 : Int32)) _ _ _ _ hf hR hS (lv_sub hl [2, 0] rfl) K2
  obtain ⟨y3, ey3, hf⟩ := gBind hf
  refine L2_q1 F h a0 (0 : Int32) y3 _ _ _ ey3 hR hS (lv_sub hl [1, 0] rfl) (fun H locs ls hR hS hl => ?_)
  obtain rfl := gO1 hf
  exact g_vret X hR hS rfl ⟨Nat.le_of_ble_eq_true rfl, Nat.le_of_ble_eq_true rfl⟩ dX1_turning_77

def sp_X1_going_L2 (G : gG) (F : Nat) : Nat → gH → Nat → Int32 → Option (gH)
  | 0, _, _, _ => none
  | f + 1, h2L, v2_0, v2_1 =>
    (gGi 1 h2L v2_0 13).bind fun x301 =>
    if x301 ≤ v2_1 then
    some (h2L) else
    (gGr 1 h2L v2_0 22).bind fun x303 =>
    (gAr 5 h2L x303 v2_1).bind fun a304 =>
    (gGi 2 h2L a304 6).bind fun x305 =>
    (if x305 = 0 then
    some (h2L) else
    (gGi 2 h2L a304 5).bind fun x307 =>
    if x307 ≤ 0 then
    some (h2L) else
    (gGr 2 h2L a304 0).bind fun x309 =>
    (gGi 1 h2L v2_0 1).bind fun x310 =>
    (gGi 2 h2L a304 7).bind fun x311 =>
    (gGi 2 h2L a304 5).bind fun x312 =>
    (sp_leaves G F h2L x309 (x310 - x311) x312).bind fun u313 =>
    (gGi 2 h2L a304 5).bind fun x314 =>
    (gPv 2 h2L a304 5 (.int (x314 - u313))).bind fun h315 =>
    (gGi 2 h315 a304 10).bind fun x316 =>
    (gPv 2 h315 a304 10 (.int (x316 + u313))).bind fun h317 =>
    (gGi 1 h317 v2_0 6).bind fun x318 =>
    (gPv 1 h317 v2_0 6 (.int (x318 + u313))).bind fun h319 =>
    some (h319)).bind fun j320 =>
    (gGi 1 j320 v2_0 5).bind fun x321 =>
    (gGi 2 j320 a304 5).bind fun x322 =>
    (gPv 1 j320 v2_0 5 (.int (x321 + x322))).bind fun h323 =>
    sp_X1_going_L2 G F f h323 v2_0 (v2_1 + (1 : Int32))
def sp_X1_going (G : gG) (F : Nat) (h : gH) (a0 : Nat) : Option (gH) :=
 (sp_X1_going_L2 G F F h a0 (0 : Int32)).bind fun y3 =>
 some (y3)
theorem yk_X1_going : gVk yX1_going cX1_going 4 none 0 1 := ⟨q1230, qs24, q93, q1231, ⟨by decide +kernel, by decide +kernel, by decide +kernel⟩, rfl⟩
set_option maxHeartbeats 4000000 in
theorem m_X1_going (l : Launch) (G : gG) (F : Nat) (h : gH) (n : Nat) (a0 : Nat) {h' : gH} (hf : sp_X1_going G F h a0 = some h') : gMet l G yX1_going cX1_going 4 none 1 22 0 0 [.ref a0] h n none h' n := by
  refine gEnter (by decide) [(0, .ref a0)] rfl (Nat.le_of_ble_eq_true rfl) ?_
  intro p e s m below meth c H ls X hin hR hS hl
  have hx := X.1.1
  have hb := X.1.2.1
  unfold sp_X1_going at hf
  generalize ([] : List Loc) = locs at hS ⊢
  refine lv_iconst (v := (0 : Int32)) hx hb dX1_going_0 (by decide) ?_
  refine lv_istore_n (lv' := [(1, .int (0 : Int32)), (0, .ref a0)]) hx hb dX1_going_1 rfl hl (by decide) rfl (fun ls hl => ?_)
  have L2_q1 : ∀ (f : Nat) (h2L : gH) (v2_0 : Nat) (v2_1 : Int32) (o2 : gH) (H : Heap) (locs : List Loc) (ls : Array Slot), sp_X1_going_L2 G F f h2L v2_0 v2_1 = some o2 → gRep G h2L n H → va_S (gFr G) s.heap H locs → lv_has ls 4 [(0, .ref v2_0), (1, .int v2_1)] → (∀ (H : Heap) (locs : List Loc) (ls : Array Slot), gRep G o2 n H → va_S (gFr G) s.heap H locs → lv_has ls 4 [] → W p l e ({ frames := 1, cells := 0, slots := 0, locals := 22 } : Room) s m ([.ref a0] : List Value).toArray below meth c H locs 0 0 (MQ below (gQ G none h' n) ([.ref a0] : List Value).toArray s 0 0 (gFr G)) (F0 m 101 ls [])) → W p l e ({ frames := 1, cells := 0, slots := 0, locals := 22 } : Room) s m ([.ref a0] : List Value).toArray below meth c H locs 0 0 (MQ below (gQ G none h' n) ([.ref a0] : List Value).toArray s 0 0 (gFr G)) (F0 m 2 ls []) := by
    clear hf
    intro f
    induction f with
    | zero =>
      intro h2L v2_0 v2_1 o2 H locs ls hf
      cases hf
    | succ f ih =>
      intro h2L v2_0 v2_1 o2 H locs ls hf hR hS hl K2
      rw [sp_X1_going_L2] at hf
      refine lv_iload_n hx hb dX1_going_2 rfl (lv_at hl 1 rfl) ?_
      refine lv_aload_n hx hb dX1_going_3 rfl (lv_at hl 0 rfl) ?_
      obtain ⟨x301, ex301, hf⟩ := gBind hf
      refine g_geti X hR gk_X1 13 (by decide) q648 rfl ex301 dX1_going_4 ?_
      refine lv_icmp_ge (tgt := 101) hx hb dX1_going_7 (by decide) (fun c302 => ?_) (fun c302 => ?_)
      · replace hf := gIfp c302 hf
        obtain rfl := gO1 hf
        exact K2 _ _ _ hR hS (lv_sub hl [] rfl)
      · replace hf := gIfn c302 hf
        refine lv_aload_n hx hb dX1_going_10 rfl (lv_at hl 0 rfl) ?_
        obtain ⟨x303, ex303, hf⟩ := gBind hf
        refine g_getr X hR gk_X1 22 (by decide) q665 rfl ex303 dX1_going_11 ?_
        refine lv_iload_n hx hb dX1_going_14 rfl (lv_at hl 1 rfl) ?_
        obtain ⟨a304, ea304, hf⟩ := gBind hf
        refine g_aald X hR 5 (by decide) rfl ea304 dX1_going_15 ?_
        refine lv_astore_n (lv' := [(2, .ref a304), (0, .ref v2_0), (1, .int v2_1)]) hx hb dX1_going_16 rfl hl (by decide) rfl (fun ls hl => ?_)
        refine lv_aload_n hx hb dX1_going_17 rfl (lv_at hl 0 rfl) ?_
        obtain ⟨x305, ex305, hf⟩ := gBind hf
        refine g_getiN X hR gk_X2 6 (by decide) q530 rfl ex305 dX1_going_18 ?_
        obtain ⟨j320, ej320, hf⟩ := gBind hf
        have J82_j320 : ∀ (H : Heap) (locs : List Loc) (ls : Array Slot), gRep G j320 n H → va_S (gFr G) s.heap H locs → lv_has ls 4 [(0, .ref v2_0), (1, .int v2_1), (2, .ref a304)] → W p l e ({ frames := 1, cells := 0, slots := 0, locals := 22 } : Room) s m ([.ref a0] : List Value).toArray below meth c H locs 0 0 (MQ below (gQ G none h' n) ([.ref a0] : List Value).toArray s 0 0 (gFr G)) (F0 m 82 ls []) := by
          intro H locs ls hR hS hl
          refine lv_aload_n hx hb dX1_going_82 rfl (lv_at hl 0 rfl) ?_
          refine lv_dup hx hb dX1_going_83 rfl ?_
          obtain ⟨x321, ex321, hf⟩ := gBind hf
          refine g_geti X hR gk_X1 5 (by decide) q632 rfl ex321 dX1_going_84 ?_
          refine lv_aload_n hx hb dX1_going_87 rfl (lv_at hl 2 rfl) ?_
          obtain ⟨x322, ex322, hf⟩ := gBind hf
          refine g_getiN X hR gk_X2 5 (by decide) q527 rfl ex322 dX1_going_88 ?_
          refine lv_iadd hx hb dX1_going_91 ?_
          obtain ⟨h323, eh323, hf⟩ := gBind hf
          refine g_put X hR hS gk_X1 5 (by decide) q632 rfl rfl eh323 rfl rfl rfl dX1_going_92 (fun H locs hR hS => ?_)
          refine lv_iinc (v := v2_1 + (1 : Int32)) (lv' := [(1, .int (v2_1 + (1 : Int32))), (0, .ref v2_0), (2, .ref a304)]) hx hb dX1_going_95 hl (k := 1) rfl rfl (by decide) rfl (fun ls hl => ?_)
          refine lv_goto (tgt := 2) hx hb dX1_going_98 (by decide) ?_
          exact ih h323 v2_0 (v2_1 + (1 : Int32)) _ _ _ _ hf hR hS (lv_sub hl [1, 0] rfl) K2
        replace hf := ej320
        clear ej320
        refine lv_if_eq (tgt := 82) hx hb dX1_going_21 (by decide) (fun c306 => ?_) (fun c306 => ?_)
        · replace hf := gIfp c306 hf
          obtain rfl := gO1 hf
          exact J82_j320 _ _ _ hR hS (lv_sub hl [1, 2, 0] rfl)
        · replace hf := gIfn c306 hf
          refine lv_aload_n hx hb dX1_going_24 rfl (lv_at hl 0 rfl) ?_
          obtain ⟨x307, ex307, hf⟩ := gBind hf
          refine g_getiN X hR gk_X2 5 (by decide) q527 rfl ex307 dX1_going_25 ?_
          refine lv_if_le (tgt := 82) hx hb dX1_going_28 (by decide) (fun c308 => ?_) (fun c308 => ?_)
          · replace hf := gIfp c308 hf
            obtain rfl := gO1 hf
            exact J82_j320 _ _ _ hR hS (lv_sub hl [1, 2, 0] rfl)
          · replace hf := gIfn c308 hf
            refine lv_aload_n hx hb dX1_going_31 rfl (lv_at hl 0 rfl) ?_
            obtain ⟨x309, ex309, hf⟩ := gBind hf
            refine g_getrN X hR gk_X2 0 (by decide) q509 rfl ex309 dX1_going_32 ?_
            refine lv_aload_n hx hb dX1_going_35 rfl (lv_at hl 1 rfl) ?_
            obtain ⟨x310, ex310, hf⟩ := gBind hf
            refine g_geti X hR gk_X1 1 (by decide) q624 rfl ex310 dX1_going_36 ?_
            refine lv_aload_n hx hb dX1_going_39 rfl (lv_at hl 0 rfl) ?_
            obtain ⟨x311, ex311, hf⟩ := gBind hf
            refine g_getiN X hR gk_X2 7 (by decide) q533 rfl ex311 dX1_going_40 ?_
            refine lv_isub hx hb dX1_going_43 ?_
            refine lv_aload_n hx hb dX1_going_44 rfl (lv_at hl 0 rfl) ?_
            obtain ⟨x312, ex312, hf⟩ := gBind hf
            refine g_getiN X hR gk_X2 5 (by decide) q527 rfl ex312 dX1_going_45 ?_
            obtain ⟨u313, eu313, hf⟩ := gBind hf
            refine g_leaves F X hR hS q1232 eu313 hl.1 ⟨Nat.le_of_ble_eq_true rfl, Nat.le_of_ble_eq_true rfl⟩ ⟨Nat.le_of_ble_eq_true rfl, Nat.le_of_ble_eq_true rfl⟩ (Nat.le_of_ble_eq_true rfl) dX1_going_48 (fun H locs hR hS => ?_)
            refine lv_istore_n (lv' := [(3, .int u313), (2, .ref a304), (0, .ref v2_0), (1, .int v2_1)]) hx hb dX1_going_51 rfl hl (by decide) rfl (fun ls hl => ?_)
            refine lv_aload_n hx hb dX1_going_52 rfl (lv_at hl 1 rfl) ?_
            refine lv_dup hx hb dX1_going_53 rfl ?_
            obtain ⟨x314, ex314, hf⟩ := gBind hf
            refine g_getiN X hR gk_X2 5 (by decide) q527 rfl ex314 dX1_going_54 ?_
            refine lv_iload_n hx hb dX1_going_57 rfl (lv_at hl 0 rfl) ?_
            refine lv_isub hx hb dX1_going_58 ?_
            obtain ⟨h315, eh315, hf⟩ := gBind hf
            refine g_putN X hR hS gk_X2 5 (by decide) q527 rfl rfl eh315 rfl rfl rfl dX1_going_59 (fun H locs hR hS => ?_)
            refine lv_aload_n hx hb dX1_going_62 rfl (lv_at hl 1 rfl) ?_
            refine lv_dup hx hb dX1_going_63 rfl ?_
            obtain ⟨x316, ex316, hf⟩ := gBind hf
            refine g_getiN X hR gk_X2 10 (by decide) q542 rfl ex316 dX1_going_64 ?_
            refine lv_iload_n hx hb dX1_going_67 rfl (lv_at hl 0 rfl) ?_
            refine lv_iadd hx hb dX1_going_68 ?_
            obtain ⟨h317, eh317, hf⟩ := gBind hf
            refine g_putN X hR hS gk_X2 10 (by decide) q542 rfl rfl eh317 rfl rfl rfl dX1_going_69 (fun H locs hR hS => ?_)
            refine lv_aload_n hx hb dX1_going_72 rfl (lv_at hl 2 rfl) ?_
            refine lv_dup hx hb dX1_going_73 rfl ?_
            obtain ⟨x318, ex318, hf⟩ := gBind hf
            refine g_geti X hR gk_X1 6 (by decide) q634 rfl ex318 dX1_going_74 ?_
            refine lv_iload_n hx hb dX1_going_77 rfl (lv_at hl 0 rfl) ?_
            refine lv_iadd hx hb dX1_going_78 ?_
            obtain ⟨h319, eh319, hf⟩ := gBind hf
            refine g_put X hR hS gk_X1 6 (by decide) q634 rfl rfl eh319 rfl rfl rfl dX1_going_79 (fun H locs hR hS => ?_)
            obtain rfl := gO1 hf
            exact J82_j320 _ _ _ hR hS (lv_sub hl [2, 3, 1] rfl)
  obtain ⟨y3, ey3, hf⟩ := gBind hf
  refine L2_q1 F h a0 (0 : Int32) y3 _ _ _ ey3 hR hS (lv_sub hl [1, 0] rfl) (fun H locs ls hR hS hl => ?_)
  obtain rfl := gO1 hf
  exact g_vret X hR hS rfl ⟨Nat.le_of_ble_eq_true rfl, Nat.le_of_ble_eq_true rfl⟩ dX1_going_101

def sp_X1_passes_L2 (G : gG) (F : Nat) : Nat → gH → Nat → Int32 → Int32 → Option (gH)
  | 0, _, _, _, _ => none
  | f + 1, h2L, v2_0, v2_1, v2_2 =>
    if v2_1 ≤ v2_2 then
    some (h2L) else
    if gIs 1 h2L v2_0 = true then
    (sp_X1_coming G F h2L v2_0).bind fun u303 =>
    if gIs 1 u303 v2_0 = true then
    (sp_X1_changes G F u303 v2_0).bind fun u305 =>
    if gIs 1 u305 v2_0 = true then
    (sp_X1_turning G F u305 v2_0).bind fun u307 =>
    if gIs 1 u307 v2_0 = true then
    (sp_X1_going G F u307 v2_0).bind fun u309 =>
    (gGi 1 u309 v2_0 1).bind fun x310 =>
    (gPv 1 u309 v2_0 1 (.int (x310 + (1 : Int32)))).bind fun h311 =>
    sp_X1_passes_L2 G F f h311 v2_0 v2_1 (v2_2 + (1 : Int32)) else none else none else none else none
def sp_X1_passes (G : gG) (F : Nat) (h : gH) (a0 : Nat) (p1 : Int32) : Option (Nat × gH) :=
 (sp_X1_passes_L2 G F F h a0 p1 (0 : Int32)).bind fun y3 =>
 some ((a0, y3))
theorem yk_X1_passes : gVk yX1_passes cX1_passes 3 (some (.object "SafeClears$World")) 1 1 := ⟨q1138, q1139, q93, q1140, ⟨by decide +kernel, by decide +kernel, by decide +kernel⟩, rfl⟩
set_option maxHeartbeats 4000000 in
theorem m_X1_passes (l : Launch) (G : gG) (F : Nat) (h : gH) (n : Nat) (a0 : Nat) (p1 : Int32) {r : Nat} {h' : gH} (hf : sp_X1_passes G F h a0 p1 = some (r, h')) : gMet l G yX1_passes cX1_passes 3 (some (.object "SafeClears$World")) 5 112 0 0 [.ref a0, .int p1] h n (some (.ref r)) h' n := by
  refine gEnter (by decide) [(0, .ref a0), (1, .int p1)] rfl (Nat.le_of_ble_eq_true rfl) ?_
  intro p e s m below meth c H ls X hin hR hS hl
  have hx := X.1.1
  have hb := X.1.2.1
  unfold sp_X1_passes at hf
  generalize ([] : List Loc) = locs at hS ⊢
  refine lv_iconst (v := (0 : Int32)) hx hb dX1_passes_0 (by decide) ?_
  refine lv_istore_n (lv' := [(2, .int (0 : Int32)), (0, .ref a0), (1, .int p1)]) hx hb dX1_passes_1 rfl hl (by decide) rfl (fun ls hl => ?_)
  have L2_q1 : ∀ (f : Nat) (h2L : gH) (v2_0 : Nat) (v2_1 : Int32) (v2_2 : Int32) (o2 : gH) (H : Heap) (locs : List Loc) (ls : Array Slot), sp_X1_passes_L2 G F f h2L v2_0 v2_1 v2_2 = some o2 → gRep G h2L n H → va_S (gFr G) s.heap H locs → lv_has ls 3 [(0, .ref v2_0), (1, .int v2_1), (2, .int v2_2)] → (∀ (H : Heap) (locs : List Loc) (ls : Array Slot), gRep G o2 n H → va_S (gFr G) s.heap H locs → lv_has ls 3 [(0, .ref v2_0)] → W p l e ({ frames := 5, cells := 0, slots := 0, locals := 112 } : Room) s m ([.ref a0, .int p1] : List Value).toArray below meth c H locs 0 0 (MQ below (gQ G (some (.ref r)) h' n) ([.ref a0, .int p1] : List Value).toArray s 0 0 (gFr G)) (F0 m 39 ls [])) → W p l e ({ frames := 5, cells := 0, slots := 0, locals := 112 } : Room) s m ([.ref a0, .int p1] : List Value).toArray below meth c H locs 0 0 (MQ below (gQ G (some (.ref r)) h' n) ([.ref a0, .int p1] : List Value).toArray s 0 0 (gFr G)) (F0 m 2 ls []) := by
    clear hf
    intro f
    induction f with
    | zero =>
      intro h2L v2_0 v2_1 v2_2 o2 H locs ls hf
      cases hf
    | succ f ih =>
      intro h2L v2_0 v2_1 v2_2 o2 H locs ls hf hR hS hl K2
      rw [sp_X1_passes_L2] at hf
      refine lv_iload_n hx hb dX1_passes_2 rfl (lv_at hl 2 rfl) ?_
      refine lv_iload_n hx hb dX1_passes_3 rfl (lv_at hl 1 rfl) ?_
      refine lv_icmp_ge (tgt := 39) hx hb dX1_passes_4 (by decide) (fun c301 => ?_) (fun c301 => ?_)
      · replace hf := gIfp c301 hf
        obtain rfl := gO1 hf
        exact K2 _ _ _ hR hS (lv_sub hl [0] rfl)
      · replace hf := gIfn c301 hf
        refine lv_aload_n hx hb dX1_passes_7 rfl (lv_at hl 0 rfl) ?_
        obtain ⟨k302, hf⟩ := gChk hf
        obtain ⟨u303, eu303, hf⟩ := gBind hf
        refine g_callVv X hR hS [] (m_X1_coming l G F h2L n v2_0 eu303) yk_X1_coming q1141 k302 rfl hl.1 ⟨Nat.le_of_ble_eq_true rfl, Nat.le_of_ble_eq_true rfl⟩ ⟨Nat.le_of_ble_eq_true rfl, Nat.le_of_ble_eq_true rfl⟩ rfl (Nat.le_of_ble_eq_true rfl) dX1_passes_8 (fun H locs hR hS => ?_)
        refine lv_aload_n hx hb dX1_passes_11 rfl (lv_at hl 0 rfl) ?_
        obtain ⟨k304, hf⟩ := gChk hf
        obtain ⟨u305, eu305, hf⟩ := gBind hf
        refine g_callVv X hR hS [] (m_X1_changes l G F u303 n v2_0 eu305) yk_X1_changes q1155 k304 rfl hl.1 ⟨Nat.le_of_ble_eq_true rfl, Nat.le_of_ble_eq_true rfl⟩ ⟨Nat.le_of_ble_eq_true rfl, Nat.le_of_ble_eq_true rfl⟩ rfl (Nat.le_of_ble_eq_true rfl) dX1_passes_12 (fun H locs hR hS => ?_)
        refine lv_aload_n hx hb dX1_passes_15 rfl (lv_at hl 0 rfl) ?_
        obtain ⟨k306, hf⟩ := gChk hf
        obtain ⟨u307, eu307, hf⟩ := gBind hf
        refine g_callVv X hR hS [] (m_X1_turning l G F u305 n v2_0 eu307) yk_X1_turning q1220 k306 rfl hl.1 ⟨Nat.le_of_ble_eq_true rfl, Nat.le_of_ble_eq_true rfl⟩ ⟨Nat.le_of_ble_eq_true rfl, Nat.le_of_ble_eq_true rfl⟩ rfl (Nat.le_of_ble_eq_true rfl) dX1_passes_16 (fun H locs hR hS => ?_)
        refine lv_aload_n hx hb dX1_passes_19 rfl (lv_at hl 0 rfl) ?_
        obtain ⟨k308, hf⟩ := gChk hf
        obtain ⟨u309, eu309, hf⟩ := gBind hf
        refine g_callVv X hR hS [] (m_X1_going l G F u307 n v2_0 eu309) yk_X1_going q1228 k308 rfl hl.1 ⟨Nat.le_of_ble_eq_true rfl, Nat.le_of_ble_eq_true rfl⟩ ⟨Nat.le_of_ble_eq_true rfl, Nat.le_of_ble_eq_true rfl⟩ rfl (Nat.le_of_ble_eq_true rfl) dX1_passes_20 (fun H locs hR hS => ?_)
        refine lv_aload_n hx hb dX1_passes_23 rfl (lv_at hl 0 rfl) ?_
        refine lv_dup hx hb dX1_passes_24 rfl ?_
        obtain ⟨x310, ex310, hf⟩ := gBind hf
        refine g_geti X hR gk_X1 1 (by decide) q624 rfl ex310 dX1_passes_25 ?_
        refine lv_iconst (v := (1 : Int32)) hx hb dX1_passes_28 (by decide) ?_
        refine lv_iadd hx hb dX1_passes_29 ?_
        obtain ⟨h311, eh311, hf⟩ := gBind hf
        refine g_put X hR hS gk_X1 1 (by decide) q624 rfl rfl eh311 rfl rfl rfl dX1_passes_30 (fun H locs hR hS => ?_)
        refine lv_iinc (v := v2_2 + (1 : Int32)) (lv' := [(2, .int (v2_2 + (1 : Int32))), (0, .ref v2_0), (1, .int v2_1)]) hx hb dX1_passes_33 hl (k := 2) rfl rfl (by decide) rfl (fun ls hl => ?_)
        refine lv_goto (tgt := 2) hx hb dX1_passes_36 (by decide) ?_
        exact ih h311 v2_0 v2_1 (v2_2 + (1 : Int32)) _ _ _ _ hf hR hS (lv_sub hl [1, 2, 0] rfl) K2
  obtain ⟨y3, ey3, hf⟩ := gBind hf
  refine L2_q1 F h a0 p1 (0 : Int32) y3 _ _ _ ey3 hR hS (lv_sub hl [1, 2, 0] rfl) (fun H locs ls hR hS hl => ?_)
  refine lv_aload_n hx hb dX1_passes_39 rfl (lv_at hl 0 rfl) ?_
  obtain ⟨rfl, rfl⟩ := gO2 hf
  exact g_aret X hR hS _ rfl ⟨Nat.le_of_ble_eq_true rfl, Nat.le_of_ble_eq_true rfl⟩ dX1_passes_40

def sp_X1_light (G : gG) (F : Nat) (h : gH) (a0 : Nat) (p1 : Int32) : Option (Int32) :=
 (gGr 1 h a0 22).bind fun x1 =>
 (gAr 5 h x1 p1).bind fun a2 =>
 (gGi 2 h a2 6).bind fun x3 =>
 if x3 = 0 then
 (gGi 2 h a2 8).bind fun x5 =>
 if x5 = (-5 : Int32) then
 some ((0 : Int32)) else
 (gGi 1 h a0 1).bind fun x7 =>
 (gGi 2 h a2 8).bind fun x8 =>
 (gGr 2 h a2 0).bind fun x9 =>
 (gKd G x9 0).bind fun x10 =>
 if (x8 + x10) ≤ x7 then
 some ((0 : Int32)) else
 some ((1 : Int32)) else
 some ((2 : Int32))
theorem yk_X1_light : gVk yX1_light cX1_light 3 (some .int) 1 1 := ⟨q1260, q1261, q93, q1262, ⟨by decide +kernel, by decide +kernel, by decide +kernel⟩, rfl⟩
set_option maxHeartbeats 4000000 in
theorem m_X1_light (l : Launch) (G : gG) (F : Nat) (h : gH) (n : Nat) (a0 : Nat) (p1 : Int32) {r : Int32} (hf : sp_X1_light G F h a0 p1 = some r) : gMet l G yX1_light cX1_light 3 (some .int) 0 0 0 0 [.ref a0, .int p1] h n (some (.int r)) h n := by
  refine gEnter (by decide) [(0, .ref a0), (1, .int p1)] rfl (Nat.le_of_ble_eq_true rfl) ?_
  intro p e s m below meth c H ls X hin hR hS hl
  have hx := X.1.1
  have hb := X.1.2.1
  unfold sp_X1_light at hf
  generalize ([] : List Loc) = locs at hS ⊢
  refine lv_aload_n hx hb dX1_light_0 rfl (lv_at hl 0 rfl) ?_
  obtain ⟨x1, ex1, hf⟩ := gBind hf
  refine g_getr X hR gk_X1 22 (by decide) q665 rfl ex1 dX1_light_1 ?_
  refine lv_iload_n hx hb dX1_light_4 rfl (lv_at hl 1 rfl) ?_
  obtain ⟨a2, ea2, hf⟩ := gBind hf
  refine g_aald X hR 5 (by decide) rfl ea2 dX1_light_5 ?_
  refine lv_astore_n (lv' := [(2, .ref a2), (0, .ref a0), (1, .int p1)]) hx hb dX1_light_6 rfl hl (by decide) rfl (fun ls hl => ?_)
  refine lv_aload_n hx hb dX1_light_7 rfl (lv_at hl 0 rfl) ?_
  obtain ⟨x3, ex3, hf⟩ := gBind hf
  refine g_getiN X hR gk_X2 6 (by decide) q530 rfl ex3 dX1_light_8 ?_
  refine lv_if_eq (tgt := 18) hx hb dX1_light_11 (by decide) (fun c4 => ?_) (fun c4 => ?_)
  · replace hf := gIfp c4 hf
    refine lv_aload_n hx hb dX1_light_18 rfl (lv_at hl 0 rfl) ?_
    obtain ⟨x5, ex5, hf⟩ := gBind hf
    refine g_getiN X hR gk_X2 8 (by decide) q536 rfl ex5 dX1_light_19 ?_
    refine lv_bipush (v := (-5 : Int32)) hx hb dX1_light_22 (by decide) ?_
    refine lv_icmp_eq (tgt := 50) hx hb dX1_light_24 (by decide) (fun c6 => ?_) (fun c6 => ?_)
    · replace hf := gIfp c6 hf
      refine lv_iconst (v := (0 : Int32)) hx hb dX1_light_50 (by decide) ?_
      obtain rfl := gO1 hf
      exact g_iret X hR hS _ rfl ⟨Nat.le_of_ble_eq_true rfl, Nat.le_of_ble_eq_true rfl⟩ dX1_light_51
    · replace hf := gIfn c6 hf
      refine lv_aload_n hx hb dX1_light_27 rfl (lv_at hl 1 rfl) ?_
      obtain ⟨x7, ex7, hf⟩ := gBind hf
      refine g_geti X hR gk_X1 1 (by decide) q624 rfl ex7 dX1_light_28 ?_
      refine lv_aload_n hx hb dX1_light_31 rfl (lv_at hl 0 rfl) ?_
      obtain ⟨x8, ex8, hf⟩ := gBind hf
      refine g_getiN X hR gk_X2 8 (by decide) q536 rfl ex8 dX1_light_32 ?_
      refine lv_aload_n hx hb dX1_light_35 rfl (lv_at hl 0 rfl) ?_
      obtain ⟨x9, ex9, hf⟩ := gBind hf
      refine g_getrN X hR gk_X2 0 (by decide) q509 rfl ex9 dX1_light_36 ?_
      obtain ⟨x10, ex10, hf⟩ := gBind hf
      refine g_kfldN X hS 0 (by decide) q2258 ex10 dX1_light_39 ?_
      refine lv_iadd hx hb dX1_light_42 ?_
      refine lv_icmp_ge (tgt := 50) hx hb dX1_light_43 (by decide) (fun c11 => ?_) (fun c11 => ?_)
      · replace hf := gIfp c11 hf
        refine lv_iconst (v := (0 : Int32)) hx hb dX1_light_50 (by decide) ?_
        obtain rfl := gO1 hf
        exact g_iret X hR hS _ rfl ⟨Nat.le_of_ble_eq_true rfl, Nat.le_of_ble_eq_true rfl⟩ dX1_light_51
      · replace hf := gIfn c11 hf
        refine lv_iconst (v := (1 : Int32)) hx hb dX1_light_46 (by decide) ?_
        refine lv_goto (tgt := 51) hx hb dX1_light_47 (by decide) ?_
        obtain rfl := gO1 hf
        exact g_iret X hR hS _ rfl ⟨Nat.le_of_ble_eq_true rfl, Nat.le_of_ble_eq_true rfl⟩ dX1_light_51
  · replace hf := gIfn c4 hf
    refine lv_iconst (v := (2 : Int32)) hx hb dX1_light_14 (by decide) ?_
    refine lv_goto (tgt := 51) hx hb dX1_light_15 (by decide) ?_
    obtain rfl := gO1 hf
    exact g_iret X hR hS _ rfl ⟨Nat.le_of_ble_eq_true rfl, Nat.le_of_ble_eq_true rfl⟩ dX1_light_51

def sp_X1_withLight_L4 (G : gG) (F : Nat) (h4L : gH) : Nat → Nat → Int32 → Int32 → Int32 → Option (Int32)
  | 0, _, _, _, _ => none
  | f + 1, v4_0, v4_1, v4_2, v4_3 =>
    (gGi 1 h4L v4_0 13).bind fun x501 =>
    if x501 ≤ v4_3 then
    some (v4_2) else
    if gIs 1 h4L v4_0 = true then
    (sp_X1_light G F h4L v4_0 v4_3).bind fun u504 =>
    if u504 = v4_1 then
    sp_X1_withLight_L4 G F h4L f v4_0 v4_1 (v4_2 ||| ((1 : Int32) <<< (v4_3 &&& 31))) (v4_3 + (1 : Int32)) else
    sp_X1_withLight_L4 G F h4L f v4_0 v4_1 (v4_2 ||| (0 : Int32)) (v4_3 + (1 : Int32)) else none
def sp_X1_withLight (G : gG) (F : Nat) (h : gH) (a0 : Nat) (p1 : Int32) : Option (Int32) :=
 (sp_X1_withLight_L4 G F h F a0 p1 (0 : Int32) (0 : Int32)).bind fun y3 =>
 some (y3)
theorem yk_X1_withLight : gVk yX1_withLight cX1_withLight 4 (some .int) 1 1 := ⟨q1256, q1257, q93, q1258, ⟨by decide +kernel, by decide +kernel, by decide +kernel⟩, rfl⟩
set_option maxHeartbeats 4000000 in
theorem m_X1_withLight (l : Launch) (G : gG) (F : Nat) (h : gH) (n : Nat) (a0 : Nat) (p1 : Int32) {r : Int32} (hf : sp_X1_withLight G F h a0 p1 = some r) : gMet l G yX1_withLight cX1_withLight 4 (some .int) 1 22 0 0 [.ref a0, .int p1] h n (some (.int r)) h n := by
  refine gEnter (by decide) [(0, .ref a0), (1, .int p1)] rfl (Nat.le_of_ble_eq_true rfl) ?_
  intro p e s m below meth c H ls X hin hR hS hl
  have hx := X.1.1
  have hb := X.1.2.1
  unfold sp_X1_withLight at hf
  generalize ([] : List Loc) = locs at hS ⊢
  refine lv_iconst (v := (0 : Int32)) hx hb dX1_withLight_0 (by decide) ?_
  refine lv_istore_n (lv' := [(2, .int (0 : Int32)), (0, .ref a0), (1, .int p1)]) hx hb dX1_withLight_1 rfl hl (by decide) rfl (fun ls hl => ?_)
  refine lv_iconst (v := (0 : Int32)) hx hb dX1_withLight_2 (by decide) ?_
  refine lv_istore_n (lv' := [(3, .int (0 : Int32)), (2, .int (0 : Int32)), (0, .ref a0), (1, .int p1)]) hx hb dX1_withLight_3 rfl hl (by decide) rfl (fun ls hl => ?_)
  have L4_q1 : ∀ (f : Nat) (v4_0 : Nat) (v4_1 : Int32) (v4_2 : Int32) (v4_3 : Int32) (o2 : Int32) (H : Heap) (locs : List Loc) (ls : Array Slot), sp_X1_withLight_L4 G F h f v4_0 v4_1 v4_2 v4_3 = some o2 → gRep G h n H → va_S (gFr G) s.heap H locs → lv_has ls 4 [(0, .ref v4_0), (1, .int v4_1), (2, .int v4_2), (3, .int v4_3)] → (∀ (H : Heap) (locs : List Loc) (ls : Array Slot), gRep G h n H → va_S (gFr G) s.heap H locs → lv_has ls 4 [(2, .int o2)] → W p l e ({ frames := 1, cells := 0, slots := 0, locals := 22 } : Room) s m ([.ref a0, .int p1] : List Value).toArray below meth c H locs 0 0 (MQ below (gQ G (some (.int r)) h n) ([.ref a0, .int p1] : List Value).toArray s 0 0 (gFr G)) (F0 m 37 ls [])) → W p l e ({ frames := 1, cells := 0, slots := 0, locals := 22 } : Room) s m ([.ref a0, .int p1] : List Value).toArray below meth c H locs 0 0 (MQ below (gQ G (some (.int r)) h n) ([.ref a0, .int p1] : List Value).toArray s 0 0 (gFr G)) (F0 m 4 ls []) := by
    clear hf
    intro f
    induction f with
    | zero =>
      intro v4_0 v4_1 v4_2 v4_3 o2 H locs ls hf
      cases hf
    | succ f ih =>
      intro v4_0 v4_1 v4_2 v4_3 o2 H locs ls hf hR hS hl K4
      rw [sp_X1_withLight_L4] at hf
      refine lv_iload_n hx hb dX1_withLight_4 rfl (lv_at hl 3 rfl) ?_
      refine lv_aload_n hx hb dX1_withLight_5 rfl (lv_at hl 0 rfl) ?_
      obtain ⟨x501, ex501, hf⟩ := gBind hf
      refine g_geti X hR gk_X1 13 (by decide) q648 rfl ex501 dX1_withLight_6 ?_
      refine lv_icmp_ge (tgt := 37) hx hb dX1_withLight_9 (by decide) (fun c502 => ?_) (fun c502 => ?_)
      · replace hf := gIfp c502 hf
        obtain rfl := gO1 hf
        exact K4 _ _ _ hR hS (lv_sub hl [2] rfl)
      · replace hf := gIfn c502 hf
        refine lv_iload_n hx hb dX1_withLight_12 rfl (lv_at hl 2 rfl) ?_
        refine lv_aload_n hx hb dX1_withLight_13 rfl (lv_at hl 0 rfl) ?_
        refine lv_iload_n hx hb dX1_withLight_14 rfl (lv_at hl 3 rfl) ?_
        obtain ⟨k503, hf⟩ := gChk hf
        obtain ⟨u504, eu504, hf⟩ := gBind hf
        refine g_callVi X hR hS [.int v4_3] (m_X1_light l G F h n v4_0 v4_3 eu504) yk_X1_light q1259 k503 rfl hl.1 ⟨Nat.le_of_ble_eq_true rfl, Nat.le_of_ble_eq_true rfl⟩ ⟨Nat.le_of_ble_eq_true rfl, Nat.le_of_ble_eq_true rfl⟩ rfl (Nat.le_of_ble_eq_true rfl) dX1_withLight_15 (fun H locs hR hS => ?_)
        refine lv_iload_n hx hb dX1_withLight_18 rfl (lv_at hl 1 rfl) ?_
        refine lv_icmp_ne (tgt := 28) hx hb dX1_withLight_19 (by decide) (fun c505 => ?_) (fun c505 => ?_)
        · replace hf := gIfn c505 hf
          refine lv_iconst (v := (0 : Int32)) hx hb dX1_withLight_28 (by decide) ?_
          refine lv_ior hx hb dX1_withLight_29 ?_
          refine lv_istore_n (lv' := [(2, .int (v4_2 ||| (0 : Int32))), (0, .ref v4_0), (1, .int v4_1), (3, .int v4_3)]) hx hb dX1_withLight_30 rfl hl (by decide) rfl (fun ls hl => ?_)
          refine lv_iinc (v := v4_3 + (1 : Int32)) (lv' := [(3, .int (v4_3 + (1 : Int32))), (2, .int (v4_2 ||| (0 : Int32))), (0, .ref v4_0), (1, .int v4_1)]) hx hb dX1_withLight_31 hl (k := 3) rfl rfl (by decide) rfl (fun ls hl => ?_)
          refine lv_goto (tgt := 4) hx hb dX1_withLight_34 (by decide) ?_
          exact ih v4_0 v4_1 (v4_2 ||| (0 : Int32)) (v4_3 + (1 : Int32)) _ _ _ _ hf hR hS (lv_sub hl [2, 3, 1, 0] rfl) K4
        · replace hf := gIfp c505 hf
          refine lv_iconst (v := (1 : Int32)) hx hb dX1_withLight_22 (by decide) ?_
          refine lv_iload_n hx hb dX1_withLight_23 rfl (lv_at hl 3 rfl) ?_
          refine lv_ishl hx hb dX1_withLight_24 ?_
          refine lv_goto (tgt := 29) hx hb dX1_withLight_25 (by decide) ?_
          refine lv_ior hx hb dX1_withLight_29 ?_
          refine lv_istore_n (lv' := [(2, .int (v4_2 ||| ((1 : Int32) <<< (v4_3 &&& 31)))), (0, .ref v4_0), (1, .int v4_1), (3, .int v4_3)]) hx hb dX1_withLight_30 rfl hl (by decide) rfl (fun ls hl => ?_)
          refine lv_iinc (v := v4_3 + (1 : Int32)) (lv' := [(3, .int (v4_3 + (1 : Int32))), (2, .int (v4_2 ||| ((1 : Int32) <<< (v4_3 &&& 31)))), (0, .ref v4_0), (1, .int v4_1)]) hx hb dX1_withLight_31 hl (k := 3) rfl rfl (by decide) rfl (fun ls hl => ?_)
          refine lv_goto (tgt := 4) hx hb dX1_withLight_34 (by decide) ?_
          exact ih v4_0 v4_1 (v4_2 ||| ((1 : Int32) <<< (v4_3 &&& 31))) (v4_3 + (1 : Int32)) _ _ _ _ hf hR hS (lv_sub hl [2, 3, 1, 0] rfl) K4
  obtain ⟨y3, ey3, hf⟩ := gBind hf
  refine L4_q1 F a0 p1 (0 : Int32) (0 : Int32) y3 _ _ _ ey3 hR hS (lv_sub hl [2, 3, 1, 0] rfl) (fun H locs ls hR hS hl => ?_)
  refine lv_iload_n hx hb dX1_withLight_37 rfl (lv_at hl 0 rfl) ?_
  obtain rfl := gO1 hf
  exact g_iret X hR hS _ rfl ⟨Nat.le_of_ble_eq_true rfl, Nat.le_of_ble_eq_true rfl⟩ dX1_withLight_38

def sp_X1_calledPhases_L4 (G : gG) (F : Nat) (h4L : gH) : Nat → Nat → Int32 → Int32 → Option (Int32)
  | 0, _, _, _ => none
  | f + 1, v4_0, v4_1, v4_2 =>
    (gGi 1 h4L v4_0 14).bind fun x501 =>
    if x501 ≤ v4_2 then
    some (v4_1) else
    if gIs 1 h4L v4_0 = true then
    (sp_X1_isCalled G F h4L v4_0 v4_2).bind fun u504 =>
    if u504 = 0 then
    sp_X1_calledPhases_L4 G F h4L f v4_0 (v4_1 ||| (0 : Int32)) (v4_2 + (1 : Int32)) else
    sp_X1_calledPhases_L4 G F h4L f v4_0 (v4_1 ||| ((1 : Int32) <<< (v4_2 &&& 31))) (v4_2 + (1 : Int32)) else none
def sp_X1_calledPhases (G : gG) (F : Nat) (h : gH) (a0 : Nat) : Option (Int32) :=
 (sp_X1_calledPhases_L4 G F h F a0 (0 : Int32) (0 : Int32)).bind fun y3 =>
 some (y3)
theorem yk_X1_calledPhases : gVk yX1_calledPhases cX1_calledPhases 3 (some .int) 0 1 := ⟨q1264, q1265, q93, q1266, ⟨by decide +kernel, by decide +kernel, by decide +kernel⟩, rfl⟩
set_option maxHeartbeats 4000000 in
theorem m_X1_calledPhases (l : Launch) (G : gG) (F : Nat) (h : gH) (n : Nat) (a0 : Nat) {r : Int32} (hf : sp_X1_calledPhases G F h a0 = some r) : gMet l G yX1_calledPhases cX1_calledPhases 3 (some .int) 2 43 0 0 [.ref a0] h n (some (.int r)) h n := by
  refine gEnter (by decide) [(0, .ref a0)] rfl (Nat.le_of_ble_eq_true rfl) ?_
  intro p e s m below meth c H ls X hin hR hS hl
  have hx := X.1.1
  have hb := X.1.2.1
  unfold sp_X1_calledPhases at hf
  generalize ([] : List Loc) = locs at hS ⊢
  refine lv_iconst (v := (0 : Int32)) hx hb dX1_calledPhases_0 (by decide) ?_
  refine lv_istore_n (lv' := [(1, .int (0 : Int32)), (0, .ref a0)]) hx hb dX1_calledPhases_1 rfl hl (by decide) rfl (fun ls hl => ?_)
  refine lv_iconst (v := (0 : Int32)) hx hb dX1_calledPhases_2 (by decide) ?_
  refine lv_istore_n (lv' := [(2, .int (0 : Int32)), (1, .int (0 : Int32)), (0, .ref a0)]) hx hb dX1_calledPhases_3 rfl hl (by decide) rfl (fun ls hl => ?_)
  have L4_q1 : ∀ (f : Nat) (v4_0 : Nat) (v4_1 : Int32) (v4_2 : Int32) (o2 : Int32) (H : Heap) (locs : List Loc) (ls : Array Slot), sp_X1_calledPhases_L4 G F h f v4_0 v4_1 v4_2 = some o2 → gRep G h n H → va_S (gFr G) s.heap H locs → lv_has ls 3 [(0, .ref v4_0), (1, .int v4_1), (2, .int v4_2)] → (∀ (H : Heap) (locs : List Loc) (ls : Array Slot), gRep G h n H → va_S (gFr G) s.heap H locs → lv_has ls 3 [(1, .int o2)] → W p l e ({ frames := 2, cells := 0, slots := 0, locals := 43 } : Room) s m ([.ref a0] : List Value).toArray below meth c H locs 0 0 (MQ below (gQ G (some (.int r)) h n) ([.ref a0] : List Value).toArray s 0 0 (gFr G)) (F0 m 36 ls [])) → W p l e ({ frames := 2, cells := 0, slots := 0, locals := 43 } : Room) s m ([.ref a0] : List Value).toArray below meth c H locs 0 0 (MQ below (gQ G (some (.int r)) h n) ([.ref a0] : List Value).toArray s 0 0 (gFr G)) (F0 m 4 ls []) := by
    clear hf
    intro f
    induction f with
    | zero =>
      intro v4_0 v4_1 v4_2 o2 H locs ls hf
      cases hf
    | succ f ih =>
      intro v4_0 v4_1 v4_2 o2 H locs ls hf hR hS hl K4
      rw [sp_X1_calledPhases_L4] at hf
      refine lv_iload_n hx hb dX1_calledPhases_4 rfl (lv_at hl 2 rfl) ?_
      refine lv_aload_n hx hb dX1_calledPhases_5 rfl (lv_at hl 0 rfl) ?_
      obtain ⟨x501, ex501, hf⟩ := gBind hf
      refine g_geti X hR gk_X1 14 (by decide) q650 rfl ex501 dX1_calledPhases_6 ?_
      refine lv_icmp_ge (tgt := 36) hx hb dX1_calledPhases_9 (by decide) (fun c502 => ?_) (fun c502 => ?_)
      · replace hf := gIfp c502 hf
        obtain rfl := gO1 hf
        exact K4 _ _ _ hR hS (lv_sub hl [1] rfl)
      · replace hf := gIfn c502 hf
        refine lv_iload_n hx hb dX1_calledPhases_12 rfl (lv_at hl 1 rfl) ?_
        refine lv_aload_n hx hb dX1_calledPhases_13 rfl (lv_at hl 0 rfl) ?_
        refine lv_iload_n hx hb dX1_calledPhases_14 rfl (lv_at hl 2 rfl) ?_
        obtain ⟨k503, hf⟩ := gChk hf
        obtain ⟨u504, eu504, hf⟩ := gBind hf
        refine g_callVi X hR hS [.int v4_2] (m_X1_isCalled l G F h n v4_0 v4_2 eu504) yk_X1_isCalled q1180 k503 rfl hl.1 ⟨Nat.le_of_ble_eq_true rfl, Nat.le_of_ble_eq_true rfl⟩ ⟨Nat.le_of_ble_eq_true rfl, Nat.le_of_ble_eq_true rfl⟩ rfl (Nat.le_of_ble_eq_true rfl) dX1_calledPhases_15 (fun H locs hR hS => ?_)
        refine lv_if_eq (tgt := 27) hx hb dX1_calledPhases_18 (by decide) (fun c505 => ?_) (fun c505 => ?_)
        · replace hf := gIfp c505 hf
          refine lv_iconst (v := (0 : Int32)) hx hb dX1_calledPhases_27 (by decide) ?_
          refine lv_ior hx hb dX1_calledPhases_28 ?_
          refine lv_istore_n (lv' := [(1, .int (v4_1 ||| (0 : Int32))), (0, .ref v4_0), (2, .int v4_2)]) hx hb dX1_calledPhases_29 rfl hl (by decide) rfl (fun ls hl => ?_)
          refine lv_iinc (v := v4_2 + (1 : Int32)) (lv' := [(2, .int (v4_2 + (1 : Int32))), (1, .int (v4_1 ||| (0 : Int32))), (0, .ref v4_0)]) hx hb dX1_calledPhases_30 hl (k := 2) rfl rfl (by decide) rfl (fun ls hl => ?_)
          refine lv_goto (tgt := 4) hx hb dX1_calledPhases_33 (by decide) ?_
          exact ih v4_0 (v4_1 ||| (0 : Int32)) (v4_2 + (1 : Int32)) _ _ _ _ hf hR hS (lv_sub hl [2, 1, 0] rfl) K4
        · replace hf := gIfn c505 hf
          refine lv_iconst (v := (1 : Int32)) hx hb dX1_calledPhases_21 (by decide) ?_
          refine lv_iload_n hx hb dX1_calledPhases_22 rfl (lv_at hl 2 rfl) ?_
          refine lv_ishl hx hb dX1_calledPhases_23 ?_
          refine lv_goto (tgt := 28) hx hb dX1_calledPhases_24 (by decide) ?_
          refine lv_ior hx hb dX1_calledPhases_28 ?_
          refine lv_istore_n (lv' := [(1, .int (v4_1 ||| ((1 : Int32) <<< (v4_2 &&& 31)))), (0, .ref v4_0), (2, .int v4_2)]) hx hb dX1_calledPhases_29 rfl hl (by decide) rfl (fun ls hl => ?_)
          refine lv_iinc (v := v4_2 + (1 : Int32)) (lv' := [(2, .int (v4_2 + (1 : Int32))), (1, .int (v4_1 ||| ((1 : Int32) <<< (v4_2 &&& 31)))), (0, .ref v4_0)]) hx hb dX1_calledPhases_30 hl (k := 2) rfl rfl (by decide) rfl (fun ls hl => ?_)
          refine lv_goto (tgt := 4) hx hb dX1_calledPhases_33 (by decide) ?_
          exact ih v4_0 (v4_1 ||| ((1 : Int32) <<< (v4_2 &&& 31))) (v4_2 + (1 : Int32)) _ _ _ _ hf hR hS (lv_sub hl [2, 1, 0] rfl) K4
  obtain ⟨y3, ey3, hf⟩ := gBind hf
  refine L4_q1 F a0 (0 : Int32) (0 : Int32) y3 _ _ _ ey3 hR hS (lv_sub hl [2, 1, 0] rfl) (fun H locs ls hR hS hl => ?_)
  refine lv_iload_n hx hb dX1_calledPhases_36 rfl (lv_at hl 0 rfl) ?_
  obtain rfl := gO1 hf
  exact g_iret X hR hS _ rfl ⟨Nat.le_of_ble_eq_true rfl, Nat.le_of_ble_eq_true rfl⟩ dX1_calledPhases_37

def sp_X1_queues_L4 (G : gG) (F : Nat) (h4L : gH) : Nat → Nat → Int32 → Int32 → Option (Int32)
  | 0, _, _, _ => none
  | f + 1, v4_0, v4_1, v4_2 =>
    (gGi 1 h4L v4_0 13).bind fun x501 =>
    if x501 ≤ v4_2 then
    some (v4_1) else
    (gGr 1 h4L v4_0 22).bind fun x503 =>
    (gAr 5 h4L x503 v4_2).bind fun a504 =>
    (gGi 2 h4L a504 5).bind fun x505 =>
    sp_X1_queues_L4 G F h4L f v4_0 (v4_1 + x505) (v4_2 + (1 : Int32))
def sp_X1_queues (G : gG) (F : Nat) (h : gH) (a0 : Nat) : Option (Int32) :=
 (sp_X1_queues_L4 G F h F a0 (0 : Int32) (0 : Int32)).bind fun y3 =>
 some (y3)
theorem yk_X1_queues : gVk yX1_queues cX1_queues 3 (some .int) 0 1 := ⟨q1269, q1270, q93, q1271, ⟨by decide +kernel, by decide +kernel, by decide +kernel⟩, rfl⟩
set_option maxHeartbeats 4000000 in
theorem m_X1_queues (l : Launch) (G : gG) (F : Nat) (h : gH) (n : Nat) (a0 : Nat) {r : Int32} (hf : sp_X1_queues G F h a0 = some r) : gMet l G yX1_queues cX1_queues 3 (some .int) 0 0 0 0 [.ref a0] h n (some (.int r)) h n := by
  refine gEnter (by decide) [(0, .ref a0)] rfl (Nat.le_of_ble_eq_true rfl) ?_
  intro p e s m below meth c H ls X hin hR hS hl
  have hx := X.1.1
  have hb := X.1.2.1
  unfold sp_X1_queues at hf
  generalize ([] : List Loc) = locs at hS ⊢
  refine lv_iconst (v := (0 : Int32)) hx hb dX1_queues_0 (by decide) ?_
  refine lv_istore_n (lv' := [(1, .int (0 : Int32)), (0, .ref a0)]) hx hb dX1_queues_1 rfl hl (by decide) rfl (fun ls hl => ?_)
  refine lv_iconst (v := (0 : Int32)) hx hb dX1_queues_2 (by decide) ?_
  refine lv_istore_n (lv' := [(2, .int (0 : Int32)), (1, .int (0 : Int32)), (0, .ref a0)]) hx hb dX1_queues_3 rfl hl (by decide) rfl (fun ls hl => ?_)
  have L4_q1 : ∀ (f : Nat) (v4_0 : Nat) (v4_1 : Int32) (v4_2 : Int32) (o2 : Int32) (H : Heap) (locs : List Loc) (ls : Array Slot), sp_X1_queues_L4 G F h f v4_0 v4_1 v4_2 = some o2 → gRep G h n H → va_S (gFr G) s.heap H locs → lv_has ls 3 [(0, .ref v4_0), (1, .int v4_1), (2, .int v4_2)] → (∀ (H : Heap) (locs : List Loc) (ls : Array Slot), gRep G h n H → va_S (gFr G) s.heap H locs → lv_has ls 3 [(1, .int o2)] → W p l e ({ frames := 0, cells := 0, slots := 0, locals := 0 } : Room) s m ([.ref a0] : List Value).toArray below meth c H locs 0 0 (MQ below (gQ G (some (.int r)) h n) ([.ref a0] : List Value).toArray s 0 0 (gFr G)) (F0 m 30 ls [])) → W p l e ({ frames := 0, cells := 0, slots := 0, locals := 0 } : Room) s m ([.ref a0] : List Value).toArray below meth c H locs 0 0 (MQ below (gQ G (some (.int r)) h n) ([.ref a0] : List Value).toArray s 0 0 (gFr G)) (F0 m 4 ls []) := by
    clear hf
    intro f
    induction f with
    | zero =>
      intro v4_0 v4_1 v4_2 o2 H locs ls hf
      cases hf
    | succ f ih =>
      intro v4_0 v4_1 v4_2 o2 H locs ls hf hR hS hl K4
      rw [sp_X1_queues_L4] at hf
      refine lv_iload_n hx hb dX1_queues_4 rfl (lv_at hl 2 rfl) ?_
      refine lv_aload_n hx hb dX1_queues_5 rfl (lv_at hl 0 rfl) ?_
      obtain ⟨x501, ex501, hf⟩ := gBind hf
      refine g_geti X hR gk_X1 13 (by decide) q648 rfl ex501 dX1_queues_6 ?_
      refine lv_icmp_ge (tgt := 30) hx hb dX1_queues_9 (by decide) (fun c502 => ?_) (fun c502 => ?_)
      · replace hf := gIfp c502 hf
        obtain rfl := gO1 hf
        exact K4 _ _ _ hR hS (lv_sub hl [1] rfl)
      · replace hf := gIfn c502 hf
        refine lv_iload_n hx hb dX1_queues_12 rfl (lv_at hl 1 rfl) ?_
        refine lv_aload_n hx hb dX1_queues_13 rfl (lv_at hl 0 rfl) ?_
        obtain ⟨x503, ex503, hf⟩ := gBind hf
        refine g_getr X hR gk_X1 22 (by decide) q665 rfl ex503 dX1_queues_14 ?_
        refine lv_iload_n hx hb dX1_queues_17 rfl (lv_at hl 2 rfl) ?_
        obtain ⟨a504, ea504, hf⟩ := gBind hf
        refine g_aald X hR 5 (by decide) rfl ea504 dX1_queues_18 ?_
        obtain ⟨x505, ex505, hf⟩ := gBind hf
        refine g_getiN X hR gk_X2 5 (by decide) q527 rfl ex505 dX1_queues_19 ?_
        refine lv_iadd hx hb dX1_queues_22 ?_
        refine lv_istore_n (lv' := [(1, .int (v4_1 + x505)), (0, .ref v4_0), (2, .int v4_2)]) hx hb dX1_queues_23 rfl hl (by decide) rfl (fun ls hl => ?_)
        refine lv_iinc (v := v4_2 + (1 : Int32)) (lv' := [(2, .int (v4_2 + (1 : Int32))), (1, .int (v4_1 + x505)), (0, .ref v4_0)]) hx hb dX1_queues_24 hl (k := 2) rfl rfl (by decide) rfl (fun ls hl => ?_)
        refine lv_goto (tgt := 4) hx hb dX1_queues_27 (by decide) ?_
        exact ih v4_0 (v4_1 + x505) (v4_2 + (1 : Int32)) _ _ _ _ hf hR hS (lv_sub hl [2, 1, 0] rfl) K4
  obtain ⟨y3, ey3, hf⟩ := gBind hf
  refine L4_q1 F a0 (0 : Int32) (0 : Int32) y3 _ _ _ ey3 hR hS (lv_sub hl [2, 1, 0] rfl) (fun H locs ls hR hS hl => ?_)
  refine lv_iload_n hx hb dX1_queues_30 rfl (lv_at hl 0 rfl) ?_
  obtain rfl := gO1 hf
  exact g_iret X hR hS _ rfl ⟨Nat.le_of_ble_eq_true rfl, Nat.le_of_ble_eq_true rfl⟩ dX1_queues_31

def sp_X1_latest (G : gG) (F : Nat) (h : gH) (a0 : Nat) (p1 : Int32) : Option (Nat) :=
 (gGr 1 h a0 24).bind fun x1 =>
 (gGi 1 h a0 16).bind fun x2 =>
 (gGi 1 h a0 15).bind fun x3 =>
 (gAr 7 h x1 ((((x2 + x3) - (1 : Int32)) - p1) - (((x2 + x3) - (1 : Int32)) - p1) / (24 : Int32) * (24 : Int32))).bind fun a4 =>
 some (a4)
theorem yk_X1_latest : gVk yX1_latest cX1_latest 2 (some (.object "SafeClears$Green")) 1 1 := ⟨q1371, q1372, q93, q1373, ⟨by decide +kernel, by decide +kernel, by decide +kernel⟩, rfl⟩
set_option maxHeartbeats 4000000 in
theorem m_X1_latest (l : Launch) (G : gG) (F : Nat) (h : gH) (n : Nat) (a0 : Nat) (p1 : Int32) {r : Nat} (hf : sp_X1_latest G F h a0 p1 = some r) : gMet l G yX1_latest cX1_latest 2 (some (.object "SafeClears$Green")) 0 0 0 0 [.ref a0, .int p1] h n (some (.ref r)) h n := by
  refine gEnter (by decide) [(0, .ref a0), (1, .int p1)] rfl (Nat.le_of_ble_eq_true rfl) ?_
  intro p e s m below meth c H ls X hin hR hS hl
  have hx := X.1.1
  have hb := X.1.2.1
  unfold sp_X1_latest at hf
  generalize ([] : List Loc) = locs at hS ⊢
  refine lv_aload_n hx hb dX1_latest_0 rfl (lv_at hl 0 rfl) ?_
  obtain ⟨x1, ex1, hf⟩ := gBind hf
  refine g_getr X hR gk_X1 24 (by decide) q669 rfl ex1 dX1_latest_1 ?_
  refine lv_aload_n hx hb dX1_latest_4 rfl (lv_at hl 0 rfl) ?_
  obtain ⟨x2, ex2, hf⟩ := gBind hf
  refine g_geti X hR gk_X1 16 (by decide) q654 rfl ex2 dX1_latest_5 ?_
  refine lv_aload_n hx hb dX1_latest_8 rfl (lv_at hl 0 rfl) ?_
  obtain ⟨x3, ex3, hf⟩ := gBind hf
  refine g_geti X hR gk_X1 15 (by decide) q652 rfl ex3 dX1_latest_9 ?_
  refine lv_iadd hx hb dX1_latest_12 ?_
  refine lv_iconst (v := (1 : Int32)) hx hb dX1_latest_13 (by decide) ?_
  refine lv_isub hx hb dX1_latest_14 ?_
  refine lv_iload_n hx hb dX1_latest_15 rfl (lv_at hl 1 rfl) ?_
  refine lv_isub hx hb dX1_latest_16 ?_
  refine lv_bipush (v := (24 : Int32)) hx hb dX1_latest_17 (by decide) ?_
  refine lv_irem hx hb dX1_latest_19 (by decide) ?_
  obtain ⟨a4, ea4, hf⟩ := gBind hf
  refine g_aald X hR 7 (by decide) rfl ea4 dX1_latest_20 ?_
  obtain rfl := gO1 hf
  exact g_aret X hR hS _ rfl ⟨Nat.le_of_ble_eq_true rfl, Nat.le_of_ble_eq_true rfl⟩ dX1_latest_21

def sp_X1_isThrough_L5 (G : gG) (F : Nat) (h5L : gH) : Nat → Nat → Int32 → Int32 → Int32 → Option (Int32)
  | 0, _, _, _, _ => none
  | f + 1, v5_0, v5_2, v5_3, v5_4 =>
    (gGi 1 h5L v5_0 18).bind fun x601 =>
    if x601 ≤ v5_4 then
    (gGi 1 h5L v5_0 18).bind fun x603 =>
    if x603 ≤ 0 then
    some ((0 : Int32)) else
    some ((1 : Int32)) else
    (if v5_2 = 0 then
    some (v5_4) else
    (gGi 1 h5L v5_0 18).bind fun x606 =>
    some ((x606 - (1 : Int32)) - v5_4)).bind fun j607 =>
    (gGr 1 h5L v5_0 26).bind fun x608 =>
    (gAr 8 h5L x608 j607).bind fun a609 =>
    (gGi 1 h5L v5_0 19).bind fun x610 =>
    if gIs 5 h5L a609 = true then
    (sp_X6_isOpen G F h5L a609 v5_3 x610).bind fun u612 =>
    if u612 = 0 then
    some ((0 : Int32)) else
    if v5_2 = 0 then
    (gGr 1 h5L v5_0 26).bind fun x620 =>
    (gAr 8 h5L x620 j607).bind fun a621 =>
    (gGr 5 h5L a621 0).bind fun x622 =>
    (gAi 0 h5L x622 (2 : Int32)).bind fun x623 =>
    sp_X1_isThrough_L5 G F h5L f v5_0 v5_2 (v5_3 + x623) (v5_4 + (1 : Int32)) else
    if j607 ≤ 0 then
    sp_X1_isThrough_L5 G F h5L f v5_0 v5_2 (v5_3 + (0 : Int32)) (v5_4 + (1 : Int32)) else
    (gGr 1 h5L v5_0 26).bind fun x616 =>
    (gAr 8 h5L x616 (j607 - (1 : Int32))).bind fun a617 =>
    (gGr 5 h5L a617 0).bind fun x618 =>
    (gAi 0 h5L x618 (2 : Int32)).bind fun x619 =>
    sp_X1_isThrough_L5 G F h5L f v5_0 v5_2 (v5_3 + x619) (v5_4 + (1 : Int32)) else none
def sp_X1_isThrough (G : gG) (F : Nat) (h : gH) (a0 : Nat) (p1 : Int32) (p2 : Int32) : Option (Int32) :=
 sp_X1_isThrough_L5 G F h F a0 p2 p1 (0 : Int32)
theorem yk_X1_isThrough : gVk yX1_isThrough cX1_isThrough 6 (some .boolean) 2 1 := ⟨q1482, qs29, q93, q1483, ⟨by decide +kernel, by decide +kernel, by decide +kernel⟩, rfl⟩
set_option maxHeartbeats 4000000 in
theorem m_X1_isThrough (l : Launch) (G : gG) (F : Nat) (h : gH) (n : Nat) (a0 : Nat) (p1 : Int32) (p2 : Int32) {r : Int32} (hf : sp_X1_isThrough G F h a0 p1 p2 = some r) : gMet l G yX1_isThrough cX1_isThrough 6 (some .boolean) 2 44 0 0 [.ref a0, .int p1, .int p2] h n (some (.int r)) h n := by
  refine gEnter (by decide) [(0, .ref a0), (1, .int p1), (2, .int p2)] rfl (Nat.le_of_ble_eq_true rfl) ?_
  intro p e s m below meth c H ls X hin hR hS hl
  have hx := X.1.1
  have hb := X.1.2.1
  unfold sp_X1_isThrough at hf
  generalize ([] : List Loc) = locs at hS ⊢
  refine lv_iload_n hx hb dX1_isThrough_0 rfl (lv_at hl 1 rfl) ?_
  refine lv_istore_n (lv' := [(3, .int p1), (0, .ref a0), (1, .int p1), (2, .int p2)]) hx hb dX1_isThrough_1 rfl hl (by decide) rfl (fun ls hl => ?_)
  refine lv_iconst (v := (0 : Int32)) hx hb dX1_isThrough_2 (by decide) ?_
  refine lv_istore (lv' := [(4, .int (0 : Int32)), (3, .int p1), (0, .ref a0), (1, .int p1), (2, .int p2)]) hx hb dX1_isThrough_3 hl (by decide) rfl (fun ls hl => ?_)
  have L5_q1 : ∀ (f : Nat) (v5_0 : Nat) (v5_2 : Int32) (v5_3 : Int32) (v5_4 : Int32) (H : Heap) (locs : List Loc) (ls : Array Slot), sp_X1_isThrough_L5 G F h f v5_0 v5_2 v5_3 v5_4 = some r → gRep G h n H → va_S (gFr G) s.heap H locs → lv_has ls 6 [(0, .ref v5_0), (2, .int v5_2), (3, .int v5_3), (4, .int v5_4)] → W p l e ({ frames := 2, cells := 0, slots := 0, locals := 44 } : Room) s m ([.ref a0, .int p1, .int p2] : List Value).toArray below meth c H locs 0 0 (MQ below (gQ G (some (.int r)) h n) ([.ref a0, .int p1, .int p2] : List Value).toArray s 0 0 (gFr G)) (F0 m 5 ls []) := by
    clear hf
    intro f
    induction f with
    | zero =>
      intro v5_0 v5_2 v5_3 v5_4 H locs ls hf
      cases hf
    | succ f ih =>
      intro v5_0 v5_2 v5_3 v5_4 H locs ls hf hR hS hl
      rw [sp_X1_isThrough_L5] at hf
      refine lv_iload hx hb dX1_isThrough_5 (lv_at hl 3 rfl) ?_
      refine lv_aload_n hx hb dX1_isThrough_7 rfl (lv_at hl 0 rfl) ?_
      obtain ⟨x601, ex601, hf⟩ := gBind hf
      refine g_geti X hR gk_X1 18 (by decide) q657 rfl ex601 dX1_isThrough_8 ?_
      refine lv_icmp_ge (tgt := 105) hx hb dX1_isThrough_11 (by decide) (fun c602 => ?_) (fun c602 => ?_)
      · replace hf := gIfp c602 hf
        refine lv_aload_n hx hb dX1_isThrough_105 rfl (lv_at hl 0 rfl) ?_
        obtain ⟨x603, ex603, hf⟩ := gBind hf
        refine g_geti X hR gk_X1 18 (by decide) q657 rfl ex603 dX1_isThrough_106 ?_
        refine lv_if_le (tgt := 116) hx hb dX1_isThrough_109 (by decide) (fun c604 => ?_) (fun c604 => ?_)
        · replace hf := gIfp c604 hf
          refine lv_iconst (v := (0 : Int32)) hx hb dX1_isThrough_116 (by decide) ?_
          obtain rfl := gO1 hf
          exact g_zret X hR hS _ rfl rfl ⟨Nat.le_of_ble_eq_true rfl, Nat.le_of_ble_eq_true rfl⟩ dX1_isThrough_117
        · replace hf := gIfn c604 hf
          refine lv_iconst (v := (1 : Int32)) hx hb dX1_isThrough_112 (by decide) ?_
          refine lv_goto (tgt := 117) hx hb dX1_isThrough_113 (by decide) ?_
          obtain rfl := gO1 hf
          exact g_zret X hR hS _ rfl rfl ⟨Nat.le_of_ble_eq_true rfl, Nat.le_of_ble_eq_true rfl⟩ dX1_isThrough_117
      · replace hf := gIfn c602 hf
        refine lv_iload_n hx hb dX1_isThrough_14 rfl (lv_at hl 1 rfl) ?_
        obtain ⟨j607, ej607, hf⟩ := gBind hf
        have J32_j607 : ∀ (H : Heap) (locs : List Loc) (ls : Array Slot), gRep G h n H → va_S (gFr G) s.heap H locs → lv_has ls 6 [(0, .ref v5_0), (2, .int v5_2), (3, .int v5_3), (4, .int v5_4)] → W p l e ({ frames := 2, cells := 0, slots := 0, locals := 44 } : Room) s m ([.ref a0, .int p1, .int p2] : List Value).toArray below meth c H locs 0 0 (MQ below (gQ G (some (.int r)) h n) ([.ref a0, .int p1, .int p2] : List Value).toArray s 0 0 (gFr G)) (F0 m 32 ls [.int j607]) := by
          intro H locs ls hR hS hl
          refine lv_istore (lv' := [(5, .int j607), (0, .ref v5_0), (2, .int v5_2), (3, .int v5_3), (4, .int v5_4)]) hx hb dX1_isThrough_32 hl (by decide) rfl (fun ls hl => ?_)
          refine lv_aload_n hx hb dX1_isThrough_34 rfl (lv_at hl 1 rfl) ?_
          obtain ⟨x608, ex608, hf⟩ := gBind hf
          refine g_getr X hR gk_X1 26 (by decide) q673 rfl ex608 dX1_isThrough_35 ?_
          refine lv_iload hx hb dX1_isThrough_38 (lv_at hl 0 rfl) ?_
          obtain ⟨a609, ea609, hf⟩ := gBind hf
          refine g_aald X hR 8 (by decide) rfl ea609 dX1_isThrough_40 ?_
          refine lv_iload_n hx hb dX1_isThrough_41 rfl (lv_at hl 3 rfl) ?_
          refine lv_aload_n hx hb dX1_isThrough_42 rfl (lv_at hl 1 rfl) ?_
          obtain ⟨x610, ex610, hf⟩ := gBind hf
          refine g_geti X hR gk_X1 19 (by decide) q659 rfl ex610 dX1_isThrough_43 ?_
          obtain ⟨k611, hf⟩ := gChk hf
          obtain ⟨u612, eu612, hf⟩ := gBind hf
          refine g_callVi X hR hS [.int v5_3, .int x610] (m_X6_isOpen l G F h n a609 v5_3 x610 eu612) yk_X6_isOpen q1484 k611 rfl hl.1 ⟨Nat.le_of_ble_eq_true rfl, Nat.le_of_ble_eq_true rfl⟩ ⟨Nat.le_of_ble_eq_true rfl, Nat.le_of_ble_eq_true rfl⟩ rfl (Nat.le_of_ble_eq_true rfl) dX1_isThrough_46 (fun H locs hR hS => ?_)
          refine lv_if_ne (tgt := 54) hx hb dX1_isThrough_49 (by decide) (fun c613 => ?_) (fun c613 => ?_)
          · replace hf := gIfn c613 hf
            refine lv_iload_n hx hb dX1_isThrough_54 rfl (lv_at hl 3 rfl) ?_
            refine lv_iload_n hx hb dX1_isThrough_55 rfl (lv_at hl 2 rfl) ?_
            refine lv_if_ne (tgt := 74) hx hb dX1_isThrough_56 (by decide) (fun c614 => ?_) (fun c614 => ?_)
            · replace hf := gIfn c614 hf
              refine lv_iload hx hb dX1_isThrough_74 (lv_at hl 0 rfl) ?_
              refine lv_if_le (tgt := 96) hx hb dX1_isThrough_76 (by decide) (fun c615 => ?_) (fun c615 => ?_)
              · replace hf := gIfp c615 hf
                refine lv_iconst (v := (0 : Int32)) hx hb dX1_isThrough_96 (by decide) ?_
                refine lv_iadd hx hb dX1_isThrough_97 ?_
                refine lv_istore_n (lv' := [(3, .int (v5_3 + (0 : Int32))), (5, .int j607), (0, .ref v5_0), (2, .int v5_2), (4, .int v5_4)]) hx hb dX1_isThrough_98 rfl hl (by decide) rfl (fun ls hl => ?_)
                refine lv_iinc (v := v5_4 + (1 : Int32)) (lv' := [(4, .int (v5_4 + (1 : Int32))), (3, .int (v5_3 + (0 : Int32))), (5, .int j607), (0, .ref v5_0), (2, .int v5_2)]) hx hb dX1_isThrough_99 hl (k := 4) rfl rfl (by decide) rfl (fun ls hl => ?_)
                refine lv_goto (tgt := 5) hx hb dX1_isThrough_102 (by decide) ?_
                exact ih v5_0 v5_2 (v5_3 + (0 : Int32)) (v5_4 + (1 : Int32)) _ _ _ hf hR hS (lv_sub hl [3, 4, 1, 0] rfl)
              · replace hf := gIfn c615 hf
                refine lv_aload_n hx hb dX1_isThrough_79 rfl (lv_at hl 1 rfl) ?_
                obtain ⟨x616, ex616, hf⟩ := gBind hf
                refine g_getr X hR gk_X1 26 (by decide) q673 rfl ex616 dX1_isThrough_80 ?_
                refine lv_iload hx hb dX1_isThrough_83 (lv_at hl 0 rfl) ?_
                refine lv_iconst (v := (1 : Int32)) hx hb dX1_isThrough_85 (by decide) ?_
                refine lv_isub hx hb dX1_isThrough_86 ?_
                obtain ⟨a617, ea617, hf⟩ := gBind hf
                refine g_aald X hR 8 (by decide) rfl ea617 dX1_isThrough_87 ?_
                obtain ⟨x618, ex618, hf⟩ := gBind hf
                refine g_getrN X hR gk_X6 0 (by decide) q617 rfl ex618 dX1_isThrough_88 ?_
                refine lv_iconst (v := (2 : Int32)) hx hb dX1_isThrough_91 (by decide) ?_
                obtain ⟨x619, ex619, hf⟩ := gBind hf
                refine g_iald X hR ex619 dX1_isThrough_92 ?_
                refine lv_goto (tgt := 97) hx hb dX1_isThrough_93 (by decide) ?_
                refine lv_iadd hx hb dX1_isThrough_97 ?_
                refine lv_istore_n (lv' := [(3, .int (v5_3 + x619)), (5, .int j607), (0, .ref v5_0), (2, .int v5_2), (4, .int v5_4)]) hx hb dX1_isThrough_98 rfl hl (by decide) rfl (fun ls hl => ?_)
                refine lv_iinc (v := v5_4 + (1 : Int32)) (lv' := [(4, .int (v5_4 + (1 : Int32))), (3, .int (v5_3 + x619)), (5, .int j607), (0, .ref v5_0), (2, .int v5_2)]) hx hb dX1_isThrough_99 hl (k := 4) rfl rfl (by decide) rfl (fun ls hl => ?_)
                refine lv_goto (tgt := 5) hx hb dX1_isThrough_102 (by decide) ?_
                exact ih v5_0 v5_2 (v5_3 + x619) (v5_4 + (1 : Int32)) _ _ _ hf hR hS (lv_sub hl [3, 4, 1, 0] rfl)
            · replace hf := gIfp c614 hf
              refine lv_aload_n hx hb dX1_isThrough_59 rfl (lv_at hl 1 rfl) ?_
              obtain ⟨x620, ex620, hf⟩ := gBind hf
              refine g_getr X hR gk_X1 26 (by decide) q673 rfl ex620 dX1_isThrough_60 ?_
              refine lv_iload hx hb dX1_isThrough_63 (lv_at hl 0 rfl) ?_
              obtain ⟨a621, ea621, hf⟩ := gBind hf
              refine g_aald X hR 8 (by decide) rfl ea621 dX1_isThrough_65 ?_
              obtain ⟨x622, ex622, hf⟩ := gBind hf
              refine g_getrN X hR gk_X6 0 (by decide) q617 rfl ex622 dX1_isThrough_66 ?_
              refine lv_iconst (v := (2 : Int32)) hx hb dX1_isThrough_69 (by decide) ?_
              obtain ⟨x623, ex623, hf⟩ := gBind hf
              refine g_iald X hR ex623 dX1_isThrough_70 ?_
              refine lv_goto (tgt := 97) hx hb dX1_isThrough_71 (by decide) ?_
              refine lv_iadd hx hb dX1_isThrough_97 ?_
              refine lv_istore_n (lv' := [(3, .int (v5_3 + x623)), (5, .int j607), (0, .ref v5_0), (2, .int v5_2), (4, .int v5_4)]) hx hb dX1_isThrough_98 rfl hl (by decide) rfl (fun ls hl => ?_)
              refine lv_iinc (v := v5_4 + (1 : Int32)) (lv' := [(4, .int (v5_4 + (1 : Int32))), (3, .int (v5_3 + x623)), (5, .int j607), (0, .ref v5_0), (2, .int v5_2)]) hx hb dX1_isThrough_99 hl (k := 4) rfl rfl (by decide) rfl (fun ls hl => ?_)
              refine lv_goto (tgt := 5) hx hb dX1_isThrough_102 (by decide) ?_
              exact ih v5_0 v5_2 (v5_3 + x623) (v5_4 + (1 : Int32)) _ _ _ hf hR hS (lv_sub hl [3, 4, 1, 0] rfl)
          · replace hf := gIfp c613 hf
            refine lv_iconst (v := (0 : Int32)) hx hb dX1_isThrough_52 (by decide) ?_
            obtain rfl := gO1 hf
            exact g_zret X hR hS _ rfl rfl ⟨Nat.le_of_ble_eq_true rfl, Nat.le_of_ble_eq_true rfl⟩ dX1_isThrough_53
        replace hf := ej607
        clear ej607
        refine lv_if_ne (tgt := 23) hx hb dX1_isThrough_15 (by decide) (fun c605 => ?_) (fun c605 => ?_)
        · replace hf := gIfn c605 hf
          refine lv_aload_n hx hb dX1_isThrough_23 rfl (lv_at hl 0 rfl) ?_
          obtain ⟨x606, ex606, hf⟩ := gBind hf
          refine g_geti X hR gk_X1 18 (by decide) q657 rfl ex606 dX1_isThrough_24 ?_
          refine lv_iconst (v := (1 : Int32)) hx hb dX1_isThrough_27 (by decide) ?_
          refine lv_isub hx hb dX1_isThrough_28 ?_
          refine lv_iload hx hb dX1_isThrough_29 (lv_at hl 3 rfl) ?_
          refine lv_isub hx hb dX1_isThrough_31 ?_
          obtain rfl := gO1 hf
          exact J32_j607 _ _ _ hR hS (lv_sub hl [0, 1, 2, 3] rfl)
        · replace hf := gIfp c605 hf
          refine lv_iload hx hb dX1_isThrough_18 (lv_at hl 3 rfl) ?_
          refine lv_goto (tgt := 32) hx hb dX1_isThrough_20 (by decide) ?_
          obtain rfl := gO1 hf
          exact J32_j607 _ _ _ hR hS (lv_sub hl [0, 1, 2, 3] rfl)
  exact L5_q1 F a0 p2 p1 (0 : Int32) _ _ _ hf hR hS (lv_sub hl [2, 4, 1, 0] rfl)

def sp_X1_band_L4 (G : gG) (F : Nat) (h4L : gH) : Nat → Nat → Int32 → Int32 → Int32 → Option (Int32)
  | 0, _, _, _, _ => none
  | f + 1, v4_0, v4_1, v4_2, v4_3 =>
    (gGi 1 h4L v4_0 19).bind fun x501 =>
    if x501 ≤ v4_3 then
    some (v4_2) else
    if gIs 1 h4L v4_0 = true then
    (sp_X1_isThrough G F h4L v4_0 v4_3 v4_1).bind fun u504 =>
    if u504 = 0 then
    sp_X1_band_L4 G F h4L f v4_0 v4_1 (v4_2 + (0 : Int32)) (v4_3 + (1 : Int32)) else
    sp_X1_band_L4 G F h4L f v4_0 v4_1 (v4_2 + (1 : Int32)) (v4_3 + (1 : Int32)) else none
def sp_X1_band (G : gG) (F : Nat) (h : gH) (a0 : Nat) (p1 : Int32) : Option (Int32) :=
 (sp_X1_band_L4 G F h F a0 p1 (0 : Int32) (0 : Int32)).bind fun y3 =>
 some (y3)
theorem yk_X1_band : gVk yX1_band cX1_band 4 (some .int) 1 1 := ⟨q1477, q1478, q93, q1479, ⟨by decide +kernel, by decide +kernel, by decide +kernel⟩, rfl⟩
set_option maxHeartbeats 4000000 in
theorem m_X1_band (l : Launch) (G : gG) (F : Nat) (h : gH) (n : Nat) (a0 : Nat) (p1 : Int32) {r : Int32} (hf : sp_X1_band G F h a0 p1 = some r) : gMet l G yX1_band cX1_band 4 (some .int) 3 69 0 0 [.ref a0, .int p1] h n (some (.int r)) h n := by
  refine gEnter (by decide) [(0, .ref a0), (1, .int p1)] rfl (Nat.le_of_ble_eq_true rfl) ?_
  intro p e s m below meth c H ls X hin hR hS hl
  have hx := X.1.1
  have hb := X.1.2.1
  unfold sp_X1_band at hf
  generalize ([] : List Loc) = locs at hS ⊢
  refine lv_iconst (v := (0 : Int32)) hx hb dX1_band_0 (by decide) ?_
  refine lv_istore_n (lv' := [(2, .int (0 : Int32)), (0, .ref a0), (1, .int p1)]) hx hb dX1_band_1 rfl hl (by decide) rfl (fun ls hl => ?_)
  refine lv_iconst (v := (0 : Int32)) hx hb dX1_band_2 (by decide) ?_
  refine lv_istore_n (lv' := [(3, .int (0 : Int32)), (2, .int (0 : Int32)), (0, .ref a0), (1, .int p1)]) hx hb dX1_band_3 rfl hl (by decide) rfl (fun ls hl => ?_)
  have L4_q1 : ∀ (f : Nat) (v4_0 : Nat) (v4_1 : Int32) (v4_2 : Int32) (v4_3 : Int32) (o2 : Int32) (H : Heap) (locs : List Loc) (ls : Array Slot), sp_X1_band_L4 G F h f v4_0 v4_1 v4_2 v4_3 = some o2 → gRep G h n H → va_S (gFr G) s.heap H locs → lv_has ls 4 [(0, .ref v4_0), (1, .int v4_1), (2, .int v4_2), (3, .int v4_3)] → (∀ (H : Heap) (locs : List Loc) (ls : Array Slot), gRep G h n H → va_S (gFr G) s.heap H locs → lv_has ls 4 [(2, .int o2)] → W p l e ({ frames := 3, cells := 0, slots := 0, locals := 69 } : Room) s m ([.ref a0, .int p1] : List Value).toArray below meth c H locs 0 0 (MQ below (gQ G (some (.int r)) h n) ([.ref a0, .int p1] : List Value).toArray s 0 0 (gFr G)) (F0 m 35 ls [])) → W p l e ({ frames := 3, cells := 0, slots := 0, locals := 69 } : Room) s m ([.ref a0, .int p1] : List Value).toArray below meth c H locs 0 0 (MQ below (gQ G (some (.int r)) h n) ([.ref a0, .int p1] : List Value).toArray s 0 0 (gFr G)) (F0 m 4 ls []) := by
    clear hf
    intro f
    induction f with
    | zero =>
      intro v4_0 v4_1 v4_2 v4_3 o2 H locs ls hf
      cases hf
    | succ f ih =>
      intro v4_0 v4_1 v4_2 v4_3 o2 H locs ls hf hR hS hl K4
      rw [sp_X1_band_L4] at hf
      refine lv_iload_n hx hb dX1_band_4 rfl (lv_at hl 3 rfl) ?_
      refine lv_aload_n hx hb dX1_band_5 rfl (lv_at hl 0 rfl) ?_
      obtain ⟨x501, ex501, hf⟩ := gBind hf
      refine g_geti X hR gk_X1 19 (by decide) q659 rfl ex501 dX1_band_6 ?_
      refine lv_icmp_ge (tgt := 35) hx hb dX1_band_9 (by decide) (fun c502 => ?_) (fun c502 => ?_)
      · replace hf := gIfp c502 hf
        obtain rfl := gO1 hf
        exact K4 _ _ _ hR hS (lv_sub hl [2] rfl)
      · replace hf := gIfn c502 hf
        refine lv_iload_n hx hb dX1_band_12 rfl (lv_at hl 2 rfl) ?_
        refine lv_aload_n hx hb dX1_band_13 rfl (lv_at hl 0 rfl) ?_
        refine lv_iload_n hx hb dX1_band_14 rfl (lv_at hl 3 rfl) ?_
        refine lv_iload_n hx hb dX1_band_15 rfl (lv_at hl 1 rfl) ?_
        obtain ⟨k503, hf⟩ := gChk hf
        obtain ⟨u504, eu504, hf⟩ := gBind hf
        refine g_callVi X hR hS [.int v4_3, .int v4_1] (m_X1_isThrough l G F h n v4_0 v4_3 v4_1 eu504) yk_X1_isThrough q1480 k503 rfl hl.1 ⟨Nat.le_of_ble_eq_true rfl, Nat.le_of_ble_eq_true rfl⟩ ⟨Nat.le_of_ble_eq_true rfl, Nat.le_of_ble_eq_true rfl⟩ rfl (Nat.le_of_ble_eq_true rfl) dX1_band_16 (fun H locs hR hS => ?_)
        refine lv_if_eq (tgt := 26) hx hb dX1_band_19 (by decide) (fun c505 => ?_) (fun c505 => ?_)
        · replace hf := gIfp c505 hf
          refine lv_iconst (v := (0 : Int32)) hx hb dX1_band_26 (by decide) ?_
          refine lv_iadd hx hb dX1_band_27 ?_
          refine lv_istore_n (lv' := [(2, .int (v4_2 + (0 : Int32))), (0, .ref v4_0), (1, .int v4_1), (3, .int v4_3)]) hx hb dX1_band_28 rfl hl (by decide) rfl (fun ls hl => ?_)
          refine lv_iinc (v := v4_3 + (1 : Int32)) (lv' := [(3, .int (v4_3 + (1 : Int32))), (2, .int (v4_2 + (0 : Int32))), (0, .ref v4_0), (1, .int v4_1)]) hx hb dX1_band_29 hl (k := 3) rfl rfl (by decide) rfl (fun ls hl => ?_)
          refine lv_goto (tgt := 4) hx hb dX1_band_32 (by decide) ?_
          exact ih v4_0 v4_1 (v4_2 + (0 : Int32)) (v4_3 + (1 : Int32)) _ _ _ _ hf hR hS (lv_sub hl [2, 3, 1, 0] rfl) K4
        · replace hf := gIfn c505 hf
          refine lv_iconst (v := (1 : Int32)) hx hb dX1_band_22 (by decide) ?_
          refine lv_goto (tgt := 27) hx hb dX1_band_23 (by decide) ?_
          refine lv_iadd hx hb dX1_band_27 ?_
          refine lv_istore_n (lv' := [(2, .int (v4_2 + (1 : Int32))), (0, .ref v4_0), (1, .int v4_1), (3, .int v4_3)]) hx hb dX1_band_28 rfl hl (by decide) rfl (fun ls hl => ?_)
          refine lv_iinc (v := v4_3 + (1 : Int32)) (lv' := [(3, .int (v4_3 + (1 : Int32))), (2, .int (v4_2 + (1 : Int32))), (0, .ref v4_0), (1, .int v4_1)]) hx hb dX1_band_29 hl (k := 3) rfl rfl (by decide) rfl (fun ls hl => ?_)
          refine lv_goto (tgt := 4) hx hb dX1_band_32 (by decide) ?_
          exact ih v4_0 v4_1 (v4_2 + (1 : Int32)) (v4_3 + (1 : Int32)) _ _ _ _ hf hR hS (lv_sub hl [2, 3, 1, 0] rfl) K4
  obtain ⟨y3, ey3, hf⟩ := gBind hf
  refine L4_q1 F a0 p1 (0 : Int32) (0 : Int32) y3 _ _ _ ey3 hR hS (lv_sub hl [2, 3, 1, 0] rfl) (fun H locs ls hR hS hl => ?_)
  refine lv_iload_n hx hb dX1_band_35 rfl (lv_at hl 0 rfl) ?_
  obtain rfl := gO1 hf
  exact g_iret X hR hS _ rfl ⟨Nat.le_of_ble_eq_true rfl, Nat.le_of_ble_eq_true rfl⟩ dX1_band_36

def sp_X1_bands (G : gG) (F : Nat) (h : gH) (a0 : Nat) : Option (Int32) :=
 if gIs 1 h a0 = true then
 (sp_X1_band G F h a0 (0 : Int32)).bind fun u2 =>
 if gIs 1 h a0 = true then
 (sp_X1_band G F h a0 (1 : Int32)).bind fun u4 =>
 some (u2 + u4) else none else none
theorem yk_X1_bands : gVk yX1_bands cX1_bands 1 (some .int) 0 1 := ⟨q1473, q1474, q93, q1475, ⟨by decide +kernel, by decide +kernel, by decide +kernel⟩, rfl⟩
set_option maxHeartbeats 4000000 in
theorem m_X1_bands (l : Launch) (G : gG) (F : Nat) (h : gH) (n : Nat) (a0 : Nat) {r : Int32} (hf : sp_X1_bands G F h a0 = some r) : gMet l G yX1_bands cX1_bands 1 (some .int) 4 92 0 0 [.ref a0] h n (some (.int r)) h n := by
  refine gEnter (by decide) [(0, .ref a0)] rfl (Nat.le_of_ble_eq_true rfl) ?_
  intro p e s m below meth c H ls X hin hR hS hl
  have hx := X.1.1
  have hb := X.1.2.1
  unfold sp_X1_bands at hf
  generalize ([] : List Loc) = locs at hS ⊢
  refine lv_aload_n hx hb dX1_bands_0 rfl (lv_at hl 0 rfl) ?_
  refine lv_iconst (v := (0 : Int32)) hx hb dX1_bands_1 (by decide) ?_
  obtain ⟨k1, hf⟩ := gChk hf
  obtain ⟨u2, eu2, hf⟩ := gBind hf
  refine g_callVi X hR hS [.int (0 : Int32)] (m_X1_band l G F h n a0 (0 : Int32) eu2) yk_X1_band q1476 k1 rfl hl.1 ⟨Nat.le_of_ble_eq_true rfl, Nat.le_of_ble_eq_true rfl⟩ ⟨Nat.le_of_ble_eq_true rfl, Nat.le_of_ble_eq_true rfl⟩ rfl (Nat.le_of_ble_eq_true rfl) dX1_bands_2 (fun H locs hR hS => ?_)
  refine lv_aload_n hx hb dX1_bands_5 rfl (lv_at hl 0 rfl) ?_
  refine lv_iconst (v := (1 : Int32)) hx hb dX1_bands_6 (by decide) ?_
  obtain ⟨k3, hf⟩ := gChk hf
  obtain ⟨u4, eu4, hf⟩ := gBind hf
  refine g_callVi X hR hS [.int (1 : Int32)] (m_X1_band l G F h n a0 (1 : Int32) eu4) yk_X1_band q1476 k3 rfl hl.1 ⟨Nat.le_of_ble_eq_true rfl, Nat.le_of_ble_eq_true rfl⟩ ⟨Nat.le_of_ble_eq_true rfl, Nat.le_of_ble_eq_true rfl⟩ rfl (Nat.le_of_ble_eq_true rfl) dX1_bands_7 (fun H locs hR hS => ?_)
  refine lv_iadd hx hb dX1_bands_10 ?_
  obtain rfl := gO1 hf
  exact g_iret X hR hS _ rfl ⟨Nat.le_of_ble_eq_true rfl, Nat.le_of_ble_eq_true rfl⟩ dX1_bands_11

def sp_X1_like_L178 (G : gG) (F : Nat) : Nat → gH → Nat → Nat → Int32 → Option (gH)
  | 0, _, _, _, _ => none
  | f + 1, h178L, v178_0, v178_1, v178_2 =>
    (gGi 1 h178L v178_0 13).bind fun x17901 =>
    if x17901 ≤ v178_2 then
    some (h178L) else
    (gGr 1 h178L v178_0 22).bind fun x17903 =>
    (gAr 5 h178L x17903 v178_2).bind fun a17904 =>
    (gGr 1 h178L v178_1 22).bind fun x17905 =>
    (gAr 5 h178L x17905 v178_2).bind fun a17906 =>
    if gIs 2 h178L a17904 = true then
    (sp_X2_like G F h178L a17904 a17906).bind fun u17908 =>
    sp_X1_like_L178 G F f u17908 v178_0 v178_1 (v178_2 + (1 : Int32)) else none
def sp_X1_like_L209 (G : gG) (F : Nat) : Nat → gH → Nat → Nat → Int32 → Option (gH)
  | 0, _, _, _, _ => none
  | f + 1, h209L, v209_0, v209_1, v209_2 =>
    (gGi 1 h209L v209_0 14).bind fun x21001 =>
    if x21001 ≤ v209_2 then
    some (h209L) else
    (gGr 1 h209L v209_0 23).bind fun x21003 =>
    (gAr 6 h209L x21003 v209_2).bind fun a21004 =>
    (gGr 1 h209L v209_1 23).bind fun x21005 =>
    (gAr 6 h209L x21005 v209_2).bind fun a21006 =>
    (gGi 3 h209L a21006 0).bind fun x21007 =>
    (gGr 1 h209L v209_1 23).bind fun x21008 =>
    (gAr 6 h209L x21008 v209_2).bind fun a21009 =>
    (gGi 3 h209L a21009 1).bind fun x21010 =>
    (gGr 1 h209L v209_1 23).bind fun x21011 =>
    (gAr 6 h209L x21011 v209_2).bind fun a21012 =>
    (gGi 3 h209L a21012 2).bind fun x21013 =>
    if gIs 3 h209L a21004 = true then
    (sp_X4_is G F h209L a21004 x21007 x21010 x21013).bind fun u21015 =>
    sp_X1_like_L209 G F f u21015 v209_0 v209_1 (v209_2 + (1 : Int32)) else none
def sp_X1_like_L261 (G : gG) (F : Nat) : Nat → gH → Nat → Nat → Int32 → Option (gH)
  | 0, _, _, _, _ => none
  | f + 1, h261L, v261_0, v261_1, v261_2 =>
    (gGi 1 h261L v261_0 15).bind fun x26201 =>
    if x26201 ≤ v261_2 then
    some (h261L) else
    (gGr 1 h261L v261_0 24).bind fun x26203 =>
    (gAr 7 h261L x26203 v261_2).bind fun a26204 =>
    (gGr 1 h261L v261_1 24).bind fun x26205 =>
    (gAr 7 h261L x26205 v261_2).bind fun a26206 =>
    if gIs 4 h261L a26204 = true then
    (sp_X5_like G F h261L a26204 a26206).bind fun u26208 =>
    sp_X1_like_L261 G F f u26208 v261_0 v261_1 (v261_2 + (1 : Int32)) else none
def sp_X1_like_L292 (G : gG) (F : Nat) : Nat → gH → Nat → Nat → Int32 → Option (gH)
  | 0, _, _, _, _ => none
  | f + 1, h292L, v292_0, v292_1, v292_2 =>
    (gGi 1 h292L v292_0 17).bind fun x29301 =>
    if x29301 ≤ v292_2 then
    some (h292L) else
    (gGr 1 h292L v292_0 25).bind fun x29303 =>
    (gAr 7 h292L x29303 v292_2).bind fun a29304 =>
    (gGr 1 h292L v292_1 25).bind fun x29305 =>
    (gAr 7 h292L x29305 v292_2).bind fun a29306 =>
    if gIs 4 h292L a29304 = true then
    (sp_X5_like G F h292L a29304 a29306).bind fun u29308 =>
    sp_X1_like_L292 G F f u29308 v292_0 v292_1 (v292_2 + (1 : Int32)) else none
def sp_X1_like_L323 (G : gG) (F : Nat) : Nat → gH → Nat → Nat → Int32 → Option (gH)
  | 0, _, _, _, _ => none
  | f + 1, h323L, v323_0, v323_1, v323_2 =>
    (gGi 1 h323L v323_0 18).bind fun x32401 =>
    if x32401 ≤ v323_2 then
    some (h323L) else
    (gGr 1 h323L v323_1 26).bind fun x32403 =>
    (gAr 8 h323L x32403 v323_2).bind fun a32404 =>
    (gGr 5 h323L a32404 0).bind fun x32405 =>
    (gGr 1 h323L v323_0 26).bind fun x32406 =>
    (gAr 8 h323L x32406 v323_2).bind fun a32407 =>
    (gGr 5 h323L a32407 0).bind fun x32408 =>
    (gCpy h323L x32405 (0 : Int32) x32408 (0 : Int32) (3 : Int32)).bind fun h32409 =>
    sp_X1_like_L323 G F f h32409 v323_0 v323_1 (v323_2 + (1 : Int32))
def sp_X1_like (G : gG) (F : Nat) (h : gH) (a0 : Nat) (a1 : Nat) : Option (Nat × gH) :=
 (gGi 1 h a1 0).bind fun x1 =>
 if x1 = 0 ∨ x1 = 1 then
 (gPv 1 h a0 0 (.int x1)).bind fun h3 =>
 (gGi 1 h3 a1 1).bind fun x4 =>
 (gPv 1 h3 a0 1 (.int x4)).bind fun h5 =>
 (gGi 1 h5 a1 2).bind fun x6 =>
 (gPv 1 h5 a0 2 (.int x6)).bind fun h7 =>
 (gGi 1 h7 a1 3).bind fun x8 =>
 (gPv 1 h7 a0 3 (.int x8)).bind fun h9 =>
 (gGi 1 h9 a1 4).bind fun x10 =>
 (gPv 1 h9 a0 4 (.int x10)).bind fun h11 =>
 (gGi 1 h11 a1 5).bind fun x12 =>
 (gPv 1 h11 a0 5 (.int x12)).bind fun h13 =>
 (gGi 1 h13 a1 6).bind fun x14 =>
 (gPv 1 h13 a0 6 (.int x14)).bind fun h15 =>
 (gGi 1 h15 a1 7).bind fun x16 =>
 (gPv 1 h15 a0 7 (.int x16)).bind fun h17 =>
 (gGi 1 h17 a1 8).bind fun x18 =>
 (gPv 1 h17 a0 8 (.int x18)).bind fun h19 =>
 (gGi 1 h19 a1 9).bind fun x20 =>
 (gPv 1 h19 a0 9 (.int x20)).bind fun h21 =>
 (gGi 1 h21 a1 10).bind fun x22 =>
 (gPv 1 h21 a0 10 (.int x22)).bind fun h23 =>
 (gGi 1 h23 a1 11).bind fun x24 =>
 (gPv 1 h23 a0 11 (.int x24)).bind fun h25 =>
 (gGi 1 h25 a1 12).bind fun x26 =>
 (gPv 1 h25 a0 12 (.int x26)).bind fun h27 =>
 (gGi 1 h27 a1 13).bind fun x28 =>
 (gPv 1 h27 a0 13 (.int x28)).bind fun h29 =>
 (gGi 1 h29 a1 14).bind fun x30 =>
 (gPv 1 h29 a0 14 (.int x30)).bind fun h31 =>
 (gGi 1 h31 a1 15).bind fun x32 =>
 (gPv 1 h31 a0 15 (.int x32)).bind fun h33 =>
 (gGi 1 h33 a1 16).bind fun x34 =>
 (gPv 1 h33 a0 16 (.int x34)).bind fun h35 =>
 (gGi 1 h35 a1 17).bind fun x36 =>
 (gPv 1 h35 a0 17 (.int x36)).bind fun h37 =>
 (gGi 1 h37 a1 18).bind fun x38 =>
 (gPv 1 h37 a0 18 (.int x38)).bind fun h39 =>
 (gGi 1 h39 a1 19).bind fun x40 =>
 (gPv 1 h39 a0 19 (.int x40)).bind fun h41 =>
 (gGi 1 h41 a1 20).bind fun x42 =>
 (gPv 1 h41 a0 20 (.int x42)).bind fun h43 =>
 (gGi 1 h43 a1 21).bind fun x44 =>
 (gPv 1 h43 a0 21 (.int x44)).bind fun h45 =>
 (sp_X1_like_L178 G F F h45 a0 a1 (0 : Int32)).bind fun y48 =>
 (sp_X1_like_L209 G F F y48 a0 a1 (0 : Int32)).bind fun y51 =>
 (sp_X1_like_L261 G F F y51 a0 a1 (0 : Int32)).bind fun y54 =>
 (sp_X1_like_L292 G F F y54 a0 a1 (0 : Int32)).bind fun y57 =>
 (sp_X1_like_L323 G F F y57 a0 a1 (0 : Int32)).bind fun y60 =>
 (gGr 1 y60 a1 27).bind fun x61 =>
 (gGr 1 y60 a0 27).bind fun x62 =>
 (gCpy y60 x61 (0 : Int32) x62 (0 : Int32) (10 : Int32)).bind fun h63 =>
 (gGr 1 h63 a1 28).bind fun x64 =>
 (gGr 1 h63 a0 28).bind fun x65 =>
 (gCpy h63 x64 (0 : Int32) x65 (0 : Int32) (16 : Int32)).bind fun h66 =>
 (gGr 1 h66 a1 29).bind fun x67 =>
 (gGr 1 h66 a0 29).bind fun x68 =>
 (gCpy h66 x67 (0 : Int32) x68 (0 : Int32) (64 : Int32)).bind fun h69 =>
 some ((a0, h69)) else none
theorem yk_X1_like : gVk yX1_like cX1_like 3 (some (.object "SafeClears$World")) 1 1 := ⟨q1499, q1500, q93, q1501, ⟨by decide +kernel, by decide +kernel, by decide +kernel⟩, rfl⟩
set_option maxHeartbeats 4000000 in
theorem m_X1_like (l : Launch) (G : gG) (F : Nat) (h : gH) (n : Nat) (a0 : Nat) (a1 : Nat) {r : Nat} {h' : gH} (hf : sp_X1_like G F h a0 a1 = some (r, h')) : gMet l G yX1_like cX1_like 3 (some (.object "SafeClears$World")) 4 87 0 0 [.ref a0, .ref a1] h n (some (.ref r)) h' n := by
  refine gEnter (by decide) [(0, .ref a0), (1, .ref a1)] rfl (Nat.le_of_ble_eq_true rfl) ?_
  intro p e s m below meth c H ls X hin hR hS hl
  have hx := X.1.1
  have hb := X.1.2.1
  unfold sp_X1_like at hf
  generalize ([] : List Loc) = locs at hS ⊢
  refine lv_aload_n hx hb dX1_like_0 rfl (lv_at hl 0 rfl) ?_
  refine lv_aload_n hx hb dX1_like_1 rfl (lv_at hl 1 rfl) ?_
  obtain ⟨x1, ex1, hf⟩ := gBind hf
  refine g_geti X hR gk_X1 0 (by decide) q622 rfl ex1 dX1_like_2 ?_
  obtain ⟨k2, hf⟩ := gChk hf
  obtain ⟨h3, eh3, hf⟩ := gBind hf
  refine g_put X hR hS gk_X1 0 (by decide) q622 rfl rfl eh3 rfl (gNz k2).1 (gNz k2).2 dX1_like_5 (fun H locs hR hS => ?_)
  refine lv_aload_n hx hb dX1_like_8 rfl (lv_at hl 0 rfl) ?_
  refine lv_aload_n hx hb dX1_like_9 rfl (lv_at hl 1 rfl) ?_
  obtain ⟨x4, ex4, hf⟩ := gBind hf
  refine g_geti X hR gk_X1 1 (by decide) q624 rfl ex4 dX1_like_10 ?_
  obtain ⟨h5, eh5, hf⟩ := gBind hf
  refine g_put X hR hS gk_X1 1 (by decide) q624 rfl rfl eh5 rfl rfl rfl dX1_like_13 (fun H locs hR hS => ?_)
  refine lv_aload_n hx hb dX1_like_16 rfl (lv_at hl 0 rfl) ?_
  refine lv_aload_n hx hb dX1_like_17 rfl (lv_at hl 1 rfl) ?_
  obtain ⟨x6, ex6, hf⟩ := gBind hf
  refine g_geti X hR gk_X1 2 (by decide) q626 rfl ex6 dX1_like_18 ?_
  obtain ⟨h7, eh7, hf⟩ := gBind hf
  refine g_put X hR hS gk_X1 2 (by decide) q626 rfl rfl eh7 rfl rfl rfl dX1_like_21 (fun H locs hR hS => ?_)
  refine lv_aload_n hx hb dX1_like_24 rfl (lv_at hl 0 rfl) ?_
  refine lv_aload_n hx hb dX1_like_25 rfl (lv_at hl 1 rfl) ?_
  obtain ⟨x8, ex8, hf⟩ := gBind hf
  refine g_geti X hR gk_X1 3 (by decide) q628 rfl ex8 dX1_like_26 ?_
  obtain ⟨h9, eh9, hf⟩ := gBind hf
  refine g_put X hR hS gk_X1 3 (by decide) q628 rfl rfl eh9 rfl rfl rfl dX1_like_29 (fun H locs hR hS => ?_)
  refine lv_aload_n hx hb dX1_like_32 rfl (lv_at hl 0 rfl) ?_
  refine lv_aload_n hx hb dX1_like_33 rfl (lv_at hl 1 rfl) ?_
  obtain ⟨x10, ex10, hf⟩ := gBind hf
  refine g_geti X hR gk_X1 4 (by decide) q630 rfl ex10 dX1_like_34 ?_
  obtain ⟨h11, eh11, hf⟩ := gBind hf
  refine g_put X hR hS gk_X1 4 (by decide) q630 rfl rfl eh11 rfl rfl rfl dX1_like_37 (fun H locs hR hS => ?_)
  refine lv_aload_n hx hb dX1_like_40 rfl (lv_at hl 0 rfl) ?_
  refine lv_aload_n hx hb dX1_like_41 rfl (lv_at hl 1 rfl) ?_
  obtain ⟨x12, ex12, hf⟩ := gBind hf
  refine g_geti X hR gk_X1 5 (by decide) q632 rfl ex12 dX1_like_42 ?_
  obtain ⟨h13, eh13, hf⟩ := gBind hf
  refine g_put X hR hS gk_X1 5 (by decide) q632 rfl rfl eh13 rfl rfl rfl dX1_like_45 (fun H locs hR hS => ?_)
  refine lv_aload_n hx hb dX1_like_48 rfl (lv_at hl 0 rfl) ?_
  refine lv_aload_n hx hb dX1_like_49 rfl (lv_at hl 1 rfl) ?_
  obtain ⟨x14, ex14, hf⟩ := gBind hf
  refine g_geti X hR gk_X1 6 (by decide) q634 rfl ex14 dX1_like_50 ?_
  obtain ⟨h15, eh15, hf⟩ := gBind hf
  refine g_put X hR hS gk_X1 6 (by decide) q634 rfl rfl eh15 rfl rfl rfl dX1_like_53 (fun H locs hR hS => ?_)
  refine lv_aload_n hx hb dX1_like_56 rfl (lv_at hl 0 rfl) ?_
  refine lv_aload_n hx hb dX1_like_57 rfl (lv_at hl 1 rfl) ?_
  obtain ⟨x16, ex16, hf⟩ := gBind hf
  refine g_geti X hR gk_X1 7 (by decide) q636 rfl ex16 dX1_like_58 ?_
  obtain ⟨h17, eh17, hf⟩ := gBind hf
  refine g_put X hR hS gk_X1 7 (by decide) q636 rfl rfl eh17 rfl rfl rfl dX1_like_61 (fun H locs hR hS => ?_)
  refine lv_aload_n hx hb dX1_like_64 rfl (lv_at hl 0 rfl) ?_
  refine lv_aload_n hx hb dX1_like_65 rfl (lv_at hl 1 rfl) ?_
  obtain ⟨x18, ex18, hf⟩ := gBind hf
  refine g_geti X hR gk_X1 8 (by decide) q638 rfl ex18 dX1_like_66 ?_
  obtain ⟨h19, eh19, hf⟩ := gBind hf
  refine g_put X hR hS gk_X1 8 (by decide) q638 rfl rfl eh19 rfl rfl rfl dX1_like_69 (fun H locs hR hS => ?_)
  refine lv_aload_n hx hb dX1_like_72 rfl (lv_at hl 0 rfl) ?_
  refine lv_aload_n hx hb dX1_like_73 rfl (lv_at hl 1 rfl) ?_
  obtain ⟨x20, ex20, hf⟩ := gBind hf
  refine g_geti X hR gk_X1 9 (by decide) q640 rfl ex20 dX1_like_74 ?_
  obtain ⟨h21, eh21, hf⟩ := gBind hf
  refine g_put X hR hS gk_X1 9 (by decide) q640 rfl rfl eh21 rfl rfl rfl dX1_like_77 (fun H locs hR hS => ?_)
  refine lv_aload_n hx hb dX1_like_80 rfl (lv_at hl 0 rfl) ?_
  refine lv_aload_n hx hb dX1_like_81 rfl (lv_at hl 1 rfl) ?_
  obtain ⟨x22, ex22, hf⟩ := gBind hf
  refine g_geti X hR gk_X1 10 (by decide) q642 rfl ex22 dX1_like_82 ?_
  obtain ⟨h23, eh23, hf⟩ := gBind hf
  refine g_put X hR hS gk_X1 10 (by decide) q642 rfl rfl eh23 rfl rfl rfl dX1_like_85 (fun H locs hR hS => ?_)
  refine lv_aload_n hx hb dX1_like_88 rfl (lv_at hl 0 rfl) ?_
  refine lv_aload_n hx hb dX1_like_89 rfl (lv_at hl 1 rfl) ?_
  obtain ⟨x24, ex24, hf⟩ := gBind hf
  refine g_geti X hR gk_X1 11 (by decide) q644 rfl ex24 dX1_like_90 ?_
  obtain ⟨h25, eh25, hf⟩ := gBind hf
  refine g_put X hR hS gk_X1 11 (by decide) q644 rfl rfl eh25 rfl rfl rfl dX1_like_93 (fun H locs hR hS => ?_)
  refine lv_aload_n hx hb dX1_like_96 rfl (lv_at hl 0 rfl) ?_
  refine lv_aload_n hx hb dX1_like_97 rfl (lv_at hl 1 rfl) ?_
  obtain ⟨x26, ex26, hf⟩ := gBind hf
  refine g_geti X hR gk_X1 12 (by decide) q646 rfl ex26 dX1_like_98 ?_
  obtain ⟨h27, eh27, hf⟩ := gBind hf
  refine g_put X hR hS gk_X1 12 (by decide) q646 rfl rfl eh27 rfl rfl rfl dX1_like_101 (fun H locs hR hS => ?_)
  refine lv_aload_n hx hb dX1_like_104 rfl (lv_at hl 0 rfl) ?_
  refine lv_aload_n hx hb dX1_like_105 rfl (lv_at hl 1 rfl) ?_
  obtain ⟨x28, ex28, hf⟩ := gBind hf
  refine g_geti X hR gk_X1 13 (by decide) q648 rfl ex28 dX1_like_106 ?_
  obtain ⟨h29, eh29, hf⟩ := gBind hf
  refine g_put X hR hS gk_X1 13 (by decide) q648 rfl rfl eh29 rfl rfl rfl dX1_like_109 (fun H locs hR hS => ?_)
  refine lv_aload_n hx hb dX1_like_112 rfl (lv_at hl 0 rfl) ?_
  refine lv_aload_n hx hb dX1_like_113 rfl (lv_at hl 1 rfl) ?_
  obtain ⟨x30, ex30, hf⟩ := gBind hf
  refine g_geti X hR gk_X1 14 (by decide) q650 rfl ex30 dX1_like_114 ?_
  obtain ⟨h31, eh31, hf⟩ := gBind hf
  refine g_put X hR hS gk_X1 14 (by decide) q650 rfl rfl eh31 rfl rfl rfl dX1_like_117 (fun H locs hR hS => ?_)
  refine lv_aload_n hx hb dX1_like_120 rfl (lv_at hl 0 rfl) ?_
  refine lv_aload_n hx hb dX1_like_121 rfl (lv_at hl 1 rfl) ?_
  obtain ⟨x32, ex32, hf⟩ := gBind hf
  refine g_geti X hR gk_X1 15 (by decide) q652 rfl ex32 dX1_like_122 ?_
  obtain ⟨h33, eh33, hf⟩ := gBind hf
  refine g_put X hR hS gk_X1 15 (by decide) q652 rfl rfl eh33 rfl rfl rfl dX1_like_125 (fun H locs hR hS => ?_)
  refine lv_aload_n hx hb dX1_like_128 rfl (lv_at hl 0 rfl) ?_
  refine lv_aload_n hx hb dX1_like_129 rfl (lv_at hl 1 rfl) ?_
  obtain ⟨x34, ex34, hf⟩ := gBind hf
  refine g_geti X hR gk_X1 16 (by decide) q654 rfl ex34 dX1_like_130 ?_
  obtain ⟨h35, eh35, hf⟩ := gBind hf
  refine g_put X hR hS gk_X1 16 (by decide) q654 rfl rfl eh35 rfl rfl rfl dX1_like_133 (fun H locs hR hS => ?_)
  refine lv_aload_n hx hb dX1_like_136 rfl (lv_at hl 0 rfl) ?_
  refine lv_aload_n hx hb dX1_like_137 rfl (lv_at hl 1 rfl) ?_
  obtain ⟨x36, ex36, hf⟩ := gBind hf
  refine g_geti X hR gk_X1 17 (by decide) q655 rfl ex36 dX1_like_138 ?_
  obtain ⟨h37, eh37, hf⟩ := gBind hf
  refine g_put X hR hS gk_X1 17 (by decide) q655 rfl rfl eh37 rfl rfl rfl dX1_like_141 (fun H locs hR hS => ?_)
  refine lv_aload_n hx hb dX1_like_144 rfl (lv_at hl 0 rfl) ?_
  refine lv_aload_n hx hb dX1_like_145 rfl (lv_at hl 1 rfl) ?_
  obtain ⟨x38, ex38, hf⟩ := gBind hf
  refine g_geti X hR gk_X1 18 (by decide) q657 rfl ex38 dX1_like_146 ?_
  obtain ⟨h39, eh39, hf⟩ := gBind hf
  refine g_put X hR hS gk_X1 18 (by decide) q657 rfl rfl eh39 rfl rfl rfl dX1_like_149 (fun H locs hR hS => ?_)
  refine lv_aload_n hx hb dX1_like_152 rfl (lv_at hl 0 rfl) ?_
  refine lv_aload_n hx hb dX1_like_153 rfl (lv_at hl 1 rfl) ?_
  obtain ⟨x40, ex40, hf⟩ := gBind hf
  refine g_geti X hR gk_X1 19 (by decide) q659 rfl ex40 dX1_like_154 ?_
  obtain ⟨h41, eh41, hf⟩ := gBind hf
  refine g_put X hR hS gk_X1 19 (by decide) q659 rfl rfl eh41 rfl rfl rfl dX1_like_157 (fun H locs hR hS => ?_)
  refine lv_aload_n hx hb dX1_like_160 rfl (lv_at hl 0 rfl) ?_
  refine lv_aload_n hx hb dX1_like_161 rfl (lv_at hl 1 rfl) ?_
  obtain ⟨x42, ex42, hf⟩ := gBind hf
  refine g_geti X hR gk_X1 20 (by decide) q661 rfl ex42 dX1_like_162 ?_
  obtain ⟨h43, eh43, hf⟩ := gBind hf
  refine g_put X hR hS gk_X1 20 (by decide) q661 rfl rfl eh43 rfl rfl rfl dX1_like_165 (fun H locs hR hS => ?_)
  refine lv_aload_n hx hb dX1_like_168 rfl (lv_at hl 0 rfl) ?_
  refine lv_aload_n hx hb dX1_like_169 rfl (lv_at hl 1 rfl) ?_
  obtain ⟨x44, ex44, hf⟩ := gBind hf
  refine g_geti X hR gk_X1 21 (by decide) q663 rfl ex44 dX1_like_170 ?_
  obtain ⟨h45, eh45, hf⟩ := gBind hf
  refine g_put X hR hS gk_X1 21 (by decide) q663 rfl rfl eh45 rfl rfl rfl dX1_like_173 (fun H locs hR hS => ?_)
  refine lv_iconst (v := (0 : Int32)) hx hb dX1_like_176 (by decide) ?_
  refine lv_istore_n (lv' := [(2, .int (0 : Int32)), (0, .ref a0), (1, .ref a1)]) hx hb dX1_like_177 rfl hl (by decide) rfl (fun ls hl => ?_)
  have L178_q46 : ∀ (f : Nat) (h178L : gH) (v178_0 : Nat) (v178_1 : Nat) (v178_2 : Int32) (o47 : gH) (H : Heap) (locs : List Loc) (ls : Array Slot), sp_X1_like_L178 G F f h178L v178_0 v178_1 v178_2 = some o47 → gRep G h178L n H → va_S (gFr G) s.heap H locs → lv_has ls 3 [(0, .ref v178_0), (1, .ref v178_1), (2, .int v178_2)] → (∀ (H : Heap) (locs : List Loc) (ls : Array Slot), gRep G o47 n H → va_S (gFr G) s.heap H locs → lv_has ls 3 [(0, .ref v178_0), (1, .ref v178_1)] → W p l e ({ frames := 4, cells := 0, slots := 0, locals := 87 } : Room) s m ([.ref a0, .ref a1] : List Value).toArray below meth c H locs 0 0 (MQ below (gQ G (some (.ref r)) h' n) ([.ref a0, .ref a1] : List Value).toArray s 0 0 (gFr G)) (F0 m 207 ls [])) → W p l e ({ frames := 4, cells := 0, slots := 0, locals := 87 } : Room) s m ([.ref a0, .ref a1] : List Value).toArray below meth c H locs 0 0 (MQ below (gQ G (some (.ref r)) h' n) ([.ref a0, .ref a1] : List Value).toArray s 0 0 (gFr G)) (F0 m 178 ls []) := by
    clear hf
    intro f
    induction f with
    | zero =>
      intro h178L v178_0 v178_1 v178_2 o47 H locs ls hf
      cases hf
    | succ f ih =>
      intro h178L v178_0 v178_1 v178_2 o47 H locs ls hf hR hS hl K178
      rw [sp_X1_like_L178] at hf
      refine lv_iload_n hx hb dX1_like_178 rfl (lv_at hl 2 rfl) ?_
      refine lv_aload_n hx hb dX1_like_179 rfl (lv_at hl 0 rfl) ?_
      obtain ⟨x17901, ex17901, hf⟩ := gBind hf
      refine g_geti X hR gk_X1 13 (by decide) q648 rfl ex17901 dX1_like_180 ?_
      refine lv_icmp_ge (tgt := 207) hx hb dX1_like_183 (by decide) (fun c17902 => ?_) (fun c17902 => ?_)
      · replace hf := gIfp c17902 hf
        obtain rfl := gO1 hf
        exact K178 _ _ _ hR hS (lv_sub hl [0, 1] rfl)
      · replace hf := gIfn c17902 hf
        refine lv_aload_n hx hb dX1_like_186 rfl (lv_at hl 0 rfl) ?_
        obtain ⟨x17903, ex17903, hf⟩ := gBind hf
        refine g_getr X hR gk_X1 22 (by decide) q665 rfl ex17903 dX1_like_187 ?_
        refine lv_iload_n hx hb dX1_like_190 rfl (lv_at hl 2 rfl) ?_
        obtain ⟨a17904, ea17904, hf⟩ := gBind hf
        refine g_aald X hR 5 (by decide) rfl ea17904 dX1_like_191 ?_
        refine lv_aload_n hx hb dX1_like_192 rfl (lv_at hl 1 rfl) ?_
        obtain ⟨x17905, ex17905, hf⟩ := gBind hf
        refine g_getr X hR gk_X1 22 (by decide) q665 rfl ex17905 dX1_like_193 ?_
        refine lv_iload_n hx hb dX1_like_196 rfl (lv_at hl 2 rfl) ?_
        obtain ⟨a17906, ea17906, hf⟩ := gBind hf
        refine g_aald X hR 5 (by decide) rfl ea17906 dX1_like_197 ?_
        obtain ⟨k17907, hf⟩ := gChk hf
        obtain ⟨u17908, eu17908, hf⟩ := gBind hf
        refine g_callVv X hR hS [.ref a17906] (m_X2_like l G F h178L n a17904 a17906 eu17908) yk_X2_like q1502 k17907 rfl hl.1 ⟨Nat.le_of_ble_eq_true rfl, Nat.le_of_ble_eq_true rfl⟩ ⟨Nat.le_of_ble_eq_true rfl, Nat.le_of_ble_eq_true rfl⟩ rfl (Nat.le_of_ble_eq_true rfl) dX1_like_198 (fun H locs hR hS => ?_)
        refine lv_iinc (v := v178_2 + (1 : Int32)) (lv' := [(2, .int (v178_2 + (1 : Int32))), (0, .ref v178_0), (1, .ref v178_1)]) hx hb dX1_like_201 hl (k := 2) rfl rfl (by decide) rfl (fun ls hl => ?_)
        refine lv_goto (tgt := 178) hx hb dX1_like_204 (by decide) ?_
        exact ih u17908 v178_0 v178_1 (v178_2 + (1 : Int32)) _ _ _ _ hf hR hS (lv_sub hl [1, 2, 0] rfl) K178
  obtain ⟨y48, ey48, hf⟩ := gBind hf
  refine L178_q46 F h45 a0 a1 (0 : Int32) y48 _ _ _ ey48 hR hS (lv_sub hl [1, 2, 0] rfl) (fun H locs ls hR hS hl => ?_)
  refine lv_iconst (v := (0 : Int32)) hx hb dX1_like_207 (by decide) ?_
  refine lv_istore_n (lv' := [(2, .int (0 : Int32)), (0, .ref a0), (1, .ref a1)]) hx hb dX1_like_208 rfl hl (by decide) rfl (fun ls hl => ?_)
  have L209_q49 : ∀ (f : Nat) (h209L : gH) (v209_0 : Nat) (v209_1 : Nat) (v209_2 : Int32) (o50 : gH) (H : Heap) (locs : List Loc) (ls : Array Slot), sp_X1_like_L209 G F f h209L v209_0 v209_1 v209_2 = some o50 → gRep G h209L n H → va_S (gFr G) s.heap H locs → lv_has ls 3 [(0, .ref v209_0), (1, .ref v209_1), (2, .int v209_2)] → (∀ (H : Heap) (locs : List Loc) (ls : Array Slot), gRep G o50 n H → va_S (gFr G) s.heap H locs → lv_has ls 3 [(0, .ref v209_0), (1, .ref v209_1)] → W p l e ({ frames := 4, cells := 0, slots := 0, locals := 87 } : Room) s m ([.ref a0, .ref a1] : List Value).toArray below meth c H locs 0 0 (MQ below (gQ G (some (.ref r)) h' n) ([.ref a0, .ref a1] : List Value).toArray s 0 0 (gFr G)) (F0 m 259 ls [])) → W p l e ({ frames := 4, cells := 0, slots := 0, locals := 87 } : Room) s m ([.ref a0, .ref a1] : List Value).toArray below meth c H locs 0 0 (MQ below (gQ G (some (.ref r)) h' n) ([.ref a0, .ref a1] : List Value).toArray s 0 0 (gFr G)) (F0 m 209 ls []) := by
    clear hf
    intro f
    induction f with
    | zero =>
      intro h209L v209_0 v209_1 v209_2 o50 H locs ls hf
      cases hf
    | succ f ih =>
      intro h209L v209_0 v209_1 v209_2 o50 H locs ls hf hR hS hl K209
      rw [sp_X1_like_L209] at hf
      refine lv_iload_n hx hb dX1_like_209 rfl (lv_at hl 2 rfl) ?_
      refine lv_aload_n hx hb dX1_like_210 rfl (lv_at hl 0 rfl) ?_
      obtain ⟨x21001, ex21001, hf⟩ := gBind hf
      refine g_geti X hR gk_X1 14 (by decide) q650 rfl ex21001 dX1_like_211 ?_
      refine lv_icmp_ge (tgt := 259) hx hb dX1_like_214 (by decide) (fun c21002 => ?_) (fun c21002 => ?_)
      · replace hf := gIfp c21002 hf
        obtain rfl := gO1 hf
        exact K209 _ _ _ hR hS (lv_sub hl [0, 1] rfl)
      · replace hf := gIfn c21002 hf
        refine lv_aload_n hx hb dX1_like_217 rfl (lv_at hl 0 rfl) ?_
        obtain ⟨x21003, ex21003, hf⟩ := gBind hf
        refine g_getr X hR gk_X1 23 (by decide) q667 rfl ex21003 dX1_like_218 ?_
        refine lv_iload_n hx hb dX1_like_221 rfl (lv_at hl 2 rfl) ?_
        obtain ⟨a21004, ea21004, hf⟩ := gBind hf
        refine g_aald X hR 6 (by decide) rfl ea21004 dX1_like_222 ?_
        refine lv_aload_n hx hb dX1_like_223 rfl (lv_at hl 1 rfl) ?_
        obtain ⟨x21005, ex21005, hf⟩ := gBind hf
        refine g_getr X hR gk_X1 23 (by decide) q667 rfl ex21005 dX1_like_224 ?_
        refine lv_iload_n hx hb dX1_like_227 rfl (lv_at hl 2 rfl) ?_
        obtain ⟨a21006, ea21006, hf⟩ := gBind hf
        refine g_aald X hR 6 (by decide) rfl ea21006 dX1_like_228 ?_
        obtain ⟨x21007, ex21007, hf⟩ := gBind hf
        refine g_getiN X hR gk_X4 0 (by decide) q578 rfl ex21007 dX1_like_229 ?_
        refine lv_aload_n hx hb dX1_like_232 rfl (lv_at hl 1 rfl) ?_
        obtain ⟨x21008, ex21008, hf⟩ := gBind hf
        refine g_getr X hR gk_X1 23 (by decide) q667 rfl ex21008 dX1_like_233 ?_
        refine lv_iload_n hx hb dX1_like_236 rfl (lv_at hl 2 rfl) ?_
        obtain ⟨a21009, ea21009, hf⟩ := gBind hf
        refine g_aald X hR 6 (by decide) rfl ea21009 dX1_like_237 ?_
        obtain ⟨x21010, ex21010, hf⟩ := gBind hf
        refine g_getiN X hR gk_X4 1 (by decide) q580 rfl ex21010 dX1_like_238 ?_
        refine lv_aload_n hx hb dX1_like_241 rfl (lv_at hl 1 rfl) ?_
        obtain ⟨x21011, ex21011, hf⟩ := gBind hf
        refine g_getr X hR gk_X1 23 (by decide) q667 rfl ex21011 dX1_like_242 ?_
        refine lv_iload_n hx hb dX1_like_245 rfl (lv_at hl 2 rfl) ?_
        obtain ⟨a21012, ea21012, hf⟩ := gBind hf
        refine g_aald X hR 6 (by decide) rfl ea21012 dX1_like_246 ?_
        obtain ⟨x21013, ex21013, hf⟩ := gBind hf
        refine g_getiN X hR gk_X4 2 (by decide) q583 rfl ex21013 dX1_like_247 ?_
        obtain ⟨k21014, hf⟩ := gChk hf
        obtain ⟨u21015, eu21015, hf⟩ := gBind hf
        refine g_callVv X hR hS [.int x21007, .int x21010, .int x21013] (m_X4_is l G F h209L n a21004 x21007 x21010 x21013 eu21015) yk_X4_is q1503 k21014 rfl hl.1 ⟨Nat.le_of_ble_eq_true rfl, Nat.le_of_ble_eq_true rfl⟩ ⟨Nat.le_of_ble_eq_true rfl, Nat.le_of_ble_eq_true rfl⟩ rfl (Nat.le_of_ble_eq_true rfl) dX1_like_250 (fun H locs hR hS => ?_)
        refine lv_iinc (v := v209_2 + (1 : Int32)) (lv' := [(2, .int (v209_2 + (1 : Int32))), (0, .ref v209_0), (1, .ref v209_1)]) hx hb dX1_like_253 hl (k := 2) rfl rfl (by decide) rfl (fun ls hl => ?_)
        refine lv_goto (tgt := 209) hx hb dX1_like_256 (by decide) ?_
        exact ih u21015 v209_0 v209_1 (v209_2 + (1 : Int32)) _ _ _ _ hf hR hS (lv_sub hl [1, 2, 0] rfl) K209
  obtain ⟨y51, ey51, hf⟩ := gBind hf
  refine L209_q49 F y48 a0 a1 (0 : Int32) y51 _ _ _ ey51 hR hS (lv_sub hl [1, 2, 0] rfl) (fun H locs ls hR hS hl => ?_)
  refine lv_iconst (v := (0 : Int32)) hx hb dX1_like_259 (by decide) ?_
  refine lv_istore_n (lv' := [(2, .int (0 : Int32)), (0, .ref a0), (1, .ref a1)]) hx hb dX1_like_260 rfl hl (by decide) rfl (fun ls hl => ?_)
  have L261_q52 : ∀ (f : Nat) (h261L : gH) (v261_0 : Nat) (v261_1 : Nat) (v261_2 : Int32) (o53 : gH) (H : Heap) (locs : List Loc) (ls : Array Slot), sp_X1_like_L261 G F f h261L v261_0 v261_1 v261_2 = some o53 → gRep G h261L n H → va_S (gFr G) s.heap H locs → lv_has ls 3 [(0, .ref v261_0), (1, .ref v261_1), (2, .int v261_2)] → (∀ (H : Heap) (locs : List Loc) (ls : Array Slot), gRep G o53 n H → va_S (gFr G) s.heap H locs → lv_has ls 3 [(0, .ref v261_0), (1, .ref v261_1)] → W p l e ({ frames := 4, cells := 0, slots := 0, locals := 87 } : Room) s m ([.ref a0, .ref a1] : List Value).toArray below meth c H locs 0 0 (MQ below (gQ G (some (.ref r)) h' n) ([.ref a0, .ref a1] : List Value).toArray s 0 0 (gFr G)) (F0 m 290 ls [])) → W p l e ({ frames := 4, cells := 0, slots := 0, locals := 87 } : Room) s m ([.ref a0, .ref a1] : List Value).toArray below meth c H locs 0 0 (MQ below (gQ G (some (.ref r)) h' n) ([.ref a0, .ref a1] : List Value).toArray s 0 0 (gFr G)) (F0 m 261 ls []) := by
    clear hf
    intro f
    induction f with
    | zero =>
      intro h261L v261_0 v261_1 v261_2 o53 H locs ls hf
      cases hf
    | succ f ih =>
      intro h261L v261_0 v261_1 v261_2 o53 H locs ls hf hR hS hl K261
      rw [sp_X1_like_L261] at hf
      refine lv_iload_n hx hb dX1_like_261 rfl (lv_at hl 2 rfl) ?_
      refine lv_aload_n hx hb dX1_like_262 rfl (lv_at hl 0 rfl) ?_
      obtain ⟨x26201, ex26201, hf⟩ := gBind hf
      refine g_geti X hR gk_X1 15 (by decide) q652 rfl ex26201 dX1_like_263 ?_
      refine lv_icmp_ge (tgt := 290) hx hb dX1_like_266 (by decide) (fun c26202 => ?_) (fun c26202 => ?_)
      · replace hf := gIfp c26202 hf
        obtain rfl := gO1 hf
        exact K261 _ _ _ hR hS (lv_sub hl [0, 1] rfl)
      · replace hf := gIfn c26202 hf
        refine lv_aload_n hx hb dX1_like_269 rfl (lv_at hl 0 rfl) ?_
        obtain ⟨x26203, ex26203, hf⟩ := gBind hf
        refine g_getr X hR gk_X1 24 (by decide) q669 rfl ex26203 dX1_like_270 ?_
        refine lv_iload_n hx hb dX1_like_273 rfl (lv_at hl 2 rfl) ?_
        obtain ⟨a26204, ea26204, hf⟩ := gBind hf
        refine g_aald X hR 7 (by decide) rfl ea26204 dX1_like_274 ?_
        refine lv_aload_n hx hb dX1_like_275 rfl (lv_at hl 1 rfl) ?_
        obtain ⟨x26205, ex26205, hf⟩ := gBind hf
        refine g_getr X hR gk_X1 24 (by decide) q669 rfl ex26205 dX1_like_276 ?_
        refine lv_iload_n hx hb dX1_like_279 rfl (lv_at hl 2 rfl) ?_
        obtain ⟨a26206, ea26206, hf⟩ := gBind hf
        refine g_aald X hR 7 (by decide) rfl ea26206 dX1_like_280 ?_
        obtain ⟨k26207, hf⟩ := gChk hf
        obtain ⟨u26208, eu26208, hf⟩ := gBind hf
        refine g_callVv X hR hS [.ref a26206] (m_X5_like l G F h261L n a26204 a26206 eu26208) yk_X5_like q1504 k26207 rfl hl.1 ⟨Nat.le_of_ble_eq_true rfl, Nat.le_of_ble_eq_true rfl⟩ ⟨Nat.le_of_ble_eq_true rfl, Nat.le_of_ble_eq_true rfl⟩ rfl (Nat.le_of_ble_eq_true rfl) dX1_like_281 (fun H locs hR hS => ?_)
        refine lv_iinc (v := v261_2 + (1 : Int32)) (lv' := [(2, .int (v261_2 + (1 : Int32))), (0, .ref v261_0), (1, .ref v261_1)]) hx hb dX1_like_284 hl (k := 2) rfl rfl (by decide) rfl (fun ls hl => ?_)
        refine lv_goto (tgt := 261) hx hb dX1_like_287 (by decide) ?_
        exact ih u26208 v261_0 v261_1 (v261_2 + (1 : Int32)) _ _ _ _ hf hR hS (lv_sub hl [1, 2, 0] rfl) K261
  obtain ⟨y54, ey54, hf⟩ := gBind hf
  refine L261_q52 F y51 a0 a1 (0 : Int32) y54 _ _ _ ey54 hR hS (lv_sub hl [1, 2, 0] rfl) (fun H locs ls hR hS hl => ?_)
  refine lv_iconst (v := (0 : Int32)) hx hb dX1_like_290 (by decide) ?_
  refine lv_istore_n (lv' := [(2, .int (0 : Int32)), (0, .ref a0), (1, .ref a1)]) hx hb dX1_like_291 rfl hl (by decide) rfl (fun ls hl => ?_)
  have L292_q55 : ∀ (f : Nat) (h292L : gH) (v292_0 : Nat) (v292_1 : Nat) (v292_2 : Int32) (o56 : gH) (H : Heap) (locs : List Loc) (ls : Array Slot), sp_X1_like_L292 G F f h292L v292_0 v292_1 v292_2 = some o56 → gRep G h292L n H → va_S (gFr G) s.heap H locs → lv_has ls 3 [(0, .ref v292_0), (1, .ref v292_1), (2, .int v292_2)] → (∀ (H : Heap) (locs : List Loc) (ls : Array Slot), gRep G o56 n H → va_S (gFr G) s.heap H locs → lv_has ls 3 [(0, .ref v292_0), (1, .ref v292_1)] → W p l e ({ frames := 4, cells := 0, slots := 0, locals := 87 } : Room) s m ([.ref a0, .ref a1] : List Value).toArray below meth c H locs 0 0 (MQ below (gQ G (some (.ref r)) h' n) ([.ref a0, .ref a1] : List Value).toArray s 0 0 (gFr G)) (F0 m 321 ls [])) → W p l e ({ frames := 4, cells := 0, slots := 0, locals := 87 } : Room) s m ([.ref a0, .ref a1] : List Value).toArray below meth c H locs 0 0 (MQ below (gQ G (some (.ref r)) h' n) ([.ref a0, .ref a1] : List Value).toArray s 0 0 (gFr G)) (F0 m 292 ls []) := by
    clear hf
    intro f
    induction f with
    | zero =>
      intro h292L v292_0 v292_1 v292_2 o56 H locs ls hf
      cases hf
    | succ f ih =>
      intro h292L v292_0 v292_1 v292_2 o56 H locs ls hf hR hS hl K292
      rw [sp_X1_like_L292] at hf
      refine lv_iload_n hx hb dX1_like_292 rfl (lv_at hl 2 rfl) ?_
      refine lv_aload_n hx hb dX1_like_293 rfl (lv_at hl 0 rfl) ?_
      obtain ⟨x29301, ex29301, hf⟩ := gBind hf
      refine g_geti X hR gk_X1 17 (by decide) q655 rfl ex29301 dX1_like_294 ?_
      refine lv_icmp_ge (tgt := 321) hx hb dX1_like_297 (by decide) (fun c29302 => ?_) (fun c29302 => ?_)
      · replace hf := gIfp c29302 hf
        obtain rfl := gO1 hf
        exact K292 _ _ _ hR hS (lv_sub hl [0, 1] rfl)
      · replace hf := gIfn c29302 hf
        refine lv_aload_n hx hb dX1_like_300 rfl (lv_at hl 0 rfl) ?_
        obtain ⟨x29303, ex29303, hf⟩ := gBind hf
        refine g_getr X hR gk_X1 25 (by decide) q671 rfl ex29303 dX1_like_301 ?_
        refine lv_iload_n hx hb dX1_like_304 rfl (lv_at hl 2 rfl) ?_
        obtain ⟨a29304, ea29304, hf⟩ := gBind hf
        refine g_aald X hR 7 (by decide) rfl ea29304 dX1_like_305 ?_
        refine lv_aload_n hx hb dX1_like_306 rfl (lv_at hl 1 rfl) ?_
        obtain ⟨x29305, ex29305, hf⟩ := gBind hf
        refine g_getr X hR gk_X1 25 (by decide) q671 rfl ex29305 dX1_like_307 ?_
        refine lv_iload_n hx hb dX1_like_310 rfl (lv_at hl 2 rfl) ?_
        obtain ⟨a29306, ea29306, hf⟩ := gBind hf
        refine g_aald X hR 7 (by decide) rfl ea29306 dX1_like_311 ?_
        obtain ⟨k29307, hf⟩ := gChk hf
        obtain ⟨u29308, eu29308, hf⟩ := gBind hf
        refine g_callVv X hR hS [.ref a29306] (m_X5_like l G F h292L n a29304 a29306 eu29308) yk_X5_like q1504 k29307 rfl hl.1 ⟨Nat.le_of_ble_eq_true rfl, Nat.le_of_ble_eq_true rfl⟩ ⟨Nat.le_of_ble_eq_true rfl, Nat.le_of_ble_eq_true rfl⟩ rfl (Nat.le_of_ble_eq_true rfl) dX1_like_312 (fun H locs hR hS => ?_)
        refine lv_iinc (v := v292_2 + (1 : Int32)) (lv' := [(2, .int (v292_2 + (1 : Int32))), (0, .ref v292_0), (1, .ref v292_1)]) hx hb dX1_like_315 hl (k := 2) rfl rfl (by decide) rfl (fun ls hl => ?_)
        refine lv_goto (tgt := 292) hx hb dX1_like_318 (by decide) ?_
        exact ih u29308 v292_0 v292_1 (v292_2 + (1 : Int32)) _ _ _ _ hf hR hS (lv_sub hl [1, 2, 0] rfl) K292
  obtain ⟨y57, ey57, hf⟩ := gBind hf
  refine L292_q55 F y54 a0 a1 (0 : Int32) y57 _ _ _ ey57 hR hS (lv_sub hl [1, 2, 0] rfl) (fun H locs ls hR hS hl => ?_)
  refine lv_iconst (v := (0 : Int32)) hx hb dX1_like_321 (by decide) ?_
  refine lv_istore_n (lv' := [(2, .int (0 : Int32)), (0, .ref a0), (1, .ref a1)]) hx hb dX1_like_322 rfl hl (by decide) rfl (fun ls hl => ?_)
  have L323_q58 : ∀ (f : Nat) (h323L : gH) (v323_0 : Nat) (v323_1 : Nat) (v323_2 : Int32) (o59 : gH) (H : Heap) (locs : List Loc) (ls : Array Slot), sp_X1_like_L323 G F f h323L v323_0 v323_1 v323_2 = some o59 → gRep G h323L n H → va_S (gFr G) s.heap H locs → lv_has ls 3 [(0, .ref v323_0), (1, .ref v323_1), (2, .int v323_2)] → (∀ (H : Heap) (locs : List Loc) (ls : Array Slot), gRep G o59 n H → va_S (gFr G) s.heap H locs → lv_has ls 3 [(0, .ref v323_0), (1, .ref v323_1)] → W p l e ({ frames := 4, cells := 0, slots := 0, locals := 87 } : Room) s m ([.ref a0, .ref a1] : List Value).toArray below meth c H locs 0 0 (MQ below (gQ G (some (.ref r)) h' n) ([.ref a0, .ref a1] : List Value).toArray s 0 0 (gFr G)) (F0 m 361 ls [])) → W p l e ({ frames := 4, cells := 0, slots := 0, locals := 87 } : Room) s m ([.ref a0, .ref a1] : List Value).toArray below meth c H locs 0 0 (MQ below (gQ G (some (.ref r)) h' n) ([.ref a0, .ref a1] : List Value).toArray s 0 0 (gFr G)) (F0 m 323 ls []) := by
    clear hf
    intro f
    induction f with
    | zero =>
      intro h323L v323_0 v323_1 v323_2 o59 H locs ls hf
      cases hf
    | succ f ih =>
      intro h323L v323_0 v323_1 v323_2 o59 H locs ls hf hR hS hl K323
      rw [sp_X1_like_L323] at hf
      refine lv_iload_n hx hb dX1_like_323 rfl (lv_at hl 2 rfl) ?_
      refine lv_aload_n hx hb dX1_like_324 rfl (lv_at hl 0 rfl) ?_
      obtain ⟨x32401, ex32401, hf⟩ := gBind hf
      refine g_geti X hR gk_X1 18 (by decide) q657 rfl ex32401 dX1_like_325 ?_
      refine lv_icmp_ge (tgt := 361) hx hb dX1_like_328 (by decide) (fun c32402 => ?_) (fun c32402 => ?_)
      · replace hf := gIfp c32402 hf
        obtain rfl := gO1 hf
        exact K323 _ _ _ hR hS (lv_sub hl [0, 1] rfl)
      · replace hf := gIfn c32402 hf
        refine lv_aload_n hx hb dX1_like_331 rfl (lv_at hl 1 rfl) ?_
        obtain ⟨x32403, ex32403, hf⟩ := gBind hf
        refine g_getr X hR gk_X1 26 (by decide) q673 rfl ex32403 dX1_like_332 ?_
        refine lv_iload_n hx hb dX1_like_335 rfl (lv_at hl 2 rfl) ?_
        obtain ⟨a32404, ea32404, hf⟩ := gBind hf
        refine g_aald X hR 8 (by decide) rfl ea32404 dX1_like_336 ?_
        obtain ⟨x32405, ex32405, hf⟩ := gBind hf
        refine g_getrN X hR gk_X6 0 (by decide) q617 rfl ex32405 dX1_like_337 ?_
        refine lv_iconst (v := (0 : Int32)) hx hb dX1_like_340 (by decide) ?_
        refine lv_aload_n hx hb dX1_like_341 rfl (lv_at hl 0 rfl) ?_
        obtain ⟨x32406, ex32406, hf⟩ := gBind hf
        refine g_getr X hR gk_X1 26 (by decide) q673 rfl ex32406 dX1_like_342 ?_
        refine lv_iload_n hx hb dX1_like_345 rfl (lv_at hl 2 rfl) ?_
        obtain ⟨a32407, ea32407, hf⟩ := gBind hf
        refine g_aald X hR 8 (by decide) rfl ea32407 dX1_like_346 ?_
        obtain ⟨x32408, ex32408, hf⟩ := gBind hf
        refine g_getrN X hR gk_X6 0 (by decide) q617 rfl ex32408 dX1_like_347 ?_
        refine lv_iconst (v := (0 : Int32)) hx hb dX1_like_350 (by decide) ?_
        refine lv_iconst (v := (3 : Int32)) hx hb dX1_like_351 (by decide) ?_
        obtain ⟨h32409, eh32409, hf⟩ := gBind hf
        refine g_copy X hR hS q1509 hl.1 ⟨Nat.le_of_ble_eq_true rfl, Nat.le_of_ble_eq_true rfl⟩ (Nat.le_of_ble_eq_true rfl) eh32409 dX1_like_352 (fun H locs hR hS => ?_)
        refine lv_iinc (v := v323_2 + (1 : Int32)) (lv' := [(2, .int (v323_2 + (1 : Int32))), (0, .ref v323_0), (1, .ref v323_1)]) hx hb dX1_like_355 hl (k := 2) rfl rfl (by decide) rfl (fun ls hl => ?_)
        refine lv_goto (tgt := 323) hx hb dX1_like_358 (by decide) ?_
        exact ih h32409 v323_0 v323_1 (v323_2 + (1 : Int32)) _ _ _ _ hf hR hS (lv_sub hl [1, 2, 0] rfl) K323
  obtain ⟨y60, ey60, hf⟩ := gBind hf
  refine L323_q58 F y57 a0 a1 (0 : Int32) y60 _ _ _ ey60 hR hS (lv_sub hl [1, 2, 0] rfl) (fun H locs ls hR hS hl => ?_)
  refine lv_aload_n hx hb dX1_like_361 rfl (lv_at hl 1 rfl) ?_
  obtain ⟨x61, ex61, hf⟩ := gBind hf
  refine g_getr X hR gk_X1 27 (by decide) q675 rfl ex61 dX1_like_362 ?_
  refine lv_iconst (v := (0 : Int32)) hx hb dX1_like_365 (by decide) ?_
  refine lv_aload_n hx hb dX1_like_366 rfl (lv_at hl 0 rfl) ?_
  obtain ⟨x62, ex62, hf⟩ := gBind hf
  refine g_getr X hR gk_X1 27 (by decide) q675 rfl ex62 dX1_like_367 ?_
  refine lv_iconst (v := (0 : Int32)) hx hb dX1_like_370 (by decide) ?_
  refine lv_bipush (v := (10 : Int32)) hx hb dX1_like_371 (by decide) ?_
  obtain ⟨h63, eh63, hf⟩ := gBind hf
  refine g_copy X hR hS q1509 hl.1 ⟨Nat.le_of_ble_eq_true rfl, Nat.le_of_ble_eq_true rfl⟩ (Nat.le_of_ble_eq_true rfl) eh63 dX1_like_373 (fun H locs hR hS => ?_)
  refine lv_aload_n hx hb dX1_like_376 rfl (lv_at hl 1 rfl) ?_
  obtain ⟨x64, ex64, hf⟩ := gBind hf
  refine g_getr X hR gk_X1 28 (by decide) q677 rfl ex64 dX1_like_377 ?_
  refine lv_iconst (v := (0 : Int32)) hx hb dX1_like_380 (by decide) ?_
  refine lv_aload_n hx hb dX1_like_381 rfl (lv_at hl 0 rfl) ?_
  obtain ⟨x65, ex65, hf⟩ := gBind hf
  refine g_getr X hR gk_X1 28 (by decide) q677 rfl ex65 dX1_like_382 ?_
  refine lv_iconst (v := (0 : Int32)) hx hb dX1_like_385 (by decide) ?_
  refine lv_bipush (v := (16 : Int32)) hx hb dX1_like_386 (by decide) ?_
  obtain ⟨h66, eh66, hf⟩ := gBind hf
  refine g_copy X hR hS q1509 hl.1 ⟨Nat.le_of_ble_eq_true rfl, Nat.le_of_ble_eq_true rfl⟩ (Nat.le_of_ble_eq_true rfl) eh66 dX1_like_388 (fun H locs hR hS => ?_)
  refine lv_aload_n hx hb dX1_like_391 rfl (lv_at hl 1 rfl) ?_
  obtain ⟨x67, ex67, hf⟩ := gBind hf
  refine g_getr X hR gk_X1 29 (by decide) q679 rfl ex67 dX1_like_392 ?_
  refine lv_iconst (v := (0 : Int32)) hx hb dX1_like_395 (by decide) ?_
  refine lv_aload_n hx hb dX1_like_396 rfl (lv_at hl 0 rfl) ?_
  obtain ⟨x68, ex68, hf⟩ := gBind hf
  refine g_getr X hR gk_X1 29 (by decide) q679 rfl ex68 dX1_like_397 ?_
  refine lv_iconst (v := (0 : Int32)) hx hb dX1_like_400 (by decide) ?_
  refine lv_bipush (v := (64 : Int32)) hx hb dX1_like_401 (by decide) ?_
  obtain ⟨h69, eh69, hf⟩ := gBind hf
  refine g_copy X hR hS q1509 hl.1 ⟨Nat.le_of_ble_eq_true rfl, Nat.le_of_ble_eq_true rfl⟩ (Nat.le_of_ble_eq_true rfl) eh69 dX1_like_403 (fun H locs hR hS => ?_)
  refine lv_aload_n hx hb dX1_like_406 rfl (lv_at hl 0 rfl) ?_
  obtain ⟨rfl, rfl⟩ := gO2 hf
  exact g_aret X hR hS _ rfl ⟨Nat.le_of_ble_eq_true rfl, Nat.le_of_ble_eq_true rfl⟩ dX1_like_407

def sp_X1_tunes_L7 (G : gG) (F : Nat) : Nat → gH → Nat → Int32 → Int32 → Int32 → Int32 → Option (Int32 × Int32 × gH)
  | 0, _, _, _, _, _, _ => none
  | f + 1, h7L, v7_0, v7_1, v7_2, v7_3, v7_4 =>
    (gGi 1 h7L v7_0 19).bind fun x801 =>
    if x801 ≤ v7_4 then
    some (v7_2, v7_3, h7L) else
    (gGr 1 h7L v7_0 26).bind fun x803 =>
    (gAr 8 h7L x803 v7_1).bind fun a804 =>
    (gGr 5 h7L a804 0).bind fun x805 =>
    (gSi h7L x805 (0 : Int32) v7_4).bind fun h806 =>
    if gIs 1 h806 v7_0 = true then
    (sp_X1_bands G F h806 v7_0).bind fun u808 =>
    if u808 ≤ v7_3 then
    sp_X1_tunes_L7 G F f h806 v7_0 v7_1 v7_2 v7_3 (v7_4 + (1 : Int32)) else
    sp_X1_tunes_L7 G F f h806 v7_0 v7_1 v7_4 u808 (v7_4 + (1 : Int32)) else none
def sp_X1_tunes (G : gG) (F : Nat) (h : gH) (a0 : Nat) (p1 : Int32) : Option (Int32 × gH) :=
 (sp_X1_tunes_L7 G F F h a0 p1 (0 : Int32) (-1 : Int32) (0 : Int32)).bind fun y3 =>
 (gGr 1 y3.2.2 a0 26).bind fun x4 =>
 (gAr 8 y3.2.2 x4 p1).bind fun a5 =>
 (gGr 5 y3.2.2 a5 0).bind fun x6 =>
 (gSi y3.2.2 x6 (0 : Int32) y3.1).bind fun h7 =>
 some ((y3.2.1, h7))
theorem yk_X1_tunes : gVk yX1_tunes cX1_tunes 6 (some .int) 1 1 := ⟨q1511, q1512, q93, q1513, ⟨by decide +kernel, by decide +kernel, by decide +kernel⟩, rfl⟩
set_option maxHeartbeats 4000000 in
theorem m_X1_tunes (l : Launch) (G : gG) (F : Nat) (h : gH) (n : Nat) (a0 : Nat) (p1 : Int32) {r : Int32} {h' : gH} (hf : sp_X1_tunes G F h a0 p1 = some (r, h')) : gMet l G yX1_tunes cX1_tunes 6 (some .int) 5 112 0 0 [.ref a0, .int p1] h n (some (.int r)) h' n := by
  refine gEnter (by decide) [(0, .ref a0), (1, .int p1)] rfl (Nat.le_of_ble_eq_true rfl) ?_
  intro p e s m below meth c H ls X hin hR hS hl
  have hx := X.1.1
  have hb := X.1.2.1
  unfold sp_X1_tunes at hf
  generalize ([] : List Loc) = locs at hS ⊢
  refine lv_iconst (v := (0 : Int32)) hx hb dX1_tunes_0 (by decide) ?_
  refine lv_istore_n (lv' := [(2, .int (0 : Int32)), (0, .ref a0), (1, .int p1)]) hx hb dX1_tunes_1 rfl hl (by decide) rfl (fun ls hl => ?_)
  refine lv_iconst (v := (-1 : Int32)) hx hb dX1_tunes_2 (by decide) ?_
  refine lv_istore_n (lv' := [(3, .int (-1 : Int32)), (2, .int (0 : Int32)), (0, .ref a0), (1, .int p1)]) hx hb dX1_tunes_3 rfl hl (by decide) rfl (fun ls hl => ?_)
  refine lv_iconst (v := (0 : Int32)) hx hb dX1_tunes_4 (by decide) ?_
  refine lv_istore (lv' := [(4, .int (0 : Int32)), (3, .int (-1 : Int32)), (2, .int (0 : Int32)), (0, .ref a0), (1, .int p1)]) hx hb dX1_tunes_5 hl (by decide) rfl (fun ls hl => ?_)
  have L7_q1 : ∀ (f : Nat) (h7L : gH) (v7_0 : Nat) (v7_1 : Int32) (v7_2 : Int32) (v7_3 : Int32) (v7_4 : Int32) (o2 : Int32 × Int32 × gH) (H : Heap) (locs : List Loc) (ls : Array Slot), sp_X1_tunes_L7 G F f h7L v7_0 v7_1 v7_2 v7_3 v7_4 = some o2 → gRep G h7L n H → va_S (gFr G) s.heap H locs → lv_has ls 6 [(0, .ref v7_0), (1, .int v7_1), (2, .int v7_2), (3, .int v7_3), (4, .int v7_4)] → (∀ (H : Heap) (locs : List Loc) (ls : Array Slot), gRep G o2.2.2 n H → va_S (gFr G) s.heap H locs → lv_has ls 6 [(2, .int o2.1), (3, .int o2.2.1), (0, .ref v7_0), (1, .int v7_1)] → W p l e ({ frames := 5, cells := 0, slots := 0, locals := 112 } : Room) s m ([.ref a0, .int p1] : List Value).toArray below meth c H locs 0 0 (MQ below (gQ G (some (.int r)) h' n) ([.ref a0, .int p1] : List Value).toArray s 0 0 (gFr G)) (F0 m 53 ls [])) → W p l e ({ frames := 5, cells := 0, slots := 0, locals := 112 } : Room) s m ([.ref a0, .int p1] : List Value).toArray below meth c H locs 0 0 (MQ below (gQ G (some (.int r)) h' n) ([.ref a0, .int p1] : List Value).toArray s 0 0 (gFr G)) (F0 m 7 ls []) := by
    clear hf
    intro f
    induction f with
    | zero =>
      intro h7L v7_0 v7_1 v7_2 v7_3 v7_4 o2 H locs ls hf
      cases hf
    | succ f ih =>
      intro h7L v7_0 v7_1 v7_2 v7_3 v7_4 o2 H locs ls hf hR hS hl K7
      rw [sp_X1_tunes_L7] at hf
      refine lv_iload hx hb dX1_tunes_7 (lv_at hl 4 rfl) ?_
      refine lv_aload_n hx hb dX1_tunes_9 rfl (lv_at hl 0 rfl) ?_
      obtain ⟨x801, ex801, hf⟩ := gBind hf
      refine g_geti X hR gk_X1 19 (by decide) q659 rfl ex801 dX1_tunes_10 ?_
      refine lv_icmp_ge (tgt := 53) hx hb dX1_tunes_13 (by decide) (fun c802 => ?_) (fun c802 => ?_)
      · replace hf := gIfp c802 hf
        obtain rfl := gO1 hf
        exact K7 _ _ _ hR hS (lv_sub hl [2, 3, 0, 1] rfl)
      · replace hf := gIfn c802 hf
        refine lv_aload_n hx hb dX1_tunes_16 rfl (lv_at hl 0 rfl) ?_
        obtain ⟨x803, ex803, hf⟩ := gBind hf
        refine g_getr X hR gk_X1 26 (by decide) q673 rfl ex803 dX1_tunes_17 ?_
        refine lv_iload_n hx hb dX1_tunes_20 rfl (lv_at hl 1 rfl) ?_
        obtain ⟨a804, ea804, hf⟩ := gBind hf
        refine g_aald X hR 8 (by decide) rfl ea804 dX1_tunes_21 ?_
        obtain ⟨x805, ex805, hf⟩ := gBind hf
        refine g_getrN X hR gk_X6 0 (by decide) q617 rfl ex805 dX1_tunes_22 ?_
        refine lv_iconst (v := (0 : Int32)) hx hb dX1_tunes_25 (by decide) ?_
        refine lv_iload hx hb dX1_tunes_26 (lv_at hl 4 rfl) ?_
        obtain ⟨h806, eh806, hf⟩ := gBind hf
        refine g_iast X hR hS eh806 dX1_tunes_28 (fun H locs hR hS => ?_)
        refine lv_aload_n hx hb dX1_tunes_29 rfl (lv_at hl 0 rfl) ?_
        obtain ⟨k807, hf⟩ := gChk hf
        obtain ⟨u808, eu808, hf⟩ := gBind hf
        refine g_callVi X hR hS [] (m_X1_bands l G F h806 n v7_0 eu808) yk_X1_bands q1514 k807 rfl hl.1 ⟨Nat.le_of_ble_eq_true rfl, Nat.le_of_ble_eq_true rfl⟩ ⟨Nat.le_of_ble_eq_true rfl, Nat.le_of_ble_eq_true rfl⟩ rfl (Nat.le_of_ble_eq_true rfl) dX1_tunes_30 (fun H locs hR hS => ?_)
        refine lv_istore (lv' := [(5, .int u808), (0, .ref v7_0), (1, .int v7_1), (2, .int v7_2), (3, .int v7_3), (4, .int v7_4)]) hx hb dX1_tunes_33 hl (by decide) rfl (fun ls hl => ?_)
        refine lv_iload hx hb dX1_tunes_35 (lv_at hl 0 rfl) ?_
        refine lv_iload_n hx hb dX1_tunes_37 rfl (lv_at hl 4 rfl) ?_
        refine lv_icmp_le (tgt := 47) hx hb dX1_tunes_38 (by decide) (fun c809 => ?_) (fun c809 => ?_)
        · replace hf := gIfp c809 hf
          refine lv_iinc (v := v7_4 + (1 : Int32)) (lv' := [(4, .int (v7_4 + (1 : Int32))), (5, .int u808), (0, .ref v7_0), (1, .int v7_1), (2, .int v7_2), (3, .int v7_3)]) hx hb dX1_tunes_47 hl (k := 5) rfl rfl (by decide) rfl (fun ls hl => ?_)
          refine lv_goto (tgt := 7) hx hb dX1_tunes_50 (by decide) ?_
          exact ih h806 v7_0 v7_1 v7_2 v7_3 (v7_4 + (1 : Int32)) _ _ _ _ hf hR hS (lv_sub hl [2, 3, 4, 5, 0] rfl) K7
        · replace hf := gIfn c809 hf
          refine lv_iload hx hb dX1_tunes_41 (lv_at hl 5 rfl) ?_
          refine lv_istore_n (lv' := [(2, .int v7_4), (5, .int u808), (0, .ref v7_0), (1, .int v7_1), (3, .int v7_3), (4, .int v7_4)]) hx hb dX1_tunes_43 rfl hl (by decide) rfl (fun ls hl => ?_)
          refine lv_iload hx hb dX1_tunes_44 (lv_at hl 1 rfl) ?_
          refine lv_istore_n (lv' := [(3, .int u808), (2, .int v7_4), (5, .int u808), (0, .ref v7_0), (1, .int v7_1), (4, .int v7_4)]) hx hb dX1_tunes_46 rfl hl (by decide) rfl (fun ls hl => ?_)
          refine lv_iinc (v := v7_4 + (1 : Int32)) (lv' := [(4, .int (v7_4 + (1 : Int32))), (3, .int u808), (2, .int v7_4), (5, .int u808), (0, .ref v7_0), (1, .int v7_1)]) hx hb dX1_tunes_47 hl (k := 5) rfl rfl (by decide) rfl (fun ls hl => ?_)
          refine lv_goto (tgt := 7) hx hb dX1_tunes_50 (by decide) ?_
          exact ih h806 v7_0 v7_1 v7_4 u808 (v7_4 + (1 : Int32)) _ _ _ _ hf hR hS (lv_sub hl [4, 5, 2, 1, 0] rfl) K7
  obtain ⟨y3, ey3, hf⟩ := gBind hf
  refine L7_q1 F h a0 p1 (0 : Int32) (-1 : Int32) (0 : Int32) y3 _ _ _ ey3 hR hS (lv_sub hl [3, 4, 2, 1, 0] rfl) (fun H locs ls hR hS hl => ?_)
  refine lv_aload_n hx hb dX1_tunes_53 rfl (lv_at hl 2 rfl) ?_
  obtain ⟨x4, ex4, hf⟩ := gBind hf
  refine g_getr X hR gk_X1 26 (by decide) q673 rfl ex4 dX1_tunes_54 ?_
  refine lv_iload_n hx hb dX1_tunes_57 rfl (lv_at hl 3 rfl) ?_
  obtain ⟨a5, ea5, hf⟩ := gBind hf
  refine g_aald X hR 8 (by decide) rfl ea5 dX1_tunes_58 ?_
  obtain ⟨x6, ex6, hf⟩ := gBind hf
  refine g_getrN X hR gk_X6 0 (by decide) q617 rfl ex6 dX1_tunes_59 ?_
  refine lv_iconst (v := (0 : Int32)) hx hb dX1_tunes_62 (by decide) ?_
  refine lv_iload_n hx hb dX1_tunes_63 rfl (lv_at hl 0 rfl) ?_
  obtain ⟨h7, eh7, hf⟩ := gBind hf
  refine g_iast X hR hS eh7 dX1_tunes_64 (fun H locs hR hS => ?_)
  refine lv_iload_n hx hb dX1_tunes_65 rfl (lv_at hl 1 rfl) ?_
  obtain ⟨rfl, rfl⟩ := gO2 hf
  exact g_iret X hR hS _ rfl ⟨Nat.le_of_ble_eq_true rfl, Nat.le_of_ble_eq_true rfl⟩ dX1_tunes_66

def sp_X1_withGap_L2 (G : gG) (F : Nat) : Nat → gH → Nat → Int32 → Int32 → Option (gH)
  | 0, _, _, _, _ => none
  | f + 1, h2L, v2_0, v2_1, v2_2 =>
    (gGi 1 h2L v2_0 13).bind fun x301 =>
    if x301 ≤ v2_2 then
    some (h2L) else
    (gGr 1 h2L v2_0 22).bind fun x303 =>
    (gAr 5 h2L x303 v2_2).bind fun a304 =>
    (gGr 2 h2L a304 3).bind fun x305 =>
    (gSi h2L x305 (2 : Int32) v2_1).bind fun h306 =>
    sp_X1_withGap_L2 G F f h306 v2_0 v2_1 (v2_2 + (1 : Int32))
def sp_X1_withGap (G : gG) (F : Nat) (h : gH) (a0 : Nat) (p1 : Int32) : Option (Nat × gH) :=
 (sp_X1_withGap_L2 G F F h a0 p1 (0 : Int32)).bind fun y3 =>
 some ((a0, y3))
theorem yk_X1_withGap : gVk yX1_withGap cX1_withGap 3 (some (.object "SafeClears$World")) 1 1 := ⟨q1532, q1533, q93, q1534, ⟨by decide +kernel, by decide +kernel, by decide +kernel⟩, rfl⟩
set_option maxHeartbeats 4000000 in
theorem m_X1_withGap (l : Launch) (G : gG) (F : Nat) (h : gH) (n : Nat) (a0 : Nat) (p1 : Int32) {r : Nat} {h' : gH} (hf : sp_X1_withGap G F h a0 p1 = some (r, h')) : gMet l G yX1_withGap cX1_withGap 3 (some (.object "SafeClears$World")) 0 0 0 0 [.ref a0, .int p1] h n (some (.ref r)) h' n := by
  refine gEnter (by decide) [(0, .ref a0), (1, .int p1)] rfl (Nat.le_of_ble_eq_true rfl) ?_
  intro p e s m below meth c H ls X hin hR hS hl
  have hx := X.1.1
  have hb := X.1.2.1
  unfold sp_X1_withGap at hf
  generalize ([] : List Loc) = locs at hS ⊢
  refine lv_iconst (v := (0 : Int32)) hx hb dX1_withGap_0 (by decide) ?_
  refine lv_istore_n (lv' := [(2, .int (0 : Int32)), (0, .ref a0), (1, .int p1)]) hx hb dX1_withGap_1 rfl hl (by decide) rfl (fun ls hl => ?_)
  have L2_q1 : ∀ (f : Nat) (h2L : gH) (v2_0 : Nat) (v2_1 : Int32) (v2_2 : Int32) (o2 : gH) (H : Heap) (locs : List Loc) (ls : Array Slot), sp_X1_withGap_L2 G F f h2L v2_0 v2_1 v2_2 = some o2 → gRep G h2L n H → va_S (gFr G) s.heap H locs → lv_has ls 3 [(0, .ref v2_0), (1, .int v2_1), (2, .int v2_2)] → (∀ (H : Heap) (locs : List Loc) (ls : Array Slot), gRep G o2 n H → va_S (gFr G) s.heap H locs → lv_has ls 3 [(0, .ref v2_0)] → W p l e ({ frames := 0, cells := 0, slots := 0, locals := 0 } : Room) s m ([.ref a0, .int p1] : List Value).toArray below meth c H locs 0 0 (MQ below (gQ G (some (.ref r)) h' n) ([.ref a0, .int p1] : List Value).toArray s 0 0 (gFr G)) (F0 m 28 ls [])) → W p l e ({ frames := 0, cells := 0, slots := 0, locals := 0 } : Room) s m ([.ref a0, .int p1] : List Value).toArray below meth c H locs 0 0 (MQ below (gQ G (some (.ref r)) h' n) ([.ref a0, .int p1] : List Value).toArray s 0 0 (gFr G)) (F0 m 2 ls []) := by
    clear hf
    intro f
    induction f with
    | zero =>
      intro h2L v2_0 v2_1 v2_2 o2 H locs ls hf
      cases hf
    | succ f ih =>
      intro h2L v2_0 v2_1 v2_2 o2 H locs ls hf hR hS hl K2
      rw [sp_X1_withGap_L2] at hf
      refine lv_iload_n hx hb dX1_withGap_2 rfl (lv_at hl 2 rfl) ?_
      refine lv_aload_n hx hb dX1_withGap_3 rfl (lv_at hl 0 rfl) ?_
      obtain ⟨x301, ex301, hf⟩ := gBind hf
      refine g_geti X hR gk_X1 13 (by decide) q648 rfl ex301 dX1_withGap_4 ?_
      refine lv_icmp_ge (tgt := 28) hx hb dX1_withGap_7 (by decide) (fun c302 => ?_) (fun c302 => ?_)
      · replace hf := gIfp c302 hf
        obtain rfl := gO1 hf
        exact K2 _ _ _ hR hS (lv_sub hl [0] rfl)
      · replace hf := gIfn c302 hf
        refine lv_aload_n hx hb dX1_withGap_10 rfl (lv_at hl 0 rfl) ?_
        obtain ⟨x303, ex303, hf⟩ := gBind hf
        refine g_getr X hR gk_X1 22 (by decide) q665 rfl ex303 dX1_withGap_11 ?_
        refine lv_iload_n hx hb dX1_withGap_14 rfl (lv_at hl 2 rfl) ?_
        obtain ⟨a304, ea304, hf⟩ := gBind hf
        refine g_aald X hR 5 (by decide) rfl ea304 dX1_withGap_15 ?_
        obtain ⟨x305, ex305, hf⟩ := gBind hf
        refine g_getrN X hR gk_X2 3 (by decide) q521 rfl ex305 dX1_withGap_16 ?_
        refine lv_iconst (v := (2 : Int32)) hx hb dX1_withGap_19 (by decide) ?_
        refine lv_iload_n hx hb dX1_withGap_20 rfl (lv_at hl 1 rfl) ?_
        obtain ⟨h306, eh306, hf⟩ := gBind hf
        refine g_iast X hR hS eh306 dX1_withGap_21 (fun H locs hR hS => ?_)
        refine lv_iinc (v := v2_2 + (1 : Int32)) (lv' := [(2, .int (v2_2 + (1 : Int32))), (0, .ref v2_0), (1, .int v2_1)]) hx hb dX1_withGap_22 hl (k := 2) rfl rfl (by decide) rfl (fun ls hl => ?_)
        refine lv_goto (tgt := 2) hx hb dX1_withGap_25 (by decide) ?_
        exact ih h306 v2_0 v2_1 (v2_2 + (1 : Int32)) _ _ _ _ hf hR hS (lv_sub hl [1, 2, 0] rfl) K2
  obtain ⟨y3, ey3, hf⟩ := gBind hf
  refine L2_q1 F h a0 p1 (0 : Int32) y3 _ _ _ ey3 hR hS (lv_sub hl [1, 2, 0] rfl) (fun H locs ls hR hS hl => ?_)
  refine lv_aload_n hx hb dX1_withGap_28 rfl (lv_at hl 0 rfl) ?_
  obtain ⟨rfl, rfl⟩ := gO2 hf
  exact g_aret X hR hS _ rfl ⟨Nat.le_of_ble_eq_true rfl, Nat.le_of_ble_eq_true rfl⟩ dX1_withGap_29

