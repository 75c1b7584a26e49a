/-! e2: a Fault is made -/
set_option maxRecDepth 100000
theorem gUpUp (h : gH) (a : Nat) (x y : Option gC) : va_up (va_up h a x) a y = va_up h a y := by
  funext j
  unfold va_up
  by_cases hj : j = a <;> simp [hj]
theorem gUpSame (h : gH) (a : Nat) (x : Option gC) (e : h a = x) : va_up h a x = h := by
  funext j
  unfold va_up
  by_cases hj : j = a
  · subst hj; simp [e]
  · simp [hj]
theorem gP13 (h : gH) (a : Nat) (fs : List Value) (k : Nat) (v : Value) (hk : k < fs.length) : gPv 13 (va_up h a (some (.inr (13, fs)))) a k v = some (va_up h a (some (.inr (13, fs.set k v)))) := by
  have e : (va_up h a (some (.inr (13, fs)))) a = some (.inr (13, fs)) := va_up_self _ _ _
  unfold gPv
  rw [e]
  simp only [gUpUp, hk, and_self, if_true]
section E2
variable {p : Program} {l : Launch} {e : Env} {R : Room} {s : State} {m : MethodId} {args : Array Value} {below : List Frame} {meth : Method} {c : Code} {H : Heap} {locs : List Loc} {cells slots : Nat} {Q : State → Prop}
variable {cc : ByteArray} {pc nL : Nat} {ls : Array Slot} {rest : List Value} {G : gG} {h : gH} {n a : Nat} {own : String} {ret : Option FieldType}
/-- a static of which only 'null or some reference' is known -/
theorem g_getsQ (X : gCx p s m args meth c cc nL own ret G) (hS : va_S (gFr G) s.heap H locs) {C nm d : String} {index : Nat} (hZ : va_Zq C nm d (gFr G) s s.heap) (hlink : Cond.fieldLink own index C nm d ∈ lw_all) (hdg : decode cc pc = .ok (.getstatic index, 3))
    (kk : ∀ q : Option Nat, W p l e R s m args below meth c H locs cells slots Q (F0 m (pc + 3) ls (va_rf q :: rest))) : W p l e R s m args below meth c H locs cells slots Q (F0 m pc ls rest) := by
  obtain ⟨⟨hx, hb, hml, hown, hts⟩, hK, hr, hlk⟩ := X
  rcases hZ with h0 | ⟨t, h0⟩
  · exact va_gets hx hb h0 hS hown (hts _ hlink) (fun _ h9 => h9) hdg (kk none)
  · exact va_gets hx hb h0 hS hown (hts _ hlink) (fun _ h9 => h9) hdg (kk (some t))
theorem g_put13 (X : gCx p s m args meth c cc nL own ret G) (fs : List Value) (hR : gRep G (va_up h a (some (.inr (13, fs)))) n H) (hS : va_S (gFr G) s.heap H locs) (k : Nat) (hk : k < 7) (hlen : k < fs.length) {index : Nat} {ref : String} (hlink : (Cond.fieldLink own index ref (TX15 k).2.1 (TX15 k).2.2.1) ∈ lw_all) (hsame : (TX15 k).1 = ref) (hfin : (TX15 k).2.2.2 = false) {v : Value} {ty1 : FieldType} (hty1 : tyX15 k = ty1) (hn : narrow ty1 v = v) (hfit : fits ty1 v = true) (hdg : decode cc pc = .ok (.putfield index, 3))
    (kk : ∀ (H1 : Heap) (locs1 : List Loc), gRep G (va_up h a (some (.inr (13, fs.set k v)))) n H1 → va_S (gFr G) s.heap H1 locs1 → W p l e R s m args below meth c H1 locs1 cells slots Q (F0 m (pc + 3) ls rest)) : W p l e R s m args below meth c H locs cells slots Q (F0 m pc ls (v :: .ref a :: rest)) :=
  g_put X hR hS gk_X15 k hk hlink hsame hfin (gP13 h a fs k v hlen) hty1 hn hfit hdg kk
end E2
theorem gNarQ (q : Option Nat) (ty : FieldType) (h : (match ty with | .object _ => true | .array _ => true | _ => false) = true) : narrow ty (va_rf q) = va_rf q ∧ fits ty (va_rf q) = true := by
  cases q <;> cases ty <;> first | exact ⟨rfl, rfl⟩ | cases h
theorem yk_J2_init_3 : gIk yJ2_init_3 cJ2_init_3 5 4 := ⟨q1015, rfl, q98, q1016, ⟨by decide +kernel, by decide +kernel, by decide +kernel⟩⟩
theorem yk_J3_init_3 : gIk yJ3_init_3 cJ3_init_3 5 4 := ⟨q1012, rfl, q99, q1013, ⟨by decide +kernel, by decide +kernel, by decide +kernel⟩⟩
theorem yk_X15_init : gIk yX15_init cX15_init 2 1 := ⟨q1009, rfl, q126, q1010, ⟨by decide +kernel, by decide +kernel, by decide +kernel⟩⟩
set_option maxHeartbeats 1000000 in
theorem m_J2_init_3 (l : Launch) (G : gG) (h : gH) (n a : Nat) (v0 v1 v2 v3 v4 v5 v6 : Value) : gMet l G yJ2_init_3 cJ2_init_3 5 none 1 20 0 0 [.ref a, .null, .null, .int 0, .int 0] (va_up h a (some (.inr (13, [v0, v1, v2, v3, v4, v5, v6])))) n none (va_up h a (some (.inr (13, [.null, .null, .null, .null, v4, v5, v6])))) n := by
  refine gEnter (by decide) [(0, .ref a), (1, .null), (2, .null), (3, .int 0), (4, .int 0)] rfl (Nat.le_of_ble_eq_true rfl) ?_
  intro p e s m below meth c H ls X hin hR hS hl
  have hx := X.1.1
  have hb := X.1.2.1
  have hxt := gXtOf X.2.1
  generalize ([] : List Loc) = locs at hS ⊢
  refine lv_aload_n hx hb dJ2_init_3_0 rfl (lv_at hl 0 rfl) ?_
  refine g_objInit X q195 q138 q139 hl.1 ⟨Nat.le_of_ble_eq_true rfl, Nat.le_of_ble_eq_true rfl⟩ (Nat.le_of_ble_eq_true rfl) dJ2_init_3_1 ?_
  refine lv_aload_n hx hb dJ2_init_3_4 rfl (lv_at hl 0 rfl) ?_
  refine lv_aload_n hx hb dJ2_init_3_5 rfl (lv_at hl 0 rfl) ?_
  refine g_put13 X _ hR hS 0 (by decide) (Nat.le_of_ble_eq_true rfl) q244 rfl rfl rfl rfl rfl dJ2_init_3_6 (fun H locs hR hS => ?_)
  refine lv_aload_n hx hb dJ2_init_3_9 rfl (lv_at hl 0 rfl) ?_
  refine g_getsQ X hS hxt.1.1 q196 dJ2_init_3_10 (fun u => ?_)
  refine g_put13 X _ hR hS 1 (by decide) (Nat.le_of_ble_eq_true rfl) q245 rfl rfl rfl (gNarQ u _ rfl).1 (gNarQ u _ rfl).2 dJ2_init_3_13 (fun H locs hR hS => ?_)
  refine lv_aload_n hx hb dJ2_init_3_16 rfl (lv_at hl 0 rfl) ?_
  refine g_getsQ X hS hxt.2.1.1 q198 dJ2_init_3_17 (fun u2 => ?_)
  refine g_put13 X _ hR hS 2 (by decide) (Nat.le_of_ble_eq_true rfl) q246 rfl rfl rfl (gNarQ u2 _ rfl).1 (gNarQ u2 _ rfl).2 dJ2_init_3_20 (fun H locs hR hS => ?_)
  refine lv_iload hx hb dJ2_init_3_23 (lv_at hl 4 rfl) ?_
  refine lv_if_eq (tgt := 36) hx hb dJ2_init_3_25 (by decide) (fun _ => ?_) (fun c => absurd rfl c)
  refine lv_aload_n hx hb dJ2_init_3_36 rfl (lv_at hl 0 rfl) ?_
  refine lv_null hx hb dJ2_init_3_37 ?_
  refine g_put13 X _ hR hS 1 (by decide) (Nat.le_of_ble_eq_true rfl) q245 rfl rfl rfl rfl rfl dJ2_init_3_38 (fun H locs hR hS => ?_)
  refine lv_aload_n hx hb dJ2_init_3_41 rfl (lv_at hl 0 rfl) ?_
  refine lv_aload_nN hx hb dJ2_init_3_42 rfl (lv_at hl 1 rfl) ?_
  refine g_put13 X _ hR hS 3 (by decide) (Nat.le_of_ble_eq_true rfl) q243 rfl rfl rfl rfl rfl dJ2_init_3_43 (fun H locs hR hS => ?_)
  refine lv_aload_n hx hb dJ2_init_3_46 rfl (lv_at hl 0 rfl) ?_
  refine lv_aload_nN hx hb dJ2_init_3_47 rfl (lv_at hl 2 rfl) ?_
  refine g_put13 X _ hR hS 0 (by decide) (Nat.le_of_ble_eq_true rfl) q244 rfl rfl rfl rfl rfl dJ2_init_3_48 (fun H locs hR hS => ?_)
  refine lv_iload_n hx hb dJ2_init_3_51 rfl (lv_at hl 3 rfl) ?_
  refine lv_if_ne (tgt := 60) hx hb dJ2_init_3_52 (by decide) (fun c => absurd rfl c) (fun _ => ?_)
  refine lv_aload_n hx hb dJ2_init_3_55 rfl (lv_at hl 0 rfl) ?_
  refine lv_null hx hb dJ2_init_3_56 ?_
  refine g_put13 X _ hR hS 2 (by decide) (Nat.le_of_ble_eq_true rfl) q246 rfl rfl rfl rfl rfl dJ2_init_3_57 (fun H locs hR hS => ?_)
  exact g_vret X hR hS rfl ⟨Nat.le_of_ble_eq_true rfl, Nat.le_of_ble_eq_true rfl⟩ dJ2_init_3_60
theorem m_J3_init_3 (l : Launch) (G : gG) (h : gH) (n a : Nat) (v0 v1 v2 v3 v4 v5 v6 : Value) : gMet l G yJ3_init_3 cJ3_init_3 5 none 2 44 0 0 [.ref a, .null, .null, .int 0, .int 0] (va_up h a (some (.inr (13, [v0, v1, v2, v3, v4, v5, v6])))) n none (va_up h a (some (.inr (13, [.null, .null, .null, .null, v4, v5, v6])))) n := by
  refine gEnter (by decide) [(0, .ref a), (1, .null), (2, .null), (3, .int 0), (4, .int 0)] rfl (Nat.le_of_ble_eq_true rfl) ?_
  intro p e s m below meth c H ls X hin hR hS hl
  have hx := X.1.1
  have hb := X.1.2.1
  generalize ([] : List Loc) = locs at hS ⊢
  refine lv_aload_n hx hb dJ3_init_3_0 rfl (lv_at hl 0 rfl) ?_
  refine lv_aload_nN hx hb dJ3_init_3_1 rfl (lv_at hl 1 rfl) ?_
  refine lv_aload_nN hx hb dJ3_init_3_2 rfl (lv_at hl 2 rfl) ?_
  refine lv_iload_n hx hb dJ3_init_3_3 rfl (lv_at hl 3 rfl) ?_
  refine lv_iload hx hb dJ3_init_3_4 (lv_at hl 4 rfl) ?_
  refine g_callI X hR hS [.null, .null, .int 0, .int 0] (m_J2_init_3 l G h n a v0 v1 v2 v3 v4 v5 v6) yk_J2_init_3 q1014 rfl hl.1 ⟨Nat.le_of_ble_eq_true rfl, Nat.le_of_ble_eq_true rfl⟩ ⟨Nat.le_of_ble_eq_true rfl, Nat.le_of_ble_eq_true rfl⟩ rfl (Nat.le_of_ble_eq_true rfl) dJ3_init_3_6 (fun H locs hR hS => ?_)
  exact g_vret X hR hS rfl ⟨Nat.le_of_ble_eq_true rfl, Nat.le_of_ble_eq_true rfl⟩ dJ3_init_3_9
def sp_X15_init (G : gG) (F : Nat) (h : gH) (a0 : Nat) (p1 : Int32) : Option gH := match h a0 with
  | some (.inr (13, [_, _, _, _, v4, v5, _])) => some (va_up h a0 (some (.inr (13, [.null, .null, .null, .null, v4, v5, .int p1]))))
  | _ => none
theorem m_X15_init (l : Launch) (G : gG) (F : Nat) (h : gH) (n : Nat) (a0 : Nat) (p1 : Int32) {h' : gH} (hf : sp_X15_init G F h a0 p1 = some h') : gMet l G yX15_init cX15_init 2 none 3 68 0 0 [.ref a0, .int p1] h n none h' n := by
  unfold sp_X15_init at hf
  split at hf
  · rename_i v0 v1 v2 v3 v4 v5 v6 he
    have := Option.some.inj hf
    subst this
    refine gEnter (by decide) [(0, .ref a0), (1, .int p1)] rfl (Nat.le_of_ble_eq_true rfl) ?_
    intro p e s m below meth c H ls X hin hR hS hl
    have hx := X.1.1
    have hb := X.1.2.1
    generalize ([] : List Loc) = locs at hS ⊢
    rw [← gUpSame h a0 _ he] at hR
    refine lv_aload_n hx hb dX15_init_0 rfl (lv_at hl 0 rfl) ?_
    refine lv_null hx hb dX15_init_1 ?_
    refine lv_null hx hb dX15_init_2 ?_
    refine lv_iconst (v := 0) hx hb dX15_init_3 (by decide) ?_
    refine lv_iconst (v := 0) hx hb dX15_init_4 (by decide) ?_
    refine g_callI X hR hS [.null, .null, .int 0, .int 0] (m_J3_init_3 l G h n a0 v0 v1 v2 v3 v4 v5 v6) yk_J3_init_3 q1011 rfl hl.1 ⟨Nat.le_of_ble_eq_true rfl, Nat.le_of_ble_eq_true rfl⟩ ⟨Nat.le_of_ble_eq_true rfl, Nat.le_of_ble_eq_true rfl⟩ rfl (Nat.le_of_ble_eq_true rfl) dX15_init_5 (fun H locs hR hS => ?_)
    refine lv_aload_n hx hb dX15_init_8 rfl (lv_at hl 0 rfl) ?_
    refine lv_iload_n hx hb dX15_init_9 rfl (lv_at hl 1 rfl) ?_
    refine g_putF X hR hS hin gk_X15 6 (by decide) q1017 rfl rfl rfl (gP13 h a0 _ 6 (.int p1) (Nat.le_of_ble_eq_true rfl)) rfl rfl rfl dX15_init_10 (fun H locs hR hS => ?_)
    exact g_vret X hR hS rfl ⟨Nat.le_of_ble_eq_true rfl, Nat.le_of_ble_eq_true rfl⟩ dX15_init_13
  · cases hf
