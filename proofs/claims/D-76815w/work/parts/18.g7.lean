/-! g7: a reference that may be null, to an array of any of five types -/
set_option maxRecDepth 100000
def gGq (ci : Nat) (h : gH) (a k : Nat) : Option (Option Nat) := match gGv ci h a k with
  | some (.ref x) => some (some x)
  | some .null => some none
  | _ => none
theorem gGq_spec {ci a k : Nat} {h : gH} {x : Option Nat} (hf : gGq ci h a k = some x) : gGv ci h a k = some (va_rf x) := by
  unfold gGq at hf
  split at hf
  · rename_i y he
    cases hf
    exact he
  · rename_i he
    cases hf
    exact he
  · cases hf
/-- the type of an array's cell -/
def gArt (h : gH) (a : Nat) : Option Nat := match h a with
  | some (.inl (t, _)) => if t < 5 then some t else none
  | _ => none
theorem gArt_spec {h : gH} {a t : Nat} (hf : gArt h a = some t) : t < 5 ∧ ∃ x, h a = some (.inl (t, x)) := by
  unfold gArt at hf
  split at hf
  · rename_i t' x he
    obtain ⟨hc, hf⟩ := gChk hf
    have := Option.some.inj hf
    subst this
    exact ⟨hc, x, he⟩
  · cases hf
def gInst (t : Nat) (h : gH) (q : Option Nat) : Option Int32 := match q with
  | none => some 0
  | some a => (gArt h a).map (fun t' => if t' = t then 1 else 0)
def gCast (t : Nat) (h : gH) (q : Option Nat) : Option Nat := match q with
  | none => none
  | some a => if gArt h a = some t then some a else none
section G7
variable {p : Program} {l : Launch} {e : Env} {R : Room} {s : State} {m : MethodId} {args : Array Value} {below : List Frame} {meth : Method} {c : Code} {H : Heap} {locs : List Loc} {cells slots : Nat} {Q : State → Prop}
variable {cc : ByteArray} {pc nL : Nat} {ls : Array Slot} {rest : List Value} {G : gG} {h : gH} {n a : Nat} {own : String} {ret : Option FieldType}
theorem g_getq (X : gCx p s m args meth c cc nL own ret G) (hR : gRep G h n H) {ci index : Nat} {C ref : String} {T : u_T} {N : Nat} {ty : Nat → FieldType} (ok : gOk ci C T N ty) (k : Nat) (hk : k < N) (hlink : (Cond.fieldLink own index ref (T k).2.1 (T k).2.2.1) ∈ lw_all) (hsame : (T k).1 = ref) {v : Option Nat} (hf : gGq ci h a k = some v) (hdg : decode cc pc = .ok (.getfield index, 3))
    (kk : W p l e R s m args below meth c H locs cells slots Q (F0 m (pc + 3) ls (va_rf v :: rest))) : W p l e R s m args below meth c H locs cells slots Q (F0 m pc ls (.ref a :: rest)) := g_getv X hR ok k hk hlink hsame (gGq_spec hf) hdg kk
theorem g_getqN (X : gCx p s m args meth c cc nL own ret G) (hR : gRep G h n H) {ci index : Nat} {C ref host : String} {T : u_T} {N : Nat} {ty : Nat → FieldType} (ok : gOk ci C T N ty) (k : Nat) (hk : k < N) (hlink : (Cond.fieldLinkNest own index ref (T k).2.1 (T k).2.2.1 host) ∈ lw_tbl) (hsame : (T k).1 = ref) {v : Option Nat} (hf : gGq ci h a k = some v) (hdg : decode cc pc = .ok (.getfield index, 3))
    (kk : W p l e R s m args below meth c H locs cells slots Q (F0 m (pc + 3) ls (va_rf v :: rest))) : W p l e R s m args below meth c H locs cells slots Q (F0 m pc ls (.ref a :: rest)) := g_getvN X hR ok k hk hlink hsame (gGq_spec hf) hdg kk
theorem g_ifnonnull (X : gCx p s m args meth c cc nL own ret G) {q : Option Nat} {off : Int} {tgt : Nat} (hdg : decode cc pc = .ok (.ifnonnull off, 3)) (ht : (pc : Int) + off = (tgt : Int))
    (kt : ¬ q = none → W p l e R s m args below meth c H locs cells slots Q (F0 m tgt ls rest)) (kf : q = none → W p l e R s m args below meth c H locs cells slots Q (F0 m (pc + 3) ls rest)) : W p l e R s m args below meth c H locs cells slots Q (F0 m pc ls (va_rf q :: rest)) := by
  cases q with
  | none => exact lv_ifnonnullN X.1.1 X.1.2.1 hdg (kf rfl)
  | some x => exact lv_ifnonnull X.1.1 X.1.2.1 hdg ht (kt (fun h => by cases h))
theorem g_ifnull (X : gCx p s m args meth c cc nL own ret G) {q : Option Nat} {off : Int} {tgt : Nat} (hdg : decode cc pc = .ok (.ifnull off, 3)) (ht : (pc : Int) + off = (tgt : Int))
    (kt : q = none → W p l e R s m args below meth c H locs cells slots Q (F0 m tgt ls rest)) (kf : ¬ q = none → W p l e R s m args below meth c H locs cells slots Q (F0 m (pc + 3) ls rest)) : W p l e R s m args below meth c H locs cells slots Q (F0 m pc ls (va_rf q :: rest)) := by
  cases q with
  | none => exact lv_ifnullN X.1.1 X.1.2.1 hdg ht (kt rfl)
  | some x => exact lv_ifnull X.1.1 X.1.2.1 hdg (kf (fun h => by cases h))
/-- an array's class by its name -/
theorem gNmOf (hK : gK G s) {t : Nat} (ht : t < 5) : s.vm.findClass (gNm t) = some (gA G t) := by
  have h := (hK.1.2 t _ (gTys_at (G := G) (t := t) (by omega))).2
  rcases (show t = 0 ∨ t = 1 ∨ t = 2 ∨ t = 3 ∨ t = 4 by omega) with rfl | rfl | rfl | rfl | rfl
  · exact va_nm_int h
  · exact va_nm_long h
  · exact va_nm_byte h
  · exact va_nm_boolean h
  · exact va_nm_short h
theorem gArr (hR : gRep G h n H) {t : Nat} {x : vp_A} (he : h a = some (.inl (t, x))) : ∃ cell : Cell, H[a]? = some cell ∧ cell.vm.isStatics = false ∧ cell.cls = gA G t := by
  refine ⟨vp_cell (gA G t) x, (hR.2.2 a _ he).2, ?_, ?_⟩
  · obtain ⟨n, f | f | f | f | f⟩ := x <;> rfl
  · obtain ⟨n, f | f | f | f | f⟩ := x <;> rfl
theorem g_inst (X : gCx p s m args meth c cc nL own ret G) (hR : gRep G h n H) (t : Nat) (ht : t < 5) {index : Nat} (hlink : (Cond.classLink own index (gNm t)) ∈ lw_all) {q : Option Nat} {r : Int32} (hf : gInst t h q = some r) (hdg : decode cc pc = .ok (.instanceof index, 3))
    (kk : W p l e R s m args below meth c H locs cells slots Q (F0 m (pc + 3) ls (.int r :: rest))) : W p l e R s m args below meth c H locs cells slots Q (F0 m pc ls (va_rf q :: rest)) := by
  obtain ⟨⟨hx, hb, hml, hown, hts⟩, hK, hr, hlk⟩ := X
  cases q with
  | none =>
    have h0 : (0 : Int32) = r := Option.some.inj hf
    subst h0
    exact lv_instN hx hb hdg kk
  | some a =>
    have hf : (gArt h a).map (fun t' => if t' = t then 1 else 0) = some r := hf
    cases hA : gArt h a with
    | none => rw [hA] at hf; cases hf
    | some t' =>
      rw [hA] at hf
      have hv : (if t' = t then 1 else 0) = r := Option.some.inj hf
      obtain ⟨ht', x, he⟩ := gArt_spec hA
      obtain ⟨cell, h1, h2, h3⟩ := gArr hR he
      by_cases htt : t' = t
      · rw [if_pos htt] at hv
        subst hv
        intro T hT Y
        obtain ⟨vm', Y', st⟩ := Y.instanceofYes hx hown (hts _ hlink) (by rw [hT]; exact h1) h2 (gNmOf hK ht) (by rw [h3, htt]; exact va_asg _ _) (g := F0 m pc ls (.ref a :: rest)) rfl rfl (by rw [hb]; exact hdg)
        obtain ⟨t9, a1, b1⟩ := kk (T.setVm vm') hT Y'
        exact ⟨t9, st t9 a1, b1⟩
      · rw [if_neg htt] at hv
        subst hv
        exact va_instNo hx hb (C := gNm t') hown (hts _ hlink) ((gFaOf hK).2.2.2.2.1 t' t ht' ht htt) ⟨cell, h1, h2, by rw [h3]; exact gNmOf hK ht'⟩ hdg kk
theorem g_castq (X : gCx p s m args meth c cc nL own ret G) (hR : gRep G h n H) (t : Nat) (ht : t < 5) {index : Nat} (hlink : (Cond.classLink own index (gNm t)) ∈ lw_all) {q : Option Nat} {r : Nat} (hf : gCast t h q = some r) (hdg : decode cc pc = .ok (.checkcast index, 3))
    (kk : W p l e R s m args below meth c H locs cells slots Q (F0 m (pc + 3) ls (.ref r :: rest))) : W p l e R s m args below meth c H locs cells slots Q (F0 m pc ls (va_rf q :: rest)) := by
  obtain ⟨⟨hx, hb, hml, hown, hts⟩, hK, hr, hlk⟩ := X
  cases q with
  | none => cases hf
  | some a =>
    obtain ⟨hA, hv⟩ := gChk (show (if gArt h a = some t then some a else none) = some r from hf)
    have := Option.some.inj hv
    subst this
    obtain ⟨ht', x, he⟩ := gArt_spec hA
    obtain ⟨cell, h1, h2, h3⟩ := gArr hR he
    intro T hT Y
    obtain ⟨vm', Y', st⟩ := Y.checkcastYes hx hown (hts _ hlink) (by rw [hT]; exact h1) h2 (gNmOf hK ht) (by rw [h3]; exact va_asg _ _) (g := F0 m pc ls (.ref a :: rest)) rfl rfl (by rw [hb]; exact hdg)
    obtain ⟨t9, a1, b1⟩ := kk (T.setVm vm') hT Y'
    exact ⟨t9, st t9 a1, b1⟩
end G7
