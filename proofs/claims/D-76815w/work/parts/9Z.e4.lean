/-! e4: what the machine throws by itself, over the abstract heap; methods with handlers -/
set_option maxRecDepth 100000
section E4
variable {p : Program} {l : Launch} {e : Env} {R : Room} {s : State} {m : MethodId} {args : Array Value} {below : List Frame} {meth : Method} {c : Code} {H : Heap} {locs : List Loc} {cells slots : Nat} {Q : State → Prop}
variable {cc : ByteArray} {pc nL : Nat} {ls : Array Slot} {rest : List Value} {G : gG} {h : gH} {n a : Nat} {own : String} {ret : Option FieldType}
/-- what the words of a class that the machine throws must say -/
def gThr (cls : String) (names : List String) : Prop := (Bundle.fit cls = true ∧ (∀ n ∈ names, Bundle.fit n = true) ∧ (cls == "java/lang/StackOverflowError") = false ∧ (cls == "java/lang/OutOfMemoryError") = false ∧ names.length ≤ 3) ∧ (∀ w ∈ vx_atM cls names, w ∈ lw_tbl) ∧ (vx_atM cls names).all gWd = true ∧ ∀ w ∈ vx_atM cls names, vx_ot w = true
theorem gx_note (X : gCx p s m args meth c cc nL own ret G) (hlt : l.stackTraces = false) (hR : gRep G h n H) (hS : va_S (gFr G) s.heap H locs) {cls text : String} {names : List String} (hw : gThr cls names) (hl : ls.size = nL) (htext : (text == notModelled) = false) (hnb : (stringBytes (stringToUtf16 text)).size ≤ 800) (hrm : 8 ≤ R.frames ∧ (rest.map fun v => v.category).sum + 10240 ≤ R.locals) (hcs : cells + 3 ≤ R.cells ∧ slots + 810 ≤ R.slots)
    (k : ∀ (q n1 : Nat) (ce : Cell) (H1 : Heap), gRep G h n1 H1 → va_S (gFr G) s.heap H1 locs → H1[q]? = some ce → ce.vm = .none → s.vm.findClass cls = some ce.cls → vx_W p l e R s m args below meth c H1 locs (cells + 3) (slots + 810) Q (F0 m pc ls rest) q) :
    vx_Note p l e R s m args below meth c H locs cells slots Q (F0 m pc ls rest) cls text := by
  obtain ⟨⟨c1, c2, c3, c4, c5⟩, w1, w2, w3⟩ := hw
  have hxt := gXtOf X.2.1
  have X0 := X
  obtain ⟨⟨hx, hb, hml, hown, hts⟩, hK, hr, hlk⟩ := X
  exact vx_vm (nb := 800) (A := gFr G) hx hlt c1 c2 c3 c4 (gWds X0 _ w1 w2) w3 hxt.1 hxt.2.1 hS (hl.trans hml.symm) htext hnb (by decide) (by omega) hrm.2 (by omega) hcs.1 hcs.2 hlk
    (fun H1 q9 ce z oq hS1 h1 h2 h3 => k q9 H1.size ce H1 (hR.grow z oq) hS1 h1 h2 h3)
theorem gThr_nas : gThr cl_nas nm_nas := ⟨⟨by decide +kernel, by decide +kernel, by decide +kernel, by decide +kernel, by decide⟩, at_nas, ag_nas, ao_nas⟩
theorem gThr_cce : gThr cl_cce nm_cce := ⟨⟨by decide +kernel, by decide +kernel, by decide +kernel, by decide +kernel, by decide⟩, at_cce, ag_cce, ao_cce⟩
theorem gThr_aio : gThr cl_aio nm_aio := ⟨⟨by decide +kernel, by decide +kernel, by decide +kernel, by decide +kernel, by decide⟩, at_aio, ag_aio, ao_aio⟩
theorem gThr_ase : gThr cl_ase nm_ase := ⟨⟨by decide +kernel, by decide +kernel, by decide +kernel, by decide +kernel, by decide⟩, at_ase, ag_ase, ao_ase⟩
abbrev gKX (p : Program) (l : Launch) (e : Env) (R : Room) (s : State) (m : MethodId) (args : Array Value) (below : List Frame) (meth : Method) (c : Code) (locs : List Loc) (cells slots : Nat) (Q : State → Prop) (G : gG) (h : gH) (cls : String) (g : JFrame) : Prop :=
  ∀ (q n1 : Nat) (ce : Cell) (H1 : Heap), gRep G h n1 H1 → va_S (gFr G) s.heap H1 locs → H1[q]? = some ce → ce.vm = .none → s.vm.findClass cls = some ce.cls → vx_W p l e R s m args below meth c H1 locs (cells + 3) (slots + 810) Q g q
theorem g_newZ {atype : ArrayType} (X : gCx p s m args meth c cc nL own ret G) (hlt : l.stackTraces = false) (hR : gRep G h n H) (hS : va_S (gFr G) s.heap H locs) (hl : ls.size = nL) {k : Int32} (h0 : k < 0) (hrm : 8 ≤ R.frames ∧ (rest.map fun v => v.category).sum + 10240 ≤ R.locals) (hcs : cells + 3 ≤ R.cells ∧ slots + 810 ≤ R.slots) (hdg : decode cc pc = .ok (.newarray atype, 2))
    (kx : gKX p l e R s m args below meth c locs cells slots Q G h cl_nas (F0 m pc ls rest)) : W p l e R s m args below meth c H locs cells slots Q (F0 m pc ls (.int k :: rest)) :=
  vx_newarrayZ X.1.1 X.1.2.1 h0 hdg (fun tx et => gx_note X hlt hR hS gThr_nas hl (by rw [et]; exact negative_text_modelled h0) (by rw [et]; exact Nat.le_trans (negative_text_bytes k) (by decide)) hrm hcs kx)
/-- a place beyond an array's end -/
def gOut (t : Nat) (h : gH) (a : Nat) (i : Int32) : Bool := match h a with
  | some (.inl (t', N, .inl _)) => decide (t' = t) && decide (N ≤ 60) && decide (i < 0 ∨ N ≤ i.toNatClampNeg)
  | _ => false
def gOutL (h : gH) (a : Nat) (i : Int32) : Bool := match h a with
  | some (.inl (t', N, .inr (.inl _))) => decide (t' = 1) && decide (N ≤ 60) && decide (i < 0 ∨ N ≤ i.toNatClampNeg)
  | _ => false
theorem gOut_spec {t : Nat} {i : Int32} (hf : gOut t h a i = true) : ∃ N f, h a = some (.inl (t, N, .inl f)) ∧ N ≤ 60 ∧ ¬ vp_in i N := by
  unfold gOut at hf
  split at hf
  · rename_i t' N f he
    simp only [Bool.and_eq_true, decide_eq_true_eq] at hf
    obtain ⟨⟨h1, h2⟩, h3⟩ := hf
    subst h1
    exact ⟨N, f, he, h2, fun h9 => h9 h3⟩
  · cases hf
theorem gOutL_spec {i : Int32} (hf : gOutL h a i = true) : ∃ N f, h a = some (.inl (1, N, .inr (.inl f))) ∧ N ≤ 60 ∧ ¬ vp_in i N := by
  unfold gOutL at hf
  split at hf
  · rename_i t' N f he
    simp only [Bool.and_eq_true, decide_eq_true_eq] at hf
    obtain ⟨⟨h1, h2⟩, h3⟩ := hf
    subst h1
    exact ⟨N, f, he, h2, fun h9 => h9 h3⟩
  · cases hf
theorem g_iastZ (X : gCx p s m args meth c cc nL own ret G) (hlt : l.stackTraces = false) (hR : gRep G h n H) (hS : va_S (gFr G) s.heap H locs) (hl : ls.size = nL) {i x : Int32} (hf : gOut 0 h a i = true) (hrm : 8 ≤ R.frames ∧ (rest.map fun v => v.category).sum + 10240 ≤ R.locals) (hcs : cells + 3 ≤ R.cells ∧ slots + 810 ≤ R.slots) (hdg : decode cc pc = .ok (.iastore, 1))
    (kx : gKX p l e R s m args below meth c locs cells slots Q G h cl_aio (F0 m pc ls rest)) : W p l e R s m args below meth c H locs cells slots Q (F0 m pc ls (.int x :: .int i :: .ref a :: rest)) := by
  obtain ⟨N, f, he, h60, hout⟩ := gOut_spec hf
  exact vx_iastZ (D := gD G) (cl := gCl) (tys := gTys G) X.1.1 X.1.2.1 X.2.1.1 (gP1 hR he) 0 0 rfl (gTys_at (by decide)) hout hdg (fun tx et => gx_note X hlt hR hS gThr_aio hl (by rw [et]; exact index_text_modelled i N) (by rw [et]; exact Nat.le_trans (index_text_bytes i (by omega)) (by decide)) hrm hcs kx)
theorem g_bastZ (X : gCx p s m args meth c cc nL own ret G) (hlt : l.stackTraces = false) (hR : gRep G h n H) (hS : va_S (gFr G) s.heap H locs) (hl : ls.size = nL) {i x : Int32} (hf : gOut 2 h a i = true) (hrm : 8 ≤ R.frames ∧ (rest.map fun v => v.category).sum + 10240 ≤ R.locals) (hcs : cells + 3 ≤ R.cells ∧ slots + 810 ≤ R.slots) (hdg : decode cc pc = .ok (.bastore, 1))
    (kx : gKX p l e R s m args below meth c locs cells slots Q G h cl_aio (F0 m pc ls rest)) : W p l e R s m args below meth c H locs cells slots Q (F0 m pc ls (.int x :: .int i :: .ref a :: rest)) := by
  obtain ⟨N, f, he, h60, hout⟩ := gOut_spec hf
  exact vx_bastZ (D := gD G) (cl := gCl) (tys := gTys G) X.1.1 X.1.2.1 X.2.1.1 (gP1 hR he) 0 2 rfl (gTys_at (by decide)) hout hdg (fun tx et => gx_note X hlt hR hS gThr_aio hl (by rw [et]; exact index_text_modelled i N) (by rw [et]; exact Nat.le_trans (index_text_bytes i (by omega)) (by decide)) hrm hcs kx)
theorem g_zastZ (X : gCx p s m args meth c cc nL own ret G) (hlt : l.stackTraces = false) (hR : gRep G h n H) (hS : va_S (gFr G) s.heap H locs) (hl : ls.size = nL) {i x : Int32} (hf : gOut 3 h a i = true) (hrm : 8 ≤ R.frames ∧ (rest.map fun v => v.category).sum + 10240 ≤ R.locals) (hcs : cells + 3 ≤ R.cells ∧ slots + 810 ≤ R.slots) (hdg : decode cc pc = .ok (.bastore, 1))
    (kx : gKX p l e R s m args below meth c locs cells slots Q G h cl_aio (F0 m pc ls rest)) : W p l e R s m args below meth c H locs cells slots Q (F0 m pc ls (.int x :: .int i :: .ref a :: rest)) := by
  obtain ⟨N, f, he, h60, hout⟩ := gOut_spec hf
  exact vx_zastZ (D := gD G) (cl := gCl) (tys := gTys G) X.1.1 X.1.2.1 X.2.1.1 (gP1 hR he) 0 3 rfl (gTys_at (by decide)) hout hdg (fun tx et => gx_note X hlt hR hS gThr_aio hl (by rw [et]; exact index_text_modelled i N) (by rw [et]; exact Nat.le_trans (index_text_bytes i (by omega)) (by decide)) hrm hcs kx)
theorem g_sastZ (X : gCx p s m args meth c cc nL own ret G) (hlt : l.stackTraces = false) (hR : gRep G h n H) (hS : va_S (gFr G) s.heap H locs) (hl : ls.size = nL) {i x : Int32} (hf : gOut 4 h a i = true) (hrm : 8 ≤ R.frames ∧ (rest.map fun v => v.category).sum + 10240 ≤ R.locals) (hcs : cells + 3 ≤ R.cells ∧ slots + 810 ≤ R.slots) (hdg : decode cc pc = .ok (.sastore, 1))
    (kx : gKX p l e R s m args below meth c locs cells slots Q G h cl_aio (F0 m pc ls rest)) : W p l e R s m args below meth c H locs cells slots Q (F0 m pc ls (.int x :: .int i :: .ref a :: rest)) := by
  obtain ⟨N, f, he, h60, hout⟩ := gOut_spec hf
  exact vx_sastZ (D := gD G) (cl := gCl) (tys := gTys G) X.1.1 X.1.2.1 X.2.1.1 (gP1 hR he) 0 4 rfl (gTys_at (by decide)) hout hdg (fun tx et => gx_note X hlt hR hS gThr_aio hl (by rw [et]; exact index_text_modelled i N) (by rw [et]; exact Nat.le_trans (index_text_bytes i (by omega)) (by decide)) hrm hcs kx)
theorem g_lastZ (X : gCx p s m args meth c cc nL own ret G) (hlt : l.stackTraces = false) (hR : gRep G h n H) (hS : va_S (gFr G) s.heap H locs) (hl : ls.size = nL) {i : Int32} {x : Int64} (hf : gOutL h a i = true) (hrm : 8 ≤ R.frames ∧ (rest.map fun v => v.category).sum + 10240 ≤ R.locals) (hcs : cells + 3 ≤ R.cells ∧ slots + 810 ≤ R.slots) (hdg : decode cc pc = .ok (.lastore, 1))
    (kx : gKX p l e R s m args below meth c locs cells slots Q G h cl_aio (F0 m pc ls rest)) : W p l e R s m args below meth c H locs cells slots Q (F0 m pc ls (.long x :: .int i :: .ref a :: rest)) := by
  obtain ⟨N, f, he, h60, hout⟩ := gOutL_spec hf
  exact vx_lastZ (D := gD G) (cl := gCl) (tys := gTys G) X.1.1 X.1.2.1 X.2.1.1 (gP1 hR he) 0 1 rfl (gTys_at (by decide)) hout hdg (fun tx et => gx_note X hlt hR hS gThr_aio hl (by rw [et]; exact index_text_modelled i N) (by rw [et]; exact Nat.le_trans (index_text_bytes i (by omega)) (by decide)) hrm hcs kx)
/-- caught here -/
theorem gx_catch (X : gCx p s m args meth c cc nL own ret G) {hh : List (Nat × Nat × Nat × Nat)} (ht : c.exceptionTable.toList = tableOf hh) {E name : String} {ce : Cell} {q : Nat} (pre : List ExceptionTableEntry) (x : ExceptionTableEntry) (suf : List ExceptionTableEntry) (hsplit : tableOf hh = pre ++ x :: suf)
    (hpass : ∀ z ∈ pre, covers z pc = false ∨ (z.catchType ≠ 0 ∧ ∃ nm : String, (Cond.classLink own z.catchType nm) ∈ lw_all ∧ va_Nc E nm s)) (hx : covers x pc = true) (h0 : x.catchType ≠ 0) (hlink : (Cond.classLink own x.catchType name) ∈ lw_all) (hcast : Cond.castable E name ∈ lw_tbl) (hcell : H[q]? = some ce) (hv : ce.vm = .none) (hcl : s.vm.findClass E = some ce.cls)
    (kk : W p l e R s m args below meth c H locs cells slots Q (F0 m x.handlerPc ls [.ref q])) : vx_W p l e R s m args below meth c H locs cells slots Q (F0 m pc ls rest) q :=
  vx_catch X.1.2.2.2.1 pre x suf (ht.trans hsplit) (fun z hz => (hpass z hz).imp id (fun h9 => ⟨h9.1, h9.2.elim fun nm h8 => ⟨nm, X.1.2.2.2.2 _ h8.1, h8.2⟩⟩)) hx h0 (X.1.2.2.2.2 _ hlink) ((X.2.1.2.1 _ hcast rfl).use rfl) hcell hv hcl kk
/-- returned, the heap as told, its size not -/
def gQW (G : gG) (rv : Option Value) (h : gH) : Array Value → State → Outcome → State → Prop := fun _ st oc t => (oc = .returned rv ∧ ∃ n1, gRep G h n1 t.heap) ∧ va_F (gFr G) st t
theorem g_iretW (X : gCx p s m args meth c cc nL own ret G) (hR : gRep G h n H) (hS : va_S (gFr G) s.heap H locs) (v : Int32) (hr0 : ret = some .int) {mc ms : Nat} (hc : cells ≤ mc ∧ slots ≤ ms) (hdg : decode cc pc = .ok (.ireturn, 1)) :
    W p l e R s m args below meth c H locs cells slots (MQ below (gQW G (some (.int v)) h) args s mc ms (gFr G)) (F0 m pc ls [.int v]) := by
  obtain ⟨⟨hx, hb, hml, hown, hts⟩, hK, hr, hlk⟩ := X
  subst hr0
  refine W.widen (k := mc) (n := ms) hc.1 hc.2 ?_
  exact W.iret hx hb hr (fun t ht hW => ⟨⟨rfl, n, by rw [ht]; exact hR⟩, hS.F ht⟩) hS.2.2 hdg
end E4
def gMetW (l : Launch) (G : gG) (y : MethodName) (code : ByteArray) (L : Nat) (ret : Option FieldType) (hh : List (Nat × Nat × Nat × Nat)) (fr lo mc ms : Nat) (av : List Value) (h : gH) (n : Nat) (rv : Option Value) (h' : gH) : Prop :=
  Met l y (wsW_ y code L ret hh) ({ frames := fr, cells := mc, slots := ms, locals := lo } : Room) (va_Pc av (fun U => gRep G h n U.heap ∧ gK G U)) (gQW G rv h') mc ms (gFr G)
theorem gEnterW {l : Launch} {G : gG} {y : MethodName} {code : ByteArray} {L : Nat} {ret : Option FieldType} {hh : List (Nat × Nat × Nat × Nat)} {fr lo mc ms : Nat} {av : List Value} {h : gH} {n : Nat} {rv : Option Value} {h' : gH} (hy : plainName y.cls = true) (lv : List (Nat × Value)) (hlv : lv_args 0 av = lv) (hlen : (lg_sl av).length ≤ L)
    (body : ∀ (p : Program) (e : Env) (s : State) (m : MethodId) (below : List Frame) (meth : Method) (c : Code) (H : Heap) (ls : Array Slot), gCx p s m av.toArray meth c code L y.cls ret G → meth.name = y.name → gRep G h n H → va_S (gFr G) s.heap H [] → lv_has ls L lv → c.exceptionTable.toList = tableOf hh →
      W p l e ({ frames := fr, cells := mc, slots := ms, locals := lo } : Room) s m av.toArray below meth c H [] 0 0 (MQ below (gQW G rv h') av.toArray s mc ms (gFr G)) (F0 m 0 ls [])) : gMetW l G y code L ret hh fr lo mc ms av h n rv h' := by
  unfold gMetW Met
  refine MetFree.of_bodyS (code := code) (maxLocals := L) (ret := ret) hy ?_ ?_
  · intro args s m h9 hn
    obtain ⟨m9, meth, c, hn9, h1, h2, h3, h4, -, h5, h6, -⟩ := Cond.codeWith_spec (atoms_spec (ws := wsW_ y code L ret hh) h9 _ List.mem_cons_self)
    cases hn.symm.trans hn9
    exact ⟨meth, c, h1, h2, h3, h4, h5, h6⟩
  · intro p e s m args below meth c s₁ B hml hP _
    obtain ⟨rfl, hR, hK⟩ := hP
    have hh0 : s₁.heap = s.heap := by rw [B.state]; rfl
    have hts0 := atoms_spec (ws := wsW_ y code L ret hh) B.pre
    have ht := vx_table (x := y) B (hts0 _ List.mem_cons_self)
    have hts : ∀ w ∈ lw_all, w.before _ s = true := fun w h => hts0 w (List.mem_cons_of_mem _ h)
    have hown : s.vm.findClass y.cls = some m.cls := findClass_of_methodNamed B.named
    have hl := lv_entry av (n := L) hlen
    rw [hlv] at hl
    have hb := body p e s m below meth c s.heap _ ⟨⟨B.exec, B.bytes, hml, hown, hts⟩, hK, B.returns, B.notSynchronized⟩ (name_of_methodNamed B.named B.method).1 hR va_S.rf hl ht
    rw [← lg_entry_eq] at hb
    obtain ⟨t, a1, o, b1, b2, b3⟩ := hb s₁ hh0 (Stand.of_body B)
    exact ⟨t, o, a1, b1, b2, b3⟩
