/-! e1: methods that throw: their contracts, their callers (gx_back follows vx_back of the kit, with the thrown address told) -/
set_option maxRecDepth 100000
def gQT (G : gG) (E : String) (qk : Option Nat) (h' : gH) (mc ms : Nat) : Array Value → State → Outcome → State → Prop := fun _ st o t =>
  ∃ (q n1 : Nat) (ce : Cell) (L : List Loc), o = .threw q ∧ (∀ q0, qk = some q0 → q = q0) ∧ gRep G h' n1 t.heap ∧ va_F (gFr G) st t ∧ t.heap[q]? = some ce ∧ ce.vm = .none ∧ st.vm.findClass E = some ce.cls ∧ st.WarmedH t.vm ∧ st.sameButNew ({ t with vm := st.vm } : State) L mc ms ∧ ∀ z ∈ L, gFr G z.base
/-- from h, n with these arguments the method throws an E (at qk, if told), the heap then h' -/
def gMetT (l : Launch) (G : gG) (y : MethodName) (code : ByteArray) (L : Nat) (ret : Option FieldType) (fr lo mc ms : Nat) (av : List Value) (h : gH) (n : Nat) (E : String) (qk : Option Nat) (h' : gH) : Prop :=
  MetFree l y (headSpec (ws_ y code L ret) ({ frames := fr, cells := mc, slots := ms, locals := lo } : Room)) (va_Pc av (fun U => gRep G h n U.heap ∧ gK G U)) (fun _ _ _ _ _ => True) (gQT G E qk h' mc ms)
def gPostT (G : gG) (E : String) (qk : Option Nat) (h' : gH) (mc ms : Nat) : Pt → Array Value → Addr → Pt → Prop := fun A a q B =>
  ∃ (g : JFrame) (mk : MethodId) (t : State) (L : List Loc) (n1 : Nat) (ce : Cell), B.U.heap = t.heap ∧ B.U.vm = t.vm ∧ (∀ q0, qk = some q0 → q = q0) ∧ gRep G h' n1 t.heap ∧ va_F (gFr G) (A.U.calling g mk a) t ∧ t.heap[q]? = some ce ∧ ce.vm = .none ∧ A.U.vm.findClass E = some ce.cls ∧ B.locs = A.locs ++ L ∧ (∀ z ∈ L, gFr G z.base) ∧ B.cells = A.cells + mc ∧ B.slots = A.slots + ms
def gMQT (below : List Frame) (G : gG) (E : String) (qk : Option Nat) (h' : gH) (a : Array Value) (s : State) (mc ms : Nat) : State → Prop := fun t => ∃ o, t.status = .running ∧ Ended t below o ∧ gQT G E qk h' mc ms a s o t
theorem gRep.grow {G : gG} {h : gH} {n : Nat} {H H1 : Heap} (hR : gRep G h n H) (z : H.size ≤ H1.size) (oq : ∀ q : Nat, q < H.size → H1[q]? = H[q]?) : gRep G h H1.size H1 := by
  refine ⟨rfl, Nat.le_trans hR.2.1 (by rw [← hR.1]; exact z), fun b f hf => ⟨(hR.2.2 b f hf).1, (hR.2.2 b f hf).2.kept (oq b ?_)⟩⟩
  rw [hR.1]
  exact hR.lt hf
section GX
variable {l : Launch} {R : Room} {p : Program} {e : Env} {below : List Frame} {s : State} {sargs : Array Value} {y : MethodName} {W9 : Nat} {G : gG}
theorem gx_back {code : ByteArray} {maxL fr lo mc ms n : Nat} {ret : Option FieldType} {av : List Value} {h h' : gH} {E : String} {qk : Option Nat}
    (hM : gMetT l G y code maxL ret fr lo mc ms av h n E qk h') (hframes : fr + 1 ≤ R.frames) (hlocals : W9 + (maxL + 11) + lo ≤ R.locals)
    (hws : ∀ w ∈ ws_ y code maxL ret, ∀ a' U, s.WarmedH U.vm → w.before a' U = true) (hinit : ∀ a' U, s.WarmedH U.vm → (Cond.initialized y.cls).before a' U = true) :
    vx_Back l R p e below s sargs y 3 W9 (PreOf R mc ms (va_Pc av (fun U => gRep G h n U.heap ∧ gK G U))) (fun _ _ _ _ => False) (gPostT G E qk h' mc ms) := by
  intro m meth c A g ig mk a X hg hsize hdg hW hn hp
  have hcode : Cond.code y code maxL ret ∈ ws_ y code maxL ret := List.mem_cons_self
  have h1 : (headSpec (ws_ y code maxL ret) ({ frames := fr, cells := mc, slots := ms, locals := lo } : Room)).pre.before a A.U = true := atoms_intro fun w hw => hws w hw _ _ X.warmed
  have h2 : (Cond.code y code maxL ret).before a A.U = true := hws _ hcode _ _ X.warmed
  have h3 : (Cond.initialized y.cls).before a A.U = true := hinit _ _ X.warmed
  have h4 : A.cells + mc ≤ R.cells := hp.1
  have h5 : A.slots + ms ≤ R.slots := hp.2.1
  have hPc := gBlind (G := G) (h := h) (n := n) a A.U g mk hp.2.2
  obtain ⟨U, Ls, c0, s0⟩ := A
  dsimp only [Pt.U, Pt.locs, Pt.cells, Pt.slots] at h1 h2 h3 h4 h5 X hn hPc ⊢
  obtain ⟨methY, cY, hmY, hcY, -, hlY, -, -, -, -⟩ := Cond.code_spec hn h2
  obtain ⟨kY, hkY, -⟩ := className_of_methodNamed hn
  have hinitY : kY.init = .initialized := Cond.initialized_spec (findClass_of_methodNamed hn) hkY h3
  have hat : At U g.method c below := by rw [hg]; exact X.here
  have happ : (headSpec (ws_ y code maxL ret) ({ frames := fr, cells := mc, slots := ms, locals := lo } : Room)).appliesLoose y e.platform (U.calling g mk a) = true :=
    Spec.appliesLoose_calling (g := g) hat hdg hn hkY hinitY
      (X.room_calling (g := g) (R' := ({ frames := fr, cells := mc, slots := ms, locals := lo } : Room)) hsize hmY hcY hframes (by rw [hlY]; show _ + lo ≤ _; omega) h4 h5) h1
  obtain ⟨mid, hmid⟩ := hat.above
  have hfr : (U.setTop g).frames = (.java g :: mid) ++ below := by rw [State.frames_setTop' g hat.top, hmid]; rfl
  obtain ⟨o, s₂, hsteps, -, hend, hq⟩ := Steps.callFree hM p X.admits X.cas X.clock (acts := []) hfr happ hPc trivial
  have hq' : gQT G E qk h' mc ms a (U.calling g mk a) o s₂ := hq
  rw [State.frames_setTop' g hat.top] at hend
  obtain ⟨g₀, hg0⟩ := Option.isSome_iff_exists.mp hat.top
  obtain ⟨r, hr⟩ := State.topJava?_eq_some.mp hg0
  have hr' : (({ U with heap := s₂.heap, slotsUsed := s₂.slotsUsed } : State).setVm s₂.vm).frames = .java g₀ :: r := hr
  obtain ⟨q, n1, ce, L, rfl, hqk, hR, hF, hce, hcv, hcl, hW₂, hsm, hL⟩ := hq'
  obtain ⟨e2, q2, q3, q4, q5, q6⟩ := id hsm
  have e3 : s₂ = ({ (U.calling g mk a).setFrames s₂.frames with heap := s₂.heap, slotsUsed := s₂.slotsUsed } : State).setVm s₂.vm := by
    have : s₂ = ({ s₂ with vm := (U.calling g mk a).vm } : State).setVm s₂.vm := rfl
    rw [e2] at this
    exact this
  have hf₂ : s₂.frames = .throwing q :: .java g :: U.frames.tail := hend
  have hW' : U.WarmedH s₂.vm := hW₂
  have hs₂ : s₂ = ((({ U with heap := s₂.heap, slotsUsed := s₂.slotsUsed } : State).setVm s₂.vm).setTop g).pushFrame (.throwing q) := by
    refine e3.trans ?_
    rw [hf₂, State.calling_eq hat.top, State.setFrames_setFrames, State.pushFrame, State.frames_setTop _ hr', State.setTop_of_frames _ hr', State.setFrames_setFrames, hr]
    rfl
  have hsame : U.sameButNew ({ U with heap := s₂.heap, slotsUsed := s₂.slotsUsed } : State) L mc ms := by
    refine ⟨?_, q2, q3, q4, q5, q6⟩
    obtain ⟨t, ht, -⟩ := State.frames_cons hr
    show ({ U with heap := s₂.heap, slotsUsed := s₂.slotsUsed } : State) = { U.setFrames U.frames with heap := s₂.heap, slotsUsed := s₂.slotsUsed }
    rw [State.setFrames_self ht]
  subst hg
  refine Or.inr ⟨q, ⟨(({ U with heap := s₂.heap, slotsUsed := s₂.slotsUsed } : State).setVm s₂.vm), Ls ++ L, c0 + mc, s0 + ms⟩,
    ⟨X.admits, X.cas, X.clock, X.frames, X.room, X.hears, X.method, X.code, (X.here.setHeapUsed s₂.heap s₂.slotsUsed).setVm hW'.alike, X.tail, State.WarmedH.trans X.warmed hW', X.limits, X.bytes, X.same.trans (hsame.setVm s.vm)⟩,
    ⟨g, mk, s₂, L, n1, ce, rfl, rfl, hqk, hR, hF, hce, hcv, hcl, rfl, hL, rfl, rfl⟩, ?_⟩
  show Steps p.tables e below _ (((({ U with heap := s₂.heap, slotsUsed := s₂.slotsUsed } : State).setVm s₂.vm).setTop g).pushFrame (.throwing q))
  rw [← hs₂]
  exact hsteps
end GX
section GY
variable {p : Program} {l : Launch} {e : Env} {R : Room} {s : State} {m : MethodId} {args : Array Value} {below : List Frame} {meth : Method} {c : Code} {H : Heap} {locs : List Loc} {cells slots : Nat} {Q : State → Prop}
variable {cc : ByteArray} {pc nL : Nat} {ls : Array Slot} {rest : List Value} {G : gG} {h : gH} {n a : Nat} {own : String} {ret : Option FieldType}
/-- a call that throws: what comes then -/
theorem g_callT (X : gCx p s m args meth c cc nL own ret G) (hR : gRep G h n H) (hS : va_S (gFr G) s.heap H locs) {y : MethodName} {bytes : ByteArray} {maxL fr lo mc ms nn ci b index : Nat} {ret2 : Option FieldType} (As : List Value) {rest st0 : List Value} {E : String} {qk : Option Nat} {h' : gH} (hM : gMetT l G y bytes maxL ret2 fr lo mc ms (.ref b :: As) h n E qk h') (yk : gVk y bytes maxL ret2 nn ci) (hlink : Cond.methodLink own index y ∈ lw_all) (hrec : gIs ci h b = true) (hn : As.length = nn) (hl : ls.size = nL) (hrm : fr + 1 ≤ R.frames ∧ 8 + (maxL + 11) + lo ≤ R.locals) (hcs : cells + mc ≤ R.cells ∧ slots + ms ≤ R.slots) (hst : st0 = As.reverse ++ .ref b :: rest) (hroom : (rest.map fun v => v.category).sum ≤ 8) (hdg : decode cc pc = .ok (.invokevirtual index, 3))
    (kx : ∀ (q n1 : Nat) (ce : Cell) (H1 : Heap) (locs1 : List Loc), (∀ q0, qk = some q0 → q = q0) → gRep G h' n1 H1 → va_S (gFr G) s.heap H1 locs1 → H1[q]? = some ce → ce.vm = .none → s.vm.findClass E = some ce.cls → vx_W p l e R s m args below meth c H1 locs1 (cells + mc) (slots + ms) Q (F0 m pc ls rest) q) : W p l e R s m args below meth c H locs cells slots Q (F0 m pc ls st0) := by
  obtain ⟨S, hK, hr, hlk⟩ := X
  obtain ⟨k1, k2, k3, k4, k5, k6⟩ := yk
  obtain ⟨cellB, hcB, hoB, hclB⟩ := gRecv hK hR k6 hrec
  have cw : CallW R s args own y.cls index y bytes maxL ret2 (ws_ y bytes maxL ret2) ({ frames := fr, cells := mc, slots := ms, locals := lo } : Room) mc ms nn := cwV nn S.2.2.2.2 (lw_V hlink k1 k2 k3 k4) rfl rfl rfl ⟨rfl, k5⟩ hrm
  obtain ⟨⟨-, -, hfr, hlo, hws, -, hcode, hini, hy, hlen, hlk2⟩, hin, hse⟩ := cw
  obtain ⟨hx, hb, hml, ho, -⟩ := S
  have hKb := gx_back (R := R) (p := p) (e := e) (below := below) (s := s) (sargs := args) (W9 := 8) hM hfr hlo hws (fun a' U hW => word_at hW (Or.inl (by first | rfl | simp [Cond.onTables, Cond.keeps, Cond.steady])) hini)
  intro T hT Y
  rcases vx_callV Y hx (C := y.cls) (bytes := bytes) (maxL := maxL) (ret := ret2) ho hlk2 hin hse hcode hy hKb (b := b) (cellB := cellB) (by rw [hT]; exact hcB) hoB hclB (g := F0 m pc ls st0) rfl (hl.trans hml.symm) (argsL := As) (rest := rest) (fun sig h9 => hn.trans (hlen sig h9)) hst (lv_room (m := m) (pc := pc) (ls := ls) (rest := rest) hroom) (by rw [hb]; exact hdg)
    (fun vm₁ hW₁ => ⟨hcs.1, hcs.2, rfl, by show gRep G h n T.heap; rw [hT]; exact hR, hK.call hS (show (T.setVm vm₁).heap = H from hT) hW₁⟩) with ⟨v, vm₁, B, hW₁, X', hpost, st⟩ | ⟨q, vm₁, ⟨U', l2, c2, s2⟩, hW₁, X', ⟨g', mk, t, L, n1, ce, e1, e2, hqk, hR1, hF, hce, hcv, hcl, h1, hL, h2, h3⟩, st⟩
  · exact hpost.elim
  · dsimp only [Pt.U, Pt.locs, Pt.cells, Pt.slots] at X' e1 e2 h1 h2 h3 st hcl
    subst h1; subst h2; subst h3
    obtain ⟨k7, k8, k9⟩ := vx_keep (A0 := gFr G) (A1 := gFr G) (free := gFr G) (H := H) (st₀ := (T.setVm vm₁).calling g' mk (Value.ref b :: As).toArray) (t := t) (T' := U') (L := L) hT e1 hS (fun _ _ h9 => h9) (fun _ h9 => h9) hL hF
    obtain ⟨t2, a1, b1⟩ := kx q n1 ce U'.heap (locs ++ L) hqk (by rw [e1]; exact hR1) k9 (by rw [e1]; exact hce) hcv (vx_cls hW₁ hcl) U' rfl X'
    exact ⟨t2, st.trans a1, b1⟩
/-- it goes on to the caller -/
theorem gx_out (X : gCx p s m args meth c cc nL own ret G) (ht : ∀ x ∈ c.exceptionTable.toList, False) {E : String} {ce : Cell} {q n1 mc ms : Nat} {qk : Option Nat} {h' : gH} (hq : ∀ q0, qk = some q0 → q = q0) (hR : gRep G h' n1 H) (hS : va_S (gFr G) s.heap H locs) (hcell : H[q]? = some ce) (hv : ce.vm = .none) (hcl : s.vm.findClass E = some ce.cls) (hc : cells ≤ mc ∧ slots ≤ ms) :
    vx_W p l e R s m args below meth c H locs cells slots (gMQT below G E qk h' args s mc ms) (F0 m pc ls rest) q := by
  intro T hT Y
  obtain ⟨st1, hrun, hend, hW, hsm⟩ := Y.leaveThrown q (g := F0 m pc ls rest) rfl rfl rfl (fun x hx => (ht x hx).elim) X.2.2.2
  have hcell9 : (T.setFrames (.throwing q :: below)).heap[q]? = some ce := by
    show T.heap[q]? = some ce
    rw [hT]; exact hcell
  exact ⟨_, st1, .threw q, hrun, hend, q, n1, ce, locs, rfl, hq, by show gRep G h' n1 T.heap; rw [hT]; exact hR, hS.F hT, hcell9, hv, hcl, hW, hsm.mono hc.1 hc.2, hS.2.2⟩
theorem gx_athrow (X : gCx p s m args meth c cc nL own ret G) (hdg : decode cc pc = .ok (.athrow, 1)) {q : Nat} (k : vx_W p l e R s m args below meth c H locs cells slots Q (F0 m pc ls rest) q) : W p l e R s m args below meth c H locs cells slots Q (F0 m pc ls (.ref q :: rest)) := vx_athrow X.1.1 X.1.2.1 hdg k
end GY
theorem gEnterT {l : Launch} {G : gG} {y : MethodName} {code : ByteArray} {L : Nat} {ret : Option FieldType} {fr lo mc ms : Nat} {av : List Value} {h : gH} {n : Nat} {E : String} {qk : Option Nat} {h' : gH} (hy : plainName y.cls = true) (lv : List (Nat × Value)) (hlv : lv_args 0 av = lv) (hlen : (lg_sl av).length ≤ L)
    (body : ∀ (p : Program) (e : Env) (s : State) (m : MethodId) (below : List Frame) (meth : Method) (c : Code) (H : Heap) (ls : Array Slot), gCx p s m av.toArray meth c code L y.cls ret G → meth.name = y.name → gRep G h n H → va_S (gFr G) s.heap H [] → lv_has ls L lv → (∀ x ∈ c.exceptionTable.toList, False) →
      W p l e ({ frames := fr, cells := mc, slots := ms, locals := lo } : Room) s m av.toArray below meth c H [] 0 0 (gMQT below G E qk h' av.toArray s mc ms) (F0 m 0 ls [])) : gMetT l G y code L ret fr lo mc ms av h n E qk h' := by
  refine MetFree.of_bodyS (code := code) (maxLocals := L) (ret := ret) hy ?_ ?_
  · intro args s m h9 hn
    obtain ⟨meth, c, h1, h2, h3, h4, h5, h6, -, -⟩ := Cond.code_spec hn (atoms_spec (ws := ws_ y code L ret) h9 _ List.mem_cons_self)
    exact ⟨meth, c, h1, h2, h3, h4, h5, h6⟩
  · intro p e s m args below meth c s₁ B hml hP _
    obtain ⟨rfl, hR, hK⟩ := hP
    have hh0 : s₁.heap = s.heap := by rw [B.state]; rfl
    have ht : ∀ x ∈ c.exceptionTable.toList, False := by
      obtain ⟨meth9, c9, h1, h2, -, -, -, -, h7, -⟩ := Cond.code_spec B.named (atoms_spec (ws := ws_ y code L ret) B.pre _ List.mem_cons_self)
      cases Option.some.inj (h1.symm.trans B.method)
      cases Option.some.inj (h2.symm.trans (Stand.of_body B).code)
      intro x hx
      rw [Array.isEmpty_iff.mp h7] at hx
      cases hx
    have hts := atoms_spec (ws := ws_ y code L ret) B.pre
    have hts : ∀ w ∈ lw_all, w.before _ s = true := fun w h => hts w (List.mem_cons_of_mem _ h)
    have hown : s.vm.findClass y.cls = some m.cls := findClass_of_methodNamed B.named
    have hl := lv_entry av (n := L) hlen
    rw [hlv] at hl
    have hb := body p e s m below meth c s.heap _ ⟨⟨B.exec, B.bytes, hml, hown, hts⟩, hK, B.returns, B.notSynchronized⟩ (name_of_methodNamed B.named B.method).1 hR va_S.rf hl ht
    rw [← lg_entry_eq] at hb
    obtain ⟨t, a1, o, b1, b2, b3⟩ := hb s₁ hh0 (Stand.of_body B)
    exact ⟨t, o, a1, b1, b2, b3⟩
/-- either the call returns, or it throws -/
def gOr {α β : Type} (o : Option α) (k : α → Option β) (x : Option β) : Option β := match o with
  | some a => k a
  | none => x
theorem gOr_spec {α β : Type} {o : Option α} {k : α → Option β} {x : Option β} {b : β} (hf : gOr o k x = some b) : (∃ a, o = some a ∧ k a = some b) ∨ x = some b := by
  cases o with
  | none => exact Or.inr hf
  | some a => exact Or.inl ⟨a, rfl, hf⟩
theorem lw_inT (ws : List Cond) (ps : List Nat) (hp : ws = ps.filterMap (fun i => lw_tbl[i]?)) : ∀ w ∈ ws, w ∈ lw_tbl := by
  intro w h
  rw [hp] at h
  obtain ⟨i, -, hi⟩ := List.mem_filterMap.mp h
  exact List.mem_of_getElem? hi
/-- a word that holds all through -/
def gWd (w : Cond) : Bool := goodWord w || (gSel w && w.onTables)
theorem gWds {p : Program} {s : State} {m : MethodId} {args : Array Value} {meth : Method} {c : Code} {cc : ByteArray} {nL : Nat} {own : String} {ret : Option FieldType} {G : gG} (X : gCx p s m args meth c cc nL own ret G) (L : List Cond) (h1 : ∀ w ∈ L, w ∈ lw_tbl) (h2 : L.all gWd = true) : ∀ w ∈ L, w.before args s = true := by
  intro w hw
  have h3 := List.all_eq_true.mp h2 w hw
  unfold gWd at h3
  rcases Bool.or_eq_true_iff.mp h3 with h | h
  · exact X.1.2.2.2.2 w (lw_g (h1 w hw) h)
  · obtain ⟨ha, hb⟩ := Bool.and_eq_true_iff.mp h
    exact (X.2.1.2.1 w (h1 w hw) ha).use hb
abbrev nm_nas : List String := ["java/lang/RuntimeException", "java/lang/Exception"]
abbrev cl_nas : String := "java/lang/NegativeArraySizeException"
theorem at_nas : ∀ w ∈ vx_atM cl_nas nm_nas, w ∈ lw_tbl := lw_inT _ [98, 192, 201, 208, 211, 213, 193, 194, 138, 139, 195, 200, 209, 244, 182, 245, 184, 246, 186, 196, 198, 188, 487, 488, 243, 188, 478, 479, 480, 481, 174, 481, 482, 483, 484, 176, 484, 485, 486, 487, 178, 104, 422, 256, 468, 470, 469, 471, 101, 171, 172, 179, 180, 181, 183, 185, 187, 191, 190, 189] (by decide +kernel)
theorem ag_nas : (vx_atM cl_nas nm_nas).all gWd = true := by decide +kernel
theorem ao_nas : ∀ w ∈ vx_atM cl_nas nm_nas, vx_ot w = true := by decide +kernel
abbrev nm_cce : List String := ["java/lang/RuntimeException", "java/lang/Exception"]
abbrev cl_cce : String := "java/lang/ClassCastException"
theorem at_cce : ∀ w ∈ vx_atM cl_cce nm_cce, w ∈ lw_tbl := lw_inT _ [98, 192, 201, 208, 211, 213, 193, 194, 138, 139, 195, 200, 209, 244, 182, 245, 184, 246, 186, 196, 198, 188, 487, 488, 243, 188, 1328, 1329, 1330, 481, 174, 481, 482, 483, 484, 176, 484, 485, 486, 487, 178, 104, 422, 256, 468, 470, 469, 471, 128, 1327, 1338, 1339, 206, 1333, 1334, 1336, 1332, 191, 190, 1331] (by decide +kernel)
theorem ag_cce : (vx_atM cl_cce nm_cce).all gWd = true := by decide +kernel
theorem ao_cce : ∀ w ∈ vx_atM cl_cce nm_cce, vx_ot w = true := by decide +kernel
abbrev nm_aio : List String := ["java/lang/IndexOutOfBoundsException", "java/lang/RuntimeException", "java/lang/Exception"]
abbrev cl_aio : String := "java/lang/ArrayIndexOutOfBoundsException"
theorem at_aio : ∀ w ∈ vx_atM cl_aio nm_aio, w ∈ lw_tbl := lw_inT _ [98, 192, 201, 208, 211, 213, 193, 194, 138, 139, 195, 200, 209, 244, 182, 245, 184, 246, 186, 196, 198, 188, 487, 488, 243, 188, 1639, 1640, 1641, 874, 1651, 874, 875, 876, 481, 174, 481, 482, 483, 484, 176, 484, 485, 486, 487, 178, 104, 422, 256, 468, 470, 469, 471, 130, 1638, 1649, 1652, 204, 1644, 1645, 1647, 1643, 191, 190, 1642] (by decide +kernel)
theorem ag_aio : (vx_atM cl_aio nm_aio).all gWd = true := by decide +kernel
theorem ao_aio : ∀ w ∈ vx_atM cl_aio nm_aio, vx_ot w = true := by decide +kernel
abbrev nm_ase : List String := ["java/lang/RuntimeException", "java/lang/Exception"]
abbrev cl_ase : String := "java/lang/ArrayStoreException"
theorem at_ase : ∀ w ∈ vx_atM cl_ase nm_ase, w ∈ lw_tbl := lw_inT _ [98, 192, 201, 208, 211, 213, 193, 194, 138, 139, 195, 200, 209, 244, 182, 245, 184, 246, 186, 196, 198, 188, 487, 488, 243, 188, 1667, 1668, 1669, 481, 174, 481, 482, 483, 484, 176, 484, 485, 486, 487, 178, 104, 422, 256, 468, 470, 469, 471, 131, 1666, 1677, 1678, 205, 1672, 1673, 1675, 1671, 191, 190, 1670] (by decide +kernel)
theorem ag_ase : (vx_atM cl_ase nm_ase).all gWd = true := by decide +kernel
theorem ao_ase : ∀ w ∈ vx_atM cl_ase nm_ase, vx_ot w = true := by decide +kernel

