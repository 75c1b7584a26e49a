/-! g1: an abstract heap over the kit's worlds: cells by real address, new ones at the heap's size -/
set_option maxRecDepth 100000
abbrev gC : Type := (Nat × vp_A) ⊕ (Nat × List Value)
abbrev gH : Type := Nat → Option gC
/-- class numbers and slots, array classes, the first new address, addresses of constants -/
abbrev gG : Type := va_G × (Nat → ClassId) × Nat × (Nat → Nat)
abbrev gD (G : gG) : va_G := G.1
abbrev gA (G : gG) : Nat → ClassId := G.2.1
abbrev gB (G : gG) : Nat := G.2.2.1
abbrev gS (G : gG) : Nat → Nat := G.2.2.2
def gTy (t : Nat) : FieldType := match t with
  | 0 => .int
  | 1 => .long
  | 2 => .byte
  | 3 => .boolean
  | 4 => .short
  | 5 => .object "SafeClears$Signal"
  | 6 => .object "SafeClears$Phase"
  | 7 => .object "SafeClears$Green"
  | 8 => .object "SafeClears$Node"
  | 9 => .object "SafeClears$Anyone"
  | _ => .object "SafeClears$Tape"
abbrev gTys (G : gG) : List (ClassId × FieldType) := (List.range 11).map (fun t => (gA G t, gTy t))
def gcon (G : gG) (e : gC) : va_E := match e with
  | .inl x => .inl (gA G x.1, x.2)
  | .inr o => .inr o
def gFr (G : gG) : Nat → Prop := fun q => gB G ≤ q
def gRep (G : gG) (h : gH) (n : Nat) (H : Heap) : Prop := H.size = n ∧ gB G ≤ n ∧ ∀ (a : Nat) (e : gC), h a = some e → gB G ≤ a ∧ va_at (gD G) gCl (a, gcon G e) H
theorem gRep.lt {G : gG} {h : gH} {n a : Nat} {e : gC} {H : Heap} (hR : gRep G h n H) (he : h a = some e) : a < n := by
  have := (hR.2.2 a e he).2.lt
  rw [hR.1] at this
  exact this
/-- one cell changes -/
theorem gRep.set {G : gG} {h : gH} {n a : Nat} {e : gC} {H H1 : Heap} (hR : gRep G h n H) (hb : gB G ≤ a) (z : H1.size = H.size) (oq : ∀ q : Nat, q ≠ a → H1[q]? = H[q]?) (he : va_at (gD G) gCl (a, gcon G e) H1) : gRep G (va_up h a (some e)) n H1 := by
  refine ⟨z.trans hR.1, hR.2.1, fun b f hf => ?_⟩
  unfold va_up at hf
  by_cases hba : b = a
  · subst hba
    rw [if_pos rfl] at hf
    cases hf
    exact ⟨hb, he⟩
  · rw [if_neg hba] at hf
    exact ⟨(hR.2.2 b f hf).1, (hR.2.2 b f hf).2.kept (oq b hba)⟩
/-- a new cell -/
theorem gRep.push {G : gG} {h : gH} {n : Nat} {e : gC} {H H1 : Heap} (hR : gRep G h n H) (z : H1.size = n + 1) (oq : ∀ q : Nat, q < n → H1[q]? = H[q]?) (he : va_at (gD G) gCl (n, gcon G e) H1) : gRep G (va_up h n (some e)) (n + 1) H1 := by
  refine ⟨z, Nat.le_succ_of_le hR.2.1, fun b f hf => ?_⟩
  unfold va_up at hf
  by_cases hba : b = n
  · subst hba
    rw [if_pos rfl] at hf
    cases hf
    exact ⟨hR.2.1, he⟩
  · rw [if_neg hba] at hf
    exact ⟨(hR.2.2 b f hf).1, (hR.2.2 b f hf).2.kept (oq b (hR.lt hf))⟩
theorem gS_push {G : gG} {h : gH} {n : Nat} {H0 H H1 : Heap} {locs : List Loc} (hR : gRep G h n H) (hS : va_S (gFr G) H0 H locs) (z : H1.size = n + 1) (oq : ∀ q : Nat, q < n → H1[q]? = H[q]?) : va_S (gFr G) H0 H1 locs := by
  have hn := hR.1
  refine ⟨Nat.le_trans hS.1 (by omega), fun q h1 h2 => ?_, hS.2.2⟩
  rw [oq q (by have := hS.1; omega)]
  exact hS.2.1 q h1 h2
/-! words that do not ride in the lists -/
def gSel (w : Cond) : Bool := match w with
  | .fieldLinkNest .. => true
  | .methodLinkNest .. => true
  | .castable .. => true
  | .declares .. => true
  | .arrayOver (.object _) => true
  | _ => false
def gNw (U : State) : Prop := ∀ w ∈ lw_tbl, gSel w = true → va_Nw w U
theorem gNw.warm {s U : State} (hW : s.WarmedH U.vm) (h : gNw s) : gNw U := by
  intro w hw hs
  have h1 := h w hw hs
  unfold gSel at hs
  split at hs
  · exact va_Nw.warmF hW h1
  · exact va_Nw.warmM hW h1
  · exact va_Nw.warmC hW h1
  · exact va_Nw.warmD hW h1
  · exact va_AO.moved hW.alike h1
  · cases hs
theorem gNw.same {s U : State} (hvm : s.vm = U.vm) (h : gNw s) : gNw U := by
  intro w hw hs
  have h1 := h w hw hs
  unfold gSel at hs
  split at hs
  · exact va_Nw.same rfl hvm h1
  · exact va_Nw.same rfl hvm h1
  · exact va_Nw.same rfl hvm h1
  · exact va_Nw.same rfl hvm h1
  · exact va_AO.moved (by rw [hvm]; exact Vm.Alike.refl _) h1
  · cases hs
/-! statics: the kinds, the tables, one switch -/
def gKc (i : Nat) : String := match i with
  | 0 => "SafeClears$Kind$1"
  | 1 => "SafeClears$Kind$2"
  | 2 => "SafeClears$Kind$3"
  | _ => "SafeClears$Kind$4"
def gKn (i : Nat) : String := match i with
  | 0 => "CARS"
  | 1 => "WALK"
  | 2 => "TRAM"
  | _ => "BIKES"
def gAmb (i : Nat) : Int32 := match i with
  | 0 => 3
  | 1 => 2
  | 2 => 4
  | _ => 2
def gPac (i : Nat) : Int32 := match i with
  | 0 => 1
  | 1 => 3
  | 2 => 2
  | _ => 1
def gOrd (i : Nat) : Int32 := match i with
  | 0 => 0
  | 1 => 1
  | 2 => 2
  | _ => 3
def gKo (j : Nat) : Int32 := if j = 99 then 0 else if j = 119 then 1 else if j = 116 then 2 else if j = 98 then 3 else -1
abbrev gKF (i : Nat) : List (String × String × String × List Int32) := [("SafeClears$Kind", "amber", "I", [gAmb i]), ("SafeClears$Kind", "pace", "I", [gPac i]), ("java/lang/Enum", "ordinal", "I", [gOrd i])]
/-- which method runs at a call through the interface, on an object of the class C -/
def gLd (C : String) (x y : MethodName) (U : State) : Prop := ∃ (c : ClassId) (r0 mk : MethodId), U.vm.findClass C = some c ∧ U.methodNamed? x = some r0 ∧ U.methodNamed? y = some mk ∧ selectMethod {} U.vm c r0 = .method mk
theorem gNamed {u U : State} (hvm : u.vm.Alike U.vm) (x : MethodName) : U.methodNamed? x = u.methodNamed? x := by
  have h := State.methodNamed?_setVm (s := u) (vm' := U.vm) hvm x
  exact h
theorem gLd.moved {C : String} {x y : MethodName} {u U : State} (hvm : u.vm.Alike U.vm) (h : gLd C x y u) : gLd C x y U := by
  obtain ⟨c, r0, mk, h1, h2, h3, h4⟩ := h
  exact ⟨c, r0, mk, by rw [hvm.findClass]; exact h1, by rw [gNamed hvm]; exact h2, by rw [gNamed hvm]; exact h3, by rw [hvm.selectMethod]; exact h4⟩
abbrev gXfrom : MethodName := ⟨"SafeClears$Span", "from", "()I"⟩
abbrev gXto : MethodName := ⟨"SafeClears$Span", "to", "()I"⟩
abbrev gXlasts : MethodName := ⟨"SafeClears$Span", "lasts", "()I"⟩
abbrev gXahead : MethodName := ⟨"SafeClears$Span", "isAhead", "(LSafeClears$Span;I)Z"⟩
abbrev gYfrom : MethodName := ⟨"SafeClears$Green", "from", "()I"⟩
abbrev gYto : MethodName := ⟨"SafeClears$Green", "to", "()I"⟩
def gNm (t : Nat) : String := match t with
  | 0 => "[I"
  | 1 => "[J"
  | 2 => "[B"
  | 3 => "[Z"
  | _ => "[S"
def gNcP : List (String × String) := [("SafeClears$Walker", "SafeClears$Wheels"), ("SafeClears$Walker", "SafeClears$Motor"), ("SafeClears$Wheels", "SafeClears$Motor"), ("SafeClears$Walker", "SafeClears$Car"), ("SafeClears$Motor", "SafeClears$Car"), ("SafeClears$Wheels", "SafeClears$Car"), ("SafeClears$Car", "SafeClears$Walker"), ("SafeClears$Motor", "SafeClears$Walker"), ("SafeClears$Wheels", "SafeClears$Walker")]
def gNca (U : State) : Prop := (∀ t t' : Nat, t < 5 → t' < 5 → t ≠ t' → va_Nc (gNm t) (gNm t') U) ∧ ∀ q ∈ gNcP, va_Nc q.1 q.2 U
theorem gNca.moved {u U : State} (hvm : u.vm.Alike U.vm) (h : gNca u) : gNca U := ⟨fun t t' a b c => (h.1 t t' a b c).moved hvm, fun q hq => (h.2 q hq).moved hvm⟩
def gFa (U : State) : Prop := (va_Fw "SafeClears$Green" gXfrom gYfrom U ∧ gLd "SafeClears$Green" gXfrom gYfrom U) ∧ (va_Fw "SafeClears$Green" gXto gYto U ∧ gLd "SafeClears$Green" gXto gYto U) ∧ (va_Fw "SafeClears$Green" gXlasts gXlasts U ∧ gLd "SafeClears$Green" gXlasts gXlasts U) ∧ (va_Fw "SafeClears$Green" gXahead gXahead U ∧ gLd "SafeClears$Green" gXahead gXahead U) ∧ gNca U
theorem gFa.moved {u U : State} (hvm : u.vm.Alike U.vm) (h : gFa u) : gFa U := by
  obtain ⟨⟨a1, a2⟩, ⟨b1, b2⟩, ⟨c1, c2⟩, ⟨d1, d2⟩, e1⟩ := h
  exact ⟨⟨a1.moved (by decide) hvm, a2.moved hvm⟩, ⟨b1.moved (by decide) hvm, b2.moved hvm⟩, ⟨c1.moved (by decide) hvm, c2.moved hvm⟩, ⟨d1.moved (by decide) hvm, d2.moved hvm⟩, e1.moved hvm⟩
/-- what throwing asks: Throwable's two statics, the modules' names, one class not below another -/
def gXt (G : gG) (U : State) (H : Heap) : Prop := vx_Zq Bundle.tN "UNASSIGNED_STACK" Bundle.steD (gFr G) U H ∧ vx_Zq Bundle.tN "SUPPRESSED_SENTINEL" Bundle.listD (gFr G) U H ∧ modulesRight_1 U = true ∧ va_Nc "java/lang/ArrayIndexOutOfBoundsException" "java/lang/ArrayStoreException" U
theorem gXt.moved {G : gG} {u U : State} {H : Heap} (hvm : u.vm.Alike U.vm) (h : gXt G u H) : gXt G U H := by
  obtain ⟨h1, h2, h3, h4⟩ := h
  refine ⟨h1.moved hvm, h2.moved hvm, ?_, h4.moved hvm⟩
  have e : U.vm.modules = u.vm.modules := by rw [hvm.1]
  unfold modulesRight_1 at h3 ⊢
  rw [e]
  exact h3
theorem gXt.kept {G : gG} {U : State} {H H1 : Heap} (h : gXt G U H) (hq : ∀ a : Nat, a < H.size → ¬ gFr G a → H1[a]? = H[a]?) : gXt G U H1 := by
  obtain ⟨h1, h2, h3, h4⟩ := h
  exact ⟨h1.kept hq, h2.kept hq, h3, h4⟩
def gSt (G : gG) (U : State) (H : Heap) : Prop :=
  (∀ i, i < 4 → va_Ec "SafeClears$Kind" (gKc i) "LSafeClears$Kind;" [gKn i] (gKF i) (fun _ => gS G i) (gFr G) U H) ∧
  (∀ i j, i < 4 → j < 4 → gS G i = gS G j → i = j) ∧
  va_Z "SafeClears" "KIND_OF" "[I" (.ref (gS G 4)) (gFr G) U H ∧ va_T .int (gS G 4) 128 (fun j => .int (gKo j)) (gFr G) U H ∧
  va_Z "SafeClearsModel" "AMBER" "[I" (.ref (gS G 5)) (gFr G) U H ∧ va_T .int (gS G 5) 4 (fun j => .int (gAmb j)) (gFr G) U H ∧
  va_Z "SafeClearsModel" "PACE" "[I" (.ref (gS G 6)) (gFr G) U H ∧ va_T .int (gS G 6) 4 (fun j => .int (gPac j)) (gFr G) U H ∧
  va_Z "java/util/BitSet" "$assertionsDisabled" "Z" (.int 1) (gFr G) U H ∧ gFa U ∧ gXt G U H
theorem gSt.moved {G : gG} {u U : State} {H : Heap} (hvm : u.vm.Alike U.vm) (h : gSt G u H) : gSt G U H := by
  obtain ⟨h1, h2, h3, h4, h5, h6, h7, h8, h9, hA, hB⟩ := h
  exact ⟨fun i hi => (h1 i hi).moved hvm, h2, h3.moved hvm, h4.moved hvm, h5.moved hvm, h6.moved hvm, h7.moved hvm, h8.moved hvm, h9.moved hvm, hA.moved hvm, hB.moved hvm⟩
theorem gSt.kept {G : gG} {U : State} {H H1 : Heap} (h : gSt G U H) (hq : ∀ a : Nat, a < H.size → ¬ gFr G a → H1[a]? = H[a]?) : gSt G U H1 := by
  obtain ⟨h1, h2, h3, h4, h5, h6, h7, h8, h9, hA, hB⟩ := h
  exact ⟨fun i hi => (h1 i hi).kept hq, h2, h3.kept hq, h4.kept hq, h5.kept hq, h6.kept hq, h7.kept hq, h8.kept hq, h9.kept hq, hA, hB.kept hq⟩
/-- what holds of the tables and the statics all through -/
def gK (G : gG) (U : State) : Prop := va_K (gD G) gCl (gTys G) U ∧ gNw U ∧ gSt G U U.heap
theorem gK.call {G : gG} {s U : State} {H : Heap} {locs : List Loc} (h : gK G s) (hS : va_S (gFr G) s.heap H locs) (hU : U.heap = H) (hW : s.WarmedH U.vm) : gK G U :=
  ⟨va_K.moved hW.alike h.1, h.2.1.warm hW, by rw [hU]; exact (h.2.2.kept hS.2.1).moved hW.alike⟩
theorem gK.blind {G : gG} {U : State} (h : gK G U) (g : JFrame) (mk : MethodId) (a : Array Value) : gK G (U.calling g mk a) :=
  ⟨va_K.moved (u := U) (U := U.calling g mk a) (Vm.Alike.refl U.vm) h.1, gNw.same (s := U) (U := U.calling g mk a) rfl h.2.1, h.2.2.moved (u := U) (U := U.calling g mk a) (Vm.Alike.refl U.vm)⟩
/-! contracts -/
def gQ (G : gG) (rv : Option Value) (h : gH) (n : Nat) : Array Value → State → Outcome → State → Prop := fun _ st oc t => (oc = .returned rv ∧ gRep G h n t.heap) ∧ va_F (gFr G) st t
def gMet (l : Launch) (G : gG) (y : MethodName) (code : ByteArray) (L : Nat) (ret : Option FieldType) (fr lo mc ms : Nat) (av : List Value) (h : gH) (n : Nat) (rv : Option Value) (h' : gH) (n' : Nat) : Prop :=
  Met l y (ws_ y code L ret) ({ frames := fr, cells := mc, slots := ms, locals := lo } : Room) (va_Pc av (fun U => gRep G h n U.heap ∧ gK G U)) (gQ G rv h' n') mc ms (gFr G)
theorem gBlind {G : gG} {av : List Value} {h : gH} {n : Nat} : FrameBlind (va_Pc av (fun U => gRep G h n U.heap ∧ gK G U)) := by
  intro a U g mk q
  obtain ⟨q0, q1, q2⟩ := q
  exact ⟨q0, q1, q2.blind g mk a⟩
/-- the context of a walk -/
abbrev gCx (p : Program) (s : State) (m : MethodId) (args : Array Value) (meth : Method) (c : Code) (cc : ByteArray) (nL : Nat) (own : String) (ret : Option FieldType) (G : gG) : Prop :=
  (p.tables.exec = Jvm.exec ∧ c.code = cc ∧ c.maxLocals = nL ∧ s.vm.findClass own = some m.cls ∧ ∀ w ∈ lw_all, w.before args s = true) ∧ gK G s ∧ meth.sig.returnType = ret ∧ meth.locks = false
theorem gEnter {l : Launch} {G : gG} {y : MethodName} {code : ByteArray} {L : Nat} {ret : Option FieldType} {fr lo mc ms : Nat} {av : List Value} {h : gH} {n : Nat} {rv : Option Value} {h' : gH} {n' : Nat} (hy : plainName y.cls = true) (lv : List (Nat × Value)) (hlv : lv_args 0 av = lv) (hlen : (lg_sl av).length ≤ L)
    (body : ∀ (p : Program) (e : Env) (s : State) (m : MethodId) (below : List Frame) (meth : Method) (c : Code) (H : Heap) (ls : Array Slot), gCx p s m av.toArray meth c code L y.cls ret G → meth.name = y.name → gRep G h n H → va_S (gFr G) s.heap H [] → lv_has ls L lv →
      W p l e ({ frames := fr, cells := mc, slots := ms, locals := lo } : Room) s m av.toArray below meth c H [] 0 0 (MQ below (gQ G rv h' n') av.toArray s mc ms (gFr G)) (F0 m 0 ls [])) : gMet l G y code L ret fr lo mc ms av h n rv h' n' := by
  refine Met.ofW (cc := code) (maxL := L) (ret := ret) hy rfl ?_
  intro p e s m args below meth c s₁ B hml hv
  obtain ⟨rfl, hR, hK⟩ := hv
  have hts := atoms_spec (ws := ws_ y code L ret) B.pre
  have hts : ∀ w ∈ lw_all, w.before _ s = true := fun w h => hts w (List.mem_cons_of_mem _ h)
  have hown : s.vm.findClass y.cls = some m.cls := findClass_of_methodNamed B.named
  have hl := lv_entry av (n := L) hlen
  rw [lg_entry_eq]
  rw [hlv] at hl
  exact body p e s m below meth c s.heap _ ⟨⟨B.exec, B.bytes, hml, hown, hts⟩, hK, B.returns, B.notSynchronized⟩ (name_of_methodNamed B.named B.method).1 hR va_S.rf hl
theorem gOfW {l : Launch} {y : MethodName} {ws ws' : List Cond} {rm : Room} {Pc : Array Value → State → Prop} {Qc : Array Value → State → Outcome → State → Prop} {mc ms : Nat} {free : Addr → Prop} {cc : ByteArray} {maxL : Nat} {ret : Option FieldType}
    (hy : plainFor y = true) (hw : ws = Cond.code y cc maxL ret :: ws')
    (body : ∀ p e s m args below meth c s₁, BodyLoose p l y (headSpec ws rm) cc maxL ret e s m args below meth c s₁ → c.maxLocals = maxL → Pc args s →
      W p l e (headSpec ws rm).room s m args below meth c s.heap [] 0 0 (MQ below Qc args s mc ms free) (entryFrame m args maxL)) : Met l y ws rm Pc Qc mc ms free := by
  refine MetFree.of_bodySF (code := cc) (maxLocals := maxL) (ret := ret) hy ?_ ?_
  · intro args s m h hn
    obtain ⟨meth, c, h1, h2, h3, h4, h5, h6, -, -⟩ := Cond.code_spec hn (atoms_spec (ws := ws) h _ (by rw [hw]; exact List.mem_cons_self))
    exact ⟨meth, c, h1, h2, h3, h4, h5, h6⟩
  · intro p e s m args below meth c s₁ B hml hP _
    have hh0 : s₁.heap = s.heap := by rw [B.state]; rfl
    obtain ⟨t, a1, o, b1, b2, b3⟩ := body p e s m args below meth c s₁ B hml hP s₁ hh0 (Stand.of_body B)
    exact ⟨t, o, a1, b1, b2, ⟨b3.1, b3.2⟩⟩
theorem gEnterF {l : Launch} {G : gG} {y : MethodName} {code : ByteArray} {L : Nat} {ret : Option FieldType} {fr lo mc ms : Nat} {av : List Value} {h : gH} {n : Nat} {rv : Option Value} {h' : gH} {n' : Nat} (hy : plainFor y = true) (lv : List (Nat × Value)) (hlv : lv_args 0 av = lv) (hlen : (lg_sl av).length ≤ L)
    (body : ∀ (p : Program) (e : Env) (s : State) (m : MethodId) (below : List Frame) (meth : Method) (c : Code) (H : Heap) (ls : Array Slot), gCx p s m av.toArray meth c code L y.cls ret G → meth.name = y.name → gRep G h n H → va_S (gFr G) s.heap H [] → lv_has ls L lv →
      W p l e ({ frames := fr, cells := mc, slots := ms, locals := lo } : Room) s m av.toArray below meth c H [] 0 0 (MQ below (gQ G rv h' n') av.toArray s mc ms (gFr G)) (F0 m 0 ls [])) : gMet l G y code L ret fr lo mc ms av h n rv h' n' := by
  refine gOfW (cc := code) (maxL := L) (ret := ret) hy rfl ?_
  intro p e s m args below meth c s₁ B hml hv
  obtain ⟨rfl, hR, hK⟩ := hv
  have hts := atoms_spec (ws := ws_ y code L ret) B.pre
  have hts : ∀ w ∈ lw_all, w.before _ s = true := fun w h => hts w (List.mem_cons_of_mem _ h)
  have hown : s.vm.findClass y.cls = some m.cls := findClass_of_methodNamed B.named
  have hl := lv_entry av (n := L) hlen
  rw [lg_entry_eq]
  rw [hlv] at hl
  exact body p e s m below meth c s.heap _ ⟨⟨B.exec, B.bytes, hml, hown, hts⟩, hK, B.returns, B.notSynchronized⟩ (name_of_methodNamed B.named B.method).1 hR va_S.rf hl
/-! pure reads and writes -/
def gGv (ci : Nat) (h : gH) (a k : Nat) : Option Value := match h a with
  | some (.inr (c, fs)) => if c = ci then fs[k]? else none
  | _ => none
def gGi (ci : Nat) (h : gH) (a k : Nat) : Option Int32 := match gGv ci h a k with
  | some (.int x) => some x
  | _ => none
def gGr (ci : Nat) (h : gH) (a k : Nat) : Option Nat := match gGv ci h a k with
  | some (.ref x) => some x
  | _ => none
def gGl (ci : Nat) (h : gH) (a k : Nat) : Option Int64 := match gGv ci h a k with
  | some (.long x) => some x
  | _ => none
def gPv (ci : Nat) (h : gH) (a k : Nat) (v : Value) : Option gH := match h a with
  | some (.inr (c, fs)) => if c = ci ∧ k < fs.length then some (va_up h a (some (.inr (c, fs.set k v)))) else none
  | _ => none
def gIs (ci : Nat) (h : gH) (a : Nat) : Bool := match h a with
  | some (.inr (c, _)) => decide (c = ci)
  | _ => false
def gAi (t : Nat) (h : gH) (a : Nat) (i : Int32) : Option Int32 := match h a with
  | some (.inl (t', N, .inl f)) => if t' = t ∧ ¬ (i < 0 ∨ N ≤ i.toNatClampNeg) then some (f i.toNatClampNeg) else none
  | _ => none
def gAl (h : gH) (a : Nat) (i : Int32) : Option Int64 := match h a with
  | some (.inl (t', N, .inr (.inl f))) => if t' = 1 ∧ ¬ (i < 0 ∨ N ≤ i.toNatClampNeg) then some (f i.toNatClampNeg) else none
  | _ => none
def gAr (t : Nat) (h : gH) (a : Nat) (i : Int32) : Option Nat := match h a with
  | some (.inl (t', N, .inr (.inr (.inr (.inr f))))) => if t' = t ∧ ¬ (i < 0 ∨ N ≤ i.toNatClampNeg) then f i.toNatClampNeg else none
  | _ => none
def gAn (t : Nat) (h : gH) (a : Nat) : Option Int32 := match h a with
  | some (.inl (t', N, _)) => if t' = t then some (Int32.ofNat N) else none
  | _ => none
def gSi (h : gH) (a : Nat) (i x : Int32) : Option gH := match h a with
  | some (.inl (t', N, .inl f)) => if t' = 0 ∧ ¬ (i < 0 ∨ N ≤ i.toNatClampNeg) then some (va_up h a (some (.inl (0, N, .inl (upd f i.toNatClampNeg x))))) else none
  | _ => none
def gSb (t : Nat) (h : gH) (a : Nat) (i x : Int32) : Option gH := match h a with
  | some (.inl (t', N, .inl f)) => if t' = t ∧ ¬ (i < 0 ∨ N ≤ i.toNatClampNeg) then some (va_up h a (some (.inl (t, N, .inl (upd f i.toNatClampNeg (vp_nar (gTy t) x)))))) else none
  | _ => none
def gSl (h : gH) (a : Nat) (i : Int32) (x : Int64) : Option gH := match h a with
  | some (.inl (t', N, .inr (.inl f))) => if t' = 1 ∧ ¬ (i < 0 ∨ N ≤ i.toNatClampNeg) then some (va_up h a (some (.inl (1, N, .inr (.inl (vp_updL f i.toNatClampNeg x)))))) else none
  | _ => none
/-- a reference to an object of class ci into an array of type t -/
def gSr (t ci : Nat) (h : gH) (a : Nat) (i : Int32) (v : Nat) : Option gH := match h a with
  | some (.inl (t', N, .inr (.inr (.inr (.inr f))))) => if (t' = t ∧ ¬ (i < 0 ∨ N ≤ i.toNatClampNeg)) ∧ gIs ci h v = true then some (va_up h a (some (.inl (t, N, .inr (.inr (.inr (.inr (va_up f i.toNatClampNeg (some v))))))))) else none
  | _ => none
theorem gGv_spec {ci a k : Nat} {h : gH} {v : Value} (hf : gGv ci h a k = some v) : ∃ fs, h a = some (.inr (ci, fs)) ∧ fs[k]? = some v := by
  unfold gGv at hf
  split at hf
  · rename_i c fs he
    split at hf
    · rename_i hc
      subst hc
      exact ⟨fs, he, hf⟩
    · cases hf
  · cases hf
theorem gGi_spec {ci a k : Nat} {h : gH} {x : Int32} (hf : gGi ci h a k = some x) : gGv ci h a k = some (.int x) := by
  unfold gGi at hf
  split at hf
  · rename_i y he
    cases hf
    exact he
  · cases hf
theorem gGr_spec {ci a k : Nat} {h : gH} {x : Nat} (hf : gGr ci h a k = some x) : gGv ci h a k = some (.ref x) := by
  unfold gGr at hf
  split at hf
  · rename_i y he
    cases hf
    exact he
  · cases hf
theorem gGl_spec {ci a k : Nat} {h : gH} {x : Int64} (hf : gGl ci h a k = some x) : gGv ci h a k = some (.long x) := by
  unfold gGl at hf
  split at hf
  · rename_i y he
    cases hf
    exact he
  · cases hf
theorem gPv_spec {ci a k : Nat} {h h1 : gH} {v : Value} (hf : gPv ci h a k v = some h1) : ∃ fs, h a = some (.inr (ci, fs)) ∧ k < fs.length ∧ h1 = va_up h a (some (.inr (ci, fs.set k v))) := by
  unfold gPv at hf
  split at hf
  · rename_i c fs he
    split at hf
    · rename_i hc
      obtain ⟨hc, hk⟩ := hc
      subst hc
      exact ⟨fs, he, hk, (Option.some.inj hf).symm⟩
    · cases hf
  · cases hf
theorem gIs_spec {ci a : Nat} {h : gH} (hf : gIs ci h a = true) : ∃ fs, h a = some (.inr (ci, fs)) := by
  unfold gIs at hf
  split at hf
  · rename_i c fs he
    have := of_decide_eq_true hf
    subst this
    exact ⟨fs, he⟩
  · cases hf
theorem gAi_spec {t a : Nat} {h : gH} {i x : Int32} (hf : gAi t h a i = some x) : ∃ N f, h a = some (.inl (t, N, .inl f)) ∧ vp_in i N ∧ x = f i.toNatClampNeg := by
  unfold gAi at hf
  split at hf
  · rename_i t' N f he
    split at hf
    · rename_i hc
      obtain ⟨hc, hi⟩ := hc
      subst hc
      exact ⟨N, f, he, hi, (Option.some.inj hf).symm⟩
    · cases hf
  · cases hf
theorem gAl_spec {a : Nat} {h : gH} {i : Int32} {x : Int64} (hf : gAl h a i = some x) : ∃ N f, h a = some (.inl (1, N, .inr (.inl f))) ∧ vp_in i N ∧ x = f i.toNatClampNeg := by
  unfold gAl at hf
  split at hf
  · rename_i t' N f he
    split at hf
    · rename_i hc
      obtain ⟨hc, hi⟩ := hc
      subst hc
      exact ⟨N, f, he, hi, (Option.some.inj hf).symm⟩
    · cases hf
  · cases hf
theorem gAr_spec {t a : Nat} {h : gH} {i : Int32} {x : Nat} (hf : gAr t h a i = some x) : ∃ N f, h a = some (.inl (t, N, .inr (.inr (.inr (.inr f))))) ∧ vp_in i N ∧ f i.toNatClampNeg = some x := by
  unfold gAr at hf
  split at hf
  · rename_i t' N f he
    split at hf
    · rename_i hc
      obtain ⟨hc, hi⟩ := hc
      subst hc
      exact ⟨N, f, he, hi, hf⟩
    · cases hf
  · cases hf
theorem gAn_spec {t a : Nat} {h : gH} {x : Int32} (hf : gAn t h a = some x) : ∃ N f, h a = some (.inl (t, N, f)) ∧ Int32.ofNat N = x := by
  unfold gAn at hf
  split at hf
  · rename_i t' N f he
    split at hf
    · rename_i hc
      subst hc
      exact ⟨N, f, he, Option.some.inj hf⟩
    · cases hf
  · cases hf
theorem gSi_spec {a : Nat} {h h1 : gH} {i x : Int32} (hf : gSi h a i x = some h1) : ∃ N f, h a = some (.inl (0, N, .inl f)) ∧ vp_in i N ∧ h1 = va_up h a (some (.inl (0, N, .inl (upd f i.toNatClampNeg x)))) := by
  unfold gSi at hf
  split at hf
  · rename_i t' N f he
    split at hf
    · rename_i hc
      obtain ⟨hc, hi⟩ := hc
      subst hc
      exact ⟨N, f, he, hi, (Option.some.inj hf).symm⟩
    · cases hf
  · cases hf
theorem gSb_spec {t a : Nat} {h h1 : gH} {i x : Int32} (hf : gSb t h a i x = some h1) : ∃ N f, h a = some (.inl (t, N, .inl f)) ∧ vp_in i N ∧ h1 = va_up h a (some (.inl (t, N, .inl (upd f i.toNatClampNeg (vp_nar (gTy t) x))))) := by
  unfold gSb at hf
  split at hf
  · rename_i t' N f he
    split at hf
    · rename_i hc
      obtain ⟨hc, hi⟩ := hc
      subst hc
      exact ⟨N, f, he, hi, (Option.some.inj hf).symm⟩
    · cases hf
  · cases hf
theorem gSl_spec {a : Nat} {h h1 : gH} {i : Int32} {x : Int64} (hf : gSl h a i x = some h1) : ∃ N f, h a = some (.inl (1, N, .inr (.inl f))) ∧ vp_in i N ∧ h1 = va_up h a (some (.inl (1, N, .inr (.inl (vp_updL f i.toNatClampNeg x))))) := by
  unfold gSl at hf
  split at hf
  · rename_i t' N f he
    split at hf
    · rename_i hc
      obtain ⟨hc, hi⟩ := hc
      subst hc
      exact ⟨N, f, he, hi, (Option.some.inj hf).symm⟩
    · cases hf
  · cases hf
theorem gSr_spec {t ci a v : Nat} {h h1 : gH} {i : Int32} (hf : gSr t ci h a i v = some h1) : ∃ N f, h a = some (.inl (t, N, .inr (.inr (.inr (.inr f))))) ∧ vp_in i N ∧ gIs ci h v = true ∧ h1 = va_up h a (some (.inl (t, N, .inr (.inr (.inr (.inr (va_up f i.toNatClampNeg (some v)))))))) := by
  unfold gSr at hf
  split at hf
  · rename_i t' N f he
    split at hf
    · rename_i hc
      obtain ⟨⟨hc, hi⟩, hv⟩ := hc
      subst hc
      exact ⟨N, f, he, hi, hv, (Option.some.inj hf).symm⟩
    · cases hf
  · cases hf
theorem gBind {α β : Type} {x : Option α} {f : α → Option β} {b : β} (hf : x.bind f = some b) : ∃ a, x = some a ∧ f a = some b := by
  cases x with
  | none => cases hf
  | some a => exact ⟨a, rfl, hf⟩
theorem gIfp {α : Type} {c : Prop} {d : Decidable c} {a b x : α} (hc : c) (hf : @ite α c d a b = x) : a = x := by rw [if_pos hc] at hf; exact hf
theorem gIfn {α : Type} {c : Prop} {d : Decidable c} {a b x : α} (hc : ¬ c) (hf : @ite α c d a b = x) : b = x := by rw [if_neg hc] at hf; exact hf
/-- a check: its condition holds -/
theorem gChk {α : Type} {c : Prop} {d : Decidable c} {a : Option α} {x : α} (hf : @ite (Option α) c d a none = some x) : c ∧ a = some x := by
  by_cases hc : c
  · rw [if_pos hc] at hf; exact ⟨hc, hf⟩
  · rw [if_neg hc] at hf; cases hf
theorem gO1 {α : Type} {a b : α} (h : some a = some b) : a = b := Option.some.inj h
theorem gO2 {α β : Type} {a b : α} {c d : β} (h : some (a, c) = some (b, d)) : a = b ∧ c = d := by
  have h1 := Option.some.inj h
  exact ⟨congrArg Prod.fst h1, congrArg Prod.snd h1⟩
theorem gO3 {α β γ : Type} {a b : α} {c d : β} {x y : γ} (h : some (a, c, x) = some (b, d, y)) : a = b ∧ c = d ∧ x = y := by
  have h1 := Option.some.inj h
  exact ⟨congrArg Prod.fst h1, congrArg (fun q => q.2.1) h1, congrArg (fun q => q.2.2) h1⟩
