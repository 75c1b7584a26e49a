/-! g6: Kind.leaves, run inline on the machine (nothing is said of 'initialized' for the constants' own classes) -/
set_option maxRecDepth 100000
section G6
variable {p : Program} {l : Launch} {e : Env} {R : Room} {s : State} {m : MethodId} {args : Array Value} {below : List Frame} {meth : Method} {c : Code} {H : Heap} {locs : List Loc} {cells slots : Nat} {Q : State → Prop}
variable {cc : ByteArray} {pc nL : Nat} {ls : Array Slot} {rest : List Value} {G : gG} {h : gH} {n a : Nat} {own : String} {ret : Option FieldType}
def gLvBody (tb : Tables) (e : Env) (bytes : ByteArray) (b : Addr) (k q v : Int32) : Prop := ∀ (T : State) (mk : MethodId) (cY : Code) (mY : Method) (below : List Frame), At T mk cY below → cY.code = bytes → T.vm.method? mk = some mY → mY.sig.returnType = some .int → ∀ target : State,
  (∀ (acts : List Action) (fr : JFrame), fr.method = mk → fr.locked = none → fr.entered = [] → Steps tb e below (doReturn e (T.setTop fr) acts (some (.int v))).1 target) →
  Steps tb e below (T.setTop { method := mk, pc := 0, locals := #[.val (.ref b), .val (.int k), .val (.int q)], stack := [], locked := none }) target
theorem gBackL (hts : ∀ w ∈ lw_all, w.before args s = true) {y : MethodName} {bytes : ByteArray} {b : Addr} {k q v : Int32} (hy : plainFor y = true) (hcode : Cond.code y bytes 3 (some .int) ∈ lw_all) (hrm : 1 ≤ R.frames ∧ 22 ≤ R.locals) (body : gLvBody p.tables e bytes b k q v) :
    Back l R p e below s args y 3 8 (fun A a => a = #[Value.ref b, Value.int k, Value.int q]) (fun A a w B => w = some (.int v) ∧ B = A) := by
  intro m meth c A g ig mk a X hg hsize hdg hW hn hp
  subst hp
  obtain ⟨U, Ls, c0, s0⟩ := A
  dsimp only [Pt.U, Pt.locs, Pt.cells, Pt.slots] at X hn ⊢
  have h2 : (Cond.code y bytes 3 (some .int)).before #[Value.ref b, Value.int k, Value.int q] U = true := word_at X.warmed (Or.inl (by simp [Cond.onTables, Cond.keeps, Cond.steady])) (hts _ hcode)
  obtain ⟨mY, cY, hmY, hcY, hbY, hlY, hrY, hlockY, -, -⟩ := Cond.code_spec hn h2
  have hfull := X.notFull (g := g) hsize (vars := cY.maxLocals) hrm.1 (by rw [hlY]; have := hrm.2; omega)
  refine ⟨some (.int v), ⟨U, Ls, c0, s0⟩, X, ⟨rfl, rfl⟩, ?_⟩
  have hA0 : At U g.method c below := by rw [hg]; exact X.here
  rw [doInvoke_enter hA0.top [] hmY hcY hlockY hfull]
  have hA1 := At.enter hA0 #[Value.ref b, Value.int k, Value.int q] hmY hcY (State.plainMethod.of_named hy hn hmY)
  have hf := frames_entered (g := g) hA0.top (.java (entryFrame mk #[Value.ref b, Value.int k, Value.int q] cY.maxLocals))
  have hent : entryFrame mk #[Value.ref b, Value.int k, Value.int q] cY.maxLocals = { method := mk, pc := 0, locals := #[.val (.ref b), .val (.int k), .val (.int q)], stack := [], locked := none } := by
    rw [hlY]; rfl
  rw [hent] at hA1 hf ⊢
  refine body _ mk cY mY below hA1 hbY (by simpa [State.pushFrame, State.setFrames] using hmY) hrY _ (fun acts fr h1 h2 h3 => ?_)
  rw [doReturn_leave (g := g) (meth := mY) (cg := c) (ig := ig) (len := 3) acts hf (by rw [h1]; simpa [State.pushFrame, State.setFrames] using hmY) hlockY h2 h3
      (by have := hA0.code; rw [State.code?_eq] at this ⊢; simpa [State.pushFrame, State.setFrames] using this) hdg,
    setFrames_entered hA0.top, State.setTop_setTop]
  exact Steps.refl _
theorem gLv18 (hexec : p.tables.exec = Jvm.exec) (b : Addr) (k q : Int32) : gLvBody p.tables e cX18_leaves b k q q := by
  intro T mk cY mY below hA hb hm hr target K
  jvm_step hA [hA.top, hexec, hb, dX18_leaves_0]
  jvm_step hA [hA.top, hexec, hb, dX18_leaves_1, hm, hr, narrow]
  (try refine ⟨rfl, ?_⟩); (try refine ⟨rfl, ?_⟩)
  first | (intro acts; exact K acts _ rfl rfl rfl) | exact K _ _ rfl rfl rfl
theorem gLv20 (hexec : p.tables.exec = Jvm.exec) (b : Addr) (k q : Int32) : gLvBody p.tables e cX20_leaves b k q 1 := by
  intro T mk cY mY below hA hb hm hr target K
  jvm_step hA [hA.top, hexec, hb, dX20_leaves_0]
  jvm_step hA [hA.top, hexec, hb, dX20_leaves_1, hm, hr, narrow]
  (try refine ⟨rfl, ?_⟩); (try refine ⟨rfl, ?_⟩)
  first | (intro acts; exact K acts _ rfl rfl rfl) | exact K _ _ rfl rfl rfl
theorem gLv17 (hexec : p.tables.exec = Jvm.exec) (b : Addr) (k q : Int32) : gLvBody p.tables e cX17_leaves b k q (if k - k / 2 * 2 = 0 then 1 else 0) := by
  intro T mk cY mY below hA hb hm hr target K
  jvm_step hA [hA.top, hexec, hb, dX17_leaves_0]
  jvm_step hA [hA.top, hexec, hb, dX17_leaves_1]
  jvm_step hA [hA.top, hexec, hb, dX17_leaves_2]
  by_cases h0 : k - k / 2 * 2 = 0
  · rw [if_pos h0] at K
    jvm_step hA [hA.top, hexec, hb, dX17_leaves_3, Op.ifCond.holds, h0]
    jvm_step hA [hA.top, hexec, hb, dX17_leaves_6]
    jvm_step hA [hA.top, hexec, hb, dX17_leaves_7]
    show Steps p.tables e below (T.setTop { method := mk, pc := 11, locals := #[.val (.ref b), .val (.int k), .val (.int q)], stack := [.int 1], locked := none }) _
    jvm_step hA [hA.top, hexec, hb, dX17_leaves_11, hm, hr, narrow]
    (try refine ⟨rfl, ?_⟩); (try refine ⟨rfl, ?_⟩)
    first | (intro acts; exact K acts _ rfl rfl rfl) | exact K _ _ rfl rfl rfl
  · rw [if_neg h0] at K
    jvm_step hA [hA.top, hexec, hb, dX17_leaves_3, Op.ifCond.holds, h0]
    show Steps p.tables e below (T.setTop { method := mk, pc := 10, locals := #[.val (.ref b), .val (.int k), .val (.int q)], stack := [], locked := none }) _
    jvm_step hA [hA.top, hexec, hb, dX17_leaves_10]
    jvm_step hA [hA.top, hexec, hb, dX17_leaves_11, hm, hr, narrow]
    (try refine ⟨rfl, ?_⟩); (try refine ⟨rfl, ?_⟩)
    first | (intro acts; exact K acts _ rfl rfl rfl) | exact K _ _ rfl rfl rfl
theorem gLv19 (hexec : p.tables.exec = Jvm.exec) (b : Addr) (k q : Int32) : gLvBody p.tables e cX19_leaves b k q (if k - k / 4 * 4 = 0 then 1 else 0) := by
  intro T mk cY mY below hA hb hm hr target K
  jvm_step hA [hA.top, hexec, hb, dX19_leaves_0]
  jvm_step hA [hA.top, hexec, hb, dX19_leaves_1]
  jvm_step hA [hA.top, hexec, hb, dX19_leaves_2]
  by_cases h0 : k - k / 4 * 4 = 0
  · rw [if_pos h0] at K
    jvm_step hA [hA.top, hexec, hb, dX19_leaves_3, Op.ifCond.holds, h0]
    jvm_step hA [hA.top, hexec, hb, dX19_leaves_6]
    jvm_step hA [hA.top, hexec, hb, dX19_leaves_7]
    show Steps p.tables e below (T.setTop { method := mk, pc := 11, locals := #[.val (.ref b), .val (.int k), .val (.int q)], stack := [.int 1], locked := none }) _
    jvm_step hA [hA.top, hexec, hb, dX19_leaves_11, hm, hr, narrow]
    (try refine ⟨rfl, ?_⟩); (try refine ⟨rfl, ?_⟩)
    first | (intro acts; exact K acts _ rfl rfl rfl) | exact K _ _ rfl rfl rfl
  · rw [if_neg h0] at K
    jvm_step hA [hA.top, hexec, hb, dX19_leaves_3, Op.ifCond.holds, h0]
    show Steps p.tables e below (T.setTop { method := mk, pc := 10, locals := #[.val (.ref b), .val (.int k), .val (.int q)], stack := [], locked := none }) _
    jvm_step hA [hA.top, hexec, hb, dX19_leaves_10]
    jvm_step hA [hA.top, hexec, hb, dX19_leaves_11, hm, hr, narrow]
    (try refine ⟨rfl, ?_⟩); (try refine ⟨rfl, ?_⟩)
    first | (intro acts; exact K acts _ rfl rfl rfl) | exact K _ _ rfl rfl rfl
theorem g_lvcall (X : gCx p s m args meth c cc nL own ret G) {y : MethodName} {C : String} {bytes : ByteArray} {index b : Nat} {k q v : Int32} (w1 : Cond.methodLink own index ⟨"SafeClears$Kind", "leaves", "(II)I"⟩ ∈ lw_all) (w3 : Cond.selects C ⟨"SafeClears$Kind", "leaves", "(II)I"⟩ y ∈ lw_all) (w4 : Cond.instanceMethod y ∈ lw_all) (w6 : Cond.code y bytes 3 (some .int) ∈ lw_all) (hy : plainFor y = true) (body : gLvBody p.tables e bytes b k q v)
    (hrec : ∃ cell : Cell, H[b]? = some cell ∧ cell.vm.isStatics = false ∧ s.vm.findClass C = some cell.cls) (hl : ls.size = nL) (hrm : 1 ≤ R.frames ∧ 22 ≤ R.locals) (hroom : (rest.map fun v => v.category).sum ≤ 8) (hdg : decode cc pc = .ok (.invokevirtual index, 3))
    (kk : W p l e R s m args below meth c H locs cells slots Q (F0 m (pc + 3) ls (.int v :: rest))) : W p l e R s m args below meth c H locs cells slots Q (F0 m pc ls (.int q :: .int k :: .ref b :: rest)) := by
  obtain ⟨⟨hx, hb, hml, hown, hts⟩, hK, hr, hlk⟩ := X
  obtain ⟨cellB, hcB, hoB, hclB⟩ := hrec
  have hlen : ∀ sig : MethodDescriptor, parseMethodDescriptor (MethodName.mk "SafeClears$Kind" "leaves" "(II)I").desc = some sig → ([Value.int k, Value.int q] : List Value).length = sig.parameters.length := by
    intro sig h9
    have h7 : (parseMethodDescriptor (MethodName.mk "SafeClears$Kind" "leaves" "(II)I").desc).map (fun d => d.parameters.length) = some 2 := by decide +kernel
    rw [h9] at h7
    exact (Option.some.inj h7).symm
  intro T hT Y
  obtain ⟨v1, vm₁, B, hW₁, Y', ⟨hv, hB⟩, st⟩ := va_callVU Y hx (C := C) (owner := "SafeClears$Kind") (x := ⟨"SafeClears$Kind", "leaves", "(II)I"⟩) (y := y) (bytes := bytes) (maxL := 3) (ret := some .int) hown (hts _ w1) (hts _ q1234) (va_Decl.abs (hK.2.1 _ q1233 rfl)) ⟨by decide, by decide⟩ (hts _ w3) (hts _ w4) (hts _ w6)
    (gBackL hts hy w6 hrm body) (by rw [hT]; exact hcB) hoB hclB (g := F0 m pc ls (.int q :: .int k :: .ref b :: rest)) rfl (hl.trans hml.symm) (argsL := [.int k, .int q]) (rest := rest) hlen rfl (lv_room hroom) (by rw [hb]; exact hdg) (fun vm₁ _ => rfl)
  subst hv
  subst hB
  obtain ⟨t, a1, b1⟩ := kk (T.setVm vm₁) hT Y'
  exact ⟨t, st t a1, b1⟩
def sp_leaves (G : gG) (_F : Nat) (_h : gH) (a : Nat) (k q : Int32) : Option Int32 := if a = gS G 0 then some (if k - k / 2 * 2 = 0 then 1 else 0) else if a = gS G 1 then some q else if a = gS G 2 then some (if k - k / 4 * 4 = 0 then 1 else 0) else if a = gS G 3 then some 1 else none
theorem g_leaves (F : Nat) (X : gCx p s m args meth c cc nL own ret G) (hR : gRep G h n H) (hS : va_S (gFr G) s.heap H locs) {index : Nat} {k q r : Int32} (w1 : Cond.methodLink own index ⟨"SafeClears$Kind", "leaves", "(II)I"⟩ ∈ lw_all) (hf : sp_leaves G F h a k q = some r) (hl : ls.size = nL) (hrm : 1 ≤ R.frames ∧ 22 ≤ R.locals) (_hcs : cells ≤ R.cells ∧ slots ≤ R.slots) (hroom : (rest.map fun v => v.category).sum ≤ 8) (hdg : decode cc pc = .ok (.invokevirtual index, 3))
    (kk : ∀ (H1 : Heap) (locs1 : List Loc), gRep G h n H1 → va_S (gFr G) s.heap H1 locs1 → W p l e R s m args below meth c H1 locs1 cells slots Q (F0 m (pc + 3) ls (.int r :: rest))) : W p l e R s m args below meth c H locs cells slots Q (F0 m pc ls (.int q :: .int k :: .ref a :: rest)) := by
  unfold sp_leaves at hf
  have hK := X.2.1
  have hx := X.1.1
  by_cases c0 : a = gS G 0
  · obtain rfl := gO1 (gIfp c0 hf)
    exact g_lvcall X w1 (C := "SafeClears$Kind$1") q1235 q1236 q1237 (by decide +kernel) (gLv17 hx a k q) (c0 ▸ gRecvK hK hS (i := 0) (by decide)) hl hrm hroom hdg (kk H locs hR hS)
  · replace hf := gIfn c0 hf
    by_cases c1 : a = gS G 1
    · obtain rfl := gO1 (gIfp c1 hf)
      exact g_lvcall X w1 (C := "SafeClears$Kind$2") q1238 q1239 q1240 (by decide +kernel) (gLv18 hx a k q) (c1 ▸ gRecvK hK hS (i := 1) (by decide)) hl hrm hroom hdg (kk H locs hR hS)
    · replace hf := gIfn c1 hf
      by_cases c2 : a = gS G 2
      · obtain rfl := gO1 (gIfp c2 hf)
        exact g_lvcall X w1 (C := "SafeClears$Kind$3") q1241 q1242 q1243 (by decide +kernel) (gLv19 hx a k q) (c2 ▸ gRecvK hK hS (i := 2) (by decide)) hl hrm hroom hdg (kk H locs hR hS)
      · replace hf := gIfn c2 hf
        by_cases c3 : a = gS G 3
        · obtain rfl := gO1 (gIfp c3 hf)
          exact g_lvcall X w1 (C := "SafeClears$Kind$4") q1244 q1245 q1246 (by decide +kernel) (gLv20 hx a k q) (c3 ▸ gRecvK hK hS (i := 3) (by decide)) hl hrm hroom hdg (kk H locs hR hS)
        · cases gIfn c3 hf
end G6
