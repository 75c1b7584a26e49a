/-! e5: casts that fail; what one is taken for -/
set_option maxRecDepth 100000
/-- what is known of a class found by its name -/
theorem gFound {vm : Vm} {name : String} {c : ClassId} (h : vm.findClass name = some c) : ∃ k, vm.classes[c]? = some k ∧ k.name = name ∧ k.hidden = none ∧ k.loader = none ∧ (∀ x, k.kind ≠ .primitive x) := by
  obtain ⟨hlt, hp, _⟩ := Array.findIdx?_eq_some_iff_getElem.mp h
  refine ⟨vm.classes[c], by simp [hlt], ?_⟩
  simp only [Bool.and_eq_true, beq_iff_eq] at hp
  obtain ⟨⟨⟨h1, h2⟩, h3⟩, h4⟩ := hp
  refine ⟨h1, Option.isNone_iff_eq_none.mp h2, Option.isNone_iff_eq_none.mp h4, fun x e => ?_⟩
  rw [e] at h3
  cases h3
theorem gHome {u : State} (hm : modulesRight_1 u = true) {k : Class} (hl : k.loader = none) (hpk : packageOf k.name = "") (hp : k.ofPrimitives = false) : u.vm.home k = "module java.base of loader 'bootstrap'" ∨ u.vm.home k = "unnamed module of loader 'bootstrap'" := by
  unfold Vm.home
  have e : u.vm.loaderName k.loader = "'bootstrap'" := by rw [hl]; rfl
  rw [e]
  cases hmo : u.vm.moduleOf k with
  | none => exact Or.inr rfl
  | some m =>
    left
    unfold Vm.moduleOf at hmo
    rw [hp] at hmo
    simp only [Bool.false_eq_true, if_false] at hmo
    have h1 := List.find?_some hmo
    have h2 := List.mem_of_find?_eq_some hmo
    have h3 := List.all_eq_true.mp (show u.vm.modules.all _ = true from hm) m h2
    simp only [Bool.and_eq_true, beq_iff_eq] at h1
    obtain ⟨h4, h5⟩ := h1
    rw [hl] at h4
    rw [hpk] at h5
    have h6 : (castPackages_1.any fun p => m.packages.contains p) = true := by
      simp only [castPackages_1, List.any_cons, h5, Bool.true_or]
    rw [h4, h6] at h3
    simp at h3
    simp only [h3]
    decide +kernel
theorem gSameMod (vm : Vm) {a b : Class} (ha : a.loader = none) (hb : b.loader = none) (pa : packageOf a.name = "") (pb : packageOf b.name = "") (oa : a.ofPrimitives = false) (ob : b.ofPrimitives = false) : vm.sameModule a b = true := by
  have e : vm.moduleOf b = vm.moduleOf a := by
    unfold Vm.moduleOf
    rw [oa, ob, ha, hb, pa, pb]
  unfold Vm.sameModule
  rw [e]
  cases vm.moduleOf a with
  | none => simp [ha, hb]
  | some x => simp
theorem gMsg {u : State} (hm : modulesRight_1 u = true) {a b : Class} (ha : a.loader = none ∧ a.hidden = none ∧ packageOf a.name = "" ∧ a.ofPrimitives = false) (hb : b.loader = none ∧ b.hidden = none ∧ packageOf b.name = "" ∧ b.ofPrimitives = false) :
    checkcast.message u.vm a b = ("class " ++ dotted a.name ++ " cannot be cast to class " ++ dotted b.name ++ " (" ++ (dotted a.name ++ " and " ++ dotted b.name ++ " are in " ++ "module java.base of loader 'bootstrap'") ++ ")") ∨ checkcast.message u.vm a b = ("class " ++ dotted a.name ++ " cannot be cast to class " ++ dotted b.name ++ " (" ++ (dotted a.name ++ " and " ++ dotted b.name ++ " are in " ++ "unnamed module of loader 'bootstrap'") ++ ")") := by
  obtain ⟨a1, a2, a3, a4⟩ := ha
  obtain ⟨b1, b2, b3, b4⟩ := hb
  have sa : a.shown = dotted a.name := by unfold Class.shown; rw [a2]
  have sb : b.shown = dotted b.name := by unfold Class.shown; rw [b2]
  unfold checkcast.message Vm.homes
  rw [gSameMod u.vm a1 b1 a3 b3 a4 b4, sa, sb]
  simp only [if_true]
  rcases gHome hm a1 a3 a4 with h | h <;> rw [h]
  · exact Or.inl rfl
  · exact Or.inr rfl
def gNmA (i : Nat) : String := match i with
  | 6 => "SafeClears$Wheels"
  | 7 => "SafeClears$Motor"
  | 8 => "SafeClears$Car"
  | _ => "SafeClears$Walker"
def gCa (t ci : Nat) : Bool := ci == t || (t == 6 && (ci == 7 || ci == 8)) || (t == 7 && ci == 8)
def gAc (h : gH) (a : Nat) : Option Nat := match h a with
  | some (.inr (c, _)) => if 6 ≤ c ∧ c ≤ 9 then some c else none
  | _ => none
theorem gAc_spec {h : gH} {a c : Nat} (hf : gAc h a = some c) : (6 ≤ c ∧ c ≤ 9) ∧ gIs c h a = true := by
  unfold gAc at hf
  split at hf
  · rename_i c' fs he
    obtain ⟨h1, h2⟩ := gChk hf
    have := Option.some.inj h2
    subst this
    refine ⟨h1, ?_⟩
    unfold gIs
    rw [he]
    simp
  · cases hf
theorem gNmA_pkg (i : Nat) : packageOf (gNmA i) = "" := by
  unfold gNmA
  split <;> decide +kernel
theorem gPrim {k : Class} {i : Nat} (hn : k.name = gNmA i) (hk : ∀ x, k.kind ≠ .primitive x) : k.ofPrimitives = false := by
  unfold Class.ofPrimitives
  cases e : k.kind with
  | primitive x => exact absurd e (hk x)
  | ordinary => rfl
  | array x y =>
    simp only [hn]
    unfold gNmA
    split <;> decide +kernel
theorem gText (i t : Nat) (w : String) (hw : w = "module java.base of loader 'bootstrap'" ∨ w = "unnamed module of loader 'bootstrap'") : (("class " ++ dotted (gNmA i) ++ " cannot be cast to class " ++ dotted (gNmA t) ++ " (" ++ (dotted (gNmA i) ++ " and " ++ dotted (gNmA t) ++ " are in " ++ w) ++ ")") == notModelled) = false ∧ (stringBytes (stringToUtf16 ("class " ++ dotted (gNmA i) ++ " cannot be cast to class " ++ dotted (gNmA t) ++ " (" ++ (dotted (gNmA i) ++ " and " ++ dotted (gNmA t) ++ " are in " ++ w) ++ ")"))).size ≤ 800 := by
  rcases hw with rfl | rfl <;> unfold gNmA <;> split <;> split <;> exact ⟨by decide +kernel, by decide +kernel⟩
section E5
variable {p : Program} {l : Launch} {e : Env} {R : Room} {s : State} {m : MethodId} {args : Array Value} {below : List Frame} {meth : Method} {c : Code} {H : Heap} {locs : List Loc} {cells slots : Nat} {Q : State → Prop}
variable {cc : ByteArray} {pc nL : Nat} {ls : Array Slot} {rest : List Value} {G : gG} {h : gH} {n a : Nat} {own : String} {ret : Option FieldType}
theorem gx_ccNo {T : State} (X : Stand p l e R s m args below meth c T locs cells slots) (hexec : p.tables.exec = Jvm.exec)
    {own name : String} {index : Nat} (hown : s.vm.findClass own = some m.cls) (hlink : (Cond.classLink own index name).before args s = true)
    {a : Addr} {cell : Cell} {cT : ClassId} {ks : Class} (hcell : T.heap[a]? = some cell) (hobj : ∀ k, cell.vm ≠ .statics k) (hks : s.vm.classes[cell.cls]? = some ks)
    (hcT : s.vm.findClass name = some cT) (hasg : s.vm.assignable cell.cls cT = false)
    {g : JFrame} (hg : g.method = m) {rest : List Value} (hstack : g.stack = .ref a :: rest) (hdg : decode c.code g.pc = .ok (.checkcast index, 3)) :
    ∃ (vm' : Vm) (ks' kt' : Class), Stand p l e R s m args below meth c (T.setVm vm') locs cells slots ∧ vm'.classes[cell.cls]? = some ks' ∧ vm'.classes[cT]? = some kt' ∧
      ∀ target, Steps p.tables e below (((T.setVm vm').setTop g).pushFrame (.throwNew "java/lang/ClassCastException" (some (checkcast.message vm' ks' kt')) none)) target → Steps p.tables e below (T.setTop g) target := by
  have hpl : e.platform.magicAccessors = ({} : Platform).magicAccessors := by rw [X.admits.platform]
  obtain ⟨c', hc', hcl⟩ := Cond.classLink_spec hown hlink e.platform hpl
  cases hcT.symm.trans hc'
  obtain ⟨dk, _, _, kt, hd, _, _, _, _, hkt, _, hopen⟩ := hcl.here
  have hcl₀ := X.warmed.classLinks hcl
  have hW' : s.WarmedH (T.vm.noted m.cls index (.cls cT)) := X.warmed.noted hd hopen (State.rightAt_cls hcl)
  obtain ⟨ks', hks', -⟩ := hW'.alike.2.2 _ _ hks
  obtain ⟨kt', hkt', -⟩ := hW'.alike.2.2 _ _ hkt
  refine ⟨_, ks', kt', X.noted hW', hks', hkt', fun target hrest => ?_⟩
  subst hg
  jvm_step X.here [hexec, hdg, checkcast.wp_cold (e := e) (s := T) (f := g) X.here.top hstack (resolveClass_links e.toSetting hcl₀) hcl₀.ready,
    checkcast.wp_ready (e := e) (s := T.setVm (T.vm.noted g.method.cls index (.cls cT))) (f := g) X.here.top hcl₀.ready hstack]
  refine ⟨cell, hcell, hobj, ks', hks', kt', hkt', ?_⟩
  rw [if_neg (by rw [hW'.alike.assignable, hasg]; decide)]
  exact hrest
theorem gNmA_cl (hK : gK G s) {i : Nat} (h6 : 6 ≤ i ∧ i ≤ 9) : (gCl[i]?).map (fun q => q.1) = some (gNmA i) := by
  rcases (show i = 6 ∨ i = 7 ∨ i = 8 ∨ i = 9 by omega) with rfl | rfl | rfl | rfl <;> rfl
theorem g_castY (X : gCx p s m args meth c cc nL own ret G) (hR : gRep G h n H) (t : Nat) (ht : 6 ≤ t ∧ t ≤ 9) {index : Nat} (hlink : (Cond.classLink own index (gNmA t)) ∈ lw_all) {ci : Nat} (hf : gAc h a = some ci) (hc : gCa t ci = true) (hdg : decode cc pc = .ok (.checkcast index, 3))
    (kk : W p l e R s m args below meth c H locs cells slots Q (F0 m (pc + 3) ls (.ref a :: rest))) : W p l e R s m args below meth c H locs cells slots Q (F0 m pc ls (.ref a :: rest)) := by
  obtain ⟨h6, hi⟩ := gAc_spec hf
  have X0 := X
  obtain ⟨⟨hx, hb, hml, hown, hts⟩, hK, hr, hlk⟩ := X
  obtain ⟨cell, h1, h2, h3⟩ := gRecv hK hR (gNmA_cl hK h6) hi
  have hcast : ∀ w : Cond, w ∈ lw_tbl → w = Cond.castable (gNmA ci) (gNmA t) → ∃ cT, s.vm.findClass (gNmA t) = some cT ∧ s.vm.assignable cell.cls cT = true := by
    intro w hw e
    subst e
    obtain ⟨c1, c2, g1, g2, g3⟩ := Cond.castable_spec ((hK.2.1 _ hw rfl).use (A := args) rfl)
    cases Option.some.inj (g1.symm.trans h3)
    exact ⟨c2, g2, g3⟩
  have hfin : ∃ cT, s.vm.findClass (gNmA t) = some cT ∧ s.vm.assignable cell.cls cT = true := by
    by_cases e : ci = t
    · subst e
      exact ⟨cell.cls, h3, va_asg _ _⟩
    · have hz : (t = 6 ∧ (ci = 7 ∨ ci = 8)) ∨ (t = 7 ∧ ci = 8) := by
        unfold gCa at hc
        simp only [Bool.or_eq_true, Bool.and_eq_true, beq_iff_eq] at hc
        omega
      rcases hz with ⟨rfl, rfl | rfl⟩ | ⟨rfl, rfl⟩
      · exact hcast _ q2225 rfl
      · exact hcast _ q2224 rfl
      · exact hcast _ q2226 rfl
  obtain ⟨cT, f1, f2⟩ := hfin
  intro T hT Y
  obtain ⟨vm', Y', st⟩ := Y.checkcastYes hx hown (hts _ hlink) (by rw [hT]; exact h1) h2 f1 f2 (g := F0 m pc ls (.ref a :: rest)) rfl rfl (by rw [hb]; exact hdg)
  obtain ⟨t9, a1, b1⟩ := kk (T.setVm vm') hT Y'
  exact ⟨t9, st t9 a1, b1⟩
theorem g_castN (X : gCx p s m args meth c cc nL own ret G) (hlt : l.stackTraces = false) (hR : gRep G h n H) (hS : va_S (gFr G) s.heap H locs) (hl : ls.size = nL) (t : Nat) (ht : 6 ≤ t ∧ t ≤ 9) {index : Nat} (hlink : (Cond.classLink own index (gNmA t)) ∈ lw_all) {ci : Nat} (hf : gAc h a = some ci) (hc : ¬ gCa t ci = true) (hrm : 8 ≤ R.frames ∧ ((Value.ref a :: rest).map fun v => v.category).sum + 10240 ≤ R.locals) (hcs : cells + 3 ≤ R.cells ∧ slots + 810 ≤ R.slots) (hdg : decode cc pc = .ok (.checkcast index, 3))
    (kx : gKX p l e R s m args below meth c locs cells slots Q G h cl_cce (F0 m pc ls (.ref a :: rest))) : W p l e R s m args below meth c H locs cells slots Q (F0 m pc ls (.ref a :: rest)) := by
  obtain ⟨h6, hi⟩ := gAc_spec hf
  have X0 := X
  obtain ⟨⟨hx, hb, hml, hown, hts⟩, hK, hr, hlk⟩ := X
  obtain ⟨cell, h1, h2, h3⟩ := gRecv hK hR (gNmA_cl hK h6) hi
  have hnc : va_Nc (gNmA ci) (gNmA t) s := by
    refine (gFaOf hK).2.2.2.2.2 (gNmA ci, gNmA t) ?_
    unfold gCa at hc
    simp only [Bool.or_eq_true, Bool.and_eq_true, beq_iff_eq] at hc
    rcases (show ci = 6 ∨ ci = 7 ∨ ci = 8 ∨ ci = 9 by omega) with rfl | rfl | rfl | rfl <;> rcases (show t = 6 ∨ t = 7 ∨ t = 8 ∨ t = 9 by omega) with rfl | rfl | rfl | rfl <;> first | (exfalso; omega) | (simp [gNmA, gNcP])
  obtain ⟨c0, t0, f1, f2, f3⟩ := hnc
  have e0 : cell.cls = c0 := Option.some.inj (h3.symm.trans f1)
  subst e0
  obtain ⟨ks, hks, nks, hhk, lks, pks⟩ := gFound h3
  obtain ⟨kt, hkt, nkt, hht, lkt, pkt⟩ := gFound f2
  intro T hT Y
  obtain ⟨vm', ks', kt', Y', hks', hkt', st⟩ := gx_ccNo Y hx hown (hts _ hlink) (by rw [hT]; exact h1) (fun z h9 => by rw [h9] at h2; cases h2) hks f2 f3 (g := F0 m pc ls (.ref a :: rest)) rfl rfl (by rw [hb]; exact hdg)
  have hal := Y'.warmed.alike
  obtain ⟨k1, g1, g2⟩ := hal.2.2 _ _ hks
  obtain ⟨k2, g3, g4⟩ := hal.2.2 _ _ hkt
  have e1 : ks' = k1 := Option.some.inj (hks'.symm.trans g1)
  have e2 : kt' = k2 := Option.some.inj (hkt'.symm.trans g3)
  subst e1
  subst e2
  have n1 : ks'.name = gNmA ci := by rw [g2]; exact nks
  have n2 : kt'.name = gNmA t := by rw [g4]; exact nkt
  have hmod : modulesRight_1 (T.setVm vm') = true := (gXt.moved (u := s) (U := T.setVm vm') hal (gXtOf hK)).2.2.1
  have hmsg := gMsg (u := T.setVm vm') hmod (a := ks') (b := kt') ⟨by rw [g2]; exact lks, by rw [g2]; exact hhk, by rw [n1]; exact gNmA_pkg ci, gPrim n1 (by rw [g2]; exact pks)⟩ ⟨by rw [g4]; exact lkt, by rw [g4]; exact hht, by rw [n2]; exact gNmA_pkg t, gPrim n2 (by rw [g4]; exact pkt)⟩
  rw [n1, n2] at hmsg
  have ht2 : ((checkcast.message vm' ks' kt') == notModelled) = false ∧ (stringBytes (stringToUtf16 (checkcast.message vm' ks' kt'))).size ≤ 800 := by
    rcases hmsg with hq | hq
    · have hq' : checkcast.message vm' ks' kt' = _ := hq
      rw [hq']
      exact gText ci t _ (Or.inl rfl)
    · have hq' : checkcast.message vm' ks' kt' = _ := hq
      rw [hq']
      exact gText ci t _ (Or.inr rfl)
  obtain ⟨t9, a1, b1⟩ := gx_note X0 hlt hR hS gThr_cce hl ht2.1 ht2.2 hrm hcs kx (T.setVm vm') hT Y'
  exact ⟨t9, st t9 a1, b1⟩
theorem g_kind0 (F : Nat) (X : gCx p s m args meth c cc nL "SafeClears" ret G) (hR : gRep G h n H) (hS : va_S (gFr G) s.heap H locs) {ci : Nat} {r : Int32} (hk : gAc h a = some ci) (hf : sp_X7_kind G F h a = some r) (hl : ls.size = nL) (hrm : 2 ≤ R.frames ∧ 60 ≤ R.locals) (hcs : cells ≤ R.cells ∧ slots ≤ R.slots) (hroom : (rest.map fun v => v.category).sum ≤ 8) (hdg : decode cc pc = .ok (.invokevirtual 335, 3))
    (kk : ∀ (H1 : Heap) (locs1 : List Loc), gRep G h n H1 → va_S (gFr G) s.heap H1 locs1 → W p l e R s m args below meth c H1 locs1 cells slots Q (F0 m (pc + 3) ls (.int r :: rest))) : W p l e R s m args below meth c H locs cells slots Q (F0 m pc ls (.ref a :: rest)) := by
  obtain ⟨h6, hi⟩ := gAc_spec hk
  have hrm2 : 0 + 1 ≤ R.frames ∧ 8 + (1 + 11) + 0 ≤ R.locals := ⟨Nat.le_trans (by decide) hrm.1, Nat.le_trans (by decide) hrm.2⟩
  rcases (show ci = 6 ∨ ci = 7 ∨ ci = 8 ∨ ci = 9 by omega) with rfl | rfl | rfl | rfl
  · exact g_callU X hR hS [] (m_X7_kind l G F h n a hf) q1341 q1343 (C := gNmA 6) q1347 q1342 q117 q1348 q1351 (by decide +kernel) (gRecv X.2.1 hR (gNmA_cl X.2.1 h6) hi) rfl hl hrm2 hcs rfl hroom hdg kk
  · exact g_callU X hR hS [] (m_X7_kind l G F h n a hf) q1341 q1343 (C := gNmA 7) q1345 q1342 q117 q1348 q1351 (by decide +kernel) (gRecv X.2.1 hR (gNmA_cl X.2.1 h6) hi) rfl hl hrm2 hcs rfl hroom hdg kk
  · exact g_callU X hR hS [] (m_X7_kind l G F h n a hf) q1341 q1343 (C := gNmA 8) q1344 q1342 q117 q1348 q1351 (by decide +kernel) (gRecv X.2.1 hR (gNmA_cl X.2.1 h6) hi) rfl hl hrm2 hcs rfl hroom hdg kk
  · exact g_callU X hR hS [] (m_X7_kind l G F h n a hf) q1341 q1343 (C := gNmA 9) q1346 q1342 q117 q1348 q1351 (by decide +kernel) (gRecv X.2.1 hR (gNmA_cl X.2.1 h6) hi) rfl hl hrm2 hcs rfl hroom hdg kk
theorem g_kind6 (F : Nat) (X : gCx p s m args meth c cc nL "SafeClears" ret G) (hR : gRep G h n H) (hS : va_S (gFr G) s.heap H locs) {ci : Nat} {r : Int32} (hk : gAc h a = some ci) (hc : gCa 6 ci = true) (hf : sp_X7_kind G F h a = some r) (hl : ls.size = nL) (hrm : 2 ≤ R.frames ∧ 60 ≤ R.locals) (hcs : cells ≤ R.cells ∧ slots ≤ R.slots) (hroom : (rest.map fun v => v.category).sum ≤ 8) (hdg : decode cc pc = .ok (.invokevirtual 337, 3))
    (kk : ∀ (H1 : Heap) (locs1 : List Loc), gRep G h n H1 → va_S (gFr G) s.heap H1 locs1 → W p l e R s m args below meth c H1 locs1 cells slots Q (F0 m (pc + 3) ls (.int r :: rest))) : W p l e R s m args below meth c H locs cells slots Q (F0 m pc ls (.ref a :: rest)) := by
  obtain ⟨h6, hi⟩ := gAc_spec hk
  have hrm2 : 0 + 1 ≤ R.frames ∧ 8 + (1 + 11) + 0 ≤ R.locals := ⟨Nat.le_trans (by decide) hrm.1, Nat.le_trans (by decide) hrm.2⟩
  unfold gCa at hc
  simp only [Bool.or_eq_true, Bool.and_eq_true, beq_iff_eq] at hc
  rcases (show ci = 6 ∨ ci = 7 ∨ ci = 8 ∨ ci = 9 by omega) with rfl | rfl | rfl | rfl
  · exact g_callU X hR hS [] (m_X7_kind l G F h n a hf) q1349 q1350 (C := gNmA 6) q1354 q1342 q117 q1348 q1351 (by decide +kernel) (gRecv X.2.1 hR (gNmA_cl X.2.1 h6) hi) rfl hl hrm2 hcs rfl hroom hdg kk
  · exact g_callU X hR hS [] (m_X7_kind l G F h n a hf) q1349 q1350 (C := gNmA 7) q1353 q1342 q117 q1348 q1351 (by decide +kernel) (gRecv X.2.1 hR (gNmA_cl X.2.1 h6) hi) rfl hl hrm2 hcs rfl hroom hdg kk
  · exact g_callU X hR hS [] (m_X7_kind l G F h n a hf) q1349 q1350 (C := gNmA 8) q1352 q1342 q117 q1348 q1351 (by decide +kernel) (gRecv X.2.1 hR (gNmA_cl X.2.1 h6) hi) rfl hl hrm2 hcs rfl hroom hdg kk
  · exfalso; omega
theorem g_kind7 (F : Nat) (X : gCx p s m args meth c cc nL "SafeClears" ret G) (hR : gRep G h n H) (hS : va_S (gFr G) s.heap H locs) {ci : Nat} {r : Int32} (hk : gAc h a = some ci) (hc : gCa 7 ci = true) (hf : sp_X7_kind G F h a = some r) (hl : ls.size = nL) (hrm : 2 ≤ R.frames ∧ 60 ≤ R.locals) (hcs : cells ≤ R.cells ∧ slots ≤ R.slots) (hroom : (rest.map fun v => v.category).sum ≤ 8) (hdg : decode cc pc = .ok (.invokevirtual 338, 3))
    (kk : ∀ (H1 : Heap) (locs1 : List Loc), gRep G h n H1 → va_S (gFr G) s.heap H1 locs1 → W p l e R s m args below meth c H1 locs1 cells slots Q (F0 m (pc + 3) ls (.int r :: rest))) : W p l e R s m args below meth c H locs cells slots Q (F0 m pc ls (.ref a :: rest)) := by
  obtain ⟨h6, hi⟩ := gAc_spec hk
  have hrm2 : 0 + 1 ≤ R.frames ∧ 8 + (1 + 11) + 0 ≤ R.locals := ⟨Nat.le_trans (by decide) hrm.1, Nat.le_trans (by decide) hrm.2⟩
  unfold gCa at hc
  simp only [Bool.or_eq_true, Bool.and_eq_true, beq_iff_eq] at hc
  rcases (show ci = 6 ∨ ci = 7 ∨ ci = 8 ∨ ci = 9 by omega) with rfl | rfl | rfl | rfl
  · exfalso; omega
  · exact g_callU X hR hS [] (m_X7_kind l G F h n a hf) q1355 q1356 (C := gNmA 7) q1358 q1342 q117 q1348 q1351 (by decide +kernel) (gRecv X.2.1 hR (gNmA_cl X.2.1 h6) hi) rfl hl hrm2 hcs rfl hroom hdg kk
  · exact g_callU X hR hS [] (m_X7_kind l G F h n a hf) q1355 q1356 (C := gNmA 8) q1357 q1342 q117 q1348 q1351 (by decide +kernel) (gRecv X.2.1 hR (gNmA_cl X.2.1 h6) hi) rfl hl hrm2 hcs rfl hroom hdg kk
  · exfalso; omega
theorem g_kind8 (F : Nat) (X : gCx p s m args meth c cc nL "SafeClears" ret G) (hR : gRep G h n H) (hS : va_S (gFr G) s.heap H locs) {ci : Nat} {r : Int32} (hk : gAc h a = some ci) (hc : gCa 8 ci = true) (hf : sp_X7_kind G F h a = some r) (hl : ls.size = nL) (hrm : 2 ≤ R.frames ∧ 60 ≤ R.locals) (hcs : cells ≤ R.cells ∧ slots ≤ R.slots) (hroom : (rest.map fun v => v.category).sum ≤ 8) (hdg : decode cc pc = .ok (.invokevirtual 339, 3))
    (kk : ∀ (H1 : Heap) (locs1 : List Loc), gRep G h n H1 → va_S (gFr G) s.heap H1 locs1 → W p l e R s m args below meth c H1 locs1 cells slots Q (F0 m (pc + 3) ls (.int r :: rest))) : W p l e R s m args below meth c H locs cells slots Q (F0 m pc ls (.ref a :: rest)) := by
  obtain ⟨h6, hi⟩ := gAc_spec hk
  have hrm2 : 0 + 1 ≤ R.frames ∧ 8 + (1 + 11) + 0 ≤ R.locals := ⟨Nat.le_trans (by decide) hrm.1, Nat.le_trans (by decide) hrm.2⟩
  unfold gCa at hc
  simp only [Bool.or_eq_true, Bool.and_eq_true, beq_iff_eq] at hc
  rcases (show ci = 6 ∨ ci = 7 ∨ ci = 8 ∨ ci = 9 by omega) with rfl | rfl | rfl | rfl
  · exfalso; omega
  · exfalso; omega
  · exact g_callU X hR hS [] (m_X7_kind l G F h n a hf) q1359 q1360 (C := gNmA 8) q1361 q1342 q117 q1348 q1351 (by decide +kernel) (gRecv X.2.1 hR (gNmA_cl X.2.1 h6) hi) rfl hl hrm2 hcs rfl hroom hdg kk
  · exfalso; omega
theorem g_kind9 (F : Nat) (X : gCx p s m args meth c cc nL "SafeClears" ret G) (hR : gRep G h n H) (hS : va_S (gFr G) s.heap H locs) {ci : Nat} {r : Int32} (hk : gAc h a = some ci) (hc : gCa 9 ci = true) (hf : sp_X7_kind G F h a = some r) (hl : ls.size = nL) (hrm : 2 ≤ R.frames ∧ 60 ≤ R.locals) (hcs : cells ≤ R.cells ∧ slots ≤ R.slots) (hroom : (rest.map fun v => v.category).sum ≤ 8) (hdg : decode cc pc = .ok (.invokevirtual 340, 3))
    (kk : ∀ (H1 : Heap) (locs1 : List Loc), gRep G h n H1 → va_S (gFr G) s.heap H1 locs1 → W p l e R s m args below meth c H1 locs1 cells slots Q (F0 m (pc + 3) ls (.int r :: rest))) : W p l e R s m args below meth c H locs cells slots Q (F0 m pc ls (.ref a :: rest)) := by
  obtain ⟨h6, hi⟩ := gAc_spec hk
  have hrm2 : 0 + 1 ≤ R.frames ∧ 8 + (1 + 11) + 0 ≤ R.locals := ⟨Nat.le_trans (by decide) hrm.1, Nat.le_trans (by decide) hrm.2⟩
  unfold gCa at hc
  simp only [Bool.or_eq_true, Bool.and_eq_true, beq_iff_eq] at hc
  rcases (show ci = 6 ∨ ci = 7 ∨ ci = 8 ∨ ci = 9 by omega) with rfl | rfl | rfl | rfl
  · exfalso; omega
  · exfalso; omega
  · exfalso; omega
  · exact g_callU X hR hS [] (m_X7_kind l G F h n a hf) q1362 q1363 (C := gNmA 9) q1364 q1342 q117 q1348 q1351 (by decide +kernel) (gRecv X.2.1 hR (gNmA_cl X.2.1 h6) hi) rfl hl hrm2 hcs rfl hroom hdg kk
end E5
