/-! g3: made cells, references in arrays, answers, calls -/
set_option maxRecDepth 100000
section G3
variable {p : Program} {l : Launch} {e : Env} {R : Room} {s : State} {m : MethodId} {args : Array Value} {below : List Frame} {meth : Method} {c : Code} {H : Heap} {locs : List Loc} {cells slots : Nat} {Q : State → Prop}
variable {cc : ByteArray} {pc nL : Nat} {ls : Array Slot} {rest : List Value} {G : gG} {h : gH} {n a : Nat} {own : String} {ret : Option FieldType}
theorem g_new (X : gCx p s m args meth c cc nL own ret G) (hR : gRep G h n H) (hS : va_S (gFr G) s.heap H locs) {ci index : Nat} {C : String} {T : u_T} {N : Nat} {ty : Nat → FieldType} (ok : gOk ci C T N ty) (hcl : (Cond.classLink own index C) ∈ lw_all) (hinst : (Cond.instantiable C N) ∈ lw_all) (hini : (Cond.initialized C) ∈ lw_all) (fs : List Value) (hfs : (List.range N).all (fun j => decide (defaultValue (ty j) = vp_V fs j)) = true) (hcells : cells + 1 ≤ R.cells ∧ slots + N ≤ R.slots) (hdg : decode cc pc = .ok (.new index, 3))
    (kk : ∀ H1 : Heap, gRep G (va_up h n (some (.inr (ci, fs)))) (n + 1) H1 → va_S (gFr G) s.heap H1 locs → W p l e R s m args below meth c H1 locs (cells + 1) (slots + N) Q (F0 m (pc + 3) ls (.ref n :: rest))) : W p l e R s m args below meth c H locs cells slots Q (F0 m pc ls rest) := by
  obtain ⟨⟨hx, hb, hml, hown, hts⟩, hK, hr, hlk⟩ := X
  have hKn := hK.1.1 ci _ ok.2.2.2
  refine W.newcK hx hb hown (hts _ hcl) (hts _ hinst) (hts _ hini) rfl hdg hcells.1 hcells.2 hKn.2.1 hR.1 fun H1 kC hkC e1 z1 o1 => ?_
  refine kk H1 (hR.push z1 o1 ⟨_, ok.2.2.2, ?_⟩) (gS_push hR hS z1 o1)
  refine (u_born ty hts ok.1 hKn hkC e1 ok.2.1).to (fun j hj => ?_)
  have h9 := List.all_eq_true.mp hfs j (List.mem_range.mpr hj)
  exact of_decide_eq_true h9
theorem g_newa0 (X : gCx p s m args meth c cc nL own ret G) (hR : gRep G h n H) (hS : va_S (gFr G) s.heap H locs) (harr : (Cond.arrayClass .int) ∈ lw_all) {k : Int32} (N : Nat) (hn : ¬ k < 0) (hN : k.toNatClampNeg = N) (hbytes : N * componentBytes .int ≤ 536870912) (hcells : cells + 1 ≤ R.cells ∧ slots + N ≤ R.slots) (hdg : decode cc pc = .ok (.newarray .int, 2))
    (kk : ∀ H1 : Heap, gRep G (va_up h n (some (.inl (0, N, .inl (fun _ => 0))))) (n + 1) H1 → va_S (gFr G) s.heap H1 locs → W p l e R s m args below meth c H1 locs (cells + 1) (slots + N) Q (F0 m (pc + 2) ls (.ref n :: rest))) : W p l e R s m args below meth c H locs cells slots Q (F0 m pc ls (.int k :: rest)) := by
  obtain ⟨⟨hx, hb, hml, hown, hts⟩, hK, hr, hlk⟩ := X
  refine va_newaK (atype := .int) hx hb (hts _ harr) rfl hdg rfl hn hN hbytes hcells.1 hcells.2 hR.1 fun H1 cA e1 z1 o1 hAr hNm => ?_
  have hc : cA = gA G 0 := by
    have h1 : s.vm.findClass ("[" ++ (gTy 0).toString) = some (gA G 0) := (hK.1.2 0 _ (gTys_at (by decide))).2
    exact Option.some.inj (hNm.symm.trans h1)
  subst hc
  refine kk H1 (hR.push z1 o1 ?_) (gS_push hR hS z1 o1)
  show H1[n]? = some (vp_cell _ _)
  rw [vp_cell_i]
  exact e1
theorem g_newa1 (X : gCx p s m args meth c cc nL own ret G) (hR : gRep G h n H) (hS : va_S (gFr G) s.heap H locs) (harr : (Cond.arrayClass .long) ∈ lw_all) {k : Int32} (N : Nat) (hn : ¬ k < 0) (hN : k.toNatClampNeg = N) (hbytes : N * componentBytes .long ≤ 536870912) (hcells : cells + 1 ≤ R.cells ∧ slots + N ≤ R.slots) (hdg : decode cc pc = .ok (.newarray .long, 2))
    (kk : ∀ H1 : Heap, gRep G (va_up h n (some (.inl (1, N, .inr (.inl (fun _ => 0)))))) (n + 1) H1 → va_S (gFr G) s.heap H1 locs → W p l e R s m args below meth c H1 locs (cells + 1) (slots + N) Q (F0 m (pc + 2) ls (.ref n :: rest))) : W p l e R s m args below meth c H locs cells slots Q (F0 m pc ls (.int k :: rest)) := by
  obtain ⟨⟨hx, hb, hml, hown, hts⟩, hK, hr, hlk⟩ := X
  refine va_newaK (atype := .long) hx hb (hts _ harr) rfl hdg rfl hn hN hbytes hcells.1 hcells.2 hR.1 fun H1 cA e1 z1 o1 hAr hNm => ?_
  have hc : cA = gA G 1 := by
    have h1 : s.vm.findClass ("[" ++ (gTy 1).toString) = some (gA G 1) := (hK.1.2 1 _ (gTys_at (by decide))).2
    exact Option.some.inj (hNm.symm.trans h1)
  subst hc
  refine kk H1 (hR.push z1 o1 ?_) (gS_push hR hS z1 o1)
  show H1[n]? = some (vp_cell _ _)
  rw [vp_cell_l]
  exact e1
theorem g_newa2 (X : gCx p s m args meth c cc nL own ret G) (hR : gRep G h n H) (hS : va_S (gFr G) s.heap H locs) (harr : (Cond.arrayClass .byte) ∈ lw_all) {k : Int32} (N : Nat) (hn : ¬ k < 0) (hN : k.toNatClampNeg = N) (hbytes : N * componentBytes .byte ≤ 536870912) (hcells : cells + 1 ≤ R.cells ∧ slots + N ≤ R.slots) (hdg : decode cc pc = .ok (.newarray .byte, 2))
    (kk : ∀ H1 : Heap, gRep G (va_up h n (some (.inl (2, N, .inl (fun _ => 0))))) (n + 1) H1 → va_S (gFr G) s.heap H1 locs → W p l e R s m args below meth c H1 locs (cells + 1) (slots + N) Q (F0 m (pc + 2) ls (.ref n :: rest))) : W p l e R s m args below meth c H locs cells slots Q (F0 m pc ls (.int k :: rest)) := by
  obtain ⟨⟨hx, hb, hml, hown, hts⟩, hK, hr, hlk⟩ := X
  refine va_newaK (atype := .byte) hx hb (hts _ harr) rfl hdg rfl hn hN hbytes hcells.1 hcells.2 hR.1 fun H1 cA e1 z1 o1 hAr hNm => ?_
  have hc : cA = gA G 2 := by
    have h1 : s.vm.findClass ("[" ++ (gTy 2).toString) = some (gA G 2) := (hK.1.2 2 _ (gTys_at (by decide))).2
    exact Option.some.inj (hNm.symm.trans h1)
  subst hc
  refine kk H1 (hR.push z1 o1 ?_) (gS_push hR hS z1 o1)
  show H1[n]? = some (vp_cell _ _)
  rw [vp_cell_i]
  exact e1
theorem g_newa3 (X : gCx p s m args meth c cc nL own ret G) (hR : gRep G h n H) (hS : va_S (gFr G) s.heap H locs) (harr : (Cond.arrayClass .boolean) ∈ lw_all) {k : Int32} (N : Nat) (hn : ¬ k < 0) (hN : k.toNatClampNeg = N) (hbytes : N * componentBytes .boolean ≤ 536870912) (hcells : cells + 1 ≤ R.cells ∧ slots + N ≤ R.slots) (hdg : decode cc pc = .ok (.newarray .boolean, 2))
    (kk : ∀ H1 : Heap, gRep G (va_up h n (some (.inl (3, N, .inl (fun _ => 0))))) (n + 1) H1 → va_S (gFr G) s.heap H1 locs → W p l e R s m args below meth c H1 locs (cells + 1) (slots + N) Q (F0 m (pc + 2) ls (.ref n :: rest))) : W p l e R s m args below meth c H locs cells slots Q (F0 m pc ls (.int k :: rest)) := by
  obtain ⟨⟨hx, hb, hml, hown, hts⟩, hK, hr, hlk⟩ := X
  refine va_newaK (atype := .boolean) hx hb (hts _ harr) rfl hdg rfl hn hN hbytes hcells.1 hcells.2 hR.1 fun H1 cA e1 z1 o1 hAr hNm => ?_
  have hc : cA = gA G 3 := by
    have h1 : s.vm.findClass ("[" ++ (gTy 3).toString) = some (gA G 3) := (hK.1.2 3 _ (gTys_at (by decide))).2
    exact Option.some.inj (hNm.symm.trans h1)
  subst hc
  refine kk H1 (hR.push z1 o1 ?_) (gS_push hR hS z1 o1)
  show H1[n]? = some (vp_cell _ _)
  rw [vp_cell_i]
  exact e1
theorem g_newa4 (X : gCx p s m args meth c cc nL own ret G) (hR : gRep G h n H) (hS : va_S (gFr G) s.heap H locs) (harr : (Cond.arrayClass .short) ∈ lw_all) {k : Int32} (N : Nat) (hn : ¬ k < 0) (hN : k.toNatClampNeg = N) (hbytes : N * componentBytes .short ≤ 536870912) (hcells : cells + 1 ≤ R.cells ∧ slots + N ≤ R.slots) (hdg : decode cc pc = .ok (.newarray .short, 2))
    (kk : ∀ H1 : Heap, gRep G (va_up h n (some (.inl (4, N, .inl (fun _ => 0))))) (n + 1) H1 → va_S (gFr G) s.heap H1 locs → W p l e R s m args below meth c H1 locs (cells + 1) (slots + N) Q (F0 m (pc + 2) ls (.ref n :: rest))) : W p l e R s m args below meth c H locs cells slots Q (F0 m pc ls (.int k :: rest)) := by
  obtain ⟨⟨hx, hb, hml, hown, hts⟩, hK, hr, hlk⟩ := X
  refine va_newaK (atype := .short) hx hb (hts _ harr) rfl hdg rfl hn hN hbytes hcells.1 hcells.2 hR.1 fun H1 cA e1 z1 o1 hAr hNm => ?_
  have hc : cA = gA G 4 := by
    have h1 : s.vm.findClass ("[" ++ (gTy 4).toString) = some (gA G 4) := (hK.1.2 4 _ (gTys_at (by decide))).2
    exact Option.some.inj (hNm.symm.trans h1)
  subst hc
  refine kk H1 (hR.push z1 o1 ?_) (gS_push hR hS z1 o1)
  show H1[n]? = some (vp_cell _ _)
  rw [vp_cell_i]
  exact e1
theorem g_newq (X : gCx p s m args meth c cc nL own ret G) (hR : gRep G h n H) (hS : va_S (gFr G) s.heap H locs) (t : Nat) (ht : t < 11) {C : String} (hC : gTy t = .object C) {index : Nat} (hclink : (Cond.classLink own index C) ∈ lw_all) (hover : (Cond.arrayOver (.object C)) ∈ lw_tbl) {k : Int32} (N : Nat) (hn : ¬ k < 0) (hN : k.toNatClampNeg = N) (hbytes : N * 4 ≤ 536870912) (hcells : cells + 1 ≤ R.cells ∧ slots + N ≤ R.slots) (hdg : decode cc pc = .ok (.anewarray index, 3))
    (kk : ∀ H1 : Heap, gRep G (va_up h n (some (.inl (t, N, .inr (.inr (.inr (.inr (fun _ => none)))))))) (n + 1) H1 → va_S (gFr G) s.heap H1 locs → W p l e R s m args below meth c H1 locs (cells + 1) (slots + N) Q (F0 m (pc + 3) ls (.ref n :: rest))) : W p l e R s m args below meth c H locs cells slots Q (F0 m pc ls (.int k :: rest)) := by
  obtain ⟨⟨hx, hb, hml, hown, hts⟩, hK, hr, hlk⟩ := X
  subst hN
  refine W.anew hx hb hown (hts _ hclink) (va_AO.use (hK.2.1 _ hover rfl)) rfl hdg rfl hn hbytes hcells.1 hcells.2 fun cA kA comp f1 f2 f3 f4 => ?_
  generalize hH1 : H.push ({ cls := cA, slots := Array.replicate k.toNatClampNeg .null, vm := .none } : Cell) = H1
  have z1 : H1.size = n + 1 := by rw [← hH1, Array.size_push, hR.1]
  have e1 : H1[n]? = some (arrV cA k.toNatClampNeg (fun _ => .null)) := by rw [← hH1, ← hR.1, Array.getElem?_push_size, ← arrV_new]
  have o1 : ∀ q : Nat, q < n → H1[q]? = H[q]? := fun q hq => by rw [← hH1, Array.getElem?_push, if_neg (by have := hR.1; omega)]
  have hc : cA = gA G t := by
    have h1 := (hK.1.2 t _ (gTys_at ht)).2
    rw [hC] at h1
    obtain ⟨_, _, _, _, _, h2⟩ := h1
    exact Option.some.inj (f1.symm.trans h2)
  subst hc
  have h9 := kk H1 (hR.push z1 o1 (by show H1[n]? = some (vp_cell _ _); rw [vp_cell_q]; exact e1)) (gS_push hR hS z1 o1)
  rw [hR.1]
  exact h9
/-- what a reference's store leaves -/
theorem gSr_rep (hR : gRep G h n H) {t N : Nat} {f : Nat → Option Nat} {i v : Nat} (he : h a = some (.inl (t, N, .inr (.inr (.inr (.inr f)))))) {H1 : Heap} (e1 : H1[a]? = some ((vp_cell (gA G t) (N, .inr (.inr (.inr (.inr f))))).setSlot i (.ref v))) (z : H1.size = H.size) (oq : ∀ q : Nat, q ≠ a → H1[q]? = H[q]?) : gRep G (va_up h a (some (.inl (t, N, .inr (.inr (.inr (.inr (va_up f i (some v))))))))) n H1 := by
  refine hR.set (hR.2.2 a _ he).1 z oq ?_
  show H1[a]? = some (vp_cell _ _)
  rw [e1]
  rw [vp_cell_q, vp_cell_q, arrV_store]
  congr 2
  funext q
  by_cases hq : q = i
  · subst hq
    simp [updV, va_up, va_rf]
  · simp [updV, va_up, hq]
theorem g_aast (X : gCx p s m args meth c cc nL own ret G) (hR : gRep G h n H) (hS : va_S (gFr G) s.heap H locs) (t ci : Nat) (ht : t < 11) {C : String} {T : u_T} {N0 : Nat} {ty : Nat → FieldType} (hC : gTy t = .object C) (ok : gOk ci C T N0 ty) {i : Int32} {v : Nat} {h1 : gH} (hf : gSr t ci h a i v = some h1) (hdg : decode cc pc = .ok (.aastore, 1))
    (kk : ∀ (H1 : Heap) (locs1 : List Loc), gRep G h1 n H1 → va_S (gFr G) s.heap H1 locs1 → W p l e R s m args below meth c H1 locs1 cells slots Q (F0 m (pc + 1) ls rest)) : W p l e R s m args below meth c H locs cells slots Q (F0 m pc ls (.ref v :: .int i :: .ref a :: rest)) := by
  obtain ⟨⟨hx, hb, hml, hown, hts⟩, hK, hr, hlk⟩ := X
  obtain ⟨N, f, he, hin, hv, rfl⟩ := gSr_spec hf
  obtain ⟨vs, hvs⟩ := gIs_spec hv
  have hlt : i.toNatClampNeg < N := Nat.not_le.mp fun q => hin (Or.inr q)
  have h0 : ¬ i < 0 := fun q => hin (Or.inl q)
  obtain ⟨r', hr', cellV, g1, g2, g3, -⟩ := (hR.2.2 v _ hvs).2
  have hcls := (hK.1.1 ci _ ok.2.2.2).2
  have hra := (hK.1.2 t _ (gTys_at ht)).2
  rw [hC] at hra
  obtain ⟨kA, comp, k1, k2, k3, -⟩ := hra
  have hcomp : comp = (gD G).1 ci := Option.some.inj (k3.symm.trans hcls.1)
  subst hcomp
  obtain ⟨kC, hkC, -⟩ := hcls.2
  have hc : H[a]? = some (vp_cell (gA G t) (N, .inr (.inr (.inr (.inr f))))) := (hR.2.2 a _ he).2
  refine W.aast hx hb hc (fun q h => by cases h) (fun h => by cases h) k1 k2 rfl hkC ⟨h0, by show _ < (arrV _ _ _).slots.size; rw [arrV_size]; exact hlt⟩ g1 (fun q h => by rw [g3] at h; cases h) (by rw [g2]; exact hkC) (by rw [g2]; exact va_assign hcls) rfl rfl hdg fun H1 e z oq => ?_
  exact kk H1 _ (gSr_rep hR he e z oq) (hS.put z oq (hR.2.2 a _ he).1)
theorem g_aastO (X : gCx p s m args meth c cc nL own ret G) (hR : gRep G h n H) (hS : va_S (gFr G) s.heap H locs) (t ci : Nat) (ht : t < 11) {C E : String} {T : u_T} {N0 : Nat} {ty : Nat → FieldType} (hC : gTy t = .object E) (ok : gOk ci C T N0 ty) (hca : (Cond.castable C E) ∈ lw_tbl) {i : Int32} {v : Nat} {h1 : gH} (hf : gSr t ci h a i v = some h1) (hdg : decode cc pc = .ok (.aastore, 1))
    (kk : ∀ (H1 : Heap) (locs1 : List Loc), gRep G h1 n H1 → va_S (gFr G) s.heap H1 locs1 → W p l e R s m args below meth c H1 locs1 cells slots Q (F0 m (pc + 1) ls rest)) : W p l e R s m args below meth c H locs cells slots Q (F0 m pc ls (.ref v :: .int i :: .ref a :: rest)) := by
  obtain ⟨⟨hx, hb, hml, hown, hts⟩, hK, hr, hlk⟩ := X
  obtain ⟨N, f, he, hin, hv, rfl⟩ := gSr_spec hf
  obtain ⟨vs, hvs⟩ := gIs_spec hv
  have hlt : i.toNatClampNeg < N := Nat.not_le.mp fun q => hin (Or.inr q)
  have h0 : ¬ i < 0 := fun q => hin (Or.inl q)
  obtain ⟨r', hr', cellV, g1, g2, g3, -⟩ := (hR.2.2 v _ hvs).2
  have hcls := (hK.1.1 ci _ ok.2.2.2).2
  have hra := (hK.1.2 t _ (gTys_at ht)).2
  rw [hC] at hra
  obtain ⟨kA, comp, k1, k2, k3, -⟩ := hra
  obtain ⟨kE, hkE, -⟩ := Vm.findClass_spec k3
  obtain ⟨c0, t1, f1, f2, f3⟩ := Cond.castable_spec (va_Nw.use (A := args) rfl (hK.2.1 _ hca rfl))
  cases hcls.1.symm.trans f1
  cases k3.symm.trans f2
  obtain ⟨kC, hkC, -⟩ := hcls.2
  have hc : H[a]? = some (vp_cell (gA G t) (N, .inr (.inr (.inr (.inr f))))) := (hR.2.2 a _ he).2
  refine W.aast hx hb hc (fun q h => by cases h) (fun h => by cases h) k1 k2 rfl hkE ⟨h0, by show _ < (arrV _ _ _).slots.size; rw [arrV_size]; exact hlt⟩ g1 (fun q h => by rw [g3] at h; cases h) (by rw [g2]; exact hkC) (by rw [g2]; exact f3) rfl rfl hdg fun H1 e z oq => ?_
  exact kk H1 _ (gSr_rep hR he e z oq) (hS.put z oq (hR.2.2 a _ he).1)
theorem g_iret (X : gCx p s m args meth c cc nL own ret G) (hR : gRep G h n H) (hS : va_S (gFr G) s.heap H locs) (v : Int32) (hr0 : ret = some .int) {mc ms : Nat} (hc : cells ≤ mc ∧ slots ≤ ms) (hdg : decode cc pc = .ok (.ireturn, 1)) :
    W p l e R s m args below meth c H locs cells slots (MQ below (gQ G (some (.int v)) h n) args s mc ms (gFr G)) (F0 m pc ls [.int v]) := by
  obtain ⟨⟨hx, hb, hml, hown, hts⟩, hK, hr, hlk⟩ := X
  subst hr0
  refine W.widen (k := mc) (n := ms) hc.1 hc.2 ?_
  exact W.iret (v := v) hx hb hr (fun t ht hW => ⟨⟨rfl, by rw [ht]; exact hR⟩, hS.F ht⟩) hS.2.2 hdg
theorem g_lret (X : gCx p s m args meth c cc nL own ret G) (hR : gRep G h n H) (hS : va_S (gFr G) s.heap H locs) (v : Int64) (hr0 : ret = some .long) {mc ms : Nat} (hc : cells ≤ mc ∧ slots ≤ ms) (hdg : decode cc pc = .ok (.lreturn, 1)) :
    W p l e R s m args below meth c H locs cells slots (MQ below (gQ G (some (.long v)) h n) args s mc ms (gFr G)) (F0 m pc ls [.long v]) := by
  obtain ⟨⟨hx, hb, hml, hown, hts⟩, hK, hr, hlk⟩ := X
  subst hr0
  refine W.widen (k := mc) (n := ms) hc.1 hc.2 ?_
  exact W.lret (v := v) hx hb hr (fun t ht hW => ⟨⟨rfl, by rw [ht]; exact hR⟩, hS.F ht⟩) hS.2.2 hdg
theorem g_vret (X : gCx p s m args meth c cc nL own ret G) (hR : gRep G h n H) (hS : va_S (gFr G) s.heap H locs)  (hr0 : ret = none) {mc ms : Nat} (hc : cells ≤ mc ∧ slots ≤ ms) (hdg : decode cc pc = .ok (.return_, 1)) :
    W p l e R s m args below meth c H locs cells slots (MQ below (gQ G (none) h n) args s mc ms (gFr G)) (F0 m pc ls []) := by
  obtain ⟨⟨hx, hb, hml, hown, hts⟩, hK, hr, hlk⟩ := X
  subst hr0
  refine W.widen (k := mc) (n := ms) hc.1 hc.2 ?_
  exact W.vret hx hb hr (fun t ht hW => ⟨⟨rfl, by rw [ht]; exact hR⟩, hS.F ht⟩) hS.2.2 hdg
theorem g_zret (X : gCx p s m args meth c cc nL own ret G) (hR : gRep G h n H) (hS : va_S (gFr G) s.heap H locs) (v : Int32) {ty : FieldType} (hr0 : ret = some ty) (hn : narrow ty (.int v) = .int v) {mc ms : Nat} (hc : cells ≤ mc ∧ slots ≤ ms) (hdg : decode cc pc = .ok (.ireturn, 1)) :
    W p l e R s m args below meth c H locs cells slots (MQ below (gQ G (some (.int v)) h n) args s mc ms (gFr G)) (F0 m pc ls [.int v]) := by
  obtain ⟨⟨hx, hb, hml, hown, hts⟩, hK, hr, hlk⟩ := X
  subst hr0
  refine W.widen (k := mc) (n := ms) hc.1 hc.2 ?_
  exact W.zret (v := v) hx hb hr hn (fun t ht hW => ⟨⟨rfl, by rw [ht]; exact hR⟩, hS.F ht⟩) hS.2.2 hdg
theorem g_aret (X : gCx p s m args meth c cc nL own ret G) (hR : gRep G h n H) (hS : va_S (gFr G) s.heap H locs) (v : Nat) {C : String} (hr0 : ret = some (.object C)) {mc ms : Nat} (hc : cells ≤ mc ∧ slots ≤ ms) (hdg : decode cc pc = .ok (.areturn, 1)) :
    W p l e R s m args below meth c H locs cells slots (MQ below (gQ G (some (.ref v)) h n) args s mc ms (gFr G)) (F0 m pc ls [.ref v]) := by
  obtain ⟨⟨hx, hb, hml, hown, hts⟩, hK, hr, hlk⟩ := X
  subst hr0
  refine W.widen (k := mc) (n := ms) hc.1 hc.2 ?_
  exact W.aret (v := .ref v) hx hb hr (Or.inl ⟨C, rfl⟩) (Or.inr ⟨v, rfl⟩) (fun t ht hW => ⟨⟨rfl, by rw [ht]; exact hR⟩, hS.F ht⟩) hS.2.2 hdg
/-- behind a call -/
theorem g_call {rv : Option Value} {h' : gH} {n' mc ms : Nat} {st0 : List Value} {a' : Array Value} (hr : va_Run p l e R s m args below meth c H locs cells slots mc ms (F0 m pc ls st0) rest (gQ G rv h' n' a') (gFr G)) (hS : va_S (gFr G) s.heap H locs)
    (kk : ∀ (H1 : Heap) (locs1 : List Loc), gRep G h' n' H1 → va_S (gFr G) s.heap H1 locs1 → W p l e R s m args below meth c H1 locs1 (cells + mc) (slots + ms) Q (F0 m (pc + 3) ls (rv.toList ++ rest))) : W p l e R s m args below meth c H locs cells slots Q (F0 m pc ls st0) := by
  intro T hT X
  obtain ⟨v, st₀, t, T', L, h0, X', hL, e1, e2, ⟨⟨hv, hp⟩, hz, hk⟩, st⟩ := hr T hT X
  cases hv
  rw [h0] at hz hk
  obtain ⟨t2, a1, b1⟩ := kk T'.heap (locs ++ L) (by rw [e1]; exact hp)
    ⟨Nat.le_trans hS.1 (by rw [e1]; exact hz), fun q h1 h2 => by rw [e1, hk q (Nat.lt_of_lt_of_le h1 hS.1) h2]; exact hS.2.1 q h1 h2, fun q hq => by
      rcases List.mem_append.mp hq with h | h
      · exact hS.2.2 q h
      · exact hL q h⟩ T' rfl X'
  exact ⟨t2, st t2 a1, b1⟩
abbrev gHd (y : MethodName) (nn : Nat) : Prop := y.cls ≠ "java/lang/invoke/MethodHandle" ∧ y.cls ≠ "java/lang/invoke/VarHandle" ∧ (parseMethodDescriptor y.desc).map (fun d => d.parameters.length) = some nn
/-- what the tables say of an instance method of the class ci -/
def gVk (y : MethodName) (bytes : ByteArray) (maxL : Nat) (ret : Option FieldType) (nn ci : Nat) : Prop := Cond.instanceMethod y ∈ lw_all ∧ Cond.selects y.cls y y ∈ lw_all ∧ Cond.initialized y.cls ∈ lw_all ∧ Cond.code y bytes maxL ret ∈ lw_all ∧ gHd y nn ∧ (gCl[ci]?).map (fun q => q.1) = some y.cls
def gSk (y : MethodName) (bytes : ByteArray) (maxL : Nat) (ret : Option FieldType) (nn : Nat) : Prop := Cond.static y ∈ lw_all ∧ Cond.initialized y.cls ∈ lw_all ∧ Cond.code y bytes maxL ret ∈ lw_all ∧ gHd y nn
def gIk (y : MethodName) (bytes : ByteArray) (maxL : Nat) (nn : Nat) : Prop := Cond.instanceMethod y ∈ lw_all ∧ y.name = "<init>" ∧ Cond.initialized y.cls ∈ lw_all ∧ Cond.code y bytes maxL none ∈ lw_all ∧ gHd y nn
theorem gRecv (hK : gK G s) (hR : gRep G h n H) {ci b : Nat} {C : String} (hci : (gCl[ci]?).map (fun q => q.1) = some C) (hrec : gIs ci h b = true) : ∃ cell : Cell, H[b]? = some cell ∧ cell.vm.isStatics = false ∧ s.vm.findClass C = some cell.cls := by
  obtain ⟨fs, he⟩ := gIs_spec hrec
  cases hq : gCl[ci]? with
  | none => rw [hq] at hci; cases hci
  | some q =>
    rw [hq] at hci
    have hC : q.1 = C := Option.some.inj hci
    subst hC
    exact va_recv hK.1 (gP1 hR he) hq (q0 := 0) rfl
theorem g_callVv (X : gCx p s m args meth c cc nL own ret G) (hR : gRep G h n H) (hS : va_S (gFr G) s.heap H locs) {y : MethodName} {bytes : ByteArray} {maxL fr lo mc ms nn ci b index : Nat} {ret2 : Option FieldType} (As : List Value) {rest st0 : List Value} {h' : gH} {n' : Nat} (hM : gMet l G y bytes maxL ret2 fr lo mc ms (.ref b :: As) h n (none) h' n') (yk : gVk y bytes maxL ret2 nn ci) (hlink : Cond.methodLink own index y ∈ lw_all) (hrec : gIs ci h b = true) (hn : As.length = nn) (hl : ls.size = nL) (hrm : fr + 1 ≤ R.frames ∧ 8 + (maxL + 11) + lo ≤ R.locals) (hcs : cells + mc ≤ R.cells ∧ slots + ms ≤ R.slots) (hst : st0 = As.reverse ++ .ref b :: rest) (hroom : (rest.map fun v => v.category).sum ≤ 8) (hdg : decode cc pc = .ok (.invokevirtual index, 3))
    (kk : ∀ (H1 : Heap) (locs1 : List Loc), gRep G h' n' H1 → va_S (gFr G) s.heap H1 locs1 → W p l e R s m args below meth c H1 locs1 (cells + mc) (slots + ms) Q (F0 m (pc + 3) ls rest)) : W p l e R s m args below meth c H locs cells slots Q (F0 m pc ls st0) := by
  obtain ⟨S, hK, hr, hlk⟩ := X
  obtain ⟨k1, k2, k3, k4, k5, k6⟩ := yk
  exact g_call (va_runV (As := As) (rest := rest) S hM (cwV nn S.2.2.2.2 (lw_V hlink k1 k2 k3 k4) rfl rfl rfl ⟨rfl, k5⟩ hrm) ⟨gBlind, gRecv hK hR k6 hrec, fun U hU hW => ⟨rfl, by rw [hU]; exact hR, hK.call hS hU hW⟩⟩ rfl hn hl hst (lv_room hroom) hdg hcs) hS kk
theorem g_callSv (X : gCx p s m args meth c cc nL own ret G) (hR : gRep G h n H) (hS : va_S (gFr G) s.heap H locs) {y : MethodName} {bytes : ByteArray} {maxL fr lo mc ms nn index : Nat} {ret2 : Option FieldType} (As : List Value) {rest st0 : List Value} {h' : gH} {n' : Nat} (hM : gMet l G y bytes maxL ret2 fr lo mc ms As h n (none) h' n') (yk : gSk y bytes maxL ret2 nn) (hlink : Cond.methodLink own index y ∈ lw_all) (hn : As.length = nn) (hl : ls.size = nL) (hrm : fr + 1 ≤ R.frames ∧ 8 + (maxL + 11) + lo ≤ R.locals) (hcs : cells + mc ≤ R.cells ∧ slots + ms ≤ R.slots) (hst : st0 = As.reverse ++ rest) (hroom : (rest.map fun v => v.category).sum ≤ 8) (hdg : decode cc pc = .ok (.invokestatic index, 3))
    (kk : ∀ (H1 : Heap) (locs1 : List Loc), gRep G h' n' H1 → va_S (gFr G) s.heap H1 locs1 → W p l e R s m args below meth c H1 locs1 (cells + mc) (slots + ms) Q (F0 m (pc + 3) ls rest)) : W p l e R s m args below meth c H locs cells slots Q (F0 m pc ls st0) := by
  obtain ⟨S, hK, hr, hlk⟩ := X
  obtain ⟨k1, k2, k3, k4⟩ := yk
  exact g_call (va_runS (As := As) (rest := rest) S hM (va_cwS nn S.2.2.2.2 (lw_S hlink k1 k2 k3) rfl rfl rfl k4 hrm) ⟨gBlind, fun U hU hW => ⟨rfl, by rw [hU]; exact hR, hK.call hS hU hW⟩⟩ rfl hn hl hst (lv_room hroom) hdg hcs) hS kk
theorem g_callSNv (X : gCx p s m args meth c cc nL own ret G) (hR : gRep G h n H) (hS : va_S (gFr G) s.heap H locs) {y : MethodName} {host : String} {bytes : ByteArray} {maxL fr lo mc ms nn index : Nat} {ret2 : Option FieldType} (As : List Value) {rest st0 : List Value} {h' : gH} {n' : Nat} (hM : gMet l G y bytes maxL ret2 fr lo mc ms As h n (none) h' n') (yk : gSk y bytes maxL ret2 nn) (hlink : Cond.methodLinkNest own index y host ∈ lw_tbl) (hn : As.length = nn) (hl : ls.size = nL) (hrm : fr + 1 ≤ R.frames ∧ 8 + (maxL + 11) + lo ≤ R.locals) (hcs : cells + mc ≤ R.cells ∧ slots + ms ≤ R.slots) (hst : st0 = As.reverse ++ rest) (hroom : (rest.map fun v => v.category).sum ≤ 8) (hdg : decode cc pc = .ok (.invokestatic index, 3))
    (kk : ∀ (H1 : Heap) (locs1 : List Loc), gRep G h' n' H1 → va_S (gFr G) s.heap H1 locs1 → W p l e R s m args below meth c H1 locs1 (cells + mc) (slots + ms) Q (F0 m (pc + 3) ls rest)) : W p l e R s m args below meth c H locs cells slots Q (F0 m pc ls st0) := by
  obtain ⟨S, hK, hr, hlk⟩ := X
  obtain ⟨k1, k2, k3, k4⟩ := yk
  exact g_call (va_runSN (As := As) (rest := rest) S hM ⟨va_cnB nn S.2.2.2.2 (lw_meth k3) rfl rfl rfl (hK.2.1 _ hlink rfl) (S.2.2.2.2 _ k2) k4 hrm, S.2.2.2.2 _ k1, trivial⟩ ⟨gBlind, fun U hU hW => ⟨rfl, by rw [hU]; exact hR, hK.call hS hU hW⟩⟩ rfl hn hl hst (lv_room hroom) hdg hcs) hS kk
theorem g_callVi (X : gCx p s m args meth c cc nL own ret G) (hR : gRep G h n H) (hS : va_S (gFr G) s.heap H locs) {y : MethodName} {bytes : ByteArray} {maxL fr lo mc ms nn ci b index : Nat} {ret2 : Option FieldType} (As : List Value) {rest st0 : List Value} {r : Int32} {h' : gH} {n' : Nat} (hM : gMet l G y bytes maxL ret2 fr lo mc ms (.ref b :: As) h n (some (.int r)) h' n') (yk : gVk y bytes maxL ret2 nn ci) (hlink : Cond.methodLink own index y ∈ lw_all) (hrec : gIs ci h b = true) (hn : As.length = nn) (hl : ls.size = nL) (hrm : fr + 1 ≤ R.frames ∧ 8 + (maxL + 11) + lo ≤ R.locals) (hcs : cells + mc ≤ R.cells ∧ slots + ms ≤ R.slots) (hst : st0 = As.reverse ++ .ref b :: rest) (hroom : (rest.map fun v => v.category).sum ≤ 8) (hdg : decode cc pc = .ok (.invokevirtual index, 3))
    (kk : ∀ (H1 : Heap) (locs1 : List Loc), gRep G h' n' H1 → va_S (gFr G) s.heap H1 locs1 → W p l e R s m args below meth c H1 locs1 (cells + mc) (slots + ms) Q (F0 m (pc + 3) ls (.int r :: rest))) : W p l e R s m args below meth c H locs cells slots Q (F0 m pc ls st0) := by
  obtain ⟨S, hK, hr, hlk⟩ := X
  obtain ⟨k1, k2, k3, k4, k5, k6⟩ := yk
  exact g_call (va_runV (As := As) (rest := rest) S hM (cwV nn S.2.2.2.2 (lw_V hlink k1 k2 k3 k4) rfl rfl rfl ⟨rfl, k5⟩ hrm) ⟨gBlind, gRecv hK hR k6 hrec, fun U hU hW => ⟨rfl, by rw [hU]; exact hR, hK.call hS hU hW⟩⟩ rfl hn hl hst (lv_room hroom) hdg hcs) hS kk
theorem g_callSi (X : gCx p s m args meth c cc nL own ret G) (hR : gRep G h n H) (hS : va_S (gFr G) s.heap H locs) {y : MethodName} {bytes : ByteArray} {maxL fr lo mc ms nn index : Nat} {ret2 : Option FieldType} (As : List Value) {rest st0 : List Value} {r : Int32} {h' : gH} {n' : Nat} (hM : gMet l G y bytes maxL ret2 fr lo mc ms As h n (some (.int r)) h' n') (yk : gSk y bytes maxL ret2 nn) (hlink : Cond.methodLink own index y ∈ lw_all) (hn : As.length = nn) (hl : ls.size = nL) (hrm : fr + 1 ≤ R.frames ∧ 8 + (maxL + 11) + lo ≤ R.locals) (hcs : cells + mc ≤ R.cells ∧ slots + ms ≤ R.slots) (hst : st0 = As.reverse ++ rest) (hroom : (rest.map fun v => v.category).sum ≤ 8) (hdg : decode cc pc = .ok (.invokestatic index, 3))
    (kk : ∀ (H1 : Heap) (locs1 : List Loc), gRep G h' n' H1 → va_S (gFr G) s.heap H1 locs1 → W p l e R s m args below meth c H1 locs1 (cells + mc) (slots + ms) Q (F0 m (pc + 3) ls (.int r :: rest))) : W p l e R s m args below meth c H locs cells slots Q (F0 m pc ls st0) := by
  obtain ⟨S, hK, hr, hlk⟩ := X
  obtain ⟨k1, k2, k3, k4⟩ := yk
  exact g_call (va_runS (As := As) (rest := rest) S hM (va_cwS nn S.2.2.2.2 (lw_S hlink k1 k2 k3) rfl rfl rfl k4 hrm) ⟨gBlind, fun U hU hW => ⟨rfl, by rw [hU]; exact hR, hK.call hS hU hW⟩⟩ rfl hn hl hst (lv_room hroom) hdg hcs) hS kk
theorem g_callSNi (X : gCx p s m args meth c cc nL own ret G) (hR : gRep G h n H) (hS : va_S (gFr G) s.heap H locs) {y : MethodName} {host : String} {bytes : ByteArray} {maxL fr lo mc ms nn index : Nat} {ret2 : Option FieldType} (As : List Value) {rest st0 : List Value} {r : Int32} {h' : gH} {n' : Nat} (hM : gMet l G y bytes maxL ret2 fr lo mc ms As h n (some (.int r)) h' n') (yk : gSk y bytes maxL ret2 nn) (hlink : Cond.methodLinkNest own index y host ∈ lw_tbl) (hn : As.length = nn) (hl : ls.size = nL) (hrm : fr + 1 ≤ R.frames ∧ 8 + (maxL + 11) + lo ≤ R.locals) (hcs : cells + mc ≤ R.cells ∧ slots + ms ≤ R.slots) (hst : st0 = As.reverse ++ rest) (hroom : (rest.map fun v => v.category).sum ≤ 8) (hdg : decode cc pc = .ok (.invokestatic index, 3))
    (kk : ∀ (H1 : Heap) (locs1 : List Loc), gRep G h' n' H1 → va_S (gFr G) s.heap H1 locs1 → W p l e R s m args below meth c H1 locs1 (cells + mc) (slots + ms) Q (F0 m (pc + 3) ls (.int r :: rest))) : W p l e R s m args below meth c H locs cells slots Q (F0 m pc ls st0) := by
  obtain ⟨S, hK, hr, hlk⟩ := X
  obtain ⟨k1, k2, k3, k4⟩ := yk
  exact g_call (va_runSN (As := As) (rest := rest) S hM ⟨va_cnB nn S.2.2.2.2 (lw_meth k3) rfl rfl rfl (hK.2.1 _ hlink rfl) (S.2.2.2.2 _ k2) k4 hrm, S.2.2.2.2 _ k1, trivial⟩ ⟨gBlind, fun U hU hW => ⟨rfl, by rw [hU]; exact hR, hK.call hS hU hW⟩⟩ rfl hn hl hst (lv_room hroom) hdg hcs) hS kk
theorem g_callVl (X : gCx p s m args meth c cc nL own ret G) (hR : gRep G h n H) (hS : va_S (gFr G) s.heap H locs) {y : MethodName} {bytes : ByteArray} {maxL fr lo mc ms nn ci b index : Nat} {ret2 : Option FieldType} (As : List Value) {rest st0 : List Value} {r : Int64} {h' : gH} {n' : Nat} (hM : gMet l G y bytes maxL ret2 fr lo mc ms (.ref b :: As) h n (some (.long r)) h' n') (yk : gVk y bytes maxL ret2 nn ci) (hlink : Cond.methodLink own index y ∈ lw_all) (hrec : gIs ci h b = true) (hn : As.length = nn) (hl : ls.size = nL) (hrm : fr + 1 ≤ R.frames ∧ 8 + (maxL + 11) + lo ≤ R.locals) (hcs : cells + mc ≤ R.cells ∧ slots + ms ≤ R.slots) (hst : st0 = As.reverse ++ .ref b :: rest) (hroom : (rest.map fun v => v.category).sum ≤ 8) (hdg : decode cc pc = .ok (.invokevirtual index, 3))
    (kk : ∀ (H1 : Heap) (locs1 : List Loc), gRep G h' n' H1 → va_S (gFr G) s.heap H1 locs1 → W p l e R s m args below meth c H1 locs1 (cells + mc) (slots + ms) Q (F0 m (pc + 3) ls (.long r :: rest))) : W p l e R s m args below meth c H locs cells slots Q (F0 m pc ls st0) := by
  obtain ⟨S, hK, hr, hlk⟩ := X
  obtain ⟨k1, k2, k3, k4, k5, k6⟩ := yk
  exact g_call (va_runV (As := As) (rest := rest) S hM (cwV nn S.2.2.2.2 (lw_V hlink k1 k2 k3 k4) rfl rfl rfl ⟨rfl, k5⟩ hrm) ⟨gBlind, gRecv hK hR k6 hrec, fun U hU hW => ⟨rfl, by rw [hU]; exact hR, hK.call hS hU hW⟩⟩ rfl hn hl hst (lv_room hroom) hdg hcs) hS kk
theorem g_callSl (X : gCx p s m args meth c cc nL own ret G) (hR : gRep G h n H) (hS : va_S (gFr G) s.heap H locs) {y : MethodName} {bytes : ByteArray} {maxL fr lo mc ms nn index : Nat} {ret2 : Option FieldType} (As : List Value) {rest st0 : List Value} {r : Int64} {h' : gH} {n' : Nat} (hM : gMet l G y bytes maxL ret2 fr lo mc ms As h n (some (.long r)) h' n') (yk : gSk y bytes maxL ret2 nn) (hlink : Cond.methodLink own index y ∈ lw_all) (hn : As.length = nn) (hl : ls.size = nL) (hrm : fr + 1 ≤ R.frames ∧ 8 + (maxL + 11) + lo ≤ R.locals) (hcs : cells + mc ≤ R.cells ∧ slots + ms ≤ R.slots) (hst : st0 = As.reverse ++ rest) (hroom : (rest.map fun v => v.category).sum ≤ 8) (hdg : decode cc pc = .ok (.invokestatic index, 3))
    (kk : ∀ (H1 : Heap) (locs1 : List Loc), gRep G h' n' H1 → va_S (gFr G) s.heap H1 locs1 → W p l e R s m args below meth c H1 locs1 (cells + mc) (slots + ms) Q (F0 m (pc + 3) ls (.long r :: rest))) : W p l e R s m args below meth c H locs cells slots Q (F0 m pc ls st0) := by
  obtain ⟨S, hK, hr, hlk⟩ := X
  obtain ⟨k1, k2, k3, k4⟩ := yk
  exact g_call (va_runS (As := As) (rest := rest) S hM (va_cwS nn S.2.2.2.2 (lw_S hlink k1 k2 k3) rfl rfl rfl k4 hrm) ⟨gBlind, fun U hU hW => ⟨rfl, by rw [hU]; exact hR, hK.call hS hU hW⟩⟩ rfl hn hl hst (lv_room hroom) hdg hcs) hS kk
theorem g_callSNl (X : gCx p s m args meth c cc nL own ret G) (hR : gRep G h n H) (hS : va_S (gFr G) s.heap H locs) {y : MethodName} {host : String} {bytes : ByteArray} {maxL fr lo mc ms nn index : Nat} {ret2 : Option FieldType} (As : List Value) {rest st0 : List Value} {r : Int64} {h' : gH} {n' : Nat} (hM : gMet l G y bytes maxL ret2 fr lo mc ms As h n (some (.long r)) h' n') (yk : gSk y bytes maxL ret2 nn) (hlink : Cond.methodLinkNest own index y host ∈ lw_tbl) (hn : As.length = nn) (hl : ls.size = nL) (hrm : fr + 1 ≤ R.frames ∧ 8 + (maxL + 11) + lo ≤ R.locals) (hcs : cells + mc ≤ R.cells ∧ slots + ms ≤ R.slots) (hst : st0 = As.reverse ++ rest) (hroom : (rest.map fun v => v.category).sum ≤ 8) (hdg : decode cc pc = .ok (.invokestatic index, 3))
    (kk : ∀ (H1 : Heap) (locs1 : List Loc), gRep G h' n' H1 → va_S (gFr G) s.heap H1 locs1 → W p l e R s m args below meth c H1 locs1 (cells + mc) (slots + ms) Q (F0 m (pc + 3) ls (.long r :: rest))) : W p l e R s m args below meth c H locs cells slots Q (F0 m pc ls st0) := by
  obtain ⟨S, hK, hr, hlk⟩ := X
  obtain ⟨k1, k2, k3, k4⟩ := yk
  exact g_call (va_runSN (As := As) (rest := rest) S hM ⟨va_cnB nn S.2.2.2.2 (lw_meth k3) rfl rfl rfl (hK.2.1 _ hlink rfl) (S.2.2.2.2 _ k2) k4 hrm, S.2.2.2.2 _ k1, trivial⟩ ⟨gBlind, fun U hU hW => ⟨rfl, by rw [hU]; exact hR, hK.call hS hU hW⟩⟩ rfl hn hl hst (lv_room hroom) hdg hcs) hS kk
theorem g_callVr (X : gCx p s m args meth c cc nL own ret G) (hR : gRep G h n H) (hS : va_S (gFr G) s.heap H locs) {y : MethodName} {bytes : ByteArray} {maxL fr lo mc ms nn ci b index : Nat} {ret2 : Option FieldType} (As : List Value) {rest st0 : List Value} {r : Nat} {h' : gH} {n' : Nat} (hM : gMet l G y bytes maxL ret2 fr lo mc ms (.ref b :: As) h n (some (.ref r)) h' n') (yk : gVk y bytes maxL ret2 nn ci) (hlink : Cond.methodLink own index y ∈ lw_all) (hrec : gIs ci h b = true) (hn : As.length = nn) (hl : ls.size = nL) (hrm : fr + 1 ≤ R.frames ∧ 8 + (maxL + 11) + lo ≤ R.locals) (hcs : cells + mc ≤ R.cells ∧ slots + ms ≤ R.slots) (hst : st0 = As.reverse ++ .ref b :: rest) (hroom : (rest.map fun v => v.category).sum ≤ 8) (hdg : decode cc pc = .ok (.invokevirtual index, 3))
    (kk : ∀ (H1 : Heap) (locs1 : List Loc), gRep G h' n' H1 → va_S (gFr G) s.heap H1 locs1 → W p l e R s m args below meth c H1 locs1 (cells + mc) (slots + ms) Q (F0 m (pc + 3) ls (.ref r :: rest))) : W p l e R s m args below meth c H locs cells slots Q (F0 m pc ls st0) := by
  obtain ⟨S, hK, hr, hlk⟩ := X
  obtain ⟨k1, k2, k3, k4, k5, k6⟩ := yk
  exact g_call (va_runV (As := As) (rest := rest) S hM (cwV nn S.2.2.2.2 (lw_V hlink k1 k2 k3 k4) rfl rfl rfl ⟨rfl, k5⟩ hrm) ⟨gBlind, gRecv hK hR k6 hrec, fun U hU hW => ⟨rfl, by rw [hU]; exact hR, hK.call hS hU hW⟩⟩ rfl hn hl hst (lv_room hroom) hdg hcs) hS kk
theorem g_callSr (X : gCx p s m args meth c cc nL own ret G) (hR : gRep G h n H) (hS : va_S (gFr G) s.heap H locs) {y : MethodName} {bytes : ByteArray} {maxL fr lo mc ms nn index : Nat} {ret2 : Option FieldType} (As : List Value) {rest st0 : List Value} {r : Nat} {h' : gH} {n' : Nat} (hM : gMet l G y bytes maxL ret2 fr lo mc ms As h n (some (.ref r)) h' n') (yk : gSk y bytes maxL ret2 nn) (hlink : Cond.methodLink own index y ∈ lw_all) (hn : As.length = nn) (hl : ls.size = nL) (hrm : fr + 1 ≤ R.frames ∧ 8 + (maxL + 11) + lo ≤ R.locals) (hcs : cells + mc ≤ R.cells ∧ slots + ms ≤ R.slots) (hst : st0 = As.reverse ++ rest) (hroom : (rest.map fun v => v.category).sum ≤ 8) (hdg : decode cc pc = .ok (.invokestatic index, 3))
    (kk : ∀ (H1 : Heap) (locs1 : List Loc), gRep G h' n' H1 → va_S (gFr G) s.heap H1 locs1 → W p l e R s m args below meth c H1 locs1 (cells + mc) (slots + ms) Q (F0 m (pc + 3) ls (.ref r :: rest))) : W p l e R s m args below meth c H locs cells slots Q (F0 m pc ls st0) := by
  obtain ⟨S, hK, hr, hlk⟩ := X
  obtain ⟨k1, k2, k3, k4⟩ := yk
  exact g_call (va_runS (As := As) (rest := rest) S hM (va_cwS nn S.2.2.2.2 (lw_S hlink k1 k2 k3) rfl rfl rfl k4 hrm) ⟨gBlind, fun U hU hW => ⟨rfl, by rw [hU]; exact hR, hK.call hS hU hW⟩⟩ rfl hn hl hst (lv_room hroom) hdg hcs) hS kk
theorem g_callSNr (X : gCx p s m args meth c cc nL own ret G) (hR : gRep G h n H) (hS : va_S (gFr G) s.heap H locs) {y : MethodName} {host : String} {bytes : ByteArray} {maxL fr lo mc ms nn index : Nat} {ret2 : Option FieldType} (As : List Value) {rest st0 : List Value} {r : Nat} {h' : gH} {n' : Nat} (hM : gMet l G y bytes maxL ret2 fr lo mc ms As h n (some (.ref r)) h' n') (yk : gSk y bytes maxL ret2 nn) (hlink : Cond.methodLinkNest own index y host ∈ lw_tbl) (hn : As.length = nn) (hl : ls.size = nL) (hrm : fr + 1 ≤ R.frames ∧ 8 + (maxL + 11) + lo ≤ R.locals) (hcs : cells + mc ≤ R.cells ∧ slots + ms ≤ R.slots) (hst : st0 = As.reverse ++ rest) (hroom : (rest.map fun v => v.category).sum ≤ 8) (hdg : decode cc pc = .ok (.invokestatic index, 3))
    (kk : ∀ (H1 : Heap) (locs1 : List Loc), gRep G h' n' H1 → va_S (gFr G) s.heap H1 locs1 → W p l e R s m args below meth c H1 locs1 (cells + mc) (slots + ms) Q (F0 m (pc + 3) ls (.ref r :: rest))) : W p l e R s m args below meth c H locs cells slots Q (F0 m pc ls st0) := by
  obtain ⟨S, hK, hr, hlk⟩ := X
  obtain ⟨k1, k2, k3, k4⟩ := yk
  exact g_call (va_runSN (As := As) (rest := rest) S hM ⟨va_cnB nn S.2.2.2.2 (lw_meth k3) rfl rfl rfl (hK.2.1 _ hlink rfl) (S.2.2.2.2 _ k2) k4 hrm, S.2.2.2.2 _ k1, trivial⟩ ⟨gBlind, fun U hU hW => ⟨rfl, by rw [hU]; exact hR, hK.call hS hU hW⟩⟩ rfl hn hl hst (lv_room hroom) hdg hcs) hS kk
theorem g_callI (X : gCx p s m args meth c cc nL own ret G) (hR : gRep G h n H) (hS : va_S (gFr G) s.heap H locs) {y : MethodName} {bytes : ByteArray} {maxL fr lo mc ms nn b index : Nat} (As : List Value) {rest st0 : List Value} {h' : gH} {n' : Nat} (hM : gMet l G y bytes maxL none fr lo mc ms (.ref b :: As) h n none h' n') (yk : gIk y bytes maxL nn) (hlink : Cond.methodLink own index y ∈ lw_all) (hn : As.length = nn) (hl : ls.size = nL) (hrm : fr + 1 ≤ R.frames ∧ 8 + (maxL + 11) + lo ≤ R.locals) (hcs : cells + mc ≤ R.cells ∧ slots + ms ≤ R.slots) (hst : st0 = As.reverse ++ .ref b :: rest) (hroom : (rest.map fun v => v.category).sum ≤ 8) (hdg : decode cc pc = .ok (.invokespecial index, 3))
    (kk : ∀ (H1 : Heap) (locs1 : List Loc), gRep G h' n' H1 → va_S (gFr G) s.heap H1 locs1 → W p l e R s m args below meth c H1 locs1 (cells + mc) (slots + ms) Q (F0 m (pc + 3) ls rest)) : W p l e R s m args below meth c H locs cells slots Q (F0 m pc ls st0) := by
  obtain ⟨S, hK, hr, hlk⟩ := X
  obtain ⟨k1, k2, k3, k4, k5⟩ := yk
  exact g_call (va_runI (As := As) (rest := rest) S hM (cwI nn S.2.2.2.2 (lw_meth k4) rfl rfl rfl (S.2.2.2.2 _ k3) (S.2.2.2.2 _ hlink) (S.2.2.2.2 _ k1) k2 k5 hrm) ⟨gBlind, fun U hU hW => ⟨rfl, by rw [hU]; exact hR, hK.call hS hU hW⟩⟩ rfl hn hl hst (lv_room hroom) hdg hcs) hS kk
theorem g_callIN (X : gCx p s m args meth c cc nL own ret G) (hR : gRep G h n H) (hS : va_S (gFr G) s.heap H locs) {y : MethodName} {host : String} {bytes : ByteArray} {maxL fr lo mc ms nn b index : Nat} (As : List Value) {rest st0 : List Value} {h' : gH} {n' : Nat} (hM : gMet l G y bytes maxL none fr lo mc ms (.ref b :: As) h n none h' n') (yk : gIk y bytes maxL nn) (hlink : Cond.methodLinkNest own index y host ∈ lw_tbl) (hn : As.length = nn) (hl : ls.size = nL) (hrm : fr + 1 ≤ R.frames ∧ 8 + (maxL + 11) + lo ≤ R.locals) (hcs : cells + mc ≤ R.cells ∧ slots + ms ≤ R.slots) (hst : st0 = As.reverse ++ .ref b :: rest) (hroom : (rest.map fun v => v.category).sum ≤ 8) (hdg : decode cc pc = .ok (.invokespecial index, 3))
    (kk : ∀ (H1 : Heap) (locs1 : List Loc), gRep G h' n' H1 → va_S (gFr G) s.heap H1 locs1 → W p l e R s m args below meth c H1 locs1 (cells + mc) (slots + ms) Q (F0 m (pc + 3) ls rest)) : W p l e R s m args below meth c H locs cells slots Q (F0 m pc ls st0) := by
  obtain ⟨S, hK, hr, hlk⟩ := X
  obtain ⟨k1, k2, k3, k4, k5⟩ := yk
  exact g_call (va_runIN (As := As) (rest := rest) S hM ⟨va_cnB nn S.2.2.2.2 (lw_meth k4) rfl rfl rfl (hK.2.1 _ hlink rfl) (S.2.2.2.2 _ k3) k5 hrm, k2, S.2.2.2.2 _ k1⟩ ⟨gBlind, fun U hU hW => ⟨rfl, by rw [hU]; exact hR, hK.call hS hU hW⟩⟩ rfl hn hl hst (lv_room hroom) hdg hcs) hS kk
theorem g_objInit (X : gCx p s m args meth c cc nL own ret G) {idx b : Nat} {rest : List Value} (q1 : Cond.methodLink own idx Lib.objectInit ∈ lw_all) (q2 : Cond.instanceMethod Lib.objectInit ∈ lw_all) (q3 : Cond.code Lib.objectInit ⟨#[0xb1]⟩ 1 none ∈ lw_all) (hl : ls.size = nL) (hrm : 1 ≤ R.frames ∧ 20 ≤ R.locals) (hroom : (rest.map fun v => v.category).sum ≤ 8) (hdg : decode cc pc = .ok (.invokespecial idx, 3))
    (kk : W p l e R s m args below meth c H locs cells slots Q (F0 m (pc + 3) ls rest)) : W p l e R s m args below meth c H locs cells slots Q (F0 m pc ls (.ref b :: rest)) := by
  obtain ⟨⟨hx, hb, hml, hown, hts⟩, hK, hr, hlk⟩ := X
  have h9 := lv_room (m := m) (pc := pc) (ls := ls) (rest := .ref b :: rest) hroom
  exact W.objInit hx hb hown (hts _ q1) (hts _ q2) (hts _ q3) rfl (by rw [hml]; exact hl) rfl hdg hrm.1 (by have := hrm.2; omega) kk
end G3
/-! the classes, each with its fields' words -/
theorem gk_X0 : gOk 0 RX0 TX0 10 tyX0 := ⟨in_X0, tyX0_ok, nmX0, rfl⟩
theorem gk_X1 : gOk 1 RX1 TX1 30 tyX1 := ⟨in_X1, tyX1_ok, nmX1, rfl⟩
theorem gk_X2 : gOk 2 RX2 TX2 12 tyX2 := ⟨in_X2, tyX2_ok, nmX2, rfl⟩
theorem gk_X4 : gOk 3 RX4 TX4 3 tyX4 := ⟨in_X4, tyX4_ok, nmX4, rfl⟩
theorem gk_X5 : gOk 4 RX5 TX5 3 tyX5 := ⟨in_X5, tyX5_ok, nmX5, rfl⟩
theorem gk_X6 : gOk 5 RX6 TX6 1 tyX6 := ⟨in_X6, tyX6_ok, nmX6, rfl⟩
theorem gk_X8 : gOk 6 RX8 TX8 1 tyX8 := ⟨in_X8, tyX8_ok, nmX8, rfl⟩
theorem gk_X9 : gOk 7 RX9 TX9 1 tyX9 := ⟨in_X9, tyX9_ok, nmX9, rfl⟩
theorem gk_X10 : gOk 8 RX10 TX10 1 tyX10 := ⟨in_X10, tyX10_ok, nmX10, rfl⟩
theorem gk_X11 : gOk 9 RX11 TX11 1 tyX11 := ⟨in_X11, tyX11_ok, nmX11, rfl⟩
theorem gk_X12 : gOk 10 RX12 TX12 1 tyX12 := ⟨in_X12, tyX12_ok, nmX12, rfl⟩
theorem gk_X13 : gOk 11 RX13 TX13 17 tyX13 := ⟨in_X13, tyX13_ok, nmX13, rfl⟩
theorem gk_X14 : gOk 12 RX14 TX14 4 tyX14 := ⟨in_X14, tyX14_ok, nmX14, rfl⟩
theorem gk_X15 : gOk 13 RX15 TX15 7 tyX15 := ⟨in_X15, tyX15_ok, nmX15, rfl⟩
theorem gk_J1 : gOk 14 RJ1 TJ1 3 tyJ1 := ⟨in_J1, tyJ1_ok, nmJ1, rfl⟩
