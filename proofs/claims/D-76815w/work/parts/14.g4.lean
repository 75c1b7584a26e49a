/-! g4: constants, tables, copies -/
set_option maxRecDepth 100000
def gKi (G : gG) (a : Nat) : Option Nat := if a = gS G 0 then some 0 else if a = gS G 1 then some 1 else if a = gS G 2 then some 2 else if a = gS G 3 then some 3 else none
theorem gKi_spec {G : gG} {a i : Nat} (h : gKi G a = some i) : i < 4 ∧ a = gS G i := by
  unfold gKi at h
  split at h
  · cases h; rename_i e; exact ⟨by decide, e⟩
  · split at h
    · cases h; rename_i e; exact ⟨by decide, e⟩
    · split at h
      · cases h; rename_i e; exact ⟨by decide, e⟩
      · split at h
        · cases h; rename_i e; exact ⟨by decide, e⟩
        · cases h
def gKd (G : gG) (a k : Nat) : Option Int32 := (gKi G a).map (fun i => if k = 0 then gAmb i else if k = 1 then gPac i else gOrd i)
def gTab (j : Nat) (i : Int32) : Option Int32 := match j with
  | 4 => if ¬ (i < 0 ∨ 128 ≤ i.toNatClampNeg) then some (gKo i.toNatClampNeg) else none
  | 5 => if ¬ (i < 0 ∨ 4 ≤ i.toNatClampNeg) then some (gAmb i.toNatClampNeg) else none
  | _ => if ¬ (i < 0 ∨ 4 ≤ i.toNatClampNeg) then some (gPac i.toNatClampNeg) else none
theorem gNz {v : Int32} (h : v = 0 ∨ v = 1) : narrow .boolean (.int v) = .int v ∧ fits .boolean (.int v) = true := by
  rcases h with h | h <;> subst h <;> exact ⟨rfl, rfl⟩
def gCpy (h : gH) (src : Nat) (sp : Int32) (dst : Nat) (dp n : Int32) : Option gH := match h src, h dst with
  | some (.inl (t0, n0, .inl f)), some (.inl (t1, n1, .inl g)) => if (t0 = 0 ∧ t1 = 0) ∧ ¬ sp < 0 ∧ ¬ dp < 0 ∧ ¬ n < 0 ∧ sp.toNatClampNeg + n.toNatClampNeg ≤ n0 ∧ dp.toNatClampNeg + n.toNatClampNeg ≤ n1 then some (va_up h dst (some (.inl (0, n1, .inl (va_cpy f g sp.toNatClampNeg dp.toNatClampNeg n.toNatClampNeg))))) else none
  | _, _ => none
theorem gCpy_spec {h h1 : gH} {src dst : Nat} {sp dp n : Int32} (hf : gCpy h src sp dst dp n = some h1) : ∃ n0 n1 f g, h src = some (.inl (0, n0, .inl f)) ∧ h dst = some (.inl (0, n1, .inl g)) ∧ (¬ sp < 0 ∧ ¬ dp < 0 ∧ ¬ n < 0 ∧ sp.toNatClampNeg + n.toNatClampNeg ≤ n0 ∧ dp.toNatClampNeg + n.toNatClampNeg ≤ n1) ∧ h1 = va_up h dst (some (.inl (0, n1, .inl (va_cpy f g sp.toNatClampNeg dp.toNatClampNeg n.toNatClampNeg)))) := by
  unfold gCpy at hf
  split at hf
  · rename_i t0 n0 f t1 n1 g e0 e1
    split at hf
    · rename_i hc
      obtain ⟨⟨h0, h1'⟩, hc⟩ := hc
      subst h0; subst h1'
      exact ⟨n0, n1, f, g, e0, e1, hc, (Option.some.inj hf).symm⟩
    · cases hf
  · cases hf
def gCpyL (h : gH) (src : Nat) (sp : Int32) (dst : Nat) (dp n : Int32) : Option gH := match h src, h dst with
  | some (.inl (t0, n0, .inr (.inl f))), some (.inl (t1, n1, .inr (.inl g))) => if (t0 = 1 ∧ t1 = 1) ∧ ¬ sp < 0 ∧ ¬ dp < 0 ∧ ¬ n < 0 ∧ sp.toNatClampNeg + n.toNatClampNeg ≤ n0 ∧ dp.toNatClampNeg + n.toNatClampNeg ≤ n1 then some (va_up h dst (some (.inl (1, n1, .inr (.inl (va_cpy f g sp.toNatClampNeg dp.toNatClampNeg n.toNatClampNeg)))))) else none
  | _, _ => none
theorem gCpyL_spec {h h1 : gH} {src dst : Nat} {sp dp n : Int32} (hf : gCpyL h src sp dst dp n = some h1) : ∃ n0 n1 f g, h src = some (.inl (1, n0, .inr (.inl f))) ∧ h dst = some (.inl (1, n1, .inr (.inl g))) ∧ (¬ sp < 0 ∧ ¬ dp < 0 ∧ ¬ n < 0 ∧ sp.toNatClampNeg + n.toNatClampNeg ≤ n0 ∧ dp.toNatClampNeg + n.toNatClampNeg ≤ n1) ∧ h1 = va_up h dst (some (.inl (1, n1, .inr (.inl (va_cpy f g sp.toNatClampNeg dp.toNatClampNeg n.toNatClampNeg))))) := by
  unfold gCpyL at hf
  split at hf
  · rename_i t0 n0 f t1 n1 g e0 e1
    split at hf
    · rename_i hc
      obtain ⟨⟨h0, h1'⟩, hc⟩ := hc
      subst h0; subst h1'
      exact ⟨n0, n1, f, g, e0, e1, hc, (Option.some.inj hf).symm⟩
    · cases hf
  · cases hf
theorem gFaOf {G : gG} {s : State} (hK : gK G s) : gFa s := hK.2.2.2.2.2.2.2.2.2.2.2.1
theorem gXtOf {G : gG} {s : State} (hK : gK G s) : gXt G s s.heap := hK.2.2.2.2.2.2.2.2.2.2.2.2
section G4
variable {p : Program} {l : Launch} {e : Env} {R : Room} {s : State} {m : MethodId} {args : Array Value} {below : List Frame} {meth : Method} {c : Code} {H : Heap} {locs : List Loc} {cells slots : Nat} {Q : State → Prop}
variable {cc : ByteArray} {pc nL : Nat} {ls : Array Slot} {rest : List Value} {G : gG} {h : gH} {n a : Nat} {own : String} {ret : Option FieldType}
theorem g_kfldN (X : gCx p s m args meth c cc nL own ret G) (hS : va_S (gFr G) s.heap H locs) (k : Nat) (hk : k < 2) {index : Nat} {host : String} (hlink : (Cond.fieldLinkNest own index "SafeClears$Kind" (if k = 0 then "amber" else "pace") "I" host) ∈ lw_tbl) {v : Int32} (hf : gKd G a k = some v) (hdg : decode cc pc = .ok (.getfield index, 3))
    (kk : W p l e R s m args below meth c H locs cells slots Q (F0 m (pc + 3) ls (.int v :: rest))) : W p l e R s m args below meth c H locs cells slots Q (F0 m pc ls (.ref a :: rest)) := by
  obtain ⟨⟨hx, hb, hml, hown, hts⟩, hK, hr, hlk⟩ := X
  unfold gKd at hf
  cases hi : gKi G a with
  | none => rw [hi] at hf; cases hf
  | some i =>
    rw [hi] at hf
    obtain ⟨h4, ha⟩ := gKi_spec hi
    subst ha
    have hE := hK.2.2.1 i h4
    have hv : (if k = 0 then gAmb i else if k = 1 then gPac i else gOrd i) = v := Option.some.inj hf
    by_cases h0 : k = 0
    · subst h0
      obtain ⟨cf, k9, fi, f, cell, h1, h2, h3, h4, h5, h6⟩ := ((hE.1 0 Nat.zero_lt_one).2.2 ("SafeClears$Kind", "amber", "I", [gAmb i]) (by simp [gKF])).kept hS.2.1
      refine va_Wgetf hx hb hown ((hK.2.1 _ hlink rfl).use rfl) h1 h2 h3 h4 (v := .int v) ?_ rfl rfl hdg kk
      rw [← hv]; exact h5
    · have h1 : k = 1 := by omega
      subst h1
      obtain ⟨cf, k9, fi, f, cell, h1, h2, h3, h4, h5, h6⟩ := ((hE.1 0 Nat.zero_lt_one).2.2 ("SafeClears$Kind", "pace", "I", [gPac i]) (by simp [gKF])).kept hS.2.1
      refine va_Wgetf hx hb hown ((hK.2.1 _ hlink rfl).use rfl) h1 h2 h3 h4 (v := .int v) ?_ rfl rfl hdg kk
      rw [← hv]; exact h5
theorem g_kind (X : gCx p s m args meth c cc nL own ret G) (hS : va_S (gFr G) s.heap H locs) (i : Nat) (hi : i < 4) {index : Nat} (hlink : (Cond.fieldLink own index "SafeClears$Kind" (gKn i) "LSafeClears$Kind;") ∈ lw_all) (hdg : decode cc pc = .ok (.getstatic index, 3))
    (kk : W p l e R s m args below meth c H locs cells slots Q (F0 m (pc + 3) ls (.ref (gS G i) :: rest))) : W p l e R s m args below meth c H locs cells slots Q (F0 m pc ls rest) := by
  obtain ⟨⟨hx, hb, hml, hown, hts⟩, hK, hr, hlk⟩ := X
  exact va_gets hx hb ((hK.2.2.1 i hi).1 0 Nat.zero_lt_one).1 hS hown (hts _ hlink) (fun _ h9 => h9) hdg kk
theorem g_stab4 (X : gCx p s m args meth c cc nL own ret G) (hS : va_S (gFr G) s.heap H locs) {index : Nat} {host : String} (hlink : (Cond.fieldLinkNest own index "SafeClears" "KIND_OF" "[I" host) ∈ lw_tbl) (hdg : decode cc pc = .ok (.getstatic index, 3))
    (kk : W p l e R s m args below meth c H locs cells slots Q (F0 m (pc + 3) ls (.ref (gS G 4) :: rest))) : W p l e R s m args below meth c H locs cells slots Q (F0 m pc ls rest) := by
  obtain ⟨⟨hx, hb, hml, hown, hts⟩, hK, hr, hlk⟩ := X
  exact va_getsN hx hb hK.2.2.2.2.1 hS hown ((hK.2.1 _ hlink rfl).use rfl) (fun _ h9 => h9) hdg kk
theorem g_stab5 (X : gCx p s m args meth c cc nL own ret G) (hS : va_S (gFr G) s.heap H locs) {index : Nat} (hlink : (Cond.fieldLink own index "SafeClearsModel" "AMBER" "[I") ∈ lw_all) (hdg : decode cc pc = .ok (.getstatic index, 3))
    (kk : W p l e R s m args below meth c H locs cells slots Q (F0 m (pc + 3) ls (.ref (gS G 5) :: rest))) : W p l e R s m args below meth c H locs cells slots Q (F0 m pc ls rest) := by
  obtain ⟨⟨hx, hb, hml, hown, hts⟩, hK, hr, hlk⟩ := X
  exact va_gets hx hb hK.2.2.2.2.2.2.1 hS hown (hts _ hlink) (fun _ h9 => h9) hdg kk
theorem g_stab6 (X : gCx p s m args meth c cc nL own ret G) (hS : va_S (gFr G) s.heap H locs) {index : Nat} (hlink : (Cond.fieldLink own index "SafeClearsModel" "PACE" "[I") ∈ lw_all) (hdg : decode cc pc = .ok (.getstatic index, 3))
    (kk : W p l e R s m args below meth c H locs cells slots Q (F0 m (pc + 3) ls (.ref (gS G 6) :: rest))) : W p l e R s m args below meth c H locs cells slots Q (F0 m pc ls rest) := by
  obtain ⟨⟨hx, hb, hml, hown, hts⟩, hK, hr, hlk⟩ := X
  exact va_gets hx hb hK.2.2.2.2.2.2.2.2.1 hS hown (hts _ hlink) (fun _ h9 => h9) hdg kk
theorem g_sad (X : gCx p s m args meth c cc nL own ret G) (hS : va_S (gFr G) s.heap H locs) {index : Nat} (hlink : (Cond.fieldLink own index "java/util/BitSet" "$assertionsDisabled" "Z") ∈ lw_all) (hdg : decode cc pc = .ok (.getstatic index, 3))
    (kk : W p l e R s m args below meth c H locs cells slots Q (F0 m (pc + 3) ls (.int 1 :: rest))) : W p l e R s m args below meth c H locs cells slots Q (F0 m pc ls rest) := by
  obtain ⟨⟨hx, hb, hml, hown, hts⟩, hK, hr, hlk⟩ := X
  exact va_gets hx hb hK.2.2.2.2.2.2.2.2.2.2.1 hS hown (hts _ hlink) (fun _ h9 => h9) hdg kk
theorem g_tab4 (X : gCx p s m args meth c cc nL own ret G) (hS : va_S (gFr G) s.heap H locs) {i v : Int32} (hf : gTab 4 i = some v) (hdg : decode cc pc = .ok (.iaload, 1))
    (kk : W p l e R s m args below meth c H locs cells slots Q (F0 m (pc + 1) ls (.int v :: rest))) : W p l e R s m args below meth c H locs cells slots Q (F0 m pc ls (.int i :: .ref (gS G 4) :: rest)) := by
  obtain ⟨⟨hx, hb, hml, hown, hts⟩, hK, hr, hlk⟩ := X
  obtain ⟨hin, hv⟩ := gChk hf
  exact va_ti hx hb hK.2.2.2.2.2.1 hS hin (v := .int v) (by rw [← Option.some.inj hv]) hdg kk
theorem g_tab5 (X : gCx p s m args meth c cc nL own ret G) (hS : va_S (gFr G) s.heap H locs) {i v : Int32} (hf : gTab 5 i = some v) (hdg : decode cc pc = .ok (.iaload, 1))
    (kk : W p l e R s m args below meth c H locs cells slots Q (F0 m (pc + 1) ls (.int v :: rest))) : W p l e R s m args below meth c H locs cells slots Q (F0 m pc ls (.int i :: .ref (gS G 5) :: rest)) := by
  obtain ⟨⟨hx, hb, hml, hown, hts⟩, hK, hr, hlk⟩ := X
  obtain ⟨hin, hv⟩ := gChk hf
  exact va_ti hx hb hK.2.2.2.2.2.2.2.1 hS hin (v := .int v) (by rw [← Option.some.inj hv]) hdg kk
theorem g_tab6 (X : gCx p s m args meth c cc nL own ret G) (hS : va_S (gFr G) s.heap H locs) {i v : Int32} (hf : gTab 6 i = some v) (hdg : decode cc pc = .ok (.iaload, 1))
    (kk : W p l e R s m args below meth c H locs cells slots Q (F0 m (pc + 1) ls (.int v :: rest))) : W p l e R s m args below meth c H locs cells slots Q (F0 m pc ls (.int i :: .ref (gS G 6) :: rest)) := by
  obtain ⟨⟨hx, hb, hml, hown, hts⟩, hK, hr, hlk⟩ := X
  obtain ⟨hin, hv⟩ := gChk hf
  exact va_ti hx hb hK.2.2.2.2.2.2.2.2.2.1 hS hin (v := .int v) (by rw [← Option.some.inj hv]) hdg kk
theorem gClamp (z : Int32) (hz : ¬ z < 0) : z.toInt = (z.toNatClampNeg : Int) := by
  have hz0 : (0 : Int) ≤ z.toInt := by
    have := Int32.not_lt.mp hz
    simpa using Int32.le_iff_toInt_le.mp this
  show z.toInt = ((z.toInt.toNat : Nat) : Int)
  omega
theorem g_copy (X : gCx p s m args meth c cc nL own ret G) (hR : gRep G h n H) (hS : va_S (gFr G) s.heap H locs) {index : Nat} (hlink : (Cond.methodLink own index arraycopyName) ∈ lw_all) (hl : ls.size = nL) (hrm : 1 ≤ R.frames ∧ 40 ≤ R.locals) (hroom : (rest.map fun v => v.category).sum ≤ 8) {src dst : Nat} {sp dp k : Int32} {h1 : gH} (hf : gCpy h src sp dst dp k = some h1) (hdg : decode cc pc = .ok (.invokestatic index, 3))
    (kk : ∀ (H1 : Heap) (locs1 : List Loc), gRep G h1 n H1 → va_S (gFr G) s.heap H1 locs1 → W p l e R s m args below meth c H1 locs1 cells slots Q (F0 m (pc + 3) ls rest)) : W p l e R s m args below meth c H locs cells slots Q (F0 m pc ls (.int k :: .int dp :: .ref dst :: .int sp :: .ref src :: rest)) := by
  obtain ⟨⟨hx, hb, hml, hown, hts⟩, hK, hr, hlk⟩ := X
  obtain ⟨n0, n1, f, g, e0, e1, ⟨c1, c2, c3, c4, c5⟩, rfl⟩ := gCpy_spec hf
  intro T hT Y
  have hc0 : H[src]? = some (vp_cell (gA G 0) (n0, .inl f)) := (hR.2.2 src _ e0).2
  have hc1 : H[dst]? = some (vp_cell (gA G 0) (n1, .inl g)) := (hR.2.2 dst _ e1).2
  have hA := (hK.1.2 0 _ (gTys_at (by decide))).1
  obtain ⟨-, k0, hk0, cm0, hkk0⟩ := hA n0 (fun j => .int (f j))
  obtain ⟨-, k1, hk1, cm1, hkk1⟩ := hA n1 (fun j => .int (g j))
  have hw : nativeFrameWords "java/lang/System" "arraycopy" 5 ≤ 10 := by decide
  obtain ⟨vm', Y', step⟩ := Y.arraycopy hx hown (hts _ hlink) (hts _ q317) (hts _ q316) (hts _ q109) (src := src) (dst := dst) (cs := vp_cell (gA G 0) (n0, .inl f)) (cd := vp_cell (gA G 0) (n1, .inl g)) (srcPos := sp) (destPos := dp) (n := k) (by rw [hT]; exact hc0) (by rw [hT]; exact hc1)
    (fun _ h => by cases h) (fun _ h => by cases h) (fun h => by cases h) (fun h => by cases h) hk0 hk1 hkk0 hkk1 (by simp [gTy, refKind]) c1 c2 c3
    (by rw [gClamp sp c1, gClamp k c3]; show ¬ _ > ((arrV _ n0 (fun j => .int (f j))).slots.size : Int); rw [arrV_size]; omega)
    (by rw [gClamp dp c2, gClamp k c3]; show ¬ _ > ((arrV _ n1 (fun j => .int (g j))).slots.size : Int); rw [arrV_size]; omega)
    (fun vm₁ _ i hi => by
      have e : (vp_cell (gA G 0) (n0, .inl f)).slots.getD (sp.toNatClampNeg + i) .null = .int (f (sp.toNatClampNeg + i)) := by
        show (arrV _ n0 (fun j => .int (f j))).slots.getD _ _ = _
        rw [Array.getD_eq_getD_getElem?, arrV_read _ _ (by omega)]
        rfl
      refine ⟨?_, ?_⟩
      · rw [e]; rfl
      · rw [e]; exact trivial)
    (g := F0 m pc ls (.int k :: .int dp :: .ref dst :: .int sp :: .ref src :: rest)) rfl (by rw [hml]; exact hl) (rest := rest) rfl (by rw [hb]; exact hdg) hrm.1 (by show 2 * 0 + _ + _ ≤ _; have := hrm.2; omega)
  have ec : copied (vp_cell (gA G 0) (n0, .inl f)) (vp_cell (gA G 0) (n1, .inl g)) sp dp k = vp_cell (gA G 0) (n1, .inl (va_cpy f g sp.toNatClampNeg dp.toNatClampNeg k.toNatClampNeg)) := va_copied (fun z => .int z) _ _ f g c4
  rw [ec] at Y' step
  have hlt : dst < H.size := (Array.getElem?_eq_some_iff.mp hc1).1
  generalize hv : vp_cell (gA G 0) (n1, .inl (va_cpy f g sp.toNatClampNeg dp.toNatClampNeg k.toNatClampNeg)) = cv at Y' step
  have hheap : ((T.setVm vm').setCell dst cv).heap = H.setIfInBounds dst cv := by rw [← hT]; rfl
  have oq : ∀ q : Nat, q ≠ dst → (H.setIfInBounds dst cv)[q]? = H[q]? := fun q hq => by simp [Array.getElem?_setIfInBounds, Ne.symm hq]
  have hd : gB G ≤ dst := (hR.2.2 dst _ e1).1
  obtain ⟨t, a1, b1⟩ := kk _ _ (hR.set (e := .inl (0, n1, .inl (va_cpy f g sp.toNatClampNeg dp.toNatClampNeg k.toNatClampNeg))) hd (by simp) oq (show (H.setIfInBounds dst cv)[dst]? = some (vp_cell _ _) by rw [hv]; simp [Array.getElem?_setIfInBounds, hlt])) ⟨by simp; exact hS.1, fun q g1 g2 => by
      rw [oq q (fun e => g2 (by rw [e]; exact hd))]
      exact hS.2.1 q g1 g2, fun q hq => by
      rcases List.mem_append.mp hq with h | h
      · exact hS.2.2 q h
      · obtain ⟨z, -, hz⟩ := List.mem_map.mp h
        rw [← hz]
        exact hd⟩ _ hheap Y'
  exact ⟨t, step t a1, b1⟩
theorem g_copyL (X : gCx p s m args meth c cc nL own ret G) (hR : gRep G h n H) (hS : va_S (gFr G) s.heap H locs) {index : Nat} (hlink : (Cond.methodLink own index arraycopyName) ∈ lw_all) (hl : ls.size = nL) (hrm : 1 ≤ R.frames ∧ 40 ≤ R.locals) (hroom : (rest.map fun v => v.category).sum ≤ 8) {src dst : Nat} {sp dp k : Int32} {h1 : gH} (hf : gCpyL h src sp dst dp k = some h1) (hdg : decode cc pc = .ok (.invokestatic index, 3))
    (kk : ∀ (H1 : Heap) (locs1 : List Loc), gRep G h1 n H1 → va_S (gFr G) s.heap H1 locs1 → W p l e R s m args below meth c H1 locs1 cells slots Q (F0 m (pc + 3) ls rest)) : W p l e R s m args below meth c H locs cells slots Q (F0 m pc ls (.int k :: .int dp :: .ref dst :: .int sp :: .ref src :: rest)) := by
  obtain ⟨⟨hx, hb, hml, hown, hts⟩, hK, hr, hlk⟩ := X
  obtain ⟨n0, n1, f, g, e0, e1, ⟨c1, c2, c3, c4, c5⟩, rfl⟩ := gCpyL_spec hf
  intro T hT Y
  have hc0 : H[src]? = some (vp_cell (gA G 1) (n0, .inr (.inl f))) := (hR.2.2 src _ e0).2
  have hc1 : H[dst]? = some (vp_cell (gA G 1) (n1, .inr (.inl g))) := (hR.2.2 dst _ e1).2
  have hA := (hK.1.2 1 _ (gTys_at (by decide))).1
  obtain ⟨-, k0, hk0, cm0, hkk0⟩ := hA n0 (fun j => .long (f j))
  obtain ⟨-, k1, hk1, cm1, hkk1⟩ := hA n1 (fun j => .long (g j))
  have hw : nativeFrameWords "java/lang/System" "arraycopy" 5 ≤ 10 := by decide
  obtain ⟨vm', Y', step⟩ := Y.arraycopy hx hown (hts _ hlink) (hts _ q317) (hts _ q316) (hts _ q109) (src := src) (dst := dst) (cs := vp_cell (gA G 1) (n0, .inr (.inl f))) (cd := vp_cell (gA G 1) (n1, .inr (.inl g))) (srcPos := sp) (destPos := dp) (n := k) (by rw [hT]; exact hc0) (by rw [hT]; exact hc1)
    (fun _ h => by cases h) (fun _ h => by cases h) (fun h => by cases h) (fun h => by cases h) hk0 hk1 hkk0 hkk1 (by simp [gTy, refKind]) c1 c2 c3
    (by rw [gClamp sp c1, gClamp k c3]; show ¬ _ > ((arrV _ n0 (fun j => .long (f j))).slots.size : Int); rw [arrV_size]; omega)
    (by rw [gClamp dp c2, gClamp k c3]; show ¬ _ > ((arrV _ n1 (fun j => .long (g j))).slots.size : Int); rw [arrV_size]; omega)
    (fun vm₁ _ i hi => by
      have e : (vp_cell (gA G 1) (n0, .inr (.inl f))).slots.getD (sp.toNatClampNeg + i) .null = .long (f (sp.toNatClampNeg + i)) := by
        show (arrV _ n0 (fun j => .long (f j))).slots.getD _ _ = _
        rw [Array.getD_eq_getD_getElem?, arrV_read _ _ (by omega)]
        rfl
      refine ⟨?_, ?_⟩
      · rw [e]; rfl
      · rw [e]; exact trivial)
    (g := F0 m pc ls (.int k :: .int dp :: .ref dst :: .int sp :: .ref src :: rest)) rfl (by rw [hml]; exact hl) (rest := rest) rfl (by rw [hb]; exact hdg) hrm.1 (by show 2 * 0 + _ + _ ≤ _; have := hrm.2; omega)
  have ec : copied (vp_cell (gA G 1) (n0, .inr (.inl f))) (vp_cell (gA G 1) (n1, .inr (.inl g))) sp dp k = vp_cell (gA G 1) (n1, .inr (.inl (va_cpy f g sp.toNatClampNeg dp.toNatClampNeg k.toNatClampNeg))) := va_copied (fun z => .long z) _ _ f g c4
  rw [ec] at Y' step
  have hlt : dst < H.size := (Array.getElem?_eq_some_iff.mp hc1).1
  generalize hv : vp_cell (gA G 1) (n1, .inr (.inl (va_cpy f g sp.toNatClampNeg dp.toNatClampNeg k.toNatClampNeg))) = cv at Y' step
  have hheap : ((T.setVm vm').setCell dst cv).heap = H.setIfInBounds dst cv := by rw [← hT]; rfl
  have oq : ∀ q : Nat, q ≠ dst → (H.setIfInBounds dst cv)[q]? = H[q]? := fun q hq => by simp [Array.getElem?_setIfInBounds, Ne.symm hq]
  have hd : gB G ≤ dst := (hR.2.2 dst _ e1).1
  obtain ⟨t, a1, b1⟩ := kk _ _ (hR.set (e := .inl (1, n1, .inr (.inl (va_cpy f g sp.toNatClampNeg dp.toNatClampNeg k.toNatClampNeg)))) hd (by simp) oq (show (H.setIfInBounds dst cv)[dst]? = some (vp_cell _ _) by rw [hv]; simp [Array.getElem?_setIfInBounds, hlt])) ⟨by simp; exact hS.1, fun q g1 g2 => by
      rw [oq q (fun e => g2 (by rw [e]; exact hd))]
      exact hS.2.1 q g1 g2, fun q hq => by
      rcases List.mem_append.mp hq with h | h
      · exact hS.2.2 q h
      · obtain ⟨z, -, hz⟩ := List.mem_map.mp h
        rw [← hz]
        exact hd⟩ _ hheap Y'
  exact ⟨t, step t a1, b1⟩
theorem g_kfldO (X : gCx p s m args meth c cc nL own ret G) (hS : va_S (gFr G) s.heap H locs) {index : Nat} (hlink : (Cond.fieldLink own index "java/lang/Enum" "ordinal" "I") ∈ lw_all) {v : Int32} (hf : gKd G a 2 = some v) (hdg : decode cc pc = .ok (.getfield index, 3))
    (kk : W p l e R s m args below meth c H locs cells slots Q (F0 m (pc + 3) ls (.int v :: rest))) : W p l e R s m args below meth c H locs cells slots Q (F0 m pc ls (.ref a :: rest)) := by
  obtain ⟨⟨hx, hb, hml, hown, hts⟩, hK, hr, hlk⟩ := X
  unfold gKd at hf
  cases hi : gKi G a with
  | none => rw [hi] at hf; cases hf
  | some i =>
    rw [hi] at hf
    obtain ⟨h4, ha⟩ := gKi_spec hi
    subst ha
    have hE := hK.2.2.1 i h4
    have hv : gOrd i = v := Option.some.inj hf
    obtain ⟨cf, k9, fi, f, cell, h1, h2, h3, h4, h5, h6⟩ := ((hE.1 0 Nat.zero_lt_one).2.2 ("java/lang/Enum", "ordinal", "I", [gOrd i]) (by simp [gKF])).kept hS.2.1
    refine W.getf hx hb hown (hts _ hlink) h1 h2 h3 h4 (v := .int v) ?_ rfl rfl hdg kk
    rw [← hv]; exact h5
def gPa (h : gH) (a : Nat) (v : Value) : Option gH := match h a with
  | some (.inr (c, fs)) => if (6 ≤ c ∧ c ≤ 9) ∧ 0 < fs.length then some (va_up h a (some (.inr (c, fs.set 0 v)))) else none
  | _ => none
def gGa (h : gH) (a : Nat) : Option Int32 := match h a with
  | some (.inr (c, _)) => if 6 ≤ c ∧ c ≤ 9 then gGi c h a 0 else none
  | _ => none
theorem gPa_spec {h h1 : gH} {a : Nat} {v : Value} (hf : gPa h a v = some h1) : ∃ c, (6 ≤ c ∧ c ≤ 9) ∧ gPv c h a 0 v = some h1 := by
  unfold gPa at hf
  split at hf
  · rename_i c fs he
    obtain ⟨⟨hc, hl⟩, hf⟩ := gChk hf
    refine ⟨c, hc, ?_⟩
    unfold gPv
    rw [he]
    show (if c = c ∧ 0 < fs.length then _ else none) = _
    rw [if_pos ⟨rfl, hl⟩]
    exact hf
  · cases hf
theorem gGa_spec {h : gH} {a : Nat} {x : Int32} (hf : gGa h a = some x) : ∃ c, (6 ≤ c ∧ c ≤ 9) ∧ gGi c h a 0 = some x := by
  unfold gGa at hf
  split at hf
  · rename_i c fs0 he
    obtain ⟨hc, hf⟩ := gChk hf
    exact ⟨c, hc, hf⟩
  · cases hf
theorem g_putA (X : gCx p s m args meth c cc nL "SafeClears$Anyone" ret G) (hR : gRep G h n H) (hS : va_S (gFr G) s.heap H locs) (hin : meth.name = "<init>") {index : Nat} (hlink : (Cond.fieldLink "SafeClears$Anyone" index "SafeClears$Anyone" "kind" "I") ∈ lw_all) {v : Int32} {h1 : gH} (hf : gPa h a (.int v) = some h1) (hdg : decode cc pc = .ok (.putfield index, 3))
    (kk : ∀ (H1 : Heap) (locs1 : List Loc), gRep G h1 n H1 → va_S (gFr G) s.heap H1 locs1 → W p l e R s m args below meth c H1 locs1 cells slots Q (F0 m (pc + 3) ls rest)) : W p l e R s m args below meth c H locs cells slots Q (F0 m pc ls (.int v :: .ref a :: rest)) := by
  obtain ⟨ci, hc, hp⟩ := gPa_spec hf
  rcases (show ci = 6 ∨ ci = 7 ∨ ci = 8 ∨ ci = 9 by omega) with rfl | rfl | rfl | rfl
  · exact g_putF X hR hS hin gk_X8 0 (by decide) hlink rfl rfl rfl hp rfl rfl rfl hdg kk
  · exact g_putF X hR hS hin gk_X9 0 (by decide) hlink rfl rfl rfl hp rfl rfl rfl hdg kk
  · exact g_putF X hR hS hin gk_X10 0 (by decide) hlink rfl rfl rfl hp rfl rfl rfl hdg kk
  · exact g_putF X hR hS hin gk_X11 0 (by decide) hlink rfl rfl rfl hp rfl rfl rfl hdg kk
theorem g_getA (X : gCx p s m args meth c cc nL "SafeClears$Anyone" ret G) (hR : gRep G h n H) {index : Nat} (hlink : (Cond.fieldLink "SafeClears$Anyone" index "SafeClears$Anyone" "kind" "I") ∈ lw_all) {v : Int32} (hf : gGa h a = some v) (hdg : decode cc pc = .ok (.getfield index, 3))
    (kk : W p l e R s m args below meth c H locs cells slots Q (F0 m (pc + 3) ls (.int v :: rest))) : W p l e R s m args below meth c H locs cells slots Q (F0 m pc ls (.ref a :: rest)) := by
  obtain ⟨ci, hc, hp⟩ := gGa_spec hf
  rcases (show ci = 6 ∨ ci = 7 ∨ ci = 8 ∨ ci = 9 by omega) with rfl | rfl | rfl | rfl
  · exact g_geti X hR gk_X8 0 (by decide) hlink rfl hp hdg kk
  · exact g_geti X hR gk_X9 0 (by decide) hlink rfl hp hdg kk
  · exact g_geti X hR gk_X10 0 (by decide) hlink rfl hp hdg kk
  · exact g_geti X hR gk_X11 0 (by decide) hlink rfl hp hdg kk
theorem g_callU (X : gCx p s m args meth c cc nL own ret G) (hR : gRep G h n H) (hS : va_S (gFr G) s.heap H locs) {x y : MethodName} {owner C : String} {bytes : ByteArray} {maxL fr lo mc ms nn b index : Nat} {ret2 : Option FieldType} (As : List Value) {rest st0 : List Value} {r : Int32} {h' : gH} {n' : Nat} (hM : gMet l G y bytes maxL ret2 fr lo mc ms (.ref b :: As) h n (some (.int r)) h' n')
    (w1 : Cond.methodLink own index x ∈ lw_all) (w2 : Cond.sameMethod x.cls owner x.name x.desc ∈ lw_all) (w3 : Cond.selects C x y ∈ lw_all) (w4 : Cond.instanceMethod y ∈ lw_all) (w5 : Cond.initialized y.cls ∈ lw_all) (w6 : Cond.code y bytes maxL ret2 ∈ lw_all) (w7 : Cond.declares ⟨owner, x.name, x.desc⟩ ∈ lw_tbl) (hd : owner ≠ "java/lang/invoke/MethodHandle" ∧ owner ≠ "java/lang/invoke/VarHandle" ∧ (parseMethodDescriptor x.desc).map (fun d => d.parameters.length) = some nn)
    (hrec : ∃ cell : Cell, H[b]? = some cell ∧ cell.vm.isStatics = false ∧ s.vm.findClass C = some cell.cls) (hn : As.length = nn) (hl : ls.size = nL) (hrm : fr + 1 ≤ R.frames ∧ 8 + (maxL + 11) + lo ≤ R.locals) (hcs : cells + mc ≤ R.cells ∧ slots + ms ≤ R.slots) (hst : st0 = As.reverse ++ .ref b :: rest) (hroom : (rest.map fun v => v.category).sum ≤ 8) (hdg : decode cc pc = .ok (.invokevirtual index, 3))
    (kk : ∀ (H1 : Heap) (locs1 : List Loc), gRep G h' n' H1 → va_S (gFr G) s.heap H1 locs1 → W p l e R s m args below meth c H1 locs1 (cells + mc) (slots + ms) Q (F0 m (pc + 3) ls (.int r :: rest))) : W p l e R s m args below meth c H locs cells slots Q (F0 m pc ls st0) := by
  obtain ⟨S, hK, hr, hlk⟩ := X
  have hts := S.2.2.2.2
  have hcu : va_CU R s args own C owner index x y bytes maxL ret2 (ws_ y bytes maxL ret2) ({ frames := fr, cells := mc, slots := ms, locals := lo } : Room) mc ms nn := by
    refine ⟨⟨rfl, rfl, hrm.1, hrm.2, pay_in hts (lw_meth w6), List.mem_cons_self⟩, hts _ w6, hts _ w5, ⟨hd.1, hd.2.1⟩, fun sig h9 => ?_, hts _ w1, hts _ w2, va_Decl.abs (hK.2.1 _ w7 rfl), hts _ w3, hts _ w4⟩
    have h2 := hd.2.2
    rw [h9] at h2
    exact (Option.some.inj h2).symm
  exact g_call (va_runU (As := As) (rest := rest) S hM hcu ⟨gBlind, hrec, fun U hU hW => ⟨rfl, by rw [hU]; exact hR, hK.call hS hU hW⟩⟩ rfl hn hl hst (lv_room hroom) hdg hcs) hS kk
theorem g_callF (X : gCx p s m args meth c cc nL own ret G) (hR : gRep G h n H) (hS : va_S (gFr G) s.heap H locs) {x y : MethodName} {bytes : ByteArray} {maxL fr lo mc ms nn b index count : Nat} {ret2 : Option FieldType} (As : List Value) {rest st0 : List Value} {r : Int32} {h' : gH} {n' : Nat} (hM : gMet l G y bytes maxL ret2 fr lo mc ms (.ref b :: As) h n (some (.int r)) h' n')
    (hF : va_Fw "SafeClears$Green" x y s ∧ gLd "SafeClears$Green" x y s) (w1 : Cond.methodLink own index x ∈ lw_all) (w4 : Cond.instanceMethod y ∈ lw_all) (w5 : Cond.initialized y.cls ∈ lw_all) (w6 : Cond.code y bytes maxL ret2 ∈ lw_all) (hd : x.cls ≠ "java/lang/invoke/MethodHandle" ∧ x.cls ≠ "java/lang/invoke/VarHandle" ∧ (parseMethodDescriptor x.desc).map (fun d => d.parameters.length) = some nn)
    (hrec : gIs 4 h b = true) (hn : As.length = nn) (hl : ls.size = nL) (hrm : fr + 1 ≤ R.frames ∧ 8 + (maxL + 11) + lo ≤ R.locals) (hcs : cells + mc ≤ R.cells ∧ slots + ms ≤ R.slots) (hst : st0 = As.reverse ++ .ref b :: rest) (hroom : (rest.map fun v => v.category).sum ≤ 8) (hdg : decode cc pc = .ok (.invokeinterface index count, 5))
    (kk : ∀ (H1 : Heap) (locs1 : List Loc), gRep G h' n' H1 → va_S (gFr G) s.heap H1 locs1 → W p l e R s m args below meth c H1 locs1 (cells + mc) (slots + ms) Q (F0 m (pc + 5) ls (.int r :: rest))) : W p l e R s m args below meth c H locs cells slots Q (F0 m pc ls st0) := by
  obtain ⟨⟨hx, hb, hml, hown, hts⟩, hK, hr, hlk⟩ := X
  obtain ⟨⟨f1, f2, f3, f4, f5⟩, ⟨cG, r0', mk', g1, g2, g3, g4⟩⟩ := hF
  obtain ⟨cellB, hcB, hoB, hclB⟩ := gRecv hK hR (ci := 4) (C := "SafeClears$Green") rfl hrec
  obtain ⟨r0, r9, hn0, hrm0, hstR, hsigR⟩ := Cond.declares_spec f1
  obtain ⟨cL, kL, r1, hcL, hkL, hiL, hfoundL, hn1⟩ := Cond.interfaceMethod_spec f2
  cases hn0.symm.trans hn1
  have hr0cls : r0.cls = cL := Option.some.inj ((findClass_of_methodNamed hn0).symm.trans hcL)
  obtain ⟨hnameR, hdescR⟩ := name_of_methodNamed hn0 hrm0
  obtain ⟨mk, methM, hnamed, hmethM, -, habM⟩ := Cond.instanceMethod_spec (hts _ w4)
  have ee1 : cG = cellB.cls := Option.some.inj (g1.symm.trans hclB)
  have ee2 : r0' = r0 := Option.some.inj (g2.symm.trans hn0)
  have ee3 : mk' = mk := Option.some.inj (g3.symm.trans hnamed)
  rw [ee1, ee2, ee3] at g4
  have hpubM : hasFlag methM.accessFlags Acc.public_ = true := Cond.publicMethod_spec hnamed hmethM f3
  have hway : ((cellB.cls :: s.vm.superclasses cellB.cls).any fun k => (declaredIn s.vm r9.name r9.desc k).any fun (_, z) => z.isPrivate || z.isStatic) = false := by
    rw [hnameR, hdescR]; exact Cond.unhidden_spec hclB f4
  obtain ⟨c3, t3, w1', w2', w3'⟩ := Cond.castable_spec f5
  cases hclB.symm.trans w1'
  cases hcL.symm.trans w2'
  obtain ⟨kB, hkB, -⟩ := Vm.findClass_spec hclB
  have hlen : ∀ sig : MethodDescriptor, parseMethodDescriptor x.desc = some sig → As.length = sig.parameters.length := by
    intro sig h9
    have h7 := hd.2.2
    rw [h9] at h7
    rw [hn]
    exact (Option.some.inj h7).symm
  have hKb : Back l R p e below s args y 5 8 (PreOf R mc ms (va_Pc (.ref b :: As) (fun U => gRep G h n U.heap ∧ gK G U))) (PostOf (gQ G (some (.int r)) h' n') mc ms (gFr G)) := back_of (bytes := bytes) (maxL := maxL) (ret := ret2) hM gBlind rfl rfl hrm.1 hrm.2 (pay_in hts (lw_meth w6)) List.mem_cons_self (fun a' U hW => word_at hW (Or.inl (by first | rfl | simp [Cond.onTables, Cond.keeps, Cond.steady])) (hts _ w5))
  intro T hT Y
  have hselP : selectMethod e.platform s.vm cellB.cls r0 = .method mk := by rw [Launch.admits_selectMethod Y.admits]; exact g4
  obtain ⟨vm₁, X₁, hstep₁⟩ := Y.invokeinterface hx hown (hts _ w1) hn0 hrm0 hstR (by rw [hr0cls]; exact hkL) hiL ⟨hd.1, hd.2.1⟩ (a := b) (cell := cellB) (kcell := kB) (by rw [hT]; exact hcB)
    (fun z h => by rw [h] at hoB; cases hoB) hkB (by rw [hr0cls]; exact w3') hselP hmethM hway hpubM habM (g := F0 m pc ls st0) rfl (argsL := As) (rest := rest) (hlen _ hsigR) hst (by rw [hb]; exact hdg)
  obtain ⟨v, B, X', hpost, hsteps⟩ := hKb m meth c ⟨T.setVm vm₁, locs, cells, slots⟩ { F0 m pc ls st0 with stack := rest } (.invokeinterface index count) mk (Value.ref b :: As).toArray X₁ rfl (hl.trans hml.symm) (by rw [hb]; exact hdg) (lv_room (m := m) (pc := pc) (ls := ls) (rest := rest) hroom) (X₁.named hnamed) ⟨hcs.1, hcs.2, rfl, by show gRep G h n T.heap; rw [hT]; exact hR, hK.call hS (show (T.setVm vm₁).heap = H from hT) X₁.warmed⟩
  obtain ⟨U', l2, c2, s2⟩ := B
  obtain ⟨g', mk2, t, L, e1, e2, ⟨⟨hv, hp⟩, hz, hk⟩, h1, hL, h2, h3⟩ := hpost
  dsimp only [Pt.U, Pt.locs, Pt.cells, Pt.slots] at X' e1 e2 h1 h2 h3 hsteps
  cases hv
  subst h1; subst h2; subst h3
  have hz' : H.size ≤ t.heap.size := by have h9 : (T.setVm vm₁).heap.size ≤ t.heap.size := hz; rw [show (T.setVm vm₁).heap = H from hT] at h9; exact h9
  have hk' : ∀ q : Nat, q < H.size → ¬ gFr G q → t.heap[q]? = H[q]? := by
    intro q h8 h9
    have := hk q (by show q < (T.setVm vm₁).heap.size; rw [show (T.setVm vm₁).heap = H from hT]; exact h8) h9
    rw [this]
    show (T.setVm vm₁).heap[q]? = _
    rw [show (T.setVm vm₁).heap = H from hT]
  obtain ⟨t2, a1, b1⟩ := kk U'.heap (locs ++ L) (by rw [e1]; exact hp) ⟨Nat.le_trans hS.1 (by rw [e1]; exact hz'), fun q h8 h9 => by rw [e1, hk' q (Nat.lt_of_lt_of_le h8 hS.1) h9]; exact hS.2.1 q h8 h9, fun q hq => by
      rcases List.mem_append.mp hq with h | h
      · exact hS.2.2 q h
      · exact hL q h⟩ U' rfl X'
  exact ⟨t2, hstep₁ _ fun acts => by rw [doInvoke_state]; exact hsteps.trans a1, b1⟩
theorem gRecvK (hK : gK G s) (hS : va_S (gFr G) s.heap H locs) {i : Nat} (hi : i < 4) : ∃ cell : Cell, H[gS G i]? = some cell ∧ cell.vm.isStatics = false ∧ s.vm.findClass (gKc i) = some cell.cls :=
  va_recvEc (i := 0) (ad := fun _ => gS G i) (hK.2.2.1 i hi) Nat.zero_lt_one hS
end G4
