/-! g2: rows over the abstract heap -/
set_option maxRecDepth 100000
def gOk (ci : Nat) (C : String) (T : u_T) (N : Nat) (ty : Nat → FieldType) : Prop := (∀ w ∈ u_ws C T N, w ∈ lw_all) ∧ (∀ k, k < N → parseFieldDescriptor (T k).2.2.1 = some (ty k)) ∧ (∀ a, a < N → ∀ b, b < N → a ≠ b → (T a).2.1 ≠ (T b).2.1) ∧ gCl[ci]? = some (C, T, N)
theorem gTys_at {G : gG} {t : Nat} (ht : t < 11) : (gTys G)[t]? = some (gA G t, gTy t) := by
  simp [gTys, ht]
section G2
variable {p : Program} {l : Launch} {e : Env} {R : Room} {s : State} {m : MethodId} {args : Array Value} {below : List Frame} {meth : Method} {c : Code} {H : Heap} {locs : List Loc} {cells slots : Nat} {Q : State → Prop}
variable {cc : ByteArray} {pc nL : Nat} {ls : Array Slot} {rest : List Value} {G : gG} {h : gH} {n a : Nat} {own : String} {ret : Option FieldType}
theorem gP1 {e1 : gC} (hR : gRep G h n H) (he : h a = some e1) : va_P (gD G) gCl [(a, gcon G e1)] H := by
  intro k q hk
  cases k with
  | zero => cases hk; exact (hR.2.2 a e1 he).2
  | succ k => cases hk
theorem g_getv (X : gCx p s m args meth c cc nL own ret G) (hR : gRep G h n H) {ci index : Nat} {C ref : String} {T : u_T} {N : Nat} {ty : Nat → FieldType} (ok : gOk ci C T N ty) (k : Nat) (hk : k < N) (hlink : (Cond.fieldLink own index ref (T k).2.1 (T k).2.2.1) ∈ lw_all) (hsame : (T k).1 = ref) {v : Value} (hf : gGv ci h a k = some v) (hdg : decode cc pc = .ok (.getfield index, 3))
    (kk : W p l e R s m args below meth c H locs cells slots Q (F0 m (pc + 3) ls (v :: rest))) : W p l e R s m args below meth c H locs cells slots Q (F0 m pc ls (.ref a :: rest)) := by
  obtain ⟨⟨hx, hb, hml, hown, hts⟩, hK, hr, hlk⟩ := X
  obtain ⟨fs, he, hv⟩ := gGv_spec hf
  exact va_get (D := gD G) (cl := gCl) (ci := ci) (fs := fs) (C := C) (T := T) (N := N) (tys := gTys G) hx hb hts ok.1 hown hK.1 (gP1 hR he) 0 rfl ok.2.2.2 k hk (hts _ hlink) (fun x h9 => by rw [← hsame]; exact h9) hv hdg kk
theorem g_geti (X : gCx p s m args meth c cc nL own ret G) (hR : gRep G h n H) {ci index : Nat} {C ref : String} {T : u_T} {N : Nat} {ty : Nat → FieldType} (ok : gOk ci C T N ty) (k : Nat) (hk : k < N) (hlink : (Cond.fieldLink own index ref (T k).2.1 (T k).2.2.1) ∈ lw_all) (hsame : (T k).1 = ref) {v : Int32} (hf : gGi ci h a k = some v) (hdg : decode cc pc = .ok (.getfield index, 3))
    (kk : W p l e R s m args below meth c H locs cells slots Q (F0 m (pc + 3) ls (.int v :: rest))) : W p l e R s m args below meth c H locs cells slots Q (F0 m pc ls (.ref a :: rest)) := g_getv X hR ok k hk hlink hsame (gGi_spec hf) hdg kk
theorem g_getr (X : gCx p s m args meth c cc nL own ret G) (hR : gRep G h n H) {ci index : Nat} {C ref : String} {T : u_T} {N : Nat} {ty : Nat → FieldType} (ok : gOk ci C T N ty) (k : Nat) (hk : k < N) (hlink : (Cond.fieldLink own index ref (T k).2.1 (T k).2.2.1) ∈ lw_all) (hsame : (T k).1 = ref) {v : Nat} (hf : gGr ci h a k = some v) (hdg : decode cc pc = .ok (.getfield index, 3))
    (kk : W p l e R s m args below meth c H locs cells slots Q (F0 m (pc + 3) ls (.ref v :: rest))) : W p l e R s m args below meth c H locs cells slots Q (F0 m pc ls (.ref a :: rest)) := g_getv X hR ok k hk hlink hsame (gGr_spec hf) hdg kk
theorem g_getvN (X : gCx p s m args meth c cc nL own ret G) (hR : gRep G h n H) {ci index : Nat} {C ref host : String} {T : u_T} {N : Nat} {ty : Nat → FieldType} (ok : gOk ci C T N ty) (k : Nat) (hk : k < N) (hlink : (Cond.fieldLinkNest own index ref (T k).2.1 (T k).2.2.1 host) ∈ lw_tbl) (hsame : (T k).1 = ref) {v : Value} (hf : gGv ci h a k = some v) (hdg : decode cc pc = .ok (.getfield index, 3))
    (kk : W p l e R s m args below meth c H locs cells slots Q (F0 m (pc + 3) ls (v :: rest))) : W p l e R s m args below meth c H locs cells slots Q (F0 m pc ls (.ref a :: rest)) := by
  obtain ⟨⟨hx, hb, hml, hown, hts⟩, hK, hr, hlk⟩ := X
  obtain ⟨fs, he, hv⟩ := gGv_spec hf
  exact va_getN (D := gD G) (cl := gCl) (ci := ci) (fs := fs) (C := C) (T := T) (N := N) (tys := gTys G) hx hb hts ok.1 hown hK.1 (gP1 hR he) 0 rfl ok.2.2.2 k hk ((hK.2.1 _ hlink rfl).use rfl) (fun x h9 => by rw [← hsame]; exact h9) hv hdg kk
theorem g_getiN (X : gCx p s m args meth c cc nL own ret G) (hR : gRep G h n H) {ci index : Nat} {C ref host : String} {T : u_T} {N : Nat} {ty : Nat → FieldType} (ok : gOk ci C T N ty) (k : Nat) (hk : k < N) (hlink : (Cond.fieldLinkNest own index ref (T k).2.1 (T k).2.2.1 host) ∈ lw_tbl) (hsame : (T k).1 = ref) {v : Int32} (hf : gGi ci h a k = some v) (hdg : decode cc pc = .ok (.getfield index, 3))
    (kk : W p l e R s m args below meth c H locs cells slots Q (F0 m (pc + 3) ls (.int v :: rest))) : W p l e R s m args below meth c H locs cells slots Q (F0 m pc ls (.ref a :: rest)) := g_getvN X hR ok k hk hlink hsame (gGi_spec hf) hdg kk
theorem g_getrN (X : gCx p s m args meth c cc nL own ret G) (hR : gRep G h n H) {ci index : Nat} {C ref host : String} {T : u_T} {N : Nat} {ty : Nat → FieldType} (ok : gOk ci C T N ty) (k : Nat) (hk : k < N) (hlink : (Cond.fieldLinkNest own index ref (T k).2.1 (T k).2.2.1 host) ∈ lw_tbl) (hsame : (T k).1 = ref) {v : Nat} (hf : gGr ci h a k = some v) (hdg : decode cc pc = .ok (.getfield index, 3))
    (kk : W p l e R s m args below meth c H locs cells slots Q (F0 m (pc + 3) ls (.ref v :: rest))) : W p l e R s m args below meth c H locs cells slots Q (F0 m pc ls (.ref a :: rest)) := g_getvN X hR ok k hk hlink hsame (gGr_spec hf) hdg kk
/-- what a field's change leaves -/
theorem gPut_rep (hR : gRep G h n H) (hK : gK G s) (hts : ∀ w ∈ lw_all, w.before args s = true) {ci : Nat} {C : String} {T : u_T} {N : Nat} {ty : Nat → FieldType} (ok : gOk ci C T N ty) {k : Nat} (hk : k < N) {fs : List Value} {v : Value} (he : h a = some (.inr (ci, fs))) (hl : k < fs.length) {cell : Cell} (q2 : cell.cls = (gD G).1 ci) (q3 : cell.vm = .none) (q4 : ∀ j, j < N → cell.slots[(gD G).2 ci j]? = some (vp_V fs j)) {H1 : Heap} (e1 : H1[a]? = some (cell.setSlot ((gD G).2 ci k) v)) (z : H1.size = H.size) (oq : ∀ q : Nat, q ≠ a → H1[q]? = H[q]?) : gRep G (va_up h a (some (.inr (ci, fs.set k v)))) n H1 := by
  have hap := va_apart (own := C) hts ok.1 ty ok.2.1 ok.2.2.1 hK.1 ok.2.2.2
  exact hR.set (hR.2.2 a _ he).1 z oq ⟨_, ok.2.2.2, t_OB.to (V := updV (vp_V fs) k v) ⟨_, e1, q2, q3, t_set q4 hap hk v⟩ (fun j _ => vp_updV_set hl v j)⟩
theorem g_put (X : gCx p s m args meth c cc nL own ret G) (hR : gRep G h n H) (hS : va_S (gFr G) s.heap H locs) {ci index : Nat} {C ref : String} {T : u_T} {N : Nat} {ty : Nat → FieldType} (ok : gOk ci C T N ty) (k : Nat) (hk : k < N) (hlink : (Cond.fieldLink own index ref (T k).2.1 (T k).2.2.1) ∈ lw_all) (hsame : (T k).1 = ref) (hfin : (T k).2.2.2 = false) {v : Value} {h1 : gH} (hf : gPv ci h a k v = some h1) {ty1 : FieldType} (hty1 : ty k = ty1) (hn : narrow ty1 v = v) (hfit : fits ty1 v = true) (hdg : decode cc pc = .ok (.putfield index, 3))
    (kk : ∀ (H1 : Heap) (locs1 : List Loc), gRep G h1 n H1 → va_S (gFr G) s.heap H1 locs1 → W p l e R s m args below meth c H1 locs1 cells slots Q (F0 m (pc + 3) ls rest)) : W p l e R s m args below meth c H locs cells slots Q (F0 m pc ls (v :: .ref a :: rest)) := by
  obtain ⟨⟨hx, hb, hml, hown, hts⟩, hK, hr, hlk⟩ := X
  obtain ⟨fs, he, hl, rfl⟩ := gPv_spec hf
  obtain ⟨r, h1, cell, q1, q2, q3, q4⟩ := (hR.2.2 a _ he).2
  have hr : r = (C, T, N) := Option.some.inj (h1.symm.trans ok.2.2.2)
  subst hr
  obtain ⟨hS2, hfc, kC, hkC, hkind⟩ := hK.1.1 ci _ ok.2.2.2
  obtain ⟨cf, kf, fi, f, hi, hsl⟩ := hS2 k hk
  have hlay := hts _ (ok.1 _ (u_in_lay hk))
  unfold u_lay at hlay
  rw [if_neg (by rw [hfin]; decide)] at hlay
  have hst := (u_facts hfc hkC (u_lays hts ok.1 hk) hi).1
  have h6 := u_store hfc hkC hkind hlay hi (ok.2.1 k hk) (by rw [hty1]; exact hn) (by rw [hty1]; exact hfit)
  refine W.putK hx hb (f := f) ⟨hown, hts _ hlink, ⟨_, _, _, by rw [← hsame]; exact hi⟩, hst⟩ (by rw [q2]; exact h6) q1 q3 (by rw [hsl]; exact k2_hasslot (q4 k hk)) rfl rfl hdg fun H' e1 e2 e3 => ?_
  rw [hsl] at e1 ⊢
  exact kk H' _ (gPut_rep hR hK hts ok hk he hl q2 q3 q4 e1 e2 e3) (hS.put e2 e3 (hR.2.2 a _ he).1)
theorem g_putN (X : gCx p s m args meth c cc nL own ret G) (hR : gRep G h n H) (hS : va_S (gFr G) s.heap H locs) {ci index : Nat} {C ref host : String} {T : u_T} {N : Nat} {ty : Nat → FieldType} (ok : gOk ci C T N ty) (k : Nat) (hk : k < N) (hlink : (Cond.fieldLinkNest own index ref (T k).2.1 (T k).2.2.1 host) ∈ lw_tbl) (hsame : (T k).1 = ref) (hfin : (T k).2.2.2 = false) {v : Value} {h1 : gH} (hf : gPv ci h a k v = some h1) {ty1 : FieldType} (hty1 : ty k = ty1) (hn : narrow ty1 v = v) (hfit : fits ty1 v = true) (hdg : decode cc pc = .ok (.putfield index, 3))
    (kk : ∀ (H1 : Heap) (locs1 : List Loc), gRep G h1 n H1 → va_S (gFr G) s.heap H1 locs1 → W p l e R s m args below meth c H1 locs1 cells slots Q (F0 m (pc + 3) ls rest)) : W p l e R s m args below meth c H locs cells slots Q (F0 m pc ls (v :: .ref a :: rest)) := by
  obtain ⟨⟨hx, hb, hml, hown, hts⟩, hK, hr, hlk⟩ := X
  obtain ⟨fs, he, hl, rfl⟩ := gPv_spec hf
  obtain ⟨r, h1, cell, q1, q2, q3, q4⟩ := (hR.2.2 a _ he).2
  have hr : r = (C, T, N) := Option.some.inj (h1.symm.trans ok.2.2.2)
  subst hr
  obtain ⟨hS2, hfc, kC, hkC, hkind⟩ := hK.1.1 ci _ ok.2.2.2
  obtain ⟨cf, kf, fi, f, hi, hsl⟩ := hS2 k hk
  have hlay := hts _ (ok.1 _ (u_in_lay hk))
  unfold u_lay at hlay
  rw [if_neg (by rw [hfin]; decide)] at hlay
  have hst := (u_facts hfc hkC (u_lays hts ok.1 hk) hi).1
  have h6 := u_store hfc hkC hkind hlay hi (ok.2.1 k hk) (by rw [hty1]; exact hn) (by rw [hty1]; exact hfit)
  refine va_WputK hx hb (f := f) hown ((hK.2.1 _ hlink rfl).use rfl) (by rw [← hsame]; exact hi) hst (by rw [q2]; exact h6) q1 q3 (by rw [hsl]; exact k2_hasslot (q4 k hk)) rfl rfl hdg fun H' e1 e2 e3 => ?_
  rw [hsl] at e1 ⊢
  exact kk H' _ (gPut_rep hR hK hts ok hk he hl q2 q3 q4 e1 e2 e3) (hS.put e2 e3 (hR.2.2 a _ he).1)
theorem g_putF (X : gCx p s m args meth c cc nL own ret G) (hR : gRep G h n H) (hS : va_S (gFr G) s.heap H locs) (hin : meth.name = "<init>") {ci index : Nat} {C ref : String} {T : u_T} {N : Nat} {ty : Nat → FieldType} (ok : gOk ci C T N ty) (k : Nat) (hk : k < N) (hlink : (Cond.fieldLink own index ref (T k).2.1 (T k).2.2.1) ∈ lw_all) (hsame : (T k).1 = ref) (hfin : (T k).2.2.2 = true) (hdecl : (T k).1 = own) {v : Value} {h1 : gH} (hf : gPv ci h a k v = some h1) {ty1 : FieldType} (hty1 : ty k = ty1) (hn : narrow ty1 v = v) (hfit : fits ty1 v = true) (hdg : decode cc pc = .ok (.putfield index, 3))
    (kk : ∀ (H1 : Heap) (locs1 : List Loc), gRep G h1 n H1 → va_S (gFr G) s.heap H1 locs1 → W p l e R s m args below meth c H1 locs1 cells slots Q (F0 m (pc + 3) ls rest)) : W p l e R s m args below meth c H locs cells slots Q (F0 m pc ls (v :: .ref a :: rest)) := by
  obtain ⟨⟨hx, hb, hml, hown, hts⟩, hK, hr, hlk⟩ := X
  obtain ⟨fs, he, hl, rfl⟩ := gPv_spec hf
  obtain ⟨r, h1, cell, q1, q2, q3, q4⟩ := (hR.2.2 a _ he).2
  have hr : r = (C, T, N) := Option.some.inj (h1.symm.trans ok.2.2.2)
  subst hr
  obtain ⟨hS2, hfc, kC, hkC, hkind⟩ := hK.1.1 ci _ ok.2.2.2
  obtain ⟨cf, kf, fi, f, hi, hsl⟩ := hS2 k hk
  have hlay := hts _ (ok.1 _ (u_in_lay hk))
  unfold u_lay at hlay
  rw [if_pos hfin] at hlay
  have hst := (u_facts hfc hkC (u_lays hts ok.1 hk) hi).1
  have hcf : m.cls = cf := by
    obtain ⟨_, _, c', _, _, _, -, -, hf', -, -, -, hown2, -⟩ := Cond.laysFinal_spec hlay
    have e1 : c' = cf := by have := hi.symm.trans hf'; simp at this; exact this.1.symm
    rw [hdecl] at hown2
    rw [← e1]; exact Option.some.inj (hown.symm.trans hown2)
  have h6 := u_fits hfc hkC hkind (Or.inr hlay) hi (ok.2.1 k hk) (by rw [hty1]; exact hn) (by rw [hty1]; exact hfit)
  refine W.putFinK hx hb hown (hts _ hlink) (by rw [← hsame]; exact hi) hst hcf hin (by rw [q2]; exact h6) q1 q3 (by rw [hsl]; exact k2_hasslot (q4 k hk)) rfl rfl hdg fun H' e1 e2 e3 => ?_
  rw [hsl] at e1 ⊢
  exact kk H' _ (gPut_rep hR hK hts ok hk he hl q2 q3 q4 e1 e2 e3) (hS.put e2 e3 (hR.2.2 a _ he).1)
theorem g_iald (X : gCx p s m args meth c cc nL own ret G) (hR : gRep G h n H) {i : Int32} {v : Int32} (hf : gAi 0 h a i = some v) (hdg : decode cc pc = .ok (.iaload, 1))
    (kk : W p l e R s m args below meth c H locs cells slots Q (F0 m (pc + 1) ls (.int v :: rest))) : W p l e R s m args below meth c H locs cells slots Q (F0 m pc ls (.int i :: .ref a :: rest)) := by
  obtain ⟨⟨hx, hb, hml, hown, hts⟩, hK, hr, hlk⟩ := X
  obtain ⟨N, f, he, hin, rfl⟩ := gAi_spec hf
  exact va_iald (D := gD G) (cl := gCl) (tys := gTys G) hx hb hK.1 (gP1 hR he) 0 0 rfl (gTys_at (by decide)) hin hdg kk
theorem g_bald (X : gCx p s m args meth c cc nL own ret G) (hR : gRep G h n H) {i : Int32} {v : Int32} (hf : gAi 2 h a i = some v) (hdg : decode cc pc = .ok (.baload, 1))
    (kk : W p l e R s m args below meth c H locs cells slots Q (F0 m (pc + 1) ls (.int v :: rest))) : W p l e R s m args below meth c H locs cells slots Q (F0 m pc ls (.int i :: .ref a :: rest)) := by
  obtain ⟨⟨hx, hb, hml, hown, hts⟩, hK, hr, hlk⟩ := X
  obtain ⟨N, f, he, hin, rfl⟩ := gAi_spec hf
  exact va_bald (D := gD G) (cl := gCl) (tys := gTys G) hx hb hK.1 (gP1 hR he) 0 2 rfl (gTys_at (by decide)) hin hdg kk
theorem g_zald (X : gCx p s m args meth c cc nL own ret G) (hR : gRep G h n H) {i : Int32} {v : Int32} (hf : gAi 3 h a i = some v) (hdg : decode cc pc = .ok (.baload, 1))
    (kk : W p l e R s m args below meth c H locs cells slots Q (F0 m (pc + 1) ls (.int v :: rest))) : W p l e R s m args below meth c H locs cells slots Q (F0 m pc ls (.int i :: .ref a :: rest)) := by
  obtain ⟨⟨hx, hb, hml, hown, hts⟩, hK, hr, hlk⟩ := X
  obtain ⟨N, f, he, hin, rfl⟩ := gAi_spec hf
  exact va_zald (D := gD G) (cl := gCl) (tys := gTys G) hx hb hK.1 (gP1 hR he) 0 3 rfl (gTys_at (by decide)) hin hdg kk
theorem g_sald (X : gCx p s m args meth c cc nL own ret G) (hR : gRep G h n H) {i : Int32} {v : Int32} (hf : gAi 4 h a i = some v) (hdg : decode cc pc = .ok (.saload, 1))
    (kk : W p l e R s m args below meth c H locs cells slots Q (F0 m (pc + 1) ls (.int v :: rest))) : W p l e R s m args below meth c H locs cells slots Q (F0 m pc ls (.int i :: .ref a :: rest)) := by
  obtain ⟨⟨hx, hb, hml, hown, hts⟩, hK, hr, hlk⟩ := X
  obtain ⟨N, f, he, hin, rfl⟩ := gAi_spec hf
  exact va_sald (D := gD G) (cl := gCl) (tys := gTys G) hx hb hK.1 (gP1 hR he) 0 4 rfl (gTys_at (by decide)) hin hdg kk
theorem g_lald (X : gCx p s m args meth c cc nL own ret G) (hR : gRep G h n H) {i : Int32} {v : Int64} (hf : gAl h a i = some v) (hdg : decode cc pc = .ok (.laload, 1))
    (kk : W p l e R s m args below meth c H locs cells slots Q (F0 m (pc + 1) ls (.long v :: rest))) : W p l e R s m args below meth c H locs cells slots Q (F0 m pc ls (.int i :: .ref a :: rest)) := by
  obtain ⟨⟨hx, hb, hml, hown, hts⟩, hK, hr, hlk⟩ := X
  obtain ⟨N, f, he, hin, rfl⟩ := gAl_spec hf
  exact va_lald (D := gD G) (cl := gCl) (tys := gTys G) hx hb hK.1 (gP1 hR he) 0 1 rfl (gTys_at (by decide)) hin hdg kk
theorem g_aald (X : gCx p s m args meth c cc nL own ret G) (hR : gRep G h n H) (t : Nat) (ht : t < 11) {C : String} (hC : gTy t = .object C) {i : Int32} {v : Nat} (hf : gAr t h a i = some v) (hdg : decode cc pc = .ok (.aaload, 1))
    (kk : W p l e R s m args below meth c H locs cells slots Q (F0 m (pc + 1) ls (.ref v :: rest))) : W p l e R s m args below meth c H locs cells slots Q (F0 m pc ls (.int i :: .ref a :: rest)) := by
  obtain ⟨⟨hx, hb, hml, hown, hts⟩, hK, hr, hlk⟩ := X
  obtain ⟨N, f, he, hin, hv⟩ := gAr_spec hf
  refine va_aldq (D := gD G) (cl := gCl) (tys := gTys G) (C := C) hx hb hK.1 (gP1 hR he) 0 t rfl (by rw [gTys_at ht, hC]) hin hdg ?_
  rw [hv]
  exact kk
theorem g_alen (X : gCx p s m args meth c cc nL own ret G) (hR : gRep G h n H) (t : Nat) (ht : t < 11) {v : Int32} (hf : gAn t h a = some v) (hdg : decode cc pc = .ok (.arraylength, 1))
    (kk : W p l e R s m args below meth c H locs cells slots Q (F0 m (pc + 1) ls (.int v :: rest))) : W p l e R s m args below meth c H locs cells slots Q (F0 m pc ls (.ref a :: rest)) := by
  obtain ⟨⟨hx, hb, hml, hown, hts⟩, hK, hr, hlk⟩ := X
  obtain ⟨N, f, he, hv⟩ := gAn_spec hf
  exact va_alen (D := gD G) (cl := gCl) (tys := gTys G) hx hb hK.1 (gP1 hR he) 0 t rfl (gTys_at ht) hv hdg kk
theorem g_iast (X : gCx p s m args meth c cc nL own ret G) (hR : gRep G h n H) (hS : va_S (gFr G) s.heap H locs) {i : Int32} {x : Int32} {h1 : gH} (hf : gSi h a i x = some h1) (hdg : decode cc pc = .ok (.iastore, 1))
    (kk : ∀ (H1 : Heap) (locs1 : List Loc), gRep G h1 n H1 → va_S (gFr G) s.heap H1 locs1 → W p l e R s m args below meth c H1 locs1 cells slots Q (F0 m (pc + 1) ls rest)) : W p l e R s m args below meth c H locs cells slots Q (F0 m pc ls (.int x :: .int i :: .ref a :: rest)) := by
  obtain ⟨⟨hx, hb, hml, hown, hts⟩, hK, hr, hlk⟩ := X
  obtain ⟨N, f, he, hin, rfl⟩ := gSi_spec hf
  have hc : H[a]? = some (vp_cell (gA G 0) (N, .inl f)) := (hR.2.2 a _ he).2
  refine W.iast hx hb hc ((hK.1.2 0 _ (gTys_at (by decide))).1 N (fun j => .int (f j))) (fun q => by cases q) (by show ¬ (i < 0 ∨ (arrV _ _ _).slots.size ≤ _); rw [arrV_size]; exact hin) rfl rfl hdg fun H1 e z oq => ?_
  refine kk H1 _ (hR.set (e := .inl (0, N, .inl (upd f i.toNatClampNeg x))) (hR.2.2 a _ he).1 z oq ?_) (hS.put z oq (hR.2.2 a _ he).1)
  show H1[a]? = some (vp_cell _ _)
  rw [e]
  rw [vp_cell_i, vp_cell_i, arrV_store]
  congr 2
  funext q
  by_cases hq : q = i.toNatClampNeg
  · subst hq
    simp [updV, upd]
  · simp [updV, upd, vp_updL, hq]
theorem g_bast (X : gCx p s m args meth c cc nL own ret G) (hR : gRep G h n H) (hS : va_S (gFr G) s.heap H locs) {i : Int32} {x : Int32} {h1 : gH} (hf : gSb 2 h a i x = some h1) (hdg : decode cc pc = .ok (.bastore, 1))
    (kk : ∀ (H1 : Heap) (locs1 : List Loc), gRep G h1 n H1 → va_S (gFr G) s.heap H1 locs1 → W p l e R s m args below meth c H1 locs1 cells slots Q (F0 m (pc + 1) ls rest)) : W p l e R s m args below meth c H locs cells slots Q (F0 m pc ls (.int x :: .int i :: .ref a :: rest)) := by
  obtain ⟨⟨hx, hb, hml, hown, hts⟩, hK, hr, hlk⟩ := X
  obtain ⟨N, f, he, hin, rfl⟩ := gSb_spec hf
  have hc : H[a]? = some (vp_cell (gA G 2) (N, .inl f)) := (hR.2.2 a _ he).2
  refine W.bast hx hb hc ((hK.1.2 2 _ (gTys_at (by decide))).1 N (fun j => .int (f j))) (fun q => by cases q) (by show ¬ (i < 0 ∨ (arrV _ _ _).slots.size ≤ _); rw [arrV_size]; exact hin) rfl rfl hdg fun H1 e z oq => ?_
  refine kk H1 _ (hR.set (e := .inl (2, N, .inl (upd f i.toNatClampNeg (vp_nar (gTy 2) x)))) (hR.2.2 a _ he).1 z oq ?_) (hS.put z oq (hR.2.2 a _ he).1)
  show H1[a]? = some (vp_cell _ _)
  rw [e]
  rw [vp_cell_i, vp_cell_i, arrV_store]
  congr 2
  funext q
  by_cases hq : q = i.toNatClampNeg
  · subst hq
    (simp [updV, upd, vp_nar, gTy]; try rfl)
  · simp [updV, upd, vp_updL, hq]
theorem g_zast (X : gCx p s m args meth c cc nL own ret G) (hR : gRep G h n H) (hS : va_S (gFr G) s.heap H locs) {i : Int32} {x : Int32} {h1 : gH} (hf : gSb 3 h a i x = some h1) (hdg : decode cc pc = .ok (.bastore, 1))
    (kk : ∀ (H1 : Heap) (locs1 : List Loc), gRep G h1 n H1 → va_S (gFr G) s.heap H1 locs1 → W p l e R s m args below meth c H1 locs1 cells slots Q (F0 m (pc + 1) ls rest)) : W p l e R s m args below meth c H locs cells slots Q (F0 m pc ls (.int x :: .int i :: .ref a :: rest)) := by
  obtain ⟨⟨hx, hb, hml, hown, hts⟩, hK, hr, hlk⟩ := X
  obtain ⟨N, f, he, hin, rfl⟩ := gSb_spec hf
  have hc : H[a]? = some (vp_cell (gA G 3) (N, .inl f)) := (hR.2.2 a _ he).2
  refine W.zast hx hb hc ((hK.1.2 3 _ (gTys_at (by decide))).1 N (fun j => .int (f j))) (fun q => by cases q) (by show ¬ (i < 0 ∨ (arrV _ _ _).slots.size ≤ _); rw [arrV_size]; exact hin) rfl rfl hdg fun H1 e z oq => ?_
  refine kk H1 _ (hR.set (e := .inl (3, N, .inl (upd f i.toNatClampNeg (vp_nar (gTy 3) x)))) (hR.2.2 a _ he).1 z oq ?_) (hS.put z oq (hR.2.2 a _ he).1)
  show H1[a]? = some (vp_cell _ _)
  rw [e]
  rw [vp_cell_i, vp_cell_i, arrV_store]
  congr 2
  funext q
  by_cases hq : q = i.toNatClampNeg
  · subst hq
    (simp [updV, upd, vp_nar, gTy]; try rfl)
  · simp [updV, upd, vp_updL, hq]
theorem g_sast (X : gCx p s m args meth c cc nL own ret G) (hR : gRep G h n H) (hS : va_S (gFr G) s.heap H locs) {i : Int32} {x : Int32} {h1 : gH} (hf : gSb 4 h a i x = some h1) (hdg : decode cc pc = .ok (.sastore, 1))
    (kk : ∀ (H1 : Heap) (locs1 : List Loc), gRep G h1 n H1 → va_S (gFr G) s.heap H1 locs1 → W p l e R s m args below meth c H1 locs1 cells slots Q (F0 m (pc + 1) ls rest)) : W p l e R s m args below meth c H locs cells slots Q (F0 m pc ls (.int x :: .int i :: .ref a :: rest)) := by
  obtain ⟨⟨hx, hb, hml, hown, hts⟩, hK, hr, hlk⟩ := X
  obtain ⟨N, f, he, hin, rfl⟩ := gSb_spec hf
  have hc : H[a]? = some (vp_cell (gA G 4) (N, .inl f)) := (hR.2.2 a _ he).2
  refine W.sast hx hb hc ((hK.1.2 4 _ (gTys_at (by decide))).1 N (fun j => .int (f j))) (fun q => by cases q) (by show ¬ (i < 0 ∨ (arrV _ _ _).slots.size ≤ _); rw [arrV_size]; exact hin) rfl rfl hdg fun H1 e z oq => ?_
  refine kk H1 _ (hR.set (e := .inl (4, N, .inl (upd f i.toNatClampNeg (vp_nar (gTy 4) x)))) (hR.2.2 a _ he).1 z oq ?_) (hS.put z oq (hR.2.2 a _ he).1)
  show H1[a]? = some (vp_cell _ _)
  rw [e]
  rw [vp_cell_i, vp_cell_i, arrV_store]
  congr 2
  funext q
  by_cases hq : q = i.toNatClampNeg
  · subst hq
    (simp [updV, upd, vp_nar, gTy]; try rfl)
  · simp [updV, upd, vp_updL, hq]
theorem g_last (X : gCx p s m args meth c cc nL own ret G) (hR : gRep G h n H) (hS : va_S (gFr G) s.heap H locs) {i : Int32} {x : Int64} {h1 : gH} (hf : gSl h a i x = some h1) (hdg : decode cc pc = .ok (.lastore, 1))
    (kk : ∀ (H1 : Heap) (locs1 : List Loc), gRep G h1 n H1 → va_S (gFr G) s.heap H1 locs1 → W p l e R s m args below meth c H1 locs1 cells slots Q (F0 m (pc + 1) ls rest)) : W p l e R s m args below meth c H locs cells slots Q (F0 m pc ls (.long x :: .int i :: .ref a :: rest)) := by
  obtain ⟨⟨hx, hb, hml, hown, hts⟩, hK, hr, hlk⟩ := X
  obtain ⟨N, f, he, hin, rfl⟩ := gSl_spec hf
  have hc : H[a]? = some (vp_cell (gA G 1) (N, .inr (.inl f))) := (hR.2.2 a _ he).2
  refine W.last hx hb hc ((hK.1.2 1 _ (gTys_at (by decide))).1 N (fun j => .long (f j))) (fun q => by cases q) (by show ¬ (i < 0 ∨ (arrV _ _ _).slots.size ≤ _); rw [arrV_size]; exact hin) rfl rfl hdg fun H1 e z oq => ?_
  refine kk H1 _ (hR.set (e := .inl (1, N, .inr (.inl (vp_updL f i.toNatClampNeg x)))) (hR.2.2 a _ he).1 z oq ?_) (hS.put z oq (hR.2.2 a _ he).1)
  show H1[a]? = some (vp_cell _ _)
  rw [e]
  rw [vp_cell_l, vp_cell_l, arrV_store]
  congr 2
  funext q
  by_cases hq : q = i.toNatClampNeg
  · subst hq
    simp [updV, vp_updL]
  · simp [updV, upd, vp_updL, hq]
end G2
