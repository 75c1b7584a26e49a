/-! g5: calls on the kinds -/
set_option maxRecDepth 100000
def sp_ordinal (G : gG) (F : Nat) (h : gH) (a : Nat) : Option Int32 := if a = gS G 0 then sp_J0_ordinal G F h a else if a = gS G 1 then sp_J0_ordinal G F h a else if a = gS G 2 then sp_J0_ordinal G F h a else if a = gS G 3 then sp_J0_ordinal G F h a else none
section G5
variable {p : Program} {l : Launch} {e : Env} {R : Room} {s : State} {m : MethodId} {args : Array Value} {below : List Frame} {meth : Method} {c : Code} {H : Heap} {locs : List Loc} {cells slots : Nat} {Q : State → Prop}
variable {cc : ByteArray} {pc nL : Nat} {ls : Array Slot} {rest : List Value} {G : gG} {h : gH} {n a : Nat} {own : String} {ret : Option FieldType}
theorem g_ordinal (F : Nat) (X : gCx p s m args meth c cc nL own ret G) (hR : gRep G h n H) (hS : va_S (gFr G) s.heap H locs) {index : Nat} {r : Int32} (w1 : Cond.methodLink own index ⟨"SafeClears$Kind", "ordinal", "()I"⟩ ∈ lw_all) (hf : sp_ordinal G F h a = some r) (hl : ls.size = nL) (hrm : 1 ≤ R.frames ∧ 22 ≤ R.locals) (hcs : cells ≤ R.cells ∧ slots ≤ R.slots) (hroom : (rest.map fun v => v.category).sum ≤ 8) (hdg : decode cc pc = .ok (.invokevirtual index, 3))
    (kk : ∀ (H1 : Heap) (locs1 : List Loc), gRep G h n H1 → va_S (gFr G) s.heap H1 locs1 → W p l e R s m args below meth c H1 locs1 cells slots Q (F0 m (pc + 3) ls (.int r :: rest))) : W p l e R s m args below meth c H locs cells slots Q (F0 m pc ls (.ref a :: rest)) := by
  unfold sp_ordinal at hf
  have hK := X.2.1
  have hrm2 : 0 + 1 ≤ R.frames ∧ 8 + (1 + 11) + 0 ≤ R.locals := ⟨hrm.1, Nat.le_trans (by decide) hrm.2⟩
  by_cases c0 : a = gS G 0
  · replace hf := gIfp c0 hf
    exact g_callU X hR hS [] (m_J0_ordinal l G F h n a hf) w1 q1278 (C := "SafeClears$Kind$1") q1280 q1284 q95 q1285 q1279 (by decide +kernel) (c0 ▸ gRecvK hK hS (i := 0) (by decide)) rfl hl hrm2 hcs rfl hroom hdg kk
  · replace hf := gIfn c0 hf
    by_cases c1 : a = gS G 1
    · replace hf := gIfp c1 hf
      exact g_callU X hR hS [] (m_J0_ordinal l G F h n a hf) w1 q1278 (C := "SafeClears$Kind$2") q1281 q1284 q95 q1285 q1279 (by decide +kernel) (c1 ▸ gRecvK hK hS (i := 1) (by decide)) rfl hl hrm2 hcs rfl hroom hdg kk
    · replace hf := gIfn c1 hf
      by_cases c2 : a = gS G 2
      · replace hf := gIfp c2 hf
        exact g_callU X hR hS [] (m_J0_ordinal l G F h n a hf) w1 q1278 (C := "SafeClears$Kind$3") q1282 q1284 q95 q1285 q1279 (by decide +kernel) (c2 ▸ gRecvK hK hS (i := 2) (by decide)) rfl hl hrm2 hcs rfl hroom hdg kk
      · replace hf := gIfn c2 hf
        by_cases c3 : a = gS G 3
        · replace hf := gIfp c3 hf
          exact g_callU X hR hS [] (m_J0_ordinal l G F h n a hf) w1 q1278 (C := "SafeClears$Kind$4") q1283 q1284 q95 q1285 q1279 (by decide +kernel) (c3 ▸ gRecvK hK hS (i := 3) (by decide)) rfl hl hrm2 hcs rfl hroom hdg kk
        · replace hf := gIfn c3 hf
          cases hf
end G5
