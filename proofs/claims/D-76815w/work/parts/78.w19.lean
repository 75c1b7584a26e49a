/-! w19: a Signal becomes like another -/
set_option maxRecDepth 100000
/-- the heap holds a Signal at a -/
def sgAt (G : gG) (H : gH) (a : Nat) (f c g : Nat → Int32) (q : Nat → Int64) (t : Nat → Int32) : Prop :=
  H a = some (.inr (2, [.ref (gS G (f 0).toNatClampNeg), .ref (a + 2), .ref (a + 3), .ref (a + 5), .int (f 4), .int (f 5), .int (f 6), .int (f 7), .int (f 8), .int (f 9), .int (f 10), .int (f 11)]))
  ∧ H (a + 2) = some (.inl (0, 8, .inl c)) ∧ H (a + 3) = some (.inr (14, [.ref (a + 4), .int (g 1), .int (g 2)])) ∧ H (a + 4) = some (.inl (1, 1, .inr (.inl q))) ∧ H (a + 5) = some (.inl (0, 4, .inl t))
section W19
variable {G : gG} {H : gH} {a a' : Nat} {f c g f' c' g' : Nat → Int32} {q q' : Nat → Int64} {t t' : Nat → Int32} {F : Nat}
theorem sgAt_id (hs : sgAt G H a f c g q t) : sgH G H a f c g q t = H := by
  obtain ⟨h0, h2, h3, h4, h5⟩ := hs
  funext x
  unfold sgH
  by_cases e0 : x = a
  · rw [if_pos e0, e0, h0]
  by_cases e2 : x = a + 2
  · rw [if_neg e0, if_pos e2, e2, h2]
  by_cases e3 : x = a + 3
  · rw [if_neg e0, if_neg e2, if_pos e3, e3, h3]
  by_cases e4 : x = a + 4
  · rw [if_neg e0, if_neg e2, if_neg e3, if_pos e4, e4, h4]
  by_cases e5 : x = a + 5
  · rw [if_neg e0, if_neg e2, if_neg e3, if_neg e4, if_pos e5, e5, h5]
  rw [if_neg e0, if_neg e2, if_neg e3, if_neg e4, if_neg e5]
theorem sgAt_out (hs : sgAt G H a' f' c' g' q' t') (ap : a' + 6 ≤ a ∨ a + 6 ≤ a') : sgAt G (sgH G H a f c g q t) a' f' c' g' q' t' := by
  obtain ⟨h0, h2, h3, h4, h5⟩ := hs
  exact ⟨by rw [z_out (by omega)]; exact h0, by rw [z_out (by omega)]; exact h2, by rw [z_out (by omega)]; exact h3, by rw [z_out (by omega)]; exact h4, by rw [z_out (by omega)]; exact h5⟩
theorem ya_f0 (hs : sgAt G H a' f' c' g' q' t') (ap : a' + 6 ≤ a ∨ a + 6 ≤ a') : gGr 2 (sgH G H a f c g q t) a' 0 = some (gS G (f' 0).toNatClampNeg) := by simp [gGr, gGv, (sgAt_out (f := f) (c := c) (g := g) (q := q) (t := t) hs ap).1]
theorem ya_f1 (hs : sgAt G H a' f' c' g' q' t') (ap : a' + 6 ≤ a ∨ a + 6 ≤ a') : gGr 2 (sgH G H a f c g q t) a' 1 = some (a' + 2) := by simp [gGr, gGv, (sgAt_out (f := f) (c := c) (g := g) (q := q) (t := t) hs ap).1]
theorem ya_f2 (hs : sgAt G H a' f' c' g' q' t') (ap : a' + 6 ≤ a ∨ a + 6 ≤ a') : gGr 2 (sgH G H a f c g q t) a' 2 = some (a' + 3) := by simp [gGr, gGv, (sgAt_out (f := f) (c := c) (g := g) (q := q) (t := t) hs ap).1]
theorem ya_f3 (hs : sgAt G H a' f' c' g' q' t') (ap : a' + 6 ≤ a ∨ a + 6 ≤ a') : gGr 2 (sgH G H a f c g q t) a' 3 = some (a' + 5) := by simp [gGr, gGv, (sgAt_out (f := f) (c := c) (g := g) (q := q) (t := t) hs ap).1]
theorem ya_f4 (hs : sgAt G H a' f' c' g' q' t') (ap : a' + 6 ≤ a ∨ a + 6 ≤ a') : gGi 2 (sgH G H a f c g q t) a' 4 = some (f' 4) := by simp [gGi, gGv, (sgAt_out (f := f) (c := c) (g := g) (q := q) (t := t) hs ap).1]
theorem ya_f5 (hs : sgAt G H a' f' c' g' q' t') (ap : a' + 6 ≤ a ∨ a + 6 ≤ a') : gGi 2 (sgH G H a f c g q t) a' 5 = some (f' 5) := by simp [gGi, gGv, (sgAt_out (f := f) (c := c) (g := g) (q := q) (t := t) hs ap).1]
theorem ya_f6 (hs : sgAt G H a' f' c' g' q' t') (ap : a' + 6 ≤ a ∨ a + 6 ≤ a') : gGi 2 (sgH G H a f c g q t) a' 6 = some (f' 6) := by simp [gGi, gGv, (sgAt_out (f := f) (c := c) (g := g) (q := q) (t := t) hs ap).1]
theorem ya_f7 (hs : sgAt G H a' f' c' g' q' t') (ap : a' + 6 ≤ a ∨ a + 6 ≤ a') : gGi 2 (sgH G H a f c g q t) a' 7 = some (f' 7) := by simp [gGi, gGv, (sgAt_out (f := f) (c := c) (g := g) (q := q) (t := t) hs ap).1]
theorem ya_f8 (hs : sgAt G H a' f' c' g' q' t') (ap : a' + 6 ≤ a ∨ a + 6 ≤ a') : gGi 2 (sgH G H a f c g q t) a' 8 = some (f' 8) := by simp [gGi, gGv, (sgAt_out (f := f) (c := c) (g := g) (q := q) (t := t) hs ap).1]
theorem ya_f9 (hs : sgAt G H a' f' c' g' q' t') (ap : a' + 6 ≤ a ∨ a + 6 ≤ a') : gGi 2 (sgH G H a f c g q t) a' 9 = some (f' 9) := by simp [gGi, gGv, (sgAt_out (f := f) (c := c) (g := g) (q := q) (t := t) hs ap).1]
theorem ya_f10 (hs : sgAt G H a' f' c' g' q' t') (ap : a' + 6 ≤ a ∨ a + 6 ≤ a') : gGi 2 (sgH G H a f c g q t) a' 10 = some (f' 10) := by simp [gGi, gGv, (sgAt_out (f := f) (c := c) (g := g) (q := q) (t := t) hs ap).1]
theorem ya_f11 (hs : sgAt G H a' f' c' g' q' t') (ap : a' + 6 ≤ a ∨ a + 6 ≤ a') : gGi 2 (sgH G H a f c g q t) a' 11 = some (f' 11) := by simp [gGi, gGv, (sgAt_out (f := f) (c := c) (g := g) (q := q) (t := t) hs ap).1]
theorem ya_g1 (hs : sgAt G H a' f' c' g' q' t') (ap : a' + 6 ≤ a ∨ a + 6 ≤ a') : gGi 14 (sgH G H a f c g q t) (a' + 3) 1 = some (g' 1) := by simp [gGi, gGv, (sgAt_out (f := f) (c := c) (g := g) (q := q) (t := t) hs ap).2.2.1]
theorem ya_g0 (hs : sgAt G H a' f' c' g' q' t') (ap : a' + 6 ≤ a ∨ a + 6 ≤ a') : gGr 14 (sgH G H a f c g q t) (a' + 3) 0 = some (a' + 4) := by simp [gGr, gGv, (sgAt_out (f := f) (c := c) (g := g) (q := q) (t := t) hs ap).2.2.1]
theorem ya_cpc (hs : sgAt G H a' f' c' g' q' t') (ap : a' + 6 ≤ a ∨ a + 6 ≤ a') : gCpy (sgH G H a f c g q t) (a' + 2) 0 (a + 2) 0 8 = some (sgH G H a f (va_cpy c' c 0 0 8) g q t) := by
  unfold gCpy
  rw [(sgAt_out (f := f) (c := c) (g := g) (q := q) (t := t) hs ap).2.1, zc_2]
  dsimp only
  rw [if_pos (by decide), ← zu_2 (c := c) (c' := va_cpy c' c 0 0 8)]
  rfl
theorem ya_cpt (hs : sgAt G H a' f' c' g' q' t') (ap : a' + 6 ≤ a ∨ a + 6 ≤ a') : gCpy (sgH G H a f c g q t) (a' + 5) 0 (a + 5) 0 4 = some (sgH G H a f c g q (va_cpy t' t 0 0 4)) := by
  unfold gCpy
  rw [(sgAt_out (f := f) (c := c) (g := g) (q := q) (t := t) hs ap).2.2.2.2, zc_5]
  dsimp only
  rw [if_pos (by decide), ← zu_5 (t := t) (t' := va_cpy t' t 0 0 4)]
  rfl
theorem ya_cpq (hs : sgAt G H a' f' c' g' q' t') (ap : a' + 6 ≤ a ∨ a + 6 ≤ a') : gCpyL (sgH G H a f c g q t) (a' + 4) 0 (a + 4) 0 1 = some (sgH G H a f c g (va_cpy q' q 0 0 1) t) := by
  unfold gCpyL
  rw [(sgAt_out (f := f) (c := c) (g := g) (q := q) (t := t) hs ap).2.2.2.1, zc_4]
  dsimp only
  rw [if_pos (by decide), ← zu_4 (q := q) (q' := va_cpy q' q 0 0 1)]
  rfl
theorem cpq_1 (q q' : Nat → Int64) : va_cpy q' (emQ q) 0 0 1 = vp_updL q 0 (q' 0) := by
  funext j
  by_cases hj : j = 0
  · subst hj
    rw [pk_cpy_in (by omega) (by omega)]
    rfl
  · rw [pk_cpy_out (by omega)]
    unfold emQ vp_updL
    rw [if_neg hj, if_neg hj]
theorem z_or (hF : 10 ≤ F) (hs : sgAt G H a' f' c' g' q' t') (ap : a' + 6 ≤ a ∨ a + 6 ≤ a') (hb : bsJ (g' 1) (q' 0)) : sp_J1_or G F (sgH G H a f c (emG g) (emQ q) t) (a + 3) (a' + 3) = some (sgH G H a f c (upd g 1 (g' 1)) (vp_updL q 0 (q' 0)) t) := by
  obtain ⟨F, rfl⟩ : ∃ z, F = z + 1 := ⟨F - 1, by omega⟩
  have hne : ¬ (some (a + 3) = some (a' + 3)) := fun e => by
    have := Option.some.inj e
    omega
  have eg : emG g 1 = 0 := upd_eq
  unfold sp_J1_or
  rw [if_neg hne]
  simp only [z_g1, ya_g1 hs ap, Option.bind_some, eg, i_min]
  rcases hb with ⟨e1, e2⟩ | e1
  · have eQ : vp_updL q 0 (q' 0) = emQ q := by rw [e2]; rfl
    have eG : upd g 1 (g' 1) = emG g := by rw [e1]; rfl
    rw [e1, if_pos (by decide), show minI 0 0 = (0 : Int32) by decide]
    simp only [Option.bind_some]
    rw [sp_J1_or_L47, if_pos (by decide)]
    simp only [Option.bind_some, ya_g1 hs ap, e1]
    rw [if_pos (by decide)]
    simp only [Option.bind_some, z_gis, if_true, sp_J1_checkInvariants, e1 ▸ eG, eQ]
  · have eG : upd (emG g) 1 1 = upd g 1 1 := upd_upd
    rw [e1, if_neg (by decide), show minI 0 1 = (0 : Int32) by decide]
    simp only [sp_J1_ensureCapacity, Option.bind_some, z_gis, if_true, z_g0, z_qn, z_g1p, eG]
    rw [if_pos (by decide)]
    simp only [Option.bind_some]
    rw [sp_J1_or_L47, if_pos (by decide)]
    simp only [Option.bind_some, ya_g1 hs ap, e1]
    rw [if_neg (by decide)]
    simp only [Option.bind_some, ya_g0 hs ap, z_g0, z_g1, upd_eq]
    rw [show (1 : Int32) - 0 = 1 by decide, ya_cpq hs ap, cpq_1]
    simp only [Option.bind_some, z_gis, if_true, sp_J1_checkInvariants]
/-- the numbers of one that became like another -/
def lkF (f f' : Nat → Int32) : Nat → Int32 := upd (upd (upd (upd (upd (upd (upd (upd (upd f 0 (nI (f' 0).toNatClampNeg)) 4 (f' 4)) 5 (f' 5)) 6 (f' 6)) 7 (f' 7)) 8 (f' 8)) 9 (f' 9)) 10 (f' 10)) 11 (f' 11)
theorem z_like (hF : 10 ≤ F) (hs : sgAt G H a' f' c' g' q' t') (ap : a' + 6 ≤ a ∨ a + 6 ≤ a') (hk : (f' 0).toNatClampNeg < 4) (h6 : f' 6 = 0 ∨ f' 6 = 1) (hb : bsJ (g 1) (q 0)) (hb' : bsJ (g' 1) (q' 0)) : sp_X2_like G F (sgH G H a f c g q t) a a' = some (sgH G H a (lkF f f') (va_cpy c' c 0 0 8) (upd g 1 (g' 1)) (vp_updL q 0 (q' 0)) (va_cpy t' t 0 0 4)) := by
  unfold sp_X2_like
  simp only [ya_f0 hs ap, ya_f1 hs ap, ya_f2 hs ap, ya_f3 hs ap, ya_f4 hs ap, ya_f5 hs ap, ya_f6 hs ap, ya_f7 hs ap, ya_f8 hs ap, ya_f9 hs ap, ya_f10 hs ap, ya_f11 hs ap, z_p0 hk, z_p4, z_p5, z_p6, z_p7, z_p8, z_p9, z_p10, z_p11, z_f1, z_f2, z_f3, Option.bind_some, ya_cpc hs ap, z_gis, if_true, z_clear hF hb, z_or hF hs ap hb', ya_cpt hs ap, h6]
  rfl
end W19
