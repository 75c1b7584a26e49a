/-! w14: one Signal by itself (six cells at a): f its object's ints, c its cells, g its bit set's ints, q the words, t its times -/
set_option maxRecDepth 100000
def sgH (G : gG) (H : gH) (a : Nat) (f c g : Nat → Int32) (q : Nat → Int64) (t : Nat → Int32) : gH := fun x =>
  if x = a then some (.inr (2, [.ref (gS G (f 0).toNatClampNeg), .ref (a + 2), .ref (a + 3), .ref (a + 5), .int (f 4), .int (f 5), .int (f 6), .int (f 7), .int (f 8), .int (f 9), .int (f 10), .int (f 11)]))
  else if x = a + 2 then some (.inl (0, 8, .inl c))
  else if x = a + 3 then some (.inr (14, [.ref (a + 4), .int (g 1), .int (g 2)]))
  else if x = a + 4 then some (.inl (1, 1, .inr (.inl q)))
  else if x = a + 5 then some (.inl (0, 4, .inl t))
  else H x
section W14
variable {G : gG} {H : gH} {a : Nat} {f c g : Nat → Int32} {q : Nat → Int64} {t : Nat → Int32} {F : Nat}
theorem z_out {x : Nat} (hx : x < a ∨ a + 6 ≤ x ∨ x = a + 1) : sgH G H a f c g q t x = H x := by
  unfold sgH
  rw [if_neg (by omega), if_neg (by omega), if_neg (by omega), if_neg (by omega), if_neg (by omega)]
theorem zc_0 : sgH G H a f c g q t a = some (.inr (2, [.ref (gS G (f 0).toNatClampNeg), .ref (a + 2), .ref (a + 3), .ref (a + 5), .int (f 4), .int (f 5), .int (f 6), .int (f 7), .int (f 8), .int (f 9), .int (f 10), .int (f 11)])) := if_pos rfl
theorem zc_2 : sgH G H a f c g q t (a + 2) = some (.inl (0, 8, .inl c)) := by
  unfold sgH
  rw [if_neg (by omega), if_pos rfl]
theorem zc_3 : sgH G H a f c g q t (a + 3) = some (.inr (14, [.ref (a + 4), .int (g 1), .int (g 2)])) := by
  unfold sgH
  rw [if_neg (by omega), if_neg (by omega), if_pos rfl]
theorem zc_4 : sgH G H a f c g q t (a + 4) = some (.inl (1, 1, .inr (.inl q))) := by
  unfold sgH
  rw [if_neg (by omega), if_neg (by omega), if_neg (by omega), if_pos rfl]
theorem zc_5 : sgH G H a f c g q t (a + 5) = some (.inl (0, 4, .inl t)) := by
  unfold sgH
  rw [if_neg (by omega), if_neg (by omega), if_neg (by omega), if_neg (by omega), if_pos rfl]
theorem zu_0 {f' : Nat → Int32} : va_up (sgH G H a f c g q t) a (some (.inr (2, [.ref (gS G (f' 0).toNatClampNeg), .ref (a + 2), .ref (a + 3), .ref (a + 5), .int (f' 4), .int (f' 5), .int (f' 6), .int (f' 7), .int (f' 8), .int (f' 9), .int (f' 10), .int (f' 11)]))) = sgH G H a f' c g q t := by
  funext x
  unfold va_up sgH
  by_cases h : x = a
  · rw [if_pos h, if_pos h]
  · rw [if_neg h, if_neg h, if_neg h]
theorem zu_2 {c' : Nat → Int32} : va_up (sgH G H a f c g q t) (a + 2) (some (.inl (0, 8, .inl c'))) = sgH G H a f c' g q t := by
  funext x
  unfold va_up sgH
  by_cases h : x = a + 2
  · rw [if_pos h, if_neg (by omega), if_pos h]
  · rw [if_neg h, if_neg h, if_neg h]
theorem zu_3 {g' : Nat → Int32} : va_up (sgH G H a f c g q t) (a + 3) (some (.inr (14, [.ref (a + 4), .int (g' 1), .int (g' 2)]))) = sgH G H a f c g' q t := by
  funext x
  unfold va_up sgH
  by_cases h : x = a + 3
  · rw [if_pos h, if_neg (by omega), if_neg (by omega), if_pos h]
  · rw [if_neg h, if_neg h, if_neg h]
theorem zu_4 {q' : Nat → Int64} : va_up (sgH G H a f c g q t) (a + 4) (some (.inl (1, 1, .inr (.inl q')))) = sgH G H a f c g q' t := by
  funext x
  unfold va_up sgH
  by_cases h : x = a + 4
  · rw [if_pos h, if_neg (by omega), if_neg (by omega), if_neg (by omega), if_pos h]
  · rw [if_neg h, if_neg h, if_neg h]
theorem zu_5 {t' : Nat → Int32} : va_up (sgH G H a f c g q t) (a + 5) (some (.inl (0, 4, .inl t'))) = sgH G H a f c g q t' := by
  funext x
  unfold va_up sgH
  by_cases h : x = a + 5
  · rw [if_pos h, if_neg (by omega), if_neg (by omega), if_neg (by omega), if_neg (by omega), if_pos h]
  · rw [if_neg h, if_neg h, if_neg h]
theorem z_is : gIs 2 (sgH G H a f c g q t) a = true := by simp [gIs, zc_0]
theorem z_f0 : gGr 2 (sgH G H a f c g q t) a 0 = some (gS G (f 0).toNatClampNeg) := by simp [gGr, gGv, zc_0]
theorem z_f1 : gGr 2 (sgH G H a f c g q t) a 1 = some (a + 2) := by simp [gGr, gGv, zc_0]
theorem z_f2 : gGr 2 (sgH G H a f c g q t) a 2 = some (a + 3) := by simp [gGr, gGv, zc_0]
theorem z_f3 : gGr 2 (sgH G H a f c g q t) a 3 = some (a + 5) := by simp [gGr, gGv, zc_0]
theorem z_f4 : gGi 2 (sgH G H a f c g q t) a 4 = some (f 4) := by simp [gGi, gGv, zc_0]
theorem z_p4 (x : Int32) : gPv 2 (sgH G H a f c g q t) a 4 (.int x) = some (sgH G H a (upd f 4 x) c g q t) := by
  refine Eq.trans ?_ (congrArg some (zu_0 (f := f) (f' := upd f 4 x)))
  simp [gPv, zc_0, upd]
theorem z_f5 : gGi 2 (sgH G H a f c g q t) a 5 = some (f 5) := by simp [gGi, gGv, zc_0]
theorem z_p5 (x : Int32) : gPv 2 (sgH G H a f c g q t) a 5 (.int x) = some (sgH G H a (upd f 5 x) c g q t) := by
  refine Eq.trans ?_ (congrArg some (zu_0 (f := f) (f' := upd f 5 x)))
  simp [gPv, zc_0, upd]
theorem z_f6 : gGi 2 (sgH G H a f c g q t) a 6 = some (f 6) := by simp [gGi, gGv, zc_0]
theorem z_p6 (x : Int32) : gPv 2 (sgH G H a f c g q t) a 6 (.int x) = some (sgH G H a (upd f 6 x) c g q t) := by
  refine Eq.trans ?_ (congrArg some (zu_0 (f := f) (f' := upd f 6 x)))
  simp [gPv, zc_0, upd]
theorem z_f7 : gGi 2 (sgH G H a f c g q t) a 7 = some (f 7) := by simp [gGi, gGv, zc_0]
theorem z_p7 (x : Int32) : gPv 2 (sgH G H a f c g q t) a 7 (.int x) = some (sgH G H a (upd f 7 x) c g q t) := by
  refine Eq.trans ?_ (congrArg some (zu_0 (f := f) (f' := upd f 7 x)))
  simp [gPv, zc_0, upd]
theorem z_f8 : gGi 2 (sgH G H a f c g q t) a 8 = some (f 8) := by simp [gGi, gGv, zc_0]
theorem z_p8 (x : Int32) : gPv 2 (sgH G H a f c g q t) a 8 (.int x) = some (sgH G H a (upd f 8 x) c g q t) := by
  refine Eq.trans ?_ (congrArg some (zu_0 (f := f) (f' := upd f 8 x)))
  simp [gPv, zc_0, upd]
theorem z_f9 : gGi 2 (sgH G H a f c g q t) a 9 = some (f 9) := by simp [gGi, gGv, zc_0]
theorem z_p9 (x : Int32) : gPv 2 (sgH G H a f c g q t) a 9 (.int x) = some (sgH G H a (upd f 9 x) c g q t) := by
  refine Eq.trans ?_ (congrArg some (zu_0 (f := f) (f' := upd f 9 x)))
  simp [gPv, zc_0, upd]
theorem z_f10 : gGi 2 (sgH G H a f c g q t) a 10 = some (f 10) := by simp [gGi, gGv, zc_0]
theorem z_p10 (x : Int32) : gPv 2 (sgH G H a f c g q t) a 10 (.int x) = some (sgH G H a (upd f 10 x) c g q t) := by
  refine Eq.trans ?_ (congrArg some (zu_0 (f := f) (f' := upd f 10 x)))
  simp [gPv, zc_0, upd]
theorem z_f11 : gGi 2 (sgH G H a f c g q t) a 11 = some (f 11) := by simp [gGi, gGv, zc_0]
theorem z_p11 (x : Int32) : gPv 2 (sgH G H a f c g q t) a 11 (.int x) = some (sgH G H a (upd f 11 x) c g q t) := by
  refine Eq.trans ?_ (congrArg some (zu_0 (f := f) (f' := upd f 11 x)))
  simp [gPv, zc_0, upd]
theorem z_p0 {k : Nat} (hk : k < 4) : gPv 2 (sgH G H a f c g q t) a 0 (.ref (gS G k)) = some (sgH G H a (upd f 0 (nI k)) c g q t) := by
  refine Eq.trans ?_ (congrArg some (zu_0 (f := f) (f' := upd f 0 (nI k))))
  simp [gPv, zc_0, upd, nI_c (show k < 2 ^ 31 by omega)]
theorem z_c (i : Int32) : gAi 0 (sgH G H a f c g q t) (a + 2) i = if gin i 8 then some (c i.toNatClampNeg) else none := by simp [gAi, zc_2, gin]
theorem z_cs (i x : Int32) : gSi (sgH G H a f c g q t) (a + 2) i x = if gin i 8 then some (sgH G H a f (upd c i.toNatClampNeg x) g q t) else none := by
  rw [← zu_2 (c := c) (c' := upd c i.toNatClampNeg x)]
  simp [gSi, zc_2, gin]
theorem z_t (i : Int32) : gAi 0 (sgH G H a f c g q t) (a + 5) i = if gin i 4 then some (t i.toNatClampNeg) else none := by simp [gAi, zc_5, gin]
theorem z_ts (i x : Int32) : gSi (sgH G H a f c g q t) (a + 5) i x = if gin i 4 then some (sgH G H a f c g q (upd t i.toNatClampNeg x)) else none := by
  rw [← zu_5 (t := t) (t' := upd t i.toNatClampNeg x)]
  simp [gSi, zc_5, gin]
theorem z_gis : gIs 14 (sgH G H a f c g q t) (a + 3) = true := by simp [gIs, zc_3]
theorem z_g0 : gGr 14 (sgH G H a f c g q t) (a + 3) 0 = some (a + 4) := by simp [gGr, gGv, zc_3]
theorem z_g1 : gGi 14 (sgH G H a f c g q t) (a + 3) 1 = some (g 1) := by simp [gGi, gGv, zc_3]
theorem z_g1p (x : Int32) : gPv 14 (sgH G H a f c g q t) (a + 3) 1 (.int x) = some (sgH G H a f c (upd g 1 x) q t) := by
  refine Eq.trans ?_ (congrArg some (zu_3 (g := g) (g' := upd g 1 x)))
  simp [gPv, zc_3, upd]
theorem z_q : gAl (sgH G H a f c g q t) (a + 4) 0 = some (q 0) := by simp [gAl, zc_4]
theorem z_qs (x : Int64) : gSl (sgH G H a f c g q t) (a + 4) 0 x = some (sgH G H a f c g (vp_updL q 0 x) t) := by
  refine Eq.trans ?_ (congrArg some (zu_4 (q := q) (q' := vp_updL q 0 x)))
  simp [gSl, zc_4]
theorem z_qn : gAn 1 (sgH G H a f c g q t) (a + 4) = some 1 := by
  simp [gAn, zc_4]
def emG (g : Nat → Int32) : Nat → Int32 := upd g 1 0
def emQ (q : Nat → Int64) : Nat → Int64 := vp_updL q 0 0
theorem z_clear (hF : 10 ≤ F) (hb : bsJ (g 1) (q 0)) : sp_J1_clear G F (sgH G H a f c g q t) (a + 3) = some (sgH G H a f c (emG g) (emQ q) t) := by
  obtain ⟨F, rfl⟩ : ∃ z, F = z + 2 := ⟨F - 2, by omega⟩
  unfold sp_J1_clear emG emQ
  rcases hb with ⟨e1, e2⟩ | e1
  · have eg : upd g 1 0 = g := upd_same e1.symm
    have eq : vp_updL q 0 0 = q := by
      funext j
      unfold vp_updL
      split
      · rename_i e; rw [e, e2]
      · rfl
    rw [sp_J1_clear_L0]
    simp only [z_g1, Option.bind_some, e1, eg, eq]
    rw [if_pos (by decide)]
    rfl
  · rw [sp_J1_clear_L0]
    simp only [z_g1, z_g0, Option.bind_some, e1]
    rw [if_neg (by decide), show (1 : Int32) - 1 = 0 by decide]
    simp only [z_g1p, z_qs, Option.bind_some]
    rw [sp_J1_clear_L0]
    simp only [z_g1, Option.bind_some, upd_eq]
    rw [if_pos (by decide)]
    rfl
def seQ (q : Nat → Int64) (x : Int32) : Nat → Int64 := vp_updL q 0 (q 0 ||| ((1 : Int64) <<< (x.toInt64 &&& 63)))
theorem z_set {k : Nat} (hk : k < 64) (hb : bsJ (g 1) (q 0)) : sp_J1_set G F (sgH G H a f c g q t) (a + 3) (nI k) = some (sgH G H a f c (upd g 1 1) (seQ q (nI k)) t) := by
  have ej : sp_J1_expandTo G F (sgH G H a f c g q t) (a + 3) 0 = some (sgH G H a f c (upd g 1 1) q t) := by
    unfold sp_J1_expandTo sp_J1_ensureCapacity
    simp only [z_g1, Option.bind_some, z_gis, if_true, z_g0, z_qn]
    rcases hb with ⟨e1, -⟩ | e1
    · rw [e1, if_neg (by decide), if_pos (by decide)]
      simp only [Option.bind_some, z_g1p]
      rfl
    · rw [e1, if_pos (by decide), upd_same e1.symm]
  unfold sp_J1_set seQ
  rw [if_pos (nI_pos' (by omega))]
  simp only [i_wi hk, Option.bind_some, z_gis, if_true, ej, z_g0, z_q, z_qs, sp_J1_checkInvariants]
/-- a new one's numbers -/
def bgF (f : Nat → Int32) (k : Nat) : Nat → Int32 := upd (upd (upd (upd (upd (upd (upd (upd (upd f 0 (nI k)) 4 0) 5 0) 6 0) 7 (-5)) 8 (-5)) 9 (-5)) 10 0) 11 0
def bgT (t : Nat → Int32) : Nat → Int32 := upd (upd (upd (upd t 0 5) 1 40) 2 3) 3 0
theorem z_begins {k : Nat} (hF : 10 ≤ F) (hk : k < 4) (hb : bsJ (g 1) (q 0)) : sp_X2_begins G F (sgH G H a f c g q t) a (gS G k) = some (sgH G H a (bgF f k) c (emG g) (emQ q) (bgT t)) := by
  have c4 : ∀ x : Int32, gin x 4 → ∀ y, gSi (sgH G H a f c g q t) (a + 5) x y = gSi (sgH G H a f c g q t) (a + 5) x y := fun _ _ _ => rfl
  have i0 : gin (0 : Int32) 4 := by decide
  have i1 : gin (1 : Int32) 4 := by decide
  have i2 : gin (2 : Int32) 4 := by decide
  have i3 : gin (3 : Int32) 4 := by decide
  have n0 : (0 : Int32).toNatClampNeg = 0 := by decide
  have n1 : (1 : Int32).toNatClampNeg = 1 := by decide
  have n2 : (2 : Int32).toNatClampNeg = 2 := by decide
  have n3 : (3 : Int32).toNatClampNeg = 3 := by decide
  unfold sp_X2_begins
  simp only [z_p0 hk, z_p4, z_p5, z_p6, z_p7, z_p8, z_p9, z_p10, z_p11, z_f2, z_f3, Option.bind_some, z_gis, if_true, z_clear hF hb, z_ts, if_pos i0, if_pos i1, if_pos i2, if_pos i3, n0, n1, n2, n3]
  rfl
theorem z_goesOver {n k : Nat} (hk : k < 64) (hn : n < 8) (h4 : f 4 = nI n) (hb : bsJ (g 1) (q 0)) : sp_X2_goesOver G F (sgH G H a f c g q t) a (nI k) = some (sgH G H a (upd f 4 (nI (n + 1))) (upd c n (nI k)) (upd g 1 1) (seQ q (nI k)) t) := by
  have hi := gin_nI hn (by decide)
  unfold sp_X2_goesOver
  simp only [z_f1, z_f4, h4, Option.bind_some, z_cs, if_pos hi, nI_c (show n < 2 ^ 31 by omega), z_f2, z_gis, if_true, z_set hk hb, z_p4, nI_1]
end W14
