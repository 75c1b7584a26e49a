/-! m3: the reference's table of clears -/
set_option maxRecDepth 100000
/-- what the row must be like: kinds, ways, counts -/
def sigOk (S : Nat → Int32) (a : Nat) : Prop := (∃ k : Nat, k < 4 ∧ S (sA a 0) = nI k) ∧ ∃ m : Nat, m ≤ 8 ∧ S (sA a 11) = nI m
def kindN (S : Nat → Int32) (a : Nat) : Nat := (S (sA a 0)).toNatClampNeg
theorem sigOk.kind {S : Nat → Int32} {a : Nat} (h : sigOk S a) : kindN S a < 4 ∧ S (sA a 0) = nI (kindN S a) := by
  obtain ⟨⟨k, hk, e⟩, -⟩ := h
  have : kindN S a = k := by unfold kindN; rw [e, nI_c (by omega)]
  rw [this]; exact ⟨hk, e⟩
theorem sigOk.cells {S : Nat → Int32} {a : Nat} (h : sigOk S a) : cellsN S a ≤ 8 ∧ S (sA a 11) = nI (cellsN S a) := by
  obtain ⟨-, m, hm, e⟩ := h
  have : cellsN S a = m := by unfold cellsN; rw [e, nI_c (by omega)]
  rw [this]; exact ⟨hm, e⟩
def clrL (S : Nat → Int32) (a b : Nat) : Nat → Nat → Int32 → Int32 → Int32 × Int32
  | 0, _, g, w => (g, w)
  | n + 1, i, g, w =>
    if 0 ≤ placeV S b (S (sA a (12 + i))) then
      if w < 0 then clrL S a b n (i + 1) ((gAmb (kindN S a) + (gPac (kindN S a) * (nI i + 1))) - (gPac (kindN S b) * placeV S b (S (sA a (12 + i))))) (S (sA a (12 + i)))
      else if g < ((gAmb (kindN S a) + (gPac (kindN S a) * (nI i + 1))) - (gPac (kindN S b) * placeV S b (S (sA a (12 + i))))) then clrL S a b n (i + 1) ((gAmb (kindN S a) + (gPac (kindN S a) * (nI i + 1))) - (gPac (kindN S b) * placeV S b (S (sA a (12 + i))))) (S (sA a (12 + i)))
      else clrL S a b n (i + 1) g w
    else clrL S a b n (i + 1) g w
def clrV (S : Nat → Int32) (a b : Nat) : Int32 × Int32 := if a = b then (0, -5) else clrL S a b (cellsN S a) 0 0 (-5)
def narrowV (S : Nat → Int32) (a b : Nat) : Int32 := (clrV S a b).2
def clearV (S : Nat → Int32) (a b : Nat) : Int32 := if 0 ≤ (clrV S a b).2 then (if gAmb (kindN S a) < (clrV S a b).1 then (clrV S a b).1 else gAmb (kindN S a)) + S 1 else -5
theorem ix_8 (a b : Nat) : ((8 : Int32) * nI a) + nI b = nI (8 * a + b) := by
  show nI 8 * nI a + nI b = _
  rw [pk_mul, nI_add]
section M3
variable {h : gH} {b : Nat} {A : Nat → Nat → Int32} {L : Nat → Nat → Int64} {G : gG} {F : Nat}
theorem m_amb {a : Nat} (ha : a < 8) (ok : sigOk (A 0) a) : sp_X13_amber G F (mh h b A L) b (nI a) = some (gAmb (kindN (A 0) a)) := m_amber ha ok.kind.2 ok.kind.1
theorem m_pac {a : Nat} (ha : a < 8) (ok : sigOk (A 0) a) : sp_X13_pace G F (mh h b A L) b (nI a) = some (gPac (kindN (A 0) a)) := by
  unfold sp_X13_pace
  rw [if_pos mh_is, m_at_0 ha]
  simp only [Option.bind_some]
  rw [ok.kind.2]
  simp only [gTab]
  rw [if_pos (nI_in ok.kind.1 (by decide)), nI_c (by have := ok.kind.1; omega)]
  rfl
theorem m_clears_L {a c : Nat} (hF : 20 ≤ F) (ha : a < 8) (hc : c < 8) (oka : sigOk (A 0) a) (okc : sigOk (A 0) c) (hac : a ≠ c) : ∀ (n i f : Nat) (g w : Int32), n + i = cellsN (A 0) a → n < f →
    sp_X13_clears_2_L9 G F (mh h b A L) f b (nI a) (nI c) g w (nI i) = some (clrL (A 0) a c n i g w) := by
  have h8 := oka.cells.1
  intro n
  induction n with
  | zero =>
    intro i f g w hi hf
    obtain ⟨f, rfl⟩ : ∃ z, f = z + 1 := ⟨f - 1, by omega⟩
    rw [sp_X13_clears_2_L9, if_pos mh_is, m_at_11 ha]
    simp only [Option.bind_some]
    rw [oka.cells.2, if_pos (nI_le (by omega) (by omega))]
    rfl
  | succ n ih =>
    intro i f g w hi hf
    obtain ⟨f, rfl⟩ : ∃ z, f = z + 1 := ⟨f - 1, by omega⟩
    have hne : ¬ nI a = nI c := fun e => hac ((nI_eq (by omega) (by omega)).mp e)
    have hat : sp_X13_at G F (mh h b A L) b (nI a) (12 + nI i) = some (A 0 (sA a (12 + i))) := m_at' (x := nI a) (y := 12 + nI i) rfl (nI_add 12 i) ha (w := 12 + i) (by omega)
    have hpl : sp_X13_placeIn G F (mh h b A L) b (nI c) (A 0 (sA a (12 + i))) = some (placeV (A 0) c (A 0 (sA a (12 + i)))) := m_placeIn hF hc okc.cells.2 okc.cells.1
    rw [sp_X13_clears_2_L9, if_pos mh_is, m_at_11 ha]
    simp only [Option.bind_some]
    rw [oka.cells.2, if_neg (nI_ge (by omega) (by omega)), if_neg hne]
    simp only [mh_is, if_true, hat, hpl, m_amb ha oka, m_pac ha oka, m_pac hc okc, Option.bind_some, nI_1]
    rw [clrL]
    split
    · split
      · rw [nI_1]; exact ih (i + 1) f _ _ (by omega) (by omega)
      · rw [nI_1]
        split
        · exact ih (i + 1) f _ _ (by omega) (by omega)
        · exact ih (i + 1) f _ _ (by omega) (by omega)
    · exact ih (i + 1) f _ _ (by omega) (by omega)
end M3
