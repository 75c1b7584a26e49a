/-! m1: the reference's object as a picture: rows A 0 .. A 8 of ints (s, image, mind, clear, narrow, text, read, sort, items), A 9 its int fields (isKept, counted, letters, at, fault, bestBands), rows L 0, L 1 of longs (cell, carried) -/
set_option maxRecDepth 100000
def mu (A : Nat → Nat → Int32) (i j : Nat) (x : Int32) : Nat → Nat → Int32 := fun i' j' => if i' = i ∧ j' = j then x else A i' j'
def mul (L : Nat → Nat → Int64) (i j : Nat) (x : Int64) : Nat → Nat → Int64 := fun i' j' => if i' = i ∧ j' = j then x else L i' j'
def mh (h : gH) (b : Nat) (A : Nat → Nat → Int32) (L : Nat → Nat → Int64) : gH := fun a =>
  if a = b then some (.inr (11, [.ref (b + 1), .ref (b + 2), .ref (b + 3), .int (A 9 0), .int (A 9 1), .ref (b + 4), .ref (b + 5), .ref (b + 6), .ref (b + 7), .int (A 9 2), .int (A 9 3), .int (A 9 4), .ref (b + 8), .ref (b + 9), .ref (b + 10), .ref (b + 11), .int (A 9 5)]))
  else if a = b + 1 then some (.inl (0, 372, .inl (A 0)))
  else if a = b + 2 then some (.inl (0, 372, .inl (A 1)))
  else if a = b + 3 then some (.inl (0, 372, .inl (A 2)))
  else if a = b + 4 then some (.inl (0, 64, .inl (A 3)))
  else if a = b + 5 then some (.inl (0, 64, .inl (A 4)))
  else if a = b + 6 then some (.inl (0, 100, .inl (A 5)))
  else if a = b + 7 then some (.inl (0, 56, .inl (A 6)))
  else if a = b + 8 then some (.inl (0, 6, .inl (A 7)))
  else if a = b + 9 then some (.inl (0, 6, .inl (A 8)))
  else if a = b + 10 then some (.inl (1, 360, .inr (.inl (L 0))))
  else if a = b + 11 then some (.inl (1, 60, .inr (.inl (L 1))))
  else h a
/-- an index is in range -/
abbrev gin (i : Int32) (N : Nat) : Prop := ¬ (i < 0 ∨ N ≤ i.toNatClampNeg)
section M1
variable {h : gH} {b : Nat} {A : Nat → Nat → Int32} {L : Nat → Nat → Int64}
theorem mh_is : gIs 11 (mh h b A L) b = true := by simp [gIs, mh]
theorem mh_f0 : gGr 11 (mh h b A L) b 0 = some (b + 1) := by simp [gGr, gGv, mh]
theorem mh_f1 : gGr 11 (mh h b A L) b 1 = some (b + 2) := by simp [gGr, gGv, mh]
theorem mh_f2 : gGr 11 (mh h b A L) b 2 = some (b + 3) := by simp [gGr, gGv, mh]
theorem mh_f3 : gGi 11 (mh h b A L) b 3 = some (A 9 0) := by simp [gGi, gGv, mh]
theorem mh_f4 : gGi 11 (mh h b A L) b 4 = some (A 9 1) := by simp [gGi, gGv, mh]
theorem mh_f5 : gGr 11 (mh h b A L) b 5 = some (b + 4) := by simp [gGr, gGv, mh]
theorem mh_f6 : gGr 11 (mh h b A L) b 6 = some (b + 5) := by simp [gGr, gGv, mh]
theorem mh_f7 : gGr 11 (mh h b A L) b 7 = some (b + 6) := by simp [gGr, gGv, mh]
theorem mh_f8 : gGr 11 (mh h b A L) b 8 = some (b + 7) := by simp [gGr, gGv, mh]
theorem mh_f9 : gGi 11 (mh h b A L) b 9 = some (A 9 2) := by simp [gGi, gGv, mh]
theorem mh_f10 : gGi 11 (mh h b A L) b 10 = some (A 9 3) := by simp [gGi, gGv, mh]
theorem mh_f11 : gGi 11 (mh h b A L) b 11 = some (A 9 4) := by simp [gGi, gGv, mh]
theorem mh_f12 : gGr 11 (mh h b A L) b 12 = some (b + 8) := by simp [gGr, gGv, mh]
theorem mh_f13 : gGr 11 (mh h b A L) b 13 = some (b + 9) := by simp [gGr, gGv, mh]
theorem mh_f14 : gGr 11 (mh h b A L) b 14 = some (b + 10) := by simp [gGr, gGv, mh]
theorem mh_f15 : gGr 11 (mh h b A L) b 15 = some (b + 11) := by simp [gGr, gGv, mh]
theorem mh_f16 : gGi 11 (mh h b A L) b 16 = some (A 9 5) := by simp [gGi, gGv, mh]
theorem mh_a0 (i : Int32) : gAi 0 (mh h b A L) (b + 1) i = if gin i 372 then some (A 0 i.toNatClampNeg) else none := by simp [gAi, mh, gin]
theorem mh_a1 (i : Int32) : gAi 0 (mh h b A L) (b + 2) i = if gin i 372 then some (A 1 i.toNatClampNeg) else none := by simp [gAi, mh, gin]
theorem mh_a2 (i : Int32) : gAi 0 (mh h b A L) (b + 3) i = if gin i 372 then some (A 2 i.toNatClampNeg) else none := by simp [gAi, mh, gin]
theorem mh_a3 (i : Int32) : gAi 0 (mh h b A L) (b + 4) i = if gin i 64 then some (A 3 i.toNatClampNeg) else none := by simp [gAi, mh, gin]
theorem mh_a4 (i : Int32) : gAi 0 (mh h b A L) (b + 5) i = if gin i 64 then some (A 4 i.toNatClampNeg) else none := by simp [gAi, mh, gin]
theorem mh_a5 (i : Int32) : gAi 0 (mh h b A L) (b + 6) i = if gin i 100 then some (A 5 i.toNatClampNeg) else none := by simp [gAi, mh, gin]
theorem mh_a6 (i : Int32) : gAi 0 (mh h b A L) (b + 7) i = if gin i 56 then some (A 6 i.toNatClampNeg) else none := by simp [gAi, mh, gin]
theorem mh_a7 (i : Int32) : gAi 0 (mh h b A L) (b + 8) i = if gin i 6 then some (A 7 i.toNatClampNeg) else none := by simp [gAi, mh, gin]
theorem mh_a8 (i : Int32) : gAi 0 (mh h b A L) (b + 9) i = if gin i 6 then some (A 8 i.toNatClampNeg) else none := by simp [gAi, mh, gin]
theorem mh_l0 (i : Int32) : gAl (mh h b A L) (b + 10) i = if gin i 360 then some (L 0 i.toNatClampNeg) else none := by simp [gAl, mh, gin]
theorem mh_l1 (i : Int32) : gAl (mh h b A L) (b + 11) i = if gin i 60 then some (L 1 i.toNatClampNeg) else none := by simp [gAl, mh, gin]
theorem mh_s0 (i x : Int32) : gSi (mh h b A L) (b + 1) i x = if gin i 372 then some (mh h b (mu A 0 i.toNatClampNeg x) L) else none := by
  by_cases hi : gin i 372
  · rw [if_pos hi]
    have e : gSi (mh h b A L) (b + 1) i x = some (va_up (mh h b A L) (b + 1) (some (.inl (0, 372, .inl (upd (A 0) i.toNatClampNeg x))))) := by
      simp [gSi, mh]
      simpa [gin] using hi
    rw [e]
    congr 1
    funext a
    by_cases ha : a = b + 1
    · subst ha
      simp [va_up, mh]
      funext j
      simp [upd, mu]
    · simp [va_up, ha, mh, mu]
      rfl
  · rw [if_neg hi]
    simp [gSi, mh]
    simpa [gin] using hi
theorem mh_s1 (i x : Int32) : gSi (mh h b A L) (b + 2) i x = if gin i 372 then some (mh h b (mu A 1 i.toNatClampNeg x) L) else none := by
  by_cases hi : gin i 372
  · rw [if_pos hi]
    have e : gSi (mh h b A L) (b + 2) i x = some (va_up (mh h b A L) (b + 2) (some (.inl (0, 372, .inl (upd (A 1) i.toNatClampNeg x))))) := by
      simp [gSi, mh]
      simpa [gin] using hi
    rw [e]
    congr 1
    funext a
    by_cases ha : a = b + 2
    · subst ha
      simp [va_up, mh]
      funext j
      simp [upd, mu]
    · simp [va_up, ha, mh, mu]
      rfl
  · rw [if_neg hi]
    simp [gSi, mh]
    simpa [gin] using hi
theorem mh_s2 (i x : Int32) : gSi (mh h b A L) (b + 3) i x = if gin i 372 then some (mh h b (mu A 2 i.toNatClampNeg x) L) else none := by
  by_cases hi : gin i 372
  · rw [if_pos hi]
    have e : gSi (mh h b A L) (b + 3) i x = some (va_up (mh h b A L) (b + 3) (some (.inl (0, 372, .inl (upd (A 2) i.toNatClampNeg x))))) := by
      simp [gSi, mh]
      simpa [gin] using hi
    rw [e]
    congr 1
    funext a
    by_cases ha : a = b + 3
    · subst ha
      simp [va_up, mh]
      funext j
      simp [upd, mu]
    · simp [va_up, ha, mh, mu]
      rfl
  · rw [if_neg hi]
    simp [gSi, mh]
    simpa [gin] using hi
theorem mh_s3 (i x : Int32) : gSi (mh h b A L) (b + 4) i x = if gin i 64 then some (mh h b (mu A 3 i.toNatClampNeg x) L) else none := by
  by_cases hi : gin i 64
  · rw [if_pos hi]
    have e : gSi (mh h b A L) (b + 4) i x = some (va_up (mh h b A L) (b + 4) (some (.inl (0, 64, .inl (upd (A 3) i.toNatClampNeg x))))) := by
      simp [gSi, mh]
      simpa [gin] using hi
    rw [e]
    congr 1
    funext a
    by_cases ha : a = b + 4
    · subst ha
      simp [va_up, mh]
      funext j
      simp [upd, mu]
    · simp [va_up, ha, mh, mu]
      rfl
  · rw [if_neg hi]
    simp [gSi, mh]
    simpa [gin] using hi
theorem mh_s4 (i x : Int32) : gSi (mh h b A L) (b + 5) i x = if gin i 64 then some (mh h b (mu A 4 i.toNatClampNeg x) L) else none := by
  by_cases hi : gin i 64
  · rw [if_pos hi]
    have e : gSi (mh h b A L) (b + 5) i x = some (va_up (mh h b A L) (b + 5) (some (.inl (0, 64, .inl (upd (A 4) i.toNatClampNeg x))))) := by
      simp [gSi, mh]
      simpa [gin] using hi
    rw [e]
    congr 1
    funext a
    by_cases ha : a = b + 5
    · subst ha
      simp [va_up, mh]
      funext j
      simp [upd, mu]
    · simp [va_up, ha, mh, mu]
      rfl
  · rw [if_neg hi]
    simp [gSi, mh]
    simpa [gin] using hi
theorem mh_s5 (i x : Int32) : gSi (mh h b A L) (b + 6) i x = if gin i 100 then some (mh h b (mu A 5 i.toNatClampNeg x) L) else none := by
  by_cases hi : gin i 100
  · rw [if_pos hi]
    have e : gSi (mh h b A L) (b + 6) i x = some (va_up (mh h b A L) (b + 6) (some (.inl (0, 100, .inl (upd (A 5) i.toNatClampNeg x))))) := by
      simp [gSi, mh]
      simpa [gin] using hi
    rw [e]
    congr 1
    funext a
    by_cases ha : a = b + 6
    · subst ha
      simp [va_up, mh]
      funext j
      simp [upd, mu]
    · simp [va_up, ha, mh, mu]
      rfl
  · rw [if_neg hi]
    simp [gSi, mh]
    simpa [gin] using hi
theorem mh_s6 (i x : Int32) : gSi (mh h b A L) (b + 7) i x = if gin i 56 then some (mh h b (mu A 6 i.toNatClampNeg x) L) else none := by
  by_cases hi : gin i 56
  · rw [if_pos hi]
    have e : gSi (mh h b A L) (b + 7) i x = some (va_up (mh h b A L) (b + 7) (some (.inl (0, 56, .inl (upd (A 6) i.toNatClampNeg x))))) := by
      simp [gSi, mh]
      simpa [gin] using hi
    rw [e]
    congr 1
    funext a
    by_cases ha : a = b + 7
    · subst ha
      simp [va_up, mh]
      funext j
      simp [upd, mu]
    · simp [va_up, ha, mh, mu]
      rfl
  · rw [if_neg hi]
    simp [gSi, mh]
    simpa [gin] using hi
theorem mh_s7 (i x : Int32) : gSi (mh h b A L) (b + 8) i x = if gin i 6 then some (mh h b (mu A 7 i.toNatClampNeg x) L) else none := by
  by_cases hi : gin i 6
  · rw [if_pos hi]
    have e : gSi (mh h b A L) (b + 8) i x = some (va_up (mh h b A L) (b + 8) (some (.inl (0, 6, .inl (upd (A 7) i.toNatClampNeg x))))) := by
      simp [gSi, mh]
      simpa [gin] using hi
    rw [e]
    congr 1
    funext a
    by_cases ha : a = b + 8
    · subst ha
      simp [va_up, mh]
      funext j
      simp [upd, mu]
    · simp [va_up, ha, mh, mu]
      rfl
  · rw [if_neg hi]
    simp [gSi, mh]
    simpa [gin] using hi
theorem mh_s8 (i x : Int32) : gSi (mh h b A L) (b + 9) i x = if gin i 6 then some (mh h b (mu A 8 i.toNatClampNeg x) L) else none := by
  by_cases hi : gin i 6
  · rw [if_pos hi]
    have e : gSi (mh h b A L) (b + 9) i x = some (va_up (mh h b A L) (b + 9) (some (.inl (0, 6, .inl (upd (A 8) i.toNatClampNeg x))))) := by
      simp [gSi, mh]
      simpa [gin] using hi
    rw [e]
    congr 1
    funext a
    by_cases ha : a = b + 9
    · subst ha
      simp [va_up, mh]
      funext j
      simp [upd, mu]
    · simp [va_up, ha, mh, mu]
      rfl
  · rw [if_neg hi]
    simp [gSi, mh]
    simpa [gin] using hi
theorem mh_t0 (i : Int32) (x : Int64) : gSl (mh h b A L) (b + 10) i x = if gin i 360 then some (mh h b A (mul L 0 i.toNatClampNeg x)) else none := by
  by_cases hi : gin i 360
  · rw [if_pos hi]
    have e : gSl (mh h b A L) (b + 10) i x = some (va_up (mh h b A L) (b + 10) (some (.inl (1, 360, .inr (.inl (vp_updL (L 0) i.toNatClampNeg x)))))) := by
      simp [gSl, mh]
      simpa [gin] using hi
    rw [e]
    congr 1
    funext a
    by_cases ha : a = b + 10
    · subst ha
      simp [va_up, mh]
      funext j
      simp [vp_updL, mul]
    · simp [va_up, ha, mh, mul]
      rfl
  · rw [if_neg hi]
    simp [gSl, mh]
    simpa [gin] using hi
theorem mh_t1 (i : Int32) (x : Int64) : gSl (mh h b A L) (b + 11) i x = if gin i 60 then some (mh h b A (mul L 1 i.toNatClampNeg x)) else none := by
  by_cases hi : gin i 60
  · rw [if_pos hi]
    have e : gSl (mh h b A L) (b + 11) i x = some (va_up (mh h b A L) (b + 11) (some (.inl (1, 60, .inr (.inl (vp_updL (L 1) i.toNatClampNeg x)))))) := by
      simp [gSl, mh]
      simpa [gin] using hi
    rw [e]
    congr 1
    funext a
    by_cases ha : a = b + 11
    · subst ha
      simp [va_up, mh]
      funext j
      simp [vp_updL, mul]
    · simp [va_up, ha, mh, mul]
      rfl
  · rw [if_neg hi]
    simp [gSl, mh]
    simpa [gin] using hi
theorem mh_p3 (x : Int32) : gPv 11 (mh h b A L) b 3 (.int x) = some (mh h b (mu A 9 0 x) L) := by
  have e : gPv 11 (mh h b A L) b 3 (.int x) = some (va_up (mh h b A L) b (some (.inr (11, [.ref (b + 1), .ref (b + 2), .ref (b + 3), .int (mu A 9 0 x 9 0), .int (mu A 9 0 x 9 1), .ref (b + 4), .ref (b + 5), .ref (b + 6), .ref (b + 7), .int (mu A 9 0 x 9 2), .int (mu A 9 0 x 9 3), .int (mu A 9 0 x 9 4), .ref (b + 8), .ref (b + 9), .ref (b + 10), .ref (b + 11), .int (mu A 9 0 x 9 5)])))) := by
    simp [gPv, mh, mu]
  rw [e]
  congr 1
  funext a
  by_cases ha : a = b
  · subst ha
    simp [va_up, mh]
  · simp [va_up, ha, mh, mu]
    rfl
theorem mh_p4 (x : Int32) : gPv 11 (mh h b A L) b 4 (.int x) = some (mh h b (mu A 9 1 x) L) := by
  have e : gPv 11 (mh h b A L) b 4 (.int x) = some (va_up (mh h b A L) b (some (.inr (11, [.ref (b + 1), .ref (b + 2), .ref (b + 3), .int (mu A 9 1 x 9 0), .int (mu A 9 1 x 9 1), .ref (b + 4), .ref (b + 5), .ref (b + 6), .ref (b + 7), .int (mu A 9 1 x 9 2), .int (mu A 9 1 x 9 3), .int (mu A 9 1 x 9 4), .ref (b + 8), .ref (b + 9), .ref (b + 10), .ref (b + 11), .int (mu A 9 1 x 9 5)])))) := by
    simp [gPv, mh, mu]
  rw [e]
  congr 1
  funext a
  by_cases ha : a = b
  · subst ha
    simp [va_up, mh]
  · simp [va_up, ha, mh, mu]
    rfl
theorem mh_p9 (x : Int32) : gPv 11 (mh h b A L) b 9 (.int x) = some (mh h b (mu A 9 2 x) L) := by
  have e : gPv 11 (mh h b A L) b 9 (.int x) = some (va_up (mh h b A L) b (some (.inr (11, [.ref (b + 1), .ref (b + 2), .ref (b + 3), .int (mu A 9 2 x 9 0), .int (mu A 9 2 x 9 1), .ref (b + 4), .ref (b + 5), .ref (b + 6), .ref (b + 7), .int (mu A 9 2 x 9 2), .int (mu A 9 2 x 9 3), .int (mu A 9 2 x 9 4), .ref (b + 8), .ref (b + 9), .ref (b + 10), .ref (b + 11), .int (mu A 9 2 x 9 5)])))) := by
    simp [gPv, mh, mu]
  rw [e]
  congr 1
  funext a
  by_cases ha : a = b
  · subst ha
    simp [va_up, mh]
  · simp [va_up, ha, mh, mu]
    rfl
theorem mh_p10 (x : Int32) : gPv 11 (mh h b A L) b 10 (.int x) = some (mh h b (mu A 9 3 x) L) := by
  have e : gPv 11 (mh h b A L) b 10 (.int x) = some (va_up (mh h b A L) b (some (.inr (11, [.ref (b + 1), .ref (b + 2), .ref (b + 3), .int (mu A 9 3 x 9 0), .int (mu A 9 3 x 9 1), .ref (b + 4), .ref (b + 5), .ref (b + 6), .ref (b + 7), .int (mu A 9 3 x 9 2), .int (mu A 9 3 x 9 3), .int (mu A 9 3 x 9 4), .ref (b + 8), .ref (b + 9), .ref (b + 10), .ref (b + 11), .int (mu A 9 3 x 9 5)])))) := by
    simp [gPv, mh, mu]
  rw [e]
  congr 1
  funext a
  by_cases ha : a = b
  · subst ha
    simp [va_up, mh]
  · simp [va_up, ha, mh, mu]
    rfl
theorem mh_p11 (x : Int32) : gPv 11 (mh h b A L) b 11 (.int x) = some (mh h b (mu A 9 4 x) L) := by
  have e : gPv 11 (mh h b A L) b 11 (.int x) = some (va_up (mh h b A L) b (some (.inr (11, [.ref (b + 1), .ref (b + 2), .ref (b + 3), .int (mu A 9 4 x 9 0), .int (mu A 9 4 x 9 1), .ref (b + 4), .ref (b + 5), .ref (b + 6), .ref (b + 7), .int (mu A 9 4 x 9 2), .int (mu A 9 4 x 9 3), .int (mu A 9 4 x 9 4), .ref (b + 8), .ref (b + 9), .ref (b + 10), .ref (b + 11), .int (mu A 9 4 x 9 5)])))) := by
    simp [gPv, mh, mu]
  rw [e]
  congr 1
  funext a
  by_cases ha : a = b
  · subst ha
    simp [va_up, mh]
  · simp [va_up, ha, mh, mu]
    rfl
theorem mh_p16 (x : Int32) : gPv 11 (mh h b A L) b 16 (.int x) = some (mh h b (mu A 9 5 x) L) := by
  have e : gPv 11 (mh h b A L) b 16 (.int x) = some (va_up (mh h b A L) b (some (.inr (11, [.ref (b + 1), .ref (b + 2), .ref (b + 3), .int (mu A 9 5 x 9 0), .int (mu A 9 5 x 9 1), .ref (b + 4), .ref (b + 5), .ref (b + 6), .ref (b + 7), .int (mu A 9 5 x 9 2), .int (mu A 9 5 x 9 3), .int (mu A 9 5 x 9 4), .ref (b + 8), .ref (b + 9), .ref (b + 10), .ref (b + 11), .int (mu A 9 5 x 9 5)])))) := by
    simp [gPv, mh, mu]
  rw [e]
  congr 1
  funext a
  by_cases ha : a = b
  · subst ha
    simp [va_up, mh]
  · simp [va_up, ha, mh, mu]
    rfl
end M1
/-! numbers -/
theorem gin_nI {k N : Nat} (h : k < N) (hN : N < 2 ^ 31) : gin (nI k) N := nI_in h hN
theorem nI_c {k : Nat} (h : k < 2 ^ 31) : (nI k).toNatClampNeg = k := nI_clamp h
theorem ix_at (a w : Nat) : ((24 : Int32) + ((24 : Int32) * nI a)) + nI w = nI (24 + 24 * a + w) := by
  show nI 24 + nI 24 * nI a + nI w = _
  rw [pk_mul, nI_add, nI_add]
section M2
variable {h : gH} {b : Nat} {A : Nat → Nat → Int32} {L : Nat → Nat → Int64} {G : gG} {F : Nat}
theorem m_at {a w : Nat} (ha : a < 8) (hw : w < 24) : sp_X13_at G F (mh h b A L) b (nI a) (nI w) = some (A 0 (24 + 24 * a + w)) := by
  unfold sp_X13_at
  rw [mh_f0]
  simp only [Option.bind_some]
  rw [ix_at, mh_a0, if_pos (gin_nI (by omega) (by decide)), nI_c (by omega)]
  rfl
theorem m_puts {a w : Nat} (x : Int32) (ha : a < 8) (hw : w < 24) : sp_X13_puts G F (mh h b A L) b (nI a) (nI w) x = some (mh h b (mu A 0 (24 + 24 * a + w) x) L) := by
  unfold sp_X13_puts
  rw [mh_f0]
  simp only [Option.bind_some]
  rw [ix_at, mh_s0, if_pos (gin_nI (by omega) (by decide)), nI_c (by omega)]
  rfl
theorem m_amber {a : Nat} (ha : a < 8) {k : Nat} (hk : A 0 (24 + 24 * a) = nI k) (h4 : k < 4) : sp_X13_amber G F (mh h b A L) b (nI a) = some (gAmb k) := by
  unfold sp_X13_amber
  rw [if_pos mh_is, show (0 : Int32) = nI 0 from rfl, m_at ha (by decide)]
  simp only [Option.bind_some, Nat.add_zero]
  rw [hk]
  simp only [gTab]
  rw [if_pos (nI_in h4 (by decide)), nI_c (by omega)]
  rfl
end M2
