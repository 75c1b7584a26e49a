/-! m2: the reference's small methods, on its row S = A 0 -/
set_option maxRecDepth 100000
abbrev sA (a w : Nat) : Nat := 24 + 24 * a + w
/-- how many cells a signal's way has -/
def cellsN (S : Nat → Int32) (a : Nat) : Nat := (S (sA a 11)).toNatClampNeg
def plc (S : Nat → Int32) (a : Nat) (c : Int32) : Nat → Nat → Int32
  | 0, _ => -5
  | n + 1, i => if S (sA a (12 + i)) = c then nI i else plc S a c n (i + 1)
def placeV (S : Nat → Int32) (a : Nat) (c : Int32) : Int32 := plc S a c (cellsN S a) 0
abbrev hasB (s k : Int32) : Prop := ((s >>> (k &&& 31)) &&& (1 : Int32)) = (1 : Int32)
section M2
variable {h : gH} {b : Nat} {A : Nat → Nat → Int32} {L : Nat → Nat → Int64} {G : gG} {F : Nat}
theorem m_at' {a w : Nat} {x y : Int32} (hx : x = nI a) (hy : y = nI w) (ha : a < 8) (hw : w < 24) : sp_X13_at G F (mh h b A L) b x y = some (A 0 (sA a w)) := by
  subst hx; subst hy; exact m_at ha hw
theorem m_at_0 {a : Nat} (ha : a < 8) : sp_X13_at G F (mh h b A L) b (nI a) (0 : Int32) = some (A 0 (sA a 0)) := m_at ha (w := 0) (by decide)
theorem m_at_1 {a : Nat} (ha : a < 8) : sp_X13_at G F (mh h b A L) b (nI a) (1 : Int32) = some (A 0 (sA a 1)) := m_at ha (w := 1) (by decide)
theorem m_at_2 {a : Nat} (ha : a < 8) : sp_X13_at G F (mh h b A L) b (nI a) (2 : Int32) = some (A 0 (sA a 2)) := m_at ha (w := 2) (by decide)
theorem m_at_3 {a : Nat} (ha : a < 8) : sp_X13_at G F (mh h b A L) b (nI a) (3 : Int32) = some (A 0 (sA a 3)) := m_at ha (w := 3) (by decide)
theorem m_at_4 {a : Nat} (ha : a < 8) : sp_X13_at G F (mh h b A L) b (nI a) (4 : Int32) = some (A 0 (sA a 4)) := m_at ha (w := 4) (by decide)
theorem m_at_5 {a : Nat} (ha : a < 8) : sp_X13_at G F (mh h b A L) b (nI a) (5 : Int32) = some (A 0 (sA a 5)) := m_at ha (w := 5) (by decide)
theorem m_at_6 {a : Nat} (ha : a < 8) : sp_X13_at G F (mh h b A L) b (nI a) (6 : Int32) = some (A 0 (sA a 6)) := m_at ha (w := 6) (by decide)
theorem m_at_7 {a : Nat} (ha : a < 8) : sp_X13_at G F (mh h b A L) b (nI a) (7 : Int32) = some (A 0 (sA a 7)) := m_at ha (w := 7) (by decide)
theorem m_at_8 {a : Nat} (ha : a < 8) : sp_X13_at G F (mh h b A L) b (nI a) (8 : Int32) = some (A 0 (sA a 8)) := m_at ha (w := 8) (by decide)
theorem m_at_9 {a : Nat} (ha : a < 8) : sp_X13_at G F (mh h b A L) b (nI a) (9 : Int32) = some (A 0 (sA a 9)) := m_at ha (w := 9) (by decide)
theorem m_at_10 {a : Nat} (ha : a < 8) : sp_X13_at G F (mh h b A L) b (nI a) (10 : Int32) = some (A 0 (sA a 10)) := m_at ha (w := 10) (by decide)
theorem m_at_11 {a : Nat} (ha : a < 8) : sp_X13_at G F (mh h b A L) b (nI a) (11 : Int32) = some (A 0 (sA a 11)) := m_at ha (w := 11) (by decide)
theorem m_at_12 {a : Nat} (ha : a < 8) : sp_X13_at G F (mh h b A L) b (nI a) (12 : Int32) = some (A 0 (sA a 12)) := m_at ha (w := 12) (by decide)
theorem m_at_13 {a : Nat} (ha : a < 8) : sp_X13_at G F (mh h b A L) b (nI a) (13 : Int32) = some (A 0 (sA a 13)) := m_at ha (w := 13) (by decide)
theorem m_at_14 {a : Nat} (ha : a < 8) : sp_X13_at G F (mh h b A L) b (nI a) (14 : Int32) = some (A 0 (sA a 14)) := m_at ha (w := 14) (by decide)
theorem m_at_15 {a : Nat} (ha : a < 8) : sp_X13_at G F (mh h b A L) b (nI a) (15 : Int32) = some (A 0 (sA a 15)) := m_at ha (w := 15) (by decide)
theorem m_at_16 {a : Nat} (ha : a < 8) : sp_X13_at G F (mh h b A L) b (nI a) (16 : Int32) = some (A 0 (sA a 16)) := m_at ha (w := 16) (by decide)
theorem m_at_17 {a : Nat} (ha : a < 8) : sp_X13_at G F (mh h b A L) b (nI a) (17 : Int32) = some (A 0 (sA a 17)) := m_at ha (w := 17) (by decide)
theorem m_at_18 {a : Nat} (ha : a < 8) : sp_X13_at G F (mh h b A L) b (nI a) (18 : Int32) = some (A 0 (sA a 18)) := m_at ha (w := 18) (by decide)
theorem m_at_19 {a : Nat} (ha : a < 8) : sp_X13_at G F (mh h b A L) b (nI a) (19 : Int32) = some (A 0 (sA a 19)) := m_at ha (w := 19) (by decide)
theorem m_at_20 {a : Nat} (ha : a < 8) : sp_X13_at G F (mh h b A L) b (nI a) (20 : Int32) = some (A 0 (sA a 20)) := m_at ha (w := 20) (by decide)
theorem m_puts_0 {a : Nat} (x : Int32) (ha : a < 8) : sp_X13_puts G F (mh h b A L) b (nI a) (0 : Int32) x = some (mh h b (mu A 0 (sA a 0) x) L) := m_puts x ha (w := 0) (by decide)
theorem m_puts_1 {a : Nat} (x : Int32) (ha : a < 8) : sp_X13_puts G F (mh h b A L) b (nI a) (1 : Int32) x = some (mh h b (mu A 0 (sA a 1) x) L) := m_puts x ha (w := 1) (by decide)
theorem m_puts_2 {a : Nat} (x : Int32) (ha : a < 8) : sp_X13_puts G F (mh h b A L) b (nI a) (2 : Int32) x = some (mh h b (mu A 0 (sA a 2) x) L) := m_puts x ha (w := 2) (by decide)
theorem m_puts_3 {a : Nat} (x : Int32) (ha : a < 8) : sp_X13_puts G F (mh h b A L) b (nI a) (3 : Int32) x = some (mh h b (mu A 0 (sA a 3) x) L) := m_puts x ha (w := 3) (by decide)
theorem m_puts_4 {a : Nat} (x : Int32) (ha : a < 8) : sp_X13_puts G F (mh h b A L) b (nI a) (4 : Int32) x = some (mh h b (mu A 0 (sA a 4) x) L) := m_puts x ha (w := 4) (by decide)
theorem m_puts_5 {a : Nat} (x : Int32) (ha : a < 8) : sp_X13_puts G F (mh h b A L) b (nI a) (5 : Int32) x = some (mh h b (mu A 0 (sA a 5) x) L) := m_puts x ha (w := 5) (by decide)
theorem m_puts_6 {a : Nat} (x : Int32) (ha : a < 8) : sp_X13_puts G F (mh h b A L) b (nI a) (6 : Int32) x = some (mh h b (mu A 0 (sA a 6) x) L) := m_puts x ha (w := 6) (by decide)
theorem m_puts_7 {a : Nat} (x : Int32) (ha : a < 8) : sp_X13_puts G F (mh h b A L) b (nI a) (7 : Int32) x = some (mh h b (mu A 0 (sA a 7) x) L) := m_puts x ha (w := 7) (by decide)
theorem m_puts_8 {a : Nat} (x : Int32) (ha : a < 8) : sp_X13_puts G F (mh h b A L) b (nI a) (8 : Int32) x = some (mh h b (mu A 0 (sA a 8) x) L) := m_puts x ha (w := 8) (by decide)
theorem m_puts_9 {a : Nat} (x : Int32) (ha : a < 8) : sp_X13_puts G F (mh h b A L) b (nI a) (9 : Int32) x = some (mh h b (mu A 0 (sA a 9) x) L) := m_puts x ha (w := 9) (by decide)
theorem m_puts_10 {a : Nat} (x : Int32) (ha : a < 8) : sp_X13_puts G F (mh h b A L) b (nI a) (10 : Int32) x = some (mh h b (mu A 0 (sA a 10) x) L) := m_puts x ha (w := 10) (by decide)
theorem m_puts_11 {a : Nat} (x : Int32) (ha : a < 8) : sp_X13_puts G F (mh h b A L) b (nI a) (11 : Int32) x = some (mh h b (mu A 0 (sA a 11) x) L) := m_puts x ha (w := 11) (by decide)
theorem m_puts_12 {a : Nat} (x : Int32) (ha : a < 8) : sp_X13_puts G F (mh h b A L) b (nI a) (12 : Int32) x = some (mh h b (mu A 0 (sA a 12) x) L) := m_puts x ha (w := 12) (by decide)
theorem m_puts_13 {a : Nat} (x : Int32) (ha : a < 8) : sp_X13_puts G F (mh h b A L) b (nI a) (13 : Int32) x = some (mh h b (mu A 0 (sA a 13) x) L) := m_puts x ha (w := 13) (by decide)
theorem m_puts_14 {a : Nat} (x : Int32) (ha : a < 8) : sp_X13_puts G F (mh h b A L) b (nI a) (14 : Int32) x = some (mh h b (mu A 0 (sA a 14) x) L) := m_puts x ha (w := 14) (by decide)
theorem m_puts_15 {a : Nat} (x : Int32) (ha : a < 8) : sp_X13_puts G F (mh h b A L) b (nI a) (15 : Int32) x = some (mh h b (mu A 0 (sA a 15) x) L) := m_puts x ha (w := 15) (by decide)
theorem m_puts_16 {a : Nat} (x : Int32) (ha : a < 8) : sp_X13_puts G F (mh h b A L) b (nI a) (16 : Int32) x = some (mh h b (mu A 0 (sA a 16) x) L) := m_puts x ha (w := 16) (by decide)
theorem m_puts_17 {a : Nat} (x : Int32) (ha : a < 8) : sp_X13_puts G F (mh h b A L) b (nI a) (17 : Int32) x = some (mh h b (mu A 0 (sA a 17) x) L) := m_puts x ha (w := 17) (by decide)
theorem m_puts_18 {a : Nat} (x : Int32) (ha : a < 8) : sp_X13_puts G F (mh h b A L) b (nI a) (18 : Int32) x = some (mh h b (mu A 0 (sA a 18) x) L) := m_puts x ha (w := 18) (by decide)
theorem m_puts_19 {a : Nat} (x : Int32) (ha : a < 8) : sp_X13_puts G F (mh h b A L) b (nI a) (19 : Int32) x = some (mh h b (mu A 0 (sA a 19) x) L) := m_puts x ha (w := 19) (by decide)
theorem m_puts_20 {a : Nat} (x : Int32) (ha : a < 8) : sp_X13_puts G F (mh h b A L) b (nI a) (20 : Int32) x = some (mh h b (mu A 0 (sA a 20) x) L) := m_puts x ha (w := 20) (by decide)
theorem m_r_0 : gAi 0 (mh h b A L) (b + 1) (0 : Int32) = some (A 0 0) := by rw [show (0 : Int32) = nI 0 from rfl, mh_a0, if_pos (nI_in (by decide) (by decide)), nI_c (by decide)]
theorem m_r_1 : gAi 0 (mh h b A L) (b + 1) (1 : Int32) = some (A 0 1) := by rw [show (1 : Int32) = nI 1 from rfl, mh_a0, if_pos (nI_in (by decide) (by decide)), nI_c (by decide)]
theorem m_r_2 : gAi 0 (mh h b A L) (b + 1) (2 : Int32) = some (A 0 2) := by rw [show (2 : Int32) = nI 2 from rfl, mh_a0, if_pos (nI_in (by decide) (by decide)), nI_c (by decide)]
theorem m_r_3 : gAi 0 (mh h b A L) (b + 1) (3 : Int32) = some (A 0 3) := by rw [show (3 : Int32) = nI 3 from rfl, mh_a0, if_pos (nI_in (by decide) (by decide)), nI_c (by decide)]
theorem m_r_4 : gAi 0 (mh h b A L) (b + 1) (4 : Int32) = some (A 0 4) := by rw [show (4 : Int32) = nI 4 from rfl, mh_a0, if_pos (nI_in (by decide) (by decide)), nI_c (by decide)]
theorem m_r_5 : gAi 0 (mh h b A L) (b + 1) (5 : Int32) = some (A 0 5) := by rw [show (5 : Int32) = nI 5 from rfl, mh_a0, if_pos (nI_in (by decide) (by decide)), nI_c (by decide)]
theorem m_r_6 : gAi 0 (mh h b A L) (b + 1) (6 : Int32) = some (A 0 6) := by rw [show (6 : Int32) = nI 6 from rfl, mh_a0, if_pos (nI_in (by decide) (by decide)), nI_c (by decide)]
theorem m_r_7 : gAi 0 (mh h b A L) (b + 1) (7 : Int32) = some (A 0 7) := by rw [show (7 : Int32) = nI 7 from rfl, mh_a0, if_pos (nI_in (by decide) (by decide)), nI_c (by decide)]
theorem m_r_8 : gAi 0 (mh h b A L) (b + 1) (8 : Int32) = some (A 0 8) := by rw [show (8 : Int32) = nI 8 from rfl, mh_a0, if_pos (nI_in (by decide) (by decide)), nI_c (by decide)]
theorem m_r_9 : gAi 0 (mh h b A L) (b + 1) (9 : Int32) = some (A 0 9) := by rw [show (9 : Int32) = nI 9 from rfl, mh_a0, if_pos (nI_in (by decide) (by decide)), nI_c (by decide)]
theorem m_r_10 : gAi 0 (mh h b A L) (b + 1) (10 : Int32) = some (A 0 10) := by rw [show (10 : Int32) = nI 10 from rfl, mh_a0, if_pos (nI_in (by decide) (by decide)), nI_c (by decide)]
theorem m_r_11 : gAi 0 (mh h b A L) (b + 1) (11 : Int32) = some (A 0 11) := by rw [show (11 : Int32) = nI 11 from rfl, mh_a0, if_pos (nI_in (by decide) (by decide)), nI_c (by decide)]
theorem m_r_12 : gAi 0 (mh h b A L) (b + 1) (12 : Int32) = some (A 0 12) := by rw [show (12 : Int32) = nI 12 from rfl, mh_a0, if_pos (nI_in (by decide) (by decide)), nI_c (by decide)]
theorem m_r_13 : gAi 0 (mh h b A L) (b + 1) (13 : Int32) = some (A 0 13) := by rw [show (13 : Int32) = nI 13 from rfl, mh_a0, if_pos (nI_in (by decide) (by decide)), nI_c (by decide)]
theorem m_r_14 : gAi 0 (mh h b A L) (b + 1) (14 : Int32) = some (A 0 14) := by rw [show (14 : Int32) = nI 14 from rfl, mh_a0, if_pos (nI_in (by decide) (by decide)), nI_c (by decide)]
theorem m_r_15 : gAi 0 (mh h b A L) (b + 1) (15 : Int32) = some (A 0 15) := by rw [show (15 : Int32) = nI 15 from rfl, mh_a0, if_pos (nI_in (by decide) (by decide)), nI_c (by decide)]
theorem m_r_16 : gAi 0 (mh h b A L) (b + 1) (16 : Int32) = some (A 0 16) := by rw [show (16 : Int32) = nI 16 from rfl, mh_a0, if_pos (nI_in (by decide) (by decide)), nI_c (by decide)]
theorem m_r_17 : gAi 0 (mh h b A L) (b + 1) (17 : Int32) = some (A 0 17) := by rw [show (17 : Int32) = nI 17 from rfl, mh_a0, if_pos (nI_in (by decide) (by decide)), nI_c (by decide)]
theorem m_r_18 : gAi 0 (mh h b A L) (b + 1) (18 : Int32) = some (A 0 18) := by rw [show (18 : Int32) = nI 18 from rfl, mh_a0, if_pos (nI_in (by decide) (by decide)), nI_c (by decide)]
theorem m_r_19 : gAi 0 (mh h b A L) (b + 1) (19 : Int32) = some (A 0 19) := by rw [show (19 : Int32) = nI 19 from rfl, mh_a0, if_pos (nI_in (by decide) (by decide)), nI_c (by decide)]
theorem m_r_20 : gAi 0 (mh h b A L) (b + 1) (20 : Int32) = some (A 0 20) := by rw [show (20 : Int32) = nI 20 from rfl, mh_a0, if_pos (nI_in (by decide) (by decide)), nI_c (by decide)]
theorem m_w_0 (x : Int32) : gSi (mh h b A L) (b + 1) (0 : Int32) x = some (mh h b (mu A 0 0 x) L) := by rw [show (0 : Int32) = nI 0 from rfl, mh_s0, if_pos (nI_in (by decide) (by decide)), nI_c (by decide)]
theorem m_w_1 (x : Int32) : gSi (mh h b A L) (b + 1) (1 : Int32) x = some (mh h b (mu A 0 1 x) L) := by rw [show (1 : Int32) = nI 1 from rfl, mh_s0, if_pos (nI_in (by decide) (by decide)), nI_c (by decide)]
theorem m_w_2 (x : Int32) : gSi (mh h b A L) (b + 1) (2 : Int32) x = some (mh h b (mu A 0 2 x) L) := by rw [show (2 : Int32) = nI 2 from rfl, mh_s0, if_pos (nI_in (by decide) (by decide)), nI_c (by decide)]
theorem m_w_3 (x : Int32) : gSi (mh h b A L) (b + 1) (3 : Int32) x = some (mh h b (mu A 0 3 x) L) := by rw [show (3 : Int32) = nI 3 from rfl, mh_s0, if_pos (nI_in (by decide) (by decide)), nI_c (by decide)]
theorem m_w_4 (x : Int32) : gSi (mh h b A L) (b + 1) (4 : Int32) x = some (mh h b (mu A 0 4 x) L) := by rw [show (4 : Int32) = nI 4 from rfl, mh_s0, if_pos (nI_in (by decide) (by decide)), nI_c (by decide)]
theorem m_w_5 (x : Int32) : gSi (mh h b A L) (b + 1) (5 : Int32) x = some (mh h b (mu A 0 5 x) L) := by rw [show (5 : Int32) = nI 5 from rfl, mh_s0, if_pos (nI_in (by decide) (by decide)), nI_c (by decide)]
theorem m_w_6 (x : Int32) : gSi (mh h b A L) (b + 1) (6 : Int32) x = some (mh h b (mu A 0 6 x) L) := by rw [show (6 : Int32) = nI 6 from rfl, mh_s0, if_pos (nI_in (by decide) (by decide)), nI_c (by decide)]
theorem m_w_7 (x : Int32) : gSi (mh h b A L) (b + 1) (7 : Int32) x = some (mh h b (mu A 0 7 x) L) := by rw [show (7 : Int32) = nI 7 from rfl, mh_s0, if_pos (nI_in (by decide) (by decide)), nI_c (by decide)]
theorem m_w_8 (x : Int32) : gSi (mh h b A L) (b + 1) (8 : Int32) x = some (mh h b (mu A 0 8 x) L) := by rw [show (8 : Int32) = nI 8 from rfl, mh_s0, if_pos (nI_in (by decide) (by decide)), nI_c (by decide)]
theorem m_w_9 (x : Int32) : gSi (mh h b A L) (b + 1) (9 : Int32) x = some (mh h b (mu A 0 9 x) L) := by rw [show (9 : Int32) = nI 9 from rfl, mh_s0, if_pos (nI_in (by decide) (by decide)), nI_c (by decide)]
theorem m_w_10 (x : Int32) : gSi (mh h b A L) (b + 1) (10 : Int32) x = some (mh h b (mu A 0 10 x) L) := by rw [show (10 : Int32) = nI 10 from rfl, mh_s0, if_pos (nI_in (by decide) (by decide)), nI_c (by decide)]
theorem m_w_11 (x : Int32) : gSi (mh h b A L) (b + 1) (11 : Int32) x = some (mh h b (mu A 0 11 x) L) := by rw [show (11 : Int32) = nI 11 from rfl, mh_s0, if_pos (nI_in (by decide) (by decide)), nI_c (by decide)]
theorem m_w_12 (x : Int32) : gSi (mh h b A L) (b + 1) (12 : Int32) x = some (mh h b (mu A 0 12 x) L) := by rw [show (12 : Int32) = nI 12 from rfl, mh_s0, if_pos (nI_in (by decide) (by decide)), nI_c (by decide)]
theorem m_w_13 (x : Int32) : gSi (mh h b A L) (b + 1) (13 : Int32) x = some (mh h b (mu A 0 13 x) L) := by rw [show (13 : Int32) = nI 13 from rfl, mh_s0, if_pos (nI_in (by decide) (by decide)), nI_c (by decide)]
theorem m_w_14 (x : Int32) : gSi (mh h b A L) (b + 1) (14 : Int32) x = some (mh h b (mu A 0 14 x) L) := by rw [show (14 : Int32) = nI 14 from rfl, mh_s0, if_pos (nI_in (by decide) (by decide)), nI_c (by decide)]
theorem m_w_15 (x : Int32) : gSi (mh h b A L) (b + 1) (15 : Int32) x = some (mh h b (mu A 0 15 x) L) := by rw [show (15 : Int32) = nI 15 from rfl, mh_s0, if_pos (nI_in (by decide) (by decide)), nI_c (by decide)]
theorem m_w_16 (x : Int32) : gSi (mh h b A L) (b + 1) (16 : Int32) x = some (mh h b (mu A 0 16 x) L) := by rw [show (16 : Int32) = nI 16 from rfl, mh_s0, if_pos (nI_in (by decide) (by decide)), nI_c (by decide)]
theorem m_w_17 (x : Int32) : gSi (mh h b A L) (b + 1) (17 : Int32) x = some (mh h b (mu A 0 17 x) L) := by rw [show (17 : Int32) = nI 17 from rfl, mh_s0, if_pos (nI_in (by decide) (by decide)), nI_c (by decide)]
theorem m_w_18 (x : Int32) : gSi (mh h b A L) (b + 1) (18 : Int32) x = some (mh h b (mu A 0 18 x) L) := by rw [show (18 : Int32) = nI 18 from rfl, mh_s0, if_pos (nI_in (by decide) (by decide)), nI_c (by decide)]
theorem m_w_19 (x : Int32) : gSi (mh h b A L) (b + 1) (19 : Int32) x = some (mh h b (mu A 0 19 x) L) := by rw [show (19 : Int32) = nI 19 from rfl, mh_s0, if_pos (nI_in (by decide) (by decide)), nI_c (by decide)]
theorem m_w_20 (x : Int32) : gSi (mh h b A L) (b + 1) (20 : Int32) x = some (mh h b (mu A 0 20 x) L) := by rw [show (20 : Int32) = nI 20 from rfl, mh_s0, if_pos (nI_in (by decide) (by decide)), nI_c (by decide)]
theorem m_placeIn_L {a m : Nat} {c : Int32} (ha : a < 8) (hm : A 0 (sA a 11) = nI m) (h8 : m ≤ 8) : ∀ (n i f : Nat), n + i = m → n < f → sp_X13_placeIn_L2 G F (mh h b A L) f b (nI a) c (nI i) = some (plc (A 0) a c n i) := by
  intro n
  induction n with
  | zero =>
    intro i f hi hf
    obtain ⟨f, rfl⟩ : ∃ g, f = g + 1 := ⟨f - 1, by omega⟩
    rw [sp_X13_placeIn_L2, if_pos mh_is, m_at_11 ha]
    simp only [Option.bind_some]
    rw [hm, if_pos (nI_le (by omega) (by omega))]
    rfl
  | succ n ih =>
    intro i f hi hf
    obtain ⟨f, rfl⟩ : ∃ g, f = g + 1 := ⟨f - 1, by omega⟩
    rw [sp_X13_placeIn_L2, if_pos mh_is, m_at_11 ha]
    simp only [Option.bind_some]
    rw [hm, if_neg (nI_ge (by omega) (by omega)), if_pos mh_is, m_at' (x := nI a) (y := 12 + nI i) rfl (nI_add 12 i) ha (w := 12 + i) (by omega)]
    simp only [Option.bind_some]
    by_cases hc : A 0 (sA a (12 + i)) = c
    · rw [if_pos hc, plc, if_pos hc]
    · rw [if_neg hc, plc, if_neg hc, nI_1]
      exact ih (i + 1) f (by omega) (by omega)
theorem m_placeIn {a m : Nat} {c : Int32} (hF : 20 ≤ F) (ha : a < 8) (hm : A 0 (sA a 11) = nI m) (h8 : m ≤ 8) : sp_X13_placeIn G F (mh h b A L) b (nI a) c = some (placeV (A 0) a c) := by
  unfold sp_X13_placeIn placeV cellsN
  rw [hm, nI_c (by omega)]
  exact m_placeIn_L ha hm h8 m 0 F (by omega) (by omega)
theorem m_has (s k : Int32) : sp_X13_has G F (mh h b A L) s k = some (if hasB s k then 1 else 0) := by
  unfold sp_X13_has hasB
  split <;> rfl
end M2
