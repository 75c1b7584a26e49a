/-! m5: the reference's row S alone changes: mS h b A L S -/
set_option maxRecDepth 100000
def mS (h : gH) (b : Nat) (A : Nat → Nat → Int32) (L : Nat → Nat → Int64) (S : Nat → Int32) : gH := mh h b (va_up A 0 S) L
theorem mS_self {h : gH} {b : Nat} {A : Nat → Nat → Int32} {L : Nat → Nat → Int64} : mS h b A L (A 0) = mh h b A L := by
  unfold mS
  congr 1
  funext i
  unfold va_up
  split
  · rename_i e; rw [e]
  · rfl
theorem mu_S {A : Nat → Nat → Int32} {S : Nat → Int32} {j : Nat} {x : Int32} : mu (va_up A 0 S) 0 j x = va_up A 0 (upd S j x) := by
  funext i j'
  by_cases hi : i = 0
  · subst hi
    by_cases hj : j' = j
    · subst hj
      simp [mu, va_up, upd]
    · simp [mu, va_up, upd, hj]
  · simp [mu, va_up, hi]
/-- bits told one by one: of i, i + 1 .. -/
def bitsL (p : Nat → Bool) : Nat → Nat → Int32 → Int32
  | 0, _, acc => acc
  | n + 1, i, acc => bitsL p n (i + 1) (if p i = true then acc ||| ((1 : Int32) <<< (nI i &&& 31)) else acc ||| 0)
def bitsV (p : Nat → Bool) (n : Nat) : Int32 := bitsL p n 0 0
section M5
variable {h : gH} {b : Nat} {A : Nat → Nat → Int32} {L : Nat → Nat → Int64} {S : Nat → Int32} {G : gG} {F : Nat}
theorem s_is : gIs 11 (mS h b A L S) b = true := mh_is
theorem s_f0 : gGr 11 (mS h b A L S) b 0 = some (b + 1) := mh_f0
theorem s_f5 : gGr 11 (mS h b A L S) b 5 = some (b + 4) := mh_f5
theorem s_f6 : gGr 11 (mS h b A L S) b 6 = some (b + 5) := mh_f6
theorem s_a (k : Nat) (hk : k < 372) : gAi 0 (mS h b A L S) (b + 1) (nI k) = some (S k) := by
  unfold mS
  rw [mh_a0, if_pos (nI_in hk (by decide)), nI_c (by omega)]
  rfl
theorem s_s (k : Nat) (x : Int32) (hk : k < 372) : gSi (mS h b A L S) (b + 1) (nI k) x = some (mS h b A L (upd S k x)) := by
  unfold mS
  rw [mh_s0, if_pos (nI_in hk (by decide)), nI_c (by omega), mu_S]
theorem s_c (k : Nat) (hk : k < 64) : gAi 0 (mS h b A L S) (b + 4) (nI k) = some (A 3 k) := by
  unfold mS
  rw [mh_a3, if_pos (nI_in hk (by decide)), nI_c (by omega)]
  rfl
theorem s_n (k : Nat) (hk : k < 64) : gAi 0 (mS h b A L S) (b + 5) (nI k) = some (A 4 k) := by
  unfold mS
  rw [mh_a4, if_pos (nI_in hk (by decide)), nI_c (by omega)]
  rfl
theorem s_atN {a w : Nat} (ha : a < 8) (hw : w < 24) : sp_X13_at G F (mS h b A L S) b (nI a) (nI w) = some (S (sA a w)) := m_at (A := va_up A 0 S) ha hw
theorem s_putsN {a w : Nat} (x : Int32) (ha : a < 8) (hw : w < 24) : sp_X13_puts G F (mS h b A L S) b (nI a) (nI w) x = some (mS h b A L (upd S (sA a w) x)) := by
  unfold mS
  rw [m_puts x ha hw, mu_S]
theorem s_at_0 {a : Nat} (ha : a < 8) : sp_X13_at G F (mS h b A L S) b (nI a) (0 : Int32) = some (S (sA a 0)) := m_at (A := va_up A 0 S) ha (w := 0) (by decide)
theorem s_puts_0 {a : Nat} (x : Int32) (ha : a < 8) : sp_X13_puts G F (mS h b A L S) b (nI a) (0 : Int32) x = some (mS h b A L (upd S (sA a 0) x)) := s_putsN x ha (w := 0) (by decide)
theorem s_at_1 {a : Nat} (ha : a < 8) : sp_X13_at G F (mS h b A L S) b (nI a) (1 : Int32) = some (S (sA a 1)) := m_at (A := va_up A 0 S) ha (w := 1) (by decide)
theorem s_puts_1 {a : Nat} (x : Int32) (ha : a < 8) : sp_X13_puts G F (mS h b A L S) b (nI a) (1 : Int32) x = some (mS h b A L (upd S (sA a 1) x)) := s_putsN x ha (w := 1) (by decide)
theorem s_at_2 {a : Nat} (ha : a < 8) : sp_X13_at G F (mS h b A L S) b (nI a) (2 : Int32) = some (S (sA a 2)) := m_at (A := va_up A 0 S) ha (w := 2) (by decide)
theorem s_puts_2 {a : Nat} (x : Int32) (ha : a < 8) : sp_X13_puts G F (mS h b A L S) b (nI a) (2 : Int32) x = some (mS h b A L (upd S (sA a 2) x)) := s_putsN x ha (w := 2) (by decide)
theorem s_at_3 {a : Nat} (ha : a < 8) : sp_X13_at G F (mS h b A L S) b (nI a) (3 : Int32) = some (S (sA a 3)) := m_at (A := va_up A 0 S) ha (w := 3) (by decide)
theorem s_puts_3 {a : Nat} (x : Int32) (ha : a < 8) : sp_X13_puts G F (mS h b A L S) b (nI a) (3 : Int32) x = some (mS h b A L (upd S (sA a 3) x)) := s_putsN x ha (w := 3) (by decide)
theorem s_at_4 {a : Nat} (ha : a < 8) : sp_X13_at G F (mS h b A L S) b (nI a) (4 : Int32) = some (S (sA a 4)) := m_at (A := va_up A 0 S) ha (w := 4) (by decide)
theorem s_puts_4 {a : Nat} (x : Int32) (ha : a < 8) : sp_X13_puts G F (mS h b A L S) b (nI a) (4 : Int32) x = some (mS h b A L (upd S (sA a 4) x)) := s_putsN x ha (w := 4) (by decide)
theorem s_at_5 {a : Nat} (ha : a < 8) : sp_X13_at G F (mS h b A L S) b (nI a) (5 : Int32) = some (S (sA a 5)) := m_at (A := va_up A 0 S) ha (w := 5) (by decide)
theorem s_puts_5 {a : Nat} (x : Int32) (ha : a < 8) : sp_X13_puts G F (mS h b A L S) b (nI a) (5 : Int32) x = some (mS h b A L (upd S (sA a 5) x)) := s_putsN x ha (w := 5) (by decide)
theorem s_at_6 {a : Nat} (ha : a < 8) : sp_X13_at G F (mS h b A L S) b (nI a) (6 : Int32) = some (S (sA a 6)) := m_at (A := va_up A 0 S) ha (w := 6) (by decide)
theorem s_puts_6 {a : Nat} (x : Int32) (ha : a < 8) : sp_X13_puts G F (mS h b A L S) b (nI a) (6 : Int32) x = some (mS h b A L (upd S (sA a 6) x)) := s_putsN x ha (w := 6) (by decide)
theorem s_at_7 {a : Nat} (ha : a < 8) : sp_X13_at G F (mS h b A L S) b (nI a) (7 : Int32) = some (S (sA a 7)) := m_at (A := va_up A 0 S) ha (w := 7) (by decide)
theorem s_puts_7 {a : Nat} (x : Int32) (ha : a < 8) : sp_X13_puts G F (mS h b A L S) b (nI a) (7 : Int32) x = some (mS h b A L (upd S (sA a 7) x)) := s_putsN x ha (w := 7) (by decide)
theorem s_at_8 {a : Nat} (ha : a < 8) : sp_X13_at G F (mS h b A L S) b (nI a) (8 : Int32) = some (S (sA a 8)) := m_at (A := va_up A 0 S) ha (w := 8) (by decide)
theorem s_puts_8 {a : Nat} (x : Int32) (ha : a < 8) : sp_X13_puts G F (mS h b A L S) b (nI a) (8 : Int32) x = some (mS h b A L (upd S (sA a 8) x)) := s_putsN x ha (w := 8) (by decide)
theorem s_at_9 {a : Nat} (ha : a < 8) : sp_X13_at G F (mS h b A L S) b (nI a) (9 : Int32) = some (S (sA a 9)) := m_at (A := va_up A 0 S) ha (w := 9) (by decide)
theorem s_puts_9 {a : Nat} (x : Int32) (ha : a < 8) : sp_X13_puts G F (mS h b A L S) b (nI a) (9 : Int32) x = some (mS h b A L (upd S (sA a 9) x)) := s_putsN x ha (w := 9) (by decide)
theorem s_at_10 {a : Nat} (ha : a < 8) : sp_X13_at G F (mS h b A L S) b (nI a) (10 : Int32) = some (S (sA a 10)) := m_at (A := va_up A 0 S) ha (w := 10) (by decide)
theorem s_puts_10 {a : Nat} (x : Int32) (ha : a < 8) : sp_X13_puts G F (mS h b A L S) b (nI a) (10 : Int32) x = some (mS h b A L (upd S (sA a 10) x)) := s_putsN x ha (w := 10) (by decide)
theorem s_at_11 {a : Nat} (ha : a < 8) : sp_X13_at G F (mS h b A L S) b (nI a) (11 : Int32) = some (S (sA a 11)) := m_at (A := va_up A 0 S) ha (w := 11) (by decide)
theorem s_puts_11 {a : Nat} (x : Int32) (ha : a < 8) : sp_X13_puts G F (mS h b A L S) b (nI a) (11 : Int32) x = some (mS h b A L (upd S (sA a 11) x)) := s_putsN x ha (w := 11) (by decide)
theorem s_at_12 {a : Nat} (ha : a < 8) : sp_X13_at G F (mS h b A L S) b (nI a) (12 : Int32) = some (S (sA a 12)) := m_at (A := va_up A 0 S) ha (w := 12) (by decide)
theorem s_puts_12 {a : Nat} (x : Int32) (ha : a < 8) : sp_X13_puts G F (mS h b A L S) b (nI a) (12 : Int32) x = some (mS h b A L (upd S (sA a 12) x)) := s_putsN x ha (w := 12) (by decide)
theorem s_at_13 {a : Nat} (ha : a < 8) : sp_X13_at G F (mS h b A L S) b (nI a) (13 : Int32) = some (S (sA a 13)) := m_at (A := va_up A 0 S) ha (w := 13) (by decide)
theorem s_puts_13 {a : Nat} (x : Int32) (ha : a < 8) : sp_X13_puts G F (mS h b A L S) b (nI a) (13 : Int32) x = some (mS h b A L (upd S (sA a 13) x)) := s_putsN x ha (w := 13) (by decide)
theorem s_at_14 {a : Nat} (ha : a < 8) : sp_X13_at G F (mS h b A L S) b (nI a) (14 : Int32) = some (S (sA a 14)) := m_at (A := va_up A 0 S) ha (w := 14) (by decide)
theorem s_puts_14 {a : Nat} (x : Int32) (ha : a < 8) : sp_X13_puts G F (mS h b A L S) b (nI a) (14 : Int32) x = some (mS h b A L (upd S (sA a 14) x)) := s_putsN x ha (w := 14) (by decide)
theorem s_at_15 {a : Nat} (ha : a < 8) : sp_X13_at G F (mS h b A L S) b (nI a) (15 : Int32) = some (S (sA a 15)) := m_at (A := va_up A 0 S) ha (w := 15) (by decide)
theorem s_puts_15 {a : Nat} (x : Int32) (ha : a < 8) : sp_X13_puts G F (mS h b A L S) b (nI a) (15 : Int32) x = some (mS h b A L (upd S (sA a 15) x)) := s_putsN x ha (w := 15) (by decide)
theorem s_at_16 {a : Nat} (ha : a < 8) : sp_X13_at G F (mS h b A L S) b (nI a) (16 : Int32) = some (S (sA a 16)) := m_at (A := va_up A 0 S) ha (w := 16) (by decide)
theorem s_puts_16 {a : Nat} (x : Int32) (ha : a < 8) : sp_X13_puts G F (mS h b A L S) b (nI a) (16 : Int32) x = some (mS h b A L (upd S (sA a 16) x)) := s_putsN x ha (w := 16) (by decide)
theorem s_at_17 {a : Nat} (ha : a < 8) : sp_X13_at G F (mS h b A L S) b (nI a) (17 : Int32) = some (S (sA a 17)) := m_at (A := va_up A 0 S) ha (w := 17) (by decide)
theorem s_puts_17 {a : Nat} (x : Int32) (ha : a < 8) : sp_X13_puts G F (mS h b A L S) b (nI a) (17 : Int32) x = some (mS h b A L (upd S (sA a 17) x)) := s_putsN x ha (w := 17) (by decide)
theorem s_at_18 {a : Nat} (ha : a < 8) : sp_X13_at G F (mS h b A L S) b (nI a) (18 : Int32) = some (S (sA a 18)) := m_at (A := va_up A 0 S) ha (w := 18) (by decide)
theorem s_puts_18 {a : Nat} (x : Int32) (ha : a < 8) : sp_X13_puts G F (mS h b A L S) b (nI a) (18 : Int32) x = some (mS h b A L (upd S (sA a 18) x)) := s_putsN x ha (w := 18) (by decide)
theorem s_at_19 {a : Nat} (ha : a < 8) : sp_X13_at G F (mS h b A L S) b (nI a) (19 : Int32) = some (S (sA a 19)) := m_at (A := va_up A 0 S) ha (w := 19) (by decide)
theorem s_puts_19 {a : Nat} (x : Int32) (ha : a < 8) : sp_X13_puts G F (mS h b A L S) b (nI a) (19 : Int32) x = some (mS h b A L (upd S (sA a 19) x)) := s_putsN x ha (w := 19) (by decide)
theorem s_at_20 {a : Nat} (ha : a < 8) : sp_X13_at G F (mS h b A L S) b (nI a) (20 : Int32) = some (S (sA a 20)) := m_at (A := va_up A 0 S) ha (w := 20) (by decide)
theorem s_puts_20 {a : Nat} (x : Int32) (ha : a < 8) : sp_X13_puts G F (mS h b A L S) b (nI a) (20 : Int32) x = some (mS h b A L (upd S (sA a 20) x)) := s_putsN x ha (w := 20) (by decide)
theorem s_at_21 {a : Nat} (ha : a < 8) : sp_X13_at G F (mS h b A L S) b (nI a) (21 : Int32) = some (S (sA a 21)) := m_at (A := va_up A 0 S) ha (w := 21) (by decide)
theorem s_puts_21 {a : Nat} (x : Int32) (ha : a < 8) : sp_X13_puts G F (mS h b A L S) b (nI a) (21 : Int32) x = some (mS h b A L (upd S (sA a 21) x)) := s_putsN x ha (w := 21) (by decide)
theorem s_at_22 {a : Nat} (ha : a < 8) : sp_X13_at G F (mS h b A L S) b (nI a) (22 : Int32) = some (S (sA a 22)) := m_at (A := va_up A 0 S) ha (w := 22) (by decide)
theorem s_puts_22 {a : Nat} (x : Int32) (ha : a < 8) : sp_X13_puts G F (mS h b A L S) b (nI a) (22 : Int32) x = some (mS h b A L (upd S (sA a 22) x)) := s_putsN x ha (w := 22) (by decide)
theorem s_at_23 {a : Nat} (ha : a < 8) : sp_X13_at G F (mS h b A L S) b (nI a) (23 : Int32) = some (S (sA a 23)) := m_at (A := va_up A 0 S) ha (w := 23) (by decide)
theorem s_puts_23 {a : Nat} (x : Int32) (ha : a < 8) : sp_X13_puts G F (mS h b A L S) b (nI a) (23 : Int32) x = some (mS h b A L (upd S (sA a 23) x)) := s_putsN x ha (w := 23) (by decide)
theorem s_r_0 : gAi 0 (mS h b A L S) (b + 1) (0 : Int32) = some (S 0) := m_r_0 (A := va_up A 0 S)
theorem s_w_0 (x : Int32) : gSi (mS h b A L S) (b + 1) (0 : Int32) x = some (mS h b A L (upd S 0 x)) := by rw [mS, m_w_0 (A := va_up A 0 S), mu_S]; rfl
theorem s_r_1 : gAi 0 (mS h b A L S) (b + 1) (1 : Int32) = some (S 1) := m_r_1 (A := va_up A 0 S)
theorem s_w_1 (x : Int32) : gSi (mS h b A L S) (b + 1) (1 : Int32) x = some (mS h b A L (upd S 1 x)) := by rw [mS, m_w_1 (A := va_up A 0 S), mu_S]; rfl
theorem s_r_2 : gAi 0 (mS h b A L S) (b + 1) (2 : Int32) = some (S 2) := m_r_2 (A := va_up A 0 S)
theorem s_w_2 (x : Int32) : gSi (mS h b A L S) (b + 1) (2 : Int32) x = some (mS h b A L (upd S 2 x)) := by rw [mS, m_w_2 (A := va_up A 0 S), mu_S]; rfl
theorem s_r_3 : gAi 0 (mS h b A L S) (b + 1) (3 : Int32) = some (S 3) := m_r_3 (A := va_up A 0 S)
theorem s_w_3 (x : Int32) : gSi (mS h b A L S) (b + 1) (3 : Int32) x = some (mS h b A L (upd S 3 x)) := by rw [mS, m_w_3 (A := va_up A 0 S), mu_S]; rfl
theorem s_r_4 : gAi 0 (mS h b A L S) (b + 1) (4 : Int32) = some (S 4) := m_r_4 (A := va_up A 0 S)
theorem s_w_4 (x : Int32) : gSi (mS h b A L S) (b + 1) (4 : Int32) x = some (mS h b A L (upd S 4 x)) := by rw [mS, m_w_4 (A := va_up A 0 S), mu_S]; rfl
theorem s_r_5 : gAi 0 (mS h b A L S) (b + 1) (5 : Int32) = some (S 5) := m_r_5 (A := va_up A 0 S)
theorem s_w_5 (x : Int32) : gSi (mS h b A L S) (b + 1) (5 : Int32) x = some (mS h b A L (upd S 5 x)) := by rw [mS, m_w_5 (A := va_up A 0 S), mu_S]; rfl
theorem s_r_6 : gAi 0 (mS h b A L S) (b + 1) (6 : Int32) = some (S 6) := m_r_6 (A := va_up A 0 S)
theorem s_w_6 (x : Int32) : gSi (mS h b A L S) (b + 1) (6 : Int32) x = some (mS h b A L (upd S 6 x)) := by rw [mS, m_w_6 (A := va_up A 0 S), mu_S]; rfl
theorem s_r_7 : gAi 0 (mS h b A L S) (b + 1) (7 : Int32) = some (S 7) := m_r_7 (A := va_up A 0 S)
theorem s_w_7 (x : Int32) : gSi (mS h b A L S) (b + 1) (7 : Int32) x = some (mS h b A L (upd S 7 x)) := by rw [mS, m_w_7 (A := va_up A 0 S), mu_S]; rfl
theorem s_r_8 : gAi 0 (mS h b A L S) (b + 1) (8 : Int32) = some (S 8) := m_r_8 (A := va_up A 0 S)
theorem s_w_8 (x : Int32) : gSi (mS h b A L S) (b + 1) (8 : Int32) x = some (mS h b A L (upd S 8 x)) := by rw [mS, m_w_8 (A := va_up A 0 S), mu_S]; rfl
theorem s_r_9 : gAi 0 (mS h b A L S) (b + 1) (9 : Int32) = some (S 9) := m_r_9 (A := va_up A 0 S)
theorem s_w_9 (x : Int32) : gSi (mS h b A L S) (b + 1) (9 : Int32) x = some (mS h b A L (upd S 9 x)) := by rw [mS, m_w_9 (A := va_up A 0 S), mu_S]; rfl
theorem s_r_10 : gAi 0 (mS h b A L S) (b + 1) (10 : Int32) = some (S 10) := m_r_10 (A := va_up A 0 S)
theorem s_w_10 (x : Int32) : gSi (mS h b A L S) (b + 1) (10 : Int32) x = some (mS h b A L (upd S 10 x)) := by rw [mS, m_w_10 (A := va_up A 0 S), mu_S]; rfl
theorem s_r_11 : gAi 0 (mS h b A L S) (b + 1) (11 : Int32) = some (S 11) := m_r_11 (A := va_up A 0 S)
theorem s_w_11 (x : Int32) : gSi (mS h b A L S) (b + 1) (11 : Int32) x = some (mS h b A L (upd S 11 x)) := by rw [mS, m_w_11 (A := va_up A 0 S), mu_S]; rfl
theorem s_r_12 : gAi 0 (mS h b A L S) (b + 1) (12 : Int32) = some (S 12) := m_r_12 (A := va_up A 0 S)
theorem s_w_12 (x : Int32) : gSi (mS h b A L S) (b + 1) (12 : Int32) x = some (mS h b A L (upd S 12 x)) := by rw [mS, m_w_12 (A := va_up A 0 S), mu_S]; rfl
theorem s_r_13 : gAi 0 (mS h b A L S) (b + 1) (13 : Int32) = some (S 13) := m_r_13 (A := va_up A 0 S)
theorem s_w_13 (x : Int32) : gSi (mS h b A L S) (b + 1) (13 : Int32) x = some (mS h b A L (upd S 13 x)) := by rw [mS, m_w_13 (A := va_up A 0 S), mu_S]; rfl
theorem s_r_14 : gAi 0 (mS h b A L S) (b + 1) (14 : Int32) = some (S 14) := m_r_14 (A := va_up A 0 S)
theorem s_w_14 (x : Int32) : gSi (mS h b A L S) (b + 1) (14 : Int32) x = some (mS h b A L (upd S 14 x)) := by rw [mS, m_w_14 (A := va_up A 0 S), mu_S]; rfl
theorem s_r_15 : gAi 0 (mS h b A L S) (b + 1) (15 : Int32) = some (S 15) := m_r_15 (A := va_up A 0 S)
theorem s_w_15 (x : Int32) : gSi (mS h b A L S) (b + 1) (15 : Int32) x = some (mS h b A L (upd S 15 x)) := by rw [mS, m_w_15 (A := va_up A 0 S), mu_S]; rfl
theorem s_r_16 : gAi 0 (mS h b A L S) (b + 1) (16 : Int32) = some (S 16) := m_r_16 (A := va_up A 0 S)
theorem s_w_16 (x : Int32) : gSi (mS h b A L S) (b + 1) (16 : Int32) x = some (mS h b A L (upd S 16 x)) := by rw [mS, m_w_16 (A := va_up A 0 S), mu_S]; rfl
theorem s_r_17 : gAi 0 (mS h b A L S) (b + 1) (17 : Int32) = some (S 17) := m_r_17 (A := va_up A 0 S)
theorem s_w_17 (x : Int32) : gSi (mS h b A L S) (b + 1) (17 : Int32) x = some (mS h b A L (upd S 17 x)) := by rw [mS, m_w_17 (A := va_up A 0 S), mu_S]; rfl
theorem s_r_18 : gAi 0 (mS h b A L S) (b + 1) (18 : Int32) = some (S 18) := m_r_18 (A := va_up A 0 S)
theorem s_w_18 (x : Int32) : gSi (mS h b A L S) (b + 1) (18 : Int32) x = some (mS h b A L (upd S 18 x)) := by rw [mS, m_w_18 (A := va_up A 0 S), mu_S]; rfl
theorem s_r_19 : gAi 0 (mS h b A L S) (b + 1) (19 : Int32) = some (S 19) := m_r_19 (A := va_up A 0 S)
theorem s_w_19 (x : Int32) : gSi (mS h b A L S) (b + 1) (19 : Int32) x = some (mS h b A L (upd S 19 x)) := by rw [mS, m_w_19 (A := va_up A 0 S), mu_S]; rfl
theorem s_r_20 : gAi 0 (mS h b A L S) (b + 1) (20 : Int32) = some (S 20) := m_r_20 (A := va_up A 0 S)
theorem s_w_20 (x : Int32) : gSi (mS h b A L S) (b + 1) (20 : Int32) x = some (mS h b A L (upd S 20 x)) := by rw [mS, m_w_20 (A := va_up A 0 S), mu_S]; rfl
theorem s_meet {a c : Nat} (ha : a < 8) (hc : c < 8) : sp_X13_meet G F (mS h b A L S) b (nI a) (nI c) = some (if A 3 (8 * a + c) < 0 then 0 else 1) := by
  unfold sp_X13_meet
  simp only [s_f5, Option.bind_some, ix_8]
  rw [s_c _ (by omega)]
  simp only [Option.bind_some]
  split <;> rfl
theorem s_meets_L {a m : Nat} (ha : a < 8) (hm : S 13 = nI m) (h8 : m ≤ 8) : ∀ (n i f : Nat) (acc : Int32), n + i = m → n < f → sp_X13_meets_L4 G F (mS h b A L S) f b (nI a) acc (nI i) = some (bitsL (fun c => decide (¬ A 3 (8 * a + c) < 0)) n i acc) := by
  intro n
  induction n with
  | zero =>
    intro i f acc hi hf
    obtain ⟨f, rfl⟩ : ∃ z, f = z + 1 := ⟨f - 1, by omega⟩
    rw [sp_X13_meets_L4]
    simp only [s_f0, s_r_13, Option.bind_some, hm]
    rw [if_pos (nI_le (by omega) (by omega))]
    rfl
  | succ n ih =>
    intro i f acc hi hf
    obtain ⟨f, rfl⟩ : ∃ z, f = z + 1 := ⟨f - 1, by omega⟩
    rw [sp_X13_meets_L4]
    simp only [s_f0, s_r_13, Option.bind_some, hm]
    rw [if_neg (nI_ge (by omega) (by omega)), if_pos s_is, s_meet ha (by omega)]
    simp only [Option.bind_some, nI_1]
    by_cases hc : A 3 (8 * a + i) < 0
    · simp only [hc, if_true, bitsL, not_true_eq_false, decide_false, Bool.false_eq_true, if_false]
      exact ih (i + 1) f _ (by omega) (by omega)
    · simp only [hc, if_false, bitsL, not_false_eq_true, decide_true, if_true]
      rw [if_neg (by decide)]
      exact ih (i + 1) f _ (by omega) (by omega)
theorem s_meets {a m : Nat} (hF : 20 ≤ F) (ha : a < 8) (hm : S 13 = nI m) (h8 : m ≤ 8) : sp_X13_meets G F (mS h b A L S) b (nI a) = some (bitsV (fun c => decide (¬ A 3 (8 * a + c) < 0)) m) := by
  unfold sp_X13_meets bitsV
  rw [show (0 : Int32) = nI 0 from rfl, s_meets_L ha hm h8 m 0 F (nI 0) (by omega) (by omega)]
  rfl
end M5
