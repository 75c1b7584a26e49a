/-! x23: Long.bitCount counts bits -/
set_option maxRecDepth 100000
def bitI (x i : Nat) : Nat := if x.testBit i = true then 1 else 0
theorem tb_256 {a m j : Nat} (ha : a < 256) : (a + 256 * m).testBit j = if j < 8 then a.testBit j else m.testBit (j - 8) := by
  rw [Nat.add_comm, show (256 : Nat) = 2 ^ 8 from rfl, Nat.testBit_two_pow_mul_add m (show a < 2 ^ 8 from ha) j]
theorem and_256 {a b m n : Nat} (ha : a < 256) (hm : m < 256) : (a + 256 * b) &&& (m + 256 * n) = (a &&& m) + 256 * (b &&& n) := by
  have hk : a &&& m < 256 := Nat.lt_of_le_of_lt Nat.and_le_left ha
  apply Nat.eq_of_testBit_eq
  intro j
  rw [Nat.testBit_and, tb_256 ha, tb_256 hm, tb_256 hk]
  by_cases h : j < 8
  · rw [if_pos h, if_pos h, if_pos h, Nat.testBit_and]
  · rw [if_neg h, if_neg h, if_neg h, Nat.testBit_and]
theorem sand_256 {a b m n s : Nat} (ha : a < 256) (hs : s ≤ 8) (hm : m < 2 ^ (8 - s)) : ((a + 256 * b) >>> s) &&& (m + 256 * n) = ((a >>> s) &&& m) + 256 * ((b >>> s) &&& n) := by
  have hm' : m < 256 := Nat.lt_of_lt_of_le hm (show 2 ^ (8 - s) ≤ 2 ^ 8 from Nat.pow_le_pow_right (by decide) (by omega))
  have hk : (a >>> s) &&& m < 256 := Nat.lt_of_le_of_lt Nat.and_le_right hm'
  apply Nat.eq_of_testBit_eq
  intro j
  rw [Nat.testBit_and, Nat.testBit_shiftRight, tb_256 ha, tb_256 hm', tb_256 hk]
  by_cases h : j < 8
  · rw [if_pos h, if_pos h, Nat.testBit_and, Nat.testBit_shiftRight]
    by_cases h2 : s + j < 8
    · rw [if_pos h2]
    · have : m.testBit j = false := Nat.testBit_lt_two_pow (Nat.lt_of_lt_of_le hm (Nat.pow_le_pow_right (by decide) (by omega)))
      rw [this, Bool.and_false, Bool.and_false]
  · rw [if_neg h, if_neg h, if_neg (by omega), Nat.testBit_and, Nat.testBit_shiftRight, show s + j - 8 = s + (j - 8) by omega]
def byV : List Nat → Nat
  | [] => 0
  | a :: l => a + 256 * byV l
def mkV (m : Nat) : Nat → Nat
  | 0 => 0
  | n + 1 => m + 256 * mkV m n
def c1 (m x : Nat) : Nat := x - ((x >>> 1) &&& m)
def c2 (m x : Nat) : Nat := (x &&& m) + ((x >>> 2) &&& m)
def c3 (m x : Nat) : Nat := (x + (x >>> 4)) &&& m
theorem c1_s {a b n : Nat} (ha : a < 256) : c1 (85 + 256 * n) (a + 256 * b) = c1 85 a + 256 * c1 n b := by
  unfold c1
  rw [sand_256 ha (by decide) (by decide)]
  have h1 : (a >>> 1) &&& 85 ≤ a := Nat.le_trans Nat.and_le_left (Nat.shiftRight_le a 1)
  have h2 : (b >>> 1) &&& n ≤ b := Nat.le_trans Nat.and_le_left (Nat.shiftRight_le b 1)
  omega
theorem c2_s {a b n : Nat} (ha : a < 256) : c2 (51 + 256 * n) (a + 256 * b) = c2 51 a + 256 * c2 n b := by
  unfold c2
  rw [sand_256 ha (by decide) (by decide), and_256 ha (by decide)]
  omega
theorem c3_s {a b n : Nat} (ha : a ≤ 68) (hb : b % 16 ≤ 4) : c3 (15 + 256 * n) (a + 256 * b) = c3 15 a + 256 * c3 n b := by
  unfold c3
  have e : a + 256 * b + (a + 256 * b) >>> 4 = (a + a / 16 + 16 * (b % 16)) + 256 * (b + b >>> 4) := by
    rw [Nat.shiftRight_eq_div_pow, Nat.shiftRight_eq_div_pow]
    omega
  rw [e, and_256 (by omega) (by decide)]
  have e2 : ∀ x : Nat, x &&& 15 = x % 16 := fun x => Nat.and_two_pow_sub_one_eq_mod x 4
  rw [e2, e2, Nat.shiftRight_eq_div_pow]
  omega
def pc8 (a : Nat) : Nat := sm (bitI a) 8
theorem pc8_v : ∀ a, a < 256 → c1 85 a < 256 ∧ c2 51 (c1 85 a) ≤ 68 ∧ c2 51 (c1 85 a) % 16 ≤ 4 ∧ c3 15 (c2 51 (c1 85 a)) = pc8 a := by decide +kernel
theorem c_all : ∀ l : List Nat, (∀ a, a ∈ l → a < 256) → (c2 (mkV 51 l.length) (c1 (mkV 85 l.length) (byV l))) % 16 ≤ 4 ∧ c3 (mkV 15 l.length) (c2 (mkV 51 l.length) (c1 (mkV 85 l.length) (byV l))) = byV (l.map pc8) := by
  intro l
  induction l with
  | nil => intro _; decide
  | cons a l ih =>
    intro h
    obtain ⟨i1, i2⟩ := ih (fun x hx => h x (List.mem_cons_of_mem _ hx))
    have ha := h a (List.mem_cons_self)
    obtain ⟨p1, p2, p3, p4⟩ := pc8_v a ha
    rw [List.length_cons, mkV, mkV, mkV, byV, c1_s ha, c2_s p1, c3_s p2 i1, i2, p4]
    refine ⟨by omega, rfl⟩
theorem sm_app {f : Nat → Nat} {n : Nat} : ∀ m, sm f (n + m) = sm f n + sm (fun i => f (n + i)) m := by
  intro m
  induction m with
  | zero => rfl
  | succ m ih => rw [← Nat.add_assoc, sm_s, ih, sm_s, Nat.add_assoc]
def sumL : List Nat → Nat
  | [] => 0
  | a :: l => a + sumL l
theorem pc_all : ∀ l : List Nat, (∀ a, a ∈ l → a < 256) → sm (bitI (byV l)) (8 * l.length) = sumL (l.map pc8) := by
  intro l
  induction l with
  | nil => intro _; rfl
  | cons a l ih =>
    intro h
    have ha := h a (List.mem_cons_self)
    rw [List.length_cons, show 8 * (l.length + 1) = 8 + 8 * l.length by omega, sm_app, byV, List.map_cons, sumL, ← ih (fun x hx => h x (List.mem_cons_of_mem _ hx))]
    have e1 : sm (bitI (a + 256 * byV l)) 8 = pc8 a := sm_congr 8 fun i hi => by unfold bitI; rw [tb_256 ha, if_pos hi]
    have e2 : sm (fun i => bitI (a + 256 * byV l) (8 + i)) (8 * l.length) = sm (bitI (byV l)) (8 * l.length) := sm_congr _ fun i _ => by unfold bitI; rw [tb_256 ha, if_neg (show ¬ 8 + i < 8 by omega), show 8 + i - 8 = i by omega]
    rw [e1, e2]
def x3V (x : Nat) : Nat := c3 1085102592571150095 (c2 3689348814741910323 (c1 6148914691236517205 x))
def x4V (x : Nat) : Nat := x3V x + x3V x >>> 8
def x5V (x : Nat) : Nat := x4V x + x4V x >>> 16
def x6V (x : Nat) : Nat := x5V x + x5V x >>> 32
theorem by8 {x : Nat} (hx : x < 2 ^ 64) : x = byV [x % 256, x / 256 % 256, x / 65536 % 256, x / 16777216 % 256, x / 4294967296 % 256, x / 1099511627776 % 256, x / 281474976710656 % 256, x / 72057594037927936 % 256] := by
  simp only [byV]
  omega
theorem pc8_le {a : Nat} : pc8 a ≤ 8 := sm_le 8 fun i _ => by unfold bitI; split <;> decide
theorem x6_v {x : Nat} (hx : x < 2 ^ 64) : x3V x < 2 ^ 64 ∧ x4V x < 2 ^ 64 ∧ x5V x < 2 ^ 64 ∧ x6V x &&& 127 = sm (bitI x) 64 ∧ sm (bitI x) 64 ≤ 64 := by
  have hl : ∀ a, a ∈ [x % 256, x / 256 % 256, x / 65536 % 256, x / 16777216 % 256, x / 4294967296 % 256, x / 1099511627776 % 256, x / 281474976710656 % 256, x / 72057594037927936 % 256] → a < 256 := by
    intro a ha
    simp only [List.mem_cons, List.not_mem_nil, or_false] at ha
    omega
  have e8 := by8 hx
  have k1 := (c_all _ hl).2
  have k2 := pc_all _ hl
  rw [← e8] at k1 k2
  simp only [List.map_cons, List.map_nil, byV, sumL] at k1 k2
  have e3 : x3V x = c3 (mkV 15 8) (c2 (mkV 51 8) (c1 (mkV 85 8) x)) := rfl
  have e3' := e3.trans k1
  have ek2 : sm (bitI x) 64 = _ := k2
  rw [ek2]
  have h0 := pc8_le (a := x % 256)
  have h1 := pc8_le (a := x / 256 % 256)
  have h2 := pc8_le (a := x / 65536 % 256)
  have h3 := pc8_le (a := x / 16777216 % 256)
  have h4 := pc8_le (a := x / 4294967296 % 256)
  have h5 := pc8_le (a := x / 1099511627776 % 256)
  have h6 := pc8_le (a := x / 281474976710656 % 256)
  have h7 := pc8_le (a := x / 72057594037927936 % 256)
  generalize pc8 (x % 256) = p0 at *
  generalize pc8 (x / 256 % 256) = p1 at *
  generalize pc8 (x / 65536 % 256) = p2 at *
  generalize pc8 (x / 16777216 % 256) = p3 at *
  generalize pc8 (x / 4294967296 % 256) = p4 at *
  generalize pc8 (x / 1099511627776 % 256) = p5 at *
  generalize pc8 (x / 281474976710656 % 256) = p6 at *
  generalize pc8 (x / 72057594037927936 % 256) = p7 at *
  clear k1 k2 ek2 hl e8 e3
  have e4 : x4V x = (p0 + p1) + 256 * (p1 + p2) + 65536 * (p2 + p3) + 16777216 * (p3 + p4) + 4294967296 * (p4 + p5) + 1099511627776 * (p5 + p6) + 281474976710656 * (p6 + p7) + 72057594037927936 * p7 := by
    unfold x4V
    rw [e3', Nat.shiftRight_eq_div_pow]
    omega
  have e5 : ∃ r, x5V x = (p0 + p1 + p2 + p3) + 256 * (p1 + p2 + p3 + p4) + 65536 * (p2 + p3 + p4 + p5) + 16777216 * (p3 + p4 + p5 + p6) + 4294967296 * (p4 + p5 + p6 + p7) + 1099511627776 * r ∧ r ≤ 600000 := by
    unfold x5V
    rw [e4, Nat.shiftRight_eq_div_pow]
    exact ⟨(p5 + p6 + p7) + 256 * (p6 + p7) + 65536 * p7, by omega, by omega⟩
  obtain ⟨r, e5, hr⟩ := e5
  refine ⟨by omega, by omega, by omega, ?_, by omega⟩
  rw [show (127 : Nat) = 2 ^ 7 - 1 from rfl, Nat.and_two_pow_sub_one_eq_mod]
  unfold x6V
  have e6 : x5V x >>> 32 = (p4 + p5 + p6 + p7) + 256 * r := by
    rw [Nat.shiftRight_eq_div_pow, e5]
    clear e3' e4
    omega
  rw [e6, e5]
  clear e3' e4 e5 e6
  omega
