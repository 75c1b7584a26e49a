/-! x7: best, chance, mean (both sides) -/
set_option maxRecDepth 100000
theorem lN_rem {a d : Nat} (ha : a < 2 ^ 31) (h0 : 0 < d) (hd : d < 2 ^ 31) : lN a - lN a / lN d * lN d = lN (a % d) := by
  have hdiv : lN a / lN d = lN (a / d) := by
    apply Int64.toInt_inj.mp
    rw [Int64.toInt_div, lN_toInt ha, lN_toInt hd, lN_toInt (Nat.lt_of_le_of_lt (Nat.div_le_self a d) ha)]
    rw [← Int.ofNat_tdiv]
    have this : (a / d) < 2 ^ 31 := Nat.lt_of_le_of_lt (Nat.div_le_self a d) ha
    generalize a / d = q at this ⊢
    exact Int.bmod_eq_of_le (by omega) (by omega)
  have hle : a / d * d ≤ a := Nat.div_mul_le_self a d
  rw [hdiv, lN_mul, lN_sub hle]
  congr 1
  have := Nat.div_add_mod a d
  rw [Nat.mul_comm] at this
  omega
theorem lN_div {a d : Nat} (ha : a < 2 ^ 31) (hd : d < 2 ^ 31) : lN a / lN d = lN (a / d) := by
  apply Int64.toInt_inj.mp
  rw [Int64.toInt_div, lN_toInt ha, lN_toInt hd, lN_toInt (Nat.lt_of_le_of_lt (Nat.div_le_self a d) ha)]
  rw [← Int.ofNat_tdiv]
  have this : (a / d) < 2 ^ 31 := Nat.lt_of_le_of_lt (Nat.div_le_self a d) ha
  generalize a / d = q at this ⊢
  exact Int.bmod_eq_of_le (by omega) (by omega)
theorem gcd_s {a b : Nat} (hb : 0 < b) : Nat.gcd b (a % b) = Nat.gcd a b := by
  rw [Nat.gcd_comm b, ← Nat.gcd_rec, Nat.gcd_comm]
theorem mod_half {b r : Nat} (hr : 0 < r) (h : r < b) : 2 * (b % r) < b := by
  have h1 := Nat.mod_lt b hr
  have h2 := Nat.div_add_mod b r
  have h3 : 1 ≤ b / r := Nat.le_div_iff_mul_le hr |>.mpr (by omega)
  have h4 : r * 1 ≤ r * (b / r) := Nat.mul_le_mul_left r h3
  omega
theorem i_common {G : gG} {F : Nat} {h : gH} : ∀ (k f a b : Nat), 2 * k + 1 ≤ f → b < 2 ^ k → k ≤ 30 → a < 2 ^ 31 → sp_X13_common_R G F h f (nI a) (nI b) = some (nI (Nat.gcd a b)) := by
  intro k
  induction k with
  | zero =>
    intro f a b hf hb _ _
    obtain ⟨f, rfl⟩ : ∃ z, f = z + 1 := ⟨f - 1, by omega⟩
    obtain rfl : b = 0 := by omega
    rw [sp_X13_common_R, if_pos (show nI 0 = 0 from rfl), Nat.gcd_zero_right]
  | succ k ih =>
    intro f a b hf hb hk ha
    have h31 : (2 : Nat) ^ (k + 1) ≤ 2 ^ 30 * 2 := by
      have := Nat.pow_le_pow_right (n := 2) (by decide) (show k + 1 ≤ 30 by omega)
      omega
    obtain ⟨f, rfl⟩ : ∃ z, f = z + 1 := ⟨f - 1, by omega⟩
    rcases Nat.eq_zero_or_pos b with h0 | h0
    · subst h0
      rw [sp_X13_common_R, if_pos (show nI 0 = 0 from rfl), Nat.gcd_zero_right]
    · have hb31 : b < 2 ^ 31 := by omega
      rw [sp_X13_common_R, if_neg (nI_ne0 h0 hb31), pk_rem ha h0 hb31]
      have hlt := Nat.mod_lt a h0
      obtain ⟨f, rfl⟩ : ∃ z, f = z + 1 := ⟨f - 1, by omega⟩
      rcases Nat.eq_zero_or_pos (a % b) with h1 | h1
      · rw [h1, sp_X13_common_R, if_pos (show nI 0 = 0 from rfl), ← gcd_s h0, h1, Nat.gcd_zero_right]
      · rw [sp_X13_common_R, if_neg (nI_ne0 h1 (by omega)), pk_rem hb31 h1 (by omega)]
        have hh := mod_half h1 hlt
        have e2 : (2 : Nat) ^ (k + 1) = 2 * 2 ^ k := by rw [Nat.pow_succ, Nat.mul_comm]
        rw [ih f (a % b) (b % (a % b)) (by omega) (by omega) (by omega) (by omega), gcd_s h1, gcd_s h0]
theorem i_divisor {G : gG} {F : Nat} {h : gH} : ∀ (k f a b : Nat), 2 * k + 1 ≤ f → b < 2 ^ k → k ≤ 30 → a < 2 ^ 31 → sp_X0_divisor_L6 G F h f (lN a) (lN b) = some (lN (Nat.gcd a b)) := by
  have z0 : ∀ b : Nat, b < 2 ^ 31 → (lN b = 0 ↔ b = 0) := fun b hb => lN_eq (b := 0) hb (by decide)
  intro k
  induction k with
  | zero =>
    intro f a b hf hb _ _
    obtain ⟨f, rfl⟩ : ∃ z, f = z + 1 := ⟨f - 1, by omega⟩
    obtain rfl : b = 0 := by omega
    rw [sp_X0_divisor_L6]
    simp only [lg_z]
    rw [if_pos (show lN 0 = 0 from rfl), Nat.gcd_zero_right]
  | succ k ih =>
    intro f a b hf hb hk ha
    have h31 : (2 : Nat) ^ (k + 1) ≤ 2 ^ 30 * 2 := by
      have := Nat.pow_le_pow_right (n := 2) (by decide) (show k + 1 ≤ 30 by omega)
      omega
    obtain ⟨f, rfl⟩ : ∃ z, f = z + 1 := ⟨f - 1, by omega⟩
    rcases Nat.eq_zero_or_pos b with h0 | h0
    · subst h0
      rw [sp_X0_divisor_L6]
      simp only [lg_z]
      rw [if_pos (show lN 0 = 0 from rfl), Nat.gcd_zero_right]
    · have hb31 : b < 2 ^ 31 := by omega
      have n0 : ¬ lN b = 0 := fun e => by have := (z0 b hb31).mp e; omega
      rw [sp_X0_divisor_L6]
      simp only [lg_z]
      rw [if_neg n0, if_pos n0, lN_rem ha h0 hb31]
      have hlt := Nat.mod_lt a h0
      obtain ⟨f, rfl⟩ : ∃ z, f = z + 1 := ⟨f - 1, by omega⟩
      rcases Nat.eq_zero_or_pos (a % b) with h1 | h1
      · rw [h1, sp_X0_divisor_L6]
        simp only [lg_z]
        rw [if_pos (show lN 0 = 0 from rfl), ← gcd_s h0, h1, Nat.gcd_zero_right]
      · have n1 : ¬ lN (a % b) = 0 := fun e => by have := (z0 (a % b) (by omega)).mp e; omega
        rw [sp_X0_divisor_L6]
        simp only [lg_z]
        rw [if_neg n1, if_pos n1, lN_rem hb31 h1 (by omega)]
        have hh := mod_half h1 hlt
        have e2 : (2 : Nat) ^ (k + 1) = 2 * 2 ^ k := by rw [Nat.pow_succ, Nat.mul_comm]
        rw [ih f (a % b) (b % (a % b)) (by omega) (by omega) (by omega) (by omega), gcd_s h1, gcd_s h0]
def fracV (a b : Nat) (p : Int32) : Int64 := lN ((if p = 0 then a else b) / Nat.gcd a b)
theorem gcd_b {a b : Nat} (hb : 0 < b) : 0 < Nat.gcd a b ∧ Nat.gcd a b ≤ b := ⟨Nat.gcd_pos_of_pos_right a hb, Nat.gcd_le_right a hb⟩
theorem i_part {G : gG} {F : Nat} {h : gH} {a b : Nat} {p : Int32} (ha : a < 2 ^ 31) (h0 : 0 < b) (hb : b < 2 ^ 24) : sp_X13_part G F h (nI a) (nI b) p = some (fracV a b p) := by
  have hg := gcd_b (a := a) h0
  have hd : ∀ x : Nat, x < 2 ^ 31 → (nI x / nI (Nat.gcd a b)).toInt64 = lN (x / Nat.gcd a b) := fun x hx => by
    rw [pk_div hx hg.1 (by omega), nI_l (Nat.lt_of_le_of_lt (Nat.div_le_self _ _) hx)]
  unfold sp_X13_part sp_X13_common fracV
  rw [i_common 24 50 a b (by decide) hb (by decide) ha]
  by_cases hp : p = 0
  · rw [if_pos hp, if_pos hp]
    simp only [Option.bind_some]
    rw [if_pos (nI_ne0 hg.1 (by omega)), hd a ha]
  · rw [if_neg hp, if_neg hp]
    simp only [Option.bind_some]
    rw [if_pos (nI_ne0 hg.1 (by omega)), hd b (by omega)]
theorem i_lowest {G : gG} {F : Nat} {h : gH} {a b : Nat} {p : Int32} (hF : 100 ≤ F) (ha : a < 2 ^ 31) (h0 : 0 < b) (hb : b < 2 ^ 24) : sp_X0_lowest G F h (nI a).toInt64 (nI b).toInt64 p = some (fracV a b p) := by
  have hg := gcd_b (a := a) h0
  have n0 : ¬ lN (Nat.gcd a b) = 0 := fun e => by
    have := (lN_eq (a := Nat.gcd a b) (b := 0) (by omega) (by decide)).mp e
    omega
  unfold sp_X0_lowest sp_X0_divisor fracV
  rw [nI_l ha, nI_l (by omega), i_divisor 24 F a b (by omega) hb (by decide) ha]
  by_cases hp : p = 0
  · rw [if_pos hp, if_pos hp]
    simp only [Option.bind_some]
    rw [if_pos n0, lN_div ha (by omega)]
  · rw [if_neg hp, if_neg hp]
    simp only [Option.bind_some]
    rw [if_pos n0, lN_div (by omega) (by omega)]
/-- what waited, what was served: so many at most -/
def sumOk (S : Nat → Int32) (t : Nat) : Prop := (∃ w, w ≤ 792 * t ∧ S 7 = nI w) ∧ ∃ s, s ≤ 792 * t ∧ S 8 = nI s
def NOl : Int64 := -9223372036854775808
def meanR (S : Nat → Int32) (p1 : Int32) : Int64 := if ¬ inB p1 0 1 then NOl else if S 8 ≤ 0 then NOl else fracV (S 7).toNatClampNeg (S 8).toNatClampNeg p1
section X7
variable {G : gG} {F n bx : Nat} {h : gH} {c : Nat → Int32} {S C : Nat → Int32} {J : Nat → Nat → Int32} {Q : Nat → Nat → Int64} {b : Nat} {A : Nat → Nat → Int32} {L : Nat → Nat → Int64}
theorem s_mean {t : Nat} {p1 : Int32} (ht : t ≤ 12000) (hs : sumOk S t) : sp_X13_mean G F (mS h b A L S) b p1 = some (meanR S p1) := by
  obtain ⟨⟨w, hw, ew⟩, s, hs, es⟩ := hs
  unfold sp_X13_mean meanR
  simp only [i_isIn, Option.bind_some, b0]
  rcases (Classical.em (inB p1 0 1)).symm with h1 | h1
  · rw [if_pos h1, if_pos h1]; rfl
  rw [if_neg (fun hh => hh h1), if_neg (fun hh => hh h1)]
  simp only [s_is, if_true, s_f0, Option.bind_some, s_r_8, s_r_7]
  by_cases h2 : S 8 ≤ 0
  · rw [if_pos h2, if_pos h2]; rfl
  · have h0 : 0 < s := by
      rcases Nat.eq_zero_or_pos s with h | h
      · exact absurd (by rw [es, h]; decide) h2
      · exact h
    rw [if_neg h2, if_neg h2, ew, es, nI_c (by omega), nI_c (by omega), i_part (by omega) h0 (by omega)]
    rfl
theorem v_mean {t : Nat} {p1 : Int32} (hF : 100 ≤ F) (hn : bx + 106 ≤ n) (ht : t ≤ 12000) (hs : sumOk S t) : ∃ h', sp_X0_mean G F (wh G (xo h bx c) (bx + 1) S J Q) n bx p1 = some (meanR S p1, wh G (xo h' bx c) (bx + 1) S J Q, n + 1) ∧ hUp h h' n (n + 1) := by
  obtain ⟨⟨w, hw, ew⟩, s, hs, es⟩ := hs
  have ej : (if S 8 ≤ 0 then some (0 : Int32) else some 1) = some (if ¬ S 8 ≤ 0 then 1 else 0) := by
    by_cases h2 : S 8 ≤ 0
    · rw [if_pos h2, if_neg (fun hh => hh h2)]
    · rw [if_neg h2, if_pos h2]
  unfold sp_X0_mean
  simp only [v_up hn, i_in_0_1, v_f0, x_f6, ej, Option.bind_some, sb0 hn (show 2 < 100 by decide) (by decide) if01, sb1 hn (show 2 < 100 by decide) (by decide) if01, v_are hF hn (show 2 < 90 by decide), all2, bI_f]
  generalize eh : va_up h n (some (Sum.inl (3, 2, Sum.inl (upd (upd (fun _ => 0) 0 (if inB p1 0 1 then 1 else 0)) 1 (if ¬ S 8 ≤ 0 then 1 else 0))))) = h'
  have hu : hUp h h' n (n + 1) := by rw [← eh]; exact hUp_1
  by_cases hin : inB p1 0 1 ∧ ¬ S 8 ≤ 0
  · have h0 : 0 < s := by
      rcases Nat.eq_zero_or_pos s with h | h
      · exact absurd (by rw [es, h]; decide) hin.2
      · exact h
    have eR : meanR S p1 = fracV w s p1 := by
      unfold meanR
      rw [if_neg (fun hh => hh hin.1), if_neg hin.2, ew, es, nI_c (by omega), nI_c (by omega)]
    rw [eR, if_neg (fun hh => hh hin)]
    refine ⟨h', ?_, hu⟩
    simp only [v_f0, x_f5, x_f6, Option.bind_some, ew, es, i_lowest hF (show w < 2 ^ 31 by omega) h0 (show s < 2 ^ 24 by omega)]
  · have eR : meanR S p1 = NOl := by
      unfold meanR
      by_cases h1 : inB p1 0 1
      · rw [if_neg (fun hh => hh h1), if_pos (Classical.byContradiction fun hh => hin ⟨h1, hh⟩)]
      · rw [if_pos h1]
    rw [eR, if_pos hin]
    exact ⟨h', rfl, hu⟩
end X7
