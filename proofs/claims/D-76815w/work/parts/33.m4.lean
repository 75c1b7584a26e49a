/-! m4: the reference's table as a whole -/
set_option maxRecDepth 100000
theorem mu_ne {A : Nat → Nat → Int32} {i j k : Nat} {x : Int32} (hne : k ≠ i) : mu A i j x k = A k := by
  funext j'
  unfold mu
  rw [if_neg (fun h => hne h.1)]
def clrsA (A : Nat → Nat → Int32) (t : Nat) : Nat → Nat → Int32 := fun i j => if i = 3 ∧ j < t then clearV (A 0) (j / 8) (j % 8) else if i = 4 ∧ j < t then narrowV (A 0) (j / 8) (j % 8) else A i j
theorem clrsA_0 {A : Nat → Nat → Int32} {t : Nat} : clrsA A t 0 = A 0 := by
  funext j
  simp [clrsA]
theorem clrsA_z {A : Nat → Nat → Int32} : clrsA A 0 = A := by
  funext i j
  simp [clrsA]
theorem clrsA_s {A : Nat → Nat → Int32} {a c t : Nat} (ht : t = 8 * a + c) (hc : c < 8) : mu (mu (clrsA A t) 4 t (narrowV (A 0) a c)) 3 t (clearV (A 0) a c) = clrsA A (t + 1) := by
  have e1 : t / 8 = a := by omega
  have e2 : t % 8 = c := by omega
  funext i j
  by_cases hj : j = t
  · subst hj
    by_cases h3 : i = 3
    · subst h3
      simp [mu, clrsA, e1, e2]
    · by_cases h4 : i = 4
      · subst h4
        simp [mu, clrsA, e1, e2]
      · simp [mu, clrsA, h3, h4]
  · have hlt : j < t + 1 ↔ j < t := by omega
    simp [mu, clrsA, hj, hlt]
/-- every signal's row is in order -/
def rowOk (S : Nat → Int32) : Prop := ∀ a, a < 8 → sigOk S a
section M4
variable {h : gH} {b : Nat} {A : Nat → Nat → Int32} {L : Nat → Nat → Int64} {G : gG} {F : Nat}
theorem m_clrV {a c : Nat} (hF : 20 ≤ F) (ha : a < 8) (hc : c < 8) (ok : rowOk (A 0)) : sp_X13_clears_2_L9 G F (mh h b A L) F b (nI a) (nI c) 0 (-5) 0 = some (clrV (A 0) a c) := by
  by_cases hac : a = c
  · subst hac
    obtain ⟨f, rfl⟩ : ∃ z, F = z + 1 := ⟨F - 1, by omega⟩
    rw [sp_X13_clears_2_L9, if_pos mh_is, m_at_11 ha]
    simp only [Option.bind_some, clrV, if_true]
    split <;> rfl
  · unfold clrV
    rw [if_neg hac, show (0 : Int32) = nI 0 from rfl]
    have h8 := (ok a ha).cells.1
    exact m_clears_L hF ha hc (ok a ha) (ok c hc) hac (cellsN (A 0) a) 0 F (nI 0) (-5) (by omega) (by omega)
theorem m_clears_2 {a c : Nat} (hF : 20 ≤ F) (ha : a < 8) (hc : c < 8) (ok : rowOk (A 0)) : sp_X13_clears_2 G F (mh h b A L) b (nI a) (nI c) = some (mh h b (mu (mu A 4 (8 * a + c) (narrowV (A 0) a c)) 3 (8 * a + c) (clearV (A 0) a c)) L) := by
  unfold sp_X13_clears_2
  rw [m_clrV hF ha hc ok]
  simp only [Option.bind_some, mh_f6, ix_8]
  rw [mh_s4, if_pos (nI_in (by omega) (by decide)), nI_c (by omega)]
  simp only [Option.bind_some, mh_f5]
  have e0 : mu A 4 (8 * a + c) (clrV (A 0) a c).2 0 = A 0 := mu_ne (by decide)
  unfold clearV narrowV
  split
  · simp only [mh_is, if_true]
    rw [m_amb ha (by rw [e0]; exact ok a ha)]
    simp only [Option.bind_some, e0, sp_J11_max]
    split <;> (simp only [Option.bind_some, mh_f0, m_r_1, e0]; rw [mh_s3, if_pos (nI_in (by omega) (by decide)), nI_c (by omega)]; rfl)
  · rw [mh_s3, if_pos (nI_in (by omega) (by decide)), nI_c (by omega)]
    rfl
theorem m_clears_in {a : Nat} (hF : 20 ≤ F) (ha : a < 8) (ok : rowOk (A 0)) : ∀ (n c f : Nat), n + c = 8 → n < f → sp_X13_clears_L10 G F f (mh h b (clrsA A (8 * a + c)) L) b (nI a) (nI c) = some (mh h b (clrsA A (8 * a + 8)) L) := by
  intro n
  induction n with
  | zero =>
    intro c f hc hf
    obtain ⟨f, rfl⟩ : ∃ z, f = z + 1 := ⟨f - 1, by omega⟩
    obtain rfl : c = 8 := by omega
    rw [sp_X13_clears_L10, if_pos (show (8 : Int32) ≤ nI 8 from nI_le (a := 8) (b := 8) (by decide) (by decide))]
  | succ n ih =>
    intro c f hc hf
    obtain ⟨f, rfl⟩ : ∃ z, f = z + 1 := ⟨f - 1, by omega⟩
    rw [sp_X13_clears_L10, if_neg (show ¬ (8 : Int32) ≤ nI c from nI_ge (a := c) (b := 8) (by omega) (by decide)), if_pos mh_is, m_clears_2 hF ha (by omega) (by rw [clrsA_0]; exact ok)]
    simp only [Option.bind_some]
    rw [clrsA_0, clrsA_s rfl (by omega), nI_1]
    exact ih (c + 1) f (by omega) (by omega)
theorem m_clears_out (hF : 20 ≤ F) (ok : rowOk (A 0)) : ∀ (n a f : Nat), n + a = 8 → n < f → sp_X13_clears_L2 G F f (mh h b (clrsA A (8 * a)) L) b (nI a) = some (mh h b (clrsA A 64) L) := by
  intro n
  induction n with
  | zero =>
    intro a f ha hf
    obtain ⟨f, rfl⟩ : ∃ z, f = z + 1 := ⟨f - 1, by omega⟩
    obtain rfl : a = 8 := by omega
    rw [sp_X13_clears_L2, if_pos (show (8 : Int32) ≤ nI 8 from nI_le (a := 8) (b := 8) (by decide) (by decide))]
  | succ n ih =>
    intro a f ha hf
    obtain ⟨f, rfl⟩ : ∃ z, f = z + 1 := ⟨f - 1, by omega⟩
    rw [sp_X13_clears_L2, if_neg (show ¬ (8 : Int32) ≤ nI a from nI_ge (a := a) (b := 8) (by omega) (by decide))]
    have h1 := m_clears_in (h := h) (b := b) (L := L) (G := G) hF (a := a) (by omega) ok 8 0 F (by omega) (by omega)
    rw [Nat.add_zero] at h1
    rw [show (0 : Int32) = nI 0 from rfl, h1]
    simp only [Option.bind_some]
    rw [nI_1, show 8 * a + 8 = 8 * (a + 1) by omega]
    exact ih (a + 1) f (by omega) (by omega)
theorem m_clears (hF : 20 ≤ F) (ok : rowOk (A 0)) : sp_X13_clears G F (mh h b A L) b = some (mh h b (clrsA A 64) L) := by
  unfold sp_X13_clears
  have h1 := m_clears_out (h := h) (b := b) (L := L) (G := G) hF ok 8 0 F (by omega) (by omega)
  rw [Nat.mul_zero, clrsA_z] at h1
  rw [show (0 : Int32) = nI 0 from rfl, h1]
  rfl
end M4
