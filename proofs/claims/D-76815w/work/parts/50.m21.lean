/-! m21: changes by calls -/
set_option maxRecDepth 100000
theorem bitsL_none {p : Nat → Bool} : ∀ (n i : Nat) (acc : Int32), (∀ j, i ≤ j → j < i + n → p j = false) → bitsL p n i acc = acc := by
  intro n
  induction n with
  | zero => intro i acc _; rfl
  | succ n ih =>
    intro i acc hp
    rw [bitsL, hp i (by omega) (by omega), if_neg Bool.false_ne_true, Int32.or_zero]
    exact ih (i + 1) acc (fun j h1 h2 => hp j (by omega) (by omega))
theorem bits_some {p : Nat → Bool} {n : Nat} (h : bitsV p n ≠ 0) : ∃ j, j < n ∧ p j = true := by
  apply Classical.byContradiction
  intro hn
  apply h
  unfold bitsV
  apply bitsL_none
  intro j _ hj
  cases e : p j
  · rfl
  · exact absurd ⟨j, by omega, e⟩ hn
/-- the first of (o + k) mod m, (o + k + 1) mod m .. whose bit is on -/
def nxL (c : Int32) (o m : Nat) : Nat → Nat → Nat
  | 0, k => (o + k) % m
  | n + 1, k => if hasB c (nI ((o + k) % m)) then (o + k) % m else nxL c o m n (k + 1)
theorem nxL_lt {c : Int32} {o m : Nat} (hm : 0 < m) : ∀ n k, nxL c o m n k < m := by
  intro n
  induction n with
  | zero => intro k; exact Nat.mod_lt _ hm
  | succ n ih =>
    intro k
    rw [nxL]
    split
    · exact Nat.mod_lt _ hm
    · exact ih _
theorem modV_nI {a d : Nat} (ha : a < 2 ^ 31) (h0 : 0 < d) (hd : d < 2 ^ 31) : modV (nI a) (nI d) = nI (a % d) := pk_rem ha h0 hd
section M21
variable {h : gH} {b : Nat} {A : Nat → Nat → Int32} {L : Nat → Nat → Int64} {S : Nat → Int32} {G : gG} {F : Nat}
theorem s_next_L {c : Int32} {o m : Nat} (hm : S 14 = nI m) (h0 : 0 < m) (h6 : m ≤ 6) : ∀ (n k f : Nat), (∃ j, k ≤ j ∧ j < k + n ∧ hasB c (nI ((o + j) % m))) → n ≤ f → sp_X13_changesByCalls_L325 G F (mS h b A L S) f b c (nI ((o + k) % m)) = some (nI (nxL c o m n k)) := by
  intro n
  induction n with
  | zero => intro k f hj hf; obtain ⟨j, h1, h2, _⟩ := hj; omega
  | succ n ih =>
    intro k f hj hf
    obtain ⟨f, rfl⟩ : ∃ z, f = z + 1 := ⟨f - 1, by omega⟩
    have hlt : (o + k) % m < m := Nat.mod_lt _ h0
    have em : ∀ x c : Int32, x - x / c * c = modV x c := fun _ _ => rfl
    have e0 : ¬ nI m = 0 := fun e => by
      have := (nI_eq (a := m) (b := 0) (by omega) (by decide)).mp e
      omega
    have e1 : modV (nI ((o + k) % m + 1)) (nI m) = nI ((o + (k + 1)) % m) := by
      rw [modV_nI (by omega) h0 (by omega), Nat.mod_add_mod, Nat.add_assoc]
    rw [sp_X13_changesByCalls_L325]
    simp only [s_is, if_true, s_f0, Option.bind_some, i_has, b0, s_r_14, hm, nI_1, em, e1, e0, not_false_eq_true, nxL]
    by_cases hb : hasB c (nI ((o + k) % m))
    · have hb' : ¬ ¬ hasB c (nI ((o + k) % m)) := fun hh => hh hb
      rw [if_neg hb', if_pos hb]
    · rw [if_pos hb, if_neg hb]
      obtain ⟨j, h1, h2, h3⟩ := hj
      have hne : j ≠ k := fun e => hb (e ▸ h3)
      exact ih (k + 1) f ⟨j, by omega, by omega, h3⟩ (by omega)
end M21
