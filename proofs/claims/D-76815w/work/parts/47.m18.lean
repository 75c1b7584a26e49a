/-! m18: anyMeet -/
set_option maxRecDepth 100000
def meetsV (C S : Nat → Int32) (a : Nat) : Int32 := bitsV (fun c => decide (¬ C (8 * a + c) < 0)) (manyN S)
def anyL (C S : Nat → Int32) (s : Int32) : Nat → Nat → Bool
  | 0, _ => false
  | n + 1, i => if ¬ hasB s (nI i) then anyL C S s n (i + 1) else if meetsV C S i &&& s = 0 then anyL C S s n (i + 1) else true
def anyB (C S : Nat → Int32) (s : Int32) : Bool := anyL C S s (manyN S) 0
section M18
variable {h : gH} {b : Nat} {A : Nat → Nat → Int32} {L : Nat → Nat → Int64} {S : Nat → Int32} {G : gG} {F : Nat}
theorem s_meetsV {a : Nat} (hF : 40 ≤ F) (ha : a < 8) (hm : mOk S) : sp_X13_meets G F (mS h b A L S) b (nI a) = some (meetsV (A 3) S a) := s_meets (by omega) ha hm.2 hm.1
theorem s_anyMeet_L {s : Int32} (hF : 40 ≤ F) (hm : mOk S) : ∀ (n i f : Nat), n + i = manyN S → n < f → sp_X13_anyMeet_L2 G F (mS h b A L S) f b s (nI i) = some (bI (anyL (A 3) S s n i)) := by
  have h8 := hm.1
  intro n
  induction n with
  | zero =>
    intro i f hi hf
    obtain ⟨f, rfl⟩ : ∃ z, f = z + 1 := ⟨f - 1, by omega⟩
    rw [sp_X13_anyMeet_L2]
    simp only [s_is, if_true, s_f0, Option.bind_some, s_r_13]
    rw [if_pos (by rw [hm.2]; exact nI_le (by omega) (by omega))]
    rfl
  | succ n ih =>
    intro i f hi hf
    obtain ⟨f, rfl⟩ : ∃ z, f = z + 1 := ⟨f - 1, by omega⟩
    have en : ¬ S 13 ≤ nI i := by rw [hm.2]; exact nI_ge (by omega) (by omega)
    rw [sp_X13_anyMeet_L2]
    simp only [s_is, if_true, s_f0, Option.bind_some, s_r_13, en, if_false, i_has, b0, s_meetsV hF (show i < 8 by omega) hm, nI_1, ih (i + 1) f (by omega) (by omega), anyL]
    by_cases h1 : ¬ hasB s (nI i)
    · rw [if_pos h1, if_pos h1]
    · rw [if_neg h1, if_neg h1]
      by_cases h2 : meetsV (A 3) S i &&& s = 0
      · rw [if_pos h2, if_pos h2]
      · rw [if_neg h2, if_neg h2]
        rfl
theorem s_anyMeet {s : Int32} (hF : 40 ≤ F) (hm : mOk S) : sp_X13_anyMeet G F (mS h b A L S) b s = some (bI (anyB (A 3) S s)) := by
  have h8 := hm.1
  unfold sp_X13_anyMeet
  rw [show (0 : Int32) = nI 0 from rfl]
  exact s_anyMeet_L hF hm (manyN S) 0 F (by omega) (by omega)
end M18
