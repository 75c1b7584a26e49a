/-! x39: the first row -/
set_option maxRecDepth 100000
def S0 : Nat → Int32 := upd (upd (upd (upd (upd (upd (fun _ => 0) 0 1) 1 1) 4 (-5)) 5 (-5)) 6 (-5)) 16 30
theorem S0_z {k : Nat} (h : 17 ≤ k) : S0 k = 0 := by
  unfold S0
  rw [upd_ne (by omega), upd_ne (by omega), upd_ne (by omega), upd_ne (by omega), upd_ne (by omega), upd_ne (by omega)]
theorem inv_first : rowInv S0 0 := by
  have e13 : manyN S0 = 0 := rfl
  have e14 : phN S0 = 0 := rfl
  have e15 : recN S0 = 0 := rfl
  have e17 : nodN S0 = 0 := rfl
  have e18 : tolN S0 = 0 := rfl
  have e19 : noteN S0 = 0 := rfl
  have e20 : planN S0 = 0 := rfl
  have hm : mOk S0 := ⟨by rw [e13]; omega, by rw [e13]; rfl⟩
  refine ⟨⟨⟨hm, fun a ha => ⟨⟨0, by decide, S0_z (by unfold sA; omega)⟩, 0, by decide, S0_z (by unfold sA; omega)⟩, ⟨1, by decide, rfl⟩, fun a ha => by rw [e13] at ha; omega⟩, ⟨hm, ⟨by rw [e14]; omega, by rw [e14]; rfl⟩, ⟨by rw [e15]; omega, by rw [e15]; rfl⟩, ⟨by rw [e18]; omega, by rw [e18]; rfl⟩, ⟨by rw [e17]; omega, by rw [e17]; rfl⟩, Or.inl rfl⟩, ⟨rfl, fun k hk => by rw [e13] at hk; omega⟩, ⟨fun _ => rfl, fun _ => rfl⟩, ⟨fun e => absurd (show (0 : Int32) = 1 from e) (by decide), fun _ => ⟨show (-5 : Int32) < 0 by decide, show (-5 : Int32) < 0 by decide⟩⟩, show (0 : Int32) ≤ 0 by decide, fun p hp => by rw [e14] at hp; omega⟩, ⟨⟨by rw [e19]; omega, by rw [e19]; rfl, fun i hi => by rw [e19] at hi; omega⟩, ⟨by rw [e20]; omega, by rw [e20]; rfl, fun i hi => by rw [e20] at hi; omega⟩, ⟨⟨show 20 ≤ 30 by decide, show 30 ≤ 60 by decide, rfl⟩, ⟨by rw [e17]; omega, by rw [e17]; rfl⟩, fun k hk => by rw [e17] at hk; omega⟩⟩, ⟨⟨0, by decide, rfl⟩, 0, by decide, rfl⟩, fun r hr => by rw [e15] at hr; omega, fun k hk => by rw [e18] at hk; omega, fun a ha => by rw [e13] at ha; omega, fun k hk => S0_z (by omega)⟩
/-- the image comes back -/
theorem cp_img {S I : Nat → Int32} (hS : ∀ k, 372 ≤ k → S k = 0) (hI : ∀ k, 372 ≤ k → I k = 0) : cp I S = I := by
  funext k
  unfold cp
  split
  · rfl
  · rw [hS k (by omega), hI k (by omega)]
theorem inv_undo {A : Nat → Nat → Int32} {S : Nat → Int32} {t t' : Nat} (h : rowInv S t) (hI : ¬ A 9 0 = 0 → rowInv (A 1) t') : ∃ t1, (t1 = t ∨ t1 = t') ∧ rowInv (undoR A S).2 t1 := by
  unfold undoR
  by_cases h0 : A 9 0 = 0
  · rw [if_pos h0]; exact ⟨t, Or.inl rfl, h⟩
  · rw [if_neg h0]
    have hi := hI h0
    refine ⟨t', Or.inr rfl, ?_⟩
    show rowInv (cp (A 1) S) t'
    rw [cp_img h.2.2.2.2.2.2 hi.2.2.2.2.2.2]
    exact hi
