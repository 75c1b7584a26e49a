/-! x35: rowInv over a second and over many, given its sums and its record -/
set_option maxRecDepth 100000
section Inv7
variable {C S T : Nat → Int32} {t : Nat}
/-- what keepS keeps of rowInv; the rest is given -/
theorem inv_keepS {t' : Nat} (hk : keepS S T) (hr : rOk T) (hnum : numOk T t') (hneg : negOk T) (hsec : secI T) (hsum : sumOk T t') (hrecs : recsOk T) (h : rowInv S t) : rowInv T t' := by
  obtain ⟨⟨a1, a2, a3, a4, a5, a6, a7⟩, ⟨c1, c2, c3⟩, b1, b2, b3, b4, b5⟩ := h
  have e : ∀ k, fixedK k → T k = S k := hk
  have e13 := keep_13 hk
  have e14 := keep_14 hk
  have hway : ∀ k, wayK k → T k = S k := fun k hw => e k (by unfold wayK at hw; unfold fixedK; omega)
  have hph : ∀ i, i < 6 → T (pA i 0) = S (pA i 0) := fun i hi => e _ (by unfold fixedK pA; omega)
  have hhi : ∀ k, 306 ≤ k → T k = S k := fun k hg => e k (by unfold fixedK; omega)
  have hmid : ∀ k, 16 ≤ k → k ≤ 20 → T k = S k := fun k g1 g2 => e k (by unfold fixedK; omega)
  have e2 : T 2 = S 2 := e 2 (by unfold fixedK; omega)
  have e1 : T 1 = S 1 := e 1 (by unfold fixedK; omega)
  have e10 : T 10 = S 10 := e 10 (by unfold fixedK; omega)
  have e17 := hmid 17 (by decide) (by decide)
  have e18 := hmid 18 (by decide) (by decide)
  exact ⟨⟨setOk_same hway (safe_same e1 a1.2.2.1) a1, ⟨mOk_same e13 a2.1, pOk_same e14 a2.2.1, hr, toldOk_same e18 a2.2.2.2.1, nodeOk_same e17 a2.2.2.2.2.1, by rw [e2]; exact a2.2.2.2.2.2⟩, hnum, hneg, hsec, by rw [e10]; exact a6, phs_same e13 e14 hph a2.2.1 a7⟩, ⟨note_same (hmid 19 (by decide) (by decide)) (fun k g1 g2 => hhi k (by omega)) c1, plan_same (hmid 20 (by decide) (by decide)) (fun k g1 g2 => hhi k (by omega)) c2, wave_same (hmid 16 (by decide) (by decide)) e17 (fun k hk => hhi _ (by unfold nd; omega)) c3⟩, hsum, hrecs, tlds_same e13 e18 (fun k g1 g2 => hhi k (by omega)) a2.2.2.2.1 b3, dstOk_same hway a1.1 a1.2.1 b4, fun k hg => by rw [hhi k (by omega)]; exact b5 k hg⟩
theorem inv_sec_of (ht : t < 2 ^ 31) (h2 : S 2 = 1) (hsum : sumOk (secF C S) (t + 1)) (hrecs : recsOk (secF C S)) (h : rowInv S t) : rowInv (secF C S) (t + 1) ∧ secF C S 2 = 1 := by
  have hr := i_run h h2
  have hr' := runOk_sec (C := C) ht hr
  have hk := keep_sec (C := C) hr.1
  have e2 : secF C S 2 = 1 := (hk 2 (by unfold fixedK; omega)).trans h2
  exact ⟨inv_keepS hk hr'.1.2.2.1 hr'.2.2.1 hr'.2.1 ⟨fun _ => hr'.1, fun e => by rw [e2] at e; exact absurd e (by decide)⟩ hsum hrecs h, e2⟩
end Inv7
