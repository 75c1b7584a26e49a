/-! w10: the class's World: seconds pass -/
set_option maxRecDepth 100000
theorem numOk_same {S T : Nat → Int32} {t : Nat} (hs : sameB S T) (hm : mOk S) (h : numOk S t) : numOk T t := by
  have em : manyN T = manyN S := by unfold manyN; rw [hs 13 (by decide) (by omega)]
  refine ⟨(hs 3 (by decide) (by omega)).trans h.1, fun k hk => ?_⟩
  rw [em] at hk
  have h8 : k < 8 := by have := hm.1; omega
  have := h.2 k hk
  unfold sgOk at this ⊢
  rw [hs (sA k 5) (by unfold sA; omega) (by unfold sA; omega), hs (sA k 6) (by unfold sA; omega) (by unfold sA; omega), hs (sA k 7) (by unfold sA; omega) (by unfold sA; omega), hs (sA k 8) (by unfold sA; omega) (by unfold sA; omega), hs (sA k 9) (by unfold sA; omega) (by unfold sA; omega)]
  exact this
theorem numOk_end {S : Nat → Int32} {t a : Nat} (h : numOk S t) (hm : mOk S) (ha : a < manyN S) : numOk (endF S a) t := by
  have h8 : a < 8 := by have := hm.1; omega
  have e : ∀ k, k ≠ sA a 6 → k ≠ sA a 8 → endF S a k = S k := fun k h6 h8 => by unfold endF; rw [upd_ne h8, upd_ne h6]
  refine numOk_one (a := a) h hm (e 3 (by unfold sA; omega) (by unfold sA; omega)) (e 13 (by unfold sA; omega) (by unfold sA; omega)) (fun k w hk hk8 h5 h9 => e _ (by unfold sA; omega) (by unfold sA; omega)) (fun _ => ?_)
  obtain ⟨k5, k6, k7, k8, k9, k10⟩ := h.2 a ha
  have e6 : endF S a (sA a 6) = 0 := by unfold endF; rw [upd_ne (by unfold sA; omega), upd_eq]
  have e8 : endF S a (sA a 8) = nI t := by unfold endF; rw [upd_eq, h.1]
  unfold sgOk
  rw [e (sA a 5) (by unfold sA; omega) (by unfold sA; omega), e (sA a 7) (by unfold sA; omega) (by unfold sA; omega), e (sA a 9) (by unfold sA; omega) (by unfold sA; omega), e6, e8]
  exact ⟨k5, Or.inl rfl, k7, Or.inr ⟨t, Nat.le_refl t, rfl⟩, k9, fun hh => absurd hh (by decide)⟩
theorem numOk_chg1 {p : Nat} {S : Nat → Int32} {t a : Nat} (h : numOk S t) (hm : mOk S) (hr : rOk S) (ha : a < manyN S) : numOk (chg1 p S a) t := by
  have h8 : a < 8 := by have := hm.1; omega
  have hm' : mOk (endF S a) := mOk_keep (keep_end h8) hm
  unfold chg1
  split
  · exact h
  · split
    · exact numOk_same (same_trans same_room (same_row (roomF_ok (rOk_end hr)).1)) hm' (numOk_end h hm ha)
    · exact h
theorem chgL_it {p : Nat} : ∀ (n i : Nat) (S : Nat → Int32), chgL p n i S = itN (fun i s => chg1 p s i) n i S := by
  intro n
  induction n with
  | zero => intro i S; rfl
  | succ n ih => intro i S; rw [chgL, itN]; exact ih _ _
theorem numOk_changes {S : Nat → Int32} {p t : Nat} (h : numOk S t) (hm : mOk S) (hr : rOk S) (hp : p < 6) : numOk (changesF S p) t := by
  have h8 := hm.1
  have inv := it_inv (m := manyN S) (g := fun i s => chg1 p s i) (P := fun _ s => mOk s ∧ manyN s = manyN S ∧ rOk s ∧ numOk s t) (fun i s hi hs => by
    obtain ⟨h1, h2, h3, h4⟩ := hs
    have hk := keep_chg1 (p := p) (S := s) (a := i) (by omega) h3
    exact ⟨mOk_keep hk h1, (many_keep hk).trans h2, rOk_chg1 h3, numOk_chg1 h4 h1 h3 (by rw [h2]; exact hi)⟩) (manyN S) 0 S (by omega) ⟨hm, rfl, hr, h⟩
  unfold changesF comesOnF
  rw [chgL_it]
  obtain ⟨h1, h2, h3, h4⟩ := inv
  have m4 : mOk (upd (itN (fun i s => chg1 p s i) (manyN S) 0 S) 4 (nI p)) := by
    unfold mOk
    rw [many_upd (by decide), upd_ne (by decide)]
    exact h1
  exact numOk_lo (numOk_lo h4 h1 (by decide) (by decide) (by omega)) m4 (by unfold pA; omega) (by unfold pA; omega) (by unfold pA; omega)
theorem numOk_mid {S : Nat → Int32} {t : Nat} (hS : secOk S) (h : numOk S t) : numOk (midF S) t := by
  unfold midF
  split
  · have h5 : numOk (upd S 5 (-5)) t := numOk_lo h hS.1 (by decide) (by decide) (by omega)
    have hS5 := secOk_5 (x := -5) hS (Or.inl (by decide))
    have hn : nextP S < 6 := by have := nextP_lt hS.2.2.2.2.1 hS.2.1 hS.2.2.2.2.2.1; have := hS.2.1.1; omega
    have hc := numOk_changes h5 hS5.1 hS5.2.2.1 hn
    unfold byCallsF
    split
    · exact h
    · split
      · split
        · split
          · exact h
          · exact hc
        · exact hc
      · exact hc
  · rename_i h6
    have hem := em_lt hS h6
    have hc := secOk_cut hS
    have h5 : numOk (cutF S) t := by
      unfold cutF
      split
      · exact h
      · exact numOk_lo h hS.1 (by decide) (by decide) (by omega)
    unfold byEmF
    split
    · exact h
    · exact numOk_changes h5 hc.1 hc.2.2.1 (by have := hS.2.1.1; omega)
theorem negOk_56 {S T : Nat → Int32} (h5 : T 5 = S 5) (h6 : T 6 = S 6) (h : negOk S) : negOk T := by
  unfold negOk
  rw [h5, h6]
  exact h
theorem negOk_mid {S : Nat → Int32} (hS : secOk S) (h : negOk S) : negOk (midF S) := by
  have hc : ∀ (T : Nat → Int32) (p : Nat), T 6 = S 6 → (T 5 < 0 → T 5 = -5) → negOk (changesF T p) := by
    intro T p e6 h5
    unfold negOk
    rw [changesF_lo (k := 5) (by decide) (by decide) (by decide), changesF_lo (k := 6) (by decide) (by decide) (by decide), e6]
    exact ⟨h5, h.2⟩
  have c5 := hc (upd S 5 (-5)) (nextP S) (upd_ne (by decide)) (fun _ => upd_eq)
  unfold midF
  split
  · unfold byCallsF
    split
    · exact h
    · split
      · split
        · split
          · exact h
          · exact c5
        · exact c5
      · exact c5
  · unfold byEmF
    split
    · exact h
    · refine hc _ _ (keep_cut 6 (by unfold fixedK; omega)) ?_
      unfold cutF
      split
      · exact h.1
      · rw [upd_eq, hS.2.2.2.1.2]
        intro hh
        exact absurd hh (nI_nn (by have := hS.2.2.2.1.1; omega))
/-- all that a World that goes on must hold -/
def runOk (S : Nat → Int32) (t : Nat) : Prop := secOk S ∧ negOk S ∧ numOk S t ∧ rowOk S
theorem runOk_coming {S : Nat → Int32} {t : Nat} (h : runOk S t) : runOk (comingF S) t := by
  obtain ⟨h1, h2, h3, h4⟩ := h
  have hk := keep_coming h1.1
  exact ⟨secOk_coming h1, negOk_56 (ku_coming h1.1 5 (by unfold freeK; omega)) (ku_coming h1.1 6 (by unfold freeK; omega)) h2, numOk_coming h3 h1.1, rowOk_keep hk h4⟩
theorem runOk_mid {S : Nat → Int32} {t : Nat} (h : runOk S t) : runOk (midF S) t := by
  obtain ⟨h1, h2, h3, h4⟩ := h
  exact ⟨secOk_mid h1, negOk_mid h1 h2, numOk_mid h1 h3, rowOk_keep (keep_mid h1) h4⟩
theorem runOk_turning {C S : Nat → Int32} {t : Nat} (ht : t < 2 ^ 31) (h : runOk S t) : runOk (turningF C S) t := by
  obtain ⟨h1, h2, h3, h4⟩ := h
  have hu := ku_turnL (C := C) (manyN S) 0 S (by have := h1.1.1; omega)
  exact ⟨secOk_turning h1, negOk_56 (hu 5 (by unfold freeK; omega)) (hu 6 (by unfold freeK; omega)) h2, numOk_turning ht h1.1 h3 h1.2.2.2.1, rowOk_keep (keep_turning h1.1) h4⟩
theorem runOk_turns {C S : Nat → Int32} {t : Nat} (ht : t < 2 ^ 31) (h : runOk S t) : runOk (turnsF C S) t := runOk_turning ht (runOk_mid (runOk_coming h))
theorem runOk_ends {S : Nat → Int32} {t : Nat} (ht : t < 2 ^ 31) (h : runOk S t) : runOk (endsF S) (t + 1) := by
  obtain ⟨h1, h2, h3, h4⟩ := h
  have hu := ku_goL (manyN S) 0 S (by have := h1.1.1; omega)
  have e5 : endsF S 5 = S 5 := (tick_lo (S := goingF S) (by decide) (by decide)).trans (hu 5 (by unfold freeK; omega))
  have e6 : endsF S 6 = S 6 := (tick_lo (S := goingF S) (by decide) (by decide)).trans (hu 6 (by unfold freeK; omega))
  exact ⟨secOk_ends h1, negOk_56 e5 e6 h2, numOk_ends ht h1.1 h4 h3, rowOk_keep (keep_ends h1) h4⟩
theorem runOk_sec {C S : Nat → Int32} {t : Nat} (ht : t < 2 ^ 31) (h : runOk S t) : runOk (secF C S) (t + 1) := runOk_ends ht (runOk_turns ht h)
theorem sec_many {C S : Nat → Int32} (h : secOk S) : manyN (secF C S) = manyN S := many_keep (keep_sec h)
section W10
variable {G : gG} {h : gH} {b : Nat} {S C : Nat → Int32} {J : Nat → Nat → Int32} {Q : Nat → Nat → Int64} {F : Nat}
/-- a second passes (class) -/
theorem x_sec {t f : Nat} {n k : Int32} (hF : 100 ≤ F) (hG : gI4 G) (ht : t < 2 ^ 31) (hJ : jOk J) (hrr : rrOk S J) (hS : runOk S t) (hC : clOk C S J) (hk : ¬ n ≤ k) : ∃ K, sp_X1_passes_L2 G F (f + 1) (wh G h b S J Q) b n k = sp_X1_passes_L2 G F f (wh G h b (secF C S) K Q) b n (k + 1) ∧ jR J K ∧ rrOk (secF C S) K := by
  have h1 := runOk_coming hS
  have h2 := runOk_mid h1
  have h3 := runOk_turning (C := C) ht h2
  have hr1 : rrOk (comingF S) J := rrOk_15 (ku_coming hS.1.1 15 (by unfold freeK; omega)) hrr
  obtain ⟨K, k1, k2, k3⟩ := x_changes (G := G) (h := h) (b := b) (Q := Q) hF ht hJ hr1 h1.1 h1.2.1 h1.2.2.1
  have hK := jR_ok k2
  have em1 : manyN (comingF S) = manyN S := many_keep (keep_coming hS.1.1)
  have em2 : manyN (midF (comingF S)) = manyN S := (many_keep (keep_mid h1.1)).trans em1
  have hC2 : clOk C (midF (comingF S)) K := clOk_keep em2 (clOk_jR k2 hC)
  refine ⟨K, ?_, k2, ?_⟩
  · rw [sp_X1_passes_L2, if_neg hk]
    simp only [x_is, if_true, Option.bind_some, x_coming (show 40 ≤ F by omega) hJ.1 hS.1.1 hS.2.2.1, k1, x_turning (show 40 ≤ F by omega) ht hK.1 h2.1.1 h2.2.2.1 hC2 h2.1.2.2.2.1 h2.1.2.2.2.2.1, x_going (show 40 ≤ F by omega) hG ht hK.1 h3.1.1 h3.2.2.2 h3.2.2.1, x_f1, x_p1 _ hK.1]
    have e3 : itN goW (manyN (turningF C (midF (comingF S)))) 0 (turningF C (midF (comingF S))) 3 = turningF C (midF (comingF S)) 3 := by
      have h8 := h3.1.1.1
      rw [goW_it _ _ _ (by omega), upd_ne (by decide)]
      exact ku_goL _ 0 _ (by omega) 3 (by unfold freeK; omega)
    rw [e3, ends_it h3.1.1]
    rfl
  · refine rrOk_15 ?_ k3
    have hu1 := ku_turnL (C := C) (manyN (midF (comingF S))) 0 (midF (comingF S)) (by have := h2.1.1.1; omega) 15 (by unfold freeK; omega)
    have hu2 := ku_goL (manyN (turningF C (midF (comingF S)))) 0 (turningF C (midF (comingF S))) (by have := h3.1.1.1; omega) 15 (by unfold freeK; omega)
    exact ((tick_lo (S := goingF (turningF C (midF (comingF S)))) (by decide) (by decide)).trans hu2).trans hu1
theorem x_passes {t n : Nat} (hF : 100 ≤ F) (hn : n + 1 < F) (hG : gI4 G) (ht : t + n < 2 ^ 31) (hJ : jOk J) (hrr : rrOk S J) (hS : runOk S t) (hC : clOk C S J) : ∃ K, sp_X1_passes G F (wh G h b S J Q) b (nI n) = some (b, wh G h b (passF C n S) K Q) ∧ jR J K ∧ rrOk (passF C n S) K := by
  have key : ∀ (m i f t : Nat) (S : Nat → Int32) (J : Nat → Nat → Int32), m + i = n → m < f → t + m < 2 ^ 31 → jOk J → rrOk S J → runOk S t → clOk C S J → ∃ K, sp_X1_passes_L2 G F f (wh G h b S J Q) b (nI n) (nI i) = some (wh G h b (itN (fun _ s => secF C s) m i S) K Q) ∧ jR J K ∧ rrOk (itN (fun _ s => secF C s) m i S) K := by
    intro m
    induction m with
    | zero =>
      intro i f t S J hi hf ht hJ hrr hS hC
      obtain ⟨f, rfl⟩ : ∃ z, f = z + 1 := ⟨f - 1, by omega⟩
      refine ⟨J, ?_, jR_refl hJ, hrr⟩
      rw [sp_X1_passes_L2, if_pos (nI_le (by omega) (by omega))]
      rfl
    | succ m ih =>
      intro i f t S J hi hf ht hJ hrr hS hC
      obtain ⟨f, rfl⟩ : ∃ z, f = z + 1 := ⟨f - 1, by omega⟩
      obtain ⟨K, k1, k2, k3⟩ := x_sec (G := G) (h := h) (b := b) (Q := Q) (f := f) (n := nI n) (k := nI i) hF hG (by omega) hJ hrr hS hC (nI_ge (by omega) (by omega))
      obtain ⟨M, m1, m2, m3⟩ := ih (i + 1) f (t + 1) (secF C S) K (by omega) (by omega) (by omega) (jR_ok k2) k3 (runOk_sec (by omega) hS) (clOk_keep (sec_many hS.1) (clOk_jR k2 hC))
      refine ⟨M, ?_, jR_trans k2 m2, m3⟩
      rw [k1, nI_1, m1]
      rfl
  obtain ⟨K, k1, k2, k3⟩ := key n 0 F t S J (by omega) (by omega) (by omega) hJ hrr hS hC
  refine ⟨K, ?_, k2, k3⟩
  unfold sp_X1_passes
  rw [show sp_X1_passes_L2 G F F (wh G h b S J Q) b (nI n) 0 = _ from k1]
  rfl
theorem runOk_pass {n t : Nat} (ht : t + n < 2 ^ 31) (hS : runOk S t) : runOk (passF C n S) (t + n) := by
  unfold passF
  have := it_inv (m := n) (g := fun _ s => secF C s) (P := fun i s => runOk s (t + i)) (fun i s hi hs => runOk_sec (t := t + i) (show t + i < 2 ^ 31 by omega) hs) n 0 S (by omega) hS
  exact this
end W10
