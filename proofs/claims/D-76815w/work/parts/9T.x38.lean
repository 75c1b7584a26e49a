/-! x38: rowInv over a second, and over many -/
set_option maxRecDepth 100000
section InvA
variable {C S T U : Nat → Int32} {t : Nat}
theorem sum_going {s0 : Nat} (ht : t < 2 ^ 31) (hm : mOk S) (hro : rowOk S) (hn : numOk S t) (e8 : S 8 = nI s0) : mOk (goingF S) ∧ manyN (goingF S) = manyN S ∧ numOk (goingF S) t ∧ goingF S 7 = S 7 ∧ ∃ w, w ≤ s0 + 792 ∧ goingF S 8 = nI w := by
  have h8 := hm.1
  have inv := it_inv (m := manyN S) (g := fun i s => go1 s i) (P := fun i s => mOk s ∧ manyN s = manyN S ∧ numOk s t ∧ rowOk s ∧ s 7 = S 7 ∧ ∃ w, w ≤ s0 + 99 * i ∧ s 8 = nI w) (fun i s hi hs => by
    obtain ⟨h1, h2, h3, h4, h5, w, hw, ew⟩ := hs
    have hi8 : i < 8 := by omega
    have hk := keep_go1 (S := s) hi8
    refine ⟨mOk_keep hk h1, (many_keep hk).trans h2, numOk_go1 ht h4 h1 h3 (by rw [h2]; exact hi), keep_rowOk hk h4, ?_⟩
    by_cases h6 : s (sA i 6) = 0
    · have e : go1 s i = s := if_pos h6
      show go1 s i 7 = S 7 ∧ _
      rw [e]
      exact ⟨h5, w, by omega, ew⟩
    · obtain ⟨g, q, hg, hq, eg, eq, e⟩ := go1_V ht h4 hi8 h3 (by rw [h2]; exact hi) h6
      have hle := goN_le (kindN s i) g q
      show go1 s i 7 = S 7 ∧ ∃ w, w ≤ s0 + 99 * (i + 1) ∧ go1 s i 8 = nI w
      rw [e]
      refine ⟨(goF_ne (by unfold sA; omega) (by unfold sA; omega) (by decide)).trans h5, w + goN (kindN s i) g q, by omega, ?_⟩
      show s 8 + nI (goN (kindN s i) g q) = _
      rw [ew, nI_add]) (manyN S) 0 S (by omega) ⟨hm, rfl, hn, hro, rfl, s0, by omega, e8⟩
  unfold goingF
  rw [goL_it]
  obtain ⟨h1, h2, h3, -, h5, w, hw, ew⟩ := inv
  exact ⟨h1, h2, h3, h5, w, by omega, ew⟩
theorem sum_sec (ht : t < 2 ^ 30) (hR : runOk S t) (h : sumOk S t) : sumOk (secF C S) (t + 1) := by
  obtain ⟨⟨w, hw, ew⟩, s, hs, es⟩ := h
  have hU := runOk_turns (C := C) (show t < 2 ^ 31 by omega) hR
  have e := s78_turns (C := C) (S := S)
  obtain ⟨g1, g2, g3, g4, v, hv, ev⟩ := sum_going (show t < 2 ^ 31 by omega) hU.1.1 hU.2.2.2 hU.2.2.1 (e.2.trans es)
  have h8 := g1.1
  obtain ⟨q, hq, eq⟩ := queues_le (S := goingF (turnsF C S)) (manyN (goingF (turnsF C S))) 0 0 (fun k _ hk => (g3.2 k (by omega)).1)
  show sumOk (tickF (goingF (turnsF C S))) (t + 1)
  have e7 : tickF (goingF (turnsF C S)) 7 = goingF (turnsF C S) 7 + queuesV (goingF (turnsF C S)) := by unfold tickF; rw [upd_ne (by decide), upd_eq]
  have e8 : tickF (goingF (turnsF C S)) 8 = goingF (turnsF C S) 8 := by unfold tickF; rw [upd_ne (by decide), upd_ne (by decide)]
  have eq' : queuesV (goingF (turnsF C S)) = nI q := eq
  refine ⟨⟨w + q, by omega, ?_⟩, v, by omega, ?_⟩
  · rw [e7, g4, e.1, ew, eq', nI_add]
  · rw [e8, ev]
theorem inv_sec (ht : t < 2 ^ 30) (h2 : S 2 = 1) (h : rowInv S t) : rowInv (secF C S) (t + 1) ∧ secF C S 2 = 1 :=
  inv_sec_of (by omega) h2 (sum_sec ht (i_run h h2) h.2.2.1) (recs_sec ht (i_run h h2) h.2.2.2.1) h
theorem inv_passF : ∀ (n t : Nat) (S : Nat → Int32), t + n < 2 ^ 30 → S 2 = 1 → rowInv S t → rowInv (passF C n S) (t + n) ∧ passF C n S 2 = 1 := by
  intro n
  induction n with
  | zero => intro t S _ h2 h; exact ⟨h, h2⟩
  | succ n ih =>
    intro t S ht h2 h
    obtain ⟨g1, g2⟩ := ih t S (by omega) h2 h
    rw [pass_s]
    exact inv_sec (t := t + n) (by omega) g2 g1
theorem inv_pass {c p1 : Int32} (ht : t + 99 < 2 ^ 30) (h : rowInv S t) : ∃ t', t' ≤ t + p1.toNatClampNeg ∧ rowInv (passR C S c p1).2.2 t' := by
  unfold passR
  by_cases h1 : inB p1 0 99
  · rw [if_neg (nn h1)]
    by_cases h2 : S 2 = 0
    · rw [if_pos h2]; exact ⟨t, by omega, h⟩
    rw [if_neg h2]
    split
    · exact ⟨t, by omega, h⟩
    · obtain ⟨n, hn, rfl⟩ := i32_nat (m := 99) h1.1 h1.2 (by decide)
      rw [nI_c (show n < 2 ^ 31 by omega)]
      exact ⟨t + n, by omega, (inv_passF n t S (by omega) ((i_2 h).resolve_left h2) h).1⟩
  · rw [if_pos h1]; exact ⟨t, by omega, h⟩
end InvA
