/-! x40: the table's diagonal; table on both sides for a row as it always is -/
set_option maxRecDepth 100000
section X40
variable {G : gG} {F n bx t : Nat} {h : gH} {b : Nat} {c : Nat → Int32} {S : Nat → Int32} {J : Nat → Nat → Int32} {Q : Nat → Nat → Int64} {A : Nat → Nat → Int32} {L : Nat → Nat → Int64}
theorem tab_3 {a d : Nat} (ha : a < 8) (hd : d < 8) : tabA A S 3 (8 * a + d) = clearV S a d := by
  have e1 : (8 * a + d) / 8 = a := by omega
  have e2 : (8 * a + d) % 8 = d := by omega
  simp [tabA, clrsA, va_up, show 8 * a + d < 64 by omega, e1, e2]
theorem tab_diag (hS : setOk S) : ∀ a, a < manyN S → tabA A S 3 (8 * a + a) < 0 := fun a ha => by
  obtain ⟨hm, hro, hsf, hcl⟩ := hS
  have h8 := hm.1
  rw [tab_3 (by omega) (by omega)]
  exact (clear_neg hro hsf hcl hm ha ha).mpr (fun hh => hh.1 rfl)
theorem v_tableR {p1 : Int32} (hF : 40 ≤ F) (hI : rowInv S t) (hW : wOk S J Q) : sp_X0_table G F (wh G (xo h bx c) (bx + 1) S J Q) bx p1 = some (tableR (tabA A S 3) S p1) := v_table hF (i_m hI) (clOk_tab (i_set hI) hW) (tab_diag (i_set hI))
theorem t_table {p1 : Int32} (hF : 40 ≤ F) (hI : rowInv S t) : sp_X13_table G F (mT h b A L S) b p1 = some (tableR (tabA A S 3) S p1) := s_table hF (i_m hI)
theorem v_provedR (hF : 40 ≤ F) (hI : rowInv S t) (hW : wOk S J Q) : sp_X0_proved G F (wh G (xo h bx c) (bx + 1) S J Q) bx = some (provedR (tabA A S 3) S) := v_proved hF (i_m hI) (i_tld hI) (i_tlds hI) (clOk_tab (i_set hI) hW)
theorem t_proved (hF : 40 ≤ F) (hI : rowInv S t) : sp_X13_proved G F (mT h b A L S) b = some (provedR (tabA A S 3) S) := s_proved hF (i_m hI) (i_tld hI) (i_tlds hI)
theorem i_recs (hI : rowInv S t) : recsOk S := hI.2.2.2.1
theorem i_r (hI : rowInv S t) : rOk S := (i_cnt hI).2.2.1
theorem i_dst (hI : rowInv S t) : dstOk S := hI.2.2.2.2.2.1
theorem t_greens {p1 p2 : Int32} (hF : 40 ≤ F) (hI : rowInv S t) : sp_X13_greens G F (mT h b A L S) b p1 p2 = some (greensR S p1 p2) := s_greens hF (i_r hI)
theorem v_greensR {p1 p2 : Int32} (hF : 40 ≤ F) (hI : rowInv S t) (hW : wOk S J Q) : sp_X0_greens G F (wh G (xo h bx c) (bx + 1) S J Q) bx p1 p2 = some (greensR S p1 p2) := v_greens hF (i_r hI) hW.1 hW.2.1 (lenOk_of (i_recs hI))
theorem t_could {p1 p2 p3 : Int32} (hF : 40 ≤ F) (hI : rowInv S t) : sp_X13_could G F (mT h b A L S) b p1 p2 p3 = some (couldR S p1 p2 p3) := s_could hF (i_m hI) (i_set hI).2.1 (i_r hI) (i_tld hI) (i_recs hI) (i_tlds hI)
theorem t_crowded {p1 p2 : Int32} (hF : 100 ≤ F) (hI : rowInv S t) : sp_X13_crowded G F (mT h b A L S) b p1 p2 = some (crowdedR S p1 p2) := s_crowded hF (i_m hI) (i_set hI).2.1 (i_r hI) (i_tld hI) (i_recs hI) (i_tlds hI)
theorem t_of {p1 p2 : Int32} (hF : 40 ≤ F) (hI : rowInv S t) : sp_X13_of G F (mT h b A L S) b p1 p2 = some (ofR (tabA A S 3) S p1 p2) := s_of hF (i_m hI) (i_set hI).2.1
theorem v_ofR {p1 p2 : Int32} (hF : 40 ≤ F) (hG : gI4 G) (ht : t < 2 ^ 31) (hI : rowInv S t) (hW : wOk S J Q) : sp_X0_of G F (wh G (xo h bx c) (bx + 1) S J Q) bx p1 p2 = some (ofR (tabA A S 3) S p1 p2) := v_of hF hG ht (i_set hI) (i_num hI) hW (clOk_tab (i_set hI) hW) (i_dst hI)
theorem t_recorded {p1 p2 : Int32} (hI : rowInv S t) : sp_X13_recorded G F (mT h b A L S) b p1 p2 = some (recordedR S p1 p2) := s_recorded (i_r hI)
theorem t_phaseOf {p1 p2 : Int32} (hF : 40 ≤ F) (hI : rowInv S t) : sp_X13_phaseOf G F (mT h b A L S) b p1 p2 = some (phaseOfR S p1 p2) := s_phaseOf hF (i_m hI) (i_cnt hI).2.1
theorem t_taken {p1 p2 : Int32} (hI : rowInv S t) : sp_X13_taken G F (mT h b A L S) b p1 p2 = some (takenR S p1 p2) := s_taken (i_m hI) (i_set hI).2.1
end X40
