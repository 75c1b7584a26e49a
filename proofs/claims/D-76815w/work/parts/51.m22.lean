/-! m22: changes by calls, joined -/
set_option maxRecDepth 100000
def bcT (S : Nat → Int32) : Bool × Bool × Bool := bcL S (S (pA (onN S) 0)) (manyN S) 0 (decide (¬ calledV S = 0)) false true
def bcM (S : Nat → Int32) : Bool × Bool :=
  if S 10 ≤ 0 then ((bcT S).1, false) else if S 4 = 0 then ((bcT S).1 && decide (¬ localV S < S 12), false) else ((bcT S).1, decide (¬ localV S < S (pA (onN S) 1)))
def nextP (S : Nat → Int32) : Nat :=
  if S 5 < 0 then nxL (calledV S) (onN S) (phN S) (phN S) 1 else if ¬ hasB (calledV S) (S 5) then nxL (calledV S) (onN S) (phN S) (phN S) 1 else (S 5).toNatClampNeg
def byCallsF (S : Nat → Int32) : Nat → Int32 :=
  if (bcM S).1 = false then S else if (bcM S).2 = false then (if (bcT S).2.1 = false then (if (bcT S).2.2 = false then S else changesF (upd S 5 (-5)) (nextP S)) else changesF (upd S 5 (-5)) (nextP S)) else changesF (upd S 5 (-5)) (nextP S)
def cutOk (S : Nat → Int32) : Prop := S 5 < 0 ∨ ∃ q, q < phN S ∧ S 5 = nI q
theorem bcL_1 {S : Nat → Int32} {s : Int32} : ∀ (n i : Nat) (c l d : Bool), (bcL S s n i c l d).1 = true → c = true := by
  intro n
  induction n with
  | zero => intro i c l d h; exact h
  | succ n ih =>
    intro i c l d h
    rw [bcL] at h
    split at h
    · exact ih _ _ _ _ h
    · have := ih _ _ _ _ h
      cases c
      · simp at this
      · rfl
theorem bcM_called {S : Nat → Int32} (h : ¬ (bcM S).1 = false) : calledV S ≠ 0 := by
  have h1 : (bcT S).1 = true := by
    cases e : (bcT S).1
    · exfalso
      apply h
      unfold bcM
      rw [e]
      split
      · rfl
      · split <;> rfl
    · rfl
  have := bcL_1 _ _ _ _ _ h1
  exact of_decide_eq_true this
theorem called_next {S : Nat → Int32} (hp : pOk S) (ho : onOk S) (hon : onN S < phN S) (h : calledV S ≠ 0) : ∃ j, 1 ≤ j ∧ j < 1 + phN S ∧ hasB (calledV S) (nI ((onN S + j) % phN S)) := by
  obtain ⟨j, hj, e⟩ := bits_some h
  have hp6 := hp.1
  have key : hasB (calledV S) (nI j) := (hasB_bits (by omega) hj).mpr e
  by_cases hlt : onN S < j
  · refine ⟨j - onN S, by omega, by omega, ?_⟩
    rw [show onN S + (j - onN S) = j by omega, Nat.mod_eq_of_lt hj]
    exact key
  · refine ⟨j + phN S - onN S, by omega, by omega, ?_⟩
    rw [show onN S + (j + phN S - onN S) = j + phN S by omega, Nat.add_mod_right, Nat.mod_eq_of_lt hj]
    exact key
theorem nextP_lt {S : Nat → Int32} (hon : onN S < phN S) (hp : pOk S) (hc : cutOk S) : nextP S < phN S := by
  have hp6 := hp.1
  unfold nextP
  split
  · exact nxL_lt (by omega) _ _
  · rename_i h5
    split
    · exact nxL_lt (by omega) _ _
    · rcases hc with h | ⟨q, hq, e⟩
      · exact absurd h h5
      · rw [e, nI_c (by omega)]
        exact hq
section M22
variable {h : gH} {b : Nat} {A : Nat → Nat → Int32} {L : Nat → Nat → Int64} {S : Nat → Int32} {G : gG} {F : Nat}
theorem s_byCalls (hF : 100 ≤ F) (hm : mOk S) (hp : pOk S) (hr : rOk S) (ho : onOk S) (hon : onN S < phN S) (hc : cutOk S) : sp_X13_changesByCalls G F (mS h b A L S) b = some (mS h b A L (byCallsF S)) := by
  have hp6 := hp.1
  have h8 := hm.1
  have em : ∀ x c : Int32, x - x / c * c = modV x c := fun _ _ => rfl
  have e14 : ¬ nI (phN S) = 0 := fun e => by
    have := (nI_eq (a := phN S) (b := 0) (by omega) (by decide)).mp e
    omega
  have hset : sp_X13_setOf G F (mS h b A L S) b (S 4) = some (S (pA (onN S) 0)) := by rw [ho.2]; exact s_setOf ho.1
  have hfor : gAi 0 (mS h b A L S) (b + 1) (((216 : Int32) + ((3 : Int32) * S 4)) + (1 : Int32)) = some (S (pA (onN S) 1)) := by
    rw [ho.2, ix_p, ix_p1]
    exact s_a _ (by unfold pA; have := ho.1; omega)
  have ej : (if calledV S = 0 then some (0 : Int32) else some 1) = some (bI (decide (¬ calledV S = 0))) := by
    by_cases h1 : calledV S = 0
    · rw [if_pos h1, decide_eq_false (fun hh => hh h1)]; rfl
    · rw [if_neg h1, decide_eq_true h1]; rfl
  have hT := s_byCalls_L (h := h) (b := b) (A := A) (L := L) (S := S) (G := G) (F := F) (s := S (pA (onN S) 0)) (x := calledV S) hm.2 hm.1 (manyN S) 0 F (decide (¬ calledV S = 0)) false true (by omega) (by omega)
  unfold sp_X13_changesByCalls
  simp only [s_is, if_true, s_f0, Option.bind_some, s_r_4, hset, s_called (show 40 ≤ F by omega) hm hp, ej]
  rw [show sp_X13_changesByCalls_L35 G F (mS h b A L S) F b (S (pA (onN S) 0)) (calledV S) (bI (decide (¬ calledV S = 0))) 0 1 0 = some (bI (bcT S).1, bI (bcT S).2.1, bI (bcT S).2.2) from hT]
  simp only [s_is, if_true, s_f0, Option.bind_some, s_r_10, s_r_4, s_r_12, hfor]
  have hM : (if S 10 ≤ 0 then some (bI (bcT S).1, (0 : Int32)) else if S 4 = 0 then (sp_X13_local G F (mS h b A L S) b).bind fun u27 => (if u27 < S 12 then some (0 : Int32) else some (1 : Int32)).bind fun j31 => some (bI (bcT S).1 &&& j31, (0 : Int32))
      else (sp_X13_local G F (mS h b A L S) b).bind fun u19 => (if u19 < S (pA (onN S) 1) then some (0 : Int32) else some (1 : Int32)).bind fun j25 => some (bI (bcT S).1, j25)) = some (bI (bcM S).1, bI (bcM S).2) := by
    unfold bcM
    by_cases h10 : S 10 ≤ 0
    · rw [if_pos h10, if_pos h10]
      rfl
    · have h0 : S 10 ≠ 0 := fun e => h10 (by rw [e]; exact Int32.le_refl 0)
      rw [if_neg h10, if_neg h10, s_local h0]
      simp only [Option.bind_some]
      by_cases h4 : S 4 = 0
      · rw [if_pos h4, if_pos h4]
        by_cases h5 : localV S < S 12
        · rw [if_pos h5, decide_eq_false (fun hh => hh h5)]
          simp only [Option.bind_some, bI_and0]
          rfl
        · rw [if_neg h5, decide_eq_true h5]
          simp only [Option.bind_some, bI_and1]
          rfl
      · rw [if_neg h4, if_neg h4]
        by_cases h5 : localV S < S (pA (onN S) 1)
        · rw [if_pos h5, decide_eq_false (fun hh => hh h5)]
          rfl
        · rw [if_neg h5, decide_eq_true h5]
          rfl
  rw [hM]
  simp only [Option.bind_some, bI_z]
  unfold byCallsF
  by_cases h1 : (bcM S).1 = false
  · rw [if_pos h1, if_pos h1]
  rw [if_neg h1, if_neg h1]
  have hcl := bcM_called h1
  have e41 : S 4 + 1 = nI (onN S + 1) := by rw [← nI_1, ← ho.2]
  have e42 : modV (S 4 + 1) (nI (phN S)) = nI ((onN S + 1) % phN S) := by
    rw [e41]
    exact modV_nI (by omega) (by omega) (by omega)
  have hX := s_next_L (h := h) (b := b) (A := A) (L := L) (S := S) (G := G) (F := F) (c := calledV S) (o := onN S) hp.2 (by omega) hp6 (phN S) 1 F (called_next hp ho hon hcl) (by omega)
  have hN : (if S 5 < 0 then some (nI (nxL (calledV S) (onN S) (phN S) (phN S) 1)) else if ¬ hasB (calledV S) (S 5) then some (nI (nxL (calledV S) (onN S) (phN S) (phN S) 1)) else some (S 5)) = some (nI (nextP S)) := by
    unfold nextP
    by_cases h5 : S 5 < 0
    · rw [if_pos h5, if_pos h5]
    · rw [if_neg h5, if_neg h5]
      by_cases h6 : ¬ hasB (calledV S) (S 5)
      · rw [if_pos h6, if_pos h6]
      · rw [if_neg h6, if_neg h6]
        rcases hc with h | ⟨q, hq, e⟩
        · exact absurd h h5
        · rw [e, nI_c (by omega)]
  have k5 : keepS S (upd S 5 (-5)) := keep_upd (by unfold fixedK; omega)
  have r5 : rOk (upd S 5 (-5)) := by
    unfold rOk recN at *
    rw [upd_ne (by decide)]
    exact hr
  have hlt : nextP S < 6 := by have := nextP_lt hon hp hc; omega
  simp only [s_is, if_true, s_f0, Option.bind_some, s_r_5, s_r_14, s_r_4, hp.2, em, e14, not_false_eq_true, e42, hX, i_has, b0, hN, s_w_5, s_changes hF hlt (mOk_keep k5 hm) r5]
  by_cases h2 : (bcM S).2 = false
  · rw [if_pos h2, if_pos h2]
    by_cases h3 : (bcT S).2.1 = false
    · rw [if_pos h3, if_pos h3]
      by_cases h4 : (bcT S).2.2 = false
      · rw [if_pos h4, if_pos h4]
      · rw [if_neg h4, if_neg h4]
    · rw [if_neg h3, if_neg h3]
  · rw [if_neg h2, if_neg h2]
end M22
