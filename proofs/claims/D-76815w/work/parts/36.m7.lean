/-! m7: the reference with its tables right: mT; signal, goes, tell, safety, cycle, come, seed, over -/
set_option maxRecDepth 100000
def tabA (A : Nat → Nat → Int32) (S : Nat → Int32) : Nat → Nat → Int32 := clrsA (va_up A 0 S) 64
def mT (h : gH) (b : Nat) (A : Nat → Nat → Int32) (L : Nat → Nat → Int64) (S : Nat → Int32) : gH := mS h b (tabA A S) L S
theorem tabA_0 {A : Nat → Nat → Int32} {S : Nat → Int32} : tabA A S 0 = S := clrsA_0
theorem up_same {A : Nat → Nat → Int32} {S : Nat → Int32} (e : A 0 = S) : va_up A 0 S = A := by
  funext i
  unfold va_up
  split
  · rename_i hi; rw [hi, e]
  · rfl
theorem tabA_tab {A : Nat → Nat → Int32} {S T : Nat → Int32} : tabA (tabA A S) T = tabA A T := by
  funext i j
  by_cases h0 : i = 0
  · subst h0
    simp [tabA, clrsA, va_up]
  · by_cases h3 : i = 3
    · subst h3
      by_cases hj : j < 64 <;> simp [tabA, clrsA, va_up, hj]
    · by_cases h4 : i = 4
      · subst h4
        by_cases hj : j < 64 <;> simp [tabA, clrsA, va_up, hj]
      · simp [tabA, clrsA, va_up, h0, h3, h4]
/-- what the tables hang on -/
def tabEq (S T : Nat → Int32) : Prop := ∀ a c, a < 8 → c < 8 → clearV T a c = clearV S a c ∧ narrowV T a c = narrowV S a c
theorem mT_keep {h : gH} {b : Nat} {A : Nat → Nat → Int32} {L : Nat → Nat → Int64} {S T : Nat → Int32} (e : tabEq S T) : mS h b (tabA A S) L T = mT h b A L T := by
  unfold mT mS
  congr 1
  funext i j
  by_cases h0 : i = 0
  · subst h0; simp [va_up]
  · by_cases h3 : i = 3
    · subst h3
      by_cases hj : j < 64
      · simp [tabA, clrsA, va_up, hj, (e (j / 8) (j % 8) (by omega) (by omega)).1]
      · simp [tabA, clrsA, va_up, hj]
    · by_cases h4 : i = 4
      · subst h4
        by_cases hj : j < 64
        · simp [tabA, clrsA, va_up, hj, (e (j / 8) (j % 8) (by omega) (by omega)).2]
        · simp [tabA, clrsA, va_up, hj]
      · simp [tabA, clrsA, va_up, h0, h3, h4]
/-- numbers that the tables do not look at -/
def tabFree (k : Nat) : Prop := k ≠ 1 ∧ (k < 24 ∨ 216 ≤ k ∨ ((k - 24) % 24 ≠ 0 ∧ ((k - 24) % 24 < 11 ∨ 20 ≤ (k - 24) % 24)))
theorem plc_keep {S T : Nat → Int32} {a : Nat} {c : Int32} : ∀ (n i : Nat), (∀ w, w < n + i → T (sA a (12 + w)) = S (sA a (12 + w))) → plc T a c n i = plc S a c n i := by
  intro n
  induction n with
  | zero => intro i _; rfl
  | succ n ih =>
    intro i e
    rw [plc, plc, e i (by omega), ih (i + 1) (fun w hw => e w (by omega))]
theorem placeV_keep {S T : Nat → Int32} {a : Nat} {c : Int32} (e : ∀ w, 11 ≤ w → w < 20 → T (sA a w) = S (sA a w)) (h8 : cellsN S a ≤ 8) : placeV T a c = placeV S a c := by
  have e1 : cellsN T a = cellsN S a := by unfold cellsN; rw [e 11 (by omega) (by omega)]
  unfold placeV
  rw [e1]
  exact plc_keep _ _ (fun w hw => e (12 + w) (by omega) (by omega))
theorem clrL_keep {S T : Nat → Int32} {a c : Nat} (ea : ∀ w, w = 0 ∨ (11 ≤ w ∧ w < 20) → T (sA a w) = S (sA a w)) (ec : ∀ w, w = 0 ∨ (11 ≤ w ∧ w < 20) → T (sA c w) = S (sA c w)) (h8 : cellsN S c ≤ 8) : ∀ (n i : Nat) (g w : Int32), n + i ≤ 8 → clrL T a c n i g w = clrL S a c n i g w := by
  have ka : kindN T a = kindN S a := by unfold kindN; rw [ea 0 (by omega)]
  have kc : kindN T c = kindN S c := by unfold kindN; rw [ec 0 (by omega)]
  have pk : ∀ x, placeV T c x = placeV S c x := fun x => placeV_keep (fun w h1 h2 => ec w (Or.inr ⟨h1, h2⟩)) h8
  intro n
  induction n with
  | zero => intro i g w _; rfl
  | succ n ih =>
    intro i g w hi
    have e1 : T (sA a (12 + i)) = S (sA a (12 + i)) := ea _ (by omega)
    rw [clrL, clrL]
    simp only [e1, ka, kc, pk, ih (i + 1) _ _ (by omega)]
theorem tabEq_of {S T : Nat → Int32} (ok : rowOk S) (e1 : T 1 = S 1) (e : ∀ a w, a < 8 → w = 0 ∨ (11 ≤ w ∧ w < 20) → T (sA a w) = S (sA a w)) : tabEq S T := by
  intro a c ha hc
  have hcl : clrV T a c = clrV S a c := by
    unfold clrV
    have e3 : cellsN T a = cellsN S a := by unfold cellsN; rw [e a 11 ha (by omega)]
    rw [e3, clrL_keep (fun w hw => e a w ha hw) (fun w hw => e c w hc hw) (ok c hc).cells.1 _ _ _ _ (by have := (ok a ha).cells.1; omega)]
  have ka : kindN T a = kindN S a := by unfold kindN; rw [e a 0 ha (by omega)]
  unfold clearV narrowV
  rw [hcl, ka, e1]
  exact ⟨rfl, rfl⟩
theorem tabEq_upd {S : Nat → Int32} {k : Nat} {x : Int32} (ok : rowOk S) (hk : tabFree k) : tabEq S (upd S k x) := by
  refine tabEq_of ok (upd_ne (Ne.symm hk.1)) (fun a w ha hw => upd_ne ?_)
  have h2 := hk.2
  unfold sA
  intro e
  subst e
  omega
theorem tabEq_trans {S T U : Nat → Int32} (h1 : tabEq S T) (h2 : tabEq T U) : tabEq S U := fun a c ha hc => ⟨(h2 a c ha hc).1.trans (h1 a c ha hc).1, (h2 a c ha hc).2.trans (h1 a c ha hc).2⟩
theorem rowOk_upd {S : Nat → Int32} {k : Nat} {x : Int32} (ok : rowOk S) (hk : tabFree k) : rowOk (upd S k x) := by
  intro a ha
  have h2 := hk.2
  have e0 : upd S k x (sA a 0) = S (sA a 0) := upd_ne (by unfold sA; omega)
  have e1 : upd S k x (sA a 11) = S (sA a 11) := upd_ne (by unfold sA; omega)
  have := ok a ha
  unfold sigOk at this ⊢
  rw [e0, e1]
  exact this
section M7
variable {h : gH} {b : Nat} {A : Nat → Nat → Int32} {L : Nat → Nat → Int64} {S : Nat → Int32} {G : gG} {F : Nat}
theorem s_clears (hF : 20 ≤ F) (ok : rowOk S) : sp_X13_clears G F (mS h b A L S) b = some (mT h b A L S) := by
  unfold mS
  rw [m_clears hF ok]
  unfold mT mS
  rw [up_same tabA_0]
  rfl
theorem s_clearsT {T : Nat → Int32} (hF : 20 ≤ F) (ok : rowOk T) : sp_X13_clears G F (mS h b (tabA A S) L T) b = some (mT h b A L T) := by
  rw [s_clears hF ok]
  unfold mT
  rw [tabA_tab]
/-- row 0 by itself: the tables go on being right -/
theorem mT_upd {k : Nat} {x : Int32} (ok : rowOk S) (hk : tabFree k) : mS h b (tabA A S) L (upd S k x) = mT h b A L (upd S k x) := mT_keep (tabEq_upd ok hk)
end M7
