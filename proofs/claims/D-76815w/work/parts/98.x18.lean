/-! x18: note, plan, count, image, undo (both sides) -/
set_option maxRecDepth 100000
def noteF (S : Nat → Int32) (p1 p2 : Int32) : Nat → Int32 := upd (upd (upd S (345 + 2 * noteN S) p1) (345 + (2 * noteN S + 1)) p2) 19 (nI (noteN S + 1))
def noteR (S : Nat → Int32) (p1 p2 : Int32) : Int32 × (Nat → Int32) :=
  if p1 = -1 then (0, upd S 19 0) else if ¬ inB p1 0 99999 then (-2, S) else if ¬ inB p2 0 255 then (-2, S) else if S 19 = 5 then (-4, S) else (nI (noteN S + 1), noteF S p1 p2)
def planF (S : Nat → Int32) (p1 p2 : Int32) : Nat → Int32 := upd (upd (upd S (355 + 2 * planN S) p1) (355 + (2 * planN S + 1)) p2) 20 (nI (planN S + 1))
def planR (S : Nat → Int32) (p1 p2 : Int32) : Int32 × (Nat → Int32) :=
  if p1 = -1 then (0, upd S 20 0) else if ¬ inB p1 0 3 then (-1, S) else if ¬ (p1 = 2 ∨ inB p2 0 (if p1 = 0 then 99 else 7)) then (-2, S) else if S 20 = 8 then (-4, S) else (nI (planN S + 1), planF S p1 p2)
def countR (S : Nat → Int32) (tx cn p : Int32) : Int32 := if p = 0 then tx else if p = 1 then S 19 else if p = 2 then S 20 else if p = 3 then S 18 else if p = 4 then S 17 else if p = 5 then cn else if p = 6 then S 15 else if p = 7 then S 16 else -2
theorem note_lt {S : Nat → Int32} (hn : noteOk S) (h : ¬ S 19 = 5) : noteN S < 5 := by
  have := hn.1
  rcases Nat.lt_or_ge (noteN S) 5 with h1 | h1
  · exact h1
  · exact absurd (by rw [hn.2.1, show noteN S = 5 by omega]; rfl) h
theorem plan_lt {S : Nat → Int32} (hn : planOk S) (h : ¬ S 20 = 8) : planN S < 8 := by
  have := hn.1
  rcases Nat.lt_or_ge (planN S) 8 with h1 | h1
  · exact h1
  · exact absurd (by rw [hn.2.1, show planN S = 8 by omega]; rfl) h
section R18
variable {h : gH} {b : Nat} {A : Nat → Nat → Int32} {L : Nat → Nat → Int64} {S T : Nat → Int32} {G : gG} {F : Nat}
theorem s_note {p1 p2 : Int32} (hn : noteOk S) : sp_X13_note G F (mS h b A L S) b p1 p2 = some ((noteR S p1 p2).1, mS h b A L (noteR S p1 p2).2) := by
  unfold sp_X13_note noteR
  simp only [i_isIn, Option.bind_some, b0, s_is, if_true, s_f0, Option.bind_some, s_w_19, s_r_19]
  by_cases h0 : p1 = -1
  · rw [if_pos h0, if_pos h0]
  rw [if_neg h0, if_neg h0]
  by_cases h1 : inB p1 0 99999
  · rw [if_neg (nn h1), if_neg (nn h1)]
    by_cases h2 : inB p2 0 255
    · rw [if_neg (nn h2), if_neg (nn h2)]
      by_cases h3 : S 19 = 5
      · rw [if_pos h3, if_pos h3]
      · rw [if_neg h3, if_neg h3]
        have hk := note_lt hn h3
        have e19 : ∀ x, upd S (345 + 2 * noteN S) x 19 = nI (noteN S) := fun x => by rw [upd_ne (by omega)]; exact hn.2.1
        have e19' : ∀ x y, upd (upd S (345 + 2 * noteN S) x) (345 + 2 * noteN S + 1) y 19 = nI (noteN S) := fun x y => by rw [upd_ne (by omega)]; exact e19 x
        rw [hn.2.1]
        simp only [ix_nt, s_s (345 + 2 * noteN S) _ (by omega), s_is, if_true, s_f0, Option.bind_some, s_r_19, e19, nI_1, s_s (345 + 2 * noteN S + 1) _ (by omega), e19', s_w_19, upd_eq]
        rfl
    · rw [if_pos h2, if_pos h2]
  · rw [if_pos h1, if_pos h1]
theorem s_planP {p1 p2 : Int32} (hp : planOk S) : (if S 20 = 8 then some ((-4 : Int32), mS h b A L S) else (gSi (mS h b A L S) (b + 1) ((355 : Int32) + ((2 : Int32) * S 20)) p1).bind fun h67 => (gGr 11 h67 b 0).bind fun x68 => (gGr 11 h67 b 0).bind fun x69 => (gAi 0 h67 x69 (20 : Int32)).bind fun x70 => (gSi h67 x68 (((355 : Int32) + ((2 : Int32) * x70)) + (1 : Int32)) p2).bind fun h71 => (gGr 11 h71 b 0).bind fun x72 => (gAi 0 h71 x72 (20 : Int32)).bind fun x73 => (gSi h71 x72 (20 : Int32) (x73 + (1 : Int32))).bind fun h74 => (gGr 11 h74 b 0).bind fun x75 => (gAi 0 h74 x75 (20 : Int32)).bind fun x76 => some (x76, h74)) = some (if S 20 = 8 then ((-4 : Int32), mS h b A L S) else (nI (planN S + 1), mS h b A L (planF S p1 p2))) := by
  by_cases h3 : S 20 = 8
  · rw [if_pos h3, if_pos h3]
  · rw [if_neg h3, if_neg h3]
    have hk := plan_lt hp h3
    have e20 : ∀ x, upd S (355 + 2 * planN S) x 20 = nI (planN S) := fun x => by rw [upd_ne (by omega)]; exact hp.2.1
    have e20' : ∀ x y, upd (upd S (355 + 2 * planN S) x) (355 + 2 * planN S + 1) y 20 = nI (planN S) := fun x y => by rw [upd_ne (by omega)]; exact e20 x
    rw [hp.2.1]
    simp only [ix_pl, s_s (355 + 2 * planN S) _ (by omega), s_is, if_true, s_f0, Option.bind_some, s_r_20, e20, nI_1, s_s (355 + 2 * planN S + 1) _ (by omega), e20', s_w_20, upd_eq]
    rfl
theorem s_plan {p1 p2 : Int32} (hp : planOk S) : sp_X13_plan G F (mS h b A L S) b p1 p2 = some ((planR S p1 p2).1, mS h b A L (planR S p1 p2).2) := by
  have eP : some (if S 20 = 8 then ((-4 : Int32), mS h b A L S) else (nI (planN S + 1), mS h b A L (planF S p1 p2))) = some ((if S 20 = 8 then ((-4 : Int32), S) else (nI (planN S + 1), planF S p1 p2)).1, mS h b A L (if S 20 = 8 then ((-4 : Int32), S) else (nI (planN S + 1), planF S p1 p2)).2) := by split <;> rfl
  unfold sp_X13_plan planR
  simp only [i_isIn, Option.bind_some, b0, s_is, if_true, s_f0, Option.bind_some, s_w_20, s_r_20]
  by_cases h0 : p1 = -1
  · rw [if_pos h0, if_pos h0]
  rw [if_neg h0, if_neg h0]
  by_cases h1 : inB p1 0 3
  · rw [if_neg (nn h1), if_neg (nn h1)]
    obtain ⟨w, hw, rfl⟩ : ∃ k, k < 4 ∧ p1 = nI k := in_nI (m := 4) (by decide) h1
    have e2 : nI w - nI w / 2 * 2 = nI (w % 2) := modV_2 w (by omega)
    rw [e2, s_planP hp, eP]
    match w, hw with
    | 0, _ =>
      rw [if_pos (show nI 0 = 0 from rfl), if_neg (show ¬ nI (0 % 2) = 1 by decide)]
      by_cases h2 : inB p2 0 99
      · rw [if_neg (nn h2), if_neg (show ¬ ¬ (nI 0 = 2 ∨ inB p2 0 (if nI 0 = 0 then 99 else 7)) from nn (Or.inr h2))]
      · rw [if_pos h2, if_pos (show ¬ (nI 0 = 2 ∨ inB p2 0 (if nI 0 = 0 then 99 else 7)) from fun hh => hh.elim (by decide) h2)]
    | 1, _ =>
      rw [if_neg (show ¬ nI 1 = 0 by decide), if_pos (show nI (1 % 2) = 1 from rfl)]
      by_cases h2 : inB p2 0 7
      · rw [if_neg (nn h2), if_neg (show ¬ ¬ (nI 1 = 2 ∨ inB p2 0 (if nI 1 = 0 then 99 else 7)) from nn (Or.inr h2))]
      · rw [if_pos h2, if_pos (show ¬ (nI 1 = 2 ∨ inB p2 0 (if nI 1 = 0 then 99 else 7)) from fun hh => hh.elim (by decide) h2)]
    | 2, _ => rw [if_neg (show ¬ nI 2 = 0 by decide), if_neg (show ¬ nI (2 % 2) = 1 by decide), if_neg (show ¬ ¬ (nI 2 = 2 ∨ inB p2 0 (if nI 2 = 0 then 99 else 7)) from nn (Or.inl rfl))]
    | 3, _ =>
      rw [if_neg (show ¬ nI 3 = 0 by decide), if_pos (show nI (3 % 2) = 1 from rfl)]
      by_cases h2 : inB p2 0 7
      · rw [if_neg (nn h2), if_neg (show ¬ ¬ (nI 3 = 2 ∨ inB p2 0 (if nI 3 = 0 then 99 else 7)) from nn (Or.inr h2))]
      · rw [if_pos h2, if_pos (show ¬ (nI 3 = 2 ∨ inB p2 0 (if nI 3 = 0 then 99 else 7)) from fun hh => hh.elim (by decide) h2)]
  · rw [if_pos h1, if_pos h1]
theorem s_f9 : gGi 11 (mS h b A L S) b 9 = some (A 9 2) := by
  unfold mS
  rw [mh_f9]
  rfl
theorem s_f3 : gGi 11 (mS h b A L S) b 3 = some (A 9 0) := by
  unfold mS
  rw [mh_f3]
  rfl
theorem s_p3 (x : Int32) : gPv 11 (mS h b A L S) b 3 (.int x) = some (mS h b (mu A 9 0 x) L S) := by
  unfold mS
  rw [mh_p3]
  congr 2
  funext i j
  unfold mu va_up
  by_cases hi : i = 0
  · rw [if_neg (fun hh => by omega), if_pos hi, if_pos hi]
  · rw [if_neg hi, if_neg hi]
theorem s_count {p : Int32} : sp_X13_count G F (mS h b A L S) b p = some (countR S (A 9 2) (A 9 1) p) := by
  unfold sp_X13_count countR
  simp only [s_is, if_true, s_f0, Option.bind_some, s_r_0, s_r_1, s_r_2, s_r_3, s_r_4, s_r_5, s_r_6, s_r_7, s_r_8, s_r_9, s_r_10, s_r_11, s_r_12, s_r_13, s_r_14, s_r_15, s_r_16, s_r_17, s_r_18, s_r_19, s_r_20, s_f9, s_f4]
  by_cases h0 : p = 0
  · rw [if_pos h0, if_pos h0]
  rw [if_neg h0, if_neg h0]
  by_cases h1 : p = 1
  · rw [if_pos h1, if_pos h1]
  rw [if_neg h1, if_neg h1]
  by_cases h2 : p = 2
  · rw [if_pos h2, if_pos h2]
  rw [if_neg h2, if_neg h2]
  by_cases h3 : p = 3
  · rw [if_pos h3, if_pos h3]
  rw [if_neg h3, if_neg h3]
  by_cases h4 : p = 4
  · rw [if_pos h4, if_pos h4]
  rw [if_neg h4, if_neg h4]
  by_cases h5 : p = 5
  · rw [if_pos h5, if_pos h5]
  rw [if_neg h5, if_neg h5]
  by_cases h6 : p = 6
  · rw [if_pos h6, if_pos h6]
  rw [if_neg h6, if_neg h6]
  by_cases h7 : p = 7
  · rw [if_pos h7, if_pos h7]
  rw [if_neg h7, if_neg h7]
def imgA (A : Nat → Nat → Int32) (S : Nat → Int32) : Nat → Nat → Int32 := mu (va_up A 1 (cp S (A 1))) 9 0 1
theorem s_image (hF : 373 < F) : sp_X13_image G F (mS h b A L S) b = some (S 3, mS h b (imgA A S) L S) := by
  have e : sp_X13_copies G F (mS h b A L S) (b + 1) (b + 2) = some (mS h b (va_up A 1 (cp S (A 1))) L S) := by
    unfold mS
    rw [show b + 1 = b + 1 + 0 from rfl, show b + 2 = b + 1 + 1 from rfl, m_copies (r := 0) (q := 1) hF (by decide) (by decide) (by decide), va_up_comm (by decide)]
    rfl
  unfold sp_X13_image
  simp only [s_is, if_true, s_f0, Option.bind_some, s_f1, e, s_p3, s_r_3]
  rfl
def undoR (A : Nat → Nat → Int32) (S : Nat → Int32) : Int32 × (Nat → Int32) := if A 9 0 = 0 then (-3, S) else (cp (A 1) S 3, cp (A 1) S)
theorem t_undo (hF : 400 ≤ F) (ok : ¬ A 9 0 = 0 → rowOk (cp (A 1) S)) : sp_X13_undo G F (mT h b A L S) b = some ((undoR A S).1, mT h b A L (undoR A S).2) := by
  have e9 : tabA A S 9 = A 9 := rfl
  have e1 : tabA A S 1 = A 1 := rfl
  have e : sp_X13_copies G F (mS h b (tabA A S) L S) (b + 2) (b + 1) = some (mS h b (tabA A S) L (cp (A 1) S)) := by
    unfold mS
    rw [show b + 1 = b + 1 + 0 from rfl, show b + 2 = b + 1 + 1 from rfl, m_copies (r := 1) (q := 0) (show 373 < F by omega) (by decide) (by decide) (by decide), va_up_up]
    rfl
  unfold sp_X13_undo undoR
  unfold mT
  simp only [s_is, if_true, s_f0, Option.bind_some, s_f3, e9]
  by_cases h1 : A 9 0 = 0
  · rw [if_pos h1, if_pos h1]
  · rw [if_neg h1, if_neg h1]
    simp only [s_f1, s_is, if_true, s_f0, Option.bind_some, e, s_clearsT (show 20 ≤ F by omega) (ok h1)]
    unfold mT
    simp only [s_is, if_true, s_f0, Option.bind_some, s_r_3]
end R18
section X18
variable {G : gG} {F n bx : Nat} {h : gH} {b : Nat} {c : Nat → Int32} {S C T I : Nat → Int32} {J K : Nat → Nat → Int32} {Q R : Nat → Nat → Int64}
theorem v_note {p1 p2 : Int32} (hF : 100 ≤ F) (hn : bx + 106 ≤ n) (hno : noteOk S) (hrt : rtN J < 24) : ∃ h' n', sp_X0_note G F (wh G (xo h bx c) (bx + 1) S J Q) n bx p1 p2 = some ((noteR S p1 p2).1, wh G (xo h' bx c) (bx + 1) (noteR S p1 p2).2 J Q, n') ∧ hUp h h' n n' := by
  unfold sp_X0_note
  by_cases h0 : p1 = -1
  · have eR : noteR S p1 p2 = (0, upd S 19 0) := if_pos h0
    rw [eR, if_pos h0]
    simp only [v_f0, x_p20 _ hrt, Option.bind_some]
    exact ⟨h, n, rfl, hUp_refl⟩
  rw [if_neg h0]
  simp only [v_up hn, i_in_0_99999, i_in_0_255, Option.bind_some, sb0 hn (show 2 < 100 by decide) (by decide) if01, sb1 hn (show 2 < 100 by decide) (by decide) if01, v_are hF hn (show 2 < 90 by decide), all2, bI_f]
  generalize eh : va_up h n (some (Sum.inl (3, 2, Sum.inl (upd (upd (fun _ => 0) 0 (if inB p1 0 99999 then 1 else 0)) 1 (if inB p2 0 255 then 1 else 0))))) = h'
  have hu : hUp h h' n (n + 1) := by rw [← eh]; exact hUp_1
  by_cases hin : inB p1 0 99999 ∧ inB p2 0 255
  · rw [if_neg (nn hin)]
    simp only [v_f0, x_f20, x_f27, Option.bind_some]
    by_cases h3 : S 19 = 5
    · have eR : noteR S p1 p2 = (-4, S) := by unfold noteR; rw [if_neg h0, if_neg (nn hin.1), if_neg (nn hin.2), if_pos h3]
      rw [eR, if_pos h3]
      exact ⟨h', n + 1, rfl, hu⟩
    · have hk := note_lt hno h3
      have eR : noteR S p1 p2 = (nI (noteN S + 1), noteF S p1 p2) := by unfold noteR; rw [if_neg h0, if_neg (nn hin.1), if_neg (nn hin.2), if_neg h3]
      have e19 : ∀ x, upd S (345 + 2 * noteN S) x 19 = nI (noteN S) := fun x => by rw [upd_ne (by omega)]; exact hno.2.1
      have e19' : ∀ x y, upd (upd S (345 + 2 * noteN S) x) (345 + (2 * noteN S + 1)) y 19 = nI (noteN S) := fun x y => by rw [upd_ne (by omega)]; exact e19 x
      rw [eR, if_neg h3, hno.2.1]
      refine ⟨h', n + 1, ?_, hu⟩
      simp only [ix_2, x_s6 _ hrt (show 2 * noteN S < 10 by omega), v_f0, x_f20, x_f27, Option.bind_some, e19, nI_1, x_s6 _ hrt (show 2 * noteN S + 1 < 10 by omega), e19', x_p20 _ hrt, upd_eq]
      rfl
  · have eR : noteR S p1 p2 = (-2, S) := by
      unfold noteR
      rw [if_neg h0]
      by_cases g1 : inB p1 0 99999
      · rw [if_neg (nn g1), if_pos (fun hh => hin ⟨g1, hh⟩)]
      · rw [if_pos g1]
    rw [eR, if_pos hin]
    exact ⟨h', n + 1, rfl, hu⟩
theorem v_plan {p1 p2 : Int32} (hp : planOk S) (hrt : rtN J < 24) : sp_X0_plan G F (wh G (xo h bx c) (bx + 1) S J Q) bx p1 p2 = some ((planR S p1 p2).1, wh G (xo h bx c) (bx + 1) (planR S p1 p2).2 J Q) := by
  have e7 : (if p1 = 0 then some (99 : Int64) else some 7) = some (Int32.toInt64 (if p1 = 0 then 99 else 7)) := by
    split <;> rfl
  unfold sp_X0_plan planR
  simp only [v_f0, x_p21 _ hrt, i_in_0_3, Option.bind_some, b0, e7, i_in_0v]
  by_cases h0 : p1 = -1
  · rw [if_pos h0, if_pos h0]
  rw [if_neg h0, if_neg h0]
  by_cases h1 : inB p1 0 3
  · rw [if_neg (nn h1), if_neg (nn h1)]
    simp only [x_f21, x_f28, Option.bind_some]
    have key : (if S 20 = 8 then some ((-4 : Int32), wh G (xo h bx c) (bx + 1) S J Q) else (gSi (wh G (xo h bx c) (bx + 1) S J Q) (bx + 1 + 7) ((2 : Int32) * S 20) p1).bind fun h12 => (gGr 0 h12 bx 0).bind fun x13 => (gGr 1 h12 x13 28).bind fun x14 => (gGr 0 h12 bx 0).bind fun x15 => (gGi 1 h12 x15 21).bind fun x16 => (gSi h12 x14 (((2 : Int32) * x16) + (1 : Int32)) p2).bind fun h17 => (gGr 0 h17 bx 0).bind fun x18 => (gGi 1 h17 x18 21).bind fun x19 => (gPv 1 h17 x18 21 (.int (x19 + (1 : Int32)))).bind fun h20 => (gGr 0 h20 bx 0).bind fun x21 => (gGi 1 h20 x21 21).bind fun x22 => some (x22, h20)) = some ((if S 20 = 8 then ((-4 : Int32), S) else (nI (planN S + 1), planF S p1 p2)).1, wh G (xo h bx c) (bx + 1) (if S 20 = 8 then ((-4 : Int32), S) else (nI (planN S + 1), planF S p1 p2)).2 J Q) := by
      by_cases h3 : S 20 = 8
      · rw [if_pos h3, if_pos h3]
      · rw [if_neg h3, if_neg h3]
        have hk := plan_lt hp h3
        have e20 : ∀ x, upd S (355 + 2 * planN S) x 20 = nI (planN S) := fun x => by rw [upd_ne (by omega)]; exact hp.2.1
        have e20' : ∀ x y, upd (upd S (355 + 2 * planN S) x) (355 + (2 * planN S + 1)) y 20 = nI (planN S) := fun x y => by rw [upd_ne (by omega)]; exact e20 x
        rw [hp.2.1]
        simp only [ix_2, x_s7 _ hrt (show 2 * planN S < 16 by omega), v_f0, x_f21, x_f28, Option.bind_some, e20, nI_1, x_s7 _ hrt (show 2 * planN S + 1 < 16 by omega), e20', x_p21 _ hrt, upd_eq]
        rfl
    by_cases h2 : p1 = 2
    · rw [if_pos h2, if_neg (nn (Or.inl h2))]
      exact key
    · rw [if_neg h2]
      by_cases h3 : inB p2 0 (if p1 = 0 then 99 else 7)
      · rw [if_neg (nn h3), if_neg (nn (Or.inr h3))]
        exact key
      · rw [if_pos h3, if_pos (fun hh => hh.elim h2 h3)]
  · rw [if_pos h1, if_pos h1]
theorem v_count {p : Int32} : sp_X0_count G F (wh G (xo h bx c) (bx + 1) S J Q) bx p = some (countR S (c 5) (c 3) p) := by
  unfold sp_X0_count countR
  simp only [v_f0, v_f3, v_f5, Option.bind_some, x_f0, x_f1, x_f2, x_f3, x_f4, x_f5, x_f6, x_f7, x_f8, x_f9, x_f10, x_f11, x_f12, x_f13, x_f14, x_f15, x_f16, x_f17, x_f18, x_f19, x_f20, x_f21, x_f22, x_f23, x_f24, x_f25, x_f26, x_f27, x_f28, x_f29]
  by_cases h0 : p = 0
  · rw [if_pos h0, if_pos h0]
  rw [if_neg h0, if_neg h0]
  by_cases h1 : p = 1
  · rw [if_pos h1, if_pos h1]
  rw [if_neg h1, if_neg h1]
  by_cases h2 : p = 2
  · rw [if_pos h2, if_pos h2]
  rw [if_neg h2, if_neg h2]
  by_cases h3 : p = 3
  · rw [if_pos h3, if_pos h3]
  rw [if_neg h3, if_neg h3]
  by_cases h4 : p = 4
  · rw [if_pos h4, if_pos h4]
  rw [if_neg h4, if_neg h4]
  by_cases h5 : p = 5
  · rw [if_pos h5, if_pos h5]
  rw [if_neg h5, if_neg h5]
  by_cases h6 : p = 6
  · rw [if_pos h6, if_pos h6]
  rw [if_neg h6, if_neg h6]
  by_cases h7 : p = 7
  · rw [if_pos h7, if_pos h7]
  rw [if_neg h7, if_neg h7]
/-- the kept World's cells, raw; and as they tell I -/
def krOk (G : gG) (h : gH) (bx : Nat) : Prop := ∃ W1 Q1, (∀ m, m < 105 → h (bx + 211 + m) = some (wC G (bx + 211) m (W1 m) (Q1 m))) ∧ bsAll W1 Q1
def kpAt (G : gG) (h : gH) (bx : Nat) (I : Nat → Int32) (K : Nat → Nat → Int32) (R : Nat → Nat → Int64) : Prop := ∀ m, m < 105 → h (bx + 211 + m) = some (wC G (bx + 211) m (Wof I K m) (R m))
theorem kr_of (hk : kpAt G h bx I K R) (hb : bsAll K R) : krOk G h bx := ⟨Wof I K, R, hk, fun k hk8 => by rw [wof_none (pos_w hk8)]; exact hb k hk8⟩
theorem k_back : wh G (wh G (xo h bx c) (bx + 1) S J Q) (bx + 211) T K R = wh G (xo (wh G h (bx + 211) T K R) bx c) (bx + 1) S J Q := by
  funext a
  unfold wh
  by_cases h1 : bx + 211 ≤ a ∧ a < bx + 211 + 105
  · obtain ⟨k, rfl⟩ : ∃ k, a = bx + 211 + k := ⟨a - (bx + 211), by omega⟩
    rw [wR_at (by omega), wR_out (by omega), xo_ne (by omega), wR_at (by omega)]
  · rw [wR_out (by omega)]
    by_cases h2 : bx + 1 ≤ a ∧ a < bx + 1 + 105
    · obtain ⟨k, rfl⟩ : ∃ k, a = bx + 1 + k := ⟨a - (bx + 1), by omega⟩
      rw [wR_at (by omega), wR_at (by omega)]
    · rw [wR_out (by omega), wR_out (by omega)]
      by_cases h3 : a = bx
      · subst h3; rw [xo_at, xo_at]
      · rw [xo_ne h3, xo_ne h3, wR_out (by omega)]
theorem v_image {t : Nat} (hF : 100 ≤ F) (hk : krOk G h bx) (hc : cntOk S) (hro : rowOk S) (hn : numOk S t) (hW : wOk S J Q) : ∃ h' K R, sp_X0_image G F (wh G (xo h bx c) (bx + 1) S J Q) bx = some (S 3, wh G (xo h' bx (upd c 8 1)) (bx + 1) S J Q) ∧ kpAt G h' bx S K R ∧ wOk S K R ∧ ∀ a, (a < bx + 211 ∨ bx + 316 ≤ a) → h' a = h a := by
  obtain ⟨W1, Q1, hw, hb⟩ := hk
  have eH : wh G (xo h bx (upd c 8 1)) (bx + 1) S J Q = wR G (wh G (xo h bx (upd c 8 1)) (bx + 1) S J Q) (bx + 211) W1 Q1 := by
    funext a
    by_cases h1 : bx + 211 ≤ a ∧ a < bx + 211 + 105
    · obtain ⟨k, rfl⟩ : ∃ k, a = bx + 211 + k := ⟨a - (bx + 211), by omega⟩
      rw [wR_at (by omega), v_low (by omega), hw k (by omega)]
    · rw [wR_out (by omega)]
  obtain ⟨K, R, e1, e2⟩ := x_like (G := G) (F := F) (h := xo h bx (upd c 8 1)) (b1 := bx + 211) (b2 := bx + 1) (W1 := W1) (Q1 := Q1) (t := t) hF (Or.inl (by omega)) hc hro hn hW hb
  rw [← eH] at e1
  have ei : gIs 1 (wh G (xo h bx (upd c 8 1)) (bx + 1) S J Q) (bx + 211) = true := by
    rw [eH]
    exact w_is
  refine ⟨wh G h (bx + 211) S K R, K, R, ?_, fun m hm => wR_at hm, e2, fun a ha => wR_out (by omega)⟩
  unfold sp_X0_image
  simp only [v_p8, v_f2, v_f0, ei, if_true, e1, Option.bind_some, x_f1]
  rw [k_back]
theorem v_undo {t : Nat} (hF : 100 ≤ F) (h8 : ¬ c 8 = 0) (hk : kpAt G h bx I K R) (hc : cntOk I) (hro : rowOk I) (hn : numOk I t) (hW2 : wOk I K R) (hW : wOk S J Q) : ∃ K' R', sp_X0_undo G F (wh G (xo h bx c) (bx + 1) S J Q) bx = some (I 3, wh G (xo h bx c) (bx + 1) I K' R') ∧ wOk I K' R' := by
  have eX : xo h bx c = wh G (xo h bx c) (bx + 211) I K R := by
    funext a
    by_cases h1 : bx + 211 ≤ a ∧ a < bx + 211 + 105
    · obtain ⟨k, rfl⟩ : ∃ k, a = bx + 211 + k := ⟨a - (bx + 211), by omega⟩
      unfold wh
      rw [wR_at (by omega), xo_ne (by omega), hk k (by omega)]
    · unfold wh
      rw [wR_out (by omega)]
  have hb : bsAll (Wof S J) Q := fun k hk8 => by rw [wof_none (pos_w hk8)]; exact hW.2.2.1 k hk8
  obtain ⟨K', R', e1, e2⟩ := x_like (G := G) (F := F) (h := xo h bx c) (b1 := bx + 1) (b2 := bx + 211) (W1 := Wof S J) (Q1 := Q) (t := t) hF (Or.inr (by omega)) hc hro hn hW2 hb
  rw [← eX] at e1
  have e1' : sp_X1_like G F (wh G (xo h bx c) (bx + 1) S J Q) (bx + 1) (bx + 211) = some (bx + 1, wh G (xo h bx c) (bx + 1) I K' R') := e1
  refine ⟨K', R', ?_, e2⟩
  unfold sp_X0_undo
  simp only [v_f8, Option.bind_some, h8, if_false, v_f0, v_f2, x_is, if_true, e1', x_f1]
end X18
