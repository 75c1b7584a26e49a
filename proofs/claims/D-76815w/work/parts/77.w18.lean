/-! w18: a row of three more (a phase, a green told, a node) -/
set_option maxRecDepth 100000
theorem live_of {S T : Nat → Int32} {p : Nat} (e13 : T 13 = S 13) (ec : ∀ a, a < 8 → T (sA a 11) = S (sA a 11)) (hp : p < 216) : live T p = live S p := by
  have c1 : manyN T = manyN S := by unfold manyN; rw [e13]
  unfold live
  by_cases h24 : p < 24
  · rw [if_pos h24, if_pos h24]
  · rw [if_neg h24, if_neg h24, if_pos hp, if_pos hp, c1]
    have c2 : cellsN T ((p - 24) / 24) = cellsN S ((p - 24) / 24) := by unfold cellsN; rw [ec _ (by omega)]
    rw [c2]
def app3 (S : Nat → Int32) (p0 q0 k : Nat) (x y z : Int32) : Nat → Int32 := upd (upd (upd (upd S p0 x) (p0 + 1) y) (p0 + 2) z) q0 (nI (k + 1))
theorem app3_v {S : Nat → Int32} {p0 q0 k : Nat} {x y z : Int32} (hq : q0 < 24) (hp : 216 ≤ p0) : app3 S p0 q0 k x y z p0 = x ∧ app3 S p0 q0 k x y z (p0 + 1) = y ∧ app3 S p0 q0 k x y z (p0 + 2) = z ∧ app3 S p0 q0 k x y z q0 = nI (k + 1) ∧ ∀ p, p ≠ q0 → (p < p0 ∨ p0 + 3 ≤ p) → app3 S p0 q0 k x y z p = S p := by
  unfold app3
  refine ⟨?_, ?_, ?_, upd_eq, fun p h1 h2 => ?_⟩
  · rw [upd_ne (by omega), upd_ne (by omega), upd_ne (by omega), upd_eq]
  · rw [upd_ne (by omega), upd_ne (by omega), upd_eq]
  · rw [upd_ne (by omega), upd_eq]
  · rw [upd_ne h1, upd_ne (by omega), upd_ne (by omega), upd_ne (by omega)]
def apW (W : Nat → Nat → Int32) (n0 jf k : Nat) (x y z : Int32) : Nat → Nat → Int32 := put0 (va_up W n0 (up3 (W n0) x y z)) jf (nI (k + 1))
section W18
variable {G : gG} {h : gH} {b : Nat} {S C : Nat → Int32} {J : Nat → Nat → Int32} {Q : Nat → Nat → Int64} {F : Nat}
theorem tells_app3 {n0 p0 q0 jf k : Nat} {x y z : Int32} (hr : rtN J < 24)
    (i0 : iv (rtN J) p0 = (n0, 0)) (i1 : iv (rtN J) (p0 + 1) = (n0, 1)) (i2 : iv (rtN J) (p0 + 2) = (n0, 2)) (iq : iv (rtN J) q0 = (0, jf)) (hq : q0 < 24) (hp0 : 216 ≤ p0) (hn0 : 57 ≤ n0) (hj : jf ≠ 16)
    (hrow : ∀ p, p < p0 ∨ p0 + 3 ≤ p → (iv (rtN J) p).1 ≠ n0) (hjf : ∀ p, p < 24 → p ≠ q0 → (iv (rtN J) p).2 ≠ jf)
    (hl : ∀ p, live (app3 S p0 q0 k x y z) p = true → p < p0 ∨ p0 + 3 ≤ p → live S p = true) : tells (app3 S p0 q0 k x y z) (apW (Wof S J) n0 jf k x y z) := by
  obtain ⟨v0, v1, v2, vq, vo⟩ := app3_v (S := S) (k := k) (x := x) (y := y) (z := z) hq hp0
  have en : apW (Wof S J) n0 jf k x y z n0 = up3 (Wof S J n0) x y z := by
    unfold apW
    rw [put0_n (by omega)]
    exact if_pos rfl
  have e0 : ∀ j, apW (Wof S J) n0 jf k x y z 0 j = if j = jf then nI (k + 1) else Wof S J 0 j := by
    intro j
    unfold apW
    rw [put0_0]
    have : va_up (Wof S J) n0 (up3 (Wof S J n0) x y z) 0 = Wof S J 0 := if_neg (by omega)
    rw [this]
  have eo : ∀ n, n ≠ 0 → n ≠ n0 → apW (Wof S J) n0 jf k x y z n = Wof S J n := by
    intro n h1 h2
    unfold apW
    rw [put0_n h1]
    exact if_neg h2
  have ert : rtN (apW (Wof S J) n0 jf k x y z) = rtN J := by
    unfold rtN
    rw [e0, if_neg (Ne.symm hj), wof_16]
  refine tells_ext (S := S) (W := Wof S J) hr rtN_wof ert tells_wof (fun p hlp => ?_)
  by_cases hin : p < p0 ∨ p0 + 3 ≤ p
  · by_cases hpq : p = q0
    · subst hpq
      left
      rw [iq, vq]
      show apW (Wof S J) n0 jf k x y z 0 jf = _
      rw [e0, if_pos rfl]
    · right
      refine ⟨hl p hlp hin, vo p hpq hin, ?_⟩
      by_cases h24 : p < 24
      · have er := (iv_row (rt := rtN J) (p := p)).1 h24
        rw [er, e0, if_neg (hjf p h24 hpq)]
      · have er : (iv (rtN J) p).1 ≠ 0 := by
          obtain ⟨-, r2, r3⟩ := iv_row (rt := rtN J) (p := p)
          by_cases h216 : p < 216
          · have := r2 (by omega) h216; omega
          · have := r3 (by omega); omega
        rw [eo _ er (hrow p hin)]
  · left
    rcases (show p = p0 ∨ p = p0 + 1 ∨ p = p0 + 2 by omega) with e | e | e <;> subst e
    · rw [i0, v0]
      show apW (Wof S J) n0 jf k x y z n0 0 = _
      rw [en]; rfl
    · rw [i1, v1]
      show apW (Wof S J) n0 jf k x y z n0 1 = _
      rw [en]; rfl
    · rw [i2, v2]
      show apW (Wof S J) n0 jf k x y z n0 2 = _
      rw [en]; rfl
theorem iv24 {rt p q j : Nat} (h : p < 24) (hne : p ≠ q) (hj : iv 0 q = (0, j)) (hq : q < 21) : (iv rt p).2 ≠ j := by
  intro e
  have e3 : iv rt p = iv 0 p := by
    unfold iv
    repeat' split
    all_goals first | rfl | omega
  have key : ∀ a c : Fin 24, c.val < 21 → a.val ≠ c.val → (iv 0 a.val).2 ≠ (iv 0 c.val).2 := by decide
  rw [e3] at e
  refine key ⟨p, h⟩ ⟨q, by omega⟩ hq hne ?_
  show (iv 0 p).2 = (iv 0 q).2
  rw [e, hj]
theorem ap_ok {n0 jf k : Nat} {x y z : Int32} {T : Nat → Int32} (hn0 : 57 ≤ n0) (hn1 : n0 < 105) (hj : jf ≠ 16) (hW : wOk S J Q) (e13 : T 13 = S 13) (e15 : T 15 = S 15) (ecl : ∀ a c, a < manyN S → c < manyN S → clearV T a c = clearV S a c) (epl : ∀ a c, a < manyN S → placeV T a c = placeV S a c) : wOk T (apW (Wof S J) n0 jf k x y z) Q := by
  obtain ⟨w1, w2, w3, w4, w5⟩ := hW
  have em : manyN T = manyN S := by unfold manyN; rw [e13]
  have e0 : ∀ j, apW (Wof S J) n0 jf k x y z 0 j = if j = jf then nI (k + 1) else Wof S J 0 j := by
    intro j
    unfold apW
    rw [put0_0]
    have : va_up (Wof S J) n0 (up3 (Wof S J n0) x y z) 0 = Wof S J 0 := if_neg (by omega)
    rw [this]
  have eo : ∀ n, n ≠ 0 → n ≠ n0 → apW (Wof S J) n0 jf k x y z n = Wof S J n := by
    intro n h1 h2
    unfold apW
    rw [put0_n h1]
    exact if_neg h2
  have e16 : apW (Wof S J) n0 jf k x y z 0 16 = J 0 16 := by rw [e0, if_neg (Ne.symm hj), wof_16]
  refine ⟨?_, ?_, ?_, ?_, ?_⟩
  · unfold jOk rtN
    rw [e16]
    exact w1
  · unfold rrOk rtN recN at *
    rw [e16, e15]
    exact w2
  · intro a ha
    rw [eo _ (by omega) (by omega), wof_none (pos_w ha)]
    exact w3 a ha
  · intro a ha c hc
    rw [em] at ha
    rw [epl a _ ha]
    exact w4 a ha c hc
  · intro a c ha hc
    rw [em] at ha hc
    rw [eo 8 (by omega) (by omega), wof_none pos_8, ecl a c ha hc]
    exact w5 a c ha hc
theorem app3_tab {p0 q0 k : Nat} {x y z : Int32} (hq : q0 < 24) (hq1 : q0 ≠ 1) (hp : 216 ≤ p0) (hro : rowOk S) : tabEq S (app3 S p0 q0 k x y z) ∧ ∀ a c, a < 8 → placeV (app3 S p0 q0 k x y z) a c = placeV S a c := by
  obtain ⟨v0, v1, v2, vq, vo⟩ := app3_v (S := S) (k := k) (x := x) (y := y) (z := z) hq hp
  refine ⟨tabEq_of hro (vo 1 (Ne.symm hq1) (by omega)) (fun a w ha hw => vo _ (by unfold sA; omega) (by unfold sA; omega)), fun a c ha => ?_⟩
  exact placeV_keep (fun w h1 h2 => vo _ (by unfold sA; omega) (by unfold sA; omega)) (hro a ha).cells.1
theorem w_is3 {k : Nat} {x y z : Int32} {W : Nat → Nat → Int32} (hk : k < 6) : sp_X4_is G F (wR G h b W Q) (phA b k) x y z = some (wR G h b (va_up W (57 + k) (up3 (W (57 + k)) x y z)) Q) := by
  have e2 : ∀ (W : Nat → Nat → Int32) (w : Nat → Int32), va_up W (57 + k) w (57 + k) = w := fun W w => if_pos rfl
  unfold sp_X4_is
  simp only [w_phA_p0 _ hk, w_phA_p1 _ hk, w_phA_p2 _ hk, Option.bind_some, e2, va_up_up]
  rfl
theorem w_tol3 {k : Nat} {x y z : Int32} {W : Nat → Nat → Int32} (hk : k < 8) : sp_X5_is G F (wR G h b W Q) (tlA b k) x y z = some (wR G h b (va_up W (87 + k) (up3 (W (87 + k)) x y z)) Q) := by
  have e2 : ∀ (W : Nat → Nat → Int32) (w : Nat → Int32), va_up W (87 + k) w (87 + k) = w := fun W w => if_pos rfl
  unfold sp_X5_is
  simp only [w_tlA_p0 _ hk, w_tlA_p1 _ hk, w_tlA_p2 _ hk, Option.bind_some, e2, va_up_up]
  rfl
/-- one phase more -/
theorem x_phaseMore {p1 p2 : Int32} (hW : wOk S J Q) (hro : rowOk S) (hm : mOk S) (hp : pOk S) (hk : phN S < 6) :
    ∃ H1 K, sp_X4_is G F (wh G h b S J Q) (phA b (phN S)) p1 p2 0 = some H1 ∧ (∀ x, x < b ∨ b + 105 ≤ x → H1 x = h x) ∧ gGi 1 H1 b 14 = some (S 14) ∧ gPv 1 H1 b 14 (.int (nI (phN S + 1))) = some (wh G h b (phaseF S p1 p2) K Q) ∧ wOk (phaseF S p1 p2) K Q := by
  have h8 := hm.1
  obtain ⟨v0, v1, v2, vq, vo⟩ := app3_v (S := S) (p0 := 216 + 3 * phN S) (q0 := 14) (k := phN S) (x := p1) (y := p2) (z := 0) (by decide) (by omega)
  obtain ⟨t1, t2⟩ := app3_tab (S := S) (p0 := 216 + 3 * phN S) (q0 := 14) (k := phN S) (x := p1) (y := p2) (z := 0) (by decide) (by decide) (by omega) hro
  have eF : phaseF S p1 p2 = app3 S (216 + 3 * phN S) 14 (phN S) p1 p2 0 := rfl
  have i3 : ∀ w, w < 3 → iv (rtN J) (216 + 3 * phN S + w) = (57 + phN S, w) := by
    intro w hw
    rw [iv_hi (by omega), if_pos (by omega)]
    rw [show (216 + 3 * phN S + w - 216) / 3 = phN S by omega, show (216 + 3 * phN S + w - 216) % 3 = w by omega]
  have ht := tells_app3 (S := S) (J := J) (n0 := 57 + phN S) (p0 := 216 + 3 * phN S) (q0 := 14) (jf := 14) (k := phN S) (x := p1) (y := p2) (z := 0) hW.1.1 (i3 0 (by decide)) (i3 1 (by decide)) (i3 2 (by decide)) rfl (by decide) (by omega) (by omega) (by decide)
    (by
      intro p hh
      obtain ⟨r1, r2, -⟩ := iv_row (rt := rtN J) (p := p)
      by_cases h24 : p < 24
      · rw [r1 h24]; omega
      · by_cases h216 : p < 216
        · have := r2 (by omega) h216; omega
        · rw [iv_hi (by omega)]
          repeat' split
          all_goals (show (_ : Nat) ≠ _; omega))
    (fun p h1 h2 => iv24 h1 h2 rfl (by decide))
    (by
      intro p hh hin
      by_cases h216 : p < 216
      · rw [← live_of (S := S) (vo 13 (by decide) (by omega)) (fun a ha => vo _ (by unfold sA; omega) (by unfold sA; omega)) h216]
        exact hh
      · have c1 : phN (app3 S (216 + 3 * phN S) 14 (phN S) p1 p2 0) = phN S + 1 := by show (_ : Int32).toNatClampNeg = _; rw [vq, nI_c (by omega)]
        have c2 : recN (app3 S (216 + 3 * phN S) 14 (phN S) p1 p2 0) = recN S := by unfold recN; rw [vo 15 (by decide) (by omega)]
        have c3 : nodN (app3 S (216 + 3 * phN S) 14 (phN S) p1 p2 0) = nodN S := by unfold nodN; rw [vo 17 (by decide) (by omega)]
        have c4 : tolN (app3 S (216 + 3 * phN S) 14 (phN S) p1 p2 0) = tolN S := by unfold tolN; rw [vo 18 (by decide) (by omega)]
        unfold live at hh ⊢
        rw [c1, c2, c3, c4] at hh
        rw [if_neg (by omega), if_neg h216] at hh ⊢
        by_cases h234 : p < 234
        · rw [if_pos h234] at hh ⊢
          have := of_decide_eq_true hh
          exact decide_eq_true (by omega)
        · rw [if_neg h234] at hh ⊢
          exact hh)
  refine ⟨_, apW (Wof S J) (57 + phN S) 14 (phN S) p1 p2 0, w_is3 hk, fun x hx => wR_out hx, ?_, ?_, ?_⟩
  · have : va_up (Wof S J) (57 + phN S) (up3 (Wof S J (57 + phN S)) p1 p2 0) 0 = Wof S J 0 := if_neg (by omega)
    rw [w_f14, this, wof_live (pos_0 (by decide)) (live_lo (Or.inl (by decide)))]
    rfl
  · rw [w_p14, eF]
    unfold wh
    rw [wof_tells ht]
    rfl
  · rw [eF]
    exact ap_ok (by omega) (by omega) (by decide) hW (vo 13 (by decide) (by omega)) (vo 15 (by decide) (by omega)) (fun a c ha hc => (t1 a c (by omega) (by omega)).1) (fun a c ha => t2 a c (by omega))
def toldOk (S : Nat → Int32) : Prop := tolN S ≤ 8 ∧ S 18 = nI (tolN S)
def nodeOk (S : Nat → Int32) : Prop := nodN S ≤ 5 ∧ S 17 = nI (nodN S)
/-- one green told more -/
theorem x_toldMore {p1 p2 p3 : Int32} (hW : wOk S J Q) (hro : rowOk S) (hm : mOk S) (hk : tolN S < 8) :
    ∃ H1 K, sp_X5_is G F (wh G h b S J Q) (tlA b (tolN S)) p1 p2 p3 = some H1 ∧ (∀ x, x < b ∨ b + 105 ≤ x → H1 x = h x) ∧ gGi 1 H1 b 17 = some (S 18) ∧ gPv 1 H1 b 17 (.int (nI (tolN S + 1))) = some (wh G h b (app3 S (321 + 3 * tolN S) 18 (tolN S) p1 p2 p3) K Q) ∧ wOk (app3 S (321 + 3 * tolN S) 18 (tolN S) p1 p2 p3) K Q := by
  have h8 := hm.1
  obtain ⟨v0, v1, v2, vq, vo⟩ := app3_v (S := S) (p0 := 321 + 3 * tolN S) (q0 := 18) (k := tolN S) (x := p1) (y := p2) (z := p3) (by decide) (by omega)
  obtain ⟨t1, t2⟩ := app3_tab (S := S) (p0 := 321 + 3 * tolN S) (q0 := 18) (k := tolN S) (x := p1) (y := p2) (z := p3) (by decide) (by decide) (by omega) hro
  have i3 : ∀ w, w < 3 → iv (rtN J) (321 + 3 * tolN S + w) = (87 + tolN S, w) := by
    intro w hw
    rw [iv_hi (by omega), if_neg (by omega), if_neg (by omega), if_neg (by omega), if_pos (by omega)]
    rw [show (321 + 3 * tolN S + w - 321) / 3 = tolN S by omega, show (321 + 3 * tolN S + w - 321) % 3 = w by omega]
  have ht := tells_app3 (S := S) (J := J) (n0 := 87 + tolN S) (p0 := 321 + 3 * tolN S) (q0 := 18) (jf := 17) (k := tolN S) (x := p1) (y := p2) (z := p3) hW.1.1 (i3 0 (by decide)) (i3 1 (by decide)) (i3 2 (by decide)) rfl (by decide) (by omega) (by omega) (by decide)
    (by
      intro p hh
      obtain ⟨r1, r2, -⟩ := iv_row (rt := rtN J) (p := p)
      by_cases h24 : p < 24
      · rw [r1 h24]; omega
      · by_cases h216 : p < 216
        · have := r2 (by omega) h216; omega
        · rw [iv_hi (by omega)]
          repeat' split
          all_goals (show (_ : Nat) ≠ _; omega))
    (fun p h1 h2 => iv24 h1 h2 rfl (by decide))
    (by
      intro p hh hin
      by_cases h216 : p < 216
      · rw [← live_of (S := S) (vo 13 (by decide) (by omega)) (fun a ha => vo _ (by unfold sA; omega) (by unfold sA; omega)) h216]
        exact hh
      · have c1 : tolN (app3 S (321 + 3 * tolN S) 18 (tolN S) p1 p2 p3) = tolN S + 1 := by show (_ : Int32).toNatClampNeg = _; rw [vq, nI_c (by omega)]
        have c2 : recN (app3 S (321 + 3 * tolN S) 18 (tolN S) p1 p2 p3) = recN S := by unfold recN; rw [vo 15 (by decide) (by omega)]
        have c3 : nodN (app3 S (321 + 3 * tolN S) 18 (tolN S) p1 p2 p3) = nodN S := by unfold nodN; rw [vo 17 (by decide) (by omega)]
        have c4 : phN (app3 S (321 + 3 * tolN S) 18 (tolN S) p1 p2 p3) = phN S := by unfold phN; rw [vo 14 (by decide) (by omega)]
        unfold live at hh ⊢
        rw [c1, c2, c3, c4] at hh
        rw [if_neg (by omega), if_neg h216] at hh ⊢
        by_cases h234 : p < 234
        · rw [if_pos h234] at hh ⊢; exact hh
        rw [if_neg h234] at hh ⊢
        by_cases h306 : p < 306
        · rw [if_pos h306] at hh ⊢; exact hh
        rw [if_neg h306] at hh ⊢
        by_cases h321 : p < 321
        · rw [if_pos h321] at hh ⊢; exact hh
        rw [if_neg h321] at hh ⊢
        by_cases h345 : p < 345
        · rw [if_pos h345] at hh ⊢
          have := of_decide_eq_true hh
          exact decide_eq_true (by omega)
        · rw [if_neg h345] at hh ⊢)
  refine ⟨_, apW (Wof S J) (87 + tolN S) 17 (tolN S) p1 p2 p3, w_tol3 hk, fun x hx => wR_out hx, ?_, ?_, ?_⟩
  · have : va_up (Wof S J) (87 + tolN S) (up3 (Wof S J (87 + tolN S)) p1 p2 p3) 0 = Wof S J 0 := if_neg (by omega)
    rw [w_f17, this, wof_live (pos_0 (by decide)) (live_lo (Or.inl (by decide)))]
    rfl
  · rw [w_p17]
    unfold wh
    rw [wof_tells ht]
    rfl
  · exact ap_ok (by omega) (by omega) (by decide) hW (vo 13 (by decide) (by omega)) (vo 15 (by decide) (by omega)) (fun a c ha hc => (t1 a c (by omega) (by omega)).1) (fun a c ha => t2 a c (by omega))
/-- one node more -/
theorem x_nodeMore {p1 p2 p3 : Int32} (hW : wOk S J Q) (hro : rowOk S) (hm : mOk S) (hk : nodN S < 5) :
    ∃ H1 H2 H3 K, gSi (wh G h b S J Q) (ndt b (nodN S)) 0 p1 = some H1 ∧ gSi H1 (ndt b (nodN S)) 1 p2 = some H2 ∧ gSi H2 (ndt b (nodN S)) 2 p3 = some H3 ∧ (∀ x, x < b ∨ b + 105 ≤ x → H3 x = h x) ∧ gGi 1 H3 b 18 = some (S 17) ∧ gPv 1 H3 b 18 (.int (nI (nodN S + 1))) = some (wh G h b (app3 S (306 + 3 * nodN S) 17 (nodN S) p1 p2 p3) K Q) ∧ wOk (app3 S (306 + 3 * nodN S) 17 (nodN S) p1 p2 p3) K Q := by
  have h8 := hm.1
  obtain ⟨v0, v1, v2, vq, vo⟩ := app3_v (S := S) (p0 := 306 + 3 * nodN S) (q0 := 17) (k := nodN S) (x := p1) (y := p2) (z := p3) (by decide) (by omega)
  obtain ⟨t1, t2⟩ := app3_tab (S := S) (p0 := 306 + 3 * nodN S) (q0 := 17) (k := nodN S) (x := p1) (y := p2) (z := p3) (by decide) (by decide) (by omega) hro
  have i3 : ∀ w, w < 3 → iv (rtN J) (306 + 3 * nodN S + w) = (96 + 2 * nodN S, w) := by
    intro w hw
    rw [iv_hi (by omega), if_neg (by omega), if_neg (by omega), if_pos (by omega)]
    rw [show (306 + 3 * nodN S + w - 306) / 3 = nodN S by omega, show (306 + 3 * nodN S + w - 306) % 3 = w by omega]
  have ht := tells_app3 (S := S) (J := J) (n0 := 96 + 2 * nodN S) (p0 := 306 + 3 * nodN S) (q0 := 17) (jf := 18) (k := nodN S) (x := p1) (y := p2) (z := p3) hW.1.1 (i3 0 (by decide)) (i3 1 (by decide)) (i3 2 (by decide)) rfl (by decide) (by omega) (by omega) (by decide)
    (by
      intro p hh
      obtain ⟨r1, r2, -⟩ := iv_row (rt := rtN J) (p := p)
      by_cases h24 : p < 24
      · rw [r1 h24]; omega
      · by_cases h216 : p < 216
        · have := r2 (by omega) h216; omega
        · rw [iv_hi (by omega)]
          repeat' split
          all_goals (show (_ : Nat) ≠ _; omega))
    (fun p h1 h2 => iv24 h1 h2 rfl (by decide))
    (by
      intro p hh hin
      by_cases h216 : p < 216
      · rw [← live_of (S := S) (vo 13 (by decide) (by omega)) (fun a ha => vo _ (by unfold sA; omega) (by unfold sA; omega)) h216]
        exact hh
      · have c1 : nodN (app3 S (306 + 3 * nodN S) 17 (nodN S) p1 p2 p3) = nodN S + 1 := by show (_ : Int32).toNatClampNeg = _; rw [vq, nI_c (by omega)]
        have c2 : recN (app3 S (306 + 3 * nodN S) 17 (nodN S) p1 p2 p3) = recN S := by unfold recN; rw [vo 15 (by decide) (by omega)]
        have c3 : tolN (app3 S (306 + 3 * nodN S) 17 (nodN S) p1 p2 p3) = tolN S := by unfold tolN; rw [vo 18 (by decide) (by omega)]
        have c4 : phN (app3 S (306 + 3 * nodN S) 17 (nodN S) p1 p2 p3) = phN S := by unfold phN; rw [vo 14 (by decide) (by omega)]
        unfold live at hh ⊢
        rw [c1, c2, c3, c4] at hh
        rw [if_neg (by omega), if_neg h216] at hh ⊢
        by_cases h234 : p < 234
        · rw [if_pos h234] at hh ⊢; exact hh
        rw [if_neg h234] at hh ⊢
        by_cases h306 : p < 306
        · rw [if_pos h306] at hh ⊢; exact hh
        rw [if_neg h306] at hh ⊢
        by_cases h321 : p < 321
        · rw [if_pos h321] at hh ⊢
          have := of_decide_eq_true hh
          exact decide_eq_true (by omega)
        · rw [if_neg h321] at hh ⊢
          exact hh)
  have e2 : ∀ (W : Nat → Nat → Int32) (w : Nat → Int32), va_up W (96 + 2 * nodN S) w (96 + 2 * nodN S) = w := fun W w => if_pos rfl
  have g0 := nI_in (c := 0) (N := 3) (by decide) (by decide)
  have g1 := nI_in (c := 1) (N := 3) (by decide) (by decide)
  have g2 := nI_in (c := 2) (N := 3) (by decide) (by decide)
  refine ⟨_, _, _, apW (Wof S J) (96 + 2 * nodN S) 18 (nodN S) p1 p2 p3, (by rw [show (0 : Int32) = nI 0 from rfl]; unfold wh; rw [w_ndt_s _ _ hk, if_pos g0]), (by rw [show (1 : Int32) = nI 1 from rfl, w_ndt_s _ _ hk, if_pos g1]), (by rw [show (2 : Int32) = nI 2 from rfl, w_ndt_s _ _ hk, if_pos g2]), fun x hx => wR_out hx, ?_, ?_, ?_⟩
  · rw [e2, e2, va_up_up, va_up_up]
    have : ∀ w, va_up (Wof S J) (96 + 2 * nodN S) w 0 = Wof S J 0 := fun w => if_neg (by omega)
    rw [w_f18, this, wof_live (pos_0 (by decide)) (live_lo (Or.inl (by decide)))]
    rfl
  · rw [e2, e2, va_up_up, va_up_up, w_p18]
    unfold wh
    rw [wof_tells ht]
    rfl
  · exact ap_ok (by omega) (by omega) (by decide) hW (vo 13 (by decide) (by omega)) (vo 15 (by decide) (by omega)) (fun a c ha hc => (t1 a c (by omega) (by omega)).1) (fun a c ha => t2 a c (by omega))
end W18
