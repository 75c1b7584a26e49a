/-! w2: a World told by the row S, where it is live, and by J elsewhere -/
set_option maxRecDepth 100000
def nodN (S : Nat → Int32) : Nat := (S 17).toNatClampNeg
def tolN (S : Nat → Int32) : Nat := (S 18).toNatClampNeg
def live (S : Nat → Int32) (p : Nat) : Bool :=
  if p < 24 then true
  else if p < 216 then decide ((p - 24) / 24 < manyN S ∧ ((p - 24) % 24 < 12 ∨ (p - 24) % 24 = 20 ∨ (p - 24) % 24 - 12 < cellsN S ((p - 24) / 24)))
  else if p < 234 then decide ((p - 216) / 3 < phN S)
  else if p < 306 then decide ((p - 234) / 3 < recN S)
  else if p < 321 then decide ((p - 306) / 3 < nodN S)
  else if p < 345 then decide ((p - 321) / 3 < tolN S)
  else true
def w0 (j : Nat) : Nat := if j < 8 then j + 2 else if j < 10 then j - 8 else if j < 16 then j else if j = 17 then 18 else if j = 18 then 17 else if j = 19 then 16 else if j = 20 then 19 else 20
def pos (rt n j : Nat) : Option Nat :=
  if n = 0 then (if j < 22 ∧ j ≠ 16 then some (w0 j) else none)
  else if n = 6 then (if j < 10 then some (345 + j) else none)
  else if n = 7 then (if j < 16 then some (355 + j) else none)
  else if n < 9 then none
  else if n < 57 then (if (n - 9) % 6 = 0 then (if j = 0 then some (sA ((n - 9) / 6) 0) else if j = 4 then some (sA ((n - 9) / 6) 11) else if 5 ≤ j ∧ j < 11 then some (sA ((n - 9) / 6) j) else if j = 11 then some (sA ((n - 9) / 6) 20) else none)
    else if (n - 9) % 6 = 2 then (if j < 8 then some (sA ((n - 9) / 6) (12 + j)) else none)
    else if (n - 9) % 6 = 5 then (if j < 4 then some (sA ((n - 9) / 6) (1 + j)) else none) else none)
  else if n < 63 then (if j < 3 then some (pA (n - 57) j) else none)
  else if n < 87 then (if j < 3 then some (rA ((n - 63 + 24 - rt) % 24) j) else none)
  else if n < 95 then (if j < 3 then some (321 + 3 * (n - 87) + j) else none)
  else if n < 105 ∧ (n - 95) % 2 = 1 then (if j < 3 then some (306 + 3 * ((n - 95) / 2) + j) else none)
  else none
def iv (rt p : Nat) : Nat × Nat :=
  if p < 2 then (0, p + 8) else if p < 10 then (0, p - 2) else if p < 16 then (0, p) else if p = 16 then (0, 19) else if p = 17 then (0, 18) else if p = 18 then (0, 17) else if p < 24 then (0, p + 1)
  else if p < 216 then (if (p - 24) % 24 = 0 then (9 + 6 * ((p - 24) / 24), 0) else if (p - 24) % 24 < 5 then (14 + 6 * ((p - 24) / 24), (p - 24) % 24 - 1) else if (p - 24) % 24 < 11 then (9 + 6 * ((p - 24) / 24), (p - 24) % 24)
    else if (p - 24) % 24 = 11 then (9 + 6 * ((p - 24) / 24), 4) else if (p - 24) % 24 = 20 then (9 + 6 * ((p - 24) / 24), 11) else (11 + 6 * ((p - 24) / 24), (p - 24) % 24 - 12))
  else if p < 234 then (57 + (p - 216) / 3, (p - 216) % 3)
  else if p < 306 then (63 + ((p - 234) / 3 + rt) % 24, (p - 234) % 3)
  else if p < 321 then (96 + 2 * ((p - 306) / 3), (p - 306) % 3)
  else if p < 345 then (87 + (p - 321) / 3, (p - 321) % 3)
  else if p < 355 then (6, p - 345) else (7, p - 355)
theorem iv_w0 {rt j : Nat} (h : j < 22 ∧ j ≠ 16) : iv rt (w0 j) = (0, j) := by
  obtain ⟨h1, h2⟩ := h
  rcases (show j = 0 ∨ j = 1 ∨ j = 2 ∨ j = 3 ∨ j = 4 ∨ j = 5 ∨ j = 6 ∨ j = 7 ∨ j = 8 ∨ j = 9 ∨ j = 10 ∨ j = 11 ∨ j = 12 ∨ j = 13 ∨ j = 14 ∨ j = 15 ∨ j = 17 ∨ j = 18 ∨ j = 19 ∨ j = 20 ∨ j = 21 by omega) with h | h | h | h | h | h | h | h | h | h | h | h | h | h | h | h | h | h | h | h | h <;> subst h <;> rfl
theorem iv_s {rt k w : Nat} (hk : k < 8) (hw : w < 24) : iv rt (sA k w) = if w = 0 then (9 + 6 * k, 0) else if w < 5 then (14 + 6 * k, w - 1) else if w < 11 then (9 + 6 * k, w) else if w = 11 then (9 + 6 * k, 4) else if w = 20 then (9 + 6 * k, 11) else (11 + 6 * k, w - 12) := by
  have e1 : (sA k w - 24) / 24 = k := by unfold sA; omega
  have e2 : (sA k w - 24) % 24 = w := by unfold sA; omega
  unfold iv
  rw [if_neg (by unfold sA; omega), if_neg (by unfold sA; omega), if_neg (by unfold sA; omega), if_neg (by unfold sA; omega), if_neg (by unfold sA; omega), if_neg (by unfold sA; omega), if_neg (by unfold sA; omega), if_pos (by unfold sA; omega), e1, e2]
theorem iv_hi {rt p : Nat} (hp : 216 ≤ p) : iv rt p = if p < 234 then (57 + (p - 216) / 3, (p - 216) % 3) else if p < 306 then (63 + ((p - 234) / 3 + rt) % 24, (p - 234) % 3) else if p < 321 then (96 + 2 * ((p - 306) / 3), (p - 306) % 3) else if p < 345 then (87 + (p - 321) / 3, (p - 321) % 3) else if p < 355 then (6, p - 345) else (7, p - 355) := by
  unfold iv
  rw [if_neg (by omega), if_neg (by omega), if_neg (by omega), if_neg (by omega), if_neg (by omega), if_neg (by omega), if_neg (by omega), if_neg (by omega)]
theorem pos_iv {rt n j p : Nat} (hr : rt < 24) (h : pos rt n j = some p) : iv rt p = (n, j) := by
  unfold pos at h
  by_cases h0 : n = 0
  · rw [if_pos h0] at h
    split at h
    · rename_i hj
      cases h
      rw [iv_w0 hj, h0]
    · cases h
  rw [if_neg h0] at h
  by_cases h6 : n = 6
  · rw [if_pos h6] at h
    split at h
    · cases h
      rw [iv_hi (by omega), if_neg (by omega), if_neg (by omega), if_neg (by omega), if_neg (by omega), if_pos (by omega), h6, Nat.add_sub_cancel_left]
    · cases h
  rw [if_neg h6] at h
  by_cases h7 : n = 7
  · rw [if_pos h7] at h
    split at h
    · cases h
      rw [iv_hi (by omega), if_neg (by omega), if_neg (by omega), if_neg (by omega), if_neg (by omega), if_neg (by omega), h7, Nat.add_sub_cancel_left]
    · cases h
  rw [if_neg h7] at h
  by_cases h9 : n < 9
  · rw [if_pos h9] at h
    cases h
  rw [if_neg h9] at h
  by_cases h57 : n < 57
  · rw [if_pos h57] at h
    have hk : (n - 9) / 6 < 8 := by omega
    by_cases m0 : (n - 9) % 6 = 0
    · rw [if_pos m0] at h
      have en : 9 + 6 * ((n - 9) / 6) = n := by omega
      by_cases j0 : j = 0
      · rw [if_pos j0] at h
        cases h
        rw [iv_s hk (by omega), if_pos rfl, en, j0]
      rw [if_neg j0] at h
      by_cases j4 : j = 4
      · rw [if_pos j4] at h
        cases h
        rw [iv_s hk (by omega), if_neg (by omega), if_neg (by omega), if_neg (by omega), if_pos rfl, en, j4]
      rw [if_neg j4] at h
      by_cases j5 : 5 ≤ j ∧ j < 11
      · rw [if_pos j5] at h
        cases h
        rw [iv_s hk (by omega), if_neg (by omega), if_neg (by omega), if_pos (by omega), en]
      rw [if_neg j5] at h
      by_cases j11 : j = 11
      · rw [if_pos j11] at h
        cases h
        rw [iv_s hk (by omega), if_neg (by omega), if_neg (by omega), if_neg (by omega), if_neg (by omega), if_pos rfl, en, j11]
      rw [if_neg j11] at h
      cases h
    rw [if_neg m0] at h
    by_cases m2 : (n - 9) % 6 = 2
    · rw [if_pos m2] at h
      have en : 11 + 6 * ((n - 9) / 6) = n := by omega
      split at h
      · cases h
        rw [iv_s hk (by omega), if_neg (by omega), if_neg (by omega), if_neg (by omega), if_neg (by omega), if_neg (by omega), en, Nat.add_sub_cancel_left]
      · cases h
    rw [if_neg m2] at h
    by_cases m5 : (n - 9) % 6 = 5
    · rw [if_pos m5] at h
      have en : 14 + 6 * ((n - 9) / 6) = n := by omega
      split at h
      · cases h
        rw [iv_s hk (by omega), if_neg (by omega), if_pos (by omega), en, Nat.add_sub_cancel_left]
      · cases h
    rw [if_neg m5] at h
    cases h
  rw [if_neg h57] at h
  by_cases h63 : n < 63
  · rw [if_pos h63] at h
    split at h
    · cases h
      rw [iv_hi (by unfold pA; omega), if_pos (by unfold pA; omega)]
      simp only [Prod.mk.injEq]
      unfold pA
      omega
    · cases h
  rw [if_neg h63] at h
  by_cases h87 : n < 87
  · rw [if_pos h87] at h
    split at h
    · cases h
      rw [iv_hi (by unfold rA; omega), if_neg (by unfold rA; omega), if_pos (by unfold rA; omega)]
      simp only [Prod.mk.injEq]
      unfold rA
      omega
    · cases h
  rw [if_neg h87] at h
  by_cases h95 : n < 95
  · rw [if_pos h95] at h
    split at h
    · cases h
      rw [iv_hi (by omega), if_neg (by omega), if_neg (by omega), if_neg (by omega), if_pos (by omega)]
      simp only [Prod.mk.injEq]
      omega
    · cases h
  rw [if_neg h95] at h
  by_cases h105 : n < 105 ∧ (n - 95) % 2 = 1
  · rw [if_pos h105] at h
    split at h
    · cases h
      rw [iv_hi (by omega), if_neg (by omega), if_neg (by omega), if_pos (by omega)]
      simp only [Prod.mk.injEq]
      omega
    · cases h
  rw [if_neg h105] at h
  cases h
theorem pos_inj {rt n j n' j' p : Nat} (hr : rt < 24) (h : pos rt n j = some p) (h' : pos rt n' j' = some p) : n' = n ∧ j' = j := by
  have e := (pos_iv hr h).symm.trans (pos_iv hr h')
  exact ⟨(congrArg Prod.fst e).symm, (congrArg Prod.snd e).symm⟩
def rtN (J : Nat → Nat → Int32) : Nat := (J 0 16).toNatClampNeg
def Wof (S : Nat → Int32) (J : Nat → Nat → Int32) (n j : Nat) : Int32 := match pos (rtN J) n j with
  | some p => if live S p = true then S p else J n j
  | none => J n j
def wh (G : gG) (h : gH) (b : Nat) (S : Nat → Int32) (J : Nat → Nat → Int32) (Q : Nat → Nat → Int64) : gH := wR G h b (Wof S J) Q
theorem wof_live {S : Nat → Int32} {J : Nat → Nat → Int32} {n j p : Nat} (hp : pos (rtN J) n j = some p) (hl : live S p = true) : Wof S J n j = S p := by
  unfold Wof
  rw [hp]
  exact if_pos hl
theorem wof_none {S : Nat → Int32} {J : Nat → Nat → Int32} {n j : Nat} (hp : pos (rtN J) n j = none) : Wof S J n j = J n j := by
  unfold Wof
  rw [hp]
/-- a number whose change changes no count -/
def cfree (p : Nat) : Prop := p ≠ 13 ∧ p ≠ 14 ∧ p ≠ 15 ∧ p ≠ 17 ∧ p ≠ 18 ∧ (p < 24 ∨ 216 ≤ p ∨ (p - 24) % 24 ≠ 11)
theorem live_upd {S : Nat → Int32} {p q : Nat} {x : Int32} (hp : cfree p) : live (upd S p x) q = live S q := by
  obtain ⟨h1, h2, h3, h4, h5, h6⟩ := hp
  have e1 : manyN (upd S p x) = manyN S := by unfold manyN; rw [upd_ne (by omega)]
  have e2 : phN (upd S p x) = phN S := by unfold phN; rw [upd_ne (by omega)]
  have e3 : recN (upd S p x) = recN S := by unfold recN; rw [upd_ne (by omega)]
  have e4 : nodN (upd S p x) = nodN S := by unfold nodN; rw [upd_ne (by omega)]
  have e5 : tolN (upd S p x) = tolN S := by unfold tolN; rw [upd_ne (by omega)]
  unfold live
  rw [e1, e2, e3, e4, e5]
  by_cases hq : q < 24
  · rw [if_pos hq, if_pos hq]
  · rw [if_neg hq, if_neg hq]
    by_cases hq2 : q < 216
    · rw [if_pos hq2, if_pos hq2]
      have e6 : cellsN (upd S p x) ((q - 24) / 24) = cellsN S ((q - 24) / 24) := by unfold cellsN; rw [upd_ne (by unfold sA; omega)]
      rw [e6]
    · rw [if_neg hq2, if_neg hq2]
theorem wof_put {S : Nat → Int32} {J : Nat → Nat → Int32} {n j p : Nat} {x : Int32} (hr : rtN J < 24) (hp : pos (rtN J) n j = some p) (hl : live S p = true) (hc : cfree p) :
    va_up (Wof S J) n (upd (Wof S J n) j x) = Wof (upd S p x) J := by
  funext n' j'
  by_cases e : n' = n ∧ j' = j
  · obtain ⟨rfl, rfl⟩ := e
    have e1 : Wof (upd S p x) J n' j' = x := by rw [wof_live hp (by rw [live_upd hc]; exact hl), upd_eq]
    rw [e1]
    simp [va_up, upd]
  · have e1 : va_up (Wof S J) n (upd (Wof S J n) j x) n' j' = Wof S J n' j' := by
      unfold va_up
      split
      · rename_i hn
        subst hn
        exact upd_ne (fun hj => e ⟨rfl, hj⟩)
      · rfl
    rw [e1]
    unfold Wof
    split
    · rename_i q hq
      have hne : q ≠ p := fun hqp => e (pos_inj hr hp (hqp ▸ hq))
      rw [live_upd hc, upd_ne hne]
    · rfl
/-- what is not live: J changes -/
theorem wof_junk {S : Nat → Int32} {J : Nat → Nat → Int32} {n j : Nat} {x : Int32} (h0 : ¬ (n = 0 ∧ j = 16)) (hp : ∀ p, pos (rtN J) n j = some p → live S p = false) :
    va_up (Wof S J) n (upd (Wof S J n) j x) = Wof S (va_up J n (upd (J n) j x)) := by
  have er : rtN (va_up J n (upd (J n) j x)) = rtN J := by
    unfold rtN va_up
    split
    · rename_i hn
      rw [upd_ne (fun hj => h0 ⟨hn.symm, hj.symm⟩), hn]
    · rfl
  funext n' j'
  unfold Wof
  rw [er]
  by_cases e : n' = n ∧ j' = j
  · obtain ⟨rfl, rfl⟩ := e
    have e2 : va_up J n' (upd (J n') j' x) n' j' = x := by simp [va_up, upd]
    rw [e2]
    have e1 : ∀ f : Nat → Nat → Int32, va_up f n' (upd (f n') j' x) n' j' = x := by intro f; simp [va_up, upd]
    rw [show va_up (fun n j => match pos (rtN J) n j with | some p => if live S p = true then S p else J n j | none => J n j) n' (upd (fun j => match pos (rtN J) n' j with | some p => if live S p = true then S p else J n' j | none => J n' j) j' x) n' j' = x from e1 _]
    cases hq : pos (rtN J) n' j' with
    | none => rfl
    | some p => simp [hp p hq]
  · have e1 : ∀ f : Nat → Nat → Int32, va_up f n (upd (f n) j x) n' j' = f n' j' := by
      intro f
      unfold va_up
      split
      · rename_i hn
        subst hn
        exact upd_ne (fun hj => e ⟨rfl, hj⟩)
      · rfl
    rw [e1 J]
    exact e1 _

theorem pos_0 {rt j : Nat} (h : j < 22 ∧ j ≠ 16) : pos rt 0 j = some (w0 j) := by unfold pos; rw [if_pos rfl, if_pos h]
theorem pos_6 {rt j : Nat} (h : j < 10) : pos rt 6 j = some (345 + j) := by unfold pos; rw [if_neg (by decide), if_pos rfl, if_pos h]
theorem pos_7 {rt j : Nat} (h : j < 16) : pos rt 7 j = some (355 + j) := by unfold pos; rw [if_neg (by decide), if_neg (by decide), if_pos rfl, if_pos h]
theorem pos_8 {rt j : Nat} : pos rt 8 j = none := by unfold pos; rw [if_neg (by decide), if_neg (by decide), if_neg (by decide), if_pos (by decide)]
theorem pos_s0 {rt k : Nat} (hk : k < 8) : pos rt (9 + 6 * k) (0) = some (sA k (0)) := by
  have e1 : (9 + 6 * k - 9) % 6 = 0 := by omega
  have e2 : (9 + 6 * k - 9) / 6 = k := by omega
  unfold pos
  rw [if_neg (by omega), if_neg (by omega), if_neg (by omega), if_neg (by omega), if_pos (by omega), e1, e2]
  rfl
theorem pos_s4 {rt k : Nat} (hk : k < 8) : pos rt (9 + 6 * k) (4) = some (sA k (11)) := by
  have e1 : (9 + 6 * k - 9) % 6 = 0 := by omega
  have e2 : (9 + 6 * k - 9) / 6 = k := by omega
  unfold pos
  rw [if_neg (by omega), if_neg (by omega), if_neg (by omega), if_neg (by omega), if_pos (by omega), e1, e2]
  rfl
theorem pos_s5 {rt k : Nat} (hk : k < 8) : pos rt (9 + 6 * k) (5) = some (sA k (5)) := by
  have e1 : (9 + 6 * k - 9) % 6 = 0 := by omega
  have e2 : (9 + 6 * k - 9) / 6 = k := by omega
  unfold pos
  rw [if_neg (by omega), if_neg (by omega), if_neg (by omega), if_neg (by omega), if_pos (by omega), e1, e2]
  rfl
theorem pos_s6 {rt k : Nat} (hk : k < 8) : pos rt (9 + 6 * k) (6) = some (sA k (6)) := by
  have e1 : (9 + 6 * k - 9) % 6 = 0 := by omega
  have e2 : (9 + 6 * k - 9) / 6 = k := by omega
  unfold pos
  rw [if_neg (by omega), if_neg (by omega), if_neg (by omega), if_neg (by omega), if_pos (by omega), e1, e2]
  rfl
theorem pos_s7 {rt k : Nat} (hk : k < 8) : pos rt (9 + 6 * k) (7) = some (sA k (7)) := by
  have e1 : (9 + 6 * k - 9) % 6 = 0 := by omega
  have e2 : (9 + 6 * k - 9) / 6 = k := by omega
  unfold pos
  rw [if_neg (by omega), if_neg (by omega), if_neg (by omega), if_neg (by omega), if_pos (by omega), e1, e2]
  rfl
theorem pos_s8 {rt k : Nat} (hk : k < 8) : pos rt (9 + 6 * k) (8) = some (sA k (8)) := by
  have e1 : (9 + 6 * k - 9) % 6 = 0 := by omega
  have e2 : (9 + 6 * k - 9) / 6 = k := by omega
  unfold pos
  rw [if_neg (by omega), if_neg (by omega), if_neg (by omega), if_neg (by omega), if_pos (by omega), e1, e2]
  rfl
theorem pos_s9 {rt k : Nat} (hk : k < 8) : pos rt (9 + 6 * k) (9) = some (sA k (9)) := by
  have e1 : (9 + 6 * k - 9) % 6 = 0 := by omega
  have e2 : (9 + 6 * k - 9) / 6 = k := by omega
  unfold pos
  rw [if_neg (by omega), if_neg (by omega), if_neg (by omega), if_neg (by omega), if_pos (by omega), e1, e2]
  rfl
theorem pos_s10 {rt k : Nat} (hk : k < 8) : pos rt (9 + 6 * k) (10) = some (sA k (10)) := by
  have e1 : (9 + 6 * k - 9) % 6 = 0 := by omega
  have e2 : (9 + 6 * k - 9) / 6 = k := by omega
  unfold pos
  rw [if_neg (by omega), if_neg (by omega), if_neg (by omega), if_neg (by omega), if_pos (by omega), e1, e2]
  rfl
theorem pos_s11 {rt k : Nat} (hk : k < 8) : pos rt (9 + 6 * k) (11) = some (sA k (20)) := by
  have e1 : (9 + 6 * k - 9) % 6 = 0 := by omega
  have e2 : (9 + 6 * k - 9) / 6 = k := by omega
  unfold pos
  rw [if_neg (by omega), if_neg (by omega), if_neg (by omega), if_neg (by omega), if_pos (by omega), e1, e2]
  rfl
theorem pos_c {rt k j : Nat} (hk : k < 8) (hj : j < 8) : pos rt (11 + 6 * k) (j) = some (sA k (12 + j)) := by
  have e1 : (11 + 6 * k - 9) % 6 = 2 := by omega
  have e2 : (11 + 6 * k - 9) / 6 = k := by omega
  unfold pos
  rw [if_neg (by omega), if_neg (by omega), if_neg (by omega), if_neg (by omega), if_pos (by omega), e1, e2]
  rw [if_neg (by decide), if_pos rfl, if_pos hj]
theorem pos_t {rt k j : Nat} (hk : k < 8) (hj : j < 4) : pos rt (14 + 6 * k) (j) = some (sA k (1 + j)) := by
  have e1 : (14 + 6 * k - 9) % 6 = 5 := by omega
  have e2 : (14 + 6 * k - 9) / 6 = k := by omega
  unfold pos
  rw [if_neg (by omega), if_neg (by omega), if_neg (by omega), if_neg (by omega), if_pos (by omega), e1, e2]
  rw [if_neg (by decide), if_neg (by decide), if_pos rfl, if_pos hj]
theorem pos_w {rt k j : Nat} (hk : k < 8) : pos rt (12 + 6 * k) j = none := by
  have e1 : (12 + 6 * k - 9) % 6 = 3 := by omega
  unfold pos
  rw [if_neg (by omega), if_neg (by omega), if_neg (by omega), if_neg (by omega), if_pos (by omega), e1]
  rfl
theorem pos_ph {rt k j : Nat} (hk : k < 6) (hj : j < 3) : pos rt (57 + k) j = some (pA k j) := by
  unfold pos
  rw [if_neg (by omega), if_neg (by omega), if_neg (by omega), if_neg (by omega), if_neg (by omega), if_pos (by omega), if_pos hj, Nat.add_sub_cancel_left]
theorem pos_rc {rt k j : Nat} (hk : k < 24) (hj : j < 3) : pos rt (63 + k) j = some (rA ((k + 24 - rt) % 24) j) := by
  unfold pos
  rw [if_neg (by omega), if_neg (by omega), if_neg (by omega), if_neg (by omega), if_neg (by omega), if_neg (by omega), if_pos (by omega), if_pos hj, Nat.add_sub_cancel_left]
theorem pos_tl {rt k j : Nat} (hk : k < 8) (hj : j < 3) : pos rt (87 + k) j = some (321 + 3 * k + j) := by
  unfold pos
  rw [if_neg (by omega), if_neg (by omega), if_neg (by omega), if_neg (by omega), if_neg (by omega), if_neg (by omega), if_neg (by omega), if_pos (by omega), if_pos hj, Nat.add_sub_cancel_left]
theorem pos_nd {rt k j : Nat} (hk : k < 5) (hj : j < 3) : pos rt (96 + 2 * k) j = some (306 + 3 * k + j) := by
  have e2 : (96 + 2 * k - 95) / 2 = k := by omega
  unfold pos
  rw [if_neg (by omega), if_neg (by omega), if_neg (by omega), if_neg (by omega), if_neg (by omega), if_neg (by omega), if_neg (by omega), if_neg (by omega), if_pos (by omega), if_pos hj, e2]
theorem live_lo {S : Nat → Int32} {p : Nat} (h : p < 24 ∨ 345 ≤ p) : live S p = true := by
  unfold live
  by_cases h1 : p < 24
  · rw [if_pos h1]
  · rw [if_neg h1, if_neg (by omega), if_neg (by omega), if_neg (by omega), if_neg (by omega), if_neg (by omega)]
theorem live_s {S : Nat → Int32} {k w : Nat} (hk : k < 8) (hm : k < manyN S) (hw : w < 12 ∨ w = 20) : live S (sA k w) = true := by
  have e1 : (sA k w - 24) / 24 = k := by unfold sA; omega
  have e2 : (sA k w - 24) % 24 = w := by unfold sA; omega
  unfold live
  rw [if_neg (by unfold sA; omega), if_pos (by unfold sA; omega), e1, e2]
  exact decide_eq_true ⟨hm, by omega⟩
theorem live_c {S : Nat → Int32} {k i : Nat} (hk : k < 8) (hm : k < manyN S) (hi : i < 8) (hc : i < cellsN S k) : live S (sA k (12 + i)) = true := by
  have e1 : (sA k (12 + i) - 24) / 24 = k := by unfold sA; omega
  have e2 : (sA k (12 + i) - 24) % 24 = 12 + i := by unfold sA; omega
  unfold live
  rw [if_neg (by unfold sA; omega), if_pos (by unfold sA; omega), e1, e2]
  exact decide_eq_true ⟨hm, by omega⟩
theorem live_p {S : Nat → Int32} {k w : Nat} (hk : k < 6) (hm : k < phN S) (hw : w < 3) : live S (pA k w) = true := by
  have e1 : (pA k w - 216) / 3 = k := by unfold pA; omega
  unfold live
  rw [if_neg (by unfold pA; omega), if_neg (by unfold pA; omega), if_pos (by unfold pA; omega), e1]
  exact decide_eq_true hm
theorem live_r {S : Nat → Int32} {k w : Nat} (hk : k < 24) (hm : k < recN S) (hw : w < 3) : live S (rA k w) = true := by
  have e1 : (rA k w - 234) / 3 = k := by unfold rA; omega
  unfold live
  rw [if_neg (by unfold rA; omega), if_neg (by unfold rA; omega), if_neg (by unfold rA; omega), if_pos (by unfold rA; omega), e1]
  exact decide_eq_true hm
theorem live_n {S : Nat → Int32} {k w : Nat} (hk : k < 5) (hm : k < nodN S) (hw : w < 3) : live S (306 + 3 * k + w) = true := by
  have e1 : (306 + 3 * k + w - 306) / 3 = k := by omega
  unfold live
  rw [if_neg (by omega), if_neg (by omega), if_neg (by omega), if_neg (by omega), if_pos (by omega), e1]
  exact decide_eq_true hm
theorem live_t {S : Nat → Int32} {k w : Nat} (hk : k < 8) (hm : k < tolN S) (hw : w < 3) : live S (321 + 3 * k + w) = true := by
  have e1 : (321 + 3 * k + w - 321) / 3 = k := by omega
  unfold live
  rw [if_neg (by omega), if_neg (by omega), if_neg (by omega), if_neg (by omega), if_neg (by omega), if_pos (by omega), e1]
  exact decide_eq_true hm
section W2
variable {G : gG} {h : gH} {b : Nat} {S : Nat → Int32} {J : Nat → Nat → Int32} {Q : Nat → Nat → Int64}
theorem x_is : gIs 1 (wh G h b S J Q) b = true := w_is
theorem x_f0 : gGi 1 (wh G h b S J Q) b 0 = some (S 2) := by unfold wh; rw [w_f0, wof_live (pos_0 (by decide)) (live_lo (Or.inl (by decide)))]; rfl
theorem x_p0 (x : Int32) (hr : rtN J < 24) : gPv 1 (wh G h b S J Q) b 0 (.int x) = some (wh G h b (upd S 2 x) J Q) := by unfold wh; rw [w_p0, wof_put hr (p := 2) (pos_0 (by decide)) (live_lo (Or.inl (by decide))) (by unfold cfree; omega)]
theorem x_f1 : gGi 1 (wh G h b S J Q) b 1 = some (S 3) := by unfold wh; rw [w_f1, wof_live (pos_0 (by decide)) (live_lo (Or.inl (by decide)))]; rfl
theorem x_p1 (x : Int32) (hr : rtN J < 24) : gPv 1 (wh G h b S J Q) b 1 (.int x) = some (wh G h b (upd S 3 x) J Q) := by unfold wh; rw [w_p1, wof_put hr (p := 3) (pos_0 (by decide)) (live_lo (Or.inl (by decide))) (by unfold cfree; omega)]
theorem x_f2 : gGi 1 (wh G h b S J Q) b 2 = some (S 4) := by unfold wh; rw [w_f2, wof_live (pos_0 (by decide)) (live_lo (Or.inl (by decide)))]; rfl
theorem x_p2 (x : Int32) (hr : rtN J < 24) : gPv 1 (wh G h b S J Q) b 2 (.int x) = some (wh G h b (upd S 4 x) J Q) := by unfold wh; rw [w_p2, wof_put hr (p := 4) (pos_0 (by decide)) (live_lo (Or.inl (by decide))) (by unfold cfree; omega)]
theorem x_f3 : gGi 1 (wh G h b S J Q) b 3 = some (S 5) := by unfold wh; rw [w_f3, wof_live (pos_0 (by decide)) (live_lo (Or.inl (by decide)))]; rfl
theorem x_p3 (x : Int32) (hr : rtN J < 24) : gPv 1 (wh G h b S J Q) b 3 (.int x) = some (wh G h b (upd S 5 x) J Q) := by unfold wh; rw [w_p3, wof_put hr (p := 5) (pos_0 (by decide)) (live_lo (Or.inl (by decide))) (by unfold cfree; omega)]
theorem x_f4 : gGi 1 (wh G h b S J Q) b 4 = some (S 6) := by unfold wh; rw [w_f4, wof_live (pos_0 (by decide)) (live_lo (Or.inl (by decide)))]; rfl
theorem x_p4 (x : Int32) (hr : rtN J < 24) : gPv 1 (wh G h b S J Q) b 4 (.int x) = some (wh G h b (upd S 6 x) J Q) := by unfold wh; rw [w_p4, wof_put hr (p := 6) (pos_0 (by decide)) (live_lo (Or.inl (by decide))) (by unfold cfree; omega)]
theorem x_f5 : gGi 1 (wh G h b S J Q) b 5 = some (S 7) := by unfold wh; rw [w_f5, wof_live (pos_0 (by decide)) (live_lo (Or.inl (by decide)))]; rfl
theorem x_p5 (x : Int32) (hr : rtN J < 24) : gPv 1 (wh G h b S J Q) b 5 (.int x) = some (wh G h b (upd S 7 x) J Q) := by unfold wh; rw [w_p5, wof_put hr (p := 7) (pos_0 (by decide)) (live_lo (Or.inl (by decide))) (by unfold cfree; omega)]
theorem x_f6 : gGi 1 (wh G h b S J Q) b 6 = some (S 8) := by unfold wh; rw [w_f6, wof_live (pos_0 (by decide)) (live_lo (Or.inl (by decide)))]; rfl
theorem x_p6 (x : Int32) (hr : rtN J < 24) : gPv 1 (wh G h b S J Q) b 6 (.int x) = some (wh G h b (upd S 8 x) J Q) := by unfold wh; rw [w_p6, wof_put hr (p := 8) (pos_0 (by decide)) (live_lo (Or.inl (by decide))) (by unfold cfree; omega)]
theorem x_f7 : gGi 1 (wh G h b S J Q) b 7 = some (S 9) := by unfold wh; rw [w_f7, wof_live (pos_0 (by decide)) (live_lo (Or.inl (by decide)))]; rfl
theorem x_p7 (x : Int32) (hr : rtN J < 24) : gPv 1 (wh G h b S J Q) b 7 (.int x) = some (wh G h b (upd S 9 x) J Q) := by unfold wh; rw [w_p7, wof_put hr (p := 9) (pos_0 (by decide)) (live_lo (Or.inl (by decide))) (by unfold cfree; omega)]
theorem x_f8 : gGi 1 (wh G h b S J Q) b 8 = some (S 0) := by unfold wh; rw [w_f8, wof_live (pos_0 (by decide)) (live_lo (Or.inl (by decide)))]; rfl
theorem x_p8 (x : Int32) (hr : rtN J < 24) : gPv 1 (wh G h b S J Q) b 8 (.int x) = some (wh G h b (upd S 0 x) J Q) := by unfold wh; rw [w_p8, wof_put hr (p := 0) (pos_0 (by decide)) (live_lo (Or.inl (by decide))) (by unfold cfree; omega)]
theorem x_f9 : gGi 1 (wh G h b S J Q) b 9 = some (S 1) := by unfold wh; rw [w_f9, wof_live (pos_0 (by decide)) (live_lo (Or.inl (by decide)))]; rfl
theorem x_p9 (x : Int32) (hr : rtN J < 24) : gPv 1 (wh G h b S J Q) b 9 (.int x) = some (wh G h b (upd S 1 x) J Q) := by unfold wh; rw [w_p9, wof_put hr (p := 1) (pos_0 (by decide)) (live_lo (Or.inl (by decide))) (by unfold cfree; omega)]
theorem x_f10 : gGi 1 (wh G h b S J Q) b 10 = some (S 10) := by unfold wh; rw [w_f10, wof_live (pos_0 (by decide)) (live_lo (Or.inl (by decide)))]; rfl
theorem x_p10 (x : Int32) (hr : rtN J < 24) : gPv 1 (wh G h b S J Q) b 10 (.int x) = some (wh G h b (upd S 10 x) J Q) := by unfold wh; rw [w_p10, wof_put hr (p := 10) (pos_0 (by decide)) (live_lo (Or.inl (by decide))) (by unfold cfree; omega)]
theorem x_f11 : gGi 1 (wh G h b S J Q) b 11 = some (S 11) := by unfold wh; rw [w_f11, wof_live (pos_0 (by decide)) (live_lo (Or.inl (by decide)))]; rfl
theorem x_p11 (x : Int32) (hr : rtN J < 24) : gPv 1 (wh G h b S J Q) b 11 (.int x) = some (wh G h b (upd S 11 x) J Q) := by unfold wh; rw [w_p11, wof_put hr (p := 11) (pos_0 (by decide)) (live_lo (Or.inl (by decide))) (by unfold cfree; omega)]
theorem x_f12 : gGi 1 (wh G h b S J Q) b 12 = some (S 12) := by unfold wh; rw [w_f12, wof_live (pos_0 (by decide)) (live_lo (Or.inl (by decide)))]; rfl
theorem x_p12 (x : Int32) (hr : rtN J < 24) : gPv 1 (wh G h b S J Q) b 12 (.int x) = some (wh G h b (upd S 12 x) J Q) := by unfold wh; rw [w_p12, wof_put hr (p := 12) (pos_0 (by decide)) (live_lo (Or.inl (by decide))) (by unfold cfree; omega)]
theorem x_f13 : gGi 1 (wh G h b S J Q) b 13 = some (S 13) := by unfold wh; rw [w_f13, wof_live (pos_0 (by decide)) (live_lo (Or.inl (by decide)))]; rfl
theorem x_f14 : gGi 1 (wh G h b S J Q) b 14 = some (S 14) := by unfold wh; rw [w_f14, wof_live (pos_0 (by decide)) (live_lo (Or.inl (by decide)))]; rfl
theorem x_f15 : gGi 1 (wh G h b S J Q) b 15 = some (S 15) := by unfold wh; rw [w_f15, wof_live (pos_0 (by decide)) (live_lo (Or.inl (by decide)))]; rfl
theorem x_f16 : gGi 1 (wh G h b S J Q) b 16 = some (J 0 16) := by unfold wh; rw [w_f16, wof_none rfl]
theorem x_f17 : gGi 1 (wh G h b S J Q) b 17 = some (S 18) := by unfold wh; rw [w_f17, wof_live (pos_0 (by decide)) (live_lo (Or.inl (by decide)))]; rfl
theorem x_f18 : gGi 1 (wh G h b S J Q) b 18 = some (S 17) := by unfold wh; rw [w_f18, wof_live (pos_0 (by decide)) (live_lo (Or.inl (by decide)))]; rfl
theorem x_f19 : gGi 1 (wh G h b S J Q) b 19 = some (S 16) := by unfold wh; rw [w_f19, wof_live (pos_0 (by decide)) (live_lo (Or.inl (by decide)))]; rfl
theorem x_p19 (x : Int32) (hr : rtN J < 24) : gPv 1 (wh G h b S J Q) b 19 (.int x) = some (wh G h b (upd S 16 x) J Q) := by unfold wh; rw [w_p19, wof_put hr (p := 16) (pos_0 (by decide)) (live_lo (Or.inl (by decide))) (by unfold cfree; omega)]
theorem x_f20 : gGi 1 (wh G h b S J Q) b 20 = some (S 19) := by unfold wh; rw [w_f20, wof_live (pos_0 (by decide)) (live_lo (Or.inl (by decide)))]; rfl
theorem x_p20 (x : Int32) (hr : rtN J < 24) : gPv 1 (wh G h b S J Q) b 20 (.int x) = some (wh G h b (upd S 19 x) J Q) := by unfold wh; rw [w_p20, wof_put hr (p := 19) (pos_0 (by decide)) (live_lo (Or.inl (by decide))) (by unfold cfree; omega)]
theorem x_f21 : gGi 1 (wh G h b S J Q) b 21 = some (S 20) := by unfold wh; rw [w_f21, wof_live (pos_0 (by decide)) (live_lo (Or.inl (by decide)))]; rfl
theorem x_p21 (x : Int32) (hr : rtN J < 24) : gPv 1 (wh G h b S J Q) b 21 (.int x) = some (wh G h b (upd S 20 x) J Q) := by unfold wh; rw [w_p21, wof_put hr (p := 20) (pos_0 (by decide)) (live_lo (Or.inl (by decide))) (by unfold cfree; omega)]
theorem x_f22 : gGr 1 (wh G h b S J Q) b 22 = some (b + 1) := w_f22
theorem x_f23 : gGr 1 (wh G h b S J Q) b 23 = some (b + 2) := w_f23
theorem x_f24 : gGr 1 (wh G h b S J Q) b 24 = some (b + 3) := w_f24
theorem x_f25 : gGr 1 (wh G h b S J Q) b 25 = some (b + 4) := w_f25
theorem x_f26 : gGr 1 (wh G h b S J Q) b 26 = some (b + 5) := w_f26
theorem x_f27 : gGr 1 (wh G h b S J Q) b 27 = some (b + 6) := w_f27
theorem x_f28 : gGr 1 (wh G h b S J Q) b 28 = some (b + 7) := w_f28
theorem x_f29 : gGr 1 (wh G h b S J Q) b 29 = some (b + 8) := w_f29
theorem x_a1 {k : Nat} (hk : k < 8) : gAr 5 (wh G h b S J Q) (b + 1) (nI k) = some (sg b k) := w_a1 hk
theorem x_a2 {k : Nat} (hk : k < 6) : gAr 6 (wh G h b S J Q) (b + 2) (nI k) = some (phA b k) := w_a2 hk
theorem x_a3 {k : Nat} (hk : k < 24) : gAr 7 (wh G h b S J Q) (b + 3) (nI k) = some (rcA b k) := w_a3 hk
theorem x_a4 {k : Nat} (hk : k < 8) : gAr 7 (wh G h b S J Q) (b + 4) (nI k) = some (tlA b k) := w_a4 hk
theorem x_a5 {k : Nat} (hk : k < 5) : gAr 8 (wh G h b S J Q) (b + 5) (nI k) = some (ndA b k) := w_a5 hk
theorem x_a6 {i : Nat} (hi : i < 10) : gAi 0 (wh G h b S J Q) (b + 6) (nI i) = some (S (345 + i)) := by unfold wh; rw [w_a6, if_pos (nI_in hi (by decide)), nI_c (by omega), wof_live (pos_6 hi) (live_lo (Or.inr (by omega)))]
theorem x_s6 {i : Nat} (x : Int32) (hr : rtN J < 24) (hi : i < 10) : gSi (wh G h b S J Q) (b + 6) (nI i) x = some (wh G h b (upd S (345 + i) x) J Q) := by unfold wh; rw [w_s6, if_pos (nI_in hi (by decide)), nI_c (by omega), wof_put hr (pos_6 hi) (live_lo (Or.inr (by omega))) (by unfold cfree; omega)]
theorem x_a7 {i : Nat} (hi : i < 16) : gAi 0 (wh G h b S J Q) (b + 7) (nI i) = some (S (355 + i)) := by unfold wh; rw [w_a7, if_pos (nI_in hi (by decide)), nI_c (by omega), wof_live (pos_7 hi) (live_lo (Or.inr (by omega)))]
theorem x_s7 {i : Nat} (x : Int32) (hr : rtN J < 24) (hi : i < 16) : gSi (wh G h b S J Q) (b + 7) (nI i) x = some (wh G h b (upd S (355 + i) x) J Q) := by unfold wh; rw [w_s7, if_pos (nI_in hi (by decide)), nI_c (by omega), wof_put hr (pos_7 hi) (live_lo (Or.inr (by omega))) (by unfold cfree; omega)]
theorem x_a8 {i : Nat} (hi : i < 64) : gAi 0 (wh G h b S J Q) (b + 8) (nI i) = some (J 8 i) := by unfold wh; rw [w_a8, if_pos (nI_in hi (by decide)), nI_c (by omega), wof_none pos_8]
theorem x_s8 {i : Nat} (x : Int32) (hi : i < 64) : gSi (wh G h b S J Q) (b + 8) (nI i) x = some (wh G h b S (va_up J 8 (upd (J 8) i x)) Q) := by unfold wh; rw [w_s8, if_pos (nI_in hi (by decide)), nI_c (by omega), wof_junk (by omega) (fun p hp => by rw [pos_8] at hp; cases hp)]
theorem x_sg_is {k : Nat} (hk : k < 8) : gIs 2 (wh G h b S J Q) (sg b k) = true := w_sg_is hk
theorem x_sg_f0 {k : Nat} (hk : k < 8) (hm : k < manyN S) : gGr 2 (wh G h b S J Q) (sg b k) 0 = some (gS G (kindN S k)) := by unfold wh; rw [w_sg_f0 hk, wof_live (pos_s0 hk) (live_s hk hm (by omega))]; rfl
theorem x_sg_f4 {k : Nat} (hk : k < 8) (hm : k < manyN S) : gGi 2 (wh G h b S J Q) (sg b k) 4 = some (S (sA k 11)) := by unfold wh; rw [w_sg_f4 hk, wof_live (pos_s4 hk) (live_s hk hm (by omega))]
theorem x_sg_f5 {k : Nat} (hk : k < 8) (hm : k < manyN S) : gGi 2 (wh G h b S J Q) (sg b k) 5 = some (S (sA k 5)) := by unfold wh; rw [w_sg_f5 hk, wof_live (pos_s5 hk) (live_s hk hm (by omega))]
theorem x_sg_p5 {k : Nat} (x : Int32) (hr : rtN J < 24) (hk : k < 8) (hm : k < manyN S) : gPv 2 (wh G h b S J Q) (sg b k) 5 (.int x) = some (wh G h b (upd S (sA k 5) x) J Q) := by unfold wh; rw [w_sg_p5 x hk, wof_put hr (pos_s5 hk) (live_s hk hm (by omega)) (by unfold cfree sA; omega)]
theorem x_sg_f6 {k : Nat} (hk : k < 8) (hm : k < manyN S) : gGi 2 (wh G h b S J Q) (sg b k) 6 = some (S (sA k 6)) := by unfold wh; rw [w_sg_f6 hk, wof_live (pos_s6 hk) (live_s hk hm (by omega))]
theorem x_sg_p6 {k : Nat} (x : Int32) (hr : rtN J < 24) (hk : k < 8) (hm : k < manyN S) : gPv 2 (wh G h b S J Q) (sg b k) 6 (.int x) = some (wh G h b (upd S (sA k 6) x) J Q) := by unfold wh; rw [w_sg_p6 x hk, wof_put hr (pos_s6 hk) (live_s hk hm (by omega)) (by unfold cfree sA; omega)]
theorem x_sg_f7 {k : Nat} (hk : k < 8) (hm : k < manyN S) : gGi 2 (wh G h b S J Q) (sg b k) 7 = some (S (sA k 7)) := by unfold wh; rw [w_sg_f7 hk, wof_live (pos_s7 hk) (live_s hk hm (by omega))]
theorem x_sg_p7 {k : Nat} (x : Int32) (hr : rtN J < 24) (hk : k < 8) (hm : k < manyN S) : gPv 2 (wh G h b S J Q) (sg b k) 7 (.int x) = some (wh G h b (upd S (sA k 7) x) J Q) := by unfold wh; rw [w_sg_p7 x hk, wof_put hr (pos_s7 hk) (live_s hk hm (by omega)) (by unfold cfree sA; omega)]
theorem x_sg_f8 {k : Nat} (hk : k < 8) (hm : k < manyN S) : gGi 2 (wh G h b S J Q) (sg b k) 8 = some (S (sA k 8)) := by unfold wh; rw [w_sg_f8 hk, wof_live (pos_s8 hk) (live_s hk hm (by omega))]
theorem x_sg_p8 {k : Nat} (x : Int32) (hr : rtN J < 24) (hk : k < 8) (hm : k < manyN S) : gPv 2 (wh G h b S J Q) (sg b k) 8 (.int x) = some (wh G h b (upd S (sA k 8) x) J Q) := by unfold wh; rw [w_sg_p8 x hk, wof_put hr (pos_s8 hk) (live_s hk hm (by omega)) (by unfold cfree sA; omega)]
theorem x_sg_f9 {k : Nat} (hk : k < 8) (hm : k < manyN S) : gGi 2 (wh G h b S J Q) (sg b k) 9 = some (S (sA k 9)) := by unfold wh; rw [w_sg_f9 hk, wof_live (pos_s9 hk) (live_s hk hm (by omega))]
theorem x_sg_p9 {k : Nat} (x : Int32) (hr : rtN J < 24) (hk : k < 8) (hm : k < manyN S) : gPv 2 (wh G h b S J Q) (sg b k) 9 (.int x) = some (wh G h b (upd S (sA k 9) x) J Q) := by unfold wh; rw [w_sg_p9 x hk, wof_put hr (pos_s9 hk) (live_s hk hm (by omega)) (by unfold cfree sA; omega)]
theorem x_sg_f10 {k : Nat} (hk : k < 8) (hm : k < manyN S) : gGi 2 (wh G h b S J Q) (sg b k) 10 = some (S (sA k 10)) := by unfold wh; rw [w_sg_f10 hk, wof_live (pos_s10 hk) (live_s hk hm (by omega))]
theorem x_sg_p10 {k : Nat} (x : Int32) (hr : rtN J < 24) (hk : k < 8) (hm : k < manyN S) : gPv 2 (wh G h b S J Q) (sg b k) 10 (.int x) = some (wh G h b (upd S (sA k 10) x) J Q) := by unfold wh; rw [w_sg_p10 x hk, wof_put hr (pos_s10 hk) (live_s hk hm (by omega)) (by unfold cfree sA; omega)]
theorem x_sg_f11 {k : Nat} (hk : k < 8) (hm : k < manyN S) : gGi 2 (wh G h b S J Q) (sg b k) 11 = some (S (sA k 20)) := by unfold wh; rw [w_sg_f11 hk, wof_live (pos_s11 hk) (live_s hk hm (by omega))]
theorem x_sg_p11 {k : Nat} (x : Int32) (hr : rtN J < 24) (hk : k < 8) (hm : k < manyN S) : gPv 2 (wh G h b S J Q) (sg b k) 11 (.int x) = some (wh G h b (upd S (sA k 20) x) J Q) := by unfold wh; rw [w_sg_p11 x hk, wof_put hr (pos_s11 hk) (live_s hk hm (by omega)) (by unfold cfree sA; omega)]
theorem x_sg_f1 {k : Nat} (hk : k < 8) : gGr 2 (wh G h b S J Q) (sg b k) 1 = some (sgc b k) := w_sg_f1 hk
theorem x_sg_f2 {k : Nat} (hk : k < 8) : gGr 2 (wh G h b S J Q) (sg b k) 2 = some (sgw b k) := w_sg_f2 hk
theorem x_sg_f3 {k : Nat} (hk : k < 8) : gGr 2 (wh G h b S J Q) (sg b k) 3 = some (sgt b k) := w_sg_f3 hk
theorem x_c {k i : Nat} (hk : k < 8) (hm : k < manyN S) (hi : i < 8) (hc : i < cellsN S k) : gAi 0 (wh G h b S J Q) (sgc b k) (nI i) = some (S (sA k (12 + i))) := by unfold wh; rw [w_sgc_a _ hk, if_pos (nI_in hi (by decide)), nI_c (by omega), wof_live (pos_c hk hi) (live_c hk hm hi hc)]
theorem x_t {k j : Nat} (hk : k < 8) (hm : k < manyN S) (hj : j < 4) : gAi 0 (wh G h b S J Q) (sgt b k) (nI j) = some (S (sA k (1 + j))) := by unfold wh; rw [w_sgt_a _ hk, if_pos (nI_in hj (by decide)), nI_c (by omega), wof_live (pos_t hk hj) (live_s hk hm (by omega))]
theorem x_ts {k j : Nat} (x : Int32) (hr : rtN J < 24) (hk : k < 8) (hm : k < manyN S) (hj : j < 4) : gSi (wh G h b S J Q) (sgt b k) (nI j) x = some (wh G h b (upd S (sA k (1 + j)) x) J Q) := by unfold wh; rw [w_sgt_s _ _ hk, if_pos (nI_in hj (by decide)), nI_c (by omega), wof_put hr (pos_t hk hj) (live_s hk hm (by omega)) (by unfold cfree sA; omega)]
theorem x_t0 {k : Nat} (hk : k < 8) (hm : k < manyN S) : gAi 0 (wh G h b S J Q) (sgt b k) (0 : Int32) = some (S (sA k 1)) := x_t hk hm (j := 0) (by decide)
theorem x_ts0 {k : Nat} (x : Int32) (hr : rtN J < 24) (hk : k < 8) (hm : k < manyN S) : gSi (wh G h b S J Q) (sgt b k) (0 : Int32) x = some (wh G h b (upd S (sA k 1) x) J Q) := x_ts x hr hk hm (j := 0) (by decide)
theorem x_t1 {k : Nat} (hk : k < 8) (hm : k < manyN S) : gAi 0 (wh G h b S J Q) (sgt b k) (1 : Int32) = some (S (sA k 2)) := x_t hk hm (j := 1) (by decide)
theorem x_ts1 {k : Nat} (x : Int32) (hr : rtN J < 24) (hk : k < 8) (hm : k < manyN S) : gSi (wh G h b S J Q) (sgt b k) (1 : Int32) x = some (wh G h b (upd S (sA k 2) x) J Q) := x_ts x hr hk hm (j := 1) (by decide)
theorem x_t2 {k : Nat} (hk : k < 8) (hm : k < manyN S) : gAi 0 (wh G h b S J Q) (sgt b k) (2 : Int32) = some (S (sA k 3)) := x_t hk hm (j := 2) (by decide)
theorem x_ts2 {k : Nat} (x : Int32) (hr : rtN J < 24) (hk : k < 8) (hm : k < manyN S) : gSi (wh G h b S J Q) (sgt b k) (2 : Int32) x = some (wh G h b (upd S (sA k 3) x) J Q) := x_ts x hr hk hm (j := 2) (by decide)
theorem x_t3 {k : Nat} (hk : k < 8) (hm : k < manyN S) : gAi 0 (wh G h b S J Q) (sgt b k) (3 : Int32) = some (S (sA k 4)) := x_t hk hm (j := 3) (by decide)
theorem x_ts3 {k : Nat} (x : Int32) (hr : rtN J < 24) (hk : k < 8) (hm : k < manyN S) : gSi (wh G h b S J Q) (sgt b k) (3 : Int32) x = some (wh G h b (upd S (sA k 4) x) J Q) := x_ts x hr hk hm (j := 3) (by decide)
theorem x_sgw_f1 {k : Nat} (hk : k < 8) : gGi 14 (wh G h b S J Q) (sgw b k) 1 = some (J (12 + 6 * k) 1) := by unfold wh; rw [w_sgw_f1 hk, wof_none (pos_w hk)]
theorem x_sgw_p1 {k : Nat} (x : Int32) (hk : k < 8) : gPv 14 (wh G h b S J Q) (sgw b k) 1 (.int x) = some (wh G h b S (va_up J (12 + 6 * k) (upd (J (12 + 6 * k)) 1 x)) Q) := by unfold wh; rw [w_sgw_p1 x hk, wof_junk (by omega) (fun p hp => by rw [pos_w hk] at hp; cases hp)]
theorem x_sgw_f2 {k : Nat} (hk : k < 8) : gGi 14 (wh G h b S J Q) (sgw b k) 2 = some (J (12 + 6 * k) 2) := by unfold wh; rw [w_sgw_f2 hk, wof_none (pos_w hk)]
theorem x_sgw_p2 {k : Nat} (x : Int32) (hk : k < 8) : gPv 14 (wh G h b S J Q) (sgw b k) 2 (.int x) = some (wh G h b S (va_up J (12 + 6 * k) (upd (J (12 + 6 * k)) 2 x)) Q) := by unfold wh; rw [w_sgw_p2 x hk, wof_junk (by omega) (fun p hp => by rw [pos_w hk] at hp; cases hp)]
theorem x_sgw_is {k : Nat} (hk : k < 8) : gIs 14 (wh G h b S J Q) (sgw b k) = true := w_sgw_is hk
theorem x_sgw_f0 {k : Nat} (hk : k < 8) : gGr 14 (wh G h b S J Q) (sgw b k) 0 = some (sgl b k) := w_sgw_f0 hk
theorem x_sgl_n {k : Nat} (hk : k < 8) : gAn 1 (wh G h b S J Q) (sgl b k) = some 1 := w_sgl_n hk
theorem x_sgl_a {k : Nat} (hk : k < 8) : gAl (wh G h b S J Q) (sgl b k) 0 = some (Q (13 + 6 * k) 0) := by unfold wh; rw [show (0 : Int32) = nI 0 from rfl, w_sgl_a _ hk, if_pos (nI_in (by decide) (by decide)), nI_c (by omega)]
theorem x_sgl_s {k : Nat} (x : Int64) (hk : k < 8) : gSl (wh G h b S J Q) (sgl b k) 0 x = some (wh G h b S J (va_up Q (13 + 6 * k) (vp_updL (Q (13 + 6 * k)) 0 x))) := by unfold wh; rw [show (0 : Int32) = nI 0 from rfl, w_sgl_s _ _ hk, if_pos (nI_in (by decide) (by decide)), nI_c (by omega)]
theorem x_ph_is {k : Nat} (hk : k < 6) : gIs 3 (wh G h b S J Q) (phA b k) = true := w_phA_is hk
theorem x_rc_is {k : Nat} (hk : k < 24) : gIs 4 (wh G h b S J Q) (rcA b k) = true := w_rcA_is hk
theorem x_tl_is {k : Nat} (hk : k < 8) : gIs 4 (wh G h b S J Q) (tlA b k) = true := w_tlA_is hk
theorem x_nd_is {k : Nat} (hk : k < 5) : gIs 5 (wh G h b S J Q) (ndA b k) = true := w_ndA_is hk
theorem x_nd_f0 {k : Nat} (hk : k < 5) : gGr 5 (wh G h b S J Q) (ndA b k) 0 = some (ndt b k) := w_ndA_f0 hk
theorem x_ph_f0 {k : Nat} (hk : k < 6) (hm : k < phN S) : gGi 3 (wh G h b S J Q) (phA b k) 0 = some (S (pA k 0)) := by unfold wh; rw [w_phA_f0 hk, wof_live (pos_ph hk (by decide)) (live_p hk hm (by decide))]
theorem x_ph_p0 {k : Nat} (x : Int32) (hr : rtN J < 24) (hk : k < 6) (hm : k < phN S) : gPv 3 (wh G h b S J Q) (phA b k) 0 (.int x) = some (wh G h b (upd S (pA k 0) x) J Q) := by unfold wh; rw [w_phA_p0 x hk, wof_put hr (pos_ph hk (by decide)) (live_p hk hm (by decide)) (by unfold cfree pA; omega)]
theorem x_rc_f0 {k : Nat} (hk : k < 24) (hm : (k + 24 - rtN J) % 24 < recN S) : gGi 4 (wh G h b S J Q) (rcA b k) 0 = some (S (rA ((k + 24 - rtN J) % 24) 0)) := by unfold wh; rw [w_rcA_f0 hk, wof_live (pos_rc hk (by decide)) (live_r (by omega) hm (by decide))]
theorem x_tl_f0 {k : Nat} (hk : k < 8) (hm : k < tolN S) : gGi 4 (wh G h b S J Q) (tlA b k) 0 = some (S (321 + 3 * k + 0)) := by unfold wh; rw [w_tlA_f0 hk, wof_live (pos_tl hk (by decide)) (live_t hk hm (by decide))]
theorem x_nd_0 {k : Nat} (hk : k < 5) (hm : k < nodN S) : gAi 0 (wh G h b S J Q) (ndt b k) (0 : Int32) = some (S (306 + 3 * k + 0)) := by unfold wh; rw [show (0 : Int32) = nI 0 from rfl, w_ndt_a _ hk, if_pos (nI_in (by decide) (by decide)), nI_c (by omega), wof_live (pos_nd hk (by decide)) (live_n hk hm (by decide))]
theorem x_nds_0 {k : Nat} (x : Int32) (hr : rtN J < 24) (hk : k < 5) (hm : k < nodN S) : gSi (wh G h b S J Q) (ndt b k) (0 : Int32) x = some (wh G h b (upd S (306 + 3 * k + 0) x) J Q) := by unfold wh; rw [show (0 : Int32) = nI 0 from rfl, w_ndt_s _ _ hk, if_pos (nI_in (by decide) (by decide)), nI_c (by omega), wof_put hr (pos_nd hk (by decide)) (live_n hk hm (by decide)) (by unfold cfree; omega)]
theorem x_ph_f1 {k : Nat} (hk : k < 6) (hm : k < phN S) : gGi 3 (wh G h b S J Q) (phA b k) 1 = some (S (pA k 1)) := by unfold wh; rw [w_phA_f1 hk, wof_live (pos_ph hk (by decide)) (live_p hk hm (by decide))]
theorem x_ph_p1 {k : Nat} (x : Int32) (hr : rtN J < 24) (hk : k < 6) (hm : k < phN S) : gPv 3 (wh G h b S J Q) (phA b k) 1 (.int x) = some (wh G h b (upd S (pA k 1) x) J Q) := by unfold wh; rw [w_phA_p1 x hk, wof_put hr (pos_ph hk (by decide)) (live_p hk hm (by decide)) (by unfold cfree pA; omega)]
theorem x_rc_f1 {k : Nat} (hk : k < 24) (hm : (k + 24 - rtN J) % 24 < recN S) : gGi 4 (wh G h b S J Q) (rcA b k) 1 = some (S (rA ((k + 24 - rtN J) % 24) 1)) := by unfold wh; rw [w_rcA_f1 hk, wof_live (pos_rc hk (by decide)) (live_r (by omega) hm (by decide))]
theorem x_tl_f1 {k : Nat} (hk : k < 8) (hm : k < tolN S) : gGi 4 (wh G h b S J Q) (tlA b k) 1 = some (S (321 + 3 * k + 1)) := by unfold wh; rw [w_tlA_f1 hk, wof_live (pos_tl hk (by decide)) (live_t hk hm (by decide))]
theorem x_nd_1 {k : Nat} (hk : k < 5) (hm : k < nodN S) : gAi 0 (wh G h b S J Q) (ndt b k) (1 : Int32) = some (S (306 + 3 * k + 1)) := by unfold wh; rw [show (1 : Int32) = nI 1 from rfl, w_ndt_a _ hk, if_pos (nI_in (by decide) (by decide)), nI_c (by omega), wof_live (pos_nd hk (by decide)) (live_n hk hm (by decide))]
theorem x_nds_1 {k : Nat} (x : Int32) (hr : rtN J < 24) (hk : k < 5) (hm : k < nodN S) : gSi (wh G h b S J Q) (ndt b k) (1 : Int32) x = some (wh G h b (upd S (306 + 3 * k + 1) x) J Q) := by unfold wh; rw [show (1 : Int32) = nI 1 from rfl, w_ndt_s _ _ hk, if_pos (nI_in (by decide) (by decide)), nI_c (by omega), wof_put hr (pos_nd hk (by decide)) (live_n hk hm (by decide)) (by unfold cfree; omega)]
theorem x_ph_f2 {k : Nat} (hk : k < 6) (hm : k < phN S) : gGi 3 (wh G h b S J Q) (phA b k) 2 = some (S (pA k 2)) := by unfold wh; rw [w_phA_f2 hk, wof_live (pos_ph hk (by decide)) (live_p hk hm (by decide))]
theorem x_ph_p2 {k : Nat} (x : Int32) (hr : rtN J < 24) (hk : k < 6) (hm : k < phN S) : gPv 3 (wh G h b S J Q) (phA b k) 2 (.int x) = some (wh G h b (upd S (pA k 2) x) J Q) := by unfold wh; rw [w_phA_p2 x hk, wof_put hr (pos_ph hk (by decide)) (live_p hk hm (by decide)) (by unfold cfree pA; omega)]
theorem x_rc_f2 {k : Nat} (hk : k < 24) (hm : (k + 24 - rtN J) % 24 < recN S) : gGi 4 (wh G h b S J Q) (rcA b k) 2 = some (S (rA ((k + 24 - rtN J) % 24) 2)) := by unfold wh; rw [w_rcA_f2 hk, wof_live (pos_rc hk (by decide)) (live_r (by omega) hm (by decide))]
theorem x_tl_f2 {k : Nat} (hk : k < 8) (hm : k < tolN S) : gGi 4 (wh G h b S J Q) (tlA b k) 2 = some (S (321 + 3 * k + 2)) := by unfold wh; rw [w_tlA_f2 hk, wof_live (pos_tl hk (by decide)) (live_t hk hm (by decide))]
theorem x_nd_2 {k : Nat} (hk : k < 5) (hm : k < nodN S) : gAi 0 (wh G h b S J Q) (ndt b k) (2 : Int32) = some (S (306 + 3 * k + 2)) := by unfold wh; rw [show (2 : Int32) = nI 2 from rfl, w_ndt_a _ hk, if_pos (nI_in (by decide) (by decide)), nI_c (by omega), wof_live (pos_nd hk (by decide)) (live_n hk hm (by decide))]
theorem x_nds_2 {k : Nat} (x : Int32) (hr : rtN J < 24) (hk : k < 5) (hm : k < nodN S) : gSi (wh G h b S J Q) (ndt b k) (2 : Int32) x = some (wh G h b (upd S (306 + 3 * k + 2) x) J Q) := by unfold wh; rw [show (2 : Int32) = nI 2 from rfl, w_ndt_s _ _ hk, if_pos (nI_in (by decide) (by decide)), nI_c (by omega), wof_put hr (pos_nd hk (by decide)) (live_n hk hm (by decide)) (by unfold cfree; omega)]
theorem x_nd {k j : Nat} (hk : k < 5) (hm : k < nodN S) (hj : j < 3) : gAi 0 (wh G h b S J Q) (ndt b k) (nI j) = some (S (306 + 3 * k + j)) := by unfold wh; rw [w_ndt_a _ hk, if_pos (nI_in hj (by decide)), nI_c (by omega), wof_live (pos_nd hk hj) (live_n hk hm hj)]
theorem x_nds {k j : Nat} (x : Int32) (hr : rtN J < 24) (hk : k < 5) (hm : k < nodN S) (hj : j < 3) : gSi (wh G h b S J Q) (ndt b k) (nI j) x = some (wh G h b (upd S (306 + 3 * k + j) x) J Q) := by unfold wh; rw [w_ndt_s _ _ hk, if_pos (nI_in hj (by decide)), nI_c (by omega), wof_put hr (pos_nd hk hj) (live_n hk hm hj) (by unfold cfree; omega)]
end W2
