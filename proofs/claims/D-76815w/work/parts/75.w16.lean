/-! w16: a new Signal in a World -/
set_option maxRecDepth 100000
/-- all that holds of a World, but for its numbers -/
def wOk (S : Nat → Int32) (J : Nat → Nat → Int32) (Q : Nat → Nat → Int64) : Prop := jOk J ∧ rrOk S J ∧ bsAll J Q ∧ bsOk S Q ∧ ∀ x y, x < manyN S → y < manyN S → J 8 (8 * x + y) = clearV S x y
/-- all that holds of a row that is set up -/
def setOk (S : Nat → Int32) : Prop := mOk S ∧ rowOk S ∧ safeOk S ∧ cellOk S
theorem bgF_v {f : Nat → Int32} {k j : Nat} : bgF f k j = if j = 11 then 0 else if j = 10 then 0 else if j = 9 then -5 else if j = 8 then -5 else if j = 7 then -5 else if j = 6 then 0 else if j = 5 then 0 else if j = 4 then 0 else if j = 0 then nI k else f j := rfl
theorem bgT_v {t : Nat → Int32} {j : Nat} : bgT t j = if j = 3 then 0 else if j = 2 then 3 else if j = 1 then 40 else if j = 0 then 5 else t j := rfl
def put0 (W : Nat → Nat → Int32) (j : Nat) (x : Int32) : Nat → Nat → Int32 := va_up W 0 (upd (W 0) j x)
theorem put0_0 {W : Nat → Nat → Int32} {j i : Nat} {x : Int32} : put0 W j x 0 i = if i = j then x else W 0 i := by
  unfold put0 va_up
  rw [if_pos rfl]
  rfl
theorem put0_n {W : Nat → Nat → Int32} {n j : Nat} {x : Int32} (hn : n ≠ 0) : put0 W j x n = W n := if_neg hn
section W16
variable {G : gG} {h : gH} {b : Nat} {S C : Nat → Int32} {J : Nat → Nat → Int32} {Q : Nat → Nat → Int64} {F : Nat}
theorem ns_many {k kd c : Nat} (ek : manyN S = k) (hk : k < 8) : manyN (nsS S kd c) = k + 1 := by
  unfold manyN
  rw [(nsS_v ek hk).2.2, nI_c (by omega)]
theorem ns_cells {k kd c a : Nat} (ek : manyN S = k) (hk : k < 8) (ha : a < 8) : cellsN (nsS S kd c) a = if a = k then 1 else cellsN S a := by
  unfold cellsN
  by_cases h : a = k
  · subst h
    have e : (if a = a then 1 else (S (sA a 11)).toNatClampNeg) = 1 := if_pos rfl
    rw [(nsS_v ek hk).1 11 (by decide), e]
    rfl
  · rw [(nsS_v ek hk).2.1 _ (by unfold sA; omega) (by unfold sA; omega), if_neg h]
theorem ns_tells {k kd c : Nat} (hr : rtN J < 24) (ek : manyN S = k) (hk : k < 8) (hkd : kd < 4) : tells (nsS S kd c) (put0 (nsW (Wof S J) k kd c) 13 (nI (k + 1))) := by
  obtain ⟨v1, v2, v3⟩ := nsS_v (S := S) (kd := kd) (c := c) ek hk
  have e0 : nsW (Wof S J) k kd c 0 = Wof S J 0 := R4_ne (by omega) (by omega) (by omega) (by omega)
  have ert : rtN (put0 (nsW (Wof S J) k kd c) 13 (nI (k + 1))) = rtN J := by
    unfold rtN
    rw [put0_0, if_neg (by decide), e0, wof_16]
  refine tells_ext (S := S) (W := Wof S J) hr rtN_wof ert tells_wof (fun p hl => ?_)
  obtain ⟨r1, r2, r3⟩ := iv_row (rt := rtN J) (p := p)
  by_cases h24 : p < 24
  · have e1 := r1 h24
    by_cases h13 : p = 13
    · subst h13
      left
      show put0 _ 13 _ 0 13 = _
      rw [put0_0, if_pos rfl, v3]
    · right
      refine ⟨live_lo (Or.inl h24), v2 p h13 (by omega), ?_⟩
      have e2 : (iv (rtN J) p).2 ≠ 13 := by
        intro e
        have : ∀ q : Fin 24, q.val ≠ 13 → (iv 0 q.val).2 ≠ 13 := by decide
        have e3 : iv (rtN J) p = iv 0 p := by
          unfold iv
          repeat' split
          all_goals first | rfl | omega
        rw [e3] at e
        exact this ⟨p, h24⟩ h13 e
      rw [e1, put0_0, if_neg e2, e0]
  · by_cases h216 : p < 216
    · obtain ⟨a, w, ha, hw, rfl⟩ := sA_split (by omega) h216
      rw [live_s' ha hw, ns_many ek hk, ns_cells ek hk ha] at hl
      have hl := of_decide_eq_true hl
      by_cases hak : a = k
      · subst hak
        left
        rw [if_pos rfl] at hl
        rw [v1 w hw, iv_s ha hw]
        have hn : ∀ n, n ≠ 0 → put0 (nsW (Wof S J) a kd c) 13 (nI (a + 1)) n = nsW (Wof S J) a kd c n := fun n hn => put0_n hn
        have n9 : nsW (Wof S J) a kd c (9 + 6 * a) = upd (bgF (Wof S J (9 + 6 * a)) kd) 4 (nI 1) := R4_9
        have n11 : nsW (Wof S J) a kd c (11 + 6 * a) = upd (Wof S J (11 + 6 * a)) 0 (nI c) := R4_11
        have n14 : nsW (Wof S J) a kd c (14 + 6 * a) = bgT (Wof S J (14 + 6 * a)) := R4_14
        have m9 := (hn (9 + 6 * a) (by omega)).trans n9
        have m11 := (hn (11 + 6 * a) (by omega)).trans n11
        have m14 := (hn (14 + 6 * a) (by omega)).trans n14
        rcases (show w = 0 ∨ w = 1 ∨ w = 2 ∨ w = 3 ∨ w = 4 ∨ w = 5 ∨ w = 6 ∨ w = 7 ∨ w = 8 ∨ w = 9 ∨ w = 10 ∨ w = 11 ∨ w = 12 ∨ w = 20 by omega) with e | e | e | e | e | e | e | e | e | e | e | e | e | e <;> subst e
        · show put0 _ 13 _ (9 + 6 * a) 0 = _
          rw [m9]; rfl
        · show put0 _ 13 _ (14 + 6 * a) 0 = _
          rw [m14]; rfl
        · show put0 _ 13 _ (14 + 6 * a) 1 = _
          rw [m14]; rfl
        · show put0 _ 13 _ (14 + 6 * a) 2 = _
          rw [m14]; rfl
        · show put0 _ 13 _ (14 + 6 * a) 3 = _
          rw [m14]; rfl
        · show put0 _ 13 _ (9 + 6 * a) 5 = _
          rw [m9]; rfl
        · show put0 _ 13 _ (9 + 6 * a) 6 = _
          rw [m9]; rfl
        · show put0 _ 13 _ (9 + 6 * a) 7 = _
          rw [m9]; rfl
        · show put0 _ 13 _ (9 + 6 * a) 8 = _
          rw [m9]; rfl
        · show put0 _ 13 _ (9 + 6 * a) 9 = _
          rw [m9]; rfl
        · show put0 _ 13 _ (9 + 6 * a) 10 = _
          rw [m9]; rfl
        · show put0 _ 13 _ (9 + 6 * a) 4 = _
          rw [m9]; rfl
        · show put0 _ 13 _ (11 + 6 * a) 0 = _
          rw [m11]; rfl
        · show put0 _ 13 _ (9 + 6 * a) 11 = _
          rw [m9]; rfl
      · right
        rw [if_neg hak] at hl
        refine ⟨?_, v2 _ (by unfold sA; omega) (by unfold sA; omega), ?_⟩
        · rw [live_s' ha hw]
          exact decide_eq_true ⟨by omega, hl.2⟩
        · have ea : (sA a w - 24) / 24 = a := by unfold sA; omega
          have hrow := r2 (by unfold sA; omega) h216
          rw [ea] at hrow
          have : nsW (Wof S J) k kd c (iv (rtN J) (sA a w)).1 = Wof S J (iv (rtN J) (sA a w)).1 := R4_ne (by omega) (by omega) (by omega) (by omega)
          rw [put0_n (by omega), this]
    · right
      have hrow := r3 (by omega)
      have : nsW (Wof S J) k kd c (iv (rtN J) p).1 = Wof S J (iv (rtN J) p).1 := R4_ne (by omega) (by omega) (by omega) (by omega)
      refine ⟨?_, v2 p (by omega) (by omega), ?_⟩
      · rw [← live_hi (S := S) (T := nsS S kd c) (by omega) (v2 14 (by decide) (by omega)) (v2 15 (by decide) (by omega)) (v2 17 (by decide) (by omega)) (v2 18 (by decide) (by omega))]
        exact hl
      · rw [put0_n (by omega), this]
theorem ns_setOk {kd c : Nat} (hS : setOk S) (hk : manyN S < 8) (hkd : kd < 4) (hc : c < 64) : setOk (nsS S kd c) := by
  obtain ⟨h1, h2, h3, h4⟩ := hS
  obtain ⟨v1, v2, v3⟩ := nsS_v (S := S) (kd := kd) (c := c) rfl hk
  have em := ns_many (S := S) (kd := kd) (c := c) rfl hk
  refine ⟨⟨by rw [em]; omega, by rw [em, v3]⟩, ?_, ?_, ?_⟩
  · have ok1 : rowOk (comesF S (manyN S) (nI kd) 5 40 3 0) := rowOk_comes h2 hkd
    exact rowOk_goesOn ok1 (by rw [cells_comes]; decide)
  · obtain ⟨s, hs, es⟩ := h3
    exact ⟨s, hs, by rw [v2 1 (by decide) (by omega), es]⟩
  · intro a ha i hi
    rw [em] at ha
    rw [ns_cells rfl hk (by omega)] at hi
    by_cases hak : a = manyN S
    · rw [if_pos hak] at hi
      obtain rfl : i = 0 := by omega
      exact ⟨c, hc, by rw [hak, v1 12 (by decide)]; rfl⟩
    · rw [if_neg hak] at hi
      have h8 := (h2 a (by omega)).cells.1
      rw [v2 _ (by unfold sA; omega) (by unfold sA; omega)]
      exact h4 a (by omega) i hi
theorem ns_place {k kd c a : Nat} {x : Int32} (h8 : cellsN S a ≤ 8) (ek : manyN S = k) (hk : k < 8) (ha : a < 8) (hak : a ≠ k) : placeV (nsS S kd c) a x = placeV S a x :=
  placeV_keep (fun w h1 h2 => (nsS_v ek hk).2.1 _ (by unfold sA; omega) (by unfold sA; omega)) h8
theorem ns_bits {kd c : Nat} (hS : setOk S) (hk : manyN S < 8) (hc : c < 64) (hB : bsOk S Q) : bsOk (nsS S kd c) (nsQ Q (manyN S) c) := by
  intro a ha z hz
  rw [ns_many rfl hk] at ha
  obtain ⟨v1, v2, v3⟩ := nsS_v (S := S) (kd := kd) (c := c) rfl hk
  by_cases hak : a = manyN S
  · subst hak
    have e1 : nsQ Q (manyN S) c (13 + 6 * manyN S) = seQ (emQ (Q (13 + 6 * manyN S))) (nI c) := if_pos rfl
    have e2 : seQ (emQ (Q (13 + 6 * manyN S))) (nI c) 0 = (0 : Int64) ||| ((1 : Int64) <<< ((nI c).toInt64 &&& 63)) := rfl
    rw [e1, e2, or_bit hc hz]
    have ec : cellsN (nsS S kd c) (manyN S) = 1 := by rw [ns_cells rfl hk hk, if_pos rfl]
    have ep : placeV (nsS S kd c) (manyN S) (nI z) = if nI c = nI z then nI 0 else -5 := by
      unfold placeV
      rw [ec]
      show (if nsS S kd c (sA (manyN S) (12 + 0)) = nI z then nI 0 else plc _ _ _ 0 1) = _
      rw [v1 (12 + 0) (by decide)]
      rfl
    rw [ep]
    by_cases hcz : z = c
    · subst hcz
      rw [if_pos rfl, decide_eq_true rfl, Bool.or_true]
      exact ⟨fun _ => by decide, fun _ => rfl⟩
    · rw [if_neg (fun e => hcz ((nI_eq (by omega) (by omega)).mp e).symm), decide_eq_false hcz]
      constructor
      · intro hh
        simp at hh
      · intro hh
        exact absurd hh (by decide)
  · have e1 : nsQ Q (manyN S) c (13 + 6 * a) = Q (13 + 6 * a) := if_neg (by omega)
    rw [e1, ns_place (hS.2.1 a (by omega)).cells.1 rfl hk (by omega) hak]
    exact hB a (by omega) z hz
theorem ns_all {kd c : Nat} (hk : manyN S < 8) (hA : bsAll J Q) : bsAll (put0 (nsW (Wof S J) (manyN S) kd c) 13 (nI (manyN S + 1))) (nsQ Q (manyN S) c) := by
  intro a ha
  rw [put0_n (by omega)]
  by_cases hak : a = manyN S
  · subst hak
    have e1 : nsW (Wof S J) (manyN S) kd c (12 + 6 * manyN S) = upd (emG (Wof S J (12 + 6 * manyN S))) 1 1 := R4_12
    rw [e1]
    exact Or.inr upd_eq
  · have e1 : nsQ Q (manyN S) c (13 + 6 * a) = Q (13 + 6 * a) := if_neg (by omega)
    have e2 : nsW (Wof S J) (manyN S) kd c (12 + 6 * a) = Wof S J (12 + 6 * a) := R4_ne (by omega) (by omega) (by omega) (by omega)
    rw [e1, e2, wof_none (pos_w ha)]
    exact hA a ha
/-- the World with a new Signal, clears told anew -/
theorem x_newSig {kd c : Nat} (hF : 40 ≤ F) (hG : gI4 G) (hS : setOk S) (hW : wOk S J Q) (hk : manyN S < 8) (hkd : kd < 4) (hc : c < 64) :
    ∃ H1 H2 K, sp_X2_begins G F (wh G h b S J Q) (sg b (manyN S)) (gS G kd) = some H1 ∧ gIs 2 H1 (sg b (manyN S)) = true ∧ sp_X2_goesOver G F H1 (sg b (manyN S)) (nI c) = some H2 ∧ (∀ x, x < b ∨ b + 105 ≤ x → H2 x = h x) ∧ gGi 1 H2 b 13 = some (S 13)
    ∧ gPv 1 H2 b 13 (.int (nI (manyN S + 1))) = some (wh G h b (nsS S kd c) (put0 (nsW (Wof S J) (manyN S) kd c) 13 (nI (manyN S + 1))) (nsQ Q (manyN S) c))
    ∧ sp_X1_settles G F (wh G h b (nsS S kd c) (put0 (nsW (Wof S J) (manyN S) kd c) 13 (nI (manyN S + 1))) (nsQ Q (manyN S) c)) b = some (wh G h b (nsS S kd c) K (nsQ Q (manyN S) c)) ∧ wOk (nsS S kd c) K (nsQ Q (manyN S) c) := by
  obtain ⟨w1, w2, w3, w4, w5⟩ := hW
  have hb : bsJ (Wof S J (12 + 6 * manyN S) 1) (Q (13 + 6 * manyN S) 0) := by rw [wof_none (pos_w hk)]; exact w3 _ hk
  have hS' := ns_setOk hS hk hkd hc
  have hB' := ns_bits (kd := kd) hS hk hc w4
  have hA' := ns_all (kd := kd) (c := c) hk w3
  have ht := ns_tells (c := c) w1.1 (S := S) rfl hk hkd
  have e0 : nsW (Wof S J) (manyN S) kd c 0 = Wof S J 0 := R4_ne (by omega) (by omega) (by omega) (by omega)
  obtain ⟨K, k1, k2, k3⟩ := x_settles (G := G) (h := h) (b := b) (F := F) hF hG hS'.1 hS'.2.1 hS'.2.2.1 hS'.2.2.2 hA' hB'
  refine ⟨_, _, K, r_begins (by omega) hk hkd hb, w_sg_is hk, r_newSig hk hc, fun x hx => wR_out hx, ?_, ?_, k1, ?_⟩
  · rw [w_f13, e0, wof_live (pos_0 (by decide)) (live_lo (Or.inl (by decide)))]
    rfl
  · rw [w_p13]
    unfold wh
    rw [wof_tells ht]
    rfl
  · have e16 : K 0 16 = J 0 16 := by
      rw [k2 0 (by decide), put0_0, if_neg (by decide), e0, wof_16]
    refine ⟨?_, ?_, bsAll_jC k2 hA', hB', k3⟩
    · unfold jOk rtN
      rw [e16]
      exact w1
    · unfold rrOk rtN at *
      rw [e16]
      unfold recN at *
      rw [(nsS_v (S := S) (kd := kd) (c := c) rfl hk).2.1 15 (by decide) (by omega)]
      exact w2
end W16
