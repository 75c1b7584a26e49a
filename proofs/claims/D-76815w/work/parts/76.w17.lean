/-! w17: a way goes on; a phase, a green told, a node more -/
set_option maxRecDepth 100000
section W17
variable {G : gG} {h : gH} {b : Nat} {S C : Nat → Int32} {J : Nat → Nat → Int32} {Q : Nat → Nat → Int64} {F : Nat}
/-- a World's rows as a's way goes on to c -/
def gmW (W : Nat → Nat → Int32) (a n c : Nat) : Nat → Nat → Int32 := R4 W a (upd (W (9 + 6 * a)) 4 (nI (n + 1))) (upd (W (11 + 6 * a)) n (nI c)) (upd (W (12 + 6 * a)) 1 1) (W (14 + 6 * a))
def gmQ (Q : Nat → Nat → Int64) (a c : Nat) : Nat → Nat → Int64 := va_up Q (13 + 6 * a) (seQ (Q (13 + 6 * a)) (nI c))
theorem gm_v {a n c : Nat} (en : cellsN S a = n) : goesOnF S a (nI c) (sA a 11) = nI (n + 1) ∧ goesOnF S a (nI c) (sA a (12 + n)) = nI c ∧ ∀ p, p ≠ sA a 11 → p ≠ sA a (12 + n) → goesOnF S a (nI c) p = S p := by
  subst en
  refine ⟨upd_eq, ?_, fun p h1 h2 => goesOnF_ne h1 h2⟩
  unfold goesOnF
  rw [upd_ne (by unfold sA; omega), upd_eq]
theorem gm_cells {a n c x : Nat} (ha : a < 8) (hx : x < 8) (hn : n < 8) (en : cellsN S a = n) : cellsN (goesOnF S a (nI c)) x = if x = a then n + 1 else cellsN S x := by
  obtain ⟨v1, v2, v3⟩ := gm_v (S := S) (c := c) en
  unfold cellsN
  by_cases hxa : x = a
  · subst hxa
    rw [v1, nI_c (by omega), if_pos rfl]
  · rw [v3 _ (by unfold sA; omega) (by unfold sA; omega), if_neg hxa]
theorem gm_many {a n c : Nat} (ha : a < 8) (en : cellsN S a = n) : manyN (goesOnF S a (nI c)) = manyN S := by
  unfold manyN
  rw [(gm_v en).2.2 13 (by unfold sA; omega) (by unfold sA; omega)]
theorem gm_tells {a n c : Nat} (hr : rtN J < 24) (ha8 : a < 8) (hn : n < 8) (en : cellsN S a = n) : tells (goesOnF S a (nI c)) (gmW (Wof S J) a n c) := by
  obtain ⟨v1, v2, v3⟩ := gm_v (S := S) (c := c) en
  have e0 : gmW (Wof S J) a n c 0 = Wof S J 0 := R4_ne (by omega) (by omega) (by omega) (by omega)
  have ert : rtN (gmW (Wof S J) a n c) = rtN J := by
    unfold rtN
    rw [e0, wof_16]
  refine tells_ext (S := S) (W := Wof S J) hr rtN_wof ert tells_wof (fun p hl => ?_)
  obtain ⟨r1, r2, r3⟩ := iv_row (rt := rtN J) (p := p)
  by_cases h24 : p < 24
  · right
    have e1 := r1 h24
    refine ⟨live_lo (Or.inl h24), v3 p (by unfold sA; omega) (by unfold sA; omega), ?_⟩
    rw [e1, e0]
  · by_cases h216 : p < 216
    · obtain ⟨x, w, hx, hw, rfl⟩ := sA_split (by omega) h216
      rw [live_s' hx hw, gm_many ha8 en, gm_cells ha8 hx hn en] at hl
      have hl := of_decide_eq_true hl
      by_cases hxa : x = a
      · subst hxa
        rw [if_pos rfl] at hl
        have n9 : gmW (Wof S J) x n c (9 + 6 * x) = upd (Wof S J (9 + 6 * x)) 4 (nI (n + 1)) := R4_9
        have n11 : gmW (Wof S J) x n c (11 + 6 * x) = upd (Wof S J (11 + 6 * x)) n (nI c) := R4_11
        have n14 : gmW (Wof S J) x n c (14 + 6 * x) = Wof S J (14 + 6 * x) := R4_14
        by_cases h11 : w = 11
        · subst h11
          left
          rw [v1]
          rw [show iv (rtN J) (sA x 11) = (9 + 6 * x, 4) from iv_s hx hw]
          show gmW (Wof S J) x n c (9 + 6 * x) 4 = _
          rw [n9, upd_eq]
        · by_cases h12 : w = 12 + n
          · subst h12
            left
            rw [v2]
            have ei : iv (rtN J) (sA x (12 + n)) = (11 + 6 * x, n) := by
              rw [iv_s hx hw, if_neg (by omega), if_neg (by omega), if_neg (by omega), if_neg (by omega), if_neg (by omega), Nat.add_sub_cancel_left]
            rw [ei]
            show gmW (Wof S J) x n c (11 + 6 * x) n = _
            rw [n11, upd_eq]
          · right
            refine ⟨?_, v3 _ (by unfold sA; omega) (by unfold sA; omega), ?_⟩
            · rw [live_s' hx hw]
              exact decide_eq_true ⟨hl.1, by omega⟩
            · rw [iv_s hx hw]
              by_cases c0 : w = 0
              · rw [if_pos c0]
                show gmW (Wof S J) x n c (9 + 6 * x) 0 = _
                rw [n9, upd_ne (by decide)]
              rw [if_neg c0]
              by_cases c5 : w < 5
              · rw [if_pos c5]
                show gmW (Wof S J) x n c (14 + 6 * x) (w - 1) = _
                rw [n14]
              rw [if_neg c5]
              by_cases c11 : w < 11
              · rw [if_pos c11]
                show gmW (Wof S J) x n c (9 + 6 * x) w = _
                rw [n9, upd_ne (by omega)]
              rw [if_neg c11, if_neg h11]
              by_cases c20 : w = 20
              · rw [if_pos c20]
                show gmW (Wof S J) x n c (9 + 6 * x) 11 = _
                rw [n9, upd_ne (by decide)]
              rw [if_neg c20]
              show gmW (Wof S J) x n c (11 + 6 * x) (w - 12) = _
              rw [n11, upd_ne (by omega)]
      · right
        rw [if_neg hxa] at hl
        refine ⟨?_, v3 _ (by unfold sA; omega) (by unfold sA; omega), ?_⟩
        · rw [live_s' hx hw]
          exact decide_eq_true hl
        · have ea : (sA x w - 24) / 24 = x := by unfold sA; omega
          have hrow := r2 (by unfold sA; omega) h216
          rw [ea] at hrow
          have : gmW (Wof S J) a n c (iv (rtN J) (sA x w)).1 = Wof S J (iv (rtN J) (sA x w)).1 := R4_ne (by omega) (by omega) (by omega) (by omega)
          rw [this]
    · right
      have hrow := r3 (by omega)
      have : gmW (Wof S J) a n c (iv (rtN J) p).1 = Wof S J (iv (rtN J) p).1 := R4_ne (by omega) (by omega) (by omega) (by omega)
      refine ⟨?_, v3 p (by unfold sA; omega) (by unfold sA; omega), by rw [this]⟩
      rw [← live_hi (S := S) (T := goesOnF S a (nI c)) (by omega) (v3 14 (by unfold sA; omega) (by unfold sA; omega)) (v3 15 (by unfold sA; omega) (by unfold sA; omega)) (v3 17 (by unfold sA; omega) (by unfold sA; omega)) (v3 18 (by unfold sA; omega) (by unfold sA; omega))]
      exact hl
theorem gm_setOk {a n c : Nat} (hS : setOk S) (ha : a < manyN S) (hn : n < 8) (en : cellsN S a = n) (hc : c < 64) : setOk (goesOnF S a (nI c)) := by
  obtain ⟨h1, h2, h3, h4⟩ := hS
  have h8 := h1.1
  have ha8 : a < 8 := by omega
  obtain ⟨v1, v2, v3⟩ := gm_v (S := S) (c := c) en
  have em := gm_many (S := S) (c := c) ha8 en
  refine ⟨⟨by rw [em]; exact h8, by rw [em, v3 13 (by unfold sA; omega) (by unfold sA; omega)]; exact h1.2⟩, rowOk_goesOn h2 (by omega), ?_, ?_⟩
  · obtain ⟨s, hs, es⟩ := h3
    exact ⟨s, hs, by rw [v3 1 (by unfold sA; omega) (by unfold sA; omega), es]⟩
  · intro x hx i hi
    rw [em] at hx
    rw [gm_cells ha8 (by omega) hn en] at hi
    by_cases hxa : x = a
    · subst hxa
      rw [if_pos rfl] at hi
      by_cases hin : i = n
      · subst hin; exact ⟨c, hc, v2⟩
      · rw [v3 _ (by unfold sA; omega) (by unfold sA; omega)]
        exact h4 x hx i (by omega)
    · rw [if_neg hxa] at hi
      have h8' := (h2 x (by omega)).cells.1
      rw [v3 _ (by unfold sA; omega) (by unfold sA; omega)]
      exact h4 x hx i hi
theorem plc_app {T : Nat → Int32} {a n : Nat} {x : Int32} (hn : n < 2 ^ 31) (e : ∀ j, j < n → T (sA a (12 + j)) = S (sA a (12 + j))) : ∀ (m i : Nat), m + i = n → plc T a x (m + 1) i = if 0 ≤ plc S a x m i then plc S a x m i else if T (sA a (12 + n)) = x then nI n else -5 := by
  intro m
  induction m with
  | zero =>
    intro i hi
    obtain rfl : i = n := by omega
    show (if T (sA a (12 + i)) = x then nI i else -5) = if 0 ≤ (-5 : Int32) then -5 else if T (sA a (12 + i)) = x then nI i else -5
    rw [if_neg (show ¬ 0 ≤ (-5 : Int32) by decide)]
  | succ m ih =>
    intro i hi
    rw [plc, ih (i + 1) (by omega), e i (by omega)]
    rw [show plc S a x (m + 1) i = if S (sA a (12 + i)) = x then nI i else plc S a x m (i + 1) from rfl]
    by_cases h1 : S (sA a (12 + i)) = x
    · rw [if_pos h1, if_pos h1, if_pos (nI_pos' (by omega))]
    · rw [if_neg h1, if_neg h1]
theorem gm_bits {a n c : Nat} (hS : setOk S) (ha : a < manyN S) (hn : n < 8) (en : cellsN S a = n) (hc : c < 64) (hB : bsOk S Q) : bsOk (goesOnF S a (nI c)) (gmQ Q a c) := by
  obtain ⟨v1, v2, v3⟩ := gm_v (S := S) (c := c) en
  have h8 := hS.1.1
  have ha8 : a < 8 := by omega
  intro x hx z hz
  rw [gm_many ha8 en] at hx
  by_cases hxa : x = a
  · subst hxa
    have e1 : gmQ Q x c (13 + 6 * x) = seQ (Q (13 + 6 * x)) (nI c) := if_pos rfl
    have e2 : seQ (Q (13 + 6 * x)) (nI c) 0 = Q (13 + 6 * x) 0 ||| ((1 : Int64) <<< ((nI c).toInt64 &&& 63)) := rfl
    have hb := hB x hx z hz
    rw [e1, e2, or_bit hc hz, Bool.or_eq_true, hb, decide_eq_true_eq]
    have ep : placeV (goesOnF S x (nI c)) x (nI z) = if 0 ≤ placeV S x (nI z) then placeV S x (nI z) else if nI c = nI z then nI n else -5 := by
      unfold placeV
      rw [gm_cells ha8 ha8 hn en, if_pos rfl, en]
      have := plc_app (S := S) (T := goesOnF S x (nI c)) (a := x) (n := n) (x := nI z) (by omega) (fun j hj => v3 _ (by unfold sA; omega) (by unfold sA; omega)) n 0 (by omega)
      rw [this, v2]
    rw [ep]
    constructor
    · intro hh
      rcases hh with hh | hh
      · rw [if_pos hh]; exact hh
      · subst hh
        by_cases h0 : 0 ≤ placeV S x (nI z)
        · rw [if_pos h0]; exact h0
        · rw [if_neg h0, if_pos rfl]; exact nI_pos' (by omega)
    · intro hh
      by_cases h0 : 0 ≤ placeV S x (nI z)
      · exact Or.inl h0
      · rw [if_neg h0] at hh
        by_cases hcz : nI c = nI z
        · exact Or.inr ((nI_eq (by omega) (by omega)).mp hcz).symm
        · rw [if_neg hcz] at hh
          exact absurd hh (by decide)
  · have e1 : gmQ Q a c (13 + 6 * x) = Q (13 + 6 * x) := if_neg (by omega)
    have ep : placeV (goesOnF S a (nI c)) x (nI z) = placeV S x (nI z) := placeV_keep (fun w h1 h2 => v3 _ (by unfold sA; omega) (by unfold sA; omega)) (hS.2.1 x (by omega)).cells.1
    rw [e1, ep]
    exact hB x hx z hz
theorem gm_all {a n c : Nat} (ha8 : a < 8) (hA : bsAll J Q) : bsAll (gmW (Wof S J) a n c) (gmQ Q a c) := by
  intro x hx
  by_cases hxa : x = a
  · subst hxa
    have e1 : gmW (Wof S J) x n c (12 + 6 * x) = upd (Wof S J (12 + 6 * x)) 1 1 := R4_12
    rw [e1]
    exact Or.inr upd_eq
  · have e1 : gmQ Q a c (13 + 6 * x) = Q (13 + 6 * x) := if_neg (by omega)
    have e2 : gmW (Wof S J) a n c (12 + 6 * x) = Wof S J (12 + 6 * x) := R4_ne (by omega) (by omega) (by omega) (by omega)
    rw [e1, e2, wof_none (pos_w hx)]
    exact hA x hx
/-- a's way goes on to c, clears told anew -/
theorem x_goMore {a n c : Nat} (hF : 40 ≤ F) (hG : gI4 G) (hS : setOk S) (hW : wOk S J Q) (ha : a < manyN S) (hn : n < 8) (en : cellsN S a = n) (hc : c < 64) :
    ∃ K, sp_X2_goesOver G F (wh G h b S J Q) (sg b a) (nI c) = some (wh G h b (goesOnF S a (nI c)) (gmW (Wof S J) a n c) (gmQ Q a c)) ∧ sp_X1_settles G F (wh G h b (goesOnF S a (nI c)) (gmW (Wof S J) a n c) (gmQ Q a c)) b = some (wh G h b (goesOnF S a (nI c)) K (gmQ Q a c)) ∧ wOk (goesOnF S a (nI c)) K (gmQ Q a c) := by
  obtain ⟨w1, w2, w3, w4, w5⟩ := hW
  have h8 := hS.1.1
  have ha8 : a < 8 := by omega
  have hb : bsJ (Wof S J (12 + 6 * a) 1) (Q (13 + 6 * a) 0) := by rw [wof_none (pos_w ha8)]; exact w3 _ ha8
  have h4 : Wof S J (9 + 6 * a) 4 = nI n := by
    rw [wof_live (pos_s4 ha8) (live_s ha8 ha (by omega)), ← en]
    exact (hS.2.1 a ha8).cells.2
  have hS' := gm_setOk hS ha hn en hc
  have hB' := gm_bits hS ha hn en hc w4
  have hA' := gm_all (S := S) (n := n) (c := c) ha8 w3
  have ht := gm_tells (c := c) w1.1 (S := S) ha8 hn en
  have e0 : gmW (Wof S J) a n c 0 = Wof S J 0 := R4_ne (by omega) (by omega) (by omega) (by omega)
  obtain ⟨K, k1, k2, k3⟩ := x_settles (G := G) (h := h) (b := b) (F := F) hF hG hS'.1 hS'.2.1 hS'.2.2.1 hS'.2.2.2 hA' hB'
  refine ⟨K, ?_, k1, ?_⟩
  · unfold wh
    rw [r_goesOver ha8 hc hn h4 hb, wof_tells ht]
    rfl
  · have e16 : K 0 16 = J 0 16 := by rw [k2 0 (by decide), e0, wof_16]
    refine ⟨?_, ?_, bsAll_jC k2 hA', hB', k3⟩
    · unfold jOk rtN
      rw [e16]
      exact w1
    · unfold rrOk rtN at *
      rw [e16]
      unfold recN at *
      rw [(gm_v (S := S) (c := c) en).2.2 15 (by unfold sA; omega) (by unfold sA; omega)]
      exact w2
end W17
