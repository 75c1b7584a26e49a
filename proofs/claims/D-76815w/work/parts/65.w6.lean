/-! w6: the class's World: the record is full; keepsGreen -/
set_option maxRecDepth 100000
theorem recN_24 {S : Nat → Int32} (h : S 15 = 24) : recN S = 24 := by unfold recN; rw [h]; rfl
theorem room_full {S : Nat → Int32} (h : S 15 = 24) : recN (roomF S) = 23 := by
  unfold roomF recN
  rw [if_pos h, upd_eq, nI_c (by decide)]
theorem room_rA {S : Nat → Int32} {r j : Nat} (h : S 15 = 24) (hr : r < 23) (hj : j < 3) : roomF S (rA r j) = S (rA (r + 1) j) := by
  unfold roomF
  rw [if_pos h, upd_ne (by unfold rA; omega)]
  unfold shN
  rw [if_pos (by unfold rA; omega)]
  congr 1
  unfold rA
  omega
theorem keep_full_W {S : Nat → Int32} {J : Nat → Nat → Int32} {a : Nat} (h24 : S 15 = 24) (hr : rtN J < 24) (ha : a < 8) :
    va_up (va_up (Wof S J) 0 (upd (Wof S J 0) 16 (nI ((rtN J + 1) % 24)))) (63 + rtN J) (up3 (Wof S J (63 + rtN J)) (nI a) (S (sA a 7)) (S 3)) = Wof (rowF (roomF S) a) (rtJ J) := by
  have e23 := room_full h24
  have hrec : recN (roomF S) < 24 := by omega
  have e15 : rowF (roomF S) a 15 = nI (23 + 1) := by rw [← e23]; exact upd_eq
  have er : recN (rowF (roomF S) a) = 24 := by
    show (rowF (roomF S) a 15).toNatClampNeg = _
    rw [e15, nI_c (by decide)]
  have e24 := recN_24 h24
  have e3 : roomF S 3 = S 3 := same_room 3 (by decide) (by omega)
  have e7 : roomF S (sA a 7) = S (sA a 7) := same_room _ (by unfold sA; omega) (by unfold sA; omega)
  have hJ : ∀ n j, ¬ (n = 0 ∧ j = 16) → rtJ J n j = J n j := rtJ_R.1
  funext n j
  by_cases hrc : 63 ≤ n ∧ n < 87
  · obtain ⟨s, rfl⟩ : ∃ s, n = 63 + s := ⟨n - 63, by omega⟩
    by_cases hj : j < 3
    · rw [wof_rc (by omega) hj, er, rtJ_rt, rowF_rA (by omega) hj hrec, if_pos (by omega), e23, e3, e7]
      by_cases hs : s = rtN J
      · have hq : (s + 24 - (rtN J + 1) % 24) % 24 = 23 := by omega
        rw [hq, if_pos rfl, ← hs]
        unfold va_up
        rw [if_pos rfl, up3_v]
        by_cases h2 : j = 2
        · rw [if_pos h2, if_pos h2]
        · rw [if_neg h2, if_neg h2]
          by_cases h1 : j = 1
          · rw [if_pos h1, if_pos h1]
          · rw [if_neg h1, if_neg h1, if_pos (by omega)]
      · have hq : (s + 24 - (rtN J + 1) % 24) % 24 ≠ 23 := by omega
        rw [if_neg hq, room_rA h24 (by omega) hj]
        unfold va_up
        rw [if_neg (by omega), if_neg (by omega), wof_rc (by omega) hj, e24, if_pos (by omega)]
        rw [show (s + 24 - (rtN J + 1) % 24) % 24 + 1 = (s + 24 - rtN J) % 24 by omega]
    · rw [wof_rc3 (by omega) hj, hJ _ _ (by omega)]
      unfold va_up
      by_cases hs : 63 + s = 63 + rtN J
      · rw [if_pos hs, up3_v, if_neg (by omega), if_neg (by omega), if_neg (by omega), ← hs, wof_rc3 (by omega) hj]
      · rw [if_neg hs, if_neg (by omega), wof_rc3 (by omega) hj]
  · have h1 : va_up (va_up (Wof S J) 0 (upd (Wof S J 0) 16 (nI ((rtN J + 1) % 24)))) (63 + rtN J) (up3 (Wof S J (63 + rtN J)) (nI a) (S (sA a 7)) (S 3)) n j = va_up (Wof S J) 0 (upd (Wof S J 0) 16 (nI ((rtN J + 1) % 24))) n j := by
      unfold va_up
      rw [if_neg (by omega)]
    rw [h1]
    by_cases h15 : n = 0 ∧ j = 15
    · obtain ⟨rfl, rfl⟩ := h15
      rw [wof_15, e15]
      simp only [va_up, if_true]
      rw [upd_ne (by decide), wof_15, h24]
      rfl
    · by_cases h16 : n = 0 ∧ j = 16
      · obtain ⟨rfl, rfl⟩ := h16
        rw [wof_16]
        simp [va_up, upd, rtJ]
      · rw [wof_rec (same_trans same_room (same_row hrec)) hJ (by omega) h15 h16]
        unfold va_up
        split
        · rename_i e; subst e; exact upd_ne (fun hj => h16 ⟨rfl, hj⟩)
        · rfl
def keepJ (S : Nat → Int32) (J : Nat → Nat → Int32) : Nat → Nat → Int32 := if S 15 = 24 then rtJ J else J
theorem keepJ_R {S : Nat → Int32} {J : Nat → Nat → Int32} (h : jOk J) : jR J (keepJ S J) := by
  unfold keepJ
  split
  · exact rtJ_R
  · exact jR_refl h
theorem keepJ_rr {S : Nat → Int32} {J : Nat → Nat → Int32} {a : Nat} (hr : rOk S) (h : rrOk S J) : rrOk (rowF (roomF S) a) (keepJ S J) := by
  unfold keepJ
  split
  · rename_i h24
    left
    have e15 : rowF (roomF S) a 15 = nI (recN (roomF S) + 1) := upd_eq
    show (rowF (roomF S) a 15).toNatClampNeg = _
    rw [e15, room_full h24, nI_c (by decide)]
  · rename_i h24
    right
    rcases h with h | h
    · exact absurd (by rw [hr.2, h]; rfl) h24
    · exact h
section W6
variable {G : gG} {h : gH} {b : Nat} {S : Nat → Int32} {J : Nat → Nat → Int32} {Q : Nat → Nat → Int64} {F : Nat} {W : Nat → Nat → Int32}
theorem w_green {s : Nat} {x y z : Int32} (hs : s < 24) : sp_X5_is G F (wR G h b W Q) (rcA b s) x y z = some (wR G h b (va_up W (63 + s) (up3 (W (63 + s)) x y z)) Q) := by
  have e2 : ∀ (W : Nat → Nat → Int32) (w : Nat → Int32), va_up W (63 + s) w (63 + s) = w := fun W w => if_pos rfl
  have e3 : ∀ (W : Nat → Nat → Int32) (w w' : Nat → Int32), va_up (va_up W (63 + s) w) (63 + s) w' = va_up W (63 + s) w' := by
    intro W w w'
    funext n
    unfold va_up
    split <;> rfl
  unfold sp_X5_is
  simp only [w_rcA_p0 _ hs, w_rcA_p1 _ hs, w_rcA_p2 _ hs, Option.bind_some, e2, e3]
  rfl
theorem x_keeps {a : Nat} (hJ : jOk J) (hrec : rOk S) (ha8 : a < 8) (ha : a < manyN S) (he : S (sA a 8) = S 3) : sp_X1_keepsGreen G F (wh G h b S J Q) b (nI a) = some (wh G h b (rowF (roomF S) a) (keepJ S J) Q) := by
  have em : ∀ x c : Int32, x - x / c * c = modV x c := fun _ _ => rfl
  have hr := hJ.1
  unfold sp_X1_keepsGreen keepJ
  by_cases h24 : S 15 = 24
  · have c1 : (24 : Int32) ≤ S 15 := by rw [h24]; decide
    have e1 : modV (J 0 16 + 1) 24 = nI ((rtN J + 1) % 24) := by
      rw [hJ.2, nI_1]
      exact modV_nI (d := 24) (by omega) (by decide) (by decide)
    have ea : gAr 7 (wh G h b S J Q) (b + 3) (J 0 16) = some (rcA b (rtN J)) := by rw [hJ.2]; exact x_a3 hr
    have r7 : va_up (Wof S J) 0 (upd (Wof S J 0) 16 (nI ((rtN J + 1) % 24))) (9 + 6 * a) 7 = S (sA a 7) := by
      unfold va_up
      rw [if_neg (by omega), wof_live (pos_s7 ha8) (live_s ha8 ha (by omega))]
    have r8 : va_up (Wof S J) 0 (upd (Wof S J 0) 16 (nI ((rtN J + 1) % 24))) (9 + 6 * a) 8 = S 3 := by
      unfold va_up
      rw [if_neg (by omega), wof_live (pos_s8 ha8) (live_s ha8 ha (by omega)), he]
    have r63 : va_up (Wof S J) 0 (upd (Wof S J 0) 16 (nI ((rtN J + 1) % 24))) (63 + rtN J) = Wof S J (63 + rtN J) := if_neg (by omega)
    rw [if_pos h24]
    simp only [x_is, if_true, Option.bind_some, x_f15, x_f16, x_f24, ea, c1, em, e1]
    unfold wh
    simp only [w_p16, Option.bind_some, w_f22, w_a1 ha8, w_sg_f7 ha8, w_sg_f8 ha8, w_rcA_is hr, if_true, w_green hr, r7, r8, r63, keep_full_W h24 hr ha8]
  · have hlt : recN S < 24 := by
      have := hrec.1
      rcases Nat.lt_or_ge (recN S) 24 with h | h
      · exact h
      · exact absurd (by rw [hrec.2, show recN S = 24 by omega]; rfl) h24
    have c1 : ¬ (24 : Int32) ≤ S 15 := by rw [hrec.2]; exact nI_ge (b := 24) hlt (by decide)
    have e1 : modV (J 0 16 + S 15) 24 = nI ((rtN J + recN S) % 24) := by
      rw [hJ.2, hrec.2, nI_add]
      exact modV_nI (d := 24) (by omega) (by decide) (by decide)
    have e2 : S 15 + 1 = nI (recN S + 1) := by rw [hrec.2, nI_1]
    have hs : (rtN J + recN S) % 24 < 24 := by omega
    have hroom : roomF S = S := by unfold roomF; rw [if_neg h24]
    have r7 : va_up (Wof S J) 0 (upd (Wof S J 0) 15 (nI (recN S + 1))) (9 + 6 * a) 7 = S (sA a 7) := by
      unfold va_up
      rw [if_neg (by omega), wof_live (pos_s7 ha8) (live_s ha8 ha (by omega))]
    have r8 : va_up (Wof S J) 0 (upd (Wof S J 0) 15 (nI (recN S + 1))) (9 + 6 * a) 8 = S 3 := by
      unfold va_up
      rw [if_neg (by omega), wof_live (pos_s8 ha8) (live_s ha8 ha (by omega)), he]
    have r63 : va_up (Wof S J) 0 (upd (Wof S J 0) 15 (nI (recN S + 1))) (63 + (rtN J + recN S) % 24) = Wof S J (63 + (rtN J + recN S) % 24) := if_neg (by omega)
    rw [if_neg h24, hroom]
    simp only [x_is, if_true, Option.bind_some, x_f15, x_f16, x_f24, c1, if_false, em, e1, e2, x_a3 hs]
    unfold wh
    simp only [w_p15, Option.bind_some, w_f22, w_a1 ha8, w_sg_f7 ha8, w_sg_f8 ha8, w_rcA_is hs, if_true, w_green hs, r7, r8, r63, keep_room_W hlt hr]
end W6
