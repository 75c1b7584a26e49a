/-! x36: the record's rows over a second -/
set_option maxRecDepth 100000
section Inv8
variable {C S T : Nat → Int32} {t : Nat}
theorem recs_ku (hu : keepU S T) (hr : rOk S) (h : recsOk S) : recsOk T := recs_same (hu 13 (by unfold freeK; omega)) (hu 15 (by unfold freeK; omega)) (fun k h1 h2 => hu k (by unfold freeK; omega)) hr h
theorem recs_upd {k : Nat} {x : Int32} (h13 : k ≠ 13) (h15 : k ≠ 15) (hk : k < 234 ∨ 306 ≤ k) (hr : rOk S) (h : recsOk S) : recsOk (upd S k x) := recs_same (upd_ne (Ne.symm h13)) (upd_ne (Ne.symm h15)) (fun j g1 g2 => upd_ne (by omega)) hr h
theorem recs_room (hr : rOk S) (h : recsOk S) : recsOk (roomF S) := by
  have h24 := hr.1
  have em : manyN (roomF S) = manyN S := many_same (keep_13 keep_room)
  intro r hrr
  rw [em]
  by_cases hf : S 15 = 24
  · rw [room_full hf] at hrr
    rw [room_rA hf hrr (by decide), room_rA hf hrr (by decide), room_rA hf hrr (by decide)]
    have e24 : recN S = 24 := by unfold recN; rw [hf]; rfl
    exact h (r + 1) (by omega)
  · have e : roomF S = S := if_neg hf
    rw [e] at hrr ⊢
    exact h r hrr
theorem recs_row {a e : Nat} (hrn : recN S < 24) (ha : a < manyN S) (e7 : S (sA a 7) = nI e) (e3 : S 3 = nI t) (he : e ≤ t) (ht : t < 2 ^ 30) (h : recsOk S) : recsOk (rowF S a) := by
  have ha8 : a < 2 ^ 31 ∨ True := Or.inr trivial
  have v0 : rowF S a (rA (recN S) 0) = nI a := by unfold rowF; rw [upd_ne (by unfold rA; omega), upd_ne (by unfold rA; omega), upd_ne (by unfold rA; omega), upd_eq]
  have v1 : rowF S a (rA (recN S) 1) = S (sA a 7) := by unfold rowF; rw [upd_ne (by unfold rA; omega), upd_ne (by unfold rA; omega), upd_eq]
  have v2 : rowF S a (rA (recN S) 2) = S 3 := by unfold rowF; rw [upd_ne (by unfold rA; omega), upd_eq]
  have vq : rowF S a 15 = nI (recN S + 1) := upd_eq
  have vo : ∀ p, p ≠ 15 → (p < rA (recN S) 0 ∨ rA (recN S) 0 + 3 ≤ p) → rowF S a p = S p := fun p g1 g2 => by unfold rowF; rw [upd_ne g1, upd_ne (by unfold rA at *; omega), upd_ne (by unfold rA at *; omega), upd_ne (by unfold rA at *; omega)]
  have er : recN (rowF S a) = recN S + 1 := by unfold recN at *; rw [vq]; exact nI_c (by omega)
  have em : manyN (rowF S a) = manyN S := many_same (vo 13 (by decide) (by unfold rA; omega))
  intro r hr
  rw [er] at hr
  rw [em]
  by_cases hl : r = recN S
  · rw [hl, v0, v1, v2]
    exact ⟨⟨a, ha, rfl⟩, e, t, he, ht, e7, e3⟩
  · rw [vo (rA r 0) (by unfold rA; omega) (by unfold rA; omega), vo (rA r 1) (by unfold rA; omega) (by unfold rA; omega), vo (rA r 2) (by unfold rA; omega) (by unfold rA; omega)]
    exact h r (by omega)
theorem recs_chg1 {p a : Nat} (ht : t < 2 ^ 30) (hn : numOk S t) (hm : mOk S) (hr : rOk S) (ha : a < manyN S) (h : recsOk S) : recsOk (chg1 p S a) := by
  have h8 : a < 8 := by have := hm.1; omega
  unfold chg1
  by_cases h1 : S (sA a 6) = 0
  · rw [if_pos h1]; exact h
  rw [if_neg h1]
  by_cases h2 : hasB (S (pA p 0)) (nI a)
  · rw [if_neg (nn h2)]; exact h
  rw [if_pos h2]
  obtain ⟨-, g6, g7, -, -, gb⟩ := hn.2 a ha
  have hne := gb (g6.resolve_left h1)
  obtain ⟨e, he, e7⟩ : ∃ e, e ≤ t ∧ S (sA a 7) = nI e := g7.resolve_left hne
  have hE : recsOk (endF S a) := recs_same (keep_13 (keep_end h8)) (endF_15) (fun k g1 g2 => by unfold endF; rw [upd_ne (by unfold sA; omega), upd_ne (by unfold sA; omega)]) hr h
  have hrE := rOk_end (a := a) hr
  have hR := recs_room hrE hE
  have kE : ∀ k, k = 3 ∨ k = sA a 7 ∨ k = 13 → roomF (endF S a) k = S k := fun k hk => by
    have e1 : roomF (endF S a) k = endF S a k := by
      unfold roomF
      split
      · rw [upd_ne (by unfold sA at hk; omega)]
        unfold shN
        rw [if_neg (by unfold sA at hk; omega)]
      · rfl
    rw [e1]
    unfold endF
    rw [upd_ne (by unfold sA at *; omega), upd_ne (by unfold sA at *; omega)]
  exact recs_row (roomF_ok hrE).1 (by rw [many_same (kE 13 (Or.inr (Or.inr rfl)))]; exact ha) ((kE _ (Or.inr (Or.inl rfl))).trans e7) ((kE 3 (Or.inl rfl)).trans hn.1) he ht hR
theorem recs_changes {p : Nat} (ht : t < 2 ^ 30) (hn : numOk S t) (hm : mOk S) (hr : rOk S) (hp : p < 6) (h : recsOk S) : recsOk (changesF S p) := by
  have h8 := hm.1
  have inv := it_inv (m := manyN S) (g := fun i s => chg1 p s i) (P := fun _ s => mOk s ∧ manyN s = manyN S ∧ rOk s ∧ numOk s t ∧ recsOk s) (fun i s hi hs => by
    obtain ⟨h1, h2, h3, h4, h5⟩ := hs
    have hk := keep_chg1 (p := p) (S := s) (a := i) (by omega) h3
    exact ⟨mOk_keep hk h1, (many_keep hk).trans h2, rOk_chg1 h3, numOk_chg1 h4 h1 h3 (by rw [h2]; exact hi), recs_chg1 ht h4 h1 h3 (by rw [h2]; exact hi) h5⟩) (manyN S) 0 S (by omega) ⟨hm, rfl, hr, hn, h⟩
  unfold changesF comesOnF
  rw [chgL_it]
  obtain ⟨h1, h2, h3, h4, h5⟩ := inv
  exact recs_upd (by unfold pA; omega) (by unfold pA; omega) (by unfold pA; omega) (rOk_15 (upd_ne (by decide)) h3) (recs_upd (by decide) (by decide) (by omega) h3 h5)
theorem recs_mid (ht : t < 2 ^ 30) (hS : secOk S) (hn : numOk S t) (h : recsOk S) : recsOk (midF S) := by
  unfold midF
  split
  · have n5 : numOk (upd S 5 (-5)) t := numOk_lo hn hS.1 (by decide) (by decide) (by omega)
    have hS5 := secOk_5 (x := -5) hS (Or.inl (by decide))
    have hx : nextP S < 6 := by have := nextP_lt hS.2.2.2.2.1 hS.2.1 hS.2.2.2.2.2.1; have := hS.2.1.1; omega
    have hc := recs_changes (p := nextP S) ht n5 hS5.1 hS5.2.2.1 hx (recs_upd (by decide) (by decide) (by omega) hS.2.2.1 h)
    unfold byCallsF
    split
    · exact h
    · split
      · split
        · split
          · exact h
          · exact hc
        · exact hc
      · exact hc
  · rename_i h6
    have hem := em_lt hS h6
    have hc := secOk_cut hS
    have n5 : numOk (cutF S) t := by
      unfold cutF
      split
      · exact hn
      · exact numOk_lo hn hS.1 (by decide) (by decide) (by omega)
    have r5 : recsOk (cutF S) := by
      unfold cutF
      split
      · exact h
      · exact recs_upd (by decide) (by decide) (by omega) hS.2.2.1 h
    unfold byEmF
    split
    · exact h
    · exact recs_changes ht n5 hc.1 hc.2.2.1 (by have := hS.2.1.1; omega) r5
theorem recs_sec (ht : t < 2 ^ 30) (hR : runOk S t) (h : recsOk S) : recsOk (secF C S) := by
  have r1 := runOk_coming hR
  have h1 : recsOk (comingF S) := recs_ku (ku_coming hR.1.1) hR.1.2.2.1 h
  have r2 := runOk_mid r1
  have h2 : recsOk (midF (comingF S)) := recs_mid ht r1.1 r1.2.2.1 h1
  have r3 := runOk_turning (C := C) (t := t) (by omega) r2
  have h3 : recsOk (turningF C (midF (comingF S))) := recs_ku (ku_turnL _ _ _ (by have := r2.1.1.1; omega)) r2.1.2.2.1 h2
  have h4 : recsOk (goingF (turningF C (midF (comingF S)))) := recs_ku (ku_goL _ _ _ (by have := r3.1.1.1; omega)) r3.1.2.2.1 h3
  have r4 := secOk_going r3.1
  show recsOk (tickF (goingF (turningF C (midF (comingF S)))))
  unfold tickF
  exact recs_upd (by decide) (by decide) (by omega) (rOk_15 (upd_ne (by decide)) r4.2.2.1) (recs_upd (by decide) (by decide) (by omega) r4.2.2.1 h4)
end Inv8
