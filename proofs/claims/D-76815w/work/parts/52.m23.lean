/-! m23: loops in general; a second: turns, ends, passes -/
set_option maxRecDepth 100000
def itN {α : Type} (g : Nat → α → α) : Nat → Nat → α → α
  | 0, _, s => s
  | n + 1, i, s => itN g n (i + 1) (g i s)
theorem it_loop {α R : Type} (L : Nat → Nat → α → Option R) (g : Nat → α → α) (P : Nat → α → Prop) (k : α → R) {m : Nat}
    (hs : ∀ i f s, i < m → P i s → L (f + 1) i s = L f (i + 1) (g i s)) (hP : ∀ i s, i < m → P i s → P (i + 1) (g i s)) (he : ∀ f s, P m s → L (f + 1) m s = some (k s)) :
    ∀ (n i f : Nat) (s : α), n + i = m → n < f → P i s → L f i s = some (k (itN g n i s)) := by
  intro n
  induction n with
  | zero =>
    intro i f s hi hf hp
    obtain ⟨f, rfl⟩ : ∃ z, f = z + 1 := ⟨f - 1, by omega⟩
    obtain rfl : i = m := by omega
    exact he f s hp
  | succ n ih =>
    intro i f s hi hf hp
    obtain ⟨f, rfl⟩ : ∃ z, f = z + 1 := ⟨f - 1, by omega⟩
    rw [hs i f s (by omega) hp]
    exact ih (i + 1) f (g i s) (by omega) (by omega) (hP i s (by omega) hp)
theorem it_inv {α : Type} {g : Nat → α → α} {P : Nat → α → Prop} {m : Nat} (hP : ∀ i s, i < m → P i s → P (i + 1) (g i s)) : ∀ (n i : Nat) (s : α), n + i = m → P i s → P m (itN g n i s) := by
  intro n
  induction n with
  | zero =>
    intro i s hi hp
    obtain rfl : i = m := by omega
    exact hp
  | succ n ih => intro i s hi hp; exact ih (i + 1) (g i s) (by omega) (hP i s (by omega) hp)
/-- a second changes neither these -/
def freeK (k : Nat) : Prop := k ≠ 0 ∧ k ≠ 8 ∧ k ≠ 9 ∧ (k < 24 ∨ 216 ≤ k)
def keepU (S T : Nat → Int32) : Prop := ∀ k, freeK k → T k = S k
theorem ku_refl {S : Nat → Int32} : keepU S S := fun _ _ => rfl
theorem ku_trans {S T U : Nat → Int32} (h1 : keepU S T) (h2 : keepU T U) : keepU S U := fun k hk => (h2 k hk).trans (h1 k hk)
theorem ku_upd {S : Nat → Int32} {k : Nat} {x : Int32} (hk : ¬ freeK k) : keepU S (upd S k x) := fun j hj => upd_ne (fun e => hk (e ▸ hj))
theorem ku_joins {S : Nat → Int32} {a : Nat} {n : Int32} (ha : a < 8) : keepU S (joinsF S a n) := ku_trans (ku_upd (by unfold freeK sA; omega)) (ku_upd (by unfold freeK; omega))
theorem ku_come1 {S : Nat → Int32} {a : Nat} (ha : a < 8) : keepU S (come1 S a) := by
  unfold come1
  split
  · exact ku_refl
  · split
    · exact ku_upd (by unfold freeK; omega)
    · exact ku_trans (ku_upd (by unfold freeK; omega)) (ku_joins ha)
theorem ku_comeL : ∀ (n i : Nat) (S : Nat → Int32), n + i ≤ 8 → keepU S (comeL n i S) := by
  intro n
  induction n with
  | zero => intro i S _; exact ku_refl
  | succ n ih => intro i S hi; exact ku_trans (ku_come1 (by omega)) (ih (i + 1) _ (by omega))
theorem ku_seen1 {S : Nat → Int32} {a : Nat} (ha : a < 8) : keepU S (seen1 S a) := by
  unfold seen1
  split
  · exact ku_refl
  · exact ku_upd (by unfold freeK sA; omega)
theorem ku_seenL : ∀ (n i : Nat) (S : Nat → Int32), n + i ≤ 8 → keepU S (seenL n i S) := by
  intro n
  induction n with
  | zero => intro i S _; exact ku_refl
  | succ n ih => intro i S hi; exact ku_trans (ku_seen1 (by omega)) (ih (i + 1) _ (by omega))
theorem ku_coming {S : Nat → Int32} (hm : mOk S) : keepU S (comingF S) := ku_trans (ku_comeL _ _ _ (by have := hm.1; omega)) (ku_seenL _ _ _ (by have := hm.1; omega))
theorem ku_turn1 {C S : Nat → Int32} {a : Nat} (ha : a < 8) : keepU S (turn1 C S a) := by
  unfold turn1 turnF
  split
  · exact ku_refl
  · split
    · exact ku_refl
    · split
      · exact ku_refl
      · exact ku_trans (ku_trans (ku_upd (by unfold freeK sA; omega)) (ku_upd (by unfold freeK sA; omega))) (ku_upd (by unfold freeK sA; omega))
theorem ku_turnL {C : Nat → Int32} : ∀ (n i : Nat) (S : Nat → Int32), n + i ≤ 8 → keepU S (turnL C n i S) := by
  intro n
  induction n with
  | zero => intro i S _; exact ku_refl
  | succ n ih => intro i S hi; exact ku_trans (ku_turn1 (by omega)) (ih (i + 1) _ (by omega))
theorem ku_go1 {S : Nat → Int32} {a : Nat} (ha : a < 8) : keepU S (go1 S a) := by
  unfold go1 goF
  split
  · exact ku_refl
  · exact ku_trans (ku_trans (ku_upd (by unfold freeK sA; omega)) (ku_upd (by unfold freeK sA; omega))) (ku_upd (by unfold freeK; omega))
theorem ku_goL : ∀ (n i : Nat) (S : Nat → Int32), n + i ≤ 8 → keepU S (goL n i S) := by
  intro n
  induction n with
  | zero => intro i S _; exact ku_refl
  | succ n ih => intro i S hi; exact ku_trans (ku_go1 (by omega)) (ih (i + 1) _ (by omega))
def emOk (S : Nat → Int32) : Prop := S 6 < 0 ∨ ∃ q, q < phN S ∧ firstV S (S 6) = nI q
def secOk (S : Nat → Int32) : Prop := mOk S ∧ pOk S ∧ rOk S ∧ onOk S ∧ onN S < phN S ∧ cutOk S ∧ emOk S
theorem ph_keep {S T : Nat → Int32} (hk : keepS S T) : phN T = phN S := by unfold phN; rw [keep_14 hk]
theorem emOk_keep {S T : Nat → Int32} (hk : keepS S T) (hp : pOk S) (he : emOk S) : emOk T := by
  have e6 : T 6 = S 6 := hk 6 (by unfold fixedK; omega)
  unfold emOk
  rw [e6, ph_keep hk, firstV_keep hk hp]
  exact he
theorem rOk_15 {S T : Nat → Int32} (h : T 15 = S 15) (hr : rOk S) : rOk T := by
  unfold rOk recN at *
  rw [h]
  exact hr
theorem secOk_keep {S T : Nat → Int32} (hk : keepS S T) (hu : keepU S T) (h : secOk S) : secOk T := by
  obtain ⟨h1, h2, h3, h4, h5, h6, h7⟩ := h
  have e4 : T 4 = S 4 := hu 4 (by unfold freeK; omega)
  have e5 : T 5 = S 5 := hu 5 (by unfold freeK; omega)
  have en : onN T = onN S := by unfold onN; rw [e4]
  refine ⟨mOk_keep hk h1, pOk_keep hk h2, rOk_15 (hu 15 (by unfold freeK; omega)) h3, ?_, ?_, ?_, emOk_keep hk h2 h7⟩
  · unfold onOk; rw [en, e4]; exact h4
  · rw [en, ph_keep hk]; exact h5
  · unfold cutOk; rw [e5, ph_keep hk]; exact h6
theorem keep_chgL {p : Nat} : ∀ (n i : Nat) (S : Nat → Int32), n + i ≤ 8 → rOk S → keepS S (chgL p n i S) ∧ rOk (chgL p n i S) := by
  intro n
  induction n with
  | zero => intro i S _ hr; exact ⟨keep_refl, hr⟩
  | succ n ih =>
    intro i S hi hr
    have := ih (i + 1) (chg1 p S i) (by omega) (rOk_chg1 hr)
    exact ⟨keep_trans (keep_chg1 (by omega) hr) this.1, this.2⟩
theorem chg1_lo {p : Nat} {S : Nat → Int32} {a k : Nat} (hk : k < 24) (h15 : k ≠ 15) : chg1 p S a k = S k := by
  unfold chg1
  split
  · rfl
  · split
    · unfold rowF
      rw [upd_ne h15, upd_ne (by unfold rA; omega), upd_ne (by unfold rA; omega), upd_ne (by unfold rA; omega)]
      have e1 : roomF (endF S a) k = endF S a k := by
        unfold roomF
        split
        · rw [upd_ne h15, shN_ne (by omega)]
        · rfl
      rw [e1]
      unfold endF
      rw [upd_ne (by unfold sA; omega), upd_ne (by unfold sA; omega)]
    · rfl
theorem chgL_lo {p k : Nat} (hk : k < 24) (h15 : k ≠ 15) : ∀ (n i : Nat) (S : Nat → Int32), chgL p n i S k = S k := by
  intro n
  induction n with
  | zero => intro i S; rfl
  | succ n ih => intro i S; rw [chgL, ih, chg1_lo hk h15]
theorem keep_comesOn {S : Nat → Int32} {p : Nat} (hp : p < 6) : keepS S (comesOnF S p) := keep_trans (keep_upd (by unfold fixedK; omega)) (keep_upd (by unfold fixedK pA; omega))
theorem changesF_keep {S : Nat → Int32} {p : Nat} (hm : mOk S) (hr : rOk S) (hp : p < 6) : keepS S (changesF S p) := keep_trans (keep_chgL _ _ _ (by have := hm.1; omega) hr).1 (keep_comesOn hp)
theorem changesF_lo {S : Nat → Int32} {p k : Nat} (hk : k < 24) (h15 : k ≠ 15) (h4 : k ≠ 4) : changesF S p k = S k := by
  unfold changesF comesOnF
  rw [upd_ne (by unfold pA; omega), upd_ne h4, chgL_lo hk h15]
theorem secOk_changes {S : Nat → Int32} {p : Nat} (h : secOk S) (hp : p < phN S) : secOk (changesF S p) := by
  obtain ⟨h1, h2, h3, h4, h5, h6, h7⟩ := h
  have hp6 := h2.1
  have hk := changesF_keep (p := p) h1 h3 (by omega)
  have e4 : changesF S p 4 = nI p := by
    unfold changesF comesOnF
    rw [upd_ne (by unfold pA; omega), upd_eq]
  have e5 : changesF S p 5 = S 5 := changesF_lo (by decide) (by decide) (by decide)
  have en : onN (changesF S p) = p := by unfold onN; rw [e4, nI_c (by omega)]
  refine ⟨mOk_keep hk h1, pOk_keep hk h2, ?_, ?_, ?_, ?_, emOk_keep hk h2 h7⟩
  · have h := (keep_chgL (p := p) (manyN S) 0 S (by have := h1.1; omega) h3).2
    refine rOk_15 ?_ h
    unfold changesF comesOnF
    rw [upd_ne (by unfold pA; omega), upd_ne (by decide)]
  · unfold onOk; rw [en, e4]; exact ⟨by omega, rfl⟩
  · rw [en, ph_keep hk]; exact hp
  · unfold cutOk; rw [e5, ph_keep hk]; exact h6
theorem secOk_5 {S : Nat → Int32} {x : Int32} (h : secOk S) (hx : x < 0 ∨ ∃ q, q < phN S ∧ x = nI q) : secOk (upd S 5 x) := by
  obtain ⟨h1, h2, h3, h4, h5, h6, h7⟩ := h
  have hk : keepS S (upd S 5 x) := keep_upd (by unfold fixedK; omega)
  have e4 : upd S 5 x 4 = S 4 := upd_ne (by decide)
  have en : onN (upd S 5 x) = onN S := by unfold onN; rw [e4]
  refine ⟨mOk_keep hk h1, pOk_keep hk h2, rOk_15 (upd_ne (by decide)) h3, ?_, ?_, ?_, emOk_keep hk h2 h7⟩
  · unfold onOk; rw [en, e4]; exact h4
  · rw [en, ph_keep hk]; exact h5
  · unfold cutOk; rw [upd_eq, ph_keep hk]; exact hx
theorem secOk_cut {S : Nat → Int32} (h : secOk S) : secOk (cutF S) := by
  unfold cutF
  split
  · exact h
  · exact secOk_5 h (Or.inr ⟨onN S, h.2.2.2.2.1, h.2.2.2.1.2⟩)
def midF (S : Nat → Int32) : Nat → Int32 := if S 6 < 0 then byCallsF S else byEmF S
def turnsF (C S : Nat → Int32) : Nat → Int32 := turningF C (midF (comingF S))
def tickF (S : Nat → Int32) : Nat → Int32 := upd (upd S 7 (S 7 + queuesV S)) 3 (S 3 + 1)
def endsF (S : Nat → Int32) : Nat → Int32 := tickF (goingF S)
def secF (C S : Nat → Int32) : Nat → Int32 := endsF (turnsF C S)
def passF (C : Nat → Int32) (n : Nat) (S : Nat → Int32) : Nat → Int32 := itN (fun _ s => secF C s) n 0 S
theorem secOk_byCalls {S : Nat → Int32} (h : secOk S) : secOk (byCallsF S) := by
  have hn : nextP S < phN (upd S 5 (-5)) := by
    rw [ph_keep (keep_upd (by unfold fixedK; omega))]
    exact nextP_lt h.2.2.2.2.1 h.2.1 h.2.2.2.2.2.1
  have hc := secOk_changes (secOk_5 (x := -5) h (Or.inl (by decide))) hn
  unfold byCallsF
  split
  · exact h
  · split
    · split
      · split
        · exact h
        · exact hc
      · exact hc
    · exact hc
theorem keep_byCalls {S : Nat → Int32} (h : secOk S) : keepS S (byCallsF S) := by
  have k5 : keepS S (upd S 5 (-5)) := keep_upd (by unfold fixedK; omega)
  have h5 := secOk_5 (x := -5) h (Or.inl (by decide))
  have hn : nextP S < 6 := by have := nextP_lt h.2.2.2.2.1 h.2.1 h.2.2.2.2.2.1; have := h.2.1.1; omega
  have hc := keep_trans k5 (changesF_keep h5.1 h5.2.2.1 hn)
  unfold byCallsF
  split
  · exact keep_refl
  · split
    · split
      · split
        · exact keep_refl
        · exact hc
      · exact hc
    · exact hc
theorem em_lt {S : Nat → Int32} (h : secOk S) (h6 : ¬ S 6 < 0) : (firstV (cutF S) (S 6)).toNatClampNeg < phN S := by
  obtain ⟨h1, h2, h3, h4, h5, h6', h7⟩ := h
  have := h2.1
  rcases h7 with h | ⟨q, hq, e⟩
  · exact absurd h h6
  · rw [firstV_keep keep_cut h2, e, nI_c (by omega)]
    exact hq
theorem secOk_byEm {S : Nat → Int32} (h : secOk S) (h6 : ¬ S 6 < 0) : secOk (byEmF S) := by
  unfold byEmF
  split
  · exact h
  · exact secOk_changes (secOk_cut h) (by rw [ph_keep keep_cut]; exact em_lt h h6)
theorem keep_byEm {S : Nat → Int32} (h : secOk S) (h6 : ¬ S 6 < 0) : keepS S (byEmF S) := by
  unfold byEmF
  split
  · exact keep_refl
  · have hc := secOk_cut h
    exact keep_trans keep_cut (changesF_keep hc.1 hc.2.2.1 (by have := em_lt h h6; have := h.2.1.1; omega))
theorem secOk_mid {S : Nat → Int32} (h : secOk S) : secOk (midF S) := by
  unfold midF
  split
  · exact secOk_byCalls h
  · rename_i h6; exact secOk_byEm h h6
theorem keep_mid {S : Nat → Int32} (h : secOk S) : keepS S (midF S) := by
  unfold midF
  split
  · exact keep_byCalls h
  · rename_i h6; exact keep_byEm h h6
theorem secOk_coming {S : Nat → Int32} (h : secOk S) : secOk (comingF S) := secOk_keep (keep_coming h.1) (ku_coming h.1) h
theorem keep_turning {C S : Nat → Int32} (hm : mOk S) : keepS S (turningF C S) := keep_turnL _ _ _ (by have := hm.1; omega)
theorem secOk_turning {C S : Nat → Int32} (h : secOk S) : secOk (turningF C S) := secOk_keep (keep_turning h.1) (ku_turnL _ _ _ (by have := h.1.1; omega)) h
theorem keep_going {S : Nat → Int32} (hm : mOk S) : keepS S (goingF S) := keep_goL _ _ _ (by have := hm.1; omega)
theorem secOk_going {S : Nat → Int32} (h : secOk S) : secOk (goingF S) := secOk_keep (keep_going h.1) (ku_goL _ _ _ (by have := h.1.1; omega)) h
theorem keep_tick {S : Nat → Int32} : keepS S (tickF S) := keep_trans (keep_upd (by unfold fixedK; omega)) (keep_upd (by unfold fixedK; omega))
theorem tick_lo {S : Nat → Int32} {k : Nat} (h7 : k ≠ 7) (h3 : k ≠ 3) : tickF S k = S k := by
  unfold tickF
  rw [upd_ne h3, upd_ne h7]
theorem secOk_tick {S : Nat → Int32} (h : secOk S) : secOk (tickF S) := by
  obtain ⟨h1, h2, h3, h4, h5, h6, h7⟩ := h
  have hk := keep_tick (S := S)
  have e4 : tickF S 4 = S 4 := tick_lo (by decide) (by decide)
  have e5 : tickF S 5 = S 5 := tick_lo (by decide) (by decide)
  have en : onN (tickF S) = onN S := by unfold onN; rw [e4]
  refine ⟨mOk_keep hk h1, pOk_keep hk h2, rOk_15 (tick_lo (by decide) (by decide)) h3, ?_, ?_, ?_, emOk_keep hk h2 h7⟩
  · unfold onOk; rw [en, e4]; exact h4
  · rw [en, ph_keep hk]; exact h5
  · unfold cutOk; rw [e5, ph_keep hk]; exact h6
theorem secOk_turns {C S : Nat → Int32} (h : secOk S) : secOk (turnsF C S) := secOk_turning (secOk_mid (secOk_coming h))
theorem keep_turns {C S : Nat → Int32} (h : secOk S) : keepS S (turnsF C S) := keep_trans (keep_trans (keep_coming h.1) (keep_mid (secOk_coming h))) (keep_turning (secOk_mid (secOk_coming h)).1)
theorem secOk_ends {S : Nat → Int32} (h : secOk S) : secOk (endsF S) := secOk_tick (secOk_going h)
theorem keep_ends {S : Nat → Int32} (h : secOk S) : keepS S (endsF S) := keep_trans (keep_going h.1) keep_tick
theorem secOk_sec {C S : Nat → Int32} (h : secOk S) : secOk (secF C S) := secOk_ends (secOk_turns h)
theorem keep_sec {C S : Nat → Int32} (h : secOk S) : keepS S (secF C S) := keep_trans (keep_turns h) (keep_ends (secOk_turns h))
theorem secOk_pass {C S : Nat → Int32} {n : Nat} (h : secOk S) : secOk (passF C n S) ∧ keepS S (passF C n S) :=
  it_inv (m := n) (P := fun _ T => secOk T ∧ keepS S T) (fun _ s _ hp => ⟨secOk_sec hp.1, keep_trans hp.2 (keep_sec hp.1)⟩) n 0 S (by omega) ⟨h, keep_refl⟩
section M23
variable {h : gH} {b : Nat} {A : Nat → Nat → Int32} {L : Nat → Nat → Int64} {S : Nat → Int32} {G : gG} {F : Nat}
theorem s_turns (hF : 100 ≤ F) (hS : secOk S) : sp_X13_turns G F (mS h b A L S) b = some (mS h b A L (turnsF (A 3) S)) := by
  have hS1 := secOk_coming hS
  have hS2 := secOk_mid hS1
  have ej : (if comingF S 6 < 0 then (sp_X13_changesByCalls G F (mS h b A L (comingF S)) b).bind fun u7 => some u7 else (sp_X13_changesByEmergency G F (mS h b A L (comingF S)) b).bind fun u9 => some u9) = some (mS h b A L (midF (comingF S))) := by
    obtain ⟨h1, h2, h3, h4, h5, h6, h7⟩ := hS1
    unfold midF
    by_cases h0 : comingF S 6 < 0
    · rw [if_pos h0, if_pos h0, s_byCalls hF h1 h2 h3 h4 h5 h6]
      rfl
    · rw [if_neg h0, if_neg h0, s_byEm hF h1 h2 h3 h4 (h7.resolve_left h0)]
      rfl
  unfold sp_X13_turns turnsF
  simp only [s_is, if_true, s_f0, Option.bind_some, s_coming (show 40 ≤ F by omega) hS.1, s_r_6, ej, s_turning (show 40 ≤ F by omega) hS2.1 hS2.2.2.2.1]
theorem s_ends (hF : 100 ≤ F) (hS : secOk S) : sp_X13_ends G F (mS h b A L S) b = some (mS h b A L (endsF S)) := by
  have hS1 := secOk_going hS
  unfold sp_X13_ends endsF tickF
  simp only [s_is, if_true, s_f0, Option.bind_some, s_going (show 40 ≤ F by omega) hS.1, s_r_7, s_queues (show 40 ≤ F by omega) hS1.1, s_w_7, s_r_3, s_w_3]
  rw [upd_ne (by decide)]
theorem s_passes_L {m : Nat} (hF : 100 ≤ F) (hm : m < 2 ^ 31) : ∀ (n i f : Nat) (S : Nat → Int32), n + i = m → n < f → secOk S → sp_X13_passes_L2 G F f (mS h b A L S) b (nI m) (nI i) = some (mS h b A L (itN (fun _ s => secF (A 3) s) n i S)) := by
  refine it_loop (fun f i s => sp_X13_passes_L2 G F f (mS h b A L s) b (nI m) (nI i)) (fun _ s => secF (A 3) s) (fun _ s => secOk s) (fun s => mS h b A L s) ?_ ?_ ?_
  · intro i f s hi hs
    have en : ¬ nI m ≤ nI i := nI_ge (by omega) (by omega)
    show sp_X13_passes_L2 G F (f + 1) (mS h b A L s) b (nI m) (nI i) = _
    rw [sp_X13_passes_L2]
    simp only [s_is, if_true, s_f0, Option.bind_some, en, if_false, s_turns hF hs, s_ends hF (secOk_turns hs), nI_1]
    rfl
  · intro i s _ hs
    exact secOk_sec hs
  · intro f s hs
    show sp_X13_passes_L2 G F (f + 1) (mS h b A L s) b (nI m) (nI m) = _
    rw [sp_X13_passes_L2, if_pos (nI_le (by omega) (by omega))]
theorem s_passes {m : Nat} (hF : 100 ≤ F) (hm : m < F) (hM : m < 2 ^ 31) (hS : secOk S) : sp_X13_passes G F (mS h b A L S) b (nI m) = some (mS h b A L (passF (A 3) m S)) := by
  unfold sp_X13_passes
  rw [show (0 : Int32) = nI 0 from rfl, s_passes_L hF hM m 0 F S (by omega) hm hS]
  rfl
end M23
