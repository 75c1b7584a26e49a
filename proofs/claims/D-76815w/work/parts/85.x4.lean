/-! x4: the class's calls: signal, phase, told, clear, way; seconds pass, in thought too -/
set_option maxRecDepth 100000
def cR (c c' : Nat → Int32) (x : Int32) : Prop := c' 3 = x ∧ ∀ k, k ≠ 3 → c' k = c k
theorem cR_refl {c : Nat → Int32} : cR c c (c 3) := ⟨rfl, fun _ _ => rfl⟩
theorem cR_upd {c : Nat → Int32} {x : Int32} : cR c (upd c 3 x) x := ⟨upd_eq, fun _ hk => upd_ne hk⟩
section X4
variable {G : gG} {F n bx : Nat} {h : gH} {c : Nat → Int32} {S C : Nat → Int32} {J : Nat → Nat → Int32} {Q : Nat → Nat → Int64}
theorem clOk_tab {A : Nat → Nat → Int32} (hS : setOk S) (hW : wOk S J Q) : clOk (tabA A S 3) S J := by
  have h8 := hS.1.1
  have e : ∀ a i, a < 8 → i < 8 → tabA A S 3 (8 * a + i) = clearV S a i := by
    intro a i ha hi
    have e1 : (8 * a + i) / 8 = a := by omega
    have e2 : (8 * a + i) % 8 = i := by omega
    simp [tabA, clrsA, va_up, show 8 * a + i < 64 by omega, e1, e2]
  intro a i ha hi
  rw [e a i (by omega) (by omega), e i a (by omega) (by omega)]
  exact ⟨hW.2.2.2.2 a i ha hi, clear_sym hS.2.1 hS.2.2.1 hS.2.2.2 hS.1 ha hi⟩
theorem wOk_keep {T : Nat → Int32} {K : Nat → Nat → Int32} (hro : rowOk S) (hm : mOk S) (hk : keepS S T) (hK : jR J K) (hrr : rrOk T K) (hW : wOk S J Q) : wOk T K Q := by
  obtain ⟨w1, w2, w3, w4, w5⟩ := hW
  have h8 := hm.1
  have em := many_keep hk
  have ht : tabEq S T := tabEq_of hro (hk 1 (by unfold fixedK; omega)) (fun a w ha hw => hk _ (by unfold fixedK sA; omega))
  refine ⟨jR_ok hK, hrr, ?_, ?_, ?_⟩
  · intro k hk8
    rw [hK.1 _ _ (by omega)]
    exact w3 k hk8
  · intro a ha z hz
    rw [em] at ha
    rw [placeV_keep (fun w h1 h2 => hk _ (by unfold fixedK sA; omega)) (hro a (by omega)).cells.1]
    exact w4 a ha z hz
  · intro x y hx hy
    rw [em] at hx hy
    rw [hK.1 _ _ (by omega), (ht x y (by omega) (by omega)).1]
    exact w5 x y hx hy
theorem x_of4 {kd : Nat} (hk : kd < 4) {H : gH} : sp_X3_of G F H (nI kd) = some (gS G kd) := by
  unfold sp_X3_of
  match kd, hk with
  | 0, _ => rfl
  | 1, _ => rfl
  | 2, _ => rfl
  | 3, _ => rfl
theorem v_signal {p1 p2 : Int32} (hF : 100 ≤ F) (hn : bx + 106 ≤ n) (hG : gI4 G) (hS : setOk S) (hc : cntOk S) (hW : wOk S J Q) : ∃ h' K R, sp_X0_signal G F (wh G (xo h bx c) (bx + 1) S J Q) n bx p1 p2 = some ((signalR S p1 p2).1, wh G (xo h' bx c) (bx + 1) (signalR S p1 p2).2 K R, n + 1) ∧ hUp h h' n (n + 1) ∧ wOk (signalR S p1 p2).2 K R ∧ setOk (signalR S p1 p2).2 := by
  have hm := hS.1
  have h8 := hm.1
  unfold sp_X0_signal
  simp only [v_up hn, i_in_0_3, i_in_0_63, Option.bind_some, sb0 hn (show 2 < 100 by decide) (by decide) if01, sb1 hn (show 2 < 100 by decide) (by decide) if01, v_are hF hn (show 2 < 90 by decide), all2, bI_f]
  generalize eh : va_up h n (some (Sum.inl (3, 2, Sum.inl (upd (upd (fun _ => 0) 0 (if inB p1 0 3 then 1 else 0)) 1 (if inB p2 0 63 then 1 else 0))))) = h'
  have hu : hUp h h' n (n + 1) := by rw [← eh]; exact hUp_1
  by_cases hin : inB p1 0 3 ∧ inB p2 0 63
  · rw [if_neg (fun hh => hh hin)]
    simp only [v_f0, x_f0, x_f13, x_f22, Option.bind_some]
    by_cases g2 : S 2 = 0
    · have g2' : ¬ S 2 = 1 := by rw [g2]; decide
      rw [if_pos g2]
      by_cases g3 : S 13 = 8
      · have eR : signalR S p1 p2 = (-4, S) := by
          unfold signalR
          rw [if_neg (fun hh => hh hin.1), if_neg (fun hh => hh hin.2), if_neg g2', if_pos g3]
        rw [eR, if_pos g3]
        exact ⟨h', J, Q, rfl, hu, hW, hS⟩
      · rw [if_neg g3]
        have hm8 : manyN S < 8 := by
          rcases Nat.lt_or_ge (manyN S) 8 with h | h
          · exact h
          · exact absurd (by rw [hm.2, show manyN S = 8 by omega]; rfl) g3
        obtain ⟨kd, hkd, rfl⟩ : ∃ k, k < 4 ∧ p1 = nI k := in_nI (m := 4) (by decide) hin.1
        obtain ⟨z, hz, rfl⟩ : ∃ k, k < 64 ∧ p2 = nI k := in_nI (m := 64) (by decide) hin.2
        have eR : signalR S (nI kd) (nI z) = (nI (manyN S), nsS S kd z) := by
          unfold signalR
          rw [if_neg (fun hh => hh hin.1), if_neg (fun hh => hh hin.2), if_neg g2', if_neg g3]
          rfl
        obtain ⟨H1, H2, K, e1, e2, e3, e4, e5, e6, e7, e8⟩ := x_newSig (G := G) (h := xo h' bx c) (b := bx + 1) (F := F) (by omega) hG hS hW hm8 hkd hz
        have ea : gAr 5 (wh G (xo h' bx c) (bx + 1) S J Q) (bx + 1 + 1) (S 13) = some (sg (bx + 1) (manyN S)) := by rw [hm.2]; exact x_a1 hm8
        have ef : gGr 0 H2 bx 0 = some (bx + 1) := by
          unfold gGr gGv
          rw [e4 bx (by omega), xo_at]
          rfl
        have em : nsS S kd z 13 = nI (manyN S + 1) := (nsS_v rfl hm8).2.2
        have es : S 13 + 1 = nI (manyN S + 1) := by rw [← nI_1]; exact congrArg (· + 1) hm.2
        rw [eR]
        refine ⟨h', K, _, ?_, hu, e8, ns_setOk hS hm8 hkd hz⟩
        simp only [ea, x_of4 hkd, Option.bind_some, x_sg_is hm8, if_true, e1, e2, e3, ef, e5, es, e6, v_f0, x_is, e7, x_f13, em, nI_sub1]
    · have g2' : S 2 = 1 := hc.2.2.2.2.2.resolve_left g2
      have eR : signalR S p1 p2 = (-3, S) := by
        unfold signalR
        rw [if_neg (fun hh => hh hin.1), if_neg (fun hh => hh hin.2), if_pos g2']
      rw [eR, if_neg g2]
      exact ⟨h', J, Q, rfl, hu, hW, hS⟩
  · have eR : signalR S p1 p2 = (-2, S) := by
      unfold signalR
      by_cases g1 : inB p1 0 3
      · rw [if_neg (fun hh => hh g1), if_pos (fun hh => hin ⟨g1, hh⟩)]
      · rw [if_pos g1]
    rw [eR, if_pos hin]
    exact ⟨h', J, Q, rfl, hu, hW, hS⟩
theorem v_meetIn {s : Int32} (hF : 100 ≤ F) (hm : mOk S) (hC : clOk C S J) : sp_X0_meetIn G F (wh G (xo h bx c) (bx + 1) S J Q) bx s = some (bI (anyB C S s)) := by
  have h8 := hm.1
  have key : ∀ (m i f : Nat), m + i = manyN S → m < f → sp_X0_meetIn_L2 G F (wh G (xo h bx c) (bx + 1) S J Q) f bx s (nI i) = some (bI (anyL C S s m i)) := by
    intro m
    induction m with
    | zero =>
      intro i f hi hf
      obtain ⟨f, rfl⟩ : ∃ z, f = z + 1 := ⟨f - 1, by omega⟩
      rw [sp_X0_meetIn_L2]
      simp only [v_f0, x_f13, Option.bind_some]
      rw [if_pos (by rw [hm.2]; exact nI_le (by omega) (by omega))]
      rfl
    | succ m ih =>
      intro i f hi hf
      obtain ⟨f, rfl⟩ : ∃ z, f = z + 1 := ⟨f - 1, by omega⟩
      have en : ¬ S 13 ≤ nI i := by rw [hm.2]; exact nI_ge (by omega) (by omega)
      rw [sp_X0_meetIn_L2]
      simp only [v_f0, x_f13, Option.bind_some, en, if_false, x_is, if_true, x_meets (show 40 ≤ F by omega) hm (show i < manyN S by omega) hC, nI_1, ih (i + 1) f (by omega) (by omega), anyL]
      by_cases h1 : hasB s (nI i)
      · rw [if_pos h1, if_neg (show ¬ ¬ hasB s (nI i) from fun hh => hh h1)]
        by_cases h2 : meetsV C S i &&& s = 0
        · rw [if_pos h2, if_pos h2]
        · rw [if_neg h2, if_neg h2]; rfl
      · rw [if_neg h1, if_pos h1]
  unfold sp_X0_meetIn anyB
  exact key (manyN S) 0 F (by omega) (by omega)
theorem v_phase {p1 p2 : Int32} (hF : 100 ≤ F) (hn : bx + 106 ≤ n) (hS : setOk S) (hc : cntOk S) (hW : wOk S J Q) (hC : clOk C S J) : ∃ h' K, sp_X0_phase G F (wh G (xo h bx c) (bx + 1) S J Q) n bx p1 p2 = some ((phaseR C S p1 p2).1, wh G (xo h' bx c) (bx + 1) (phaseR C S p1 p2).2 K Q, n + 1) ∧ hUp h h' n (n + 1) ∧ wOk (phaseR C S p1 p2).2 K Q := by
  have hm := hS.1
  have h8 := hm.1
  have hp := hc.2.1
  unfold sp_X0_phase
  simp only [v_up hn, v_f0, x_f13, i_in_1v, i_in_0_239, Option.bind_some, sb0 hn (show 2 < 100 by decide) (by decide) if01, sb1 hn (show 2 < 100 by decide) (by decide) if01, v_are hF hn (show 2 < 90 by decide), all2, bI_f]
  generalize eh : va_up h n (some (Sum.inl (3, 2, Sum.inl (upd (upd (fun _ => 0) 0 (if inB p1 1 (((1 : Int32) <<< (S 13 &&& 31)) - 1) then 1 else 0)) 1 (if inB p2 0 239 then 1 else 0))))) = h'
  have hu : hUp h h' n (n + 1) := by rw [← eh]; exact hUp_1
  by_cases hin : inB p1 1 (((1 : Int32) <<< (S 13 &&& 31)) - 1) ∧ inB p2 0 239
  · rw [if_neg (fun hh => hh hin)]
    simp only [v_f0, x_f0, x_f14, x_f23, Option.bind_some, v_is, if_true, v_meetIn hF hm hC, bI_z]
    by_cases g2 : S 2 = 0
    · have g2' : ¬ S 2 = 1 := by rw [g2]; decide
      rw [if_pos g2]
      by_cases g3 : anyB C S p1 = true
      · have eR : phaseR C S p1 p2 = (-3, S) := by
          unfold phaseR
          rw [if_neg (fun hh => hh hin.1), if_neg (fun hh => hh hin.2), if_neg g2', if_pos g3]
        rw [eR, if_neg (by rw [g3]; decide)]
        exact ⟨h', J, rfl, hu, hW⟩
      · have g3' : anyB C S p1 = false := by cases e : anyB C S p1
                                             · rfl
                                             · exact absurd e g3
        rw [if_pos g3']
        by_cases g4 : S 14 = 6
        · have eR : phaseR C S p1 p2 = (-4, S) := by
            unfold phaseR
            rw [if_neg (fun hh => hh hin.1), if_neg (fun hh => hh hin.2), if_neg g2', if_neg g3, if_pos g4]
          rw [eR, if_pos g4]
          exact ⟨h', J, rfl, hu, hW⟩
        · have hp6 : phN S < 6 := by
            have := hp.1
            rcases Nat.lt_or_ge (phN S) 6 with h | h
            · exact h
            · exact absurd (by rw [hp.2, show phN S = 6 by omega]; rfl) g4
          have eR : phaseR C S p1 p2 = (nI (phN S), phaseF S p1 p2) := by
            unfold phaseR
            rw [if_neg (fun hh => hh hin.1), if_neg (fun hh => hh hin.2), if_neg g2', if_neg g3, if_neg g4]
          obtain ⟨H1, K, e1, e2, e3, e4, e5⟩ := x_phaseMore (G := G) (F := F) (h := xo h' bx c) (b := bx + 1) (p1 := p1) (p2 := p2) hW hS.2.1 hm hp hp6
          have ea : gAr 6 (wh G (xo h' bx c) (bx + 1) S J Q) (bx + 1 + 2) (S 14) = some (phA (bx + 1) (phN S)) := by rw [hp.2]; exact x_a2 hp6
          have ef : gGr 0 H1 bx 0 = some (bx + 1) := by
            unfold gGr gGv
            rw [e2 bx (by omega), xo_at]
            rfl
          have es : S 14 + 1 = nI (phN S + 1) := by rw [← nI_1]; exact congrArg (· + 1) hp.2
          have e14 : phaseF S p1 p2 14 = nI (phN S + 1) := upd_eq
          rw [eR, if_neg g4]
          refine ⟨h', K, ?_, hu, e5⟩
          simp only [ea, Option.bind_some, x_ph_is hp6, if_true, e1, ef, e3, es, e4, v_f0, x_f14, e14, nI_sub1]
    · have g2' : S 2 = 1 := hc.2.2.2.2.2.resolve_left g2
      have eR : phaseR C S p1 p2 = (-3, S) := by
        unfold phaseR
        rw [if_neg (fun hh => hh hin.1), if_neg (fun hh => hh hin.2), if_pos g2']
      rw [eR, if_neg g2]
      exact ⟨h', J, rfl, hu, hW⟩
  · have eR : phaseR C S p1 p2 = (-2, S) := by
      unfold phaseR
      by_cases g1 : inB p1 1 (((1 : Int32) <<< (S 13 &&& 31)) - 1)
      · rw [if_neg (fun hh => hh g1), if_pos (fun hh => hin ⟨g1, hh⟩)]
      · rw [if_pos g1]
    rw [eR, if_pos hin]
    exact ⟨h', J, rfl, hu, hW⟩
theorem v_counts {m : Int32} : sp_X0_counts G F (wh G (xo h bx c) (bx + 1) S J Q) bx m = some (if c 3 + m ≤ 12000 then 1 else 0, wh G (xo h bx (if c 3 + m ≤ 12000 then upd c 3 (c 3 + m) else c)) (bx + 1) S J Q) := by
  unfold sp_X0_counts
  simp only [v_f3, v_p3, Option.bind_some]
  by_cases h1 : c 3 + m ≤ 12000
  · rw [if_pos h1, if_pos h1, if_pos h1]
  · rw [if_neg h1, if_neg h1, if_neg h1]
theorem v_pass {t : Nat} {p1 : Int32} (hF : 200 ≤ F) (hG : gI4 G) (ht : t + 99 < 2 ^ 31) (hS : ¬ S 2 = 0 → runOk S t) (hW : wOk S J Q) (hC : clOk C S J) : ∃ c' K, sp_X0_pass G F (wh G (xo h bx c) (bx + 1) S J Q) bx p1 = some ((passR C S (c 3) p1).1, wh G (xo h bx c') (bx + 1) (passR C S (c 3) p1).2.2 K Q) ∧ cR c c' (passR C S (c 3) p1).2.1 ∧ wOk (passR C S (c 3) p1).2.2 K Q := by
  unfold sp_X0_pass
  simp only [i_in_0_99, Option.bind_some, b0]
  rcases (Classical.em (inB p1 0 99)).symm with h1 | h1
  · have eR : passR C S (c 3) p1 = (-2, c 3, S) := if_pos h1
    rw [eR, if_pos h1]
    exact ⟨c, J, rfl, cR_refl, hW⟩
  rw [if_neg (fun hh => hh h1)]
  simp only [v_f0, x_f0, Option.bind_some, v_is, if_true, v_counts, b0]
  by_cases h2 : S 2 = 0
  · have eR : passR C S (c 3) p1 = (-3, c 3, S) := by unfold passR; rw [if_neg (fun hh => hh h1), if_pos h2]
    rw [eR, if_pos h2]
    exact ⟨c, J, rfl, cR_refl, hW⟩
  rw [if_neg h2]
  obtain ⟨m, hm, rfl⟩ : ∃ k, k < 100 ∧ p1 = nI k := in_nI (m := 100) (by decide) h1
  by_cases h3 : c 3 + nI m ≤ 12000
  · have eR : passR C S (c 3) (nI m) = (passF C m S 8 - S 8, c 3 + nI m, passF C m S) := by
      unfold passR
      rw [if_neg (fun hh => hh h1), if_neg h2, if_neg (fun hh => hh h3), nI_c (by omega)]
    have hr := hS h2
    obtain ⟨K, e1, e2, e3⟩ := x_passes (G := G) (F := F) (h := xo h bx (upd c 3 (c 3 + nI m))) (b := bx + 1) (Q := Q) (n := m) (t := t) (by omega) (by omega) hG (by omega) hW.1 hW.2.1 hr hC
    rw [eR, if_neg (fun hh => hh h3)]
    simp only [h3, if_true, v_f0, x_f6, x_is, e1, Option.bind_some]
    exact ⟨_, K, rfl, cR_upd, wOk_keep hr.2.2.2 hr.1.1 (secOk_pass hr.1).2 e2 e3 hW⟩
  · have eR : passR C S (c 3) (nI m) = (-4, c 3, S) := by
      unfold passR
      rw [if_neg (fun hh => hh h1), if_neg h2, if_pos h3]
    rw [eR, if_pos h3]
    simp only [h3, if_false]
    exact ⟨c, J, rfl, cR_refl, hW⟩
end X4
