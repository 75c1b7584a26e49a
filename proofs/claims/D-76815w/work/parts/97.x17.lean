/-! x17: node, band, nodeBest, tune (class) -/
set_option maxRecDepth 100000
theorem itN_add {α : Type} {g : Nat → α → α} : ∀ (a b i : Nat) (s : α), itN g (a + b) i s = itN g b (i + a) (itN g a i s) := by
  intro a
  induction a with
  | zero => intro b i s; rw [Nat.zero_add, Nat.add_zero]; rfl
  | succ a ih =>
    intro b i s
    rw [show a + 1 + b = (a + b) + 1 by omega, itN, ih b (i + 1), itN, show i + 1 + a = i + (a + 1) by omega]
theorem it_blk {d : Nat} (hd : 0 < d) (q : Nat) : ∀ (m i : Nat) (s : Nat → Int32), m + i ≤ d → itN (fun j s => tuneF (j % d) s) m (q * d + i) s = itN (fun k s => tuneF k s) m i s := by
  intro m
  induction m with
  | zero => intro i s _; rfl
  | succ m ih =>
    intro i s hi
    have e : (q * d + i) % d = i := by rw [Nat.mul_comm, Nat.mul_add_mod, Nat.mod_eq_of_lt (by omega)]
    rw [itN, itN, e, show q * d + i + 1 = q * d + (i + 1) by omega]
    exact ih (i + 1) _ (by omega)
theorem tune_it {S : Nat → Int32} (h0 : 0 < nodN S) : itN (fun j s => tuneF (j % nodN S) s) (4 * nodN S) 0 S = tuneA S := by
  have key : ∀ (m q : Nat) (s : Nat → Int32), itN (fun j s => tuneF (j % nodN S) s) (m * nodN S) (q * nodN S) s = itN (fun _ s => itN (fun k s => tuneF k s) (nodN S) 0 s) m q s := by
    intro m
    induction m with
    | zero => intro q s; rw [Nat.zero_mul]; rfl
    | succ m ih =>
      intro q s
      rw [Nat.succ_mul, Nat.add_comm, itN_add, itN, show q * nodN S + nodN S = (q + 1) * nodN S by rw [Nat.succ_mul], ih (q + 1)]
      have := it_blk h0 q (nodN S) 0 s (by omega)
      rw [Nat.add_zero] at this
      rw [this]
  have := key 4 0 S
  rw [Nat.zero_mul] at this
  exact this
section X17
variable {G : gG} {F n bx : Nat} {h : gH} {b : Nat} {c : Nat → Int32} {S C T : Nat → Int32} {J K : Nat → Nat → Int32} {Q R : Nat → Nat → Int64}
theorem v_node {p1 p2 p3 : Int32} (hF : 100 ≤ F) (hn : bx + 106 ≤ n) (hro : rowOk S) (hm : mOk S) (hno : nodeOk S) (hW : wOk S J Q) : ∃ h' K, sp_X0_node G F (wh G (xo h bx c) (bx + 1) S J Q) n bx p1 p2 p3 = some ((nodeR S p1 p2 p3).1, wh G (xo h' bx c) (bx + 1) (nodeR S p1 p2 p3).2 K Q, n + 1) ∧ hUp h h' n (n + 1) ∧ wOk (nodeR S p1 p2 p3).2 K Q := by
  have h5 := hno.1
  have m0 : ∀ (h : gH) x, sp_X0_isOfNode G F (wh G (xo h bx c) (bx + 1) S J Q) bx 0 x = some (if inB x 0 (S 16 - 1) then 1 else 0) := fun h x => v_isOfNode (w := 0) (by decide)
  have m1 : ∀ (h : gH) x, sp_X0_isOfNode G F (wh G (xo h bx c) (bx + 1) S J Q) bx 1 x = some (if inB x 1 (S 16) then 1 else 0) := fun h x => v_isOfNode (w := 1) (by decide)
  have m2 : ∀ (h : gH) x, sp_X0_isOfNode G F (wh G (xo h bx c) (bx + 1) S J Q) bx 2 x = some (if inB x 0 99 then 1 else 0) := fun h x => v_isOfNode (w := 2) (by decide)
  unfold sp_X0_node
  simp only [v_up hn, v_is, if_true, m0, m1, m2, Option.bind_some, sb0 hn (show 3 < 100 by decide) (by decide) if01, sb1 hn (show 3 < 100 by decide) (by decide) if01, sb2 hn (show 3 < 100 by decide) (by decide) if01, v_are hF hn (show 3 < 90 by decide), all3, bI_f]
  generalize eh : va_up h n (some (Sum.inl (3, 3, Sum.inl (upd (upd (upd (fun _ => 0) 0 (if inB p1 0 (S 16 - 1) then 1 else 0)) 1 (if inB p2 1 (S 16) then 1 else 0)) 2 (if inB p3 0 99 then 1 else 0))))) = h'
  have hu : hUp h h' n (n + 1) := by rw [← eh]; exact hUp_1
  by_cases hin : inB p1 0 (S 16 - 1) ∧ inB p2 1 (S 16) ∧ inB p3 0 99
  · obtain ⟨i1, i2, i3⟩ := id hin
    rw [if_neg (nn hin)]
    simp only [v_f0, x_f18, x_f26, Option.bind_some]
    by_cases h4 : S 17 = 5
    · have eR : nodeR S p1 p2 p3 = (-4, S) := by unfold nodeR; rw [if_neg (nn i1), if_neg (nn i2), if_neg (nn i3), if_pos h4]
      rw [eR, if_pos h4]
      exact ⟨h', J, rfl, hu, hW⟩
    · have hk : nodN S < 5 := by
        rcases Nat.lt_or_ge (nodN S) 5 with h | h
        · exact h
        · exact absurd (by rw [hno.2, show nodN S = 5 by omega]; rfl) h4
      have eR : nodeR S p1 p2 p3 = (nI (nodN S), app3 S (306 + 3 * nodN S) 17 (nodN S) p1 p2 p3) := by unfold nodeR; rw [if_neg (nn i1), if_neg (nn i2), if_neg (nn i3), if_neg h4]
      obtain ⟨H1, H2, H3, K, e1, e2, e3, e4, e5, e6, e7⟩ := x_nodeMore (G := G) (h := xo h' bx c) (b := bx + 1) (p1 := p1) (p2 := p2) (p3 := p3) hW hro hm hk
      have ea : gAr 8 (wh G (xo h' bx c) (bx + 1) S J Q) (bx + 1 + 5) (S 17) = some (ndA (bx + 1) (nodN S)) := by rw [hno.2]; exact x_a5 hk
      have ef : gGr 0 H3 bx 0 = some (bx + 1) := by
        unfold gGr gGv
        rw [e4 bx (by omega), xo_at]
        rfl
      have es : S 17 + 1 = nI (nodN S + 1) := by rw [← nI_1]; exact congrArg (· + 1) hno.2
      have e17 : app3 S (306 + 3 * nodN S) 17 (nodN S) p1 p2 p3 17 = nI (nodN S + 1) := upd_eq
      rw [eR, if_neg h4]
      refine ⟨h', K, ?_, hu, e7⟩
      simp only [ea, Option.bind_some, x_nd_f0 hk, e1, e2, e3, ef, e5, es, e6, v_f0, x_f18, e17, nI_sub1]
  · have eR : nodeR S p1 p2 p3 = (-2, S) := by
      unfold nodeR
      by_cases g1 : inB p1 0 (S 16 - 1)
      · rw [if_neg (nn g1)]
        by_cases g2 : inB p2 1 (S 16)
        · rw [if_neg (nn g2), if_pos (fun hh => hin ⟨g1, g2, hh⟩)]
        · rw [if_pos g2]
      · rw [if_pos g1]
    rw [eR, if_pos hin]
    exact ⟨h', J, rfl, hu, hW⟩
theorem v_band {p : Int32} (hF : 100 ≤ F) (hr : rndOk S) (hn : nodeOk S) : sp_X0_band G F (wh G (xo h bx c) (bx + 1) S J Q) bx p = some (bandR S p) := by
  have e0 : sp_X1_band G F (wh G (xo h bx c) (bx + 1) S J Q) (bx + 1) 0 = some (bandV S 0) := x_band (w := 0) hF hr hn (by decide)
  have e1 : sp_X1_band G F (wh G (xo h bx c) (bx + 1) S J Q) (bx + 1) 1 = some (bandV S 1) := x_band (w := 1) hF hr hn (by decide)
  unfold sp_X0_band bandR
  simp only [i_in_0_1, Option.bind_some, b0, v_f0, x_is, if_true, x_bands hF hr hn]
  by_cases h2 : p = 2
  · rw [if_pos h2, if_pos h2]
  · rw [if_neg h2, if_neg h2]
    by_cases h1 : inB p 0 1
    · rw [if_neg (nn h1)]
      obtain ⟨k, hk, rfl⟩ : ∃ k, k < 2 ∧ p = nI k := in_nI (m := 2) (by decide) h1
      match k, hk with
      | 0, _ => rw [show nI 0 = (0 : Int32) from rfl, e0, if_pos rfl]; rfl
      | 1, _ => rw [show nI 1 = (1 : Int32) from rfl, e1, if_neg (show ¬ (1 : Int32) = 0 by decide), if_pos rfl]; rfl
    · have n0 : ¬ p = 0 := fun e => h1 (by rw [e]; decide)
      have n1 : ¬ p = 1 := fun e => h1 (by rw [e]; decide)
      rw [if_pos h1, if_neg n0, if_neg n1]
theorem v_nodeBest {t : Nat} {p1 p2 : Int32} (hF : 200 ≤ F) (htr : trOk G h bx) (hset : setOk S) (hc : cntOk S) (hnu : numOk S t) (hr : rndOk S) (hW : wOk S J Q) : ∃ c' h', sp_X0_nodeBest G F (wh G (xo h bx c) (bx + 1) S J Q) bx p1 p2 = some ((nbR S (c 3) p1 p2).1, wh G (xo h' bx c') (bx + 1) S J Q) ∧ cR c c' (nbR S (c 3) p1 p2).2 ∧ tUp G h h' bx := by
  have hn := hc.2.2.2.2.1
  have h5 := hn.1
  unfold sp_X0_nodeBest
  simp only [v_is, if_true, v_isNode, i_in_0_1, b0, Option.bind_some]
  rcases (Classical.em (inB p1 0 (S 17 - 1))).symm with h1 | h1
  · have eR : nbR S (c 3) p1 p2 = (-1, c 3) := if_pos h1
    rw [eR, if_pos h1]
    exact ⟨c, h, rfl, cR_refl, tUp_refl htr⟩
  rw [if_neg (nn h1)]
  rcases (Classical.em (inB p2 0 1)).symm with h2 | h2
  · have eR : nbR S (c 3) p1 p2 = (-1, c 3) := by unfold nbR; rw [if_neg (nn h1), if_pos h2]
    rw [eR, if_pos h2]
    exact ⟨c, h, rfl, cR_refl, tUp_refl htr⟩
  rw [if_neg (nn h2)]
  simp only [v_counts, b0, Option.bind_some]
  have h1' := h1
  rw [hn.2] at h1'
  obtain ⟨k, hk, rfl⟩ : ∃ k, k < nodN S ∧ p1 = nI k := in_nI (by omega) h1'
  have hk5 : k < 5 := by omega
  by_cases h3 : c 3 + 10 ≤ 12000
  · have eR : nbR S (c 3) (nI k) p2 = (if p2 = 0 then (tuneV S k).1 else (tuneV S k).2, c 3 + 10) := by
      unfold nbR
      rw [if_neg (nn h1), if_neg (nn h2), if_neg (nn h3), nI_c (by omega)]
    obtain ⟨K, R, e1, e2⟩ := v_thought (F := F) (c := upd c 3 (c 3 + 10)) (by omega) htr hc hset.2.1 hnu hW
    have hk' : k < nodN (upd S (nd k 0) (tuneV S k).1) := by rw [nod_upd]; exact hk
    have ev : upd S (nd k 0) (tuneV S k).1 (306 + 3 * k + 0) = (tuneV S k).1 := upd_eq
    rw [eR, if_neg (nn h3)]
    simp only [h3, if_true, v_is, e1, Option.bind_some, x_is, x_tunes (show 100 ≤ F by omega) e2.1.1 hr hn hk, x_f26, x_a5 hk5, x_nd_f0 hk5, x_nd_0 hk5 hk', ev]
    refine ⟨upd c 3 (c 3 + 10), wh G h (bx + 106) (upd S (nd k 0) (tuneV S k).1) K R, ?_, cR_upd, tUp_wh e2.2.2.1⟩
    rw [← t_back]
    by_cases h4 : p2 = 0
    · rw [if_pos h4, if_pos h4]
    · rw [if_neg h4, if_neg h4]
  · have eR : nbR S (c 3) (nI k) p2 = (-4, c 3) := by
      unfold nbR
      rw [if_neg (nn h1), if_neg (nn h2), if_pos h3]
    rw [eR, if_pos h3]
    simp only [h3, if_false]
    exact ⟨c, h, rfl, cR_refl, tUp_refl htr⟩
theorem wOk_nd {k : Nat} {x : Int32} (hro : rowOk S) (hm : mOk S) (hW : wOk S J Q) : wOk (upd S (nd k 0) x) J Q := wOk_upd (by unfold nd; omega) (by unfold nd; omega) (tabFree_ge (by unfold nd; omega)) hro hm hW
theorem tuneF_P {k : Nat} (P : (Nat → Int32) → Prop) (h1 : P S) (h2 : ∀ x, P (upd S (nd k 0) x)) : P (tuneF k S) := by
  unfold tuneF
  split
  · exact h1
  · exact h2 _
theorem v_tune (hF : 200 ≤ F) (hro : rowOk S) (hm : mOk S) (hw : waveOk S) (hW : wOk S J Q) : ∃ c', sp_X0_tune G F (wh G (xo h bx c) (bx + 1) S J Q) bx = some ((tuneR S (c 3)).1, wh G (xo h bx c') (bx + 1) (tuneR S (c 3)).2.2 J Q) ∧ cR c c' (tuneR S (c 3)).2.1 ∧ wOk (tuneR S (c 3)).2.2 J Q := by
  have hn := hw.2.1
  have h5 := hn.1
  have hrt := hW.1.1
  unfold sp_X0_tune
  simp only [v_is, if_true, v_counts, b0, Option.bind_some]
  by_cases h3 : c 3 + 200 ≤ 12000
  · have eR : tuneR S (c 3) = (bandsV (tuneA S), c 3 + 200, tuneA S) := if_neg (nn h3)
    rw [eR, if_neg (nn h3)]
    simp only [h3, if_true]
    obtain ⟨c', hc, hcR⟩ : ∃ c', upd c 3 (c 3 + 200) = c' ∧ cR c c' (c 3 + 200) := ⟨_, rfl, cR_upd⟩
    rw [hc]
    have em : ∀ x d : Int32, x - x / d * d = modV x d := fun _ _ => rfl
    by_cases h0 : nodN S = 0
    · have e17 : S 17 = 0 := by rw [hn.2, h0]; rfl
      have eA : tuneA S = S := by
        unfold tuneA
        rw [h0]
        rfl
      have eL : sp_X0_tune_L15 G F F (wh G (xo h bx c') (bx + 1) S J Q) bx 0 = some (wh G (xo h bx c') (bx + 1) S J Q) := by
        obtain ⟨F, rfl⟩ : ∃ z, F = z + 1 := ⟨F - 1, by omega⟩
        rw [sp_X0_tune_L15]
        simp only [v_f0, x_f18, e17, Option.bind_some]
        rw [if_pos (by decide)]
      rw [eA]
      refine ⟨c', ?_, hcR, hW⟩
      simp only [eL, Option.bind_some, v_f0, x_is, if_true, x_bands (show 100 ≤ F by omega) hw.1 hn]
    · have key : ∀ (m j f : Nat) (T : Nat → Int32), m + j = 4 * nodN S → m < f → waveOk T → nodN T = nodN S → rowOk T → mOk T → wOk T J Q → sp_X0_tune_L15 G F f (wh G (xo h bx c') (bx + 1) T J Q) bx (nI j) = some (wh G (xo h bx c') (bx + 1) (itN (fun j s => tuneF (j % nodN S) s) m j T) J Q) ∧ wOk (itN (fun j s => tuneF (j % nodN S) s) m j T) J Q := by
        intro m
        induction m with
        | zero =>
          intro j f T hj hf hT eT r1 r2 r3
          obtain ⟨f, rfl⟩ : ∃ z, f = z + 1 := ⟨f - 1, by omega⟩
          refine ⟨?_, r3⟩
          rw [sp_X0_tune_L15]
          simp only [v_f0, x_f18, Option.bind_some]
          rw [if_pos (by rw [hT.2.1.2, eT, show (4 : Int32) = nI 4 from rfl, pk_mul]; exact nI_le (by omega) (by omega))]
          rfl
        | succ m ih =>
          intro j f T hj hf hT eT r1 r2 r3
          obtain ⟨f, rfl⟩ : ∃ z, f = z + 1 := ⟨f - 1, by omega⟩
          have en : ¬ (4 : Int32) * T 17 ≤ nI j := by rw [hT.2.1.2, eT, show (4 : Int32) = nI 4 from rfl, pk_mul]; exact nI_ge (by omega) (by omega)
          have n0 : ¬ T 17 = 0 := by rw [hT.2.1.2, eT]; exact nI_ne0 (by omega) (by omega)
          have hlt : j % nodN S < nodN S := Nat.mod_lt _ (by omega)
          have hk5 : j % nodN S < 5 := by omega
          have hkT : j % nodN S < nodN T := by rw [eT]; exact hlt
          have emod : modV (nI j) (T 17) = nI (j % nodN S) := by rw [hT.2.1.2, eT]; exact modV_nI (by omega) (by omega) (by omega)
          have hge := tune_ge hT hkT
          have hk' : ∀ x, j % nodN S < nodN (upd T (nd (j % nodN S) 0) x) := fun x => by rw [nod_upd]; exact hkT
          have es : ∀ x y, gSi (wh G (xo h bx c') (bx + 1) (upd T (nd (j % nodN S) 0) x) J Q) (ndt (bx + 1) (j % nodN S)) 0 y = some (wh G (xo h bx c') (bx + 1) (upd T (nd (j % nodN S) 0) y) J Q) := fun x y => by
            rw [x_nds_0 y hrt hk5 (hk' x)]
            exact congrArg some (congrArg (fun z => wh G (xo h bx c') (bx + 1) z J Q) upd_upd)
          have eb : upd T (nd (j % nodN S) 0) (T (306 + 3 * (j % nodN S) + 0)) = T := upd_same rfl
          have hW' : wOk (tuneF (j % nodN S) T) J Q := tuneF_P (fun z => wOk z J Q) r3 (fun x => wOk_nd r1 r2 r3)
          have hr' : rowOk (tuneF (j % nodN S) T) := tuneF_P (fun z => rowOk z) r1 (fun x => rowOk_lo (Or.inr (by unfold nd; omega)) r1)
          have hm' : mOk (tuneF (j % nodN S) T) := tuneF_P (fun z => mOk z) r2 (fun x => mOk_lo (by unfold nd; omega) r2)
          obtain ⟨k1, k2⟩ := ih (j + 1) f (tuneF (j % nodN S) T) (by omega) (by omega) (waveOk_tune hT) (tuneF_nod.trans eT) hr' hm' hW'
          refine ⟨?_, k2⟩
          rw [sp_X0_tune_L15]
          simp only [v_f0, x_f18, Option.bind_some, en, if_false, n0, not_false_eq_true, if_true, x_f26, em, emod, x_a5 hk5, x_nd_f0 hk5, x_nd_0 hk5 hkT, x_is, x_bands (show 100 ≤ F by omega) hT.1 hT.2.1, x_tunes (show 100 ≤ F by omega) hrt hT.1 hT.2.1 hkT, es, eb, nI_1, itN]
          unfold tuneF at k1 ⊢
          by_cases g : (tuneV T (j % nodN S)).2 ≤ bandsV T
          · rw [if_pos g] at k1 ⊢
            rw [if_pos (Int32.le_antisymm g hge)]
            exact k1
          · rw [if_neg g] at k1 ⊢
            rw [if_neg (fun e => g (by rw [e]; exact Int32.le_refl _))]
            exact k1
      obtain ⟨k1, k2⟩ := key (4 * nodN S) 0 F S (by omega) (by omega) hw rfl hro hm hW
      rw [tune_it (by omega)] at k1 k2
      have k1' : sp_X0_tune_L15 G F F (wh G (xo h bx c') (bx + 1) S J Q) bx 0 = some (wh G (xo h bx c') (bx + 1) (tuneA S) J Q) := k1
      have hw' := (tuneA_ok hw).1
      refine ⟨c', ?_, hcR, k2⟩
      simp only [k1', Option.bind_some, v_f0, x_is, if_true, x_bands (show 100 ≤ F by omega) hw'.1 hw'.2.1]
  · have eR : tuneR S (c 3) = (-4, c 3, S) := if_pos h3
    rw [eR, if_pos h3]
    simp only [h3, if_false]
    exact ⟨c, rfl, cR_refl, hW⟩
end X17
