/-! x15: waves: tune, wave, node, change (reference); bands, tunes (class's World) -/
set_option maxRecDepth 100000
theorem nn {P : Prop} (h : P) : ¬ ¬ P := fun hh => hh h
theorem tuneF_nod {S : Nat → Int32} {k : Nat} : nodN (tuneF k S) = nodN S := by
  unfold tuneF
  split
  · rfl
  · exact nod_upd
theorem tnL_lt {S : Nat → Int32} {k : Nat} : ∀ (m v : Nat) (x y : Int32), m + v ≤ 100 → (∃ j, j < m + v ∧ x = nI j) ∨ m = 0 ∨ v = 0 → (∃ j, j < m + v ∧ x = nI j) → ∃ j, j < m + v ∧ (tnL S k m v x y).1 = nI j := by
  intro m
  induction m with
  | zero => intro v x y _ _ hx; exact hx
  | succ m ih =>
    intro v x y hv _ hx
    rw [tnL]
    split
    · have := ih (v + 1) x y (by omega) (Or.inl (by rw [show m + (v + 1) = m + 1 + v by omega]; exact hx)) (by rw [show m + (v + 1) = m + 1 + v by omega]; exact hx)
      rw [show m + (v + 1) = m + 1 + v by omega] at this
      exact this
    · have hn : ∃ j, j < m + (v + 1) ∧ nI v = nI j := ⟨v, by omega, rfl⟩
      have := ih (v + 1) (nI v) (bandsV (upd S (nd k 0) (nI v))) (by omega) (Or.inl hn) hn
      rw [show m + (v + 1) = m + 1 + v by omega] at this
      exact this
theorem tune_lt {S : Nat → Int32} {k : Nat} (hr : rndOk S) : ∃ j, j < rndN S ∧ (tuneV S k).1 = nI j := by
  have h1 := hr.1
  have h2 := hr.2.1
  have := tnL_lt (S := S) (k := k) (rndN S) 0 0 (-1) (by omega) (Or.inr (Or.inr rfl)) ⟨0, by omega, rfl⟩
  exact this
theorem tnL_ge {S : Nat → Int32} {k : Nat} : ∀ (m v : Nat) (x y : Int32), y ≤ (tnL S k m v x y).2 ∧ ∀ j, v ≤ j → j < v + m → bandsV (upd S (nd k 0) (nI j)) ≤ (tnL S k m v x y).2 := by
  intro m
  induction m with
  | zero => intro v x y; exact ⟨Int32.le_refl y, fun j h1 h2 => by omega⟩
  | succ m ih =>
    intro v x y
    rw [tnL]
    by_cases g : bandsV (upd S (nd k 0) (nI v)) ≤ y
    · rw [if_pos g]
      obtain ⟨k1, k2⟩ := ih (v + 1) x y
      refine ⟨k1, fun j h1 h2 => ?_⟩
      by_cases hj : j = v
      · subst hj; exact Int32.le_trans g k1
      · exact k2 j (by omega) (by omega)
    · rw [if_neg g]
      obtain ⟨k1, k2⟩ := ih (v + 1) (nI v) (bandsV (upd S (nd k 0) (nI v)))
      refine ⟨Int32.le_trans (Int32.le_of_lt (Int32.not_le.mp g)) k1, fun j h1 h2 => ?_⟩
      by_cases hj : j = v
      · subst hj; exact k1
      · exact k2 j (by omega) (by omega)
theorem tune_ge {S : Nat → Int32} {k : Nat} (hw : waveOk S) (hk : k < nodN S) : bandsV S ≤ (tuneV S k).2 := by
  obtain ⟨o, ho, eo⟩ := hw.2.2 k hk
  have := (tnL_ge (S := S) (k := k) (rndN S) 0 0 (-1)).2 o (by omega) (by omega)
  rw [upd_same eo.symm] at this
  exact this
theorem waveOk_tune {S : Nat → Int32} {k : Nat} (hw : waveOk S) : waveOk (tuneF k S) := by
  unfold tuneF
  split
  · exact hw
  · obtain ⟨h1, h2, h3⟩ := hw
    refine ⟨rndOk_upd h1, nodeOk_upd h2, fun l hl => ?_⟩
    rw [nod_upd] at hl
    rw [rnd_upd]
    by_cases hlk : l = k
    · subst hlk
      obtain ⟨j, hj, ej⟩ := tune_lt (k := l) h1
      exact ⟨j, hj, by rw [upd_eq, ej]⟩
    · obtain ⟨o, ho, eo⟩ := h3 l hl
      exact ⟨o, ho, by rw [upd_ne (by unfold nd; omega), eo]⟩
def tuneR (S : Nat → Int32) (c : Int32) : Int32 × Int32 × (Nat → Int32) := if ¬ c + 200 ≤ 12000 then (-4, c, S) else (bandsV (tuneA S), c + 200, tuneA S)
theorem tuneA_ok {S : Nat → Int32} (hw : waveOk S) : waveOk (tuneA S) ∧ nodN (tuneA S) = nodN S := by
  unfold tuneA
  exact it_inv (m := 4) (P := fun _ s => waveOk s ∧ nodN s = nodN S) (fun _ s _ hs => it_inv (m := nodN S) (P := fun _ s => waveOk s ∧ nodN s = nodN S) (fun k s _ hs => ⟨waveOk_tune hs.1, tuneF_nod.trans hs.2⟩) (nodN S) 0 s (by omega) hs) 4 0 S (by omega) ⟨hw, rfl⟩
def waveR (S : Nat → Int32) (p1 : Int32) : Int32 × (Nat → Int32) := if ¬ inB p1 20 60 then (-2, S) else (S 16, upd (upd S 16 p1) 17 0)
def nodeR (S : Nat → Int32) (p1 p2 p3 : Int32) : Int32 × (Nat → Int32) :=
  if ¬ inB p1 0 (S 16 - 1) then (-2, S) else if ¬ inB p2 1 (S 16) then (-2, S) else if ¬ inB p3 0 99 then (-2, S) else if S 17 = 5 then (-4, S) else (nI (nodN S), app3 S (306 + 3 * nodN S) 17 (nodN S) p1 p2 p3)
def chnR (S : Nat → Int32) (p1 p2 p3 : Int32) : Int32 × (Nat → Int32) :=
  if ¬ inB p1 0 (S 17 - 1) then (-1, S) else if ¬ inB p2 0 2 then (-1, S) else if ¬ inB p3 (if p2 = 1 then 1 else 0) (if p2 = 0 then S 16 - 1 else if p2 = 1 then S 16 else 99) then (-2, S) else (S (nd p1.toNatClampNeg p2.toNatClampNeg), upd S (nd p1.toNatClampNeg p2.toNatClampNeg) p3)
section R15
variable {h : gH} {b : Nat} {A : Nat → Nat → Int32} {L : Nat → Nat → Int64} {S T : Nat → Int32} {G : gG} {F : Nat}
theorem s_tune_i {y : Int32} (hF : 100 ≤ F) (hw : waveOk S) : ∀ (m i f : Nat) (A : Nat → Nat → Int32) (T : Nat → Int32), m + i = nodN S → m < f → waveOk T → nodN T = nodN S → ∃ A', sp_X13_tune_L22 G F f (mS h b A L T) b y (nI i) = some (mS h b A' L (itN (fun k s => tuneF k s) m i T)) ∧ mQ A A' (A 9 1) := by
  have h5 := hw.2.1.1
  intro m
  induction m with
  | zero =>
    intro i f A T hi hf hT eT
    obtain ⟨f, rfl⟩ : ∃ z, f = z + 1 := ⟨f - 1, by omega⟩
    refine ⟨A, ?_, mQ_refl⟩
    rw [sp_X13_tune_L22]
    simp only [s_is, if_true, s_f0, Option.bind_some, s_r_17]
    rw [if_pos (by rw [hT.2.1.2, eT]; exact nI_le (by omega) (by omega))]
    rfl
  | succ m ih =>
    intro i f A T hi hf hT eT
    obtain ⟨f, rfl⟩ : ∃ z, f = z + 1 := ⟨f - 1, by omega⟩
    have en : ¬ T 17 ≤ nI i := by rw [hT.2.1.2, eT]; exact nI_ge (by omega) (by omega)
    obtain ⟨A', e1, e2⟩ := ih (i + 1) f (mu A 9 5 (tuneV T i).2) (tuneF i T) (by omega) (by omega) (waveOk_tune hT) (tuneF_nod.trans eT)
    have hA : mu A 9 5 (tuneV T i).2 9 1 = A 9 1 := rfl
    rw [hA] at e2
    refine ⟨A', ?_, mQ_trans mQ_5 e2⟩
    rw [sp_X13_tune_L22]
    simp only [s_is, if_true, s_f0, Option.bind_some, s_r_17, en, if_false, s_bestOff hF hT.1 hT.2.1 (show i < 5 by omega), s_f16, mu_v, s_bands hF hT.1 hT.2.1, ix_nd, s_s (nd i 0) _ (by unfold nd; omega), nI_1, itN]
    unfold tuneF at e1 ⊢
    by_cases g : (tuneV T i).2 ≤ bandsV T
    · rw [if_pos g] at e1 ⊢
      rw [if_pos g]
      exact e1
    · rw [if_neg g] at e1 ⊢
      rw [if_neg g]
      exact e1
theorem s_tune (hF : 100 ≤ F) (hw : waveOk S) : ∃ A', sp_X13_tune G F (mS h b A L S) b = some ((tuneR S (A 9 1)).1, mS h b A' L (tuneR S (A 9 1)).2.2) ∧ mQ A A' (tuneR S (A 9 1)).2.1 := by
  unfold sp_X13_tune
  simp only [s_is, if_true, s_f0, Option.bind_some, s_counts, b0]
  have hcc := mQ_of (mR_cnt (A := A) (n := 200))
  by_cases h3 : A 9 1 + 200 ≤ 12000
  · have eR : tuneR S (A 9 1) = (bandsV (tuneA S), A 9 1 + 200, tuneA S) := if_neg (fun hh => hh h3)
    rw [cnt_y h3] at hcc
    have key : ∀ (m i f : Nat) (A : Nat → Nat → Int32) (T : Nat → Int32), m + i = 4 → m < f → waveOk T → nodN T = nodN S → ∃ A', sp_X13_tune_L15 G F f (mS h b A L T) b (nI i) = some (mS h b A' L (itN (fun _ s => itN (fun k s => tuneF k s) (nodN S) 0 s) m i T)) ∧ mQ A A' (A 9 1) := by
      intro m
      induction m with
      | zero =>
        intro i f A T hi hf hT eT
        obtain ⟨f, rfl⟩ : ∃ z, f = z + 1 := ⟨f - 1, by omega⟩
        obtain rfl : i = 4 := by omega
        refine ⟨A, ?_, mQ_refl⟩
        rw [sp_X13_tune_L15, if_pos (by decide)]
        rfl
      | succ m ih =>
        intro i f A T hi hf hT eT
        obtain ⟨f, rfl⟩ : ∃ z, f = z + 1 := ⟨f - 1, by omega⟩
        have en : ¬ (4 : Int32) ≤ nI i := nI_ge (b := 4) (by omega) (by decide)
        have h5 := hw.2.1.1
        obtain ⟨A1, e1, e2⟩ := s_tune_i (G := G) (F := F) (h := h) (b := b) (L := L) (S := S) (y := nI i) hF hw (nodN S) 0 F A T (by omega) (by omega) hT eT
        have e1' : sp_X13_tune_L22 G F F (mS h b A L T) b (nI i) 0 = _ := e1
        have inv := it_inv (m := nodN S) (g := fun k s => tuneF k s) (P := fun _ s => waveOk s ∧ nodN s = nodN S) (fun k s _ hs => ⟨waveOk_tune hs.1, tuneF_nod.trans hs.2⟩) (nodN S) 0 T (by omega) ⟨hT, eT⟩
        obtain ⟨A2, e3, e4⟩ := ih (i + 1) f A1 _ (by omega) (by omega) inv.1 inv.2
        rw [mQ_91 e2] at e4
        refine ⟨A2, ?_, mQ_trans e2 e4⟩
        rw [sp_X13_tune_L15]
        simp only [en, if_false, e1', Option.bind_some, nI_1, itN]
        exact e3
    obtain ⟨A', e1, e2⟩ := key 4 0 F (cntA A 200) S (by omega) (by omega) hw rfl
    rw [mQ_91 hcc] at e2
    have e1' : sp_X13_tune_L15 G F F (mS h b (cntA A 200) L S) b 0 = some (mS h b A' L (tuneA S)) := e1
    have hw' := (tuneA_ok hw).1
    rw [eR, if_neg (fun hh => hh h3)]
    refine ⟨A', ?_, mQ_trans hcc e2⟩
    simp only [e1', s_is, if_true, s_f0, Option.bind_some, s_bands hF hw'.1 hw'.2.1]
  · have eR : tuneR S (A 9 1) = (-4, A 9 1, S) := if_pos h3
    rw [cnt_n h3] at hcc
    rw [eR, if_pos h3]
    exact ⟨cntA A 200, rfl, hcc⟩
theorem s_wave {p1 : Int32} : sp_X13_wave G F (mS h b A L S) b p1 = some ((waveR S p1).1, mS h b A L (waveR S p1).2) := by
  unfold sp_X13_wave waveR
  simp only [i_isIn, Option.bind_some, b0, s_is, if_true, s_f0, Option.bind_some, s_r_16, s_w_16, s_w_17]
  by_cases h1 : inB p1 20 60
  · rw [if_neg (nn h1), if_neg (nn h1)]
  · rw [if_pos h1, if_pos h1]
theorem s_mayBe {w : Nat} {x : Int32} (hw : w < 3) : sp_X13_mayBe G F (mS h b A L S) b (nI w) x = some (if inB x (if w = 1 then 1 else 0) (if w = 0 then S 16 - 1 else if w = 1 then S 16 else 99) then 1 else 0) := by
  unfold sp_X13_mayBe
  simp only [s_is, if_true, s_f0, Option.bind_some, s_r_16, i_isIn]
  match w, hw with
  | 0, _ => rw [if_pos (show nI 0 = 0 from rfl), if_pos if01]; rfl
  | 1, _ => rw [if_neg (show ¬ nI 1 = 0 by decide), if_pos (show nI 1 = 1 from rfl), if_pos if01]; rfl
  | 2, _ => rw [if_neg (show ¬ nI 2 = 0 by decide), if_neg (show ¬ nI 2 = 1 by decide), if_pos if01]; rfl
theorem s_node {p1 p2 p3 : Int32} (hn : nodeOk S) : sp_X13_node G F (mS h b A L S) b p1 p2 p3 = some ((nodeR S p1 p2 p3).1, mS h b A L (nodeR S p1 p2 p3).2) := by
  have h5 := hn.1
  have m0 : ∀ x, sp_X13_mayBe G F (mS h b A L S) b 0 x = some (if inB x 0 (S 16 - 1) then 1 else 0) := fun x => s_mayBe (w := 0) (by decide)
  have m1 : ∀ x, sp_X13_mayBe G F (mS h b A L S) b 1 x = some (if inB x 1 (S 16) then 1 else 0) := fun x => s_mayBe (w := 1) (by decide)
  have m2 : ∀ x, sp_X13_mayBe G F (mS h b A L S) b 2 x = some (if inB x 0 99 then 1 else 0) := fun x => s_mayBe (w := 2) (by decide)
  unfold sp_X13_node nodeR
  simp only [s_is, if_true, s_f0, Option.bind_some, m0, m1, m2, b0, s_r_17]
  by_cases h1 : inB p1 0 (S 16 - 1)
  · rw [if_neg (nn h1), if_neg (nn h1)]
    by_cases h2 : inB p2 1 (S 16)
    · rw [if_neg (nn h2), if_neg (nn h2)]
      by_cases h3 : inB p3 0 99
      · rw [if_neg (nn h3), if_neg (nn h3)]
        by_cases h4 : S 17 = 5
        · rw [if_pos h4, if_pos h4]
        · rw [if_neg h4, if_neg h4]
          have hk : nodN S < 5 := by
            rcases Nat.lt_or_ge (nodN S) 5 with h | h
            · exact h
            · exact absurd (by rw [hn.2, show nodN S = 5 by omega]; rfl) h4
          have e17 : upd (upd (upd S (nd (nodN S) 0) p1) (nd (nodN S) 1) p2) (nd (nodN S) 2) p3 17 = nI (nodN S) := by
            rw [upd_ne (by unfold nd; omega), upd_ne (by unfold nd; omega), upd_ne (by unfold nd; omega)]
            exact hn.2
          rw [hn.2]
          simp only [ix_nd, ix_nd1, ix_nd2, s_s (nd (nodN S) 0) _ (by unfold nd; omega), s_s (nd (nodN S) 1) _ (by unfold nd; omega), s_s (nd (nodN S) 2) _ (by unfold nd; omega), s_is, if_true, s_f0, Option.bind_some, s_r_17, e17, s_w_17, nI_1, upd_eq, nI_sub1]
          rfl
      · rw [if_pos h3, if_pos h3]
    · rw [if_pos h2, if_pos h2]
  · rw [if_pos h1, if_pos h1]
theorem s_change {p1 p2 p3 : Int32} (hn : nodeOk S) : sp_X13_change G F (mS h b A L S) b p1 p2 p3 = some ((chnR S p1 p2 p3).1, mS h b A L (chnR S p1 p2 p3).2) := by
  have h5 := hn.1
  unfold sp_X13_change chnR
  simp only [s_is, if_true, s_f0, Option.bind_some, s_isNode, i_isIn, b0]
  by_cases h1 : inB p1 0 (S 17 - 1)
  · rw [if_neg (nn h1), if_neg (nn h1)]
    by_cases h2 : inB p2 0 2
    · rw [if_neg (nn h2), if_neg (nn h2)]
      have h1' := h1
      rw [hn.2] at h1'
      obtain ⟨k, hk, rfl⟩ : ∃ k, k < nodN S ∧ p1 = nI k := in_nI (by omega) h1'
      obtain ⟨w, hw, rfl⟩ : ∃ k, k < 3 ∧ p2 = nI k := in_nI (m := 3) (by decide) h2
      have e1 : (nI w = 1) = (w = 1) := propext (nI_eq (b := 1) (by omega) (by decide))
      have e0 : (nI w = 0) = (w = 0) := propext (nI_eq (b := 0) (by omega) (by decide))
      have ei : nI (nd k 0) + nI w = nI (nd k w) := by rw [nI_add]; rfl
      simp only [s_mayBe hw, Option.bind_some, b0, ix_nd, ei, s_a (nd k w) (by unfold nd; omega), s_s (nd k w) _ (by unfold nd; omega), nI_c (show k < 2 ^ 31 by omega), nI_c (show w < 2 ^ 31 by omega), e0, e1]
      generalize (if w = 1 then (1 : Int32) else 0) = lo
      generalize (if w = 0 then S 16 - 1 else if w = 1 then S 16 else 99) = hi
      by_cases h3 : inB p3 lo hi
      · rw [if_neg (nn h3), if_neg (nn h3)]
      · rw [if_pos h3, if_pos h3]
    · rw [if_pos h2, if_pos h2]
  · rw [if_pos h1, if_pos h1]
end R15
