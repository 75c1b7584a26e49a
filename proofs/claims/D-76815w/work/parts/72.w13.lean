/-! w13: the class's World: settles; who meets whom -/
set_option maxRecDepth 100000
/-- a way shares a cell with another -/
def shares (S : Nat → Int32) (a c : Nat) : Prop := ∃ i, i < cellsN S a ∧ 0 ≤ placeV S c (S (sA a (12 + i)))
theorem nwL_none {S : Nat → Int32} {a c : Nat} : ∀ (n i : Nat) (x : Int32), (∀ j, i ≤ j → j < i + n → ¬ 0 ≤ placeV S c (S (sA a (12 + j)))) → nwL S a c n i x = x := by
  intro n
  induction n with
  | zero => intro i x _; rfl
  | succ n ih =>
    intro i x hh
    rw [nwL, if_neg (hh i (by omega) (by omega))]
    exact ih (i + 1) x (fun j h1 h2 => hh j (by omega) (by omega))
theorem clrL_none {S : Nat → Int32} {a c : Nat} : ∀ (n i : Nat) (g w : Int32), (∀ j, i ≤ j → j < i + n → ¬ 0 ≤ placeV S c (S (sA a (12 + j)))) → clrL S a c n i g w = (g, w) := by
  intro n
  induction n with
  | zero => intro i g w _; rfl
  | succ n ih =>
    intro i g w hh
    rw [clrL, if_neg (hh i (by omega) (by omega))]
    exact ih (i + 1) g w (fun j h1 h2 => hh j (by omega) (by omega))
theorem nwL_some {S : Nat → Int32} {a c : Nat} (h8 : cellsN S a ≤ 8) : ∀ (n i : Nat) (x : Int32), n + i ≤ cellsN S a → (¬ x = -1 ∨ ∃ j, i ≤ j ∧ j < i + n ∧ 0 ≤ placeV S c (S (sA a (12 + j)))) → ¬ nwL S a c n i x = -1 := by
  have hne : ∀ k, k < 8 → ¬ nI k = -1 := fun k hk e => absurd (by rw [e]; decide) (nI_nn (e := k) (by omega))
  intro n
  induction n with
  | zero =>
    intro i x _ hh
    rcases hh with hh | ⟨j, h1, h2, -⟩
    · exact hh
    · omega
  | succ n ih =>
    intro i x hi hh
    rw [nwL]
    by_cases hp : 0 ≤ placeV S c (S (sA a (12 + i)))
    · rw [if_pos hp]
      split
      · exact ih _ _ (by omega) (Or.inl (hne i (by omega)))
      · rename_i hx
        split
        · exact ih _ _ (by omega) (Or.inl hx)
        · exact ih _ _ (by omega) (Or.inl (hne i (by omega)))
    · rw [if_neg hp]
      refine ih _ _ (by omega) ?_
      rcases hh with hh | ⟨j, h1, h2, h3⟩
      · exact Or.inl hh
      · refine Or.inr ⟨j, ?_, by omega, h3⟩
        rcases Nat.lt_or_ge i j with hl | hl
        · exact hl
        · exact absurd (by rw [show i = j by omega]; exact h3) hp
theorem shares_sym {S : Nat → Int32} {a c : Nat} (ha : cellsN S a ≤ 8) (hc : cellsN S c ≤ 8) (h : shares S a c) : shares S c a := by
  obtain ⟨i, hi, hp⟩ := h
  rcases placeV_v (S := S) (a := c) (x := S (sA a (12 + i))) hc with ⟨e, -⟩ | ⟨j, hj, e, -⟩
  · rw [e] at hp; exact absurd hp (by decide)
  · refine ⟨j, hj, ?_⟩
    rcases placeV_v (S := S) (a := a) (x := S (sA c (12 + j))) ha with ⟨-, hh⟩ | ⟨k, hk, -, e3⟩
    · exact absurd e.symm (hh i hi)
    · rw [e3]; exact nI_pos' (by omega)
/-- the cells that two ways have in common, and what the tables tell -/
theorem clr_share {S : Nat → Int32} {a c : Nat} (h8 : cellsN S a ≤ 8) (hcell : ∀ i, i < cellsN S a → ∃ z, z < 64 ∧ S (sA a (12 + i)) = nI z) (hac : a ≠ c) :
    (shares S a c → ∃ j, j < cellsN S a ∧ nwL S a c (cellsN S a) 0 (-1) = nI j ∧ 0 ≤ placeV S c (S (sA a (12 + j))) ∧ clrV S a c = (clAt S a c j, S (sA a (12 + j))) ∧ 0 ≤ (clrV S a c).2) ∧ (¬ shares S a c → clrV S a c = (0, -5)) := by
  have hr := nw_clr (c := c) h8 hcell (cellsN S a) 0 (-1) 0 (-5) (by omega) (Or.inl ⟨rfl, rfl⟩)
  have e : clrV S a c = clrL S a c (cellsN S a) 0 0 (-5) := by unfold clrV; rw [if_neg hac]
  constructor
  · intro hs
    obtain ⟨i, hi, hp⟩ := hs
    have hne := nwL_some (c := c) h8 (cellsN S a) 0 (-1) (by omega) (Or.inr ⟨i, by omega, by omega, hp⟩)
    rcases hr with ⟨e1, -⟩ | ⟨j, hj, e1, e2, e3, e4⟩
    · exact absurd e1 hne
    · refine ⟨j, hj, e1, e3, ?_, ?_⟩
      · rw [e]; exact Prod.ext e4 e2
      · obtain ⟨z, hz, ez⟩ := hcell j hj
        rw [e, e2, ez]; exact nI_pos' (by omega)
  · intro hs
    rw [e]
    exact clrL_none _ _ _ _ (fun j _ h2 hp => hs ⟨j, by omega, hp⟩)
theorem gAmb_nn {k : Nat} (hk : k < 4) : ∃ m, m ≤ 4 ∧ gAmb k = nI m := by
  match k, hk with
  | 0, _ => exact ⟨3, by decide, rfl⟩
  | 1, _ => exact ⟨2, by decide, rfl⟩
  | 2, _ => exact ⟨4, by decide, rfl⟩
  | 3, _ => exact ⟨2, by decide, rfl⟩
theorem gPac_nn {k : Nat} (hk : k < 4) : ∃ m, m ≤ 3 ∧ gPac k = nI m := by
  match k, hk with
  | 0, _ => exact ⟨1, by decide, rfl⟩
  | 1, _ => exact ⟨3, by decide, rfl⟩
  | 2, _ => exact ⟨2, by decide, rfl⟩
  | 3, _ => exact ⟨1, by decide, rfl⟩
def safeOk (S : Nat → Int32) : Prop := ∃ s, s ≤ 5 ∧ S 1 = nI s
/-- a clear is some 40 seconds at most -/
theorem clAt_v {S : Nat → Int32} {a c i : Nat} (hro : rowOk S) (ha : a < 8) (hc : c < 8) (hi : i < cellsN S a) (hp : 0 ≤ placeV S c (S (sA a (12 + i)))) : ∃ z : Int, -30 ≤ z ∧ z ≤ 30 ∧ (clAt S a c i).toInt = z := by
  obtain ⟨m1, h1, e1⟩ := gAmb_nn (hro a ha).kind.1
  obtain ⟨m2, h2, e2⟩ := gPac_nn (hro a ha).kind.1
  obtain ⟨m3, h3, e3⟩ := gPac_nn (hro c hc).kind.1
  have hca := (hro a ha).cells
  have hcc := (hro c hc).cells
  rcases placeV_c (S := S) (a := c) (x := S (sA a (12 + i))) hcc.1 with ⟨-, -, hh⟩ | ⟨j, hj, ej, -, -⟩
  · exact absurd hp hh
  · have hm : m2 * (i + 1) ≤ 24 := by
      calc m2 * (i + 1) ≤ 3 * 8 := Nat.mul_le_mul h2 (by omega)
        _ = 24 := rfl
    have hn : m3 * j ≤ 24 := by
      calc m3 * j ≤ 3 * 8 := Nat.mul_le_mul h3 (by omega)
        _ = 24 := rfl
    unfold clAt
    rw [e1, e2, e3, ej, nI_1, pk_mul, pk_mul, nI_add, pk_sub_toInt (by omega) (by omega)]
    exact ⟨_, by omega, by omega, rfl⟩
theorem max_sw (x y : Int32) : maxI x y = if y < x then x else y := by
  unfold maxI
  by_cases h1 : x < y
  · rw [if_pos h1, if_neg (Int32.not_lt.mpr (Int32.le_of_lt h1))]
  · rw [if_neg h1]
    by_cases h2 : y < x
    · rw [if_pos h2]
    · rw [if_neg h2]; exact Int32.le_antisymm (Int32.not_lt.mp h2) (Int32.not_lt.mp h1)
theorem clearV_v {S : Nat → Int32} {a c : Nat} (hro : rowOk S) (hsf : safeOk S) (hcell : ∀ i, i < cellsN S a → ∃ z, z < 64 ∧ S (sA a (12 + i)) = nI z) (ha : a < 8) (hc : c < 8) (hac : a ≠ c) :
    (shares S a c → ∃ m, m ≤ 40 ∧ clearV S a c = nI m) ∧ (¬ shares S a c → clearV S a c = -5) := by
  have hk := clr_share (c := c) (hro a ha).cells.1 hcell hac
  constructor
  · intro hs
    obtain ⟨j, hj, -, hp, e, h0⟩ := hk.1 hs
    obtain ⟨m1, h1, e1⟩ := gAmb_nn (hro a ha).kind.1
    obtain ⟨s, h5, es⟩ := hsf
    obtain ⟨z, hz1, hz2, ez⟩ := clAt_v hro ha hc hj hp
    unfold clearV
    rw [if_pos h0, e, es]
    dsimp only
    by_cases hlt : gAmb (kindN S a) < clAt S a c j
    · rw [if_pos hlt]
      have : 0 ≤ clAt S a c j := by
        rw [e1] at hlt
        exact Int32.le_trans (nI_pos' (n := m1) (by omega)) (Int32.le_of_lt hlt)
      obtain ⟨q, hq, eq⟩ := nI_of (Int32.not_lt.mpr this)
      rw [eq, nI_toInt hq] at ez
      refine ⟨q + s, by omega, ?_⟩
      rw [eq, nI_add]
    · rw [if_neg hlt, e1, nI_add]
      exact ⟨m1 + s, by omega, rfl⟩
  · intro hs
    unfold clearV
    rw [hk.2 hs, if_neg (by decide)]
theorem clear_neg {S : Nat → Int32} {a c : Nat} (hro : rowOk S) (hsf : safeOk S) (hcl : cellOk S) (hm : mOk S) (ha : a < manyN S) (hc : c < manyN S) : (clearV S a c < 0) ↔ ¬ (a ≠ c ∧ shares S a c) := by
  have h8 := hm.1
  by_cases hac : a = c
  · subst hac
    have : clearV S a a = -5 := by
      unfold clearV clrV
      rw [if_pos rfl, if_neg (by decide)]
    rw [this]
    exact ⟨fun _ hh => hh.1 rfl, fun _ => by decide⟩
  · obtain ⟨k1, k2⟩ := clearV_v hro hsf (hcl a ha) (show a < 8 by omega) (show c < 8 by omega) hac
    by_cases hs : shares S a c
    · obtain ⟨m, hm40, e⟩ := k1 hs
      rw [e]
      exact ⟨fun hh => absurd hh (nI_nn (by omega)), fun hh => absurd ⟨hac, hs⟩ hh⟩
    · rw [k2 hs]
      exact ⟨fun _ hh => hs hh.2, fun _ => by decide⟩
theorem clear_sym {S : Nat → Int32} {a c : Nat} (hro : rowOk S) (hsf : safeOk S) (hcl : cellOk S) (hm : mOk S) (ha : a < manyN S) (hc : c < manyN S) : (clearV S a c < 0) ↔ (clearV S c a < 0) := by
  have h8 := hm.1
  rw [clear_neg hro hsf hcl hm ha hc, clear_neg hro hsf hcl hm hc ha]
  have e : (a ≠ c ∧ shares S a c) ↔ (c ≠ a ∧ shares S c a) := ⟨fun hh => ⟨Ne.symm hh.1, shares_sym (hro a (by omega)).cells.1 (hro c (by omega)).cells.1 hh.2⟩, fun hh => ⟨Ne.symm hh.1, shares_sym (hro c (by omega)).cells.1 (hro a (by omega)).cells.1 hh.2⟩⟩
  rw [e]
section W13
variable {G : gG} {h : gH} {b : Nat} {S C : Nat → Int32} {J : Nat → Nat → Int32} {Q : Nat → Nat → Int64} {F : Nat}
theorem bits_share {a c : Nat} (hro : rowOk S) (hcl : cellOk S) (hB : bsOk S Q) (ha8 : a < 8) (ha : a < manyN S) (hc8 : c < 8) (hc : c < manyN S) : (Q (13 + 6 * a) 0 &&& Q (13 + 6 * c) 0 = 0) ↔ ¬ shares S a c := by
  rw [and_any]
  constructor
  · intro hh hs
    obtain ⟨i, hi, hp⟩ := hs
    obtain ⟨z, hz, ez⟩ := hcl a ha i hi
    refine hh z hz ⟨(hB a ha z hz).mpr ?_, (hB c hc z hz).mpr (by rw [← ez]; exact hp)⟩
    rcases placeV_v (S := S) (a := a) (x := nI z) (hro a ha8).cells.1 with ⟨-, h2⟩ | ⟨k, hk, -, e3⟩
    · exact absurd ez (h2 i hi)
    · have := (hro a ha8).cells.1
      rw [e3]; exact nI_pos' (by omega)
  · intro hs z hz hh
    have h1 := (hB a ha z hz).mp hh.1
    have h2 := (hB c hc z hz).mp hh.2
    rcases placeV_v (S := S) (a := a) (x := nI z) (hro a ha8).cells.1 with ⟨e, -⟩ | ⟨k, hk, e, -⟩
    · rw [e] at h1; exact absurd h1 (by decide)
    · exact hs ⟨k, hk, by rw [e]; exact h2⟩
def setJ (S : Nat → Int32) (a c : Nat) (J : Nat → Nat → Int32) : Nat → Nat → Int32 := va_up J 8 (upd (J 8) (8 * a + c) (clearV S a c))
theorem bsAll_set {a c : Nat} (hA : bsAll J Q) : bsAll (setJ S a c J) Q := by
  intro k hk
  have e : setJ S a c J (12 + 6 * k) = J (12 + 6 * k) := if_neg (by omega)
  rw [e]
  exact hA k hk
theorem x_settles_s {a c f : Nat} (hF : 40 ≤ F) (hG : gI4 G) (hm : mOk S) (hro : rowOk S) (hsf : safeOk S) (hcl : cellOk S) (hA : bsAll J Q) (hB : bsOk S Q) (ha : a < manyN S) (hc : c < manyN S) : sp_X1_settles_L12 G F (f + 1) (wh G h b S J Q) b (nI a) (nI c) = sp_X1_settles_L12 G F f (wh G h b S (setJ S a c J) Q) b (nI a) (nI (c + 1)) := by
  have h8 := hm.1
  have ha8 : a < 8 := by omega
  have hc8 : c < 8 := by omega
  have en : ¬ S 13 ≤ nI c := by rw [hm.2]; exact nI_ge (by omega) (by omega)
  have hk := (hro a ha8).kind
  have ea0 : gKd G (gS G (kindN S a)) 0 = some (gAmb (kindN S a)) := i_gKd hG hk.1 0
  have eac : (nI a = nI c) ↔ a = c := nI_eq (by omega) (by omega)
  have ej1 : a ≠ c ∧ shares S a c → (if nI a = nI c then some (0 : Int32) else (sp_J1_intersects G F (wh G h b S J Q) (sgw b a) (sgw b c)).bind fun u1311 => if u1311 = 0 then some (0 : Int32) else some 1) = some 1 := by
    intro hs
    rw [if_neg (fun hh => hs.1 (eac.mp hh)), x_intersects (by omega) hA ha8 hc8, if_neg (fun hh => (bits_share hro hcl hB ha8 ha hc8 hc).mp hh hs.2)]
    rfl
  have ej0 : ¬ (a ≠ c ∧ shares S a c) → (if nI a = nI c then some (0 : Int32) else (sp_J1_intersects G F (wh G h b S J Q) (sgw b a) (sgw b c)).bind fun u1311 => if u1311 = 0 then some (0 : Int32) else some 1) = some 0 := by
    intro hs
    by_cases hac : a = c
    · rw [if_pos (eac.mpr hac)]
    · rw [if_neg (fun hh => hac (eac.mp hh)), x_intersects (by omega) hA ha8 hc8, if_pos ((bits_share hro hcl hB ha8 ha hc8 hc).mpr (fun hh => hs ⟨hac, hh⟩))]
      rfl
  rw [sp_X1_settles_L12]
  simp only [x_is, if_true, Option.bind_some, x_f13, en, if_false, x_f22, x_a1 ha8, x_a1 hc8, x_sg_f2 ha8, x_sg_f2 hc8, x_sgw_is ha8]
  by_cases hs : a ≠ c ∧ shares S a c
  · rw [ej1 hs]
    simp only [Option.bind_some, x_f29, ix_8, x_s8 _ (show 8 * a + c < 64 by omega), nI_1]
    obtain ⟨j, hj, e1, hp, e2, h0⟩ := (clr_share (c := c) (hro a ha8).cells.1 (hcl a ha) hs.1).1 hs.2
    rw [if_neg (by decide), x_narrowOf hF hG hro hA hB hcl ha8 ha hc8 hc, e1]
    simp only [Option.bind_some, x_clearAt hF hG hro ha8 ha hc8 hc hj hp, x_sg_f0 ha8 ha, ea0, i_max, x_f9]
    have ec : clearV S a c = maxI (clAt S a c j) (gAmb (kindN S a)) + S 1 := by
      unfold clearV
      rw [if_pos h0, e2, max_sw]
    rw [← ec]
    rfl
  · rw [ej0 hs]
    simp only [Option.bind_some, x_f29, ix_8, x_s8 _ (show 8 * a + c < 64 by omega), nI_1]
    have ec : clearV S a c = -5 := by
      by_cases hac : a = c
      · subst hac
        unfold clearV clrV
        rw [if_pos rfl, if_neg (by decide)]
      · exact (clearV_v hro hsf (hcl a ha) ha8 hc8 hac).2 (fun hh => hs ⟨hac, hh⟩)
    rw [if_pos trivial, ← ec]
    rfl
/-- J' is J but for the clears -/
def jC (J J' : Nat → Nat → Int32) : Prop := ∀ n, n ≠ 8 → J' n = J n
theorem jC_set {a c : Nat} {K : Nat → Nat → Int32} (hK : jC J K) : jC J (setJ S a c K) := fun n hn => by
  have e : setJ S a c K n = K n := if_neg hn
  rw [e]
  exact hK n hn
theorem bsAll_jC {K : Nat → Nat → Int32} (hK : jC J K) (hA : bsAll J Q) : bsAll K Q := fun k hk => by
  rw [hK (12 + 6 * k) (by omega)]
  exact hA k hk
def setP (S : Nat → Int32) (a c : Nat) (K : Nat → Nat → Int32) : Prop := ∀ x y, x < 8 → y < 8 → (x < a ∧ y < manyN S ∨ x = a ∧ y < c) → K 8 (8 * x + y) = clearV S x y
theorem setP_s {a c : Nat} {K : Nat → Nat → Int32} (hc8 : c < 8) (hK : setP S a c K) : setP S a (c + 1) (setJ S a c K) := by
  intro x y hx hy hh
  have e : setJ S a c K 8 = upd (K 8) (8 * a + c) (clearV S a c) := by unfold setJ va_up; rw [if_pos rfl]
  rw [e]
  by_cases hxy : x = a ∧ y = c
  · obtain ⟨rfl, rfl⟩ := hxy
    exact upd_eq
  · rw [upd_ne (by omega)]
    exact hK x y hx hy (by omega)
theorem x_settles (hF : 40 ≤ F) (hG : gI4 G) (hm : mOk S) (hro : rowOk S) (hsf : safeOk S) (hcl : cellOk S) (hA : bsAll J Q) (hB : bsOk S Q) : ∃ K, sp_X1_settles G F (wh G h b S J Q) b = some (wh G h b S K Q) ∧ jC J K ∧ ∀ x y, x < manyN S → y < manyN S → K 8 (8 * x + y) = clearV S x y := by
  have h8 := hm.1
  have inner : ∀ (a : Nat) (J : Nat → Nat → Int32), a < manyN S → bsAll J Q → setP S a 0 J → ∃ K, sp_X1_settles_L12 G F F (wh G h b S J Q) b (nI a) 0 = some (wh G h b S K Q) ∧ jC J K ∧ setP S (a + 1) 0 K := by
    intro a J ha hA hP
    have key := it_loop (m := manyN S) (fun f c K => sp_X1_settles_L12 G F f (wh G h b S K Q) b (nI a) (nI c)) (fun c K => setJ S a c K) (fun c K => jC J K ∧ setP S a c K) (fun K => wh G h b S K Q) (by
      intro c f K hc hK
      exact x_settles_s hF hG hm hro hsf hcl (bsAll_jC hK.1 hA) hB ha hc) (by
      intro c K hc hK
      exact ⟨jC_set hK.1, setP_s (by omega) hK.2⟩) (by
      intro f K hK
      show sp_X1_settles_L12 G F (f + 1) (wh G h b S K Q) b (nI a) (nI (manyN S)) = _
      rw [sp_X1_settles_L12]
      simp only [x_is, if_true, Option.bind_some, x_f13]
      rw [if_pos (by rw [hm.2]; exact nI_le (by omega) (by omega))]) (manyN S) 0 F J (by omega) (by omega) ⟨fun _ _ => rfl, hP⟩
    have inv := it_inv (m := manyN S) (g := fun c K => setJ S a c K) (P := fun c K => jC J K ∧ setP S a c K) (fun c K hc hK => ⟨jC_set hK.1, setP_s (by omega) hK.2⟩) (manyN S) 0 J (by omega) ⟨fun _ _ => rfl, hP⟩
    refine ⟨_, key, inv.1, ?_⟩
    intro x y hx hy hh
    exact inv.2 x y hx hy (by omega)
  have outer : ∀ (n a f : Nat) (K : Nat → Nat → Int32), n + a = manyN S → n < f → jC J K → setP S a 0 K → ∃ M, sp_X1_settles_L2 G F f (wh G h b S K Q) b (nI a) = some (wh G h b S M Q) ∧ jC J M ∧ setP S (manyN S) 0 M := by
    intro n
    induction n with
    | zero =>
      intro a f K hi hf hK hP
      obtain ⟨f, rfl⟩ : ∃ z, f = z + 1 := ⟨f - 1, by omega⟩
      obtain rfl : a = manyN S := by omega
      refine ⟨K, ?_, hK, hP⟩
      rw [sp_X1_settles_L2]
      simp only [x_is, if_true, Option.bind_some, x_f13]
      rw [if_pos (by rw [hm.2]; exact nI_le (by omega) (by omega))]
    | succ n ih =>
      intro a f K hi hf hK hP
      obtain ⟨f, rfl⟩ : ∃ z, f = z + 1 := ⟨f - 1, by omega⟩
      have en : ¬ S 13 ≤ nI a := by rw [hm.2]; exact nI_ge (by omega) (by omega)
      obtain ⟨M, m1, m2, m3⟩ := inner a K (by omega) (bsAll_jC hK hA) hP
      obtain ⟨N, n1, n2, n3⟩ := ih (a + 1) f M (by omega) (by omega) (fun z hz => (m2 z hz).trans (hK z hz)) m3
      refine ⟨N, ?_, n2, n3⟩
      rw [sp_X1_settles_L2]
      simp only [x_is, if_true, Option.bind_some, x_f13, en, if_false, m1, nI_1]
      exact n1
  obtain ⟨M, m1, m2, m3⟩ := outer (manyN S) 0 F J (by omega) (by omega) (fun _ _ => rfl) (fun x y _ _ hh => by omega)
  refine ⟨M, ?_, m2, fun x y hx hy => m3 x y (by omega) (by omega) (Or.inl ⟨hx, hy⟩)⟩
  unfold sp_X1_settles
  rw [show sp_X1_settles_L2 G F F (wh G h b S J Q) b 0 = _ from m1]
  rfl
end W13
