/-! x26: the class's tapes: sort, size, at; peek, judge; feed -/
set_option maxRecDepth 100000
def tyS (s : Nat) : Nat := if s = 0 then 2 else if s = 1 then 4 else if s = 2 then 0 else if s = 3 then 1 else 3
/-- a row of m items of sort s, which are v -/
def tpCell (s m : Nat) (x : gC) (v : Nat → Int64) : Prop :=
  (s = 3 ∧ ∃ f, x = .inl (1, m, .inr (.inl f)) ∧ ∀ i, i < m → f i = v i) ∨ (s = 4 ∧ ∃ f, x = .inl (3, m, .inl f) ∧ ∀ i, i < m → (if f i = 0 then (0 : Int64) else 1) = v i) ∨ (s < 3 ∧ ∃ f, x = .inl (tyS s, m, .inl f) ∧ ∀ i, i < m → (f i).toInt64 = v i)
def tp1 (h : gH) (bx : Nat) (A : Nat → Nat → Int32) (L : Nat → Nat → Int64) (k : Nat) : Prop :=
  (A 7 k = -1 ∧ A 8 k = 0 ∧ h (bx + 324 + k) = some (.inr (10, [.null]))) ∨ ∃ s m a x, s < 5 ∧ m ≤ 60 ∧ A 7 k = nI s ∧ A 8 k = nI m ∧ h (bx + 324 + k) = some (.inr (10, [.ref a])) ∧ bx + 330 ≤ a ∧ h a = some x ∧ tpCell s m x (fun i => L 0 (60 * k + i))
/-- the class's tapes are as the reference's rows tell -/
def tpAt (h : gH) (bx : Nat) (A : Nat → Nat → Int32) (L : Nat → Nat → Int64) : Prop := (∃ f : Nat → Option Nat, h (bx + 323) = some (.inl (10, 6, .inr (.inr (.inr (.inr f))))) ∧ ∀ k, k < 6 → f k = some (bx + 324 + k)) ∧ ∀ k, k < 6 → tp1 h bx A L k
theorem tps_of {h : gH} {bx : Nat} {A : Nat → Nat → Int32} {L : Nat → Nat → Int64} (ht : tpAt h bx A L) : tpsOk A := fun k hk => by
  rcases ht.2 k hk with ⟨e1, e2, -⟩ | ⟨s, m, -, -, hs, hm, e1, e2, -⟩
  · exact Or.inl ⟨e1, e2⟩
  · exact Or.inr ⟨⟨s, hs, e1⟩, m, hm, e2⟩
theorem tpC_ty {s m : Nat} {x : gC} {v : Nat → Int64} (hc : tpCell s m x v) (hs : s < 5) : ∃ y, x = .inl (tyS s, m, y) := by
  rcases hc with ⟨e, f, ex, -⟩ | ⟨e, f, ex, -⟩ | ⟨e, f, ex, -⟩
  · exact ⟨_, by rw [ex, e]; rfl⟩
  · exact ⟨_, by rw [ex, e]; rfl⟩
  · exact ⟨_, ex⟩
section X26
variable {G : gG} {F n bx : Nat} {h H : gH} {b : Nat} {c : Nat → Int32} {S C T I : Nat → Int32} {J K : Nat → Nat → Int32} {Q R : Nat → Nat → Int64} {A : Nat → Nat → Int32} {L : Nat → Nat → Int64}
theorem v_hi {a : Nat} (ha : bx + 106 ≤ a) : wh G (xo h bx c) (bx + 1) S J Q a = h a := by
  unfold wh
  rw [wR_out (by omega), xo_ne (by omega)]
theorem t_at10 {k : Nat} (ht : tpAt h bx A L) (hk : k < 6) : gAr 10 (wh G (xo h bx c) (bx + 1) S J Q) (bx + 323) (nI k) = some (bx + 324 + k) := by
  obtain ⟨f, e1, e2⟩ := ht.1
  unfold gAr
  rw [v_hi (by omega), e1]
  show (if 10 = 10 ∧ gin (nI k) 6 then f (nI k).toNatClampNeg else none) = _
  rw [if_pos ⟨rfl, nI_in hk (by decide)⟩, nI_c (by omega), e2 k hk]
theorem tq_is {y : List Value} {a : Nat} (e : H a = some (.inr (10, y))) : gIs 10 H a = true := by unfold gIs; rw [e]; rfl
theorem tq_null {a : Nat} (e : H a = some (.inr (10, [.null]))) : gGq 10 H a 0 = some none := by unfold gGq gGv; rw [e]; rfl
theorem tq_ref {a z : Nat} (e : H a = some (.inr (10, [.ref z]))) : gGq 10 H a 0 = some (some z) := by unfold gGq gGv; rw [e]; rfl
theorem tq_art {z s m : Nat} {y} (e : H z = some (.inl (tyS s, m, y))) : gArt H z = some (tyS s) := by
  unfold gArt
  rw [e]
  have : tyS s < 5 := by unfold tyS; (repeat' split) <;> decide
  exact if_pos this
theorem tq_inst {a z s m : Nat} {y} (hs : s < 5) (t : Nat) (ht : t < 5) (e : H z = some (.inl (tyS s, m, y))) : gInst t H (some z) = some (if tyS s = t then 1 else 0) := by
  show (gArt H z).map (fun t' => if t' = t then (1 : Int32) else 0) = _
  rw [tq_art e]
  rfl
theorem tq_cast {z s m : Nat} {y} (e : H z = some (.inl (tyS s, m, y))) : gCast (tyS s) H (some z) = some z := by
  show (if gArt H z = some (tyS s) then some z else none) = _
  rw [if_pos (tq_art e)]
theorem tq_an {z s m : Nat} {y} (e : H z = some (.inl (tyS s, m, y))) : gAn (tyS s) H z = some (nI m) := by
  unfold gAn
  rw [e]
  exact if_pos rfl
theorem tq_sort_n {a : Nat} (e : H a = some (.inr (10, [.null]))) : sp_X12_sort G F H a = some (-1) := by
  unfold sp_X12_sort
  simp only [tq_null e, Option.bind_some, if_true]
theorem tq_sort {a z s m : Nat} {y} (hs : s < 5) (e : H a = some (.inr (10, [.ref z]))) (ez : H z = some (.inl (tyS s, m, y))) : sp_X12_sort G F H a = some (nI s) := by
  unfold sp_X12_sort
  simp only [tq_ref e, Option.bind_some, tq_inst (a := a) hs 2 (by decide) ez, tq_inst (a := a) hs 4 (by decide) ez, tq_inst (a := a) hs 0 (by decide) ez, tq_inst (a := a) hs 1 (by decide) ez]
  rcases (by omega : s = 0 ∨ s = 1 ∨ s = 2 ∨ s = 3 ∨ s = 4) with rfl | rfl | rfl | rfl | rfl <;> rfl
theorem tq_size_n {a : Nat} (e : H a = some (.inr (10, [.null]))) : sp_X12_size G F H a = some 0 := by
  unfold sp_X12_size
  simp only [tq_is e, if_true, tq_sort_n e, Option.bind_some]
theorem tq_size {a z s m : Nat} {y} (hs : s < 5) (e : H a = some (.inr (10, [.ref z]))) (ez : H z = some (.inl (tyS s, m, y))) : sp_X12_size G F H a = some (nI m) := by
  unfold sp_X12_size
  simp only [tq_is e, if_true, tq_sort hs e ez, Option.bind_some, tq_ref e]
  have e1 := tq_cast ez
  have e2 := tq_an ez
  rcases (by omega : s = 0 ∨ s = 1 ∨ s = 2 ∨ s = 3 ∨ s = 4) with rfl | rfl | rfl | rfl | rfl
  · rw [if_neg (by decide), if_pos (by decide), show gCast 2 H (some z) = some z from e1, Option.bind_some, show gAn 2 H z = some (nI m) from e2]; rfl
  · rw [if_neg (by decide), if_neg (by decide), if_pos (by decide), show gCast 4 H (some z) = some z from e1, Option.bind_some, show gAn 4 H z = some (nI m) from e2]; rfl
  · rw [if_neg (by decide), if_neg (by decide), if_neg (by decide), if_pos (by decide), show gCast 0 H (some z) = some z from e1, Option.bind_some, show gAn 0 H z = some (nI m) from e2]; rfl
  · rw [if_neg (by decide), if_neg (by decide), if_neg (by decide), if_neg (by decide), if_pos (by decide), show gCast 1 H (some z) = some z from e1, Option.bind_some, show gAn 1 H z = some (nI m) from e2]; rfl
  · rw [if_neg (by decide), if_neg (by decide), if_neg (by decide), if_neg (by decide), if_neg (by decide), show gCast 3 H (some z) = some z from e1, Option.bind_some, show gAn 3 H z = some (nI m) from e2]; rfl
theorem tq_ai {z m i t : Nat} {f : Nat → Int32} (e : H z = some (.inl (t, m, .inl f))) (hi : i < m) (hm : m ≤ 60) : gAi t H z (nI i) = some (f i) := by
  unfold gAi
  rw [e]
  show (if t = t ∧ gin (nI i) m then some (f (nI i).toNatClampNeg) else none) = _
  rw [if_pos ⟨rfl, nI_in hi (by omega)⟩, nI_c (by omega)]
theorem tq_al {z m i : Nat} {f : Nat → Int64} (e : H z = some (.inl (1, m, .inr (.inl f)))) (hi : i < m) (hm : m ≤ 60) : gAl H z (nI i) = some (f i) := by
  unfold gAl
  rw [e]
  show (if 1 = 1 ∧ gin (nI i) m then some (f (nI i).toNatClampNeg) else none) = _
  rw [if_pos ⟨rfl, nI_in hi (by omega)⟩, nI_c (by omega)]
theorem tq_at {a z s m i : Nat} {x : gC} {v : Nat → Int64} (hs : s < 5) (hm : m ≤ 60) (hi : i < m) (e : H a = some (.inr (10, [.ref z]))) (ez : H z = some x) (hc : tpCell s m x v) : sp_X12_at G F H a (nI i) = some (v i) := by
  obtain ⟨y, ey⟩ := tpC_ty hc hs
  have ez' := ez
  rw [ey] at ez'
  have e1 := tq_cast ez'
  unfold sp_X12_at
  simp only [tq_is e, if_true, tq_sort hs e ez', Option.bind_some, tq_ref e]
  rcases hc with ⟨rfl, f, ex, ef⟩ | ⟨rfl, f, ex, ef⟩ | ⟨h3, f, ex, ef⟩
  · rw [ex] at ez
    rw [if_neg (by decide), if_neg (by decide), if_neg (by decide), if_pos (by decide), show gCast 1 H (some z) = some z from e1, Option.bind_some, tq_al ez hi hm, ef i hi]; rfl
  · rw [ex] at ez
    rw [if_neg (by decide), if_neg (by decide), if_neg (by decide), if_neg (by decide), show gCast 3 H (some z) = some z from e1, Option.bind_some, tq_ai ez hi hm, Option.bind_some, ← ef i hi]
    split <;> rfl
  · rw [ex] at ez
    have ea := tq_ai ez hi hm
    rcases (by omega : s = 0 ∨ s = 1 ∨ s = 2) with rfl | rfl | rfl
    · rw [if_pos (by decide), show gCast 2 H (some z) = some z from e1, Option.bind_some, show gAi 2 H z (nI i) = some (f i) from ea, Option.bind_some, ef i hi]
    · rw [if_neg (by decide), if_pos (by decide), show gCast 4 H (some z) = some z from e1, Option.bind_some, show gAi 4 H z (nI i) = some (f i) from ea, Option.bind_some, ef i hi]
    · rw [if_neg (by decide), if_neg (by decide), if_pos (by decide), show gCast 0 H (some z) = some z from e1, Option.bind_some, show gAi 0 H z (nI i) = some (f i) from ea, Option.bind_some, ef i hi]
theorem v_isTape {x : Int32} : sp_X0_isTape G F H x = some (if inB x 0 5 then 1 else 0) := by
  unfold sp_X0_isTape
  simp only [i_in_0_5, Option.bind_some]
  rw [if_pos if01]
theorem v_peek {p1 p2 : Int32} (ht : tpAt h bx A L) : sp_X0_peek G F (wh G (xo h bx c) (bx + 1) S J Q) bx p1 p2 = some (peekR A L p1 p2) := by
  unfold sp_X0_peek peekR
  simp only [v_isTape, Option.bind_some, b0, v_f9, i_in_0v]
  by_cases h1 : inB p1 0 5
  · rw [if_neg (nn h1), if_neg (nn h1)]
    obtain ⟨k, hk, rfl⟩ : ∃ k, k < 6 ∧ p1 = nI k := in_nI (m := 6) (by decide) h1
    simp only [t_at10 ht hk, Option.bind_some, nI_c (show k < 2 ^ 31 by omega)]
    rcases ht.2 k hk with ⟨e1, e2, e3⟩ | ⟨s, m, a, x, hs, hm, e1, e2, e3, ha, e4, hc⟩
    · have e3' : wh G (xo h bx c) (bx + 1) S J Q (bx + 324 + k) = some (.inr (10, [.null])) := by rw [v_hi (by omega), e3]
      rw [if_pos (tq_is e3'), tq_size_n e3', Option.bind_some, e1, if_pos (show (-1 : Int32) < 0 by decide)]
      have : ¬ inB p2 0 (0 - 1) := fun hh => absurd (Int32.le_trans hh.1 hh.2) (by decide)
      rw [if_pos this]
      rfl
    · have e3' : wh G (xo h bx c) (bx + 1) S J Q (bx + 324 + k) = some (.inr (10, [.ref a])) := by rw [v_hi (by omega), e3]
      have e4' : wh G (xo h bx c) (bx + 1) S J Q a = some x := by rw [v_hi (by omega), e4]
      obtain ⟨y, ey⟩ := tpC_ty hc hs
      have e5 := e4'
      rw [ey] at e5
      rw [if_pos (tq_is e3'), tq_size hs e3' e5, Option.bind_some, e1, if_neg (nI_nn (by omega)), e2]
      by_cases h3 : inB p2 0 (nI m - 1)
      · obtain ⟨i, hi, rfl⟩ : ∃ i, i < m ∧ p2 = nI i := in_nI (by omega) h3
        rw [if_neg (nn h3), if_neg (nn h3), if_pos (tq_is e3'), tq_at hs hm hi e3' e4' hc, nI_c (show i < 2 ^ 31 by omega)]
        rfl
      · rw [if_pos h3, if_pos h3]
        rfl
  · rw [if_pos h1, if_pos h1]
    rfl
theorem v_judge {t : Nat} {p1 p2 : Int32} (hF : 40 ≤ F) (hG : gI4 G) (hlt : t < 2 ^ 31) (hm : mOk S) (hro : rowOk S) (hn : numOk S t) (ht : tpAt h bx A L) : sp_X0_judge G F (wh G (xo h bx c) (bx + 1) S J Q) bx p1 p2 = some (judgeR S A L p1 p2) := by
  have h8 := hm.1
  have key : ∀ k, k < 6 → A 7 k ≤ 0 → ∀ (n i f : Nat), n + i = manyN S → n < f → sp_X0_judge_L29 G F (wh G (xo h bx c) (bx + 1) S J Q) f bx p2 (bx + 324 + k) (nI i) = some (jdL S A L k p2 n i) := by
    intro k hk h7 n
    induction n with
    | zero =>
      intro i f hi hf
      obtain ⟨f, rfl⟩ : ∃ z, f = z + 1 := ⟨f - 1, by omega⟩
      rw [sp_X0_judge_L29]
      simp only [v_f0, x_f13, Option.bind_some]
      rw [if_pos (by rw [hm.2]; exact nI_le (by omega) (by omega))]
      rfl
    | succ n ih =>
      intro i f hi hf
      obtain ⟨f, rfl⟩ : ∃ z, f = z + 1 := ⟨f - 1, by omega⟩
      have en : ¬ S 13 ≤ nI i := by rw [hm.2]; exact nI_ge (by omega) (by omega)
      have hi8 : i < 8 := by omega
      have him : i < manyN S := by omega
      have ih' := ih (i + 1) f (by omega) (by omega)
      rw [sp_X0_judge_L29, jdL]
      simp only [v_f0, x_f13, en, if_false, x_is, if_true, x_light hG hlt hro hn hi8 him, nI_1, ih', Option.bind_some, lg_eq0]
      by_cases hp : p2 < 0
      · rw [if_pos hp, if_pos (Or.inr fun hh => absurd hp (Int32.not_lt.mpr hh.1))]
      · rw [if_neg hp]
        have hp0 : 0 ≤ p2.toInt := by
          have := Int32.le_iff_toInt_le.mp (Int32.not_lt.mp hp)
          rwa [show (0 : Int32).toInt = 0 from rfl] at this
        have hp1 := p2.toInt_lt
        rcases ht.2 k hk with ⟨e1, e2, e3⟩ | ⟨s, m, a, x, hs, hmm, e1, e2, e3, ha, e4, hc⟩
        · have e3' : wh G (xo h bx c) (bx + 1) S J Q (bx + 324 + k) = some (.inr (10, [.null])) := by rw [v_hi (by omega), e3]
          have hng : ¬ nI i < 0 - p2 := fun hh => by
            have g := Int32.lt_iff_toInt_lt.mp hh
            rw [Int32.toInt_sub, show (0 : Int32).toInt = 0 from rfl, nI_toInt (by omega), Int.bmod_eq_of_le (by omega) (by omega)] at g
            omega
          rw [if_pos (tq_is e3'), tq_size_n e3', Option.bind_some, if_neg hng, if_pos (Or.inl (by rw [e1]; decide))]
        · have e3' : wh G (xo h bx c) (bx + 1) S J Q (bx + 324 + k) = some (.inr (10, [.ref a])) := by rw [v_hi (by omega), e3]
          have e4' : wh G (xo h bx c) (bx + 1) S J Q a = some x := by rw [v_hi (by omega), e4]
          obtain ⟨y, ey⟩ := tpC_ty hc hs
          have e5 := e4'
          rw [ey] at e5
          have h7n : ¬ A 7 k < 0 := by rw [e1]; exact nI_nn (by omega)
          have eS : (nI m - p2).toInt = (m : Int) - p2.toInt := by
            rw [Int32.toInt_sub, nI_toInt (by omega)]
            exact Int.bmod_eq_of_le (by omega) (by omega)
          have eT : (nI m - 1 - nI i).toInt = (m : Int) - 1 - i := by
            rw [Int32.toInt_sub, Int32.toInt_sub, show (nI m).toInt = m from nI_toInt (by omega), show (nI i).toInt = i from nI_toInt (by omega), show (1 : Int32).toInt = 1 from rfl]
            rw [Int.bmod_eq_of_le (n := (m : Int) - 1) (by omega) (by omega)]
            exact Int.bmod_eq_of_le (by omega) (by omega)
          rw [if_pos (tq_is e3'), tq_size hs e3' e5, Option.bind_some, e2]
          by_cases hlt2 : nI i < nI m - p2
          · have g := Int32.lt_iff_toInt_lt.mp hlt2
            rw [eS, nI_toInt (by omega)] at g
            obtain ⟨d, hd, rfl⟩ : ∃ d, d + i < m ∧ p2 = nI d := by
              refine ⟨p2.toInt.toNat, by omega, ?_⟩
              apply Int32.toInt_inj.mp
              rw [nI_toInt (by omega)]
              omega
            have hin : inB (nI d) 0 (nI m - 1 - nI i) := by
              refine ⟨nI_pos' (by omega), Int32.le_iff_toInt_le.mpr ?_⟩
              rw [eT, nI_toInt (by omega)]
              omega
            rw [if_pos hlt2, if_pos (tq_is e3'), nI_add, tq_at hs hmm hd e3' e4' hc, Option.bind_some, if_neg (show ¬ (A 7 k < 0 ∨ ¬ inB (nI d) 0 (nI m - 1 - nI i)) from fun hh => hh.elim h7n (fun g => g hin)), nI_c (show d < 2 ^ 31 by omega), Nat.add_assoc]
            split <;> rfl
          · rw [if_neg hlt2, if_pos (Or.inr fun hh => hlt2 (Int32.lt_iff_toInt_lt.mpr (by
              have g := Int32.le_iff_toInt_le.mp hh.2
              rw [eT] at g
              rw [eS, nI_toInt (by omega)]
              omega)))]
  unfold sp_X0_judge judgeR
  simp only [v_isTape, Option.bind_some, b0, v_f9]
  by_cases h1 : inB p1 0 5
  · rw [if_neg (nn h1), if_neg (nn h1)]
    obtain ⟨k, hk, rfl⟩ : ∃ k, k < 6 ∧ p1 = nI k := in_nI (m := 6) (by decide) h1
    simp only [t_at10 ht hk, Option.bind_some, nI_c (show k < 2 ^ 31 by omega)]
    have eso : gIs 10 (wh G (xo h bx c) (bx + 1) S J Q) (bx + 324 + k) = true ∧ sp_X12_sort G F (wh G (xo h bx c) (bx + 1) S J Q) (bx + 324 + k) = some (A 7 k) := by
      rcases ht.2 k hk with ⟨e1, e2, e3⟩ | ⟨s, m, a, x, hs, hmm, e1, e2, e3, ha, e4, hc⟩
      · have e3' : wh G (xo h bx c) (bx + 1) S J Q (bx + 324 + k) = some (.inr (10, [.null])) := by rw [v_hi (by omega), e3]
        exact ⟨tq_is e3', by rw [tq_sort_n e3', e1]⟩
      · have e3' : wh G (xo h bx c) (bx + 1) S J Q (bx + 324 + k) = some (.inr (10, [.ref a])) := by rw [v_hi (by omega), e3]
        have e4' : wh G (xo h bx c) (bx + 1) S J Q a = some x := by rw [v_hi (by omega), e4]
        obtain ⟨y, ey⟩ := tpC_ty hc hs
        rw [ey] at e4'
        exact ⟨tq_is e3', by rw [tq_sort hs e3' e4', e1]⟩
    rw [if_pos eso.1, eso.2, Option.bind_some]
    by_cases h2 : A 7 k ≤ 0
    · rw [if_pos h2, if_pos h2]
      exact key k hk h2 (manyN S) 0 F (by omega) (by omega)
    · rw [if_neg h2, if_neg h2]
  · rw [if_pos h1, if_pos h1]
theorem nar_by {x : Int32} : vp_nar (gTy 2) x = x.toInt8.toInt32 := rfl
theorem by_127 {k : Nat} (hk : k < 128) : (nI k).toInt8.toInt32 = nI k := by
  have : ∀ k, k < 128 → (nI k).toInt8.toInt32 = nI k := by decide +kernel
  exact this k hk
theorem v_feed {p1 : Int32} {m : Nat} {tx : Nat → Int32} (hm : m ≤ 100) (e5 : c 5 = nI m) (etx : h (bx + 316) = some (.inl (2, 100, .inl tx))) : sp_X0_feed G F (wh G (xo h bx c) (bx + 1) S J Q) bx p1 = some (if ¬ inB p1 0 127 then (-2, wh G (xo h bx c) (bx + 1) S J Q) else if c 5 = 100 then (-4, wh G (xo h bx c) (bx + 1) S J Q) else (c 5 + 1, wh G (xo (va_up h (bx + 316) (some (.inl (2, 100, .inl (upd tx m p1))))) bx (upd c 5 (c 5 + 1))) (bx + 1) S J Q)) := by
  unfold sp_X0_feed
  simp only [i_in_0_127, Option.bind_some, b0, v_f5, v_f4]
  by_cases h1 : inB p1 0 127
  · rw [if_neg (nn h1), if_neg (nn h1)]
    by_cases h2 : c 5 = 100
    · rw [if_pos h2, if_pos h2]
    · have hm2 : m < 100 := by
        rcases Nat.lt_or_ge m 100 with g | g
        · exact g
        · exact absurd (by rw [e5, show m = 100 by omega]; rfl) h2
      obtain ⟨w, hw, rfl⟩ : ∃ w, w < 128 ∧ p1 = nI w := in_nI (m := 128) (by decide) h1
      rw [if_neg h2, if_neg h2, by_127 hw]
      have es : gSb 2 (wh G (xo h bx c) (bx + 1) S J Q) (bx + 316) (c 5) (nI w) = some (wh G (xo (va_up h (bx + 316) (some (.inl (2, 100, .inl (upd tx m (nI w)))))) bx c) (bx + 1) S J Q) := by
        rw [← v_up (show bx + 106 ≤ bx + 316 by omega)]
        unfold gSb
        rw [v_hi (by omega), etx]
        show (if 2 = 2 ∧ gin (c 5) 100 then _ else none) = _
        rw [e5, if_pos ⟨rfl, nI_in hm2 (by decide)⟩, nI_c (by omega), nar_by, by_127 hw]
      simp only [es, Option.bind_some, v_f5, v_p5, upd_eq]
  · rw [if_pos h1, if_pos h1]
end X26
