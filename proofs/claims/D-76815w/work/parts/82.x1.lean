/-! x1: the class's object: its own fields; in, are -/
set_option maxRecDepth 100000
def xoC (bx : Nat) (c : Nat → Int32) : gC := .inr (0, [.ref (bx + 1), .ref (bx + 106), .ref (bx + 211), .int (c 3), .ref (bx + 316), .int (c 5), .ref (bx + 317), .ref (bx + 322), .int (c 8), .ref (bx + 323)])
def xo (h : gH) (bx : Nat) (c : Nat → Int32) : gH := va_up h bx (some (xoC bx c))
theorem i64_lt (x y : Int32) : (x.toInt64 < y.toInt64) ↔ x < y := by rw [Int64.lt_iff_toInt_lt, Int32.lt_iff_toInt_lt, Int32.toInt_toInt64, Int32.toInt_toInt64]
theorem lg_neg (x y : Int64) : (lg_cmp x y < 0) = (x < y) := by
  unfold lg_cmp
  by_cases h1 : x > y
  · rw [if_pos h1]
    exact propext ⟨fun hh => absurd hh (by decide), fun hh => absurd hh (Int64.not_lt.mpr (Int64.le_of_lt h1))⟩
  · rw [if_neg h1]
    by_cases h2 : x = y
    · rw [if_pos h2]
      subst h2
      exact propext ⟨fun hh => absurd hh (by decide), fun hh => absurd hh Int64.lt_irrefl⟩
    · rw [if_neg h2]
      exact propext ⟨fun _ => Int64.lt_of_le_of_ne (Int64.not_lt.mp h1) h2, fun _ => by decide⟩
theorem lg_pos (x y : Int64) : (0 < lg_cmp x y) = (y < x) := by
  unfold lg_cmp
  by_cases h1 : x > y
  · rw [if_pos h1]; exact propext ⟨fun _ => h1, fun _ => by decide⟩
  · rw [if_neg h1]
    by_cases h2 : x = y
    · rw [if_pos h2]; exact propext ⟨fun hh => absurd hh (by decide), fun hh => absurd hh h1⟩
    · rw [if_neg h2]; exact propext ⟨fun hh => absurd hh (by decide), fun hh => absurd hh h1⟩
section X1
variable {G : gG} {F n bx : Nat} {h : gH} {x lo hi : Int32} {c : Nat → Int32} {S : Nat → Int32} {J : Nat → Nat → Int32} {Q : Nat → Nat → Int64}
theorem i_in : sp_X0_in G F h x.toInt64 lo.toInt64 hi.toInt64 = some (if inB x lo hi then 1 else 0) := by
  unfold sp_X0_in
  simp only [lg_neg, lg_pos, i64_lt]
  by_cases h1 : x < lo
  · rw [if_pos h1, if_neg (fun hh => absurd h1 (Int32.not_lt.mpr hh.1))]
  · rw [if_neg h1]
    by_cases h2 : hi < x
    · rw [if_pos h2, if_neg (fun hh => absurd h2 (Int32.not_lt.mpr hh.2))]
    · rw [if_neg h2, if_pos ⟨Int32.not_lt.mp h1, Int32.not_lt.mp h2⟩]
theorem i_in_0v : sp_X0_in G F h x.toInt64 (0 : Int64) hi.toInt64 = some (if inB x 0 hi then 1 else 0) := by
  rw [show (0 : Int64) = (0 : Int32).toInt64 by decide]; exact i_in
theorem i_in_1v : sp_X0_in G F h x.toInt64 (1 : Int64) hi.toInt64 = some (if inB x 1 hi then 1 else 0) := by
  rw [show (1 : Int64) = (1 : Int32).toInt64 by decide]; exact i_in
theorem i_in_v99 : sp_X0_in G F h x.toInt64 lo.toInt64 (99 : Int64) = some (if inB x lo 99 then 1 else 0) := by
  rw [show (99 : Int64) = (99 : Int32).toInt64 by decide]; exact i_in
theorem i_in_0_3 : sp_X0_in G F h x.toInt64 (0 : Int64) (3 : Int64) = some (if inB x (0) 3 then 1 else 0) := by
  rw [show (0 : Int64) = (0 : Int32).toInt64 by decide, show (3 : Int64) = (3 : Int32).toInt64 by decide]; exact i_in
theorem i_in_0_63 : sp_X0_in G F h x.toInt64 (0 : Int64) (63 : Int64) = some (if inB x (0) 63 then 1 else 0) := by
  rw [show (0 : Int64) = (0 : Int32).toInt64 by decide, show (63 : Int64) = (63 : Int32).toInt64 by decide]; exact i_in
theorem i_in_1_9 : sp_X0_in G F h x.toInt64 (1 : Int64) (9 : Int64) = some (if inB x (1) 9 then 1 else 0) := by
  rw [show (1 : Int64) = (1 : Int32).toInt64 by decide, show (9 : Int64) = (9 : Int32).toInt64 by decide]; exact i_in
theorem i_in_0_60 : sp_X0_in G F h x.toInt64 (0 : Int64) (60 : Int64) = some (if inB x (0) 60 then 1 else 0) := by
  rw [show (0 : Int64) = (0 : Int32).toInt64 by decide, show (60 : Int64) = (60 : Int32).toInt64 by decide]; exact i_in
theorem i_in_0_127 : sp_X0_in G F h x.toInt64 (0 : Int64) (127 : Int64) = some (if inB x (0) 127 then 1 else 0) := by
  rw [show (0 : Int64) = (0 : Int32).toInt64 by decide, show (127 : Int64) = (127 : Int32).toInt64 by decide]; exact i_in
theorem i_in_0_5 : sp_X0_in G F h x.toInt64 (0 : Int64) (5 : Int64) = some (if inB x (0) 5 then 1 else 0) := by
  rw [show (0 : Int64) = (0 : Int32).toInt64 by decide, show (5 : Int64) = (5 : Int32).toInt64 by decide]; exact i_in
theorem i_in_0_239 : sp_X0_in G F h x.toInt64 (0 : Int64) (239 : Int64) = some (if inB x (0) 239 then 1 else 0) := by
  rw [show (0 : Int64) = (0 : Int32).toInt64 by decide, show (239 : Int64) = (239 : Int32).toInt64 by decide]; exact i_in
theorem i_in_20_240 : sp_X0_in G F h x.toInt64 (20 : Int64) (240 : Int64) = some (if inB x (20) 240 then 1 else 0) := by
  rw [show (20 : Int64) = (20 : Int32).toInt64 by decide, show (240 : Int64) = (240 : Int32).toInt64 by decide]; exact i_in
theorem i_in_1_20 : sp_X0_in G F h x.toInt64 (1 : Int64) (20 : Int64) = some (if inB x (1) 20 then 1 else 0) := by
  rw [show (1 : Int64) = (1 : Int32).toInt64 by decide, show (20 : Int64) = (20 : Int32).toInt64 by decide]; exact i_in
theorem i_in_0_99 : sp_X0_in G F h x.toInt64 (0 : Int64) (99 : Int64) = some (if inB x (0) 99 then 1 else 0) := by
  rw [show (0 : Int64) = (0 : Int32).toInt64 by decide, show (99 : Int64) = (99 : Int32).toInt64 by decide]; exact i_in
theorem i_in_0_18 : sp_X0_in G F h x.toInt64 (0 : Int64) (18 : Int64) = some (if inB x (0) 18 then 1 else 0) := by
  rw [show (0 : Int64) = (0 : Int32).toInt64 by decide, show (18 : Int64) = (18 : Int32).toInt64 by decide]; exact i_in
theorem i_in_0_13 : sp_X0_in G F h x.toInt64 (0 : Int64) (13 : Int64) = some (if inB x (0) 13 then 1 else 0) := by
  rw [show (0 : Int64) = (0 : Int32).toInt64 by decide, show (13 : Int64) = (13 : Int32).toInt64 by decide]; exact i_in
theorem i_in_0_1 : sp_X0_in G F h x.toInt64 (0 : Int64) (1 : Int64) = some (if inB x (0) 1 then 1 else 0) := by
  rw [show (0 : Int64) = (0 : Int32).toInt64 by decide, show (1 : Int64) = (1 : Int32).toInt64 by decide]; exact i_in
theorem i_in_0_2 : sp_X0_in G F h x.toInt64 (0 : Int64) (2 : Int64) = some (if inB x (0) 2 then 1 else 0) := by
  rw [show (0 : Int64) = (0 : Int32).toInt64 by decide, show (2 : Int64) = (2 : Int32).toInt64 by decide]; exact i_in
theorem i_in_0_9999 : sp_X0_in G F h x.toInt64 (0 : Int64) (9999 : Int64) = some (if inB x (0) 9999 then 1 else 0) := by
  rw [show (0 : Int64) = (0 : Int32).toInt64 by decide, show (9999 : Int64) = (9999 : Int32).toInt64 by decide]; exact i_in
theorem i_in_0_9998 : sp_X0_in G F h x.toInt64 (0 : Int64) (9998 : Int64) = some (if inB x (0) 9998 then 1 else 0) := by
  rw [show (0 : Int64) = (0 : Int32).toInt64 by decide, show (9998 : Int64) = (9998 : Int32).toInt64 by decide]; exact i_in
theorem i_in_20_60 : sp_X0_in G F h x.toInt64 (20 : Int64) (60 : Int64) = some (if inB x (20) 60 then 1 else 0) := by
  rw [show (20 : Int64) = (20 : Int32).toInt64 by decide, show (60 : Int64) = (60 : Int32).toInt64 by decide]; exact i_in
theorem i_in_0_4 : sp_X0_in G F h x.toInt64 (0 : Int64) (4 : Int64) = some (if inB x (0) 4 then 1 else 0) := by
  rw [show (0 : Int64) = (0 : Int32).toInt64 by decide, show (4 : Int64) = (4 : Int32).toInt64 by decide]; exact i_in
theorem i_in_0_99999 : sp_X0_in G F h x.toInt64 (0 : Int64) (99999 : Int64) = some (if inB x (0) 99999 then 1 else 0) := by
  rw [show (0 : Int64) = (0 : Int32).toInt64 by decide, show (99999 : Int64) = (99999 : Int32).toInt64 by decide]; exact i_in
theorem i_in_0_255 : sp_X0_in G F h x.toInt64 (0 : Int64) (255 : Int64) = some (if inB x (0) 255 then 1 else 0) := by
  rw [show (0 : Int64) = (0 : Int32).toInt64 by decide, show (255 : Int64) = (255 : Int32).toInt64 by decide]; exact i_in
theorem i_in_1_4 : sp_X0_in G F h x.toInt64 (1 : Int64) (4 : Int64) = some (if inB x (1) 4 then 1 else 0) := by
  rw [show (1 : Int64) = (1 : Int32).toInt64 by decide, show (4 : Int64) = (4 : Int32).toInt64 by decide]; exact i_in
theorem i_in_m1_4 : sp_X0_in G F h x.toInt64 (-1 : Int64) (4 : Int64) = some (if inB x (-1) 4 then 1 else 0) := by
  rw [show (-1 : Int64) = (-1 : Int32).toInt64 by decide, show (4 : Int64) = (4 : Int32).toInt64 by decide]; exact i_in
theorem i_in_0_59 : sp_X0_in G F h x.toInt64 (0 : Int64) (59 : Int64) = some (if inB x (0) 59 then 1 else 0) := by
  rw [show (0 : Int64) = (0 : Int32).toInt64 by decide, show (59 : Int64) = (59 : Int32).toInt64 by decide]; exact i_in
theorem i_in_0_7 : sp_X0_in G F h x.toInt64 (0 : Int64) (7 : Int64) = some (if inB x (0) 7 then 1 else 0) := by
  rw [show (0 : Int64) = (0 : Int32).toInt64 by decide, show (7 : Int64) = (7 : Int32).toInt64 by decide]; exact i_in
theorem xo_at : xo h bx c bx = some (xoC bx c) := if_pos rfl
theorem xo_ne {a : Nat} (ha : a ≠ bx) : xo h bx c a = h a := if_neg ha
theorem v_at : wh G (xo h bx c) (bx + 1) S J Q bx = some (xoC bx c) := by
  unfold wh
  rw [wR_out (by omega), xo_at]
theorem v_is : gIs 0 (wh G (xo h bx c) (bx + 1) S J Q) bx = true := by simp [gIs, v_at, xoC]
theorem v_f0 : gGr 0 (wh G (xo h bx c) (bx + 1) S J Q) bx 0 = some (bx + 1) := by simp [gGr, gGv, v_at, xoC]
theorem v_f1 : gGr 0 (wh G (xo h bx c) (bx + 1) S J Q) bx 1 = some (bx + 106) := by simp [gGr, gGv, v_at, xoC]
theorem v_f2 : gGr 0 (wh G (xo h bx c) (bx + 1) S J Q) bx 2 = some (bx + 211) := by simp [gGr, gGv, v_at, xoC]
theorem v_f4 : gGr 0 (wh G (xo h bx c) (bx + 1) S J Q) bx 4 = some (bx + 316) := by simp [gGr, gGv, v_at, xoC]
theorem v_f6 : gGr 0 (wh G (xo h bx c) (bx + 1) S J Q) bx 6 = some (bx + 317) := by simp [gGr, gGv, v_at, xoC]
theorem v_f7 : gGr 0 (wh G (xo h bx c) (bx + 1) S J Q) bx 7 = some (bx + 322) := by simp [gGr, gGv, v_at, xoC]
theorem v_f9 : gGr 0 (wh G (xo h bx c) (bx + 1) S J Q) bx 9 = some (bx + 323) := by simp [gGr, gGv, v_at, xoC]
theorem v_f3 : gGi 0 (wh G (xo h bx c) (bx + 1) S J Q) bx 3 = some (c 3) := by simp [gGi, gGv, v_at, xoC]
theorem v_f5 : gGi 0 (wh G (xo h bx c) (bx + 1) S J Q) bx 5 = some (c 5) := by simp [gGi, gGv, v_at, xoC]
theorem v_f8 : gGi 0 (wh G (xo h bx c) (bx + 1) S J Q) bx 8 = some (c 8) := by simp [gGi, gGv, v_at, xoC]
theorem xo_xo {c' : Nat → Int32} : va_up (wh G (xo h bx c) (bx + 1) S J Q) bx (some (xoC bx c')) = wh G (xo h bx c') (bx + 1) S J Q := by
  funext a
  unfold wh
  by_cases ha : a = bx
  · subst ha
    rw [wR_out (by omega), xo_at]
    exact if_pos rfl
  · have e : va_up (wR G (xo h bx c) (bx + 1) (Wof S J) Q) bx (some (xoC bx c')) a = wR G (xo h bx c) (bx + 1) (Wof S J) Q a := if_neg ha
    rw [e]
    by_cases hr : bx + 1 ≤ a ∧ a < bx + 1 + 105
    · obtain ⟨k, rfl⟩ : ∃ k, a = bx + 1 + k := ⟨a - (bx + 1), by omega⟩
      rw [wR_at (by omega), wR_at (by omega)]
    · rw [wR_out (by omega), wR_out (by omega), xo_ne ha, xo_ne ha]
theorem v_p3 (y : Int32) : gPv 0 (wh G (xo h bx c) (bx + 1) S J Q) bx 3 (.int y) = some (wh G (xo h bx (upd c 3 y)) (bx + 1) S J Q) := by
  refine Eq.trans ?_ (congrArg some (xo_xo (c := c) (c' := upd c 3 y)))
  simp [gPv, v_at, xoC, upd]
theorem v_p5 (y : Int32) : gPv 0 (wh G (xo h bx c) (bx + 1) S J Q) bx 5 (.int y) = some (wh G (xo h bx (upd c 5 y)) (bx + 1) S J Q) := by
  refine Eq.trans ?_ (congrArg some (xo_xo (c := c) (c' := upd c 5 y)))
  simp [gPv, v_at, xoC, upd]
theorem v_p8 (y : Int32) : gPv 0 (wh G (xo h bx c) (bx + 1) S J Q) bx 8 (.int y) = some (wh G (xo h bx (upd c 8 y)) (bx + 1) S J Q) := by
  refine Eq.trans ?_ (congrArg some (xo_xo (c := c) (c' := upd c 8 y)))
  simp [gPv, v_at, xoC, upd]
/-- a new cell lies in the rest -/
theorem v_up {k : gC} (hn : bx + 106 ≤ n) : va_up (wh G (xo h bx c) (bx + 1) S J Q) n (some k) = wh G (xo (va_up h n (some k)) bx c) (bx + 1) S J Q := by
  funext a
  unfold wh
  by_cases ha : a = n
  · subst ha
    rw [wR_out (by omega), xo_ne (by omega)]
    exact (if_pos rfl).trans (if_pos rfl).symm
  · have e : va_up (wR G (xo h bx c) (bx + 1) (Wof S J) Q) n (some k) a = wR G (xo h bx c) (bx + 1) (Wof S J) Q a := if_neg ha
    rw [e]
    by_cases hr : bx + 1 ≤ a ∧ a < bx + 1 + 105
    · obtain ⟨l, rfl⟩ : ∃ l, a = bx + 1 + l := ⟨a - (bx + 1), by omega⟩
      rw [wR_at (by omega), wR_at (by omega)]
    · rw [wR_out (by omega), wR_out (by omega)]
      by_cases hb : a = bx
      · subst hb; rw [xo_at, xo_at]
      · rw [xo_ne hb, xo_ne hb]
        exact (if_neg ha).symm
theorem v_low {a : Nat} (ha : bx + 106 ≤ a) : wh G (xo h bx c) (bx + 1) S J Q a = h a := by
  unfold wh
  rw [wR_out (by omega), xo_ne (by omega)]
theorem v_n {k : gC} (hn : bx + 106 ≤ n) : wh G (xo (va_up h n (some k)) bx c) (bx + 1) S J Q n = some k := by
  rw [v_low hn]
  exact if_pos rfl
theorem nar_b {u : Int32} (hu : u = 0 ∨ u = 1) : vp_nar (gTy 3) u = u := by
  rcases hu with hu | hu <;> subst hu <;> rfl
theorem va_up2 {α : Type} {h : Nat → α} {n : Nat} {x y : α} : va_up (va_up h n x) n y = va_up h n y := by
  funext i
  unfold va_up
  split <;> rfl
theorem v_sb {k i : Nat} {f : Nat → Int32} {u : Int32} (hn : bx + 106 ≤ n) (hk : k < 100) (hi : i < k) (hu : u = 0 ∨ u = 1) : gSb 3 (wh G (xo (va_up h n (some (.inl (3, k, .inl f)))) bx c) (bx + 1) S J Q) n (nI i) u = some (wh G (xo (va_up h n (some (.inl (3, k, .inl (upd f i u))))) bx c) (bx + 1) S J Q) := by
  have hg := nI_in hi (show k < 2 ^ 31 by omega)
  unfold gSb
  rw [v_n hn]
  dsimp only
  rw [if_pos ⟨rfl, hg⟩, v_up hn, va_up2, nI_c (by omega), nar_b hu]
theorem v_ai {k i : Nat} {f : Nat → Int32} (hn : bx + 106 ≤ n) (hk : k < 100) (hi : i < k) : gAi 3 (wh G (xo (va_up h n (some (.inl (3, k, .inl f)))) bx c) (bx + 1) S J Q) n (nI i) = some (f i) := by
  have hg := nI_in hi (show k < 2 ^ 31 by omega)
  unfold gAi
  rw [v_n hn]
  dsimp only
  rw [if_pos ⟨rfl, hg⟩, nI_c (by omega)]
theorem v_an {k : Nat} {f : Nat → Int32} (hn : bx + 106 ≤ n) : gAn 3 (wh G (xo (va_up h n (some (.inl (3, k, .inl f)))) bx c) (bx + 1) S J Q) n = some (nI k) := by
  unfold gAn
  rw [v_n hn]
  dsimp only
  rw [if_pos rfl]
  rfl
def allN (f : Nat → Int32) : Nat → Nat → Bool
  | 0, _ => true
  | m + 1, i => if f i = 0 then false else allN f m (i + 1)
theorem v_are {k : Nat} {f : Nat → Int32} (hF : 100 ≤ F) (hn : bx + 106 ≤ n) (hk : k < 90) : sp_X0_are G F (wh G (xo (va_up h n (some (.inl (3, k, .inl f)))) bx c) (bx + 1) S J Q) n = some (bI (allN f k 0)) := by
  have key : ∀ (m i g : Nat), m + i = k → m < g → sp_X0_are_L7 G F (wh G (xo (va_up h n (some (.inl (3, k, .inl f)))) bx c) (bx + 1) S J Q) g n (nI k) (nI i) = some (bI (allN f m i)) := by
    intro m
    induction m with
    | zero =>
      intro i g hi hg
      obtain ⟨g, rfl⟩ : ∃ z, g = z + 1 := ⟨g - 1, by omega⟩
      rw [sp_X0_are_L7, if_pos (nI_le (by omega) (by omega))]
      rfl
    | succ m ih =>
      intro i g hi hg
      obtain ⟨g, rfl⟩ : ∃ z, g = z + 1 := ⟨g - 1, by omega⟩
      rw [sp_X0_are_L7, if_neg (nI_ge (by omega) (by omega)), v_ai hn (by omega) (by omega)]
      simp only [Option.bind_some, nI_1, allN]
      by_cases h1 : f i = 0
      · rw [if_pos h1, if_pos h1]; rfl
      · rw [if_neg h1, if_neg h1]
        exact ih (i + 1) g (by omega) (by omega)
  unfold sp_X0_are
  rw [v_an hn]
  exact key k 0 F (by omega) (by omega)
theorem if01 {P : Prop} [Decidable P] : (if P then (1 : Int32) else 0) = 0 ∨ (if P then (1 : Int32) else 0) = 1 := by
  split
  · exact Or.inr rfl
  · exact Or.inl rfl
theorem v_isSignal {y : Int32} : sp_X0_isSignal G F (wh G (xo h bx c) (bx + 1) S J Q) bx y = some (if inB y 0 (S 13 - 1) then 1 else 0) := by
  unfold sp_X0_isSignal
  simp only [v_f0, x_f13, Option.bind_some, i_in_0v]
  rw [if_pos if01]
end X1
