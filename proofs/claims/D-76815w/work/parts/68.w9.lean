/-! w9: the class's World: mayTurn, turning, going -/
set_option maxRecDepth 100000
/-- the table of clears, as the World keeps it: C for the signals that there are; who meets whom is a matter of both -/
def clOk (C S : Nat → Int32) (J : Nat → Nat → Int32) : Prop := ∀ a i, a < manyN S → i < manyN S → J 8 (8 * a + i) = C (8 * a + i) ∧ (C (8 * a + i) < 0 ↔ C (8 * i + a) < 0)
def gI4 (G : gG) : Prop := ∀ i j, i < 4 → j < 4 → gS G i = gS G j → i = j
theorem gI4_i {G : gG} (hG : gI4 G) {i : Nat} (hi : i < 4) : gKi G (gS G i) = some i := by
  have e : ∀ j, j < 4 → (gS G i = gS G j ↔ i = j) := fun j hj => ⟨fun hh => hG i j hi hj hh, fun hh => by rw [hh]⟩
  unfold gKi
  simp only [e 0 (by decide), e 1 (by decide), e 2 (by decide), e 3 (by decide)]
  match i, hi with
  | 0, _ => rfl
  | 1, _ => rfl
  | 2, _ => rfl
  | 3, _ => rfl
def lvV (i : Nat) (k q : Int32) : Int32 := if i = 0 then (if modV k 2 = 0 then 1 else 0) else if i = 1 then q else if i = 2 then (if modV k 4 = 0 then 1 else 0) else 1
theorem i_leaves {G : gG} {F : Nat} {h : gH} (hG : gI4 G) {i : Nat} (hi : i < 4) (k q : Int32) : sp_leaves G F h (gS G i) k q = some (lvV i k q) := by
  have e : ∀ j, j < 4 → (gS G i = gS G j ↔ i = j) := fun j hj => ⟨fun hh => hG i j hi hj hh, fun hh => by rw [hh]⟩
  unfold sp_leaves lvV modV
  simp only [e 0 (by decide), e 1 (by decide), e 2 (by decide), e 3 (by decide)]
  match i, hi with
  | 0, _ => rfl
  | 1, _ => rfl
  | 2, _ => rfl
  | 3, _ => rfl
theorem i_gKd {G : gG} (hG : gI4 G) {i : Nat} (hi : i < 4) (k : Nat) : gKd G (gS G i) k = some (if k = 0 then gAmb i else if k = 1 then gPac i else gOrd i) := by
  unfold gKd
  rw [gI4_i hG hi]
  rfl
theorem modV_2 (g : Nat) (hg : g < 2 ^ 31) : modV (nI g) 2 = nI (g % 2) := modV_nI (d := 2) hg (by decide) (by decide)
theorem modV_4 (g : Nat) (hg : g < 2 ^ 31) : modV (nI g) 4 = nI (g % 4) := modV_nI (d := 4) hg (by decide) (by decide)
theorem min_nI {a c : Nat} (ha : a < 2 ^ 31) (hc : c < 2 ^ 31) : minI (nI a) (nI c) = nI (min a c) := by
  unfold minI
  by_cases h : c < a
  · rw [if_pos ((nI_ltI hc ha).mpr h), Nat.min_eq_right (by omega)]
  · rw [if_neg (fun hh => h ((nI_ltI hc ha).mp hh)), Nat.min_eq_left (by omega)]
/-- how many go: of a queue of q, in the g-th second -/
def goN (i g q : Nat) : Nat := if i = 0 then min (1 - g % 2) q else if i = 1 then q else if i = 2 then min (if g % 4 = 0 then 1 else 0) q else min 1 q
theorem goN_le (i g q : Nat) : goN i g q ≤ q := by
  unfold goN
  repeat' split
  all_goals omega
theorem go_ref {i g q : Nat} (hi : i < 4) (hg : g < 2 ^ 31) (hq : q ≤ 99) : minI (goMost (nI i) (nI g)) (nI q) = nI (goN i g q) := by
  have e2 : nI g - nI g / 2 * 2 = nI (g % 2) := modV_2 g hg
  have e4 : nI g - nI g / 4 * 4 = nI (g % 4) := modV_4 g hg
  have e1 : (1 : Int32) - nI (g % 2) = nI (1 - g % 2) := pk_sub (a := 1) (by omega)
  have c4 : (nI (g % 4) = 0) ↔ g % 4 = 0 := nI_eq (b := 0) (by omega) (by decide)
  unfold goMost goN
  rw [e2, e4, e1]
  match i, hi with
  | 0, _ => rw [if_pos (show nI 0 = 0 by decide), if_pos (show (0 : Nat) = 0 from rfl)]; exact min_nI (by omega) (by omega)
  | 1, _ =>
    rw [if_neg (show ¬ nI 1 = 0 by decide), if_pos (show nI 1 = 1 by decide), if_neg (show ¬ (1 : Nat) = 0 by decide), if_pos (show (1 : Nat) = 1 from rfl)]
    rw [show (99 : Int32) = nI 99 from rfl, min_nI (by omega) (by omega), Nat.min_eq_right hq]
  | 2, _ =>
    rw [if_neg (show ¬ nI 2 = 0 by decide), if_neg (show ¬ nI 2 = 1 by decide), if_pos (show nI 2 = 2 by decide), if_neg (show ¬ (2 : Nat) = 0 by decide), if_neg (show ¬ (2 : Nat) = 1 by decide), if_pos (show (2 : Nat) = 2 from rfl)]
    by_cases h4 : g % 4 = 0
    · rw [if_pos (c4.mpr h4), if_pos h4]; exact min_nI (a := 1) (by omega) (by omega)
    · rw [if_neg (fun hh => h4 (c4.mp hh)), if_neg h4]; exact min_nI (a := 0) (by omega) (by omega)
  | 3, _ =>
    rw [if_neg (show ¬ nI 3 = 0 by decide), if_neg (show ¬ nI 3 = 1 by decide), if_neg (show ¬ nI 3 = 2 by decide), if_neg (show ¬ (3 : Nat) = 0 by decide), if_neg (show ¬ (3 : Nat) = 1 by decide), if_neg (show ¬ (3 : Nat) = 2 by decide)]
    exact min_nI (a := 1) (by omega) (by omega)
theorem go_cls {i g q : Nat} (hi : i < 4) (hg : g < 2 ^ 31) (hq : 0 < q) : lvV i (nI g) (nI q) = nI (goN i g q) := by
  have c4 : (nI (g % 4) = 0) ↔ g % 4 = 0 := nI_eq (b := 0) (by omega) (by decide)
  have c2 : (nI (g % 2) = 0) ↔ g % 2 = 0 := nI_eq (b := 0) (by omega) (by decide)
  unfold lvV goN
  rw [modV_2 g hg, modV_4 g hg]
  match i, hi with
  | 0, _ =>
    rw [if_pos (show (0 : Nat) = 0 from rfl), if_pos (show (0 : Nat) = 0 from rfl)]
    by_cases h2 : g % 2 = 0
    · rw [if_pos (c2.mpr h2), h2, Nat.min_eq_left (by omega)]; rfl
    · rw [if_neg (fun hh => h2 (c2.mp hh)), show 1 - g % 2 = 0 by omega, Nat.min_eq_left (by omega)]; rfl
  | 1, _ => rw [if_neg (show ¬ (1 : Nat) = 0 by decide), if_pos (show (1 : Nat) = 1 from rfl), if_neg (show ¬ (1 : Nat) = 0 by decide), if_pos (show (1 : Nat) = 1 from rfl)]
  | 2, _ =>
    rw [if_neg (show ¬ (2 : Nat) = 0 by decide), if_neg (show ¬ (2 : Nat) = 1 by decide), if_pos (show (2 : Nat) = 2 from rfl), if_neg (show ¬ (2 : Nat) = 0 by decide), if_neg (show ¬ (2 : Nat) = 1 by decide), if_pos (show (2 : Nat) = 2 from rfl)]
    by_cases h4 : g % 4 = 0
    · rw [if_pos (c4.mpr h4), if_pos h4, Nat.min_eq_left (by omega)]; rfl
    · rw [if_neg (fun hh => h4 (c4.mp hh)), if_neg h4, Nat.min_eq_left (by omega)]; rfl
  | 3, _ =>
    rw [if_neg (show ¬ (3 : Nat) = 0 by decide), if_neg (show ¬ (3 : Nat) = 1 by decide), if_neg (show ¬ (3 : Nat) = 2 by decide), if_neg (show ¬ (3 : Nat) = 0 by decide), if_neg (show ¬ (3 : Nat) = 1 by decide), if_neg (show ¬ (3 : Nat) = 2 by decide), Nat.min_eq_left (by omega)]
    rfl
theorem go_green {S : Nat → Int32} {t a : Nat} (hn : numOk S t) (ha : a < manyN S) (h6 : ¬ S (sA a 6) = 0) : ∃ g, g ≤ t ∧ S 3 - S (sA a 7) = nI g := by
  obtain ⟨-, h6', h7, -, -, h7'⟩ := hn.2 a ha
  have h1 : S (sA a 6) = 1 := h6'.resolve_left h6
  rcases h7 with h | ⟨e, he, h⟩
  · exact absurd h (h7' h1)
  · exact ⟨t - e, by omega, by rw [hn.1, h]; exact pk_sub he⟩
/-- a second's going, by one signal (both sides) -/
theorem go1_V {S : Nat → Int32} {t a : Nat} (ht : t < 2 ^ 31) (hr : rowOk S) (ha8 : a < 8) (hn : numOk S t) (ha : a < manyN S) (h6 : ¬ S (sA a 6) = 0) : ∃ g q, g ≤ t ∧ q ≤ 99 ∧ S 3 - S (sA a 7) = nI g ∧ S (sA a 5) = nI q ∧ go1 S a = goF S a (nI (goN (kindN S a) g q)) := by
  obtain ⟨⟨q, hq, eq⟩, -⟩ := hn.2 a ha
  obtain ⟨g, hg, eg⟩ := go_green hn ha h6
  refine ⟨g, q, hg, hq, eg, eq, ?_⟩
  have hk := (hr a ha8).kind
  unfold go1
  rw [if_neg h6, eg, eq, hk.2, go_ref hk.1 (by omega) hq]
theorem goF_0 {S : Nat → Int32} {a : Nat} : goF S a 0 = S := by
  unfold goF
  rw [upd_same (k := sA a 5) (Int32.sub_zero _), upd_same (k := sA a 10) (Int32.add_zero _), upd_same (k := 8) (Int32.add_zero _)]
theorem goF_ne {S : Nat → Int32} {a k : Nat} {n : Int32} (h5 : k ≠ sA a 5) (h10 : k ≠ sA a 10) (h8 : k ≠ 8) : goF S a n k = S k := by
  unfold goF
  rw [upd_ne h8, upd_ne h10, upd_ne h5]
theorem numOk_go1 {S : Nat → Int32} {t a : Nat} (ht : t < 2 ^ 31) (hr : rowOk S) (hm : mOk S) (hn : numOk S t) (ha : a < manyN S) : numOk (go1 S a) t := by
  have h8 : a < 8 := by have := hm.1; omega
  by_cases h6 : S (sA a 6) = 0
  · unfold go1; rw [if_pos h6]; exact hn
  · obtain ⟨g, q, hg, hq, eg, eq, e⟩ := go1_V ht hr h8 hn ha h6
    rw [e]
    refine numOk_one (a := a) hn hm (goF_ne (by unfold sA; omega) (by unfold sA; omega) (by decide)) (goF_ne (by unfold sA; omega) (by unfold sA; omega) (by decide)) (fun k w hk hk8 h5 h9 => goF_ne (by unfold sA; omega) (by unfold sA; omega) (by unfold sA; omega)) (fun _ => ?_)
    obtain ⟨-, k6, k7, k8, k9, k10⟩ := hn.2 a ha
    have hle := goN_le (kindN S a) g q
    unfold sgOk
    rw [goF_ne (k := sA a 6) (by unfold sA; omega) (by unfold sA; omega) (by unfold sA; omega), goF_ne (k := sA a 7) (by unfold sA; omega) (by unfold sA; omega) (by unfold sA; omega), goF_ne (k := sA a 8) (by unfold sA; omega) (by unfold sA; omega) (by unfold sA; omega), goF_ne (k := sA a 9) (by unfold sA; omega) (by unfold sA; omega) (by unfold sA; omega)]
    refine ⟨⟨q - goN (kindN S a) g q, by omega, ?_⟩, k6, k7, k8, k9, k10⟩
    unfold goF
    rw [upd_ne (by unfold sA; omega), upd_ne (by unfold sA; omega), upd_eq, eq, pk_sub hle]
section W9
variable {G : gG} {h : gH} {b : Nat} {S C : Nat → Int32} {J : Nat → Nat → Int32} {Q : Nat → Nat → Int64} {F : Nat}
theorem x_clearOf {a c : Nat} (ha : a < 8) (hc : c < 8) : sp_X1_clearOf G F (wh G h b S J Q) b (nI a) (nI c) = some (J 8 (8 * a + c)) := by
  unfold sp_X1_clearOf
  simp only [x_is, if_true, Option.bind_some, x_f29, ix_8, x_a8 (show 8 * a + c < 64 by omega)]
theorem x_mayTurn {t a : Nat} (hF : 40 ≤ F) (ht : t < 2 ^ 31) (hm : mOk S) (hn : numOk S t) (hC : clOk C S J) (ha : a < manyN S) : sp_X1_mayTurn G F (wh G h b S J Q) b (nI a) = some (bI (mayB C S a)) := by
  have h8 := hm.1
  have key : ∀ (n i f : Nat), n + i = manyN S → n < f → sp_X1_mayTurn_L2 G F (wh G h b S J Q) f b (nI a) (nI i) = some (bI (mayL C S a n i)) := by
    intro n
    induction n with
    | zero =>
      intro i f hi hf
      obtain ⟨f, rfl⟩ : ∃ z, f = z + 1 := ⟨f - 1, by omega⟩
      rw [sp_X1_mayTurn_L2]
      simp only [x_is, if_true, Option.bind_some, x_f13]
      rw [if_pos (by rw [hm.2]; exact nI_le (by omega) (by omega))]
      rfl
    | succ n ih =>
      intro i f hi hf
      obtain ⟨f, rfl⟩ : ∃ z, f = z + 1 := ⟨f - 1, by omega⟩
      have en : ¬ S 13 ≤ nI i := by rw [hm.2]; exact nI_ge (by omega) (by omega)
      have hi8 : i < 8 := by omega
      have him : i < manyN S := by omega
      obtain ⟨c1, -⟩ := hC i a him ha
      obtain ⟨-, c2⟩ := hC a i ha him
      obtain ⟨-, -, -, h8', -, -⟩ := hn.2 i him
      have e8 := tm_neg ht h8'
      rw [sp_X1_mayTurn_L2]
      simp only [x_is, if_true, Option.bind_some, x_f13, en, if_false, x_clearOf hi8 (show a < 8 by omega), c1, c2, e8, x_f22, x_a1 hi8, x_sg_f8 hi8 him, x_f1, nI_1, ih (i + 1) f (by omega) (by omega), mayL]
      by_cases g1 : C (8 * i + a) < 0
      · rw [if_pos g1, if_pos g1]
      · rw [if_neg g1, if_neg g1]
        by_cases g2 : S (sA i 8) = -5
        · rw [if_pos g2, if_pos g2]
        · rw [if_neg g2, if_neg g2]
          by_cases g3 : C (8 * i + a) ≤ S 3 - S (sA i 8)
          · rw [if_pos g3, if_pos g3]
          · rw [if_neg g3, if_neg g3]
            rfl
  unfold sp_X1_mayTurn mayB
  exact key (manyN S) 0 F (by omega) (by omega)
theorem numOk_turn1 {t a : Nat} (ht : t < 2 ^ 31) (hm : mOk S) (hn : numOk S t) (ha : a < manyN S) : numOk (turn1 C S a) t := by
  have h8 : a < 8 := by have := hm.1; omega
  have hE : ∀ k, k ≠ sA a 6 → k ≠ sA a 7 → k ≠ sA a 20 → turnF S a k = S k := by
    intro k k6 k7 k20
    unfold turnF
    rw [upd_ne k20, upd_ne k7, upd_ne k6]
  unfold turn1
  split
  · exact hn
  · split
    · exact hn
    · split
      · exact hn
      · refine numOk_one (a := a) hn hm (hE 3 (by unfold sA; omega) (by unfold sA; omega) (by unfold sA; omega)) (hE 13 (by unfold sA; omega) (by unfold sA; omega) (by unfold sA; omega)) (fun k w hk hk8 h5 h9 => hE _ (by unfold sA; omega) (by unfold sA; omega) (by unfold sA; omega)) (fun _ => ?_)
        obtain ⟨k5, k6, k7, k8, k9, k10⟩ := hn.2 a ha
        unfold sgOk
        rw [hE (sA a 5) (by unfold sA; omega) (by unfold sA; omega) (by unfold sA; omega), hE (sA a 8) (by unfold sA; omega) (by unfold sA; omega) (by unfold sA; omega), hE (sA a 9) (by unfold sA; omega) (by unfold sA; omega) (by unfold sA; omega)]
        have e6 : turnF S a (sA a 6) = 1 := by
          unfold turnF
          rw [upd_ne (by unfold sA; omega), upd_ne (by unfold sA; omega), upd_eq]
        have e7 : turnF S a (sA a 7) = nI t := by
          unfold turnF
          rw [upd_ne (by unfold sA; omega), upd_eq, hn.1]
        rw [e6, e7]
        refine ⟨k5, Or.inr rfl, Or.inr ⟨t, Nat.le_refl t, rfl⟩, k8, k9, fun _ => ?_⟩
        intro e
        exact absurd (by rw [e]; decide) (nI_nn (e := t) ht)
theorem clOk_keep {T : Nat → Int32} (e : manyN T = manyN S) (hC : clOk C S J) : clOk C T J := by
  unfold clOk
  rw [e]
  exact hC
theorem clOk_jR {K : Nat → Nat → Int32} (hK : jR J K) (hC : clOk C S J) : clOk C S K := fun a i ha hi => by
  rw [hK.1 8 _ (by omega)]
  exact hC a i ha hi
theorem x_turning_s {t i f : Nat} (hF : 40 ≤ F) (ht : t < 2 ^ 31) (hr : rtN J < 24) (hm : mOk S) (hn : numOk S t) (hC : clOk C S J) (ho : onOk S) (hon : onN S < phN S) (hi : i < manyN S) : sp_X1_turning_L2 G F (f + 1) (wh G h b S J Q) b (nI i) = sp_X1_turning_L2 G F f (wh G h b (turn1 C S i) J Q) b (nI (i + 1)) := by
  have h8 := hm.1
  have hi8 : i < 8 := by omega
  have en : ¬ S 13 ≤ nI i := by rw [hm.2]; exact nI_ge (by omega) (by omega)
  have ha2 : gAr 6 (wh G h b S J Q) (b + 2) (S 4) = some (phA b (onN S)) := by rw [ho.2]; exact x_a2 ho.1
  have him1 : i < manyN (upd S (sA i 6) 1) := by rw [many_s]; exact hi
  have him2 : i < manyN (upd (upd S (sA i 6) 1) (sA i 7) (S 3)) := by rw [many_s, many_s]; exact hi
  have e3 : upd S (sA i 6) 1 3 = S 3 := upd_ne (by unfold sA; omega)
  have e20 : upd (upd S (sA i 6) 1) (sA i 7) (S 3) (sA i 20) = S (sA i 20) := by rw [upd_ne (by unfold sA; omega), upd_ne (by unfold sA; omega)]
  have eT : upd (upd (upd S (sA i 6) 1) (sA i 7) (S 3)) (sA i 20) (S (sA i 20) + 1) = turnF S i := rfl
  obtain ⟨-, h6, -⟩ := hn.2 i hi
  rw [sp_X1_turning_L2]
  simp only [x_is, if_true, Option.bind_some, x_f13, en, if_false, x_f22, x_a1 hi8, x_f23, x_f2, ha2, x_ph_is ho.1, x_has ho.1 hon, b0, x_sg_f6 hi8 hi, x_mayTurn hF ht hm hn hC hi, bI_z, x_sg_p6 _ hr hi8 hi, x_f1, e3, x_sg_p7 _ hr hi8 him1, x_sg_f11 hi8 him2, e20, x_sg_p11 _ hr hi8 him2, eT, nI_1, turn1]
  by_cases g1 : hasB (S (pA (onN S) 0)) (nI i)
  · have g1' : ¬ ¬ hasB (S (pA (onN S) 0)) (nI i) := fun hh => hh g1
    simp only [g1', if_false]
    by_cases g2 : S (sA i 6) = 1
    · have g2' : ¬ S (sA i 6) = 0 := by rw [g2]; decide
      rw [if_neg g2', if_pos g2]
    · have g2' : S (sA i 6) = 0 := h6.resolve_right g2
      rw [if_pos g2', if_neg g2]
      by_cases g3 : mayB C S i = false
      · rw [if_pos g3, if_pos g3]
      · rw [if_neg g3, if_neg g3]
  · simp only [g1, not_false_eq_true, if_true]
theorem turnL_it : ∀ (n i : Nat) (S : Nat → Int32), turnL C n i S = itN (fun i s => turn1 C s i) n i S := by
  intro n
  induction n with
  | zero => intro i S; rfl
  | succ n ih => intro i S; rw [turnL, itN]; exact ih _ _
theorem goL_it : ∀ (n i : Nat) (S : Nat → Int32), goL n i S = itN (fun i s => go1 s i) n i S := by
  intro n
  induction n with
  | zero => intro i S; rfl
  | succ n ih => intro i S; rw [goL, itN]; exact ih _ _
def turnP (S : Nat → Int32) (t : Nat) (s : Nat → Int32) : Prop := mOk s ∧ manyN s = manyN S ∧ phN s = phN S ∧ numOk s t ∧ onOk s ∧ onN s = onN S
theorem turnP_s {t i : Nat} {s : Nat → Int32} (ht : t < 2 ^ 31) (hi8 : i < 8) (hi : i < manyN S) (hs : turnP S t s) : turnP S t (turn1 C s i) := by
  obtain ⟨h1, h2, h3, h4, h5, h6⟩ := hs
  have hk := keep_turn1 (C := C) (S := s) hi8
  have e4 : onN (turn1 C s i) = onN s := by unfold onN; rw [turn1_4]
  refine ⟨mOk_keep hk h1, (many_keep hk).trans h2, (ph_keep hk).trans h3, numOk_turn1 ht h1 h4 (by rw [h2]; exact hi), ?_, e4.trans h6⟩
  unfold onOk
  rw [e4, turn1_4]
  exact h5
theorem turnP_0 {t : Nat} (hm : mOk S) (hn : numOk S t) (ho : onOk S) : turnP S t S := ⟨hm, rfl, rfl, hn, ho, rfl⟩
theorem numOk_turning {t : Nat} (ht : t < 2 ^ 31) (hm : mOk S) (hn : numOk S t) (ho : onOk S) : numOk (turningF C S) t := by
  have h8 := hm.1
  unfold turningF
  rw [turnL_it]
  exact (it_inv (m := manyN S) (P := fun _ s => turnP S t s) (fun i s hi hs => turnP_s ht (by omega) hi hs) (manyN S) 0 S (by omega) (turnP_0 hm hn ho)).2.2.2.1
theorem x_turning {t : Nat} (hF : 40 ≤ F) (ht : t < 2 ^ 31) (hr : rtN J < 24) (hm : mOk S) (hn : numOk S t) (hC : clOk C S J) (ho : onOk S) (hon : onN S < phN S) : sp_X1_turning G F (wh G h b S J Q) b = some (wh G h b (turningF C S) J Q) := by
  have h8 := hm.1
  have key := it_loop (m := manyN S) (fun f i s => sp_X1_turning_L2 G F f (wh G h b s J Q) b (nI i)) (fun i s => turn1 C s i) (fun _ s => turnP S t s) (fun s => wh G h b s J Q) (by
    intro i f s hi hs
    obtain ⟨h1, h2, h3, h4, h5, h6⟩ := hs
    exact x_turning_s hF ht hr h1 h4 (clOk_keep h2 hC) h5 (by rw [h6, h3]; exact hon) (by rw [h2]; exact hi)) (by
    intro i s hi hs
    exact turnP_s ht (by omega) hi hs) (by
    intro f s hs
    show sp_X1_turning_L2 G F (f + 1) (wh G h b s J Q) b (nI (manyN S)) = _
    rw [sp_X1_turning_L2]
    simp only [x_is, if_true, Option.bind_some, x_f13]
    rw [if_pos (by rw [hs.1.2, hs.2.1]; exact nI_le (by omega) (by omega))]) (manyN S) 0 F S (by omega) (by omega) (turnP_0 hm hn ho)
  unfold sp_X1_turning turningF
  rw [turnL_it, show sp_X1_turning_L2 G F F (wh G h b S J Q) b 0 = _ from key]
  rfl
/-- going, with what waited -/
def goW (i : Nat) (s : Nat → Int32) : Nat → Int32 := upd (go1 s i) 7 (s 7 + go1 s i (sA i 5))
theorem go1_7 {a : Nat} : go1 S a 7 = S 7 := by
  unfold go1
  split
  · rfl
  · exact goF_ne (by unfold sA; omega) (by unfold sA; omega) (by decide)
theorem go1_u7 {a : Nat} {x : Int32} : go1 (upd S 7 x) a = upd (go1 S a) 7 x := by
  have e : ∀ w, upd S 7 x (sA a w) = S (sA a w) := fun w => upd_ne (by unfold sA; omega)
  unfold go1 goF
  rw [e 6, e 0, e 7, e 5, e 10, upd_ne (show 3 ≠ 7 by decide), upd_ne (show 8 ≠ 7 by decide)]
  split
  · rfl
  · rw [upd_comm (p := 7) (q := sA a 5) (by unfold sA; omega), upd_comm (p := 7) (q := sA a 10) (by unfold sA; omega), upd_comm (p := 7) (q := 8) (by decide)]
theorem go1_q {a k : Nat} (h : k ≠ a) (ha : a < 8) (hk : k < 8) : go1 S a (sA k 5) = S (sA k 5) := by
  unfold go1
  split
  · rfl
  · exact goF_ne (by unfold sA; omega) (by unfold sA; omega) (by unfold sA; omega)
theorem goL_q : ∀ (n i : Nat) (S : Nat → Int32) (k : Nat), k < i → n + i ≤ 8 → goL n i S (sA k 5) = S (sA k 5) := by
  intro n
  induction n with
  | zero => intro i S k _ _; rfl
  | succ n ih =>
    intro i S k hk hi
    rw [goL, ih (i + 1) _ k (by omega) (by omega), go1_q (by omega) (by omega) (by omega)]
theorem goL_u7 {x : Int32} : ∀ (n i : Nat) (S : Nat → Int32), goL n i (upd S 7 x) = upd (goL n i S) 7 x := by
  intro n
  induction n with
  | zero => intro i S; rfl
  | succ n ih => intro i S; rw [goL, goL, go1_u7, ih]
theorem queuesL_acc : ∀ (n i : Nat) (S : Nat → Int32) (x y : Int32), queuesL S n i (x + y) = x + queuesL S n i y := by
  intro n
  induction n with
  | zero => intro i S x y; rfl
  | succ n ih => intro i S x y; rw [queuesL, queuesL, Int32.add_assoc, ih]
theorem upd_upd {k : Nat} {x y : Int32} : upd (upd S k x) k y = upd S k y := by
  funext j
  unfold upd
  split <;> rfl
theorem goW_it : ∀ (n i : Nat) (S : Nat → Int32), n + i ≤ 8 → itN goW n i S = upd (goL n i S) 7 (queuesL (goL n i S) n i (S 7)) := by
  intro n
  induction n with
  | zero => intro i S _; exact (upd_same rfl).symm
  | succ n ih =>
    intro i S hi
    rw [itN, ih (i + 1) _ (by omega), goL]
    unfold goW
    rw [goL_u7, upd_upd, upd_eq, queuesL]
    have eq : ∀ (m j : Nat) (T : Nat → Int32) (y z : Int32), queuesL (upd T 7 y) m j z = queuesL T m j z := by
      intro m
      induction m with
      | zero => intro j T y z; rfl
      | succ m ihm => intro j T y z; rw [queuesL, queuesL, ihm, upd_ne (by unfold sA; omega)]
    rw [eq, goL_q n (i + 1) _ i (by omega) (by omega)]
theorem ends_it (hm : mOk S) : upd (itN goW (manyN S) 0 S) 3 (S 3 + 1) = endsF S := by
  have h8 := hm.1
  have e3 : goingF S 3 = S 3 := by
    have := keep_going hm
    have hu := ku_goL (manyN S) 0 S (by omega)
    exact hu 3 (by unfold freeK; omega)
  have e7 : goingF S 7 = S 7 := ku_goL (manyN S) 0 S (by omega) 7 (by unfold freeK; omega)
  have em : manyN (goingF S) = manyN S := many_keep (keep_going hm)
  unfold endsF tickF queuesV
  rw [goW_it _ _ _ (by omega), e3, e7, em]
  unfold goingF
  rw [← queuesL_acc, Int32.add_zero]
theorem x_going_s {t i f : Nat} (hG : gI4 G) (ht : t < 2 ^ 31) (hr : rtN J < 24) (hm : mOk S) (hro : rowOk S) (hn : numOk S t) (hi : i < manyN S) : sp_X1_going_L2 G F (f + 1) (wh G h b S J Q) b (nI i) = sp_X1_going_L2 G F f (wh G h b (goW i S) J Q) b (nI (i + 1)) := by
  have h8 := hm.1
  have hi8 : i < 8 := by omega
  have en : ¬ S 13 ≤ nI i := by rw [hm.2]; exact nI_ge (by omega) (by omega)
  have hk := (hro i hi8).kind
  have ej : (if S (sA i 6) = 0 then some (wh G h b S J Q) else if S (sA i 5) ≤ 0 then some (wh G h b S J Q) else (gPv 2 (wh G h b S J Q) (sg b i) 5 (.int (S (sA i 5) - lvV (kindN S i) (S 3 - S (sA i 7)) (S (sA i 5))))).bind fun h315 => (gGi 2 h315 (sg b i) 10).bind fun x316 => (gPv 2 h315 (sg b i) 10 (.int (x316 + lvV (kindN S i) (S 3 - S (sA i 7)) (S (sA i 5))))).bind fun h317 => (gGi 1 h317 b 6).bind fun x318 => (gPv 1 h317 b 6 (.int (x318 + lvV (kindN S i) (S 3 - S (sA i 7)) (S (sA i 5))))).bind fun h319 => some h319) = some (wh G h b (go1 S i) J Q) := by
    by_cases h6 : S (sA i 6) = 0
    · unfold go1
      rw [if_pos h6, if_pos h6]
    · obtain ⟨g, q, hg, hq, eg, eq, e⟩ := go1_V ht hro hi8 hn hi h6
      rw [if_neg h6, e, eg, eq]
      by_cases h0 : q = 0
      · subst h0
        have e0 : goN (kindN S i) g 0 = 0 := by have := goN_le (kindN S i) g 0; omega
        rw [if_pos (show nI 0 ≤ 0 by decide), e0, show nI 0 = 0 from rfl, goF_0]
      · have hq0 : ¬ nI q ≤ 0 := nI_ge (a := 0) (by omega) (by omega)
        rw [if_neg hq0, go_cls hk.1 (by omega) (by omega)]
        have him1 : ∀ x, i < manyN (upd S (sA i 5) x) := fun x => by rw [many_s]; exact hi
        have e10 : ∀ x, upd S (sA i 5) x (sA i 10) = S (sA i 10) := fun x => upd_ne (by unfold sA; omega)
        have e8 : ∀ x y, upd (upd S (sA i 5) x) (sA i 10) y 8 = S 8 := fun x y => by rw [upd_ne (by unfold sA; omega), upd_ne (by unfold sA; omega)]
        simp only [x_sg_p5 _ hr hi8 hi, Option.bind_some, x_sg_f10 hi8 (him1 _), e10, x_sg_p10 _ hr hi8 (him1 _), x_f6, e8, x_p6 _ hr]
        unfold goF
        rw [eq]
  have hmg : i < manyN (go1 S i) := by rw [many_keep (keep_go1 hi8)]; exact hi
  rw [sp_X1_going_L2]
  simp only [x_is, if_true, Option.bind_some, x_f13, en, if_false, x_f22, x_a1 hi8, x_sg_f6 hi8 hi, x_sg_f5 hi8 hi, x_sg_f0 hi8 hi, x_f1, x_sg_f7 hi8 hi, i_leaves hG hk.1]
  rw [ej]
  simp only [Option.bind_some, x_f5, x_sg_f5 hi8 hmg, x_p5 _ hr, go1_7, nI_1]
  rfl
def goP (S : Nat → Int32) (t : Nat) (s : Nat → Int32) : Prop := mOk s ∧ rowOk s ∧ manyN s = manyN S ∧ numOk s t
theorem rowOk_keep {T : Nat → Int32} (hk : keepS S T) (h : rowOk S) : rowOk T := by
  intro a ha
  have := h a ha
  unfold sigOk at this ⊢
  rw [hk (sA a 0) (by unfold fixedK sA; omega), hk (sA a 11) (by unfold fixedK sA; omega)]
  exact this
theorem goP_s {t i : Nat} {s : Nat → Int32} (ht : t < 2 ^ 31) (hi8 : i < 8) (hi : i < manyN S) (hs : goP S t s) : goP S t (go1 s i) := by
  obtain ⟨h1, h2, h3, h4⟩ := hs
  have hk := keep_go1 (S := s) hi8
  exact ⟨mOk_keep hk h1, rowOk_keep hk h2, (many_keep hk).trans h3, numOk_go1 ht h2 h1 h4 (by rw [h3]; exact hi)⟩
theorem goP_7 {t : Nat} {s : Nat → Int32} {x : Int32} (hs : goP S t s) : goP S t (upd s 7 x) := by
  obtain ⟨h1, h2, h3, h4⟩ := hs
  have em : manyN (upd s 7 x) = manyN s := many_upd (by decide)
  refine ⟨?_, ?_, em.trans h3, numOk_lo h4 h1 (by decide) (by decide) (by omega)⟩
  · unfold mOk
    rw [em, upd_ne (by decide)]
    exact h1
  · intro a ha
    have := h2 a ha
    unfold sigOk at this ⊢
    rw [upd_ne (by unfold sA; omega), upd_ne (by unfold sA; omega)]
    exact this
theorem x_going {t : Nat} (hF : 40 ≤ F) (hG : gI4 G) (ht : t < 2 ^ 31) (hr : rtN J < 24) (hm : mOk S) (hro : rowOk S) (hn : numOk S t) : sp_X1_going G F (wh G h b S J Q) b = some (wh G h b (itN goW (manyN S) 0 S) J Q) := by
  have h8 := hm.1
  have key := it_loop (m := manyN S) (fun f i s => sp_X1_going_L2 G F f (wh G h b s J Q) b (nI i)) goW (fun _ s => goP S t s) (fun s => wh G h b s J Q) (by
    intro i f s hi hs
    obtain ⟨h1, h2, h3, h4⟩ := hs
    exact x_going_s hG ht hr h1 h2 h4 (by rw [h3]; exact hi)) (by
    intro i s hi hs
    exact goP_7 (goP_s ht (by omega) hi hs)) (by
    intro f s hs
    show sp_X1_going_L2 G F (f + 1) (wh G h b s J Q) b (nI (manyN S)) = _
    rw [sp_X1_going_L2]
    simp only [x_is, if_true, Option.bind_some, x_f13]
    rw [if_pos (by rw [hs.1.2, hs.2.2.1]; exact nI_le (by omega) (by omega))]) (manyN S) 0 F S (by omega) (by omega) ⟨hm, hro, rfl, hn⟩
  unfold sp_X1_going
  rw [show sp_X1_going_L2 G F F (wh G h b S J Q) b 0 = _ from key]
  rfl
theorem numOk_ends {t : Nat} (ht : t < 2 ^ 31) (hm : mOk S) (hro : rowOk S) (hn : numOk S t) : numOk (endsF S) (t + 1) := by
  have h8 := hm.1
  have hg : goP S t (goingF S) := by
    unfold goingF
    rw [goL_it]
    exact it_inv (m := manyN S) (P := fun _ s => goP S t s) (fun i s hi hs => goP_s ht (by omega) hi hs) (manyN S) 0 S (by omega) ⟨hm, hro, rfl, hn⟩
  obtain ⟨h1, h2, h3, h4⟩ := hg
  unfold endsF tickF
  have tm : ∀ x, tmOk t x → tmOk (t + 1) x := fun x hx => by
    rcases hx with hx | ⟨e, he, hx⟩
    · exact Or.inl hx
    · exact Or.inr ⟨e, by omega, hx⟩
  refine ⟨by rw [upd_eq, h4.1, nI_1], fun k hk => ?_⟩
  rw [many_upd (by decide), many_upd (by decide)] at hk
  have hk8 : k < 8 := by omega
  have e : ∀ w, upd (upd (goingF S) 7 (goingF S 7 + queuesV (goingF S))) 3 (goingF S 3 + 1) (sA k w) = goingF S (sA k w) := fun w => by rw [upd_ne (by unfold sA; omega), upd_ne (by unfold sA; omega)]
  obtain ⟨k5, k6, k7, k8, k9, k10⟩ := h4.2 k hk
  unfold sgOk
  rw [e 5, e 6, e 7, e 8, e 9]
  exact ⟨k5, k6, tm _ k7, tm _ k8, tm _ k9, k10⟩
end W9
