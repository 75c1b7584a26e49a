/-! x14: waves (reference) -/
set_option maxRecDepth 100000
abbrev nd (k w : Nat) : Nat := 306 + 3 * k + w
def rndN (S : Nat → Int32) : Nat := (S 16).toNatClampNeg
def rndOk (S : Nat → Int32) : Prop := 20 ≤ rndN S ∧ rndN S ≤ 60 ∧ S 16 = nI (rndN S)
def waveOk (S : Nat → Int32) : Prop := rndOk S ∧ nodeOk S ∧ ∀ k, k < nodN S → ∃ o, o < rndN S ∧ S (nd k 0) = nI o
def fmV (x y : Int32) : Int32 := if 0 ≤ modV x y then modV x y else modV x y + y
def openB (S : Nat → Int32) (k : Nat) (x : Int32) : Bool := decide (¬ S (nd k 1) ≤ fmV (x - S (nd k 0)) (S 16))
def nodI (S : Nat → Int32) (w i : Nat) : Nat := if w = 0 then i else nodN S - 1 - i
def trv (S : Nat → Int32) (w i : Nat) : Int32 := if w = 0 then S (nd i 2) else if nodI S w i = 0 then 0 else S (nd (nodI S w i - 1) 2)
def thrL (S : Nat → Int32) (w : Nat) : Nat → Nat → Int32 → Bool
  | 0, _, _ => true
  | m + 1, i, x => openB S (nodI S w i) x && thrL S w m (i + 1) (x + trv S w i)
def thrB (S : Nat → Int32) (w : Nat) (x : Int32) : Bool := thrL S w (nodN S) 0 x
def bndL (S : Nat → Int32) (w : Nat) : Nat → Nat → Int32 → Int32
  | 0, _, acc => acc
  | m + 1, t, acc => bndL S w m (t + 1) (acc + if thrB S w (nI t) = true then 1 else 0)
def bandV (S : Nat → Int32) (w : Nat) : Int32 := if nodN S = 0 then 0 else bndL S w (rndN S) 0 0
def bandsV (S : Nat → Int32) : Int32 := bandV S 0 + bandV S 1
/-- the best offset of node k: it, both bands then -/
def tnL (S : Nat → Int32) (k : Nat) : Nat → Nat → Int32 → Int32 → Int32 × Int32
  | 0, _, x, y => (x, y)
  | m + 1, v, x, y => if bandsV (upd S (nd k 0) (nI v)) ≤ y then tnL S k m (v + 1) x y else tnL S k m (v + 1) (nI v) (bandsV (upd S (nd k 0) (nI v)))
def tuneV (S : Nat → Int32) (k : Nat) : Int32 × Int32 := tnL S k (rndN S) 0 0 (-1)
def tuneF (k : Nat) (S : Nat → Int32) : Nat → Int32 := if (tuneV S k).2 ≤ bandsV S then S else upd S (nd k 0) (tuneV S k).1
def tuneA (S : Nat → Int32) : Nat → Int32 := itN (fun _ s => itN (fun k s => tuneF k s) (nodN S) 0 s) 4 0 S
/-- but for rows that are for a while, A' is A -/
def mQ (A A' : Nat → Nat → Int32) (c : Int32) : Prop := ∀ i j, i ≠ 0 → i ≠ 2 → i ≠ 6 → ¬ (i = 9 ∧ 3 ≤ j) → A' i j = if i = 9 ∧ j = 1 then c else A i j
theorem mQ_of {A A' : Nat → Nat → Int32} {c : Int32} (h : mR A A' c) : mQ A A' c := fun i j _ h2 _ _ => h i j h2
theorem mQ_refl {A : Nat → Nat → Int32} : mQ A A (A 9 1) := mQ_of mR_refl
theorem mQ_trans {A A' A'' : Nat → Nat → Int32} {c d : Int32} (h1 : mQ A A' c) (h2 : mQ A' A'' d) : mQ A A'' d := by
  intro i j a1 a2 a3 a4
  rw [h2 i j a1 a2 a3 a4]
  split
  · rfl
  · rename_i e; rw [h1 i j a1 a2 a3 a4, if_neg e]
theorem mQ_5 {A : Nat → Nat → Int32} {x : Int32} : mQ A (mu A 9 5 x) (A 9 1) := by
  intro i j a1 a2 a3 a4
  have : mu A 9 5 x i j = A i j := if_neg (fun hh => a4 ⟨hh.1, by omega⟩)
  rw [this]
  split
  · rename_i e; rw [e.1, e.2]
  · rfl
theorem mQ_3 {A A' : Nat → Nat → Int32} {c : Int32} (h : mQ A A' c) : A' 3 = A 3 := by
  funext j
  rw [h 3 j (by decide) (by decide) (by decide) (by omega), if_neg (by omega)]
theorem mQ_91 {A A' : Nat → Nat → Int32} {c : Int32} (h : mQ A A' c) : A' 9 1 = c := by
  rw [h 9 1 (by decide) (by decide) (by decide) (by omega), if_pos ⟨rfl, rfl⟩]
theorem nod_upd {S : Nat → Int32} {k : Nat} {x : Int32} : nodN (upd S (nd k 0) x) = nodN S := by
  unfold nodN
  rw [upd_ne (by unfold nd; omega)]
theorem rnd_upd {S : Nat → Int32} {k : Nat} {x : Int32} : rndN (upd S (nd k 0) x) = rndN S := by
  unfold rndN
  rw [upd_ne (by unfold nd; omega)]
theorem rndOk_upd {S : Nat → Int32} {k : Nat} {x : Int32} (h : rndOk S) : rndOk (upd S (nd k 0) x) := by
  unfold rndOk
  rw [rnd_upd, upd_ne (by unfold nd; omega)]
  exact h
theorem nodeOk_upd {S : Nat → Int32} {k : Nat} {x : Int32} (h : nodeOk S) : nodeOk (upd S (nd k 0) x) := by
  unfold nodeOk
  rw [nod_upd, upd_ne (by unfold nd; omega)]
  exact h
section R14
variable {h : gH} {b : Nat} {A : Nat → Nat → Int32} {L : Nat → Nat → Int64} {S T : Nat → Int32} {G : gG} {F : Nat}
theorem ix_nd (k : Nat) : (306 : Int32) + ((3 : Int32) * nI k) = nI (nd k 0) := by
  show nI 306 + nI 3 * nI k = _
  rw [pk_mul, nI_add]
  rfl
theorem ix_nd1 (k : Nat) : nI (nd k 0) + 1 = nI (nd k 1) := nI_1 _
theorem ix_nd2 (k : Nat) : nI (nd k 0) + 2 = nI (nd k 2) := nI_add _ 2
theorem s_isOpen {k : Nat} {x : Int32} (hr : rndOk S) (hk : k < 5) : sp_X13_isOpen G F (mS h b A L S) b (nI k) x = some (bI (openB S k x)) := by
  have n0 : ¬ S 16 = 0 := by rw [hr.2.2]; exact nI_ne0 (by have := hr.1; omega) (by have := hr.2.1; omega)
  have em : ∀ x c : Int32, x - x / c * c = modV x c := fun _ _ => rfl
  have ej : (if 0 ≤ modV (x - S (nd k 0)) (S 16) then some (modV (x - S (nd k 0)) (S 16)) else some (modV (x - S (nd k 0)) (S 16) + S 16)) = some (fmV (x - S (nd k 0)) (S 16)) := by
    unfold fmV
    split <;> rfl
  unfold sp_X13_isOpen openB
  simp only [s_is, if_true, s_f0, Option.bind_some, ix_nd, s_a (nd k 0) (by unfold nd; omega), s_r_16, em, ix_nd1, s_a (nd k 1) (by unfold nd; omega), n0, not_false_eq_true, ej]
  by_cases h1 : S (nd k 1) ≤ fmV (x - S (nd k 0)) (S 16)
  · rw [if_pos h1, decide_eq_false (fun hh => hh h1)]; rfl
  · rw [if_neg h1, decide_eq_true h1]; rfl
theorem s_thr_L {w : Nat} {y z : Int32} (hr : rndOk S) (hn : nodeOk S) (hw : w < 2) : ∀ (m i f : Nat) (c : Bool) (now : Int32), m + i = nodN S → m < f → sp_X13_bandOf_L34 G F (mS h b A L S) f b (nI w) y z (bI c) now (nI i) = some (bI (c && thrL S w m i (if i = 0 then now else now + trv S w (i - 1)))) := by
  have h5 := hn.1
  intro m
  induction m with
  | zero =>
    intro i f c now hi hf
    obtain ⟨f, rfl⟩ : ∃ z, f = z + 1 := ⟨f - 1, by omega⟩
    rw [sp_X13_bandOf_L34]
    simp only [s_is, if_true, s_f0, Option.bind_some, s_r_17, thrL, Bool.and_true]
    rw [if_pos (by rw [hn.2]; exact nI_le (by omega) (by omega))]
  | succ m ih =>
    intro i f c now hi hf
    obtain ⟨f, rfl⟩ : ∃ z, f = z + 1 := ⟨f - 1, by omega⟩
    have en : ¬ S 17 ≤ nI i := by rw [hn.2]; exact nI_ge (by omega) (by omega)
    have hlt : nodI S w i < 5 := by unfold nodI; split <;> omega
    have e1 : (if nI w = 0 then some (nI i) else some (S 17 - 1 - nI i)) = some (nI (nodI S w i)) := by
      unfold nodI
      match w, hw with
      | 0, _ => rfl
      | 1, _ =>
        rw [if_neg (by decide), if_neg (by decide), hn.2]
        have : nI (nodN S) - 1 - nI i = nI (nodN S - 1 - i) := by
          rw [show (1 : Int32) = nI 1 from rfl, pk_sub (by omega), pk_sub (by omega)]
        rw [this]
    have e2 : ∀ X : gH, gAi 0 (mS h b A L S) (b + 1) = gAi 0 (mS h b A L S) (b + 1) := fun _ => rfl
    have e3 : (if nI i ≤ 0 then some now else (if nI w = 0 then some (nI (nodI S w i) - 1) else some (nI (nodI S w i))).bind fun j3511 => (gAi 0 (mS h b A L S) (b + 1) ((306 : Int32) + ((3 : Int32) * j3511) + (2 : Int32))).bind fun x3512 => some (now + x3512)) = some (if i = 0 then now else now + trv S w (i - 1)) := by
      by_cases h0 : i = 0
      · subst h0; rfl
      · rw [if_neg (nI_nle (by omega) (by omega)), if_neg h0]
        match w, hw with
        | 0, _ =>
          obtain ⟨j, rfl⟩ : ∃ j, i = j + 1 := ⟨i - 1, by omega⟩
          have hj : nodI S 0 (j + 1) = j + 1 := rfl
          have ht : trv S 0 (j + 1 - 1) = S (nd j 2) := rfl
          rw [if_pos (by decide), hj, nI_sub1, ht]
          simp only [Option.bind_some, ix_nd, ix_nd2, s_a (nd j 2) (by unfold nd; omega)]
        | 1, _ =>
          have hj : nodI S 1 i = nodN S - 1 - i := rfl
          have ht : trv S 1 (i - 1) = S (nd (nodN S - 1 - i) 2) := by
            have hni : nodI S 1 (i - 1) = nodN S - 1 - (i - 1) := rfl
            unfold trv
            rw [if_neg (show ¬ (1 : Nat) = 0 by decide), hni, if_neg (by omega)]
            congr 2
            omega
          rw [if_neg (by decide), hj, ht]
          simp only [Option.bind_some, ix_nd, ix_nd2, s_a (nd (nodN S - 1 - i) 2) (by unfold nd; omega)]
    rw [sp_X13_bandOf_L34]
    simp only [s_is, if_true, s_f0, Option.bind_some, s_r_17, en, if_false]
    rw [e1]
    simp only [Option.bind_some]
    rw [e3]
    simp only [Option.bind_some, s_isOpen hr hlt, bI_and, nI_1]
    rw [ih (i + 1) f _ _ (by omega) (by omega), if_neg (show ¬ i + 1 = 0 by omega), Nat.add_sub_cancel, thrL, Bool.and_assoc]
theorem s_bandOf {w : Nat} (hF : 100 ≤ F) (hr : rndOk S) (hn : nodeOk S) (hw : w < 2) : sp_X13_bandOf G F (mS h b A L S) b (nI w) = some (bandV S w) := by
  have h5 := hn.1
  have h60 := hr.2.1
  unfold sp_X13_bandOf bandV
  by_cases h0 : nodN S = 0
  · obtain ⟨F, rfl⟩ : ∃ z, F = z + 1 := ⟨F - 1, by omega⟩
    have e17 : S 17 = 0 := by rw [hn.2, h0]; rfl
    have en : ¬ S 16 ≤ 0 := by rw [hr.2.2]; exact nI_nle (by have := hr.1; omega) (by omega)
    rw [if_pos h0, sp_X13_bandOf_L4]
    simp only [s_is, if_true, s_f0, Option.bind_some, s_r_16, s_r_17, en, if_false, e17]
    rw [if_pos (by decide)]
    rfl
  · rw [if_neg h0]
    have e17 : ¬ S 17 ≤ 0 := by rw [hn.2]; exact nI_nle (by omega) (by omega)
    have key : ∀ (m t f : Nat) (acc : Int32), m + t = rndN S → m < f → sp_X13_bandOf_L4 G F (mS h b A L S) f b (nI w) acc (nI t) = some (bndL S w m t acc) := by
      intro m
      induction m with
      | zero =>
        intro t f acc hi hf
        obtain ⟨f, rfl⟩ : ∃ z, f = z + 1 := ⟨f - 1, by omega⟩
        rw [sp_X13_bandOf_L4]
        simp only [s_is, if_true, s_f0, Option.bind_some, s_r_16]
        rw [if_pos (by rw [hr.2.2]; exact nI_le (by omega) (by omega))]
        rfl
      | succ m ih =>
        intro t f acc hi hf
        obtain ⟨f, rfl⟩ : ∃ z, f = z + 1 := ⟨f - 1, by omega⟩
        have en : ¬ S 16 ≤ nI t := by rw [hr.2.2]; exact nI_ge (by omega) (by omega)
        have e := s_thr_L (G := G) (F := F) (h := h) (b := b) (A := A) (L := L) (y := acc) (z := nI t) hr hn hw (nodN S) 0 F true (nI t) (by omega) (by omega)
        have e' : sp_X13_bandOf_L34 G F (mS h b A L S) F b (nI w) acc (nI t) 1 (nI t) 0 = some (bI (thrB S w (nI t))) := by
          rw [if_pos rfl, Bool.true_and] at e
          exact e
        rw [sp_X13_bandOf_L4]
        simp only [s_is, if_true, s_f0, Option.bind_some, s_r_16, en, if_false, s_r_17, e17, e', bI_z, nI_1, bndL]
        by_cases g : thrB S w (nI t) = true
        · rw [if_neg (by rw [g]; decide), if_pos g]
          exact ih (t + 1) f _ (by omega) (by omega)
        · have g' : thrB S w (nI t) = false := by cases e : thrB S w (nI t)
                                                  · rfl
                                                  · exact absurd e g
          rw [if_pos g', if_neg g]
          exact ih (t + 1) f _ (by omega) (by omega)
    rw [show sp_X13_bandOf_L4 G F (mS h b A L S) F b (nI w) 0 0 = _ from key (rndN S) 0 F 0 (by omega) (by omega)]
    rfl
theorem s_bands (hF : 100 ≤ F) (hr : rndOk S) (hn : nodeOk S) : sp_X13_bands G F (mS h b A L S) b = some (bandsV S) := by
  unfold sp_X13_bands bandsV
  have e0 : sp_X13_bandOf G F (mS h b A L S) b 0 = some (bandV S 0) := s_bandOf (w := 0) hF hr hn (by decide)
  have e1 : sp_X13_bandOf G F (mS h b A L S) b 1 = some (bandV S 1) := s_bandOf (w := 1) hF hr hn (by decide)
  simp only [s_is, if_true, s_f0, Option.bind_some, e0, e1]
def bandR (S : Nat → Int32) (p : Int32) : Int32 := if p = 2 then bandsV S else if p = 0 then bandV S 0 else if p = 1 then bandV S 1 else -1
theorem s_band {p : Int32} (hF : 100 ≤ F) (hr : rndOk S) (hn : nodeOk S) : sp_X13_band G F (mS h b A L S) b p = some (bandR S p) := by
  unfold sp_X13_band bandR
  have e0 : sp_X13_bandOf G F (mS h b A L S) b 0 = some (bandV S 0) := s_bandOf (w := 0) hF hr hn (by decide)
  have e1 : sp_X13_bandOf G F (mS h b A L S) b 1 = some (bandV S 1) := s_bandOf (w := 1) hF hr hn (by decide)
  simp only [i_isIn, Option.bind_some, b0]
  rcases (Classical.em (inB p 0 2)).symm with h1 | h1
  · have n2 : ¬ p = 2 := fun e => h1 (by rw [e]; decide)
    have n0 : ¬ p = 0 := fun e => h1 (by rw [e]; decide)
    have n1 : ¬ p = 1 := fun e => h1 (by rw [e]; decide)
    rw [if_pos h1, if_neg n2, if_neg n0, if_neg n1]
  · rw [if_neg (fun hh => hh h1)]
    obtain ⟨k, hk, rfl⟩ : ∃ k, k < 3 ∧ p = nI k := in_nI (m := 3) (by decide) h1
    simp only [s_is, if_true, s_f0, Option.bind_some, s_bands hF hr hn]
    match k, hk with
    | 0, _ =>
      rw [if_neg (show ¬ nI 0 = 2 by decide), if_neg (show ¬ nI 0 = 2 by decide), if_pos (show nI 0 = 0 from rfl)]
      rw [show nI 0 = (0 : Int32) from rfl, e0]
      rfl
    | 1, _ =>
      rw [if_neg (show ¬ nI 1 = 2 by decide), if_neg (show ¬ nI 1 = 2 by decide), if_neg (show ¬ nI 1 = 0 by decide), if_pos (show nI 1 = 1 from rfl)]
      rw [show nI 1 = (1 : Int32) from rfl, e1]
      rfl
    | 2, _ => rw [if_pos (show nI 2 = 2 from rfl), if_pos (show nI 2 = 2 from rfl)]
theorem s_f16 : gGi 11 (mS h b A L S) b 16 = some (A 9 5) := by
  unfold mS
  rw [mh_f16]
  rfl
theorem s_p16 (x : Int32) : gPv 11 (mS h b A L S) b 16 (.int x) = some (mS h b (mu A 9 5 x) L S) := by
  unfold mS
  rw [mh_p16]
  congr 2
  funext i j
  unfold mu va_up
  by_cases hi : i = 0
  · rw [if_neg (fun hh => by omega), if_pos hi, if_pos hi]
  · rw [if_neg hi, if_neg hi]
theorem mu_mu {x y : Int32} : mu (mu A 9 5 x) 9 5 y = mu A 9 5 y := by
  funext i j
  unfold mu
  split <;> rfl
theorem mu_v {x : Int32} : mu A 9 5 x 9 5 = x := if_pos ⟨rfl, rfl⟩
theorem s_bestOff {k : Nat} (hF : 100 ≤ F) (hr : rndOk S) (hn : nodeOk S) (hk : k < 5) : sp_X13_bestOffset G F (mS h b A L S) b (nI k) = some ((tuneV S k).1, mS h b (mu A 9 5 (tuneV S k).2) L S) := by
  have h60 := hr.2.1
  have key : ∀ (m v f : Nat) (x y z o : Int32), m + v = rndN S → m < f → ∃ o', sp_X13_bestOffset_L23 G F f (mS h b (mu A 9 5 y) L (upd S (nd k 0) o)) b (nI k) z x (nI v) = some ((tnL S k m v x y).1, mS h b (mu A 9 5 (tnL S k m v x y).2) L (upd S (nd k 0) o')) := by
    intro m
    induction m with
    | zero =>
      intro v f x y z o hi hf
      obtain ⟨f, rfl⟩ : ∃ z, f = z + 1 := ⟨f - 1, by omega⟩
      have e16 : upd S (nd k 0) o 16 = S 16 := upd_ne (by unfold nd; omega)
      refine ⟨o, ?_⟩
      rw [sp_X13_bestOffset_L23]
      simp only [s_is, if_true, s_f0, Option.bind_some, s_r_16, e16]
      rw [if_pos (by rw [hr.2.2]; exact nI_le (by omega) (by omega))]
      rfl
    | succ m ih =>
      intro v f x y z o hi hf
      obtain ⟨f, rfl⟩ : ∃ z, f = z + 1 := ⟨f - 1, by omega⟩
      have e16 : upd S (nd k 0) o 16 = S 16 := upd_ne (by unfold nd; omega)
      have en : ¬ S 16 ≤ nI v := by rw [hr.2.2]; exact nI_ge (by omega) (by omega)
      rw [sp_X13_bestOffset_L23]
      simp only [s_is, if_true, s_f0, Option.bind_some, s_r_16, e16, en, if_false, ix_nd, s_s (nd k 0) _ (by unfold nd; omega), upd_upd, s_bands hF (rndOk_upd hr) (nodeOk_upd hn), s_f16, s_p16, mu_mu, mu_v, nI_1, tnL]
      by_cases g : bandsV (upd S (nd k 0) (nI v)) ≤ y
      · rw [if_neg (Int32.not_lt.mpr g), if_pos g]
        exact ih (v + 1) f x y z (nI v) (by omega) (by omega)
      · rw [if_pos (Int32.not_le.mp g), if_neg g]
        exact ih (v + 1) f (nI v) _ z (nI v) (by omega) (by omega)
  obtain ⟨o', e⟩ := key (rndN S) 0 F 0 (-1) (S (nd k 0)) (S (nd k 0)) (by omega) (by omega)
  rw [upd_same rfl] at e
  have e' : sp_X13_bestOffset_L23 G F F (mS h b (mu A 9 5 (-1)) L S) b (nI k) (S (nd k 0)) 0 0 = _ := e
  unfold sp_X13_bestOffset tuneV
  simp only [s_is, if_true, s_f0, Option.bind_some, ix_nd, s_a (nd k 0) (by unfold nd; omega), s_p16, e', s_s (nd k 0) _ (by unfold nd; omega), upd_upd]
  rw [upd_same rfl]
def nbR (S : Nat → Int32) (c p1 p2 : Int32) : Int32 × Int32 :=
  if ¬ inB p1 0 (S 17 - 1) then (-1, c) else if ¬ inB p2 0 1 then (-1, c) else if ¬ c + 10 ≤ 12000 then (-4, c) else (if p2 = 0 then (tuneV S p1.toNatClampNeg).1 else (tuneV S p1.toNatClampNeg).2, c + 10)
theorem s_isNode {x : Int32} : sp_X13_isNode G F (mS h b A L S) b x = some (if inB x 0 (S 17 - 1) then 1 else 0) := by
  unfold sp_X13_isNode
  simp only [s_is, if_true, s_f0, Option.bind_some, s_r_17, i_isIn]
  rw [if_pos if01]
theorem s_nodeBest {p1 p2 : Int32} (hF : 100 ≤ F) (hr : rndOk S) (hn : nodeOk S) : ∃ A', sp_X13_nodeBest G F (mS h b A L S) b p1 p2 = some ((nbR S (A 9 1) p1 p2).1, mS h b A' L S) ∧ mQ A A' (nbR S (A 9 1) p1 p2).2 := by
  unfold sp_X13_nodeBest
  simp only [s_is, if_true, s_f0, Option.bind_some, s_isNode, i_isIn, b0]
  rcases (Classical.em (inB p1 0 (S 17 - 1))).symm with h1 | h1
  · have eR : nbR S (A 9 1) p1 p2 = (-1, A 9 1) := if_pos h1
    rw [eR, if_pos h1]
    exact ⟨A, rfl, mQ_refl⟩
  rw [if_neg (fun hh => hh h1)]
  rcases (Classical.em (inB p2 0 1)).symm with h2 | h2
  · have eR : nbR S (A 9 1) p1 p2 = (-1, A 9 1) := by unfold nbR; rw [if_neg (fun hh => hh h1), if_pos h2]
    rw [eR, if_pos h2]
    exact ⟨A, rfl, mQ_refl⟩
  rw [if_neg (fun hh => hh h2)]
  simp only [s_counts, b0, Option.bind_some]
  have hcc := mQ_of (mR_cnt (A := A) (n := 10))
  have h1' := h1
  rw [hn.2] at h1'
  obtain ⟨k, hk, rfl⟩ : ∃ k, k < nodN S ∧ p1 = nI k := in_nI (by have := hn.1; omega) h1'
  have h5 := hn.1
  by_cases h3 : A 9 1 + 10 ≤ 12000
  · have eR : nbR S (A 9 1) (nI k) p2 = (if p2 = 0 then (tuneV S k).1 else (tuneV S k).2, A 9 1 + 10) := by
      unfold nbR
      rw [if_neg (fun hh => hh h1), if_neg (fun hh => hh h2), if_neg (fun hh => hh h3), nI_c (by omega)]
    rw [cnt_y h3] at hcc
    rw [eR, if_neg (fun hh => hh h3)]
    simp only [s_is, if_true, s_f0, Option.bind_some, s_bestOff hF hr hn (show k < 5 by omega), s_f16, mu_v]
    refine ⟨mu (cntA A 10) 9 5 (tuneV S k).2, ?_, ?_⟩
    · by_cases h4 : p2 = 0
      · rw [if_pos h4, if_pos h4]
      · rw [if_neg h4, if_neg h4]
    · have := mQ_5 (A := cntA A 10) (x := (tuneV S k).2)
      rw [mQ_91 hcc] at this
      exact mQ_trans hcc this
  · have eR : nbR S (A 9 1) (nI k) p2 = (-4, A 9 1) := by
      unfold nbR
      rw [if_neg (fun hh => hh h1), if_neg (fun hh => hh h2), if_pos h3]
    rw [cnt_n h3] at hcc
    rw [eR, if_pos h3]
    exact ⟨cntA A 10, rfl, hcc⟩
end R14
