/-! s1: printed by wip/pure/mkA2.py: the start gives gK -/
set_option maxRecDepth 100000
abbrev nw1 : List Cond := flatC (Jvm.Cond.and given_1 narrow_1)
theorem nw_at {args : Array Value} {s : State} (h : (Jvm.Cond.and given_1 narrow_1).before args s = true) {w : Cond} (i : Nat) (hi : nw1[i]? = some w) : w.before args s = true := flat_of_before _ h w (List.mem_of_getElem? hi)
theorem st_cl {s : State} {args : Array Value} (hts : ∀ w ∈ lw_all, w.before args s = true) : ∃ (dC : Nat → ClassId) (dI : Nat → Nat → Nat), ∀ (k : Nat) (q : vw_C), gCl[k]? = some q → u_Kn s q.1 q.2.1 q.2.2 (dC k) (dI k) := by
  have h : ∀ k : Nat, ∃ x : ClassId × (Nat → Nat), ∀ q : vw_C, gCl[k]? = some q → u_Kn s q.1 q.2.1 q.2.2 x.1 x.2 := by
    intro k
    match k with
    | 0 => obtain ⟨c, f, hk⟩ := u_known (C := RX0) (T := TX0) (N := 10) (n := 10) hts in_X0 (hts _ q133); exact ⟨(c, f), fun q hq => by cases hq; exact hk⟩
    | 1 => obtain ⟨c, f, hk⟩ := u_known (C := RX1) (T := TX1) (N := 30) (n := 30) hts in_X1 (hts _ q141); exact ⟨(c, f), fun q hq => by cases hq; exact hk⟩
    | 2 => obtain ⟨c, f, hk⟩ := u_known (C := RX2) (T := TX2) (N := 12) (n := 12) hts in_X2 (hts _ q154); exact ⟨(c, f), fun q hq => by cases hq; exact hk⟩
    | 3 => obtain ⟨c, f, hk⟩ := u_known (C := RX4) (T := TX4) (N := 3) (n := 3) hts in_X4 (hts _ q572); exact ⟨(c, f), fun q hq => by cases hq; exact hk⟩
    | 4 => obtain ⟨c, f, hk⟩ := u_known (C := RX5) (T := TX5) (N := 3) (n := 3) hts in_X5 (hts _ q593); exact ⟨(c, f), fun q hq => by cases hq; exact hk⟩
    | 5 => obtain ⟨c, f, hk⟩ := u_known (C := RX6) (T := TX6) (N := 1) (n := 1) hts in_X6 (hts _ q611); exact ⟨(c, f), fun q hq => by cases hq; exact hk⟩
    | 6 => obtain ⟨c, f, hk⟩ := u_known (C := RX8) (T := TX8) (N := 1) (n := 1) hts in_X8 (hts _ q776); exact ⟨(c, f), fun q hq => by cases hq; exact hk⟩
    | 7 => obtain ⟨c, f, hk⟩ := u_known (C := RX9) (T := TX9) (N := 1) (n := 1) hts in_X9 (hts _ q771); exact ⟨(c, f), fun q hq => by cases hq; exact hk⟩
    | 8 => obtain ⟨c, f, hk⟩ := u_known (C := RX10) (T := TX10) (N := 1) (n := 1) hts in_X10 (hts _ q744); exact ⟨(c, f), fun q hq => by cases hq; exact hk⟩
    | 9 => obtain ⟨c, f, hk⟩ := u_known (C := RX11) (T := TX11) (N := 1) (n := 1) hts in_X11 (hts _ q763); exact ⟨(c, f), fun q hq => by cases hq; exact hk⟩
    | 10 => obtain ⟨c, f, hk⟩ := u_known (C := RX12) (T := TX12) (N := 1) (n := 1) hts in_X12 (hts _ q782); exact ⟨(c, f), fun q hq => by cases hq; exact hk⟩
    | 11 => obtain ⟨c, f, hk⟩ := u_known (C := RX13) (T := TX13) (N := 17) (n := 17) hts in_X13 (hts _ q1682); exact ⟨(c, f), fun q hq => by cases hq; exact hk⟩
    | 12 => obtain ⟨c, f, hk⟩ := u_known (C := RX14) (T := TX14) (N := 4) (n := 4) hts in_X14 (hts _ q963); exact ⟨(c, f), fun q hq => by cases hq; exact hk⟩
    | 13 => obtain ⟨c, f, hk⟩ := u_known (C := RX15) (T := TX15) (N := 7) (n := 7) hts in_X15 (hts _ q1000); exact ⟨(c, f), fun q hq => by cases hq; exact hk⟩
    | 14 => obtain ⟨c, f, hk⟩ := u_known (C := RJ1) (T := TJ1) (N := 3) (n := 3) hts in_J1 (hts _ q165); exact ⟨(c, f), fun q hq => by cases hq; exact hk⟩
    | k + 15 => exact ⟨(0, fun _ => 0), fun q hq => by simp [gCl] at hq⟩
  obtain ⟨f, hf⟩ := Classical.axiomOfChoice h
  exact ⟨fun k => (f k).1, fun k => (f k).2, hf⟩
theorem st_ar {s : State} {args : Array Value} (hts : ∀ w ∈ lw_tbl, w.before args s = true) : ∃ aC : Nat → ClassId, ∀ t : Nat, t < 11 → ArrOfT s (aC t) (gTy t) ∧ va_RA s (aC t) (gTy t) := by
  have h : ∀ t : Nat, ∃ c : ClassId, t < 11 → ArrOfT s c (gTy t) ∧ va_RA s c (gTy t) := by
    intro t
    match t with
    | 0 => obtain ⟨c, k, comp, h1, h2, h3⟩ := Cond.arrayClass_spec (hts _ (lw_all_tbl q255)); exact ⟨c, fun _ => ⟨fun N z => ⟨(fun k h => by cases h), k, h2, comp, h3⟩, h1⟩⟩
    | 1 => obtain ⟨c, k, comp, h1, h2, h3⟩ := Cond.arrayClass_spec (hts _ (lw_all_tbl q506)); exact ⟨c, fun _ => ⟨fun N z => ⟨(fun k h => by cases h), k, h2, comp, h3⟩, h1⟩⟩
    | 2 => obtain ⟨c, k, comp, h1, h2, h3⟩ := Cond.arrayClass_spec (hts _ (lw_all_tbl q256)); exact ⟨c, fun _ => ⟨fun N z => ⟨(fun k h => by cases h), k, h2, comp, h3⟩, h1⟩⟩
    | 3 => obtain ⟨c, k, comp, h1, h2, h3⟩ := Cond.arrayClass_spec (hts _ (lw_all_tbl q879)); exact ⟨c, fun _ => ⟨fun N z => ⟨(fun k h => by cases h), k, h2, comp, h3⟩, h1⟩⟩
    | 4 => obtain ⟨c, k, comp, h1, h2, h3⟩ := Cond.arrayClass_spec (hts _ (lw_all_tbl q1632)); exact ⟨c, fun _ => ⟨fun N z => ⟨(fun k h => by cases h), k, h2, comp, h3⟩, h1⟩⟩
    | 5 => obtain ⟨comp, c, k, h1, -, h2, h3, h4⟩ := Cond.arrayOver_spec (hts _ q147); exact ⟨c, fun _ => ⟨fun N z => ⟨(fun k h => by cases h), k, h2, comp, h3⟩, k, comp, h2, h3, h1, h4⟩⟩
    | 6 => obtain ⟨comp, c, k, h1, -, h2, h3, h4⟩ := Cond.arrayOver_spec (hts _ q149); exact ⟨c, fun _ => ⟨fun N z => ⟨(fun k h => by cases h), k, h2, comp, h3⟩, k, comp, h2, h3, h1, h4⟩⟩
    | 7 => obtain ⟨comp, c, k, h1, -, h2, h3, h4⟩ := Cond.arrayOver_spec (hts _ q151); exact ⟨c, fun _ => ⟨fun N z => ⟨(fun k h => by cases h), k, h2, comp, h3⟩, k, comp, h2, h3, h1, h4⟩⟩
    | 8 => obtain ⟨comp, c, k, h1, -, h2, h3, h4⟩ := Cond.arrayOver_spec (hts _ q153); exact ⟨c, fun _ => ⟨fun N z => ⟨(fun k h => by cases h), k, h2, comp, h3⟩, k, comp, h2, h3, h1, h4⟩⟩
    | 9 => obtain ⟨comp, c, k, h1, -, h2, h3, h4⟩ := Cond.arrayOver_spec (hts _ q742); exact ⟨c, fun _ => ⟨fun N z => ⟨(fun k h => by cases h), k, h2, comp, h3⟩, k, comp, h2, h3, h1, h4⟩⟩
    | 10 => obtain ⟨comp, c, k, h1, -, h2, h3, h4⟩ := Cond.arrayOver_spec (hts _ q781); exact ⟨c, fun _ => ⟨fun N z => ⟨(fun k h => by cases h), k, h2, comp, h3⟩, k, comp, h2, h3, h1, h4⟩⟩
    | t + 11 => exact ⟨0, fun h => absurd h (by omega)⟩
  obtain ⟨f, hf⟩ := Classical.axiomOfChoice h
  exact ⟨f, hf⟩
theorem st_nw {s : State} {args : Array Value} (hts : ∀ w ∈ lw_tbl, w.before args s = true) : gNw s := by
  intro w hw hs
  have h1 := hts w hw
  unfold gSel at hs
  split at hs
  · exact va_Nw.of rfl h1
  · exact va_Nw.of rfl h1
  · exact va_Nw.of rfl h1
  · exact va_Nw.of rfl h1
  · exact va_AO.of h1
  · cases hs
theorem st_ec {s : State} {args : Array Value} {A : Nat → Prop} (hts : ∀ w ∈ lw_tbl, w.before args s = true) (hg : (Jvm.Cond.and given_1 narrow_1).before args s = true) (hA : ∀ a : Nat, a < s.heap.size → ¬ A a) (i : Nat) (hi : i < 4) : ∃ a : Nat, va_Ec "SafeClears$Kind" (gKc i) "LSafeClears$Kind;" [gKn i] (gKF i) (fun _ => a) A s s.heap ∧ (Term.static "SafeClears$Kind" (gKn i) "LSafeClears$Kind;").eval args s none [] s = some (.ref a) := by
  match i, hi with
  | 0, _ =>
    have hex : (Cond.exactly (.static "SafeClears$Kind" "CARS" "LSafeClears$Kind;") "SafeClears$Kind$1").before args s = true := nw_at hg 4 rfl
    obtain ⟨ad, h⟩ := va_Ecof (args := args) (s := s) (SC := "SafeClears$Kind") (E := gKc 0) (d := "LSafeClears$Kind;") (nm := [gKn 0]) (F := gKF 0) (A := A) (fun j hj => by rw [show j = 0 by simp at hj; exact hj]; exact hts _ q159) (hts _ (lw_all_tbl q96)) (fun j hj => by rw [show j = 0 by simp at hj; exact hj]; exact hex)
      (fun q hq j hj => by
        rw [show j = 0 by simp at hj; exact hj]
        simp only [gKF, List.mem_cons, List.not_mem_nil, or_false] at hq
        rcases hq with rfl | rfl | rfl
        · exact nw_at hg 6 rfl
        · exact nw_at hg 7 rfl
        · exact nw_at hg 5 rfl) (fun a b ha hb hab => absurd (show a = b by simp at ha hb; omega) hab) hA
    obtain ⟨a, c, cell, k, q1, -⟩ := Cond.exactly_spec hex
    have he : ad 0 = a := by
      obtain ⟨cf, kf, fi, f, a1, cell1, z1, z2, z3, z4, z5, z6, z7, z8⟩ := (h.1 0 Nat.zero_lt_one).1
      have e2 : (Term.static "SafeClears$Kind" (gKn 0) "LSafeClears$Kind;").eval args s none [] s = some (.ref (ad 0)) := by
        have z1' : s.fieldFound? "SafeClears$Kind" (gKn 0) "LSafeClears$Kind;" = some (cf, kf, fi, f) := z1
        simp [Term.eval, State.fieldNamed?, z1', z2, z4, z5, z6, z7]
      exact Value.ref.inj (Option.some.inj (e2.symm.trans q1))
    refine ⟨a, ⟨fun j hj => ?_, fun x y hx hy _ => by simp at hx hy; omega⟩, q1⟩
    have hj0 : j = 0 := by simp at hj; exact hj
    subst hj0
    have h0 := h.1 0 Nat.zero_lt_one
    rw [he] at h0
    exact h0
  | 1, _ =>
    have hex : (Cond.exactly (.static "SafeClears$Kind" "WALK" "LSafeClears$Kind;") "SafeClears$Kind$2").before args s = true := nw_at hg 221 rfl
    obtain ⟨ad, h⟩ := va_Ecof (args := args) (s := s) (SC := "SafeClears$Kind") (E := gKc 1) (d := "LSafeClears$Kind;") (nm := [gKn 1]) (F := gKF 1) (A := A) (fun j hj => by rw [show j = 0 by simp at hj; exact hj]; exact hts _ q842) (hts _ (lw_all_tbl q96)) (fun j hj => by rw [show j = 0 by simp at hj; exact hj]; exact hex)
      (fun q hq j hj => by
        rw [show j = 0 by simp at hj; exact hj]
        simp only [gKF, List.mem_cons, List.not_mem_nil, or_false] at hq
        rcases hq with rfl | rfl | rfl
        · exact nw_at hg 223 rfl
        · exact nw_at hg 224 rfl
        · exact nw_at hg 222 rfl) (fun a b ha hb hab => absurd (show a = b by simp at ha hb; omega) hab) hA
    obtain ⟨a, c, cell, k, q1, -⟩ := Cond.exactly_spec hex
    have he : ad 0 = a := by
      obtain ⟨cf, kf, fi, f, a1, cell1, z1, z2, z3, z4, z5, z6, z7, z8⟩ := (h.1 0 Nat.zero_lt_one).1
      have e2 : (Term.static "SafeClears$Kind" (gKn 1) "LSafeClears$Kind;").eval args s none [] s = some (.ref (ad 0)) := by
        have z1' : s.fieldFound? "SafeClears$Kind" (gKn 1) "LSafeClears$Kind;" = some (cf, kf, fi, f) := z1
        simp [Term.eval, State.fieldNamed?, z1', z2, z4, z5, z6, z7]
      exact Value.ref.inj (Option.some.inj (e2.symm.trans q1))
    refine ⟨a, ⟨fun j hj => ?_, fun x y hx hy _ => by simp at hx hy; omega⟩, q1⟩
    have hj0 : j = 0 := by simp at hj; exact hj
    subst hj0
    have h0 := h.1 0 Nat.zero_lt_one
    rw [he] at h0
    exact h0
  | 2, _ =>
    have hex : (Cond.exactly (.static "SafeClears$Kind" "TRAM" "LSafeClears$Kind;") "SafeClears$Kind$3").before args s = true := nw_at hg 226 rfl
    obtain ⟨ad, h⟩ := va_Ecof (args := args) (s := s) (SC := "SafeClears$Kind") (E := gKc 2) (d := "LSafeClears$Kind;") (nm := [gKn 2]) (F := gKF 2) (A := A) (fun j hj => by rw [show j = 0 by simp at hj; exact hj]; exact hts _ q844) (hts _ (lw_all_tbl q96)) (fun j hj => by rw [show j = 0 by simp at hj; exact hj]; exact hex)
      (fun q hq j hj => by
        rw [show j = 0 by simp at hj; exact hj]
        simp only [gKF, List.mem_cons, List.not_mem_nil, or_false] at hq
        rcases hq with rfl | rfl | rfl
        · exact nw_at hg 228 rfl
        · exact nw_at hg 229 rfl
        · exact nw_at hg 227 rfl) (fun a b ha hb hab => absurd (show a = b by simp at ha hb; omega) hab) hA
    obtain ⟨a, c, cell, k, q1, -⟩ := Cond.exactly_spec hex
    have he : ad 0 = a := by
      obtain ⟨cf, kf, fi, f, a1, cell1, z1, z2, z3, z4, z5, z6, z7, z8⟩ := (h.1 0 Nat.zero_lt_one).1
      have e2 : (Term.static "SafeClears$Kind" (gKn 2) "LSafeClears$Kind;").eval args s none [] s = some (.ref (ad 0)) := by
        have z1' : s.fieldFound? "SafeClears$Kind" (gKn 2) "LSafeClears$Kind;" = some (cf, kf, fi, f) := z1
        simp [Term.eval, State.fieldNamed?, z1', z2, z4, z5, z6, z7]
      exact Value.ref.inj (Option.some.inj (e2.symm.trans q1))
    refine ⟨a, ⟨fun j hj => ?_, fun x y hx hy _ => by simp at hx hy; omega⟩, q1⟩
    have hj0 : j = 0 := by simp at hj; exact hj
    subst hj0
    have h0 := h.1 0 Nat.zero_lt_one
    rw [he] at h0
    exact h0
  | 3, _ =>
    have hex : (Cond.exactly (.static "SafeClears$Kind" "BIKES" "LSafeClears$Kind;") "SafeClears$Kind$4").before args s = true := nw_at hg 232 rfl
    obtain ⟨ad, h⟩ := va_Ecof (args := args) (s := s) (SC := "SafeClears$Kind") (E := gKc 3) (d := "LSafeClears$Kind;") (nm := [gKn 3]) (F := gKF 3) (A := A) (fun j hj => by rw [show j = 0 by simp at hj; exact hj]; exact hts _ q846) (hts _ (lw_all_tbl q96)) (fun j hj => by rw [show j = 0 by simp at hj; exact hj]; exact hex)
      (fun q hq j hj => by
        rw [show j = 0 by simp at hj; exact hj]
        simp only [gKF, List.mem_cons, List.not_mem_nil, or_false] at hq
        rcases hq with rfl | rfl | rfl
        · exact nw_at hg 234 rfl
        · exact nw_at hg 235 rfl
        · exact nw_at hg 233 rfl) (fun a b ha hb hab => absurd (show a = b by simp at ha hb; omega) hab) hA
    obtain ⟨a, c, cell, k, q1, -⟩ := Cond.exactly_spec hex
    have he : ad 0 = a := by
      obtain ⟨cf, kf, fi, f, a1, cell1, z1, z2, z3, z4, z5, z6, z7, z8⟩ := (h.1 0 Nat.zero_lt_one).1
      have e2 : (Term.static "SafeClears$Kind" (gKn 3) "LSafeClears$Kind;").eval args s none [] s = some (.ref (ad 0)) := by
        have z1' : s.fieldFound? "SafeClears$Kind" (gKn 3) "LSafeClears$Kind;" = some (cf, kf, fi, f) := z1
        simp [Term.eval, State.fieldNamed?, z1', z2, z4, z5, z6, z7]
      exact Value.ref.inj (Option.some.inj (e2.symm.trans q1))
    refine ⟨a, ⟨fun j hj => ?_, fun x y hx hy _ => by simp at hx hy; omega⟩, q1⟩
    have hj0 : j = 0 := by simp at hj; exact hj
    subst hj0
    have h0 := h.1 0 Nat.zero_lt_one
    rw [he] at h0
    exact h0
theorem st_KIND_OF {s : State} {args : Array Value} {A : Nat → Prop} (hts : ∀ w ∈ lw_tbl, w.before args s = true) (hg : (Jvm.Cond.and given_1 narrow_1).before args s = true) (hA : ∀ a : Nat, a < s.heap.size → ¬ A a) : ∃ t : Nat, va_Z "SafeClears" "KIND_OF" "[I" (.ref t) A s s.heap ∧ va_T .int t 128 (fun j => .int (gKo j)) A s s.heap := by
  have hp : ∀ j : Nat, j < 128 → nw1[243 + j]? = some (Cond.eq (.elem (.static "SafeClears" "KIND_OF" "[I") (.int (Int32.ofNat j))) (.int (gKo j))) := by decide +kernel
  obtain ⟨t, h1, h2⟩ := va_Tof (args := args) (s := s) (tm := .static "SafeClears" "KIND_OF" "[I") (ty := .int) (N := 128) (f := fun j => .int (gKo j)) (A := A) (by decide) (nw_at hg 241 rfl) (va_eqt (nw_at hg 242 rfl)) (fun j hj => va_eqt (nw_at hg (243 + j) (hp j hj))) hA
  exact ⟨t, va_Zref (hts _ q998) (hts _ (lw_all_tbl q92)) h1 hA, h2⟩
theorem st_AMBER {s : State} {args : Array Value} {A : Nat → Prop} (hts : ∀ w ∈ lw_tbl, w.before args s = true) (hg : (Jvm.Cond.and given_1 narrow_1).before args s = true) (hA : ∀ a : Nat, a < s.heap.size → ¬ A a) : ∃ t : Nat, va_Z "SafeClearsModel" "AMBER" "[I" (.ref t) A s s.heap ∧ va_T .int t 4 (fun j => .int (gAmb j)) A s s.heap := by
  have hp : ∀ j : Nat, j < 4 → nw1[374 + j]? = some (Cond.eq (.elem (.static "SafeClearsModel" "AMBER" "[I") (.int (Int32.ofNat j))) (.int (gAmb j))) := by decide +kernel
  obtain ⟨t, h1, h2⟩ := va_Tof (args := args) (s := s) (tm := .static "SafeClearsModel" "AMBER" "[I") (ty := .int) (N := 4) (f := fun j => .int (gAmb j)) (A := A) (by decide) (nw_at hg 372 rfl) (va_eqt (nw_at hg 373 rfl)) (fun j hj => va_eqt (nw_at hg (374 + j) (hp j hj))) hA
  exact ⟨t, va_Zref (hts _ q1708) (hts _ (lw_all_tbl q123)) h1 hA, h2⟩
theorem st_PACE {s : State} {args : Array Value} {A : Nat → Prop} (hts : ∀ w ∈ lw_tbl, w.before args s = true) (hg : (Jvm.Cond.and given_1 narrow_1).before args s = true) (hA : ∀ a : Nat, a < s.heap.size → ¬ A a) : ∃ t : Nat, va_Z "SafeClearsModel" "PACE" "[I" (.ref t) A s s.heap ∧ va_T .int t 4 (fun j => .int (gPac j)) A s s.heap := by
  have hp : ∀ j : Nat, j < 4 → nw1[381 + j]? = some (Cond.eq (.elem (.static "SafeClearsModel" "PACE" "[I") (.int (Int32.ofNat j))) (.int (gPac j))) := by decide +kernel
  obtain ⟨t, h1, h2⟩ := va_Tof (args := args) (s := s) (tm := .static "SafeClearsModel" "PACE" "[I") (ty := .int) (N := 4) (f := fun j => .int (gPac j)) (A := A) (by decide) (nw_at hg 379 rfl) (va_eqt (nw_at hg 380 rfl)) (fun j hj => va_eqt (nw_at hg (381 + j) (hp j hj))) hA
  exact ⟨t, va_Zref (hts _ q1714) (hts _ (lw_all_tbl q123)) h1 hA, h2⟩
theorem st_ldD {s : State} {args : Array Value} {C : String} {x y : MethodName} (hx : x.cls ≠ "java/lang/invoke/MethodHandle" ∧ x.cls ≠ "java/lang/invoke/VarHandle") (hd : (Cond.declares x).before args s = true) (h : (Cond.landsInDefault C x y).before args s = true) : gLd C x y s := by
  obtain ⟨c, r, m, rm, h1, h2, h3, h4, h5, -⟩ := Cond.landsInDefault_spec h
  obtain ⟨r0, r9, hn0, hrm0, -⟩ := Cond.declares_spec hd
  have e := (State.methodFound?_of_named hn0 hx).symm.trans h2
  have := Option.some.inj e
  subst this
  exact ⟨c, r0, m, h1, hn0, h3, h5⟩
theorem st_ldS {s : State} {args : Array Value} {C : String} {x y : MethodName} (hx : x.cls ≠ "java/lang/invoke/MethodHandle" ∧ x.cls ≠ "java/lang/invoke/VarHandle") (hd : (Cond.declares x).before args s = true) (h : (Cond.selects C x y).before args s = true) : gLd C x y s := by
  obtain ⟨c2, r2, m2, q1, q2, q3, q4, -⟩ := Cond.selects_spec h
  obtain ⟨r0, r9, hn0, hrm0, -⟩ := Cond.declares_spec hd
  have e := (State.methodFound?_of_named hn0 hx).symm.trans q2
  have := Option.some.inj e
  subst this
  exact ⟨c2, r0, m2, q1, hn0, q3, q4⟩
theorem st_fa {s : State} {args : Array Value} (hts : ∀ w ∈ lw_tbl, w.before args s = true) (hg : (Jvm.Cond.and given_1 narrow_1).before args s = true) : gFa s := by
  refine ⟨⟨va_Fw.of (hts _ q1399) (hts _ q1398) (hts _ q1403) (hts _ q1401) (hts _ q1382), st_ldS (by decide) (hts _ q1399) (hts _ (lw_all_tbl q1400))⟩,
    ⟨va_Fw.of (hts _ q1390) (hts _ q1389) (hts _ q1394) (hts _ q1392) (hts _ q1382), st_ldS (by decide) (hts _ q1390) (hts _ (lw_all_tbl q1391))⟩,
    ⟨va_Fw.of (hts _ q1381) (hts _ q1380) (hts _ q1385) (hts _ q1383) (hts _ q1382), st_ldD (by decide) (hts _ q1381) (nw_at hg 1122 rfl)⟩,
    ⟨va_Fw.of (hts _ q1443) (hts _ q1442) (hts _ q1446) (hts _ q1444) (hts _ q1382), st_ldD (by decide) (hts _ q1443) (nw_at hg 1123 rfl)⟩, ?_, ?_⟩
  · intro t t' ht ht' hn
    rcases (show t = 0 ∨ t = 1 ∨ t = 2 ∨ t = 3 ∨ t = 4 by omega) with rfl | rfl | rfl | rfl | rfl <;> rcases (show t' = 0 ∨ t' = 1 ∨ t' = 2 ∨ t' = 3 ∨ t' = 4 by omega) with rfl | rfl | rfl | rfl | rfl
    · exact absurd rfl hn
    · exact va_Nc.of (nw_at hg 699 rfl)
    · exact va_Nc.of (nw_at hg 662 rfl)
    · exact va_Nc.of (nw_at hg 858 rfl)
    · exact va_Nc.of (nw_at hg 784 rfl)
    · exact va_Nc.of (nw_at hg 822 rfl)
    · exact absurd rfl hn
    · exact va_Nc.of (nw_at hg 663 rfl)
    · exact va_Nc.of (nw_at hg 860 rfl)
    · exact va_Nc.of (nw_at hg 786 rfl)
    · exact va_Nc.of (nw_at hg 821 rfl)
    · exact va_Nc.of (nw_at hg 700 rfl)
    · exact absurd rfl hn
    · exact va_Nc.of (nw_at hg 859 rfl)
    · exact va_Nc.of (nw_at hg 785 rfl)
    · exact va_Nc.of (nw_at hg 825 rfl)
    · exact va_Nc.of (nw_at hg 703 rfl)
    · exact va_Nc.of (nw_at hg 666 rfl)
    · exact absurd rfl hn
    · exact va_Nc.of (nw_at hg 789 rfl)
    · exact va_Nc.of (nw_at hg 826 rfl)
    · exact va_Nc.of (nw_at hg 704 rfl)
    · exact va_Nc.of (nw_at hg 667 rfl)
    · exact va_Nc.of (nw_at hg 863 rfl)
    · exact absurd rfl hn
  · intro q hq
    simp only [gNcP, List.mem_cons, List.not_mem_nil, or_false] at hq
    rcases hq with rfl | rfl | rfl | rfl | rfl | rfl | rfl | rfl | rfl
    · exact va_Nc.of (nw_at hg 545 rfl)
    · exact va_Nc.of (nw_at hg 568 rfl)
    · exact va_Nc.of (nw_at hg 569 rfl)
    · exact va_Nc.of (nw_at hg 592 rfl)
    · exact va_Nc.of (nw_at hg 593 rfl)
    · exact va_Nc.of (nw_at hg 594 rfl)
    · exact va_Nc.of (nw_at hg 617 rfl)
    · exact va_Nc.of (nw_at hg 618 rfl)
    · exact va_Nc.of (nw_at hg 619 rfl)
theorem st_k {s : State} {b : Nat} (hts : ∀ w ∈ lw_tbl, w.before #[Value.ref b] s = true) (hg : (Jvm.Cond.and given_1 narrow_1).before #[Value.ref b] s = true) (hmod : modulesRight_1 s = true) : ∃ G : gG, gB G = s.heap.size ∧ gK G s := by
  have hA : ∀ a : Nat, a < s.heap.size → ¬ (fun q : Nat => s.heap.size ≤ q) a := fun a h h2 => absurd h (Nat.not_lt.mpr h2)
  obtain ⟨dC, dI, hc⟩ := st_cl (fun w h => hts w (lw_all_tbl h))
  obtain ⟨aC, ha⟩ := st_ar hts
  obtain ⟨k0, e0, f0⟩ := st_ec hts hg hA 0 (by decide)
  obtain ⟨k1, e1, f1⟩ := st_ec hts hg hA 1 (by decide)
  obtain ⟨k2, e2, f2⟩ := st_ec hts hg hA 2 (by decide)
  obtain ⟨k3, e3, f3⟩ := st_ec hts hg hA 3 (by decide)
  obtain ⟨t4, z4, y4⟩ := st_KIND_OF hts hg hA
  obtain ⟨t5, z5, y5⟩ := st_AMBER hts hg hA
  obtain ⟨t6, z6, y6⟩ := st_PACE hts hg hA
  have n01 := va_neR (nw_at hg 225 rfl) f0 f1
  have n02 := va_neR (nw_at hg 230 rfl) f0 f2
  have n03 := va_neR (nw_at hg 236 rfl) f0 f3
  have n12 := va_neR (nw_at hg 231 rfl) f1 f2
  have n13 := va_neR (nw_at hg 237 rfl) f1 f3
  have n23 := va_neR (nw_at hg 238 rfl) f2 f3
  refine ⟨((dC, dI), aC, s.heap.size, fun j => match j with | 0 => k0 | 1 => k1 | 2 => k2 | 3 => k3 | 4 => t4 | 5 => t5 | _ => t6), rfl, ⟨hc, fun k q hk => ?_⟩, st_nw hts, ?_⟩
  · have hl : k < 11 := by
      have := (List.getElem?_eq_some_iff.mp hk).1
      simpa [gTys] using this
    rw [gTys_at hl] at hk
    cases hk
    exact ha k hl
  · refine ⟨fun i hi => ?_, fun i j hi hj h => ?_, z4, y4, z5, y5, z6, y6, va_Zof (hts _ q902) (hts _ (lw_all_tbl q97)) (va_eqt (nw_at hg 239 rfl)) hA, st_fa hts hg, vx_Zqof (hts _ q197) (hts _ (lw_all_tbl q98)) (nw_at hg 8 rfl) hA, vx_Zqof (hts _ q199) (hts _ (lw_all_tbl q98)) (nw_at hg 9 rfl) hA, hmod, va_Nc.of (nw_at hg 509 rfl)⟩
    · rcases (show i = 0 ∨ i = 1 ∨ i = 2 ∨ i = 3 by omega) with rfl | rfl | rfl | rfl
      · exact e0
      · exact e1
      · exact e2
      · exact e3
    · rcases (show i = 0 ∨ i = 1 ∨ i = 2 ∨ i = 3 by omega) with rfl | rfl | rfl | rfl <;> rcases (show j = 0 ∨ j = 1 ∨ j = 2 ∨ j = 3 by omega) with rfl | rfl | rfl | rfl <;> first | rfl | exact absurd h n01 | exact absurd h n02 | exact absurd h n03 | exact absurd h n12 | exact absurd h n13 | exact absurd h n23 | exact absurd h.symm n01 | exact absurd h.symm n02 | exact absurd h.symm n03 | exact absurd h.symm n12 | exact absurd h.symm n13 | exact absurd h.symm n23
