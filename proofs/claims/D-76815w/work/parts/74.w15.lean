/-! w15: a World and one of its Signals; what a row tells; a new Signal -/
set_option maxRecDepth 100000
def R4 (W : Nat → Nat → Int32) (k : Nat) (f c g t : Nat → Int32) : Nat → Nat → Int32 := fun n => if n = 9 + 6 * k then f else if n = 11 + 6 * k then c else if n = 12 + 6 * k then g else if n = 14 + 6 * k then t else W n
theorem R4_9 {W : Nat → Nat → Int32} {k : Nat} {f c g t : Nat → Int32} : R4 W k f c g t (9 + 6 * k) = f := if_pos rfl
theorem R4_11 {W : Nat → Nat → Int32} {k : Nat} {f c g t : Nat → Int32} : R4 W k f c g t (11 + 6 * k) = c := by
  unfold R4
  rw [if_neg (by omega), if_pos rfl]
theorem R4_12 {W : Nat → Nat → Int32} {k : Nat} {f c g t : Nat → Int32} : R4 W k f c g t (12 + 6 * k) = g := by
  unfold R4
  rw [if_neg (by omega), if_neg (by omega), if_pos rfl]
theorem R4_14 {W : Nat → Nat → Int32} {k : Nat} {f c g t : Nat → Int32} : R4 W k f c g t (14 + 6 * k) = t := by
  unfold R4
  rw [if_neg (by omega), if_neg (by omega), if_neg (by omega), if_pos rfl]
theorem R4_ne {W : Nat → Nat → Int32} {k n : Nat} {f c g t : Nat → Int32} (h1 : n ≠ 9 + 6 * k) (h2 : n ≠ 11 + 6 * k) (h3 : n ≠ 12 + 6 * k) (h4 : n ≠ 14 + 6 * k) : R4 W k f c g t n = W n := by
  unfold R4
  rw [if_neg h1, if_neg h2, if_neg h3, if_neg h4]
theorem R4_self {W : Nat → Nat → Int32} {k : Nat} : R4 W k (W (9 + 6 * k)) (W (11 + 6 * k)) (W (12 + 6 * k)) (W (14 + 6 * k)) = W := by
  funext n
  unfold R4
  split
  · rename_i e; rw [e]
  · split
    · rename_i e; rw [e]
    · split
      · rename_i e; rw [e]
      · split
        · rename_i e; rw [e]
        · rfl
theorem vaq_same {Q : Nat → Nat → Int64} {q : Nat} : va_up Q q (Q q) = Q := by
  funext i
  unfold va_up
  split
  · rename_i e; rw [e]
  · rfl
theorem sgH_wR {G : gG} {h : gH} {b k : Nat} {W : Nat → Nat → Int32} {Q : Nat → Nat → Int64} {f c g t : Nat → Int32} {q : Nat → Int64} (hk : k < 8) : sgH G (wR G h b W Q) (sg b k) f c g q t = wR G h b (R4 W k f c g t) (va_up Q (13 + 6 * k) q) := by
  have a2 : sgc b k = sg b k + 2 := by unfold sgc sg; omega
  have a3 : sgw b k = sg b k + 3 := by unfold sgw sg; omega
  have a4 : sgl b k = sg b k + 4 := by unfold sgl sg; omega
  have a5 : sgt b k = sg b k + 5 := by unfold sgt sg; omega
  have eq : va_up Q (13 + 6 * k) q (13 + 6 * k) = q := if_pos rfl
  funext x
  by_cases h0 : x = sg b k
  · subst h0
    rw [zc_0, wc_sg hk, R4_9, a2, a3, a5]
  by_cases h2 : x = sg b k + 2
  · subst h2
    rw [zc_2, ← a2, wc_sgc hk, R4_11]
  by_cases h3 : x = sg b k + 3
  · subst h3
    rw [zc_3, ← a3, wc_sgw hk, R4_12, a4]
  by_cases h4 : x = sg b k + 4
  · subst h4
    rw [zc_4, ← a4, wc_sgl hk, eq]
  by_cases h5 : x = sg b k + 5
  · subst h5
    rw [zc_5, ← a5, wc_sgt hk, R4_14]
  have e1 : sgH G (wR G h b W Q) (sg b k) f c g q t x = wR G h b W Q x := by
    unfold sgH
    rw [if_neg h0, if_neg h2, if_neg h3, if_neg h4, if_neg h5]
  rw [e1]
  by_cases hx : b ≤ x ∧ x < b + 105
  · obtain ⟨n, rfl⟩ : ∃ n, x = b + n := ⟨x - b, by omega⟩
    unfold sg at h0 h2 h3 h4 h5
    rw [wR_at (by omega), wR_at (by omega), R4_ne (by omega) (by omega) (by omega) (by omega)]
    have : va_up Q (13 + 6 * k) q n = Q n := if_neg (by omega)
    rw [this]
  · rw [wR_out (by omega), wR_out (by omega)]
theorem wR_sgH {G : gG} {h : gH} {b k : Nat} {W : Nat → Nat → Int32} {Q : Nat → Nat → Int64} (hk : k < 8) : wR G h b W Q = sgH G (wR G h b W Q) (sg b k) (W (9 + 6 * k)) (W (11 + 6 * k)) (W (12 + 6 * k)) (Q (13 + 6 * k)) (W (14 + 6 * k)) := by
  rw [sgH_wR hk, R4_self, vaq_same]
/-- W tells S -/
def tells (S : Nat → Int32) (W : Nat → Nat → Int32) : Prop := ∀ n j p, pos (rtN W) n j = some p → live S p = true → W n j = S p
theorem wof_tells {S : Nat → Int32} {W : Nat → Nat → Int32} (ht : tells S W) : Wof S W = W := by
  funext n j
  unfold Wof
  cases e : pos (rtN W) n j with
  | none => rfl
  | some p =>
    show (if live S p = true then S p else W n j) = W n j
    split
    · rename_i hl; exact (ht n j p e hl).symm
    · rfl
theorem rtN_wof {S : Nat → Int32} {J : Nat → Nat → Int32} : rtN (Wof S J) = rtN J := by
  unfold rtN
  rw [wof_16]
theorem tells_wof {S : Nat → Int32} {J : Nat → Nat → Int32} : tells S (Wof S J) := by
  intro n j p hp hl
  rw [rtN_wof] at hp
  exact wof_live hp hl
theorem tells_ext {S T : Nat → Int32} {W W' : Nat → Nat → Int32} {rt : Nat} (hr : rt < 24) (e1 : rtN W = rt) (e2 : rtN W' = rt) (hW : tells S W)
    (hk : ∀ p, live T p = true → W' (iv rt p).1 (iv rt p).2 = T p ∨ (live S p = true ∧ T p = S p ∧ W' (iv rt p).1 (iv rt p).2 = W (iv rt p).1 (iv rt p).2)) : tells T W' := by
  intro n j p hp hl
  rw [e2] at hp
  have hi := pos_iv hr hp
  have := hk p hl
  rw [hi] at this
  rcases this with h | ⟨h1, h2, h3⟩
  · exact h
  · have h4 : W' n j = W n j := h3
    rw [h4, h2]
    exact hW n j p (by rw [e1]; exact hp) h1
theorem iv_row {rt p : Nat} : (p < 24 → (iv rt p).1 = 0) ∧ (24 ≤ p → p < 216 → (iv rt p).1 = 9 + 6 * ((p - 24) / 24) ∨ (iv rt p).1 = 14 + 6 * ((p - 24) / 24) ∨ (iv rt p).1 = 11 + 6 * ((p - 24) / 24)) ∧ (216 ≤ p → 57 ≤ (iv rt p).1 ∨ (iv rt p).1 = 6 ∨ (iv rt p).1 = 7) := by
  refine ⟨fun hp => ?_, fun h1 h2 => ?_, fun hp => ?_⟩
  · unfold iv
    repeat' split
    all_goals first | rfl | omega
  · unfold iv
    rw [if_neg (by omega), if_neg (by omega), if_neg (by omega), if_neg (by omega), if_neg (by omega), if_neg (by omega), if_neg (by omega), if_pos h2]
    repeat' split
    all_goals first | exact Or.inl rfl | exact Or.inr (Or.inl rfl) | exact Or.inr (Or.inr rfl)
  · rw [iv_hi hp]
    repeat' split
    all_goals first | exact Or.inl (by show 57 ≤ _; omega) | exact Or.inr (Or.inl rfl) | exact Or.inr (Or.inr rfl)
theorem sA_split {p : Nat} (h1 : 24 ≤ p) (h2 : p < 216) : ∃ a w, a < 8 ∧ w < 24 ∧ p = sA a w := ⟨(p - 24) / 24, (p - 24) % 24, by omega, by omega, by unfold sA; omega⟩
theorem live_s' {S : Nat → Int32} {a w : Nat} (ha : a < 8) (hw : w < 24) : live S (sA a w) = decide (a < manyN S ∧ (w < 12 ∨ w = 20 ∨ w - 12 < cellsN S a)) := by
  have e1 : (sA a w - 24) / 24 = a := by unfold sA; omega
  have e2 : (sA a w - 24) % 24 = w := by unfold sA; omega
  unfold live
  rw [if_neg (by unfold sA; omega), if_pos (by unfold sA; omega), e1, e2]
theorem live_hi {S T : Nat → Int32} {p : Nat} (h1 : 216 ≤ p) (e14 : T 14 = S 14) (e15 : T 15 = S 15) (e17 : T 17 = S 17) (e18 : T 18 = S 18) : live T p = live S p := by
  have c1 : phN T = phN S := by unfold phN; rw [e14]
  have c2 : recN T = recN S := by unfold recN; rw [e15]
  have c3 : nodN T = nodN S := by unfold nodN; rw [e17]
  have c4 : tolN T = tolN S := by unfold tolN; rw [e18]
  unfold live
  have n1 : ¬ p < 24 := by omega
  have n2 : ¬ p < 216 := by omega
  rw [c1, c2, c3, c4, if_neg n1, if_neg n1, if_neg n2, if_neg n2]
section W15
variable {G : gG} {h : gH} {b : Nat} {S C : Nat → Int32} {J : Nat → Nat → Int32} {Q : Nat → Nat → Int64} {F : Nat}
/-- a World's rows behind a new Signal -/
def nsW (W : Nat → Nat → Int32) (k kd c : Nat) : Nat → Nat → Int32 := R4 W k (upd (bgF (W (9 + 6 * k)) kd) 4 (nI 1)) (upd (W (11 + 6 * k)) 0 (nI c)) (upd (emG (W (12 + 6 * k))) 1 1) (bgT (W (14 + 6 * k)))
def nsQ (Q : Nat → Nat → Int64) (k c : Nat) : Nat → Nat → Int64 := va_up Q (13 + 6 * k) (seQ (emQ (Q (13 + 6 * k))) (nI c))
def bgW (W : Nat → Nat → Int32) (k kd : Nat) : Nat → Nat → Int32 := R4 W k (bgF (W (9 + 6 * k)) kd) (W (11 + 6 * k)) (emG (W (12 + 6 * k))) (bgT (W (14 + 6 * k)))
theorem r_begins {k kd : Nat} {W : Nat → Nat → Int32} (hF : 10 ≤ F) (hk : k < 8) (hkd : kd < 4) (hb : bsJ (W (12 + 6 * k) 1) (Q (13 + 6 * k) 0)) : sp_X2_begins G F (wR G h b W Q) (sg b k) (gS G kd) = some (wR G h b (bgW W k kd) (va_up Q (13 + 6 * k) (emQ (Q (13 + 6 * k))))) := by
  rw [wR_sgH hk, z_begins hF hkd hb, sgH_wR hk]
  rfl
theorem r_goesOver {k n c : Nat} {W : Nat → Nat → Int32} (hk : k < 8) (hc : c < 64) (hn : n < 8) (h4 : W (9 + 6 * k) 4 = nI n) (hb : bsJ (W (12 + 6 * k) 1) (Q (13 + 6 * k) 0)) : sp_X2_goesOver G F (wR G h b W Q) (sg b k) (nI c) = some (wR G h b (R4 W k (upd (W (9 + 6 * k)) 4 (nI (n + 1))) (upd (W (11 + 6 * k)) n (nI c)) (upd (W (12 + 6 * k)) 1 1) (W (14 + 6 * k))) (va_up Q (13 + 6 * k) (seQ (Q (13 + 6 * k)) (nI c)))) := by
  rw [wR_sgH hk, z_goesOver hc hn h4 hb, sgH_wR hk]
theorem R4_R4 {W : Nat → Nat → Int32} {k : Nat} {f c g t f' c' g' t' : Nat → Int32} : R4 (R4 W k f c g t) k f' c' g' t' = R4 W k f' c' g' t' := by
  funext n
  unfold R4
  repeat' split
  all_goals rfl
theorem r_newSig {k kd c : Nat} {W : Nat → Nat → Int32} (hk : k < 8) (hc : c < 64) : sp_X2_goesOver G F (wR G h b (bgW W k kd) (va_up Q (13 + 6 * k) (emQ (Q (13 + 6 * k))))) (sg b k) (nI c) = some (wR G h b (nsW W k kd c) (nsQ Q k c)) := by
  have e9 : bgW W k kd (9 + 6 * k) = bgF (W (9 + 6 * k)) kd := R4_9
  have e11 : bgW W k kd (11 + 6 * k) = W (11 + 6 * k) := R4_11
  have e12 : bgW W k kd (12 + 6 * k) = emG (W (12 + 6 * k)) := R4_12
  have e14 : bgW W k kd (14 + 6 * k) = bgT (W (14 + 6 * k)) := R4_14
  have eq : va_up Q (13 + 6 * k) (emQ (Q (13 + 6 * k))) (13 + 6 * k) = emQ (Q (13 + 6 * k)) := if_pos rfl
  have h4 : bgW W k kd (9 + 6 * k) 4 = nI 0 := by rw [e9]; rfl
  have hb : bsJ (bgW W k kd (12 + 6 * k) 1) (va_up Q (13 + 6 * k) (emQ (Q (13 + 6 * k))) (13 + 6 * k) 0) := by
    rw [e12, eq]
    exact Or.inl ⟨rfl, rfl⟩
  rw [r_goesOver hk hc (by decide) h4 hb, e9, e11, e12, e14, eq]
  unfold nsW nsQ bgW
  rw [R4_R4]
  congr 2
  funext n
  unfold va_up
  split <;> rfl
/-- how the row tells it -/
def nsS (S : Nat → Int32) (kd c : Nat) : Nat → Int32 := goesOnF (comesF S (manyN S) (nI kd) 5 40 3 0) (manyN S) (nI c)
theorem nsS_v {k kd c : Nat} (ek : manyN S = k) (hk : k < 8) : (∀ w, w < 24 → nsS S kd c (sA k w) = if w = 0 then nI kd else if w = 1 then 5 else if w = 2 then 40 else if w = 3 then 3 else if w = 4 then 0 else if w = 7 then -5 else if w = 8 then -5 else if w = 9 then -5 else if w = 11 then 1 else if w = 12 then nI c else 0) ∧ (∀ p, p ≠ 13 → (p < 24 + 24 * k ∨ 48 + 24 * k ≤ p) → nsS S kd c p = S p) ∧ nsS S kd c 13 = nI (k + 1) := by
  have ec : cellsN (comesF S k (nI kd) 5 40 3 0) k = 0 := cells_comes
  refine ⟨fun w hw => ?_, fun p h13 hp => ?_, ?_⟩
  · unfold nsS goesOnF
    rw [ek, ec]
    by_cases h11 : w = 11
    · subst h11
      rw [upd_eq]
      rfl
    · rw [upd_ne (by unfold sA; omega)]
      by_cases h12 : w = 12
      · subst h12
        rw [upd_eq]
        rfl
      · rw [upd_ne (by unfold sA; omega)]
        unfold comesF
        rw [upd_ne (by unfold sA; omega)]
        by_cases h9 : w = 9
        · subst h9; rw [upd_eq]; rfl
        rw [upd_ne (by unfold sA; omega)]
        by_cases h8 : w = 8
        · subst h8; rw [upd_eq]; rfl
        rw [upd_ne (by unfold sA; omega)]
        by_cases h7 : w = 7
        · subst h7; rw [upd_eq]; rfl
        rw [upd_ne (by unfold sA; omega)]
        by_cases h4 : w = 4
        · subst h4; rw [upd_eq]; rfl
        rw [upd_ne (by unfold sA; omega)]
        by_cases h3 : w = 3
        · subst h3; rw [upd_eq]; rfl
        rw [upd_ne (by unfold sA; omega)]
        by_cases h2 : w = 2
        · subst h2; rw [upd_eq]; rfl
        rw [upd_ne (by unfold sA; omega)]
        by_cases h1 : w = 1
        · subst h1; rw [upd_eq]; rfl
        rw [upd_ne (by unfold sA; omega)]
        by_cases h0 : w = 0
        · subst h0; rw [upd_eq]; rfl
        rw [upd_ne (by unfold sA; omega)]
        unfold zr
        rw [if_pos (by unfold sA; omega), if_neg h0, if_neg h1, if_neg h2, if_neg h3, if_neg h4, if_neg h7, if_neg h8, if_neg h9, if_neg h11, if_neg h12]
  · unfold nsS
    rw [ek]
    rw [goesOnF_ne (by unfold sA; omega) (by rw [ec]; unfold sA; omega), comesF_ne h13 hp]
  · unfold nsS
    rw [ek]
    rw [goesOnF_ne (by unfold sA; omega) (by rw [ec]; unfold sA; omega), comesF_13]
end W15
