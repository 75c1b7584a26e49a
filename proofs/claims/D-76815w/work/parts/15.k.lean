set_option maxRecDepth 100000
def sp_J0_ordinal (G : gG) (F : Nat) (h : gH) (a0 : Nat) : Option (Int32) :=
 (gKd G a0 2).bind fun x1 =>
 some (x1)
set_option maxHeartbeats 4000000 in
theorem m_J0_ordinal (l : Launch) (G : gG) (F : Nat) (h : gH) (n : Nat) (a0 : Nat) {r : Int32} (hf : sp_J0_ordinal G F h a0 = some r) : gMet l G yJ0_ordinal cJ0_ordinal 1 (some .int) 0 0 0 0 [.ref a0] h n (some (.int r)) h n := by
  refine gEnter (by decide) [(0, .ref a0)] rfl (Nat.le_of_ble_eq_true rfl) ?_
  intro p e s m below meth c H ls X hin hR hS hl
  have hx := X.1.1
  have hb := X.1.2.1
  unfold sp_J0_ordinal at hf
  generalize ([] : List Loc) = locs at hS ⊢
  refine lv_aload_n hx hb dJ0_ordinal_0 rfl (lv_at hl 0 rfl) ?_
  obtain ⟨x1, ex1, hf⟩ := gBind hf
  refine g_kfldO X hS q2260 ex1 dJ0_ordinal_1 ?_
  obtain rfl := gO1 hf
  exact g_iret X hR hS _ rfl ⟨Nat.le_of_ble_eq_true rfl, Nat.le_of_ble_eq_true rfl⟩ dJ0_ordinal_4

