/-! CircuitDesk.canMove(II)I -/
abbrev y_Desk_canMove : MethodName := ⟨"CircuitDesk", "canMove", "(II)I"⟩
abbrev k_Desk_canMove : g_M := (prog_1_method_42_code, 3, "CircuitDesk", 32, (some FieldType.int), "canMove", [], 0)
theorem d_Desk_canMove_0 : decode prog_1_method_42_code 0 = .ok (.aload_n 0, 1) := by decide +kernel
theorem d_Desk_canMove_1 : decode prog_1_method_42_code 1 = .ok (.iload_n 1, 1) := by decide +kernel
theorem d_Desk_canMove_2 : decode prog_1_method_42_code 2 = .ok (.iload_n 2, 1) := by decide +kernel
theorem d_Desk_canMove_3 : decode prog_1_method_42_code 3 = .ok (.invokevirtual 282, 3) := by decide +kernel
theorem d_Desk_canMove_6 : decode prog_1_method_42_code 6 = .ok (.aload_n 0, 1) := by decide +kernel
theorem d_Desk_canMove_7 : decode prog_1_method_42_code 7 = .ok (.getfield 19, 3) := by decide +kernel
theorem d_Desk_canMove_10 : decode prog_1_method_42_code 10 = .ok (.invokevirtual 376, 3) := by decide +kernel
theorem d_Desk_canMove_13 : decode prog_1_method_42_code 13 = .ok (.iload_n 1, 1) := by decide +kernel
theorem d_Desk_canMove_14 : decode prog_1_method_42_code 14 = .ok (.iload_n 2, 1) := by decide +kernel
theorem d_Desk_canMove_15 : decode prog_1_method_42_code 15 = .ok (.invokestatic 286, 3) := by decide +kernel
theorem d_Desk_canMove_18 : decode prog_1_method_42_code 18 = .ok (.ireturn, 1) := by decide +kernel
def Desk_canMove (h : g_AH) (this : Nat) (p0 : Int32) (p1 : Int32) : Option ((Int32 ⊕ g_EX) × g_AH) :=
  g_is h this 0 <| g_bx (Desk_checkBest h this p0 p1) fun x3 h4 => g_gR h4 this 0 0 fun x9 => g_nn x9 fun a12 => g_is h4 a12 1 <| g_b2 (Net_copy h4 a12) fun x15 h16 => g_b2 (Desk_moveBest1 h16 x15 p0 p1) fun x18 h19 => some (.inl x18, h19)
set_option maxHeartbeats 4000000 in
set_option maxRecDepth 100000 in
theorem T_Desk_canMove {l : Launch} {B : g_B} (h : g_AH) (this : Nat) (p0 : Int32) (p1 : Int32) (z : (Int32 ⊕ g_EX) × g_AH) (hy : Desk_canMove h this p0 p1 = some z) : g_CT l B y_Desk_canMove k_Desk_canMove [.ref this, .int p0, .int p1] h (g_rI z.1) z.2 := by
  refine g_start2 (Lc := [(0, .ref this), (1, .int p0), (2, .int p1)]) (by decide) rfl rfl (by exact Nat.le_of_ble_eq_true rfl) (by rfl) fun X => ?_
  unfold Desk_canMove at hy
  refine g_aload_n 0 (i := 0) (pc' := 1) d_Desk_canMove_0 rfl rfl rfl ?_
  refine g_iload_n 1 (i := 1) (pc' := 2) d_Desk_canMove_1 rfl rfl rfl ?_
  refine g_iload_n 2 (i := 2) (pc' := 3) d_Desk_canMove_2 rfl rfl rfl ?_
  replace hy := g_is_inv hy
  obtain ⟨fs1, hc2, hy⟩ := hy
  replace hy := g_bx_inv hy
  rcases hy with ⟨x3, h4, hf5, hy⟩ | ⟨⟨E9, q9⟩, h4, hf5, ez7⟩
  rotate_left
  · subst ez7
    exact g_callVX (As := [.int p0, .int p1]) (rest := []) 2 (T_Desk_checkBest (hy := hf5)) d_Desk_canMove_3 hc2 rfl rfl q1676 q1678 qs23 q108 q1679 hd_Desk_checkBest rfl ⟨by decide, by decide⟩ (by first | exact Nat.le_of_ble_eq_true rfl | (simp only [List.map, List.sum_cons, List.sum_nil, g_cat_rf]; exact Nat.le_of_ble_eq_true rfl) | (simp only [List.map, List.sum_cons, List.sum_nil, g_cat_rf, Value.category]; decide)) rfl rfl
  refine g_callV (rv := none) (h1 := h4) (pc' := 6) (As := [.int p0, .int p1]) (rest := []) 2 (T_Desk_checkBest (hy := hf5)) d_Desk_canMove_3 hc2 rfl rfl q1676 q1678 qs23 q108 q1679 hd_Desk_checkBest rfl ⟨by decide, by decide⟩ (by first | exact Nat.le_of_ble_eq_true rfl | (simp only [List.map, List.sum_cons, List.sum_nil, g_cat_rf]; exact Nat.le_of_ble_eq_true rfl) | (simp only [List.map, List.sum_cons, List.sum_nil, g_cat_rf, Value.category]; decide)) rfl ?_
  refine g_aload_n 0 (i := 0) (pc' := 7) d_Desk_canMove_6 rfl rfl rfl ?_
  replace hy := g_gR_inv hy
  obtain ⟨fs8, x9, hc10, hv11, hy⟩ := hy
  refine g_getf (pc' := 10) d_Desk_canMove_7 hc10 rfl (by decide) hv11 q642 (Or.inl rfl) rfl ?_
  replace hy := g_nn_inv hy
  obtain ⟨a12, rfl, hy⟩ := hy
  replace hy := g_is_inv hy
  obtain ⟨fs13, hc14, hy⟩ := hy
  replace hy := g_b2_inv hy
  obtain ⟨x15, h16, hf17, hy⟩ := hy
  refine g_callV (rv := some (va_rf x15)) (h1 := h16) (pc' := 13) (As := []) (rest := []) 0 (T_Net_copy (hy := hf17)) d_Desk_canMove_10 hc14 rfl rfl q1886 q1887 q1888 q109 q1889 hd_Net_copy rfl ⟨by decide, by decide⟩ (by first | exact Nat.le_of_ble_eq_true rfl | (simp only [List.map, List.sum_cons, List.sum_nil, g_cat_rf]; exact Nat.le_of_ble_eq_true rfl) | (simp only [List.map, List.sum_cons, List.sum_nil, g_cat_rf, Value.category]; decide)) rfl ?_
  refine g_iload_n 1 (i := 1) (pc' := 14) d_Desk_canMove_13 rfl rfl rfl ?_
  refine g_iload_n 2 (i := 2) (pc' := 15) d_Desk_canMove_14 rfl rfl rfl ?_
  replace hy := g_b2_inv hy
  obtain ⟨x18, h19, hf20, hy⟩ := hy
  refine g_callS (rv := some (.int x18)) (h1 := h19) (pc' := 18) (As := [va_rf x15, .int p0, .int p1]) (rest := []) 3 (T_Desk_moveBest1 (hy := hf20)) d_Desk_canMove_15 q1681 q1682 q108 q1683 hd_Desk_moveBest1 rfl ⟨by decide, by decide⟩ (by first | exact Nat.le_of_ble_eq_true rfl | (simp only [List.map, List.sum_cons, List.sum_nil, g_cat_rf]; exact Nat.le_of_ble_eq_true rfl) | (simp only [List.map, List.sum_cons, List.sum_nil, g_cat_rf, Value.category]; decide)) rfl ?_
  cases hy
  exact g_iret rfl rfl rfl d_Desk_canMove_18
theorem hd_Desk_canMove : g_dsc y_Desk_canMove 2 := ⟨by decide +kernel, by decide +kernel, by decide +kernel⟩
/-! CircuitDesk.movedIn(I)I -/
abbrev y_Desk_movedIn : MethodName := ⟨"CircuitDesk", "movedIn", "(I)I"⟩
abbrev k_Desk_movedIn : g_M := (prog_1_method_43_code, 5, "CircuitDesk", 32, (some FieldType.int), "movedIn", [], 0)
theorem d_Desk_movedIn_0 : decode prog_1_method_43_code 0 = .ok (.aload_n 0, 1) := by decide +kernel
theorem d_Desk_movedIn_1 : decode prog_1_method_43_code 1 = .ok (.iload_n 1, 1) := by decide +kernel
theorem d_Desk_movedIn_2 : decode prog_1_method_43_code 2 = .ok (.invokevirtual 263, 3) := by decide +kernel
theorem d_Desk_movedIn_5 : decode prog_1_method_43_code 5 = .ok (.astore_n 2, 1) := by decide +kernel
theorem d_Desk_movedIn_6 : decode prog_1_method_43_code 6 = .ok (.aload_n 0, 1) := by decide +kernel
theorem d_Desk_movedIn_7 : decode prog_1_method_43_code 7 = .ok (.getfield 19, 3) := by decide +kernel
theorem d_Desk_movedIn_10 : decode prog_1_method_43_code 10 = .ok (.invokevirtual 376, 3) := by decide +kernel
theorem d_Desk_movedIn_13 : decode prog_1_method_43_code 13 = .ok (.astore_n 3, 1) := by decide +kernel
theorem d_Desk_movedIn_14 : decode prog_1_method_43_code 14 = .ok (.iconst 0, 1) := by decide +kernel
theorem d_Desk_movedIn_15 : decode prog_1_method_43_code 15 = .ok (.istore 4, 2) := by decide +kernel
theorem d_Desk_movedIn_17 : decode prog_1_method_43_code 17 = .ok (.aload_n 3, 1) := by decide +kernel
theorem d_Desk_movedIn_18 : decode prog_1_method_43_code 18 = .ok (.aload_n 3, 1) := by decide +kernel
theorem d_Desk_movedIn_19 : decode prog_1_method_43_code 19 = .ok (.getfield 73, 3) := by decide +kernel
theorem d_Desk_movedIn_22 : decode prog_1_method_43_code 22 = .ok (.iload_n 1, 1) := by decide +kernel
theorem d_Desk_movedIn_23 : decode prog_1_method_43_code 23 = .ok (.invokevirtual 62, 3) := by decide +kernel
theorem d_Desk_movedIn_26 : decode prog_1_method_43_code 26 = .ok (.checkcast 76, 3) := by decide +kernel
theorem d_Desk_movedIn_29 : decode prog_1_method_43_code 29 = .ok (.invokevirtual 147, 3) := by decide +kernel
theorem d_Desk_movedIn_32 : decode prog_1_method_43_code 32 = .ok (.ifCond .eq 13, 3) := by decide +kernel
theorem d_Desk_movedIn_35 : decode prog_1_method_43_code 35 = .ok (.aload_n 3, 1) := by decide +kernel
theorem d_Desk_movedIn_36 : decode prog_1_method_43_code 36 = .ok (.invokevirtual 380, 3) := by decide +kernel
theorem d_Desk_movedIn_39 : decode prog_1_method_43_code 39 = .ok (.iinc 4 1, 3) := by decide +kernel
theorem d_Desk_movedIn_42 : decode prog_1_method_43_code 42 = .ok (.goto (-25), 3) := by decide +kernel
theorem d_Desk_movedIn_45 : decode prog_1_method_43_code 45 = .ok (.iload 4, 2) := by decide +kernel
theorem d_Desk_movedIn_47 : decode prog_1_method_43_code 47 = .ok (.ireturn, 1) := by decide +kernel
def Desk_movedIn_17  : Nat → g_AH → Int32 → Option Nat → Int32 → Option ((Int32 ⊕ g_EX) × g_AH)
  | 0, _, _, _, _ => none
  | n + 1, h, v1, v3, v4 => g_nn v3 fun a18 => g_gR h a18 1 3 fun x20 => g_nn x20 fun a23 => g_is h a23 15 <| g_b (ArrayList_get h a23 v1) fun x26 => g_ck h x26 12 <| g_is h a18 1 <| g_b (Net_isMoving h a18 x26) fun x32 => if x32 = 0 then (some (.inl v4, h)) else (g_is h a18 1 <| g_b (Net_tick h a18) fun h39 => (Desk_movedIn_17  n) h39 v1 (some a18) (v4 + (1 : Int32)))
set_option maxHeartbeats 4000000 in
set_option maxRecDepth 100000 in
theorem W_Desk_movedIn_17 {X : g_X} (z : (Int32 ⊕ g_EX) × g_AH)  : ∀ (n : Nat) (h : g_AH) (v1 : Int32) (v3 : Option Nat) (v4 : Int32), Desk_movedIn_17  n h v1 v3 v4 = some z → G X k_Desk_movedIn (g_rI z.1) z.2 h 17 [(1, .int v1), (3, va_rf v3), (4, .int v4)] [] := by
  intro n
  induction n with
  | zero => intro h v1 v3 v4 hy; exact absurd hy (by simp [Desk_movedIn_17])
  | succ n ih =>
    intro h v1 v3 v4 hy
    rw [Desk_movedIn_17] at hy
    refine g_aloadO_n 1 (i := 3) (pc' := 18) d_Desk_movedIn_17 rfl rfl rfl ?_
    refine g_aloadO_n 1 (i := 3) (pc' := 19) d_Desk_movedIn_18 rfl rfl rfl ?_
    replace hy := g_nn_inv hy
    obtain ⟨a18, rfl, hy⟩ := hy
    replace hy := g_gR_inv hy
    obtain ⟨fs19, x20, hc21, hv22, hy⟩ := hy
    refine g_getfN (pc' := 22) d_Desk_movedIn_19 hc21 rfl (by decide) hv22 q559 rfl rfl ?_
    refine g_iload_n 0 (i := 1) (pc' := 23) d_Desk_movedIn_22 rfl rfl rfl ?_
    replace hy := g_nn_inv hy
    obtain ⟨a23, rfl, hy⟩ := hy
    replace hy := g_is_inv hy
    obtain ⟨fs24, hc25, hy⟩ := hy
    replace hy := g_b_inv hy
    obtain ⟨x26, hf28, hy⟩ := hy
    refine g_callV (rv := some (va_rf x26)) (h1 := h) (pc' := 26) (As := [.int v1]) (rest := [.ref a18]) 1 (T_ArrayList_get (hy := hf28)) d_Desk_movedIn_23 hc25 rfl rfl q706 q683 q684 q112 q685 hd_ArrayList_get rfl ⟨by decide, by decide⟩ (by first | exact Nat.le_of_ble_eq_true rfl | (simp only [List.map, List.sum_cons, List.sum_nil, g_cat_rf]; exact Nat.le_of_ble_eq_true rfl) | (simp only [List.map, List.sum_cons, List.sum_nil, g_cat_rf, Value.category]; decide)) rfl ?_
    replace hy := g_ck_inv hy
    obtain ⟨hk29, hy⟩ := hy
    refine g_castO (pc' := 29) d_Desk_movedIn_26 hk29 rfl q716 rfl ?_
    replace hy := g_is_inv hy
    obtain ⟨fs30, hc31, hy⟩ := hy
    replace hy := g_b_inv hy
    obtain ⟨x32, hf34, hy⟩ := hy
    refine g_callV (rv := some (.int x32)) (h1 := h) (pc' := 32) (As := [va_rf x26]) (rest := []) 1 (T_Net_isMoving (hy := hf34)) d_Desk_movedIn_29 hc31 rfl rfl q1505 q1506 q1507 q109 q1508 hd_Net_isMoving rfl ⟨by decide, by decide⟩ (by first | exact Nat.le_of_ble_eq_true rfl | (simp only [List.map, List.sum_cons, List.sum_nil, g_cat_rf]; exact Nat.le_of_ble_eq_true rfl) | (simp only [List.map, List.sum_cons, List.sum_nil, g_cat_rf, Value.category]; decide)) rfl ?_
    by_cases c35 : x32 = 0
    · rw [if_pos c35] at hy
      refine g_if_eqT (pc' := 45) d_Desk_movedIn_32 c35 (by decide) ?_
      refine g_iload 2 (pc' := 47) d_Desk_movedIn_45 rfl rfl ?_
      cases hy
      exact g_iret rfl rfl rfl d_Desk_movedIn_47
    · rw [if_neg c35] at hy
      refine g_if_eqF (pc' := 35) d_Desk_movedIn_32 45 c35 (by decide) rfl ?_
      refine g_aload_n 1 (i := 3) (pc' := 36) d_Desk_movedIn_35 rfl rfl rfl ?_
      replace hy := g_is_inv hy
      obtain ⟨fs36, hc37, hy⟩ := hy
      replace hy := g_b_inv hy
      obtain ⟨h39, hf40, hy⟩ := hy
      refine g_callV (rv := none) (h1 := h39) (pc' := 39) (As := []) (rest := []) 0 (T_Net_tick (hy := hf40)) d_Desk_movedIn_36 hc37 rfl rfl q1933 q1723 q1724 q109 q1725 hd_Net_tick rfl ⟨by decide, by decide⟩ (by first | exact Nat.le_of_ble_eq_true rfl | (simp only [List.map, List.sum_cons, List.sum_nil, g_cat_rf]; exact Nat.le_of_ble_eq_true rfl) | (simp only [List.map, List.sum_cons, List.sum_nil, g_cat_rf, Value.category]; decide)) rfl ?_
      refine g_iinc 2 (v := (v4 + (1 : Int32))) (pc' := 42) (Lc' := [(4, .int (v4 + (1 : Int32))), (1, .int v1), (3, .ref a18)]) d_Desk_movedIn_39 rfl rfl (by decide) rfl rfl ?_
      refine g_goto (pc' := 17) d_Desk_movedIn_42 (by decide) ?_
      refine g_sub [1, 2, 0] rfl ?_
      exact ih _ _ _ _ hy
def Desk_movedIn (h : g_AH) (this : Nat) (p0 : Int32) : Option ((Int32 ⊕ g_EX) × g_AH) :=
  g_is h this 0 <| g_bx (Desk_circuitOf h this p0) fun x3 h4 => g_gR h4 this 0 0 fun x9 => g_nn x9 fun a12 => g_is h4 a12 1 <| g_b2 (Net_copy h4 a12) fun x15 h16 => Desk_movedIn_17  gFU h16 p0 x15 (0 : Int32)
set_option maxHeartbeats 4000000 in
set_option maxRecDepth 100000 in
theorem T_Desk_movedIn {l : Launch} {B : g_B} (h : g_AH) (this : Nat) (p0 : Int32) (z : (Int32 ⊕ g_EX) × g_AH) (hy : Desk_movedIn h this p0 = some z) : g_CT l B y_Desk_movedIn k_Desk_movedIn [.ref this, .int p0] h (g_rI z.1) z.2 := by
  refine g_start2 (Lc := [(0, .ref this), (1, .int p0)]) (by decide) rfl rfl (by exact Nat.le_of_ble_eq_true rfl) (by rfl) fun X => ?_
  unfold Desk_movedIn at hy
  refine g_aload_n 0 (i := 0) (pc' := 1) d_Desk_movedIn_0 rfl rfl rfl ?_
  refine g_iload_n 1 (i := 1) (pc' := 2) d_Desk_movedIn_1 rfl rfl rfl ?_
  replace hy := g_is_inv hy
  obtain ⟨fs1, hc2, hy⟩ := hy
  replace hy := g_bx_inv hy
  rcases hy with ⟨x3, h4, hf5, hy⟩ | ⟨⟨E9, q9⟩, h4, hf5, ez7⟩
  rotate_left
  · subst ez7
    exact g_callVX (As := [.int p0]) (rest := []) 1 (T_Desk_circuitOf (hy := hf5)) d_Desk_movedIn_2 hc2 rfl rfl q1631 q1633 qs22 q108 q1634 hd_Desk_circuitOf rfl ⟨by decide, by decide⟩ (by first | exact Nat.le_of_ble_eq_true rfl | (simp only [List.map, List.sum_cons, List.sum_nil, g_cat_rf]; exact Nat.le_of_ble_eq_true rfl) | (simp only [List.map, List.sum_cons, List.sum_nil, g_cat_rf, Value.category]; decide)) rfl rfl
  refine g_callV (rv := some (va_rf x3)) (h1 := h4) (pc' := 5) (As := [.int p0]) (rest := []) 1 (T_Desk_circuitOf (hy := hf5)) d_Desk_movedIn_2 hc2 rfl rfl q1631 q1633 qs22 q108 q1634 hd_Desk_circuitOf rfl ⟨by decide, by decide⟩ (by first | exact Nat.le_of_ble_eq_true rfl | (simp only [List.map, List.sum_cons, List.sum_nil, g_cat_rf]; exact Nat.le_of_ble_eq_true rfl) | (simp only [List.map, List.sum_cons, List.sum_nil, g_cat_rf, Value.category]; decide)) rfl ?_
  refine g_astoreO_n (i := 2) (pc' := 6) (Lc' := [(2, va_rf x3), (0, .ref this), (1, .int p0)]) d_Desk_movedIn_5 rfl (by decide) rfl rfl ?_
  refine g_aload_n 1 (i := 0) (pc' := 7) d_Desk_movedIn_6 rfl rfl rfl ?_
  replace hy := g_gR_inv hy
  obtain ⟨fs8, x9, hc10, hv11, hy⟩ := hy
  refine g_getf (pc' := 10) d_Desk_movedIn_7 hc10 rfl (by decide) hv11 q642 (Or.inl rfl) rfl ?_
  replace hy := g_nn_inv hy
  obtain ⟨a12, rfl, hy⟩ := hy
  replace hy := g_is_inv hy
  obtain ⟨fs13, hc14, hy⟩ := hy
  replace hy := g_b2_inv hy
  obtain ⟨x15, h16, hf17, hy⟩ := hy
  refine g_callV (rv := some (va_rf x15)) (h1 := h16) (pc' := 13) (As := []) (rest := []) 0 (T_Net_copy (hy := hf17)) d_Desk_movedIn_10 hc14 rfl rfl q1886 q1887 q1888 q109 q1889 hd_Net_copy rfl ⟨by decide, by decide⟩ (by first | exact Nat.le_of_ble_eq_true rfl | (simp only [List.map, List.sum_cons, List.sum_nil, g_cat_rf]; exact Nat.le_of_ble_eq_true rfl) | (simp only [List.map, List.sum_cons, List.sum_nil, g_cat_rf, Value.category]; decide)) rfl ?_
  refine g_astoreO_n (i := 3) (pc' := 14) (Lc' := [(3, va_rf x15), (2, va_rf x3), (0, .ref this), (1, .int p0)]) d_Desk_movedIn_13 rfl (by decide) (by cases x3 <;> rfl) rfl ?_
  refine g_iconst (v := (0 : Int32)) (pc' := 15) d_Desk_movedIn_14 (by decide) rfl ?_
  refine g_istore (pc' := 17) (Lc' := [(4, .int (0 : Int32)), (3, va_rf x15), (2, va_rf x3), (0, .ref this), (1, .int p0)]) d_Desk_movedIn_15 (by decide) (by cases x15 <;> rfl) rfl ?_
  refine g_sub [4, 1, 0] rfl ?_
  exact W_Desk_movedIn_17 _ _ _ _ _ _ hy
theorem hd_Desk_movedIn : g_dsc y_Desk_movedIn 1 := ⟨by decide +kernel, by decide +kernel, by decide +kernel⟩
/-! CircuitDesk.ahead(II)I -/
abbrev y_Desk_ahead : MethodName := ⟨"CircuitDesk", "ahead", "(II)I"⟩
abbrev k_Desk_ahead : g_M := (prog_1_method_44_code, 4, "CircuitDesk", 32, (some FieldType.int), "ahead", [], 0)
theorem d_Desk_ahead_0 : decode prog_1_method_44_code 0 = .ok (.iload_n 1, 1) := by decide +kernel
theorem d_Desk_ahead_1 : decode prog_1_method_44_code 1 = .ok (.invokestatic 301, 3) := by decide +kernel
theorem d_Desk_ahead_4 : decode prog_1_method_44_code 4 = .ok (.iload_n 2, 1) := by decide +kernel
theorem d_Desk_ahead_5 : decode prog_1_method_44_code 5 = .ok (.i2l, 1) := by decide +kernel
theorem d_Desk_ahead_6 : decode prog_1_method_44_code 6 = .ok (.lconst 0, 1) := by decide +kernel
theorem d_Desk_ahead_7 : decode prog_1_method_44_code 7 = .ok (.ldc2_w 212, 3) := by decide +kernel
theorem d_Desk_ahead_10 : decode prog_1_method_44_code 10 = .ok (.invokestatic 54, 3) := by decide +kernel
theorem d_Desk_ahead_13 : decode prog_1_method_44_code 13 = .ok (.invokestatic 80, 3) := by decide +kernel
theorem d_Desk_ahead_16 : decode prog_1_method_44_code 16 = .ok (.aload_n 0, 1) := by decide +kernel
theorem d_Desk_ahead_17 : decode prog_1_method_44_code 17 = .ok (.getfield 19, 3) := by decide +kernel
theorem d_Desk_ahead_20 : decode prog_1_method_44_code 20 = .ok (.invokevirtual 376, 3) := by decide +kernel
theorem d_Desk_ahead_23 : decode prog_1_method_44_code 23 = .ok (.astore_n 3, 1) := by decide +kernel
theorem d_Desk_ahead_24 : decode prog_1_method_44_code 24 = .ok (.aload_n 3, 1) := by decide +kernel
theorem d_Desk_ahead_25 : decode prog_1_method_44_code 25 = .ok (.iload_n 1, 1) := by decide +kernel
theorem d_Desk_ahead_26 : decode prog_1_method_44_code 26 = .ok (.invokevirtual 304, 3) := by decide +kernel
theorem d_Desk_ahead_29 : decode prog_1_method_44_code 29 = .ok (.iload_n 2, 1) := by decide +kernel
theorem d_Desk_ahead_30 : decode prog_1_method_44_code 30 = .ok (.tableswitch 71 0 2 #[26, 41, 56], 26) := by decide +kernel
theorem d_Desk_ahead_56 : decode prog_1_method_44_code 56 = .ok (.aload_n 3, 1) := by decide +kernel
theorem d_Desk_ahead_57 : decode prog_1_method_44_code 57 = .ok (.getfield 162, 3) := by decide +kernel
theorem d_Desk_ahead_60 : decode prog_1_method_44_code 60 = .ok (.aload_n 0, 1) := by decide +kernel
theorem d_Desk_ahead_61 : decode prog_1_method_44_code 61 = .ok (.getfield 19, 3) := by decide +kernel
theorem d_Desk_ahead_64 : decode prog_1_method_44_code 64 = .ok (.getfield 162, 3) := by decide +kernel
theorem d_Desk_ahead_67 : decode prog_1_method_44_code 67 = .ok (.isub, 1) := by decide +kernel
theorem d_Desk_ahead_68 : decode prog_1_method_44_code 68 = .ok (.goto 45, 3) := by decide +kernel
theorem d_Desk_ahead_71 : decode prog_1_method_44_code 71 = .ok (.aload_n 3, 1) := by decide +kernel
theorem d_Desk_ahead_72 : decode prog_1_method_44_code 72 = .ok (.getfield 165, 3) := by decide +kernel
theorem d_Desk_ahead_75 : decode prog_1_method_44_code 75 = .ok (.aload_n 0, 1) := by decide +kernel
theorem d_Desk_ahead_76 : decode prog_1_method_44_code 76 = .ok (.getfield 19, 3) := by decide +kernel
theorem d_Desk_ahead_79 : decode prog_1_method_44_code 79 = .ok (.getfield 165, 3) := by decide +kernel
theorem d_Desk_ahead_82 : decode prog_1_method_44_code 82 = .ok (.isub, 1) := by decide +kernel
theorem d_Desk_ahead_83 : decode prog_1_method_44_code 83 = .ok (.goto 30, 3) := by decide +kernel
theorem d_Desk_ahead_86 : decode prog_1_method_44_code 86 = .ok (.aload_n 3, 1) := by decide +kernel
theorem d_Desk_ahead_87 : decode prog_1_method_44_code 87 = .ok (.getfield 171, 3) := by decide +kernel
theorem d_Desk_ahead_90 : decode prog_1_method_44_code 90 = .ok (.aload_n 0, 1) := by decide +kernel
theorem d_Desk_ahead_91 : decode prog_1_method_44_code 91 = .ok (.getfield 19, 3) := by decide +kernel
theorem d_Desk_ahead_94 : decode prog_1_method_44_code 94 = .ok (.getfield 171, 3) := by decide +kernel
theorem d_Desk_ahead_97 : decode prog_1_method_44_code 97 = .ok (.isub, 1) := by decide +kernel
theorem d_Desk_ahead_98 : decode prog_1_method_44_code 98 = .ok (.goto 15, 3) := by decide +kernel
theorem d_Desk_ahead_101 : decode prog_1_method_44_code 101 = .ok (.aload_n 3, 1) := by decide +kernel
theorem d_Desk_ahead_102 : decode prog_1_method_44_code 102 = .ok (.getfield 168, 3) := by decide +kernel
theorem d_Desk_ahead_105 : decode prog_1_method_44_code 105 = .ok (.aload_n 0, 1) := by decide +kernel
theorem d_Desk_ahead_106 : decode prog_1_method_44_code 106 = .ok (.getfield 19, 3) := by decide +kernel
theorem d_Desk_ahead_109 : decode prog_1_method_44_code 109 = .ok (.getfield 168, 3) := by decide +kernel
theorem d_Desk_ahead_112 : decode prog_1_method_44_code 112 = .ok (.isub, 1) := by decide +kernel
theorem d_Desk_ahead_113 : decode prog_1_method_44_code 113 = .ok (.ireturn, 1) := by decide +kernel
def Desk_ahead (h : g_AH) (this : Nat) (p0 : Int32) (p1 : Int32) : Option ((Int32 ⊕ g_EX) × g_AH) :=
  g_bx (Desk_checkTicks h p0) fun x1 h2 => g_b (Desk_isBetween ((p1).toInt64) (0 : Int64) (3 : Int64)) fun x6 => g_bx (Desk_checkArgument h2 x6) fun x9 h10 => g_gR h10 this 0 0 fun x15 => g_nn x15 fun a18 => g_is h10 a18 1 <| g_b2 (Net_copy h10 a18) fun x21 h22 => g_nn x21 fun a24 => g_is h22 a24 1 <| g_b (Net_run h22 a24 p0) fun h28 => if p1 = (0 : Int32) then (g_gI h28 a24 1 8 fun x32 => g_gR h28 this 0 0 fun x36 => g_nn x36 fun a39 => g_gI h28 a39 1 8 fun x41 => some (.inl (x32 - x41), h28)) else (if p1 = (1 : Int32) then (g_gI h28 a24 1 9 fun x46 => g_gR h28 this 0 0 fun x50 => g_nn x50 fun a53 => g_gI h28 a53 1 9 fun x55 => some (.inl (x46 - x55), h28)) else (if p1 = (2 : Int32) then (g_gI h28 a24 1 11 fun x60 => g_gR h28 this 0 0 fun x64 => g_nn x64 fun a67 => g_gI h28 a67 1 11 fun x69 => some (.inl (x60 - x69), h28)) else (g_gI h28 a24 1 10 fun x73 => g_gR h28 this 0 0 fun x77 => g_nn x77 fun a80 => g_gI h28 a80 1 10 fun x82 => some (.inl (x73 - x82), h28))))
set_option maxHeartbeats 4000000 in
set_option maxRecDepth 100000 in
theorem T_Desk_ahead {l : Launch} {B : g_B} (h : g_AH) (this : Nat) (p0 : Int32) (p1 : Int32) (z : (Int32 ⊕ g_EX) × g_AH) (hy : Desk_ahead h this p0 p1 = some z) : g_CT l B y_Desk_ahead k_Desk_ahead [.ref this, .int p0, .int p1] h (g_rI z.1) z.2 := by
  refine g_start2 (Lc := [(0, .ref this), (1, .int p0), (2, .int p1)]) (by decide) rfl rfl (by exact Nat.le_of_ble_eq_true rfl) (by rfl) fun X => ?_
  unfold Desk_ahead at hy
  refine g_iload_n 1 (i := 1) (pc' := 1) d_Desk_ahead_0 rfl rfl rfl ?_
  replace hy := g_bx_inv hy
  rcases hy with ⟨x1, h2, hf3, hy⟩ | ⟨⟨E9, q9⟩, h2, hf3, ez5⟩
  rotate_left
  · subst ez5
    exact g_callSX (As := [.int p0]) (rest := []) 1 (T_Desk_checkTicks (hy := hf3)) d_Desk_ahead_1 q1714 q1715 q108 q1716 hd_Desk_checkTicks rfl ⟨by decide, by decide⟩ (by first | exact Nat.le_of_ble_eq_true rfl | (simp only [List.map, List.sum_cons, List.sum_nil, g_cat_rf]; exact Nat.le_of_ble_eq_true rfl) | (simp only [List.map, List.sum_cons, List.sum_nil, g_cat_rf, Value.category]; decide)) rfl rfl
  refine g_callS (rv := none) (h1 := h2) (pc' := 4) (As := [.int p0]) (rest := []) 1 (T_Desk_checkTicks (hy := hf3)) d_Desk_ahead_1 q1714 q1715 q108 q1716 hd_Desk_checkTicks rfl ⟨by decide, by decide⟩ (by first | exact Nat.le_of_ble_eq_true rfl | (simp only [List.map, List.sum_cons, List.sum_nil, g_cat_rf]; exact Nat.le_of_ble_eq_true rfl) | (simp only [List.map, List.sum_cons, List.sum_nil, g_cat_rf, Value.category]; decide)) rfl ?_
  refine g_iload_n 2 (i := 2) (pc' := 5) d_Desk_ahead_4 rfl rfl rfl ?_
  refine g_i2l (pc' := 6) d_Desk_ahead_5 rfl ?_
  refine g_lconst (v := 0) (pc' := 7) d_Desk_ahead_6 (by decide) rfl ?_
  refine g_ldc2 (pc' := 10) d_Desk_ahead_7 q1553 rfl ?_
  replace hy := g_b_inv hy
  obtain ⟨x6, hf8, hy⟩ := hy
  refine g_callS (rv := some (.int x6)) (h1 := h2) (pc' := 13) (As := [.long ((p1).toInt64), .long (0 : Int64), .long (3 : Int64)]) (rest := []) 3 (T_Desk_isBetween (hy := hf8)) d_Desk_ahead_10 q1330 q828 q108 q829 hd_Desk_isBetween rfl ⟨by decide, by decide⟩ (by first | exact Nat.le_of_ble_eq_true rfl | (simp only [List.map, List.sum_cons, List.sum_nil, g_cat_rf]; exact Nat.le_of_ble_eq_true rfl) | (simp only [List.map, List.sum_cons, List.sum_nil, g_cat_rf, Value.category]; decide)) rfl ?_
  replace hy := g_bx_inv hy
  rcases hy with ⟨x9, h10, hf11, hy⟩ | ⟨⟨E9, q9⟩, h10, hf11, ez13⟩
  rotate_left
  · subst ez13
    exact g_callSX (As := [.int x6]) (rest := []) 1 (T_Desk_checkArgument (hy := hf11)) d_Desk_ahead_13 q1331 q1332 q108 q1333 hd_Desk_checkArgument rfl ⟨by decide, by decide⟩ (by first | exact Nat.le_of_ble_eq_true rfl | (simp only [List.map, List.sum_cons, List.sum_nil, g_cat_rf]; exact Nat.le_of_ble_eq_true rfl) | (simp only [List.map, List.sum_cons, List.sum_nil, g_cat_rf, Value.category]; decide)) rfl rfl
  refine g_callS (rv := none) (h1 := h10) (pc' := 16) (As := [.int x6]) (rest := []) 1 (T_Desk_checkArgument (hy := hf11)) d_Desk_ahead_13 q1331 q1332 q108 q1333 hd_Desk_checkArgument rfl ⟨by decide, by decide⟩ (by first | exact Nat.le_of_ble_eq_true rfl | (simp only [List.map, List.sum_cons, List.sum_nil, g_cat_rf]; exact Nat.le_of_ble_eq_true rfl) | (simp only [List.map, List.sum_cons, List.sum_nil, g_cat_rf, Value.category]; decide)) rfl ?_
  refine g_aload_n 0 (i := 0) (pc' := 17) d_Desk_ahead_16 rfl rfl rfl ?_
  replace hy := g_gR_inv hy
  obtain ⟨fs14, x15, hc16, hv17, hy⟩ := hy
  refine g_getf (pc' := 20) d_Desk_ahead_17 hc16 rfl (by decide) hv17 q642 (Or.inl rfl) rfl ?_
  replace hy := g_nn_inv hy
  obtain ⟨a18, rfl, hy⟩ := hy
  replace hy := g_is_inv hy
  obtain ⟨fs19, hc20, hy⟩ := hy
  replace hy := g_b2_inv hy
  obtain ⟨x21, h22, hf23, hy⟩ := hy
  refine g_callV (rv := some (va_rf x21)) (h1 := h22) (pc' := 23) (As := []) (rest := []) 0 (T_Net_copy (hy := hf23)) d_Desk_ahead_20 hc20 rfl rfl q1886 q1887 q1888 q109 q1889 hd_Net_copy rfl ⟨by decide, by decide⟩ (by first | exact Nat.le_of_ble_eq_true rfl | (simp only [List.map, List.sum_cons, List.sum_nil, g_cat_rf]; exact Nat.le_of_ble_eq_true rfl) | (simp only [List.map, List.sum_cons, List.sum_nil, g_cat_rf, Value.category]; decide)) rfl ?_
  refine g_astoreO_n (i := 3) (pc' := 24) (Lc' := [(3, va_rf x21), (0, .ref this), (1, .int p0), (2, .int p1)]) d_Desk_ahead_23 rfl (by decide) rfl rfl ?_
  refine g_aloadO_n 0 (i := 3) (pc' := 25) d_Desk_ahead_24 rfl rfl rfl ?_
  refine g_iload_n 2 (i := 1) (pc' := 26) d_Desk_ahead_25 rfl rfl rfl ?_
  replace hy := g_nn_inv hy
  obtain ⟨a24, rfl, hy⟩ := hy
  replace hy := g_is_inv hy
  obtain ⟨fs25, hc26, hy⟩ := hy
  replace hy := g_b_inv hy
  obtain ⟨h28, hf29, hy⟩ := hy
  refine g_callV (rv := none) (h1 := h28) (pc' := 29) (As := [.int p0]) (rest := []) 1 (T_Net_run (hy := hf29)) d_Desk_ahead_26 hc26 rfl rfl q1718 q1719 q1720 q109 q1721 hd_Net_run rfl ⟨by decide, by decide⟩ (by first | exact Nat.le_of_ble_eq_true rfl | (simp only [List.map, List.sum_cons, List.sum_nil, g_cat_rf]; exact Nat.le_of_ble_eq_true rfl) | (simp only [List.map, List.sum_cons, List.sum_nil, g_cat_rf, Value.category]; decide)) rfl ?_
  refine g_iload_n 3 (i := 2) (pc' := 30) d_Desk_ahead_29 rfl rfl rfl ?_
  by_cases c30 : p1 = (0 : Int32)
  · rw [if_pos c30] at hy
    refine g_tableIn (pc' := 56) (0 : Int32) d_Desk_ahead_30 c30 (by decide) rfl (by decide) ?_
    refine g_aload_n 0 (i := 3) (pc' := 57) d_Desk_ahead_56 rfl rfl rfl ?_
    replace hy := g_gI_inv hy
    obtain ⟨fs31, x32, hc33, hv34, hy⟩ := hy
    refine g_getfN (pc' := 60) d_Desk_ahead_57 hc33 rfl (by decide) hv34 q569 rfl rfl ?_
    refine g_aload_n 1 (i := 0) (pc' := 61) d_Desk_ahead_60 rfl rfl rfl ?_
    replace hy := g_gR_inv hy
    obtain ⟨fs35, x36, hc37, hv38, hy⟩ := hy
    refine g_getf (pc' := 64) d_Desk_ahead_61 hc37 rfl (by decide) hv38 q642 (Or.inl rfl) rfl ?_
    replace hy := g_nn_inv hy
    obtain ⟨a39, rfl, hy⟩ := hy
    replace hy := g_gI_inv hy
    obtain ⟨fs40, x41, hc42, hv43, hy⟩ := hy
    refine g_getfN (pc' := 67) d_Desk_ahead_64 hc42 rfl (by decide) hv43 q569 rfl rfl ?_
    refine g_isub (pc' := 68) d_Desk_ahead_67 rfl ?_
    refine g_goto (pc' := 113) d_Desk_ahead_68 (by decide) ?_
    cases hy
    exact g_iret rfl rfl rfl d_Desk_ahead_113
  · rw [if_neg c30] at hy
    by_cases c44 : p1 = (1 : Int32)
    · rw [if_pos c44] at hy
      refine g_tableIn (pc' := 71) (1 : Int32) d_Desk_ahead_30 c44 (by decide) rfl (by decide) ?_
      refine g_aload_n 0 (i := 3) (pc' := 72) d_Desk_ahead_71 rfl rfl rfl ?_
      replace hy := g_gI_inv hy
      obtain ⟨fs45, x46, hc47, hv48, hy⟩ := hy
      refine g_getfN (pc' := 75) d_Desk_ahead_72 hc47 rfl (by decide) hv48 q571 rfl rfl ?_
      refine g_aload_n 1 (i := 0) (pc' := 76) d_Desk_ahead_75 rfl rfl rfl ?_
      replace hy := g_gR_inv hy
      obtain ⟨fs49, x50, hc51, hv52, hy⟩ := hy
      refine g_getf (pc' := 79) d_Desk_ahead_76 hc51 rfl (by decide) hv52 q642 (Or.inl rfl) rfl ?_
      replace hy := g_nn_inv hy
      obtain ⟨a53, rfl, hy⟩ := hy
      replace hy := g_gI_inv hy
      obtain ⟨fs54, x55, hc56, hv57, hy⟩ := hy
      refine g_getfN (pc' := 82) d_Desk_ahead_79 hc56 rfl (by decide) hv57 q571 rfl rfl ?_
      refine g_isub (pc' := 83) d_Desk_ahead_82 rfl ?_
      refine g_goto (pc' := 113) d_Desk_ahead_83 (by decide) ?_
      cases hy
      exact g_iret rfl rfl rfl d_Desk_ahead_113
    · rw [if_neg c44] at hy
      by_cases c58 : p1 = (2 : Int32)
      · rw [if_pos c58] at hy
        refine g_tableIn (pc' := 86) (2 : Int32) d_Desk_ahead_30 c58 (by decide) rfl (by decide) ?_
        refine g_aload_n 0 (i := 3) (pc' := 87) d_Desk_ahead_86 rfl rfl rfl ?_
        replace hy := g_gI_inv hy
        obtain ⟨fs59, x60, hc61, hv62, hy⟩ := hy
        refine g_getfN (pc' := 90) d_Desk_ahead_87 hc61 rfl (by decide) hv62 q575 rfl rfl ?_
        refine g_aload_n 1 (i := 0) (pc' := 91) d_Desk_ahead_90 rfl rfl rfl ?_
        replace hy := g_gR_inv hy
        obtain ⟨fs63, x64, hc65, hv66, hy⟩ := hy
        refine g_getf (pc' := 94) d_Desk_ahead_91 hc65 rfl (by decide) hv66 q642 (Or.inl rfl) rfl ?_
        replace hy := g_nn_inv hy
        obtain ⟨a67, rfl, hy⟩ := hy
        replace hy := g_gI_inv hy
        obtain ⟨fs68, x69, hc70, hv71, hy⟩ := hy
        refine g_getfN (pc' := 97) d_Desk_ahead_94 hc70 rfl (by decide) hv71 q575 rfl rfl ?_
        refine g_isub (pc' := 98) d_Desk_ahead_97 rfl ?_
        refine g_goto (pc' := 113) d_Desk_ahead_98 (by decide) ?_
        cases hy
        exact g_iret rfl rfl rfl d_Desk_ahead_113
      · rw [if_neg c58] at hy
        have c30 := g_neI (n := 0) (by decide) c30
        have c44 := g_neI (n := 1) (by decide) c44
        have c58 := g_neI (n := 2) (by decide) c58
        refine g_tableOut (pc' := 101) d_Desk_ahead_30 (by omega) (by decide) ?_
        refine g_aload_n 0 (i := 3) (pc' := 102) d_Desk_ahead_101 rfl rfl rfl ?_
        replace hy := g_gI_inv hy
        obtain ⟨fs72, x73, hc74, hv75, hy⟩ := hy
        refine g_getfN (pc' := 105) d_Desk_ahead_102 hc74 rfl (by decide) hv75 q573 rfl rfl ?_
        refine g_aload_n 1 (i := 0) (pc' := 106) d_Desk_ahead_105 rfl rfl rfl ?_
        replace hy := g_gR_inv hy
        obtain ⟨fs76, x77, hc78, hv79, hy⟩ := hy
        refine g_getf (pc' := 109) d_Desk_ahead_106 hc78 rfl (by decide) hv79 q642 (Or.inl rfl) rfl ?_
        replace hy := g_nn_inv hy
        obtain ⟨a80, rfl, hy⟩ := hy
        replace hy := g_gI_inv hy
        obtain ⟨fs81, x82, hc83, hv84, hy⟩ := hy
        refine g_getfN (pc' := 112) d_Desk_ahead_109 hc83 rfl (by decide) hv84 q573 rfl rfl ?_
        refine g_isub (pc' := 113) d_Desk_ahead_112 rfl ?_
        cases hy
        exact g_iret rfl rfl rfl d_Desk_ahead_113
theorem hd_Desk_ahead : g_dsc y_Desk_ahead 2 := ⟨by decide +kernel, by decide +kernel, by decide +kernel⟩
/-! CircuitDesk.save(I)V -/
abbrev y_Desk_save : MethodName := ⟨"CircuitDesk", "save", "(I)V"⟩
abbrev k_Desk_save : g_M := (prog_1_method_52_code, 2, "CircuitDesk", 32, none, "save", [], 0)
theorem d_Desk_save_0 : decode prog_1_method_52_code 0 = .ok (.iload_n 1, 1) := by decide +kernel
theorem d_Desk_save_1 : decode prog_1_method_52_code 1 = .ok (.i2l, 1) := by decide +kernel
theorem d_Desk_save_2 : decode prog_1_method_52_code 2 = .ok (.lconst 0, 1) := by decide +kernel
theorem d_Desk_save_3 : decode prog_1_method_52_code 3 = .ok (.lconst 1, 1) := by decide +kernel
theorem d_Desk_save_4 : decode prog_1_method_52_code 4 = .ok (.invokestatic 54, 3) := by decide +kernel
theorem d_Desk_save_7 : decode prog_1_method_52_code 7 = .ok (.invokestatic 80, 3) := by decide +kernel
theorem d_Desk_save_10 : decode prog_1_method_52_code 10 = .ok (.aload_n 0, 1) := by decide +kernel
theorem d_Desk_save_11 : decode prog_1_method_52_code 11 = .ok (.getfield 32, 3) := by decide +kernel
theorem d_Desk_save_14 : decode prog_1_method_52_code 14 = .ok (.iload_n 1, 1) := by decide +kernel
theorem d_Desk_save_15 : decode prog_1_method_52_code 15 = .ok (.aload_n 0, 1) := by decide +kernel
theorem d_Desk_save_16 : decode prog_1_method_52_code 16 = .ok (.getfield 19, 3) := by decide +kernel
theorem d_Desk_save_19 : decode prog_1_method_52_code 19 = .ok (.invokevirtual 376, 3) := by decide +kernel
theorem d_Desk_save_22 : decode prog_1_method_52_code 22 = .ok (.aastore, 1) := by decide +kernel
theorem d_Desk_save_23 : decode prog_1_method_52_code 23 = .ok (.return_, 1) := by decide +kernel
def Desk_save (h : g_AH) (this : Nat) (p0 : Int32) : Option ((Unit ⊕ g_EX) × g_AH) :=
  g_b (Desk_isBetween ((p0).toInt64) (0 : Int64) (1 : Int64)) fun x1 => g_bx (Desk_checkArgument h x1) fun x4 h5 => g_gR h5 this 0 2 fun x10 => g_gR h5 this 0 0 fun x14 => g_nn x14 fun a17 => g_is h5 a17 1 <| g_b2 (Net_copy h5 a17) fun x20 h21 => g_nn x10 fun a23 => g_sA h21 7 a23 p0 x20 fun h29 => some (.inl (), h29)
set_option maxHeartbeats 4000000 in
set_option maxRecDepth 100000 in
theorem T_Desk_save {l : Launch} {B : g_B} (h : g_AH) (this : Nat) (p0 : Int32) (z : (Unit ⊕ g_EX) × g_AH) (hy : Desk_save h this p0 = some z) : g_CT l B y_Desk_save k_Desk_save [.ref this, .int p0] h (g_rV z.1) z.2 := by
  refine g_start2 (Lc := [(0, .ref this), (1, .int p0)]) (by decide) rfl rfl (by exact Nat.le_of_ble_eq_true rfl) (by rfl) fun X => ?_
  unfold Desk_save at hy
  refine g_iload_n 1 (i := 1) (pc' := 1) d_Desk_save_0 rfl rfl rfl ?_
  refine g_i2l (pc' := 2) d_Desk_save_1 rfl ?_
  refine g_lconst (v := 0) (pc' := 3) d_Desk_save_2 (by decide) rfl ?_
  refine g_lconst (v := 1) (pc' := 4) d_Desk_save_3 (by decide) rfl ?_
  replace hy := g_b_inv hy
  obtain ⟨x1, hf3, hy⟩ := hy
  refine g_callS (rv := some (.int x1)) (h1 := h) (pc' := 7) (As := [.long ((p0).toInt64), .long (0 : Int64), .long (1 : Int64)]) (rest := []) 3 (T_Desk_isBetween (hy := hf3)) d_Desk_save_4 q1330 q828 q108 q829 hd_Desk_isBetween rfl ⟨by decide, by decide⟩ (by first | exact Nat.le_of_ble_eq_true rfl | (simp only [List.map, List.sum_cons, List.sum_nil, g_cat_rf]; exact Nat.le_of_ble_eq_true rfl) | (simp only [List.map, List.sum_cons, List.sum_nil, g_cat_rf, Value.category]; decide)) rfl ?_
  replace hy := g_bx_inv hy
  rcases hy with ⟨x4, h5, hf6, hy⟩ | ⟨⟨E9, q9⟩, h5, hf6, ez8⟩
  rotate_left
  · subst ez8
    exact g_callSX (As := [.int x1]) (rest := []) 1 (T_Desk_checkArgument (hy := hf6)) d_Desk_save_7 q1331 q1332 q108 q1333 hd_Desk_checkArgument rfl ⟨by decide, by decide⟩ (by first | exact Nat.le_of_ble_eq_true rfl | (simp only [List.map, List.sum_cons, List.sum_nil, g_cat_rf]; exact Nat.le_of_ble_eq_true rfl) | (simp only [List.map, List.sum_cons, List.sum_nil, g_cat_rf, Value.category]; decide)) rfl rfl
  refine g_callS (rv := none) (h1 := h5) (pc' := 10) (As := [.int x1]) (rest := []) 1 (T_Desk_checkArgument (hy := hf6)) d_Desk_save_7 q1331 q1332 q108 q1333 hd_Desk_checkArgument rfl ⟨by decide, by decide⟩ (by first | exact Nat.le_of_ble_eq_true rfl | (simp only [List.map, List.sum_cons, List.sum_nil, g_cat_rf]; exact Nat.le_of_ble_eq_true rfl) | (simp only [List.map, List.sum_cons, List.sum_nil, g_cat_rf, Value.category]; decide)) rfl ?_
  refine g_aload_n 0 (i := 0) (pc' := 11) d_Desk_save_10 rfl rfl rfl ?_
  replace hy := g_gR_inv hy
  obtain ⟨fs9, x10, hc11, hv12, hy⟩ := hy
  refine g_getf (pc' := 14) d_Desk_save_11 hc11 rfl (by decide) hv12 q644 (Or.inl rfl) rfl ?_
  refine g_iload_n 1 (i := 1) (pc' := 15) d_Desk_save_14 rfl rfl rfl ?_
  refine g_aload_n 0 (i := 0) (pc' := 16) d_Desk_save_15 rfl rfl rfl ?_
  replace hy := g_gR_inv hy
  obtain ⟨fs13, x14, hc15, hv16, hy⟩ := hy
  refine g_getf (pc' := 19) d_Desk_save_16 hc15 rfl (by decide) hv16 q642 (Or.inl rfl) rfl ?_
  replace hy := g_nn_inv hy
  obtain ⟨a17, rfl, hy⟩ := hy
  replace hy := g_is_inv hy
  obtain ⟨fs18, hc19, hy⟩ := hy
  replace hy := g_b2_inv hy
  obtain ⟨x20, h21, hf22, hy⟩ := hy
  refine g_callV (rv := some (va_rf x20)) (h1 := h21) (pc' := 22) (As := []) (rest := [.int p0, va_rf x10]) 0 (T_Net_copy (hy := hf22)) d_Desk_save_19 hc19 rfl rfl q1886 q1887 q1888 q109 q1889 hd_Net_copy rfl ⟨by decide, by decide⟩ (by first | exact Nat.le_of_ble_eq_true rfl | (simp only [List.map, List.sum_cons, List.sum_nil, g_cat_rf]; exact Nat.le_of_ble_eq_true rfl) | (simp only [List.map, List.sum_cons, List.sum_nil, g_cat_rf, Value.category]; decide)) rfl ?_
  replace hy := g_nn_inv hy
  obtain ⟨a23, rfl, hy⟩ := hy
  replace hy := g_sA_inv hy
  obtain ⟨n24, f25, hc26, hi27, ho28, hy⟩ := hy
  refine g_aast (pc' := 23) d_Desk_save_22 hc26 (by decide) hi27 ho28 rfl ?_
  generalize g_up h21 a23 (.inl (7, n24, .inr (.inr (.inr (.inr (va_up f25 (p0).toNatClampNeg x20)))))) = h29 at hy ⊢
  cases hy
  exact g_vret rfl rfl rfl d_Desk_save_23
theorem hd_Desk_save : g_dsc y_Desk_save 1 := ⟨by decide +kernel, by decide +kernel, by decide +kernel⟩
/-! CircuitDesk.restore(I)V -/
abbrev y_Desk_restore : MethodName := ⟨"CircuitDesk", "restore", "(I)V"⟩
abbrev k_Desk_restore : g_M := (prog_1_method_53_code, 2, "CircuitDesk", 32, none, "restore", [], 0)
theorem d_Desk_restore_0 : decode prog_1_method_53_code 0 = .ok (.iload_n 1, 1) := by decide +kernel
theorem d_Desk_restore_1 : decode prog_1_method_53_code 1 = .ok (.i2l, 1) := by decide +kernel
theorem d_Desk_restore_2 : decode prog_1_method_53_code 2 = .ok (.lconst 0, 1) := by decide +kernel
theorem d_Desk_restore_3 : decode prog_1_method_53_code 3 = .ok (.lconst 1, 1) := by decide +kernel
theorem d_Desk_restore_4 : decode prog_1_method_53_code 4 = .ok (.invokestatic 54, 3) := by decide +kernel
theorem d_Desk_restore_7 : decode prog_1_method_53_code 7 = .ok (.invokestatic 80, 3) := by decide +kernel
theorem d_Desk_restore_10 : decode prog_1_method_53_code 10 = .ok (.aload_n 0, 1) := by decide +kernel
theorem d_Desk_restore_11 : decode prog_1_method_53_code 11 = .ok (.getfield 32, 3) := by decide +kernel
theorem d_Desk_restore_14 : decode prog_1_method_53_code 14 = .ok (.iload_n 1, 1) := by decide +kernel
theorem d_Desk_restore_15 : decode prog_1_method_53_code 15 = .ok (.aaload, 1) := by decide +kernel
theorem d_Desk_restore_16 : decode prog_1_method_53_code 16 = .ok (.ifnull 7, 3) := by decide +kernel
theorem d_Desk_restore_19 : decode prog_1_method_53_code 19 = .ok (.iconst 1, 1) := by decide +kernel
theorem d_Desk_restore_20 : decode prog_1_method_53_code 20 = .ok (.goto 4, 3) := by decide +kernel
theorem d_Desk_restore_23 : decode prog_1_method_53_code 23 = .ok (.iconst 0, 1) := by decide +kernel
theorem d_Desk_restore_24 : decode prog_1_method_53_code 24 = .ok (.invokestatic 83, 3) := by decide +kernel
theorem d_Desk_restore_27 : decode prog_1_method_53_code 27 = .ok (.aload_n 0, 1) := by decide +kernel
theorem d_Desk_restore_28 : decode prog_1_method_53_code 28 = .ok (.aload_n 0, 1) := by decide +kernel
theorem d_Desk_restore_29 : decode prog_1_method_53_code 29 = .ok (.getfield 32, 3) := by decide +kernel
theorem d_Desk_restore_32 : decode prog_1_method_53_code 32 = .ok (.iload_n 1, 1) := by decide +kernel
theorem d_Desk_restore_33 : decode prog_1_method_53_code 33 = .ok (.aaload, 1) := by decide +kernel
theorem d_Desk_restore_34 : decode prog_1_method_53_code 34 = .ok (.invokevirtual 376, 3) := by decide +kernel
theorem d_Desk_restore_37 : decode prog_1_method_53_code 37 = .ok (.putfield 19, 3) := by decide +kernel
theorem d_Desk_restore_40 : decode prog_1_method_53_code 40 = .ok (.aload_n 0, 1) := by decide +kernel
theorem d_Desk_restore_41 : decode prog_1_method_53_code 41 = .ok (.new 25, 3) := by decide +kernel
theorem d_Desk_restore_44 : decode prog_1_method_53_code 44 = .ok (.dup, 1) := by decide +kernel
theorem d_Desk_restore_45 : decode prog_1_method_53_code 45 = .ok (.invokespecial 27, 3) := by decide +kernel
theorem d_Desk_restore_48 : decode prog_1_method_53_code 48 = .ok (.putfield 28, 3) := by decide +kernel
theorem d_Desk_restore_51 : decode prog_1_method_53_code 51 = .ok (.return_, 1) := by decide +kernel
def Desk_restore_24 (h : g_AH) (v0 : Nat) (v1 : Int32) (s0 : Int32) : Option ((Unit ⊕ g_EX) × g_AH) :=
  g_bx (Desk_checkState h s0) fun x20 h21 => g_gR h21 v0 0 2 fun x26 => g_nn x26 fun a29 => g_aA h21 7 a29 v1 fun x30 => g_nn x30 fun a35 => g_is h21 a35 1 <| g_b2 (Net_copy h21 a35) fun x38 h39 => g_pF h39 v0 0 0 (va_rf x38) fun h44 => g_mk h44 (.inr (6, [.null, .null, .null, .int 0])) 4 fun a45 h46 => g_b (Way_init h46 a45) fun h48 => g_pF h48 v0 0 1 (.ref a45) fun h53 => some (.inl (), h53)
set_option maxHeartbeats 4000000 in
set_option maxRecDepth 100000 in
theorem W_Desk_restore_24 {X : g_X} (z : (Unit ⊕ g_EX) × g_AH) (h : g_AH) (v0 : Nat) (v1 : Int32) (s0 : Int32) (hy : Desk_restore_24  h v0 v1 s0 = some z) : G X k_Desk_restore (g_rV z.1) z.2 h 24 [(0, .ref v0), (1, .int v1)] [.int s0] := by
  unfold Desk_restore_24 at hy
  replace hy := g_bx_inv hy
  rcases hy with ⟨x20, h21, hf22, hy⟩ | ⟨⟨E9, q9⟩, h21, hf22, ez24⟩
  rotate_left
  · subst ez24
    exact g_callSX (As := [.int s0]) (rest := []) 1 (T_Desk_checkState (hy := hf22)) d_Desk_restore_24 q1298 q1299 q108 q1300 hd_Desk_checkState rfl ⟨by decide, by decide⟩ (by first | exact Nat.le_of_ble_eq_true rfl | (simp only [List.map, List.sum_cons, List.sum_nil, g_cat_rf]; exact Nat.le_of_ble_eq_true rfl) | (simp only [List.map, List.sum_cons, List.sum_nil, g_cat_rf, Value.category]; decide)) rfl rfl
  refine g_callS (rv := none) (h1 := h21) (pc' := 27) (As := [.int s0]) (rest := []) 1 (T_Desk_checkState (hy := hf22)) d_Desk_restore_24 q1298 q1299 q108 q1300 hd_Desk_checkState rfl ⟨by decide, by decide⟩ (by first | exact Nat.le_of_ble_eq_true rfl | (simp only [List.map, List.sum_cons, List.sum_nil, g_cat_rf]; exact Nat.le_of_ble_eq_true rfl) | (simp only [List.map, List.sum_cons, List.sum_nil, g_cat_rf, Value.category]; decide)) rfl ?_
  refine g_aload_n 0 (i := 0) (pc' := 28) d_Desk_restore_27 rfl rfl rfl ?_
  refine g_aload_n 0 (i := 0) (pc' := 29) d_Desk_restore_28 rfl rfl rfl ?_
  replace hy := g_gR_inv hy
  obtain ⟨fs25, x26, hc27, hv28, hy⟩ := hy
  refine g_getf (pc' := 32) d_Desk_restore_29 hc27 rfl (by decide) hv28 q644 (Or.inl rfl) rfl ?_
  refine g_iload_n 1 (i := 1) (pc' := 33) d_Desk_restore_32 rfl rfl rfl ?_
  replace hy := g_nn_inv hy
  obtain ⟨a29, rfl, hy⟩ := hy
  replace hy := g_aA_inv hy
  obtain ⟨n31, f32, hc33, hi34, hy⟩ := hy
  refine g_aald (pc' := 34) d_Desk_restore_33 hc33 (by decide) hi34 rfl ?_
  generalize f32 (v1).toNatClampNeg = x30 at hy ⊢
  replace hy := g_nn_inv hy
  obtain ⟨a35, rfl, hy⟩ := hy
  replace hy := g_is_inv hy
  obtain ⟨fs36, hc37, hy⟩ := hy
  replace hy := g_b2_inv hy
  obtain ⟨x38, h39, hf40, hy⟩ := hy
  refine g_callV (rv := some (va_rf x38)) (h1 := h39) (pc' := 37) (As := []) (rest := [.ref v0]) 0 (T_Net_copy (hy := hf40)) d_Desk_restore_34 hc37 rfl rfl q1886 q1887 q1888 q109 q1889 hd_Net_copy rfl ⟨by decide, by decide⟩ (by first | exact Nat.le_of_ble_eq_true rfl | (simp only [List.map, List.sum_cons, List.sum_nil, g_cat_rf]; exact Nat.le_of_ble_eq_true rfl) | (simp only [List.map, List.sum_cons, List.sum_nil, g_cat_rf, Value.category]; decide)) rfl ?_
  replace hy := g_pF_inv hy
  obtain ⟨fs41, hc42, hl43, hy⟩ := hy
  refine g_putf (pc' := 40) d_Desk_restore_37 hc42 rfl (by decide) hl43 rfl g_nar_rf g_fit_o q642 (Or.inl rfl) rfl ?_
  generalize g_up h39 v0 (.inr (0, fs41.set 0 (va_rf x38))) = h44 at hy ⊢
  refine g_aload_n 0 (i := 0) (pc' := 41) d_Desk_restore_40 rfl rfl rfl ?_
  replace hy := g_mk_inv hy
  refine g_new (ci := 6) (fs := [.null, .null, .null, .int 0]) (pc' := 44) d_Desk_restore_41 rfl q610 q611 q134 gdf_6 rfl ?_
  generalize g_al h44 (.inr (6, [.null, .null, .null, .int 0])) 4 = h46 at hy ⊢
  generalize g_n h44 = a45 at hy ⊢
  refine g_dup (pc' := 45) d_Desk_restore_44 rfl rfl ?_
  replace hy := g_b_inv hy
  obtain ⟨h48, hf49, hy⟩ := hy
  refine g_callIN (h1 := h48) (pc' := 48) (As := []) (rest := [.ref a45, .ref v0]) 0 (T_Way_init (hy := hf49)) d_Desk_restore_45 rfl rfl q612 q613 q134 q614 hd_Way_init rfl ⟨by decide, by decide⟩ (by first | exact Nat.le_of_ble_eq_true rfl | (simp only [List.map, List.sum_cons, List.sum_nil, g_cat_rf]; exact Nat.le_of_ble_eq_true rfl) | (simp only [List.map, List.sum_cons, List.sum_nil, g_cat_rf, Value.category]; decide)) rfl ?_
  replace hy := g_pF_inv hy
  obtain ⟨fs50, hc51, hl52, hy⟩ := hy
  refine g_putf (pc' := 51) d_Desk_restore_48 hc51 rfl (by decide) hl52 rfl rfl rfl q643 (Or.inl rfl) rfl ?_
  generalize g_up h48 v0 (.inr (0, fs50.set 1 (.ref a45))) = h53 at hy ⊢
  cases hy
  exact g_vret rfl rfl rfl d_Desk_restore_51
def Desk_restore (h : g_AH) (this : Nat) (p0 : Int32) : Option ((Unit ⊕ g_EX) × g_AH) :=
  g_b (Desk_isBetween ((p0).toInt64) (0 : Int64) (1 : Int64)) fun x1 => g_bx (Desk_checkArgument h x1) fun x4 h5 => g_gR h5 this 0 2 fun x10 => g_nn x10 fun a13 => g_aA h5 7 a13 p0 fun x14 => if x14 = none then (Desk_restore_24  h5 this p0 (0 : Int32)) else (Desk_restore_24  h5 this p0 (1 : Int32))
set_option maxHeartbeats 4000000 in
set_option maxRecDepth 100000 in
theorem T_Desk_restore {l : Launch} {B : g_B} (h : g_AH) (this : Nat) (p0 : Int32) (z : (Unit ⊕ g_EX) × g_AH) (hy : Desk_restore h this p0 = some z) : g_CT l B y_Desk_restore k_Desk_restore [.ref this, .int p0] h (g_rV z.1) z.2 := by
  refine g_start2 (Lc := [(0, .ref this), (1, .int p0)]) (by decide) rfl rfl (by exact Nat.le_of_ble_eq_true rfl) (by rfl) fun X => ?_
  unfold Desk_restore at hy
  refine g_iload_n 1 (i := 1) (pc' := 1) d_Desk_restore_0 rfl rfl rfl ?_
  refine g_i2l (pc' := 2) d_Desk_restore_1 rfl ?_
  refine g_lconst (v := 0) (pc' := 3) d_Desk_restore_2 (by decide) rfl ?_
  refine g_lconst (v := 1) (pc' := 4) d_Desk_restore_3 (by decide) rfl ?_
  replace hy := g_b_inv hy
  obtain ⟨x1, hf3, hy⟩ := hy
  refine g_callS (rv := some (.int x1)) (h1 := h) (pc' := 7) (As := [.long ((p0).toInt64), .long (0 : Int64), .long (1 : Int64)]) (rest := []) 3 (T_Desk_isBetween (hy := hf3)) d_Desk_restore_4 q1330 q828 q108 q829 hd_Desk_isBetween rfl ⟨by decide, by decide⟩ (by first | exact Nat.le_of_ble_eq_true rfl | (simp only [List.map, List.sum_cons, List.sum_nil, g_cat_rf]; exact Nat.le_of_ble_eq_true rfl) | (simp only [List.map, List.sum_cons, List.sum_nil, g_cat_rf, Value.category]; decide)) rfl ?_
  replace hy := g_bx_inv hy
  rcases hy with ⟨x4, h5, hf6, hy⟩ | ⟨⟨E9, q9⟩, h5, hf6, ez8⟩
  rotate_left
  · subst ez8
    exact g_callSX (As := [.int x1]) (rest := []) 1 (T_Desk_checkArgument (hy := hf6)) d_Desk_restore_7 q1331 q1332 q108 q1333 hd_Desk_checkArgument rfl ⟨by decide, by decide⟩ (by first | exact Nat.le_of_ble_eq_true rfl | (simp only [List.map, List.sum_cons, List.sum_nil, g_cat_rf]; exact Nat.le_of_ble_eq_true rfl) | (simp only [List.map, List.sum_cons, List.sum_nil, g_cat_rf, Value.category]; decide)) rfl rfl
  refine g_callS (rv := none) (h1 := h5) (pc' := 10) (As := [.int x1]) (rest := []) 1 (T_Desk_checkArgument (hy := hf6)) d_Desk_restore_7 q1331 q1332 q108 q1333 hd_Desk_checkArgument rfl ⟨by decide, by decide⟩ (by first | exact Nat.le_of_ble_eq_true rfl | (simp only [List.map, List.sum_cons, List.sum_nil, g_cat_rf]; exact Nat.le_of_ble_eq_true rfl) | (simp only [List.map, List.sum_cons, List.sum_nil, g_cat_rf, Value.category]; decide)) rfl ?_
  refine g_aload_n 0 (i := 0) (pc' := 11) d_Desk_restore_10 rfl rfl rfl ?_
  replace hy := g_gR_inv hy
  obtain ⟨fs9, x10, hc11, hv12, hy⟩ := hy
  refine g_getf (pc' := 14) d_Desk_restore_11 hc11 rfl (by decide) hv12 q644 (Or.inl rfl) rfl ?_
  refine g_iload_n 1 (i := 1) (pc' := 15) d_Desk_restore_14 rfl rfl rfl ?_
  replace hy := g_nn_inv hy
  obtain ⟨a13, rfl, hy⟩ := hy
  replace hy := g_aA_inv hy
  obtain ⟨n15, f16, hc17, hi18, hy⟩ := hy
  refine g_aald (pc' := 16) d_Desk_restore_15 hc17 (by decide) hi18 rfl ?_
  generalize f16 (p0).toNatClampNeg = x14 at hy ⊢
  by_cases c19 : x14 = none
  · rw [if_pos c19] at hy
    refine g_ifnullT (pc' := 23) d_Desk_restore_16 c19 (by decide) ?_
    refine g_iconst (v := (0 : Int32)) (pc' := 24) d_Desk_restore_23 (by decide) rfl ?_
    exact W_Desk_restore_24 _ _ _ _ _ hy
  · rw [if_neg c19] at hy
    refine g_ifnullF (pc' := 19) d_Desk_restore_16 c19 rfl ?_
    refine g_iconst (v := (1 : Int32)) (pc' := 20) d_Desk_restore_19 (by decide) rfl ?_
    refine g_goto (pc' := 24) d_Desk_restore_20 (by decide) ?_
    exact W_Desk_restore_24 _ _ _ _ _ hy
theorem hd_Desk_restore : g_dsc y_Desk_restore 1 := ⟨by decide +kernel, by decide +kernel, by decide +kernel⟩
/-! CircuitDesk.<init>()V -/
abbrev y_Desk_init : MethodName := ⟨"CircuitDesk", "<init>", "()V"⟩
abbrev k_Desk_init : g_M := (prog_1_method_5_code, 1, "CircuitDesk", 31, none, "<init>", [], 0)
theorem d_Desk_init_0 : decode prog_1_method_5_code 0 = .ok (.aload_n 0, 1) := by decide +kernel
theorem d_Desk_init_1 : decode prog_1_method_5_code 1 = .ok (.invokespecial 13, 3) := by decide +kernel
theorem d_Desk_init_4 : decode prog_1_method_5_code 4 = .ok (.aload_n 0, 1) := by decide +kernel
theorem d_Desk_init_5 : decode prog_1_method_5_code 5 = .ok (.new 16, 3) := by decide +kernel
theorem d_Desk_init_8 : decode prog_1_method_5_code 8 = .ok (.dup, 1) := by decide +kernel
theorem d_Desk_init_9 : decode prog_1_method_5_code 9 = .ok (.invokespecial 18, 3) := by decide +kernel
theorem d_Desk_init_12 : decode prog_1_method_5_code 12 = .ok (.putfield 19, 3) := by decide +kernel
theorem d_Desk_init_15 : decode prog_1_method_5_code 15 = .ok (.aload_n 0, 1) := by decide +kernel
theorem d_Desk_init_16 : decode prog_1_method_5_code 16 = .ok (.new 25, 3) := by decide +kernel
theorem d_Desk_init_19 : decode prog_1_method_5_code 19 = .ok (.dup, 1) := by decide +kernel
theorem d_Desk_init_20 : decode prog_1_method_5_code 20 = .ok (.invokespecial 27, 3) := by decide +kernel
theorem d_Desk_init_23 : decode prog_1_method_5_code 23 = .ok (.putfield 28, 3) := by decide +kernel
theorem d_Desk_init_26 : decode prog_1_method_5_code 26 = .ok (.aload_n 0, 1) := by decide +kernel
theorem d_Desk_init_27 : decode prog_1_method_5_code 27 = .ok (.iconst 2, 1) := by decide +kernel
theorem d_Desk_init_28 : decode prog_1_method_5_code 28 = .ok (.anewarray 16, 3) := by decide +kernel
theorem d_Desk_init_31 : decode prog_1_method_5_code 31 = .ok (.putfield 32, 3) := by decide +kernel
theorem d_Desk_init_34 : decode prog_1_method_5_code 34 = .ok (.aload_n 0, 1) := by decide +kernel
theorem d_Desk_init_35 : decode prog_1_method_5_code 35 = .ok (.sipush 800, 3) := by decide +kernel
theorem d_Desk_init_38 : decode prog_1_method_5_code 38 = .ok (.newarray .byte, 2) := by decide +kernel
theorem d_Desk_init_40 : decode prog_1_method_5_code 40 = .ok (.putfield 36, 3) := by decide +kernel
theorem d_Desk_init_43 : decode prog_1_method_5_code 43 = .ok (.aload_n 0, 1) := by decide +kernel
theorem d_Desk_init_44 : decode prog_1_method_5_code 44 = .ok (.iconst (-1), 1) := by decide +kernel
theorem d_Desk_init_45 : decode prog_1_method_5_code 45 = .ok (.putfield 40, 3) := by decide +kernel
theorem d_Desk_init_48 : decode prog_1_method_5_code 48 = .ok (.return_, 1) := by decide +kernel
def Desk_init (h : g_AH) (this : Nat) : Option g_AH :=
  g_mk h (.inr (1, [.null, .null, .null, .null, .null, .null, .int 0, .int 0, .int 0, .int 0, .int 0, .int 0, .int 0, .int 0])) 14 fun a1 h2 => g_b (Net_init h2 a1) fun h4 => g_pF h4 this 0 0 (.ref a1) fun h9 => g_mk h9 (.inr (6, [.null, .null, .null, .int 0])) 4 fun a10 h11 => g_b (Way_init h11 a10) fun h13 => g_pF h13 this 0 1 (.ref a10) fun h18 => g_mkQ h18 7 (2 : Int32) fun a19 h20 => g_pF h20 this 0 2 (.ref a19) fun h26 => g_mkA h26 2 (800 : Int32) fun a27 h28 => g_pF h28 this 0 3 (.ref a27) fun h34 => g_pF h34 this 0 6 (.int (-1 : Int32)) fun h38 => some h38
set_option maxHeartbeats 4000000 in
set_option maxRecDepth 100000 in
theorem T_Desk_init {l : Launch} {B : g_B} (h : g_AH) (this : Nat) (z : g_AH) (hy : Desk_init h this = some z) : g_CT l B y_Desk_init k_Desk_init [.ref this] h (.inl none) z := by
  refine g_start2 (Lc := [(0, .ref this)]) (by decide) rfl rfl (by exact Nat.le_of_ble_eq_true rfl) (by rfl) fun X => ?_
  unfold Desk_init at hy
  refine g_aload_n 0 (i := 0) (pc' := 1) d_Desk_init_0 rfl rfl rfl ?_
  refine g_objInit (pc' := 4) d_Desk_init_1 q153 (by first | exact Nat.le_of_ble_eq_true rfl | (simp only [List.map, List.sum_cons, List.sum_nil, g_cat_rf]; exact Nat.le_of_ble_eq_true rfl) | (simp only [List.map, List.sum_cons, List.sum_nil, g_cat_rf, Value.category]; decide)) (by decide) rfl ?_
  refine g_aload_n 0 (i := 0) (pc' := 5) d_Desk_init_4 rfl rfl rfl ?_
  replace hy := g_mk_inv hy
  refine g_new (ci := 1) (fs := [.null, .null, .null, .null, .null, .null, .int 0, .int 0, .int 0, .int 0, .int 0, .int 0, .int 0, .int 0]) (pc' := 8) d_Desk_init_5 rfl q156 q157 q109 gdf_1 rfl ?_
  generalize g_al h (.inr (1, [.null, .null, .null, .null, .null, .null, .int 0, .int 0, .int 0, .int 0, .int 0, .int 0, .int 0, .int 0])) 14 = h2 at hy ⊢
  generalize g_n h = a1 at hy ⊢
  refine g_dup (pc' := 9) d_Desk_init_8 rfl rfl ?_
  replace hy := g_b_inv hy
  obtain ⟨h4, hf5, hy⟩ := hy
  refine g_callIN (h1 := h4) (pc' := 12) (As := []) (rest := [.ref a1, .ref this]) 0 (T_Net_init (hy := hf5)) d_Desk_init_9 rfl rfl q158 q159 q109 q160 hd_Net_init rfl ⟨by decide, by decide⟩ (by first | exact Nat.le_of_ble_eq_true rfl | (simp only [List.map, List.sum_cons, List.sum_nil, g_cat_rf]; exact Nat.le_of_ble_eq_true rfl) | (simp only [List.map, List.sum_cons, List.sum_nil, g_cat_rf, Value.category]; decide)) rfl ?_
  replace hy := g_pF_inv hy
  obtain ⟨fs6, hc7, hl8, hy⟩ := hy
  refine g_putf (pc' := 15) d_Desk_init_12 hc7 rfl (by decide) hl8 rfl rfl rfl q642 (Or.inl rfl) rfl ?_
  generalize g_up h4 this (.inr (0, fs6.set 0 (.ref a1))) = h9 at hy ⊢
  refine g_aload_n 0 (i := 0) (pc' := 16) d_Desk_init_15 rfl rfl rfl ?_
  replace hy := g_mk_inv hy
  refine g_new (ci := 6) (fs := [.null, .null, .null, .int 0]) (pc' := 19) d_Desk_init_16 rfl q610 q611 q134 gdf_6 rfl ?_
  generalize g_al h9 (.inr (6, [.null, .null, .null, .int 0])) 4 = h11 at hy ⊢
  generalize g_n h9 = a10 at hy ⊢
  refine g_dup (pc' := 20) d_Desk_init_19 rfl rfl ?_
  replace hy := g_b_inv hy
  obtain ⟨h13, hf14, hy⟩ := hy
  refine g_callIN (h1 := h13) (pc' := 23) (As := []) (rest := [.ref a10, .ref this]) 0 (T_Way_init (hy := hf14)) d_Desk_init_20 rfl rfl q612 q613 q134 q614 hd_Way_init rfl ⟨by decide, by decide⟩ (by first | exact Nat.le_of_ble_eq_true rfl | (simp only [List.map, List.sum_cons, List.sum_nil, g_cat_rf]; exact Nat.le_of_ble_eq_true rfl) | (simp only [List.map, List.sum_cons, List.sum_nil, g_cat_rf, Value.category]; decide)) rfl ?_
  replace hy := g_pF_inv hy
  obtain ⟨fs15, hc16, hl17, hy⟩ := hy
  refine g_putf (pc' := 26) d_Desk_init_23 hc16 rfl (by decide) hl17 rfl rfl rfl q643 (Or.inl rfl) rfl ?_
  generalize g_up h13 this (.inr (0, fs15.set 1 (.ref a10))) = h18 at hy ⊢
  refine g_aload_n 0 (i := 0) (pc' := 27) d_Desk_init_26 rfl rfl rfl ?_
  refine g_iconst (v := (2 : Int32)) (pc' := 28) d_Desk_init_27 (by decide) rfl ?_
  replace hy := g_mkQ_inv hy
  obtain ⟨hn21, hb22, hy⟩ := hy
  refine g_anew (t := 7) (C := "CircuitDesk$Net") (pc' := 31) d_Desk_init_28 q156 (fun _ => rfl) (by decide) hn21 hb22 rfl ?_
  generalize g_al h18 (.inl (7, ((2 : Int32)).toNatClampNeg, .inr (.inr (.inr (.inr (fun _ => none)))))) ((2 : Int32)).toNatClampNeg = h20 at hy ⊢
  generalize g_n h18 = a19 at hy ⊢
  replace hy := g_pF_inv hy
  obtain ⟨fs23, hc24, hl25, hy⟩ := hy
  refine g_putfF (pc' := 34) d_Desk_init_31 rfl hc24 rfl (by decide) hl25 rfl rfl rfl rfl q644 rfl rfl ?_
  generalize g_up h20 this (.inr (0, fs23.set 2 (.ref a19))) = h26 at hy ⊢
  refine g_aload_n 0 (i := 0) (pc' := 35) d_Desk_init_34 rfl rfl rfl ?_
  refine g_sipush (v := (800 : Int32)) (pc' := 38) d_Desk_init_35 (by decide) rfl ?_
  replace hy := g_mkA_inv hy
  obtain ⟨hn29, hb30, hy⟩ := hy
  refine g_newa2 (pc' := 40) d_Desk_init_38 hn29 hb30 rfl ?_
  generalize g_al h26 (.inl (2, ((800 : Int32)).toNatClampNeg, .inl (fun _ => 0))) ((800 : Int32)).toNatClampNeg = h28 at hy ⊢
  generalize g_n h26 = a27 at hy ⊢
  replace hy := g_pF_inv hy
  obtain ⟨fs31, hc32, hl33, hy⟩ := hy
  refine g_putfF (pc' := 43) d_Desk_init_40 rfl hc32 rfl (by decide) hl33 rfl rfl rfl rfl q646 rfl rfl ?_
  generalize g_up h28 this (.inr (0, fs31.set 3 (.ref a27))) = h34 at hy ⊢
  refine g_aload_n 0 (i := 0) (pc' := 44) d_Desk_init_43 rfl rfl rfl ?_
  refine g_iconst (v := (-1 : Int32)) (pc' := 45) d_Desk_init_44 (by decide) rfl ?_
  replace hy := g_pF_inv hy
  obtain ⟨fs35, hc36, hl37, hy⟩ := hy
  refine g_putf (pc' := 48) d_Desk_init_45 hc36 rfl (by decide) hl37 rfl rfl rfl q649 (Or.inl rfl) rfl ?_
  generalize g_up h34 this (.inr (0, fs35.set 6 (.int (-1 : Int32)))) = h38 at hy ⊢
  cases hy
  exact g_vret rfl rfl rfl d_Desk_init_48
theorem hd_Desk_init : g_dsc y_Desk_init 0 := ⟨by decide +kernel, by decide +kernel, by decide +kernel⟩
/-! CircuitDesk.clearDraft()I -/
abbrev y_Desk_clearDraft : MethodName := ⟨"CircuitDesk", "clearDraft", "()I"⟩
abbrev k_Desk_clearDraft : g_M := (prog_1_method_23_code, 2, "CircuitDesk", 14, (some FieldType.int), "clearDraft", [], 0)
theorem d_Desk_clearDraft_0 : decode prog_1_method_23_code 0 = .ok (.aload_n 0, 1) := by decide +kernel
theorem d_Desk_clearDraft_1 : decode prog_1_method_23_code 1 = .ok (.getfield 28, 3) := by decide +kernel
theorem d_Desk_clearDraft_4 : decode prog_1_method_23_code 4 = .ok (.getfield 186, 3) := by decide +kernel
theorem d_Desk_clearDraft_7 : decode prog_1_method_23_code 7 = .ok (.istore_n 1, 1) := by decide +kernel
theorem d_Desk_clearDraft_8 : decode prog_1_method_23_code 8 = .ok (.aload_n 0, 1) := by decide +kernel
theorem d_Desk_clearDraft_9 : decode prog_1_method_23_code 9 = .ok (.new 25, 3) := by decide +kernel
theorem d_Desk_clearDraft_12 : decode prog_1_method_23_code 12 = .ok (.dup, 1) := by decide +kernel
theorem d_Desk_clearDraft_13 : decode prog_1_method_23_code 13 = .ok (.invokespecial 27, 3) := by decide +kernel
theorem d_Desk_clearDraft_16 : decode prog_1_method_23_code 16 = .ok (.putfield 28, 3) := by decide +kernel
theorem d_Desk_clearDraft_19 : decode prog_1_method_23_code 19 = .ok (.iload_n 1, 1) := by decide +kernel
theorem d_Desk_clearDraft_20 : decode prog_1_method_23_code 20 = .ok (.ireturn, 1) := by decide +kernel
def Desk_clearDraft (h : g_AH) (this : Nat) : Option (Int32 × g_AH) :=
  g_gR h this 0 1 fun x2 => g_nn x2 fun a5 => g_gI h a5 6 3 fun x7 => g_mk h (.inr (6, [.null, .null, .null, .int 0])) 4 fun a10 h11 => g_b (Way_init h11 a10) fun h13 => g_pF h13 this 0 1 (.ref a10) fun h18 => some (x7, h18)
set_option maxHeartbeats 4000000 in
set_option maxRecDepth 100000 in
theorem T_Desk_clearDraft {l : Launch} {B : g_B} (h : g_AH) (this : Nat) (z : Int32 × g_AH) (hy : Desk_clearDraft h this = some z) : g_CT l B y_Desk_clearDraft k_Desk_clearDraft [.ref this] h (.inl (some (.int z.1))) z.2 := by
  refine g_start2 (Lc := [(0, .ref this)]) (by decide) rfl rfl (by exact Nat.le_of_ble_eq_true rfl) (by rfl) fun X => ?_
  unfold Desk_clearDraft at hy
  refine g_aload_n 0 (i := 0) (pc' := 1) d_Desk_clearDraft_0 rfl rfl rfl ?_
  replace hy := g_gR_inv hy
  obtain ⟨fs1, x2, hc3, hv4, hy⟩ := hy
  refine g_getf (pc' := 4) d_Desk_clearDraft_1 hc3 rfl (by decide) hv4 q643 (Or.inl rfl) rfl ?_
  replace hy := g_nn_inv hy
  obtain ⟨a5, rfl, hy⟩ := hy
  replace hy := g_gI_inv hy
  obtain ⟨fs6, x7, hc8, hv9, hy⟩ := hy
  refine g_getfN (pc' := 7) d_Desk_clearDraft_4 hc8 rfl (by decide) hv9 q631 rfl rfl ?_
  refine g_istore_n (i := 1) (pc' := 8) (Lc' := [(1, .int x7), (0, .ref this)]) d_Desk_clearDraft_7 rfl (by decide) rfl rfl ?_
  refine g_aload_n 1 (i := 0) (pc' := 9) d_Desk_clearDraft_8 rfl rfl rfl ?_
  replace hy := g_mk_inv hy
  refine g_new (ci := 6) (fs := [.null, .null, .null, .int 0]) (pc' := 12) d_Desk_clearDraft_9 rfl q610 q611 q134 gdf_6 rfl ?_
  generalize g_al h (.inr (6, [.null, .null, .null, .int 0])) 4 = h11 at hy ⊢
  generalize g_n h = a10 at hy ⊢
  refine g_dup (pc' := 13) d_Desk_clearDraft_12 rfl rfl ?_
  replace hy := g_b_inv hy
  obtain ⟨h13, hf14, hy⟩ := hy
  refine g_callIN (h1 := h13) (pc' := 16) (As := []) (rest := [.ref a10, .ref this]) 0 (T_Way_init (hy := hf14)) d_Desk_clearDraft_13 rfl rfl q612 q613 q134 q614 hd_Way_init rfl ⟨by decide, by decide⟩ (by first | exact Nat.le_of_ble_eq_true rfl | (simp only [List.map, List.sum_cons, List.sum_nil, g_cat_rf]; exact Nat.le_of_ble_eq_true rfl) | (simp only [List.map, List.sum_cons, List.sum_nil, g_cat_rf, Value.category]; decide)) rfl ?_
  replace hy := g_pF_inv hy
  obtain ⟨fs15, hc16, hl17, hy⟩ := hy
  refine g_putf (pc' := 19) d_Desk_clearDraft_16 hc16 rfl (by decide) hl17 rfl rfl rfl q643 (Or.inl rfl) rfl ?_
  generalize g_up h13 this (.inr (0, fs15.set 1 (.ref a10))) = h18 at hy ⊢
  refine g_iload_n 0 (i := 1) (pc' := 20) d_Desk_clearDraft_19 rfl rfl rfl ?_
  cases hy
  exact g_iret rfl rfl rfl d_Desk_clearDraft_20
theorem hd_Desk_clearDraft : g_dsc y_Desk_clearDraft 0 := ⟨by decide +kernel, by decide +kernel, by decide +kernel⟩
/-! CircuitDesk.usage()F -/
abbrev y_Desk_usage : MethodName := ⟨"CircuitDesk", "usage", "()F"⟩
abbrev k_Desk_usage : g_M := (prog_1_method_41_code, 4, "CircuitDesk", 17, (some FieldType.float), "usage", [], 0)
theorem d_Desk_usage_0 : decode prog_1_method_41_code 0 = .ok (.iconst 0, 1) := by decide +kernel
theorem d_Desk_usage_1 : decode prog_1_method_41_code 1 = .ok (.istore_n 1, 1) := by decide +kernel
theorem d_Desk_usage_2 : decode prog_1_method_41_code 2 = .ok (.iconst 0, 1) := by decide +kernel
theorem d_Desk_usage_3 : decode prog_1_method_41_code 3 = .ok (.istore_n 2, 1) := by decide +kernel
theorem d_Desk_usage_4 : decode prog_1_method_41_code 4 = .ok (.iconst 0, 1) := by decide +kernel
theorem d_Desk_usage_5 : decode prog_1_method_41_code 5 = .ok (.istore_n 3, 1) := by decide +kernel
theorem d_Desk_usage_6 : decode prog_1_method_41_code 6 = .ok (.iload_n 3, 1) := by decide +kernel
theorem d_Desk_usage_7 : decode prog_1_method_41_code 7 = .ok (.aload_n 0, 1) := by decide +kernel
theorem d_Desk_usage_8 : decode prog_1_method_41_code 8 = .ok (.getfield 19, 3) := by decide +kernel
theorem d_Desk_usage_11 : decode prog_1_method_41_code 11 = .ok (.getfield 68, 3) := by decide +kernel
theorem d_Desk_usage_14 : decode prog_1_method_41_code 14 = .ok (.invokevirtual 48, 3) := by decide +kernel
theorem d_Desk_usage_17 : decode prog_1_method_41_code 17 = .ok (.if_icmp .ge 41, 3) := by decide +kernel
theorem d_Desk_usage_20 : decode prog_1_method_41_code 20 = .ok (.iload_n 1, 1) := by decide +kernel
theorem d_Desk_usage_21 : decode prog_1_method_41_code 21 = .ok (.aload_n 0, 1) := by decide +kernel
theorem d_Desk_usage_22 : decode prog_1_method_41_code 22 = .ok (.getfield 19, 3) := by decide +kernel
theorem d_Desk_usage_25 : decode prog_1_method_41_code 25 = .ok (.iload_n 3, 1) := by decide +kernel
theorem d_Desk_usage_26 : decode prog_1_method_41_code 26 = .ok (.iconst (-1), 1) := by decide +kernel
theorem d_Desk_usage_27 : decode prog_1_method_41_code 27 = .ok (.invokevirtual 232, 3) := by decide +kernel
theorem d_Desk_usage_30 : decode prog_1_method_41_code 30 = .ok (.iadd, 1) := by decide +kernel
theorem d_Desk_usage_31 : decode prog_1_method_41_code 31 = .ok (.istore_n 1, 1) := by decide +kernel
theorem d_Desk_usage_32 : decode prog_1_method_41_code 32 = .ok (.iload_n 2, 1) := by decide +kernel
theorem d_Desk_usage_33 : decode prog_1_method_41_code 33 = .ok (.aload_n 0, 1) := by decide +kernel
theorem d_Desk_usage_34 : decode prog_1_method_41_code 34 = .ok (.getfield 19, 3) := by decide +kernel
theorem d_Desk_usage_37 : decode prog_1_method_41_code 37 = .ok (.getfield 68, 3) := by decide +kernel
theorem d_Desk_usage_40 : decode prog_1_method_41_code 40 = .ok (.iload_n 3, 1) := by decide +kernel
theorem d_Desk_usage_41 : decode prog_1_method_41_code 41 = .ok (.invokevirtual 62, 3) := by decide +kernel
theorem d_Desk_usage_44 : decode prog_1_method_41_code 44 = .ok (.checkcast 71, 3) := by decide +kernel
theorem d_Desk_usage_47 : decode prog_1_method_41_code 47 = .ok (.getfield 226, 3) := by decide +kernel
theorem d_Desk_usage_50 : decode prog_1_method_41_code 50 = .ok (.iadd, 1) := by decide +kernel
theorem d_Desk_usage_51 : decode prog_1_method_41_code 51 = .ok (.istore_n 2, 1) := by decide +kernel
theorem d_Desk_usage_52 : decode prog_1_method_41_code 52 = .ok (.iinc 3 1, 3) := by decide +kernel
theorem d_Desk_usage_55 : decode prog_1_method_41_code 55 = .ok (.goto (-49), 3) := by decide +kernel
theorem d_Desk_usage_58 : decode prog_1_method_41_code 58 = .ok (.iload_n 2, 1) := by decide +kernel
theorem d_Desk_usage_59 : decode prog_1_method_41_code 59 = .ok (.ifCond .ne 7, 3) := by decide +kernel
theorem d_Desk_usage_62 : decode prog_1_method_41_code 62 = .ok (.fconst 0, 1) := by decide +kernel
theorem d_Desk_usage_63 : decode prog_1_method_41_code 63 = .ok (.goto 8, 3) := by decide +kernel
theorem d_Desk_usage_66 : decode prog_1_method_41_code 66 = .ok (.iload_n 1, 1) := by decide +kernel
theorem d_Desk_usage_67 : decode prog_1_method_41_code 67 = .ok (.i2f, 1) := by decide +kernel
theorem d_Desk_usage_68 : decode prog_1_method_41_code 68 = .ok (.iload_n 2, 1) := by decide +kernel
theorem d_Desk_usage_69 : decode prog_1_method_41_code 69 = .ok (.i2f, 1) := by decide +kernel
theorem d_Desk_usage_70 : decode prog_1_method_41_code 70 = .ok (.fdiv, 1) := by decide +kernel
theorem d_Desk_usage_71 : decode prog_1_method_41_code 71 = .ok (.freturn, 1) := by decide +kernel
def Desk_usage_6 (h : g_AH)  : Nat → Nat → Int32 → Int32 → Int32 → Option (UInt32)
  | 0, _, _, _, _ => none
  | n + 1, v0, v1, v2, v3 => g_gR h v0 0 0 fun x2 => g_nn x2 fun a5 => g_gR h a5 1 2 fun x7 => g_nn x7 fun a10 => g_is h a10 15 <| g_b (ArrayList_size h a10) fun x13 => if x13 ≤ v3 then (if v2 = 0 then (some FP.fconst0) else (g_rq ((FP.fdiv (FP.i2f v1) (FP.i2f v2)) &&& (0x7fffffff : UInt32) ≤ (0x7f800000 : UInt32)) <| some (FP.fdiv (FP.i2f v1) (FP.i2f v2)))) else (g_gR h v0 0 0 fun x20 => g_nn x20 fun a23 => g_is h a23 1 <| g_b (Net_reserved h a23 v3 (-1 : Int32)) fun x26 => g_gR h v0 0 0 fun x30 => g_nn x30 fun a33 => g_gR h a33 1 2 fun x35 => g_nn x35 fun a38 => g_is h a38 15 <| g_b (ArrayList_get h a38 v3) fun x41 => g_ck h x41 11 <| g_nn x41 fun a45 => g_gI h a45 11 2 fun x47 => (Desk_usage_6 h  n) v0 (v1 + x26) (v2 + x47) (v3 + (1 : Int32)))
set_option maxHeartbeats 4000000 in
set_option maxRecDepth 100000 in
theorem W_Desk_usage_6 {X : g_X} (h : g_AH) (z : UInt32)  : ∀ (n : Nat) (v0 : Nat) (v1 : Int32) (v2 : Int32) (v3 : Int32), Desk_usage_6 h  n v0 v1 v2 v3 = some z → G X k_Desk_usage (.inl (some (.float z))) h h 6 [(0, .ref v0), (1, .int v1), (2, .int v2), (3, .int v3)] [] := by
  intro n
  induction n with
  | zero => intro v0 v1 v2 v3 hy; exact absurd hy (by simp [Desk_usage_6])
  | succ n ih =>
    intro v0 v1 v2 v3 hy
    rw [Desk_usage_6] at hy
    refine g_iload_n 3 (i := 3) (pc' := 7) d_Desk_usage_6 rfl rfl rfl ?_
    refine g_aload_n 0 (i := 0) (pc' := 8) d_Desk_usage_7 rfl rfl rfl ?_
    replace hy := g_gR_inv hy
    obtain ⟨fs1, x2, hc3, hv4, hy⟩ := hy
    refine g_getf (pc' := 11) d_Desk_usage_8 hc3 rfl (by decide) hv4 q642 (Or.inl rfl) rfl ?_
    replace hy := g_nn_inv hy
    obtain ⟨a5, rfl, hy⟩ := hy
    replace hy := g_gR_inv hy
    obtain ⟨fs6, x7, hc8, hv9, hy⟩ := hy
    refine g_getfN (pc' := 14) d_Desk_usage_11 hc8 rfl (by decide) hv9 q553 rfl rfl ?_
    replace hy := g_nn_inv hy
    obtain ⟨a10, rfl, hy⟩ := hy
    replace hy := g_is_inv hy
    obtain ⟨fs11, hc12, hy⟩ := hy
    replace hy := g_b_inv hy
    obtain ⟨x13, hf15, hy⟩ := hy
    refine g_callV (rv := some (.int x13)) (h1 := h) (pc' := 17) (As := []) (rest := [.int v3]) 0 (T_ArrayList_size (hy := hf15)) d_Desk_usage_14 hc12 rfl rfl q673 q674 q675 q112 q676 hd_ArrayList_size rfl ⟨by decide, by decide⟩ (by first | exact Nat.le_of_ble_eq_true rfl | (simp only [List.map, List.sum_cons, List.sum_nil, g_cat_rf]; exact Nat.le_of_ble_eq_true rfl) | (simp only [List.map, List.sum_cons, List.sum_nil, g_cat_rf, Value.category]; decide)) rfl ?_
    by_cases c16 : x13 ≤ v3
    · rw [if_pos c16] at hy
      refine g_icmp_geT (pc' := 58) d_Desk_usage_17 c16 (by decide) ?_
      refine g_iload_n 2 (i := 2) (pc' := 59) d_Desk_usage_58 rfl rfl rfl ?_
      by_cases c17 : v2 = 0
      · rw [if_pos c17] at hy
        refine g_if_neF (pc' := 62) d_Desk_usage_59 66 c17 (by decide) rfl ?_
        refine g_fconst0 (pc' := 63) d_Desk_usage_62 rfl ?_
        refine g_goto (pc' := 71) d_Desk_usage_63 (by decide) ?_
        cases hy
        exact g_fret rfl rfl rfl d_Desk_usage_71
      · rw [if_neg c17] at hy
        refine g_if_neT (pc' := 66) d_Desk_usage_59 c17 (by decide) ?_
        refine g_iload_n 1 (i := 1) (pc' := 67) d_Desk_usage_66 rfl rfl rfl ?_
        refine g_i2f (pc' := 68) d_Desk_usage_67 rfl ?_
        refine g_iload_n 2 (i := 2) (pc' := 69) d_Desk_usage_68 rfl rfl rfl ?_
        refine g_i2f (pc' := 70) d_Desk_usage_69 rfl ?_
        replace hy := g_rq_inv hy
        obtain ⟨c18, hy⟩ := hy
        refine g_fdiv (pc' := 71) d_Desk_usage_70 c18 rfl ?_
        cases hy
        exact g_fret rfl rfl rfl d_Desk_usage_71
    · rw [if_neg c16] at hy
      refine g_icmp_geF (pc' := 20) d_Desk_usage_17 58 c16 (by decide) rfl ?_
      refine g_iload_n 1 (i := 1) (pc' := 21) d_Desk_usage_20 rfl rfl rfl ?_
      refine g_aload_n 0 (i := 0) (pc' := 22) d_Desk_usage_21 rfl rfl rfl ?_
      replace hy := g_gR_inv hy
      obtain ⟨fs19, x20, hc21, hv22, hy⟩ := hy
      refine g_getf (pc' := 25) d_Desk_usage_22 hc21 rfl (by decide) hv22 q642 (Or.inl rfl) rfl ?_
      refine g_iload_n 3 (i := 3) (pc' := 26) d_Desk_usage_25 rfl rfl rfl ?_
      refine g_iconst (v := (-1 : Int32)) (pc' := 27) d_Desk_usage_26 (by decide) rfl ?_
      replace hy := g_nn_inv hy
      obtain ⟨a23, rfl, hy⟩ := hy
      replace hy := g_is_inv hy
      obtain ⟨fs24, hc25, hy⟩ := hy
      replace hy := g_b_inv hy
      obtain ⟨x26, hf28, hy⟩ := hy
      refine g_callV (rv := some (.int x26)) (h1 := h) (pc' := 30) (As := [.int v3, .int (-1 : Int32)]) (rest := [.int v1]) 2 (T_Net_reserved (hy := hf28)) d_Desk_usage_27 hc25 rfl rfl q677 q678 q679 q109 q680 hd_Net_reserved rfl ⟨by decide, by decide⟩ (by first | exact Nat.le_of_ble_eq_true rfl | (simp only [List.map, List.sum_cons, List.sum_nil, g_cat_rf]; exact Nat.le_of_ble_eq_true rfl) | (simp only [List.map, List.sum_cons, List.sum_nil, g_cat_rf, Value.category]; decide)) rfl ?_
      refine g_iadd (pc' := 31) d_Desk_usage_30 rfl ?_
      refine g_istore_n (i := 1) (pc' := 32) (Lc' := [(1, .int (v1 + x26)), (0, .ref v0), (2, .int v2), (3, .int v3)]) d_Desk_usage_31 rfl (by decide) rfl rfl ?_
      refine g_iload_n 2 (i := 2) (pc' := 33) d_Desk_usage_32 rfl rfl rfl ?_
      refine g_aload_n 1 (i := 0) (pc' := 34) d_Desk_usage_33 rfl rfl rfl ?_
      replace hy := g_gR_inv hy
      obtain ⟨fs29, x30, hc31, hv32, hy⟩ := hy
      refine g_getf (pc' := 37) d_Desk_usage_34 hc31 rfl (by decide) hv32 q642 (Or.inl rfl) rfl ?_
      replace hy := g_nn_inv hy
      obtain ⟨a33, rfl, hy⟩ := hy
      replace hy := g_gR_inv hy
      obtain ⟨fs34, x35, hc36, hv37, hy⟩ := hy
      refine g_getfN (pc' := 40) d_Desk_usage_37 hc36 rfl (by decide) hv37 q553 rfl rfl ?_
      refine g_iload_n 3 (i := 3) (pc' := 41) d_Desk_usage_40 rfl rfl rfl ?_
      replace hy := g_nn_inv hy
      obtain ⟨a38, rfl, hy⟩ := hy
      replace hy := g_is_inv hy
      obtain ⟨fs39, hc40, hy⟩ := hy
      replace hy := g_b_inv hy
      obtain ⟨x41, hf43, hy⟩ := hy
      refine g_callV (rv := some (va_rf x41)) (h1 := h) (pc' := 44) (As := [.int v3]) (rest := [.int v2]) 1 (T_ArrayList_get (hy := hf43)) d_Desk_usage_41 hc40 rfl rfl q706 q683 q684 q112 q685 hd_ArrayList_get rfl ⟨by decide, by decide⟩ (by first | exact Nat.le_of_ble_eq_true rfl | (simp only [List.map, List.sum_cons, List.sum_nil, g_cat_rf]; exact Nat.le_of_ble_eq_true rfl) | (simp only [List.map, List.sum_cons, List.sum_nil, g_cat_rf, Value.category]; decide)) rfl ?_
      replace hy := g_ck_inv hy
      obtain ⟨hk44, hy⟩ := hy
      refine g_castO (pc' := 47) d_Desk_usage_44 hk44 rfl q707 rfl ?_
      replace hy := g_nn_inv hy
      obtain ⟨a45, rfl, hy⟩ := hy
      replace hy := g_gI_inv hy
      obtain ⟨fs46, x47, hc48, hv49, hy⟩ := hy
      refine g_getfN (pc' := 50) d_Desk_usage_47 hc48 rfl (by decide) hv49 q1115 rfl rfl ?_
      refine g_iadd (pc' := 51) d_Desk_usage_50 rfl ?_
      refine g_istore_n (i := 2) (pc' := 52) (Lc' := [(2, .int (v2 + x47)), (1, .int (v1 + x26)), (0, .ref v0), (3, .int v3)]) d_Desk_usage_51 rfl (by decide) rfl rfl ?_
      refine g_iinc 3 (v := (v3 + (1 : Int32))) (pc' := 55) (Lc' := [(3, .int (v3 + (1 : Int32))), (2, .int (v2 + x47)), (1, .int (v1 + x26)), (0, .ref v0)]) d_Desk_usage_52 rfl rfl (by decide) rfl rfl ?_
      refine g_goto (pc' := 6) d_Desk_usage_55 (by decide) ?_
      refine g_sub [3, 2, 1, 0] rfl ?_
      exact ih _ _ _ _ hy
def Desk_usage (h : g_AH) (this : Nat) : Option (UInt32) :=
  Desk_usage_6 h  gFU this (0 : Int32) (0 : Int32) (0 : Int32)
set_option maxHeartbeats 4000000 in
set_option maxRecDepth 100000 in
theorem T_Desk_usage {l : Launch} {B : g_B} (h : g_AH) (this : Nat) (z : UInt32) (hy : Desk_usage h this = some z) : g_CT l B y_Desk_usage k_Desk_usage [.ref this] h (.inl (some (.float z))) h := by
  refine g_start2 (Lc := [(0, .ref this)]) (by decide) rfl rfl (by exact Nat.le_of_ble_eq_true rfl) (by rfl) fun X => ?_
  unfold Desk_usage at hy
  refine g_iconst (v := (0 : Int32)) (pc' := 1) d_Desk_usage_0 (by decide) rfl ?_
  refine g_istore_n (i := 1) (pc' := 2) (Lc' := [(1, .int (0 : Int32)), (0, .ref this)]) d_Desk_usage_1 rfl (by decide) rfl rfl ?_
  refine g_iconst (v := (0 : Int32)) (pc' := 3) d_Desk_usage_2 (by decide) rfl ?_
  refine g_istore_n (i := 2) (pc' := 4) (Lc' := [(2, .int (0 : Int32)), (1, .int (0 : Int32)), (0, .ref this)]) d_Desk_usage_3 rfl (by decide) rfl rfl ?_
  refine g_iconst (v := (0 : Int32)) (pc' := 5) d_Desk_usage_4 (by decide) rfl ?_
  refine g_istore_n (i := 3) (pc' := 6) (Lc' := [(3, .int (0 : Int32)), (2, .int (0 : Int32)), (1, .int (0 : Int32)), (0, .ref this)]) d_Desk_usage_5 rfl (by decide) rfl rfl ?_
  refine g_sub [3, 2, 1, 0] rfl ?_
  exact W_Desk_usage_6 _ _ _ _ _ _ _ hy
theorem hd_Desk_usage : g_dsc y_Desk_usage 0 := ⟨by decide +kernel, by decide +kernel, by decide +kernel⟩
/-! CircuitDesk.cutsOff(II)Z -/
abbrev y_Desk_cutsOff : MethodName := ⟨"CircuitDesk", "cutsOff", "(II)Z"⟩
abbrev k_Desk_cutsOff : g_M := (prog_1_method_45_code, 4, "CircuitDesk", 26, (some FieldType.boolean), "cutsOff", [], 0)
theorem d_Desk_cutsOff_0 : decode prog_1_method_45_code 0 = .ok (.aload_n 0, 1) := by decide +kernel
theorem d_Desk_cutsOff_1 : decode prog_1_method_45_code 1 = .ok (.getfield 19, 3) := by decide +kernel
theorem d_Desk_cutsOff_4 : decode prog_1_method_45_code 4 = .ok (.getfield 73, 3) := by decide +kernel
theorem d_Desk_cutsOff_7 : decode prog_1_method_45_code 7 = .ok (.iload_n 2, 1) := by decide +kernel
theorem d_Desk_cutsOff_8 : decode prog_1_method_45_code 8 = .ok (.invokevirtual 62, 3) := by decide +kernel
theorem d_Desk_cutsOff_11 : decode prog_1_method_45_code 11 = .ok (.checkcast 76, 3) := by decide +kernel
theorem d_Desk_cutsOff_14 : decode prog_1_method_45_code 14 = .ok (.astore_n 3, 1) := by decide +kernel
theorem d_Desk_cutsOff_15 : decode prog_1_method_45_code 15 = .ok (.aload_n 0, 1) := by decide +kernel
theorem d_Desk_cutsOff_16 : decode prog_1_method_45_code 16 = .ok (.getfield 19, 3) := by decide +kernel
theorem d_Desk_cutsOff_19 : decode prog_1_method_45_code 19 = .ok (.aload_n 3, 1) := by decide +kernel
theorem d_Desk_cutsOff_20 : decode prog_1_method_45_code 20 = .ok (.invokevirtual 315, 3) := by decide +kernel
theorem d_Desk_cutsOff_23 : decode prog_1_method_45_code 23 = .ok (.iload_n 1, 1) := by decide +kernel
theorem d_Desk_cutsOff_24 : decode prog_1_method_45_code 24 = .ok (.invokevirtual 383, 3) := by decide +kernel
theorem d_Desk_cutsOff_27 : decode prog_1_method_45_code 27 = .ok (.ifCond .eq 39, 3) := by decide +kernel
theorem d_Desk_cutsOff_30 : decode prog_1_method_45_code 30 = .ok (.aload_n 0, 1) := by decide +kernel
theorem d_Desk_cutsOff_31 : decode prog_1_method_45_code 31 = .ok (.getfield 19, 3) := by decide +kernel
theorem d_Desk_cutsOff_34 : decode prog_1_method_45_code 34 = .ok (.aload_n 3, 1) := by decide +kernel
theorem d_Desk_cutsOff_35 : decode prog_1_method_45_code 35 = .ok (.getfield 274, 3) := by decide +kernel
theorem d_Desk_cutsOff_38 : decode prog_1_method_45_code 38 = .ok (.getfield 257, 3) := by decide +kernel
theorem d_Desk_cutsOff_41 : decode prog_1_method_45_code 41 = .ok (.iconst 0, 1) := by decide +kernel
theorem d_Desk_cutsOff_42 : decode prog_1_method_45_code 42 = .ok (.iaload, 1) := by decide +kernel
theorem d_Desk_cutsOff_43 : decode prog_1_method_45_code 43 = .ok (.aload_n 3, 1) := by decide +kernel
theorem d_Desk_cutsOff_44 : decode prog_1_method_45_code 44 = .ok (.getfield 274, 3) := by decide +kernel
theorem d_Desk_cutsOff_47 : decode prog_1_method_45_code 47 = .ok (.invokevirtual 243, 3) := by decide +kernel
theorem d_Desk_cutsOff_50 : decode prog_1_method_45_code 50 = .ok (.aload_n 3, 1) := by decide +kernel
theorem d_Desk_cutsOff_51 : decode prog_1_method_45_code 51 = .ok (.getfield 277, 3) := by decide +kernel
theorem d_Desk_cutsOff_54 : decode prog_1_method_45_code 54 = .ok (.iload_n 2, 1) := by decide +kernel
theorem d_Desk_cutsOff_55 : decode prog_1_method_45_code 55 = .ok (.iload_n 1, 1) := by decide +kernel
theorem d_Desk_cutsOff_56 : decode prog_1_method_45_code 56 = .ok (.invokevirtual 253, 3) := by decide +kernel
theorem d_Desk_cutsOff_59 : decode prog_1_method_45_code 59 = .ok (.ifnonnull 7, 3) := by decide +kernel
theorem d_Desk_cutsOff_62 : decode prog_1_method_45_code 62 = .ok (.iconst 1, 1) := by decide +kernel
theorem d_Desk_cutsOff_63 : decode prog_1_method_45_code 63 = .ok (.goto 4, 3) := by decide +kernel
theorem d_Desk_cutsOff_66 : decode prog_1_method_45_code 66 = .ok (.iconst 0, 1) := by decide +kernel
theorem d_Desk_cutsOff_67 : decode prog_1_method_45_code 67 = .ok (.ireturn, 1) := by decide +kernel
def Desk_cutsOff (h : g_AH) (this : Nat) (p0 : Int32) (p1 : Int32) : Option (Int32 × g_AH) :=
  g_gR h this 0 0 fun x2 => g_nn x2 fun a5 => g_gR h a5 1 3 fun x7 => g_nn x7 fun a10 => g_is h a10 15 <| g_b (ArrayList_get h a10 p1) fun x13 => g_ck h x13 12 <| g_gR h this 0 0 fun x18 => g_nn x13 fun a21 => g_is h a21 12 <| g_b (Circuit_active h a21) fun x24 => g_nn x18 fun a27 => g_is h a27 1 <| g_b (Net_uses h a27 x24 p0) fun x30 => if x30 = 0 then (some ((0 : Int32), h)) else (g_gR h this 0 0 fun x36 => g_gR h a21 12 2 fun x40 => g_nn x40 fun a43 => g_gR h a43 6 0 fun x45 => g_nn x45 fun a48 => g_aI h 0 a48 (0 : Int32) fun x49 => g_gR h a21 12 2 fun x55 => g_nn x55 fun a58 => g_is h a58 6 <| g_b (Way_last h a58) fun x61 => g_gI h a21 12 0 fun x65 => g_nn x36 fun a68 => g_is h a68 1 <| g_b2 (Net_best h a68 x49 x61 x65 p1 p0) fun x71 h72 => if x71 = none then (some ((1 : Int32), h72)) else (some ((0 : Int32), h72)))
set_option maxHeartbeats 4000000 in
set_option maxRecDepth 100000 in
theorem T_Desk_cutsOff {l : Launch} {B : g_B} (h : g_AH) (this : Nat) (p0 : Int32) (p1 : Int32) (z : Int32 × g_AH) (hy : Desk_cutsOff h this p0 p1 = some z) : g_CT l B y_Desk_cutsOff k_Desk_cutsOff [.ref this, .int p0, .int p1] h (.inl (some (.int z.1))) z.2 := by
  refine g_start2 (Lc := [(0, .ref this), (1, .int p0), (2, .int p1)]) (by decide) rfl rfl (by exact Nat.le_of_ble_eq_true rfl) (by rfl) fun X => ?_
  unfold Desk_cutsOff at hy
  refine g_aload_n 0 (i := 0) (pc' := 1) d_Desk_cutsOff_0 rfl rfl rfl ?_
  replace hy := g_gR_inv hy
  obtain ⟨fs1, x2, hc3, hv4, hy⟩ := hy
  refine g_getf (pc' := 4) d_Desk_cutsOff_1 hc3 rfl (by decide) hv4 q642 (Or.inl rfl) rfl ?_
  replace hy := g_nn_inv hy
  obtain ⟨a5, rfl, hy⟩ := hy
  replace hy := g_gR_inv hy
  obtain ⟨fs6, x7, hc8, hv9, hy⟩ := hy
  refine g_getfN (pc' := 7) d_Desk_cutsOff_4 hc8 rfl (by decide) hv9 q559 rfl rfl ?_
  refine g_iload_n 2 (i := 2) (pc' := 8) d_Desk_cutsOff_7 rfl rfl rfl ?_
  replace hy := g_nn_inv hy
  obtain ⟨a10, rfl, hy⟩ := hy
  replace hy := g_is_inv hy
  obtain ⟨fs11, hc12, hy⟩ := hy
  replace hy := g_b_inv hy
  obtain ⟨x13, hf15, hy⟩ := hy
  refine g_callV (rv := some (va_rf x13)) (h1 := h) (pc' := 11) (As := [.int p1]) (rest := []) 1 (T_ArrayList_get (hy := hf15)) d_Desk_cutsOff_8 hc12 rfl rfl q706 q683 q684 q112 q685 hd_ArrayList_get rfl ⟨by decide, by decide⟩ (by first | exact Nat.le_of_ble_eq_true rfl | (simp only [List.map, List.sum_cons, List.sum_nil, g_cat_rf]; exact Nat.le_of_ble_eq_true rfl) | (simp only [List.map, List.sum_cons, List.sum_nil, g_cat_rf, Value.category]; decide)) rfl ?_
  replace hy := g_ck_inv hy
  obtain ⟨hk16, hy⟩ := hy
  refine g_castO (pc' := 14) d_Desk_cutsOff_11 hk16 rfl q716 rfl ?_
  refine g_astoreO_n (i := 3) (pc' := 15) (Lc' := [(3, va_rf x13), (0, .ref this), (1, .int p0), (2, .int p1)]) d_Desk_cutsOff_14 rfl (by decide) rfl rfl ?_
  refine g_aload_n 1 (i := 0) (pc' := 16) d_Desk_cutsOff_15 rfl rfl rfl ?_
  replace hy := g_gR_inv hy
  obtain ⟨fs17, x18, hc19, hv20, hy⟩ := hy
  refine g_getf (pc' := 19) d_Desk_cutsOff_16 hc19 rfl (by decide) hv20 q642 (Or.inl rfl) rfl ?_
  refine g_aloadO_n 0 (i := 3) (pc' := 20) d_Desk_cutsOff_19 rfl rfl rfl ?_
  replace hy := g_nn_inv hy
  obtain ⟨a21, rfl, hy⟩ := hy
  replace hy := g_is_inv hy
  obtain ⟨fs22, hc23, hy⟩ := hy
  replace hy := g_b_inv hy
  obtain ⟨x24, hf26, hy⟩ := hy
  refine g_callV (rv := some (va_rf x24)) (h1 := h) (pc' := 23) (As := []) (rest := [va_rf x18]) 0 (T_Circuit_active (hy := hf26)) d_Desk_cutsOff_20 hc23 rfl rfl q717 q718 q719 q142 q720 hd_Circuit_active rfl ⟨by decide, by decide⟩ (by first | exact Nat.le_of_ble_eq_true rfl | (simp only [List.map, List.sum_cons, List.sum_nil, g_cat_rf]; exact Nat.le_of_ble_eq_true rfl) | (simp only [List.map, List.sum_cons, List.sum_nil, g_cat_rf, Value.category]; decide)) rfl ?_
  refine g_iload_n 2 (i := 1) (pc' := 24) d_Desk_cutsOff_23 rfl rfl rfl ?_
  replace hy := g_nn_inv hy
  obtain ⟨a27, rfl, hy⟩ := hy
  replace hy := g_is_inv hy
  obtain ⟨fs28, hc29, hy⟩ := hy
  replace hy := g_b_inv hy
  obtain ⟨x30, hf32, hy⟩ := hy
  refine g_callV (rv := some (.int x30)) (h1 := h) (pc' := 27) (As := [va_rf x24, .int p0]) (rest := []) 2 (T_Net_uses (hy := hf32)) d_Desk_cutsOff_24 hc29 rfl rfl q721 q698 q699 q109 q700 hd_Net_uses rfl ⟨by decide, by decide⟩ (by first | exact Nat.le_of_ble_eq_true rfl | (simp only [List.map, List.sum_cons, List.sum_nil, g_cat_rf]; exact Nat.le_of_ble_eq_true rfl) | (simp only [List.map, List.sum_cons, List.sum_nil, g_cat_rf, Value.category]; decide)) rfl ?_
  by_cases c33 : x30 = 0
  · rw [if_pos c33] at hy
    refine g_if_eqT (pc' := 66) d_Desk_cutsOff_27 c33 (by decide) ?_
    refine g_iconst (v := (0 : Int32)) (pc' := 67) d_Desk_cutsOff_66 (by decide) rfl ?_
    cases hy
    exact g_zret rfl rfl rfl (g_nar_z (Or.inl rfl)).1 d_Desk_cutsOff_67
  · rw [if_neg c33] at hy
    refine g_if_eqF (pc' := 30) d_Desk_cutsOff_27 66 c33 (by decide) rfl ?_
    refine g_aload_n 1 (i := 0) (pc' := 31) d_Desk_cutsOff_30 rfl rfl rfl ?_
    replace hy := g_gR_inv hy
    obtain ⟨fs35, x36, hc37, hv38, hy⟩ := hy
    refine g_getf (pc' := 34) d_Desk_cutsOff_31 hc37 rfl (by decide) hv38 q642 (Or.inl rfl) rfl ?_
    refine g_aload_n 0 (i := 3) (pc' := 35) d_Desk_cutsOff_34 rfl rfl rfl ?_
    replace hy := g_gR_inv hy
    obtain ⟨fs39, x40, hc41, hv42, hy⟩ := hy
    refine g_getfN (pc' := 38) d_Desk_cutsOff_35 hc41 rfl (by decide) hv42 q1157 rfl rfl ?_
    replace hy := g_nn_inv hy
    obtain ⟨a43, rfl, hy⟩ := hy
    replace hy := g_gR_inv hy
    obtain ⟨fs44, x45, hc46, hv47, hy⟩ := hy
    refine g_getfN (pc' := 41) d_Desk_cutsOff_38 hc46 rfl (by decide) hv47 q618 rfl rfl ?_
    refine g_iconst (v := (0 : Int32)) (pc' := 42) d_Desk_cutsOff_41 (by decide) rfl ?_
    replace hy := g_nn_inv hy
    obtain ⟨a48, rfl, hy⟩ := hy
    replace hy := g_aI_inv hy
    obtain ⟨n50, f51, hc52, hi53, hy⟩ := hy
    refine g_iald (pc' := 43) d_Desk_cutsOff_42 hc52 hi53 rfl ?_
    generalize f51 ((0 : Int32)).toNatClampNeg = x49 at hy ⊢
    refine g_aload_n 0 (i := 3) (pc' := 44) d_Desk_cutsOff_43 rfl rfl rfl ?_
    replace hy := g_gR_inv hy
    obtain ⟨fs54, x55, hc56, hv57, hy⟩ := hy
    refine g_getfN (pc' := 47) d_Desk_cutsOff_44 hc56 rfl (by decide) hv57 q1157 rfl rfl ?_
    replace hy := g_nn_inv hy
    obtain ⟨a58, rfl, hy⟩ := hy
    replace hy := g_is_inv hy
    obtain ⟨fs59, hc60, hy⟩ := hy
    replace hy := g_b_inv hy
    obtain ⟨x61, hf63, hy⟩ := hy
    refine g_callV (rv := some (.int x61)) (h1 := h) (pc' := 50) (As := []) (rest := [.int x49, va_rf x36]) 0 (T_Way_last (hy := hf63)) d_Desk_cutsOff_47 hc60 rfl rfl q722 q723 q724 q134 q725 hd_Way_last rfl ⟨by decide, by decide⟩ (by first | exact Nat.le_of_ble_eq_true rfl | (simp only [List.map, List.sum_cons, List.sum_nil, g_cat_rf]; exact Nat.le_of_ble_eq_true rfl) | (simp only [List.map, List.sum_cons, List.sum_nil, g_cat_rf, Value.category]; decide)) rfl ?_
    refine g_aload_n 0 (i := 3) (pc' := 51) d_Desk_cutsOff_50 rfl rfl rfl ?_
    replace hy := g_gI_inv hy
    obtain ⟨fs64, x65, hc66, hv67, hy⟩ := hy
    refine g_getfN (pc' := 54) d_Desk_cutsOff_51 hc66 rfl (by decide) hv67 q1148 rfl rfl ?_
    refine g_iload_n 3 (i := 2) (pc' := 55) d_Desk_cutsOff_54 rfl rfl rfl ?_
    refine g_iload_n 2 (i := 1) (pc' := 56) d_Desk_cutsOff_55 rfl rfl rfl ?_
    replace hy := g_nn_inv hy
    obtain ⟨a68, rfl, hy⟩ := hy
    replace hy := g_is_inv hy
    obtain ⟨fs69, hc70, hy⟩ := hy
    replace hy := g_b2_inv hy
    obtain ⟨x71, h72, hf73, hy⟩ := hy
    refine g_callV (rv := some (va_rf x71)) (h1 := h72) (pc' := 59) (As := [.int x49, .int x61, .int x65, .int p1, .int p0]) (rest := []) 5 (T_Net_best (hy := hf73)) d_Desk_cutsOff_56 hc70 rfl rfl q726 q727 q728 q109 q729 hd_Net_best rfl ⟨by decide, by decide⟩ (by first | exact Nat.le_of_ble_eq_true rfl | (simp only [List.map, List.sum_cons, List.sum_nil, g_cat_rf]; exact Nat.le_of_ble_eq_true rfl) | (simp only [List.map, List.sum_cons, List.sum_nil, g_cat_rf, Value.category]; decide)) rfl ?_
    by_cases c74 : x71 = none
    · rw [if_pos c74] at hy
      refine g_ifnonnullF (pc' := 62) d_Desk_cutsOff_59 c74 rfl ?_
      refine g_iconst (v := (1 : Int32)) (pc' := 63) d_Desk_cutsOff_62 (by decide) rfl ?_
      refine g_goto (pc' := 67) d_Desk_cutsOff_63 (by decide) ?_
      cases hy
      exact g_zret rfl rfl rfl (g_nar_z (Or.inr rfl)).1 d_Desk_cutsOff_67
    · rw [if_neg c74] at hy
      refine g_ifnonnullT (pc' := 66) d_Desk_cutsOff_59 c74 (by decide) ?_
      refine g_iconst (v := (0 : Int32)) (pc' := 67) d_Desk_cutsOff_66 (by decide) rfl ?_
      cases hy
      exact g_zret rfl rfl rfl (g_nar_z (Or.inl rfl)).1 d_Desk_cutsOff_67
theorem hd_Desk_cutsOff : g_dsc y_Desk_cutsOff 2 := ⟨by decide +kernel, by decide +kernel, by decide +kernel⟩
/-! CircuitDesk.weakLink()I -/
abbrev y_Desk_weakLink : MethodName := ⟨"CircuitDesk", "weakLink", "()I"⟩
abbrev k_Desk_weakLink : g_M := (prog_1_method_46_code, 6, "CircuitDesk", 27, (some FieldType.int), "weakLink", [], 0)
theorem d_Desk_weakLink_0 : decode prog_1_method_46_code 0 = .ok (.iconst (-1), 1) := by decide +kernel
theorem d_Desk_weakLink_1 : decode prog_1_method_46_code 1 = .ok (.istore_n 1, 1) := by decide +kernel
theorem d_Desk_weakLink_2 : decode prog_1_method_46_code 2 = .ok (.iconst 0, 1) := by decide +kernel
theorem d_Desk_weakLink_3 : decode prog_1_method_46_code 3 = .ok (.istore_n 2, 1) := by decide +kernel
theorem d_Desk_weakLink_4 : decode prog_1_method_46_code 4 = .ok (.iconst 0, 1) := by decide +kernel
theorem d_Desk_weakLink_5 : decode prog_1_method_46_code 5 = .ok (.istore_n 3, 1) := by decide +kernel
theorem d_Desk_weakLink_6 : decode prog_1_method_46_code 6 = .ok (.iload_n 3, 1) := by decide +kernel
theorem d_Desk_weakLink_7 : decode prog_1_method_46_code 7 = .ok (.aload_n 0, 1) := by decide +kernel
theorem d_Desk_weakLink_8 : decode prog_1_method_46_code 8 = .ok (.getfield 19, 3) := by decide +kernel
theorem d_Desk_weakLink_11 : decode prog_1_method_46_code 11 = .ok (.getfield 68, 3) := by decide +kernel
theorem d_Desk_weakLink_14 : decode prog_1_method_46_code 14 = .ok (.invokevirtual 48, 3) := by decide +kernel
theorem d_Desk_weakLink_17 : decode prog_1_method_46_code 17 = .ok (.if_icmp .ge 75, 3) := by decide +kernel
theorem d_Desk_weakLink_20 : decode prog_1_method_46_code 20 = .ok (.iconst 0, 1) := by decide +kernel
theorem d_Desk_weakLink_21 : decode prog_1_method_46_code 21 = .ok (.istore 4, 2) := by decide +kernel
theorem d_Desk_weakLink_23 : decode prog_1_method_46_code 23 = .ok (.iconst 0, 1) := by decide +kernel
theorem d_Desk_weakLink_24 : decode prog_1_method_46_code 24 = .ok (.istore 5, 2) := by decide +kernel
theorem d_Desk_weakLink_26 : decode prog_1_method_46_code 26 = .ok (.iload 5, 2) := by decide +kernel
theorem d_Desk_weakLink_28 : decode prog_1_method_46_code 28 = .ok (.aload_n 0, 1) := by decide +kernel
theorem d_Desk_weakLink_29 : decode prog_1_method_46_code 29 = .ok (.getfield 19, 3) := by decide +kernel
theorem d_Desk_weakLink_32 : decode prog_1_method_46_code 32 = .ok (.getfield 73, 3) := by decide +kernel
theorem d_Desk_weakLink_35 : decode prog_1_method_46_code 35 = .ok (.invokevirtual 48, 3) := by decide +kernel
theorem d_Desk_weakLink_38 : decode prog_1_method_46_code 38 = .ok (.if_icmp .ge 29, 3) := by decide +kernel
theorem d_Desk_weakLink_41 : decode prog_1_method_46_code 41 = .ok (.iload 4, 2) := by decide +kernel
theorem d_Desk_weakLink_43 : decode prog_1_method_46_code 43 = .ok (.aload_n 0, 1) := by decide +kernel
theorem d_Desk_weakLink_44 : decode prog_1_method_46_code 44 = .ok (.iload_n 3, 1) := by decide +kernel
theorem d_Desk_weakLink_45 : decode prog_1_method_46_code 45 = .ok (.iload 5, 2) := by decide +kernel
theorem d_Desk_weakLink_47 : decode prog_1_method_46_code 47 = .ok (.invokevirtual 387, 3) := by decide +kernel
theorem d_Desk_weakLink_50 : decode prog_1_method_46_code 50 = .ok (.ifCond .eq 7, 3) := by decide +kernel
theorem d_Desk_weakLink_53 : decode prog_1_method_46_code 53 = .ok (.iconst 1, 1) := by decide +kernel
theorem d_Desk_weakLink_54 : decode prog_1_method_46_code 54 = .ok (.goto 4, 3) := by decide +kernel
theorem d_Desk_weakLink_57 : decode prog_1_method_46_code 57 = .ok (.iconst 0, 1) := by decide +kernel
theorem d_Desk_weakLink_58 : decode prog_1_method_46_code 58 = .ok (.iadd, 1) := by decide +kernel
theorem d_Desk_weakLink_59 : decode prog_1_method_46_code 59 = .ok (.istore 4, 2) := by decide +kernel
theorem d_Desk_weakLink_61 : decode prog_1_method_46_code 61 = .ok (.iinc 5 1, 3) := by decide +kernel
theorem d_Desk_weakLink_64 : decode prog_1_method_46_code 64 = .ok (.goto (-38), 3) := by decide +kernel
theorem d_Desk_weakLink_67 : decode prog_1_method_46_code 67 = .ok (.iload 4, 2) := by decide +kernel
theorem d_Desk_weakLink_69 : decode prog_1_method_46_code 69 = .ok (.iload_n 2, 1) := by decide +kernel
theorem d_Desk_weakLink_70 : decode prog_1_method_46_code 70 = .ok (.if_icmp .le 7, 3) := by decide +kernel
theorem d_Desk_weakLink_73 : decode prog_1_method_46_code 73 = .ok (.iload_n 3, 1) := by decide +kernel
theorem d_Desk_weakLink_74 : decode prog_1_method_46_code 74 = .ok (.goto 4, 3) := by decide +kernel
theorem d_Desk_weakLink_77 : decode prog_1_method_46_code 77 = .ok (.iload_n 1, 1) := by decide +kernel
theorem d_Desk_weakLink_78 : decode prog_1_method_46_code 78 = .ok (.istore_n 1, 1) := by decide +kernel
theorem d_Desk_weakLink_79 : decode prog_1_method_46_code 79 = .ok (.iload_n 2, 1) := by decide +kernel
theorem d_Desk_weakLink_80 : decode prog_1_method_46_code 80 = .ok (.iload 4, 2) := by decide +kernel
theorem d_Desk_weakLink_82 : decode prog_1_method_46_code 82 = .ok (.invokestatic 390, 3) := by decide +kernel
theorem d_Desk_weakLink_85 : decode prog_1_method_46_code 85 = .ok (.istore_n 2, 1) := by decide +kernel
theorem d_Desk_weakLink_86 : decode prog_1_method_46_code 86 = .ok (.iinc 3 1, 3) := by decide +kernel
theorem d_Desk_weakLink_89 : decode prog_1_method_46_code 89 = .ok (.goto (-83), 3) := by decide +kernel
theorem d_Desk_weakLink_92 : decode prog_1_method_46_code 92 = .ok (.iload_n 1, 1) := by decide +kernel
theorem d_Desk_weakLink_93 : decode prog_1_method_46_code 93 = .ok (.ireturn, 1) := by decide +kernel
def Desk_weakLink_78 (k6 : g_AH → Nat → Int32 → Int32 → Int32 → Option (Int32 × g_AH)) (h : g_AH) (v0 : Nat) (v2 : Int32) (v3 : Int32) (v4 : Int32) (s0 : Int32) : Option (Int32 × g_AH) :=
  k6 h v0 s0 (if v2 < v4 then v4 else v2) (v3 + (1 : Int32))
set_option maxHeartbeats 4000000 in
set_option maxRecDepth 100000 in
theorem W_Desk_weakLink_78 {X : g_X} (z : Int32 × g_AH) (k6 : g_AH → Nat → Int32 → Int32 → Int32 → Option (Int32 × g_AH)) (hk6 : ∀ (h : g_AH) (v0 : Nat) (v1 : Int32) (v2 : Int32) (v3 : Int32), k6 h v0 v1 v2 v3 = some z → G X k_Desk_weakLink (.inl (some (.int z.1))) z.2 h 6 [(0, .ref v0), (1, .int v1), (2, .int v2), (3, .int v3)] []) (h : g_AH) (v0 : Nat) (v2 : Int32) (v3 : Int32) (v4 : Int32) (s0 : Int32) (hy : Desk_weakLink_78 k6 h v0 v2 v3 v4 s0 = some z) : G X k_Desk_weakLink (.inl (some (.int z.1))) z.2 h 78 [(0, .ref v0), (2, .int v2), (3, .int v3), (4, .int v4)] [.int s0] := by
  unfold Desk_weakLink_78 at hy
  refine g_istore_n (i := 1) (pc' := 79) (Lc' := [(1, .int s0), (0, .ref v0), (2, .int v2), (3, .int v3), (4, .int v4)]) d_Desk_weakLink_78 rfl (by decide) rfl rfl ?_
  refine g_iload_n 2 (i := 2) (pc' := 80) d_Desk_weakLink_79 rfl rfl rfl ?_
  refine g_iload 4 (pc' := 82) d_Desk_weakLink_80 rfl rfl ?_
  refine g_mmax (pc' := 85) d_Desk_weakLink_82 q802 q278 q122 q279 (by first | exact Nat.le_of_ble_eq_true rfl | (simp only [List.map, List.sum_cons, List.sum_nil, g_cat_rf]; exact Nat.le_of_ble_eq_true rfl) | (simp only [List.map, List.sum_cons, List.sum_nil, g_cat_rf, Value.category]; decide)) (by decide) rfl ?_
  refine g_istore_n (i := 2) (pc' := 86) (Lc' := [(2, .int (if v2 < v4 then v4 else v2)), (1, .int s0), (0, .ref v0), (3, .int v3), (4, .int v4)]) d_Desk_weakLink_85 rfl (by decide) rfl rfl ?_
  refine g_iinc 3 (v := (v3 + (1 : Int32))) (pc' := 89) (Lc' := [(3, .int (v3 + (1 : Int32))), (2, .int (if v2 < v4 then v4 else v2)), (1, .int s0), (0, .ref v0), (4, .int v4)]) d_Desk_weakLink_86 rfl rfl (by decide) rfl rfl ?_
  refine g_goto (pc' := 6) d_Desk_weakLink_89 (by decide) ?_
  refine g_sub [3, 2, 1, 0] rfl ?_
  exact hk6 _ _ _ _ _ hy
def Desk_weakLink_58 (k6 : g_AH → Nat → Int32 → Int32 → Int32 → Option (Int32 × g_AH)) (k26 : g_AH → Nat → Int32 → Int32 → Int32 → Int32 → Int32 → Option (Int32 × g_AH)) (h : g_AH) (v0 : Nat) (v1 : Int32) (v2 : Int32) (v3 : Int32) (v5 : Int32) (s0 : Int32) (s1 : Int32) : Option (Int32 × g_AH) :=
  k26 h v0 v1 v2 v3 (s1 + s0) (v5 + (1 : Int32))
set_option maxHeartbeats 4000000 in
set_option maxRecDepth 100000 in
theorem W_Desk_weakLink_58 {X : g_X} (z : Int32 × g_AH) (k6 : g_AH → Nat → Int32 → Int32 → Int32 → Option (Int32 × g_AH)) (hk6 : ∀ (h : g_AH) (v0 : Nat) (v1 : Int32) (v2 : Int32) (v3 : Int32), k6 h v0 v1 v2 v3 = some z → G X k_Desk_weakLink (.inl (some (.int z.1))) z.2 h 6 [(0, .ref v0), (1, .int v1), (2, .int v2), (3, .int v3)] []) (k26 : g_AH → Nat → Int32 → Int32 → Int32 → Int32 → Int32 → Option (Int32 × g_AH)) (hk26 : ∀ (h : g_AH) (v0 : Nat) (v1 : Int32) (v2 : Int32) (v3 : Int32) (v4 : Int32) (v5 : Int32), k26 h v0 v1 v2 v3 v4 v5 = some z → G X k_Desk_weakLink (.inl (some (.int z.1))) z.2 h 26 [(0, .ref v0), (1, .int v1), (2, .int v2), (3, .int v3), (4, .int v4), (5, .int v5)] []) (h : g_AH) (v0 : Nat) (v1 : Int32) (v2 : Int32) (v3 : Int32) (v5 : Int32) (s0 : Int32) (s1 : Int32) (hy : Desk_weakLink_58 k6 k26 h v0 v1 v2 v3 v5 s0 s1 = some z) : G X k_Desk_weakLink (.inl (some (.int z.1))) z.2 h 58 [(0, .ref v0), (1, .int v1), (2, .int v2), (3, .int v3), (5, .int v5)] [.int s0, .int s1] := by
  unfold Desk_weakLink_58 at hy
  refine g_iadd (pc' := 59) d_Desk_weakLink_58 rfl ?_
  refine g_istore (pc' := 61) (Lc' := [(4, .int (s1 + s0)), (0, .ref v0), (1, .int v1), (2, .int v2), (3, .int v3), (5, .int v5)]) d_Desk_weakLink_59 (by decide) rfl rfl ?_
  refine g_iinc 5 (v := (v5 + (1 : Int32))) (pc' := 64) (Lc' := [(5, .int (v5 + (1 : Int32))), (4, .int (s1 + s0)), (0, .ref v0), (1, .int v1), (2, .int v2), (3, .int v3)]) d_Desk_weakLink_61 rfl rfl (by decide) rfl rfl ?_
  refine g_goto (pc' := 26) d_Desk_weakLink_64 (by decide) ?_
  refine g_sub [2, 3, 4, 5, 1, 0] rfl ?_
  exact hk26 _ _ _ _ _ _ _ hy
def Desk_weakLink_26 (k6 : g_AH → Nat → Int32 → Int32 → Int32 → Option (Int32 × g_AH))  : Nat → g_AH → Nat → Int32 → Int32 → Int32 → Int32 → Int32 → Option (Int32 × g_AH)
  | 0, _, _, _, _, _, _, _ => none
  | n + 1, h, v0, v1, v2, v3, v4, v5 => g_gR h v0 0 0 fun x18 => g_nn x18 fun a21 => g_gR h a21 1 3 fun x23 => g_nn x23 fun a26 => g_is h a26 15 <| g_b (ArrayList_size h a26) fun x29 => if x29 ≤ v5 then (if v4 ≤ v2 then (Desk_weakLink_78 k6 h v0 v2 v3 v4 v1) else (Desk_weakLink_78 k6 h v0 v2 v3 v4 v3)) else (g_is h v0 0 <| g_b2 (Desk_cutsOff h v0 v3 v5) fun x36 h37 => if x36 = 0 then (Desk_weakLink_58 k6 (Desk_weakLink_26 k6 n) h37 v0 v1 v2 v3 v5 (0 : Int32) v4) else (Desk_weakLink_58 k6 (Desk_weakLink_26 k6 n) h37 v0 v1 v2 v3 v5 (1 : Int32) v4))
set_option maxHeartbeats 4000000 in
set_option maxRecDepth 100000 in
theorem W_Desk_weakLink_26 {X : g_X} (z : Int32 × g_AH) (k6 : g_AH → Nat → Int32 → Int32 → Int32 → Option (Int32 × g_AH)) (hk6 : ∀ (h : g_AH) (v0 : Nat) (v1 : Int32) (v2 : Int32) (v3 : Int32), k6 h v0 v1 v2 v3 = some z → G X k_Desk_weakLink (.inl (some (.int z.1))) z.2 h 6 [(0, .ref v0), (1, .int v1), (2, .int v2), (3, .int v3)] [])  : ∀ (n : Nat) (h : g_AH) (v0 : Nat) (v1 : Int32) (v2 : Int32) (v3 : Int32) (v4 : Int32) (v5 : Int32), Desk_weakLink_26 k6 n h v0 v1 v2 v3 v4 v5 = some z → G X k_Desk_weakLink (.inl (some (.int z.1))) z.2 h 26 [(0, .ref v0), (1, .int v1), (2, .int v2), (3, .int v3), (4, .int v4), (5, .int v5)] [] := by
  intro n
  induction n with
  | zero => intro h v0 v1 v2 v3 v4 v5 hy; exact absurd hy (by simp [Desk_weakLink_26])
  | succ n ih =>
    intro h v0 v1 v2 v3 v4 v5 hy
    rw [Desk_weakLink_26] at hy
    refine g_iload 5 (pc' := 28) d_Desk_weakLink_26 rfl rfl ?_
    refine g_aload_n 0 (i := 0) (pc' := 29) d_Desk_weakLink_28 rfl rfl rfl ?_
    replace hy := g_gR_inv hy
    obtain ⟨fs17, x18, hc19, hv20, hy⟩ := hy
    refine g_getf (pc' := 32) d_Desk_weakLink_29 hc19 rfl (by decide) hv20 q642 (Or.inl rfl) rfl ?_
    replace hy := g_nn_inv hy
    obtain ⟨a21, rfl, hy⟩ := hy
    replace hy := g_gR_inv hy
    obtain ⟨fs22, x23, hc24, hv25, hy⟩ := hy
    refine g_getfN (pc' := 35) d_Desk_weakLink_32 hc24 rfl (by decide) hv25 q559 rfl rfl ?_
    replace hy := g_nn_inv hy
    obtain ⟨a26, rfl, hy⟩ := hy
    replace hy := g_is_inv hy
    obtain ⟨fs27, hc28, hy⟩ := hy
    replace hy := g_b_inv hy
    obtain ⟨x29, hf31, hy⟩ := hy
    refine g_callV (rv := some (.int x29)) (h1 := h) (pc' := 38) (As := []) (rest := [.int v5]) 0 (T_ArrayList_size (hy := hf31)) d_Desk_weakLink_35 hc28 rfl rfl q673 q674 q675 q112 q676 hd_ArrayList_size rfl ⟨by decide, by decide⟩ (by first | exact Nat.le_of_ble_eq_true rfl | (simp only [List.map, List.sum_cons, List.sum_nil, g_cat_rf]; exact Nat.le_of_ble_eq_true rfl) | (simp only [List.map, List.sum_cons, List.sum_nil, g_cat_rf, Value.category]; decide)) rfl ?_
    by_cases c32 : x29 ≤ v5
    · rw [if_pos c32] at hy
      refine g_icmp_geT (pc' := 67) d_Desk_weakLink_38 c32 (by decide) ?_
      refine g_iload 4 (pc' := 69) d_Desk_weakLink_67 rfl rfl ?_
      refine g_iload_n 2 (i := 2) (pc' := 70) d_Desk_weakLink_69 rfl rfl rfl ?_
      by_cases c33 : v4 ≤ v2
      · rw [if_pos c33] at hy
        refine g_icmp_leT (pc' := 77) d_Desk_weakLink_70 c33 (by decide) ?_
        refine g_iload_n 1 (i := 1) (pc' := 78) d_Desk_weakLink_77 rfl rfl rfl ?_
        refine g_sub [0, 2, 3, 4] rfl ?_
        exact W_Desk_weakLink_78 _ _ hk6 _ _ _ _ _ _ hy
      · rw [if_neg c33] at hy
        refine g_icmp_leF (pc' := 73) d_Desk_weakLink_70 77 c33 (by decide) rfl ?_
        refine g_iload_n 3 (i := 3) (pc' := 74) d_Desk_weakLink_73 rfl rfl rfl ?_
        refine g_goto (pc' := 78) d_Desk_weakLink_74 (by decide) ?_
        refine g_sub [0, 2, 3, 4] rfl ?_
        exact W_Desk_weakLink_78 _ _ hk6 _ _ _ _ _ _ hy
    · rw [if_neg c32] at hy
      refine g_icmp_geF (pc' := 41) d_Desk_weakLink_38 67 c32 (by decide) rfl ?_
      refine g_iload 4 (pc' := 43) d_Desk_weakLink_41 rfl rfl ?_
      refine g_aload_n 0 (i := 0) (pc' := 44) d_Desk_weakLink_43 rfl rfl rfl ?_
      refine g_iload_n 3 (i := 3) (pc' := 45) d_Desk_weakLink_44 rfl rfl rfl ?_
      refine g_iload 5 (pc' := 47) d_Desk_weakLink_45 rfl rfl ?_
      replace hy := g_is_inv hy
      obtain ⟨fs34, hc35, hy⟩ := hy
      replace hy := g_b2_inv hy
      obtain ⟨x36, h37, hf38, hy⟩ := hy
      refine g_callV (rv := some (.int x36)) (h1 := h37) (pc' := 50) (As := [.int v3, .int v5]) (rest := [.int v4]) 2 (T_Desk_cutsOff (hy := hf38)) d_Desk_weakLink_47 hc35 rfl rfl q712 q714 qs1 q108 q715 hd_Desk_cutsOff rfl ⟨by decide, by decide⟩ (by first | exact Nat.le_of_ble_eq_true rfl | (simp only [List.map, List.sum_cons, List.sum_nil, g_cat_rf]; exact Nat.le_of_ble_eq_true rfl) | (simp only [List.map, List.sum_cons, List.sum_nil, g_cat_rf, Value.category]; decide)) rfl ?_
      by_cases c39 : x36 = 0
      · rw [if_pos c39] at hy
        refine g_if_eqT (pc' := 57) d_Desk_weakLink_50 c39 (by decide) ?_
        refine g_iconst (v := (0 : Int32)) (pc' := 58) d_Desk_weakLink_57 (by decide) rfl ?_
        refine g_sub [0, 1, 2, 3, 5] rfl ?_
        exact W_Desk_weakLink_58 _ _ hk6 _ ih _ _ _ _ _ _ _ _ hy
      · rw [if_neg c39] at hy
        refine g_if_eqF (pc' := 53) d_Desk_weakLink_50 57 c39 (by decide) rfl ?_
        refine g_iconst (v := (1 : Int32)) (pc' := 54) d_Desk_weakLink_53 (by decide) rfl ?_
        refine g_goto (pc' := 58) d_Desk_weakLink_54 (by decide) ?_
        refine g_sub [0, 1, 2, 3, 5] rfl ?_
        exact W_Desk_weakLink_58 _ _ hk6 _ ih _ _ _ _ _ _ _ _ hy
def Desk_weakLink_6  : Nat → g_AH → Nat → Int32 → Int32 → Int32 → Option (Int32 × g_AH)
  | 0, _, _, _, _, _ => none
  | n + 1, h, v0, v1, v2, v3 => g_gR h v0 0 0 fun x2 => g_nn x2 fun a5 => g_gR h a5 1 2 fun x7 => g_nn x7 fun a10 => g_is h a10 15 <| g_b (ArrayList_size h a10) fun x13 => if x13 ≤ v3 then (some (v1, h)) else (Desk_weakLink_26 (Desk_weakLink_6  n) gFU h v0 v1 v2 v3 (0 : Int32) (0 : Int32))
set_option maxHeartbeats 4000000 in
set_option maxRecDepth 100000 in
theorem W_Desk_weakLink_6 {X : g_X} (z : Int32 × g_AH)  : ∀ (n : Nat) (h : g_AH) (v0 : Nat) (v1 : Int32) (v2 : Int32) (v3 : Int32), Desk_weakLink_6  n h v0 v1 v2 v3 = some z → G X k_Desk_weakLink (.inl (some (.int z.1))) z.2 h 6 [(0, .ref v0), (1, .int v1), (2, .int v2), (3, .int v3)] [] := by
  intro n
  induction n with
  | zero => intro h v0 v1 v2 v3 hy; exact absurd hy (by simp [Desk_weakLink_6])
  | succ n ih =>
    intro h v0 v1 v2 v3 hy
    rw [Desk_weakLink_6] at hy
    refine g_iload_n 3 (i := 3) (pc' := 7) d_Desk_weakLink_6 rfl rfl rfl ?_
    refine g_aload_n 0 (i := 0) (pc' := 8) d_Desk_weakLink_7 rfl rfl rfl ?_
    replace hy := g_gR_inv hy
    obtain ⟨fs1, x2, hc3, hv4, hy⟩ := hy
    refine g_getf (pc' := 11) d_Desk_weakLink_8 hc3 rfl (by decide) hv4 q642 (Or.inl rfl) rfl ?_
    replace hy := g_nn_inv hy
    obtain ⟨a5, rfl, hy⟩ := hy
    replace hy := g_gR_inv hy
    obtain ⟨fs6, x7, hc8, hv9, hy⟩ := hy
    refine g_getfN (pc' := 14) d_Desk_weakLink_11 hc8 rfl (by decide) hv9 q553 rfl rfl ?_
    replace hy := g_nn_inv hy
    obtain ⟨a10, rfl, hy⟩ := hy
    replace hy := g_is_inv hy
    obtain ⟨fs11, hc12, hy⟩ := hy
    replace hy := g_b_inv hy
    obtain ⟨x13, hf15, hy⟩ := hy
    refine g_callV (rv := some (.int x13)) (h1 := h) (pc' := 17) (As := []) (rest := [.int v3]) 0 (T_ArrayList_size (hy := hf15)) d_Desk_weakLink_14 hc12 rfl rfl q673 q674 q675 q112 q676 hd_ArrayList_size rfl ⟨by decide, by decide⟩ (by first | exact Nat.le_of_ble_eq_true rfl | (simp only [List.map, List.sum_cons, List.sum_nil, g_cat_rf]; exact Nat.le_of_ble_eq_true rfl) | (simp only [List.map, List.sum_cons, List.sum_nil, g_cat_rf, Value.category]; decide)) rfl ?_
    by_cases c16 : x13 ≤ v3
    · rw [if_pos c16] at hy
      refine g_icmp_geT (pc' := 92) d_Desk_weakLink_17 c16 (by decide) ?_
      refine g_iload_n 1 (i := 1) (pc' := 93) d_Desk_weakLink_92 rfl rfl rfl ?_
      cases hy
      exact g_iret rfl rfl rfl d_Desk_weakLink_93
    · rw [if_neg c16] at hy
      refine g_icmp_geF (pc' := 20) d_Desk_weakLink_17 92 c16 (by decide) rfl ?_
      refine g_iconst (v := (0 : Int32)) (pc' := 21) d_Desk_weakLink_20 (by decide) rfl ?_
      refine g_istore (pc' := 23) (Lc' := [(4, .int (0 : Int32)), (0, .ref v0), (1, .int v1), (2, .int v2), (3, .int v3)]) d_Desk_weakLink_21 (by decide) rfl rfl ?_
      refine g_iconst (v := (0 : Int32)) (pc' := 24) d_Desk_weakLink_23 (by decide) rfl ?_
      refine g_istore (pc' := 26) (Lc' := [(5, .int (0 : Int32)), (4, .int (0 : Int32)), (0, .ref v0), (1, .int v1), (2, .int v2), (3, .int v3)]) d_Desk_weakLink_24 (by decide) rfl rfl ?_
      refine g_sub [2, 3, 4, 5, 1, 0] rfl ?_
      exact W_Desk_weakLink_26 _ _ ih _ _ _ _ _ _ _ _ hy
def Desk_weakLink (h : g_AH) (this : Nat) : Option (Int32 × g_AH) :=
  Desk_weakLink_6  gFU h this (-1 : Int32) (0 : Int32) (0 : Int32)
set_option maxHeartbeats 4000000 in
set_option maxRecDepth 100000 in
theorem T_Desk_weakLink {l : Launch} {B : g_B} (h : g_AH) (this : Nat) (z : Int32 × g_AH) (hy : Desk_weakLink h this = some z) : g_CT l B y_Desk_weakLink k_Desk_weakLink [.ref this] h (.inl (some (.int z.1))) z.2 := by
  refine g_start2 (Lc := [(0, .ref this)]) (by decide) rfl rfl (by exact Nat.le_of_ble_eq_true rfl) (by rfl) fun X => ?_
  unfold Desk_weakLink at hy
  refine g_iconst (v := (-1 : Int32)) (pc' := 1) d_Desk_weakLink_0 (by decide) rfl ?_
  refine g_istore_n (i := 1) (pc' := 2) (Lc' := [(1, .int (-1 : Int32)), (0, .ref this)]) d_Desk_weakLink_1 rfl (by decide) rfl rfl ?_
  refine g_iconst (v := (0 : Int32)) (pc' := 3) d_Desk_weakLink_2 (by decide) rfl ?_
  refine g_istore_n (i := 2) (pc' := 4) (Lc' := [(2, .int (0 : Int32)), (1, .int (-1 : Int32)), (0, .ref this)]) d_Desk_weakLink_3 rfl (by decide) rfl rfl ?_
  refine g_iconst (v := (0 : Int32)) (pc' := 5) d_Desk_weakLink_4 (by decide) rfl ?_
  refine g_istore_n (i := 3) (pc' := 6) (Lc' := [(3, .int (0 : Int32)), (2, .int (0 : Int32)), (1, .int (-1 : Int32)), (0, .ref this)]) d_Desk_weakLink_5 rfl (by decide) rfl rfl ?_
  refine g_sub [3, 2, 1, 0] rfl ?_
  exact W_Desk_weakLink_6 _ _ _ _ _ _ _ hy
theorem hd_Desk_weakLink : g_dsc y_Desk_weakLink 0 := ⟨by decide +kernel, by decide +kernel, by decide +kernel⟩
/-! CircuitDesk$Parser.byteAt(I)I -/
abbrev y_Parser_byteAt : MethodName := ⟨"CircuitDesk$Parser", "byteAt", "(I)I"⟩
abbrev k_Parser_byteAt : g_M := (prog_10_method_2_code, 2, "CircuitDesk$Parser", 12, (some FieldType.int), "byteAt", [], 0)
theorem d_Parser_byteAt_0 : decode prog_10_method_2_code 0 = .ok (.iload_n 1, 1) := by decide +kernel
theorem d_Parser_byteAt_1 : decode prog_10_method_2_code 1 = .ok (.aload_n 0, 1) := by decide +kernel
theorem d_Parser_byteAt_2 : decode prog_10_method_2_code 2 = .ok (.getfield 28, 3) := by decide +kernel
theorem d_Parser_byteAt_5 : decode prog_10_method_2_code 5 = .ok (.if_icmp .ge 19, 3) := by decide +kernel
theorem d_Parser_byteAt_8 : decode prog_10_method_2_code 8 = .ok (.aload_n 0, 1) := by decide +kernel
theorem d_Parser_byteAt_9 : decode prog_10_method_2_code 9 = .ok (.getfield 3, 3) := by decide +kernel
theorem d_Parser_byteAt_12 : decode prog_10_method_2_code 12 = .ok (.getfield 35, 3) := by decide +kernel
theorem d_Parser_byteAt_15 : decode prog_10_method_2_code 15 = .ok (.iload_n 1, 1) := by decide +kernel
theorem d_Parser_byteAt_16 : decode prog_10_method_2_code 16 = .ok (.baload, 1) := by decide +kernel
theorem d_Parser_byteAt_17 : decode prog_10_method_2_code 17 = .ok (.sipush 255, 3) := by decide +kernel
theorem d_Parser_byteAt_20 : decode prog_10_method_2_code 20 = .ok (.iand, 1) := by decide +kernel
theorem d_Parser_byteAt_21 : decode prog_10_method_2_code 21 = .ok (.goto 4, 3) := by decide +kernel
theorem d_Parser_byteAt_24 : decode prog_10_method_2_code 24 = .ok (.iconst (-1), 1) := by decide +kernel
theorem d_Parser_byteAt_25 : decode prog_10_method_2_code 25 = .ok (.ireturn, 1) := by decide +kernel
def Parser_byteAt (h : g_AH) (this : Nat) (p0 : Int32) : Option (Int32) :=
  g_gI h this 8 0 fun x2 => if x2 ≤ p0 then (some (-1 : Int32)) else (g_gR h this 8 7 fun x7 => g_nn x7 fun a10 => g_gR h a10 0 3 fun x12 => g_nn x12 fun a15 => g_aI h 2 a15 p0 fun x16 => some (x16 &&& (255 : Int32)))
set_option maxHeartbeats 4000000 in
set_option maxRecDepth 100000 in
theorem T_Parser_byteAt {l : Launch} {B : g_B} (h : g_AH) (this : Nat) (p0 : Int32) (z : Int32) (hy : Parser_byteAt h this p0 = some z) : g_CT l B y_Parser_byteAt k_Parser_byteAt [.ref this, .int p0] h (.inl (some (.int z))) h := by
  refine g_start2 (Lc := [(0, .ref this), (1, .int p0)]) (by decide) rfl rfl (by exact Nat.le_of_ble_eq_true rfl) (by rfl) fun X => ?_
  unfold Parser_byteAt at hy
  refine g_iload_n 1 (i := 1) (pc' := 1) d_Parser_byteAt_0 rfl rfl rfl ?_
  refine g_aload_n 0 (i := 0) (pc' := 2) d_Parser_byteAt_1 rfl rfl rfl ?_
  replace hy := g_gI_inv hy
  obtain ⟨fs1, x2, hc3, hv4, hy⟩ := hy
  refine g_getf (pc' := 5) d_Parser_byteAt_2 hc3 rfl (by decide) hv4 q857 (Or.inl rfl) rfl ?_
  by_cases c5 : x2 ≤ p0
  · rw [if_pos c5] at hy
    refine g_icmp_geT (pc' := 24) d_Parser_byteAt_5 c5 (by decide) ?_
    refine g_iconst (v := (-1 : Int32)) (pc' := 25) d_Parser_byteAt_24 (by decide) rfl ?_
    cases hy
    exact g_iret rfl rfl rfl d_Parser_byteAt_25
  · rw [if_neg c5] at hy
    refine g_icmp_geF (pc' := 8) d_Parser_byteAt_5 24 c5 (by decide) rfl ?_
    refine g_aload_n 0 (i := 0) (pc' := 9) d_Parser_byteAt_8 rfl rfl rfl ?_
    replace hy := g_gR_inv hy
    obtain ⟨fs6, x7, hc8, hv9, hy⟩ := hy
    refine g_getf (pc' := 12) d_Parser_byteAt_9 hc8 rfl (by decide) hv9 q864 (Or.inl rfl) rfl ?_
    replace hy := g_nn_inv hy
    obtain ⟨a10, rfl, hy⟩ := hy
    replace hy := g_gR_inv hy
    obtain ⟨fs11, x12, hc13, hv14, hy⟩ := hy
    refine g_getfN (pc' := 15) d_Parser_byteAt_12 hc13 rfl (by decide) hv14 q645 rfl rfl ?_
    refine g_iload_n 1 (i := 1) (pc' := 16) d_Parser_byteAt_15 rfl rfl rfl ?_
    replace hy := g_nn_inv hy
    obtain ⟨a15, rfl, hy⟩ := hy
    replace hy := g_aI_inv hy
    obtain ⟨n17, f18, hc19, hi20, hy⟩ := hy
    refine g_bald (pc' := 17) d_Parser_byteAt_16 hc19 hi20 rfl ?_
    generalize f18 (p0).toNatClampNeg = x16 at hy ⊢
    refine g_sipush (v := (255 : Int32)) (pc' := 20) d_Parser_byteAt_17 (by decide) rfl ?_
    refine g_iand (pc' := 21) d_Parser_byteAt_20 rfl ?_
    refine g_goto (pc' := 25) d_Parser_byteAt_21 (by decide) ?_
    cases hy
    exact g_iret rfl rfl rfl d_Parser_byteAt_25
theorem hd_Parser_byteAt : g_dsc y_Parser_byteAt 1 := ⟨by decide +kernel, by decide +kernel, by decide +kernel⟩
/-! CircuitDesk$Parser.advance()V -/
abbrev y_Parser_advance : MethodName := ⟨"CircuitDesk$Parser", "advance", "()V"⟩
abbrev k_Parser_advance : g_M := (prog_10_method_3_code, 3, "CircuitDesk$Parser", 29, none, "advance", [], 0)
theorem d_Parser_advance_0 : decode prog_10_method_3_code 0 = .ok (.aload_n 0, 1) := by decide +kernel
theorem d_Parser_advance_1 : decode prog_10_method_3_code 1 = .ok (.aload_n 0, 1) := by decide +kernel
theorem d_Parser_advance_2 : decode prog_10_method_3_code 2 = .ok (.getfield 39, 3) := by decide +kernel
theorem d_Parser_advance_5 : decode prog_10_method_3_code 5 = .ok (.invokevirtual 42, 3) := by decide +kernel
theorem d_Parser_advance_8 : decode prog_10_method_3_code 8 = .ok (.bipush 32, 2) := by decide +kernel
theorem d_Parser_advance_10 : decode prog_10_method_3_code 10 = .ok (.if_icmp .eq 16, 3) := by decide +kernel
theorem d_Parser_advance_13 : decode prog_10_method_3_code 13 = .ok (.aload_n 0, 1) := by decide +kernel
theorem d_Parser_advance_14 : decode prog_10_method_3_code 14 = .ok (.aload_n 0, 1) := by decide +kernel
theorem d_Parser_advance_15 : decode prog_10_method_3_code 15 = .ok (.getfield 39, 3) := by decide +kernel
theorem d_Parser_advance_18 : decode prog_10_method_3_code 18 = .ok (.invokevirtual 42, 3) := by decide +kernel
theorem d_Parser_advance_21 : decode prog_10_method_3_code 21 = .ok (.bipush 10, 2) := by decide +kernel
theorem d_Parser_advance_23 : decode prog_10_method_3_code 23 = .ok (.if_icmp .ne 16, 3) := by decide +kernel
theorem d_Parser_advance_26 : decode prog_10_method_3_code 26 = .ok (.aload_n 0, 1) := by decide +kernel
theorem d_Parser_advance_27 : decode prog_10_method_3_code 27 = .ok (.dup, 1) := by decide +kernel
theorem d_Parser_advance_28 : decode prog_10_method_3_code 28 = .ok (.getfield 39, 3) := by decide +kernel
theorem d_Parser_advance_31 : decode prog_10_method_3_code 31 = .ok (.iconst 1, 1) := by decide +kernel
theorem d_Parser_advance_32 : decode prog_10_method_3_code 32 = .ok (.iadd, 1) := by decide +kernel
theorem d_Parser_advance_33 : decode prog_10_method_3_code 33 = .ok (.putfield 39, 3) := by decide +kernel
theorem d_Parser_advance_36 : decode prog_10_method_3_code 36 = .ok (.goto (-36), 3) := by decide +kernel
theorem d_Parser_advance_39 : decode prog_10_method_3_code 39 = .ok (.aload_n 0, 1) := by decide +kernel
theorem d_Parser_advance_40 : decode prog_10_method_3_code 40 = .ok (.aload_n 0, 1) := by decide +kernel
theorem d_Parser_advance_41 : decode prog_10_method_3_code 41 = .ok (.getfield 39, 3) := by decide +kernel
theorem d_Parser_advance_44 : decode prog_10_method_3_code 44 = .ok (.putfield 46, 3) := by decide +kernel
theorem d_Parser_advance_47 : decode prog_10_method_3_code 47 = .ok (.aload_n 0, 1) := by decide +kernel
theorem d_Parser_advance_48 : decode prog_10_method_3_code 48 = .ok (.iconst 0, 1) := by decide +kernel
theorem d_Parser_advance_49 : decode prog_10_method_3_code 49 = .ok (.putfield 49, 3) := by decide +kernel
theorem d_Parser_advance_52 : decode prog_10_method_3_code 52 = .ok (.aload_n 0, 1) := by decide +kernel
theorem d_Parser_advance_53 : decode prog_10_method_3_code 53 = .ok (.aload_n 0, 1) := by decide +kernel
theorem d_Parser_advance_54 : decode prog_10_method_3_code 54 = .ok (.aload_n 0, 1) := by decide +kernel
theorem d_Parser_advance_55 : decode prog_10_method_3_code 55 = .ok (.getfield 39, 3) := by decide +kernel
theorem d_Parser_advance_58 : decode prog_10_method_3_code 58 = .ok (.invokevirtual 42, 3) := by decide +kernel
theorem d_Parser_advance_61 : decode prog_10_method_3_code 61 = .ok (.i2l, 1) := by decide +kernel
theorem d_Parser_advance_62 : decode prog_10_method_3_code 62 = .ok (.ldc2_w 52, 3) := by decide +kernel
theorem d_Parser_advance_65 : decode prog_10_method_3_code 65 = .ok (.ldc2_w 54, 3) := by decide +kernel
theorem d_Parser_advance_68 : decode prog_10_method_3_code 68 = .ok (.invokestatic 56, 3) := by decide +kernel
theorem d_Parser_advance_71 : decode prog_10_method_3_code 71 = .ok (.putfield 60, 3) := by decide +kernel
theorem d_Parser_advance_74 : decode prog_10_method_3_code 74 = .ok (.aload_n 0, 1) := by decide +kernel
theorem d_Parser_advance_75 : decode prog_10_method_3_code 75 = .ok (.aload_n 0, 1) := by decide +kernel
theorem d_Parser_advance_76 : decode prog_10_method_3_code 76 = .ok (.getfield 39, 3) := by decide +kernel
theorem d_Parser_advance_79 : decode prog_10_method_3_code 79 = .ok (.invokevirtual 42, 3) := by decide +kernel
theorem d_Parser_advance_82 : decode prog_10_method_3_code 82 = .ok (.i2l, 1) := by decide +kernel
theorem d_Parser_advance_83 : decode prog_10_method_3_code 83 = .ok (.ldc2_w 64, 3) := by decide +kernel
theorem d_Parser_advance_86 : decode prog_10_method_3_code 86 = .ok (.ldc2_w 66, 3) := by decide +kernel
theorem d_Parser_advance_89 : decode prog_10_method_3_code 89 = .ok (.invokestatic 56, 3) := by decide +kernel
theorem d_Parser_advance_92 : decode prog_10_method_3_code 92 = .ok (.istore_n 1, 1) := by decide +kernel
theorem d_Parser_advance_93 : decode prog_10_method_3_code 93 = .ok (.new 68, 3) := by decide +kernel
theorem d_Parser_advance_96 : decode prog_10_method_3_code 96 = .ok (.dup, 1) := by decide +kernel
theorem d_Parser_advance_97 : decode prog_10_method_3_code 97 = .ok (.invokespecial 70, 3) := by decide +kernel
theorem d_Parser_advance_100 : decode prog_10_method_3_code 100 = .ok (.astore_n 2, 1) := by decide +kernel
theorem d_Parser_advance_101 : decode prog_10_method_3_code 101 = .ok (.aload_n 0, 1) := by decide +kernel
theorem d_Parser_advance_102 : decode prog_10_method_3_code 102 = .ok (.getfield 60, 3) := by decide +kernel
theorem d_Parser_advance_105 : decode prog_10_method_3_code 105 = .ok (.ifCond .eq 65, 3) := by decide +kernel
theorem d_Parser_advance_108 : decode prog_10_method_3_code 108 = .ok (.aload_n 0, 1) := by decide +kernel
theorem d_Parser_advance_109 : decode prog_10_method_3_code 109 = .ok (.aload_n 0, 1) := by decide +kernel
theorem d_Parser_advance_110 : decode prog_10_method_3_code 110 = .ok (.getfield 39, 3) := by decide +kernel
theorem d_Parser_advance_113 : decode prog_10_method_3_code 113 = .ok (.invokevirtual 42, 3) := by decide +kernel
theorem d_Parser_advance_116 : decode prog_10_method_3_code 116 = .ok (.i2l, 1) := by decide +kernel
theorem d_Parser_advance_117 : decode prog_10_method_3_code 117 = .ok (.ldc2_w 52, 3) := by decide +kernel
theorem d_Parser_advance_120 : decode prog_10_method_3_code 120 = .ok (.ldc2_w 54, 3) := by decide +kernel
theorem d_Parser_advance_123 : decode prog_10_method_3_code 123 = .ok (.invokestatic 56, 3) := by decide +kernel
theorem d_Parser_advance_126 : decode prog_10_method_3_code 126 = .ok (.ifCond .eq 44, 3) := by decide +kernel
theorem d_Parser_advance_129 : decode prog_10_method_3_code 129 = .ok (.aload_n 0, 1) := by decide +kernel
theorem d_Parser_advance_130 : decode prog_10_method_3_code 130 = .ok (.ldc 71, 2) := by decide +kernel
theorem d_Parser_advance_132 : decode prog_10_method_3_code 132 = .ok (.bipush 10, 2) := by decide +kernel
theorem d_Parser_advance_134 : decode prog_10_method_3_code 134 = .ok (.aload_n 0, 1) := by decide +kernel
theorem d_Parser_advance_135 : decode prog_10_method_3_code 135 = .ok (.getfield 49, 3) := by decide +kernel
theorem d_Parser_advance_138 : decode prog_10_method_3_code 138 = .ok (.imul, 1) := by decide +kernel
theorem d_Parser_advance_139 : decode prog_10_method_3_code 139 = .ok (.aload_n 0, 1) := by decide +kernel
theorem d_Parser_advance_140 : decode prog_10_method_3_code 140 = .ok (.aload_n 0, 1) := by decide +kernel
theorem d_Parser_advance_141 : decode prog_10_method_3_code 141 = .ok (.getfield 39, 3) := by decide +kernel
theorem d_Parser_advance_144 : decode prog_10_method_3_code 144 = .ok (.invokevirtual 42, 3) := by decide +kernel
theorem d_Parser_advance_147 : decode prog_10_method_3_code 147 = .ok (.iadd, 1) := by decide +kernel
theorem d_Parser_advance_148 : decode prog_10_method_3_code 148 = .ok (.bipush 48, 2) := by decide +kernel
theorem d_Parser_advance_150 : decode prog_10_method_3_code 150 = .ok (.isub, 1) := by decide +kernel
theorem d_Parser_advance_151 : decode prog_10_method_3_code 151 = .ok (.invokestatic 72, 3) := by decide +kernel
theorem d_Parser_advance_154 : decode prog_10_method_3_code 154 = .ok (.putfield 49, 3) := by decide +kernel
theorem d_Parser_advance_157 : decode prog_10_method_3_code 157 = .ok (.aload_n 0, 1) := by decide +kernel
theorem d_Parser_advance_158 : decode prog_10_method_3_code 158 = .ok (.dup, 1) := by decide +kernel
theorem d_Parser_advance_159 : decode prog_10_method_3_code 159 = .ok (.getfield 39, 3) := by decide +kernel
theorem d_Parser_advance_162 : decode prog_10_method_3_code 162 = .ok (.iconst 1, 1) := by decide +kernel
theorem d_Parser_advance_163 : decode prog_10_method_3_code 163 = .ok (.iadd, 1) := by decide +kernel
theorem d_Parser_advance_164 : decode prog_10_method_3_code 164 = .ok (.putfield 39, 3) := by decide +kernel
theorem d_Parser_advance_167 : decode prog_10_method_3_code 167 = .ok (.goto (-66), 3) := by decide +kernel
theorem d_Parser_advance_170 : decode prog_10_method_3_code 170 = .ok (.iload_n 1, 1) := by decide +kernel
theorem d_Parser_advance_171 : decode prog_10_method_3_code 171 = .ok (.ifCond .eq 51, 3) := by decide +kernel
theorem d_Parser_advance_174 : decode prog_10_method_3_code 174 = .ok (.aload_n 0, 1) := by decide +kernel
theorem d_Parser_advance_175 : decode prog_10_method_3_code 175 = .ok (.aload_n 0, 1) := by decide +kernel
theorem d_Parser_advance_176 : decode prog_10_method_3_code 176 = .ok (.getfield 39, 3) := by decide +kernel
theorem d_Parser_advance_179 : decode prog_10_method_3_code 179 = .ok (.invokevirtual 42, 3) := by decide +kernel
theorem d_Parser_advance_182 : decode prog_10_method_3_code 182 = .ok (.i2l, 1) := by decide +kernel
theorem d_Parser_advance_183 : decode prog_10_method_3_code 183 = .ok (.ldc2_w 64, 3) := by decide +kernel
theorem d_Parser_advance_186 : decode prog_10_method_3_code 186 = .ok (.ldc2_w 66, 3) := by decide +kernel
theorem d_Parser_advance_189 : decode prog_10_method_3_code 189 = .ok (.invokestatic 56, 3) := by decide +kernel
theorem d_Parser_advance_192 : decode prog_10_method_3_code 192 = .ok (.ifCond .eq 30, 3) := by decide +kernel
theorem d_Parser_advance_195 : decode prog_10_method_3_code 195 = .ok (.aload_n 2, 1) := by decide +kernel
theorem d_Parser_advance_196 : decode prog_10_method_3_code 196 = .ok (.aload_n 0, 1) := by decide +kernel
theorem d_Parser_advance_197 : decode prog_10_method_3_code 197 = .ok (.aload_n 0, 1) := by decide +kernel
theorem d_Parser_advance_198 : decode prog_10_method_3_code 198 = .ok (.getfield 39, 3) := by decide +kernel
theorem d_Parser_advance_201 : decode prog_10_method_3_code 201 = .ok (.invokevirtual 42, 3) := by decide +kernel
theorem d_Parser_advance_204 : decode prog_10_method_3_code 204 = .ok (.i2c, 1) := by decide +kernel
theorem d_Parser_advance_205 : decode prog_10_method_3_code 205 = .ok (.invokevirtual 78, 3) := by decide +kernel
theorem d_Parser_advance_208 : decode prog_10_method_3_code 208 = .ok (.pop, 1) := by decide +kernel
theorem d_Parser_advance_209 : decode prog_10_method_3_code 209 = .ok (.aload_n 0, 1) := by decide +kernel
theorem d_Parser_advance_210 : decode prog_10_method_3_code 210 = .ok (.dup, 1) := by decide +kernel
theorem d_Parser_advance_211 : decode prog_10_method_3_code 211 = .ok (.getfield 39, 3) := by decide +kernel
theorem d_Parser_advance_214 : decode prog_10_method_3_code 214 = .ok (.iconst 1, 1) := by decide +kernel
theorem d_Parser_advance_215 : decode prog_10_method_3_code 215 = .ok (.iadd, 1) := by decide +kernel
theorem d_Parser_advance_216 : decode prog_10_method_3_code 216 = .ok (.putfield 39, 3) := by decide +kernel
theorem d_Parser_advance_219 : decode prog_10_method_3_code 219 = .ok (.goto (-49), 3) := by decide +kernel
theorem d_Parser_advance_222 : decode prog_10_method_3_code 222 = .ok (.aload_n 0, 1) := by decide +kernel
theorem d_Parser_advance_223 : decode prog_10_method_3_code 223 = .ok (.getfield 60, 3) := by decide +kernel
theorem d_Parser_advance_226 : decode prog_10_method_3_code 226 = .ok (.ifCond .ne 42, 3) := by decide +kernel
theorem d_Parser_advance_229 : decode prog_10_method_3_code 229 = .ok (.iload_n 1, 1) := by decide +kernel
theorem d_Parser_advance_230 : decode prog_10_method_3_code 230 = .ok (.ifCond .ne 38, 3) := by decide +kernel
theorem d_Parser_advance_233 : decode prog_10_method_3_code 233 = .ok (.aload_n 0, 1) := by decide +kernel
theorem d_Parser_advance_234 : decode prog_10_method_3_code 234 = .ok (.getfield 39, 3) := by decide +kernel
theorem d_Parser_advance_237 : decode prog_10_method_3_code 237 = .ok (.aload_n 0, 1) := by decide +kernel
theorem d_Parser_advance_238 : decode prog_10_method_3_code 238 = .ok (.getfield 28, 3) := by decide +kernel
theorem d_Parser_advance_241 : decode prog_10_method_3_code 241 = .ok (.if_icmp .ge 27, 3) := by decide +kernel
theorem d_Parser_advance_244 : decode prog_10_method_3_code 244 = .ok (.aload_n 2, 1) := by decide +kernel
theorem d_Parser_advance_245 : decode prog_10_method_3_code 245 = .ok (.aload_n 0, 1) := by decide +kernel
theorem d_Parser_advance_246 : decode prog_10_method_3_code 246 = .ok (.aload_n 0, 1) := by decide +kernel
theorem d_Parser_advance_247 : decode prog_10_method_3_code 247 = .ok (.getfield 39, 3) := by decide +kernel
theorem d_Parser_advance_250 : decode prog_10_method_3_code 250 = .ok (.invokevirtual 42, 3) := by decide +kernel
theorem d_Parser_advance_253 : decode prog_10_method_3_code 253 = .ok (.i2c, 1) := by decide +kernel
theorem d_Parser_advance_254 : decode prog_10_method_3_code 254 = .ok (.invokevirtual 78, 3) := by decide +kernel
theorem d_Parser_advance_257 : decode prog_10_method_3_code 257 = .ok (.pop, 1) := by decide +kernel
theorem d_Parser_advance_258 : decode prog_10_method_3_code 258 = .ok (.aload_n 0, 1) := by decide +kernel
theorem d_Parser_advance_259 : decode prog_10_method_3_code 259 = .ok (.dup, 1) := by decide +kernel
theorem d_Parser_advance_260 : decode prog_10_method_3_code 260 = .ok (.getfield 39, 3) := by decide +kernel
theorem d_Parser_advance_263 : decode prog_10_method_3_code 263 = .ok (.iconst 1, 1) := by decide +kernel
theorem d_Parser_advance_264 : decode prog_10_method_3_code 264 = .ok (.iadd, 1) := by decide +kernel
theorem d_Parser_advance_265 : decode prog_10_method_3_code 265 = .ok (.putfield 39, 3) := by decide +kernel
theorem d_Parser_advance_268 : decode prog_10_method_3_code 268 = .ok (.aload_n 0, 1) := by decide +kernel
theorem d_Parser_advance_269 : decode prog_10_method_3_code 269 = .ok (.aload_n 2, 1) := by decide +kernel
theorem d_Parser_advance_270 : decode prog_10_method_3_code 270 = .ok (.invokevirtual 82, 3) := by decide +kernel
theorem d_Parser_advance_273 : decode prog_10_method_3_code 273 = .ok (.putfield 24, 3) := by decide +kernel
theorem d_Parser_advance_276 : decode prog_10_method_3_code 276 = .ok (.return_, 1) := by decide +kernel
def Parser_advance_26 (k0 : g_AH → Nat → Option g_AH) (h : g_AH) (v0 : Nat) : Option g_AH :=
  g_gI h v0 8 2 fun x12 => g_pF h v0 8 2 (.int (x12 + (1 : Int32))) fun h18 => k0 h18 v0
set_option maxHeartbeats 4000000 in
set_option maxRecDepth 100000 in
theorem W_Parser_advance_26 {X : g_X} (z : g_AH) (k0 : g_AH → Nat → Option g_AH) (hk0 : ∀ (h : g_AH) (v0 : Nat), k0 h v0 = some z → G X k_Parser_advance (.inl none) z h 0 [(0, .ref v0)] []) (h : g_AH) (v0 : Nat) (hy : Parser_advance_26 k0 h v0 = some z) : G X k_Parser_advance (.inl none) z h 26 [(0, .ref v0)] [] := by
  unfold Parser_advance_26 at hy
  refine g_aload_n 0 (i := 0) (pc' := 27) d_Parser_advance_26 rfl rfl rfl ?_
  refine g_dup (pc' := 28) d_Parser_advance_27 rfl rfl ?_
  replace hy := g_gI_inv hy
  obtain ⟨fs11, x12, hc13, hv14, hy⟩ := hy
  refine g_getf (pc' := 31) d_Parser_advance_28 hc13 rfl (by decide) hv14 q859 (Or.inl rfl) rfl ?_
  refine g_iconst (v := (1 : Int32)) (pc' := 32) d_Parser_advance_31 (by decide) rfl ?_
  refine g_iadd (pc' := 33) d_Parser_advance_32 rfl ?_
  replace hy := g_pF_inv hy
  obtain ⟨fs15, hc16, hl17, hy⟩ := hy
  refine g_putf (pc' := 36) d_Parser_advance_33 hc16 rfl (by decide) hl17 rfl rfl rfl q859 (Or.inl rfl) rfl ?_
  generalize g_up h v0 (.inr (8, fs15.set 2 (.int (x12 + (1 : Int32))))) = h18 at hy ⊢
  refine g_goto (pc' := 0) d_Parser_advance_36 (by decide) ?_
  exact hk0 _ _ hy
def Parser_advance_268 (h : g_AH) (v0 : Nat) (v2 : Option Nat) : Option g_AH :=
  g_nn v2 fun a86 => g_is h a86 17 <| g_b2 (StringBuilder_toString h a86) fun x89 h90 => g_pF h90 v0 8 6 (va_rf x89) fun h95 => some h95
set_option maxHeartbeats 4000000 in
set_option maxRecDepth 100000 in
theorem W_Parser_advance_268 {X : g_X} (z : g_AH) (h : g_AH) (v0 : Nat) (v2 : Option Nat) (hy : Parser_advance_268  h v0 v2 = some z) : G X k_Parser_advance (.inl none) z h 268 [(0, .ref v0), (2, va_rf v2)] [] := by
  unfold Parser_advance_268 at hy
  refine g_aload_n 0 (i := 0) (pc' := 269) d_Parser_advance_268 rfl rfl rfl ?_
  refine g_aloadO_n 1 (i := 2) (pc' := 270) d_Parser_advance_269 rfl rfl rfl ?_
  replace hy := g_nn_inv hy
  obtain ⟨a86, rfl, hy⟩ := hy
  replace hy := g_is_inv hy
  obtain ⟨fs87, hc88, hy⟩ := hy
  replace hy := g_b2_inv hy
  obtain ⟨x89, h90, hf91, hy⟩ := hy
  refine g_callV (rv := some (va_rf x89)) (h1 := h90) (pc' := 273) (As := []) (rest := [.ref v0]) 0 (T_StringBuilder_toString (hy := hf91)) d_Parser_advance_270 hc88 rfl rfl q856 q401 q402 q118 q403 hd_StringBuilder_toString rfl ⟨by decide, by decide⟩ (by first | exact Nat.le_of_ble_eq_true rfl | (simp only [List.map, List.sum_cons, List.sum_nil, g_cat_rf]; exact Nat.le_of_ble_eq_true rfl) | (simp only [List.map, List.sum_cons, List.sum_nil, g_cat_rf, Value.category]; decide)) rfl ?_
  replace hy := g_pF_inv hy
  obtain ⟨fs92, hc93, hl94, hy⟩ := hy
  refine g_putf (pc' := 276) d_Parser_advance_273 hc93 rfl (by decide) hl94 rfl g_nar_rf g_fit_o q863 (Or.inl rfl) rfl ?_
  generalize g_up h90 v0 (.inr (8, fs92.set 6 (va_rf x89))) = h95 at hy ⊢
  cases hy
  exact g_vret rfl rfl rfl d_Parser_advance_276
def Parser_advance_222 (h : g_AH) (v0 : Nat) (v1 : Int32) (v2 : Option Nat) : Option g_AH :=
  g_gI h v0 8 4 fun x82 => if x82 = 0 then (if v1 = 0 then (g_gI h v0 8 2 fun x98 => g_gI h v0 8 0 fun x102 => if x102 ≤ x98 then (Parser_advance_268  h v0 v2) else (g_gI h v0 8 2 fun x107 => g_is h v0 8 <| g_b (Parser_byteAt h v0 x107) fun x112 => g_nn v2 fun a115 => g_is h a115 17 <| g_b2 (StringBuilder_append2 h a115 (((x112).toUInt32 % 65536).toInt32)) fun x118 h119 => g_gI h119 v0 8 2 fun x122 => g_pF h119 v0 8 2 (.int (x122 + (1 : Int32))) fun h128 => Parser_advance_268  h128 v0 (some a115))) else (Parser_advance_268  h v0 v2)) else (Parser_advance_268  h v0 v2)
set_option maxHeartbeats 4000000 in
set_option maxRecDepth 100000 in
theorem W_Parser_advance_222 {X : g_X} (z : g_AH) (h : g_AH) (v0 : Nat) (v1 : Int32) (v2 : Option Nat) (hy : Parser_advance_222  h v0 v1 v2 = some z) : G X k_Parser_advance (.inl none) z h 222 [(0, .ref v0), (1, .int v1), (2, va_rf v2)] [] := by
  unfold Parser_advance_222 at hy
  refine g_aload_n 0 (i := 0) (pc' := 223) d_Parser_advance_222 rfl rfl rfl ?_
  replace hy := g_gI_inv hy
  obtain ⟨fs81, x82, hc83, hv84, hy⟩ := hy
  refine g_getf (pc' := 226) d_Parser_advance_223 hc83 rfl (by decide) hv84 q861 (Or.inl rfl) rfl ?_
  by_cases c85 : x82 = 0
  · rw [if_pos c85] at hy
    refine g_if_neF (pc' := 229) d_Parser_advance_226 268 c85 (by decide) rfl ?_
    refine g_iload_n 1 (i := 1) (pc' := 230) d_Parser_advance_229 rfl rfl rfl ?_
    by_cases c96 : v1 = 0
    · rw [if_pos c96] at hy
      refine g_if_neF (pc' := 233) d_Parser_advance_230 268 c96 (by decide) rfl ?_
      refine g_aload_n 0 (i := 0) (pc' := 234) d_Parser_advance_233 rfl rfl rfl ?_
      replace hy := g_gI_inv hy
      obtain ⟨fs97, x98, hc99, hv100, hy⟩ := hy
      refine g_getf (pc' := 237) d_Parser_advance_234 hc99 rfl (by decide) hv100 q859 (Or.inl rfl) rfl ?_
      refine g_aload_n 0 (i := 0) (pc' := 238) d_Parser_advance_237 rfl rfl rfl ?_
      replace hy := g_gI_inv hy
      obtain ⟨fs101, x102, hc103, hv104, hy⟩ := hy
      refine g_getf (pc' := 241) d_Parser_advance_238 hc103 rfl (by decide) hv104 q857 (Or.inl rfl) rfl ?_
      by_cases c105 : x102 ≤ x98
      · rw [if_pos c105] at hy
        refine g_icmp_geT (pc' := 268) d_Parser_advance_241 c105 (by decide) ?_
        refine g_sub [0, 2] rfl ?_
        exact W_Parser_advance_268 _ _ _ _ hy
      · rw [if_neg c105] at hy
        refine g_icmp_geF (pc' := 244) d_Parser_advance_241 268 c105 (by decide) rfl ?_
        refine g_aloadO_n 2 (i := 2) (pc' := 245) d_Parser_advance_244 rfl rfl rfl ?_
        refine g_aload_n 0 (i := 0) (pc' := 246) d_Parser_advance_245 rfl rfl rfl ?_
        refine g_aload_n 0 (i := 0) (pc' := 247) d_Parser_advance_246 rfl rfl rfl ?_
        replace hy := g_gI_inv hy
        obtain ⟨fs106, x107, hc108, hv109, hy⟩ := hy
        refine g_getf (pc' := 250) d_Parser_advance_247 hc108 rfl (by decide) hv109 q859 (Or.inl rfl) rfl ?_
        replace hy := g_is_inv hy
        obtain ⟨fs110, hc111, hy⟩ := hy
        replace hy := g_b_inv hy
        obtain ⟨x112, hf114, hy⟩ := hy
        refine g_callV (rv := some (.int x112)) (h1 := h) (pc' := 253) (As := [.int x107]) (rest := [va_rf v2]) 1 (T_Parser_byteAt (hy := hf114)) d_Parser_advance_250 hc111 rfl rfl q821 q823 qs4 q137 q824 hd_Parser_byteAt rfl ⟨by decide, by decide⟩ (by first | exact Nat.le_of_ble_eq_true rfl | (simp only [List.map, List.sum_cons, List.sum_nil, g_cat_rf]; exact Nat.le_of_ble_eq_true rfl) | (simp only [List.map, List.sum_cons, List.sum_nil, g_cat_rf, Value.category]; decide)) rfl ?_
        refine g_i2c (pc' := 254) d_Parser_advance_253 rfl ?_
        replace hy := g_nn_inv hy
        obtain ⟨a115, rfl, hy⟩ := hy
        replace hy := g_is_inv hy
        obtain ⟨fs116, hc117, hy⟩ := hy
        replace hy := g_b2_inv hy
        obtain ⟨x118, h119, hf120, hy⟩ := hy
        refine g_callV (rv := some (va_rf x118)) (h1 := h119) (pc' := 257) (As := [.int (((x112).toUInt32 % 65536).toInt32)]) (rest := []) 1 (T_StringBuilder_append2 (hy := hf120)) d_Parser_advance_254 hc117 rfl rfl q836 q837 q838 q118 q839 hd_StringBuilder_append2 rfl ⟨by decide, by decide⟩ (by first | exact Nat.le_of_ble_eq_true rfl | (simp only [List.map, List.sum_cons, List.sum_nil, g_cat_rf]; exact Nat.le_of_ble_eq_true rfl) | (simp only [List.map, List.sum_cons, List.sum_nil, g_cat_rf, Value.category]; decide)) rfl ?_
        refine g_pop (pc' := 258) d_Parser_advance_257 g_cat_rf rfl ?_
        refine g_aload_n 0 (i := 0) (pc' := 259) d_Parser_advance_258 rfl rfl rfl ?_
        refine g_dup (pc' := 260) d_Parser_advance_259 rfl rfl ?_
        replace hy := g_gI_inv hy
        obtain ⟨fs121, x122, hc123, hv124, hy⟩ := hy
        refine g_getf (pc' := 263) d_Parser_advance_260 hc123 rfl (by decide) hv124 q859 (Or.inl rfl) rfl ?_
        refine g_iconst (v := (1 : Int32)) (pc' := 264) d_Parser_advance_263 (by decide) rfl ?_
        refine g_iadd (pc' := 265) d_Parser_advance_264 rfl ?_
        replace hy := g_pF_inv hy
        obtain ⟨fs125, hc126, hl127, hy⟩ := hy
        refine g_putf (pc' := 268) d_Parser_advance_265 hc126 rfl (by decide) hl127 rfl rfl rfl q859 (Or.inl rfl) rfl ?_
        generalize g_up h119 v0 (.inr (8, fs125.set 2 (.int (x122 + (1 : Int32))))) = h128 at hy ⊢
        refine g_sub [0, 2] rfl ?_
        exact W_Parser_advance_268 _ _ _ _ hy
    · rw [if_neg c96] at hy
      refine g_if_neT (pc' := 268) d_Parser_advance_230 c96 (by decide) ?_
      refine g_sub [0, 2] rfl ?_
      exact W_Parser_advance_268 _ _ _ _ hy
  · rw [if_neg c85] at hy
    refine g_if_neT (pc' := 268) d_Parser_advance_226 c85 (by decide) ?_
    refine g_sub [0, 2] rfl ?_
    exact W_Parser_advance_268 _ _ _ _ hy
def Parser_advance_170  : Nat → g_AH → Nat → Int32 → Option Nat → Option g_AH
  | 0, _, _, _, _ => none
  | n + 1, h, v0, v1, v2 => if v1 = 0 then (Parser_advance_222  h v0 v1 v2) else (g_gI h v0 8 2 fun x130 => g_is h v0 8 <| g_b (Parser_byteAt h v0 x130) fun x135 => g_b (Desk_isBetween ((x135).toInt64) (97 : Int64) (122 : Int64)) fun x138 => if x138 = 0 then (Parser_advance_222  h v0 v1 v2) else (g_gI h v0 8 2 fun x143 => g_is h v0 8 <| g_b (Parser_byteAt h v0 x143) fun x148 => g_nn v2 fun a151 => g_is h a151 17 <| g_b2 (StringBuilder_append2 h a151 (((x148).toUInt32 % 65536).toInt32)) fun x154 h155 => g_gI h155 v0 8 2 fun x158 => g_pF h155 v0 8 2 (.int (x158 + (1 : Int32))) fun h164 => (Parser_advance_170  n) h164 v0 v1 (some a151)))
set_option maxHeartbeats 4000000 in
set_option maxRecDepth 100000 in
theorem W_Parser_advance_170 {X : g_X} (z : g_AH)  : ∀ (n : Nat) (h : g_AH) (v0 : Nat) (v1 : Int32) (v2 : Option Nat), Parser_advance_170  n h v0 v1 v2 = some z → G X k_Parser_advance (.inl none) z h 170 [(0, .ref v0), (1, .int v1), (2, va_rf v2)] [] := by
  intro n
  induction n with
  | zero => intro h v0 v1 v2 hy; exact absurd hy (by simp [Parser_advance_170])
  | succ n ih =>
    intro h v0 v1 v2 hy
    rw [Parser_advance_170] at hy
    refine g_iload_n 1 (i := 1) (pc' := 171) d_Parser_advance_170 rfl rfl rfl ?_
    by_cases c80 : v1 = 0
    · rw [if_pos c80] at hy
      refine g_if_eqT (pc' := 222) d_Parser_advance_171 c80 (by decide) ?_
      exact W_Parser_advance_222 _ _ _ _ _ hy
    · rw [if_neg c80] at hy
      refine g_if_eqF (pc' := 174) d_Parser_advance_171 222 c80 (by decide) rfl ?_
      refine g_aload_n 0 (i := 0) (pc' := 175) d_Parser_advance_174 rfl rfl rfl ?_
      refine g_aload_n 0 (i := 0) (pc' := 176) d_Parser_advance_175 rfl rfl rfl ?_
      replace hy := g_gI_inv hy
      obtain ⟨fs129, x130, hc131, hv132, hy⟩ := hy
      refine g_getf (pc' := 179) d_Parser_advance_176 hc131 rfl (by decide) hv132 q859 (Or.inl rfl) rfl ?_
      replace hy := g_is_inv hy
      obtain ⟨fs133, hc134, hy⟩ := hy
      replace hy := g_b_inv hy
      obtain ⟨x135, hf137, hy⟩ := hy
      refine g_callV (rv := some (.int x135)) (h1 := h) (pc' := 182) (As := [.int x130]) (rest := []) 1 (T_Parser_byteAt (hy := hf137)) d_Parser_advance_179 hc134 rfl rfl q821 q823 qs4 q137 q824 hd_Parser_byteAt rfl ⟨by decide, by decide⟩ (by first | exact Nat.le_of_ble_eq_true rfl | (simp only [List.map, List.sum_cons, List.sum_nil, g_cat_rf]; exact Nat.le_of_ble_eq_true rfl) | (simp only [List.map, List.sum_cons, List.sum_nil, g_cat_rf, Value.category]; decide)) rfl ?_
      refine g_i2l (pc' := 183) d_Parser_advance_182 rfl ?_
      refine g_ldc2 (pc' := 186) d_Parser_advance_183 q830 rfl ?_
      refine g_ldc2 (pc' := 189) d_Parser_advance_186 q831 rfl ?_
      replace hy := g_b_inv hy
      obtain ⟨x138, hf140, hy⟩ := hy
      refine g_callSN (rv := some (.int x138)) (h1 := h) (pc' := 192) (As := [.long ((x135).toInt64), .long (97 : Int64), .long (122 : Int64)]) (rest := []) 3 (T_Desk_isBetween (hy := hf140)) d_Parser_advance_189 q827 q828 q108 q829 hd_Desk_isBetween rfl ⟨by decide, by decide⟩ (by first | exact Nat.le_of_ble_eq_true rfl | (simp only [List.map, List.sum_cons, List.sum_nil, g_cat_rf]; exact Nat.le_of_ble_eq_true rfl) | (simp only [List.map, List.sum_cons, List.sum_nil, g_cat_rf, Value.category]; decide)) rfl ?_
      by_cases c141 : x138 = 0
      · rw [if_pos c141] at hy
        refine g_if_eqT (pc' := 222) d_Parser_advance_192 c141 (by decide) ?_
        exact W_Parser_advance_222 _ _ _ _ _ hy
      · rw [if_neg c141] at hy
        refine g_if_eqF (pc' := 195) d_Parser_advance_192 222 c141 (by decide) rfl ?_
        refine g_aloadO_n 2 (i := 2) (pc' := 196) d_Parser_advance_195 rfl rfl rfl ?_
        refine g_aload_n 0 (i := 0) (pc' := 197) d_Parser_advance_196 rfl rfl rfl ?_
        refine g_aload_n 0 (i := 0) (pc' := 198) d_Parser_advance_197 rfl rfl rfl ?_
        replace hy := g_gI_inv hy
        obtain ⟨fs142, x143, hc144, hv145, hy⟩ := hy
        refine g_getf (pc' := 201) d_Parser_advance_198 hc144 rfl (by decide) hv145 q859 (Or.inl rfl) rfl ?_
        replace hy := g_is_inv hy
        obtain ⟨fs146, hc147, hy⟩ := hy
        replace hy := g_b_inv hy
        obtain ⟨x148, hf150, hy⟩ := hy
        refine g_callV (rv := some (.int x148)) (h1 := h) (pc' := 204) (As := [.int x143]) (rest := [va_rf v2]) 1 (T_Parser_byteAt (hy := hf150)) d_Parser_advance_201 hc147 rfl rfl q821 q823 qs4 q137 q824 hd_Parser_byteAt rfl ⟨by decide, by decide⟩ (by first | exact Nat.le_of_ble_eq_true rfl | (simp only [List.map, List.sum_cons, List.sum_nil, g_cat_rf]; exact Nat.le_of_ble_eq_true rfl) | (simp only [List.map, List.sum_cons, List.sum_nil, g_cat_rf, Value.category]; decide)) rfl ?_
        refine g_i2c (pc' := 205) d_Parser_advance_204 rfl ?_
        replace hy := g_nn_inv hy
        obtain ⟨a151, rfl, hy⟩ := hy
        replace hy := g_is_inv hy
        obtain ⟨fs152, hc153, hy⟩ := hy
        replace hy := g_b2_inv hy
        obtain ⟨x154, h155, hf156, hy⟩ := hy
        refine g_callV (rv := some (va_rf x154)) (h1 := h155) (pc' := 208) (As := [.int (((x148).toUInt32 % 65536).toInt32)]) (rest := []) 1 (T_StringBuilder_append2 (hy := hf156)) d_Parser_advance_205 hc153 rfl rfl q836 q837 q838 q118 q839 hd_StringBuilder_append2 rfl ⟨by decide, by decide⟩ (by first | exact Nat.le_of_ble_eq_true rfl | (simp only [List.map, List.sum_cons, List.sum_nil, g_cat_rf]; exact Nat.le_of_ble_eq_true rfl) | (simp only [List.map, List.sum_cons, List.sum_nil, g_cat_rf, Value.category]; decide)) rfl ?_
        refine g_pop (pc' := 209) d_Parser_advance_208 g_cat_rf rfl ?_
        refine g_aload_n 0 (i := 0) (pc' := 210) d_Parser_advance_209 rfl rfl rfl ?_
        refine g_dup (pc' := 211) d_Parser_advance_210 rfl rfl ?_
        replace hy := g_gI_inv hy
        obtain ⟨fs157, x158, hc159, hv160, hy⟩ := hy
        refine g_getf (pc' := 214) d_Parser_advance_211 hc159 rfl (by decide) hv160 q859 (Or.inl rfl) rfl ?_
        refine g_iconst (v := (1 : Int32)) (pc' := 215) d_Parser_advance_214 (by decide) rfl ?_
        refine g_iadd (pc' := 216) d_Parser_advance_215 rfl ?_
        replace hy := g_pF_inv hy
        obtain ⟨fs161, hc162, hl163, hy⟩ := hy
        refine g_putf (pc' := 219) d_Parser_advance_216 hc162 rfl (by decide) hl163 rfl rfl rfl q859 (Or.inl rfl) rfl ?_
        generalize g_up h155 v0 (.inr (8, fs161.set 2 (.int (x158 + (1 : Int32))))) = h164 at hy ⊢
        refine g_goto (pc' := 170) d_Parser_advance_219 (by decide) ?_
        exact ih _ _ _ _ hy
def Parser_advance_101  : Nat → g_AH → Nat → Int32 → Option Nat → Option g_AH
  | 0, _, _, _, _ => none
  | n + 1, h, v0, v1, v2 => g_gI h v0 8 4 fun x76 => if x76 = 0 then (Parser_advance_170  gFU h v0 v1 v2) else (g_gI h v0 8 2 fun x166 => g_is h v0 8 <| g_b (Parser_byteAt h v0 x166) fun x171 => g_b (Desk_isBetween ((x171).toInt64) (48 : Int64) (57 : Int64)) fun x174 => if x174 = 0 then (Parser_advance_170  gFU h v0 v1 v2) else (g_gI h v0 8 5 fun x179 => g_gI h v0 8 2 fun x183 => g_is h v0 8 <| g_b (Parser_byteAt h v0 x183) fun x188 => g_pF h v0 8 5 (.int (if ((((10 : Int32) * x179) + x188) - (48 : Int32)) < (100000 : Int32) then ((((10 : Int32) * x179) + x188) - (48 : Int32)) else (100000 : Int32))) fun h194 => g_gI h194 v0 8 2 fun x196 => g_pF h194 v0 8 2 (.int (x196 + (1 : Int32))) fun h202 => (Parser_advance_101  n) h202 v0 v1 v2))
set_option maxHeartbeats 4000000 in
set_option maxRecDepth 100000 in
theorem W_Parser_advance_101 {X : g_X} (z : g_AH)  : ∀ (n : Nat) (h : g_AH) (v0 : Nat) (v1 : Int32) (v2 : Option Nat), Parser_advance_101  n h v0 v1 v2 = some z → G X k_Parser_advance (.inl none) z h 101 [(0, .ref v0), (1, .int v1), (2, va_rf v2)] [] := by
  intro n
  induction n with
  | zero => intro h v0 v1 v2 hy; exact absurd hy (by simp [Parser_advance_101])
  | succ n ih =>
    intro h v0 v1 v2 hy
    rw [Parser_advance_101] at hy
    refine g_aload_n 0 (i := 0) (pc' := 102) d_Parser_advance_101 rfl rfl rfl ?_
    replace hy := g_gI_inv hy
    obtain ⟨fs75, x76, hc77, hv78, hy⟩ := hy
    refine g_getf (pc' := 105) d_Parser_advance_102 hc77 rfl (by decide) hv78 q861 (Or.inl rfl) rfl ?_
    by_cases c79 : x76 = 0
    · rw [if_pos c79] at hy
      refine g_if_eqT (pc' := 170) d_Parser_advance_105 c79 (by decide) ?_
      exact W_Parser_advance_170 _ _ _ _ _ _ hy
    · rw [if_neg c79] at hy
      refine g_if_eqF (pc' := 108) d_Parser_advance_105 170 c79 (by decide) rfl ?_
      refine g_aload_n 0 (i := 0) (pc' := 109) d_Parser_advance_108 rfl rfl rfl ?_
      refine g_aload_n 0 (i := 0) (pc' := 110) d_Parser_advance_109 rfl rfl rfl ?_
      replace hy := g_gI_inv hy
      obtain ⟨fs165, x166, hc167, hv168, hy⟩ := hy
      refine g_getf (pc' := 113) d_Parser_advance_110 hc167 rfl (by decide) hv168 q859 (Or.inl rfl) rfl ?_
      replace hy := g_is_inv hy
      obtain ⟨fs169, hc170, hy⟩ := hy
      replace hy := g_b_inv hy
      obtain ⟨x171, hf173, hy⟩ := hy
      refine g_callV (rv := some (.int x171)) (h1 := h) (pc' := 116) (As := [.int x166]) (rest := []) 1 (T_Parser_byteAt (hy := hf173)) d_Parser_advance_113 hc170 rfl rfl q821 q823 qs4 q137 q824 hd_Parser_byteAt rfl ⟨by decide, by decide⟩ (by first | exact Nat.le_of_ble_eq_true rfl | (simp only [List.map, List.sum_cons, List.sum_nil, g_cat_rf]; exact Nat.le_of_ble_eq_true rfl) | (simp only [List.map, List.sum_cons, List.sum_nil, g_cat_rf, Value.category]; decide)) rfl ?_
      refine g_i2l (pc' := 117) d_Parser_advance_116 rfl ?_
      refine g_ldc2 (pc' := 120) d_Parser_advance_117 q825 rfl ?_
      refine g_ldc2 (pc' := 123) d_Parser_advance_120 q826 rfl ?_
      replace hy := g_b_inv hy
      obtain ⟨x174, hf176, hy⟩ := hy
      refine g_callSN (rv := some (.int x174)) (h1 := h) (pc' := 126) (As := [.long ((x171).toInt64), .long (48 : Int64), .long (57 : Int64)]) (rest := []) 3 (T_Desk_isBetween (hy := hf176)) d_Parser_advance_123 q827 q828 q108 q829 hd_Desk_isBetween rfl ⟨by decide, by decide⟩ (by first | exact Nat.le_of_ble_eq_true rfl | (simp only [List.map, List.sum_cons, List.sum_nil, g_cat_rf]; exact Nat.le_of_ble_eq_true rfl) | (simp only [List.map, List.sum_cons, List.sum_nil, g_cat_rf, Value.category]; decide)) rfl ?_
      by_cases c177 : x174 = 0
      · rw [if_pos c177] at hy
        refine g_if_eqT (pc' := 170) d_Parser_advance_126 c177 (by decide) ?_
        exact W_Parser_advance_170 _ _ _ _ _ _ hy
      · rw [if_neg c177] at hy
        refine g_if_eqF (pc' := 129) d_Parser_advance_126 170 c177 (by decide) rfl ?_
        refine g_aload_n 0 (i := 0) (pc' := 130) d_Parser_advance_129 rfl rfl rfl ?_
        refine g_ldcI (pc' := 132) d_Parser_advance_130 q834 rfl ?_
        refine g_bipush (v := (10 : Int32)) (pc' := 134) d_Parser_advance_132 (by decide) rfl ?_
        refine g_aload_n 0 (i := 0) (pc' := 135) d_Parser_advance_134 rfl rfl rfl ?_
        replace hy := g_gI_inv hy
        obtain ⟨fs178, x179, hc180, hv181, hy⟩ := hy
        refine g_getf (pc' := 138) d_Parser_advance_135 hc180 rfl (by decide) hv181 q862 (Or.inl rfl) rfl ?_
        refine g_imul (pc' := 139) d_Parser_advance_138 rfl ?_
        refine g_aload_n 0 (i := 0) (pc' := 140) d_Parser_advance_139 rfl rfl rfl ?_
        refine g_aload_n 0 (i := 0) (pc' := 141) d_Parser_advance_140 rfl rfl rfl ?_
        replace hy := g_gI_inv hy
        obtain ⟨fs182, x183, hc184, hv185, hy⟩ := hy
        refine g_getf (pc' := 144) d_Parser_advance_141 hc184 rfl (by decide) hv185 q859 (Or.inl rfl) rfl ?_
        replace hy := g_is_inv hy
        obtain ⟨fs186, hc187, hy⟩ := hy
        replace hy := g_b_inv hy
        obtain ⟨x188, hf190, hy⟩ := hy
        refine g_callV (rv := some (.int x188)) (h1 := h) (pc' := 147) (As := [.int x183]) (rest := [.int ((10 : Int32) * x179), .int (100000 : Int32), .ref v0]) 1 (T_Parser_byteAt (hy := hf190)) d_Parser_advance_144 hc187 rfl rfl q821 q823 qs4 q137 q824 hd_Parser_byteAt rfl ⟨by decide, by decide⟩ (by first | exact Nat.le_of_ble_eq_true rfl | (simp only [List.map, List.sum_cons, List.sum_nil, g_cat_rf]; exact Nat.le_of_ble_eq_true rfl) | (simp only [List.map, List.sum_cons, List.sum_nil, g_cat_rf, Value.category]; decide)) rfl ?_
        refine g_iadd (pc' := 148) d_Parser_advance_147 rfl ?_
        refine g_bipush (v := (48 : Int32)) (pc' := 150) d_Parser_advance_148 (by decide) rfl ?_
        refine g_isub (pc' := 151) d_Parser_advance_150 rfl ?_
        refine g_mmin (pc' := 154) d_Parser_advance_151 q835 q296 q122 q297 (by first | exact Nat.le_of_ble_eq_true rfl | (simp only [List.map, List.sum_cons, List.sum_nil, g_cat_rf]; exact Nat.le_of_ble_eq_true rfl) | (simp only [List.map, List.sum_cons, List.sum_nil, g_cat_rf, Value.category]; decide)) (by decide) rfl ?_
        replace hy := g_pF_inv hy
        obtain ⟨fs191, hc192, hl193, hy⟩ := hy
        refine g_putf (pc' := 157) d_Parser_advance_154 hc192 rfl (by decide) hl193 rfl rfl rfl q862 (Or.inl rfl) rfl ?_
        generalize g_up h v0 (.inr (8, fs191.set 5 (.int (if ((((10 : Int32) * x179) + x188) - (48 : Int32)) < (100000 : Int32) then ((((10 : Int32) * x179) + x188) - (48 : Int32)) else (100000 : Int32))))) = h194 at hy ⊢
        refine g_aload_n 0 (i := 0) (pc' := 158) d_Parser_advance_157 rfl rfl rfl ?_
        refine g_dup (pc' := 159) d_Parser_advance_158 rfl rfl ?_
        replace hy := g_gI_inv hy
        obtain ⟨fs195, x196, hc197, hv198, hy⟩ := hy
        refine g_getf (pc' := 162) d_Parser_advance_159 hc197 rfl (by decide) hv198 q859 (Or.inl rfl) rfl ?_
        refine g_iconst (v := (1 : Int32)) (pc' := 163) d_Parser_advance_162 (by decide) rfl ?_
        refine g_iadd (pc' := 164) d_Parser_advance_163 rfl ?_
        replace hy := g_pF_inv hy
        obtain ⟨fs199, hc200, hl201, hy⟩ := hy
        refine g_putf (pc' := 167) d_Parser_advance_164 hc200 rfl (by decide) hl201 rfl rfl rfl q859 (Or.inl rfl) rfl ?_
        generalize g_up h194 v0 (.inr (8, fs199.set 2 (.int (x196 + (1 : Int32))))) = h202 at hy ⊢
        refine g_goto (pc' := 101) d_Parser_advance_167 (by decide) ?_
        exact ih _ _ _ _ hy
def Parser_advance_0  : Nat → g_AH → Nat → Option g_AH
  | 0, _, _ => none
  | n + 1, h, v0 => g_gI h v0 8 2 fun x2 => g_is h v0 8 <| g_b (Parser_byteAt h v0 x2) fun x7 => if x7 = (32 : Int32) then (Parser_advance_26 (Parser_advance_0  n) h v0) else (g_gI h v0 8 2 fun x20 => g_is h v0 8 <| g_b (Parser_byteAt h v0 x20) fun x25 => if x25 = (10 : Int32) then (Parser_advance_26 (Parser_advance_0  n) h v0) else (g_gI h v0 8 2 fun x30 => g_pF h v0 8 3 (.int x30) fun h36 => g_pF h36 v0 8 5 (.int (0 : Int32)) fun h40 => g_gI h40 v0 8 2 fun x42 => g_is h40 v0 8 <| g_b (Parser_byteAt h40 v0 x42) fun x47 => g_b (Desk_isBetween ((x47).toInt64) (48 : Int64) (57 : Int64)) fun x50 => g_rq (x50 = 0 ∨ x50 = 1) <| g_pF h40 v0 8 4 (.int x50) fun h57 => g_gI h57 v0 8 2 fun x59 => g_is h57 v0 8 <| g_b (Parser_byteAt h57 v0 x59) fun x64 => g_b (Desk_isBetween ((x64).toInt64) (97 : Int64) (122 : Int64)) fun x67 => g_mk h57 (.inr (17, [.null, .int 0, .int 0, .int 0])) 4 fun a70 h71 => g_b (StringBuilder_init h71 a70) fun h73 => Parser_advance_101  gFU h73 v0 x67 (some a70)))
set_option maxHeartbeats 4000000 in
set_option maxRecDepth 100000 in
theorem W_Parser_advance_0 {X : g_X} (z : g_AH)  : ∀ (n : Nat) (h : g_AH) (v0 : Nat), Parser_advance_0  n h v0 = some z → G X k_Parser_advance (.inl none) z h 0 [(0, .ref v0)] [] := by
  intro n
  induction n with
  | zero => intro h v0 hy; exact absurd hy (by simp [Parser_advance_0])
  | succ n ih =>
    intro h v0 hy
    rw [Parser_advance_0] at hy
    refine g_aload_n 0 (i := 0) (pc' := 1) d_Parser_advance_0 rfl rfl rfl ?_
    refine g_aload_n 0 (i := 0) (pc' := 2) d_Parser_advance_1 rfl rfl rfl ?_
    replace hy := g_gI_inv hy
    obtain ⟨fs1, x2, hc3, hv4, hy⟩ := hy
    refine g_getf (pc' := 5) d_Parser_advance_2 hc3 rfl (by decide) hv4 q859 (Or.inl rfl) rfl ?_
    replace hy := g_is_inv hy
    obtain ⟨fs5, hc6, hy⟩ := hy
    replace hy := g_b_inv hy
    obtain ⟨x7, hf9, hy⟩ := hy
    refine g_callV (rv := some (.int x7)) (h1 := h) (pc' := 8) (As := [.int x2]) (rest := []) 1 (T_Parser_byteAt (hy := hf9)) d_Parser_advance_5 hc6 rfl rfl q821 q823 qs4 q137 q824 hd_Parser_byteAt rfl ⟨by decide, by decide⟩ (by first | exact Nat.le_of_ble_eq_true rfl | (simp only [List.map, List.sum_cons, List.sum_nil, g_cat_rf]; exact Nat.le_of_ble_eq_true rfl) | (simp only [List.map, List.sum_cons, List.sum_nil, g_cat_rf, Value.category]; decide)) rfl ?_
    refine g_bipush (v := (32 : Int32)) (pc' := 10) d_Parser_advance_8 (by decide) rfl ?_
    by_cases c10 : x7 = (32 : Int32)
    · rw [if_pos c10] at hy
      refine g_icmp_eqT (pc' := 26) d_Parser_advance_10 c10 (by decide) ?_
      exact W_Parser_advance_26 _ _ ih _ _ hy
    · rw [if_neg c10] at hy
      refine g_icmp_eqF (pc' := 13) d_Parser_advance_10 26 c10 (by decide) rfl ?_
      refine g_aload_n 0 (i := 0) (pc' := 14) d_Parser_advance_13 rfl rfl rfl ?_
      refine g_aload_n 0 (i := 0) (pc' := 15) d_Parser_advance_14 rfl rfl rfl ?_
      replace hy := g_gI_inv hy
      obtain ⟨fs19, x20, hc21, hv22, hy⟩ := hy
      refine g_getf (pc' := 18) d_Parser_advance_15 hc21 rfl (by decide) hv22 q859 (Or.inl rfl) rfl ?_
      replace hy := g_is_inv hy
      obtain ⟨fs23, hc24, hy⟩ := hy
      replace hy := g_b_inv hy
      obtain ⟨x25, hf27, hy⟩ := hy
      refine g_callV (rv := some (.int x25)) (h1 := h) (pc' := 21) (As := [.int x20]) (rest := []) 1 (T_Parser_byteAt (hy := hf27)) d_Parser_advance_18 hc24 rfl rfl q821 q823 qs4 q137 q824 hd_Parser_byteAt rfl ⟨by decide, by decide⟩ (by first | exact Nat.le_of_ble_eq_true rfl | (simp only [List.map, List.sum_cons, List.sum_nil, g_cat_rf]; exact Nat.le_of_ble_eq_true rfl) | (simp only [List.map, List.sum_cons, List.sum_nil, g_cat_rf, Value.category]; decide)) rfl ?_
      refine g_bipush (v := (10 : Int32)) (pc' := 23) d_Parser_advance_21 (by decide) rfl ?_
      by_cases c28 : x25 = (10 : Int32)
      · rw [if_pos c28] at hy
        refine g_icmp_neF (pc' := 26) d_Parser_advance_23 39 c28 (by decide) rfl ?_
        exact W_Parser_advance_26 _ _ ih _ _ hy
      · rw [if_neg c28] at hy
        refine g_icmp_neT (pc' := 39) d_Parser_advance_23 c28 (by decide) ?_
        refine g_aload_n 0 (i := 0) (pc' := 40) d_Parser_advance_39 rfl rfl rfl ?_
        refine g_aload_n 0 (i := 0) (pc' := 41) d_Parser_advance_40 rfl rfl rfl ?_
        replace hy := g_gI_inv hy
        obtain ⟨fs29, x30, hc31, hv32, hy⟩ := hy
        refine g_getf (pc' := 44) d_Parser_advance_41 hc31 rfl (by decide) hv32 q859 (Or.inl rfl) rfl ?_
        replace hy := g_pF_inv hy
        obtain ⟨fs33, hc34, hl35, hy⟩ := hy
        refine g_putf (pc' := 47) d_Parser_advance_44 hc34 rfl (by decide) hl35 rfl rfl rfl q860 (Or.inl rfl) rfl ?_
        generalize g_up h v0 (.inr (8, fs33.set 3 (.int x30))) = h36 at hy ⊢
        refine g_aload_n 0 (i := 0) (pc' := 48) d_Parser_advance_47 rfl rfl rfl ?_
        refine g_iconst (v := (0 : Int32)) (pc' := 49) d_Parser_advance_48 (by decide) rfl ?_
        replace hy := g_pF_inv hy
        obtain ⟨fs37, hc38, hl39, hy⟩ := hy
        refine g_putf (pc' := 52) d_Parser_advance_49 hc38 rfl (by decide) hl39 rfl rfl rfl q862 (Or.inl rfl) rfl ?_
        generalize g_up h36 v0 (.inr (8, fs37.set 5 (.int (0 : Int32)))) = h40 at hy ⊢
        refine g_aload_n 0 (i := 0) (pc' := 53) d_Parser_advance_52 rfl rfl rfl ?_
        refine g_aload_n 0 (i := 0) (pc' := 54) d_Parser_advance_53 rfl rfl rfl ?_
        refine g_aload_n 0 (i := 0) (pc' := 55) d_Parser_advance_54 rfl rfl rfl ?_
        replace hy := g_gI_inv hy
        obtain ⟨fs41, x42, hc43, hv44, hy⟩ := hy
        refine g_getf (pc' := 58) d_Parser_advance_55 hc43 rfl (by decide) hv44 q859 (Or.inl rfl) rfl ?_
        replace hy := g_is_inv hy
        obtain ⟨fs45, hc46, hy⟩ := hy
        replace hy := g_b_inv hy
        obtain ⟨x47, hf49, hy⟩ := hy
        refine g_callV (rv := some (.int x47)) (h1 := h40) (pc' := 61) (As := [.int x42]) (rest := [.ref v0]) 1 (T_Parser_byteAt (hy := hf49)) d_Parser_advance_58 hc46 rfl rfl q821 q823 qs4 q137 q824 hd_Parser_byteAt rfl ⟨by decide, by decide⟩ (by first | exact Nat.le_of_ble_eq_true rfl | (simp only [List.map, List.sum_cons, List.sum_nil, g_cat_rf]; exact Nat.le_of_ble_eq_true rfl) | (simp only [List.map, List.sum_cons, List.sum_nil, g_cat_rf, Value.category]; decide)) rfl ?_
        refine g_i2l (pc' := 62) d_Parser_advance_61 rfl ?_
        refine g_ldc2 (pc' := 65) d_Parser_advance_62 q825 rfl ?_
        refine g_ldc2 (pc' := 68) d_Parser_advance_65 q826 rfl ?_
        replace hy := g_b_inv hy
        obtain ⟨x50, hf52, hy⟩ := hy
        refine g_callSN (rv := some (.int x50)) (h1 := h40) (pc' := 71) (As := [.long ((x47).toInt64), .long (48 : Int64), .long (57 : Int64)]) (rest := [.ref v0]) 3 (T_Desk_isBetween (hy := hf52)) d_Parser_advance_68 q827 q828 q108 q829 hd_Desk_isBetween rfl ⟨by decide, by decide⟩ (by first | exact Nat.le_of_ble_eq_true rfl | (simp only [List.map, List.sum_cons, List.sum_nil, g_cat_rf]; exact Nat.le_of_ble_eq_true rfl) | (simp only [List.map, List.sum_cons, List.sum_nil, g_cat_rf, Value.category]; decide)) rfl ?_
        replace hy := g_rq_inv hy
        obtain ⟨c53, hy⟩ := hy
        replace hy := g_pF_inv hy
        obtain ⟨fs54, hc55, hl56, hy⟩ := hy
        refine g_putf (pc' := 74) d_Parser_advance_71 hc55 rfl (by decide) hl56 rfl (g_nar_z c53).1 (g_nar_z c53).2 q861 (Or.inl rfl) rfl ?_
        generalize g_up h40 v0 (.inr (8, fs54.set 4 (.int x50))) = h57 at hy ⊢
        refine g_aload_n 0 (i := 0) (pc' := 75) d_Parser_advance_74 rfl rfl rfl ?_
        refine g_aload_n 0 (i := 0) (pc' := 76) d_Parser_advance_75 rfl rfl rfl ?_
        replace hy := g_gI_inv hy
        obtain ⟨fs58, x59, hc60, hv61, hy⟩ := hy
        refine g_getf (pc' := 79) d_Parser_advance_76 hc60 rfl (by decide) hv61 q859 (Or.inl rfl) rfl ?_
        replace hy := g_is_inv hy
        obtain ⟨fs62, hc63, hy⟩ := hy
        replace hy := g_b_inv hy
        obtain ⟨x64, hf66, hy⟩ := hy
        refine g_callV (rv := some (.int x64)) (h1 := h57) (pc' := 82) (As := [.int x59]) (rest := []) 1 (T_Parser_byteAt (hy := hf66)) d_Parser_advance_79 hc63 rfl rfl q821 q823 qs4 q137 q824 hd_Parser_byteAt rfl ⟨by decide, by decide⟩ (by first | exact Nat.le_of_ble_eq_true rfl | (simp only [List.map, List.sum_cons, List.sum_nil, g_cat_rf]; exact Nat.le_of_ble_eq_true rfl) | (simp only [List.map, List.sum_cons, List.sum_nil, g_cat_rf, Value.category]; decide)) rfl ?_
        refine g_i2l (pc' := 83) d_Parser_advance_82 rfl ?_
        refine g_ldc2 (pc' := 86) d_Parser_advance_83 q830 rfl ?_
        refine g_ldc2 (pc' := 89) d_Parser_advance_86 q831 rfl ?_
        replace hy := g_b_inv hy
        obtain ⟨x67, hf69, hy⟩ := hy
        refine g_callSN (rv := some (.int x67)) (h1 := h57) (pc' := 92) (As := [.long ((x64).toInt64), .long (97 : Int64), .long (122 : Int64)]) (rest := []) 3 (T_Desk_isBetween (hy := hf69)) d_Parser_advance_89 q827 q828 q108 q829 hd_Desk_isBetween rfl ⟨by decide, by decide⟩ (by first | exact Nat.le_of_ble_eq_true rfl | (simp only [List.map, List.sum_cons, List.sum_nil, g_cat_rf]; exact Nat.le_of_ble_eq_true rfl) | (simp only [List.map, List.sum_cons, List.sum_nil, g_cat_rf, Value.category]; decide)) rfl ?_
        refine g_istore_n (i := 1) (pc' := 93) (Lc' := [(1, .int x67), (0, .ref v0)]) d_Parser_advance_92 rfl (by decide) rfl rfl ?_
        replace hy := g_mk_inv hy
        refine g_new (ci := 17) (fs := [.null, .int 0, .int 0, .int 0]) (pc' := 96) d_Parser_advance_93 rfl q832 q222 q118 gdf_17 rfl ?_
        generalize g_al h57 (.inr (17, [.null, .int 0, .int 0, .int 0])) 4 = h71 at hy ⊢
        generalize g_n h57 = a70 at hy ⊢
        refine g_dup (pc' := 97) d_Parser_advance_96 rfl rfl ?_
        replace hy := g_b_inv hy
        obtain ⟨h73, hf74, hy⟩ := hy
        refine g_callI (h1 := h73) (pc' := 100) (As := []) (rest := [.ref a70]) 0 (T_StringBuilder_init (hy := hf74)) d_Parser_advance_97 rfl rfl q833 q224 q118 q225 hd_StringBuilder_init rfl ⟨by decide, by decide⟩ (by first | exact Nat.le_of_ble_eq_true rfl | (simp only [List.map, List.sum_cons, List.sum_nil, g_cat_rf]; exact Nat.le_of_ble_eq_true rfl) | (simp only [List.map, List.sum_cons, List.sum_nil, g_cat_rf, Value.category]; decide)) rfl ?_
        refine g_astore_n (i := 2) (pc' := 101) (Lc' := [(2, .ref a70), (1, .int x67), (0, .ref v0)]) d_Parser_advance_100 rfl (by decide) rfl rfl ?_
        refine g_sub [2, 1, 0] rfl ?_
        exact W_Parser_advance_101 _ _ _ _ _ _ hy
def Parser_advance (h : g_AH) (this : Nat) : Option g_AH :=
  Parser_advance_0  gFU h this
set_option maxHeartbeats 4000000 in
set_option maxRecDepth 100000 in
theorem T_Parser_advance {l : Launch} {B : g_B} (h : g_AH) (this : Nat) (z : g_AH) (hy : Parser_advance h this = some z) : g_CT l B y_Parser_advance k_Parser_advance [.ref this] h (.inl none) z := by
  refine g_start2 (Lc := [(0, .ref this)]) (by decide) rfl rfl (by exact Nat.le_of_ble_eq_true rfl) (by rfl) fun X => ?_
  unfold Parser_advance at hy
  exact W_Parser_advance_0 _ _ _ _ hy
theorem hd_Parser_advance : g_dsc y_Parser_advance 0 := ⟨by decide +kernel, by decide +kernel, by decide +kernel⟩
/-! CircuitDesk$Parser.<init>(LCircuitDesk;I)V -/
abbrev y_Parser_init : MethodName := ⟨"CircuitDesk$Parser", "<init>", "(LCircuitDesk;I)V"⟩
abbrev k_Parser_init : g_M := (prog_10_method_1_code, 3, "CircuitDesk$Parser", 31, none, "<init>", [], 0)
theorem d_Parser_init_0 : decode prog_10_method_1_code 0 = .ok (.aload_n 0, 1) := by decide +kernel
theorem d_Parser_init_1 : decode prog_10_method_1_code 1 = .ok (.aload_n 1, 1) := by decide +kernel
theorem d_Parser_init_2 : decode prog_10_method_1_code 2 = .ok (.putfield 3, 3) := by decide +kernel
theorem d_Parser_init_5 : decode prog_10_method_1_code 5 = .ok (.aload_n 0, 1) := by decide +kernel
theorem d_Parser_init_6 : decode prog_10_method_1_code 6 = .ok (.invokespecial 9, 3) := by decide +kernel
theorem d_Parser_init_9 : decode prog_10_method_1_code 9 = .ok (.aload_n 0, 1) := by decide +kernel
theorem d_Parser_init_10 : decode prog_10_method_1_code 10 = .ok (.new 15, 3) := by decide +kernel
theorem d_Parser_init_13 : decode prog_10_method_1_code 13 = .ok (.dup, 1) := by decide +kernel
theorem d_Parser_init_14 : decode prog_10_method_1_code 14 = .ok (.invokespecial 17, 3) := by decide +kernel
theorem d_Parser_init_17 : decode prog_10_method_1_code 17 = .ok (.putfield 18, 3) := by decide +kernel
theorem d_Parser_init_20 : decode prog_10_method_1_code 20 = .ok (.aload_n 0, 1) := by decide +kernel
theorem d_Parser_init_21 : decode prog_10_method_1_code 21 = .ok (.ldc 22, 2) := by decide +kernel
theorem d_Parser_init_23 : decode prog_10_method_1_code 23 = .ok (.putfield 24, 3) := by decide +kernel
theorem d_Parser_init_26 : decode prog_10_method_1_code 26 = .ok (.aload_n 0, 1) := by decide +kernel
theorem d_Parser_init_27 : decode prog_10_method_1_code 27 = .ok (.iload_n 2, 1) := by decide +kernel
theorem d_Parser_init_28 : decode prog_10_method_1_code 28 = .ok (.putfield 28, 3) := by decide +kernel
theorem d_Parser_init_31 : decode prog_10_method_1_code 31 = .ok (.aload_n 0, 1) := by decide +kernel
theorem d_Parser_init_32 : decode prog_10_method_1_code 32 = .ok (.invokevirtual 32, 3) := by decide +kernel
theorem d_Parser_init_35 : decode prog_10_method_1_code 35 = .ok (.return_, 1) := by decide +kernel
def Parser_init (h : g_AH) (this : Nat) (p0 : Option Nat) (p1 : Int32) : Option g_AH :=
  g_pF h this 8 7 (va_rf p0) fun h4 => g_mk h4 (.inr (1, [.null, .null, .null, .null, .null, .null, .int 0, .int 0, .int 0, .int 0, .int 0, .int 0, .int 0, .int 0])) 14 fun a5 h6 => g_b (Net_init h6 a5) fun h8 => g_pF h8 this 8 1 (.ref a5) fun h13 => g_pF h13 this 8 6 (.ref (g_str h13 0)) fun h17 => g_pF h17 this 8 0 (.int p1) fun h21 => g_is h21 this 8 <| g_b (Parser_advance h21 this) fun h25 => some h25
set_option maxHeartbeats 4000000 in
set_option maxRecDepth 100000 in
theorem T_Parser_init {l : Launch} {B : g_B} (h : g_AH) (this : Nat) (p0 : Option Nat) (p1 : Int32) (z : g_AH) (hy : Parser_init h this p0 p1 = some z) : g_CT l B y_Parser_init k_Parser_init [.ref this, va_rf p0, .int p1] h (.inl none) z := by
  refine g_start2 (Lc := [(0, .ref this), (1, va_rf p0), (2, .int p1)]) (by decide) rfl rfl (by rcases p0 with _ | p0 <;> exact Nat.le_of_ble_eq_true rfl) (by rcases p0 with _ | p0 <;> rfl) fun X => ?_
  unfold Parser_init at hy
  refine g_aload_n 0 (i := 0) (pc' := 1) d_Parser_init_0 rfl rfl rfl ?_
  refine g_aloadO_n 1 (i := 1) (pc' := 2) d_Parser_init_1 rfl rfl rfl ?_
  replace hy := g_pF_inv hy
  obtain ⟨fs1, hc2, hl3, hy⟩ := hy
  refine g_putfF (pc' := 5) d_Parser_init_2 rfl hc2 rfl (by decide) hl3 rfl rfl g_nar_rf g_fit_o q864 rfl rfl ?_
  generalize g_up h this (.inr (8, fs1.set 7 (va_rf p0))) = h4 at hy ⊢
  refine g_aload_n 0 (i := 0) (pc' := 6) d_Parser_init_5 rfl rfl rfl ?_
  refine g_objInit (pc' := 9) d_Parser_init_6 q813 (by first | exact Nat.le_of_ble_eq_true rfl | (simp only [List.map, List.sum_cons, List.sum_nil, g_cat_rf]; exact Nat.le_of_ble_eq_true rfl) | (simp only [List.map, List.sum_cons, List.sum_nil, g_cat_rf, Value.category]; decide)) (by decide) rfl ?_
  refine g_aload_n 0 (i := 0) (pc' := 10) d_Parser_init_9 rfl rfl rfl ?_
  replace hy := g_mk_inv hy
  refine g_new (ci := 1) (fs := [.null, .null, .null, .null, .null, .null, .int 0, .int 0, .int 0, .int 0, .int 0, .int 0, .int 0, .int 0]) (pc' := 13) d_Parser_init_10 rfl q814 q157 q109 gdf_1 rfl ?_
  generalize g_al h4 (.inr (1, [.null, .null, .null, .null, .null, .null, .int 0, .int 0, .int 0, .int 0, .int 0, .int 0, .int 0, .int 0])) 14 = h6 at hy ⊢
  generalize g_n h4 = a5 at hy ⊢
  refine g_dup (pc' := 14) d_Parser_init_13 rfl rfl ?_
  replace hy := g_b_inv hy
  obtain ⟨h8, hf9, hy⟩ := hy
  refine g_callIN (h1 := h8) (pc' := 17) (As := []) (rest := [.ref a5, .ref this]) 0 (T_Net_init (hy := hf9)) d_Parser_init_14 rfl rfl q815 q159 q109 q160 hd_Net_init rfl ⟨by decide, by decide⟩ (by first | exact Nat.le_of_ble_eq_true rfl | (simp only [List.map, List.sum_cons, List.sum_nil, g_cat_rf]; exact Nat.le_of_ble_eq_true rfl) | (simp only [List.map, List.sum_cons, List.sum_nil, g_cat_rf, Value.category]; decide)) rfl ?_
  replace hy := g_pF_inv hy
  obtain ⟨fs10, hc11, hl12, hy⟩ := hy
  refine g_putfF (pc' := 20) d_Parser_init_17 rfl hc11 rfl (by decide) hl12 rfl rfl rfl rfl q858 rfl rfl ?_
  generalize g_up h8 this (.inr (8, fs10.set 1 (.ref a5))) = h13 at hy ⊢
  refine g_aload_n 0 (i := 0) (pc' := 21) d_Parser_init_20 rfl rfl rfl ?_
  refine g_ldcS (j := 0) (pc' := 23) d_Parser_init_21 rfl rfl rfl rfl ?_
  replace hy := g_pF_inv hy
  obtain ⟨fs14, hc15, hl16, hy⟩ := hy
  refine g_putf (pc' := 26) d_Parser_init_23 hc15 rfl (by decide) hl16 rfl rfl rfl q863 (Or.inl rfl) rfl ?_
  generalize g_up h13 this (.inr (8, fs14.set 6 (.ref (g_str h13 0)))) = h17 at hy ⊢
  refine g_aload_n 0 (i := 0) (pc' := 27) d_Parser_init_26 rfl rfl rfl ?_
  refine g_iload_n 2 (i := 2) (pc' := 28) d_Parser_init_27 rfl rfl rfl ?_
  replace hy := g_pF_inv hy
  obtain ⟨fs18, hc19, hl20, hy⟩ := hy
  refine g_putfF (pc' := 31) d_Parser_init_28 rfl hc19 rfl (by decide) hl20 rfl rfl rfl rfl q857 rfl rfl ?_
  generalize g_up h17 this (.inr (8, fs18.set 0 (.int p1))) = h21 at hy ⊢
  refine g_aload_n 0 (i := 0) (pc' := 32) d_Parser_init_31 rfl rfl rfl ?_
  replace hy := g_is_inv hy
  obtain ⟨fs22, hc23, hy⟩ := hy
  replace hy := g_b_inv hy
  obtain ⟨h25, hf26, hy⟩ := hy
  refine g_callV (rv := none) (h1 := h25) (pc' := 35) (As := []) (rest := []) 0 (T_Parser_advance (hy := hf26)) d_Parser_init_32 hc23 rfl rfl q817 q819 qs3 q137 q820 hd_Parser_advance rfl ⟨by decide, by decide⟩ (by first | exact Nat.le_of_ble_eq_true rfl | (simp only [List.map, List.sum_cons, List.sum_nil, g_cat_rf]; exact Nat.le_of_ble_eq_true rfl) | (simp only [List.map, List.sum_cons, List.sum_nil, g_cat_rf, Value.category]; decide)) rfl ?_
  cases hy
  exact g_vret rfl rfl rfl d_Parser_init_35
theorem hd_Parser_init : g_dsc y_Parser_init 2 := ⟨by decide +kernel, by decide +kernel, by decide +kernel⟩
