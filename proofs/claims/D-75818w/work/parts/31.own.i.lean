/-! CircuitDesk$TextError.<init>(II)V -/
abbrev y_TextError_init : MethodName := ⟨"CircuitDesk$TextError", "<init>", "(II)V"⟩
abbrev k_TextError_init : g_M := (prog_14_method_1_code, 3, "CircuitDesk$TextError", 15, none, "<init>", [], 0)
theorem d_TextError_init_0 : decode prog_14_method_1_code 0 = .ok (.aload_n 0, 1) := by decide +kernel
theorem d_TextError_init_1 : decode prog_14_method_1_code 1 = .ok (.aconst_null, 1) := by decide +kernel
theorem d_TextError_init_2 : decode prog_14_method_1_code 2 = .ok (.aconst_null, 1) := by decide +kernel
theorem d_TextError_init_3 : decode prog_14_method_1_code 3 = .ok (.iconst 0, 1) := by decide +kernel
theorem d_TextError_init_4 : decode prog_14_method_1_code 4 = .ok (.iconst 0, 1) := by decide +kernel
theorem d_TextError_init_5 : decode prog_14_method_1_code 5 = .ok (.invokespecial 1, 3) := by decide +kernel
theorem d_TextError_init_8 : decode prog_14_method_1_code 8 = .ok (.aload_n 0, 1) := by decide +kernel
theorem d_TextError_init_9 : decode prog_14_method_1_code 9 = .ok (.iload_n 1, 1) := by decide +kernel
theorem d_TextError_init_10 : decode prog_14_method_1_code 10 = .ok (.putfield 7, 3) := by decide +kernel
theorem d_TextError_init_13 : decode prog_14_method_1_code 13 = .ok (.aload_n 0, 1) := by decide +kernel
theorem d_TextError_init_14 : decode prog_14_method_1_code 14 = .ok (.iload_n 2, 1) := by decide +kernel
theorem d_TextError_init_15 : decode prog_14_method_1_code 15 = .ok (.putfield 13, 3) := by decide +kernel
theorem d_TextError_init_18 : decode prog_14_method_1_code 18 = .ok (.return_, 1) := by decide +kernel
def TextError_init (h : g_AH) (this : Nat) (p0 : Int32) (p1 : Int32) : Option g_AH :=
  g_b (Exception_init1 h this none none (0 : Int32) (0 : Int32)) fun h2 => g_pF h2 this 9 6 (.int p0) fun h7 => g_pF h7 this 9 7 (.int p1) fun h11 => some h11
set_option maxHeartbeats 4000000 in
set_option maxRecDepth 100000 in
theorem T_TextError_init {l : Launch} {B : g_B} (h : g_AH) (this : Nat) (p0 : Int32) (p1 : Int32) (z : g_AH) (hy : TextError_init h this p0 p1 = some z) : g_CT l B y_TextError_init k_TextError_init [.ref this, .int p0, .int p1] h (.inl none) z := by
  refine g_start2 (Lc := [(0, .ref this), (1, .int p0), (2, .int p1)]) (by decide) rfl rfl (by exact Nat.le_of_ble_eq_true rfl) (by rfl) fun X => ?_
  unfold TextError_init at hy
  refine g_aload_n 0 (i := 0) (pc' := 1) d_TextError_init_0 rfl rfl rfl ?_
  refine g_null (pc' := 2) d_TextError_init_1 rfl ?_
  refine g_null (pc' := 3) d_TextError_init_2 rfl ?_
  refine g_iconst (v := (0 : Int32)) (pc' := 4) d_TextError_init_3 (by decide) rfl ?_
  refine g_iconst (v := (0 : Int32)) (pc' := 5) d_TextError_init_4 (by decide) rfl ?_
  replace hy := g_b_inv hy
  obtain ⟨h2, hf3, hy⟩ := hy
  refine g_callI (h1 := h2) (pc' := 8) (As := [va_rf none, va_rf none, .int (0 : Int32), .int (0 : Int32)]) (rest := []) 4 (T_Exception_init1 (hy := hf3)) d_TextError_init_5 rfl rfl q980 q981 q114 q982 hd_Exception_init1 rfl ⟨by decide, by decide⟩ (by first | exact Nat.le_of_ble_eq_true rfl | (simp only [List.map, List.sum_cons, List.sum_nil, g_cat_rf]; exact Nat.le_of_ble_eq_true rfl) | (simp only [List.map, List.sum_cons, List.sum_nil, g_cat_rf, Value.category]; decide)) rfl ?_
  refine g_aload_n 0 (i := 0) (pc' := 9) d_TextError_init_8 rfl rfl rfl ?_
  refine g_iload_n 1 (i := 1) (pc' := 10) d_TextError_init_9 rfl rfl rfl ?_
  replace hy := g_pF_inv hy
  obtain ⟨fs4, hc5, hl6, hy⟩ := hy
  refine g_putfF (pc' := 13) d_TextError_init_10 rfl hc5 rfl (by decide) hl6 rfl rfl rfl rfl q986 rfl rfl ?_
  generalize g_up h2 this (.inr (9, fs4.set 6 (.int p0))) = h7 at hy ⊢
  refine g_aload_n 0 (i := 0) (pc' := 14) d_TextError_init_13 rfl rfl rfl ?_
  refine g_iload_n 2 (i := 2) (pc' := 15) d_TextError_init_14 rfl rfl rfl ?_
  replace hy := g_pF_inv hy
  obtain ⟨fs8, hc9, hl10, hy⟩ := hy
  refine g_putfF (pc' := 18) d_TextError_init_15 rfl hc9 rfl (by decide) hl10 rfl rfl rfl rfl q988 rfl rfl ?_
  generalize g_up h7 this (.inr (9, fs8.set 7 (.int p1))) = h11 at hy ⊢
  cases hy
  exact g_vret rfl rfl rfl d_TextError_init_18
theorem hd_TextError_init : g_dsc y_TextError_init 2 := ⟨by decide +kernel, by decide +kernel, by decide +kernel⟩
/-! CircuitDesk$Parser.require(ZI)V -/
abbrev y_Parser_require : MethodName := ⟨"CircuitDesk$Parser", "require", "(ZI)V"⟩
abbrev k_Parser_require : g_M := (prog_10_method_4_code, 3, "CircuitDesk$Parser", 16, none, "require", [], 0)
theorem d_Parser_require_0 : decode prog_10_method_4_code 0 = .ok (.iload_n 1, 1) := by decide +kernel
theorem d_Parser_require_1 : decode prog_10_method_4_code 1 = .ok (.ifCond .ne 16, 3) := by decide +kernel
theorem d_Parser_require_4 : decode prog_10_method_4_code 4 = .ok (.new 86, 3) := by decide +kernel
theorem d_Parser_require_7 : decode prog_10_method_4_code 7 = .ok (.dup, 1) := by decide +kernel
theorem d_Parser_require_8 : decode prog_10_method_4_code 8 = .ok (.iload_n 2, 1) := by decide +kernel
theorem d_Parser_require_9 : decode prog_10_method_4_code 9 = .ok (.aload_n 0, 1) := by decide +kernel
theorem d_Parser_require_10 : decode prog_10_method_4_code 10 = .ok (.getfield 46, 3) := by decide +kernel
theorem d_Parser_require_13 : decode prog_10_method_4_code 13 = .ok (.invokespecial 88, 3) := by decide +kernel
theorem d_Parser_require_16 : decode prog_10_method_4_code 16 = .ok (.athrow, 1) := by decide +kernel
theorem d_Parser_require_17 : decode prog_10_method_4_code 17 = .ok (.return_, 1) := by decide +kernel
def Parser_require (h : g_AH) (this : Nat) (p0 : Int32) (p1 : Int32) : Option ((Unit ⊕ g_EX) × g_AH) :=
  if p0 = 0 then (g_mk h (.inr (9, [.null, .null, .null, .null, .null, .int 0, .int 0, .int 0])) 8 fun a2 h3 => g_gI h3 this 8 3 fun x5 => g_b (TextError_init h3 a2 p1 x5) fun h9 => g_is h9 a2 9 <| some (.inr ("CircuitDesk$TextError", some a2), h9)) else (some (.inl (), h))
set_option maxHeartbeats 4000000 in
set_option maxRecDepth 100000 in
theorem T_Parser_require {l : Launch} {B : g_B} (h : g_AH) (this : Nat) (p0 : Int32) (p1 : Int32) (z : (Unit ⊕ g_EX) × g_AH) (hy : Parser_require h this p0 p1 = some z) : g_CT l B y_Parser_require k_Parser_require [.ref this, .int p0, .int p1] h (g_rV z.1) z.2 := by
  refine g_start2 (Lc := [(0, .ref this), (1, .int p0), (2, .int p1)]) (by decide) rfl rfl (by exact Nat.le_of_ble_eq_true rfl) (by rfl) fun X => ?_
  unfold Parser_require at hy
  refine g_iload_n 1 (i := 1) (pc' := 1) d_Parser_require_0 rfl rfl rfl ?_
  by_cases c1 : p0 = 0
  · rw [if_pos c1] at hy
    refine g_if_neF (pc' := 4) d_Parser_require_1 17 c1 (by decide) rfl ?_
    replace hy := g_mk_inv hy
    refine g_new (ci := 9) (fs := [.null, .null, .null, .null, .null, .int 0, .int 0, .int 0]) (pc' := 7) d_Parser_require_4 rfl q968 q969 q138 gdf_9 rfl ?_
    generalize g_al h (.inr (9, [.null, .null, .null, .null, .null, .int 0, .int 0, .int 0])) 8 = h3 at hy ⊢
    generalize g_n h = a2 at hy ⊢
    refine g_dup (pc' := 8) d_Parser_require_7 rfl rfl ?_
    refine g_iload_n 2 (i := 2) (pc' := 9) d_Parser_require_8 rfl rfl rfl ?_
    refine g_aload_n 0 (i := 0) (pc' := 10) d_Parser_require_9 rfl rfl rfl ?_
    replace hy := g_gI_inv hy
    obtain ⟨fs4, x5, hc6, hv7, hy⟩ := hy
    refine g_getf (pc' := 13) d_Parser_require_10 hc6 rfl (by decide) hv7 q860 (Or.inl rfl) rfl ?_
    replace hy := g_b_inv hy
    obtain ⟨h9, hf10, hy⟩ := hy
    refine g_callI (h1 := h9) (pc' := 16) (As := [.int p1, .int x5]) (rest := [.ref a2]) 2 (T_TextError_init (hy := hf10)) d_Parser_require_13 rfl rfl q977 q978 q138 q979 hd_TextError_init rfl ⟨by decide, by decide⟩ (by first | exact Nat.le_of_ble_eq_true rfl | (simp only [List.map, List.sum_cons, List.sum_nil, g_cat_rf]; exact Nat.le_of_ble_eq_true rfl) | (simp only [List.map, List.sum_cons, List.sum_nil, g_cat_rf, Value.category]; decide)) rfl ?_
    replace hy := g_is_inv hy
    obtain ⟨fs11, hc12, hy⟩ := hy
    cases hy
    exact g_athrow d_Parser_require_16 hc12 rfl rfl rfl
  · rw [if_neg c1] at hy
    refine g_if_neT (pc' := 17) d_Parser_require_1 c1 (by decide) ?_
    cases hy
    exact g_vret rfl rfl rfl d_Parser_require_17
theorem hd_Parser_require : g_dsc y_Parser_require 2 := ⟨by decide +kernel, by decide +kernel, by decide +kernel⟩
/-! CircuitDesk$Parser.look(II)I -/
abbrev y_Parser_look : MethodName := ⟨"CircuitDesk$Parser", "look", "(II)I"⟩
abbrev k_Parser_look : g_M := (prog_10_method_5_code, 3, "CircuitDesk$Parser", 17, (some FieldType.int), "look", [], 0)
theorem d_Parser_look_0 : decode prog_10_method_5_code 0 = .ok (.aload_n 0, 1) := by decide +kernel
theorem d_Parser_look_1 : decode prog_10_method_5_code 1 = .ok (.aload_n 0, 1) := by decide +kernel
theorem d_Parser_look_2 : decode prog_10_method_5_code 2 = .ok (.getfield 60, 3) := by decide +kernel
theorem d_Parser_look_5 : decode prog_10_method_5_code 5 = .ok (.iconst 1, 1) := by decide +kernel
theorem d_Parser_look_6 : decode prog_10_method_5_code 6 = .ok (.invokevirtual 91, 3) := by decide +kernel
theorem d_Parser_look_9 : decode prog_10_method_5_code 9 = .ok (.aload_n 0, 1) := by decide +kernel
theorem d_Parser_look_10 : decode prog_10_method_5_code 10 = .ok (.aload_n 0, 1) := by decide +kernel
theorem d_Parser_look_11 : decode prog_10_method_5_code 11 = .ok (.getfield 49, 3) := by decide +kernel
theorem d_Parser_look_14 : decode prog_10_method_5_code 14 = .ok (.i2l, 1) := by decide +kernel
theorem d_Parser_look_15 : decode prog_10_method_5_code 15 = .ok (.iload_n 1, 1) := by decide +kernel
theorem d_Parser_look_16 : decode prog_10_method_5_code 16 = .ok (.i2l, 1) := by decide +kernel
theorem d_Parser_look_17 : decode prog_10_method_5_code 17 = .ok (.iload_n 2, 1) := by decide +kernel
theorem d_Parser_look_18 : decode prog_10_method_5_code 18 = .ok (.i2l, 1) := by decide +kernel
theorem d_Parser_look_19 : decode prog_10_method_5_code 19 = .ok (.invokestatic 56, 3) := by decide +kernel
theorem d_Parser_look_22 : decode prog_10_method_5_code 22 = .ok (.iconst 2, 1) := by decide +kernel
theorem d_Parser_look_23 : decode prog_10_method_5_code 23 = .ok (.invokevirtual 91, 3) := by decide +kernel
theorem d_Parser_look_26 : decode prog_10_method_5_code 26 = .ok (.aload_n 0, 1) := by decide +kernel
theorem d_Parser_look_27 : decode prog_10_method_5_code 27 = .ok (.getfield 49, 3) := by decide +kernel
theorem d_Parser_look_30 : decode prog_10_method_5_code 30 = .ok (.ireturn, 1) := by decide +kernel
def Parser_look (h : g_AH) (this : Nat) (p0 : Int32) (p1 : Int32) : Option ((Int32 ⊕ g_EX) × g_AH) :=
  g_gI h this 8 4 fun x2 => g_is h this 8 <| g_bx (Parser_require h this x2 (1 : Int32)) fun x7 h8 => g_gI h8 this 8 5 fun x13 => g_b (Desk_isBetween ((x13).toInt64) ((p0).toInt64) ((p1).toInt64)) fun x16 => g_is h8 this 8 <| g_bx (Parser_require h8 this x16 (2 : Int32)) fun x21 h22 => g_gI h22 this 8 5 fun x27 => some (.inl x27, h22)
set_option maxHeartbeats 4000000 in
set_option maxRecDepth 100000 in
theorem T_Parser_look {l : Launch} {B : g_B} (h : g_AH) (this : Nat) (p0 : Int32) (p1 : Int32) (z : (Int32 ⊕ g_EX) × g_AH) (hy : Parser_look h this p0 p1 = some z) : g_CT l B y_Parser_look k_Parser_look [.ref this, .int p0, .int p1] h (g_rI z.1) z.2 := by
  refine g_start2 (Lc := [(0, .ref this), (1, .int p0), (2, .int p1)]) (by decide) rfl rfl (by exact Nat.le_of_ble_eq_true rfl) (by rfl) fun X => ?_
  unfold Parser_look at hy
  refine g_aload_n 0 (i := 0) (pc' := 1) d_Parser_look_0 rfl rfl rfl ?_
  refine g_aload_n 0 (i := 0) (pc' := 2) d_Parser_look_1 rfl rfl rfl ?_
  replace hy := g_gI_inv hy
  obtain ⟨fs1, x2, hc3, hv4, hy⟩ := hy
  refine g_getf (pc' := 5) d_Parser_look_2 hc3 rfl (by decide) hv4 q861 (Or.inl rfl) rfl ?_
  refine g_iconst (v := (1 : Int32)) (pc' := 6) d_Parser_look_5 (by decide) rfl ?_
  replace hy := g_is_inv hy
  obtain ⟨fs5, hc6, hy⟩ := hy
  replace hy := g_bx_inv hy
  rcases hy with ⟨x7, h8, hf9, hy⟩ | ⟨⟨E9, q9⟩, h8, hf9, ez11⟩
  rotate_left
  · subst ez11
    exact g_callVX (As := [.int x2, .int (1 : Int32)]) (rest := []) 2 (T_Parser_require (hy := hf9)) d_Parser_look_6 hc6 rfl rfl q964 q966 qs6 q137 q967 hd_Parser_require rfl ⟨by decide, by decide⟩ (by first | exact Nat.le_of_ble_eq_true rfl | (simp only [List.map, List.sum_cons, List.sum_nil, g_cat_rf]; exact Nat.le_of_ble_eq_true rfl) | (simp only [List.map, List.sum_cons, List.sum_nil, g_cat_rf, Value.category]; decide)) rfl rfl
  refine g_callV (rv := none) (h1 := h8) (pc' := 9) (As := [.int x2, .int (1 : Int32)]) (rest := []) 2 (T_Parser_require (hy := hf9)) d_Parser_look_6 hc6 rfl rfl q964 q966 qs6 q137 q967 hd_Parser_require rfl ⟨by decide, by decide⟩ (by first | exact Nat.le_of_ble_eq_true rfl | (simp only [List.map, List.sum_cons, List.sum_nil, g_cat_rf]; exact Nat.le_of_ble_eq_true rfl) | (simp only [List.map, List.sum_cons, List.sum_nil, g_cat_rf, Value.category]; decide)) rfl ?_
  refine g_aload_n 0 (i := 0) (pc' := 10) d_Parser_look_9 rfl rfl rfl ?_
  refine g_aload_n 0 (i := 0) (pc' := 11) d_Parser_look_10 rfl rfl rfl ?_
  replace hy := g_gI_inv hy
  obtain ⟨fs12, x13, hc14, hv15, hy⟩ := hy
  refine g_getf (pc' := 14) d_Parser_look_11 hc14 rfl (by decide) hv15 q862 (Or.inl rfl) rfl ?_
  refine g_i2l (pc' := 15) d_Parser_look_14 rfl ?_
  refine g_iload_n 1 (i := 1) (pc' := 16) d_Parser_look_15 rfl rfl rfl ?_
  refine g_i2l (pc' := 17) d_Parser_look_16 rfl ?_
  refine g_iload_n 2 (i := 2) (pc' := 18) d_Parser_look_17 rfl rfl rfl ?_
  refine g_i2l (pc' := 19) d_Parser_look_18 rfl ?_
  replace hy := g_b_inv hy
  obtain ⟨x16, hf18, hy⟩ := hy
  refine g_callSN (rv := some (.int x16)) (h1 := h8) (pc' := 22) (As := [.long ((x13).toInt64), .long ((p0).toInt64), .long ((p1).toInt64)]) (rest := [.ref this]) 3 (T_Desk_isBetween (hy := hf18)) d_Parser_look_19 q827 q828 q108 q829 hd_Desk_isBetween rfl ⟨by decide, by decide⟩ (by first | exact Nat.le_of_ble_eq_true rfl | (simp only [List.map, List.sum_cons, List.sum_nil, g_cat_rf]; exact Nat.le_of_ble_eq_true rfl) | (simp only [List.map, List.sum_cons, List.sum_nil, g_cat_rf, Value.category]; decide)) rfl ?_
  refine g_iconst (v := (2 : Int32)) (pc' := 23) d_Parser_look_22 (by decide) rfl ?_
  replace hy := g_is_inv hy
  obtain ⟨fs19, hc20, hy⟩ := hy
  replace hy := g_bx_inv hy
  rcases hy with ⟨x21, h22, hf23, hy⟩ | ⟨⟨E9, q9⟩, h22, hf23, ez25⟩
  rotate_left
  · subst ez25
    exact g_callVX (As := [.int x16, .int (2 : Int32)]) (rest := []) 2 (T_Parser_require (hy := hf23)) d_Parser_look_23 hc20 rfl rfl q964 q966 qs6 q137 q967 hd_Parser_require rfl ⟨by decide, by decide⟩ (by first | exact Nat.le_of_ble_eq_true rfl | (simp only [List.map, List.sum_cons, List.sum_nil, g_cat_rf]; exact Nat.le_of_ble_eq_true rfl) | (simp only [List.map, List.sum_cons, List.sum_nil, g_cat_rf, Value.category]; decide)) rfl rfl
  refine g_callV (rv := none) (h1 := h22) (pc' := 26) (As := [.int x16, .int (2 : Int32)]) (rest := []) 2 (T_Parser_require (hy := hf23)) d_Parser_look_23 hc20 rfl rfl q964 q966 qs6 q137 q967 hd_Parser_require rfl ⟨by decide, by decide⟩ (by first | exact Nat.le_of_ble_eq_true rfl | (simp only [List.map, List.sum_cons, List.sum_nil, g_cat_rf]; exact Nat.le_of_ble_eq_true rfl) | (simp only [List.map, List.sum_cons, List.sum_nil, g_cat_rf, Value.category]; decide)) rfl ?_
  refine g_aload_n 0 (i := 0) (pc' := 27) d_Parser_look_26 rfl rfl rfl ?_
  replace hy := g_gI_inv hy
  obtain ⟨fs26, x27, hc28, hv29, hy⟩ := hy
  refine g_getf (pc' := 30) d_Parser_look_27 hc28 rfl (by decide) hv29 q862 (Or.inl rfl) rfl ?_
  cases hy
  exact g_iret rfl rfl rfl d_Parser_look_30
theorem hd_Parser_look : g_dsc y_Parser_look 2 := ⟨by decide +kernel, by decide +kernel, by decide +kernel⟩
/-! CircuitDesk$Parser.number(II)I -/
abbrev y_Parser_number : MethodName := ⟨"CircuitDesk$Parser", "number", "(II)I"⟩
abbrev k_Parser_number : g_M := (prog_10_method_6_code, 4, "CircuitDesk$Parser", 30, (some FieldType.int), "number", [], 0)
theorem d_Parser_number_0 : decode prog_10_method_6_code 0 = .ok (.aload_n 0, 1) := by decide +kernel
theorem d_Parser_number_1 : decode prog_10_method_6_code 1 = .ok (.iload_n 1, 1) := by decide +kernel
theorem d_Parser_number_2 : decode prog_10_method_6_code 2 = .ok (.iload_n 2, 1) := by decide +kernel
theorem d_Parser_number_3 : decode prog_10_method_6_code 3 = .ok (.invokevirtual 95, 3) := by decide +kernel
theorem d_Parser_number_6 : decode prog_10_method_6_code 6 = .ok (.istore_n 3, 1) := by decide +kernel
theorem d_Parser_number_7 : decode prog_10_method_6_code 7 = .ok (.aload_n 0, 1) := by decide +kernel
theorem d_Parser_number_8 : decode prog_10_method_6_code 8 = .ok (.invokevirtual 32, 3) := by decide +kernel
theorem d_Parser_number_11 : decode prog_10_method_6_code 11 = .ok (.iload_n 3, 1) := by decide +kernel
theorem d_Parser_number_12 : decode prog_10_method_6_code 12 = .ok (.ireturn, 1) := by decide +kernel
def Parser_number (h : g_AH) (this : Nat) (p0 : Int32) (p1 : Int32) : Option ((Int32 ⊕ g_EX) × g_AH) :=
  g_is h this 8 <| g_bx (Parser_look h this p0 p1) fun x3 h4 => g_is h4 this 8 <| g_b (Parser_advance h4 this) fun h11 => some (.inl x3, h11)
set_option maxHeartbeats 4000000 in
set_option maxRecDepth 100000 in
theorem T_Parser_number {l : Launch} {B : g_B} (h : g_AH) (this : Nat) (p0 : Int32) (p1 : Int32) (z : (Int32 ⊕ g_EX) × g_AH) (hy : Parser_number h this p0 p1 = some z) : g_CT l B y_Parser_number k_Parser_number [.ref this, .int p0, .int p1] h (g_rI z.1) z.2 := by
  refine g_start2 (Lc := [(0, .ref this), (1, .int p0), (2, .int p1)]) (by decide) rfl rfl (by exact Nat.le_of_ble_eq_true rfl) (by rfl) fun X => ?_
  unfold Parser_number at hy
  refine g_aload_n 0 (i := 0) (pc' := 1) d_Parser_number_0 rfl rfl rfl ?_
  refine g_iload_n 1 (i := 1) (pc' := 2) d_Parser_number_1 rfl rfl rfl ?_
  refine g_iload_n 2 (i := 2) (pc' := 3) d_Parser_number_2 rfl rfl rfl ?_
  replace hy := g_is_inv hy
  obtain ⟨fs1, hc2, hy⟩ := hy
  replace hy := g_bx_inv hy
  rcases hy with ⟨x3, h4, hf5, hy⟩ | ⟨⟨E9, q9⟩, h4, hf5, ez7⟩
  rotate_left
  · subst ez7
    exact g_callVX (As := [.int p0, .int p1]) (rest := []) 2 (T_Parser_look (hy := hf5)) d_Parser_number_3 hc2 rfl rfl q1002 q1004 qs8 q137 q1005 hd_Parser_look rfl ⟨by decide, by decide⟩ (by first | exact Nat.le_of_ble_eq_true rfl | (simp only [List.map, List.sum_cons, List.sum_nil, g_cat_rf]; exact Nat.le_of_ble_eq_true rfl) | (simp only [List.map, List.sum_cons, List.sum_nil, g_cat_rf, Value.category]; decide)) rfl rfl
  refine g_callV (rv := some (.int x3)) (h1 := h4) (pc' := 6) (As := [.int p0, .int p1]) (rest := []) 2 (T_Parser_look (hy := hf5)) d_Parser_number_3 hc2 rfl rfl q1002 q1004 qs8 q137 q1005 hd_Parser_look rfl ⟨by decide, by decide⟩ (by first | exact Nat.le_of_ble_eq_true rfl | (simp only [List.map, List.sum_cons, List.sum_nil, g_cat_rf]; exact Nat.le_of_ble_eq_true rfl) | (simp only [List.map, List.sum_cons, List.sum_nil, g_cat_rf, Value.category]; decide)) rfl ?_
  refine g_istore_n (i := 3) (pc' := 7) (Lc' := [(3, .int x3), (0, .ref this), (1, .int p0), (2, .int p1)]) d_Parser_number_6 rfl (by decide) rfl rfl ?_
  refine g_aload_n 1 (i := 0) (pc' := 8) d_Parser_number_7 rfl rfl rfl ?_
  replace hy := g_is_inv hy
  obtain ⟨fs8, hc9, hy⟩ := hy
  replace hy := g_b_inv hy
  obtain ⟨h11, hf12, hy⟩ := hy
  refine g_callV (rv := none) (h1 := h11) (pc' := 11) (As := []) (rest := []) 0 (T_Parser_advance (hy := hf12)) d_Parser_number_8 hc9 rfl rfl q817 q819 qs3 q137 q820 hd_Parser_advance rfl ⟨by decide, by decide⟩ (by first | exact Nat.le_of_ble_eq_true rfl | (simp only [List.map, List.sum_cons, List.sum_nil, g_cat_rf]; exact Nat.le_of_ble_eq_true rfl) | (simp only [List.map, List.sum_cons, List.sum_nil, g_cat_rf, Value.category]; decide)) rfl ?_
  refine g_iload_n 0 (i := 3) (pc' := 12) d_Parser_number_11 rfl rfl rfl ?_
  cases hy
  exact g_iret rfl rfl rfl d_Parser_number_12
theorem hd_Parser_number : g_dsc y_Parser_number 2 := ⟨by decide +kernel, by decide +kernel, by decide +kernel⟩
/-! CircuitDesk$Parser.link()V -/
abbrev y_Parser_link : MethodName := ⟨"CircuitDesk$Parser", "link", "()V"⟩
abbrev k_Parser_link : g_M := (prog_10_method_9_code, 4, "CircuitDesk$Parser", 31, none, "link", [], 0)
theorem d_Parser_link_0 : decode prog_10_method_9_code 0 = .ok (.aload_n 0, 1) := by decide +kernel
theorem d_Parser_link_1 : decode prog_10_method_9_code 1 = .ok (.aload_n 0, 1) := by decide +kernel
theorem d_Parser_link_2 : decode prog_10_method_9_code 2 = .ok (.getfield 18, 3) := by decide +kernel
theorem d_Parser_link_5 : decode prog_10_method_9_code 5 = .ok (.getfield 151, 3) := by decide +kernel
theorem d_Parser_link_8 : decode prog_10_method_9_code 8 = .ok (.invokevirtual 125, 3) := by decide +kernel
theorem d_Parser_link_11 : decode prog_10_method_9_code 11 = .ok (.bipush 16, 2) := by decide +kernel
theorem d_Parser_link_13 : decode prog_10_method_9_code 13 = .ok (.if_icmp .ge 7, 3) := by decide +kernel
theorem d_Parser_link_16 : decode prog_10_method_9_code 16 = .ok (.iconst 1, 1) := by decide +kernel
theorem d_Parser_link_17 : decode prog_10_method_9_code 17 = .ok (.goto 4, 3) := by decide +kernel
theorem d_Parser_link_20 : decode prog_10_method_9_code 20 = .ok (.iconst 0, 1) := by decide +kernel
theorem d_Parser_link_21 : decode prog_10_method_9_code 21 = .ok (.iconst 3, 1) := by decide +kernel
theorem d_Parser_link_22 : decode prog_10_method_9_code 22 = .ok (.invokevirtual 91, 3) := by decide +kernel
theorem d_Parser_link_25 : decode prog_10_method_9_code 25 = .ok (.aload_n 0, 1) := by decide +kernel
theorem d_Parser_link_26 : decode prog_10_method_9_code 26 = .ok (.invokevirtual 32, 3) := by decide +kernel
theorem d_Parser_link_29 : decode prog_10_method_9_code 29 = .ok (.aload_n 0, 1) := by decide +kernel
theorem d_Parser_link_30 : decode prog_10_method_9_code 30 = .ok (.iconst 0, 1) := by decide +kernel
theorem d_Parser_link_31 : decode prog_10_method_9_code 31 = .ok (.aload_n 0, 1) := by decide +kernel
theorem d_Parser_link_32 : decode prog_10_method_9_code 32 = .ok (.getfield 18, 3) := by decide +kernel
theorem d_Parser_link_35 : decode prog_10_method_9_code 35 = .ok (.getfield 121, 3) := by decide +kernel
theorem d_Parser_link_38 : decode prog_10_method_9_code 38 = .ok (.invokevirtual 125, 3) := by decide +kernel
theorem d_Parser_link_41 : decode prog_10_method_9_code 41 = .ok (.iconst 1, 1) := by decide +kernel
theorem d_Parser_link_42 : decode prog_10_method_9_code 42 = .ok (.isub, 1) := by decide +kernel
theorem d_Parser_link_43 : decode prog_10_method_9_code 43 = .ok (.invokevirtual 132, 3) := by decide +kernel
theorem d_Parser_link_46 : decode prog_10_method_9_code 46 = .ok (.istore_n 1, 1) := by decide +kernel
theorem d_Parser_link_47 : decode prog_10_method_9_code 47 = .ok (.aload_n 0, 1) := by decide +kernel
theorem d_Parser_link_48 : decode prog_10_method_9_code 48 = .ok (.iconst 0, 1) := by decide +kernel
theorem d_Parser_link_49 : decode prog_10_method_9_code 49 = .ok (.aload_n 0, 1) := by decide +kernel
theorem d_Parser_link_50 : decode prog_10_method_9_code 50 = .ok (.getfield 18, 3) := by decide +kernel
theorem d_Parser_link_53 : decode prog_10_method_9_code 53 = .ok (.getfield 121, 3) := by decide +kernel
theorem d_Parser_link_56 : decode prog_10_method_9_code 56 = .ok (.invokevirtual 125, 3) := by decide +kernel
theorem d_Parser_link_59 : decode prog_10_method_9_code 59 = .ok (.iconst 1, 1) := by decide +kernel
theorem d_Parser_link_60 : decode prog_10_method_9_code 60 = .ok (.isub, 1) := by decide +kernel
theorem d_Parser_link_61 : decode prog_10_method_9_code 61 = .ok (.invokevirtual 95, 3) := by decide +kernel
theorem d_Parser_link_64 : decode prog_10_method_9_code 64 = .ok (.istore_n 2, 1) := by decide +kernel
theorem d_Parser_link_65 : decode prog_10_method_9_code 65 = .ok (.aload_n 0, 1) := by decide +kernel
theorem d_Parser_link_66 : decode prog_10_method_9_code 66 = .ok (.iload_n 1, 1) := by decide +kernel
theorem d_Parser_link_67 : decode prog_10_method_9_code 67 = .ok (.iload_n 2, 1) := by decide +kernel
theorem d_Parser_link_68 : decode prog_10_method_9_code 68 = .ok (.if_icmp .eq 19, 3) := by decide +kernel
theorem d_Parser_link_71 : decode prog_10_method_9_code 71 = .ok (.aload_n 0, 1) := by decide +kernel
theorem d_Parser_link_72 : decode prog_10_method_9_code 72 = .ok (.getfield 18, 3) := by decide +kernel
theorem d_Parser_link_75 : decode prog_10_method_9_code 75 = .ok (.iload_n 1, 1) := by decide +kernel
theorem d_Parser_link_76 : decode prog_10_method_9_code 76 = .ok (.iload_n 2, 1) := by decide +kernel
theorem d_Parser_link_77 : decode prog_10_method_9_code 77 = .ok (.invokevirtual 154, 3) := by decide +kernel
theorem d_Parser_link_80 : decode prog_10_method_9_code 80 = .ok (.ifCond .ne 7, 3) := by decide +kernel
theorem d_Parser_link_83 : decode prog_10_method_9_code 83 = .ok (.iconst 1, 1) := by decide +kernel
theorem d_Parser_link_84 : decode prog_10_method_9_code 84 = .ok (.goto 4, 3) := by decide +kernel
theorem d_Parser_link_87 : decode prog_10_method_9_code 87 = .ok (.iconst 0, 1) := by decide +kernel
theorem d_Parser_link_88 : decode prog_10_method_9_code 88 = .ok (.iconst 4, 1) := by decide +kernel
theorem d_Parser_link_89 : decode prog_10_method_9_code 89 = .ok (.invokevirtual 91, 3) := by decide +kernel
theorem d_Parser_link_92 : decode prog_10_method_9_code 92 = .ok (.aload_n 0, 1) := by decide +kernel
theorem d_Parser_link_93 : decode prog_10_method_9_code 93 = .ok (.invokevirtual 32, 3) := by decide +kernel
theorem d_Parser_link_96 : decode prog_10_method_9_code 96 = .ok (.aload_n 0, 1) := by decide +kernel
theorem d_Parser_link_97 : decode prog_10_method_9_code 97 = .ok (.iconst 1, 1) := by decide +kernel
theorem d_Parser_link_98 : decode prog_10_method_9_code 98 = .ok (.bipush 99, 2) := by decide +kernel
theorem d_Parser_link_100 : decode prog_10_method_9_code 100 = .ok (.invokevirtual 132, 3) := by decide +kernel
theorem d_Parser_link_103 : decode prog_10_method_9_code 103 = .ok (.istore_n 3, 1) := by decide +kernel
theorem d_Parser_link_104 : decode prog_10_method_9_code 104 = .ok (.aload_n 0, 1) := by decide +kernel
theorem d_Parser_link_105 : decode prog_10_method_9_code 105 = .ok (.getfield 18, 3) := by decide +kernel
theorem d_Parser_link_108 : decode prog_10_method_9_code 108 = .ok (.getfield 151, 3) := by decide +kernel
theorem d_Parser_link_111 : decode prog_10_method_9_code 111 = .ok (.new 158, 3) := by decide +kernel
theorem d_Parser_link_114 : decode prog_10_method_9_code 114 = .ok (.dup, 1) := by decide +kernel
theorem d_Parser_link_115 : decode prog_10_method_9_code 115 = .ok (.iload_n 1, 1) := by decide +kernel
theorem d_Parser_link_116 : decode prog_10_method_9_code 116 = .ok (.iload_n 2, 1) := by decide +kernel
theorem d_Parser_link_117 : decode prog_10_method_9_code 117 = .ok (.iload_n 3, 1) := by decide +kernel
theorem d_Parser_link_118 : decode prog_10_method_9_code 118 = .ok (.aload_n 0, 1) := by decide +kernel
theorem d_Parser_link_119 : decode prog_10_method_9_code 119 = .ok (.iconst 1, 1) := by decide +kernel
theorem d_Parser_link_120 : decode prog_10_method_9_code 120 = .ok (.bipush 9, 2) := by decide +kernel
theorem d_Parser_link_122 : decode prog_10_method_9_code 122 = .ok (.invokevirtual 132, 3) := by decide +kernel
theorem d_Parser_link_125 : decode prog_10_method_9_code 125 = .ok (.invokespecial 160, 3) := by decide +kernel
theorem d_Parser_link_128 : decode prog_10_method_9_code 128 = .ok (.invokevirtual 137, 3) := by decide +kernel
theorem d_Parser_link_131 : decode prog_10_method_9_code 131 = .ok (.pop, 1) := by decide +kernel
theorem d_Parser_link_132 : decode prog_10_method_9_code 132 = .ok (.return_, 1) := by decide +kernel
def Parser_link_88 (h : g_AH) (v0 : Nat) (v1 : Int32) (v2 : Int32) (s0 : Int32) (s1 : Nat) : Option ((Unit ⊕ g_EX) × g_AH) :=
  g_is h s1 8 <| g_bx (Parser_require h s1 s0 (4 : Int32)) fun x76 h77 => g_is h77 v0 8 <| g_b (Parser_advance h77 v0) fun h84 => g_is h84 v0 8 <| g_bx (Parser_number h84 v0 (1 : Int32) (99 : Int32)) fun x88 h89 => g_gR h89 v0 8 1 fun x94 => g_nn x94 fun a97 => g_gR h89 a97 1 2 fun x99 => g_mk h89 (.inr (11, [.int 0, .int 0, .int 0, .int 0, .int 0])) 5 fun a102 h103 => g_is h103 v0 8 <| g_bx (Parser_number h103 v0 (1 : Int32) (9 : Int32)) fun x106 h107 => g_b (Link_init h107 a102 v1 v2 x88 x106) fun h112 => g_nn x99 fun a114 => g_is h112 a114 15 <| g_b2 (ArrayList_add0 h112 a114 (some a102)) fun x117 h118 => some (.inl (), h118)
set_option maxHeartbeats 4000000 in
set_option maxRecDepth 100000 in
theorem W_Parser_link_88 {X : g_X} (z : (Unit ⊕ g_EX) × g_AH) (h : g_AH) (v0 : Nat) (v1 : Int32) (v2 : Int32) (s0 : Int32) (s1 : Nat) (hy : Parser_link_88  h v0 v1 v2 s0 s1 = some z) : G X k_Parser_link (g_rV z.1) z.2 h 88 [(0, .ref v0), (1, .int v1), (2, .int v2)] [.int s0, .ref s1] := by
  unfold Parser_link_88 at hy
  refine g_iconst (v := (4 : Int32)) (pc' := 89) d_Parser_link_88 (by decide) rfl ?_
  replace hy := g_is_inv hy
  obtain ⟨fs74, hc75, hy⟩ := hy
  replace hy := g_bx_inv hy
  rcases hy with ⟨x76, h77, hf78, hy⟩ | ⟨⟨E9, q9⟩, h77, hf78, ez80⟩
  rotate_left
  · subst ez80
    exact g_callVX (As := [.int s0, .int (4 : Int32)]) (rest := []) 2 (T_Parser_require (hy := hf78)) d_Parser_link_89 hc75 rfl rfl q964 q966 qs6 q137 q967 hd_Parser_require rfl ⟨by decide, by decide⟩ (by first | exact Nat.le_of_ble_eq_true rfl | (simp only [List.map, List.sum_cons, List.sum_nil, g_cat_rf]; exact Nat.le_of_ble_eq_true rfl) | (simp only [List.map, List.sum_cons, List.sum_nil, g_cat_rf, Value.category]; decide)) rfl rfl
  refine g_callV (rv := none) (h1 := h77) (pc' := 92) (As := [.int s0, .int (4 : Int32)]) (rest := []) 2 (T_Parser_require (hy := hf78)) d_Parser_link_89 hc75 rfl rfl q964 q966 qs6 q137 q967 hd_Parser_require rfl ⟨by decide, by decide⟩ (by first | exact Nat.le_of_ble_eq_true rfl | (simp only [List.map, List.sum_cons, List.sum_nil, g_cat_rf]; exact Nat.le_of_ble_eq_true rfl) | (simp only [List.map, List.sum_cons, List.sum_nil, g_cat_rf, Value.category]; decide)) rfl ?_
  refine g_aload_n 0 (i := 0) (pc' := 93) d_Parser_link_92 rfl rfl rfl ?_
  replace hy := g_is_inv hy
  obtain ⟨fs81, hc82, hy⟩ := hy
  replace hy := g_b_inv hy
  obtain ⟨h84, hf85, hy⟩ := hy
  refine g_callV (rv := none) (h1 := h84) (pc' := 96) (As := []) (rest := []) 0 (T_Parser_advance (hy := hf85)) d_Parser_link_93 hc82 rfl rfl q817 q819 qs3 q137 q820 hd_Parser_advance rfl ⟨by decide, by decide⟩ (by first | exact Nat.le_of_ble_eq_true rfl | (simp only [List.map, List.sum_cons, List.sum_nil, g_cat_rf]; exact Nat.le_of_ble_eq_true rfl) | (simp only [List.map, List.sum_cons, List.sum_nil, g_cat_rf, Value.category]; decide)) rfl ?_
  refine g_aload_n 0 (i := 0) (pc' := 97) d_Parser_link_96 rfl rfl rfl ?_
  refine g_iconst (v := (1 : Int32)) (pc' := 98) d_Parser_link_97 (by decide) rfl ?_
  refine g_bipush (v := (99 : Int32)) (pc' := 100) d_Parser_link_98 (by decide) rfl ?_
  replace hy := g_is_inv hy
  obtain ⟨fs86, hc87, hy⟩ := hy
  replace hy := g_bx_inv hy
  rcases hy with ⟨x88, h89, hf90, hy⟩ | ⟨⟨E9, q9⟩, h89, hf90, ez92⟩
  rotate_left
  · subst ez92
    exact g_callVX (As := [.int (1 : Int32), .int (99 : Int32)]) (rest := []) 2 (T_Parser_number (hy := hf90)) d_Parser_link_100 hc87 rfl rfl q998 q1000 qs7 q137 q1001 hd_Parser_number rfl ⟨by decide, by decide⟩ (by first | exact Nat.le_of_ble_eq_true rfl | (simp only [List.map, List.sum_cons, List.sum_nil, g_cat_rf]; exact Nat.le_of_ble_eq_true rfl) | (simp only [List.map, List.sum_cons, List.sum_nil, g_cat_rf, Value.category]; decide)) rfl rfl
  refine g_callV (rv := some (.int x88)) (h1 := h89) (pc' := 103) (As := [.int (1 : Int32), .int (99 : Int32)]) (rest := []) 2 (T_Parser_number (hy := hf90)) d_Parser_link_100 hc87 rfl rfl q998 q1000 qs7 q137 q1001 hd_Parser_number rfl ⟨by decide, by decide⟩ (by first | exact Nat.le_of_ble_eq_true rfl | (simp only [List.map, List.sum_cons, List.sum_nil, g_cat_rf]; exact Nat.le_of_ble_eq_true rfl) | (simp only [List.map, List.sum_cons, List.sum_nil, g_cat_rf, Value.category]; decide)) rfl ?_
  refine g_istore_n (i := 3) (pc' := 104) (Lc' := [(3, .int x88), (0, .ref v0), (1, .int v1), (2, .int v2)]) d_Parser_link_103 rfl (by decide) rfl rfl ?_
  refine g_aload_n 1 (i := 0) (pc' := 105) d_Parser_link_104 rfl rfl rfl ?_
  replace hy := g_gR_inv hy
  obtain ⟨fs93, x94, hc95, hv96, hy⟩ := hy
  refine g_getf (pc' := 108) d_Parser_link_105 hc95 rfl (by decide) hv96 q858 (Or.inl rfl) rfl ?_
  replace hy := g_nn_inv hy
  obtain ⟨a97, rfl, hy⟩ := hy
  replace hy := g_gR_inv hy
  obtain ⟨fs98, x99, hc100, hv101, hy⟩ := hy
  refine g_getfN (pc' := 111) d_Parser_link_108 hc100 rfl (by decide) hv101 q554 rfl rfl ?_
  replace hy := g_mk_inv hy
  refine g_new (ci := 11) (fs := [.int 0, .int 0, .int 0, .int 0, .int 0]) (pc' := 114) d_Parser_link_111 rfl q1101 q1102 q141 gdf_11 rfl ?_
  generalize g_al h89 (.inr (11, [.int 0, .int 0, .int 0, .int 0, .int 0])) 5 = h103 at hy ⊢
  generalize g_n h89 = a102 at hy ⊢
  refine g_dup (pc' := 115) d_Parser_link_114 rfl rfl ?_
  refine g_iload_n 2 (i := 1) (pc' := 116) d_Parser_link_115 rfl rfl rfl ?_
  refine g_iload_n 3 (i := 2) (pc' := 117) d_Parser_link_116 rfl rfl rfl ?_
  refine g_iload_n 0 (i := 3) (pc' := 118) d_Parser_link_117 rfl rfl rfl ?_
  refine g_aload_n 1 (i := 0) (pc' := 119) d_Parser_link_118 rfl rfl rfl ?_
  refine g_iconst (v := (1 : Int32)) (pc' := 120) d_Parser_link_119 (by decide) rfl ?_
  refine g_bipush (v := (9 : Int32)) (pc' := 122) d_Parser_link_120 (by decide) rfl ?_
  replace hy := g_is_inv hy
  obtain ⟨fs104, hc105, hy⟩ := hy
  replace hy := g_bx_inv hy
  rcases hy with ⟨x106, h107, hf108, hy⟩ | ⟨⟨E9, q9⟩, h107, hf108, ez110⟩
  rotate_left
  · subst ez110
    exact g_callVX (As := [.int (1 : Int32), .int (9 : Int32)]) (rest := [.int x88, .int v2, .int v1, .ref a102, .ref a102, va_rf x99]) 2 (T_Parser_number (hy := hf108)) d_Parser_link_122 hc105 rfl rfl q998 q1000 qs7 q137 q1001 hd_Parser_number rfl ⟨by decide, by decide⟩ (by first | exact Nat.le_of_ble_eq_true rfl | (simp only [List.map, List.sum_cons, List.sum_nil, g_cat_rf]; exact Nat.le_of_ble_eq_true rfl) | (simp only [List.map, List.sum_cons, List.sum_nil, g_cat_rf, Value.category]; decide)) rfl rfl
  refine g_callV (rv := some (.int x106)) (h1 := h107) (pc' := 125) (As := [.int (1 : Int32), .int (9 : Int32)]) (rest := [.int x88, .int v2, .int v1, .ref a102, .ref a102, va_rf x99]) 2 (T_Parser_number (hy := hf108)) d_Parser_link_122 hc105 rfl rfl q998 q1000 qs7 q137 q1001 hd_Parser_number rfl ⟨by decide, by decide⟩ (by first | exact Nat.le_of_ble_eq_true rfl | (simp only [List.map, List.sum_cons, List.sum_nil, g_cat_rf]; exact Nat.le_of_ble_eq_true rfl) | (simp only [List.map, List.sum_cons, List.sum_nil, g_cat_rf, Value.category]; decide)) rfl ?_
  replace hy := g_b_inv hy
  obtain ⟨h112, hf113, hy⟩ := hy
  refine g_callI (h1 := h112) (pc' := 128) (As := [.int v1, .int v2, .int x88, .int x106]) (rest := [.ref a102, va_rf x99]) 4 (T_Link_init (hy := hf113)) d_Parser_link_125 rfl rfl q1103 q1104 q141 q1105 hd_Link_init rfl ⟨by decide, by decide⟩ (by first | exact Nat.le_of_ble_eq_true rfl | (simp only [List.map, List.sum_cons, List.sum_nil, g_cat_rf]; exact Nat.le_of_ble_eq_true rfl) | (simp only [List.map, List.sum_cons, List.sum_nil, g_cat_rf, Value.category]; decide)) rfl ?_
  replace hy := g_nn_inv hy
  obtain ⟨a114, rfl, hy⟩ := hy
  replace hy := g_is_inv hy
  obtain ⟨fs115, hc116, hy⟩ := hy
  replace hy := g_b2_inv hy
  obtain ⟨x117, h118, hf119, hy⟩ := hy
  refine g_callV (rv := some (.int x117)) (h1 := h118) (pc' := 131) (As := [va_rf (some a102)]) (rest := []) 1 (T_ArrayList_add0 (hy := hf119)) d_Parser_link_128 hc116 rfl rfl q1036 q1037 q1038 q112 q1039 hd_ArrayList_add0 rfl ⟨by decide, by decide⟩ (by first | exact Nat.le_of_ble_eq_true rfl | (simp only [List.map, List.sum_cons, List.sum_nil, g_cat_rf]; exact Nat.le_of_ble_eq_true rfl) | (simp only [List.map, List.sum_cons, List.sum_nil, g_cat_rf, Value.category]; decide)) rfl ?_
  refine g_pop (pc' := 132) d_Parser_link_131 rfl rfl ?_
  cases hy
  exact g_vret rfl rfl rfl d_Parser_link_132
def Parser_link_87 (h : g_AH) (v0 : Nat) (v1 : Int32) (v2 : Int32) (s0 : Nat) : Option ((Unit ⊕ g_EX) × g_AH) :=
  Parser_link_88  h v0 v1 v2 (0 : Int32) s0
set_option maxHeartbeats 4000000 in
set_option maxRecDepth 100000 in
theorem W_Parser_link_87 {X : g_X} (z : (Unit ⊕ g_EX) × g_AH) (h : g_AH) (v0 : Nat) (v1 : Int32) (v2 : Int32) (s0 : Nat) (hy : Parser_link_87  h v0 v1 v2 s0 = some z) : G X k_Parser_link (g_rV z.1) z.2 h 87 [(0, .ref v0), (1, .int v1), (2, .int v2)] [.ref s0] := by
  unfold Parser_link_87 at hy
  refine g_iconst (v := (0 : Int32)) (pc' := 88) d_Parser_link_87 (by decide) rfl ?_
  exact W_Parser_link_88 _ _ _ _ _ _ _ hy
def Parser_link_21 (h : g_AH) (v0 : Nat) (s0 : Int32) (s1 : Nat) : Option ((Unit ⊕ g_EX) × g_AH) :=
  g_is h s1 8 <| g_bx (Parser_require h s1 s0 (3 : Int32)) fun x19 h20 => g_is h20 v0 8 <| g_b (Parser_advance h20 v0) fun h27 => g_gR h27 v0 8 1 fun x30 => g_nn x30 fun a33 => g_gR h27 a33 1 1 fun x35 => g_nn x35 fun a38 => g_is h27 a38 15 <| g_b (ArrayList_size h27 a38) fun x41 => g_is h27 v0 8 <| g_bx (Parser_number h27 v0 (0 : Int32) (x41 - (1 : Int32))) fun x46 h47 => g_gR h47 v0 8 1 fun x52 => g_nn x52 fun a55 => g_gR h47 a55 1 1 fun x57 => g_nn x57 fun a60 => g_is h47 a60 15 <| g_b (ArrayList_size h47 a60) fun x63 => g_is h47 v0 8 <| g_bx (Parser_look h47 v0 (0 : Int32) (x63 - (1 : Int32))) fun x68 h69 => if x46 = x68 then (Parser_link_87  h69 v0 x46 x68 v0) else (g_gR h69 v0 8 1 fun x121 => g_nn x121 fun a124 => g_is h69 a124 1 <| g_b (Net_areJoined h69 a124 x46 x68) fun x127 => if x127 = 0 then (Parser_link_88  h69 v0 x46 x68 (1 : Int32) v0) else (Parser_link_87  h69 v0 x46 x68 v0))
set_option maxHeartbeats 4000000 in
set_option maxRecDepth 100000 in
theorem W_Parser_link_21 {X : g_X} (z : (Unit ⊕ g_EX) × g_AH) (h : g_AH) (v0 : Nat) (s0 : Int32) (s1 : Nat) (hy : Parser_link_21  h v0 s0 s1 = some z) : G X k_Parser_link (g_rV z.1) z.2 h 21 [(0, .ref v0)] [.int s0, .ref s1] := by
  unfold Parser_link_21 at hy
  refine g_iconst (v := (3 : Int32)) (pc' := 22) d_Parser_link_21 (by decide) rfl ?_
  replace hy := g_is_inv hy
  obtain ⟨fs17, hc18, hy⟩ := hy
  replace hy := g_bx_inv hy
  rcases hy with ⟨x19, h20, hf21, hy⟩ | ⟨⟨E9, q9⟩, h20, hf21, ez23⟩
  rotate_left
  · subst ez23
    exact g_callVX (As := [.int s0, .int (3 : Int32)]) (rest := []) 2 (T_Parser_require (hy := hf21)) d_Parser_link_22 hc18 rfl rfl q964 q966 qs6 q137 q967 hd_Parser_require rfl ⟨by decide, by decide⟩ (by first | exact Nat.le_of_ble_eq_true rfl | (simp only [List.map, List.sum_cons, List.sum_nil, g_cat_rf]; exact Nat.le_of_ble_eq_true rfl) | (simp only [List.map, List.sum_cons, List.sum_nil, g_cat_rf, Value.category]; decide)) rfl rfl
  refine g_callV (rv := none) (h1 := h20) (pc' := 25) (As := [.int s0, .int (3 : Int32)]) (rest := []) 2 (T_Parser_require (hy := hf21)) d_Parser_link_22 hc18 rfl rfl q964 q966 qs6 q137 q967 hd_Parser_require rfl ⟨by decide, by decide⟩ (by first | exact Nat.le_of_ble_eq_true rfl | (simp only [List.map, List.sum_cons, List.sum_nil, g_cat_rf]; exact Nat.le_of_ble_eq_true rfl) | (simp only [List.map, List.sum_cons, List.sum_nil, g_cat_rf, Value.category]; decide)) rfl ?_
  refine g_aload_n 0 (i := 0) (pc' := 26) d_Parser_link_25 rfl rfl rfl ?_
  replace hy := g_is_inv hy
  obtain ⟨fs24, hc25, hy⟩ := hy
  replace hy := g_b_inv hy
  obtain ⟨h27, hf28, hy⟩ := hy
  refine g_callV (rv := none) (h1 := h27) (pc' := 29) (As := []) (rest := []) 0 (T_Parser_advance (hy := hf28)) d_Parser_link_26 hc25 rfl rfl q817 q819 qs3 q137 q820 hd_Parser_advance rfl ⟨by decide, by decide⟩ (by first | exact Nat.le_of_ble_eq_true rfl | (simp only [List.map, List.sum_cons, List.sum_nil, g_cat_rf]; exact Nat.le_of_ble_eq_true rfl) | (simp only [List.map, List.sum_cons, List.sum_nil, g_cat_rf, Value.category]; decide)) rfl ?_
  refine g_aload_n 0 (i := 0) (pc' := 30) d_Parser_link_29 rfl rfl rfl ?_
  refine g_iconst (v := (0 : Int32)) (pc' := 31) d_Parser_link_30 (by decide) rfl ?_
  refine g_aload_n 0 (i := 0) (pc' := 32) d_Parser_link_31 rfl rfl rfl ?_
  replace hy := g_gR_inv hy
  obtain ⟨fs29, x30, hc31, hv32, hy⟩ := hy
  refine g_getf (pc' := 35) d_Parser_link_32 hc31 rfl (by decide) hv32 q858 (Or.inl rfl) rfl ?_
  replace hy := g_nn_inv hy
  obtain ⟨a33, rfl, hy⟩ := hy
  replace hy := g_gR_inv hy
  obtain ⟨fs34, x35, hc36, hv37, hy⟩ := hy
  refine g_getfN (pc' := 38) d_Parser_link_35 hc36 rfl (by decide) hv37 q550 rfl rfl ?_
  replace hy := g_nn_inv hy
  obtain ⟨a38, rfl, hy⟩ := hy
  replace hy := g_is_inv hy
  obtain ⟨fs39, hc40, hy⟩ := hy
  replace hy := g_b_inv hy
  obtain ⟨x41, hf43, hy⟩ := hy
  refine g_callV (rv := some (.int x41)) (h1 := h27) (pc' := 41) (As := []) (rest := [.int (0 : Int32), .ref v0]) 0 (T_ArrayList_size (hy := hf43)) d_Parser_link_38 hc40 rfl rfl q963 q674 q675 q112 q676 hd_ArrayList_size rfl ⟨by decide, by decide⟩ (by first | exact Nat.le_of_ble_eq_true rfl | (simp only [List.map, List.sum_cons, List.sum_nil, g_cat_rf]; exact Nat.le_of_ble_eq_true rfl) | (simp only [List.map, List.sum_cons, List.sum_nil, g_cat_rf, Value.category]; decide)) rfl ?_
  refine g_iconst (v := (1 : Int32)) (pc' := 42) d_Parser_link_41 (by decide) rfl ?_
  refine g_isub (pc' := 43) d_Parser_link_42 rfl ?_
  replace hy := g_is_inv hy
  obtain ⟨fs44, hc45, hy⟩ := hy
  replace hy := g_bx_inv hy
  rcases hy with ⟨x46, h47, hf48, hy⟩ | ⟨⟨E9, q9⟩, h47, hf48, ez50⟩
  rotate_left
  · subst ez50
    exact g_callVX (As := [.int (0 : Int32), .int (x41 - (1 : Int32))]) (rest := []) 2 (T_Parser_number (hy := hf48)) d_Parser_link_43 hc45 rfl rfl q998 q1000 qs7 q137 q1001 hd_Parser_number rfl ⟨by decide, by decide⟩ (by first | exact Nat.le_of_ble_eq_true rfl | (simp only [List.map, List.sum_cons, List.sum_nil, g_cat_rf]; exact Nat.le_of_ble_eq_true rfl) | (simp only [List.map, List.sum_cons, List.sum_nil, g_cat_rf, Value.category]; decide)) rfl rfl
  refine g_callV (rv := some (.int x46)) (h1 := h47) (pc' := 46) (As := [.int (0 : Int32), .int (x41 - (1 : Int32))]) (rest := []) 2 (T_Parser_number (hy := hf48)) d_Parser_link_43 hc45 rfl rfl q998 q1000 qs7 q137 q1001 hd_Parser_number rfl ⟨by decide, by decide⟩ (by first | exact Nat.le_of_ble_eq_true rfl | (simp only [List.map, List.sum_cons, List.sum_nil, g_cat_rf]; exact Nat.le_of_ble_eq_true rfl) | (simp only [List.map, List.sum_cons, List.sum_nil, g_cat_rf, Value.category]; decide)) rfl ?_
  refine g_istore_n (i := 1) (pc' := 47) (Lc' := [(1, .int x46), (0, .ref v0)]) d_Parser_link_46 rfl (by decide) rfl rfl ?_
  refine g_aload_n 1 (i := 0) (pc' := 48) d_Parser_link_47 rfl rfl rfl ?_
  refine g_iconst (v := (0 : Int32)) (pc' := 49) d_Parser_link_48 (by decide) rfl ?_
  refine g_aload_n 1 (i := 0) (pc' := 50) d_Parser_link_49 rfl rfl rfl ?_
  replace hy := g_gR_inv hy
  obtain ⟨fs51, x52, hc53, hv54, hy⟩ := hy
  refine g_getf (pc' := 53) d_Parser_link_50 hc53 rfl (by decide) hv54 q858 (Or.inl rfl) rfl ?_
  replace hy := g_nn_inv hy
  obtain ⟨a55, rfl, hy⟩ := hy
  replace hy := g_gR_inv hy
  obtain ⟨fs56, x57, hc58, hv59, hy⟩ := hy
  refine g_getfN (pc' := 56) d_Parser_link_53 hc58 rfl (by decide) hv59 q550 rfl rfl ?_
  replace hy := g_nn_inv hy
  obtain ⟨a60, rfl, hy⟩ := hy
  replace hy := g_is_inv hy
  obtain ⟨fs61, hc62, hy⟩ := hy
  replace hy := g_b_inv hy
  obtain ⟨x63, hf65, hy⟩ := hy
  refine g_callV (rv := some (.int x63)) (h1 := h47) (pc' := 59) (As := []) (rest := [.int (0 : Int32), .ref v0]) 0 (T_ArrayList_size (hy := hf65)) d_Parser_link_56 hc62 rfl rfl q963 q674 q675 q112 q676 hd_ArrayList_size rfl ⟨by decide, by decide⟩ (by first | exact Nat.le_of_ble_eq_true rfl | (simp only [List.map, List.sum_cons, List.sum_nil, g_cat_rf]; exact Nat.le_of_ble_eq_true rfl) | (simp only [List.map, List.sum_cons, List.sum_nil, g_cat_rf, Value.category]; decide)) rfl ?_
  refine g_iconst (v := (1 : Int32)) (pc' := 60) d_Parser_link_59 (by decide) rfl ?_
  refine g_isub (pc' := 61) d_Parser_link_60 rfl ?_
  replace hy := g_is_inv hy
  obtain ⟨fs66, hc67, hy⟩ := hy
  replace hy := g_bx_inv hy
  rcases hy with ⟨x68, h69, hf70, hy⟩ | ⟨⟨E9, q9⟩, h69, hf70, ez72⟩
  rotate_left
  · subst ez72
    exact g_callVX (As := [.int (0 : Int32), .int (x63 - (1 : Int32))]) (rest := []) 2 (T_Parser_look (hy := hf70)) d_Parser_link_61 hc67 rfl rfl q1002 q1004 qs8 q137 q1005 hd_Parser_look rfl ⟨by decide, by decide⟩ (by first | exact Nat.le_of_ble_eq_true rfl | (simp only [List.map, List.sum_cons, List.sum_nil, g_cat_rf]; exact Nat.le_of_ble_eq_true rfl) | (simp only [List.map, List.sum_cons, List.sum_nil, g_cat_rf, Value.category]; decide)) rfl rfl
  refine g_callV (rv := some (.int x68)) (h1 := h69) (pc' := 64) (As := [.int (0 : Int32), .int (x63 - (1 : Int32))]) (rest := []) 2 (T_Parser_look (hy := hf70)) d_Parser_link_61 hc67 rfl rfl q1002 q1004 qs8 q137 q1005 hd_Parser_look rfl ⟨by decide, by decide⟩ (by first | exact Nat.le_of_ble_eq_true rfl | (simp only [List.map, List.sum_cons, List.sum_nil, g_cat_rf]; exact Nat.le_of_ble_eq_true rfl) | (simp only [List.map, List.sum_cons, List.sum_nil, g_cat_rf, Value.category]; decide)) rfl ?_
  refine g_istore_n (i := 2) (pc' := 65) (Lc' := [(2, .int x68), (1, .int x46), (0, .ref v0)]) d_Parser_link_64 rfl (by decide) rfl rfl ?_
  refine g_aload_n 2 (i := 0) (pc' := 66) d_Parser_link_65 rfl rfl rfl ?_
  refine g_iload_n 1 (i := 1) (pc' := 67) d_Parser_link_66 rfl rfl rfl ?_
  refine g_iload_n 0 (i := 2) (pc' := 68) d_Parser_link_67 rfl rfl rfl ?_
  by_cases c73 : x46 = x68
  · rw [if_pos c73] at hy
    refine g_icmp_eqT (pc' := 87) d_Parser_link_68 c73 (by decide) ?_
    refine g_sub [2, 1, 0] rfl ?_
    exact W_Parser_link_87 _ _ _ _ _ _ hy
  · rw [if_neg c73] at hy
    refine g_icmp_eqF (pc' := 71) d_Parser_link_68 87 c73 (by decide) rfl ?_
    refine g_aload_n 2 (i := 0) (pc' := 72) d_Parser_link_71 rfl rfl rfl ?_
    replace hy := g_gR_inv hy
    obtain ⟨fs120, x121, hc122, hv123, hy⟩ := hy
    refine g_getf (pc' := 75) d_Parser_link_72 hc122 rfl (by decide) hv123 q858 (Or.inl rfl) rfl ?_
    refine g_iload_n 1 (i := 1) (pc' := 76) d_Parser_link_75 rfl rfl rfl ?_
    refine g_iload_n 0 (i := 2) (pc' := 77) d_Parser_link_76 rfl rfl rfl ?_
    replace hy := g_nn_inv hy
    obtain ⟨a124, rfl, hy⟩ := hy
    replace hy := g_is_inv hy
    obtain ⟨fs125, hc126, hy⟩ := hy
    replace hy := g_b_inv hy
    obtain ⟨x127, hf129, hy⟩ := hy
    refine g_callV (rv := some (.int x127)) (h1 := h69) (pc' := 80) (As := [.int x46, .int x68]) (rest := [.ref v0]) 2 (T_Net_areJoined (hy := hf129)) d_Parser_link_77 hc126 rfl rfl q1096 q1097 q1098 q109 q1099 hd_Net_areJoined rfl ⟨by decide, by decide⟩ (by first | exact Nat.le_of_ble_eq_true rfl | (simp only [List.map, List.sum_cons, List.sum_nil, g_cat_rf]; exact Nat.le_of_ble_eq_true rfl) | (simp only [List.map, List.sum_cons, List.sum_nil, g_cat_rf, Value.category]; decide)) rfl ?_
    by_cases c130 : x127 = 0
    · rw [if_pos c130] at hy
      refine g_if_neF (pc' := 83) d_Parser_link_80 87 c130 (by decide) rfl ?_
      refine g_iconst (v := (1 : Int32)) (pc' := 84) d_Parser_link_83 (by decide) rfl ?_
      refine g_goto (pc' := 88) d_Parser_link_84 (by decide) ?_
      refine g_sub [2, 1, 0] rfl ?_
      exact W_Parser_link_88 _ _ _ _ _ _ _ hy
    · rw [if_neg c130] at hy
      refine g_if_neT (pc' := 87) d_Parser_link_80 c130 (by decide) ?_
      refine g_sub [2, 1, 0] rfl ?_
      exact W_Parser_link_87 _ _ _ _ _ _ hy
def Parser_link (h : g_AH) (this : Nat) : Option ((Unit ⊕ g_EX) × g_AH) :=
  g_gR h this 8 1 fun x2 => g_nn x2 fun a5 => g_gR h a5 1 2 fun x7 => g_nn x7 fun a10 => g_is h a10 15 <| g_b (ArrayList_size h a10) fun x13 => if (16 : Int32) ≤ x13 then (Parser_link_21  h this (0 : Int32) this) else (Parser_link_21  h this (1 : Int32) this)
set_option maxHeartbeats 4000000 in
set_option maxRecDepth 100000 in
theorem T_Parser_link {l : Launch} {B : g_B} (h : g_AH) (this : Nat) (z : (Unit ⊕ g_EX) × g_AH) (hy : Parser_link h this = some z) : g_CT l B y_Parser_link k_Parser_link [.ref this] h (g_rV z.1) z.2 := by
  refine g_start2 (Lc := [(0, .ref this)]) (by decide) rfl rfl (by exact Nat.le_of_ble_eq_true rfl) (by rfl) fun X => ?_
  unfold Parser_link at hy
  refine g_aload_n 0 (i := 0) (pc' := 1) d_Parser_link_0 rfl rfl rfl ?_
  refine g_aload_n 0 (i := 0) (pc' := 2) d_Parser_link_1 rfl rfl rfl ?_
  replace hy := g_gR_inv hy
  obtain ⟨fs1, x2, hc3, hv4, hy⟩ := hy
  refine g_getf (pc' := 5) d_Parser_link_2 hc3 rfl (by decide) hv4 q858 (Or.inl rfl) rfl ?_
  replace hy := g_nn_inv hy
  obtain ⟨a5, rfl, hy⟩ := hy
  replace hy := g_gR_inv hy
  obtain ⟨fs6, x7, hc8, hv9, hy⟩ := hy
  refine g_getfN (pc' := 8) d_Parser_link_5 hc8 rfl (by decide) hv9 q554 rfl rfl ?_
  replace hy := g_nn_inv hy
  obtain ⟨a10, rfl, hy⟩ := hy
  replace hy := g_is_inv hy
  obtain ⟨fs11, hc12, hy⟩ := hy
  replace hy := g_b_inv hy
  obtain ⟨x13, hf15, hy⟩ := hy
  refine g_callV (rv := some (.int x13)) (h1 := h) (pc' := 11) (As := []) (rest := [.ref this]) 0 (T_ArrayList_size (hy := hf15)) d_Parser_link_8 hc12 rfl rfl q963 q674 q675 q112 q676 hd_ArrayList_size rfl ⟨by decide, by decide⟩ (by first | exact Nat.le_of_ble_eq_true rfl | (simp only [List.map, List.sum_cons, List.sum_nil, g_cat_rf]; exact Nat.le_of_ble_eq_true rfl) | (simp only [List.map, List.sum_cons, List.sum_nil, g_cat_rf, Value.category]; decide)) rfl ?_
  refine g_bipush (v := (16 : Int32)) (pc' := 13) d_Parser_link_11 (by decide) rfl ?_
  by_cases c16 : (16 : Int32) ≤ x13
  · rw [if_pos c16] at hy
    refine g_icmp_geT (pc' := 20) d_Parser_link_13 c16 (by decide) ?_
    refine g_iconst (v := (0 : Int32)) (pc' := 21) d_Parser_link_20 (by decide) rfl ?_
    exact W_Parser_link_21 _ _ _ _ _ hy
  · rw [if_neg c16] at hy
    refine g_icmp_geF (pc' := 16) d_Parser_link_13 20 c16 (by decide) rfl ?_
    refine g_iconst (v := (1 : Int32)) (pc' := 17) d_Parser_link_16 (by decide) rfl ?_
    refine g_goto (pc' := 21) d_Parser_link_17 (by decide) ?_
    exact W_Parser_link_21 _ _ _ _ _ hy
theorem hd_Parser_link : g_dsc y_Parser_link 0 := ⟨by decide +kernel, by decide +kernel, by decide +kernel⟩
/-! CircuitDesk$Parser.circuit()V -/
abbrev y_Parser_circuit : MethodName := ⟨"CircuitDesk$Parser", "circuit", "()V"⟩
abbrev k_Parser_circuit : g_M := (prog_10_method_10_code, 4, "CircuitDesk$Parser", 31, none, "circuit", [], 0)
theorem d_Parser_circuit_0 : decode prog_10_method_10_code 0 = .ok (.aload_n 0, 1) := by decide +kernel
theorem d_Parser_circuit_1 : decode prog_10_method_10_code 1 = .ok (.aload_n 0, 1) := by decide +kernel
theorem d_Parser_circuit_2 : decode prog_10_method_10_code 2 = .ok (.getfield 18, 3) := by decide +kernel
theorem d_Parser_circuit_5 : decode prog_10_method_10_code 5 = .ok (.getfield 163, 3) := by decide +kernel
theorem d_Parser_circuit_8 : decode prog_10_method_10_code 8 = .ok (.invokevirtual 125, 3) := by decide +kernel
theorem d_Parser_circuit_11 : decode prog_10_method_10_code 11 = .ok (.bipush 8, 2) := by decide +kernel
theorem d_Parser_circuit_13 : decode prog_10_method_10_code 13 = .ok (.if_icmp .ge 7, 3) := by decide +kernel
theorem d_Parser_circuit_16 : decode prog_10_method_10_code 16 = .ok (.iconst 1, 1) := by decide +kernel
theorem d_Parser_circuit_17 : decode prog_10_method_10_code 17 = .ok (.goto 4, 3) := by decide +kernel
theorem d_Parser_circuit_20 : decode prog_10_method_10_code 20 = .ok (.iconst 0, 1) := by decide +kernel
theorem d_Parser_circuit_21 : decode prog_10_method_10_code 21 = .ok (.iconst 3, 1) := by decide +kernel
theorem d_Parser_circuit_22 : decode prog_10_method_10_code 22 = .ok (.invokevirtual 91, 3) := by decide +kernel
theorem d_Parser_circuit_25 : decode prog_10_method_10_code 25 = .ok (.aload_n 0, 1) := by decide +kernel
theorem d_Parser_circuit_26 : decode prog_10_method_10_code 26 = .ok (.invokevirtual 32, 3) := by decide +kernel
theorem d_Parser_circuit_29 : decode prog_10_method_10_code 29 = .ok (.aload_n 0, 1) := by decide +kernel
theorem d_Parser_circuit_30 : decode prog_10_method_10_code 30 = .ok (.iconst 1, 1) := by decide +kernel
theorem d_Parser_circuit_31 : decode prog_10_method_10_code 31 = .ok (.bipush 20, 2) := by decide +kernel
theorem d_Parser_circuit_33 : decode prog_10_method_10_code 33 = .ok (.invokevirtual 132, 3) := by decide +kernel
theorem d_Parser_circuit_36 : decode prog_10_method_10_code 36 = .ok (.istore_n 1, 1) := by decide +kernel
theorem d_Parser_circuit_37 : decode prog_10_method_10_code 37 = .ok (.new 166, 3) := by decide +kernel
theorem d_Parser_circuit_40 : decode prog_10_method_10_code 40 = .ok (.dup, 1) := by decide +kernel
theorem d_Parser_circuit_41 : decode prog_10_method_10_code 41 = .ok (.iload_n 1, 1) := by decide +kernel
theorem d_Parser_circuit_42 : decode prog_10_method_10_code 42 = .ok (.aload_n 0, 1) := by decide +kernel
theorem d_Parser_circuit_43 : decode prog_10_method_10_code 43 = .ok (.iconst 0, 1) := by decide +kernel
theorem d_Parser_circuit_44 : decode prog_10_method_10_code 44 = .ok (.bipush 9, 2) := by decide +kernel
theorem d_Parser_circuit_46 : decode prog_10_method_10_code 46 = .ok (.invokevirtual 132, 3) := by decide +kernel
theorem d_Parser_circuit_49 : decode prog_10_method_10_code 49 = .ok (.invokespecial 168, 3) := by decide +kernel
theorem d_Parser_circuit_52 : decode prog_10_method_10_code 52 = .ok (.astore_n 2, 1) := by decide +kernel
theorem d_Parser_circuit_53 : decode prog_10_method_10_code 53 = .ok (.aload_n 2, 1) := by decide +kernel
theorem d_Parser_circuit_54 : decode prog_10_method_10_code 54 = .ok (.getfield 169, 3) := by decide +kernel
theorem d_Parser_circuit_57 : decode prog_10_method_10_code 57 = .ok (.aload_n 0, 1) := by decide +kernel
theorem d_Parser_circuit_58 : decode prog_10_method_10_code 58 = .ok (.iconst 0, 1) := by decide +kernel
theorem d_Parser_circuit_59 : decode prog_10_method_10_code 59 = .ok (.aload_n 0, 1) := by decide +kernel
theorem d_Parser_circuit_60 : decode prog_10_method_10_code 60 = .ok (.getfield 18, 3) := by decide +kernel
theorem d_Parser_circuit_63 : decode prog_10_method_10_code 63 = .ok (.getfield 121, 3) := by decide +kernel
theorem d_Parser_circuit_66 : decode prog_10_method_10_code 66 = .ok (.invokevirtual 125, 3) := by decide +kernel
theorem d_Parser_circuit_69 : decode prog_10_method_10_code 69 = .ok (.iconst 1, 1) := by decide +kernel
theorem d_Parser_circuit_70 : decode prog_10_method_10_code 70 = .ok (.isub, 1) := by decide +kernel
theorem d_Parser_circuit_71 : decode prog_10_method_10_code 71 = .ok (.invokevirtual 132, 3) := by decide +kernel
theorem d_Parser_circuit_74 : decode prog_10_method_10_code 74 = .ok (.invokevirtual 173, 3) := by decide +kernel
theorem d_Parser_circuit_77 : decode prog_10_method_10_code 77 = .ok (.aload_n 0, 1) := by decide +kernel
theorem d_Parser_circuit_78 : decode prog_10_method_10_code 78 = .ok (.iconst 0, 1) := by decide +kernel
theorem d_Parser_circuit_79 : decode prog_10_method_10_code 79 = .ok (.aload_n 0, 1) := by decide +kernel
theorem d_Parser_circuit_80 : decode prog_10_method_10_code 80 = .ok (.getfield 18, 3) := by decide +kernel
theorem d_Parser_circuit_83 : decode prog_10_method_10_code 83 = .ok (.getfield 121, 3) := by decide +kernel
theorem d_Parser_circuit_86 : decode prog_10_method_10_code 86 = .ok (.invokevirtual 125, 3) := by decide +kernel
theorem d_Parser_circuit_89 : decode prog_10_method_10_code 89 = .ok (.iconst 1, 1) := by decide +kernel
theorem d_Parser_circuit_90 : decode prog_10_method_10_code 90 = .ok (.isub, 1) := by decide +kernel
theorem d_Parser_circuit_91 : decode prog_10_method_10_code 91 = .ok (.invokevirtual 95, 3) := by decide +kernel
theorem d_Parser_circuit_94 : decode prog_10_method_10_code 94 = .ok (.istore_n 3, 1) := by decide +kernel
theorem d_Parser_circuit_95 : decode prog_10_method_10_code 95 = .ok (.aload_n 0, 1) := by decide +kernel
theorem d_Parser_circuit_96 : decode prog_10_method_10_code 96 = .ok (.aload_n 2, 1) := by decide +kernel
theorem d_Parser_circuit_97 : decode prog_10_method_10_code 97 = .ok (.getfield 169, 3) := by decide +kernel
theorem d_Parser_circuit_100 : decode prog_10_method_10_code 100 = .ok (.getfield 177, 3) := by decide +kernel
theorem d_Parser_circuit_103 : decode prog_10_method_10_code 103 = .ok (.bipush 6, 2) := by decide +kernel
theorem d_Parser_circuit_105 : decode prog_10_method_10_code 105 = .ok (.if_icmp .ge 7, 3) := by decide +kernel
theorem d_Parser_circuit_108 : decode prog_10_method_10_code 108 = .ok (.iconst 1, 1) := by decide +kernel
theorem d_Parser_circuit_109 : decode prog_10_method_10_code 109 = .ok (.goto 4, 3) := by decide +kernel
theorem d_Parser_circuit_112 : decode prog_10_method_10_code 112 = .ok (.iconst 0, 1) := by decide +kernel
theorem d_Parser_circuit_113 : decode prog_10_method_10_code 113 = .ok (.iconst 3, 1) := by decide +kernel
theorem d_Parser_circuit_114 : decode prog_10_method_10_code 114 = .ok (.invokevirtual 91, 3) := by decide +kernel
theorem d_Parser_circuit_117 : decode prog_10_method_10_code 117 = .ok (.aload_n 0, 1) := by decide +kernel
theorem d_Parser_circuit_118 : decode prog_10_method_10_code 118 = .ok (.aload_n 2, 1) := by decide +kernel
theorem d_Parser_circuit_119 : decode prog_10_method_10_code 119 = .ok (.getfield 169, 3) := by decide +kernel
theorem d_Parser_circuit_122 : decode prog_10_method_10_code 122 = .ok (.iload_n 3, 1) := by decide +kernel
theorem d_Parser_circuit_123 : decode prog_10_method_10_code 123 = .ok (.invokevirtual 179, 3) := by decide +kernel
theorem d_Parser_circuit_126 : decode prog_10_method_10_code 126 = .ok (.ifCond .ne 25, 3) := by decide +kernel
theorem d_Parser_circuit_129 : decode prog_10_method_10_code 129 = .ok (.aload_n 0, 1) := by decide +kernel
theorem d_Parser_circuit_130 : decode prog_10_method_10_code 130 = .ok (.getfield 18, 3) := by decide +kernel
theorem d_Parser_circuit_133 : decode prog_10_method_10_code 133 = .ok (.aload_n 2, 1) := by decide +kernel
theorem d_Parser_circuit_134 : decode prog_10_method_10_code 134 = .ok (.getfield 169, 3) := by decide +kernel
theorem d_Parser_circuit_137 : decode prog_10_method_10_code 137 = .ok (.invokevirtual 183, 3) := by decide +kernel
theorem d_Parser_circuit_140 : decode prog_10_method_10_code 140 = .ok (.iload_n 3, 1) := by decide +kernel
theorem d_Parser_circuit_141 : decode prog_10_method_10_code 141 = .ok (.invokevirtual 154, 3) := by decide +kernel
theorem d_Parser_circuit_144 : decode prog_10_method_10_code 144 = .ok (.ifCond .eq 7, 3) := by decide +kernel
theorem d_Parser_circuit_147 : decode prog_10_method_10_code 147 = .ok (.iconst 1, 1) := by decide +kernel
theorem d_Parser_circuit_148 : decode prog_10_method_10_code 148 = .ok (.goto 4, 3) := by decide +kernel
theorem d_Parser_circuit_151 : decode prog_10_method_10_code 151 = .ok (.iconst 0, 1) := by decide +kernel
theorem d_Parser_circuit_152 : decode prog_10_method_10_code 152 = .ok (.iconst 4, 1) := by decide +kernel
theorem d_Parser_circuit_153 : decode prog_10_method_10_code 153 = .ok (.invokevirtual 91, 3) := by decide +kernel
theorem d_Parser_circuit_156 : decode prog_10_method_10_code 156 = .ok (.aload_n 0, 1) := by decide +kernel
theorem d_Parser_circuit_157 : decode prog_10_method_10_code 157 = .ok (.aload_n 0, 1) := by decide +kernel
theorem d_Parser_circuit_158 : decode prog_10_method_10_code 158 = .ok (.getfield 18, 3) := by decide +kernel
theorem d_Parser_circuit_161 : decode prog_10_method_10_code 161 = .ok (.aload_n 0, 1) := by decide +kernel
theorem d_Parser_circuit_162 : decode prog_10_method_10_code 162 = .ok (.getfield 18, 3) := by decide +kernel
theorem d_Parser_circuit_165 : decode prog_10_method_10_code 165 = .ok (.aload_n 2, 1) := by decide +kernel
theorem d_Parser_circuit_166 : decode prog_10_method_10_code 166 = .ok (.getfield 169, 3) := by decide +kernel
theorem d_Parser_circuit_169 : decode prog_10_method_10_code 169 = .ok (.invokevirtual 183, 3) := by decide +kernel
theorem d_Parser_circuit_172 : decode prog_10_method_10_code 172 = .ok (.iload_n 3, 1) := by decide +kernel
theorem d_Parser_circuit_173 : decode prog_10_method_10_code 173 = .ok (.invokevirtual 186, 3) := by decide +kernel
theorem d_Parser_circuit_176 : decode prog_10_method_10_code 176 = .ok (.iload_n 1, 1) := by decide +kernel
theorem d_Parser_circuit_177 : decode prog_10_method_10_code 177 = .ok (.iconst (-1), 1) := by decide +kernel
theorem d_Parser_circuit_178 : decode prog_10_method_10_code 178 = .ok (.invokevirtual 189, 3) := by decide +kernel
theorem d_Parser_circuit_181 : decode prog_10_method_10_code 181 = .ok (.iconst 5, 1) := by decide +kernel
theorem d_Parser_circuit_182 : decode prog_10_method_10_code 182 = .ok (.invokevirtual 91, 3) := by decide +kernel
theorem d_Parser_circuit_185 : decode prog_10_method_10_code 185 = .ok (.aload_n 2, 1) := by decide +kernel
theorem d_Parser_circuit_186 : decode prog_10_method_10_code 186 = .ok (.getfield 169, 3) := by decide +kernel
theorem d_Parser_circuit_189 : decode prog_10_method_10_code 189 = .ok (.iload_n 3, 1) := by decide +kernel
theorem d_Parser_circuit_190 : decode prog_10_method_10_code 190 = .ok (.invokevirtual 173, 3) := by decide +kernel
theorem d_Parser_circuit_193 : decode prog_10_method_10_code 193 = .ok (.aload_n 0, 1) := by decide +kernel
theorem d_Parser_circuit_194 : decode prog_10_method_10_code 194 = .ok (.aload_n 0, 1) := by decide +kernel
theorem d_Parser_circuit_195 : decode prog_10_method_10_code 195 = .ok (.getfield 18, 3) := by decide +kernel
theorem d_Parser_circuit_198 : decode prog_10_method_10_code 198 = .ok (.aload_n 2, 1) := by decide +kernel
theorem d_Parser_circuit_199 : decode prog_10_method_10_code 199 = .ok (.getfield 169, 3) := by decide +kernel
theorem d_Parser_circuit_202 : decode prog_10_method_10_code 202 = .ok (.aload_n 2, 1) := by decide +kernel
theorem d_Parser_circuit_203 : decode prog_10_method_10_code 203 = .ok (.getfield 169, 3) := by decide +kernel
theorem d_Parser_circuit_206 : decode prog_10_method_10_code 206 = .ok (.getfield 177, 3) := by decide +kernel
theorem d_Parser_circuit_209 : decode prog_10_method_10_code 209 = .ok (.iconst 1, 1) := by decide +kernel
theorem d_Parser_circuit_210 : decode prog_10_method_10_code 210 = .ok (.isub, 1) := by decide +kernel
theorem d_Parser_circuit_211 : decode prog_10_method_10_code 211 = .ok (.aload_n 0, 1) := by decide +kernel
theorem d_Parser_circuit_212 : decode prog_10_method_10_code 212 = .ok (.getfield 18, 3) := by decide +kernel
theorem d_Parser_circuit_215 : decode prog_10_method_10_code 215 = .ok (.getfield 163, 3) := by decide +kernel
theorem d_Parser_circuit_218 : decode prog_10_method_10_code 218 = .ok (.invokevirtual 125, 3) := by decide +kernel
theorem d_Parser_circuit_221 : decode prog_10_method_10_code 221 = .ok (.iconst 0, 1) := by decide +kernel
theorem d_Parser_circuit_222 : decode prog_10_method_10_code 222 = .ok (.invokevirtual 193, 3) := by decide +kernel
theorem d_Parser_circuit_225 : decode prog_10_method_10_code 225 = .ok (.iconst 5, 1) := by decide +kernel
theorem d_Parser_circuit_226 : decode prog_10_method_10_code 226 = .ok (.invokevirtual 91, 3) := by decide +kernel
theorem d_Parser_circuit_229 : decode prog_10_method_10_code 229 = .ok (.aload_n 0, 1) := by decide +kernel
theorem d_Parser_circuit_230 : decode prog_10_method_10_code 230 = .ok (.getfield 18, 3) := by decide +kernel
theorem d_Parser_circuit_233 : decode prog_10_method_10_code 233 = .ok (.aload_n 2, 1) := by decide +kernel
theorem d_Parser_circuit_234 : decode prog_10_method_10_code 234 = .ok (.getfield 169, 3) := by decide +kernel
theorem d_Parser_circuit_237 : decode prog_10_method_10_code 237 = .ok (.aload_n 2, 1) := by decide +kernel
theorem d_Parser_circuit_238 : decode prog_10_method_10_code 238 = .ok (.getfield 169, 3) := by decide +kernel
theorem d_Parser_circuit_241 : decode prog_10_method_10_code 241 = .ok (.getfield 177, 3) := by decide +kernel
theorem d_Parser_circuit_244 : decode prog_10_method_10_code 244 = .ok (.iconst 1, 1) := by decide +kernel
theorem d_Parser_circuit_245 : decode prog_10_method_10_code 245 = .ok (.isub, 1) := by decide +kernel
theorem d_Parser_circuit_246 : decode prog_10_method_10_code 246 = .ok (.invokevirtual 197, 3) := by decide +kernel
theorem d_Parser_circuit_249 : decode prog_10_method_10_code 249 = .ok (.aload_n 0, 1) := by decide +kernel
theorem d_Parser_circuit_250 : decode prog_10_method_10_code 250 = .ok (.invokevirtual 32, 3) := by decide +kernel
theorem d_Parser_circuit_253 : decode prog_10_method_10_code 253 = .ok (.aload_n 0, 1) := by decide +kernel
theorem d_Parser_circuit_254 : decode prog_10_method_10_code 254 = .ok (.getfield 60, 3) := by decide +kernel
theorem d_Parser_circuit_257 : decode prog_10_method_10_code 257 = .ok (.ifCond .ne (-180), 3) := by decide +kernel
theorem d_Parser_circuit_260 : decode prog_10_method_10_code 260 = .ok (.aload_n 0, 1) := by decide +kernel
theorem d_Parser_circuit_261 : decode prog_10_method_10_code 261 = .ok (.getfield 18, 3) := by decide +kernel
theorem d_Parser_circuit_264 : decode prog_10_method_10_code 264 = .ok (.getfield 163, 3) := by decide +kernel
theorem d_Parser_circuit_267 : decode prog_10_method_10_code 267 = .ok (.aload_n 2, 1) := by decide +kernel
theorem d_Parser_circuit_268 : decode prog_10_method_10_code 268 = .ok (.invokevirtual 137, 3) := by decide +kernel
theorem d_Parser_circuit_271 : decode prog_10_method_10_code 271 = .ok (.pop, 1) := by decide +kernel
theorem d_Parser_circuit_272 : decode prog_10_method_10_code 272 = .ok (.return_, 1) := by decide +kernel
def Parser_circuit_152 (k77 : g_AH → Nat → Int32 → Option Nat → Option ((Unit ⊕ g_EX) × g_AH)) (h : g_AH) (v0 : Nat) (v1 : Int32) (v2 : Option Nat) (v3 : Int32) (s0 : Int32) (s1 : Nat) : Option ((Unit ⊕ g_EX) × g_AH) :=
  g_is h s1 8 <| g_bx (Parser_require h s1 s0 (4 : Int32)) fun x134 h135 => g_gR h135 v0 8 1 fun x140 => g_gR h135 v0 8 1 fun x144 => g_nn v2 fun a147 => g_gR h135 a147 12 2 fun x149 => g_nn x149 fun a152 => g_is h135 a152 6 <| g_b (Way_last h135 a152) fun x155 => g_nn x144 fun a158 => g_is h135 a158 1 <| g_b (Net_linkOf h135 a158 x155 v3) fun x161 => g_nn x140 fun a164 => g_is h135 a164 1 <| g_b (Net_hasRoom0 h135 a164 x161 v1 (-1 : Int32)) fun x167 => g_is h135 v0 8 <| g_bx (Parser_require h135 v0 x167 (5 : Int32)) fun x172 h173 => g_gR h173 a147 12 2 fun x178 => g_nn x178 fun a181 => g_is h173 a181 6 <| g_b (Way_add h173 a181 v3) fun h185 => g_gR h185 v0 8 1 fun x188 => g_gR h185 a147 12 2 fun x192 => g_gR h185 a147 12 2 fun x196 => g_nn x196 fun a199 => g_gI h185 a199 6 3 fun x201 => g_gR h185 v0 8 1 fun x205 => g_nn x205 fun a208 => g_gR h185 a208 1 3 fun x210 => g_nn x210 fun a213 => g_is h185 a213 15 <| g_b (ArrayList_size h185 a213) fun x216 => g_nn x188 fun a219 => g_is h185 a219 1 <| g_b2 (Net_label h185 a219 x192 (x201 - (1 : Int32)) x216 (0 : Int32)) fun x222 h223 => g_is h223 v0 8 <| g_bx (Parser_require h223 v0 x222 (5 : Int32)) fun x227 h228 => g_gR h228 v0 8 1 fun x233 => g_gR h228 a147 12 2 fun x237 => g_gR h228 a147 12 2 fun x241 => g_nn x241 fun a244 => g_gI h228 a244 6 3 fun x246 => g_nn x233 fun a249 => g_is h228 a249 1 <| g_b (Net_make h228 a249 x237 (x246 - (1 : Int32))) fun h253 => g_is h253 v0 8 <| g_b (Parser_advance h253 v0) fun h258 => g_gI h258 v0 8 4 fun x261 => if x261 = 0 then (g_gR h258 v0 8 1 fun x266 => g_nn x266 fun a269 => g_gR h258 a269 1 3 fun x271 => g_nn x271 fun a274 => g_is h258 a274 15 <| g_b2 (ArrayList_add0 h258 a274 (some a147)) fun x277 h278 => some (.inl (), h278)) else (k77 h258 v0 v1 (some a147))
set_option maxHeartbeats 4000000 in
set_option maxRecDepth 100000 in
theorem W_Parser_circuit_152 {X : g_X} (z : (Unit ⊕ g_EX) × g_AH) (k77 : g_AH → Nat → Int32 → Option Nat → Option ((Unit ⊕ g_EX) × g_AH)) (hk77 : ∀ (h : g_AH) (v0 : Nat) (v1 : Int32) (v2 : Option Nat), k77 h v0 v1 v2 = some z → G X k_Parser_circuit (g_rV z.1) z.2 h 77 [(0, .ref v0), (1, .int v1), (2, va_rf v2)] []) (h : g_AH) (v0 : Nat) (v1 : Int32) (v2 : Option Nat) (v3 : Int32) (s0 : Int32) (s1 : Nat) (hy : Parser_circuit_152 k77 h v0 v1 v2 v3 s0 s1 = some z) : G X k_Parser_circuit (g_rV z.1) z.2 h 152 [(0, .ref v0), (1, .int v1), (2, va_rf v2), (3, .int v3)] [.int s0, .ref s1] := by
  unfold Parser_circuit_152 at hy
  refine g_iconst (v := (4 : Int32)) (pc' := 153) d_Parser_circuit_152 (by decide) rfl ?_
  replace hy := g_is_inv hy
  obtain ⟨fs132, hc133, hy⟩ := hy
  replace hy := g_bx_inv hy
  rcases hy with ⟨x134, h135, hf136, hy⟩ | ⟨⟨E9, q9⟩, h135, hf136, ez138⟩
  rotate_left
  · subst ez138
    exact g_callVX (As := [.int s0, .int (4 : Int32)]) (rest := []) 2 (T_Parser_require (hy := hf136)) d_Parser_circuit_153 hc133 rfl rfl q964 q966 qs6 q137 q967 hd_Parser_require rfl ⟨by decide, by decide⟩ (by first | exact Nat.le_of_ble_eq_true rfl | (simp only [List.map, List.sum_cons, List.sum_nil, g_cat_rf]; exact Nat.le_of_ble_eq_true rfl) | (simp only [List.map, List.sum_cons, List.sum_nil, g_cat_rf, Value.category]; decide)) rfl rfl
  refine g_callV (rv := none) (h1 := h135) (pc' := 156) (As := [.int s0, .int (4 : Int32)]) (rest := []) 2 (T_Parser_require (hy := hf136)) d_Parser_circuit_153 hc133 rfl rfl q964 q966 qs6 q137 q967 hd_Parser_require rfl ⟨by decide, by decide⟩ (by first | exact Nat.le_of_ble_eq_true rfl | (simp only [List.map, List.sum_cons, List.sum_nil, g_cat_rf]; exact Nat.le_of_ble_eq_true rfl) | (simp only [List.map, List.sum_cons, List.sum_nil, g_cat_rf, Value.category]; decide)) rfl ?_
  refine g_aload_n 0 (i := 0) (pc' := 157) d_Parser_circuit_156 rfl rfl rfl ?_
  refine g_aload_n 0 (i := 0) (pc' := 158) d_Parser_circuit_157 rfl rfl rfl ?_
  replace hy := g_gR_inv hy
  obtain ⟨fs139, x140, hc141, hv142, hy⟩ := hy
  refine g_getf (pc' := 161) d_Parser_circuit_158 hc141 rfl (by decide) hv142 q858 (Or.inl rfl) rfl ?_
  refine g_aload_n 0 (i := 0) (pc' := 162) d_Parser_circuit_161 rfl rfl rfl ?_
  replace hy := g_gR_inv hy
  obtain ⟨fs143, x144, hc145, hv146, hy⟩ := hy
  refine g_getf (pc' := 165) d_Parser_circuit_162 hc145 rfl (by decide) hv146 q858 (Or.inl rfl) rfl ?_
  refine g_aloadO_n 2 (i := 2) (pc' := 166) d_Parser_circuit_165 rfl rfl rfl ?_
  replace hy := g_nn_inv hy
  obtain ⟨a147, rfl, hy⟩ := hy
  replace hy := g_gR_inv hy
  obtain ⟨fs148, x149, hc150, hv151, hy⟩ := hy
  refine g_getfN (pc' := 169) d_Parser_circuit_166 hc150 rfl (by decide) hv151 q1156 rfl rfl ?_
  replace hy := g_nn_inv hy
  obtain ⟨a152, rfl, hy⟩ := hy
  replace hy := g_is_inv hy
  obtain ⟨fs153, hc154, hy⟩ := hy
  replace hy := g_b_inv hy
  obtain ⟨x155, hf157, hy⟩ := hy
  refine g_callV (rv := some (.int x155)) (h1 := h135) (pc' := 172) (As := []) (rest := [va_rf x144, va_rf x140, .ref v0]) 0 (T_Way_last (hy := hf157)) d_Parser_circuit_169 hc154 rfl rfl q1236 q723 q724 q134 q725 hd_Way_last rfl ⟨by decide, by decide⟩ (by first | exact Nat.le_of_ble_eq_true rfl | (simp only [List.map, List.sum_cons, List.sum_nil, g_cat_rf]; exact Nat.le_of_ble_eq_true rfl) | (simp only [List.map, List.sum_cons, List.sum_nil, g_cat_rf, Value.category]; decide)) rfl ?_
  refine g_iload_n 3 (i := 3) (pc' := 173) d_Parser_circuit_172 rfl rfl rfl ?_
  replace hy := g_nn_inv hy
  obtain ⟨a158, rfl, hy⟩ := hy
  replace hy := g_is_inv hy
  obtain ⟨fs159, hc160, hy⟩ := hy
  replace hy := g_b_inv hy
  obtain ⟨x161, hf163, hy⟩ := hy
  refine g_callV (rv := some (.int x161)) (h1 := h135) (pc' := 176) (As := [.int x155, .int v3]) (rest := [va_rf x140, .ref v0]) 2 (T_Net_linkOf (hy := hf163)) d_Parser_circuit_173 hc160 rfl rfl q1237 q795 q796 q109 q797 hd_Net_linkOf rfl ⟨by decide, by decide⟩ (by first | exact Nat.le_of_ble_eq_true rfl | (simp only [List.map, List.sum_cons, List.sum_nil, g_cat_rf]; exact Nat.le_of_ble_eq_true rfl) | (simp only [List.map, List.sum_cons, List.sum_nil, g_cat_rf, Value.category]; decide)) rfl ?_
  refine g_iload_n 1 (i := 1) (pc' := 177) d_Parser_circuit_176 rfl rfl rfl ?_
  refine g_iconst (v := (-1 : Int32)) (pc' := 178) d_Parser_circuit_177 (by decide) rfl ?_
  replace hy := g_nn_inv hy
  obtain ⟨a164, rfl, hy⟩ := hy
  replace hy := g_is_inv hy
  obtain ⟨fs165, hc166, hy⟩ := hy
  replace hy := g_b_inv hy
  obtain ⟨x167, hf169, hy⟩ := hy
  refine g_callV (rv := some (.int x167)) (h1 := h135) (pc' := 181) (As := [.int x161, .int v1, .int (-1 : Int32)]) (rest := [.ref v0]) 3 (T_Net_hasRoom0 (hy := hf169)) d_Parser_circuit_178 hc166 rfl rfl q1238 q738 q739 q109 q740 hd_Net_hasRoom0 rfl ⟨by decide, by decide⟩ (by first | exact Nat.le_of_ble_eq_true rfl | (simp only [List.map, List.sum_cons, List.sum_nil, g_cat_rf]; exact Nat.le_of_ble_eq_true rfl) | (simp only [List.map, List.sum_cons, List.sum_nil, g_cat_rf, Value.category]; decide)) rfl ?_
  refine g_iconst (v := (5 : Int32)) (pc' := 182) d_Parser_circuit_181 (by decide) rfl ?_
  replace hy := g_is_inv hy
  obtain ⟨fs170, hc171, hy⟩ := hy
  replace hy := g_bx_inv hy
  rcases hy with ⟨x172, h173, hf174, hy⟩ | ⟨⟨E9, q9⟩, h173, hf174, ez176⟩
  rotate_left
  · subst ez176
    exact g_callVX (As := [.int x167, .int (5 : Int32)]) (rest := []) 2 (T_Parser_require (hy := hf174)) d_Parser_circuit_182 hc171 rfl rfl q964 q966 qs6 q137 q967 hd_Parser_require rfl ⟨by decide, by decide⟩ (by first | exact Nat.le_of_ble_eq_true rfl | (simp only [List.map, List.sum_cons, List.sum_nil, g_cat_rf]; exact Nat.le_of_ble_eq_true rfl) | (simp only [List.map, List.sum_cons, List.sum_nil, g_cat_rf, Value.category]; decide)) rfl rfl
  refine g_callV (rv := none) (h1 := h173) (pc' := 185) (As := [.int x167, .int (5 : Int32)]) (rest := []) 2 (T_Parser_require (hy := hf174)) d_Parser_circuit_182 hc171 rfl rfl q964 q966 qs6 q137 q967 hd_Parser_require rfl ⟨by decide, by decide⟩ (by first | exact Nat.le_of_ble_eq_true rfl | (simp only [List.map, List.sum_cons, List.sum_nil, g_cat_rf]; exact Nat.le_of_ble_eq_true rfl) | (simp only [List.map, List.sum_cons, List.sum_nil, g_cat_rf, Value.category]; decide)) rfl ?_
  refine g_aload_n 2 (i := 2) (pc' := 186) d_Parser_circuit_185 rfl rfl rfl ?_
  replace hy := g_gR_inv hy
  obtain ⟨fs177, x178, hc179, hv180, hy⟩ := hy
  refine g_getfN (pc' := 189) d_Parser_circuit_186 hc179 rfl (by decide) hv180 q1156 rfl rfl ?_
  refine g_iload_n 3 (i := 3) (pc' := 190) d_Parser_circuit_189 rfl rfl rfl ?_
  replace hy := g_nn_inv hy
  obtain ⟨a181, rfl, hy⟩ := hy
  replace hy := g_is_inv hy
  obtain ⟨fs182, hc183, hy⟩ := hy
  replace hy := g_b_inv hy
  obtain ⟨h185, hf186, hy⟩ := hy
  refine g_callV (rv := none) (h1 := h185) (pc' := 193) (As := [.int v3]) (rest := []) 1 (T_Way_add (hy := hf186)) d_Parser_circuit_190 hc183 rfl rfl q1234 q763 q764 q134 q765 hd_Way_add rfl ⟨by decide, by decide⟩ (by first | exact Nat.le_of_ble_eq_true rfl | (simp only [List.map, List.sum_cons, List.sum_nil, g_cat_rf]; exact Nat.le_of_ble_eq_true rfl) | (simp only [List.map, List.sum_cons, List.sum_nil, g_cat_rf, Value.category]; decide)) rfl ?_
  refine g_aload_n 0 (i := 0) (pc' := 194) d_Parser_circuit_193 rfl rfl rfl ?_
  refine g_aload_n 0 (i := 0) (pc' := 195) d_Parser_circuit_194 rfl rfl rfl ?_
  replace hy := g_gR_inv hy
  obtain ⟨fs187, x188, hc189, hv190, hy⟩ := hy
  refine g_getf (pc' := 198) d_Parser_circuit_195 hc189 rfl (by decide) hv190 q858 (Or.inl rfl) rfl ?_
  refine g_aload_n 2 (i := 2) (pc' := 199) d_Parser_circuit_198 rfl rfl rfl ?_
  replace hy := g_gR_inv hy
  obtain ⟨fs191, x192, hc193, hv194, hy⟩ := hy
  refine g_getfN (pc' := 202) d_Parser_circuit_199 hc193 rfl (by decide) hv194 q1156 rfl rfl ?_
  refine g_aload_n 2 (i := 2) (pc' := 203) d_Parser_circuit_202 rfl rfl rfl ?_
  replace hy := g_gR_inv hy
  obtain ⟨fs195, x196, hc197, hv198, hy⟩ := hy
  refine g_getfN (pc' := 206) d_Parser_circuit_203 hc197 rfl (by decide) hv198 q1156 rfl rfl ?_
  replace hy := g_nn_inv hy
  obtain ⟨a199, rfl, hy⟩ := hy
  replace hy := g_gI_inv hy
  obtain ⟨fs200, x201, hc202, hv203, hy⟩ := hy
  refine g_getfN (pc' := 209) d_Parser_circuit_206 hc202 rfl (by decide) hv203 q630 rfl rfl ?_
  refine g_iconst (v := (1 : Int32)) (pc' := 210) d_Parser_circuit_209 (by decide) rfl ?_
  refine g_isub (pc' := 211) d_Parser_circuit_210 rfl ?_
  refine g_aload_n 0 (i := 0) (pc' := 212) d_Parser_circuit_211 rfl rfl rfl ?_
  replace hy := g_gR_inv hy
  obtain ⟨fs204, x205, hc206, hv207, hy⟩ := hy
  refine g_getf (pc' := 215) d_Parser_circuit_212 hc206 rfl (by decide) hv207 q858 (Or.inl rfl) rfl ?_
  replace hy := g_nn_inv hy
  obtain ⟨a208, rfl, hy⟩ := hy
  replace hy := g_gR_inv hy
  obtain ⟨fs209, x210, hc211, hv212, hy⟩ := hy
  refine g_getfN (pc' := 218) d_Parser_circuit_215 hc211 rfl (by decide) hv212 q560 rfl rfl ?_
  replace hy := g_nn_inv hy
  obtain ⟨a213, rfl, hy⟩ := hy
  replace hy := g_is_inv hy
  obtain ⟨fs214, hc215, hy⟩ := hy
  replace hy := g_b_inv hy
  obtain ⟨x216, hf218, hy⟩ := hy
  refine g_callV (rv := some (.int x216)) (h1 := h185) (pc' := 221) (As := []) (rest := [.int (x201 - (1 : Int32)), va_rf x192, va_rf x188, .ref v0]) 0 (T_ArrayList_size (hy := hf218)) d_Parser_circuit_218 hc215 rfl rfl q963 q674 q675 q112 q676 hd_ArrayList_size rfl ⟨by decide, by decide⟩ (by first | exact Nat.le_of_ble_eq_true rfl | (simp only [List.map, List.sum_cons, List.sum_nil, g_cat_rf]; exact Nat.le_of_ble_eq_true rfl) | (simp only [List.map, List.sum_cons, List.sum_nil, g_cat_rf, Value.category]; decide)) rfl ?_
  refine g_iconst (v := (0 : Int32)) (pc' := 222) d_Parser_circuit_221 (by decide) rfl ?_
  replace hy := g_nn_inv hy
  obtain ⟨a219, rfl, hy⟩ := hy
  replace hy := g_is_inv hy
  obtain ⟨fs220, hc221, hy⟩ := hy
  replace hy := g_b2_inv hy
  obtain ⟨x222, h223, hf224, hy⟩ := hy
  refine g_callV (rv := some (.int x222)) (h1 := h223) (pc' := 225) (As := [va_rf x192, .int (x201 - (1 : Int32)), .int x216, .int (0 : Int32)]) (rest := [.ref v0]) 4 (T_Net_label (hy := hf224)) d_Parser_circuit_222 hc221 rfl rfl q1239 q1240 q1241 q109 q1242 hd_Net_label rfl ⟨by decide, by decide⟩ (by first | exact Nat.le_of_ble_eq_true rfl | (simp only [List.map, List.sum_cons, List.sum_nil, g_cat_rf]; exact Nat.le_of_ble_eq_true rfl) | (simp only [List.map, List.sum_cons, List.sum_nil, g_cat_rf, Value.category]; decide)) rfl ?_
  refine g_iconst (v := (5 : Int32)) (pc' := 226) d_Parser_circuit_225 (by decide) rfl ?_
  replace hy := g_is_inv hy
  obtain ⟨fs225, hc226, hy⟩ := hy
  replace hy := g_bx_inv hy
  rcases hy with ⟨x227, h228, hf229, hy⟩ | ⟨⟨E9, q9⟩, h228, hf229, ez231⟩
  rotate_left
  · subst ez231
    exact g_callVX (As := [.int x222, .int (5 : Int32)]) (rest := []) 2 (T_Parser_require (hy := hf229)) d_Parser_circuit_226 hc226 rfl rfl q964 q966 qs6 q137 q967 hd_Parser_require rfl ⟨by decide, by decide⟩ (by first | exact Nat.le_of_ble_eq_true rfl | (simp only [List.map, List.sum_cons, List.sum_nil, g_cat_rf]; exact Nat.le_of_ble_eq_true rfl) | (simp only [List.map, List.sum_cons, List.sum_nil, g_cat_rf, Value.category]; decide)) rfl rfl
  refine g_callV (rv := none) (h1 := h228) (pc' := 229) (As := [.int x222, .int (5 : Int32)]) (rest := []) 2 (T_Parser_require (hy := hf229)) d_Parser_circuit_226 hc226 rfl rfl q964 q966 qs6 q137 q967 hd_Parser_require rfl ⟨by decide, by decide⟩ (by first | exact Nat.le_of_ble_eq_true rfl | (simp only [List.map, List.sum_cons, List.sum_nil, g_cat_rf]; exact Nat.le_of_ble_eq_true rfl) | (simp only [List.map, List.sum_cons, List.sum_nil, g_cat_rf, Value.category]; decide)) rfl ?_
  refine g_aload_n 0 (i := 0) (pc' := 230) d_Parser_circuit_229 rfl rfl rfl ?_
  replace hy := g_gR_inv hy
  obtain ⟨fs232, x233, hc234, hv235, hy⟩ := hy
  refine g_getf (pc' := 233) d_Parser_circuit_230 hc234 rfl (by decide) hv235 q858 (Or.inl rfl) rfl ?_
  refine g_aload_n 2 (i := 2) (pc' := 234) d_Parser_circuit_233 rfl rfl rfl ?_
  replace hy := g_gR_inv hy
  obtain ⟨fs236, x237, hc238, hv239, hy⟩ := hy
  refine g_getfN (pc' := 237) d_Parser_circuit_234 hc238 rfl (by decide) hv239 q1156 rfl rfl ?_
  refine g_aload_n 2 (i := 2) (pc' := 238) d_Parser_circuit_237 rfl rfl rfl ?_
  replace hy := g_gR_inv hy
  obtain ⟨fs240, x241, hc242, hv243, hy⟩ := hy
  refine g_getfN (pc' := 241) d_Parser_circuit_238 hc242 rfl (by decide) hv243 q1156 rfl rfl ?_
  replace hy := g_nn_inv hy
  obtain ⟨a244, rfl, hy⟩ := hy
  replace hy := g_gI_inv hy
  obtain ⟨fs245, x246, hc247, hv248, hy⟩ := hy
  refine g_getfN (pc' := 244) d_Parser_circuit_241 hc247 rfl (by decide) hv248 q630 rfl rfl ?_
  refine g_iconst (v := (1 : Int32)) (pc' := 245) d_Parser_circuit_244 (by decide) rfl ?_
  refine g_isub (pc' := 246) d_Parser_circuit_245 rfl ?_
  replace hy := g_nn_inv hy
  obtain ⟨a249, rfl, hy⟩ := hy
  replace hy := g_is_inv hy
  obtain ⟨fs250, hc251, hy⟩ := hy
  replace hy := g_b_inv hy
  obtain ⟨h253, hf254, hy⟩ := hy
  refine g_callV (rv := none) (h1 := h253) (pc' := 249) (As := [va_rf x237, .int (x246 - (1 : Int32))]) (rest := []) 2 (T_Net_make (hy := hf254)) d_Parser_circuit_246 hc251 rfl rfl q1274 q1275 q1276 q109 q1277 hd_Net_make rfl ⟨by decide, by decide⟩ (by first | exact Nat.le_of_ble_eq_true rfl | (simp only [List.map, List.sum_cons, List.sum_nil, g_cat_rf]; exact Nat.le_of_ble_eq_true rfl) | (simp only [List.map, List.sum_cons, List.sum_nil, g_cat_rf, Value.category]; decide)) rfl ?_
  refine g_aload_n 0 (i := 0) (pc' := 250) d_Parser_circuit_249 rfl rfl rfl ?_
  replace hy := g_is_inv hy
  obtain ⟨fs255, hc256, hy⟩ := hy
  replace hy := g_b_inv hy
  obtain ⟨h258, hf259, hy⟩ := hy
  refine g_callV (rv := none) (h1 := h258) (pc' := 253) (As := []) (rest := []) 0 (T_Parser_advance (hy := hf259)) d_Parser_circuit_250 hc256 rfl rfl q817 q819 qs3 q137 q820 hd_Parser_advance rfl ⟨by decide, by decide⟩ (by first | exact Nat.le_of_ble_eq_true rfl | (simp only [List.map, List.sum_cons, List.sum_nil, g_cat_rf]; exact Nat.le_of_ble_eq_true rfl) | (simp only [List.map, List.sum_cons, List.sum_nil, g_cat_rf, Value.category]; decide)) rfl ?_
  refine g_aload_n 0 (i := 0) (pc' := 254) d_Parser_circuit_253 rfl rfl rfl ?_
  replace hy := g_gI_inv hy
  obtain ⟨fs260, x261, hc262, hv263, hy⟩ := hy
  refine g_getf (pc' := 257) d_Parser_circuit_254 hc262 rfl (by decide) hv263 q861 (Or.inl rfl) rfl ?_
  by_cases c264 : x261 = 0
  · rw [if_pos c264] at hy
    refine g_if_neF (pc' := 260) d_Parser_circuit_257 77 c264 (by decide) rfl ?_
    refine g_aload_n 0 (i := 0) (pc' := 261) d_Parser_circuit_260 rfl rfl rfl ?_
    replace hy := g_gR_inv hy
    obtain ⟨fs265, x266, hc267, hv268, hy⟩ := hy
    refine g_getf (pc' := 264) d_Parser_circuit_261 hc267 rfl (by decide) hv268 q858 (Or.inl rfl) rfl ?_
    replace hy := g_nn_inv hy
    obtain ⟨a269, rfl, hy⟩ := hy
    replace hy := g_gR_inv hy
    obtain ⟨fs270, x271, hc272, hv273, hy⟩ := hy
    refine g_getfN (pc' := 267) d_Parser_circuit_264 hc272 rfl (by decide) hv273 q560 rfl rfl ?_
    refine g_aload_n 2 (i := 2) (pc' := 268) d_Parser_circuit_267 rfl rfl rfl ?_
    replace hy := g_nn_inv hy
    obtain ⟨a274, rfl, hy⟩ := hy
    replace hy := g_is_inv hy
    obtain ⟨fs275, hc276, hy⟩ := hy
    replace hy := g_b2_inv hy
    obtain ⟨x277, h278, hf279, hy⟩ := hy
    refine g_callV (rv := some (.int x277)) (h1 := h278) (pc' := 271) (As := [va_rf (some a147)]) (rest := []) 1 (T_ArrayList_add0 (hy := hf279)) d_Parser_circuit_268 hc276 rfl rfl q1036 q1037 q1038 q112 q1039 hd_ArrayList_add0 rfl ⟨by decide, by decide⟩ (by first | exact Nat.le_of_ble_eq_true rfl | (simp only [List.map, List.sum_cons, List.sum_nil, g_cat_rf]; exact Nat.le_of_ble_eq_true rfl) | (simp only [List.map, List.sum_cons, List.sum_nil, g_cat_rf, Value.category]; decide)) rfl ?_
    refine g_pop (pc' := 272) d_Parser_circuit_271 rfl rfl ?_
    cases hy
    exact g_vret rfl rfl rfl d_Parser_circuit_272
  · rw [if_neg c264] at hy
    refine g_if_neT (pc' := 77) d_Parser_circuit_257 c264 (by decide) ?_
    refine g_sub [0, 1, 2] rfl ?_
    exact hk77 _ _ _ _ hy
def Parser_circuit_151 (k77 : g_AH → Nat → Int32 → Option Nat → Option ((Unit ⊕ g_EX) × g_AH)) (h : g_AH) (v0 : Nat) (v1 : Int32) (v2 : Option Nat) (v3 : Int32) (s0 : Nat) : Option ((Unit ⊕ g_EX) × g_AH) :=
  Parser_circuit_152 k77 h v0 v1 v2 v3 (0 : Int32) s0
set_option maxHeartbeats 4000000 in
set_option maxRecDepth 100000 in
theorem W_Parser_circuit_151 {X : g_X} (z : (Unit ⊕ g_EX) × g_AH) (k77 : g_AH → Nat → Int32 → Option Nat → Option ((Unit ⊕ g_EX) × g_AH)) (hk77 : ∀ (h : g_AH) (v0 : Nat) (v1 : Int32) (v2 : Option Nat), k77 h v0 v1 v2 = some z → G X k_Parser_circuit (g_rV z.1) z.2 h 77 [(0, .ref v0), (1, .int v1), (2, va_rf v2)] []) (h : g_AH) (v0 : Nat) (v1 : Int32) (v2 : Option Nat) (v3 : Int32) (s0 : Nat) (hy : Parser_circuit_151 k77 h v0 v1 v2 v3 s0 = some z) : G X k_Parser_circuit (g_rV z.1) z.2 h 151 [(0, .ref v0), (1, .int v1), (2, va_rf v2), (3, .int v3)] [.ref s0] := by
  unfold Parser_circuit_151 at hy
  refine g_iconst (v := (0 : Int32)) (pc' := 152) d_Parser_circuit_151 (by decide) rfl ?_
  exact W_Parser_circuit_152 _ _ hk77 _ _ _ _ _ _ _ hy
def Parser_circuit_113 (k77 : g_AH → Nat → Int32 → Option Nat → Option ((Unit ⊕ g_EX) × g_AH)) (h : g_AH) (v0 : Nat) (v1 : Int32) (v2 : Option Nat) (v3 : Int32) (s0 : Int32) (s1 : Nat) : Option ((Unit ⊕ g_EX) × g_AH) :=
  g_is h s1 8 <| g_bx (Parser_require h s1 s0 (3 : Int32)) fun x115 h116 => g_nn v2 fun a120 => g_gR h116 a120 12 2 fun x122 => g_nn x122 fun a125 => g_is h116 a125 6 <| g_b (Way_has h116 a125 v3) fun x128 => if x128 = 0 then (g_gR h116 v0 8 1 fun x281 => g_gR h116 a120 12 2 fun x285 => g_nn x285 fun a288 => g_is h116 a288 6 <| g_b (Way_last h116 a288) fun x291 => g_nn x281 fun a294 => g_is h116 a294 1 <| g_b (Net_areJoined h116 a294 x291 v3) fun x297 => if x297 = 0 then (Parser_circuit_151 k77 h116 v0 v1 (some a120) v3 v0) else (Parser_circuit_152 k77 h116 v0 v1 (some a120) v3 (1 : Int32) v0)) else (Parser_circuit_151 k77 h116 v0 v1 (some a120) v3 v0)
set_option maxHeartbeats 4000000 in
set_option maxRecDepth 100000 in
theorem W_Parser_circuit_113 {X : g_X} (z : (Unit ⊕ g_EX) × g_AH) (k77 : g_AH → Nat → Int32 → Option Nat → Option ((Unit ⊕ g_EX) × g_AH)) (hk77 : ∀ (h : g_AH) (v0 : Nat) (v1 : Int32) (v2 : Option Nat), k77 h v0 v1 v2 = some z → G X k_Parser_circuit (g_rV z.1) z.2 h 77 [(0, .ref v0), (1, .int v1), (2, va_rf v2)] []) (h : g_AH) (v0 : Nat) (v1 : Int32) (v2 : Option Nat) (v3 : Int32) (s0 : Int32) (s1 : Nat) (hy : Parser_circuit_113 k77 h v0 v1 v2 v3 s0 s1 = some z) : G X k_Parser_circuit (g_rV z.1) z.2 h 113 [(0, .ref v0), (1, .int v1), (2, va_rf v2), (3, .int v3)] [.int s0, .ref s1] := by
  unfold Parser_circuit_113 at hy
  refine g_iconst (v := (3 : Int32)) (pc' := 114) d_Parser_circuit_113 (by decide) rfl ?_
  replace hy := g_is_inv hy
  obtain ⟨fs113, hc114, hy⟩ := hy
  replace hy := g_bx_inv hy
  rcases hy with ⟨x115, h116, hf117, hy⟩ | ⟨⟨E9, q9⟩, h116, hf117, ez119⟩
  rotate_left
  · subst ez119
    exact g_callVX (As := [.int s0, .int (3 : Int32)]) (rest := []) 2 (T_Parser_require (hy := hf117)) d_Parser_circuit_114 hc114 rfl rfl q964 q966 qs6 q137 q967 hd_Parser_require rfl ⟨by decide, by decide⟩ (by first | exact Nat.le_of_ble_eq_true rfl | (simp only [List.map, List.sum_cons, List.sum_nil, g_cat_rf]; exact Nat.le_of_ble_eq_true rfl) | (simp only [List.map, List.sum_cons, List.sum_nil, g_cat_rf, Value.category]; decide)) rfl rfl
  refine g_callV (rv := none) (h1 := h116) (pc' := 117) (As := [.int s0, .int (3 : Int32)]) (rest := []) 2 (T_Parser_require (hy := hf117)) d_Parser_circuit_114 hc114 rfl rfl q964 q966 qs6 q137 q967 hd_Parser_require rfl ⟨by decide, by decide⟩ (by first | exact Nat.le_of_ble_eq_true rfl | (simp only [List.map, List.sum_cons, List.sum_nil, g_cat_rf]; exact Nat.le_of_ble_eq_true rfl) | (simp only [List.map, List.sum_cons, List.sum_nil, g_cat_rf, Value.category]; decide)) rfl ?_
  refine g_aload_n 0 (i := 0) (pc' := 118) d_Parser_circuit_117 rfl rfl rfl ?_
  refine g_aloadO_n 2 (i := 2) (pc' := 119) d_Parser_circuit_118 rfl rfl rfl ?_
  replace hy := g_nn_inv hy
  obtain ⟨a120, rfl, hy⟩ := hy
  replace hy := g_gR_inv hy
  obtain ⟨fs121, x122, hc123, hv124, hy⟩ := hy
  refine g_getfN (pc' := 122) d_Parser_circuit_119 hc123 rfl (by decide) hv124 q1156 rfl rfl ?_
  refine g_iload_n 3 (i := 3) (pc' := 123) d_Parser_circuit_122 rfl rfl rfl ?_
  replace hy := g_nn_inv hy
  obtain ⟨a125, rfl, hy⟩ := hy
  replace hy := g_is_inv hy
  obtain ⟨fs126, hc127, hy⟩ := hy
  replace hy := g_b_inv hy
  obtain ⟨x128, hf130, hy⟩ := hy
  refine g_callV (rv := some (.int x128)) (h1 := h116) (pc' := 126) (As := [.int v3]) (rest := [.ref v0]) 1 (T_Way_has (hy := hf130)) d_Parser_circuit_123 hc127 rfl rfl q1235 q787 q788 q134 q789 hd_Way_has rfl ⟨by decide, by decide⟩ (by first | exact Nat.le_of_ble_eq_true rfl | (simp only [List.map, List.sum_cons, List.sum_nil, g_cat_rf]; exact Nat.le_of_ble_eq_true rfl) | (simp only [List.map, List.sum_cons, List.sum_nil, g_cat_rf, Value.category]; decide)) rfl ?_
  by_cases c131 : x128 = 0
  · rw [if_pos c131] at hy
    refine g_if_neF (pc' := 129) d_Parser_circuit_126 151 c131 (by decide) rfl ?_
    refine g_aload_n 0 (i := 0) (pc' := 130) d_Parser_circuit_129 rfl rfl rfl ?_
    replace hy := g_gR_inv hy
    obtain ⟨fs280, x281, hc282, hv283, hy⟩ := hy
    refine g_getf (pc' := 133) d_Parser_circuit_130 hc282 rfl (by decide) hv283 q858 (Or.inl rfl) rfl ?_
    refine g_aload_n 2 (i := 2) (pc' := 134) d_Parser_circuit_133 rfl rfl rfl ?_
    replace hy := g_gR_inv hy
    obtain ⟨fs284, x285, hc286, hv287, hy⟩ := hy
    refine g_getfN (pc' := 137) d_Parser_circuit_134 hc286 rfl (by decide) hv287 q1156 rfl rfl ?_
    replace hy := g_nn_inv hy
    obtain ⟨a288, rfl, hy⟩ := hy
    replace hy := g_is_inv hy
    obtain ⟨fs289, hc290, hy⟩ := hy
    replace hy := g_b_inv hy
    obtain ⟨x291, hf293, hy⟩ := hy
    refine g_callV (rv := some (.int x291)) (h1 := h116) (pc' := 140) (As := []) (rest := [va_rf x281, .ref v0]) 0 (T_Way_last (hy := hf293)) d_Parser_circuit_137 hc290 rfl rfl q1236 q723 q724 q134 q725 hd_Way_last rfl ⟨by decide, by decide⟩ (by first | exact Nat.le_of_ble_eq_true rfl | (simp only [List.map, List.sum_cons, List.sum_nil, g_cat_rf]; exact Nat.le_of_ble_eq_true rfl) | (simp only [List.map, List.sum_cons, List.sum_nil, g_cat_rf, Value.category]; decide)) rfl ?_
    refine g_iload_n 3 (i := 3) (pc' := 141) d_Parser_circuit_140 rfl rfl rfl ?_
    replace hy := g_nn_inv hy
    obtain ⟨a294, rfl, hy⟩ := hy
    replace hy := g_is_inv hy
    obtain ⟨fs295, hc296, hy⟩ := hy
    replace hy := g_b_inv hy
    obtain ⟨x297, hf299, hy⟩ := hy
    refine g_callV (rv := some (.int x297)) (h1 := h116) (pc' := 144) (As := [.int x291, .int v3]) (rest := [.ref v0]) 2 (T_Net_areJoined (hy := hf299)) d_Parser_circuit_141 hc296 rfl rfl q1096 q1097 q1098 q109 q1099 hd_Net_areJoined rfl ⟨by decide, by decide⟩ (by first | exact Nat.le_of_ble_eq_true rfl | (simp only [List.map, List.sum_cons, List.sum_nil, g_cat_rf]; exact Nat.le_of_ble_eq_true rfl) | (simp only [List.map, List.sum_cons, List.sum_nil, g_cat_rf, Value.category]; decide)) rfl ?_
    by_cases c300 : x297 = 0
    · rw [if_pos c300] at hy
      refine g_if_eqT (pc' := 151) d_Parser_circuit_144 c300 (by decide) ?_
      exact W_Parser_circuit_151 _ _ hk77 _ _ _ _ _ _ hy
    · rw [if_neg c300] at hy
      refine g_if_eqF (pc' := 147) d_Parser_circuit_144 151 c300 (by decide) rfl ?_
      refine g_iconst (v := (1 : Int32)) (pc' := 148) d_Parser_circuit_147 (by decide) rfl ?_
      refine g_goto (pc' := 152) d_Parser_circuit_148 (by decide) ?_
      exact W_Parser_circuit_152 _ _ hk77 _ _ _ _ _ _ _ hy
  · rw [if_neg c131] at hy
    refine g_if_neT (pc' := 151) d_Parser_circuit_126 c131 (by decide) ?_
    exact W_Parser_circuit_151 _ _ hk77 _ _ _ _ _ _ hy
def Parser_circuit_77  : Nat → g_AH → Nat → Int32 → Option Nat → Option ((Unit ⊕ g_EX) × g_AH)
  | 0, _, _, _, _ => none
  | n + 1, h, v0, v1, v2 => g_gR h v0 8 1 fun x81 => g_nn x81 fun a84 => g_gR h a84 1 1 fun x86 => g_nn x86 fun a89 => g_is h a89 15 <| g_b (ArrayList_size h a89) fun x92 => g_is h v0 8 <| g_bx (Parser_look h v0 (0 : Int32) (x92 - (1 : Int32))) fun x97 h98 => g_nn v2 fun a102 => g_gR h98 a102 12 2 fun x104 => g_nn x104 fun a107 => g_gI h98 a107 6 3 fun x109 => if (6 : Int32) ≤ x109 then (Parser_circuit_113 (Parser_circuit_77  n) h98 v0 v1 (some a102) x97 (0 : Int32) v0) else (Parser_circuit_113 (Parser_circuit_77  n) h98 v0 v1 (some a102) x97 (1 : Int32) v0)
set_option maxHeartbeats 4000000 in
set_option maxRecDepth 100000 in
theorem W_Parser_circuit_77 {X : g_X} (z : (Unit ⊕ g_EX) × g_AH)  : ∀ (n : Nat) (h : g_AH) (v0 : Nat) (v1 : Int32) (v2 : Option Nat), Parser_circuit_77  n h v0 v1 v2 = some z → G X k_Parser_circuit (g_rV z.1) z.2 h 77 [(0, .ref v0), (1, .int v1), (2, va_rf v2)] [] := by
  intro n
  induction n with
  | zero => intro h v0 v1 v2 hy; exact absurd hy (by simp [Parser_circuit_77])
  | succ n ih =>
    intro h v0 v1 v2 hy
    rw [Parser_circuit_77] at hy
    refine g_aload_n 0 (i := 0) (pc' := 78) d_Parser_circuit_77 rfl rfl rfl ?_
    refine g_iconst (v := (0 : Int32)) (pc' := 79) d_Parser_circuit_78 (by decide) rfl ?_
    refine g_aload_n 0 (i := 0) (pc' := 80) d_Parser_circuit_79 rfl rfl rfl ?_
    replace hy := g_gR_inv hy
    obtain ⟨fs80, x81, hc82, hv83, hy⟩ := hy
    refine g_getf (pc' := 83) d_Parser_circuit_80 hc82 rfl (by decide) hv83 q858 (Or.inl rfl) rfl ?_
    replace hy := g_nn_inv hy
    obtain ⟨a84, rfl, hy⟩ := hy
    replace hy := g_gR_inv hy
    obtain ⟨fs85, x86, hc87, hv88, hy⟩ := hy
    refine g_getfN (pc' := 86) d_Parser_circuit_83 hc87 rfl (by decide) hv88 q550 rfl rfl ?_
    replace hy := g_nn_inv hy
    obtain ⟨a89, rfl, hy⟩ := hy
    replace hy := g_is_inv hy
    obtain ⟨fs90, hc91, hy⟩ := hy
    replace hy := g_b_inv hy
    obtain ⟨x92, hf94, hy⟩ := hy
    refine g_callV (rv := some (.int x92)) (h1 := h) (pc' := 89) (As := []) (rest := [.int (0 : Int32), .ref v0]) 0 (T_ArrayList_size (hy := hf94)) d_Parser_circuit_86 hc91 rfl rfl q963 q674 q675 q112 q676 hd_ArrayList_size rfl ⟨by decide, by decide⟩ (by first | exact Nat.le_of_ble_eq_true rfl | (simp only [List.map, List.sum_cons, List.sum_nil, g_cat_rf]; exact Nat.le_of_ble_eq_true rfl) | (simp only [List.map, List.sum_cons, List.sum_nil, g_cat_rf, Value.category]; decide)) rfl ?_
    refine g_iconst (v := (1 : Int32)) (pc' := 90) d_Parser_circuit_89 (by decide) rfl ?_
    refine g_isub (pc' := 91) d_Parser_circuit_90 rfl ?_
    replace hy := g_is_inv hy
    obtain ⟨fs95, hc96, hy⟩ := hy
    replace hy := g_bx_inv hy
    rcases hy with ⟨x97, h98, hf99, hy⟩ | ⟨⟨E9, q9⟩, h98, hf99, ez101⟩
    rotate_left
    · subst ez101
      exact g_callVX (As := [.int (0 : Int32), .int (x92 - (1 : Int32))]) (rest := []) 2 (T_Parser_look (hy := hf99)) d_Parser_circuit_91 hc96 rfl rfl q1002 q1004 qs8 q137 q1005 hd_Parser_look rfl ⟨by decide, by decide⟩ (by first | exact Nat.le_of_ble_eq_true rfl | (simp only [List.map, List.sum_cons, List.sum_nil, g_cat_rf]; exact Nat.le_of_ble_eq_true rfl) | (simp only [List.map, List.sum_cons, List.sum_nil, g_cat_rf, Value.category]; decide)) rfl rfl
    refine g_callV (rv := some (.int x97)) (h1 := h98) (pc' := 94) (As := [.int (0 : Int32), .int (x92 - (1 : Int32))]) (rest := []) 2 (T_Parser_look (hy := hf99)) d_Parser_circuit_91 hc96 rfl rfl q1002 q1004 qs8 q137 q1005 hd_Parser_look rfl ⟨by decide, by decide⟩ (by first | exact Nat.le_of_ble_eq_true rfl | (simp only [List.map, List.sum_cons, List.sum_nil, g_cat_rf]; exact Nat.le_of_ble_eq_true rfl) | (simp only [List.map, List.sum_cons, List.sum_nil, g_cat_rf, Value.category]; decide)) rfl ?_
    refine g_istore_n (i := 3) (pc' := 95) (Lc' := [(3, .int x97), (0, .ref v0), (1, .int v1), (2, va_rf v2)]) d_Parser_circuit_94 rfl (by decide) (by cases v2 <;> rfl) rfl ?_
    refine g_aload_n 1 (i := 0) (pc' := 96) d_Parser_circuit_95 rfl rfl rfl ?_
    refine g_aloadO_n 3 (i := 2) (pc' := 97) d_Parser_circuit_96 rfl rfl rfl ?_
    replace hy := g_nn_inv hy
    obtain ⟨a102, rfl, hy⟩ := hy
    replace hy := g_gR_inv hy
    obtain ⟨fs103, x104, hc105, hv106, hy⟩ := hy
    refine g_getfN (pc' := 100) d_Parser_circuit_97 hc105 rfl (by decide) hv106 q1156 rfl rfl ?_
    replace hy := g_nn_inv hy
    obtain ⟨a107, rfl, hy⟩ := hy
    replace hy := g_gI_inv hy
    obtain ⟨fs108, x109, hc110, hv111, hy⟩ := hy
    refine g_getfN (pc' := 103) d_Parser_circuit_100 hc110 rfl (by decide) hv111 q630 rfl rfl ?_
    refine g_bipush (v := (6 : Int32)) (pc' := 105) d_Parser_circuit_103 (by decide) rfl ?_
    by_cases c112 : (6 : Int32) ≤ x109
    · rw [if_pos c112] at hy
      refine g_icmp_geT (pc' := 112) d_Parser_circuit_105 c112 (by decide) ?_
      refine g_iconst (v := (0 : Int32)) (pc' := 113) d_Parser_circuit_112 (by decide) rfl ?_
      refine g_sub [1, 2, 3, 0] rfl ?_
      exact W_Parser_circuit_113 _ _ ih _ _ _ _ _ _ _ hy
    · rw [if_neg c112] at hy
      refine g_icmp_geF (pc' := 108) d_Parser_circuit_105 112 c112 (by decide) rfl ?_
      refine g_iconst (v := (1 : Int32)) (pc' := 109) d_Parser_circuit_108 (by decide) rfl ?_
      refine g_goto (pc' := 113) d_Parser_circuit_109 (by decide) ?_
      refine g_sub [1, 2, 3, 0] rfl ?_
      exact W_Parser_circuit_113 _ _ ih _ _ _ _ _ _ _ hy
def Parser_circuit_21 (h : g_AH) (v0 : Nat) (s0 : Int32) (s1 : Nat) : Option ((Unit ⊕ g_EX) × g_AH) :=
  g_is h s1 8 <| g_bx (Parser_require h s1 s0 (3 : Int32)) fun x19 h20 => g_is h20 v0 8 <| g_b (Parser_advance h20 v0) fun h27 => g_is h27 v0 8 <| g_bx (Parser_number h27 v0 (1 : Int32) (20 : Int32)) fun x31 h32 => g_mk h32 (.inr (12, [.int 0, .int 0, .null, .null, .int 0, .int 0, .int 0, .int 0, .int 0, .int 0, .int 0, .int 0, .int 0, .int 0, .int 0])) 15 fun a36 h37 => g_is h37 v0 8 <| g_bx (Parser_number h37 v0 (0 : Int32) (9 : Int32)) fun x40 h41 => g_b (Circuit_init h41 a36 x31 x40) fun h46 => g_gR h46 a36 12 2 fun x49 => g_gR h46 v0 8 1 fun x53 => g_nn x53 fun a56 => g_gR h46 a56 1 1 fun x58 => g_nn x58 fun a61 => g_is h46 a61 15 <| g_b (ArrayList_size h46 a61) fun x64 => g_is h46 v0 8 <| g_bx (Parser_number h46 v0 (0 : Int32) (x64 - (1 : Int32))) fun x69 h70 => g_nn x49 fun a74 => g_is h70 a74 6 <| g_b (Way_add h70 a74 x69) fun h78 => Parser_circuit_77  gFU h78 v0 x31 (some a36)
set_option maxHeartbeats 4000000 in
set_option maxRecDepth 100000 in
theorem W_Parser_circuit_21 {X : g_X} (z : (Unit ⊕ g_EX) × g_AH) (h : g_AH) (v0 : Nat) (s0 : Int32) (s1 : Nat) (hy : Parser_circuit_21  h v0 s0 s1 = some z) : G X k_Parser_circuit (g_rV z.1) z.2 h 21 [(0, .ref v0)] [.int s0, .ref s1] := by
  unfold Parser_circuit_21 at hy
  refine g_iconst (v := (3 : Int32)) (pc' := 22) d_Parser_circuit_21 (by decide) rfl ?_
  replace hy := g_is_inv hy
  obtain ⟨fs17, hc18, hy⟩ := hy
  replace hy := g_bx_inv hy
  rcases hy with ⟨x19, h20, hf21, hy⟩ | ⟨⟨E9, q9⟩, h20, hf21, ez23⟩
  rotate_left
  · subst ez23
    exact g_callVX (As := [.int s0, .int (3 : Int32)]) (rest := []) 2 (T_Parser_require (hy := hf21)) d_Parser_circuit_22 hc18 rfl rfl q964 q966 qs6 q137 q967 hd_Parser_require rfl ⟨by decide, by decide⟩ (by first | exact Nat.le_of_ble_eq_true rfl | (simp only [List.map, List.sum_cons, List.sum_nil, g_cat_rf]; exact Nat.le_of_ble_eq_true rfl) | (simp only [List.map, List.sum_cons, List.sum_nil, g_cat_rf, Value.category]; decide)) rfl rfl
  refine g_callV (rv := none) (h1 := h20) (pc' := 25) (As := [.int s0, .int (3 : Int32)]) (rest := []) 2 (T_Parser_require (hy := hf21)) d_Parser_circuit_22 hc18 rfl rfl q964 q966 qs6 q137 q967 hd_Parser_require rfl ⟨by decide, by decide⟩ (by first | exact Nat.le_of_ble_eq_true rfl | (simp only [List.map, List.sum_cons, List.sum_nil, g_cat_rf]; exact Nat.le_of_ble_eq_true rfl) | (simp only [List.map, List.sum_cons, List.sum_nil, g_cat_rf, Value.category]; decide)) rfl ?_
  refine g_aload_n 0 (i := 0) (pc' := 26) d_Parser_circuit_25 rfl rfl rfl ?_
  replace hy := g_is_inv hy
  obtain ⟨fs24, hc25, hy⟩ := hy
  replace hy := g_b_inv hy
  obtain ⟨h27, hf28, hy⟩ := hy
  refine g_callV (rv := none) (h1 := h27) (pc' := 29) (As := []) (rest := []) 0 (T_Parser_advance (hy := hf28)) d_Parser_circuit_26 hc25 rfl rfl q817 q819 qs3 q137 q820 hd_Parser_advance rfl ⟨by decide, by decide⟩ (by first | exact Nat.le_of_ble_eq_true rfl | (simp only [List.map, List.sum_cons, List.sum_nil, g_cat_rf]; exact Nat.le_of_ble_eq_true rfl) | (simp only [List.map, List.sum_cons, List.sum_nil, g_cat_rf, Value.category]; decide)) rfl ?_
  refine g_aload_n 0 (i := 0) (pc' := 30) d_Parser_circuit_29 rfl rfl rfl ?_
  refine g_iconst (v := (1 : Int32)) (pc' := 31) d_Parser_circuit_30 (by decide) rfl ?_
  refine g_bipush (v := (20 : Int32)) (pc' := 33) d_Parser_circuit_31 (by decide) rfl ?_
  replace hy := g_is_inv hy
  obtain ⟨fs29, hc30, hy⟩ := hy
  replace hy := g_bx_inv hy
  rcases hy with ⟨x31, h32, hf33, hy⟩ | ⟨⟨E9, q9⟩, h32, hf33, ez35⟩
  rotate_left
  · subst ez35
    exact g_callVX (As := [.int (1 : Int32), .int (20 : Int32)]) (rest := []) 2 (T_Parser_number (hy := hf33)) d_Parser_circuit_33 hc30 rfl rfl q998 q1000 qs7 q137 q1001 hd_Parser_number rfl ⟨by decide, by decide⟩ (by first | exact Nat.le_of_ble_eq_true rfl | (simp only [List.map, List.sum_cons, List.sum_nil, g_cat_rf]; exact Nat.le_of_ble_eq_true rfl) | (simp only [List.map, List.sum_cons, List.sum_nil, g_cat_rf, Value.category]; decide)) rfl rfl
  refine g_callV (rv := some (.int x31)) (h1 := h32) (pc' := 36) (As := [.int (1 : Int32), .int (20 : Int32)]) (rest := []) 2 (T_Parser_number (hy := hf33)) d_Parser_circuit_33 hc30 rfl rfl q998 q1000 qs7 q137 q1001 hd_Parser_number rfl ⟨by decide, by decide⟩ (by first | exact Nat.le_of_ble_eq_true rfl | (simp only [List.map, List.sum_cons, List.sum_nil, g_cat_rf]; exact Nat.le_of_ble_eq_true rfl) | (simp only [List.map, List.sum_cons, List.sum_nil, g_cat_rf, Value.category]; decide)) rfl ?_
  refine g_istore_n (i := 1) (pc' := 37) (Lc' := [(1, .int x31), (0, .ref v0)]) d_Parser_circuit_36 rfl (by decide) rfl rfl ?_
  replace hy := g_mk_inv hy
  refine g_new (ci := 12) (fs := [.int 0, .int 0, .null, .null, .int 0, .int 0, .int 0, .int 0, .int 0, .int 0, .int 0, .int 0, .int 0, .int 0, .int 0]) (pc' := 40) d_Parser_circuit_37 rfl q1138 q1139 q142 gdf_12 rfl ?_
  generalize g_al h32 (.inr (12, [.int 0, .int 0, .null, .null, .int 0, .int 0, .int 0, .int 0, .int 0, .int 0, .int 0, .int 0, .int 0, .int 0, .int 0])) 15 = h37 at hy ⊢
  generalize g_n h32 = a36 at hy ⊢
  refine g_dup (pc' := 41) d_Parser_circuit_40 rfl rfl ?_
  refine g_iload_n 0 (i := 1) (pc' := 42) d_Parser_circuit_41 rfl rfl rfl ?_
  refine g_aload_n 1 (i := 0) (pc' := 43) d_Parser_circuit_42 rfl rfl rfl ?_
  refine g_iconst (v := (0 : Int32)) (pc' := 44) d_Parser_circuit_43 (by decide) rfl ?_
  refine g_bipush (v := (9 : Int32)) (pc' := 46) d_Parser_circuit_44 (by decide) rfl ?_
  replace hy := g_is_inv hy
  obtain ⟨fs38, hc39, hy⟩ := hy
  replace hy := g_bx_inv hy
  rcases hy with ⟨x40, h41, hf42, hy⟩ | ⟨⟨E9, q9⟩, h41, hf42, ez44⟩
  rotate_left
  · subst ez44
    exact g_callVX (As := [.int (0 : Int32), .int (9 : Int32)]) (rest := [.int x31, .ref a36, .ref a36]) 2 (T_Parser_number (hy := hf42)) d_Parser_circuit_46 hc39 rfl rfl q998 q1000 qs7 q137 q1001 hd_Parser_number rfl ⟨by decide, by decide⟩ (by first | exact Nat.le_of_ble_eq_true rfl | (simp only [List.map, List.sum_cons, List.sum_nil, g_cat_rf]; exact Nat.le_of_ble_eq_true rfl) | (simp only [List.map, List.sum_cons, List.sum_nil, g_cat_rf, Value.category]; decide)) rfl rfl
  refine g_callV (rv := some (.int x40)) (h1 := h41) (pc' := 49) (As := [.int (0 : Int32), .int (9 : Int32)]) (rest := [.int x31, .ref a36, .ref a36]) 2 (T_Parser_number (hy := hf42)) d_Parser_circuit_46 hc39 rfl rfl q998 q1000 qs7 q137 q1001 hd_Parser_number rfl ⟨by decide, by decide⟩ (by first | exact Nat.le_of_ble_eq_true rfl | (simp only [List.map, List.sum_cons, List.sum_nil, g_cat_rf]; exact Nat.le_of_ble_eq_true rfl) | (simp only [List.map, List.sum_cons, List.sum_nil, g_cat_rf, Value.category]; decide)) rfl ?_
  replace hy := g_b_inv hy
  obtain ⟨h46, hf47, hy⟩ := hy
  refine g_callI (h1 := h46) (pc' := 52) (As := [.int x31, .int x40]) (rest := [.ref a36]) 2 (T_Circuit_init (hy := hf47)) d_Parser_circuit_49 rfl rfl q1140 q1141 q142 q1142 hd_Circuit_init rfl ⟨by decide, by decide⟩ (by first | exact Nat.le_of_ble_eq_true rfl | (simp only [List.map, List.sum_cons, List.sum_nil, g_cat_rf]; exact Nat.le_of_ble_eq_true rfl) | (simp only [List.map, List.sum_cons, List.sum_nil, g_cat_rf, Value.category]; decide)) rfl ?_
  refine g_astore_n (i := 2) (pc' := 53) (Lc' := [(2, .ref a36), (1, .int x31), (0, .ref v0)]) d_Parser_circuit_52 rfl (by decide) rfl rfl ?_
  refine g_aload_n 0 (i := 2) (pc' := 54) d_Parser_circuit_53 rfl rfl rfl ?_
  replace hy := g_gR_inv hy
  obtain ⟨fs48, x49, hc50, hv51, hy⟩ := hy
  refine g_getfN (pc' := 57) d_Parser_circuit_54 hc50 rfl (by decide) hv51 q1156 rfl rfl ?_
  refine g_aload_n 2 (i := 0) (pc' := 58) d_Parser_circuit_57 rfl rfl rfl ?_
  refine g_iconst (v := (0 : Int32)) (pc' := 59) d_Parser_circuit_58 (by decide) rfl ?_
  refine g_aload_n 2 (i := 0) (pc' := 60) d_Parser_circuit_59 rfl rfl rfl ?_
  replace hy := g_gR_inv hy
  obtain ⟨fs52, x53, hc54, hv55, hy⟩ := hy
  refine g_getf (pc' := 63) d_Parser_circuit_60 hc54 rfl (by decide) hv55 q858 (Or.inl rfl) rfl ?_
  replace hy := g_nn_inv hy
  obtain ⟨a56, rfl, hy⟩ := hy
  replace hy := g_gR_inv hy
  obtain ⟨fs57, x58, hc59, hv60, hy⟩ := hy
  refine g_getfN (pc' := 66) d_Parser_circuit_63 hc59 rfl (by decide) hv60 q550 rfl rfl ?_
  replace hy := g_nn_inv hy
  obtain ⟨a61, rfl, hy⟩ := hy
  replace hy := g_is_inv hy
  obtain ⟨fs62, hc63, hy⟩ := hy
  replace hy := g_b_inv hy
  obtain ⟨x64, hf66, hy⟩ := hy
  refine g_callV (rv := some (.int x64)) (h1 := h46) (pc' := 69) (As := []) (rest := [.int (0 : Int32), .ref v0, va_rf x49]) 0 (T_ArrayList_size (hy := hf66)) d_Parser_circuit_66 hc63 rfl rfl q963 q674 q675 q112 q676 hd_ArrayList_size rfl ⟨by decide, by decide⟩ (by first | exact Nat.le_of_ble_eq_true rfl | (simp only [List.map, List.sum_cons, List.sum_nil, g_cat_rf]; exact Nat.le_of_ble_eq_true rfl) | (simp only [List.map, List.sum_cons, List.sum_nil, g_cat_rf, Value.category]; decide)) rfl ?_
  refine g_iconst (v := (1 : Int32)) (pc' := 70) d_Parser_circuit_69 (by decide) rfl ?_
  refine g_isub (pc' := 71) d_Parser_circuit_70 rfl ?_
  replace hy := g_is_inv hy
  obtain ⟨fs67, hc68, hy⟩ := hy
  replace hy := g_bx_inv hy
  rcases hy with ⟨x69, h70, hf71, hy⟩ | ⟨⟨E9, q9⟩, h70, hf71, ez73⟩
  rotate_left
  · subst ez73
    exact g_callVX (As := [.int (0 : Int32), .int (x64 - (1 : Int32))]) (rest := [va_rf x49]) 2 (T_Parser_number (hy := hf71)) d_Parser_circuit_71 hc68 rfl rfl q998 q1000 qs7 q137 q1001 hd_Parser_number rfl ⟨by decide, by decide⟩ (by first | exact Nat.le_of_ble_eq_true rfl | (simp only [List.map, List.sum_cons, List.sum_nil, g_cat_rf]; exact Nat.le_of_ble_eq_true rfl) | (simp only [List.map, List.sum_cons, List.sum_nil, g_cat_rf, Value.category]; decide)) rfl rfl
  refine g_callV (rv := some (.int x69)) (h1 := h70) (pc' := 74) (As := [.int (0 : Int32), .int (x64 - (1 : Int32))]) (rest := [va_rf x49]) 2 (T_Parser_number (hy := hf71)) d_Parser_circuit_71 hc68 rfl rfl q998 q1000 qs7 q137 q1001 hd_Parser_number rfl ⟨by decide, by decide⟩ (by first | exact Nat.le_of_ble_eq_true rfl | (simp only [List.map, List.sum_cons, List.sum_nil, g_cat_rf]; exact Nat.le_of_ble_eq_true rfl) | (simp only [List.map, List.sum_cons, List.sum_nil, g_cat_rf, Value.category]; decide)) rfl ?_
  replace hy := g_nn_inv hy
  obtain ⟨a74, rfl, hy⟩ := hy
  replace hy := g_is_inv hy
  obtain ⟨fs75, hc76, hy⟩ := hy
  replace hy := g_b_inv hy
  obtain ⟨h78, hf79, hy⟩ := hy
  refine g_callV (rv := none) (h1 := h78) (pc' := 77) (As := [.int x69]) (rest := []) 1 (T_Way_add (hy := hf79)) d_Parser_circuit_74 hc76 rfl rfl q1234 q763 q764 q134 q765 hd_Way_add rfl ⟨by decide, by decide⟩ (by first | exact Nat.le_of_ble_eq_true rfl | (simp only [List.map, List.sum_cons, List.sum_nil, g_cat_rf]; exact Nat.le_of_ble_eq_true rfl) | (simp only [List.map, List.sum_cons, List.sum_nil, g_cat_rf, Value.category]; decide)) rfl ?_
  refine g_sub [2, 1, 0] rfl ?_
  exact W_Parser_circuit_77 _ _ _ _ _ _ hy
def Parser_circuit (h : g_AH) (this : Nat) : Option ((Unit ⊕ g_EX) × g_AH) :=
  g_gR h this 8 1 fun x2 => g_nn x2 fun a5 => g_gR h a5 1 3 fun x7 => g_nn x7 fun a10 => g_is h a10 15 <| g_b (ArrayList_size h a10) fun x13 => if (8 : Int32) ≤ x13 then (Parser_circuit_21  h this (0 : Int32) this) else (Parser_circuit_21  h this (1 : Int32) this)
set_option maxHeartbeats 4000000 in
set_option maxRecDepth 100000 in
theorem T_Parser_circuit {l : Launch} {B : g_B} (h : g_AH) (this : Nat) (z : (Unit ⊕ g_EX) × g_AH) (hy : Parser_circuit h this = some z) : g_CT l B y_Parser_circuit k_Parser_circuit [.ref this] h (g_rV z.1) z.2 := by
  refine g_start2 (Lc := [(0, .ref this)]) (by decide) rfl rfl (by exact Nat.le_of_ble_eq_true rfl) (by rfl) fun X => ?_
  unfold Parser_circuit at hy
  refine g_aload_n 0 (i := 0) (pc' := 1) d_Parser_circuit_0 rfl rfl rfl ?_
  refine g_aload_n 0 (i := 0) (pc' := 2) d_Parser_circuit_1 rfl rfl rfl ?_
  replace hy := g_gR_inv hy
  obtain ⟨fs1, x2, hc3, hv4, hy⟩ := hy
  refine g_getf (pc' := 5) d_Parser_circuit_2 hc3 rfl (by decide) hv4 q858 (Or.inl rfl) rfl ?_
  replace hy := g_nn_inv hy
  obtain ⟨a5, rfl, hy⟩ := hy
  replace hy := g_gR_inv hy
  obtain ⟨fs6, x7, hc8, hv9, hy⟩ := hy
  refine g_getfN (pc' := 8) d_Parser_circuit_5 hc8 rfl (by decide) hv9 q560 rfl rfl ?_
  replace hy := g_nn_inv hy
  obtain ⟨a10, rfl, hy⟩ := hy
  replace hy := g_is_inv hy
  obtain ⟨fs11, hc12, hy⟩ := hy
  replace hy := g_b_inv hy
  obtain ⟨x13, hf15, hy⟩ := hy
  refine g_callV (rv := some (.int x13)) (h1 := h) (pc' := 11) (As := []) (rest := [.ref this]) 0 (T_ArrayList_size (hy := hf15)) d_Parser_circuit_8 hc12 rfl rfl q963 q674 q675 q112 q676 hd_ArrayList_size rfl ⟨by decide, by decide⟩ (by first | exact Nat.le_of_ble_eq_true rfl | (simp only [List.map, List.sum_cons, List.sum_nil, g_cat_rf]; exact Nat.le_of_ble_eq_true rfl) | (simp only [List.map, List.sum_cons, List.sum_nil, g_cat_rf, Value.category]; decide)) rfl ?_
  refine g_bipush (v := (8 : Int32)) (pc' := 13) d_Parser_circuit_11 (by decide) rfl ?_
  by_cases c16 : (8 : Int32) ≤ x13
  · rw [if_pos c16] at hy
    refine g_icmp_geT (pc' := 20) d_Parser_circuit_13 c16 (by decide) ?_
    refine g_iconst (v := (0 : Int32)) (pc' := 21) d_Parser_circuit_20 (by decide) rfl ?_
    exact W_Parser_circuit_21 _ _ _ _ _ hy
  · rw [if_neg c16] at hy
    refine g_icmp_geF (pc' := 16) d_Parser_circuit_13 20 c16 (by decide) rfl ?_
    refine g_iconst (v := (1 : Int32)) (pc' := 17) d_Parser_circuit_16 (by decide) rfl ?_
    refine g_goto (pc' := 21) d_Parser_circuit_17 (by decide) ?_
    exact W_Parser_circuit_21 _ _ _ _ _ hy
theorem hd_Parser_circuit : g_dsc y_Parser_circuit 0 := ⟨by decide +kernel, by decide +kernel, by decide +kernel⟩
/-! CircuitDesk$Parser.statement()V -/
abbrev y_Parser_statement : MethodName := ⟨"CircuitDesk$Parser", "statement", "()V"⟩
abbrev k_Parser_statement : g_M := (prog_10_method_8_code, 4, "CircuitDesk$Parser", 32, none, "statement", [], 0)
theorem d_Parser_statement_0 : decode prog_10_method_8_code 0 = .ok (.aload_n 0, 1) := by decide +kernel
theorem d_Parser_statement_1 : decode prog_10_method_8_code 1 = .ok (.getfield 24, 3) := by decide +kernel
theorem d_Parser_statement_4 : decode prog_10_method_8_code 4 = .ok (.astore_n 1, 1) := by decide +kernel
theorem d_Parser_statement_5 : decode prog_10_method_8_code 5 = .ok (.iconst (-1), 1) := by decide +kernel
theorem d_Parser_statement_6 : decode prog_10_method_8_code 6 = .ok (.istore_n 2, 1) := by decide +kernel
theorem d_Parser_statement_7 : decode prog_10_method_8_code 7 = .ok (.aload_n 1, 1) := by decide +kernel
theorem d_Parser_statement_8 : decode prog_10_method_8_code 8 = .ok (.invokevirtual 109, 3) := by decide +kernel
theorem d_Parser_statement_11 : decode prog_10_method_8_code 11 = .ok (.lookupswitch 94 #[(113762, 83), (3321850, 55), (3386882, 41), (782958569, 69)], 41) := by decide +kernel
theorem d_Parser_statement_52 : decode prog_10_method_8_code 52 = .ok (.aload_n 1, 1) := by decide +kernel
theorem d_Parser_statement_53 : decode prog_10_method_8_code 53 = .ok (.ldc 113, 2) := by decide +kernel
theorem d_Parser_statement_55 : decode prog_10_method_8_code 55 = .ok (.invokevirtual 103, 3) := by decide +kernel
theorem d_Parser_statement_58 : decode prog_10_method_8_code 58 = .ok (.ifCond .eq 47, 3) := by decide +kernel
theorem d_Parser_statement_61 : decode prog_10_method_8_code 61 = .ok (.iconst 0, 1) := by decide +kernel
theorem d_Parser_statement_62 : decode prog_10_method_8_code 62 = .ok (.istore_n 2, 1) := by decide +kernel
theorem d_Parser_statement_63 : decode prog_10_method_8_code 63 = .ok (.goto 42, 3) := by decide +kernel
theorem d_Parser_statement_66 : decode prog_10_method_8_code 66 = .ok (.aload_n 1, 1) := by decide +kernel
theorem d_Parser_statement_67 : decode prog_10_method_8_code 67 = .ok (.ldc 115, 2) := by decide +kernel
theorem d_Parser_statement_69 : decode prog_10_method_8_code 69 = .ok (.invokevirtual 103, 3) := by decide +kernel
theorem d_Parser_statement_72 : decode prog_10_method_8_code 72 = .ok (.ifCond .eq 33, 3) := by decide +kernel
theorem d_Parser_statement_75 : decode prog_10_method_8_code 75 = .ok (.iconst 1, 1) := by decide +kernel
theorem d_Parser_statement_76 : decode prog_10_method_8_code 76 = .ok (.istore_n 2, 1) := by decide +kernel
theorem d_Parser_statement_77 : decode prog_10_method_8_code 77 = .ok (.goto 28, 3) := by decide +kernel
theorem d_Parser_statement_80 : decode prog_10_method_8_code 80 = .ok (.aload_n 1, 1) := by decide +kernel
theorem d_Parser_statement_81 : decode prog_10_method_8_code 81 = .ok (.ldc 117, 2) := by decide +kernel
theorem d_Parser_statement_83 : decode prog_10_method_8_code 83 = .ok (.invokevirtual 103, 3) := by decide +kernel
theorem d_Parser_statement_86 : decode prog_10_method_8_code 86 = .ok (.ifCond .eq 19, 3) := by decide +kernel
theorem d_Parser_statement_89 : decode prog_10_method_8_code 89 = .ok (.iconst 2, 1) := by decide +kernel
theorem d_Parser_statement_90 : decode prog_10_method_8_code 90 = .ok (.istore_n 2, 1) := by decide +kernel
theorem d_Parser_statement_91 : decode prog_10_method_8_code 91 = .ok (.goto 14, 3) := by decide +kernel
theorem d_Parser_statement_94 : decode prog_10_method_8_code 94 = .ok (.aload_n 1, 1) := by decide +kernel
theorem d_Parser_statement_95 : decode prog_10_method_8_code 95 = .ok (.ldc 119, 2) := by decide +kernel
theorem d_Parser_statement_97 : decode prog_10_method_8_code 97 = .ok (.invokevirtual 103, 3) := by decide +kernel
theorem d_Parser_statement_100 : decode prog_10_method_8_code 100 = .ok (.ifCond .eq 5, 3) := by decide +kernel
theorem d_Parser_statement_103 : decode prog_10_method_8_code 103 = .ok (.iconst 3, 1) := by decide +kernel
theorem d_Parser_statement_104 : decode prog_10_method_8_code 104 = .ok (.istore_n 2, 1) := by decide +kernel
theorem d_Parser_statement_105 : decode prog_10_method_8_code 105 = .ok (.iload_n 2, 1) := by decide +kernel
theorem d_Parser_statement_106 : decode prog_10_method_8_code 106 = .ok (.tableswitch 133 0 3 #[30, 87, 94, 101], 30) := by decide +kernel
theorem d_Parser_statement_136 : decode prog_10_method_8_code 136 = .ok (.aload_n 0, 1) := by decide +kernel
theorem d_Parser_statement_137 : decode prog_10_method_8_code 137 = .ok (.aload_n 0, 1) := by decide +kernel
theorem d_Parser_statement_138 : decode prog_10_method_8_code 138 = .ok (.getfield 18, 3) := by decide +kernel
theorem d_Parser_statement_141 : decode prog_10_method_8_code 141 = .ok (.getfield 121, 3) := by decide +kernel
theorem d_Parser_statement_144 : decode prog_10_method_8_code 144 = .ok (.invokevirtual 125, 3) := by decide +kernel
theorem d_Parser_statement_147 : decode prog_10_method_8_code 147 = .ok (.bipush 10, 2) := by decide +kernel
theorem d_Parser_statement_149 : decode prog_10_method_8_code 149 = .ok (.if_icmp .ge 7, 3) := by decide +kernel
theorem d_Parser_statement_152 : decode prog_10_method_8_code 152 = .ok (.iconst 1, 1) := by decide +kernel
theorem d_Parser_statement_153 : decode prog_10_method_8_code 153 = .ok (.goto 4, 3) := by decide +kernel
theorem d_Parser_statement_156 : decode prog_10_method_8_code 156 = .ok (.iconst 0, 1) := by decide +kernel
theorem d_Parser_statement_157 : decode prog_10_method_8_code 157 = .ok (.iconst 3, 1) := by decide +kernel
theorem d_Parser_statement_158 : decode prog_10_method_8_code 158 = .ok (.invokevirtual 91, 3) := by decide +kernel
theorem d_Parser_statement_161 : decode prog_10_method_8_code 161 = .ok (.aload_n 0, 1) := by decide +kernel
theorem d_Parser_statement_162 : decode prog_10_method_8_code 162 = .ok (.invokevirtual 32, 3) := by decide +kernel
theorem d_Parser_statement_165 : decode prog_10_method_8_code 165 = .ok (.aload_n 0, 1) := by decide +kernel
theorem d_Parser_statement_166 : decode prog_10_method_8_code 166 = .ok (.getfield 18, 3) := by decide +kernel
theorem d_Parser_statement_169 : decode prog_10_method_8_code 169 = .ok (.getfield 121, 3) := by decide +kernel
theorem d_Parser_statement_172 : decode prog_10_method_8_code 172 = .ok (.new 130, 3) := by decide +kernel
theorem d_Parser_statement_175 : decode prog_10_method_8_code 175 = .ok (.dup, 1) := by decide +kernel
theorem d_Parser_statement_176 : decode prog_10_method_8_code 176 = .ok (.aload_n 0, 1) := by decide +kernel
theorem d_Parser_statement_177 : decode prog_10_method_8_code 177 = .ok (.iconst 1, 1) := by decide +kernel
theorem d_Parser_statement_178 : decode prog_10_method_8_code 178 = .ok (.bipush 12, 2) := by decide +kernel
theorem d_Parser_statement_180 : decode prog_10_method_8_code 180 = .ok (.invokevirtual 132, 3) := by decide +kernel
theorem d_Parser_statement_183 : decode prog_10_method_8_code 183 = .ok (.invokespecial 134, 3) := by decide +kernel
theorem d_Parser_statement_186 : decode prog_10_method_8_code 186 = .ok (.invokevirtual 137, 3) := by decide +kernel
theorem d_Parser_statement_189 : decode prog_10_method_8_code 189 = .ok (.pop, 1) := by decide +kernel
theorem d_Parser_statement_190 : decode prog_10_method_8_code 190 = .ok (.goto 62, 3) := by decide +kernel
theorem d_Parser_statement_193 : decode prog_10_method_8_code 193 = .ok (.aload_n 0, 1) := by decide +kernel
theorem d_Parser_statement_194 : decode prog_10_method_8_code 194 = .ok (.invokevirtual 140, 3) := by decide +kernel
theorem d_Parser_statement_197 : decode prog_10_method_8_code 197 = .ok (.goto 55, 3) := by decide +kernel
theorem d_Parser_statement_200 : decode prog_10_method_8_code 200 = .ok (.aload_n 0, 1) := by decide +kernel
theorem d_Parser_statement_201 : decode prog_10_method_8_code 201 = .ok (.invokevirtual 142, 3) := by decide +kernel
theorem d_Parser_statement_204 : decode prog_10_method_8_code 204 = .ok (.goto 48, 3) := by decide +kernel
theorem d_Parser_statement_207 : decode prog_10_method_8_code 207 = .ok (.aload_n 0, 1) := by decide +kernel
theorem d_Parser_statement_208 : decode prog_10_method_8_code 208 = .ok (.invokevirtual 32, 3) := by decide +kernel
theorem d_Parser_statement_211 : decode prog_10_method_8_code 211 = .ok (.aload_n 0, 1) := by decide +kernel
theorem d_Parser_statement_212 : decode prog_10_method_8_code 212 = .ok (.iconst 0, 1) := by decide +kernel
theorem d_Parser_statement_213 : decode prog_10_method_8_code 213 = .ok (.iconst 1, 1) := by decide +kernel
theorem d_Parser_statement_214 : decode prog_10_method_8_code 214 = .ok (.invokevirtual 132, 3) := by decide +kernel
theorem d_Parser_statement_217 : decode prog_10_method_8_code 217 = .ok (.istore_n 3, 1) := by decide +kernel
theorem d_Parser_statement_218 : decode prog_10_method_8_code 218 = .ok (.aload_n 0, 1) := by decide +kernel
theorem d_Parser_statement_219 : decode prog_10_method_8_code 219 = .ok (.getfield 18, 3) := by decide +kernel
theorem d_Parser_statement_222 : decode prog_10_method_8_code 222 = .ok (.getfield 144, 3) := by decide +kernel
theorem d_Parser_statement_225 : decode prog_10_method_8_code 225 = .ok (.iload_n 3, 1) := by decide +kernel
theorem d_Parser_statement_226 : decode prog_10_method_8_code 226 = .ok (.aload_n 0, 1) := by decide +kernel
theorem d_Parser_statement_227 : decode prog_10_method_8_code 227 = .ok (.iconst 0, 1) := by decide +kernel
theorem d_Parser_statement_228 : decode prog_10_method_8_code 228 = .ok (.iload_n 3, 1) := by decide +kernel
theorem d_Parser_statement_229 : decode prog_10_method_8_code 229 = .ok (.invokestatic 148, 3) := by decide +kernel
theorem d_Parser_statement_232 : decode prog_10_method_8_code 232 = .ok (.invokevirtual 132, 3) := by decide +kernel
theorem d_Parser_statement_235 : decode prog_10_method_8_code 235 = .ok (.iastore, 1) := by decide +kernel
theorem d_Parser_statement_236 : decode prog_10_method_8_code 236 = .ok (.goto 16, 3) := by decide +kernel
theorem d_Parser_statement_239 : decode prog_10_method_8_code 239 = .ok (.new 86, 3) := by decide +kernel
theorem d_Parser_statement_242 : decode prog_10_method_8_code 242 = .ok (.dup, 1) := by decide +kernel
theorem d_Parser_statement_243 : decode prog_10_method_8_code 243 = .ok (.iconst 1, 1) := by decide +kernel
theorem d_Parser_statement_244 : decode prog_10_method_8_code 244 = .ok (.aload_n 0, 1) := by decide +kernel
theorem d_Parser_statement_245 : decode prog_10_method_8_code 245 = .ok (.getfield 46, 3) := by decide +kernel
theorem d_Parser_statement_248 : decode prog_10_method_8_code 248 = .ok (.invokespecial 88, 3) := by decide +kernel
theorem d_Parser_statement_251 : decode prog_10_method_8_code 251 = .ok (.athrow, 1) := by decide +kernel
theorem d_Parser_statement_252 : decode prog_10_method_8_code 252 = .ok (.return_, 1) := by decide +kernel
def Parser_statement_157 (h : g_AH) (v0 : Nat) (s0 : Int32) (s1 : Nat) : Option ((Unit ⊕ g_EX) × g_AH) :=
  g_is h s1 8 <| g_bx (Parser_require h s1 s0 (3 : Int32)) fun x37 h38 => g_is h38 v0 8 <| g_b (Parser_advance h38 v0) fun h45 => g_gR h45 v0 8 1 fun x48 => g_nn x48 fun a51 => g_gR h45 a51 1 1 fun x53 => g_mk h45 (.inr (10, [.int 0, .null, .null, .null, .null])) 5 fun a56 h57 => g_is h57 v0 8 <| g_bx (Parser_number h57 v0 (1 : Int32) (12 : Int32)) fun x60 h61 => g_b (Node_init h61 a56 x60) fun h66 => g_nn x53 fun a68 => g_is h66 a68 15 <| g_b2 (ArrayList_add0 h66 a68 (some a56)) fun x71 h72 => some (.inl (), h72)
set_option maxHeartbeats 4000000 in
set_option maxRecDepth 100000 in
theorem W_Parser_statement_157 {X : g_X} (z : (Unit ⊕ g_EX) × g_AH) (h : g_AH) (v0 : Nat) (s0 : Int32) (s1 : Nat) (hy : Parser_statement_157  h v0 s0 s1 = some z) : G X k_Parser_statement (g_rV z.1) z.2 h 157 [(0, .ref v0)] [.int s0, .ref s1] := by
  unfold Parser_statement_157 at hy
  refine g_iconst (v := (3 : Int32)) (pc' := 158) d_Parser_statement_157 (by decide) rfl ?_
  replace hy := g_is_inv hy
  obtain ⟨fs35, hc36, hy⟩ := hy
  replace hy := g_bx_inv hy
  rcases hy with ⟨x37, h38, hf39, hy⟩ | ⟨⟨E9, q9⟩, h38, hf39, ez41⟩
  rotate_left
  · subst ez41
    exact g_callVX (As := [.int s0, .int (3 : Int32)]) (rest := []) 2 (T_Parser_require (hy := hf39)) d_Parser_statement_158 hc36 rfl rfl q964 q966 qs6 q137 q967 hd_Parser_require rfl ⟨by decide, by decide⟩ (by first | exact Nat.le_of_ble_eq_true rfl | (simp only [List.map, List.sum_cons, List.sum_nil, g_cat_rf]; exact Nat.le_of_ble_eq_true rfl) | (simp only [List.map, List.sum_cons, List.sum_nil, g_cat_rf, Value.category]; decide)) rfl rfl
  refine g_callV (rv := none) (h1 := h38) (pc' := 161) (As := [.int s0, .int (3 : Int32)]) (rest := []) 2 (T_Parser_require (hy := hf39)) d_Parser_statement_158 hc36 rfl rfl q964 q966 qs6 q137 q967 hd_Parser_require rfl ⟨by decide, by decide⟩ (by first | exact Nat.le_of_ble_eq_true rfl | (simp only [List.map, List.sum_cons, List.sum_nil, g_cat_rf]; exact Nat.le_of_ble_eq_true rfl) | (simp only [List.map, List.sum_cons, List.sum_nil, g_cat_rf, Value.category]; decide)) rfl ?_
  refine g_aload_n 0 (i := 0) (pc' := 162) d_Parser_statement_161 rfl rfl rfl ?_
  replace hy := g_is_inv hy
  obtain ⟨fs42, hc43, hy⟩ := hy
  replace hy := g_b_inv hy
  obtain ⟨h45, hf46, hy⟩ := hy
  refine g_callV (rv := none) (h1 := h45) (pc' := 165) (As := []) (rest := []) 0 (T_Parser_advance (hy := hf46)) d_Parser_statement_162 hc43 rfl rfl q817 q819 qs3 q137 q820 hd_Parser_advance rfl ⟨by decide, by decide⟩ (by first | exact Nat.le_of_ble_eq_true rfl | (simp only [List.map, List.sum_cons, List.sum_nil, g_cat_rf]; exact Nat.le_of_ble_eq_true rfl) | (simp only [List.map, List.sum_cons, List.sum_nil, g_cat_rf, Value.category]; decide)) rfl ?_
  refine g_aload_n 0 (i := 0) (pc' := 166) d_Parser_statement_165 rfl rfl rfl ?_
  replace hy := g_gR_inv hy
  obtain ⟨fs47, x48, hc49, hv50, hy⟩ := hy
  refine g_getf (pc' := 169) d_Parser_statement_166 hc49 rfl (by decide) hv50 q858 (Or.inl rfl) rfl ?_
  replace hy := g_nn_inv hy
  obtain ⟨a51, rfl, hy⟩ := hy
  replace hy := g_gR_inv hy
  obtain ⟨fs52, x53, hc54, hv55, hy⟩ := hy
  refine g_getfN (pc' := 172) d_Parser_statement_169 hc54 rfl (by decide) hv55 q550 rfl rfl ?_
  replace hy := g_mk_inv hy
  refine g_new (ci := 10) (fs := [.int 0, .null, .null, .null, .null]) (pc' := 175) d_Parser_statement_172 rfl q996 q997 q139 gdf_10 rfl ?_
  generalize g_al h45 (.inr (10, [.int 0, .null, .null, .null, .null])) 5 = h57 at hy ⊢
  generalize g_n h45 = a56 at hy ⊢
  refine g_dup (pc' := 176) d_Parser_statement_175 rfl rfl ?_
  refine g_aload_n 0 (i := 0) (pc' := 177) d_Parser_statement_176 rfl rfl rfl ?_
  refine g_iconst (v := (1 : Int32)) (pc' := 178) d_Parser_statement_177 (by decide) rfl ?_
  refine g_bipush (v := (12 : Int32)) (pc' := 180) d_Parser_statement_178 (by decide) rfl ?_
  replace hy := g_is_inv hy
  obtain ⟨fs58, hc59, hy⟩ := hy
  replace hy := g_bx_inv hy
  rcases hy with ⟨x60, h61, hf62, hy⟩ | ⟨⟨E9, q9⟩, h61, hf62, ez64⟩
  rotate_left
  · subst ez64
    exact g_callVX (As := [.int (1 : Int32), .int (12 : Int32)]) (rest := [.ref a56, .ref a56, va_rf x53]) 2 (T_Parser_number (hy := hf62)) d_Parser_statement_180 hc59 rfl rfl q998 q1000 qs7 q137 q1001 hd_Parser_number rfl ⟨by decide, by decide⟩ (by first | exact Nat.le_of_ble_eq_true rfl | (simp only [List.map, List.sum_cons, List.sum_nil, g_cat_rf]; exact Nat.le_of_ble_eq_true rfl) | (simp only [List.map, List.sum_cons, List.sum_nil, g_cat_rf, Value.category]; decide)) rfl rfl
  refine g_callV (rv := some (.int x60)) (h1 := h61) (pc' := 183) (As := [.int (1 : Int32), .int (12 : Int32)]) (rest := [.ref a56, .ref a56, va_rf x53]) 2 (T_Parser_number (hy := hf62)) d_Parser_statement_180 hc59 rfl rfl q998 q1000 qs7 q137 q1001 hd_Parser_number rfl ⟨by decide, by decide⟩ (by first | exact Nat.le_of_ble_eq_true rfl | (simp only [List.map, List.sum_cons, List.sum_nil, g_cat_rf]; exact Nat.le_of_ble_eq_true rfl) | (simp only [List.map, List.sum_cons, List.sum_nil, g_cat_rf, Value.category]; decide)) rfl ?_
  replace hy := g_b_inv hy
  obtain ⟨h66, hf67, hy⟩ := hy
  refine g_callI (h1 := h66) (pc' := 186) (As := [.int x60]) (rest := [.ref a56, va_rf x53]) 1 (T_Node_init (hy := hf67)) d_Parser_statement_183 rfl rfl q1006 q1007 q139 q1008 hd_Node_init rfl ⟨by decide, by decide⟩ (by first | exact Nat.le_of_ble_eq_true rfl | (simp only [List.map, List.sum_cons, List.sum_nil, g_cat_rf]; exact Nat.le_of_ble_eq_true rfl) | (simp only [List.map, List.sum_cons, List.sum_nil, g_cat_rf, Value.category]; decide)) rfl ?_
  replace hy := g_nn_inv hy
  obtain ⟨a68, rfl, hy⟩ := hy
  replace hy := g_is_inv hy
  obtain ⟨fs69, hc70, hy⟩ := hy
  replace hy := g_b2_inv hy
  obtain ⟨x71, h72, hf73, hy⟩ := hy
  refine g_callV (rv := some (.int x71)) (h1 := h72) (pc' := 189) (As := [va_rf (some a56)]) (rest := []) 1 (T_ArrayList_add0 (hy := hf73)) d_Parser_statement_186 hc70 rfl rfl q1036 q1037 q1038 q112 q1039 hd_ArrayList_add0 rfl ⟨by decide, by decide⟩ (by first | exact Nat.le_of_ble_eq_true rfl | (simp only [List.map, List.sum_cons, List.sum_nil, g_cat_rf]; exact Nat.le_of_ble_eq_true rfl) | (simp only [List.map, List.sum_cons, List.sum_nil, g_cat_rf, Value.category]; decide)) rfl ?_
  refine g_pop (pc' := 190) d_Parser_statement_189 rfl rfl ?_
  refine g_goto (pc' := 252) d_Parser_statement_190 (by decide) ?_
  cases hy
  exact g_vret rfl rfl rfl d_Parser_statement_252
def Parser_statement_105 (h : g_AH) (v0 : Nat) (v2 : Int32) : Option ((Unit ⊕ g_EX) × g_AH) :=
  if v2 = (0 : Int32) then (g_gR h v0 8 1 fun x20 => g_nn x20 fun a23 => g_gR h a23 1 1 fun x25 => g_nn x25 fun a28 => g_is h a28 15 <| g_b (ArrayList_size h a28) fun x31 => if (10 : Int32) ≤ x31 then (Parser_statement_157  h v0 (0 : Int32) v0) else (Parser_statement_157  h v0 (1 : Int32) v0)) else (if v2 = (1 : Int32) then (g_is h v0 8 <| g_bx (Parser_link h v0) fun x77 h78 => some (.inl (), h78)) else (if v2 = (2 : Int32) then (g_is h v0 8 <| g_bx (Parser_circuit h v0) fun x85 h86 => some (.inl (), h86)) else (if v2 = (3 : Int32) then (g_is h v0 8 <| g_b (Parser_advance h v0) fun h94 => g_is h94 v0 8 <| g_bx (Parser_number h94 v0 (0 : Int32) (1 : Int32)) fun x98 h99 => g_gR h99 v0 8 1 fun x104 => g_nn x104 fun a107 => g_gR h99 a107 1 0 fun x109 => g_b (Desk_mostOf x98) fun x112 => g_is h99 v0 8 <| g_bx (Parser_number h99 v0 (0 : Int32) x112) fun x117 h118 => g_nn x109 fun a122 => g_sI h118 0 a122 x98 x117 fun h127 => some (.inl (), h127)) else (g_mk h (.inr (9, [.null, .null, .null, .null, .null, .int 0, .int 0, .int 0])) 8 fun a128 h129 => g_gI h129 v0 8 3 fun x131 => g_b (TextError_init h129 a128 (1 : Int32) x131) fun h135 => g_is h135 a128 9 <| some (.inr ("CircuitDesk$TextError", some a128), h135)))))
set_option maxHeartbeats 4000000 in
set_option maxRecDepth 100000 in
theorem W_Parser_statement_105 {X : g_X} (z : (Unit ⊕ g_EX) × g_AH) (h : g_AH) (v0 : Nat) (v2 : Int32) (hy : Parser_statement_105  h v0 v2 = some z) : G X k_Parser_statement (g_rV z.1) z.2 h 105 [(0, .ref v0), (2, .int v2)] [] := by
  unfold Parser_statement_105 at hy
  refine g_iload_n 1 (i := 2) (pc' := 106) d_Parser_statement_105 rfl rfl rfl ?_
  by_cases c18 : v2 = (0 : Int32)
  · rw [if_pos c18] at hy
    refine g_tableIn (pc' := 136) (0 : Int32) d_Parser_statement_106 c18 (by decide) rfl (by decide) ?_
    refine g_aload_n 0 (i := 0) (pc' := 137) d_Parser_statement_136 rfl rfl rfl ?_
    refine g_aload_n 0 (i := 0) (pc' := 138) d_Parser_statement_137 rfl rfl rfl ?_
    replace hy := g_gR_inv hy
    obtain ⟨fs19, x20, hc21, hv22, hy⟩ := hy
    refine g_getf (pc' := 141) d_Parser_statement_138 hc21 rfl (by decide) hv22 q858 (Or.inl rfl) rfl ?_
    replace hy := g_nn_inv hy
    obtain ⟨a23, rfl, hy⟩ := hy
    replace hy := g_gR_inv hy
    obtain ⟨fs24, x25, hc26, hv27, hy⟩ := hy
    refine g_getfN (pc' := 144) d_Parser_statement_141 hc26 rfl (by decide) hv27 q550 rfl rfl ?_
    replace hy := g_nn_inv hy
    obtain ⟨a28, rfl, hy⟩ := hy
    replace hy := g_is_inv hy
    obtain ⟨fs29, hc30, hy⟩ := hy
    replace hy := g_b_inv hy
    obtain ⟨x31, hf33, hy⟩ := hy
    refine g_callV (rv := some (.int x31)) (h1 := h) (pc' := 147) (As := []) (rest := [.ref v0]) 0 (T_ArrayList_size (hy := hf33)) d_Parser_statement_144 hc30 rfl rfl q963 q674 q675 q112 q676 hd_ArrayList_size rfl ⟨by decide, by decide⟩ (by first | exact Nat.le_of_ble_eq_true rfl | (simp only [List.map, List.sum_cons, List.sum_nil, g_cat_rf]; exact Nat.le_of_ble_eq_true rfl) | (simp only [List.map, List.sum_cons, List.sum_nil, g_cat_rf, Value.category]; decide)) rfl ?_
    refine g_bipush (v := (10 : Int32)) (pc' := 149) d_Parser_statement_147 (by decide) rfl ?_
    by_cases c34 : (10 : Int32) ≤ x31
    · rw [if_pos c34] at hy
      refine g_icmp_geT (pc' := 156) d_Parser_statement_149 c34 (by decide) ?_
      refine g_iconst (v := (0 : Int32)) (pc' := 157) d_Parser_statement_156 (by decide) rfl ?_
      refine g_sub [0] rfl ?_
      exact W_Parser_statement_157 _ _ _ _ _ hy
    · rw [if_neg c34] at hy
      refine g_icmp_geF (pc' := 152) d_Parser_statement_149 156 c34 (by decide) rfl ?_
      refine g_iconst (v := (1 : Int32)) (pc' := 153) d_Parser_statement_152 (by decide) rfl ?_
      refine g_goto (pc' := 157) d_Parser_statement_153 (by decide) ?_
      refine g_sub [0] rfl ?_
      exact W_Parser_statement_157 _ _ _ _ _ hy
  · rw [if_neg c18] at hy
    by_cases c74 : v2 = (1 : Int32)
    · rw [if_pos c74] at hy
      refine g_tableIn (pc' := 193) (1 : Int32) d_Parser_statement_106 c74 (by decide) rfl (by decide) ?_
      refine g_aload_n 0 (i := 0) (pc' := 194) d_Parser_statement_193 rfl rfl rfl ?_
      replace hy := g_is_inv hy
      obtain ⟨fs75, hc76, hy⟩ := hy
      replace hy := g_bx_inv hy
      rcases hy with ⟨x77, h78, hf79, hy⟩ | ⟨⟨E9, q9⟩, h78, hf79, ez81⟩
      rotate_left
      · subst ez81
        exact g_callVX (As := []) (rest := []) 0 (T_Parser_link (hy := hf79)) d_Parser_statement_194 hc76 rfl rfl q1092 q1094 qs12 q137 q1095 hd_Parser_link rfl ⟨by decide, by decide⟩ (by first | exact Nat.le_of_ble_eq_true rfl | (simp only [List.map, List.sum_cons, List.sum_nil, g_cat_rf]; exact Nat.le_of_ble_eq_true rfl) | (simp only [List.map, List.sum_cons, List.sum_nil, g_cat_rf, Value.category]; decide)) rfl rfl
      refine g_callV (rv := none) (h1 := h78) (pc' := 197) (As := []) (rest := []) 0 (T_Parser_link (hy := hf79)) d_Parser_statement_194 hc76 rfl rfl q1092 q1094 qs12 q137 q1095 hd_Parser_link rfl ⟨by decide, by decide⟩ (by first | exact Nat.le_of_ble_eq_true rfl | (simp only [List.map, List.sum_cons, List.sum_nil, g_cat_rf]; exact Nat.le_of_ble_eq_true rfl) | (simp only [List.map, List.sum_cons, List.sum_nil, g_cat_rf, Value.category]; decide)) rfl ?_
      refine g_goto (pc' := 252) d_Parser_statement_197 (by decide) ?_
      cases hy
      exact g_vret rfl rfl rfl d_Parser_statement_252
    · rw [if_neg c74] at hy
      by_cases c82 : v2 = (2 : Int32)
      · rw [if_pos c82] at hy
        refine g_tableIn (pc' := 200) (2 : Int32) d_Parser_statement_106 c82 (by decide) rfl (by decide) ?_
        refine g_aload_n 0 (i := 0) (pc' := 201) d_Parser_statement_200 rfl rfl rfl ?_
        replace hy := g_is_inv hy
        obtain ⟨fs83, hc84, hy⟩ := hy
        replace hy := g_bx_inv hy
        rcases hy with ⟨x85, h86, hf87, hy⟩ | ⟨⟨E9, q9⟩, h86, hf87, ez89⟩
        rotate_left
        · subst ez89
          exact g_callVX (As := []) (rest := []) 0 (T_Parser_circuit (hy := hf87)) d_Parser_statement_201 hc84 rfl rfl q1134 q1136 qs13 q137 q1137 hd_Parser_circuit rfl ⟨by decide, by decide⟩ (by first | exact Nat.le_of_ble_eq_true rfl | (simp only [List.map, List.sum_cons, List.sum_nil, g_cat_rf]; exact Nat.le_of_ble_eq_true rfl) | (simp only [List.map, List.sum_cons, List.sum_nil, g_cat_rf, Value.category]; decide)) rfl rfl
        refine g_callV (rv := none) (h1 := h86) (pc' := 204) (As := []) (rest := []) 0 (T_Parser_circuit (hy := hf87)) d_Parser_statement_201 hc84 rfl rfl q1134 q1136 qs13 q137 q1137 hd_Parser_circuit rfl ⟨by decide, by decide⟩ (by first | exact Nat.le_of_ble_eq_true rfl | (simp only [List.map, List.sum_cons, List.sum_nil, g_cat_rf]; exact Nat.le_of_ble_eq_true rfl) | (simp only [List.map, List.sum_cons, List.sum_nil, g_cat_rf, Value.category]; decide)) rfl ?_
        refine g_goto (pc' := 252) d_Parser_statement_204 (by decide) ?_
        cases hy
        exact g_vret rfl rfl rfl d_Parser_statement_252
      · rw [if_neg c82] at hy
        by_cases c90 : v2 = (3 : Int32)
        · rw [if_pos c90] at hy
          refine g_tableIn (pc' := 207) (3 : Int32) d_Parser_statement_106 c90 (by decide) rfl (by decide) ?_
          refine g_aload_n 0 (i := 0) (pc' := 208) d_Parser_statement_207 rfl rfl rfl ?_
          replace hy := g_is_inv hy
          obtain ⟨fs91, hc92, hy⟩ := hy
          replace hy := g_b_inv hy
          obtain ⟨h94, hf95, hy⟩ := hy
          refine g_callV (rv := none) (h1 := h94) (pc' := 211) (As := []) (rest := []) 0 (T_Parser_advance (hy := hf95)) d_Parser_statement_208 hc92 rfl rfl q817 q819 qs3 q137 q820 hd_Parser_advance rfl ⟨by decide, by decide⟩ (by first | exact Nat.le_of_ble_eq_true rfl | (simp only [List.map, List.sum_cons, List.sum_nil, g_cat_rf]; exact Nat.le_of_ble_eq_true rfl) | (simp only [List.map, List.sum_cons, List.sum_nil, g_cat_rf, Value.category]; decide)) rfl ?_
          refine g_aload_n 0 (i := 0) (pc' := 212) d_Parser_statement_211 rfl rfl rfl ?_
          refine g_iconst (v := (0 : Int32)) (pc' := 213) d_Parser_statement_212 (by decide) rfl ?_
          refine g_iconst (v := (1 : Int32)) (pc' := 214) d_Parser_statement_213 (by decide) rfl ?_
          replace hy := g_is_inv hy
          obtain ⟨fs96, hc97, hy⟩ := hy
          replace hy := g_bx_inv hy
          rcases hy with ⟨x98, h99, hf100, hy⟩ | ⟨⟨E9, q9⟩, h99, hf100, ez102⟩
          rotate_left
          · subst ez102
            exact g_callVX (As := [.int (0 : Int32), .int (1 : Int32)]) (rest := []) 2 (T_Parser_number (hy := hf100)) d_Parser_statement_214 hc97 rfl rfl q998 q1000 qs7 q137 q1001 hd_Parser_number rfl ⟨by decide, by decide⟩ (by first | exact Nat.le_of_ble_eq_true rfl | (simp only [List.map, List.sum_cons, List.sum_nil, g_cat_rf]; exact Nat.le_of_ble_eq_true rfl) | (simp only [List.map, List.sum_cons, List.sum_nil, g_cat_rf, Value.category]; decide)) rfl rfl
          refine g_callV (rv := some (.int x98)) (h1 := h99) (pc' := 217) (As := [.int (0 : Int32), .int (1 : Int32)]) (rest := []) 2 (T_Parser_number (hy := hf100)) d_Parser_statement_214 hc97 rfl rfl q998 q1000 qs7 q137 q1001 hd_Parser_number rfl ⟨by decide, by decide⟩ (by first | exact Nat.le_of_ble_eq_true rfl | (simp only [List.map, List.sum_cons, List.sum_nil, g_cat_rf]; exact Nat.le_of_ble_eq_true rfl) | (simp only [List.map, List.sum_cons, List.sum_nil, g_cat_rf, Value.category]; decide)) rfl ?_
          refine g_istore_n (i := 3) (pc' := 218) (Lc' := [(3, .int x98), (0, .ref v0), (2, .int v2)]) d_Parser_statement_217 rfl (by decide) rfl rfl ?_
          refine g_aload_n 1 (i := 0) (pc' := 219) d_Parser_statement_218 rfl rfl rfl ?_
          replace hy := g_gR_inv hy
          obtain ⟨fs103, x104, hc105, hv106, hy⟩ := hy
          refine g_getf (pc' := 222) d_Parser_statement_219 hc105 rfl (by decide) hv106 q858 (Or.inl rfl) rfl ?_
          replace hy := g_nn_inv hy
          obtain ⟨a107, rfl, hy⟩ := hy
          replace hy := g_gR_inv hy
          obtain ⟨fs108, x109, hc110, hv111, hy⟩ := hy
          refine g_getfN (pc' := 225) d_Parser_statement_222 hc110 rfl (by decide) hv111 q545 rfl rfl ?_
          refine g_iload_n 0 (i := 3) (pc' := 226) d_Parser_statement_225 rfl rfl rfl ?_
          refine g_aload_n 1 (i := 0) (pc' := 227) d_Parser_statement_226 rfl rfl rfl ?_
          refine g_iconst (v := (0 : Int32)) (pc' := 228) d_Parser_statement_227 (by decide) rfl ?_
          refine g_iload_n 0 (i := 3) (pc' := 229) d_Parser_statement_228 rfl rfl rfl ?_
          replace hy := g_b_inv hy
          obtain ⟨x112, hf114, hy⟩ := hy
          refine g_callSN (rv := some (.int x112)) (h1 := h99) (pc' := 232) (As := [.int x98]) (rest := [.int (0 : Int32), .ref v0, .int x98, va_rf x109]) 1 (T_Desk_mostOf (hy := hf114)) d_Parser_statement_229 q1278 q1279 q108 q1280 hd_Desk_mostOf rfl ⟨by decide, by decide⟩ (by first | exact Nat.le_of_ble_eq_true rfl | (simp only [List.map, List.sum_cons, List.sum_nil, g_cat_rf]; exact Nat.le_of_ble_eq_true rfl) | (simp only [List.map, List.sum_cons, List.sum_nil, g_cat_rf, Value.category]; decide)) rfl ?_
          replace hy := g_is_inv hy
          obtain ⟨fs115, hc116, hy⟩ := hy
          replace hy := g_bx_inv hy
          rcases hy with ⟨x117, h118, hf119, hy⟩ | ⟨⟨E9, q9⟩, h118, hf119, ez121⟩
          rotate_left
          · subst ez121
            exact g_callVX (As := [.int (0 : Int32), .int x112]) (rest := [.int x98, va_rf x109]) 2 (T_Parser_number (hy := hf119)) d_Parser_statement_232 hc116 rfl rfl q998 q1000 qs7 q137 q1001 hd_Parser_number rfl ⟨by decide, by decide⟩ (by first | exact Nat.le_of_ble_eq_true rfl | (simp only [List.map, List.sum_cons, List.sum_nil, g_cat_rf]; exact Nat.le_of_ble_eq_true rfl) | (simp only [List.map, List.sum_cons, List.sum_nil, g_cat_rf, Value.category]; decide)) rfl rfl
          refine g_callV (rv := some (.int x117)) (h1 := h118) (pc' := 235) (As := [.int (0 : Int32), .int x112]) (rest := [.int x98, va_rf x109]) 2 (T_Parser_number (hy := hf119)) d_Parser_statement_232 hc116 rfl rfl q998 q1000 qs7 q137 q1001 hd_Parser_number rfl ⟨by decide, by decide⟩ (by first | exact Nat.le_of_ble_eq_true rfl | (simp only [List.map, List.sum_cons, List.sum_nil, g_cat_rf]; exact Nat.le_of_ble_eq_true rfl) | (simp only [List.map, List.sum_cons, List.sum_nil, g_cat_rf, Value.category]; decide)) rfl ?_
          replace hy := g_nn_inv hy
          obtain ⟨a122, rfl, hy⟩ := hy
          replace hy := g_sI_inv hy
          obtain ⟨n123, f124, hc125, hi126, hy⟩ := hy
          refine g_iast (pc' := 236) d_Parser_statement_235 hc125 hi126 rfl ?_
          generalize g_up h118 a122 (.inl (0, n123, .inl (upd f124 (x98).toNatClampNeg x117))) = h127 at hy ⊢
          refine g_goto (pc' := 252) d_Parser_statement_236 (by decide) ?_
          cases hy
          exact g_vret rfl rfl rfl d_Parser_statement_252
        · rw [if_neg c90] at hy
          have c18 := g_neI (n := 0) (by decide) c18
          have c74 := g_neI (n := 1) (by decide) c74
          have c82 := g_neI (n := 2) (by decide) c82
          have c90 := g_neI (n := 3) (by decide) c90
          refine g_tableOut (pc' := 239) d_Parser_statement_106 (by omega) (by decide) ?_
          replace hy := g_mk_inv hy
          refine g_new (ci := 9) (fs := [.null, .null, .null, .null, .null, .int 0, .int 0, .int 0]) (pc' := 242) d_Parser_statement_239 rfl q968 q969 q138 gdf_9 rfl ?_
          generalize g_al h (.inr (9, [.null, .null, .null, .null, .null, .int 0, .int 0, .int 0])) 8 = h129 at hy ⊢
          generalize g_n h = a128 at hy ⊢
          refine g_dup (pc' := 243) d_Parser_statement_242 rfl rfl ?_
          refine g_iconst (v := (1 : Int32)) (pc' := 244) d_Parser_statement_243 (by decide) rfl ?_
          refine g_aload_n 0 (i := 0) (pc' := 245) d_Parser_statement_244 rfl rfl rfl ?_
          replace hy := g_gI_inv hy
          obtain ⟨fs130, x131, hc132, hv133, hy⟩ := hy
          refine g_getf (pc' := 248) d_Parser_statement_245 hc132 rfl (by decide) hv133 q860 (Or.inl rfl) rfl ?_
          replace hy := g_b_inv hy
          obtain ⟨h135, hf136, hy⟩ := hy
          refine g_callI (h1 := h135) (pc' := 251) (As := [.int (1 : Int32), .int x131]) (rest := [.ref a128]) 2 (T_TextError_init (hy := hf136)) d_Parser_statement_248 rfl rfl q977 q978 q138 q979 hd_TextError_init rfl ⟨by decide, by decide⟩ (by first | exact Nat.le_of_ble_eq_true rfl | (simp only [List.map, List.sum_cons, List.sum_nil, g_cat_rf]; exact Nat.le_of_ble_eq_true rfl) | (simp only [List.map, List.sum_cons, List.sum_nil, g_cat_rf, Value.category]; decide)) rfl ?_
          replace hy := g_is_inv hy
          obtain ⟨fs137, hc138, hy⟩ := hy
          cases hy
          exact g_athrow d_Parser_statement_251 hc138 rfl rfl rfl
def Parser_statement (h : g_AH) (this : Nat) : Option ((Unit ⊕ g_EX) × g_AH) :=
  g_gR h this 8 6 fun x2 => g_nn x2 fun a5 => g_is h a5 18 <| g_b2 (String_hashCode h a5) fun x8 h9 => if x8 = (113762 : Int32) then (g_is h9 a5 18 <| g_b (String_equals h9 a5 (some (g_str h9 4))) fun x14 => if x14 = 0 then (Parser_statement_105  h9 this (-1 : Int32)) else (Parser_statement_105  h9 this (3 : Int32))) else (if x8 = (3321850 : Int32) then (g_is h9 a5 18 <| g_b (String_equals h9 a5 (some (g_str h9 2))) fun x142 => if x142 = 0 then (Parser_statement_105  h9 this (-1 : Int32)) else (Parser_statement_105  h9 this (1 : Int32))) else (if x8 = (3386882 : Int32) then (g_is h9 a5 18 <| g_b (String_equals h9 a5 (some (g_str h9 1))) fun x149 => if x149 = 0 then (Parser_statement_105  h9 this (-1 : Int32)) else (Parser_statement_105  h9 this (0 : Int32))) else (if x8 = (782958569 : Int32) then (g_is h9 a5 18 <| g_b (String_equals h9 a5 (some (g_str h9 3))) fun x156 => if x156 = 0 then (Parser_statement_105  h9 this (-1 : Int32)) else (Parser_statement_105  h9 this (2 : Int32))) else (Parser_statement_105  h9 this (-1 : Int32)))))
set_option maxHeartbeats 4000000 in
set_option maxRecDepth 100000 in
theorem T_Parser_statement {l : Launch} {B : g_B} (h : g_AH) (this : Nat) (z : (Unit ⊕ g_EX) × g_AH) (hy : Parser_statement h this = some z) : g_CT l B y_Parser_statement k_Parser_statement [.ref this] h (g_rV z.1) z.2 := by
  refine g_start2 (Lc := [(0, .ref this)]) (by decide) rfl rfl (by exact Nat.le_of_ble_eq_true rfl) (by rfl) fun X => ?_
  unfold Parser_statement at hy
  refine g_aload_n 0 (i := 0) (pc' := 1) d_Parser_statement_0 rfl rfl rfl ?_
  replace hy := g_gR_inv hy
  obtain ⟨fs1, x2, hc3, hv4, hy⟩ := hy
  refine g_getf (pc' := 4) d_Parser_statement_1 hc3 rfl (by decide) hv4 q863 (Or.inl rfl) rfl ?_
  refine g_astoreO_n (i := 1) (pc' := 5) (Lc' := [(1, va_rf x2), (0, .ref this)]) d_Parser_statement_4 rfl (by decide) rfl rfl ?_
  refine g_iconst (v := (-1 : Int32)) (pc' := 6) d_Parser_statement_5 (by decide) rfl ?_
  refine g_istore_n (i := 2) (pc' := 7) (Lc' := [(2, .int (-1 : Int32)), (1, va_rf x2), (0, .ref this)]) d_Parser_statement_6 rfl (by decide) (by cases x2 <;> rfl) rfl ?_
  refine g_aloadO_n 1 (i := 1) (pc' := 8) d_Parser_statement_7 rfl rfl rfl ?_
  replace hy := g_nn_inv hy
  obtain ⟨a5, rfl, hy⟩ := hy
  replace hy := g_is_inv hy
  obtain ⟨fs6, hc7, hy⟩ := hy
  replace hy := g_b2_inv hy
  obtain ⟨x8, h9, hf10, hy⟩ := hy
  refine g_callV (rv := some (.int x8)) (h1 := h9) (pc' := 11) (As := []) (rest := []) 0 (T_String_hashCode (hy := hf10)) d_Parser_statement_8 hc7 rfl rfl q890 q891 q892 q119 q893 hd_String_hashCode rfl ⟨by decide, by decide⟩ (by first | exact Nat.le_of_ble_eq_true rfl | (simp only [List.map, List.sum_cons, List.sum_nil, g_cat_rf]; exact Nat.le_of_ble_eq_true rfl) | (simp only [List.map, List.sum_cons, List.sum_nil, g_cat_rf, Value.category]; decide)) rfl ?_
  by_cases c11 : x8 = (113762 : Int32)
  · rw [if_pos c11] at hy
    refine g_lookup (off := 83) (pc' := 94) d_Parser_statement_11 (by decide) (by rw [c11]; decide) (by decide) ?_
    refine g_aload_n 1 (i := 1) (pc' := 95) d_Parser_statement_94 rfl rfl rfl ?_
    refine g_ldcS (j := 4) (pc' := 97) d_Parser_statement_95 rfl rfl rfl rfl ?_
    replace hy := g_is_inv hy
    obtain ⟨fs12, hc13, hy⟩ := hy
    replace hy := g_b_inv hy
    obtain ⟨x14, hf16, hy⟩ := hy
    refine g_callV (rv := some (.int x14)) (h1 := h9) (pc' := 100) (As := [va_rf (some (g_str h9 4))]) (rest := []) 1 (T_String_equals (hy := hf16)) d_Parser_statement_97 hc13 rfl rfl q952 q953 q954 q119 q955 hd_String_equals rfl ⟨by decide, by decide⟩ (by first | exact Nat.le_of_ble_eq_true rfl | (simp only [List.map, List.sum_cons, List.sum_nil, g_cat_rf]; exact Nat.le_of_ble_eq_true rfl) | (simp only [List.map, List.sum_cons, List.sum_nil, g_cat_rf, Value.category]; decide)) rfl ?_
    by_cases c17 : x14 = 0
    · rw [if_pos c17] at hy
      refine g_if_eqT (pc' := 105) d_Parser_statement_100 c17 (by decide) ?_
      refine g_sub [2, 0] rfl ?_
      exact W_Parser_statement_105 _ _ _ _ hy
    · rw [if_neg c17] at hy
      refine g_if_eqF (pc' := 103) d_Parser_statement_100 105 c17 (by decide) rfl ?_
      refine g_iconst (v := (3 : Int32)) (pc' := 104) d_Parser_statement_103 (by decide) rfl ?_
      refine g_istore_n (i := 2) (pc' := 105) (Lc' := [(2, .int (3 : Int32)), (1, .ref a5), (0, .ref this)]) d_Parser_statement_104 rfl (by decide) rfl rfl ?_
      refine g_sub [2, 0] rfl ?_
      exact W_Parser_statement_105 _ _ _ _ hy
  · rw [if_neg c11] at hy
    by_cases c139 : x8 = (3321850 : Int32)
    · rw [if_pos c139] at hy
      refine g_lookup (off := 55) (pc' := 66) d_Parser_statement_11 (by decide) (by rw [c139]; decide) (by decide) ?_
      refine g_aload_n 1 (i := 1) (pc' := 67) d_Parser_statement_66 rfl rfl rfl ?_
      refine g_ldcS (j := 2) (pc' := 69) d_Parser_statement_67 rfl rfl rfl rfl ?_
      replace hy := g_is_inv hy
      obtain ⟨fs140, hc141, hy⟩ := hy
      replace hy := g_b_inv hy
      obtain ⟨x142, hf144, hy⟩ := hy
      refine g_callV (rv := some (.int x142)) (h1 := h9) (pc' := 72) (As := [va_rf (some (g_str h9 2))]) (rest := []) 1 (T_String_equals (hy := hf144)) d_Parser_statement_69 hc141 rfl rfl q952 q953 q954 q119 q955 hd_String_equals rfl ⟨by decide, by decide⟩ (by first | exact Nat.le_of_ble_eq_true rfl | (simp only [List.map, List.sum_cons, List.sum_nil, g_cat_rf]; exact Nat.le_of_ble_eq_true rfl) | (simp only [List.map, List.sum_cons, List.sum_nil, g_cat_rf, Value.category]; decide)) rfl ?_
      by_cases c145 : x142 = 0
      · rw [if_pos c145] at hy
        refine g_if_eqT (pc' := 105) d_Parser_statement_72 c145 (by decide) ?_
        refine g_sub [2, 0] rfl ?_
        exact W_Parser_statement_105 _ _ _ _ hy
      · rw [if_neg c145] at hy
        refine g_if_eqF (pc' := 75) d_Parser_statement_72 105 c145 (by decide) rfl ?_
        refine g_iconst (v := (1 : Int32)) (pc' := 76) d_Parser_statement_75 (by decide) rfl ?_
        refine g_istore_n (i := 2) (pc' := 77) (Lc' := [(2, .int (1 : Int32)), (1, .ref a5), (0, .ref this)]) d_Parser_statement_76 rfl (by decide) rfl rfl ?_
        refine g_goto (pc' := 105) d_Parser_statement_77 (by decide) ?_
        refine g_sub [2, 0] rfl ?_
        exact W_Parser_statement_105 _ _ _ _ hy
    · rw [if_neg c139] at hy
      by_cases c146 : x8 = (3386882 : Int32)
      · rw [if_pos c146] at hy
        refine g_lookup (off := 41) (pc' := 52) d_Parser_statement_11 (by decide) (by rw [c146]; decide) (by decide) ?_
        refine g_aload_n 1 (i := 1) (pc' := 53) d_Parser_statement_52 rfl rfl rfl ?_
        refine g_ldcS (j := 1) (pc' := 55) d_Parser_statement_53 rfl rfl rfl rfl ?_
        replace hy := g_is_inv hy
        obtain ⟨fs147, hc148, hy⟩ := hy
        replace hy := g_b_inv hy
        obtain ⟨x149, hf151, hy⟩ := hy
        refine g_callV (rv := some (.int x149)) (h1 := h9) (pc' := 58) (As := [va_rf (some (g_str h9 1))]) (rest := []) 1 (T_String_equals (hy := hf151)) d_Parser_statement_55 hc148 rfl rfl q952 q953 q954 q119 q955 hd_String_equals rfl ⟨by decide, by decide⟩ (by first | exact Nat.le_of_ble_eq_true rfl | (simp only [List.map, List.sum_cons, List.sum_nil, g_cat_rf]; exact Nat.le_of_ble_eq_true rfl) | (simp only [List.map, List.sum_cons, List.sum_nil, g_cat_rf, Value.category]; decide)) rfl ?_
        by_cases c152 : x149 = 0
        · rw [if_pos c152] at hy
          refine g_if_eqT (pc' := 105) d_Parser_statement_58 c152 (by decide) ?_
          refine g_sub [2, 0] rfl ?_
          exact W_Parser_statement_105 _ _ _ _ hy
        · rw [if_neg c152] at hy
          refine g_if_eqF (pc' := 61) d_Parser_statement_58 105 c152 (by decide) rfl ?_
          refine g_iconst (v := (0 : Int32)) (pc' := 62) d_Parser_statement_61 (by decide) rfl ?_
          refine g_istore_n (i := 2) (pc' := 63) (Lc' := [(2, .int (0 : Int32)), (1, .ref a5), (0, .ref this)]) d_Parser_statement_62 rfl (by decide) rfl rfl ?_
          refine g_goto (pc' := 105) d_Parser_statement_63 (by decide) ?_
          refine g_sub [2, 0] rfl ?_
          exact W_Parser_statement_105 _ _ _ _ hy
      · rw [if_neg c146] at hy
        by_cases c153 : x8 = (782958569 : Int32)
        · rw [if_pos c153] at hy
          refine g_lookup (off := 69) (pc' := 80) d_Parser_statement_11 (by decide) (by rw [c153]; decide) (by decide) ?_
          refine g_aload_n 1 (i := 1) (pc' := 81) d_Parser_statement_80 rfl rfl rfl ?_
          refine g_ldcS (j := 3) (pc' := 83) d_Parser_statement_81 rfl rfl rfl rfl ?_
          replace hy := g_is_inv hy
          obtain ⟨fs154, hc155, hy⟩ := hy
          replace hy := g_b_inv hy
          obtain ⟨x156, hf158, hy⟩ := hy
          refine g_callV (rv := some (.int x156)) (h1 := h9) (pc' := 86) (As := [va_rf (some (g_str h9 3))]) (rest := []) 1 (T_String_equals (hy := hf158)) d_Parser_statement_83 hc155 rfl rfl q952 q953 q954 q119 q955 hd_String_equals rfl ⟨by decide, by decide⟩ (by first | exact Nat.le_of_ble_eq_true rfl | (simp only [List.map, List.sum_cons, List.sum_nil, g_cat_rf]; exact Nat.le_of_ble_eq_true rfl) | (simp only [List.map, List.sum_cons, List.sum_nil, g_cat_rf, Value.category]; decide)) rfl ?_
          by_cases c159 : x156 = 0
          · rw [if_pos c159] at hy
            refine g_if_eqT (pc' := 105) d_Parser_statement_86 c159 (by decide) ?_
            refine g_sub [2, 0] rfl ?_
            exact W_Parser_statement_105 _ _ _ _ hy
          · rw [if_neg c159] at hy
            refine g_if_eqF (pc' := 89) d_Parser_statement_86 105 c159 (by decide) rfl ?_
            refine g_iconst (v := (2 : Int32)) (pc' := 90) d_Parser_statement_89 (by decide) rfl ?_
            refine g_istore_n (i := 2) (pc' := 91) (Lc' := [(2, .int (2 : Int32)), (1, .ref a5), (0, .ref this)]) d_Parser_statement_90 rfl (by decide) rfl rfl ?_
            refine g_goto (pc' := 105) d_Parser_statement_91 (by decide) ?_
            refine g_sub [2, 0] rfl ?_
            exact W_Parser_statement_105 _ _ _ _ hy
        · rw [if_neg c153] at hy
          have c11 := g_neI (n := 113762) (by decide) c11
          have c139 := g_neI (n := 3321850) (by decide) c139
          have c146 := g_neI (n := 3386882) (by decide) c146
          have c153 := g_neI (n := 782958569) (by decide) c153
          refine g_lookup (off := 94) (pc' := 105) d_Parser_statement_11 (by decide) (by simp [Op.lookupswitch.offset, Ne.symm c11, Ne.symm c139, Ne.symm c146, Ne.symm c153]) (by decide) ?_
          refine g_sub [2, 0] rfl ?_
          exact W_Parser_statement_105 _ _ _ _ hy
theorem hd_Parser_statement : g_dsc y_Parser_statement 0 := ⟨by decide +kernel, by decide +kernel, by decide +kernel⟩
/-! CircuitDesk$Parser.setup()LCircuitDesk$Net; -/
abbrev y_Parser_setup : MethodName := ⟨"CircuitDesk$Parser", "setup", "()LCircuitDesk$Net;"⟩
abbrev k_Parser_setup : g_M := (prog_10_method_7_code, 1, "CircuitDesk$Parser", 33, (some (FieldType.object "CircuitDesk$Net")), "setup", [], 0)
theorem d_Parser_setup_0 : decode prog_10_method_7_code 0 = .ok (.aload_n 0, 1) := by decide +kernel
theorem d_Parser_setup_1 : decode prog_10_method_7_code 1 = .ok (.getfield 46, 3) := by decide +kernel
theorem d_Parser_setup_4 : decode prog_10_method_7_code 4 = .ok (.aload_n 0, 1) := by decide +kernel
theorem d_Parser_setup_5 : decode prog_10_method_7_code 5 = .ok (.getfield 28, 3) := by decide +kernel
theorem d_Parser_setup_8 : decode prog_10_method_7_code 8 = .ok (.if_icmp .ge 28, 3) := by decide +kernel
theorem d_Parser_setup_11 : decode prog_10_method_7_code 11 = .ok (.aload_n 0, 1) := by decide +kernel
theorem d_Parser_setup_12 : decode prog_10_method_7_code 12 = .ok (.invokevirtual 98, 3) := by decide +kernel
theorem d_Parser_setup_15 : decode prog_10_method_7_code 15 = .ok (.aload_n 0, 1) := by decide +kernel
theorem d_Parser_setup_16 : decode prog_10_method_7_code 16 = .ok (.aload_n 0, 1) := by decide +kernel
theorem d_Parser_setup_17 : decode prog_10_method_7_code 17 = .ok (.getfield 24, 3) := by decide +kernel
theorem d_Parser_setup_20 : decode prog_10_method_7_code 20 = .ok (.ldc 101, 2) := by decide +kernel
theorem d_Parser_setup_22 : decode prog_10_method_7_code 22 = .ok (.invokevirtual 103, 3) := by decide +kernel
theorem d_Parser_setup_25 : decode prog_10_method_7_code 25 = .ok (.iconst 1, 1) := by decide +kernel
theorem d_Parser_setup_26 : decode prog_10_method_7_code 26 = .ok (.invokevirtual 91, 3) := by decide +kernel
theorem d_Parser_setup_29 : decode prog_10_method_7_code 29 = .ok (.aload_n 0, 1) := by decide +kernel
theorem d_Parser_setup_30 : decode prog_10_method_7_code 30 = .ok (.invokevirtual 32, 3) := by decide +kernel
theorem d_Parser_setup_33 : decode prog_10_method_7_code 33 = .ok (.goto (-33), 3) := by decide +kernel
theorem d_Parser_setup_36 : decode prog_10_method_7_code 36 = .ok (.aload_n 0, 1) := by decide +kernel
theorem d_Parser_setup_37 : decode prog_10_method_7_code 37 = .ok (.getfield 18, 3) := by decide +kernel
theorem d_Parser_setup_40 : decode prog_10_method_7_code 40 = .ok (.areturn, 1) := by decide +kernel
def Parser_setup_0  : Nat → g_AH → Nat → Option ((Option Nat ⊕ g_EX) × g_AH)
  | 0, _, _ => none
  | n + 1, h, v0 => g_gI h v0 8 3 fun x2 => g_gI h v0 8 0 fun x6 => if x6 ≤ x2 then (g_gR h v0 8 1 fun x11 => some (.inl x11, h)) else (g_is h v0 8 <| g_bx (Parser_statement h v0) fun x16 h17 => g_gR h17 v0 8 6 fun x22 => g_nn x22 fun a25 => g_is h17 a25 18 <| g_b (String_equals h17 a25 (some (g_str h17 5))) fun x28 => g_is h17 v0 8 <| g_bx (Parser_require h17 v0 x28 (1 : Int32)) fun x33 h34 => g_is h34 v0 8 <| g_b (Parser_advance h34 v0) fun h41 => (Parser_setup_0  n) h41 v0)
set_option maxHeartbeats 4000000 in
set_option maxRecDepth 100000 in
theorem W_Parser_setup_0 {X : g_X} (z : (Option Nat ⊕ g_EX) × g_AH)  : ∀ (n : Nat) (h : g_AH) (v0 : Nat), Parser_setup_0  n h v0 = some z → G X k_Parser_setup (g_rR z.1) z.2 h 0 [(0, .ref v0)] [] := by
  intro n
  induction n with
  | zero => intro h v0 hy; exact absurd hy (by simp [Parser_setup_0])
  | succ n ih =>
    intro h v0 hy
    rw [Parser_setup_0] at hy
    refine g_aload_n 0 (i := 0) (pc' := 1) d_Parser_setup_0 rfl rfl rfl ?_
    replace hy := g_gI_inv hy
    obtain ⟨fs1, x2, hc3, hv4, hy⟩ := hy
    refine g_getf (pc' := 4) d_Parser_setup_1 hc3 rfl (by decide) hv4 q860 (Or.inl rfl) rfl ?_
    refine g_aload_n 0 (i := 0) (pc' := 5) d_Parser_setup_4 rfl rfl rfl ?_
    replace hy := g_gI_inv hy
    obtain ⟨fs5, x6, hc7, hv8, hy⟩ := hy
    refine g_getf (pc' := 8) d_Parser_setup_5 hc7 rfl (by decide) hv8 q857 (Or.inl rfl) rfl ?_
    by_cases c9 : x6 ≤ x2
    · rw [if_pos c9] at hy
      refine g_icmp_geT (pc' := 36) d_Parser_setup_8 c9 (by decide) ?_
      refine g_aload_n 0 (i := 0) (pc' := 37) d_Parser_setup_36 rfl rfl rfl ?_
      replace hy := g_gR_inv hy
      obtain ⟨fs10, x11, hc12, hv13, hy⟩ := hy
      refine g_getf (pc' := 40) d_Parser_setup_37 hc12 rfl (by decide) hv13 q858 (Or.inl rfl) rfl ?_
      cases hy
      exact g_aret rfl rfl rfl (Or.inl ⟨_, rfl⟩) d_Parser_setup_40
    · rw [if_neg c9] at hy
      refine g_icmp_geF (pc' := 11) d_Parser_setup_8 36 c9 (by decide) rfl ?_
      refine g_aload_n 0 (i := 0) (pc' := 12) d_Parser_setup_11 rfl rfl rfl ?_
      replace hy := g_is_inv hy
      obtain ⟨fs14, hc15, hy⟩ := hy
      replace hy := g_bx_inv hy
      rcases hy with ⟨x16, h17, hf18, hy⟩ | ⟨⟨E9, q9⟩, h17, hf18, ez20⟩
      rotate_left
      · subst ez20
        exact g_callVX (As := []) (rest := []) 0 (T_Parser_statement (hy := hf18)) d_Parser_setup_12 hc15 rfl rfl q886 q888 qs5 q137 q889 hd_Parser_statement rfl ⟨by decide, by decide⟩ (by first | exact Nat.le_of_ble_eq_true rfl | (simp only [List.map, List.sum_cons, List.sum_nil, g_cat_rf]; exact Nat.le_of_ble_eq_true rfl) | (simp only [List.map, List.sum_cons, List.sum_nil, g_cat_rf, Value.category]; decide)) rfl rfl
      refine g_callV (rv := none) (h1 := h17) (pc' := 15) (As := []) (rest := []) 0 (T_Parser_statement (hy := hf18)) d_Parser_setup_12 hc15 rfl rfl q886 q888 qs5 q137 q889 hd_Parser_statement rfl ⟨by decide, by decide⟩ (by first | exact Nat.le_of_ble_eq_true rfl | (simp only [List.map, List.sum_cons, List.sum_nil, g_cat_rf]; exact Nat.le_of_ble_eq_true rfl) | (simp only [List.map, List.sum_cons, List.sum_nil, g_cat_rf, Value.category]; decide)) rfl ?_
      refine g_aload_n 0 (i := 0) (pc' := 16) d_Parser_setup_15 rfl rfl rfl ?_
      refine g_aload_n 0 (i := 0) (pc' := 17) d_Parser_setup_16 rfl rfl rfl ?_
      replace hy := g_gR_inv hy
      obtain ⟨fs21, x22, hc23, hv24, hy⟩ := hy
      refine g_getf (pc' := 20) d_Parser_setup_17 hc23 rfl (by decide) hv24 q863 (Or.inl rfl) rfl ?_
      refine g_ldcS (j := 5) (pc' := 22) d_Parser_setup_20 rfl rfl rfl rfl ?_
      replace hy := g_nn_inv hy
      obtain ⟨a25, rfl, hy⟩ := hy
      replace hy := g_is_inv hy
      obtain ⟨fs26, hc27, hy⟩ := hy
      replace hy := g_b_inv hy
      obtain ⟨x28, hf30, hy⟩ := hy
      refine g_callV (rv := some (.int x28)) (h1 := h17) (pc' := 25) (As := [va_rf (some (g_str h17 5))]) (rest := [.ref v0]) 1 (T_String_equals (hy := hf30)) d_Parser_setup_22 hc27 rfl rfl q952 q953 q954 q119 q955 hd_String_equals rfl ⟨by decide, by decide⟩ (by first | exact Nat.le_of_ble_eq_true rfl | (simp only [List.map, List.sum_cons, List.sum_nil, g_cat_rf]; exact Nat.le_of_ble_eq_true rfl) | (simp only [List.map, List.sum_cons, List.sum_nil, g_cat_rf, Value.category]; decide)) rfl ?_
      refine g_iconst (v := (1 : Int32)) (pc' := 26) d_Parser_setup_25 (by decide) rfl ?_
      replace hy := g_is_inv hy
      obtain ⟨fs31, hc32, hy⟩ := hy
      replace hy := g_bx_inv hy
      rcases hy with ⟨x33, h34, hf35, hy⟩ | ⟨⟨E9, q9⟩, h34, hf35, ez37⟩
      rotate_left
      · subst ez37
        exact g_callVX (As := [.int x28, .int (1 : Int32)]) (rest := []) 2 (T_Parser_require (hy := hf35)) d_Parser_setup_26 hc32 rfl rfl q964 q966 qs6 q137 q967 hd_Parser_require rfl ⟨by decide, by decide⟩ (by first | exact Nat.le_of_ble_eq_true rfl | (simp only [List.map, List.sum_cons, List.sum_nil, g_cat_rf]; exact Nat.le_of_ble_eq_true rfl) | (simp only [List.map, List.sum_cons, List.sum_nil, g_cat_rf, Value.category]; decide)) rfl rfl
      refine g_callV (rv := none) (h1 := h34) (pc' := 29) (As := [.int x28, .int (1 : Int32)]) (rest := []) 2 (T_Parser_require (hy := hf35)) d_Parser_setup_26 hc32 rfl rfl q964 q966 qs6 q137 q967 hd_Parser_require rfl ⟨by decide, by decide⟩ (by first | exact Nat.le_of_ble_eq_true rfl | (simp only [List.map, List.sum_cons, List.sum_nil, g_cat_rf]; exact Nat.le_of_ble_eq_true rfl) | (simp only [List.map, List.sum_cons, List.sum_nil, g_cat_rf, Value.category]; decide)) rfl ?_
      refine g_aload_n 0 (i := 0) (pc' := 30) d_Parser_setup_29 rfl rfl rfl ?_
      replace hy := g_is_inv hy
      obtain ⟨fs38, hc39, hy⟩ := hy
      replace hy := g_b_inv hy
      obtain ⟨h41, hf42, hy⟩ := hy
      refine g_callV (rv := none) (h1 := h41) (pc' := 33) (As := []) (rest := []) 0 (T_Parser_advance (hy := hf42)) d_Parser_setup_30 hc39 rfl rfl q817 q819 qs3 q137 q820 hd_Parser_advance rfl ⟨by decide, by decide⟩ (by first | exact Nat.le_of_ble_eq_true rfl | (simp only [List.map, List.sum_cons, List.sum_nil, g_cat_rf]; exact Nat.le_of_ble_eq_true rfl) | (simp only [List.map, List.sum_cons, List.sum_nil, g_cat_rf, Value.category]; decide)) rfl ?_
      refine g_goto (pc' := 0) d_Parser_setup_33 (by decide) ?_
      exact ih _ _ hy
def Parser_setup (h : g_AH) (this : Nat) : Option ((Option Nat ⊕ g_EX) × g_AH) :=
  Parser_setup_0  gFU h this
set_option maxHeartbeats 4000000 in
set_option maxRecDepth 100000 in
theorem T_Parser_setup {l : Launch} {B : g_B} (h : g_AH) (this : Nat) (z : (Option Nat ⊕ g_EX) × g_AH) (hy : Parser_setup h this = some z) : g_CT l B y_Parser_setup k_Parser_setup [.ref this] h (g_rR z.1) z.2 := by
  refine g_start2 (Lc := [(0, .ref this)]) (by decide) rfl rfl (by exact Nat.le_of_ble_eq_true rfl) (by rfl) fun X => ?_
  unfold Parser_setup at hy
  exact W_Parser_setup_0 _ _ _ _ hy
theorem hd_Parser_setup : g_dsc y_Parser_setup 0 := ⟨by decide +kernel, by decide +kernel, by decide +kernel⟩
/-! CircuitDesk.errorCode()I -/
abbrev y_Desk_errorCode : MethodName := ⟨"CircuitDesk", "errorCode", "()I"⟩
abbrev k_Desk_errorCode : g_M := (prog_1_method_50_code, 1, "CircuitDesk", 12, (some FieldType.int), "errorCode", [], 0)
theorem d_Desk_errorCode_0 : decode prog_1_method_50_code 0 = .ok (.aload_n 0, 1) := by decide +kernel
theorem d_Desk_errorCode_1 : decode prog_1_method_50_code 1 = .ok (.getfield 403, 3) := by decide +kernel
theorem d_Desk_errorCode_4 : decode prog_1_method_50_code 4 = .ok (.ireturn, 1) := by decide +kernel
def Desk_errorCode (h : g_AH) (this : Nat) : Option (Int32) :=
  g_gI h this 0 5 fun x2 => some x2
set_option maxHeartbeats 4000000 in
set_option maxRecDepth 100000 in
theorem T_Desk_errorCode {l : Launch} {B : g_B} (h : g_AH) (this : Nat) (z : Int32) (hy : Desk_errorCode h this = some z) : g_CT l B y_Desk_errorCode k_Desk_errorCode [.ref this] h (.inl (some (.int z))) h := by
  refine g_start2 (Lc := [(0, .ref this)]) (by decide) rfl rfl (by exact Nat.le_of_ble_eq_true rfl) (by rfl) fun X => ?_
  unfold Desk_errorCode at hy
  refine g_aload_n 0 (i := 0) (pc' := 1) d_Desk_errorCode_0 rfl rfl rfl ?_
  replace hy := g_gI_inv hy
  obtain ⟨fs1, x2, hc3, hv4, hy⟩ := hy
  refine g_getf (pc' := 4) d_Desk_errorCode_1 hc3 rfl (by decide) hv4 q648 (Or.inl rfl) rfl ?_
  cases hy
  exact g_iret rfl rfl rfl d_Desk_errorCode_4
theorem hd_Desk_errorCode : g_dsc y_Desk_errorCode 0 := ⟨by decide +kernel, by decide +kernel, by decide +kernel⟩
/-! CircuitDesk.errorPosition()I -/
abbrev y_Desk_errorPosition : MethodName := ⟨"CircuitDesk", "errorPosition", "()I"⟩
abbrev k_Desk_errorPosition : g_M := (prog_1_method_51_code, 1, "CircuitDesk", 12, (some FieldType.int), "errorPosition", [], 0)
theorem d_Desk_errorPosition_0 : decode prog_1_method_51_code 0 = .ok (.aload_n 0, 1) := by decide +kernel
theorem d_Desk_errorPosition_1 : decode prog_1_method_51_code 1 = .ok (.getfield 40, 3) := by decide +kernel
theorem d_Desk_errorPosition_4 : decode prog_1_method_51_code 4 = .ok (.ireturn, 1) := by decide +kernel
def Desk_errorPosition (h : g_AH) (this : Nat) : Option (Int32) :=
  g_gI h this 0 6 fun x2 => some x2
set_option maxHeartbeats 4000000 in
set_option maxRecDepth 100000 in
theorem T_Desk_errorPosition {l : Launch} {B : g_B} (h : g_AH) (this : Nat) (z : Int32) (hy : Desk_errorPosition h this = some z) : g_CT l B y_Desk_errorPosition k_Desk_errorPosition [.ref this] h (.inl (some (.int z))) h := by
  refine g_start2 (Lc := [(0, .ref this)]) (by decide) rfl rfl (by exact Nat.le_of_ble_eq_true rfl) (by rfl) fun X => ?_
  unfold Desk_errorPosition at hy
  refine g_aload_n 0 (i := 0) (pc' := 1) d_Desk_errorPosition_0 rfl rfl rfl ?_
  replace hy := g_gI_inv hy
  obtain ⟨fs1, x2, hc3, hv4, hy⟩ := hy
  refine g_getf (pc' := 4) d_Desk_errorPosition_1 hc3 rfl (by decide) hv4 q649 (Or.inl rfl) rfl ?_
  cases hy
  exact g_iret rfl rfl rfl d_Desk_errorPosition_4
theorem hd_Desk_errorPosition : g_dsc y_Desk_errorPosition 0 := ⟨by decide +kernel, by decide +kernel, by decide +kernel⟩
