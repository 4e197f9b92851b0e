/-! java/lang/AbstractStringBuilder.getValue()[B -/
abbrev y_AbstractStringBuilder_getValue : MethodName := ⟨"java/lang/AbstractStringBuilder", "getValue", "()[B"⟩
abbrev k_AbstractStringBuilder_getValue : g_M := (prog_19_method_64_code, 1, "java/lang/AbstractStringBuilder", 12, (some (FieldType.array FieldType.byte)), "getValue", [], 0)
theorem d_AbstractStringBuilder_getValue_0 : decode prog_19_method_64_code 0 = .ok (.aload_n 0, 1) := by decide +kernel
theorem d_AbstractStringBuilder_getValue_1 : decode prog_19_method_64_code 1 = .ok (.getfield 15, 3) := by decide +kernel
theorem d_AbstractStringBuilder_getValue_4 : decode prog_19_method_64_code 4 = .ok (.areturn, 1) := by decide +kernel
def AbstractStringBuilder_getValue (h : g_AH) (this : Nat) : Option (Option Nat) :=
  g_gR h this 17 0 fun x2 => some x2
set_option maxHeartbeats 4000000 in
set_option maxRecDepth 100000 in
theorem T_AbstractStringBuilder_getValue {l : Launch} {B : g_B} (h : g_AH) (this : Nat) (z : Option Nat) (hy : AbstractStringBuilder_getValue h this = some z) : g_CT l B y_AbstractStringBuilder_getValue k_AbstractStringBuilder_getValue [.ref this] h (.inl (some (va_rf z))) h := by
  refine g_start2 (Lc := [(0, .ref this)]) (by decide) rfl rfl (by exact Nat.le_of_ble_eq_true rfl) (by rfl) fun X => ?_
  unfold AbstractStringBuilder_getValue at hy
  refine g_aload_n 0 (i := 0) (pc' := 1) d_AbstractStringBuilder_getValue_0 rfl rfl rfl ?_
  replace hy := g_gR_inv hy
  obtain ⟨fs1, x2, hc3, hv4, hy⟩ := hy
  refine g_getf (pc' := 4) d_AbstractStringBuilder_getValue_1 hc3 rfl (by decide) hv4 q239 (Or.inl rfl) rfl ?_
  cases hy
  exact g_aret rfl rfl rfl (Or.inr ⟨_, rfl⟩) d_AbstractStringBuilder_getValue_4
theorem hd_AbstractStringBuilder_getValue : g_dsc y_AbstractStringBuilder_getValue 0 := ⟨by decide +kernel, by decide +kernel, by decide +kernel⟩
/-! java/lang/AbstractStringBuilder.length()I -/
abbrev y_AbstractStringBuilder_length : MethodName := ⟨"java/lang/AbstractStringBuilder", "length", "()I"⟩
abbrev k_AbstractStringBuilder_length : g_M := (prog_19_method_6_code, 1, "java/lang/AbstractStringBuilder", 12, (some FieldType.int), "length", [], 0)
theorem d_AbstractStringBuilder_length_0 : decode prog_19_method_6_code 0 = .ok (.aload_n 0, 1) := by decide +kernel
theorem d_AbstractStringBuilder_length_1 : decode prog_19_method_6_code 1 = .ok (.getfield 79, 3) := by decide +kernel
theorem d_AbstractStringBuilder_length_4 : decode prog_19_method_6_code 4 = .ok (.ireturn, 1) := by decide +kernel
def AbstractStringBuilder_length (h : g_AH) (this : Nat) : Option (Int32) :=
  g_gI h this 17 3 fun x2 => some x2
set_option maxHeartbeats 4000000 in
set_option maxRecDepth 100000 in
theorem T_AbstractStringBuilder_length {l : Launch} {B : g_B} (h : g_AH) (this : Nat) (z : Int32) (hy : AbstractStringBuilder_length h this = some z) : g_CT l B y_AbstractStringBuilder_length k_AbstractStringBuilder_length [.ref this] h (.inl (some (.int z))) h := by
  refine g_start2 (Lc := [(0, .ref this)]) (by decide) rfl rfl (by exact Nat.le_of_ble_eq_true rfl) (by rfl) fun X => ?_
  unfold AbstractStringBuilder_length at hy
  refine g_aload_n 0 (i := 0) (pc' := 1) d_AbstractStringBuilder_length_0 rfl rfl rfl ?_
  replace hy := g_gI_inv hy
  obtain ⟨fs1, x2, hc3, hv4, hy⟩ := hy
  refine g_getf (pc' := 4) d_AbstractStringBuilder_length_1 hc3 rfl (by decide) hv4 q242 (Or.inl rfl) rfl ?_
  cases hy
  exact g_iret rfl rfl rfl d_AbstractStringBuilder_length_4
theorem hd_AbstractStringBuilder_length : g_dsc y_AbstractStringBuilder_length 0 := ⟨by decide +kernel, by decide +kernel, by decide +kernel⟩
/-! java/lang/StringBuilder.length()I -/
abbrev y_StringBuilder_length : MethodName := ⟨"java/lang/StringBuilder", "length", "()I"⟩
abbrev k_StringBuilder_length : g_M := (prog_35_method_93_code, 1, "java/lang/StringBuilder", 13, (some FieldType.int), "length", [], 0)
theorem d_StringBuilder_length_0 : decode prog_35_method_93_code 0 = .ok (.aload_n 0, 1) := by decide +kernel
theorem d_StringBuilder_length_1 : decode prog_35_method_93_code 1 = .ok (.invokespecial 343, 3) := by decide +kernel
theorem d_StringBuilder_length_4 : decode prog_35_method_93_code 4 = .ok (.ireturn, 1) := by decide +kernel
def StringBuilder_length (h : g_AH) (this : Nat) : Option (Int32) :=
  g_is h this 17 <| g_b (AbstractStringBuilder_length h this) fun x3 => some x3
set_option maxHeartbeats 4000000 in
set_option maxRecDepth 100000 in
theorem T_StringBuilder_length {l : Launch} {B : g_B} (h : g_AH) (this : Nat) (z : Int32) (hy : StringBuilder_length h this = some z) : g_CT l B y_StringBuilder_length k_StringBuilder_length [.ref this] h (.inl (some (.int z))) h := by
  refine g_start2 (Lc := [(0, .ref this)]) (by decide) rfl rfl (by exact Nat.le_of_ble_eq_true rfl) (by rfl) fun X => ?_
  unfold StringBuilder_length at hy
  refine g_aload_n 0 (i := 0) (pc' := 1) d_StringBuilder_length_0 rfl rfl rfl ?_
  replace hy := g_is_inv hy
  obtain ⟨fs1, hc2, hy⟩ := hy
  replace hy := g_b_inv hy
  obtain ⟨x3, hf5, hy⟩ := hy
  refine g_callSU (rv := some (.int x3)) (h1 := h) (pc' := 4) (As := []) (rest := []) 0 (T_AbstractStringBuilder_length (hy := hf5)) d_StringBuilder_length_1 hc2 rfl (g_wsSU q424 q420 q251 q419 q117 q425) ⟨by decide, by decide +kernel⟩ rfl ⟨by decide, by decide⟩ (by first | exact Nat.le_of_ble_eq_true rfl | (simp only [List.map, List.sum_cons, List.sum_nil, g_cat_rf]; exact Nat.le_of_ble_eq_true rfl) | (simp only [List.map, List.sum_cons, List.sum_nil, g_cat_rf, Value.category]; decide)) rfl ?_
  cases hy
  exact g_iret rfl rfl rfl d_StringBuilder_length_4
theorem hd_StringBuilder_length : g_dsc y_StringBuilder_length 0 := ⟨by decide +kernel, by decide +kernel, by decide +kernel⟩
/-! java/util/Arrays.checkLength(II)V -/
abbrev y_Arrays_checkLength : MethodName := ⟨"java/util/Arrays", "checkLength", "(II)V"⟩
abbrev k_Arrays_checkLength : g_M := (prog_47_method_131_code, 2, "java/util/Arrays", 22, none, "checkLength", [], 0)
theorem d_Arrays_checkLength_0 : decode prog_47_method_131_code 0 = .ok (.iload_n 1, 1) := by decide +kernel
theorem d_Arrays_checkLength_1 : decode prog_47_method_131_code 1 = .ok (.iload_n 0, 1) := by decide +kernel
theorem d_Arrays_checkLength_2 : decode prog_47_method_131_code 2 = .ok (.if_icmp .ge 35, 3) := by decide +kernel
theorem d_Arrays_checkLength_37 : decode prog_47_method_131_code 37 = .ok (.return_, 1) := by decide +kernel
def Arrays_checkLength (h : g_AH) (p0 : Int32) (p1 : Int32) : Option g_AH :=
  if p0 ≤ p1 then (some h) else (none)
set_option maxHeartbeats 4000000 in
set_option maxRecDepth 100000 in
theorem T_Arrays_checkLength {l : Launch} {B : g_B} (h : g_AH) (p0 : Int32) (p1 : Int32) (z : g_AH) (hy : Arrays_checkLength h p0 p1 = some z) : g_CT l B y_Arrays_checkLength k_Arrays_checkLength [.int p0, .int p1] h (.inl none) z := by
  refine g_start2 (Lc := [(0, .int p0), (1, .int p1)]) (by decide) rfl rfl (by exact Nat.le_of_ble_eq_true rfl) (by rfl) fun X => ?_
  unfold Arrays_checkLength at hy
  refine g_iload_n 1 (i := 1) (pc' := 1) d_Arrays_checkLength_0 rfl rfl rfl ?_
  refine g_iload_n 0 (i := 0) (pc' := 2) d_Arrays_checkLength_1 rfl rfl rfl ?_
  by_cases c1 : p0 ≤ p1
  · rw [if_pos c1] at hy
    refine g_icmp_geT (pc' := 37) d_Arrays_checkLength_2 c1 (by decide) ?_
    cases hy
    exact g_vret rfl rfl rfl d_Arrays_checkLength_37
  · rw [if_neg c1] at hy
    refine g_icmp_geF (pc' := 5) d_Arrays_checkLength_2 37 c1 (by decide) rfl ?_
    cases hy
theorem hd_Arrays_checkLength : g_dsc y_Arrays_checkLength 2 := ⟨by decide +kernel, by decide +kernel, by decide +kernel⟩
/-! java/util/Arrays.copyOfRangeByte([BII)[B -/
abbrev y_Arrays_copyOfRangeByte : MethodName := ⟨"java/util/Arrays", "copyOfRangeByte", "([BII)[B"⟩
abbrev k_Arrays_copyOfRangeByte : g_M := (prog_47_method_133_code, 5, "java/util/Arrays", 23, (some (FieldType.array FieldType.byte)), "copyOfRangeByte", [], 0)
theorem d_Arrays_copyOfRangeByte_0 : decode prog_47_method_133_code 0 = .ok (.iload_n 1, 1) := by decide +kernel
theorem d_Arrays_copyOfRangeByte_1 : decode prog_47_method_133_code 1 = .ok (.iload_n 2, 1) := by decide +kernel
theorem d_Arrays_copyOfRangeByte_2 : decode prog_47_method_133_code 2 = .ok (.invokestatic 343, 3) := by decide +kernel
theorem d_Arrays_copyOfRangeByte_5 : decode prog_47_method_133_code 5 = .ok (.iload_n 2, 1) := by decide +kernel
theorem d_Arrays_copyOfRangeByte_6 : decode prog_47_method_133_code 6 = .ok (.iload_n 1, 1) := by decide +kernel
theorem d_Arrays_copyOfRangeByte_7 : decode prog_47_method_133_code 7 = .ok (.isub, 1) := by decide +kernel
theorem d_Arrays_copyOfRangeByte_8 : decode prog_47_method_133_code 8 = .ok (.istore_n 3, 1) := by decide +kernel
theorem d_Arrays_copyOfRangeByte_9 : decode prog_47_method_133_code 9 = .ok (.iload_n 3, 1) := by decide +kernel
theorem d_Arrays_copyOfRangeByte_10 : decode prog_47_method_133_code 10 = .ok (.newarray .byte, 2) := by decide +kernel
theorem d_Arrays_copyOfRangeByte_12 : decode prog_47_method_133_code 12 = .ok (.astore 4, 2) := by decide +kernel
theorem d_Arrays_copyOfRangeByte_14 : decode prog_47_method_133_code 14 = .ok (.aload_n 0, 1) := by decide +kernel
theorem d_Arrays_copyOfRangeByte_15 : decode prog_47_method_133_code 15 = .ok (.iload_n 1, 1) := by decide +kernel
theorem d_Arrays_copyOfRangeByte_16 : decode prog_47_method_133_code 16 = .ok (.aload 4, 2) := by decide +kernel
theorem d_Arrays_copyOfRangeByte_18 : decode prog_47_method_133_code 18 = .ok (.iconst 0, 1) := by decide +kernel
theorem d_Arrays_copyOfRangeByte_19 : decode prog_47_method_133_code 19 = .ok (.aload_n 0, 1) := by decide +kernel
theorem d_Arrays_copyOfRangeByte_20 : decode prog_47_method_133_code 20 = .ok (.arraylength, 1) := by decide +kernel
theorem d_Arrays_copyOfRangeByte_21 : decode prog_47_method_133_code 21 = .ok (.iload_n 1, 1) := by decide +kernel
theorem d_Arrays_copyOfRangeByte_22 : decode prog_47_method_133_code 22 = .ok (.isub, 1) := by decide +kernel
theorem d_Arrays_copyOfRangeByte_23 : decode prog_47_method_133_code 23 = .ok (.iload_n 3, 1) := by decide +kernel
theorem d_Arrays_copyOfRangeByte_24 : decode prog_47_method_133_code 24 = .ok (.invokestatic 304, 3) := by decide +kernel
theorem d_Arrays_copyOfRangeByte_27 : decode prog_47_method_133_code 27 = .ok (.invokestatic 150, 3) := by decide +kernel
theorem d_Arrays_copyOfRangeByte_30 : decode prog_47_method_133_code 30 = .ok (.aload 4, 2) := by decide +kernel
theorem d_Arrays_copyOfRangeByte_32 : decode prog_47_method_133_code 32 = .ok (.areturn, 1) := by decide +kernel
def Arrays_copyOfRangeByte (h : g_AH) (p0 : Option Nat) (p1 : Int32) (p2 : Int32) : Option (Option Nat × g_AH) :=
  g_b (Arrays_checkLength h p1 p2) fun h2 => g_mkA h2 2 (p2 - p1) fun a4 h5 => g_nn p0 fun a8 => g_len h5 a8 fun x13 => g_cpB h5 a8 p1 a4 (0 : Int32) (if (p2 - p1) < (x13 - p1) then (p2 - p1) else (x13 - p1)) fun h22 => some ((some a4), h22)
set_option maxHeartbeats 4000000 in
set_option maxRecDepth 100000 in
theorem T_Arrays_copyOfRangeByte {l : Launch} {B : g_B} (h : g_AH) (p0 : Option Nat) (p1 : Int32) (p2 : Int32) (z : Option Nat × g_AH) (hy : Arrays_copyOfRangeByte h p0 p1 p2 = some z) : g_CT l B y_Arrays_copyOfRangeByte k_Arrays_copyOfRangeByte [va_rf p0, .int p1, .int p2] h (.inl (some (va_rf z.1))) z.2 := by
  refine g_start2 (Lc := [(0, va_rf p0), (1, .int p1), (2, .int p2)]) (by decide) rfl rfl (by rcases p0 with _ | p0 <;> exact Nat.le_of_ble_eq_true rfl) (by rcases p0 with _ | p0 <;> rfl) fun X => ?_
  unfold Arrays_copyOfRangeByte at hy
  refine g_iload_n 1 (i := 1) (pc' := 1) d_Arrays_copyOfRangeByte_0 rfl rfl rfl ?_
  refine g_iload_n 2 (i := 2) (pc' := 2) d_Arrays_copyOfRangeByte_1 rfl rfl rfl ?_
  replace hy := g_b_inv hy
  obtain ⟨h2, hf3, hy⟩ := hy
  refine g_callS (rv := none) (h1 := h2) (pc' := 5) (As := [.int p1, .int p2]) (rest := []) 2 (T_Arrays_checkLength (hy := hf3)) d_Arrays_copyOfRangeByte_2 q433 q434 q123 q435 hd_Arrays_checkLength rfl ⟨by decide, by decide⟩ (by first | exact Nat.le_of_ble_eq_true rfl | (simp only [List.map, List.sum_cons, List.sum_nil, g_cat_rf]; exact Nat.le_of_ble_eq_true rfl) | (simp only [List.map, List.sum_cons, List.sum_nil, g_cat_rf, Value.category]; decide)) rfl ?_
  refine g_iload_n 2 (i := 2) (pc' := 6) d_Arrays_copyOfRangeByte_5 rfl rfl rfl ?_
  refine g_iload_n 1 (i := 1) (pc' := 7) d_Arrays_copyOfRangeByte_6 rfl rfl rfl ?_
  refine g_isub (pc' := 8) d_Arrays_copyOfRangeByte_7 rfl ?_
  refine g_istore_n (i := 3) (pc' := 9) (Lc' := [(3, .int (p2 - p1)), (0, va_rf p0), (1, .int p1), (2, .int p2)]) d_Arrays_copyOfRangeByte_8 rfl (by decide) rfl rfl ?_
  refine g_iload_n 0 (i := 3) (pc' := 10) d_Arrays_copyOfRangeByte_9 rfl rfl rfl ?_
  replace hy := g_mkA_inv hy
  obtain ⟨hn6, hb7, hy⟩ := hy
  refine g_newa2 (pc' := 12) d_Arrays_copyOfRangeByte_10 hn6 hb7 rfl ?_
  generalize g_al h2 (.inl (2, ((p2 - p1)).toNatClampNeg, .inl (fun _ => 0))) ((p2 - p1)).toNatClampNeg = h5 at hy ⊢
  generalize g_n h2 = a4 at hy ⊢
  refine g_astore (pc' := 14) (Lc' := [(4, .ref a4), (3, .int (p2 - p1)), (0, va_rf p0), (1, .int p1), (2, .int p2)]) d_Arrays_copyOfRangeByte_12 (by decide) rfl rfl ?_
  refine g_aloadO_n 2 (i := 0) (pc' := 15) d_Arrays_copyOfRangeByte_14 rfl rfl rfl ?_
  refine g_iload_n 3 (i := 1) (pc' := 16) d_Arrays_copyOfRangeByte_15 rfl rfl rfl ?_
  refine g_aload 0 (pc' := 18) d_Arrays_copyOfRangeByte_16 rfl rfl ?_
  refine g_iconst (v := (0 : Int32)) (pc' := 19) d_Arrays_copyOfRangeByte_18 (by decide) rfl ?_
  refine g_aloadO_n 2 (i := 0) (pc' := 20) d_Arrays_copyOfRangeByte_19 rfl rfl rfl ?_
  replace hy := g_nn_inv hy
  obtain ⟨a8, rfl, hy⟩ := hy
  replace hy := g_len_inv hy
  obtain ⟨t9, y10, hc11, ht12, hy⟩ := hy
  refine g_alen (pc' := 21) d_Arrays_copyOfRangeByte_20 hc11 ht12 rfl rfl ?_
  generalize Int32.ofNat y10.1 = x13 at hy ⊢
  refine g_iload_n 3 (i := 1) (pc' := 22) d_Arrays_copyOfRangeByte_21 rfl rfl rfl ?_
  refine g_isub (pc' := 23) d_Arrays_copyOfRangeByte_22 rfl ?_
  refine g_iload_n 1 (i := 3) (pc' := 24) d_Arrays_copyOfRangeByte_23 rfl rfl rfl ?_
  refine g_mmin (pc' := 27) d_Arrays_copyOfRangeByte_24 q295 q296 q122 q297 (by first | exact Nat.le_of_ble_eq_true rfl | (simp only [List.map, List.sum_cons, List.sum_nil, g_cat_rf]; exact Nat.le_of_ble_eq_true rfl) | (simp only [List.map, List.sum_cons, List.sum_nil, g_cat_rf, Value.category]; decide)) (by decide) rfl ?_
  replace hy := g_cpB_inv hy
  obtain ⟨n14, f15, n16, g17, hc18, hc19, hr20, hf21, hy⟩ := hy
  refine g_copyB (pc' := 30) d_Arrays_copyOfRangeByte_27 q298 hc18 hc19 hr20 hf21 (by first | exact Nat.le_of_ble_eq_true rfl | (simp only [List.map, List.sum_cons, List.sum_nil, g_cat_rf]; exact Nat.le_of_ble_eq_true rfl) | (simp only [List.map, List.sum_cons, List.sum_nil, g_cat_rf, Value.category]; decide)) (by decide) rfl ?_
  generalize g_up h5 a4 (.inl (2, n16, .inl (va_cpy f15 g17 (p1).toNatClampNeg ((0 : Int32)).toNatClampNeg ((if (p2 - p1) < (x13 - p1) then (p2 - p1) else (x13 - p1))).toNatClampNeg))) = h22 at hy ⊢
  refine g_aload 0 (pc' := 32) d_Arrays_copyOfRangeByte_30 rfl rfl ?_
  cases hy
  refine g_stk (st' := [va_rf (some a4)]) rfl ?_
  exact g_aret rfl rfl rfl (Or.inr ⟨_, rfl⟩) d_Arrays_copyOfRangeByte_32
theorem hd_Arrays_copyOfRangeByte : g_dsc y_Arrays_copyOfRangeByte 3 := ⟨by decide +kernel, by decide +kernel, by decide +kernel⟩
/-! java/util/Arrays.copyOfRange([BII)[B -/
abbrev y_Arrays_copyOfRange : MethodName := ⟨"java/util/Arrays", "copyOfRange", "([BII)[B"⟩
abbrev k_Arrays_copyOfRange : g_M := (prog_47_method_132_code, 3, "java/util/Arrays", 24, (some (FieldType.array FieldType.byte)), "copyOfRange", [], 0)
theorem d_Arrays_copyOfRange_0 : decode prog_47_method_132_code 0 = .ok (.iload_n 1, 1) := by decide +kernel
theorem d_Arrays_copyOfRange_1 : decode prog_47_method_132_code 1 = .ok (.ifCond .ne 9, 3) := by decide +kernel
theorem d_Arrays_copyOfRange_4 : decode prog_47_method_132_code 4 = .ok (.iload_n 2, 1) := by decide +kernel
theorem d_Arrays_copyOfRange_5 : decode prog_47_method_132_code 5 = .ok (.aload_n 0, 1) := by decide +kernel
theorem d_Arrays_copyOfRange_6 : decode prog_47_method_132_code 6 = .ok (.arraylength, 1) := by decide +kernel
theorem d_Arrays_copyOfRange_7 : decode prog_47_method_132_code 7 = .ok (.if_icmp .eq 10, 3) := by decide +kernel
theorem d_Arrays_copyOfRange_10 : decode prog_47_method_132_code 10 = .ok (.aload_n 0, 1) := by decide +kernel
theorem d_Arrays_copyOfRange_11 : decode prog_47_method_132_code 11 = .ok (.iload_n 1, 1) := by decide +kernel
theorem d_Arrays_copyOfRange_12 : decode prog_47_method_132_code 12 = .ok (.iload_n 2, 1) := by decide +kernel
theorem d_Arrays_copyOfRange_13 : decode prog_47_method_132_code 13 = .ok (.invokestatic 339, 3) := by decide +kernel
theorem d_Arrays_copyOfRange_16 : decode prog_47_method_132_code 16 = .ok (.areturn, 1) := by decide +kernel
theorem d_Arrays_copyOfRange_17 : decode prog_47_method_132_code 17 = .ok (.aload_n 0, 1) := by decide +kernel
theorem d_Arrays_copyOfRange_18 : decode prog_47_method_132_code 18 = .ok (.invokevirtual 310, 3) := by decide +kernel
theorem d_Arrays_copyOfRange_21 : decode prog_47_method_132_code 21 = .ok (.checkcast 311, 3) := by decide +kernel
theorem d_Arrays_copyOfRange_24 : decode prog_47_method_132_code 24 = .ok (.areturn, 1) := by decide +kernel
def Arrays_copyOfRange_10 (h : g_AH) (v0 : Option Nat) (v1 : Int32) (v2 : Int32) : Option (Option Nat × g_AH) :=
  g_b2 (Arrays_copyOfRangeByte h v0 v1 v2) fun x2 h3 => some (x2, h3)
set_option maxHeartbeats 4000000 in
set_option maxRecDepth 100000 in
theorem W_Arrays_copyOfRange_10 {X : g_X} (z : Option Nat × g_AH) (h : g_AH) (v0 : Option Nat) (v1 : Int32) (v2 : Int32) (hy : Arrays_copyOfRange_10  h v0 v1 v2 = some z) : G X k_Arrays_copyOfRange (.inl (some (va_rf z.1))) z.2 h 10 [(0, va_rf v0), (1, .int v1), (2, .int v2)] [] := by
  unfold Arrays_copyOfRange_10 at hy
  refine g_aloadO_n 0 (i := 0) (pc' := 11) d_Arrays_copyOfRange_10 rfl rfl rfl ?_
  refine g_iload_n 1 (i := 1) (pc' := 12) d_Arrays_copyOfRange_11 rfl rfl rfl ?_
  refine g_iload_n 2 (i := 2) (pc' := 13) d_Arrays_copyOfRange_12 rfl rfl rfl ?_
  replace hy := g_b2_inv hy
  obtain ⟨x2, h3, hf4, hy⟩ := hy
  refine g_callS (rv := some (va_rf x2)) (h1 := h3) (pc' := 16) (As := [va_rf v0, .int v1, .int v2]) (rest := []) 3 (T_Arrays_copyOfRangeByte (hy := hf4)) d_Arrays_copyOfRange_13 q430 q431 q123 q432 hd_Arrays_copyOfRangeByte rfl ⟨by decide, by decide⟩ (by first | exact Nat.le_of_ble_eq_true rfl | (simp only [List.map, List.sum_cons, List.sum_nil, g_cat_rf]; exact Nat.le_of_ble_eq_true rfl) | (simp only [List.map, List.sum_cons, List.sum_nil, g_cat_rf, Value.category]; decide)) rfl ?_
  cases hy
  exact g_aret rfl rfl rfl (Or.inr ⟨_, rfl⟩) d_Arrays_copyOfRange_16
def Arrays_copyOfRange (h : g_AH) (p0 : Option Nat) (p1 : Int32) (p2 : Int32) : Option (Option Nat × g_AH) :=
  if p1 = 0 then (g_nn p0 fun a5 => g_len h a5 fun x10 => if p2 = x10 then (g_cl h 2 a5 fun a16 h17 => g_isA h17 2 a16 <| some ((some a16), h17)) else (Arrays_copyOfRange_10  h (some a5) p1 p2)) else (Arrays_copyOfRange_10  h p0 p1 p2)
set_option maxHeartbeats 4000000 in
set_option maxRecDepth 100000 in
theorem T_Arrays_copyOfRange {l : Launch} {B : g_B} (h : g_AH) (p0 : Option Nat) (p1 : Int32) (p2 : Int32) (z : Option Nat × g_AH) (hy : Arrays_copyOfRange h p0 p1 p2 = some z) : g_CT l B y_Arrays_copyOfRange k_Arrays_copyOfRange [va_rf p0, .int p1, .int p2] h (.inl (some (va_rf z.1))) z.2 := by
  refine g_start2 (Lc := [(0, va_rf p0), (1, .int p1), (2, .int p2)]) (by decide) rfl rfl (by rcases p0 with _ | p0 <;> exact Nat.le_of_ble_eq_true rfl) (by rcases p0 with _ | p0 <;> rfl) fun X => ?_
  unfold Arrays_copyOfRange at hy
  refine g_iload_n 1 (i := 1) (pc' := 1) d_Arrays_copyOfRange_0 rfl rfl rfl ?_
  by_cases c1 : p1 = 0
  · rw [if_pos c1] at hy
    refine g_if_neF (pc' := 4) d_Arrays_copyOfRange_1 10 c1 (by decide) rfl ?_
    refine g_iload_n 2 (i := 2) (pc' := 5) d_Arrays_copyOfRange_4 rfl rfl rfl ?_
    refine g_aloadO_n 0 (i := 0) (pc' := 6) d_Arrays_copyOfRange_5 rfl rfl rfl ?_
    replace hy := g_nn_inv hy
    obtain ⟨a5, rfl, hy⟩ := hy
    replace hy := g_len_inv hy
    obtain ⟨t6, y7, hc8, ht9, hy⟩ := hy
    refine g_alen (pc' := 7) d_Arrays_copyOfRange_6 hc8 ht9 rfl rfl ?_
    generalize Int32.ofNat y7.1 = x10 at hy ⊢
    by_cases c11 : p2 = x10
    · rw [if_pos c11] at hy
      refine g_icmp_eqT (pc' := 17) d_Arrays_copyOfRange_7 c11 (by decide) ?_
      refine g_aload_n 0 (i := 0) (pc' := 18) d_Arrays_copyOfRange_17 rfl rfl rfl ?_
      replace hy := g_cl_inv hy
      obtain ⟨n12, f13, hc14, hf15, hy⟩ := hy
      refine g_clone (ty := .byte) (pc' := 21) d_Arrays_copyOfRange_18 hc14 hf15 (List.mem_of_getElem? (i := 2) rfl) (fun _ => rfl) (by decide) (fun C e => by cases e) q288 q289 q292 q293 (by first | exact Nat.le_of_ble_eq_true rfl | (simp only [List.map, List.sum_cons, List.sum_nil, g_cat_rf]; exact Nat.le_of_ble_eq_true rfl) | (simp only [List.map, List.sum_cons, List.sum_nil, g_cat_rf, Value.category]; decide)) (by decide) rfl ?_
      generalize g_al h (.inl (2, n12, .inl f13)) n12 = h17 at hy ⊢
      generalize g_n h = a16 at hy ⊢
      replace hy := g_isA_inv hy
      obtain ⟨y18, hc19, hy⟩ := hy
      refine g_castA (ty := .byte) (pc' := 24) d_Arrays_copyOfRange_21 hc19 q294 (fun _ => rfl) (by decide) rfl ?_
      cases hy
      refine g_stk (st' := [va_rf (some a16)]) rfl ?_
      exact g_aret rfl rfl rfl (Or.inr ⟨_, rfl⟩) d_Arrays_copyOfRange_24
    · rw [if_neg c11] at hy
      refine g_icmp_eqF (pc' := 10) d_Arrays_copyOfRange_7 17 c11 (by decide) rfl ?_
      exact W_Arrays_copyOfRange_10 _ _ _ _ _ hy
  · rw [if_neg c1] at hy
    refine g_if_neT (pc' := 10) d_Arrays_copyOfRange_1 c1 (by decide) ?_
    exact W_Arrays_copyOfRange_10 _ _ _ _ _ hy
theorem hd_Arrays_copyOfRange : g_dsc y_Arrays_copyOfRange 3 := ⟨by decide +kernel, by decide +kernel, by decide +kernel⟩
/-! java/lang/StringUTF16.compress([BI[BII)I -/
abbrev y_StringUTF16_compress1 : MethodName := ⟨"java/lang/StringUTF16", "compress", "([BI[BII)I"⟩
abbrev k_StringUTF16_compress1 : g_M := (prog_37_method_22_code, 7, "java/lang/StringUTF16", 15, (some FieldType.int), "compress", [], 0)
theorem d_StringUTF16_compress1_0 : decode prog_37_method_22_code 0 = .ok (.iload_n 1, 1) := by decide +kernel
theorem d_StringUTF16_compress1_1 : decode prog_37_method_22_code 1 = .ok (.iload 4, 2) := by decide +kernel
theorem d_StringUTF16_compress1_3 : decode prog_37_method_22_code 3 = .ok (.aload_n 0, 1) := by decide +kernel
theorem d_StringUTF16_compress1_4 : decode prog_37_method_22_code 4 = .ok (.invokestatic 173, 3) := by decide +kernel
theorem d_StringUTF16_compress1_7 : decode prog_37_method_22_code 7 = .ok (.iconst 0, 1) := by decide +kernel
theorem d_StringUTF16_compress1_8 : decode prog_37_method_22_code 8 = .ok (.istore 5, 2) := by decide +kernel
theorem d_StringUTF16_compress1_10 : decode prog_37_method_22_code 10 = .ok (.iload 5, 2) := by decide +kernel
theorem d_StringUTF16_compress1_12 : decode prog_37_method_22_code 12 = .ok (.iload 4, 2) := by decide +kernel
theorem d_StringUTF16_compress1_14 : decode prog_37_method_22_code 14 = .ok (.if_icmp .ge 39, 3) := by decide +kernel
theorem d_StringUTF16_compress1_53 : decode prog_37_method_22_code 53 = .ok (.iload 4, 2) := by decide +kernel
theorem d_StringUTF16_compress1_55 : decode prog_37_method_22_code 55 = .ok (.ireturn, 1) := by decide +kernel
def StringUTF16_compress1_10  : Nat → g_AH → Option Nat → Int32 → Option Nat → Int32 → Int32 → Int32 → Option (Int32 × g_AH)
  | 0, _, _, _, _, _, _, _ => none
  | n + 1, h, v0, v1, v2, v3, v4, v5 => if v4 ≤ v5 then (some (v4, h)) else (none)
set_option maxHeartbeats 4000000 in
set_option maxRecDepth 100000 in
theorem W_StringUTF16_compress1_10 {X : g_X} (z : Int32 × g_AH)  : ∀ (n : Nat) (h : g_AH) (v0 : Option Nat) (v1 : Int32) (v2 : Option Nat) (v3 : Int32) (v4 : Int32) (v5 : Int32), StringUTF16_compress1_10  n h v0 v1 v2 v3 v4 v5 = some z → G X k_StringUTF16_compress1 (.inl (some (.int z.1))) z.2 h 10 [(0, va_rf v0), (1, .int v1), (2, va_rf v2), (3, .int v3), (4, .int v4), (5, .int v5)] [] := by
  intro n
  induction n with
  | zero => intro h v0 v1 v2 v3 v4 v5 hy; exact absurd hy (by simp [StringUTF16_compress1_10])
  | succ n ih =>
    intro h v0 v1 v2 v3 v4 v5 hy
    rw [StringUTF16_compress1_10] at hy
    refine g_iload 5 (pc' := 12) d_StringUTF16_compress1_10 rfl rfl ?_
    refine g_iload 4 (pc' := 14) d_StringUTF16_compress1_12 rfl rfl ?_
    by_cases c4 : v4 ≤ v5
    · rw [if_pos c4] at hy
      refine g_icmp_geT (pc' := 53) d_StringUTF16_compress1_14 c4 (by decide) ?_
      refine g_iload 4 (pc' := 55) d_StringUTF16_compress1_53 rfl rfl ?_
      cases hy
      exact g_iret rfl rfl rfl d_StringUTF16_compress1_55
    · rw [if_neg c4] at hy
      refine g_icmp_geF (pc' := 17) d_StringUTF16_compress1_14 53 c4 (by decide) rfl ?_
      cases hy
def StringUTF16_compress1 (h : g_AH) (p0 : Option Nat) (p1 : Int32) (p2 : Option Nat) (p3 : Int32) (p4 : Int32) : Option (Int32 × g_AH) :=
  g_b (StringUTF16_checkBoundsOffCount h p1 p4 p0) fun x1 => StringUTF16_compress1_10  gFU h p0 p1 p2 p3 p4 (0 : Int32)
set_option maxHeartbeats 4000000 in
set_option maxRecDepth 100000 in
theorem T_StringUTF16_compress1 {l : Launch} {B : g_B} (h : g_AH) (p0 : Option Nat) (p1 : Int32) (p2 : Option Nat) (p3 : Int32) (p4 : Int32) (z : Int32 × g_AH) (hy : StringUTF16_compress1 h p0 p1 p2 p3 p4 = some z) : g_CT l B y_StringUTF16_compress1 k_StringUTF16_compress1 [va_rf p0, .int p1, va_rf p2, .int p3, .int p4] h (.inl (some (.int z.1))) z.2 := by
  refine g_start2 (Lc := [(0, va_rf p0), (1, .int p1), (2, va_rf p2), (3, .int p3), (4, .int p4)]) (by decide) rfl rfl (by rcases p0 with _ | p0 <;> rcases p2 with _ | p2 <;> exact Nat.le_of_ble_eq_true rfl) (by rcases p0 with _ | p0 <;> rcases p2 with _ | p2 <;> rfl) fun X => ?_
  unfold StringUTF16_compress1 at hy
  refine g_iload_n 1 (i := 1) (pc' := 1) d_StringUTF16_compress1_0 rfl rfl rfl ?_
  refine g_iload 4 (pc' := 3) d_StringUTF16_compress1_1 rfl rfl ?_
  refine g_aloadO_n 0 (i := 0) (pc' := 4) d_StringUTF16_compress1_3 rfl rfl rfl ?_
  replace hy := g_b_inv hy
  obtain ⟨x1, hf3, hy⟩ := hy
  refine g_callS (rv := none) (h1 := h) (pc' := 7) (As := [.int p1, .int p4, va_rf p0]) (rest := []) 3 (T_StringUTF16_checkBoundsOffCount (hy := hf3)) d_StringUTF16_compress1_4 q360 q361 q120 q362 hd_StringUTF16_checkBoundsOffCount rfl ⟨by decide, by decide⟩ (by first | exact Nat.le_of_ble_eq_true rfl | (simp only [List.map, List.sum_cons, List.sum_nil, g_cat_rf]; exact Nat.le_of_ble_eq_true rfl) | (simp only [List.map, List.sum_cons, List.sum_nil, g_cat_rf, Value.category]; decide)) rfl ?_
  refine g_iconst (v := (0 : Int32)) (pc' := 8) d_StringUTF16_compress1_7 (by decide) rfl ?_
  refine g_istore (pc' := 10) (Lc' := [(5, .int (0 : Int32)), (0, va_rf p0), (1, .int p1), (2, va_rf p2), (3, .int p3), (4, .int p4)]) d_StringUTF16_compress1_8 (by decide) rfl rfl ?_
  refine g_sub [1, 2, 3, 4, 5, 0] rfl ?_
  exact W_StringUTF16_compress1_10 _ _ _ _ _ _ _ _ _ hy
theorem hd_StringUTF16_compress1 : g_dsc y_StringUTF16_compress1 5 := ⟨by decide +kernel, by decide +kernel, by decide +kernel⟩
/-! java/lang/StringUTF16.compress([BII)[B -/
abbrev y_StringUTF16_compress0 : MethodName := ⟨"java/lang/StringUTF16", "compress", "([BII)[B"⟩
abbrev k_StringUTF16_compress0 : g_M := (prog_37_method_17_code, 6, "java/lang/StringUTF16", 25, (some (FieldType.array FieldType.byte)), "compress", [], 0)
theorem d_StringUTF16_compress0_0 : decode prog_37_method_17_code 0 = .ok (.iload_n 2, 1) := by decide +kernel
theorem d_StringUTF16_compress0_1 : decode prog_37_method_17_code 1 = .ok (.newarray .byte, 2) := by decide +kernel
theorem d_StringUTF16_compress0_3 : decode prog_37_method_17_code 3 = .ok (.astore_n 3, 1) := by decide +kernel
theorem d_StringUTF16_compress0_4 : decode prog_37_method_17_code 4 = .ok (.aload_n 0, 1) := by decide +kernel
theorem d_StringUTF16_compress0_5 : decode prog_37_method_17_code 5 = .ok (.iload_n 1, 1) := by decide +kernel
theorem d_StringUTF16_compress0_6 : decode prog_37_method_17_code 6 = .ok (.aload_n 3, 1) := by decide +kernel
theorem d_StringUTF16_compress0_7 : decode prog_37_method_17_code 7 = .ok (.iconst 0, 1) := by decide +kernel
theorem d_StringUTF16_compress0_8 : decode prog_37_method_17_code 8 = .ok (.iload_n 2, 1) := by decide +kernel
theorem d_StringUTF16_compress0_9 : decode prog_37_method_17_code 9 = .ok (.invokestatic 123, 3) := by decide +kernel
theorem d_StringUTF16_compress0_12 : decode prog_37_method_17_code 12 = .ok (.istore 4, 2) := by decide +kernel
theorem d_StringUTF16_compress0_14 : decode prog_37_method_17_code 14 = .ok (.iload 4, 2) := by decide +kernel
theorem d_StringUTF16_compress0_16 : decode prog_37_method_17_code 16 = .ok (.iload_n 2, 1) := by decide +kernel
theorem d_StringUTF16_compress0_17 : decode prog_37_method_17_code 17 = .ok (.if_icmp .eq 47, 3) := by decide +kernel
theorem d_StringUTF16_compress0_64 : decode prog_37_method_17_code 64 = .ok (.aload_n 3, 1) := by decide +kernel
theorem d_StringUTF16_compress0_65 : decode prog_37_method_17_code 65 = .ok (.areturn, 1) := by decide +kernel
def StringUTF16_compress0 (h : g_AH) (p0 : Option Nat) (p1 : Int32) (p2 : Int32) : Option (Option Nat × g_AH) :=
  g_mkA h 2 p2 fun a1 h2 => g_b2 (StringUTF16_compress1 h2 p0 p1 (some a1) (0 : Int32) p2) fun x5 h6 => if x5 = p2 then (some ((some a1), h6)) else (none)
set_option maxHeartbeats 4000000 in
set_option maxRecDepth 100000 in
theorem T_StringUTF16_compress0 {l : Launch} {B : g_B} (h : g_AH) (p0 : Option Nat) (p1 : Int32) (p2 : Int32) (z : Option Nat × g_AH) (hy : StringUTF16_compress0 h p0 p1 p2 = some z) : g_CT l B y_StringUTF16_compress0 k_StringUTF16_compress0 [va_rf p0, .int p1, .int p2] h (.inl (some (va_rf z.1))) z.2 := by
  refine g_start2 (Lc := [(0, va_rf p0), (1, .int p1), (2, .int p2)]) (by decide) rfl rfl (by rcases p0 with _ | p0 <;> exact Nat.le_of_ble_eq_true rfl) (by rcases p0 with _ | p0 <;> rfl) fun X => ?_
  unfold StringUTF16_compress0 at hy
  refine g_iload_n 2 (i := 2) (pc' := 1) d_StringUTF16_compress0_0 rfl rfl rfl ?_
  replace hy := g_mkA_inv hy
  obtain ⟨hn3, hb4, hy⟩ := hy
  refine g_newa2 (pc' := 3) d_StringUTF16_compress0_1 hn3 hb4 rfl ?_
  generalize g_al h (.inl (2, (p2).toNatClampNeg, .inl (fun _ => 0))) (p2).toNatClampNeg = h2 at hy ⊢
  generalize g_n h = a1 at hy ⊢
  refine g_astore_n (i := 3) (pc' := 4) (Lc' := [(3, .ref a1), (0, va_rf p0), (1, .int p1), (2, .int p2)]) d_StringUTF16_compress0_3 rfl (by decide) rfl rfl ?_
  refine g_aloadO_n 1 (i := 0) (pc' := 5) d_StringUTF16_compress0_4 rfl rfl rfl ?_
  refine g_iload_n 2 (i := 1) (pc' := 6) d_StringUTF16_compress0_5 rfl rfl rfl ?_
  refine g_aload_n 0 (i := 3) (pc' := 7) d_StringUTF16_compress0_6 rfl rfl rfl ?_
  refine g_iconst (v := (0 : Int32)) (pc' := 8) d_StringUTF16_compress0_7 (by decide) rfl ?_
  refine g_iload_n 3 (i := 2) (pc' := 9) d_StringUTF16_compress0_8 rfl rfl rfl ?_
  replace hy := g_b2_inv hy
  obtain ⟨x5, h6, hf7, hy⟩ := hy
  refine g_callS (rv := some (.int x5)) (h1 := h6) (pc' := 12) (As := [va_rf p0, .int p1, va_rf (some a1), .int (0 : Int32), .int p2]) (rest := []) 5 (T_StringUTF16_compress1 (hy := hf7)) d_StringUTF16_compress0_9 q471 q472 q120 q473 hd_StringUTF16_compress1 rfl ⟨by decide, by decide⟩ (by first | exact Nat.le_of_ble_eq_true rfl | (simp only [List.map, List.sum_cons, List.sum_nil, g_cat_rf]; exact Nat.le_of_ble_eq_true rfl) | (simp only [List.map, List.sum_cons, List.sum_nil, g_cat_rf, Value.category]; decide)) rfl ?_
  refine g_istore (pc' := 14) (Lc' := [(4, .int x5), (3, .ref a1), (0, va_rf p0), (1, .int p1), (2, .int p2)]) d_StringUTF16_compress0_12 (by decide) rfl rfl ?_
  refine g_iload 0 (pc' := 16) d_StringUTF16_compress0_14 rfl rfl ?_
  refine g_iload_n 4 (i := 2) (pc' := 17) d_StringUTF16_compress0_16 rfl rfl rfl ?_
  by_cases c8 : x5 = p2
  · rw [if_pos c8] at hy
    refine g_icmp_eqT (pc' := 64) d_StringUTF16_compress0_17 c8 (by decide) ?_
    refine g_aload_n 1 (i := 3) (pc' := 65) d_StringUTF16_compress0_64 rfl rfl rfl ?_
    cases hy
    refine g_stk (st' := [va_rf (some a1)]) rfl ?_
    exact g_aret rfl rfl rfl (Or.inr ⟨_, rfl⟩) d_StringUTF16_compress0_65
  · rw [if_neg c8] at hy
    refine g_icmp_eqF (pc' := 20) d_StringUTF16_compress0_17 64 c8 (by decide) rfl ?_
    cases hy
theorem hd_StringUTF16_compress0 : g_dsc y_StringUTF16_compress0 3 := ⟨by decide +kernel, by decide +kernel, by decide +kernel⟩
/-! java/lang/StringUTF16.coderFromArrayLen([BI)B -/
abbrev y_StringUTF16_coderFromArrayLen : MethodName := ⟨"java/lang/StringUTF16", "coderFromArrayLen", "([BI)B"⟩
abbrev k_StringUTF16_coderFromArrayLen : g_M := (prog_37_method_15_code, 2, "java/lang/StringUTF16", 12, (some FieldType.byte), "coderFromArrayLen", [], 0)
theorem d_StringUTF16_coderFromArrayLen_0 : decode prog_37_method_15_code 0 = .ok (.iload_n 1, 1) := by decide +kernel
theorem d_StringUTF16_coderFromArrayLen_1 : decode prog_37_method_15_code 1 = .ok (.aload_n 0, 1) := by decide +kernel
theorem d_StringUTF16_coderFromArrayLen_2 : decode prog_37_method_15_code 2 = .ok (.arraylength, 1) := by decide +kernel
theorem d_StringUTF16_coderFromArrayLen_3 : decode prog_37_method_15_code 3 = .ok (.isub, 1) := by decide +kernel
theorem d_StringUTF16_coderFromArrayLen_4 : decode prog_37_method_15_code 4 = .ok (.bipush 31, 2) := by decide +kernel
theorem d_StringUTF16_coderFromArrayLen_6 : decode prog_37_method_15_code 6 = .ok (.iushr, 1) := by decide +kernel
theorem d_StringUTF16_coderFromArrayLen_7 : decode prog_37_method_15_code 7 = .ok (.i2b, 1) := by decide +kernel
theorem d_StringUTF16_coderFromArrayLen_8 : decode prog_37_method_15_code 8 = .ok (.ireturn, 1) := by decide +kernel
def StringUTF16_coderFromArrayLen (h : g_AH) (p0 : Option Nat) (p1 : Int32) : Option (Int32) :=
  g_nn p0 fun a1 => g_len h a1 fun x6 => g_rq (narrow .byte (.int (((((p1 - x6)).toUInt32 >>> (((31 : Int32)).toUInt32 &&& Int32.toUInt32 31)).toInt32).toInt8.toInt32)) = .int (((((p1 - x6)).toUInt32 >>> (((31 : Int32)).toUInt32 &&& Int32.toUInt32 31)).toInt32).toInt8.toInt32)) <| some (((((p1 - x6)).toUInt32 >>> (((31 : Int32)).toUInt32 &&& Int32.toUInt32 31)).toInt32).toInt8.toInt32)
set_option maxHeartbeats 4000000 in
set_option maxRecDepth 100000 in
theorem T_StringUTF16_coderFromArrayLen {l : Launch} {B : g_B} (h : g_AH) (p0 : Option Nat) (p1 : Int32) (z : Int32) (hy : StringUTF16_coderFromArrayLen h p0 p1 = some z) : g_CT l B y_StringUTF16_coderFromArrayLen k_StringUTF16_coderFromArrayLen [va_rf p0, .int p1] h (.inl (some (.int z))) h := by
  refine g_start2 (Lc := [(0, va_rf p0), (1, .int p1)]) (by decide) rfl rfl (by rcases p0 with _ | p0 <;> exact Nat.le_of_ble_eq_true rfl) (by rcases p0 with _ | p0 <;> rfl) fun X => ?_
  unfold StringUTF16_coderFromArrayLen at hy
  refine g_iload_n 1 (i := 1) (pc' := 1) d_StringUTF16_coderFromArrayLen_0 rfl rfl rfl ?_
  refine g_aloadO_n 0 (i := 0) (pc' := 2) d_StringUTF16_coderFromArrayLen_1 rfl rfl rfl ?_
  replace hy := g_nn_inv hy
  obtain ⟨a1, rfl, hy⟩ := hy
  replace hy := g_len_inv hy
  obtain ⟨t2, y3, hc4, ht5, hy⟩ := hy
  refine g_alen (pc' := 3) d_StringUTF16_coderFromArrayLen_2 hc4 ht5 rfl rfl ?_
  generalize Int32.ofNat y3.1 = x6 at hy ⊢
  refine g_isub (pc' := 4) d_StringUTF16_coderFromArrayLen_3 rfl ?_
  refine g_bipush (v := (31 : Int32)) (pc' := 6) d_StringUTF16_coderFromArrayLen_4 (by decide) rfl ?_
  refine g_iushr (pc' := 7) d_StringUTF16_coderFromArrayLen_6 rfl ?_
  refine g_i2b (pc' := 8) d_StringUTF16_coderFromArrayLen_7 rfl ?_
  replace hy := g_rq_inv hy
  obtain ⟨c7, hy⟩ := hy
  cases hy
  exact g_zret rfl rfl rfl c7 d_StringUTF16_coderFromArrayLen_8
theorem hd_StringUTF16_coderFromArrayLen : g_dsc y_StringUTF16_coderFromArrayLen 2 := ⟨by decide +kernel, by decide +kernel, by decide +kernel⟩
/-! java/lang/String.<init>(Ljava/lang/AbstractStringBuilder;Ljava/lang/Void;)V -/
abbrev y_String_init1 : MethodName := ⟨"java/lang/String", "<init>", "(Ljava/lang/AbstractStringBuilder;Ljava/lang/Void;)V"⟩
abbrev k_String_init1 : g_M := (prog_34_method_150_code, 5, "java/lang/String", 26, none, "<init>", [], 0)
theorem d_String_init1_0 : decode prog_34_method_150_code 0 = .ok (.aload_n 0, 1) := by decide +kernel
theorem d_String_init1_1 : decode prog_34_method_150_code 1 = .ok (.invokespecial 1, 3) := by decide +kernel
theorem d_String_init1_4 : decode prog_34_method_150_code 4 = .ok (.aload_n 1, 1) := by decide +kernel
theorem d_String_init1_5 : decode prog_34_method_150_code 5 = .ok (.invokevirtual 552, 3) := by decide +kernel
theorem d_String_init1_8 : decode prog_34_method_150_code 8 = .ok (.astore_n 3, 1) := by decide +kernel
theorem d_String_init1_9 : decode prog_34_method_150_code 9 = .ok (.aload_n 1, 1) := by decide +kernel
theorem d_String_init1_10 : decode prog_34_method_150_code 10 = .ok (.invokevirtual 549, 3) := by decide +kernel
theorem d_String_init1_13 : decode prog_34_method_150_code 13 = .ok (.istore 4, 2) := by decide +kernel
theorem d_String_init1_15 : decode prog_34_method_150_code 15 = .ok (.aload_n 1, 1) := by decide +kernel
theorem d_String_init1_16 : decode prog_34_method_150_code 16 = .ok (.invokevirtual 1047, 3) := by decide +kernel
theorem d_String_init1_19 : decode prog_34_method_150_code 19 = .ok (.ifCond .eq 22, 3) := by decide +kernel
theorem d_String_init1_22 : decode prog_34_method_150_code 22 = .ok (.aload_n 0, 1) := by decide +kernel
theorem d_String_init1_23 : decode prog_34_method_150_code 23 = .ok (.iconst 0, 1) := by decide +kernel
theorem d_String_init1_24 : decode prog_34_method_150_code 24 = .ok (.putfield 15, 3) := by decide +kernel
theorem d_String_init1_27 : decode prog_34_method_150_code 27 = .ok (.aload_n 0, 1) := by decide +kernel
theorem d_String_init1_28 : decode prog_34_method_150_code 28 = .ok (.aload_n 3, 1) := by decide +kernel
theorem d_String_init1_29 : decode prog_34_method_150_code 29 = .ok (.iconst 0, 1) := by decide +kernel
theorem d_String_init1_30 : decode prog_34_method_150_code 30 = .ok (.iload 4, 2) := by decide +kernel
theorem d_String_init1_32 : decode prog_34_method_150_code 32 = .ok (.invokestatic 54, 3) := by decide +kernel
theorem d_String_init1_35 : decode prog_34_method_150_code 35 = .ok (.putfield 9, 3) := by decide +kernel
theorem d_String_init1_38 : decode prog_34_method_150_code 38 = .ok (.goto 59, 3) := by decide +kernel
theorem d_String_init1_41 : decode prog_34_method_150_code 41 = .ok (.getstatic 38, 3) := by decide +kernel
theorem d_String_init1_44 : decode prog_34_method_150_code 44 = .ok (.ifCond .eq 35, 3) := by decide +kernel
theorem d_String_init1_47 : decode prog_34_method_150_code 47 = .ok (.aload_n 1, 1) := by decide +kernel
theorem d_String_init1_48 : decode prog_34_method_150_code 48 = .ok (.getfield 1048, 3) := by decide +kernel
theorem d_String_init1_51 : decode prog_34_method_150_code 51 = .ok (.ifCond .eq 28, 3) := by decide +kernel
theorem d_String_init1_54 : decode prog_34_method_150_code 54 = .ok (.aload_n 0, 1) := by decide +kernel
theorem d_String_init1_55 : decode prog_34_method_150_code 55 = .ok (.aload_n 3, 1) := by decide +kernel
theorem d_String_init1_56 : decode prog_34_method_150_code 56 = .ok (.iconst 0, 1) := by decide +kernel
theorem d_String_init1_57 : decode prog_34_method_150_code 57 = .ok (.iload 4, 2) := by decide +kernel
theorem d_String_init1_59 : decode prog_34_method_150_code 59 = .ok (.invokestatic 1051, 3) := by decide +kernel
theorem d_String_init1_62 : decode prog_34_method_150_code 62 = .ok (.putfield 9, 3) := by decide +kernel
theorem d_String_init1_65 : decode prog_34_method_150_code 65 = .ok (.aload_n 0, 1) := by decide +kernel
theorem d_String_init1_66 : decode prog_34_method_150_code 66 = .ok (.aload_n 0, 1) := by decide +kernel
theorem d_String_init1_67 : decode prog_34_method_150_code 67 = .ok (.getfield 9, 3) := by decide +kernel
theorem d_String_init1_70 : decode prog_34_method_150_code 70 = .ok (.iload 4, 2) := by decide +kernel
theorem d_String_init1_72 : decode prog_34_method_150_code 72 = .ok (.invokestatic 47, 3) := by decide +kernel
theorem d_String_init1_75 : decode prog_34_method_150_code 75 = .ok (.putfield 15, 3) := by decide +kernel
theorem d_String_init1_78 : decode prog_34_method_150_code 78 = .ok (.return_, 1) := by decide +kernel
theorem d_String_init1_79 : decode prog_34_method_150_code 79 = .ok (.aload_n 0, 1) := by decide +kernel
theorem d_String_init1_80 : decode prog_34_method_150_code 80 = .ok (.iconst 1, 1) := by decide +kernel
theorem d_String_init1_81 : decode prog_34_method_150_code 81 = .ok (.putfield 15, 3) := by decide +kernel
theorem d_String_init1_84 : decode prog_34_method_150_code 84 = .ok (.aload_n 0, 1) := by decide +kernel
theorem d_String_init1_85 : decode prog_34_method_150_code 85 = .ok (.aload_n 3, 1) := by decide +kernel
theorem d_String_init1_86 : decode prog_34_method_150_code 86 = .ok (.iconst 0, 1) := by decide +kernel
theorem d_String_init1_87 : decode prog_34_method_150_code 87 = .ok (.iload 4, 2) := by decide +kernel
theorem d_String_init1_89 : decode prog_34_method_150_code 89 = .ok (.iconst 1, 1) := by decide +kernel
theorem d_String_init1_90 : decode prog_34_method_150_code 90 = .ok (.ishl, 1) := by decide +kernel
theorem d_String_init1_91 : decode prog_34_method_150_code 91 = .ok (.invokestatic 54, 3) := by decide +kernel
theorem d_String_init1_94 : decode prog_34_method_150_code 94 = .ok (.putfield 9, 3) := by decide +kernel
theorem d_String_init1_97 : decode prog_34_method_150_code 97 = .ok (.return_, 1) := by decide +kernel
def String_init1_79 (h : g_AH) (v0 : Nat) (v3 : Option Nat) (v4 : Int32) : Option g_AH :=
  g_rq (narrow .byte (.int (1 : Int32)) = .int (1 : Int32) ∧ fits .byte (.int (1 : Int32)) = true) <| g_pF h v0 18 1 (.int (1 : Int32)) fun h23 => g_b2 (Arrays_copyOfRange h23 v3 (0 : Int32) (v4 <<< ((1 : Int32) &&& 31))) fun x24 h25 => g_pF h25 v0 18 0 (va_rf x24) fun h30 => some h30
set_option maxHeartbeats 4000000 in
set_option maxRecDepth 100000 in
theorem W_String_init1_79 {X : g_X} (z : g_AH) (h : g_AH) (v0 : Nat) (v3 : Option Nat) (v4 : Int32) (hy : String_init1_79  h v0 v3 v4 = some z) : G X k_String_init1 (.inl none) z h 79 [(0, .ref v0), (3, va_rf v3), (4, .int v4)] [] := by
  unfold String_init1_79 at hy
  refine g_aload_n 0 (i := 0) (pc' := 80) d_String_init1_79 rfl rfl rfl ?_
  refine g_iconst (v := (1 : Int32)) (pc' := 81) d_String_init1_80 (by decide) rfl ?_
  replace hy := g_rq_inv hy
  obtain ⟨c19, hy⟩ := hy
  replace hy := g_pF_inv hy
  obtain ⟨fs20, hc21, hl22, hy⟩ := hy
  refine g_putfF (pc' := 84) d_String_init1_81 rfl hc21 rfl (by decide) hl22 rfl rfl c19.1 c19.2 q482 rfl rfl ?_
  generalize g_up h v0 (.inr (18, fs20.set 1 (.int (1 : Int32)))) = h23 at hy ⊢
  refine g_aload_n 0 (i := 0) (pc' := 85) d_String_init1_84 rfl rfl rfl ?_
  refine g_aloadO_n 1 (i := 3) (pc' := 86) d_String_init1_85 rfl rfl rfl ?_
  refine g_iconst (v := (0 : Int32)) (pc' := 87) d_String_init1_86 (by decide) rfl ?_
  refine g_iload 2 (pc' := 89) d_String_init1_87 rfl rfl ?_
  refine g_iconst (v := (1 : Int32)) (pc' := 90) d_String_init1_89 (by decide) rfl ?_
  refine g_ishl (pc' := 91) d_String_init1_90 rfl ?_
  replace hy := g_b2_inv hy
  obtain ⟨x24, h25, hf26, hy⟩ := hy
  refine g_callS (rv := some (va_rf x24)) (h1 := h25) (pc' := 94) (As := [va_rf v3, .int (0 : Int32), .int (v4 <<< ((1 : Int32) &&& 31))]) (rest := [.ref v0]) 3 (T_Arrays_copyOfRange (hy := hf26)) d_String_init1_91 q427 q428 q123 q429 hd_Arrays_copyOfRange rfl ⟨by decide, by decide⟩ (by first | exact Nat.le_of_ble_eq_true rfl | (simp only [List.map, List.sum_cons, List.sum_nil, g_cat_rf]; exact Nat.le_of_ble_eq_true rfl) | (simp only [List.map, List.sum_cons, List.sum_nil, g_cat_rf, Value.category]; decide)) rfl ?_
  replace hy := g_pF_inv hy
  obtain ⟨fs27, hc28, hl29, hy⟩ := hy
  refine g_putfF (pc' := 97) d_String_init1_94 rfl hc28 rfl (by decide) hl29 rfl rfl g_nar_rf g_fit_a q481 rfl rfl ?_
  generalize g_up h25 v0 (.inr (18, fs27.set 0 (va_rf x24))) = h30 at hy ⊢
  cases hy
  exact g_vret rfl rfl rfl d_String_init1_97
def String_init1 (h : g_AH) (this : Nat) (p0 : Option Nat) (p1 : Option Nat) : Option g_AH :=
  g_nn p0 fun a1 => g_is h a1 17 <| g_b (AbstractStringBuilder_getValue h a1) fun x4 => g_is h a1 17 <| g_b (StringBuilder_length h a1) fun x9 => g_is h a1 17 <| g_b (AbstractStringBuilder_isLatin1 h a1) fun x14 => if x14 = 0 then (if (1 : Int32) = 0 then (String_init1_79  h this x4 x9) else (g_gI h a1 17 2 fun x32 => if x32 = 0 then (String_init1_79  h this x4 x9) else (g_b2 (StringUTF16_compress0 h x4 (0 : Int32) x9) fun x36 h37 => g_pF h37 this 18 0 (va_rf x36) fun h42 => g_gR h42 this 18 0 fun x44 => g_b (StringUTF16_coderFromArrayLen h42 x44 x9) fun x47 => g_rq (narrow .byte (.int x47) = .int x47 ∧ fits .byte (.int x47) = true) <| g_pF h42 this 18 1 (.int x47) fun h54 => some h54))) else (g_rq (narrow .byte (.int (0 : Int32)) = .int (0 : Int32) ∧ fits .byte (.int (0 : Int32)) = true) <| g_pF h this 18 1 (.int (0 : Int32)) fun h59 => g_b2 (Arrays_copyOfRange h59 x4 (0 : Int32) x9) fun x60 h61 => g_pF h61 this 18 0 (va_rf x60) fun h66 => some h66)
set_option maxHeartbeats 4000000 in
set_option maxRecDepth 100000 in
theorem T_String_init1 {l : Launch} {B : g_B} (h : g_AH) (this : Nat) (p0 : Option Nat) (p1 : Option Nat) (z : g_AH) (hy : String_init1 h this p0 p1 = some z) : g_CT l B y_String_init1 k_String_init1 [.ref this, va_rf p0, va_rf p1] h (.inl none) z := by
  refine g_start2 (Lc := [(0, .ref this), (1, va_rf p0), (2, va_rf p1)]) (by decide) rfl rfl (by rcases p0 with _ | p0 <;> rcases p1 with _ | p1 <;> exact Nat.le_of_ble_eq_true rfl) (by rcases p0 with _ | p0 <;> rcases p1 with _ | p1 <;> rfl) fun X => ?_
  unfold String_init1 at hy
  refine g_aload_n 0 (i := 0) (pc' := 1) d_String_init1_0 rfl rfl rfl ?_
  refine g_objInit (pc' := 4) d_String_init1_1 q412 (by first | exact Nat.le_of_ble_eq_true rfl | (simp only [List.map, List.sum_cons, List.sum_nil, g_cat_rf]; exact Nat.le_of_ble_eq_true rfl) | (simp only [List.map, List.sum_cons, List.sum_nil, g_cat_rf, Value.category]; decide)) (by decide) rfl ?_
  refine g_aloadO_n 1 (i := 1) (pc' := 5) d_String_init1_4 rfl rfl rfl ?_
  replace hy := g_nn_inv hy
  obtain ⟨a1, rfl, hy⟩ := hy
  replace hy := g_is_inv hy
  obtain ⟨fs2, hc3, hy⟩ := hy
  replace hy := g_b_inv hy
  obtain ⟨x4, hf6, hy⟩ := hy
  refine g_callU (x := y_AbstractStringBuilder_getValue) (rv := some (va_rf x4)) (h1 := h) (pc' := 8) (As := []) (rest := []) 0 (T_AbstractStringBuilder_getValue (hy := hf6)) d_String_init1_5 hc3 rfl rfl (g_wsU q413 q415 q416 q414 q117 q417) ⟨by decide, by decide, by decide +kernel⟩ rfl ⟨by decide, by decide⟩ (by first | exact Nat.le_of_ble_eq_true rfl | (simp only [List.map, List.sum_cons, List.sum_nil, g_cat_rf]; exact Nat.le_of_ble_eq_true rfl) | (simp only [List.map, List.sum_cons, List.sum_nil, g_cat_rf, Value.category]; decide)) rfl ?_
  refine g_astoreO_n (i := 3) (pc' := 9) (Lc' := [(3, va_rf x4), (0, .ref this), (1, .ref a1), (2, va_rf p1)]) d_String_init1_8 rfl (by decide) (by cases p1 <;> rfl) rfl ?_
  refine g_aload_n 2 (i := 1) (pc' := 10) d_String_init1_9 rfl rfl rfl ?_
  replace hy := g_is_inv hy
  obtain ⟨fs7, hc8, hy⟩ := hy
  replace hy := g_b_inv hy
  obtain ⟨x9, hf11, hy⟩ := hy
  refine g_callO (x := ⟨"java/lang/AbstractStringBuilder", "length", "()I"⟩) (rv := some (.int x9)) (h1 := h) (pc' := 13) (As := []) (rest := []) 0 (T_StringBuilder_length (hy := hf11)) d_String_init1_10 hc8 rfl q418 q420 q419 q421 q422 q118 q423 q425 hd_AbstractStringBuilder_length rfl ⟨by decide, by decide⟩ (by first | exact Nat.le_of_ble_eq_true rfl | (simp only [List.map, List.sum_cons, List.sum_nil, g_cat_rf]; exact Nat.le_of_ble_eq_true rfl) | (simp only [List.map, List.sum_cons, List.sum_nil, g_cat_rf, Value.category]; decide)) rfl ?_
  refine g_istore (pc' := 15) (Lc' := [(4, .int x9), (3, va_rf x4), (0, .ref this), (1, .ref a1), (2, va_rf p1)]) d_String_init1_13 (by decide) (by cases x4 <;> rfl) rfl ?_
  refine g_aload_n 3 (i := 1) (pc' := 16) d_String_init1_15 rfl rfl rfl ?_
  replace hy := g_is_inv hy
  obtain ⟨fs12, hc13, hy⟩ := hy
  replace hy := g_b_inv hy
  obtain ⟨x14, hf16, hy⟩ := hy
  refine g_callU (x := y_AbstractStringBuilder_isLatin1) (rv := some (.int x14)) (h1 := h) (pc' := 19) (As := []) (rest := []) 0 (T_AbstractStringBuilder_isLatin1 (hy := hf16)) d_String_init1_16 hc13 rfl rfl (g_wsU q426 q303 q304 q302 q117 q305) ⟨by decide, by decide, by decide +kernel⟩ rfl ⟨by decide, by decide⟩ (by first | exact Nat.le_of_ble_eq_true rfl | (simp only [List.map, List.sum_cons, List.sum_nil, g_cat_rf]; exact Nat.le_of_ble_eq_true rfl) | (simp only [List.map, List.sum_cons, List.sum_nil, g_cat_rf, Value.category]; decide)) rfl ?_
  by_cases c17 : x14 = 0
  · rw [if_pos c17] at hy
    refine g_if_eqT (pc' := 41) d_String_init1_19 c17 (by decide) ?_
    refine g_compact (pc' := 44) d_String_init1_41 q340 rfl ?_
    by_cases c18 : (1 : Int32) = 0
    · rw [if_pos c18] at hy
      refine g_if_eqT (pc' := 79) d_String_init1_44 c18 (by decide) ?_
      refine g_sub [2, 1, 0] rfl ?_
      exact W_String_init1_79 _ _ _ _ _ hy
    · rw [if_neg c18] at hy
      refine g_if_eqF (pc' := 47) d_String_init1_44 79 c18 (by decide) rfl ?_
      refine g_aload_n 3 (i := 1) (pc' := 48) d_String_init1_47 rfl rfl rfl ?_
      replace hy := g_gI_inv hy
      obtain ⟨fs31, x32, hc33, hv34, hy⟩ := hy
      refine g_getf (pc' := 51) d_String_init1_48 hc33 rfl (by decide) hv34 q241 (Or.inl rfl) rfl ?_
      by_cases c35 : x32 = 0
      · rw [if_pos c35] at hy
        refine g_if_eqT (pc' := 79) d_String_init1_51 c35 (by decide) ?_
        refine g_sub [2, 1, 0] rfl ?_
        exact W_String_init1_79 _ _ _ _ _ hy
      · rw [if_neg c35] at hy
        refine g_if_eqF (pc' := 54) d_String_init1_51 79 c35 (by decide) rfl ?_
        refine g_aload_n 2 (i := 0) (pc' := 55) d_String_init1_54 rfl rfl rfl ?_
        refine g_aloadO_n 1 (i := 3) (pc' := 56) d_String_init1_55 rfl rfl rfl ?_
        refine g_iconst (v := (0 : Int32)) (pc' := 57) d_String_init1_56 (by decide) rfl ?_
        refine g_iload 0 (pc' := 59) d_String_init1_57 rfl rfl ?_
        replace hy := g_b2_inv hy
        obtain ⟨x36, h37, hf38, hy⟩ := hy
        refine g_callS (rv := some (va_rf x36)) (h1 := h37) (pc' := 62) (As := [va_rf x4, .int (0 : Int32), .int x9]) (rest := [.ref this]) 3 (T_StringUTF16_compress0 (hy := hf38)) d_String_init1_59 q468 q469 q120 q470 hd_StringUTF16_compress0 rfl ⟨by decide, by decide⟩ (by first | exact Nat.le_of_ble_eq_true rfl | (simp only [List.map, List.sum_cons, List.sum_nil, g_cat_rf]; exact Nat.le_of_ble_eq_true rfl) | (simp only [List.map, List.sum_cons, List.sum_nil, g_cat_rf, Value.category]; decide)) rfl ?_
        replace hy := g_pF_inv hy
        obtain ⟨fs39, hc40, hl41, hy⟩ := hy
        refine g_putfF (pc' := 65) d_String_init1_62 rfl hc40 rfl (by decide) hl41 rfl rfl g_nar_rf g_fit_a q481 rfl rfl ?_
        generalize g_up h37 this (.inr (18, fs39.set 0 (va_rf x36))) = h42 at hy ⊢
        refine g_aload_n 2 (i := 0) (pc' := 66) d_String_init1_65 rfl rfl rfl ?_
        refine g_aload_n 2 (i := 0) (pc' := 67) d_String_init1_66 rfl rfl rfl ?_
        replace hy := g_gR_inv hy
        obtain ⟨fs43, x44, hc45, hv46, hy⟩ := hy
        refine g_getf (pc' := 70) d_String_init1_67 hc45 rfl (by decide) hv46 q481 (Or.inl rfl) rfl ?_
        refine g_iload 0 (pc' := 72) d_String_init1_70 rfl rfl ?_
        replace hy := g_b_inv hy
        obtain ⟨x47, hf49, hy⟩ := hy
        refine g_callS (rv := some (.int x47)) (h1 := h42) (pc' := 75) (As := [va_rf x44, .int x9]) (rest := [.ref this]) 2 (T_StringUTF16_coderFromArrayLen (hy := hf49)) d_String_init1_72 q478 q479 q120 q480 hd_StringUTF16_coderFromArrayLen rfl ⟨by decide, by decide⟩ (by first | exact Nat.le_of_ble_eq_true rfl | (simp only [List.map, List.sum_cons, List.sum_nil, g_cat_rf]; exact Nat.le_of_ble_eq_true rfl) | (simp only [List.map, List.sum_cons, List.sum_nil, g_cat_rf, Value.category]; decide)) rfl ?_
        replace hy := g_rq_inv hy
        obtain ⟨c50, hy⟩ := hy
        replace hy := g_pF_inv hy
        obtain ⟨fs51, hc52, hl53, hy⟩ := hy
        refine g_putfF (pc' := 78) d_String_init1_75 rfl hc52 rfl (by decide) hl53 rfl rfl c50.1 c50.2 q482 rfl rfl ?_
        generalize g_up h42 this (.inr (18, fs51.set 1 (.int x47))) = h54 at hy ⊢
        cases hy
        exact g_vret rfl rfl rfl d_String_init1_78
  · rw [if_neg c17] at hy
    refine g_if_eqF (pc' := 22) d_String_init1_19 41 c17 (by decide) rfl ?_
    refine g_aload_n 2 (i := 0) (pc' := 23) d_String_init1_22 rfl rfl rfl ?_
    refine g_iconst (v := (0 : Int32)) (pc' := 24) d_String_init1_23 (by decide) rfl ?_
    replace hy := g_rq_inv hy
    obtain ⟨c55, hy⟩ := hy
    replace hy := g_pF_inv hy
    obtain ⟨fs56, hc57, hl58, hy⟩ := hy
    refine g_putfF (pc' := 27) d_String_init1_24 rfl hc57 rfl (by decide) hl58 rfl rfl c55.1 c55.2 q482 rfl rfl ?_
    generalize g_up h this (.inr (18, fs56.set 1 (.int (0 : Int32)))) = h59 at hy ⊢
    refine g_aload_n 2 (i := 0) (pc' := 28) d_String_init1_27 rfl rfl rfl ?_
    refine g_aloadO_n 1 (i := 3) (pc' := 29) d_String_init1_28 rfl rfl rfl ?_
    refine g_iconst (v := (0 : Int32)) (pc' := 30) d_String_init1_29 (by decide) rfl ?_
    refine g_iload 0 (pc' := 32) d_String_init1_30 rfl rfl ?_
    replace hy := g_b2_inv hy
    obtain ⟨x60, h61, hf62, hy⟩ := hy
    refine g_callS (rv := some (va_rf x60)) (h1 := h61) (pc' := 35) (As := [va_rf x4, .int (0 : Int32), .int x9]) (rest := [.ref this]) 3 (T_Arrays_copyOfRange (hy := hf62)) d_String_init1_32 q427 q428 q123 q429 hd_Arrays_copyOfRange rfl ⟨by decide, by decide⟩ (by first | exact Nat.le_of_ble_eq_true rfl | (simp only [List.map, List.sum_cons, List.sum_nil, g_cat_rf]; exact Nat.le_of_ble_eq_true rfl) | (simp only [List.map, List.sum_cons, List.sum_nil, g_cat_rf, Value.category]; decide)) rfl ?_
    replace hy := g_pF_inv hy
    obtain ⟨fs63, hc64, hl65, hy⟩ := hy
    refine g_putfF (pc' := 38) d_String_init1_35 rfl hc64 rfl (by decide) hl65 rfl rfl g_nar_rf g_fit_a q481 rfl rfl ?_
    generalize g_up h61 this (.inr (18, fs63.set 0 (va_rf x60))) = h66 at hy ⊢
    refine g_goto (pc' := 97) d_String_init1_38 (by decide) ?_
    cases hy
    exact g_vret rfl rfl rfl d_String_init1_97
theorem hd_String_init1 : g_dsc y_String_init1 2 := ⟨by decide +kernel, by decide +kernel, by decide +kernel⟩
/-! java/lang/String.<init>(Ljava/lang/StringBuilder;)V -/
abbrev y_String_init0 : MethodName := ⟨"java/lang/String", "<init>", "(Ljava/lang/StringBuilder;)V"⟩
abbrev k_String_init0 : g_M := (prog_34_method_53_code, 2, "java/lang/String", 27, none, "<init>", [], 0)
theorem d_String_init0_0 : decode prog_34_method_53_code 0 = .ok (.aload_n 0, 1) := by decide +kernel
theorem d_String_init0_1 : decode prog_34_method_53_code 1 = .ok (.aload_n 1, 1) := by decide +kernel
theorem d_String_init0_2 : decode prog_34_method_53_code 2 = .ok (.aconst_null, 1) := by decide +kernel
theorem d_String_init0_3 : decode prog_34_method_53_code 3 = .ok (.invokespecial 489, 3) := by decide +kernel
theorem d_String_init0_6 : decode prog_34_method_53_code 6 = .ok (.return_, 1) := by decide +kernel
def String_init0 (h : g_AH) (this : Nat) (p0 : Option Nat) : Option g_AH :=
  g_b (String_init1 h this p0 none) fun h2 => some h2
set_option maxHeartbeats 4000000 in
set_option maxRecDepth 100000 in
theorem T_String_init0 {l : Launch} {B : g_B} (h : g_AH) (this : Nat) (p0 : Option Nat) (z : g_AH) (hy : String_init0 h this p0 = some z) : g_CT l B y_String_init0 k_String_init0 [.ref this, va_rf p0] h (.inl none) z := by
  refine g_start2 (Lc := [(0, .ref this), (1, va_rf p0)]) (by decide) rfl rfl (by rcases p0 with _ | p0 <;> exact Nat.le_of_ble_eq_true rfl) (by rcases p0 with _ | p0 <;> rfl) fun X => ?_
  unfold String_init0 at hy
  refine g_aload_n 0 (i := 0) (pc' := 1) d_String_init0_0 rfl rfl rfl ?_
  refine g_aloadO_n 1 (i := 1) (pc' := 2) d_String_init0_1 rfl rfl rfl ?_
  refine g_null (pc' := 3) d_String_init0_2 rfl ?_
  replace hy := g_b_inv hy
  obtain ⟨h2, hf3, hy⟩ := hy
  refine g_callI (h1 := h2) (pc' := 6) (As := [va_rf p0, va_rf none]) (rest := []) 2 (T_String_init1 (hy := hf3)) d_String_init0_3 rfl rfl q409 q410 q119 q411 hd_String_init1 rfl ⟨by decide, by decide⟩ (by first | exact Nat.le_of_ble_eq_true rfl | (simp only [List.map, List.sum_cons, List.sum_nil, g_cat_rf]; exact Nat.le_of_ble_eq_true rfl) | (simp only [List.map, List.sum_cons, List.sum_nil, g_cat_rf, Value.category]; decide)) rfl ?_
  cases hy
  exact g_vret rfl rfl rfl d_String_init0_6
theorem hd_String_init0 : g_dsc y_String_init0 1 := ⟨by decide +kernel, by decide +kernel, by decide +kernel⟩
/-! java/lang/StringBuilder.toString()Ljava/lang/String; -/
abbrev y_StringBuilder_toString : MethodName := ⟨"java/lang/StringBuilder", "toString", "()Ljava/lang/String;"⟩
abbrev k_StringBuilder_toString : g_M := (prog_35_method_42_code, 1, "java/lang/StringBuilder", 28, (some (FieldType.object "java/lang/String")), "toString", [], 0)
theorem d_StringBuilder_toString_0 : decode prog_35_method_42_code 0 = .ok (.new 18, 3) := by decide +kernel
theorem d_StringBuilder_toString_3 : decode prog_35_method_42_code 3 = .ok (.dup, 1) := by decide +kernel
theorem d_StringBuilder_toString_4 : decode prog_35_method_42_code 4 = .ok (.aload_n 0, 1) := by decide +kernel
theorem d_StringBuilder_toString_5 : decode prog_35_method_42_code 5 = .ok (.invokespecial 137, 3) := by decide +kernel
theorem d_StringBuilder_toString_8 : decode prog_35_method_42_code 8 = .ok (.areturn, 1) := by decide +kernel
def StringBuilder_toString (h : g_AH) (this : Nat) : Option (Option Nat × g_AH) :=
  g_mk h (.inr (18, [.null, .int 0, .int 0, .int 0])) 4 fun a1 h2 => g_b (String_init0 h2 a1 (some this)) fun h4 => some ((some a1), h4)
set_option maxHeartbeats 4000000 in
set_option maxRecDepth 100000 in
theorem T_StringBuilder_toString {l : Launch} {B : g_B} (h : g_AH) (this : Nat) (z : Option Nat × g_AH) (hy : StringBuilder_toString h this = some z) : g_CT l B y_StringBuilder_toString k_StringBuilder_toString [.ref this] h (.inl (some (va_rf z.1))) z.2 := by
  refine g_start2 (Lc := [(0, .ref this)]) (by decide) rfl rfl (by exact Nat.le_of_ble_eq_true rfl) (by rfl) fun X => ?_
  unfold StringBuilder_toString at hy
  replace hy := g_mk_inv hy
  refine g_new (ci := 18) (fs := [.null, .int 0, .int 0, .int 0]) (pc' := 3) d_StringBuilder_toString_0 rfl q404 q405 q119 gdf_18 rfl ?_
  generalize g_al h (.inr (18, [.null, .int 0, .int 0, .int 0])) 4 = h2 at hy ⊢
  generalize g_n h = a1 at hy ⊢
  refine g_dup (pc' := 4) d_StringBuilder_toString_3 rfl rfl ?_
  refine g_aload_n 0 (i := 0) (pc' := 5) d_StringBuilder_toString_4 rfl rfl rfl ?_
  replace hy := g_b_inv hy
  obtain ⟨h4, hf5, hy⟩ := hy
  refine g_callI (h1 := h4) (pc' := 8) (As := [va_rf (some this)]) (rest := [.ref a1]) 1 (T_String_init0 (hy := hf5)) d_StringBuilder_toString_5 rfl rfl q406 q407 q119 q408 hd_String_init0 rfl ⟨by decide, by decide⟩ (by first | exact Nat.le_of_ble_eq_true rfl | (simp only [List.map, List.sum_cons, List.sum_nil, g_cat_rf]; exact Nat.le_of_ble_eq_true rfl) | (simp only [List.map, List.sum_cons, List.sum_nil, g_cat_rf, Value.category]; decide)) rfl ?_
  cases hy
  refine g_stk (st' := [va_rf (some a1)]) rfl ?_
  exact g_aret rfl rfl rfl (Or.inl ⟨_, rfl⟩) d_StringBuilder_toString_8
theorem hd_StringBuilder_toString : g_dsc y_StringBuilder_toString 0 := ⟨by decide +kernel, by decide +kernel, by decide +kernel⟩
/-! java/util/ArrayList.<init>(I)V -/
abbrev y_ArrayList_init : MethodName := ⟨"java/util/ArrayList", "<init>", "(I)V"⟩
abbrev k_ArrayList_init : g_M := (prog_45_method_1_code, 2, "java/util/ArrayList", 29, none, "<init>", [], 0)
theorem d_ArrayList_init_0 : decode prog_45_method_1_code 0 = .ok (.aload_n 0, 1) := by decide +kernel
theorem d_ArrayList_init_1 : decode prog_45_method_1_code 1 = .ok (.invokespecial 1, 3) := by decide +kernel
theorem d_ArrayList_init_4 : decode prog_45_method_1_code 4 = .ok (.iload_n 1, 1) := by decide +kernel
theorem d_ArrayList_init_5 : decode prog_45_method_1_code 5 = .ok (.ifCond .le 14, 3) := by decide +kernel
theorem d_ArrayList_init_8 : decode prog_45_method_1_code 8 = .ok (.aload_n 0, 1) := by decide +kernel
theorem d_ArrayList_init_9 : decode prog_45_method_1_code 9 = .ok (.iload_n 1, 1) := by decide +kernel
theorem d_ArrayList_init_10 : decode prog_45_method_1_code 10 = .ok (.anewarray 7, 3) := by decide +kernel
theorem d_ArrayList_init_13 : decode prog_45_method_1_code 13 = .ok (.putfield 9, 3) := by decide +kernel
theorem d_ArrayList_init_16 : decode prog_45_method_1_code 16 = .ok (.goto 44, 3) := by decide +kernel
theorem d_ArrayList_init_19 : decode prog_45_method_1_code 19 = .ok (.iload_n 1, 1) := by decide +kernel
theorem d_ArrayList_init_20 : decode prog_45_method_1_code 20 = .ok (.ifCond .ne 13, 3) := by decide +kernel
theorem d_ArrayList_init_60 : decode prog_45_method_1_code 60 = .ok (.return_, 1) := by decide +kernel
def ArrayList_init (h : g_AH) (this : Nat) (p0 : Int32) : Option g_AH :=
  g_b (AbstractList_init h this) fun h2 => if p0 ≤ 0 then (if p0 = 0 then (none) else (none)) else (g_mkQ h2 5 p0 fun a6 h7 => g_pF h7 this 15 1 (.ref a6) fun h13 => some h13)
set_option maxHeartbeats 4000000 in
set_option maxRecDepth 100000 in
theorem T_ArrayList_init {l : Launch} {B : g_B} (h : g_AH) (this : Nat) (p0 : Int32) (z : g_AH) (hy : ArrayList_init h this p0 = some z) : g_CT l B y_ArrayList_init k_ArrayList_init [.ref this, .int p0] h (.inl none) z := by
  refine g_start2 (Lc := [(0, .ref this), (1, .int p0)]) (by decide) rfl rfl (by exact Nat.le_of_ble_eq_true rfl) (by rfl) fun X => ?_
  unfold ArrayList_init at hy
  refine g_aload_n 0 (i := 0) (pc' := 1) d_ArrayList_init_0 rfl rfl rfl ?_
  replace hy := g_b_inv hy
  obtain ⟨h2, hf3, hy⟩ := hy
  refine g_callI (h1 := h2) (pc' := 4) (As := []) (rest := []) 0 (T_AbstractList_init (hy := hf3)) d_ArrayList_init_1 rfl rfl q167 q168 q111 q169 hd_AbstractList_init rfl ⟨by decide, by decide⟩ (by first | exact Nat.le_of_ble_eq_true rfl | (simp only [List.map, List.sum_cons, List.sum_nil, g_cat_rf]; exact Nat.le_of_ble_eq_true rfl) | (simp only [List.map, List.sum_cons, List.sum_nil, g_cat_rf, Value.category]; decide)) rfl ?_
  refine g_iload_n 1 (i := 1) (pc' := 5) d_ArrayList_init_4 rfl rfl rfl ?_
  by_cases c4 : p0 ≤ 0
  · rw [if_pos c4] at hy
    refine g_if_leT (pc' := 19) d_ArrayList_init_5 c4 (by decide) ?_
    refine g_iload_n 1 (i := 1) (pc' := 20) d_ArrayList_init_19 rfl rfl rfl ?_
    by_cases c5 : p0 = 0
    · rw [if_pos c5] at hy
      refine g_if_neF (pc' := 23) d_ArrayList_init_20 33 c5 (by decide) rfl ?_
      cases hy
    · rw [if_neg c5] at hy
      refine g_if_neT (pc' := 33) d_ArrayList_init_20 c5 (by decide) ?_
      cases hy
  · rw [if_neg c4] at hy
    refine g_if_leF (pc' := 8) d_ArrayList_init_5 19 c4 (by decide) rfl ?_
    refine g_aload_n 0 (i := 0) (pc' := 9) d_ArrayList_init_8 rfl rfl rfl ?_
    refine g_iload_n 1 (i := 1) (pc' := 10) d_ArrayList_init_9 rfl rfl rfl ?_
    replace hy := g_mkQ_inv hy
    obtain ⟨hn8, hb9, hy⟩ := hy
    refine g_anew (t := 5) (C := "java/lang/Object") (pc' := 13) d_ArrayList_init_10 q174 (fun _ => rfl) (by decide) hn8 hb9 rfl ?_
    generalize g_al h2 (.inl (5, (p0).toNatClampNeg, .inr (.inr (.inr (.inr (fun _ => none)))))) (p0).toNatClampNeg = h7 at hy ⊢
    generalize g_n h2 = a6 at hy ⊢
    replace hy := g_pF_inv hy
    obtain ⟨fs10, hc11, hl12, hy⟩ := hy
    refine g_putf (pc' := 16) d_ArrayList_init_13 hc11 rfl (by decide) hl12 rfl rfl rfl q495 (Or.inl rfl) rfl ?_
    generalize g_up h7 this (.inr (15, fs10.set 1 (.ref a6))) = h13 at hy ⊢
    refine g_goto (pc' := 60) d_ArrayList_init_16 (by decide) ?_
    cases hy
    exact g_vret rfl rfl rfl d_ArrayList_init_60
theorem hd_ArrayList_init : g_dsc y_ArrayList_init 1 := ⟨by decide +kernel, by decide +kernel, by decide +kernel⟩
/-! java/lang/StringLatin1.canEncode(C)Z -/
abbrev y_StringLatin1_canEncode : MethodName := ⟨"java/lang/StringLatin1", "canEncode", "(C)Z"⟩
abbrev k_StringLatin1_canEncode : g_M := (prog_36_method_3_code, 1, "java/lang/StringLatin1", 12, (some FieldType.boolean), "canEncode", [], 0)
theorem d_StringLatin1_canEncode_0 : decode prog_36_method_3_code 0 = .ok (.iload_n 0, 1) := by decide +kernel
theorem d_StringLatin1_canEncode_1 : decode prog_36_method_3_code 1 = .ok (.sipush 255, 3) := by decide +kernel
theorem d_StringLatin1_canEncode_4 : decode prog_36_method_3_code 4 = .ok (.if_icmp .gt 7, 3) := by decide +kernel
theorem d_StringLatin1_canEncode_7 : decode prog_36_method_3_code 7 = .ok (.iconst 1, 1) := by decide +kernel
theorem d_StringLatin1_canEncode_8 : decode prog_36_method_3_code 8 = .ok (.goto 4, 3) := by decide +kernel
theorem d_StringLatin1_canEncode_11 : decode prog_36_method_3_code 11 = .ok (.iconst 0, 1) := by decide +kernel
theorem d_StringLatin1_canEncode_12 : decode prog_36_method_3_code 12 = .ok (.ireturn, 1) := by decide +kernel
def StringLatin1_canEncode (p0 : Int32) : Option (Int32) :=
  if (255 : Int32) < p0 then (some (0 : Int32)) else (some (1 : Int32))
set_option maxHeartbeats 4000000 in
set_option maxRecDepth 100000 in
theorem T_StringLatin1_canEncode {l : Launch} {B : g_B} {h : g_AH} (p0 : Int32) (z : Int32) (hy : StringLatin1_canEncode p0 = some z) : g_CT l B y_StringLatin1_canEncode k_StringLatin1_canEncode [.int p0] h (.inl (some (.int z))) h := by
  refine g_start2 (Lc := [(0, .int p0)]) (by decide) rfl rfl (by exact Nat.le_of_ble_eq_true rfl) (by rfl) fun X => ?_
  unfold StringLatin1_canEncode at hy
  refine g_iload_n 0 (i := 0) (pc' := 1) d_StringLatin1_canEncode_0 rfl rfl rfl ?_
  refine g_sipush (v := (255 : Int32)) (pc' := 4) d_StringLatin1_canEncode_1 (by decide) rfl ?_
  by_cases c1 : (255 : Int32) < p0
  · rw [if_pos c1] at hy
    refine g_icmp_gtT (pc' := 11) d_StringLatin1_canEncode_4 c1 (by decide) ?_
    refine g_iconst (v := (0 : Int32)) (pc' := 12) d_StringLatin1_canEncode_11 (by decide) rfl ?_
    cases hy
    exact g_zret rfl rfl rfl (g_nar_z (Or.inl rfl)).1 d_StringLatin1_canEncode_12
  · rw [if_neg c1] at hy
    refine g_icmp_gtF (pc' := 7) d_StringLatin1_canEncode_4 11 c1 (by decide) rfl ?_
    refine g_iconst (v := (1 : Int32)) (pc' := 8) d_StringLatin1_canEncode_7 (by decide) rfl ?_
    refine g_goto (pc' := 12) d_StringLatin1_canEncode_8 (by decide) ?_
    cases hy
    exact g_zret rfl rfl rfl (g_nar_z (Or.inr rfl)).1 d_StringLatin1_canEncode_12
theorem hd_StringLatin1_canEncode : g_dsc y_StringLatin1_canEncode 1 := ⟨by decide +kernel, by decide +kernel, by decide +kernel⟩
/-! java/lang/String.checkIndex(II)V -/
abbrev y_String_checkIndex : MethodName := ⟨"java/lang/String", "checkIndex", "(II)V"⟩
abbrev k_String_checkIndex : g_M := (prog_34_method_155_code, 2, "java/lang/String", 13, none, "checkIndex", [], 0)
theorem d_String_checkIndex_0 : decode prog_34_method_155_code 0 = .ok (.iload_n 0, 1) := by decide +kernel
theorem d_String_checkIndex_1 : decode prog_34_method_155_code 1 = .ok (.iload_n 1, 1) := by decide +kernel
theorem d_String_checkIndex_2 : decode prog_34_method_155_code 2 = .ok (.getstatic 1053, 3) := by decide +kernel
theorem d_String_checkIndex_5 : decode prog_34_method_155_code 5 = .ok (.invokestatic 1059, 3) := by decide +kernel
theorem d_String_checkIndex_8 : decode prog_34_method_155_code 8 = .ok (.pop, 1) := by decide +kernel
theorem d_String_checkIndex_9 : decode prog_34_method_155_code 9 = .ok (.return_, 1) := by decide +kernel
def String_checkIndex (h : g_AH) (p0 : Int32) (p1 : Int32) : Option (Unit) :=
  g_b (Preconditions_checkIndex p0 p1 (g_opt (g_str h 101))) fun x1 => some ()
set_option maxHeartbeats 4000000 in
set_option maxRecDepth 100000 in
theorem T_String_checkIndex {l : Launch} {B : g_B} (h : g_AH) (p0 : Int32) (p1 : Int32) (z : Unit) (hy : String_checkIndex h p0 p1 = some z) : g_CT l B y_String_checkIndex k_String_checkIndex [.int p0, .int p1] h (.inl none) h := by
  refine g_start2 (Lc := [(0, .int p0), (1, .int p1)]) (by decide) rfl rfl (by exact Nat.le_of_ble_eq_true rfl) (by rfl) fun X => ?_
  unfold String_checkIndex at hy
  refine g_iload_n 0 (i := 0) (pc' := 1) d_String_checkIndex_0 rfl rfl rfl ?_
  refine g_iload_n 1 (i := 1) (pc' := 2) d_String_checkIndex_1 rfl rfl rfl ?_
  refine g_getst (pc' := 5) d_String_checkIndex_2 (List.mem_of_getElem? (i := 0) rfl) q318 rfl ?_
  replace hy := g_b_inv hy
  obtain ⟨x1, hf3, hy⟩ := hy
  refine g_callS (rv := some (.int x1)) (h1 := h) (pc' := 8) (As := [.int p0, .int p1, va_rf (g_opt (g_str h 101))]) (rest := []) 3 (T_Preconditions_checkIndex (hy := hf3)) d_String_checkIndex_5 q855 q690 q125 q691 hd_Preconditions_checkIndex rfl ⟨by decide, by decide⟩ (by first | exact Nat.le_of_ble_eq_true rfl | (simp only [List.map, List.sum_cons, List.sum_nil, g_cat_rf]; exact Nat.le_of_ble_eq_true rfl) | (simp only [List.map, List.sum_cons, List.sum_nil, g_cat_rf, Value.category]; decide)) rfl ?_
  refine g_pop (pc' := 9) d_String_checkIndex_8 rfl rfl ?_
  cases hy
  exact g_vret rfl rfl rfl d_String_checkIndex_9
theorem hd_String_checkIndex : g_dsc y_String_checkIndex 2 := ⟨by decide +kernel, by decide +kernel, by decide +kernel⟩
/-! java/lang/StringUTF16.checkIndex(I[B)V -/
abbrev y_StringUTF16_checkIndex : MethodName := ⟨"java/lang/StringUTF16", "checkIndex", "(I[B)V"⟩
abbrev k_StringUTF16_checkIndex : g_M := (prog_37_method_91_code, 2, "java/lang/StringUTF16", 14, none, "checkIndex", [], 0)
theorem d_StringUTF16_checkIndex_0 : decode prog_37_method_91_code 0 = .ok (.iload_n 0, 1) := by decide +kernel
theorem d_StringUTF16_checkIndex_1 : decode prog_37_method_91_code 1 = .ok (.aload_n 1, 1) := by decide +kernel
theorem d_StringUTF16_checkIndex_2 : decode prog_37_method_91_code 2 = .ok (.invokestatic 48, 3) := by decide +kernel
theorem d_StringUTF16_checkIndex_5 : decode prog_37_method_91_code 5 = .ok (.invokestatic 414, 3) := by decide +kernel
theorem d_StringUTF16_checkIndex_8 : decode prog_37_method_91_code 8 = .ok (.return_, 1) := by decide +kernel
def StringUTF16_checkIndex (h : g_AH) (p0 : Int32) (p1 : Option Nat) : Option (Unit) :=
  g_b (StringUTF16_length h p1) fun x1 => g_b (String_checkIndex h p0 x1) fun x4 => some ()
set_option maxHeartbeats 4000000 in
set_option maxRecDepth 100000 in
theorem T_StringUTF16_checkIndex {l : Launch} {B : g_B} (h : g_AH) (p0 : Int32) (p1 : Option Nat) (z : Unit) (hy : StringUTF16_checkIndex h p0 p1 = some z) : g_CT l B y_StringUTF16_checkIndex k_StringUTF16_checkIndex [.int p0, va_rf p1] h (.inl none) h := by
  refine g_start2 (Lc := [(0, .int p0), (1, va_rf p1)]) (by decide) rfl rfl (by rcases p1 with _ | p1 <;> exact Nat.le_of_ble_eq_true rfl) (by rcases p1 with _ | p1 <;> rfl) fun X => ?_
  unfold StringUTF16_checkIndex at hy
  refine g_iload_n 0 (i := 0) (pc' := 1) d_StringUTF16_checkIndex_0 rfl rfl rfl ?_
  refine g_aloadO_n 1 (i := 1) (pc' := 2) d_StringUTF16_checkIndex_1 rfl rfl rfl ?_
  replace hy := g_b_inv hy
  obtain ⟨x1, hf3, hy⟩ := hy
  refine g_callS (rv := some (.int x1)) (h1 := h) (pc' := 5) (As := [va_rf p1]) (rest := [.int p0]) 1 (T_StringUTF16_length (hy := hf3)) d_StringUTF16_checkIndex_2 q312 q313 q120 q314 hd_StringUTF16_length rfl ⟨by decide, by decide⟩ (by first | exact Nat.le_of_ble_eq_true rfl | (simp only [List.map, List.sum_cons, List.sum_nil, g_cat_rf]; exact Nat.le_of_ble_eq_true rfl) | (simp only [List.map, List.sum_cons, List.sum_nil, g_cat_rf, Value.category]; decide)) rfl ?_
  replace hy := g_b_inv hy
  obtain ⟨x4, hf6, hy⟩ := hy
  refine g_callS (rv := none) (h1 := h) (pc' := 8) (As := [.int p0, .int x1]) (rest := []) 2 (T_String_checkIndex (hy := hf6)) d_StringUTF16_checkIndex_5 q852 q853 q119 q854 hd_String_checkIndex rfl ⟨by decide, by decide⟩ (by first | exact Nat.le_of_ble_eq_true rfl | (simp only [List.map, List.sum_cons, List.sum_nil, g_cat_rf]; exact Nat.le_of_ble_eq_true rfl) | (simp only [List.map, List.sum_cons, List.sum_nil, g_cat_rf, Value.category]; decide)) rfl ?_
  cases hy
  exact g_vret rfl rfl rfl d_StringUTF16_checkIndex_8
theorem hd_StringUTF16_checkIndex : g_dsc y_StringUTF16_checkIndex 2 := ⟨by decide +kernel, by decide +kernel, by decide +kernel⟩
/-! java/lang/AbstractStringBuilder.append(C)Ljava/lang/AbstractStringBuilder; -/
abbrev y_AbstractStringBuilder_append2 : MethodName := ⟨"java/lang/AbstractStringBuilder", "append", "(C)Ljava/lang/AbstractStringBuilder;"⟩
abbrev k_AbstractStringBuilder_append2 : g_M := (prog_19_method_31_code, 2, "java/lang/AbstractStringBuilder", 18, (some (FieldType.object "java/lang/AbstractStringBuilder")), "append", [], 0)
theorem d_AbstractStringBuilder_append2_0 : decode prog_19_method_31_code 0 = .ok (.aload_n 0, 1) := by decide +kernel
theorem d_AbstractStringBuilder_append2_1 : decode prog_19_method_31_code 1 = .ok (.aload_n 0, 1) := by decide +kernel
theorem d_AbstractStringBuilder_append2_2 : decode prog_19_method_31_code 2 = .ok (.getfield 79, 3) := by decide +kernel
theorem d_AbstractStringBuilder_append2_5 : decode prog_19_method_31_code 5 = .ok (.iconst 1, 1) := by decide +kernel
theorem d_AbstractStringBuilder_append2_6 : decode prog_19_method_31_code 6 = .ok (.iadd, 1) := by decide +kernel
theorem d_AbstractStringBuilder_append2_7 : decode prog_19_method_31_code 7 = .ok (.invokevirtual 100, 3) := by decide +kernel
theorem d_AbstractStringBuilder_append2_10 : decode prog_19_method_31_code 10 = .ok (.aload_n 0, 1) := by decide +kernel
theorem d_AbstractStringBuilder_append2_11 : decode prog_19_method_31_code 11 = .ok (.invokevirtual 83, 3) := by decide +kernel
theorem d_AbstractStringBuilder_append2_14 : decode prog_19_method_31_code 14 = .ok (.ifCond .eq 31, 3) := by decide +kernel
theorem d_AbstractStringBuilder_append2_17 : decode prog_19_method_31_code 17 = .ok (.iload_n 1, 1) := by decide +kernel
theorem d_AbstractStringBuilder_append2_18 : decode prog_19_method_31_code 18 = .ok (.invokestatic 191, 3) := by decide +kernel
theorem d_AbstractStringBuilder_append2_21 : decode prog_19_method_31_code 21 = .ok (.ifCond .eq 24, 3) := by decide +kernel
theorem d_AbstractStringBuilder_append2_24 : decode prog_19_method_31_code 24 = .ok (.aload_n 0, 1) := by decide +kernel
theorem d_AbstractStringBuilder_append2_25 : decode prog_19_method_31_code 25 = .ok (.getfield 15, 3) := by decide +kernel
theorem d_AbstractStringBuilder_append2_28 : decode prog_19_method_31_code 28 = .ok (.aload_n 0, 1) := by decide +kernel
theorem d_AbstractStringBuilder_append2_29 : decode prog_19_method_31_code 29 = .ok (.dup, 1) := by decide +kernel
theorem d_AbstractStringBuilder_append2_30 : decode prog_19_method_31_code 30 = .ok (.getfield 79, 3) := by decide +kernel
theorem d_AbstractStringBuilder_append2_33 : decode prog_19_method_31_code 33 = .ok (.dup_x1, 1) := by decide +kernel
theorem d_AbstractStringBuilder_append2_34 : decode prog_19_method_31_code 34 = .ok (.iconst 1, 1) := by decide +kernel
theorem d_AbstractStringBuilder_append2_35 : decode prog_19_method_31_code 35 = .ok (.iadd, 1) := by decide +kernel
theorem d_AbstractStringBuilder_append2_36 : decode prog_19_method_31_code 36 = .ok (.putfield 79, 3) := by decide +kernel
theorem d_AbstractStringBuilder_append2_39 : decode prog_19_method_31_code 39 = .ok (.iload_n 1, 1) := by decide +kernel
theorem d_AbstractStringBuilder_append2_40 : decode prog_19_method_31_code 40 = .ok (.i2b, 1) := by decide +kernel
theorem d_AbstractStringBuilder_append2_41 : decode prog_19_method_31_code 41 = .ok (.bastore, 1) := by decide +kernel
theorem d_AbstractStringBuilder_append2_42 : decode prog_19_method_31_code 42 = .ok (.goto 33, 3) := by decide +kernel
theorem d_AbstractStringBuilder_append2_45 : decode prog_19_method_31_code 45 = .ok (.aload_n 0, 1) := by decide +kernel
theorem d_AbstractStringBuilder_append2_46 : decode prog_19_method_31_code 46 = .ok (.invokevirtual 83, 3) := by decide +kernel
theorem d_AbstractStringBuilder_append2_49 : decode prog_19_method_31_code 49 = .ok (.ifCond .eq 7, 3) := by decide +kernel
theorem d_AbstractStringBuilder_append2_75 : decode prog_19_method_31_code 75 = .ok (.aload_n 0, 1) := by decide +kernel
theorem d_AbstractStringBuilder_append2_76 : decode prog_19_method_31_code 76 = .ok (.areturn, 1) := by decide +kernel
def AbstractStringBuilder_append2_45 (h : g_AH) (v0 : Nat) (v1 : Int32) : Option (Option Nat × g_AH) :=
  g_is h v0 17 <| g_b (AbstractStringBuilder_isLatin1 h v0) fun x18 => if x18 = 0 then (none) else (none)
set_option maxHeartbeats 4000000 in
set_option maxRecDepth 100000 in
theorem W_AbstractStringBuilder_append2_45 {X : g_X} (z : Option Nat × g_AH) (h : g_AH) (v0 : Nat) (v1 : Int32) (hy : AbstractStringBuilder_append2_45  h v0 v1 = some z) : G X k_AbstractStringBuilder_append2 (.inl (some (va_rf z.1))) z.2 h 45 [(0, .ref v0), (1, .int v1)] [] := by
  unfold AbstractStringBuilder_append2_45 at hy
  refine g_aload_n 0 (i := 0) (pc' := 46) d_AbstractStringBuilder_append2_45 rfl rfl rfl ?_
  replace hy := g_is_inv hy
  obtain ⟨fs16, hc17, hy⟩ := hy
  replace hy := g_b_inv hy
  obtain ⟨x18, hf20, hy⟩ := hy
  refine g_callU (x := y_AbstractStringBuilder_isLatin1) (rv := some (.int x18)) (h1 := h) (pc' := 49) (As := []) (rest := []) 0 (T_AbstractStringBuilder_isLatin1 (hy := hf20)) d_AbstractStringBuilder_append2_46 hc17 rfl rfl (g_wsU q301 q303 q304 q302 q117 q305) ⟨by decide, by decide, by decide +kernel⟩ rfl ⟨by decide, by decide⟩ (by first | exact Nat.le_of_ble_eq_true rfl | (simp only [List.map, List.sum_cons, List.sum_nil, g_cat_rf]; exact Nat.le_of_ble_eq_true rfl) | (simp only [List.map, List.sum_cons, List.sum_nil, g_cat_rf, Value.category]; decide)) rfl ?_
  by_cases c21 : x18 = 0
  · rw [if_pos c21] at hy
    refine g_if_eqT (pc' := 56) d_AbstractStringBuilder_append2_49 c21 (by decide) ?_
    cases hy
  · rw [if_neg c21] at hy
    refine g_if_eqF (pc' := 52) d_AbstractStringBuilder_append2_49 56 c21 (by decide) rfl ?_
    cases hy
def AbstractStringBuilder_append2 (h : g_AH) (this : Nat) (p0 : Int32) : Option (Option Nat × g_AH) :=
  g_gI h this 17 3 fun x2 => g_is h this 17 <| g_b (AbstractStringBuilder_ensureCapacityInternal h this (x2 + (1 : Int32))) fun h8 => g_is h8 this 17 <| g_b (AbstractStringBuilder_isLatin1 h8 this) fun x12 => if x12 = 0 then (AbstractStringBuilder_append2_45  h8 this p0) else (g_b (StringLatin1_canEncode p0) fun x51 => if x51 = 0 then (AbstractStringBuilder_append2_45  h8 this p0) else (g_gR h8 this 17 0 fun x56 => g_gI h8 this 17 3 fun x60 => g_pF h8 this 17 3 (.int (x60 + (1 : Int32))) fun h66 => g_nn x56 fun a67 => g_sI h66 2 a67 x60 (vp_nar .byte ((p0).toInt8.toInt32)) fun h72 => some ((some this), h72)))
set_option maxHeartbeats 4000000 in
set_option maxRecDepth 100000 in
theorem T_AbstractStringBuilder_append2 {l : Launch} {B : g_B} (h : g_AH) (this : Nat) (p0 : Int32) (z : Option Nat × g_AH) (hy : AbstractStringBuilder_append2 h this p0 = some z) : g_CT l B y_AbstractStringBuilder_append2 k_AbstractStringBuilder_append2 [.ref this, .int p0] h (.inl (some (va_rf z.1))) z.2 := by
  refine g_start2 (Lc := [(0, .ref this), (1, .int p0)]) (by decide) rfl rfl (by exact Nat.le_of_ble_eq_true rfl) (by rfl) fun X => ?_
  unfold AbstractStringBuilder_append2 at hy
  refine g_aload_n 0 (i := 0) (pc' := 1) d_AbstractStringBuilder_append2_0 rfl rfl rfl ?_
  refine g_aload_n 0 (i := 0) (pc' := 2) d_AbstractStringBuilder_append2_1 rfl rfl rfl ?_
  replace hy := g_gI_inv hy
  obtain ⟨fs1, x2, hc3, hv4, hy⟩ := hy
  refine g_getf (pc' := 5) d_AbstractStringBuilder_append2_2 hc3 rfl (by decide) hv4 q242 (Or.inl rfl) rfl ?_
  refine g_iconst (v := (1 : Int32)) (pc' := 6) d_AbstractStringBuilder_append2_5 (by decide) rfl ?_
  refine g_iadd (pc' := 7) d_AbstractStringBuilder_append2_6 rfl ?_
  replace hy := g_is_inv hy
  obtain ⟨fs5, hc6, hy⟩ := hy
  replace hy := g_b_inv hy
  obtain ⟨h8, hf9, hy⟩ := hy
  refine g_callP (y2 := ⟨"java/lang/AbstractStringBuilder", "isLatin1", "()Z"⟩) (rv := none) (h1 := h8) (pc' := 10) (As := [.int (x2 + (1 : Int32))]) (rest := []) 1 (T_AbstractStringBuilder_ensureCapacityInternal (hy := hf9)) d_AbstractStringBuilder_append2_7 hc6 rfl q266 q2543 q267 q268 q117 q269 rfl q302 q304 hd_AbstractStringBuilder_ensureCapacityInternal rfl ⟨by decide, by decide⟩ (by first | exact Nat.le_of_ble_eq_true rfl | (simp only [List.map, List.sum_cons, List.sum_nil, g_cat_rf]; exact Nat.le_of_ble_eq_true rfl) | (simp only [List.map, List.sum_cons, List.sum_nil, g_cat_rf, Value.category]; decide)) rfl ?_
  refine g_aload_n 0 (i := 0) (pc' := 11) d_AbstractStringBuilder_append2_10 rfl rfl rfl ?_
  replace hy := g_is_inv hy
  obtain ⟨fs10, hc11, hy⟩ := hy
  replace hy := g_b_inv hy
  obtain ⟨x12, hf14, hy⟩ := hy
  refine g_callU (x := y_AbstractStringBuilder_isLatin1) (rv := some (.int x12)) (h1 := h8) (pc' := 14) (As := []) (rest := []) 0 (T_AbstractStringBuilder_isLatin1 (hy := hf14)) d_AbstractStringBuilder_append2_11 hc11 rfl rfl (g_wsU q301 q303 q304 q302 q117 q305) ⟨by decide, by decide, by decide +kernel⟩ rfl ⟨by decide, by decide⟩ (by first | exact Nat.le_of_ble_eq_true rfl | (simp only [List.map, List.sum_cons, List.sum_nil, g_cat_rf]; exact Nat.le_of_ble_eq_true rfl) | (simp only [List.map, List.sum_cons, List.sum_nil, g_cat_rf, Value.category]; decide)) rfl ?_
  by_cases c15 : x12 = 0
  · rw [if_pos c15] at hy
    refine g_if_eqT (pc' := 45) d_AbstractStringBuilder_append2_14 c15 (by decide) ?_
    exact W_AbstractStringBuilder_append2_45 _ _ _ _ hy
  · rw [if_neg c15] at hy
    refine g_if_eqF (pc' := 17) d_AbstractStringBuilder_append2_14 45 c15 (by decide) rfl ?_
    refine g_iload_n 1 (i := 1) (pc' := 18) d_AbstractStringBuilder_append2_17 rfl rfl rfl ?_
    replace hy := g_b_inv hy
    obtain ⟨x51, hf53, hy⟩ := hy
    refine g_callS (rv := some (.int x51)) (h1 := h8) (pc' := 21) (As := [.int p0]) (rest := []) 1 (T_StringLatin1_canEncode (hy := hf53)) d_AbstractStringBuilder_append2_18 q843 q844 q126 q845 hd_StringLatin1_canEncode rfl ⟨by decide, by decide⟩ (by first | exact Nat.le_of_ble_eq_true rfl | (simp only [List.map, List.sum_cons, List.sum_nil, g_cat_rf]; exact Nat.le_of_ble_eq_true rfl) | (simp only [List.map, List.sum_cons, List.sum_nil, g_cat_rf, Value.category]; decide)) rfl ?_
    by_cases c54 : x51 = 0
    · rw [if_pos c54] at hy
      refine g_if_eqT (pc' := 45) d_AbstractStringBuilder_append2_21 c54 (by decide) ?_
      exact W_AbstractStringBuilder_append2_45 _ _ _ _ hy
    · rw [if_neg c54] at hy
      refine g_if_eqF (pc' := 24) d_AbstractStringBuilder_append2_21 45 c54 (by decide) rfl ?_
      refine g_aload_n 0 (i := 0) (pc' := 25) d_AbstractStringBuilder_append2_24 rfl rfl rfl ?_
      replace hy := g_gR_inv hy
      obtain ⟨fs55, x56, hc57, hv58, hy⟩ := hy
      refine g_getf (pc' := 28) d_AbstractStringBuilder_append2_25 hc57 rfl (by decide) hv58 q239 (Or.inl rfl) rfl ?_
      refine g_aload_n 0 (i := 0) (pc' := 29) d_AbstractStringBuilder_append2_28 rfl rfl rfl ?_
      refine g_dup (pc' := 30) d_AbstractStringBuilder_append2_29 rfl rfl ?_
      replace hy := g_gI_inv hy
      obtain ⟨fs59, x60, hc61, hv62, hy⟩ := hy
      refine g_getf (pc' := 33) d_AbstractStringBuilder_append2_30 hc61 rfl (by decide) hv62 q242 (Or.inl rfl) rfl ?_
      refine g_dup_x1 (pc' := 34) d_AbstractStringBuilder_append2_33 rfl rfl rfl ?_
      refine g_iconst (v := (1 : Int32)) (pc' := 35) d_AbstractStringBuilder_append2_34 (by decide) rfl ?_
      refine g_iadd (pc' := 36) d_AbstractStringBuilder_append2_35 rfl ?_
      replace hy := g_pF_inv hy
      obtain ⟨fs63, hc64, hl65, hy⟩ := hy
      refine g_putf (pc' := 39) d_AbstractStringBuilder_append2_36 hc64 rfl (by decide) hl65 rfl rfl rfl q242 (Or.inl rfl) rfl ?_
      generalize g_up h8 this (.inr (17, fs63.set 3 (.int (x60 + (1 : Int32))))) = h66 at hy ⊢
      refine g_iload_n 1 (i := 1) (pc' := 40) d_AbstractStringBuilder_append2_39 rfl rfl rfl ?_
      refine g_i2b (pc' := 41) d_AbstractStringBuilder_append2_40 rfl ?_
      replace hy := g_nn_inv hy
      obtain ⟨a67, rfl, hy⟩ := hy
      replace hy := g_sI_inv hy
      obtain ⟨n68, f69, hc70, hi71, hy⟩ := hy
      refine g_bast (pc' := 42) d_AbstractStringBuilder_append2_41 hc70 hi71 rfl ?_
      generalize g_up h66 a67 (.inl (2, n68, .inl (upd f69 (x60).toNatClampNeg (vp_nar .byte ((p0).toInt8.toInt32))))) = h72 at hy ⊢
      refine g_goto (pc' := 75) d_AbstractStringBuilder_append2_42 (by decide) ?_
      refine g_aload_n 0 (i := 0) (pc' := 76) d_AbstractStringBuilder_append2_75 rfl rfl rfl ?_
      cases hy
      refine g_stk (st' := [va_rf (some this)]) rfl ?_
      exact g_aret rfl rfl rfl (Or.inl ⟨_, rfl⟩) d_AbstractStringBuilder_append2_76
theorem hd_AbstractStringBuilder_append2 : g_dsc y_AbstractStringBuilder_append2 1 := ⟨by decide +kernel, by decide +kernel, by decide +kernel⟩
/-! java/lang/StringBuilder.append(C)Ljava/lang/StringBuilder; -/
abbrev y_StringBuilder_append2 : MethodName := ⟨"java/lang/StringBuilder", "append", "(C)Ljava/lang/StringBuilder;"⟩
abbrev k_StringBuilder_append2 : g_M := (prog_35_method_14_code, 2, "java/lang/StringBuilder", 19, (some (FieldType.object "java/lang/StringBuilder")), "append", [], 0)
theorem d_StringBuilder_append2_0 : decode prog_35_method_14_code 0 = .ok (.aload_n 0, 1) := by decide +kernel
theorem d_StringBuilder_append2_1 : decode prog_35_method_14_code 1 = .ok (.iload_n 1, 1) := by decide +kernel
theorem d_StringBuilder_append2_2 : decode prog_35_method_14_code 2 = .ok (.invokespecial 50, 3) := by decide +kernel
theorem d_StringBuilder_append2_5 : decode prog_35_method_14_code 5 = .ok (.pop, 1) := by decide +kernel
theorem d_StringBuilder_append2_6 : decode prog_35_method_14_code 6 = .ok (.aload_n 0, 1) := by decide +kernel
theorem d_StringBuilder_append2_7 : decode prog_35_method_14_code 7 = .ok (.areturn, 1) := by decide +kernel
def StringBuilder_append2 (h : g_AH) (this : Nat) (p0 : Int32) : Option (Option Nat × g_AH) :=
  g_is h this 17 <| g_b2 (AbstractStringBuilder_append2 h this p0) fun x3 h4 => some ((some this), h4)
set_option maxHeartbeats 4000000 in
set_option maxRecDepth 100000 in
theorem T_StringBuilder_append2 {l : Launch} {B : g_B} (h : g_AH) (this : Nat) (p0 : Int32) (z : Option Nat × g_AH) (hy : StringBuilder_append2 h this p0 = some z) : g_CT l B y_StringBuilder_append2 k_StringBuilder_append2 [.ref this, .int p0] h (.inl (some (va_rf z.1))) z.2 := by
  refine g_start2 (Lc := [(0, .ref this), (1, .int p0)]) (by decide) rfl rfl (by exact Nat.le_of_ble_eq_true rfl) (by rfl) fun X => ?_
  unfold StringBuilder_append2 at hy
  refine g_aload_n 0 (i := 0) (pc' := 1) d_StringBuilder_append2_0 rfl rfl rfl ?_
  refine g_iload_n 1 (i := 1) (pc' := 2) d_StringBuilder_append2_1 rfl rfl rfl ?_
  replace hy := g_is_inv hy
  obtain ⟨fs1, hc2, hy⟩ := hy
  replace hy := g_b2_inv hy
  obtain ⟨x3, h4, hf5, hy⟩ := hy
  refine g_callSU (rv := some (va_rf x3)) (h1 := h4) (pc' := 5) (As := [.int p0]) (rest := []) 1 (T_AbstractStringBuilder_append2 (hy := hf5)) d_StringBuilder_append2_2 hc2 rfl (g_wsSU q840 q2549 q251 q841 q117 q842) ⟨by decide, by decide +kernel⟩ rfl ⟨by decide, by decide⟩ (by first | exact Nat.le_of_ble_eq_true rfl | (simp only [List.map, List.sum_cons, List.sum_nil, g_cat_rf]; exact Nat.le_of_ble_eq_true rfl) | (simp only [List.map, List.sum_cons, List.sum_nil, g_cat_rf, Value.category]; decide)) rfl ?_
  refine g_pop (pc' := 6) d_StringBuilder_append2_5 g_cat_rf rfl ?_
  refine g_aload_n 0 (i := 0) (pc' := 7) d_StringBuilder_append2_6 rfl rfl rfl ?_
  cases hy
  refine g_stk (st' := [va_rf (some this)]) rfl ?_
  exact g_aret rfl rfl rfl (Or.inl ⟨_, rfl⟩) d_StringBuilder_append2_7
theorem hd_StringBuilder_append2 : g_dsc y_StringBuilder_append2 1 := ⟨by decide +kernel, by decide +kernel, by decide +kernel⟩
/-! java/lang/String.isLatin1()Z -/
abbrev y_String_isLatin1 : MethodName := ⟨"java/lang/String", "isLatin1", "()Z"⟩
abbrev k_String_isLatin1 : g_M := (prog_34_method_154_code, 1, "java/lang/String", 12, (some FieldType.boolean), "isLatin1", [], 0)
theorem d_String_isLatin1_0 : decode prog_34_method_154_code 0 = .ok (.getstatic 38, 3) := by decide +kernel
theorem d_String_isLatin1_3 : decode prog_34_method_154_code 3 = .ok (.ifCond .eq 14, 3) := by decide +kernel
theorem d_String_isLatin1_6 : decode prog_34_method_154_code 6 = .ok (.aload_n 0, 1) := by decide +kernel
theorem d_String_isLatin1_7 : decode prog_34_method_154_code 7 = .ok (.getfield 15, 3) := by decide +kernel
theorem d_String_isLatin1_10 : decode prog_34_method_154_code 10 = .ok (.ifCond .ne 7, 3) := by decide +kernel
theorem d_String_isLatin1_13 : decode prog_34_method_154_code 13 = .ok (.iconst 1, 1) := by decide +kernel
theorem d_String_isLatin1_14 : decode prog_34_method_154_code 14 = .ok (.goto 4, 3) := by decide +kernel
theorem d_String_isLatin1_17 : decode prog_34_method_154_code 17 = .ok (.iconst 0, 1) := by decide +kernel
theorem d_String_isLatin1_18 : decode prog_34_method_154_code 18 = .ok (.ireturn, 1) := by decide +kernel
def String_isLatin1 (h : g_AH) (this : Nat) : Option (Int32) :=
  if (1 : Int32) = 0 then (some (0 : Int32)) else (g_gI h this 18 1 fun x4 => if x4 = 0 then (some (1 : Int32)) else (some (0 : Int32)))
set_option maxHeartbeats 4000000 in
set_option maxRecDepth 100000 in
theorem T_String_isLatin1 {l : Launch} {B : g_B} (h : g_AH) (this : Nat) (z : Int32) (hy : String_isLatin1 h this = some z) : g_CT l B y_String_isLatin1 k_String_isLatin1 [.ref this] h (.inl (some (.int z))) h := by
  refine g_start2 (Lc := [(0, .ref this)]) (by decide) rfl rfl (by exact Nat.le_of_ble_eq_true rfl) (by rfl) fun X => ?_
  unfold String_isLatin1 at hy
  refine g_compact (pc' := 3) d_String_isLatin1_0 q340 rfl ?_
  by_cases c1 : (1 : Int32) = 0
  · rw [if_pos c1] at hy
    refine g_if_eqT (pc' := 17) d_String_isLatin1_3 c1 (by decide) ?_
    refine g_iconst (v := (0 : Int32)) (pc' := 18) d_String_isLatin1_17 (by decide) rfl ?_
    cases hy
    exact g_zret rfl rfl rfl (g_nar_z (Or.inl rfl)).1 d_String_isLatin1_18
  · rw [if_neg c1] at hy
    refine g_if_eqF (pc' := 6) d_String_isLatin1_3 17 c1 (by decide) rfl ?_
    refine g_aload_n 0 (i := 0) (pc' := 7) d_String_isLatin1_6 rfl rfl rfl ?_
    replace hy := g_gI_inv hy
    obtain ⟨fs3, x4, hc5, hv6, hy⟩ := hy
    refine g_getf (pc' := 10) d_String_isLatin1_7 hc5 rfl (by decide) hv6 q482 (Or.inl rfl) rfl ?_
    by_cases c7 : x4 = 0
    · rw [if_pos c7] at hy
      refine g_if_neF (pc' := 13) d_String_isLatin1_10 17 c7 (by decide) rfl ?_
      refine g_iconst (v := (1 : Int32)) (pc' := 14) d_String_isLatin1_13 (by decide) rfl ?_
      refine g_goto (pc' := 18) d_String_isLatin1_14 (by decide) ?_
      cases hy
      exact g_zret rfl rfl rfl (g_nar_z (Or.inr rfl)).1 d_String_isLatin1_18
    · rw [if_neg c7] at hy
      refine g_if_neT (pc' := 17) d_String_isLatin1_10 c7 (by decide) ?_
      refine g_iconst (v := (0 : Int32)) (pc' := 18) d_String_isLatin1_17 (by decide) rfl ?_
      cases hy
      exact g_zret rfl rfl rfl (g_nar_z (Or.inl rfl)).1 d_String_isLatin1_18
theorem hd_String_isLatin1 : g_dsc y_String_isLatin1 0 := ⟨by decide +kernel, by decide +kernel, by decide +kernel⟩
/-! jdk/internal/util/ArraysSupport.signedHashCode(I[BII)I -/
abbrev y_ArraysSupport_signedHashCode : MethodName := ⟨"jdk/internal/util/ArraysSupport", "signedHashCode", "(I[BII)I"⟩
abbrev k_ArraysSupport_signedHashCode : g_M := (prog_55_method_5_code, 6, "jdk/internal/util/ArraysSupport", 12, (some FieldType.int), "signedHashCode", [], 0)
theorem d_ArraysSupport_signedHashCode_0 : decode prog_55_method_5_code 0 = .ok (.iload_n 2, 1) := by decide +kernel
theorem d_ArraysSupport_signedHashCode_1 : decode prog_55_method_5_code 1 = .ok (.iload_n 3, 1) := by decide +kernel
theorem d_ArraysSupport_signedHashCode_2 : decode prog_55_method_5_code 2 = .ok (.iadd, 1) := by decide +kernel
theorem d_ArraysSupport_signedHashCode_3 : decode prog_55_method_5_code 3 = .ok (.istore 4, 2) := by decide +kernel
theorem d_ArraysSupport_signedHashCode_5 : decode prog_55_method_5_code 5 = .ok (.iload_n 2, 1) := by decide +kernel
theorem d_ArraysSupport_signedHashCode_6 : decode prog_55_method_5_code 6 = .ok (.istore 5, 2) := by decide +kernel
theorem d_ArraysSupport_signedHashCode_8 : decode prog_55_method_5_code 8 = .ok (.iload 5, 2) := by decide +kernel
theorem d_ArraysSupport_signedHashCode_10 : decode prog_55_method_5_code 10 = .ok (.iload 4, 2) := by decide +kernel
theorem d_ArraysSupport_signedHashCode_12 : decode prog_55_method_5_code 12 = .ok (.if_icmp .ge 23, 3) := by decide +kernel
theorem d_ArraysSupport_signedHashCode_15 : decode prog_55_method_5_code 15 = .ok (.bipush 31, 2) := by decide +kernel
theorem d_ArraysSupport_signedHashCode_17 : decode prog_55_method_5_code 17 = .ok (.iload_n 0, 1) := by decide +kernel
theorem d_ArraysSupport_signedHashCode_18 : decode prog_55_method_5_code 18 = .ok (.imul, 1) := by decide +kernel
theorem d_ArraysSupport_signedHashCode_19 : decode prog_55_method_5_code 19 = .ok (.aload_n 1, 1) := by decide +kernel
theorem d_ArraysSupport_signedHashCode_20 : decode prog_55_method_5_code 20 = .ok (.iload 5, 2) := by decide +kernel
theorem d_ArraysSupport_signedHashCode_22 : decode prog_55_method_5_code 22 = .ok (.baload, 1) := by decide +kernel
theorem d_ArraysSupport_signedHashCode_23 : decode prog_55_method_5_code 23 = .ok (.sipush 255, 3) := by decide +kernel
theorem d_ArraysSupport_signedHashCode_26 : decode prog_55_method_5_code 26 = .ok (.iand, 1) := by decide +kernel
theorem d_ArraysSupport_signedHashCode_27 : decode prog_55_method_5_code 27 = .ok (.iadd, 1) := by decide +kernel
theorem d_ArraysSupport_signedHashCode_28 : decode prog_55_method_5_code 28 = .ok (.istore_n 0, 1) := by decide +kernel
theorem d_ArraysSupport_signedHashCode_29 : decode prog_55_method_5_code 29 = .ok (.iinc 5 1, 3) := by decide +kernel
theorem d_ArraysSupport_signedHashCode_32 : decode prog_55_method_5_code 32 = .ok (.goto (-24), 3) := by decide +kernel
theorem d_ArraysSupport_signedHashCode_35 : decode prog_55_method_5_code 35 = .ok (.iload_n 0, 1) := by decide +kernel
theorem d_ArraysSupport_signedHashCode_36 : decode prog_55_method_5_code 36 = .ok (.ireturn, 1) := by decide +kernel
def ArraysSupport_signedHashCode_8 (h : g_AH)  : Nat → Int32 → Option Nat → Int32 → Int32 → Option (Int32)
  | 0, _, _, _, _ => none
  | n + 1, v0, v1, v4, v5 => if v4 ≤ v5 then (some v0) else (g_nn v1 fun a2 => g_aI h 2 a2 v5 fun x3 => (ArraysSupport_signedHashCode_8 h  n) (((31 : Int32) * v0) + (x3 &&& (255 : Int32))) (some a2) v4 (v5 + (1 : Int32)))
set_option maxHeartbeats 4000000 in
set_option maxRecDepth 100000 in
theorem W_ArraysSupport_signedHashCode_8 {X : g_X} (h : g_AH) (z : Int32)  : ∀ (n : Nat) (v0 : Int32) (v1 : Option Nat) (v4 : Int32) (v5 : Int32), ArraysSupport_signedHashCode_8 h  n v0 v1 v4 v5 = some z → G X k_ArraysSupport_signedHashCode (.inl (some (.int z))) h h 8 [(0, .int v0), (1, va_rf v1), (4, .int v4), (5, .int v5)] [] := by
  intro n
  induction n with
  | zero => intro v0 v1 v4 v5 hy; exact absurd hy (by simp [ArraysSupport_signedHashCode_8])
  | succ n ih =>
    intro v0 v1 v4 v5 hy
    rw [ArraysSupport_signedHashCode_8] at hy
    refine g_iload 3 (pc' := 10) d_ArraysSupport_signedHashCode_8 rfl rfl ?_
    refine g_iload 2 (pc' := 12) d_ArraysSupport_signedHashCode_10 rfl rfl ?_
    by_cases c1 : v4 ≤ v5
    · rw [if_pos c1] at hy
      refine g_icmp_geT (pc' := 35) d_ArraysSupport_signedHashCode_12 c1 (by decide) ?_
      refine g_iload_n 0 (i := 0) (pc' := 36) d_ArraysSupport_signedHashCode_35 rfl rfl rfl ?_
      cases hy
      exact g_iret rfl rfl rfl d_ArraysSupport_signedHashCode_36
    · rw [if_neg c1] at hy
      refine g_icmp_geF (pc' := 15) d_ArraysSupport_signedHashCode_12 35 c1 (by decide) rfl ?_
      refine g_bipush (v := (31 : Int32)) (pc' := 17) d_ArraysSupport_signedHashCode_15 (by decide) rfl ?_
      refine g_iload_n 0 (i := 0) (pc' := 18) d_ArraysSupport_signedHashCode_17 rfl rfl rfl ?_
      refine g_imul (pc' := 19) d_ArraysSupport_signedHashCode_18 rfl ?_
      refine g_aloadO_n 1 (i := 1) (pc' := 20) d_ArraysSupport_signedHashCode_19 rfl rfl rfl ?_
      refine g_iload 3 (pc' := 22) d_ArraysSupport_signedHashCode_20 rfl rfl ?_
      replace hy := g_nn_inv hy
      obtain ⟨a2, rfl, hy⟩ := hy
      replace hy := g_aI_inv hy
      obtain ⟨n4, f5, hc6, hi7, hy⟩ := hy
      refine g_bald (pc' := 23) d_ArraysSupport_signedHashCode_22 hc6 hi7 rfl ?_
      generalize f5 (v5).toNatClampNeg = x3 at hy ⊢
      refine g_sipush (v := (255 : Int32)) (pc' := 26) d_ArraysSupport_signedHashCode_23 (by decide) rfl ?_
      refine g_iand (pc' := 27) d_ArraysSupport_signedHashCode_26 rfl ?_
      refine g_iadd (pc' := 28) d_ArraysSupport_signedHashCode_27 rfl ?_
      refine g_istore_n (i := 0) (pc' := 29) (Lc' := [(0, .int (((31 : Int32) * v0) + (x3 &&& (255 : Int32)))), (1, .ref a2), (4, .int v4), (5, .int v5)]) d_ArraysSupport_signedHashCode_28 rfl (by decide) rfl rfl ?_
      refine g_iinc 3 (v := (v5 + (1 : Int32))) (pc' := 32) (Lc' := [(5, .int (v5 + (1 : Int32))), (0, .int (((31 : Int32) * v0) + (x3 &&& (255 : Int32)))), (1, .ref a2), (4, .int v4)]) d_ArraysSupport_signedHashCode_29 rfl rfl (by decide) rfl rfl ?_
      refine g_goto (pc' := 8) d_ArraysSupport_signedHashCode_32 (by decide) ?_
      refine g_sub [1, 2, 3, 0] rfl ?_
      exact ih _ _ _ _ hy
def ArraysSupport_signedHashCode (h : g_AH) (p0 : Int32) (p1 : Option Nat) (p2 : Int32) (p3 : Int32) : Option (Int32) :=
  ArraysSupport_signedHashCode_8 h  gFU p0 p1 (p2 + p3) p2
set_option maxHeartbeats 4000000 in
set_option maxRecDepth 100000 in
theorem T_ArraysSupport_signedHashCode {l : Launch} {B : g_B} (h : g_AH) (p0 : Int32) (p1 : Option Nat) (p2 : Int32) (p3 : Int32) (z : Int32) (hy : ArraysSupport_signedHashCode h p0 p1 p2 p3 = some z) : g_CT l B y_ArraysSupport_signedHashCode k_ArraysSupport_signedHashCode [.int p0, va_rf p1, .int p2, .int p3] h (.inl (some (.int z))) h := by
  refine g_start2 (Lc := [(0, .int p0), (1, va_rf p1), (2, .int p2), (3, .int p3)]) (by decide) rfl rfl (by rcases p1 with _ | p1 <;> exact Nat.le_of_ble_eq_true rfl) (by rcases p1 with _ | p1 <;> rfl) fun X => ?_
  unfold ArraysSupport_signedHashCode at hy
  refine g_iload_n 2 (i := 2) (pc' := 1) d_ArraysSupport_signedHashCode_0 rfl rfl rfl ?_
  refine g_iload_n 3 (i := 3) (pc' := 2) d_ArraysSupport_signedHashCode_1 rfl rfl rfl ?_
  refine g_iadd (pc' := 3) d_ArraysSupport_signedHashCode_2 rfl ?_
  refine g_istore (pc' := 5) (Lc' := [(4, .int (p2 + p3)), (0, .int p0), (1, va_rf p1), (2, .int p2), (3, .int p3)]) d_ArraysSupport_signedHashCode_3 (by decide) rfl rfl ?_
  refine g_iload_n 3 (i := 2) (pc' := 6) d_ArraysSupport_signedHashCode_5 rfl rfl rfl ?_
  refine g_istore (pc' := 8) (Lc' := [(5, .int p2), (4, .int (p2 + p3)), (0, .int p0), (1, va_rf p1), (2, .int p2), (3, .int p3)]) d_ArraysSupport_signedHashCode_6 (by decide) rfl rfl ?_
  refine g_sub [2, 3, 1, 0] rfl ?_
  exact W_ArraysSupport_signedHashCode_8 _ _ _ _ _ _ _ hy
theorem hd_ArraysSupport_signedHashCode : g_dsc y_ArraysSupport_signedHashCode 4 := ⟨by decide +kernel, by decide +kernel, by decide +kernel⟩
/-! jdk/internal/util/ArraysSupport.utf16hashCode(I[BII)I -/
abbrev y_ArraysSupport_utf16hashCode : MethodName := ⟨"jdk/internal/util/ArraysSupport", "utf16hashCode", "(I[BII)I"⟩
abbrev k_ArraysSupport_utf16hashCode : g_M := (prog_55_method_10_code, 6, "jdk/internal/util/ArraysSupport", 13, (some FieldType.int), "utf16hashCode", [], 0)
theorem d_ArraysSupport_utf16hashCode_0 : decode prog_55_method_10_code 0 = .ok (.iload_n 2, 1) := by decide +kernel
theorem d_ArraysSupport_utf16hashCode_1 : decode prog_55_method_10_code 1 = .ok (.iload_n 3, 1) := by decide +kernel
theorem d_ArraysSupport_utf16hashCode_2 : decode prog_55_method_10_code 2 = .ok (.iadd, 1) := by decide +kernel
theorem d_ArraysSupport_utf16hashCode_3 : decode prog_55_method_10_code 3 = .ok (.istore 4, 2) := by decide +kernel
theorem d_ArraysSupport_utf16hashCode_5 : decode prog_55_method_10_code 5 = .ok (.iload_n 2, 1) := by decide +kernel
theorem d_ArraysSupport_utf16hashCode_6 : decode prog_55_method_10_code 6 = .ok (.istore 5, 2) := by decide +kernel
theorem d_ArraysSupport_utf16hashCode_8 : decode prog_55_method_10_code 8 = .ok (.iload 5, 2) := by decide +kernel
theorem d_ArraysSupport_utf16hashCode_10 : decode prog_55_method_10_code 10 = .ok (.iload 4, 2) := by decide +kernel
theorem d_ArraysSupport_utf16hashCode_12 : decode prog_55_method_10_code 12 = .ok (.if_icmp .ge 26, 3) := by decide +kernel
theorem d_ArraysSupport_utf16hashCode_38 : decode prog_55_method_10_code 38 = .ok (.iload_n 0, 1) := by decide +kernel
theorem d_ArraysSupport_utf16hashCode_39 : decode prog_55_method_10_code 39 = .ok (.ireturn, 1) := by decide +kernel
def ArraysSupport_utf16hashCode_8 (h : g_AH)  : Nat → Int32 → Option Nat → Int32 → Int32 → Option (Int32)
  | 0, _, _, _, _ => none
  | n + 1, v0, v1, v4, v5 => if v4 ≤ v5 then (some v0) else (none)
set_option maxHeartbeats 4000000 in
set_option maxRecDepth 100000 in
theorem W_ArraysSupport_utf16hashCode_8 {X : g_X} (h : g_AH) (z : Int32)  : ∀ (n : Nat) (v0 : Int32) (v1 : Option Nat) (v4 : Int32) (v5 : Int32), ArraysSupport_utf16hashCode_8 h  n v0 v1 v4 v5 = some z → G X k_ArraysSupport_utf16hashCode (.inl (some (.int z))) h h 8 [(0, .int v0), (1, va_rf v1), (4, .int v4), (5, .int v5)] [] := by
  intro n
  induction n with
  | zero => intro v0 v1 v4 v5 hy; exact absurd hy (by simp [ArraysSupport_utf16hashCode_8])
  | succ n ih =>
    intro v0 v1 v4 v5 hy
    rw [ArraysSupport_utf16hashCode_8] at hy
    refine g_iload 3 (pc' := 10) d_ArraysSupport_utf16hashCode_8 rfl rfl ?_
    refine g_iload 2 (pc' := 12) d_ArraysSupport_utf16hashCode_10 rfl rfl ?_
    by_cases c1 : v4 ≤ v5
    · rw [if_pos c1] at hy
      refine g_icmp_geT (pc' := 38) d_ArraysSupport_utf16hashCode_12 c1 (by decide) ?_
      refine g_iload_n 0 (i := 0) (pc' := 39) d_ArraysSupport_utf16hashCode_38 rfl rfl rfl ?_
      cases hy
      exact g_iret rfl rfl rfl d_ArraysSupport_utf16hashCode_39
    · rw [if_neg c1] at hy
      refine g_icmp_geF (pc' := 15) d_ArraysSupport_utf16hashCode_12 38 c1 (by decide) rfl ?_
      cases hy
def ArraysSupport_utf16hashCode (h : g_AH) (p0 : Int32) (p1 : Option Nat) (p2 : Int32) (p3 : Int32) : Option (Int32) :=
  ArraysSupport_utf16hashCode_8 h  gFU p0 p1 (p2 + p3) p2
set_option maxHeartbeats 4000000 in
set_option maxRecDepth 100000 in
theorem T_ArraysSupport_utf16hashCode {l : Launch} {B : g_B} (h : g_AH) (p0 : Int32) (p1 : Option Nat) (p2 : Int32) (p3 : Int32) (z : Int32) (hy : ArraysSupport_utf16hashCode h p0 p1 p2 p3 = some z) : g_CT l B y_ArraysSupport_utf16hashCode k_ArraysSupport_utf16hashCode [.int p0, va_rf p1, .int p2, .int p3] h (.inl (some (.int z))) h := by
  refine g_start2 (Lc := [(0, .int p0), (1, va_rf p1), (2, .int p2), (3, .int p3)]) (by decide) rfl rfl (by rcases p1 with _ | p1 <;> exact Nat.le_of_ble_eq_true rfl) (by rcases p1 with _ | p1 <;> rfl) fun X => ?_
  unfold ArraysSupport_utf16hashCode at hy
  refine g_iload_n 2 (i := 2) (pc' := 1) d_ArraysSupport_utf16hashCode_0 rfl rfl rfl ?_
  refine g_iload_n 3 (i := 3) (pc' := 2) d_ArraysSupport_utf16hashCode_1 rfl rfl rfl ?_
  refine g_iadd (pc' := 3) d_ArraysSupport_utf16hashCode_2 rfl ?_
  refine g_istore (pc' := 5) (Lc' := [(4, .int (p2 + p3)), (0, .int p0), (1, va_rf p1), (2, .int p2), (3, .int p3)]) d_ArraysSupport_utf16hashCode_3 (by decide) rfl rfl ?_
  refine g_iload_n 3 (i := 2) (pc' := 6) d_ArraysSupport_utf16hashCode_5 rfl rfl rfl ?_
  refine g_istore (pc' := 8) (Lc' := [(5, .int p2), (4, .int (p2 + p3)), (0, .int p0), (1, va_rf p1), (2, .int p2), (3, .int p3)]) d_ArraysSupport_utf16hashCode_6 (by decide) rfl rfl ?_
  refine g_sub [2, 3, 1, 0] rfl ?_
  exact W_ArraysSupport_utf16hashCode_8 _ _ _ _ _ _ _ hy
theorem hd_ArraysSupport_utf16hashCode : g_dsc y_ArraysSupport_utf16hashCode 4 := ⟨by decide +kernel, by decide +kernel, by decide +kernel⟩
/-! jdk/internal/util/ArraysSupport.hashCode(I[CII)I -/
abbrev y_ArraysSupport_hashCode0 : MethodName := ⟨"jdk/internal/util/ArraysSupport", "hashCode", "(I[CII)I"⟩
abbrev k_ArraysSupport_hashCode0 : g_M := (prog_55_method_7_code, 6, "jdk/internal/util/ArraysSupport", 12, (some FieldType.int), "hashCode", [], 0)
theorem d_ArraysSupport_hashCode0_0 : decode prog_55_method_7_code 0 = .ok (.iload_n 2, 1) := by decide +kernel
theorem d_ArraysSupport_hashCode0_1 : decode prog_55_method_7_code 1 = .ok (.iload_n 3, 1) := by decide +kernel
theorem d_ArraysSupport_hashCode0_2 : decode prog_55_method_7_code 2 = .ok (.iadd, 1) := by decide +kernel
theorem d_ArraysSupport_hashCode0_3 : decode prog_55_method_7_code 3 = .ok (.istore 4, 2) := by decide +kernel
theorem d_ArraysSupport_hashCode0_5 : decode prog_55_method_7_code 5 = .ok (.iload_n 2, 1) := by decide +kernel
theorem d_ArraysSupport_hashCode0_6 : decode prog_55_method_7_code 6 = .ok (.istore 5, 2) := by decide +kernel
theorem d_ArraysSupport_hashCode0_8 : decode prog_55_method_7_code 8 = .ok (.iload 5, 2) := by decide +kernel
theorem d_ArraysSupport_hashCode0_10 : decode prog_55_method_7_code 10 = .ok (.iload 4, 2) := by decide +kernel
theorem d_ArraysSupport_hashCode0_12 : decode prog_55_method_7_code 12 = .ok (.if_icmp .ge 19, 3) := by decide +kernel
theorem d_ArraysSupport_hashCode0_31 : decode prog_55_method_7_code 31 = .ok (.iload_n 0, 1) := by decide +kernel
theorem d_ArraysSupport_hashCode0_32 : decode prog_55_method_7_code 32 = .ok (.ireturn, 1) := by decide +kernel
def ArraysSupport_hashCode0_8  : Nat → Int32 → Option Nat → Int32 → Int32 → Option (Int32)
  | 0, _, _, _, _ => none
  | n + 1, v0, v1, v4, v5 => if v4 ≤ v5 then (some v0) else (none)
set_option maxHeartbeats 4000000 in
set_option maxRecDepth 100000 in
theorem W_ArraysSupport_hashCode0_8 {X : g_X} {h : g_AH} (z : Int32)  : ∀ (n : Nat) (v0 : Int32) (v1 : Option Nat) (v4 : Int32) (v5 : Int32), ArraysSupport_hashCode0_8  n v0 v1 v4 v5 = some z → G X k_ArraysSupport_hashCode0 (.inl (some (.int z))) h h 8 [(0, .int v0), (1, va_rf v1), (4, .int v4), (5, .int v5)] [] := by
  intro n
  induction n with
  | zero => intro v0 v1 v4 v5 hy; exact absurd hy (by simp [ArraysSupport_hashCode0_8])
  | succ n ih =>
    intro v0 v1 v4 v5 hy
    rw [ArraysSupport_hashCode0_8] at hy
    refine g_iload 3 (pc' := 10) d_ArraysSupport_hashCode0_8 rfl rfl ?_
    refine g_iload 2 (pc' := 12) d_ArraysSupport_hashCode0_10 rfl rfl ?_
    by_cases c1 : v4 ≤ v5
    · rw [if_pos c1] at hy
      refine g_icmp_geT (pc' := 31) d_ArraysSupport_hashCode0_12 c1 (by decide) ?_
      refine g_iload_n 0 (i := 0) (pc' := 32) d_ArraysSupport_hashCode0_31 rfl rfl rfl ?_
      cases hy
      exact g_iret rfl rfl rfl d_ArraysSupport_hashCode0_32
    · rw [if_neg c1] at hy
      refine g_icmp_geF (pc' := 15) d_ArraysSupport_hashCode0_12 31 c1 (by decide) rfl ?_
      cases hy
def ArraysSupport_hashCode0 (p0 : Int32) (p1 : Option Nat) (p2 : Int32) (p3 : Int32) : Option (Int32) :=
  ArraysSupport_hashCode0_8  gFU p0 p1 (p2 + p3) p2
set_option maxHeartbeats 4000000 in
set_option maxRecDepth 100000 in
theorem T_ArraysSupport_hashCode0 {l : Launch} {B : g_B} {h : g_AH} (p0 : Int32) (p1 : Option Nat) (p2 : Int32) (p3 : Int32) (z : Int32) (hy : ArraysSupport_hashCode0 p0 p1 p2 p3 = some z) : g_CT l B y_ArraysSupport_hashCode0 k_ArraysSupport_hashCode0 [.int p0, va_rf p1, .int p2, .int p3] h (.inl (some (.int z))) h := by
  refine g_start2 (Lc := [(0, .int p0), (1, va_rf p1), (2, .int p2), (3, .int p3)]) (by decide) rfl rfl (by rcases p1 with _ | p1 <;> exact Nat.le_of_ble_eq_true rfl) (by rcases p1 with _ | p1 <;> rfl) fun X => ?_
  unfold ArraysSupport_hashCode0 at hy
  refine g_iload_n 2 (i := 2) (pc' := 1) d_ArraysSupport_hashCode0_0 rfl rfl rfl ?_
  refine g_iload_n 3 (i := 3) (pc' := 2) d_ArraysSupport_hashCode0_1 rfl rfl rfl ?_
  refine g_iadd (pc' := 3) d_ArraysSupport_hashCode0_2 rfl ?_
  refine g_istore (pc' := 5) (Lc' := [(4, .int (p2 + p3)), (0, .int p0), (1, va_rf p1), (2, .int p2), (3, .int p3)]) d_ArraysSupport_hashCode0_3 (by decide) rfl rfl ?_
  refine g_iload_n 3 (i := 2) (pc' := 6) d_ArraysSupport_hashCode0_5 rfl rfl rfl ?_
  refine g_istore (pc' := 8) (Lc' := [(5, .int p2), (4, .int (p2 + p3)), (0, .int p0), (1, va_rf p1), (2, .int p2), (3, .int p3)]) d_ArraysSupport_hashCode0_6 (by decide) rfl rfl ?_
  refine g_sub [2, 3, 1, 0] rfl ?_
  exact W_ArraysSupport_hashCode0_8 _ _ _ _ _ _ hy
theorem hd_ArraysSupport_hashCode0 : g_dsc y_ArraysSupport_hashCode0 4 := ⟨by decide +kernel, by decide +kernel, by decide +kernel⟩
/-! jdk/internal/util/ArraysSupport.hashCode(I[BII)I -/
abbrev y_ArraysSupport_hashCode1 : MethodName := ⟨"jdk/internal/util/ArraysSupport", "hashCode", "(I[BII)I"⟩
abbrev k_ArraysSupport_hashCode1 : g_M := (prog_55_method_6_code, 6, "jdk/internal/util/ArraysSupport", 12, (some FieldType.int), "hashCode", [], 0)
theorem d_ArraysSupport_hashCode1_0 : decode prog_55_method_6_code 0 = .ok (.iload_n 2, 1) := by decide +kernel
theorem d_ArraysSupport_hashCode1_1 : decode prog_55_method_6_code 1 = .ok (.iload_n 3, 1) := by decide +kernel
theorem d_ArraysSupport_hashCode1_2 : decode prog_55_method_6_code 2 = .ok (.iadd, 1) := by decide +kernel
theorem d_ArraysSupport_hashCode1_3 : decode prog_55_method_6_code 3 = .ok (.istore 4, 2) := by decide +kernel
theorem d_ArraysSupport_hashCode1_5 : decode prog_55_method_6_code 5 = .ok (.iload_n 2, 1) := by decide +kernel
theorem d_ArraysSupport_hashCode1_6 : decode prog_55_method_6_code 6 = .ok (.istore 5, 2) := by decide +kernel
theorem d_ArraysSupport_hashCode1_8 : decode prog_55_method_6_code 8 = .ok (.iload 5, 2) := by decide +kernel
theorem d_ArraysSupport_hashCode1_10 : decode prog_55_method_6_code 10 = .ok (.iload 4, 2) := by decide +kernel
theorem d_ArraysSupport_hashCode1_12 : decode prog_55_method_6_code 12 = .ok (.if_icmp .ge 19, 3) := by decide +kernel
theorem d_ArraysSupport_hashCode1_15 : decode prog_55_method_6_code 15 = .ok (.bipush 31, 2) := by decide +kernel
theorem d_ArraysSupport_hashCode1_17 : decode prog_55_method_6_code 17 = .ok (.iload_n 0, 1) := by decide +kernel
theorem d_ArraysSupport_hashCode1_18 : decode prog_55_method_6_code 18 = .ok (.imul, 1) := by decide +kernel
theorem d_ArraysSupport_hashCode1_19 : decode prog_55_method_6_code 19 = .ok (.aload_n 1, 1) := by decide +kernel
theorem d_ArraysSupport_hashCode1_20 : decode prog_55_method_6_code 20 = .ok (.iload 5, 2) := by decide +kernel
theorem d_ArraysSupport_hashCode1_22 : decode prog_55_method_6_code 22 = .ok (.baload, 1) := by decide +kernel
theorem d_ArraysSupport_hashCode1_23 : decode prog_55_method_6_code 23 = .ok (.iadd, 1) := by decide +kernel
theorem d_ArraysSupport_hashCode1_24 : decode prog_55_method_6_code 24 = .ok (.istore_n 0, 1) := by decide +kernel
theorem d_ArraysSupport_hashCode1_25 : decode prog_55_method_6_code 25 = .ok (.iinc 5 1, 3) := by decide +kernel
theorem d_ArraysSupport_hashCode1_28 : decode prog_55_method_6_code 28 = .ok (.goto (-20), 3) := by decide +kernel
theorem d_ArraysSupport_hashCode1_31 : decode prog_55_method_6_code 31 = .ok (.iload_n 0, 1) := by decide +kernel
theorem d_ArraysSupport_hashCode1_32 : decode prog_55_method_6_code 32 = .ok (.ireturn, 1) := by decide +kernel
def ArraysSupport_hashCode1_8 (h : g_AH)  : Nat → Int32 → Option Nat → Int32 → Int32 → Option (Int32)
  | 0, _, _, _, _ => none
  | n + 1, v0, v1, v4, v5 => if v4 ≤ v5 then (some v0) else (g_nn v1 fun a2 => g_aI h 2 a2 v5 fun x3 => (ArraysSupport_hashCode1_8 h  n) (((31 : Int32) * v0) + x3) (some a2) v4 (v5 + (1 : Int32)))
set_option maxHeartbeats 4000000 in
set_option maxRecDepth 100000 in
theorem W_ArraysSupport_hashCode1_8 {X : g_X} (h : g_AH) (z : Int32)  : ∀ (n : Nat) (v0 : Int32) (v1 : Option Nat) (v4 : Int32) (v5 : Int32), ArraysSupport_hashCode1_8 h  n v0 v1 v4 v5 = some z → G X k_ArraysSupport_hashCode1 (.inl (some (.int z))) h h 8 [(0, .int v0), (1, va_rf v1), (4, .int v4), (5, .int v5)] [] := by
  intro n
  induction n with
  | zero => intro v0 v1 v4 v5 hy; exact absurd hy (by simp [ArraysSupport_hashCode1_8])
  | succ n ih =>
    intro v0 v1 v4 v5 hy
    rw [ArraysSupport_hashCode1_8] at hy
    refine g_iload 3 (pc' := 10) d_ArraysSupport_hashCode1_8 rfl rfl ?_
    refine g_iload 2 (pc' := 12) d_ArraysSupport_hashCode1_10 rfl rfl ?_
    by_cases c1 : v4 ≤ v5
    · rw [if_pos c1] at hy
      refine g_icmp_geT (pc' := 31) d_ArraysSupport_hashCode1_12 c1 (by decide) ?_
      refine g_iload_n 0 (i := 0) (pc' := 32) d_ArraysSupport_hashCode1_31 rfl rfl rfl ?_
      cases hy
      exact g_iret rfl rfl rfl d_ArraysSupport_hashCode1_32
    · rw [if_neg c1] at hy
      refine g_icmp_geF (pc' := 15) d_ArraysSupport_hashCode1_12 31 c1 (by decide) rfl ?_
      refine g_bipush (v := (31 : Int32)) (pc' := 17) d_ArraysSupport_hashCode1_15 (by decide) rfl ?_
      refine g_iload_n 0 (i := 0) (pc' := 18) d_ArraysSupport_hashCode1_17 rfl rfl rfl ?_
      refine g_imul (pc' := 19) d_ArraysSupport_hashCode1_18 rfl ?_
      refine g_aloadO_n 1 (i := 1) (pc' := 20) d_ArraysSupport_hashCode1_19 rfl rfl rfl ?_
      refine g_iload 3 (pc' := 22) d_ArraysSupport_hashCode1_20 rfl rfl ?_
      replace hy := g_nn_inv hy
      obtain ⟨a2, rfl, hy⟩ := hy
      replace hy := g_aI_inv hy
      obtain ⟨n4, f5, hc6, hi7, hy⟩ := hy
      refine g_bald (pc' := 23) d_ArraysSupport_hashCode1_22 hc6 hi7 rfl ?_
      generalize f5 (v5).toNatClampNeg = x3 at hy ⊢
      refine g_iadd (pc' := 24) d_ArraysSupport_hashCode1_23 rfl ?_
      refine g_istore_n (i := 0) (pc' := 25) (Lc' := [(0, .int (((31 : Int32) * v0) + x3)), (1, .ref a2), (4, .int v4), (5, .int v5)]) d_ArraysSupport_hashCode1_24 rfl (by decide) rfl rfl ?_
      refine g_iinc 3 (v := (v5 + (1 : Int32))) (pc' := 28) (Lc' := [(5, .int (v5 + (1 : Int32))), (0, .int (((31 : Int32) * v0) + x3)), (1, .ref a2), (4, .int v4)]) d_ArraysSupport_hashCode1_25 rfl rfl (by decide) rfl rfl ?_
      refine g_goto (pc' := 8) d_ArraysSupport_hashCode1_28 (by decide) ?_
      refine g_sub [1, 2, 3, 0] rfl ?_
      exact ih _ _ _ _ hy
def ArraysSupport_hashCode1 (h : g_AH) (p0 : Int32) (p1 : Option Nat) (p2 : Int32) (p3 : Int32) : Option (Int32) :=
  ArraysSupport_hashCode1_8 h  gFU p0 p1 (p2 + p3) p2
set_option maxHeartbeats 4000000 in
set_option maxRecDepth 100000 in
theorem T_ArraysSupport_hashCode1 {l : Launch} {B : g_B} (h : g_AH) (p0 : Int32) (p1 : Option Nat) (p2 : Int32) (p3 : Int32) (z : Int32) (hy : ArraysSupport_hashCode1 h p0 p1 p2 p3 = some z) : g_CT l B y_ArraysSupport_hashCode1 k_ArraysSupport_hashCode1 [.int p0, va_rf p1, .int p2, .int p3] h (.inl (some (.int z))) h := by
  refine g_start2 (Lc := [(0, .int p0), (1, va_rf p1), (2, .int p2), (3, .int p3)]) (by decide) rfl rfl (by rcases p1 with _ | p1 <;> exact Nat.le_of_ble_eq_true rfl) (by rcases p1 with _ | p1 <;> rfl) fun X => ?_
  unfold ArraysSupport_hashCode1 at hy
  refine g_iload_n 2 (i := 2) (pc' := 1) d_ArraysSupport_hashCode1_0 rfl rfl rfl ?_
  refine g_iload_n 3 (i := 3) (pc' := 2) d_ArraysSupport_hashCode1_1 rfl rfl rfl ?_
  refine g_iadd (pc' := 3) d_ArraysSupport_hashCode1_2 rfl ?_
  refine g_istore (pc' := 5) (Lc' := [(4, .int (p2 + p3)), (0, .int p0), (1, va_rf p1), (2, .int p2), (3, .int p3)]) d_ArraysSupport_hashCode1_3 (by decide) rfl rfl ?_
  refine g_iload_n 3 (i := 2) (pc' := 6) d_ArraysSupport_hashCode1_5 rfl rfl rfl ?_
  refine g_istore (pc' := 8) (Lc' := [(5, .int p2), (4, .int (p2 + p3)), (0, .int p0), (1, va_rf p1), (2, .int p2), (3, .int p3)]) d_ArraysSupport_hashCode1_6 (by decide) rfl rfl ?_
  refine g_sub [2, 3, 1, 0] rfl ?_
  exact W_ArraysSupport_hashCode1_8 _ _ _ _ _ _ _ hy
theorem hd_ArraysSupport_hashCode1 : g_dsc y_ArraysSupport_hashCode1 4 := ⟨by decide +kernel, by decide +kernel, by decide +kernel⟩
/-! jdk/internal/util/ArraysSupport.hashCode(I[SII)I -/
abbrev y_ArraysSupport_hashCode2 : MethodName := ⟨"jdk/internal/util/ArraysSupport", "hashCode", "(I[SII)I"⟩
abbrev k_ArraysSupport_hashCode2 : g_M := (prog_55_method_8_code, 6, "jdk/internal/util/ArraysSupport", 12, (some FieldType.int), "hashCode", [], 0)
theorem d_ArraysSupport_hashCode2_0 : decode prog_55_method_8_code 0 = .ok (.iload_n 2, 1) := by decide +kernel
theorem d_ArraysSupport_hashCode2_1 : decode prog_55_method_8_code 1 = .ok (.iload_n 3, 1) := by decide +kernel
theorem d_ArraysSupport_hashCode2_2 : decode prog_55_method_8_code 2 = .ok (.iadd, 1) := by decide +kernel
theorem d_ArraysSupport_hashCode2_3 : decode prog_55_method_8_code 3 = .ok (.istore 4, 2) := by decide +kernel
theorem d_ArraysSupport_hashCode2_5 : decode prog_55_method_8_code 5 = .ok (.iload_n 2, 1) := by decide +kernel
theorem d_ArraysSupport_hashCode2_6 : decode prog_55_method_8_code 6 = .ok (.istore 5, 2) := by decide +kernel
theorem d_ArraysSupport_hashCode2_8 : decode prog_55_method_8_code 8 = .ok (.iload 5, 2) := by decide +kernel
theorem d_ArraysSupport_hashCode2_10 : decode prog_55_method_8_code 10 = .ok (.iload 4, 2) := by decide +kernel
theorem d_ArraysSupport_hashCode2_12 : decode prog_55_method_8_code 12 = .ok (.if_icmp .ge 19, 3) := by decide +kernel
theorem d_ArraysSupport_hashCode2_31 : decode prog_55_method_8_code 31 = .ok (.iload_n 0, 1) := by decide +kernel
theorem d_ArraysSupport_hashCode2_32 : decode prog_55_method_8_code 32 = .ok (.ireturn, 1) := by decide +kernel
def ArraysSupport_hashCode2_8  : Nat → Int32 → Option Nat → Int32 → Int32 → Option (Int32)
  | 0, _, _, _, _ => none
  | n + 1, v0, v1, v4, v5 => if v4 ≤ v5 then (some v0) else (none)
set_option maxHeartbeats 4000000 in
set_option maxRecDepth 100000 in
theorem W_ArraysSupport_hashCode2_8 {X : g_X} {h : g_AH} (z : Int32)  : ∀ (n : Nat) (v0 : Int32) (v1 : Option Nat) (v4 : Int32) (v5 : Int32), ArraysSupport_hashCode2_8  n v0 v1 v4 v5 = some z → G X k_ArraysSupport_hashCode2 (.inl (some (.int z))) h h 8 [(0, .int v0), (1, va_rf v1), (4, .int v4), (5, .int v5)] [] := by
  intro n
  induction n with
  | zero => intro v0 v1 v4 v5 hy; exact absurd hy (by simp [ArraysSupport_hashCode2_8])
  | succ n ih =>
    intro v0 v1 v4 v5 hy
    rw [ArraysSupport_hashCode2_8] at hy
    refine g_iload 3 (pc' := 10) d_ArraysSupport_hashCode2_8 rfl rfl ?_
    refine g_iload 2 (pc' := 12) d_ArraysSupport_hashCode2_10 rfl rfl ?_
    by_cases c1 : v4 ≤ v5
    · rw [if_pos c1] at hy
      refine g_icmp_geT (pc' := 31) d_ArraysSupport_hashCode2_12 c1 (by decide) ?_
      refine g_iload_n 0 (i := 0) (pc' := 32) d_ArraysSupport_hashCode2_31 rfl rfl rfl ?_
      cases hy
      exact g_iret rfl rfl rfl d_ArraysSupport_hashCode2_32
    · rw [if_neg c1] at hy
      refine g_icmp_geF (pc' := 15) d_ArraysSupport_hashCode2_12 31 c1 (by decide) rfl ?_
      cases hy
def ArraysSupport_hashCode2 (p0 : Int32) (p1 : Option Nat) (p2 : Int32) (p3 : Int32) : Option (Int32) :=
  ArraysSupport_hashCode2_8  gFU p0 p1 (p2 + p3) p2
set_option maxHeartbeats 4000000 in
set_option maxRecDepth 100000 in
theorem T_ArraysSupport_hashCode2 {l : Launch} {B : g_B} {h : g_AH} (p0 : Int32) (p1 : Option Nat) (p2 : Int32) (p3 : Int32) (z : Int32) (hy : ArraysSupport_hashCode2 p0 p1 p2 p3 = some z) : g_CT l B y_ArraysSupport_hashCode2 k_ArraysSupport_hashCode2 [.int p0, va_rf p1, .int p2, .int p3] h (.inl (some (.int z))) h := by
  refine g_start2 (Lc := [(0, .int p0), (1, va_rf p1), (2, .int p2), (3, .int p3)]) (by decide) rfl rfl (by rcases p1 with _ | p1 <;> exact Nat.le_of_ble_eq_true rfl) (by rcases p1 with _ | p1 <;> rfl) fun X => ?_
  unfold ArraysSupport_hashCode2 at hy
  refine g_iload_n 2 (i := 2) (pc' := 1) d_ArraysSupport_hashCode2_0 rfl rfl rfl ?_
  refine g_iload_n 3 (i := 3) (pc' := 2) d_ArraysSupport_hashCode2_1 rfl rfl rfl ?_
  refine g_iadd (pc' := 3) d_ArraysSupport_hashCode2_2 rfl ?_
  refine g_istore (pc' := 5) (Lc' := [(4, .int (p2 + p3)), (0, .int p0), (1, va_rf p1), (2, .int p2), (3, .int p3)]) d_ArraysSupport_hashCode2_3 (by decide) rfl rfl ?_
  refine g_iload_n 3 (i := 2) (pc' := 6) d_ArraysSupport_hashCode2_5 rfl rfl rfl ?_
  refine g_istore (pc' := 8) (Lc' := [(5, .int p2), (4, .int (p2 + p3)), (0, .int p0), (1, va_rf p1), (2, .int p2), (3, .int p3)]) d_ArraysSupport_hashCode2_6 (by decide) rfl rfl ?_
  refine g_sub [2, 3, 1, 0] rfl ?_
  exact W_ArraysSupport_hashCode2_8 _ _ _ _ _ _ hy
theorem hd_ArraysSupport_hashCode2 : g_dsc y_ArraysSupport_hashCode2 4 := ⟨by decide +kernel, by decide +kernel, by decide +kernel⟩
/-! jdk/internal/util/ArraysSupport.hashCode(I[III)I -/
abbrev y_ArraysSupport_hashCode3 : MethodName := ⟨"jdk/internal/util/ArraysSupport", "hashCode", "(I[III)I"⟩
abbrev k_ArraysSupport_hashCode3 : g_M := (prog_55_method_9_code, 6, "jdk/internal/util/ArraysSupport", 12, (some FieldType.int), "hashCode", [], 0)
theorem d_ArraysSupport_hashCode3_0 : decode prog_55_method_9_code 0 = .ok (.iload_n 2, 1) := by decide +kernel
theorem d_ArraysSupport_hashCode3_1 : decode prog_55_method_9_code 1 = .ok (.iload_n 3, 1) := by decide +kernel
theorem d_ArraysSupport_hashCode3_2 : decode prog_55_method_9_code 2 = .ok (.iadd, 1) := by decide +kernel
theorem d_ArraysSupport_hashCode3_3 : decode prog_55_method_9_code 3 = .ok (.istore 4, 2) := by decide +kernel
theorem d_ArraysSupport_hashCode3_5 : decode prog_55_method_9_code 5 = .ok (.iload_n 2, 1) := by decide +kernel
theorem d_ArraysSupport_hashCode3_6 : decode prog_55_method_9_code 6 = .ok (.istore 5, 2) := by decide +kernel
theorem d_ArraysSupport_hashCode3_8 : decode prog_55_method_9_code 8 = .ok (.iload 5, 2) := by decide +kernel
theorem d_ArraysSupport_hashCode3_10 : decode prog_55_method_9_code 10 = .ok (.iload 4, 2) := by decide +kernel
theorem d_ArraysSupport_hashCode3_12 : decode prog_55_method_9_code 12 = .ok (.if_icmp .ge 19, 3) := by decide +kernel
theorem d_ArraysSupport_hashCode3_15 : decode prog_55_method_9_code 15 = .ok (.bipush 31, 2) := by decide +kernel
theorem d_ArraysSupport_hashCode3_17 : decode prog_55_method_9_code 17 = .ok (.iload_n 0, 1) := by decide +kernel
theorem d_ArraysSupport_hashCode3_18 : decode prog_55_method_9_code 18 = .ok (.imul, 1) := by decide +kernel
theorem d_ArraysSupport_hashCode3_19 : decode prog_55_method_9_code 19 = .ok (.aload_n 1, 1) := by decide +kernel
theorem d_ArraysSupport_hashCode3_20 : decode prog_55_method_9_code 20 = .ok (.iload 5, 2) := by decide +kernel
theorem d_ArraysSupport_hashCode3_22 : decode prog_55_method_9_code 22 = .ok (.iaload, 1) := by decide +kernel
theorem d_ArraysSupport_hashCode3_23 : decode prog_55_method_9_code 23 = .ok (.iadd, 1) := by decide +kernel
theorem d_ArraysSupport_hashCode3_24 : decode prog_55_method_9_code 24 = .ok (.istore_n 0, 1) := by decide +kernel
theorem d_ArraysSupport_hashCode3_25 : decode prog_55_method_9_code 25 = .ok (.iinc 5 1, 3) := by decide +kernel
theorem d_ArraysSupport_hashCode3_28 : decode prog_55_method_9_code 28 = .ok (.goto (-20), 3) := by decide +kernel
theorem d_ArraysSupport_hashCode3_31 : decode prog_55_method_9_code 31 = .ok (.iload_n 0, 1) := by decide +kernel
theorem d_ArraysSupport_hashCode3_32 : decode prog_55_method_9_code 32 = .ok (.ireturn, 1) := by decide +kernel
def ArraysSupport_hashCode3_8 (h : g_AH)  : Nat → Int32 → Option Nat → Int32 → Int32 → Option (Int32)
  | 0, _, _, _, _ => none
  | n + 1, v0, v1, v4, v5 => if v4 ≤ v5 then (some v0) else (g_nn v1 fun a2 => g_aI h 0 a2 v5 fun x3 => (ArraysSupport_hashCode3_8 h  n) (((31 : Int32) * v0) + x3) (some a2) v4 (v5 + (1 : Int32)))
set_option maxHeartbeats 4000000 in
set_option maxRecDepth 100000 in
theorem W_ArraysSupport_hashCode3_8 {X : g_X} (h : g_AH) (z : Int32)  : ∀ (n : Nat) (v0 : Int32) (v1 : Option Nat) (v4 : Int32) (v5 : Int32), ArraysSupport_hashCode3_8 h  n v0 v1 v4 v5 = some z → G X k_ArraysSupport_hashCode3 (.inl (some (.int z))) h h 8 [(0, .int v0), (1, va_rf v1), (4, .int v4), (5, .int v5)] [] := by
  intro n
  induction n with
  | zero => intro v0 v1 v4 v5 hy; exact absurd hy (by simp [ArraysSupport_hashCode3_8])
  | succ n ih =>
    intro v0 v1 v4 v5 hy
    rw [ArraysSupport_hashCode3_8] at hy
    refine g_iload 3 (pc' := 10) d_ArraysSupport_hashCode3_8 rfl rfl ?_
    refine g_iload 2 (pc' := 12) d_ArraysSupport_hashCode3_10 rfl rfl ?_
    by_cases c1 : v4 ≤ v5
    · rw [if_pos c1] at hy
      refine g_icmp_geT (pc' := 31) d_ArraysSupport_hashCode3_12 c1 (by decide) ?_
      refine g_iload_n 0 (i := 0) (pc' := 32) d_ArraysSupport_hashCode3_31 rfl rfl rfl ?_
      cases hy
      exact g_iret rfl rfl rfl d_ArraysSupport_hashCode3_32
    · rw [if_neg c1] at hy
      refine g_icmp_geF (pc' := 15) d_ArraysSupport_hashCode3_12 31 c1 (by decide) rfl ?_
      refine g_bipush (v := (31 : Int32)) (pc' := 17) d_ArraysSupport_hashCode3_15 (by decide) rfl ?_
      refine g_iload_n 0 (i := 0) (pc' := 18) d_ArraysSupport_hashCode3_17 rfl rfl rfl ?_
      refine g_imul (pc' := 19) d_ArraysSupport_hashCode3_18 rfl ?_
      refine g_aloadO_n 1 (i := 1) (pc' := 20) d_ArraysSupport_hashCode3_19 rfl rfl rfl ?_
      refine g_iload 3 (pc' := 22) d_ArraysSupport_hashCode3_20 rfl rfl ?_
      replace hy := g_nn_inv hy
      obtain ⟨a2, rfl, hy⟩ := hy
      replace hy := g_aI_inv hy
      obtain ⟨n4, f5, hc6, hi7, hy⟩ := hy
      refine g_iald (pc' := 23) d_ArraysSupport_hashCode3_22 hc6 hi7 rfl ?_
      generalize f5 (v5).toNatClampNeg = x3 at hy ⊢
      refine g_iadd (pc' := 24) d_ArraysSupport_hashCode3_23 rfl ?_
      refine g_istore_n (i := 0) (pc' := 25) (Lc' := [(0, .int (((31 : Int32) * v0) + x3)), (1, .ref a2), (4, .int v4), (5, .int v5)]) d_ArraysSupport_hashCode3_24 rfl (by decide) rfl rfl ?_
      refine g_iinc 3 (v := (v5 + (1 : Int32))) (pc' := 28) (Lc' := [(5, .int (v5 + (1 : Int32))), (0, .int (((31 : Int32) * v0) + x3)), (1, .ref a2), (4, .int v4)]) d_ArraysSupport_hashCode3_25 rfl rfl (by decide) rfl rfl ?_
      refine g_goto (pc' := 8) d_ArraysSupport_hashCode3_28 (by decide) ?_
      refine g_sub [1, 2, 3, 0] rfl ?_
      exact ih _ _ _ _ hy
def ArraysSupport_hashCode3 (h : g_AH) (p0 : Int32) (p1 : Option Nat) (p2 : Int32) (p3 : Int32) : Option (Int32) :=
  ArraysSupport_hashCode3_8 h  gFU p0 p1 (p2 + p3) p2
set_option maxHeartbeats 4000000 in
set_option maxRecDepth 100000 in
theorem T_ArraysSupport_hashCode3 {l : Launch} {B : g_B} (h : g_AH) (p0 : Int32) (p1 : Option Nat) (p2 : Int32) (p3 : Int32) (z : Int32) (hy : ArraysSupport_hashCode3 h p0 p1 p2 p3 = some z) : g_CT l B y_ArraysSupport_hashCode3 k_ArraysSupport_hashCode3 [.int p0, va_rf p1, .int p2, .int p3] h (.inl (some (.int z))) h := by
  refine g_start2 (Lc := [(0, .int p0), (1, va_rf p1), (2, .int p2), (3, .int p3)]) (by decide) rfl rfl (by rcases p1 with _ | p1 <;> exact Nat.le_of_ble_eq_true rfl) (by rcases p1 with _ | p1 <;> rfl) fun X => ?_
  unfold ArraysSupport_hashCode3 at hy
  refine g_iload_n 2 (i := 2) (pc' := 1) d_ArraysSupport_hashCode3_0 rfl rfl rfl ?_
  refine g_iload_n 3 (i := 3) (pc' := 2) d_ArraysSupport_hashCode3_1 rfl rfl rfl ?_
  refine g_iadd (pc' := 3) d_ArraysSupport_hashCode3_2 rfl ?_
  refine g_istore (pc' := 5) (Lc' := [(4, .int (p2 + p3)), (0, .int p0), (1, va_rf p1), (2, .int p2), (3, .int p3)]) d_ArraysSupport_hashCode3_3 (by decide) rfl rfl ?_
  refine g_iload_n 3 (i := 2) (pc' := 6) d_ArraysSupport_hashCode3_5 rfl rfl rfl ?_
  refine g_istore (pc' := 8) (Lc' := [(5, .int p2), (4, .int (p2 + p3)), (0, .int p0), (1, va_rf p1), (2, .int p2), (3, .int p3)]) d_ArraysSupport_hashCode3_6 (by decide) rfl rfl ?_
  refine g_sub [2, 3, 1, 0] rfl ?_
  exact W_ArraysSupport_hashCode3_8 _ _ _ _ _ _ _ hy
theorem hd_ArraysSupport_hashCode3 : g_dsc y_ArraysSupport_hashCode3 4 := ⟨by decide +kernel, by decide +kernel, by decide +kernel⟩
/-! jdk/internal/util/ArraysSupport.vectorizedHashCode(Ljava/lang/Object;IIII)I -/
abbrev y_ArraysSupport_vectorizedHashCode : MethodName := ⟨"jdk/internal/util/ArraysSupport", "vectorizedHashCode", "(Ljava/lang/Object;IIII)I"⟩
abbrev k_ArraysSupport_vectorizedHashCode : g_M := (prog_55_method_4_code, 5, "jdk/internal/util/ArraysSupport", 29, (some FieldType.int), "vectorizedHashCode", [], 0)
theorem d_ArraysSupport_vectorizedHashCode_0 : decode prog_55_method_4_code 0 = .ok (.iload 4, 2) := by decide +kernel
theorem d_ArraysSupport_vectorizedHashCode_2 : decode prog_55_method_4_code 2 = .ok (.tableswitch 127 4 10 #[42, 55, 127, 127, 88, 101, 114], 42) := by decide +kernel
theorem d_ArraysSupport_vectorizedHashCode_44 : decode prog_55_method_4_code 44 = .ok (.iload_n 3, 1) := by decide +kernel
theorem d_ArraysSupport_vectorizedHashCode_45 : decode prog_55_method_4_code 45 = .ok (.aload_n 0, 1) := by decide +kernel
theorem d_ArraysSupport_vectorizedHashCode_46 : decode prog_55_method_4_code 46 = .ok (.checkcast 60, 3) := by decide +kernel
theorem d_ArraysSupport_vectorizedHashCode_49 : decode prog_55_method_4_code 49 = .ok (.iload_n 1, 1) := by decide +kernel
theorem d_ArraysSupport_vectorizedHashCode_50 : decode prog_55_method_4_code 50 = .ok (.iload_n 2, 1) := by decide +kernel
theorem d_ArraysSupport_vectorizedHashCode_51 : decode prog_55_method_4_code 51 = .ok (.invokestatic 62, 3) := by decide +kernel
theorem d_ArraysSupport_vectorizedHashCode_54 : decode prog_55_method_4_code 54 = .ok (.goto 103, 3) := by decide +kernel
theorem d_ArraysSupport_vectorizedHashCode_90 : decode prog_55_method_4_code 90 = .ok (.iload_n 3, 1) := by decide +kernel
theorem d_ArraysSupport_vectorizedHashCode_91 : decode prog_55_method_4_code 91 = .ok (.aload_n 0, 1) := by decide +kernel
theorem d_ArraysSupport_vectorizedHashCode_92 : decode prog_55_method_4_code 92 = .ok (.checkcast 60, 3) := by decide +kernel
theorem d_ArraysSupport_vectorizedHashCode_95 : decode prog_55_method_4_code 95 = .ok (.iload_n 1, 1) := by decide +kernel
theorem d_ArraysSupport_vectorizedHashCode_96 : decode prog_55_method_4_code 96 = .ok (.iload_n 2, 1) := by decide +kernel
theorem d_ArraysSupport_vectorizedHashCode_97 : decode prog_55_method_4_code 97 = .ok (.invokestatic 75, 3) := by decide +kernel
theorem d_ArraysSupport_vectorizedHashCode_100 : decode prog_55_method_4_code 100 = .ok (.goto 57, 3) := by decide +kernel
theorem d_ArraysSupport_vectorizedHashCode_116 : decode prog_55_method_4_code 116 = .ok (.iload_n 3, 1) := by decide +kernel
theorem d_ArraysSupport_vectorizedHashCode_117 : decode prog_55_method_4_code 117 = .ok (.aload_n 0, 1) := by decide +kernel
theorem d_ArraysSupport_vectorizedHashCode_118 : decode prog_55_method_4_code 118 = .ok (.checkcast 82, 3) := by decide +kernel
theorem d_ArraysSupport_vectorizedHashCode_121 : decode prog_55_method_4_code 121 = .ok (.iload_n 1, 1) := by decide +kernel
theorem d_ArraysSupport_vectorizedHashCode_122 : decode prog_55_method_4_code 122 = .ok (.iload_n 2, 1) := by decide +kernel
theorem d_ArraysSupport_vectorizedHashCode_123 : decode prog_55_method_4_code 123 = .ok (.invokestatic 84, 3) := by decide +kernel
theorem d_ArraysSupport_vectorizedHashCode_126 : decode prog_55_method_4_code 126 = .ok (.goto 31, 3) := by decide +kernel
theorem d_ArraysSupport_vectorizedHashCode_157 : decode prog_55_method_4_code 157 = .ok (.ireturn, 1) := by decide +kernel
def ArraysSupport_vectorizedHashCode (h : g_AH) (p0 : Option Nat) (p1 : Int32) (p2 : Int32) (p3 : Int32) (p4 : Int32) : Option (Int32 × g_AH) :=
  if p4 = (4 : Int32) then (g_nn p0 fun a2 => g_isA h 2 a2 <| g_b (ArraysSupport_signedHashCode h p3 (some a2) p1 p2) fun x5 => some (x5, h)) else (if p4 = (5 : Int32) then (none) else (if p4 = (6 : Int32) then (none) else (if p4 = (7 : Int32) then (none) else (if p4 = (8 : Int32) then (g_nn p0 fun a12 => g_isA h 2 a12 <| g_b (ArraysSupport_hashCode1 h p3 (some a12) p1 p2) fun x15 => some (x15, h)) else (if p4 = (9 : Int32) then (none) else (if p4 = (10 : Int32) then (g_nn p0 fun a20 => g_isA h 0 a20 <| g_b (ArraysSupport_hashCode3 h p3 (some a20) p1 p2) fun x23 => some (x23, h)) else (none)))))))
set_option maxHeartbeats 4000000 in
set_option maxRecDepth 100000 in
theorem T_ArraysSupport_vectorizedHashCode {l : Launch} {B : g_B} (h : g_AH) (p0 : Option Nat) (p1 : Int32) (p2 : Int32) (p3 : Int32) (p4 : Int32) (z : Int32 × g_AH) (hy : ArraysSupport_vectorizedHashCode h p0 p1 p2 p3 p4 = some z) : g_CT l B y_ArraysSupport_vectorizedHashCode k_ArraysSupport_vectorizedHashCode [va_rf p0, .int p1, .int p2, .int p3, .int p4] h (.inl (some (.int z.1))) z.2 := by
  refine g_start2 (Lc := [(0, va_rf p0), (1, .int p1), (2, .int p2), (3, .int p3), (4, .int p4)]) (by decide) rfl rfl (by rcases p0 with _ | p0 <;> exact Nat.le_of_ble_eq_true rfl) (by rcases p0 with _ | p0 <;> rfl) fun X => ?_
  unfold ArraysSupport_vectorizedHashCode at hy
  refine g_iload 4 (pc' := 2) d_ArraysSupport_vectorizedHashCode_0 rfl rfl ?_
  by_cases c1 : p4 = (4 : Int32)
  · rw [if_pos c1] at hy
    refine g_tableIn (pc' := 44) (4 : Int32) d_ArraysSupport_vectorizedHashCode_2 c1 (by decide) rfl (by decide) ?_
    refine g_iload_n 3 (i := 3) (pc' := 45) d_ArraysSupport_vectorizedHashCode_44 rfl rfl rfl ?_
    refine g_aloadO_n 0 (i := 0) (pc' := 46) d_ArraysSupport_vectorizedHashCode_45 rfl rfl rfl ?_
    replace hy := g_nn_inv hy
    obtain ⟨a2, rfl, hy⟩ := hy
    replace hy := g_isA_inv hy
    obtain ⟨y3, hc4, hy⟩ := hy
    refine g_castA (ty := .byte) (pc' := 49) d_ArraysSupport_vectorizedHashCode_46 hc4 q904 (fun _ => rfl) (by decide) rfl ?_
    refine g_iload_n 1 (i := 1) (pc' := 50) d_ArraysSupport_vectorizedHashCode_49 rfl rfl rfl ?_
    refine g_iload_n 2 (i := 2) (pc' := 51) d_ArraysSupport_vectorizedHashCode_50 rfl rfl rfl ?_
    replace hy := g_b_inv hy
    obtain ⟨x5, hf7, hy⟩ := hy
    refine g_callS (rv := some (.int x5)) (h1 := h) (pc' := 54) (As := [.int p3, va_rf (some a2), .int p1, .int p2]) (rest := []) 4 (T_ArraysSupport_signedHashCode (hy := hf7)) d_ArraysSupport_vectorizedHashCode_51 q905 q906 q121 q907 hd_ArraysSupport_signedHashCode rfl ⟨by decide, by decide⟩ (by first | exact Nat.le_of_ble_eq_true rfl | (simp only [List.map, List.sum_cons, List.sum_nil, g_cat_rf]; exact Nat.le_of_ble_eq_true rfl) | (simp only [List.map, List.sum_cons, List.sum_nil, g_cat_rf, Value.category]; decide)) rfl ?_
    refine g_goto (pc' := 157) d_ArraysSupport_vectorizedHashCode_54 (by decide) ?_
    cases hy
    exact g_iret rfl rfl rfl d_ArraysSupport_vectorizedHashCode_157
  · rw [if_neg c1] at hy
    by_cases c8 : p4 = (5 : Int32)
    · rw [if_pos c8] at hy
      refine g_tableIn (pc' := 57) (5 : Int32) d_ArraysSupport_vectorizedHashCode_2 c8 (by decide) rfl (by decide) ?_
      cases hy
    · rw [if_neg c8] at hy
      by_cases c9 : p4 = (6 : Int32)
      · rw [if_pos c9] at hy
        refine g_tableIn (pc' := 129) (6 : Int32) d_ArraysSupport_vectorizedHashCode_2 c9 (by decide) rfl (by decide) ?_
        cases hy
      · rw [if_neg c9] at hy
        by_cases c10 : p4 = (7 : Int32)
        · rw [if_pos c10] at hy
          refine g_tableIn (pc' := 129) (7 : Int32) d_ArraysSupport_vectorizedHashCode_2 c10 (by decide) rfl (by decide) ?_
          cases hy
        · rw [if_neg c10] at hy
          by_cases c11 : p4 = (8 : Int32)
          · rw [if_pos c11] at hy
            refine g_tableIn (pc' := 90) (8 : Int32) d_ArraysSupport_vectorizedHashCode_2 c11 (by decide) rfl (by decide) ?_
            refine g_iload_n 3 (i := 3) (pc' := 91) d_ArraysSupport_vectorizedHashCode_90 rfl rfl rfl ?_
            refine g_aloadO_n 0 (i := 0) (pc' := 92) d_ArraysSupport_vectorizedHashCode_91 rfl rfl rfl ?_
            replace hy := g_nn_inv hy
            obtain ⟨a12, rfl, hy⟩ := hy
            replace hy := g_isA_inv hy
            obtain ⟨y13, hc14, hy⟩ := hy
            refine g_castA (ty := .byte) (pc' := 95) d_ArraysSupport_vectorizedHashCode_92 hc14 q904 (fun _ => rfl) (by decide) rfl ?_
            refine g_iload_n 1 (i := 1) (pc' := 96) d_ArraysSupport_vectorizedHashCode_95 rfl rfl rfl ?_
            refine g_iload_n 2 (i := 2) (pc' := 97) d_ArraysSupport_vectorizedHashCode_96 rfl rfl rfl ?_
            replace hy := g_b_inv hy
            obtain ⟨x15, hf17, hy⟩ := hy
            refine g_callS (rv := some (.int x15)) (h1 := h) (pc' := 100) (As := [.int p3, va_rf (some a12), .int p1, .int p2]) (rest := []) 4 (T_ArraysSupport_hashCode1 (hy := hf17)) d_ArraysSupport_vectorizedHashCode_97 q928 q929 q121 q930 hd_ArraysSupport_hashCode1 rfl ⟨by decide, by decide⟩ (by first | exact Nat.le_of_ble_eq_true rfl | (simp only [List.map, List.sum_cons, List.sum_nil, g_cat_rf]; exact Nat.le_of_ble_eq_true rfl) | (simp only [List.map, List.sum_cons, List.sum_nil, g_cat_rf, Value.category]; decide)) rfl ?_
            refine g_goto (pc' := 157) d_ArraysSupport_vectorizedHashCode_100 (by decide) ?_
            cases hy
            exact g_iret rfl rfl rfl d_ArraysSupport_vectorizedHashCode_157
          · rw [if_neg c11] at hy
            by_cases c18 : p4 = (9 : Int32)
            · rw [if_pos c18] at hy
              refine g_tableIn (pc' := 103) (9 : Int32) d_ArraysSupport_vectorizedHashCode_2 c18 (by decide) rfl (by decide) ?_
              cases hy
            · rw [if_neg c18] at hy
              by_cases c19 : p4 = (10 : Int32)
              · rw [if_pos c19] at hy
                refine g_tableIn (pc' := 116) (10 : Int32) d_ArraysSupport_vectorizedHashCode_2 c19 (by decide) rfl (by decide) ?_
                refine g_iload_n 3 (i := 3) (pc' := 117) d_ArraysSupport_vectorizedHashCode_116 rfl rfl rfl ?_
                refine g_aloadO_n 0 (i := 0) (pc' := 118) d_ArraysSupport_vectorizedHashCode_117 rfl rfl rfl ?_
                replace hy := g_nn_inv hy
                obtain ⟨a20, rfl, hy⟩ := hy
                replace hy := g_isA_inv hy
                obtain ⟨y21, hc22, hy⟩ := hy
                refine g_castA (ty := .int) (pc' := 121) d_ArraysSupport_vectorizedHashCode_118 hc22 q935 (fun _ => rfl) (by decide) rfl ?_
                refine g_iload_n 1 (i := 1) (pc' := 122) d_ArraysSupport_vectorizedHashCode_121 rfl rfl rfl ?_
                refine g_iload_n 2 (i := 2) (pc' := 123) d_ArraysSupport_vectorizedHashCode_122 rfl rfl rfl ?_
                replace hy := g_b_inv hy
                obtain ⟨x23, hf25, hy⟩ := hy
                refine g_callS (rv := some (.int x23)) (h1 := h) (pc' := 126) (As := [.int p3, va_rf (some a20), .int p1, .int p2]) (rest := []) 4 (T_ArraysSupport_hashCode3 (hy := hf25)) d_ArraysSupport_vectorizedHashCode_123 q936 q937 q121 q938 hd_ArraysSupport_hashCode3 rfl ⟨by decide, by decide⟩ (by first | exact Nat.le_of_ble_eq_true rfl | (simp only [List.map, List.sum_cons, List.sum_nil, g_cat_rf]; exact Nat.le_of_ble_eq_true rfl) | (simp only [List.map, List.sum_cons, List.sum_nil, g_cat_rf, Value.category]; decide)) rfl ?_
                refine g_goto (pc' := 157) d_ArraysSupport_vectorizedHashCode_126 (by decide) ?_
                cases hy
                exact g_iret rfl rfl rfl d_ArraysSupport_vectorizedHashCode_157
              · rw [if_neg c19] at hy
                have c1 := g_neI (n := 4) (by decide) c1
                have c8 := g_neI (n := 5) (by decide) c8
                have c9 := g_neI (n := 6) (by decide) c9
                have c10 := g_neI (n := 7) (by decide) c10
                have c11 := g_neI (n := 8) (by decide) c11
                have c18 := g_neI (n := 9) (by decide) c18
                have c19 := g_neI (n := 10) (by decide) c19
                refine g_tableOut (pc' := 129) d_ArraysSupport_vectorizedHashCode_2 (by omega) (by decide) ?_
                cases hy
theorem hd_ArraysSupport_vectorizedHashCode : g_dsc y_ArraysSupport_vectorizedHashCode 5 := ⟨by decide +kernel, by decide +kernel, by decide +kernel⟩
