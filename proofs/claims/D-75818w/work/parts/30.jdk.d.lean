/-! java/lang/StringLatin1.hashCode([B)I -/
abbrev y_StringLatin1_hashCode : MethodName := ⟨"java/lang/StringLatin1", "hashCode", "([B)I"⟩
abbrev k_StringLatin1_hashCode : g_M := (prog_36_method_21_code, 1, "java/lang/StringLatin1", 30, (some FieldType.int), "hashCode", [], 0)
theorem d_StringLatin1_hashCode_0 : decode prog_36_method_21_code 0 = .ok (.aload_n 0, 1) := by decide +kernel
theorem d_StringLatin1_hashCode_1 : decode prog_36_method_21_code 1 = .ok (.arraylength, 1) := by decide +kernel
theorem d_StringLatin1_hashCode_2 : decode prog_36_method_21_code 2 = .ok (.lookupswitch 40 #[(0, 26), (1, 30)], 26) := by decide +kernel
theorem d_StringLatin1_hashCode_28 : decode prog_36_method_21_code 28 = .ok (.iconst 0, 1) := by decide +kernel
theorem d_StringLatin1_hashCode_29 : decode prog_36_method_21_code 29 = .ok (.goto 22, 3) := by decide +kernel
theorem d_StringLatin1_hashCode_32 : decode prog_36_method_21_code 32 = .ok (.aload_n 0, 1) := by decide +kernel
theorem d_StringLatin1_hashCode_33 : decode prog_36_method_21_code 33 = .ok (.iconst 0, 1) := by decide +kernel
theorem d_StringLatin1_hashCode_34 : decode prog_36_method_21_code 34 = .ok (.baload, 1) := by decide +kernel
theorem d_StringLatin1_hashCode_35 : decode prog_36_method_21_code 35 = .ok (.sipush 255, 3) := by decide +kernel
theorem d_StringLatin1_hashCode_38 : decode prog_36_method_21_code 38 = .ok (.iand, 1) := by decide +kernel
theorem d_StringLatin1_hashCode_39 : decode prog_36_method_21_code 39 = .ok (.goto 12, 3) := by decide +kernel
theorem d_StringLatin1_hashCode_42 : decode prog_36_method_21_code 42 = .ok (.aload_n 0, 1) := by decide +kernel
theorem d_StringLatin1_hashCode_43 : decode prog_36_method_21_code 43 = .ok (.iconst 0, 1) := by decide +kernel
theorem d_StringLatin1_hashCode_44 : decode prog_36_method_21_code 44 = .ok (.aload_n 0, 1) := by decide +kernel
theorem d_StringLatin1_hashCode_45 : decode prog_36_method_21_code 45 = .ok (.arraylength, 1) := by decide +kernel
theorem d_StringLatin1_hashCode_46 : decode prog_36_method_21_code 46 = .ok (.iconst 0, 1) := by decide +kernel
theorem d_StringLatin1_hashCode_47 : decode prog_36_method_21_code 47 = .ok (.iconst 4, 1) := by decide +kernel
theorem d_StringLatin1_hashCode_48 : decode prog_36_method_21_code 48 = .ok (.invokestatic 84, 3) := by decide +kernel
theorem d_StringLatin1_hashCode_51 : decode prog_36_method_21_code 51 = .ok (.ireturn, 1) := by decide +kernel
def StringLatin1_hashCode (h : g_AH) (p0 : Option Nat) : Option (Int32 × g_AH) :=
  g_nn p0 fun a1 => g_len h a1 fun x6 => if x6 = (0 : Int32) then (some ((0 : Int32), h)) else (if x6 = (1 : Int32) then (g_aI h 2 a1 (0 : Int32) fun x9 => some ((x9 &&& (255 : Int32)), h)) else (g_len h a1 fun x18 => g_b2 (ArraysSupport_vectorizedHashCode h (some a1) (0 : Int32) x18 (0 : Int32) (4 : Int32)) fun x19 h20 => some (x19, h20)))
set_option maxHeartbeats 4000000 in
set_option maxRecDepth 100000 in
theorem T_StringLatin1_hashCode {l : Launch} {B : g_B} (h : g_AH) (p0 : Option Nat) (z : Int32 × g_AH) (hy : StringLatin1_hashCode h p0 = some z) : g_CT l B y_StringLatin1_hashCode k_StringLatin1_hashCode [va_rf p0] h (.inl (some (.int z.1))) z.2 := by
  refine g_start2 (Lc := [(0, va_rf p0)]) (by decide) rfl rfl (by rcases p0 with _ | p0 <;> exact Nat.le_of_ble_eq_true rfl) (by rcases p0 with _ | p0 <;> rfl) fun X => ?_
  unfold StringLatin1_hashCode at hy
  refine g_aloadO_n 0 (i := 0) (pc' := 1) d_StringLatin1_hashCode_0 rfl rfl rfl ?_
  replace hy := g_nn_inv hy
  obtain ⟨a1, rfl, hy⟩ := hy
  replace hy := g_len_inv hy
  obtain ⟨t2, y3, hc4, ht5, hy⟩ := hy
  refine g_alen (pc' := 2) d_StringLatin1_hashCode_1 hc4 ht5 rfl rfl ?_
  generalize Int32.ofNat y3.1 = x6 at hy ⊢
  by_cases c7 : x6 = (0 : Int32)
  · rw [if_pos c7] at hy
    refine g_lookup (off := 26) (pc' := 28) d_StringLatin1_hashCode_2 (by decide) (by rw [c7]; decide) (by decide) ?_
    refine g_iconst (v := (0 : Int32)) (pc' := 29) d_StringLatin1_hashCode_28 (by decide) rfl ?_
    refine g_goto (pc' := 51) d_StringLatin1_hashCode_29 (by decide) ?_
    cases hy
    exact g_iret rfl rfl rfl d_StringLatin1_hashCode_51
  · rw [if_neg c7] at hy
    by_cases c8 : x6 = (1 : Int32)
    · rw [if_pos c8] at hy
      refine g_lookup (off := 30) (pc' := 32) d_StringLatin1_hashCode_2 (by decide) (by rw [c8]; decide) (by decide) ?_
      refine g_aload_n 0 (i := 0) (pc' := 33) d_StringLatin1_hashCode_32 rfl rfl rfl ?_
      refine g_iconst (v := (0 : Int32)) (pc' := 34) d_StringLatin1_hashCode_33 (by decide) rfl ?_
      replace hy := g_aI_inv hy
      obtain ⟨n10, f11, hc12, hi13, hy⟩ := hy
      refine g_bald (pc' := 35) d_StringLatin1_hashCode_34 hc12 hi13 rfl ?_
      generalize f11 ((0 : Int32)).toNatClampNeg = x9 at hy ⊢
      refine g_sipush (v := (255 : Int32)) (pc' := 38) d_StringLatin1_hashCode_35 (by decide) rfl ?_
      refine g_iand (pc' := 39) d_StringLatin1_hashCode_38 rfl ?_
      refine g_goto (pc' := 51) d_StringLatin1_hashCode_39 (by decide) ?_
      cases hy
      exact g_iret rfl rfl rfl d_StringLatin1_hashCode_51
    · rw [if_neg c8] at hy
      have c7 := g_neI (n := 0) (by decide) c7
      have c8 := g_neI (n := 1) (by decide) c8
      refine g_lookup (off := 40) (pc' := 42) d_StringLatin1_hashCode_2 (by decide) (by simp [Op.lookupswitch.offset, Ne.symm c7, Ne.symm c8]) (by decide) ?_
      refine g_aload_n 0 (i := 0) (pc' := 43) d_StringLatin1_hashCode_42 rfl rfl rfl ?_
      refine g_iconst (v := (0 : Int32)) (pc' := 44) d_StringLatin1_hashCode_43 (by decide) rfl ?_
      refine g_aload_n 0 (i := 0) (pc' := 45) d_StringLatin1_hashCode_44 rfl rfl rfl ?_
      replace hy := g_len_inv hy
      obtain ⟨t14, y15, hc16, ht17, hy⟩ := hy
      refine g_alen (pc' := 46) d_StringLatin1_hashCode_45 hc16 ht17 rfl rfl ?_
      generalize Int32.ofNat y15.1 = x18 at hy ⊢
      refine g_iconst (v := (0 : Int32)) (pc' := 47) d_StringLatin1_hashCode_46 (by decide) rfl ?_
      refine g_iconst (v := (4 : Int32)) (pc' := 48) d_StringLatin1_hashCode_47 (by decide) rfl ?_
      replace hy := g_b2_inv hy
      obtain ⟨x19, h20, hf21, hy⟩ := hy
      refine g_callS (rv := some (.int x19)) (h1 := h20) (pc' := 51) (As := [va_rf (some a1), .int (0 : Int32), .int x18, .int (0 : Int32), .int (4 : Int32)]) (rest := []) 5 (T_ArraysSupport_vectorizedHashCode (hy := hf21)) d_StringLatin1_hashCode_48 q901 q902 q121 q903 hd_ArraysSupport_vectorizedHashCode rfl ⟨by decide, by decide⟩ (by first | exact Nat.le_of_ble_eq_true rfl | (simp only [List.map, List.sum_cons, List.sum_nil, g_cat_rf]; exact Nat.le_of_ble_eq_true rfl) | (simp only [List.map, List.sum_cons, List.sum_nil, g_cat_rf, Value.category]; decide)) rfl ?_
      cases hy
      exact g_iret rfl rfl rfl d_StringLatin1_hashCode_51
theorem hd_StringLatin1_hashCode : g_dsc y_StringLatin1_hashCode 1 := ⟨by decide +kernel, by decide +kernel, by decide +kernel⟩
/-! java/lang/StringUTF16.hashCode([B)I -/
abbrev y_StringUTF16_hashCode : MethodName := ⟨"java/lang/StringUTF16", "hashCode", "([B)I"⟩
abbrev k_StringUTF16_hashCode : g_M := (prog_37_method_39_code, 1, "java/lang/StringUTF16", 30, (some FieldType.int), "hashCode", [], 0)
theorem d_StringUTF16_hashCode_0 : decode prog_37_method_39_code 0 = .ok (.aload_n 0, 1) := by decide +kernel
theorem d_StringUTF16_hashCode_1 : decode prog_37_method_39_code 1 = .ok (.arraylength, 1) := by decide +kernel
theorem d_StringUTF16_hashCode_2 : decode prog_37_method_39_code 2 = .ok (.lookupswitch 38 #[(0, 26), (2, 30)], 26) := by decide +kernel
theorem d_StringUTF16_hashCode_28 : decode prog_37_method_39_code 28 = .ok (.iconst 0, 1) := by decide +kernel
theorem d_StringUTF16_hashCode_29 : decode prog_37_method_39_code 29 = .ok (.goto 22, 3) := by decide +kernel
theorem d_StringUTF16_hashCode_40 : decode prog_37_method_39_code 40 = .ok (.aload_n 0, 1) := by decide +kernel
theorem d_StringUTF16_hashCode_41 : decode prog_37_method_39_code 41 = .ok (.iconst 0, 1) := by decide +kernel
theorem d_StringUTF16_hashCode_42 : decode prog_37_method_39_code 42 = .ok (.aload_n 0, 1) := by decide +kernel
theorem d_StringUTF16_hashCode_43 : decode prog_37_method_39_code 43 = .ok (.arraylength, 1) := by decide +kernel
theorem d_StringUTF16_hashCode_44 : decode prog_37_method_39_code 44 = .ok (.iconst 1, 1) := by decide +kernel
theorem d_StringUTF16_hashCode_45 : decode prog_37_method_39_code 45 = .ok (.ishr, 1) := by decide +kernel
theorem d_StringUTF16_hashCode_46 : decode prog_37_method_39_code 46 = .ok (.iconst 0, 1) := by decide +kernel
theorem d_StringUTF16_hashCode_47 : decode prog_37_method_39_code 47 = .ok (.iconst 5, 1) := by decide +kernel
theorem d_StringUTF16_hashCode_48 : decode prog_37_method_39_code 48 = .ok (.invokestatic 220, 3) := by decide +kernel
theorem d_StringUTF16_hashCode_51 : decode prog_37_method_39_code 51 = .ok (.ireturn, 1) := by decide +kernel
def StringUTF16_hashCode (h : g_AH) (p0 : Option Nat) : Option (Int32 × g_AH) :=
  g_nn p0 fun a1 => g_len h a1 fun x6 => if x6 = (0 : Int32) then (some ((0 : Int32), h)) else (if x6 = (2 : Int32) then (none) else (g_len h a1 fun x13 => g_b2 (ArraysSupport_vectorizedHashCode h (some a1) (0 : Int32) (x13 >>> ((1 : Int32) &&& 31)) (0 : Int32) (5 : Int32)) fun x14 h15 => some (x14, h15)))
set_option maxHeartbeats 4000000 in
set_option maxRecDepth 100000 in
theorem T_StringUTF16_hashCode {l : Launch} {B : g_B} (h : g_AH) (p0 : Option Nat) (z : Int32 × g_AH) (hy : StringUTF16_hashCode h p0 = some z) : g_CT l B y_StringUTF16_hashCode k_StringUTF16_hashCode [va_rf p0] h (.inl (some (.int z.1))) z.2 := by
  refine g_start2 (Lc := [(0, va_rf p0)]) (by decide) rfl rfl (by rcases p0 with _ | p0 <;> exact Nat.le_of_ble_eq_true rfl) (by rcases p0 with _ | p0 <;> rfl) fun X => ?_
  unfold StringUTF16_hashCode at hy
  refine g_aloadO_n 0 (i := 0) (pc' := 1) d_StringUTF16_hashCode_0 rfl rfl rfl ?_
  replace hy := g_nn_inv hy
  obtain ⟨a1, rfl, hy⟩ := hy
  replace hy := g_len_inv hy
  obtain ⟨t2, y3, hc4, ht5, hy⟩ := hy
  refine g_alen (pc' := 2) d_StringUTF16_hashCode_1 hc4 ht5 rfl rfl ?_
  generalize Int32.ofNat y3.1 = x6 at hy ⊢
  by_cases c7 : x6 = (0 : Int32)
  · rw [if_pos c7] at hy
    refine g_lookup (off := 26) (pc' := 28) d_StringUTF16_hashCode_2 (by decide) (by rw [c7]; decide) (by decide) ?_
    refine g_iconst (v := (0 : Int32)) (pc' := 29) d_StringUTF16_hashCode_28 (by decide) rfl ?_
    refine g_goto (pc' := 51) d_StringUTF16_hashCode_29 (by decide) ?_
    cases hy
    exact g_iret rfl rfl rfl d_StringUTF16_hashCode_51
  · rw [if_neg c7] at hy
    by_cases c8 : x6 = (2 : Int32)
    · rw [if_pos c8] at hy
      refine g_lookup (off := 30) (pc' := 32) d_StringUTF16_hashCode_2 (by decide) (by rw [c8]; decide) (by decide) ?_
      cases hy
    · rw [if_neg c8] at hy
      have c7 := g_neI (n := 0) (by decide) c7
      have c8 := g_neI (n := 2) (by decide) c8
      refine g_lookup (off := 38) (pc' := 40) d_StringUTF16_hashCode_2 (by decide) (by simp [Op.lookupswitch.offset, Ne.symm c7, Ne.symm c8]) (by decide) ?_
      refine g_aload_n 0 (i := 0) (pc' := 41) d_StringUTF16_hashCode_40 rfl rfl rfl ?_
      refine g_iconst (v := (0 : Int32)) (pc' := 42) d_StringUTF16_hashCode_41 (by decide) rfl ?_
      refine g_aload_n 0 (i := 0) (pc' := 43) d_StringUTF16_hashCode_42 rfl rfl rfl ?_
      replace hy := g_len_inv hy
      obtain ⟨t9, y10, hc11, ht12, hy⟩ := hy
      refine g_alen (pc' := 44) d_StringUTF16_hashCode_43 hc11 ht12 rfl rfl ?_
      generalize Int32.ofNat y10.1 = x13 at hy ⊢
      refine g_iconst (v := (1 : Int32)) (pc' := 45) d_StringUTF16_hashCode_44 (by decide) rfl ?_
      refine g_ishr (pc' := 46) d_StringUTF16_hashCode_45 rfl ?_
      refine g_iconst (v := (0 : Int32)) (pc' := 47) d_StringUTF16_hashCode_46 (by decide) rfl ?_
      refine g_iconst (v := (5 : Int32)) (pc' := 48) d_StringUTF16_hashCode_47 (by decide) rfl ?_
      replace hy := g_b2_inv hy
      obtain ⟨x14, h15, hf16, hy⟩ := hy
      refine g_callS (rv := some (.int x14)) (h1 := h15) (pc' := 51) (As := [va_rf (some a1), .int (0 : Int32), .int (x13 >>> ((1 : Int32) &&& 31)), .int (0 : Int32), .int (5 : Int32)]) (rest := []) 5 (T_ArraysSupport_vectorizedHashCode (hy := hf16)) d_StringUTF16_hashCode_48 q950 q902 q121 q903 hd_ArraysSupport_vectorizedHashCode rfl ⟨by decide, by decide⟩ (by first | exact Nat.le_of_ble_eq_true rfl | (simp only [List.map, List.sum_cons, List.sum_nil, g_cat_rf]; exact Nat.le_of_ble_eq_true rfl) | (simp only [List.map, List.sum_cons, List.sum_nil, g_cat_rf, Value.category]; decide)) rfl ?_
      cases hy
      exact g_iret rfl rfl rfl d_StringUTF16_hashCode_51
theorem hd_StringUTF16_hashCode : g_dsc y_StringUTF16_hashCode 1 := ⟨by decide +kernel, by decide +kernel, by decide +kernel⟩
/-! java/lang/String.hashCode()I -/
abbrev y_String_hashCode : MethodName := ⟨"java/lang/String", "hashCode", "()I"⟩
abbrev k_String_hashCode : g_M := (prog_34_method_78_code, 2, "java/lang/String", 31, (some FieldType.int), "hashCode", [], 0)
theorem d_String_hashCode_0 : decode prog_34_method_78_code 0 = .ok (.aload_n 0, 1) := by decide +kernel
theorem d_String_hashCode_1 : decode prog_34_method_78_code 1 = .ok (.getfield 19, 3) := by decide +kernel
theorem d_String_hashCode_4 : decode prog_34_method_78_code 4 = .ok (.istore_n 1, 1) := by decide +kernel
theorem d_String_hashCode_5 : decode prog_34_method_78_code 5 = .ok (.iload_n 1, 1) := by decide +kernel
theorem d_String_hashCode_6 : decode prog_34_method_78_code 6 = .ok (.ifCond .ne 52, 3) := by decide +kernel
theorem d_String_hashCode_9 : decode prog_34_method_78_code 9 = .ok (.aload_n 0, 1) := by decide +kernel
theorem d_String_hashCode_10 : decode prog_34_method_78_code 10 = .ok (.getfield 23, 3) := by decide +kernel
theorem d_String_hashCode_13 : decode prog_34_method_78_code 13 = .ok (.ifCond .ne 45, 3) := by decide +kernel
theorem d_String_hashCode_16 : decode prog_34_method_78_code 16 = .ok (.aload_n 0, 1) := by decide +kernel
theorem d_String_hashCode_17 : decode prog_34_method_78_code 17 = .ok (.invokevirtual 492, 3) := by decide +kernel
theorem d_String_hashCode_20 : decode prog_34_method_78_code 20 = .ok (.ifCond .eq 13, 3) := by decide +kernel
theorem d_String_hashCode_23 : decode prog_34_method_78_code 23 = .ok (.aload_n 0, 1) := by decide +kernel
theorem d_String_hashCode_24 : decode prog_34_method_78_code 24 = .ok (.getfield 9, 3) := by decide +kernel
theorem d_String_hashCode_27 : decode prog_34_method_78_code 27 = .ok (.invokestatic 628, 3) := by decide +kernel
theorem d_String_hashCode_30 : decode prog_34_method_78_code 30 = .ok (.goto 10, 3) := by decide +kernel
theorem d_String_hashCode_33 : decode prog_34_method_78_code 33 = .ok (.aload_n 0, 1) := by decide +kernel
theorem d_String_hashCode_34 : decode prog_34_method_78_code 34 = .ok (.getfield 9, 3) := by decide +kernel
theorem d_String_hashCode_37 : decode prog_34_method_78_code 37 = .ok (.invokestatic 632, 3) := by decide +kernel
theorem d_String_hashCode_40 : decode prog_34_method_78_code 40 = .ok (.istore_n 1, 1) := by decide +kernel
theorem d_String_hashCode_41 : decode prog_34_method_78_code 41 = .ok (.iload_n 1, 1) := by decide +kernel
theorem d_String_hashCode_42 : decode prog_34_method_78_code 42 = .ok (.ifCond .ne 11, 3) := by decide +kernel
theorem d_String_hashCode_45 : decode prog_34_method_78_code 45 = .ok (.aload_n 0, 1) := by decide +kernel
theorem d_String_hashCode_46 : decode prog_34_method_78_code 46 = .ok (.iconst 1, 1) := by decide +kernel
theorem d_String_hashCode_47 : decode prog_34_method_78_code 47 = .ok (.putfield 23, 3) := by decide +kernel
theorem d_String_hashCode_50 : decode prog_34_method_78_code 50 = .ok (.goto 8, 3) := by decide +kernel
theorem d_String_hashCode_53 : decode prog_34_method_78_code 53 = .ok (.aload_n 0, 1) := by decide +kernel
theorem d_String_hashCode_54 : decode prog_34_method_78_code 54 = .ok (.iload_n 1, 1) := by decide +kernel
theorem d_String_hashCode_55 : decode prog_34_method_78_code 55 = .ok (.putfield 19, 3) := by decide +kernel
theorem d_String_hashCode_58 : decode prog_34_method_78_code 58 = .ok (.iload_n 1, 1) := by decide +kernel
theorem d_String_hashCode_59 : decode prog_34_method_78_code 59 = .ok (.ireturn, 1) := by decide +kernel
def String_hashCode_40 (h : g_AH) (v0 : Nat) (s0 : Int32) : Option (Int32 × g_AH) :=
  if s0 = 0 then (g_pF h v0 18 3 (.int (1 : Int32)) fun h32 => some (s0, h32)) else (g_pF h v0 18 2 (.int s0) fun h28 => some (s0, h28))
set_option maxHeartbeats 4000000 in
set_option maxRecDepth 100000 in
theorem W_String_hashCode_40 {X : g_X} (z : Int32 × g_AH) (h : g_AH) (v0 : Nat) (s0 : Int32) (hy : String_hashCode_40  h v0 s0 = some z) : G X k_String_hashCode (.inl (some (.int z.1))) z.2 h 40 [(0, .ref v0)] [.int s0] := by
  unfold String_hashCode_40 at hy
  refine g_istore_n (i := 1) (pc' := 41) (Lc' := [(1, .int s0), (0, .ref v0)]) d_String_hashCode_40 rfl (by decide) rfl rfl ?_
  refine g_iload_n 0 (i := 1) (pc' := 42) d_String_hashCode_41 rfl rfl rfl ?_
  by_cases c24 : s0 = 0
  · rw [if_pos c24] at hy
    refine g_if_neF (pc' := 45) d_String_hashCode_42 53 c24 (by decide) rfl ?_
    refine g_aload_n 1 (i := 0) (pc' := 46) d_String_hashCode_45 rfl rfl rfl ?_
    refine g_iconst (v := (1 : Int32)) (pc' := 47) d_String_hashCode_46 (by decide) rfl ?_
    replace hy := g_pF_inv hy
    obtain ⟨fs29, hc30, hl31, hy⟩ := hy
    refine g_putf (pc' := 50) d_String_hashCode_47 hc30 rfl (by decide) hl31 rfl (g_nar_z (Or.inr rfl)).1 (g_nar_z (Or.inr rfl)).2 q484 (Or.inl rfl) rfl ?_
    generalize g_up h v0 (.inr (18, fs29.set 3 (.int (1 : Int32)))) = h32 at hy ⊢
    refine g_goto (pc' := 58) d_String_hashCode_50 (by decide) ?_
    refine g_iload_n 0 (i := 1) (pc' := 59) d_String_hashCode_58 rfl rfl rfl ?_
    cases hy
    exact g_iret rfl rfl rfl d_String_hashCode_59
  · rw [if_neg c24] at hy
    refine g_if_neT (pc' := 53) d_String_hashCode_42 c24 (by decide) ?_
    refine g_aload_n 1 (i := 0) (pc' := 54) d_String_hashCode_53 rfl rfl rfl ?_
    refine g_iload_n 0 (i := 1) (pc' := 55) d_String_hashCode_54 rfl rfl rfl ?_
    replace hy := g_pF_inv hy
    obtain ⟨fs25, hc26, hl27, hy⟩ := hy
    refine g_putf (pc' := 58) d_String_hashCode_55 hc26 rfl (by decide) hl27 rfl rfl rfl q483 (Or.inl rfl) rfl ?_
    generalize g_up h v0 (.inr (18, fs25.set 2 (.int s0))) = h28 at hy ⊢
    refine g_iload_n 0 (i := 1) (pc' := 59) d_String_hashCode_58 rfl rfl rfl ?_
    cases hy
    exact g_iret rfl rfl rfl d_String_hashCode_59
def String_hashCode (h : g_AH) (this : Nat) : Option (Int32 × g_AH) :=
  g_gI h this 18 2 fun x2 => if x2 = 0 then (g_gI h this 18 3 fun x7 => if x7 = 0 then (g_is h this 18 <| g_b (String_isLatin1 h this) fun x13 => if x13 = 0 then (g_gR h this 18 0 fun x18 => g_b2 (StringUTF16_hashCode h x18) fun x21 h22 => String_hashCode_40  h22 this x21) else (g_gR h this 18 0 fun x34 => g_b2 (StringLatin1_hashCode h x34) fun x37 h38 => String_hashCode_40  h38 this x37)) else (some (x2, h))) else (some (x2, h))
set_option maxHeartbeats 4000000 in
set_option maxRecDepth 100000 in
theorem T_String_hashCode {l : Launch} {B : g_B} (h : g_AH) (this : Nat) (z : Int32 × g_AH) (hy : String_hashCode h this = some z) : g_CT l B y_String_hashCode k_String_hashCode [.ref this] h (.inl (some (.int z.1))) z.2 := by
  refine g_start2 (Lc := [(0, .ref this)]) (by decide) rfl rfl (by exact Nat.le_of_ble_eq_true rfl) (by rfl) fun X => ?_
  unfold String_hashCode at hy
  refine g_aload_n 0 (i := 0) (pc' := 1) d_String_hashCode_0 rfl rfl rfl ?_
  replace hy := g_gI_inv hy
  obtain ⟨fs1, x2, hc3, hv4, hy⟩ := hy
  refine g_getf (pc' := 4) d_String_hashCode_1 hc3 rfl (by decide) hv4 q483 (Or.inl rfl) rfl ?_
  refine g_istore_n (i := 1) (pc' := 5) (Lc' := [(1, .int x2), (0, .ref this)]) d_String_hashCode_4 rfl (by decide) rfl rfl ?_
  refine g_iload_n 0 (i := 1) (pc' := 6) d_String_hashCode_5 rfl rfl rfl ?_
  by_cases c5 : x2 = 0
  · rw [if_pos c5] at hy
    refine g_if_neF (pc' := 9) d_String_hashCode_6 58 c5 (by decide) rfl ?_
    refine g_aload_n 1 (i := 0) (pc' := 10) d_String_hashCode_9 rfl rfl rfl ?_
    replace hy := g_gI_inv hy
    obtain ⟨fs6, x7, hc8, hv9, hy⟩ := hy
    refine g_getf (pc' := 13) d_String_hashCode_10 hc8 rfl (by decide) hv9 q484 (Or.inl rfl) rfl ?_
    by_cases c10 : x7 = 0
    · rw [if_pos c10] at hy
      refine g_if_neF (pc' := 16) d_String_hashCode_13 58 c10 (by decide) rfl ?_
      refine g_aload_n 1 (i := 0) (pc' := 17) d_String_hashCode_16 rfl rfl rfl ?_
      replace hy := g_is_inv hy
      obtain ⟨fs11, hc12, hy⟩ := hy
      replace hy := g_b_inv hy
      obtain ⟨x13, hf15, hy⟩ := hy
      refine g_callV (rv := some (.int x13)) (h1 := h) (pc' := 20) (As := []) (rest := []) 0 (T_String_isLatin1 (hy := hf15)) d_String_hashCode_17 hc12 rfl rfl q894 q895 q896 q119 q897 hd_String_isLatin1 rfl ⟨by decide, by decide⟩ (by first | exact Nat.le_of_ble_eq_true rfl | (simp only [List.map, List.sum_cons, List.sum_nil, g_cat_rf]; exact Nat.le_of_ble_eq_true rfl) | (simp only [List.map, List.sum_cons, List.sum_nil, g_cat_rf, Value.category]; decide)) rfl ?_
      by_cases c16 : x13 = 0
      · rw [if_pos c16] at hy
        refine g_if_eqT (pc' := 33) d_String_hashCode_20 c16 (by decide) ?_
        refine g_aload_n 1 (i := 0) (pc' := 34) d_String_hashCode_33 rfl rfl rfl ?_
        replace hy := g_gR_inv hy
        obtain ⟨fs17, x18, hc19, hv20, hy⟩ := hy
        refine g_getf (pc' := 37) d_String_hashCode_34 hc19 rfl (by decide) hv20 q481 (Or.inl rfl) rfl ?_
        replace hy := g_b2_inv hy
        obtain ⟨x21, h22, hf23, hy⟩ := hy
        refine g_callS (rv := some (.int x21)) (h1 := h22) (pc' := 40) (As := [va_rf x18]) (rest := []) 1 (T_StringUTF16_hashCode (hy := hf23)) d_String_hashCode_37 q947 q948 q120 q949 hd_StringUTF16_hashCode rfl ⟨by decide, by decide⟩ (by first | exact Nat.le_of_ble_eq_true rfl | (simp only [List.map, List.sum_cons, List.sum_nil, g_cat_rf]; exact Nat.le_of_ble_eq_true rfl) | (simp only [List.map, List.sum_cons, List.sum_nil, g_cat_rf, Value.category]; decide)) rfl ?_
        refine g_sub [1] rfl ?_
        exact W_String_hashCode_40 _ _ _ _ hy
      · rw [if_neg c16] at hy
        refine g_if_eqF (pc' := 23) d_String_hashCode_20 33 c16 (by decide) rfl ?_
        refine g_aload_n 1 (i := 0) (pc' := 24) d_String_hashCode_23 rfl rfl rfl ?_
        replace hy := g_gR_inv hy
        obtain ⟨fs33, x34, hc35, hv36, hy⟩ := hy
        refine g_getf (pc' := 27) d_String_hashCode_24 hc35 rfl (by decide) hv36 q481 (Or.inl rfl) rfl ?_
        replace hy := g_b2_inv hy
        obtain ⟨x37, h38, hf39, hy⟩ := hy
        refine g_callS (rv := some (.int x37)) (h1 := h38) (pc' := 30) (As := [va_rf x34]) (rest := []) 1 (T_StringLatin1_hashCode (hy := hf39)) d_String_hashCode_27 q898 q899 q126 q900 hd_StringLatin1_hashCode rfl ⟨by decide, by decide⟩ (by first | exact Nat.le_of_ble_eq_true rfl | (simp only [List.map, List.sum_cons, List.sum_nil, g_cat_rf]; exact Nat.le_of_ble_eq_true rfl) | (simp only [List.map, List.sum_cons, List.sum_nil, g_cat_rf, Value.category]; decide)) rfl ?_
        refine g_goto (pc' := 40) d_String_hashCode_30 (by decide) ?_
        refine g_sub [1] rfl ?_
        exact W_String_hashCode_40 _ _ _ _ hy
    · rw [if_neg c10] at hy
      refine g_if_neT (pc' := 58) d_String_hashCode_13 c10 (by decide) ?_
      refine g_iload_n 0 (i := 1) (pc' := 59) d_String_hashCode_58 rfl rfl rfl ?_
      cases hy
      exact g_iret rfl rfl rfl d_String_hashCode_59
  · rw [if_neg c5] at hy
    refine g_if_neT (pc' := 58) d_String_hashCode_6 c5 (by decide) ?_
    refine g_iload_n 0 (i := 1) (pc' := 59) d_String_hashCode_58 rfl rfl rfl ?_
    cases hy
    exact g_iret rfl rfl rfl d_String_hashCode_59
theorem hd_String_hashCode : g_dsc y_String_hashCode 0 := ⟨by decide +kernel, by decide +kernel, by decide +kernel⟩
/-! java/lang/StringLatin1.equals([B[B)Z -/
abbrev y_StringLatin1_equals : MethodName := ⟨"java/lang/StringLatin1", "equals", "([B[B)Z"⟩
abbrev k_StringLatin1_equals : g_M := (prog_36_method_13_code, 3, "java/lang/StringLatin1", 12, (some FieldType.boolean), "equals", [], 0)
theorem d_StringLatin1_equals_0 : decode prog_36_method_13_code 0 = .ok (.aload_n 0, 1) := by decide +kernel
theorem d_StringLatin1_equals_1 : decode prog_36_method_13_code 1 = .ok (.arraylength, 1) := by decide +kernel
theorem d_StringLatin1_equals_2 : decode prog_36_method_13_code 2 = .ok (.aload_n 1, 1) := by decide +kernel
theorem d_StringLatin1_equals_3 : decode prog_36_method_13_code 3 = .ok (.arraylength, 1) := by decide +kernel
theorem d_StringLatin1_equals_4 : decode prog_36_method_13_code 4 = .ok (.if_icmp .ne 30, 3) := by decide +kernel
theorem d_StringLatin1_equals_7 : decode prog_36_method_13_code 7 = .ok (.iconst 0, 1) := by decide +kernel
theorem d_StringLatin1_equals_8 : decode prog_36_method_13_code 8 = .ok (.istore_n 2, 1) := by decide +kernel
theorem d_StringLatin1_equals_9 : decode prog_36_method_13_code 9 = .ok (.iload_n 2, 1) := by decide +kernel
theorem d_StringLatin1_equals_10 : decode prog_36_method_13_code 10 = .ok (.aload_n 0, 1) := by decide +kernel
theorem d_StringLatin1_equals_11 : decode prog_36_method_13_code 11 = .ok (.arraylength, 1) := by decide +kernel
theorem d_StringLatin1_equals_12 : decode prog_36_method_13_code 12 = .ok (.if_icmp .ge 20, 3) := by decide +kernel
theorem d_StringLatin1_equals_15 : decode prog_36_method_13_code 15 = .ok (.aload_n 0, 1) := by decide +kernel
theorem d_StringLatin1_equals_16 : decode prog_36_method_13_code 16 = .ok (.iload_n 2, 1) := by decide +kernel
theorem d_StringLatin1_equals_17 : decode prog_36_method_13_code 17 = .ok (.baload, 1) := by decide +kernel
theorem d_StringLatin1_equals_18 : decode prog_36_method_13_code 18 = .ok (.aload_n 1, 1) := by decide +kernel
theorem d_StringLatin1_equals_19 : decode prog_36_method_13_code 19 = .ok (.iload_n 2, 1) := by decide +kernel
theorem d_StringLatin1_equals_20 : decode prog_36_method_13_code 20 = .ok (.baload, 1) := by decide +kernel
theorem d_StringLatin1_equals_21 : decode prog_36_method_13_code 21 = .ok (.if_icmp .eq 5, 3) := by decide +kernel
theorem d_StringLatin1_equals_24 : decode prog_36_method_13_code 24 = .ok (.iconst 0, 1) := by decide +kernel
theorem d_StringLatin1_equals_25 : decode prog_36_method_13_code 25 = .ok (.ireturn, 1) := by decide +kernel
theorem d_StringLatin1_equals_26 : decode prog_36_method_13_code 26 = .ok (.iinc 2 1, 3) := by decide +kernel
theorem d_StringLatin1_equals_29 : decode prog_36_method_13_code 29 = .ok (.goto (-20), 3) := by decide +kernel
theorem d_StringLatin1_equals_32 : decode prog_36_method_13_code 32 = .ok (.iconst 1, 1) := by decide +kernel
theorem d_StringLatin1_equals_33 : decode prog_36_method_13_code 33 = .ok (.ireturn, 1) := by decide +kernel
theorem d_StringLatin1_equals_34 : decode prog_36_method_13_code 34 = .ok (.iconst 0, 1) := by decide +kernel
theorem d_StringLatin1_equals_35 : decode prog_36_method_13_code 35 = .ok (.ireturn, 1) := by decide +kernel
def StringLatin1_equals_9 (h : g_AH)  : Nat → Option Nat → Option Nat → Int32 → Option (Int32)
  | 0, _, _, _ => none
  | n + 1, v0, v1, v2 => g_nn v0 fun a15 => g_len h a15 fun x20 => if x20 ≤ v2 then (some (1 : Int32)) else (g_aI h 2 a15 v2 fun x23 => g_nn v1 fun a28 => g_aI h 2 a28 v2 fun x29 => if x23 = x29 then ((StringLatin1_equals_9 h  n) (some a15) (some a28) (v2 + (1 : Int32))) else (some (0 : Int32)))
set_option maxHeartbeats 4000000 in
set_option maxRecDepth 100000 in
theorem W_StringLatin1_equals_9 {X : g_X} (h : g_AH) (z : Int32)  : ∀ (n : Nat) (v0 : Option Nat) (v1 : Option Nat) (v2 : Int32), StringLatin1_equals_9 h  n v0 v1 v2 = some z → G X k_StringLatin1_equals (.inl (some (.int z))) h h 9 [(0, va_rf v0), (1, va_rf v1), (2, .int v2)] [] := by
  intro n
  induction n with
  | zero => intro v0 v1 v2 hy; exact absurd hy (by simp [StringLatin1_equals_9])
  | succ n ih =>
    intro v0 v1 v2 hy
    rw [StringLatin1_equals_9] at hy
    refine g_iload_n 2 (i := 2) (pc' := 10) d_StringLatin1_equals_9 rfl rfl rfl ?_
    refine g_aloadO_n 0 (i := 0) (pc' := 11) d_StringLatin1_equals_10 rfl rfl rfl ?_
    replace hy := g_nn_inv hy
    obtain ⟨a15, rfl, hy⟩ := hy
    replace hy := g_len_inv hy
    obtain ⟨t16, y17, hc18, ht19, hy⟩ := hy
    refine g_alen (pc' := 12) d_StringLatin1_equals_11 hc18 ht19 rfl rfl ?_
    generalize Int32.ofNat y17.1 = x20 at hy ⊢
    by_cases c21 : x20 ≤ v2
    · rw [if_pos c21] at hy
      refine g_icmp_geT (pc' := 32) d_StringLatin1_equals_12 c21 (by decide) ?_
      refine g_iconst (v := (1 : Int32)) (pc' := 33) d_StringLatin1_equals_32 (by decide) rfl ?_
      cases hy
      exact g_zret rfl rfl rfl (g_nar_z (Or.inr rfl)).1 d_StringLatin1_equals_33
    · rw [if_neg c21] at hy
      refine g_icmp_geF (pc' := 15) d_StringLatin1_equals_12 32 c21 (by decide) rfl ?_
      refine g_aload_n 0 (i := 0) (pc' := 16) d_StringLatin1_equals_15 rfl rfl rfl ?_
      refine g_iload_n 2 (i := 2) (pc' := 17) d_StringLatin1_equals_16 rfl rfl rfl ?_
      replace hy := g_aI_inv hy
      obtain ⟨n24, f25, hc26, hi27, hy⟩ := hy
      refine g_bald (pc' := 18) d_StringLatin1_equals_17 hc26 hi27 rfl ?_
      generalize f25 (v2).toNatClampNeg = x23 at hy ⊢
      refine g_aloadO_n 1 (i := 1) (pc' := 19) d_StringLatin1_equals_18 rfl rfl rfl ?_
      refine g_iload_n 2 (i := 2) (pc' := 20) d_StringLatin1_equals_19 rfl rfl rfl ?_
      replace hy := g_nn_inv hy
      obtain ⟨a28, rfl, hy⟩ := hy
      replace hy := g_aI_inv hy
      obtain ⟨n30, f31, hc32, hi33, hy⟩ := hy
      refine g_bald (pc' := 21) d_StringLatin1_equals_20 hc32 hi33 rfl ?_
      generalize f31 (v2).toNatClampNeg = x29 at hy ⊢
      by_cases c34 : x23 = x29
      · rw [if_pos c34] at hy
        refine g_icmp_eqT (pc' := 26) d_StringLatin1_equals_21 c34 (by decide) ?_
        refine g_iinc 2 (v := (v2 + (1 : Int32))) (pc' := 29) (Lc' := [(2, .int (v2 + (1 : Int32))), (0, .ref a15), (1, .ref a28)]) d_StringLatin1_equals_26 rfl rfl (by decide) rfl rfl ?_
        refine g_goto (pc' := 9) d_StringLatin1_equals_29 (by decide) ?_
        refine g_sub [1, 2, 0] rfl ?_
        exact ih _ _ _ hy
      · rw [if_neg c34] at hy
        refine g_icmp_eqF (pc' := 24) d_StringLatin1_equals_21 26 c34 (by decide) rfl ?_
        refine g_iconst (v := (0 : Int32)) (pc' := 25) d_StringLatin1_equals_24 (by decide) rfl ?_
        cases hy
        exact g_zret rfl rfl rfl (g_nar_z (Or.inl rfl)).1 d_StringLatin1_equals_25
def StringLatin1_equals (h : g_AH) (p0 : Option Nat) (p1 : Option Nat) : Option (Int32) :=
  g_nn p0 fun a1 => g_len h a1 fun x6 => g_nn p1 fun a7 => g_len h a7 fun x12 => if x6 = x12 then (StringLatin1_equals_9 h  gFU (some a1) (some a7) (0 : Int32)) else (some (0 : Int32))
set_option maxHeartbeats 4000000 in
set_option maxRecDepth 100000 in
theorem T_StringLatin1_equals {l : Launch} {B : g_B} (h : g_AH) (p0 : Option Nat) (p1 : Option Nat) (z : Int32) (hy : StringLatin1_equals h p0 p1 = some z) : g_CT l B y_StringLatin1_equals k_StringLatin1_equals [va_rf p0, va_rf p1] h (.inl (some (.int z))) h := by
  refine g_start2 (Lc := [(0, va_rf p0), (1, va_rf p1)]) (by decide) rfl rfl (by rcases p0 with _ | p0 <;> rcases p1 with _ | p1 <;> exact Nat.le_of_ble_eq_true rfl) (by rcases p0 with _ | p0 <;> rcases p1 with _ | p1 <;> rfl) fun X => ?_
  unfold StringLatin1_equals at hy
  refine g_aloadO_n 0 (i := 0) (pc' := 1) d_StringLatin1_equals_0 rfl rfl rfl ?_
  replace hy := g_nn_inv hy
  obtain ⟨a1, rfl, hy⟩ := hy
  replace hy := g_len_inv hy
  obtain ⟨t2, y3, hc4, ht5, hy⟩ := hy
  refine g_alen (pc' := 2) d_StringLatin1_equals_1 hc4 ht5 rfl rfl ?_
  generalize Int32.ofNat y3.1 = x6 at hy ⊢
  refine g_aloadO_n 1 (i := 1) (pc' := 3) d_StringLatin1_equals_2 rfl rfl rfl ?_
  replace hy := g_nn_inv hy
  obtain ⟨a7, rfl, hy⟩ := hy
  replace hy := g_len_inv hy
  obtain ⟨t8, y9, hc10, ht11, hy⟩ := hy
  refine g_alen (pc' := 4) d_StringLatin1_equals_3 hc10 ht11 rfl rfl ?_
  generalize Int32.ofNat y9.1 = x12 at hy ⊢
  by_cases c13 : x6 = x12
  · rw [if_pos c13] at hy
    refine g_icmp_neF (pc' := 7) d_StringLatin1_equals_4 34 c13 (by decide) rfl ?_
    refine g_iconst (v := (0 : Int32)) (pc' := 8) d_StringLatin1_equals_7 (by decide) rfl ?_
    refine g_istore_n (i := 2) (pc' := 9) (Lc' := [(2, .int (0 : Int32)), (0, .ref a1), (1, .ref a7)]) d_StringLatin1_equals_8 rfl (by decide) rfl rfl ?_
    refine g_sub [1, 2, 0] rfl ?_
    exact W_StringLatin1_equals_9 _ _ _ _ _ _ hy
  · rw [if_neg c13] at hy
    refine g_icmp_neT (pc' := 34) d_StringLatin1_equals_4 c13 (by decide) ?_
    refine g_iconst (v := (0 : Int32)) (pc' := 35) d_StringLatin1_equals_34 (by decide) rfl ?_
    cases hy
    exact g_zret rfl rfl rfl (g_nar_z (Or.inl rfl)).1 d_StringLatin1_equals_35
theorem hd_StringLatin1_equals : g_dsc y_StringLatin1_equals 2 := ⟨by decide +kernel, by decide +kernel, by decide +kernel⟩
/-! java/lang/String.equals(Ljava/lang/Object;)Z -/
abbrev y_String_equals : MethodName := ⟨"java/lang/String", "equals", "(Ljava/lang/Object;)Z"⟩
abbrev k_String_equals : g_M := (prog_34_method_66_code, 3, "java/lang/String", 13, (some FieldType.boolean), "equals", [], 0)
theorem d_String_equals_0 : decode prog_34_method_66_code 0 = .ok (.aload_n 0, 1) := by decide +kernel
theorem d_String_equals_1 : decode prog_34_method_66_code 1 = .ok (.aload_n 1, 1) := by decide +kernel
theorem d_String_equals_2 : decode prog_34_method_66_code 2 = .ok (.if_acmp .ne 5, 3) := by decide +kernel
theorem d_String_equals_5 : decode prog_34_method_66_code 5 = .ok (.iconst 1, 1) := by decide +kernel
theorem d_String_equals_6 : decode prog_34_method_66_code 6 = .ok (.ireturn, 1) := by decide +kernel
theorem d_String_equals_7 : decode prog_34_method_66_code 7 = .ok (.aload_n 1, 1) := by decide +kernel
theorem d_String_equals_8 : decode prog_34_method_66_code 8 = .ok (.instanceof 10, 3) := by decide +kernel
theorem d_String_equals_11 : decode prog_34_method_66_code 11 = .ok (.ifCond .eq 43, 3) := by decide +kernel
theorem d_String_equals_14 : decode prog_34_method_66_code 14 = .ok (.aload_n 1, 1) := by decide +kernel
theorem d_String_equals_15 : decode prog_34_method_66_code 15 = .ok (.checkcast 10, 3) := by decide +kernel
theorem d_String_equals_18 : decode prog_34_method_66_code 18 = .ok (.astore_n 2, 1) := by decide +kernel
theorem d_String_equals_19 : decode prog_34_method_66_code 19 = .ok (.getstatic 38, 3) := by decide +kernel
theorem d_String_equals_22 : decode prog_34_method_66_code 22 = .ok (.ifCond .eq 14, 3) := by decide +kernel
theorem d_String_equals_25 : decode prog_34_method_66_code 25 = .ok (.aload_n 0, 1) := by decide +kernel
theorem d_String_equals_26 : decode prog_34_method_66_code 26 = .ok (.getfield 15, 3) := by decide +kernel
theorem d_String_equals_29 : decode prog_34_method_66_code 29 = .ok (.aload_n 2, 1) := by decide +kernel
theorem d_String_equals_30 : decode prog_34_method_66_code 30 = .ok (.getfield 15, 3) := by decide +kernel
theorem d_String_equals_33 : decode prog_34_method_66_code 33 = .ok (.if_icmp .ne 21, 3) := by decide +kernel
theorem d_String_equals_36 : decode prog_34_method_66_code 36 = .ok (.aload_n 0, 1) := by decide +kernel
theorem d_String_equals_37 : decode prog_34_method_66_code 37 = .ok (.getfield 9, 3) := by decide +kernel
theorem d_String_equals_40 : decode prog_34_method_66_code 40 = .ok (.aload_n 2, 1) := by decide +kernel
theorem d_String_equals_41 : decode prog_34_method_66_code 41 = .ok (.getfield 9, 3) := by decide +kernel
theorem d_String_equals_44 : decode prog_34_method_66_code 44 = .ok (.invokestatic 541, 3) := by decide +kernel
theorem d_String_equals_47 : decode prog_34_method_66_code 47 = .ok (.ifCond .eq 7, 3) := by decide +kernel
theorem d_String_equals_50 : decode prog_34_method_66_code 50 = .ok (.iconst 1, 1) := by decide +kernel
theorem d_String_equals_51 : decode prog_34_method_66_code 51 = .ok (.goto 4, 3) := by decide +kernel
theorem d_String_equals_54 : decode prog_34_method_66_code 54 = .ok (.iconst 0, 1) := by decide +kernel
theorem d_String_equals_55 : decode prog_34_method_66_code 55 = .ok (.ireturn, 1) := by decide +kernel
def String_equals_36 (h : g_AH) (v0 : Nat) (v2 : Option Nat) : Option (Int32) :=
  g_gR h v0 18 0 fun x10 => g_nn v2 fun a13 => g_gR h a13 18 0 fun x15 => g_b (StringLatin1_equals h x10 x15) fun x18 => if x18 = 0 then (some (0 : Int32)) else (some (1 : Int32))
set_option maxHeartbeats 4000000 in
set_option maxRecDepth 100000 in
theorem W_String_equals_36 {X : g_X} (h : g_AH) (z : Int32) (v0 : Nat) (v2 : Option Nat) (hy : String_equals_36 h  v0 v2 = some z) : G X k_String_equals (.inl (some (.int z))) h h 36 [(0, .ref v0), (2, va_rf v2)] [] := by
  unfold String_equals_36 at hy
  refine g_aload_n 0 (i := 0) (pc' := 37) d_String_equals_36 rfl rfl rfl ?_
  replace hy := g_gR_inv hy
  obtain ⟨fs9, x10, hc11, hv12, hy⟩ := hy
  refine g_getf (pc' := 40) d_String_equals_37 hc11 rfl (by decide) hv12 q481 (Or.inl rfl) rfl ?_
  refine g_aloadO_n 1 (i := 2) (pc' := 41) d_String_equals_40 rfl rfl rfl ?_
  replace hy := g_nn_inv hy
  obtain ⟨a13, rfl, hy⟩ := hy
  replace hy := g_gR_inv hy
  obtain ⟨fs14, x15, hc16, hv17, hy⟩ := hy
  refine g_getf (pc' := 44) d_String_equals_41 hc16 rfl (by decide) hv17 q481 (Or.inl rfl) rfl ?_
  replace hy := g_b_inv hy
  obtain ⟨x18, hf20, hy⟩ := hy
  refine g_callS (rv := some (.int x18)) (h1 := h) (pc' := 47) (As := [va_rf x10, va_rf x15]) (rest := []) 2 (T_StringLatin1_equals (hy := hf20)) d_String_equals_44 q957 q958 q126 q959 hd_StringLatin1_equals rfl ⟨by decide, by decide⟩ (by first | exact Nat.le_of_ble_eq_true rfl | (simp only [List.map, List.sum_cons, List.sum_nil, g_cat_rf]; exact Nat.le_of_ble_eq_true rfl) | (simp only [List.map, List.sum_cons, List.sum_nil, g_cat_rf, Value.category]; decide)) rfl ?_
  by_cases c21 : x18 = 0
  · rw [if_pos c21] at hy
    refine g_if_eqT (pc' := 54) d_String_equals_47 c21 (by decide) ?_
    refine g_iconst (v := (0 : Int32)) (pc' := 55) d_String_equals_54 (by decide) rfl ?_
    cases hy
    exact g_zret rfl rfl rfl (g_nar_z (Or.inl rfl)).1 d_String_equals_55
  · rw [if_neg c21] at hy
    refine g_if_eqF (pc' := 50) d_String_equals_47 54 c21 (by decide) rfl ?_
    refine g_iconst (v := (1 : Int32)) (pc' := 51) d_String_equals_50 (by decide) rfl ?_
    refine g_goto (pc' := 55) d_String_equals_51 (by decide) ?_
    cases hy
    exact g_zret rfl rfl rfl (g_nar_z (Or.inr rfl)).1 d_String_equals_55
def String_equals (h : g_AH) (this : Nat) (p0 : Option Nat) : Option (Int32) :=
  if (some this) = p0 then (some (1 : Int32)) else (g_nn p0 fun a2 => g_is h a2 18 <| if (1 : Int32) = 0 then (some (0 : Int32)) else (g_ck h (some a2) 18 <| if (1 : Int32) = 0 then (String_equals_36 h  this (some a2)) else (g_gI h this 18 1 fun x25 => g_gI h a2 18 1 fun x29 => if x25 = x29 then (String_equals_36 h  this (some a2)) else (some (0 : Int32)))))
set_option maxHeartbeats 4000000 in
set_option maxRecDepth 100000 in
theorem T_String_equals {l : Launch} {B : g_B} (h : g_AH) (this : Nat) (p0 : Option Nat) (z : Int32) (hy : String_equals h this p0 = some z) : g_CT l B y_String_equals k_String_equals [.ref this, va_rf p0] h (.inl (some (.int z))) h := by
  refine g_start2 (Lc := [(0, .ref this), (1, va_rf p0)]) (by decide) rfl rfl (by rcases p0 with _ | p0 <;> exact Nat.le_of_ble_eq_true rfl) (by rcases p0 with _ | p0 <;> rfl) fun X => ?_
  unfold String_equals at hy
  refine g_aload_n 0 (i := 0) (pc' := 1) d_String_equals_0 rfl rfl rfl ?_
  refine g_aloadO_n 1 (i := 1) (pc' := 2) d_String_equals_1 rfl rfl rfl ?_
  by_cases c1 : (some this) = p0
  · rw [if_pos c1] at hy
    refine g_stk (st' := va_rf p0 :: va_rf (some this) :: []) rfl ?_
    refine g_acmp_neF (pc' := 5) d_String_equals_2 7 c1 (by decide) rfl ?_
    refine g_iconst (v := (1 : Int32)) (pc' := 6) d_String_equals_5 (by decide) rfl ?_
    cases hy
    exact g_zret rfl rfl rfl (g_nar_z (Or.inr rfl)).1 d_String_equals_6
  · rw [if_neg c1] at hy
    refine g_stk (st' := va_rf p0 :: va_rf (some this) :: []) rfl ?_
    refine g_acmp_neT (pc' := 7) d_String_equals_2 c1 (by decide) ?_
    refine g_aloadO_n 1 (i := 1) (pc' := 8) d_String_equals_7 rfl rfl rfl ?_
    replace hy := g_nn_inv hy
    obtain ⟨a2, rfl, hy⟩ := hy
    replace hy := g_is_inv hy
    obtain ⟨fs3, hc4, hy⟩ := hy
    refine g_instS (pc' := 11) d_String_equals_8 hc4 rfl q956 rfl ?_
    by_cases c5 : (1 : Int32) = 0
    · rw [if_pos c5] at hy
      refine g_if_eqT (pc' := 54) d_String_equals_11 c5 (by decide) ?_
      refine g_iconst (v := (0 : Int32)) (pc' := 55) d_String_equals_54 (by decide) rfl ?_
      cases hy
      exact g_zret rfl rfl rfl (g_nar_z (Or.inl rfl)).1 d_String_equals_55
    · rw [if_neg c5] at hy
      refine g_if_eqF (pc' := 14) d_String_equals_11 54 c5 (by decide) rfl ?_
      refine g_aload_n 1 (i := 1) (pc' := 15) d_String_equals_14 rfl rfl rfl ?_
      replace hy := g_ck_inv hy
      obtain ⟨hk7, hy⟩ := hy
      refine g_stk (st' := va_rf (some a2) :: []) rfl ?_
      refine g_castO (pc' := 18) d_String_equals_15 hk7 rfl q956 rfl ?_
      refine g_stk (st' := [.ref a2]) rfl ?_
      refine g_astore_n (i := 2) (pc' := 19) (Lc' := [(2, .ref a2), (0, .ref this), (1, .ref a2)]) d_String_equals_18 rfl (by decide) rfl rfl ?_
      refine g_compact (pc' := 22) d_String_equals_19 q340 rfl ?_
      by_cases c8 : (1 : Int32) = 0
      · rw [if_pos c8] at hy
        refine g_if_eqT (pc' := 36) d_String_equals_22 c8 (by decide) ?_
        refine g_sub [1, 0] rfl ?_
        exact W_String_equals_36 _ _ _ _ hy
      · rw [if_neg c8] at hy
        refine g_if_eqF (pc' := 25) d_String_equals_22 36 c8 (by decide) rfl ?_
        refine g_aload_n 1 (i := 0) (pc' := 26) d_String_equals_25 rfl rfl rfl ?_
        replace hy := g_gI_inv hy
        obtain ⟨fs24, x25, hc26, hv27, hy⟩ := hy
        refine g_getf (pc' := 29) d_String_equals_26 hc26 rfl (by decide) hv27 q482 (Or.inl rfl) rfl ?_
        refine g_aload_n 0 (i := 2) (pc' := 30) d_String_equals_29 rfl rfl rfl ?_
        replace hy := g_gI_inv hy
        obtain ⟨fs28, x29, hc30, hv31, hy⟩ := hy
        refine g_getf (pc' := 33) d_String_equals_30 hc30 rfl (by decide) hv31 q482 (Or.inl rfl) rfl ?_
        by_cases c32 : x25 = x29
        · rw [if_pos c32] at hy
          refine g_icmp_neF (pc' := 36) d_String_equals_33 54 c32 (by decide) rfl ?_
          refine g_sub [1, 0] rfl ?_
          exact W_String_equals_36 _ _ _ _ hy
        · rw [if_neg c32] at hy
          refine g_icmp_neT (pc' := 54) d_String_equals_33 c32 (by decide) ?_
          refine g_iconst (v := (0 : Int32)) (pc' := 55) d_String_equals_54 (by decide) rfl ?_
          cases hy
          exact g_zret rfl rfl rfl (g_nar_z (Or.inl rfl)).1 d_String_equals_55
theorem hd_String_equals : g_dsc y_String_equals 1 := ⟨by decide +kernel, by decide +kernel, by decide +kernel⟩
/-! java/lang/Throwable.<init>(Ljava/lang/String;Ljava/lang/Throwable;ZZ)V -/
abbrev y_Throwable_init2 : MethodName := ⟨"java/lang/Throwable", "<init>", "(Ljava/lang/String;Ljava/lang/Throwable;ZZ)V"⟩
abbrev k_Throwable_init2 : g_M := (prog_40_method_5_code, 5, "java/lang/Throwable", 13, none, "<init>", [], 0)
theorem d_Throwable_init2_0 : decode prog_40_method_5_code 0 = .ok (.aload_n 0, 1) := by decide +kernel
theorem d_Throwable_init2_1 : decode prog_40_method_5_code 1 = .ok (.invokespecial 1, 3) := by decide +kernel
theorem d_Throwable_init2_4 : decode prog_40_method_5_code 4 = .ok (.aload_n 0, 1) := by decide +kernel
theorem d_Throwable_init2_5 : decode prog_40_method_5_code 5 = .ok (.aload_n 0, 1) := by decide +kernel
theorem d_Throwable_init2_6 : decode prog_40_method_5_code 6 = .ok (.putfield 7, 3) := by decide +kernel
theorem d_Throwable_init2_9 : decode prog_40_method_5_code 9 = .ok (.aload_n 0, 1) := by decide +kernel
theorem d_Throwable_init2_10 : decode prog_40_method_5_code 10 = .ok (.getstatic 13, 3) := by decide +kernel
theorem d_Throwable_init2_13 : decode prog_40_method_5_code 13 = .ok (.putfield 17, 3) := by decide +kernel
theorem d_Throwable_init2_16 : decode prog_40_method_5_code 16 = .ok (.aload_n 0, 1) := by decide +kernel
theorem d_Throwable_init2_17 : decode prog_40_method_5_code 17 = .ok (.getstatic 20, 3) := by decide +kernel
theorem d_Throwable_init2_20 : decode prog_40_method_5_code 20 = .ok (.putfield 24, 3) := by decide +kernel
theorem d_Throwable_init2_23 : decode prog_40_method_5_code 23 = .ok (.iload 4, 2) := by decide +kernel
theorem d_Throwable_init2_25 : decode prog_40_method_5_code 25 = .ok (.ifCond .eq 11, 3) := by decide +kernel
theorem d_Throwable_init2_36 : decode prog_40_method_5_code 36 = .ok (.aload_n 0, 1) := by decide +kernel
theorem d_Throwable_init2_37 : decode prog_40_method_5_code 37 = .ok (.aconst_null, 1) := by decide +kernel
theorem d_Throwable_init2_38 : decode prog_40_method_5_code 38 = .ok (.putfield 17, 3) := by decide +kernel
theorem d_Throwable_init2_41 : decode prog_40_method_5_code 41 = .ok (.aload_n 0, 1) := by decide +kernel
theorem d_Throwable_init2_42 : decode prog_40_method_5_code 42 = .ok (.aload_n 1, 1) := by decide +kernel
theorem d_Throwable_init2_43 : decode prog_40_method_5_code 43 = .ok (.putfield 31, 3) := by decide +kernel
theorem d_Throwable_init2_46 : decode prog_40_method_5_code 46 = .ok (.aload_n 0, 1) := by decide +kernel
theorem d_Throwable_init2_47 : decode prog_40_method_5_code 47 = .ok (.aload_n 2, 1) := by decide +kernel
theorem d_Throwable_init2_48 : decode prog_40_method_5_code 48 = .ok (.putfield 7, 3) := by decide +kernel
theorem d_Throwable_init2_51 : decode prog_40_method_5_code 51 = .ok (.iload_n 3, 1) := by decide +kernel
theorem d_Throwable_init2_52 : decode prog_40_method_5_code 52 = .ok (.ifCond .ne 8, 3) := by decide +kernel
theorem d_Throwable_init2_55 : decode prog_40_method_5_code 55 = .ok (.aload_n 0, 1) := by decide +kernel
theorem d_Throwable_init2_56 : decode prog_40_method_5_code 56 = .ok (.aconst_null, 1) := by decide +kernel
theorem d_Throwable_init2_57 : decode prog_40_method_5_code 57 = .ok (.putfield 24, 3) := by decide +kernel
theorem d_Throwable_init2_60 : decode prog_40_method_5_code 60 = .ok (.return_, 1) := by decide +kernel
def Throwable_init2_41 (h : g_AH) (v0 : Nat) (v1 : Option Nat) (v2 : Option Nat) (v3 : Int32) : Option g_AH :=
  g_pF h v0 9 3 (va_rf v1) fun h21 => g_pF h21 v0 9 0 (va_rf v2) fun h25 => if v3 = 0 then (g_pF h25 v0 9 2 (va_rf none) fun h30 => some h30) else (some h25)
set_option maxHeartbeats 4000000 in
set_option maxRecDepth 100000 in
theorem W_Throwable_init2_41 {X : g_X} (z : g_AH) (h : g_AH) (v0 : Nat) (v1 : Option Nat) (v2 : Option Nat) (v3 : Int32) (hy : Throwable_init2_41  h v0 v1 v2 v3 = some z) : G X k_Throwable_init2 (.inl none) z h 41 [(0, .ref v0), (1, va_rf v1), (2, va_rf v2), (3, .int v3)] [] := by
  unfold Throwable_init2_41 at hy
  refine g_aload_n 0 (i := 0) (pc' := 42) d_Throwable_init2_41 rfl rfl rfl ?_
  refine g_aloadO_n 1 (i := 1) (pc' := 43) d_Throwable_init2_42 rfl rfl rfl ?_
  replace hy := g_pF_inv hy
  obtain ⟨fs18, hc19, hl20, hy⟩ := hy
  refine g_putf (pc' := 46) d_Throwable_init2_43 hc19 rfl (by decide) hl20 rfl g_nar_rf g_fit_o q456 (Or.inl rfl) rfl ?_
  generalize g_up h v0 (.inr (9, fs18.set 3 (va_rf v1))) = h21 at hy ⊢
  refine g_aload_n 0 (i := 0) (pc' := 47) d_Throwable_init2_46 rfl rfl rfl ?_
  refine g_aloadO_n 2 (i := 2) (pc' := 48) d_Throwable_init2_47 rfl rfl rfl ?_
  replace hy := g_pF_inv hy
  obtain ⟨fs22, hc23, hl24, hy⟩ := hy
  refine g_putf (pc' := 51) d_Throwable_init2_48 hc23 rfl (by decide) hl24 rfl g_nar_rf g_fit_o q457 (Or.inl rfl) rfl ?_
  generalize g_up h21 v0 (.inr (9, fs22.set 0 (va_rf v2))) = h25 at hy ⊢
  refine g_iload_n 3 (i := 3) (pc' := 52) d_Throwable_init2_51 rfl rfl rfl ?_
  by_cases c26 : v3 = 0
  · rw [if_pos c26] at hy
    refine g_if_neF (pc' := 55) d_Throwable_init2_52 60 c26 (by decide) rfl ?_
    refine g_aload_n 0 (i := 0) (pc' := 56) d_Throwable_init2_55 rfl rfl rfl ?_
    refine g_null (pc' := 57) d_Throwable_init2_56 rfl ?_
    replace hy := g_pF_inv hy
    obtain ⟨fs27, hc28, hl29, hy⟩ := hy
    refine g_putf (pc' := 60) d_Throwable_init2_57 hc28 rfl (by decide) hl29 rfl g_nar_rf g_fit_o q459 (Or.inl rfl) rfl ?_
    generalize g_up h25 v0 (.inr (9, fs27.set 2 (va_rf none))) = h30 at hy ⊢
    cases hy
    exact g_vret rfl rfl rfl d_Throwable_init2_60
  · rw [if_neg c26] at hy
    refine g_if_neT (pc' := 60) d_Throwable_init2_52 c26 (by decide) ?_
    cases hy
    exact g_vret rfl rfl rfl d_Throwable_init2_60
def Throwable_init2 (h : g_AH) (this : Nat) (p0 : Option Nat) (p1 : Option Nat) (p2 : Int32) (p3 : Int32) : Option g_AH :=
  g_pF h this 9 0 (.ref this) fun h4 => g_pF h4 this 9 1 (va_rf (g_opt (g_str h4 102))) fun h8 => g_pF h8 this 9 2 (va_rf (g_opt (g_str h8 103))) fun h12 => if p3 = 0 then (g_pF h12 this 9 1 (va_rf none) fun h17 => Throwable_init2_41  h17 this p0 p1 p2) else (none)
set_option maxHeartbeats 4000000 in
set_option maxRecDepth 100000 in
theorem T_Throwable_init2 {l : Launch} {B : g_B} (h : g_AH) (this : Nat) (p0 : Option Nat) (p1 : Option Nat) (p2 : Int32) (p3 : Int32) (z : g_AH) (hy : Throwable_init2 h this p0 p1 p2 p3 = some z) : g_CT l B y_Throwable_init2 k_Throwable_init2 [.ref this, va_rf p0, va_rf p1, .int p2, .int p3] h (.inl none) z := by
  refine g_start2 (Lc := [(0, .ref this), (1, va_rf p0), (2, va_rf p1), (3, .int p2), (4, .int p3)]) (by decide) rfl rfl (by rcases p0 with _ | p0 <;> rcases p1 with _ | p1 <;> exact Nat.le_of_ble_eq_true rfl) (by rcases p0 with _ | p0 <;> rcases p1 with _ | p1 <;> rfl) fun X => ?_
  unfold Throwable_init2 at hy
  refine g_aload_n 0 (i := 0) (pc' := 1) d_Throwable_init2_0 rfl rfl rfl ?_
  refine g_objInit (pc' := 4) d_Throwable_init2_1 q203 (by first | exact Nat.le_of_ble_eq_true rfl | (simp only [List.map, List.sum_cons, List.sum_nil, g_cat_rf]; exact Nat.le_of_ble_eq_true rfl) | (simp only [List.map, List.sum_cons, List.sum_nil, g_cat_rf, Value.category]; decide)) (by decide) rfl ?_
  refine g_aload_n 0 (i := 0) (pc' := 5) d_Throwable_init2_4 rfl rfl rfl ?_
  refine g_aload_n 0 (i := 0) (pc' := 6) d_Throwable_init2_5 rfl rfl rfl ?_
  replace hy := g_pF_inv hy
  obtain ⟨fs1, hc2, hl3, hy⟩ := hy
  refine g_putf (pc' := 9) d_Throwable_init2_6 hc2 rfl (by decide) hl3 rfl rfl rfl q457 (Or.inl rfl) rfl ?_
  generalize g_up h this (.inr (9, fs1.set 0 (.ref this))) = h4 at hy ⊢
  refine g_aload_n 0 (i := 0) (pc' := 10) d_Throwable_init2_9 rfl rfl rfl ?_
  refine g_getst (pc' := 13) d_Throwable_init2_10 (List.mem_of_getElem? (i := 1) rfl) q204 rfl ?_
  replace hy := g_pF_inv hy
  obtain ⟨fs5, hc6, hl7, hy⟩ := hy
  refine g_putf (pc' := 16) d_Throwable_init2_13 hc6 rfl (by decide) hl7 rfl g_nar_rf g_fit_a q458 (Or.inl rfl) rfl ?_
  generalize g_up h4 this (.inr (9, fs5.set 1 (va_rf (g_opt (g_str h4 102))))) = h8 at hy ⊢
  refine g_aload_n 0 (i := 0) (pc' := 17) d_Throwable_init2_16 rfl rfl rfl ?_
  refine g_getst (pc' := 20) d_Throwable_init2_17 (List.mem_of_getElem? (i := 2) rfl) q206 rfl ?_
  replace hy := g_pF_inv hy
  obtain ⟨fs9, hc10, hl11, hy⟩ := hy
  refine g_putf (pc' := 23) d_Throwable_init2_20 hc10 rfl (by decide) hl11 rfl g_nar_rf g_fit_o q459 (Or.inl rfl) rfl ?_
  generalize g_up h8 this (.inr (9, fs9.set 2 (va_rf (g_opt (g_str h8 103))))) = h12 at hy ⊢
  refine g_iload 4 (pc' := 25) d_Throwable_init2_23 rfl rfl ?_
  by_cases c13 : p3 = 0
  · rw [if_pos c13] at hy
    refine g_if_eqT (pc' := 36) d_Throwable_init2_25 c13 (by decide) ?_
    refine g_aload_n 0 (i := 0) (pc' := 37) d_Throwable_init2_36 rfl rfl rfl ?_
    refine g_null (pc' := 38) d_Throwable_init2_37 rfl ?_
    replace hy := g_pF_inv hy
    obtain ⟨fs14, hc15, hl16, hy⟩ := hy
    refine g_putf (pc' := 41) d_Throwable_init2_38 hc15 rfl (by decide) hl16 rfl g_nar_rf g_fit_a q458 (Or.inl rfl) rfl ?_
    generalize g_up h12 this (.inr (9, fs14.set 1 (va_rf none))) = h17 at hy ⊢
    refine g_sub [0, 1, 2, 3] rfl ?_
    exact W_Throwable_init2_41 _ _ _ _ _ _ hy
  · rw [if_neg c13] at hy
    refine g_if_eqF (pc' := 28) d_Throwable_init2_25 36 c13 (by decide) rfl ?_
    cases hy
theorem hd_Throwable_init2 : g_dsc y_Throwable_init2 4 := ⟨by decide +kernel, by decide +kernel, by decide +kernel⟩
/-! java/lang/Exception.<init>(Ljava/lang/String;Ljava/lang/Throwable;ZZ)V -/
abbrev y_Exception_init1 : MethodName := ⟨"java/lang/Exception", "<init>", "(Ljava/lang/String;Ljava/lang/Throwable;ZZ)V"⟩
abbrev k_Exception_init1 : g_M := (prog_25_method_5_code, 5, "java/lang/Exception", 14, none, "<init>", [], 0)
theorem d_Exception_init1_0 : decode prog_25_method_5_code 0 = .ok (.aload_n 0, 1) := by decide +kernel
theorem d_Exception_init1_1 : decode prog_25_method_5_code 1 = .ok (.aload_n 1, 1) := by decide +kernel
theorem d_Exception_init1_2 : decode prog_25_method_5_code 2 = .ok (.aload_n 2, 1) := by decide +kernel
theorem d_Exception_init1_3 : decode prog_25_method_5_code 3 = .ok (.iload_n 3, 1) := by decide +kernel
theorem d_Exception_init1_4 : decode prog_25_method_5_code 4 = .ok (.iload 4, 2) := by decide +kernel
theorem d_Exception_init1_6 : decode prog_25_method_5_code 6 = .ok (.invokespecial 16, 3) := by decide +kernel
theorem d_Exception_init1_9 : decode prog_25_method_5_code 9 = .ok (.return_, 1) := by decide +kernel
def Exception_init1 (h : g_AH) (this : Nat) (p0 : Option Nat) (p1 : Option Nat) (p2 : Int32) (p3 : Int32) : Option g_AH :=
  g_b (Throwable_init2 h this p0 p1 p2 p3) fun h2 => some h2
set_option maxHeartbeats 4000000 in
set_option maxRecDepth 100000 in
theorem T_Exception_init1 {l : Launch} {B : g_B} (h : g_AH) (this : Nat) (p0 : Option Nat) (p1 : Option Nat) (p2 : Int32) (p3 : Int32) (z : g_AH) (hy : Exception_init1 h this p0 p1 p2 p3 = some z) : g_CT l B y_Exception_init1 k_Exception_init1 [.ref this, va_rf p0, va_rf p1, .int p2, .int p3] h (.inl none) z := by
  refine g_start2 (Lc := [(0, .ref this), (1, va_rf p0), (2, va_rf p1), (3, .int p2), (4, .int p3)]) (by decide) rfl rfl (by rcases p0 with _ | p0 <;> rcases p1 with _ | p1 <;> exact Nat.le_of_ble_eq_true rfl) (by rcases p0 with _ | p0 <;> rcases p1 with _ | p1 <;> rfl) fun X => ?_
  unfold Exception_init1 at hy
  refine g_aload_n 0 (i := 0) (pc' := 1) d_Exception_init1_0 rfl rfl rfl ?_
  refine g_aloadO_n 1 (i := 1) (pc' := 2) d_Exception_init1_1 rfl rfl rfl ?_
  refine g_aloadO_n 2 (i := 2) (pc' := 3) d_Exception_init1_2 rfl rfl rfl ?_
  refine g_iload_n 3 (i := 3) (pc' := 4) d_Exception_init1_3 rfl rfl rfl ?_
  refine g_iload 4 (pc' := 6) d_Exception_init1_4 rfl rfl ?_
  replace hy := g_b_inv hy
  obtain ⟨h2, hf3, hy⟩ := hy
  refine g_callI (h1 := h2) (pc' := 9) (As := [va_rf p0, va_rf p1, .int p2, .int p3]) (rest := []) 4 (T_Throwable_init2 (hy := hf3)) d_Exception_init1_6 rfl rfl q983 q984 q113 q985 hd_Throwable_init2 rfl ⟨by decide, by decide⟩ (by first | exact Nat.le_of_ble_eq_true rfl | (simp only [List.map, List.sum_cons, List.sum_nil, g_cat_rf]; exact Nat.le_of_ble_eq_true rfl) | (simp only [List.map, List.sum_cons, List.sum_nil, g_cat_rf, Value.category]; decide)) rfl ?_
  cases hy
  exact g_vret rfl rfl rfl d_Exception_init1_9
theorem hd_Exception_init1 : g_dsc y_Exception_init1 4 := ⟨by decide +kernel, by decide +kernel, by decide +kernel⟩
/-! java/lang/StringLatin1.charAt([BI)C -/
abbrev y_StringLatin1_charAt : MethodName := ⟨"java/lang/StringLatin1", "charAt", "([BI)C"⟩
abbrev k_StringLatin1_charAt : g_M := (prog_36_method_2_code, 2, "java/lang/StringLatin1", 14, (some FieldType.char), "charAt", [], 0)
theorem d_StringLatin1_charAt_0 : decode prog_36_method_2_code 0 = .ok (.iload_n 1, 1) := by decide +kernel
theorem d_StringLatin1_charAt_1 : decode prog_36_method_2_code 1 = .ok (.aload_n 0, 1) := by decide +kernel
theorem d_StringLatin1_charAt_2 : decode prog_36_method_2_code 2 = .ok (.arraylength, 1) := by decide +kernel
theorem d_StringLatin1_charAt_3 : decode prog_36_method_2_code 3 = .ok (.invokestatic 9, 3) := by decide +kernel
theorem d_StringLatin1_charAt_6 : decode prog_36_method_2_code 6 = .ok (.aload_n 0, 1) := by decide +kernel
theorem d_StringLatin1_charAt_7 : decode prog_36_method_2_code 7 = .ok (.iload_n 1, 1) := by decide +kernel
theorem d_StringLatin1_charAt_8 : decode prog_36_method_2_code 8 = .ok (.baload, 1) := by decide +kernel
theorem d_StringLatin1_charAt_9 : decode prog_36_method_2_code 9 = .ok (.sipush 255, 3) := by decide +kernel
theorem d_StringLatin1_charAt_12 : decode prog_36_method_2_code 12 = .ok (.iand, 1) := by decide +kernel
theorem d_StringLatin1_charAt_13 : decode prog_36_method_2_code 13 = .ok (.i2c, 1) := by decide +kernel
theorem d_StringLatin1_charAt_14 : decode prog_36_method_2_code 14 = .ok (.ireturn, 1) := by decide +kernel
def StringLatin1_charAt (h : g_AH) (p0 : Option Nat) (p1 : Int32) : Option (Int32) :=
  g_nn p0 fun a1 => g_len h a1 fun x6 => g_b (String_checkIndex h p1 x6) fun x7 => g_aI h 2 a1 p1 fun x10 => g_rq (narrow .char (.int ((((x10 &&& (255 : Int32))).toUInt32 % 65536).toInt32)) = .int ((((x10 &&& (255 : Int32))).toUInt32 % 65536).toInt32)) <| some ((((x10 &&& (255 : Int32))).toUInt32 % 65536).toInt32)
set_option maxHeartbeats 4000000 in
set_option maxRecDepth 100000 in
theorem T_StringLatin1_charAt {l : Launch} {B : g_B} (h : g_AH) (p0 : Option Nat) (p1 : Int32) (z : Int32) (hy : StringLatin1_charAt h p0 p1 = some z) : g_CT l B y_StringLatin1_charAt k_StringLatin1_charAt [va_rf p0, .int p1] h (.inl (some (.int z))) h := by
  refine g_start2 (Lc := [(0, va_rf p0), (1, .int p1)]) (by decide) rfl rfl (by rcases p0 with _ | p0 <;> exact Nat.le_of_ble_eq_true rfl) (by rcases p0 with _ | p0 <;> rfl) fun X => ?_
  unfold StringLatin1_charAt at hy
  refine g_iload_n 1 (i := 1) (pc' := 1) d_StringLatin1_charAt_0 rfl rfl rfl ?_
  refine g_aloadO_n 0 (i := 0) (pc' := 2) d_StringLatin1_charAt_1 rfl rfl rfl ?_
  replace hy := g_nn_inv hy
  obtain ⟨a1, rfl, hy⟩ := hy
  replace hy := g_len_inv hy
  obtain ⟨t2, y3, hc4, ht5, hy⟩ := hy
  refine g_alen (pc' := 3) d_StringLatin1_charAt_2 hc4 ht5 rfl rfl ?_
  generalize Int32.ofNat y3.1 = x6 at hy ⊢
  replace hy := g_b_inv hy
  obtain ⟨x7, hf9, hy⟩ := hy
  refine g_callS (rv := none) (h1 := h) (pc' := 6) (As := [.int p1, .int x6]) (rest := []) 2 (T_String_checkIndex (hy := hf9)) d_StringLatin1_charAt_3 q2117 q853 q119 q854 hd_String_checkIndex rfl ⟨by decide, by decide⟩ (by first | exact Nat.le_of_ble_eq_true rfl | (simp only [List.map, List.sum_cons, List.sum_nil, g_cat_rf]; exact Nat.le_of_ble_eq_true rfl) | (simp only [List.map, List.sum_cons, List.sum_nil, g_cat_rf, Value.category]; decide)) rfl ?_
  refine g_aload_n 0 (i := 0) (pc' := 7) d_StringLatin1_charAt_6 rfl rfl rfl ?_
  refine g_iload_n 1 (i := 1) (pc' := 8) d_StringLatin1_charAt_7 rfl rfl rfl ?_
  replace hy := g_aI_inv hy
  obtain ⟨n11, f12, hc13, hi14, hy⟩ := hy
  refine g_bald (pc' := 9) d_StringLatin1_charAt_8 hc13 hi14 rfl ?_
  generalize f12 (p1).toNatClampNeg = x10 at hy ⊢
  refine g_sipush (v := (255 : Int32)) (pc' := 12) d_StringLatin1_charAt_9 (by decide) rfl ?_
  refine g_iand (pc' := 13) d_StringLatin1_charAt_12 rfl ?_
  refine g_i2c (pc' := 14) d_StringLatin1_charAt_13 rfl ?_
  replace hy := g_rq_inv hy
  obtain ⟨c15, hy⟩ := hy
  cases hy
  exact g_zret rfl rfl rfl c15 d_StringLatin1_charAt_14
theorem hd_StringLatin1_charAt : g_dsc y_StringLatin1_charAt 2 := ⟨by decide +kernel, by decide +kernel, by decide +kernel⟩
/-! java/lang/String.charAt(I)C -/
abbrev y_String_charAt : MethodName := ⟨"java/lang/String", "charAt", "(I)C"⟩
abbrev k_String_charAt : g_M := (prog_34_method_56_code, 2, "java/lang/String", 16, (some FieldType.char), "charAt", [], 0)
theorem d_String_charAt_0 : decode prog_34_method_56_code 0 = .ok (.aload_n 0, 1) := by decide +kernel
theorem d_String_charAt_1 : decode prog_34_method_56_code 1 = .ok (.invokevirtual 492, 3) := by decide +kernel
theorem d_String_charAt_4 : decode prog_34_method_56_code 4 = .ok (.ifCond .eq 12, 3) := by decide +kernel
theorem d_String_charAt_7 : decode prog_34_method_56_code 7 = .ok (.aload_n 0, 1) := by decide +kernel
theorem d_String_charAt_8 : decode prog_34_method_56_code 8 = .ok (.getfield 9, 3) := by decide +kernel
theorem d_String_charAt_11 : decode prog_34_method_56_code 11 = .ok (.iload_n 1, 1) := by decide +kernel
theorem d_String_charAt_12 : decode prog_34_method_56_code 12 = .ok (.invokestatic 495, 3) := by decide +kernel
theorem d_String_charAt_15 : decode prog_34_method_56_code 15 = .ok (.ireturn, 1) := by decide +kernel
def String_charAt (h : g_AH) (this : Nat) (p0 : Int32) : Option (Int32) :=
  g_is h this 18 <| g_b (String_isLatin1 h this) fun x3 => if x3 = 0 then (none) else (g_gR h this 18 0 fun x12 => g_b (StringLatin1_charAt h x12 p0) fun x15 => g_rq (narrow .char (.int x15) = .int x15) <| some x15)
set_option maxHeartbeats 4000000 in
set_option maxRecDepth 100000 in
theorem T_String_charAt {l : Launch} {B : g_B} (h : g_AH) (this : Nat) (p0 : Int32) (z : Int32) (hy : String_charAt h this p0 = some z) : g_CT l B y_String_charAt k_String_charAt [.ref this, .int p0] h (.inl (some (.int z))) h := by
  refine g_start2 (Lc := [(0, .ref this), (1, .int p0)]) (by decide) rfl rfl (by exact Nat.le_of_ble_eq_true rfl) (by rfl) fun X => ?_
  unfold String_charAt at hy
  refine g_aload_n 0 (i := 0) (pc' := 1) d_String_charAt_0 rfl rfl rfl ?_
  replace hy := g_is_inv hy
  obtain ⟨fs1, hc2, hy⟩ := hy
  replace hy := g_b_inv hy
  obtain ⟨x3, hf5, hy⟩ := hy
  refine g_callV (rv := some (.int x3)) (h1 := h) (pc' := 4) (As := []) (rest := []) 0 (T_String_isLatin1 (hy := hf5)) d_String_charAt_1 hc2 rfl rfl q894 q895 q896 q119 q897 hd_String_isLatin1 rfl ⟨by decide, by decide⟩ (by first | exact Nat.le_of_ble_eq_true rfl | (simp only [List.map, List.sum_cons, List.sum_nil, g_cat_rf]; exact Nat.le_of_ble_eq_true rfl) | (simp only [List.map, List.sum_cons, List.sum_nil, g_cat_rf, Value.category]; decide)) rfl ?_
  by_cases c6 : x3 = 0
  · rw [if_pos c6] at hy
    refine g_if_eqT (pc' := 16) d_String_charAt_4 c6 (by decide) ?_
    cases hy
  · rw [if_neg c6] at hy
    refine g_if_eqF (pc' := 7) d_String_charAt_4 16 c6 (by decide) rfl ?_
    refine g_aload_n 0 (i := 0) (pc' := 8) d_String_charAt_7 rfl rfl rfl ?_
    replace hy := g_gR_inv hy
    obtain ⟨fs11, x12, hc13, hv14, hy⟩ := hy
    refine g_getf (pc' := 11) d_String_charAt_8 hc13 rfl (by decide) hv14 q481 (Or.inl rfl) rfl ?_
    refine g_iload_n 1 (i := 1) (pc' := 12) d_String_charAt_11 rfl rfl rfl ?_
    replace hy := g_b_inv hy
    obtain ⟨x15, hf17, hy⟩ := hy
    refine g_callS (rv := some (.int x15)) (h1 := h) (pc' := 15) (As := [va_rf x12, .int p0]) (rest := []) 2 (T_StringLatin1_charAt (hy := hf17)) d_String_charAt_12 q2114 q2115 q126 q2116 hd_StringLatin1_charAt rfl ⟨by decide, by decide⟩ (by first | exact Nat.le_of_ble_eq_true rfl | (simp only [List.map, List.sum_cons, List.sum_nil, g_cat_rf]; exact Nat.le_of_ble_eq_true rfl) | (simp only [List.map, List.sum_cons, List.sum_nil, g_cat_rf, Value.category]; decide)) rfl ?_
    replace hy := g_rq_inv hy
    obtain ⟨c18, hy⟩ := hy
    cases hy
    exact g_zret rfl rfl rfl c18 d_String_charAt_15
theorem hd_String_charAt : g_dsc y_String_charAt 1 := ⟨by decide +kernel, by decide +kernel, by decide +kernel⟩
