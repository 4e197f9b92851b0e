/-! java/util/ArrayList.size()I -/
abbrev y_ArrayList_size : MethodName := ⟨"java/util/ArrayList", "size", "()I"⟩
abbrev k_ArrayList_size : g_M := (prog_45_method_8_code, 1, "java/util/ArrayList", 12, (some FieldType.int), "size", [], 0)
theorem d_ArrayList_size_0 : decode prog_45_method_8_code 0 = .ok (.aload_n 0, 1) := by decide +kernel
theorem d_ArrayList_size_1 : decode prog_45_method_8_code 1 = .ok (.getfield 48, 3) := by decide +kernel
theorem d_ArrayList_size_4 : decode prog_45_method_8_code 4 = .ok (.ireturn, 1) := by decide +kernel
def ArrayList_size (h : g_AH) (this : Nat) : Option (Int32) :=
  g_gI h this 15 2 fun x2 => some x2
set_option maxHeartbeats 4000000 in
set_option maxRecDepth 100000 in
theorem T_ArrayList_size {l : Launch} {B : g_B} (h : g_AH) (this : Nat) (z : Int32) (hy : ArrayList_size h this = some z) : g_CT l B y_ArrayList_size k_ArrayList_size [.ref this] h (.inl (some (.int z))) h := by
  refine g_start2 (Lc := [(0, .ref this)]) (by decide) rfl rfl (by exact Nat.le_of_ble_eq_true rfl) (by rfl) fun X => ?_
  unfold ArrayList_size at hy
  refine g_aload_n 0 (i := 0) (pc' := 1) d_ArrayList_size_0 rfl rfl rfl ?_
  replace hy := g_gI_inv hy
  obtain ⟨fs1, x2, hc3, hv4, hy⟩ := hy
  refine g_getf (pc' := 4) d_ArrayList_size_1 hc3 rfl (by decide) hv4 q498 (Or.inl rfl) rfl ?_
  cases hy
  exact g_iret rfl rfl rfl d_ArrayList_size_4
theorem hd_ArrayList_size : g_dsc y_ArrayList_size 0 := ⟨by decide +kernel, by decide +kernel, by decide +kernel⟩
/-! jdk/internal/util/ArraysSupport.newLength(III)I -/
abbrev y_ArraysSupport_newLength : MethodName := ⟨"jdk/internal/util/ArraysSupport", "newLength", "(III)I"⟩
abbrev k_ArraysSupport_newLength : g_M := (prog_55_method_27_code, 4, "jdk/internal/util/ArraysSupport", 13, (some FieldType.int), "newLength", [], 0)
theorem d_ArraysSupport_newLength_0 : decode prog_55_method_27_code 0 = .ok (.iload_n 0, 1) := by decide +kernel
theorem d_ArraysSupport_newLength_1 : decode prog_55_method_27_code 1 = .ok (.iload_n 1, 1) := by decide +kernel
theorem d_ArraysSupport_newLength_2 : decode prog_55_method_27_code 2 = .ok (.iload_n 2, 1) := by decide +kernel
theorem d_ArraysSupport_newLength_3 : decode prog_55_method_27_code 3 = .ok (.invokestatic 194, 3) := by decide +kernel
theorem d_ArraysSupport_newLength_6 : decode prog_55_method_27_code 6 = .ok (.iadd, 1) := by decide +kernel
theorem d_ArraysSupport_newLength_7 : decode prog_55_method_27_code 7 = .ok (.istore_n 3, 1) := by decide +kernel
theorem d_ArraysSupport_newLength_8 : decode prog_55_method_27_code 8 = .ok (.iconst 0, 1) := by decide +kernel
theorem d_ArraysSupport_newLength_9 : decode prog_55_method_27_code 9 = .ok (.iload_n 3, 1) := by decide +kernel
theorem d_ArraysSupport_newLength_10 : decode prog_55_method_27_code 10 = .ok (.if_icmp .ge 11, 3) := by decide +kernel
theorem d_ArraysSupport_newLength_13 : decode prog_55_method_27_code 13 = .ok (.iload_n 3, 1) := by decide +kernel
theorem d_ArraysSupport_newLength_14 : decode prog_55_method_27_code 14 = .ok (.ldc 200, 2) := by decide +kernel
theorem d_ArraysSupport_newLength_16 : decode prog_55_method_27_code 16 = .ok (.if_icmp .gt 5, 3) := by decide +kernel
theorem d_ArraysSupport_newLength_19 : decode prog_55_method_27_code 19 = .ok (.iload_n 3, 1) := by decide +kernel
theorem d_ArraysSupport_newLength_20 : decode prog_55_method_27_code 20 = .ok (.ireturn, 1) := by decide +kernel
def ArraysSupport_newLength (p0 : Int32) (p1 : Int32) (p2 : Int32) : Option (Int32) :=
  if (p0 + (if p1 < p2 then p2 else p1)) ≤ (0 : Int32) then (none) else (if (2147483639 : Int32) < (p0 + (if p1 < p2 then p2 else p1)) then (none) else (some (p0 + (if p1 < p2 then p2 else p1))))
set_option maxHeartbeats 4000000 in
set_option maxRecDepth 100000 in
theorem T_ArraysSupport_newLength {l : Launch} {B : g_B} {h : g_AH} (p0 : Int32) (p1 : Int32) (p2 : Int32) (z : Int32) (hy : ArraysSupport_newLength p0 p1 p2 = some z) : g_CT l B y_ArraysSupport_newLength k_ArraysSupport_newLength [.int p0, .int p1, .int p2] h (.inl (some (.int z))) h := by
  refine g_start2 (Lc := [(0, .int p0), (1, .int p1), (2, .int p2)]) (by decide) rfl rfl (by exact Nat.le_of_ble_eq_true rfl) (by rfl) fun X => ?_
  unfold ArraysSupport_newLength at hy
  refine g_iload_n 0 (i := 0) (pc' := 1) d_ArraysSupport_newLength_0 rfl rfl rfl ?_
  refine g_iload_n 1 (i := 1) (pc' := 2) d_ArraysSupport_newLength_1 rfl rfl rfl ?_
  refine g_iload_n 2 (i := 2) (pc' := 3) d_ArraysSupport_newLength_2 rfl rfl rfl ?_
  refine g_mmax (pc' := 6) d_ArraysSupport_newLength_3 q277 q278 q122 q279 (by first | exact Nat.le_of_ble_eq_true rfl | (simp only [List.map, List.sum_cons, List.sum_nil, g_cat_rf]; exact Nat.le_of_ble_eq_true rfl) | (simp only [List.map, List.sum_cons, List.sum_nil, g_cat_rf, Value.category]; decide)) (by decide) rfl ?_
  refine g_iadd (pc' := 7) d_ArraysSupport_newLength_6 rfl ?_
  refine g_istore_n (i := 3) (pc' := 8) (Lc' := [(3, .int (p0 + (if p1 < p2 then p2 else p1))), (0, .int p0), (1, .int p1), (2, .int p2)]) d_ArraysSupport_newLength_7 rfl (by decide) rfl rfl ?_
  refine g_iconst (v := (0 : Int32)) (pc' := 9) d_ArraysSupport_newLength_8 (by decide) rfl ?_
  refine g_iload_n 0 (i := 3) (pc' := 10) d_ArraysSupport_newLength_9 rfl rfl rfl ?_
  by_cases c1 : (p0 + (if p1 < p2 then p2 else p1)) ≤ (0 : Int32)
  · rw [if_pos c1] at hy
    refine g_icmp_geT (pc' := 21) d_ArraysSupport_newLength_10 c1 (by decide) ?_
    cases hy
  · rw [if_neg c1] at hy
    refine g_icmp_geF (pc' := 13) d_ArraysSupport_newLength_10 21 c1 (by decide) rfl ?_
    refine g_iload_n 0 (i := 3) (pc' := 14) d_ArraysSupport_newLength_13 rfl rfl rfl ?_
    refine g_ldcI (pc' := 16) d_ArraysSupport_newLength_14 q280 rfl ?_
    by_cases c2 : (2147483639 : Int32) < (p0 + (if p1 < p2 then p2 else p1))
    · rw [if_pos c2] at hy
      refine g_icmp_gtT (pc' := 21) d_ArraysSupport_newLength_16 c2 (by decide) ?_
      cases hy
    · rw [if_neg c2] at hy
      refine g_icmp_gtF (pc' := 19) d_ArraysSupport_newLength_16 21 c2 (by decide) rfl ?_
      refine g_iload_n 0 (i := 3) (pc' := 20) d_ArraysSupport_newLength_19 rfl rfl rfl ?_
      cases hy
      exact g_iret rfl rfl rfl d_ArraysSupport_newLength_20
theorem hd_ArraysSupport_newLength : g_dsc y_ArraysSupport_newLength 3 := ⟨by decide +kernel, by decide +kernel, by decide +kernel⟩
/-! java/util/Arrays.copyOf([Ljava/lang/Object;ILjava/lang/Class;)[Ljava/lang/Object; -/
abbrev y_Arrays_copyOf2 : MethodName := ⟨"java/util/Arrays", "copyOf", "([Ljava/lang/Object;ILjava/lang/Class;)[Ljava/lang/Object;"⟩
abbrev k_Arrays_copyOf2 : g_M := (prog_47_method_120_code, 4, "java/util/Arrays", 13, (some (FieldType.array (FieldType.object "java/lang/Object"))), "copyOf", [], 0)
theorem d_Arrays_copyOf2_0 : decode prog_47_method_120_code 0 = .ok (.aload_n 2, 1) := by decide +kernel
theorem d_Arrays_copyOf2_1 : decode prog_47_method_120_code 1 = .ok (.ldc 110, 2) := by decide +kernel
theorem d_Arrays_copyOf2_3 : decode prog_47_method_120_code 3 = .ok (.if_acmp .ne 10, 3) := by decide +kernel
theorem d_Arrays_copyOf2_6 : decode prog_47_method_120_code 6 = .ok (.iload_n 1, 1) := by decide +kernel
theorem d_Arrays_copyOf2_7 : decode prog_47_method_120_code 7 = .ok (.anewarray 2, 3) := by decide +kernel
theorem d_Arrays_copyOf2_10 : decode prog_47_method_120_code 10 = .ok (.goto 14, 3) := by decide +kernel
theorem d_Arrays_copyOf2_24 : decode prog_47_method_120_code 24 = .ok (.astore_n 3, 1) := by decide +kernel
theorem d_Arrays_copyOf2_25 : decode prog_47_method_120_code 25 = .ok (.aload_n 0, 1) := by decide +kernel
theorem d_Arrays_copyOf2_26 : decode prog_47_method_120_code 26 = .ok (.iconst 0, 1) := by decide +kernel
theorem d_Arrays_copyOf2_27 : decode prog_47_method_120_code 27 = .ok (.aload_n 3, 1) := by decide +kernel
theorem d_Arrays_copyOf2_28 : decode prog_47_method_120_code 28 = .ok (.iconst 0, 1) := by decide +kernel
theorem d_Arrays_copyOf2_29 : decode prog_47_method_120_code 29 = .ok (.aload_n 0, 1) := by decide +kernel
theorem d_Arrays_copyOf2_30 : decode prog_47_method_120_code 30 = .ok (.arraylength, 1) := by decide +kernel
theorem d_Arrays_copyOf2_31 : decode prog_47_method_120_code 31 = .ok (.iload_n 1, 1) := by decide +kernel
theorem d_Arrays_copyOf2_32 : decode prog_47_method_120_code 32 = .ok (.invokestatic 304, 3) := by decide +kernel
theorem d_Arrays_copyOf2_35 : decode prog_47_method_120_code 35 = .ok (.invokestatic 150, 3) := by decide +kernel
theorem d_Arrays_copyOf2_38 : decode prog_47_method_120_code 38 = .ok (.aload_n 3, 1) := by decide +kernel
theorem d_Arrays_copyOf2_39 : decode prog_47_method_120_code 39 = .ok (.areturn, 1) := by decide +kernel
def Arrays_copyOf2_24 (h : g_AH) (v0 : Option Nat) (v1 : Int32) (s0 : Nat) : Option (Option Nat × g_AH) :=
  g_nn v0 fun a6 => g_len h a6 fun x11 => g_cpQ h a6 (0 : Int32) s0 (0 : Int32) (if v1 < x11 then v1 else x11) fun h20 => some ((some s0), h20)
set_option maxHeartbeats 4000000 in
set_option maxRecDepth 100000 in
theorem W_Arrays_copyOf2_24 {X : g_X} (z : Option Nat × g_AH) (h : g_AH) (v0 : Option Nat) (v1 : Int32) (s0 : Nat) (hy : Arrays_copyOf2_24  h v0 v1 s0 = some z) : G X k_Arrays_copyOf2 (.inl (some (va_rf z.1))) z.2 h 24 [(0, va_rf v0), (1, .int v1)] [.ref s0] := by
  unfold Arrays_copyOf2_24 at hy
  refine g_astore_n (i := 3) (pc' := 25) (Lc' := [(3, .ref s0), (0, va_rf v0), (1, .int v1)]) d_Arrays_copyOf2_24 rfl (by decide) rfl rfl ?_
  refine g_aloadO_n 1 (i := 0) (pc' := 26) d_Arrays_copyOf2_25 rfl rfl rfl ?_
  refine g_iconst (v := (0 : Int32)) (pc' := 27) d_Arrays_copyOf2_26 (by decide) rfl ?_
  refine g_aload_n 0 (i := 3) (pc' := 28) d_Arrays_copyOf2_27 rfl rfl rfl ?_
  refine g_iconst (v := (0 : Int32)) (pc' := 29) d_Arrays_copyOf2_28 (by decide) rfl ?_
  refine g_aloadO_n 1 (i := 0) (pc' := 30) d_Arrays_copyOf2_29 rfl rfl rfl ?_
  replace hy := g_nn_inv hy
  obtain ⟨a6, rfl, hy⟩ := hy
  replace hy := g_len_inv hy
  obtain ⟨t7, y8, hc9, ht10, hy⟩ := hy
  refine g_alen (pc' := 31) d_Arrays_copyOf2_30 hc9 ht10 rfl rfl ?_
  generalize Int32.ofNat y8.1 = x11 at hy ⊢
  refine g_iload_n 2 (i := 1) (pc' := 32) d_Arrays_copyOf2_31 rfl rfl rfl ?_
  refine g_mmin (pc' := 35) d_Arrays_copyOf2_32 q295 q296 q122 q297 (by first | exact Nat.le_of_ble_eq_true rfl | (simp only [List.map, List.sum_cons, List.sum_nil, g_cat_rf]; exact Nat.le_of_ble_eq_true rfl) | (simp only [List.map, List.sum_cons, List.sum_nil, g_cat_rf, Value.category]; decide)) (by decide) rfl ?_
  replace hy := g_cpQ_inv hy
  obtain ⟨n12, f13, n14, g15, hc16, hc17, hr18, hf19, hy⟩ := hy
  refine g_copyQ (pc' := 38) d_Arrays_copyOf2_35 q298 hc16 hc17 hr18 hf19 (by first | exact Nat.le_of_ble_eq_true rfl | (simp only [List.map, List.sum_cons, List.sum_nil, g_cat_rf]; exact Nat.le_of_ble_eq_true rfl) | (simp only [List.map, List.sum_cons, List.sum_nil, g_cat_rf, Value.category]; decide)) (by decide) rfl ?_
  generalize g_up h s0 (.inl (5, n14, .inr (.inr (.inr (.inr (va_cpy f13 g15 ((0 : Int32)).toNatClampNeg ((0 : Int32)).toNatClampNeg ((if v1 < x11 then v1 else x11)).toNatClampNeg)))))) = h20 at hy ⊢
  refine g_aload_n 0 (i := 3) (pc' := 39) d_Arrays_copyOf2_38 rfl rfl rfl ?_
  cases hy
  refine g_stk (st' := [va_rf (some s0)]) rfl ?_
  exact g_aret rfl rfl rfl (Or.inr ⟨_, rfl⟩) d_Arrays_copyOf2_39
def Arrays_copyOf2 (h : g_AH) (p0 : Option Nat) (p1 : Int32) (p2 : Option Nat) : Option (Option Nat × g_AH) :=
  if p2 = (some (g_str h 100)) then (g_mkQ h 5 p1 fun a2 h3 => Arrays_copyOf2_24  h3 p0 p1 a2) else (none)
set_option maxHeartbeats 4000000 in
set_option maxRecDepth 100000 in
theorem T_Arrays_copyOf2 {l : Launch} {B : g_B} (h : g_AH) (p0 : Option Nat) (p1 : Int32) (p2 : Option Nat) (z : Option Nat × g_AH) (hy : Arrays_copyOf2 h p0 p1 p2 = some z) : g_CT l B y_Arrays_copyOf2 k_Arrays_copyOf2 [va_rf p0, .int p1, va_rf p2] h (.inl (some (va_rf z.1))) z.2 := by
  refine g_start2 (Lc := [(0, va_rf p0), (1, .int p1), (2, va_rf p2)]) (by decide) rfl rfl (by rcases p0 with _ | p0 <;> rcases p2 with _ | p2 <;> exact Nat.le_of_ble_eq_true rfl) (by rcases p0 with _ | p0 <;> rcases p2 with _ | p2 <;> rfl) fun X => ?_
  unfold Arrays_copyOf2 at hy
  refine g_aloadO_n 2 (i := 2) (pc' := 1) d_Arrays_copyOf2_0 rfl rfl rfl ?_
  refine g_ldcC (pc' := 3) d_Arrays_copyOf2_1 q1089 rfl ?_
  by_cases c1 : p2 = (some (g_str h 100))
  · rw [if_pos c1] at hy
    refine g_stk (st' := va_rf (some (g_str h 100)) :: va_rf p2 :: []) rfl ?_
    refine g_acmp_neF (pc' := 6) d_Arrays_copyOf2_3 13 c1 (by decide) rfl ?_
    refine g_iload_n 1 (i := 1) (pc' := 7) d_Arrays_copyOf2_6 rfl rfl rfl ?_
    replace hy := g_mkQ_inv hy
    obtain ⟨hn4, hb5, hy⟩ := hy
    refine g_anew (t := 5) (C := "java/lang/Object") (pc' := 10) d_Arrays_copyOf2_7 q1090 (fun _ => rfl) (by decide) hn4 hb5 rfl ?_
    generalize g_al h (.inl (5, (p1).toNatClampNeg, .inr (.inr (.inr (.inr (fun _ => none)))))) (p1).toNatClampNeg = h3 at hy ⊢
    generalize g_n h = a2 at hy ⊢
    refine g_goto (pc' := 24) d_Arrays_copyOf2_10 (by decide) ?_
    refine g_sub [0, 1] rfl ?_
    exact W_Arrays_copyOf2_24 _ _ _ _ _ hy
  · rw [if_neg c1] at hy
    refine g_stk (st' := va_rf (some (g_str h 100)) :: va_rf p2 :: []) rfl ?_
    refine g_acmp_neT (pc' := 13) d_Arrays_copyOf2_3 c1 (by decide) ?_
    cases hy
theorem hd_Arrays_copyOf2 : g_dsc y_Arrays_copyOf2 3 := ⟨by decide +kernel, by decide +kernel, by decide +kernel⟩
/-! java/util/Arrays.copyOf([Ljava/lang/Object;I)[Ljava/lang/Object; -/
abbrev y_Arrays_copyOf1 : MethodName := ⟨"java/util/Arrays", "copyOf", "([Ljava/lang/Object;I)[Ljava/lang/Object;"⟩
abbrev k_Arrays_copyOf1 : g_M := (prog_47_method_119_code, 2, "java/util/Arrays", 14, (some (FieldType.array (FieldType.object "java/lang/Object"))), "copyOf", [], 0)
theorem d_Arrays_copyOf1_0 : decode prog_47_method_119_code 0 = .ok (.aload_n 0, 1) := by decide +kernel
theorem d_Arrays_copyOf1_1 : decode prog_47_method_119_code 1 = .ok (.iload_n 1, 1) := by decide +kernel
theorem d_Arrays_copyOf1_2 : decode prog_47_method_119_code 2 = .ok (.aload_n 0, 1) := by decide +kernel
theorem d_Arrays_copyOf1_3 : decode prog_47_method_119_code 3 = .ok (.invokevirtual 86, 3) := by decide +kernel
theorem d_Arrays_copyOf1_6 : decode prog_47_method_119_code 6 = .ok (.invokestatic 300, 3) := by decide +kernel
theorem d_Arrays_copyOf1_9 : decode prog_47_method_119_code 9 = .ok (.areturn, 1) := by decide +kernel
def Arrays_copyOf1 (h : g_AH) (p0 : Option Nat) (p1 : Int32) : Option (Option Nat × g_AH) :=
  g_nn p0 fun a1 => g_isA h 5 a1 <| g_b2 (Arrays_copyOf2 h (some a1) p1 (some (g_str h 100))) fun x4 h5 => some (x4, h5)
set_option maxHeartbeats 4000000 in
set_option maxRecDepth 100000 in
theorem T_Arrays_copyOf1 {l : Launch} {B : g_B} (h : g_AH) (p0 : Option Nat) (p1 : Int32) (z : Option Nat × g_AH) (hy : Arrays_copyOf1 h p0 p1 = some z) : g_CT l B y_Arrays_copyOf1 k_Arrays_copyOf1 [va_rf p0, .int p1] h (.inl (some (va_rf z.1))) z.2 := by
  refine g_start2 (Lc := [(0, va_rf p0), (1, .int p1)]) (by decide) rfl rfl (by rcases p0 with _ | p0 <;> exact Nat.le_of_ble_eq_true rfl) (by rcases p0 with _ | p0 <;> rfl) fun X => ?_
  unfold Arrays_copyOf1 at hy
  refine g_aloadO_n 0 (i := 0) (pc' := 1) d_Arrays_copyOf1_0 rfl rfl rfl ?_
  refine g_iload_n 1 (i := 1) (pc' := 2) d_Arrays_copyOf1_1 rfl rfl rfl ?_
  refine g_aloadO_n 0 (i := 0) (pc' := 3) d_Arrays_copyOf1_2 rfl rfl rfl ?_
  replace hy := g_nn_inv hy
  obtain ⟨a1, rfl, hy⟩ := hy
  replace hy := g_isA_inv hy
  obtain ⟨y2, hc3, hy⟩ := hy
  refine g_getCls (pc' := 6) d_Arrays_copyOf1_3 hc3 q1058 (by first | exact Nat.le_of_ble_eq_true rfl | (simp only [List.map, List.sum_cons, List.sum_nil, g_cat_rf]; exact Nat.le_of_ble_eq_true rfl) | (simp only [List.map, List.sum_cons, List.sum_nil, g_cat_rf, Value.category]; decide)) (by decide) rfl ?_
  replace hy := g_b2_inv hy
  obtain ⟨x4, h5, hf6, hy⟩ := hy
  refine g_callS (rv := some (va_rf x4)) (h1 := h5) (pc' := 9) (As := [va_rf (some a1), .int p1, va_rf (some (g_str h 100))]) (rest := []) 3 (T_Arrays_copyOf2 (hy := hf6)) d_Arrays_copyOf1_6 q1086 q1087 q123 q1088 hd_Arrays_copyOf2 rfl ⟨by decide, by decide⟩ (by first | exact Nat.le_of_ble_eq_true rfl | (simp only [List.map, List.sum_cons, List.sum_nil, g_cat_rf]; exact Nat.le_of_ble_eq_true rfl) | (simp only [List.map, List.sum_cons, List.sum_nil, g_cat_rf, Value.category]; decide)) rfl ?_
  cases hy
  exact g_aret rfl rfl rfl (Or.inr ⟨_, rfl⟩) d_Arrays_copyOf1_9
theorem hd_Arrays_copyOf1 : g_dsc y_Arrays_copyOf1 2 := ⟨by decide +kernel, by decide +kernel, by decide +kernel⟩
/-! java/util/ArrayList.grow(I)[Ljava/lang/Object; -/
abbrev y_ArrayList_grow1 : MethodName := ⟨"java/util/ArrayList", "grow", "(I)[Ljava/lang/Object;"⟩
abbrev k_ArrayList_grow1 : g_M := (prog_45_method_6_code, 4, "java/util/ArrayList", 15, (some (FieldType.array (FieldType.object "java/lang/Object"))), "grow", [], 0)
theorem d_ArrayList_grow1_0 : decode prog_45_method_6_code 0 = .ok (.aload_n 0, 1) := by decide +kernel
theorem d_ArrayList_grow1_1 : decode prog_45_method_6_code 1 = .ok (.getfield 9, 3) := by decide +kernel
theorem d_ArrayList_grow1_4 : decode prog_45_method_6_code 4 = .ok (.arraylength, 1) := by decide +kernel
theorem d_ArrayList_grow1_5 : decode prog_45_method_6_code 5 = .ok (.istore_n 2, 1) := by decide +kernel
theorem d_ArrayList_grow1_6 : decode prog_45_method_6_code 6 = .ok (.iload_n 2, 1) := by decide +kernel
theorem d_ArrayList_grow1_7 : decode prog_45_method_6_code 7 = .ok (.ifCond .gt 13, 3) := by decide +kernel
theorem d_ArrayList_grow1_20 : decode prog_45_method_6_code 20 = .ok (.iload_n 2, 1) := by decide +kernel
theorem d_ArrayList_grow1_21 : decode prog_45_method_6_code 21 = .ok (.iload_n 1, 1) := by decide +kernel
theorem d_ArrayList_grow1_22 : decode prog_45_method_6_code 22 = .ok (.iload_n 2, 1) := by decide +kernel
theorem d_ArrayList_grow1_23 : decode prog_45_method_6_code 23 = .ok (.isub, 1) := by decide +kernel
theorem d_ArrayList_grow1_24 : decode prog_45_method_6_code 24 = .ok (.iload_n 2, 1) := by decide +kernel
theorem d_ArrayList_grow1_25 : decode prog_45_method_6_code 25 = .ok (.iconst 1, 1) := by decide +kernel
theorem d_ArrayList_grow1_26 : decode prog_45_method_6_code 26 = .ok (.ishr, 1) := by decide +kernel
theorem d_ArrayList_grow1_27 : decode prog_45_method_6_code 27 = .ok (.invokestatic 73, 3) := by decide +kernel
theorem d_ArrayList_grow1_30 : decode prog_45_method_6_code 30 = .ok (.istore_n 3, 1) := by decide +kernel
theorem d_ArrayList_grow1_31 : decode prog_45_method_6_code 31 = .ok (.aload_n 0, 1) := by decide +kernel
theorem d_ArrayList_grow1_32 : decode prog_45_method_6_code 32 = .ok (.aload_n 0, 1) := by decide +kernel
theorem d_ArrayList_grow1_33 : decode prog_45_method_6_code 33 = .ok (.getfield 9, 3) := by decide +kernel
theorem d_ArrayList_grow1_36 : decode prog_45_method_6_code 36 = .ok (.iload_n 3, 1) := by decide +kernel
theorem d_ArrayList_grow1_37 : decode prog_45_method_6_code 37 = .ok (.invokestatic 66, 3) := by decide +kernel
theorem d_ArrayList_grow1_40 : decode prog_45_method_6_code 40 = .ok (.dup_x1, 1) := by decide +kernel
theorem d_ArrayList_grow1_41 : decode prog_45_method_6_code 41 = .ok (.putfield 9, 3) := by decide +kernel
theorem d_ArrayList_grow1_44 : decode prog_45_method_6_code 44 = .ok (.areturn, 1) := by decide +kernel
def ArrayList_grow1_20 (h : g_AH) (v0 : Nat) (v1 : Int32) (v2 : Int32) : Option (Option Nat × g_AH) :=
  g_b (ArraysSupport_newLength v2 (v1 - v2) (v2 >>> ((1 : Int32) &&& 31))) fun x12 => g_gR h v0 15 1 fun x16 => g_b2 (Arrays_copyOf1 h x16 x12) fun x19 h20 => g_pF h20 v0 15 1 (va_rf x19) fun h25 => some (x19, h25)
set_option maxHeartbeats 4000000 in
set_option maxRecDepth 100000 in
theorem W_ArrayList_grow1_20 {X : g_X} (z : Option Nat × g_AH) (h : g_AH) (v0 : Nat) (v1 : Int32) (v2 : Int32) (hy : ArrayList_grow1_20  h v0 v1 v2 = some z) : G X k_ArrayList_grow1 (.inl (some (va_rf z.1))) z.2 h 20 [(0, .ref v0), (1, .int v1), (2, .int v2)] [] := by
  unfold ArrayList_grow1_20 at hy
  refine g_iload_n 2 (i := 2) (pc' := 21) d_ArrayList_grow1_20 rfl rfl rfl ?_
  refine g_iload_n 1 (i := 1) (pc' := 22) d_ArrayList_grow1_21 rfl rfl rfl ?_
  refine g_iload_n 2 (i := 2) (pc' := 23) d_ArrayList_grow1_22 rfl rfl rfl ?_
  refine g_isub (pc' := 24) d_ArrayList_grow1_23 rfl ?_
  refine g_iload_n 2 (i := 2) (pc' := 25) d_ArrayList_grow1_24 rfl rfl rfl ?_
  refine g_iconst (v := (1 : Int32)) (pc' := 26) d_ArrayList_grow1_25 (by decide) rfl ?_
  refine g_ishr (pc' := 27) d_ArrayList_grow1_26 rfl ?_
  replace hy := g_b_inv hy
  obtain ⟨x12, hf14, hy⟩ := hy
  refine g_callS (rv := some (.int x12)) (h1 := h) (pc' := 30) (As := [.int v2, .int (v1 - v2), .int (v2 >>> ((1 : Int32) &&& 31))]) (rest := []) 3 (T_ArraysSupport_newLength (hy := hf14)) d_ArrayList_grow1_27 q1054 q275 q121 q276 hd_ArraysSupport_newLength rfl ⟨by decide, by decide⟩ (by first | exact Nat.le_of_ble_eq_true rfl | (simp only [List.map, List.sum_cons, List.sum_nil, g_cat_rf]; exact Nat.le_of_ble_eq_true rfl) | (simp only [List.map, List.sum_cons, List.sum_nil, g_cat_rf, Value.category]; decide)) rfl ?_
  refine g_istore_n (i := 3) (pc' := 31) (Lc' := [(3, .int x12), (0, .ref v0), (1, .int v1), (2, .int v2)]) d_ArrayList_grow1_30 rfl (by decide) rfl rfl ?_
  refine g_aload_n 1 (i := 0) (pc' := 32) d_ArrayList_grow1_31 rfl rfl rfl ?_
  refine g_aload_n 1 (i := 0) (pc' := 33) d_ArrayList_grow1_32 rfl rfl rfl ?_
  replace hy := g_gR_inv hy
  obtain ⟨fs15, x16, hc17, hv18, hy⟩ := hy
  refine g_getf (pc' := 36) d_ArrayList_grow1_33 hc17 rfl (by decide) hv18 q495 (Or.inl rfl) rfl ?_
  refine g_iload_n 0 (i := 3) (pc' := 37) d_ArrayList_grow1_36 rfl rfl rfl ?_
  replace hy := g_b2_inv hy
  obtain ⟨x19, h20, hf21, hy⟩ := hy
  refine g_callS (rv := some (va_rf x19)) (h1 := h20) (pc' := 40) (As := [va_rf x16, .int x12]) (rest := [.ref v0]) 2 (T_Arrays_copyOf1 (hy := hf21)) d_ArrayList_grow1_37 q1055 q1056 q123 q1057 hd_Arrays_copyOf1 rfl ⟨by decide, by decide⟩ (by first | exact Nat.le_of_ble_eq_true rfl | (simp only [List.map, List.sum_cons, List.sum_nil, g_cat_rf]; exact Nat.le_of_ble_eq_true rfl) | (simp only [List.map, List.sum_cons, List.sum_nil, g_cat_rf, Value.category]; decide)) rfl ?_
  refine g_dup_x1 (pc' := 41) d_ArrayList_grow1_40 g_cat_rf rfl rfl ?_
  replace hy := g_pF_inv hy
  obtain ⟨fs22, hc23, hl24, hy⟩ := hy
  refine g_putf (pc' := 44) d_ArrayList_grow1_41 hc23 rfl (by decide) hl24 rfl g_nar_rf g_fit_a q495 (Or.inl rfl) rfl ?_
  generalize g_up h20 v0 (.inr (15, fs22.set 1 (va_rf x19))) = h25 at hy ⊢
  cases hy
  exact g_aret rfl rfl rfl (Or.inr ⟨_, rfl⟩) d_ArrayList_grow1_44
def ArrayList_grow1 (h : g_AH) (this : Nat) (p0 : Int32) : Option (Option Nat × g_AH) :=
  g_gR h this 15 1 fun x2 => g_nn x2 fun a5 => g_len h a5 fun x10 => if 0 < x10 then (ArrayList_grow1_20  h this p0 x10) else (none)
set_option maxHeartbeats 4000000 in
set_option maxRecDepth 100000 in
theorem T_ArrayList_grow1 {l : Launch} {B : g_B} (h : g_AH) (this : Nat) (p0 : Int32) (z : Option Nat × g_AH) (hy : ArrayList_grow1 h this p0 = some z) : g_CT l B y_ArrayList_grow1 k_ArrayList_grow1 [.ref this, .int p0] h (.inl (some (va_rf z.1))) z.2 := by
  refine g_start2 (Lc := [(0, .ref this), (1, .int p0)]) (by decide) rfl rfl (by exact Nat.le_of_ble_eq_true rfl) (by rfl) fun X => ?_
  unfold ArrayList_grow1 at hy
  refine g_aload_n 0 (i := 0) (pc' := 1) d_ArrayList_grow1_0 rfl rfl rfl ?_
  replace hy := g_gR_inv hy
  obtain ⟨fs1, x2, hc3, hv4, hy⟩ := hy
  refine g_getf (pc' := 4) d_ArrayList_grow1_1 hc3 rfl (by decide) hv4 q495 (Or.inl rfl) rfl ?_
  replace hy := g_nn_inv hy
  obtain ⟨a5, rfl, hy⟩ := hy
  replace hy := g_len_inv hy
  obtain ⟨t6, y7, hc8, ht9, hy⟩ := hy
  refine g_alen (pc' := 5) d_ArrayList_grow1_4 hc8 ht9 rfl rfl ?_
  generalize Int32.ofNat y7.1 = x10 at hy ⊢
  refine g_istore_n (i := 2) (pc' := 6) (Lc' := [(2, .int x10), (0, .ref this), (1, .int p0)]) d_ArrayList_grow1_5 rfl (by decide) rfl rfl ?_
  refine g_iload_n 0 (i := 2) (pc' := 7) d_ArrayList_grow1_6 rfl rfl rfl ?_
  by_cases c11 : 0 < x10
  · rw [if_pos c11] at hy
    refine g_if_gtT (pc' := 20) d_ArrayList_grow1_7 c11 (by decide) ?_
    refine g_sub [1, 2, 0] rfl ?_
    exact W_ArrayList_grow1_20 _ _ _ _ _ hy
  · rw [if_neg c11] at hy
    refine g_if_gtF (pc' := 10) d_ArrayList_grow1_7 20 c11 (by decide) rfl ?_
    cases hy
theorem hd_ArrayList_grow1 : g_dsc y_ArrayList_grow1 1 := ⟨by decide +kernel, by decide +kernel, by decide +kernel⟩
/-! java/util/ArrayList.grow()[Ljava/lang/Object; -/
abbrev y_ArrayList_grow0 : MethodName := ⟨"java/util/ArrayList", "grow", "()[Ljava/lang/Object;"⟩
abbrev k_ArrayList_grow0 : g_M := (prog_45_method_7_code, 1, "java/util/ArrayList", 16, (some (FieldType.array (FieldType.object "java/lang/Object"))), "grow", [], 0)
theorem d_ArrayList_grow0_0 : decode prog_45_method_7_code 0 = .ok (.aload_n 0, 1) := by decide +kernel
theorem d_ArrayList_grow0_1 : decode prog_45_method_7_code 1 = .ok (.aload_n 0, 1) := by decide +kernel
theorem d_ArrayList_grow0_2 : decode prog_45_method_7_code 2 = .ok (.getfield 48, 3) := by decide +kernel
theorem d_ArrayList_grow0_5 : decode prog_45_method_7_code 5 = .ok (.iconst 1, 1) := by decide +kernel
theorem d_ArrayList_grow0_6 : decode prog_45_method_7_code 6 = .ok (.iadd, 1) := by decide +kernel
theorem d_ArrayList_grow0_7 : decode prog_45_method_7_code 7 = .ok (.invokevirtual 69, 3) := by decide +kernel
theorem d_ArrayList_grow0_10 : decode prog_45_method_7_code 10 = .ok (.areturn, 1) := by decide +kernel
def ArrayList_grow0 (h : g_AH) (this : Nat) : Option (Option Nat × g_AH) :=
  g_gI h this 15 2 fun x2 => g_is h this 15 <| g_b2 (ArrayList_grow1 h this (x2 + (1 : Int32))) fun x7 h8 => some (x7, h8)
set_option maxHeartbeats 4000000 in
set_option maxRecDepth 100000 in
theorem T_ArrayList_grow0 {l : Launch} {B : g_B} (h : g_AH) (this : Nat) (z : Option Nat × g_AH) (hy : ArrayList_grow0 h this = some z) : g_CT l B y_ArrayList_grow0 k_ArrayList_grow0 [.ref this] h (.inl (some (va_rf z.1))) z.2 := by
  refine g_start2 (Lc := [(0, .ref this)]) (by decide) rfl rfl (by exact Nat.le_of_ble_eq_true rfl) (by rfl) fun X => ?_
  unfold ArrayList_grow0 at hy
  refine g_aload_n 0 (i := 0) (pc' := 1) d_ArrayList_grow0_0 rfl rfl rfl ?_
  refine g_aload_n 0 (i := 0) (pc' := 2) d_ArrayList_grow0_1 rfl rfl rfl ?_
  replace hy := g_gI_inv hy
  obtain ⟨fs1, x2, hc3, hv4, hy⟩ := hy
  refine g_getf (pc' := 5) d_ArrayList_grow0_2 hc3 rfl (by decide) hv4 q498 (Or.inl rfl) rfl ?_
  refine g_iconst (v := (1 : Int32)) (pc' := 6) d_ArrayList_grow0_5 (by decide) rfl ?_
  refine g_iadd (pc' := 7) d_ArrayList_grow0_6 rfl ?_
  replace hy := g_is_inv hy
  obtain ⟨fs5, hc6, hy⟩ := hy
  replace hy := g_b2_inv hy
  obtain ⟨x7, h8, hf9, hy⟩ := hy
  refine g_callV (rv := some (va_rf x7)) (h1 := h8) (pc' := 10) (As := [.int (x2 + (1 : Int32))]) (rest := []) 1 (T_ArrayList_grow1 (hy := hf9)) d_ArrayList_grow0_7 hc6 rfl rfl q1048 q1050 qs11 q112 q1051 hd_ArrayList_grow1 rfl ⟨by decide, by decide⟩ (by first | exact Nat.le_of_ble_eq_true rfl | (simp only [List.map, List.sum_cons, List.sum_nil, g_cat_rf]; exact Nat.le_of_ble_eq_true rfl) | (simp only [List.map, List.sum_cons, List.sum_nil, g_cat_rf, Value.category]; decide)) rfl ?_
  cases hy
  exact g_aret rfl rfl rfl (Or.inr ⟨_, rfl⟩) d_ArrayList_grow0_10
theorem hd_ArrayList_grow0 : g_dsc y_ArrayList_grow0 0 := ⟨by decide +kernel, by decide +kernel, by decide +kernel⟩
/-! java/util/ArrayList.add(Ljava/lang/Object;[Ljava/lang/Object;I)V -/
abbrev y_ArrayList_add1 : MethodName := ⟨"java/util/ArrayList", "add", "(Ljava/lang/Object;[Ljava/lang/Object;I)V"⟩
abbrev k_ArrayList_add1 : g_M := (prog_45_method_24_code, 4, "java/util/ArrayList", 17, none, "add", [], 0)
theorem d_ArrayList_add1_0 : decode prog_45_method_24_code 0 = .ok (.iload_n 3, 1) := by decide +kernel
theorem d_ArrayList_add1_1 : decode prog_45_method_24_code 1 = .ok (.aload_n 2, 1) := by decide +kernel
theorem d_ArrayList_add1_2 : decode prog_45_method_24_code 2 = .ok (.arraylength, 1) := by decide +kernel
theorem d_ArrayList_add1_3 : decode prog_45_method_24_code 3 = .ok (.if_icmp .ne 8, 3) := by decide +kernel
theorem d_ArrayList_add1_6 : decode prog_45_method_24_code 6 = .ok (.aload_n 0, 1) := by decide +kernel
theorem d_ArrayList_add1_7 : decode prog_45_method_24_code 7 = .ok (.invokevirtual 129, 3) := by decide +kernel
theorem d_ArrayList_add1_10 : decode prog_45_method_24_code 10 = .ok (.astore_n 2, 1) := by decide +kernel
theorem d_ArrayList_add1_11 : decode prog_45_method_24_code 11 = .ok (.aload_n 2, 1) := by decide +kernel
theorem d_ArrayList_add1_12 : decode prog_45_method_24_code 12 = .ok (.iload_n 3, 1) := by decide +kernel
theorem d_ArrayList_add1_13 : decode prog_45_method_24_code 13 = .ok (.aload_n 1, 1) := by decide +kernel
theorem d_ArrayList_add1_14 : decode prog_45_method_24_code 14 = .ok (.aastore, 1) := by decide +kernel
theorem d_ArrayList_add1_15 : decode prog_45_method_24_code 15 = .ok (.aload_n 0, 1) := by decide +kernel
theorem d_ArrayList_add1_16 : decode prog_45_method_24_code 16 = .ok (.iload_n 3, 1) := by decide +kernel
theorem d_ArrayList_add1_17 : decode prog_45_method_24_code 17 = .ok (.iconst 1, 1) := by decide +kernel
theorem d_ArrayList_add1_18 : decode prog_45_method_24_code 18 = .ok (.iadd, 1) := by decide +kernel
theorem d_ArrayList_add1_19 : decode prog_45_method_24_code 19 = .ok (.putfield 48, 3) := by decide +kernel
theorem d_ArrayList_add1_22 : decode prog_45_method_24_code 22 = .ok (.return_, 1) := by decide +kernel
def ArrayList_add1_11 (h : g_AH) (v0 : Nat) (v1 : Option Nat) (v2 : Option Nat) (v3 : Int32) : Option g_AH :=
  g_nn v2 fun a8 => g_sA h 5 a8 v3 v1 fun h14 => g_pF h14 v0 15 2 (.int (v3 + (1 : Int32))) fun h18 => some h18
set_option maxHeartbeats 4000000 in
set_option maxRecDepth 100000 in
theorem W_ArrayList_add1_11 {X : g_X} (z : g_AH) (h : g_AH) (v0 : Nat) (v1 : Option Nat) (v2 : Option Nat) (v3 : Int32) (hy : ArrayList_add1_11  h v0 v1 v2 v3 = some z) : G X k_ArrayList_add1 (.inl none) z h 11 [(0, .ref v0), (1, va_rf v1), (2, va_rf v2), (3, .int v3)] [] := by
  unfold ArrayList_add1_11 at hy
  refine g_aloadO_n 2 (i := 2) (pc' := 12) d_ArrayList_add1_11 rfl rfl rfl ?_
  refine g_iload_n 3 (i := 3) (pc' := 13) d_ArrayList_add1_12 rfl rfl rfl ?_
  refine g_aloadO_n 1 (i := 1) (pc' := 14) d_ArrayList_add1_13 rfl rfl rfl ?_
  replace hy := g_nn_inv hy
  obtain ⟨a8, rfl, hy⟩ := hy
  replace hy := g_sA_inv hy
  obtain ⟨n9, f10, hc11, hi12, ho13, hy⟩ := hy
  refine g_aast (pc' := 15) d_ArrayList_add1_14 hc11 (by decide) hi12 ho13 rfl ?_
  generalize g_up h a8 (.inl (5, n9, .inr (.inr (.inr (.inr (va_up f10 (v3).toNatClampNeg v1)))))) = h14 at hy ⊢
  refine g_aload_n 0 (i := 0) (pc' := 16) d_ArrayList_add1_15 rfl rfl rfl ?_
  refine g_iload_n 3 (i := 3) (pc' := 17) d_ArrayList_add1_16 rfl rfl rfl ?_
  refine g_iconst (v := (1 : Int32)) (pc' := 18) d_ArrayList_add1_17 (by decide) rfl ?_
  refine g_iadd (pc' := 19) d_ArrayList_add1_18 rfl ?_
  replace hy := g_pF_inv hy
  obtain ⟨fs15, hc16, hl17, hy⟩ := hy
  refine g_putf (pc' := 22) d_ArrayList_add1_19 hc16 rfl (by decide) hl17 rfl rfl rfl q498 (Or.inl rfl) rfl ?_
  generalize g_up h14 v0 (.inr (15, fs15.set 2 (.int (v3 + (1 : Int32))))) = h18 at hy ⊢
  cases hy
  exact g_vret rfl rfl rfl d_ArrayList_add1_22
def ArrayList_add1 (h : g_AH) (this : Nat) (p0 : Option Nat) (p1 : Option Nat) (p2 : Int32) : Option g_AH :=
  g_nn p1 fun a1 => g_len h a1 fun x6 => if p2 = x6 then (g_is h this 15 <| g_b2 (ArrayList_grow0 h this) fun x21 h22 => ArrayList_add1_11  h22 this p0 x21 p2) else (ArrayList_add1_11  h this p0 (some a1) p2)
set_option maxHeartbeats 4000000 in
set_option maxRecDepth 100000 in
theorem T_ArrayList_add1 {l : Launch} {B : g_B} (h : g_AH) (this : Nat) (p0 : Option Nat) (p1 : Option Nat) (p2 : Int32) (z : g_AH) (hy : ArrayList_add1 h this p0 p1 p2 = some z) : g_CT l B y_ArrayList_add1 k_ArrayList_add1 [.ref this, va_rf p0, va_rf p1, .int p2] h (.inl none) z := by
  refine g_start2 (Lc := [(0, .ref this), (1, va_rf p0), (2, va_rf p1), (3, .int p2)]) (by decide) rfl rfl (by rcases p0 with _ | p0 <;> rcases p1 with _ | p1 <;> exact Nat.le_of_ble_eq_true rfl) (by rcases p0 with _ | p0 <;> rcases p1 with _ | p1 <;> rfl) fun X => ?_
  unfold ArrayList_add1 at hy
  refine g_iload_n 3 (i := 3) (pc' := 1) d_ArrayList_add1_0 rfl rfl rfl ?_
  refine g_aloadO_n 2 (i := 2) (pc' := 2) d_ArrayList_add1_1 rfl rfl rfl ?_
  replace hy := g_nn_inv hy
  obtain ⟨a1, rfl, hy⟩ := hy
  replace hy := g_len_inv hy
  obtain ⟨t2, y3, hc4, ht5, hy⟩ := hy
  refine g_alen (pc' := 3) d_ArrayList_add1_2 hc4 ht5 rfl rfl ?_
  generalize Int32.ofNat y3.1 = x6 at hy ⊢
  by_cases c7 : p2 = x6
  · rw [if_pos c7] at hy
    refine g_icmp_neF (pc' := 6) d_ArrayList_add1_3 11 c7 (by decide) rfl ?_
    refine g_aload_n 0 (i := 0) (pc' := 7) d_ArrayList_add1_6 rfl rfl rfl ?_
    replace hy := g_is_inv hy
    obtain ⟨fs19, hc20, hy⟩ := hy
    replace hy := g_b2_inv hy
    obtain ⟨x21, h22, hf23, hy⟩ := hy
    refine g_callV (rv := some (va_rf x21)) (h1 := h22) (pc' := 10) (As := []) (rest := []) 0 (T_ArrayList_grow0 (hy := hf23)) d_ArrayList_add1_7 hc20 rfl rfl q1044 q1046 qs10 q112 q1047 hd_ArrayList_grow0 rfl ⟨by decide, by decide⟩ (by first | exact Nat.le_of_ble_eq_true rfl | (simp only [List.map, List.sum_cons, List.sum_nil, g_cat_rf]; exact Nat.le_of_ble_eq_true rfl) | (simp only [List.map, List.sum_cons, List.sum_nil, g_cat_rf, Value.category]; decide)) rfl ?_
    refine g_astoreO_n (i := 2) (pc' := 11) (Lc' := [(2, va_rf x21), (0, .ref this), (1, va_rf p0), (3, .int p2)]) d_ArrayList_add1_10 rfl (by decide) (by cases p0 <;> rfl) rfl ?_
    refine g_sub [1, 2, 0, 3] rfl ?_
    exact W_ArrayList_add1_11 _ _ _ _ _ _ hy
  · rw [if_neg c7] at hy
    refine g_icmp_neT (pc' := 11) d_ArrayList_add1_3 c7 (by decide) ?_
    exact W_ArrayList_add1_11 _ _ _ _ _ _ hy
theorem hd_ArrayList_add1 : g_dsc y_ArrayList_add1 3 := ⟨by decide +kernel, by decide +kernel, by decide +kernel⟩
/-! java/util/ArrayList.add(Ljava/lang/Object;)Z -/
abbrev y_ArrayList_add0 : MethodName := ⟨"java/util/ArrayList", "add", "(Ljava/lang/Object;)Z"⟩
abbrev k_ArrayList_add0 : g_M := (prog_45_method_25_code, 2, "java/util/ArrayList", 18, (some FieldType.boolean), "add", [], 0)
theorem d_ArrayList_add0_0 : decode prog_45_method_25_code 0 = .ok (.aload_n 0, 1) := by decide +kernel
theorem d_ArrayList_add0_1 : decode prog_45_method_25_code 1 = .ok (.dup, 1) := by decide +kernel
theorem d_ArrayList_add0_2 : decode prog_45_method_25_code 2 = .ok (.getfield 63, 3) := by decide +kernel
theorem d_ArrayList_add0_5 : decode prog_45_method_25_code 5 = .ok (.iconst 1, 1) := by decide +kernel
theorem d_ArrayList_add0_6 : decode prog_45_method_25_code 6 = .ok (.iadd, 1) := by decide +kernel
theorem d_ArrayList_add0_7 : decode prog_45_method_25_code 7 = .ok (.putfield 63, 3) := by decide +kernel
theorem d_ArrayList_add0_10 : decode prog_45_method_25_code 10 = .ok (.aload_n 0, 1) := by decide +kernel
theorem d_ArrayList_add0_11 : decode prog_45_method_25_code 11 = .ok (.aload_n 1, 1) := by decide +kernel
theorem d_ArrayList_add0_12 : decode prog_45_method_25_code 12 = .ok (.aload_n 0, 1) := by decide +kernel
theorem d_ArrayList_add0_13 : decode prog_45_method_25_code 13 = .ok (.getfield 9, 3) := by decide +kernel
theorem d_ArrayList_add0_16 : decode prog_45_method_25_code 16 = .ok (.aload_n 0, 1) := by decide +kernel
theorem d_ArrayList_add0_17 : decode prog_45_method_25_code 17 = .ok (.getfield 48, 3) := by decide +kernel
theorem d_ArrayList_add0_20 : decode prog_45_method_25_code 20 = .ok (.invokevirtual 131, 3) := by decide +kernel
theorem d_ArrayList_add0_23 : decode prog_45_method_25_code 23 = .ok (.iconst 1, 1) := by decide +kernel
theorem d_ArrayList_add0_24 : decode prog_45_method_25_code 24 = .ok (.ireturn, 1) := by decide +kernel
def ArrayList_add0 (h : g_AH) (this : Nat) (p0 : Option Nat) : Option (Int32 × g_AH) :=
  g_gI h this 15 0 fun x2 => g_pF h this 15 0 (.int (x2 + (1 : Int32))) fun h8 => g_gR h8 this 15 1 fun x10 => g_gI h8 this 15 2 fun x14 => g_is h8 this 15 <| g_b (ArrayList_add1 h8 this p0 x10 x14) fun h20 => some ((1 : Int32), h20)
set_option maxHeartbeats 4000000 in
set_option maxRecDepth 100000 in
theorem T_ArrayList_add0 {l : Launch} {B : g_B} (h : g_AH) (this : Nat) (p0 : Option Nat) (z : Int32 × g_AH) (hy : ArrayList_add0 h this p0 = some z) : g_CT l B y_ArrayList_add0 k_ArrayList_add0 [.ref this, va_rf p0] h (.inl (some (.int z.1))) z.2 := by
  refine g_start2 (Lc := [(0, .ref this), (1, va_rf p0)]) (by decide) rfl rfl (by rcases p0 with _ | p0 <;> exact Nat.le_of_ble_eq_true rfl) (by rcases p0 with _ | p0 <;> rfl) fun X => ?_
  unfold ArrayList_add0 at hy
  refine g_aload_n 0 (i := 0) (pc' := 1) d_ArrayList_add0_0 rfl rfl rfl ?_
  refine g_dup (pc' := 2) d_ArrayList_add0_1 rfl rfl ?_
  replace hy := g_gI_inv hy
  obtain ⟨fs1, x2, hc3, hv4, hy⟩ := hy
  refine g_getf (pc' := 5) d_ArrayList_add0_2 hc3 rfl (by decide) hv4 q502 (Or.inr q501) rfl ?_
  refine g_iconst (v := (1 : Int32)) (pc' := 6) d_ArrayList_add0_5 (by decide) rfl ?_
  refine g_iadd (pc' := 7) d_ArrayList_add0_6 rfl ?_
  replace hy := g_pF_inv hy
  obtain ⟨fs5, hc6, hl7, hy⟩ := hy
  refine g_putf (pc' := 10) d_ArrayList_add0_7 hc6 rfl (by decide) hl7 rfl rfl rfl q502 (Or.inr q501) rfl ?_
  generalize g_up h this (.inr (15, fs5.set 0 (.int (x2 + (1 : Int32))))) = h8 at hy ⊢
  refine g_aload_n 0 (i := 0) (pc' := 11) d_ArrayList_add0_10 rfl rfl rfl ?_
  refine g_aloadO_n 1 (i := 1) (pc' := 12) d_ArrayList_add0_11 rfl rfl rfl ?_
  refine g_aload_n 0 (i := 0) (pc' := 13) d_ArrayList_add0_12 rfl rfl rfl ?_
  replace hy := g_gR_inv hy
  obtain ⟨fs9, x10, hc11, hv12, hy⟩ := hy
  refine g_getf (pc' := 16) d_ArrayList_add0_13 hc11 rfl (by decide) hv12 q495 (Or.inl rfl) rfl ?_
  refine g_aload_n 0 (i := 0) (pc' := 17) d_ArrayList_add0_16 rfl rfl rfl ?_
  replace hy := g_gI_inv hy
  obtain ⟨fs13, x14, hc15, hv16, hy⟩ := hy
  refine g_getf (pc' := 20) d_ArrayList_add0_17 hc15 rfl (by decide) hv16 q498 (Or.inl rfl) rfl ?_
  replace hy := g_is_inv hy
  obtain ⟨fs17, hc18, hy⟩ := hy
  replace hy := g_b_inv hy
  obtain ⟨h20, hf21, hy⟩ := hy
  refine g_callV (rv := none) (h1 := h20) (pc' := 23) (As := [va_rf p0, va_rf x10, .int x14]) (rest := []) 3 (T_ArrayList_add1 (hy := hf21)) d_ArrayList_add0_20 hc18 rfl rfl q1040 q1042 qs9 q112 q1043 hd_ArrayList_add1 rfl ⟨by decide, by decide⟩ (by first | exact Nat.le_of_ble_eq_true rfl | (simp only [List.map, List.sum_cons, List.sum_nil, g_cat_rf]; exact Nat.le_of_ble_eq_true rfl) | (simp only [List.map, List.sum_cons, List.sum_nil, g_cat_rf, Value.category]; decide)) rfl ?_
  refine g_iconst (v := (1 : Int32)) (pc' := 24) d_ArrayList_add0_23 (by decide) rfl ?_
  cases hy
  exact g_zret rfl rfl rfl (g_nar_z (Or.inr rfl)).1 d_ArrayList_add0_24
theorem hd_ArrayList_add0 : g_dsc y_ArrayList_add0 1 := ⟨by decide +kernel, by decide +kernel, by decide +kernel⟩
/-! jdk/internal/util/Preconditions.checkIndex(IILjava/util/function/BiFunction;)I -/
abbrev y_Preconditions_checkIndex : MethodName := ⟨"jdk/internal/util/Preconditions", "checkIndex", "(IILjava/util/function/BiFunction;)I"⟩
abbrev k_Preconditions_checkIndex : g_M := (prog_56_method_11_code, 3, "jdk/internal/util/Preconditions", 12, (some FieldType.int), "checkIndex", [], 0)
theorem d_Preconditions_checkIndex_0 : decode prog_56_method_11_code 0 = .ok (.iload_n 0, 1) := by decide +kernel
theorem d_Preconditions_checkIndex_1 : decode prog_56_method_11_code 1 = .ok (.ifCond .lt 8, 3) := by decide +kernel
theorem d_Preconditions_checkIndex_4 : decode prog_56_method_11_code 4 = .ok (.iload_n 0, 1) := by decide +kernel
theorem d_Preconditions_checkIndex_5 : decode prog_56_method_11_code 5 = .ok (.iload_n 1, 1) := by decide +kernel
theorem d_Preconditions_checkIndex_6 : decode prog_56_method_11_code 6 = .ok (.if_icmp .lt 10, 3) := by decide +kernel
theorem d_Preconditions_checkIndex_16 : decode prog_56_method_11_code 16 = .ok (.iload_n 0, 1) := by decide +kernel
theorem d_Preconditions_checkIndex_17 : decode prog_56_method_11_code 17 = .ok (.ireturn, 1) := by decide +kernel
def Preconditions_checkIndex (p0 : Int32) (p1 : Int32) (p2 : Option Nat) : Option (Int32) :=
  if p0 < 0 then (none) else (if p0 < p1 then (some p0) else (none))
set_option maxHeartbeats 4000000 in
set_option maxRecDepth 100000 in
theorem T_Preconditions_checkIndex {l : Launch} {B : g_B} {h : g_AH} (p0 : Int32) (p1 : Int32) (p2 : Option Nat) (z : Int32) (hy : Preconditions_checkIndex p0 p1 p2 = some z) : g_CT l B y_Preconditions_checkIndex k_Preconditions_checkIndex [.int p0, .int p1, va_rf p2] h (.inl (some (.int z))) h := by
  refine g_start2 (Lc := [(0, .int p0), (1, .int p1), (2, va_rf p2)]) (by decide) rfl rfl (by rcases p2 with _ | p2 <;> exact Nat.le_of_ble_eq_true rfl) (by rcases p2 with _ | p2 <;> rfl) fun X => ?_
  unfold Preconditions_checkIndex at hy
  refine g_iload_n 0 (i := 0) (pc' := 1) d_Preconditions_checkIndex_0 rfl rfl rfl ?_
  by_cases c1 : p0 < 0
  · rw [if_pos c1] at hy
    refine g_if_ltT (pc' := 9) d_Preconditions_checkIndex_1 c1 (by decide) ?_
    cases hy
  · rw [if_neg c1] at hy
    refine g_if_ltF (pc' := 4) d_Preconditions_checkIndex_1 9 c1 (by decide) rfl ?_
    refine g_iload_n 0 (i := 0) (pc' := 5) d_Preconditions_checkIndex_4 rfl rfl rfl ?_
    refine g_iload_n 1 (i := 1) (pc' := 6) d_Preconditions_checkIndex_5 rfl rfl rfl ?_
    by_cases c2 : p0 < p1
    · rw [if_pos c2] at hy
      refine g_icmp_ltT (pc' := 16) d_Preconditions_checkIndex_6 c2 (by decide) ?_
      refine g_iload_n 0 (i := 0) (pc' := 17) d_Preconditions_checkIndex_16 rfl rfl rfl ?_
      cases hy
      exact g_iret rfl rfl rfl d_Preconditions_checkIndex_17
    · rw [if_neg c2] at hy
      refine g_icmp_ltF (pc' := 9) d_Preconditions_checkIndex_6 16 c2 (by decide) rfl ?_
      cases hy
theorem hd_Preconditions_checkIndex : g_dsc y_Preconditions_checkIndex 3 := ⟨by decide +kernel, by decide +kernel, by decide +kernel⟩
/-! java/util/Objects.checkIndex(II)I -/
abbrev y_Objects_checkIndex : MethodName := ⟨"java/util/Objects", "checkIndex", "(II)I"⟩
abbrev k_Objects_checkIndex : g_M := (prog_51_method_17_code, 2, "java/util/Objects", 13, (some FieldType.int), "checkIndex", [], 0)
theorem d_Objects_checkIndex_0 : decode prog_51_method_17_code 0 = .ok (.iload_n 0, 1) := by decide +kernel
theorem d_Objects_checkIndex_1 : decode prog_51_method_17_code 1 = .ok (.iload_n 1, 1) := by decide +kernel
theorem d_Objects_checkIndex_2 : decode prog_51_method_17_code 2 = .ok (.aconst_null, 1) := by decide +kernel
theorem d_Objects_checkIndex_3 : decode prog_51_method_17_code 3 = .ok (.invokestatic 105, 3) := by decide +kernel
theorem d_Objects_checkIndex_6 : decode prog_51_method_17_code 6 = .ok (.ireturn, 1) := by decide +kernel
def Objects_checkIndex (p0 : Int32) (p1 : Int32) : Option (Int32) :=
  g_b (Preconditions_checkIndex p0 p1 none) fun x1 => some x1
set_option maxHeartbeats 4000000 in
set_option maxRecDepth 100000 in
theorem T_Objects_checkIndex {l : Launch} {B : g_B} {h : g_AH} (p0 : Int32) (p1 : Int32) (z : Int32) (hy : Objects_checkIndex p0 p1 = some z) : g_CT l B y_Objects_checkIndex k_Objects_checkIndex [.int p0, .int p1] h (.inl (some (.int z))) h := by
  refine g_start2 (Lc := [(0, .int p0), (1, .int p1)]) (by decide) rfl rfl (by exact Nat.le_of_ble_eq_true rfl) (by rfl) fun X => ?_
  unfold Objects_checkIndex at hy
  refine g_iload_n 0 (i := 0) (pc' := 1) d_Objects_checkIndex_0 rfl rfl rfl ?_
  refine g_iload_n 1 (i := 1) (pc' := 2) d_Objects_checkIndex_1 rfl rfl rfl ?_
  refine g_null (pc' := 3) d_Objects_checkIndex_2 rfl ?_
  replace hy := g_b_inv hy
  obtain ⟨x1, hf3, hy⟩ := hy
  refine g_callS (rv := some (.int x1)) (h1 := h) (pc' := 6) (As := [.int p0, .int p1, va_rf none]) (rest := []) 3 (T_Preconditions_checkIndex (hy := hf3)) d_Objects_checkIndex_3 q689 q690 q125 q691 hd_Preconditions_checkIndex rfl ⟨by decide, by decide⟩ (by first | exact Nat.le_of_ble_eq_true rfl | (simp only [List.map, List.sum_cons, List.sum_nil, g_cat_rf]; exact Nat.le_of_ble_eq_true rfl) | (simp only [List.map, List.sum_cons, List.sum_nil, g_cat_rf, Value.category]; decide)) rfl ?_
  cases hy
  exact g_iret rfl rfl rfl d_Objects_checkIndex_6
theorem hd_Objects_checkIndex : g_dsc y_Objects_checkIndex 2 := ⟨by decide +kernel, by decide +kernel, by decide +kernel⟩
/-! java/util/ArrayList.elementData(I)Ljava/lang/Object; -/
abbrev y_ArrayList_elementData : MethodName := ⟨"java/util/ArrayList", "elementData", "(I)Ljava/lang/Object;"⟩
abbrev k_ArrayList_elementData : g_M := (prog_45_method_18_code, 2, "java/util/ArrayList", 12, (some (FieldType.object "java/lang/Object")), "elementData", [], 0)
theorem d_ArrayList_elementData_0 : decode prog_45_method_18_code 0 = .ok (.aload_n 0, 1) := by decide +kernel
theorem d_ArrayList_elementData_1 : decode prog_45_method_18_code 1 = .ok (.getfield 9, 3) := by decide +kernel
theorem d_ArrayList_elementData_4 : decode prog_45_method_18_code 4 = .ok (.iload_n 1, 1) := by decide +kernel
theorem d_ArrayList_elementData_5 : decode prog_45_method_18_code 5 = .ok (.aaload, 1) := by decide +kernel
theorem d_ArrayList_elementData_6 : decode prog_45_method_18_code 6 = .ok (.areturn, 1) := by decide +kernel
def ArrayList_elementData (h : g_AH) (this : Nat) (p0 : Int32) : Option (Option Nat) :=
  g_gR h this 15 1 fun x2 => g_nn x2 fun a5 => g_aA h 5 a5 p0 fun x6 => some x6
set_option maxHeartbeats 4000000 in
set_option maxRecDepth 100000 in
theorem T_ArrayList_elementData {l : Launch} {B : g_B} (h : g_AH) (this : Nat) (p0 : Int32) (z : Option Nat) (hy : ArrayList_elementData h this p0 = some z) : g_CT l B y_ArrayList_elementData k_ArrayList_elementData [.ref this, .int p0] h (.inl (some (va_rf z))) h := by
  refine g_start2 (Lc := [(0, .ref this), (1, .int p0)]) (by decide) rfl rfl (by exact Nat.le_of_ble_eq_true rfl) (by rfl) fun X => ?_
  unfold ArrayList_elementData at hy
  refine g_aload_n 0 (i := 0) (pc' := 1) d_ArrayList_elementData_0 rfl rfl rfl ?_
  replace hy := g_gR_inv hy
  obtain ⟨fs1, x2, hc3, hv4, hy⟩ := hy
  refine g_getf (pc' := 4) d_ArrayList_elementData_1 hc3 rfl (by decide) hv4 q495 (Or.inl rfl) rfl ?_
  refine g_iload_n 1 (i := 1) (pc' := 5) d_ArrayList_elementData_4 rfl rfl rfl ?_
  replace hy := g_nn_inv hy
  obtain ⟨a5, rfl, hy⟩ := hy
  replace hy := g_aA_inv hy
  obtain ⟨n7, f8, hc9, hi10, hy⟩ := hy
  refine g_aald (pc' := 6) d_ArrayList_elementData_5 hc9 (by decide) hi10 rfl ?_
  generalize f8 (p0).toNatClampNeg = x6 at hy ⊢
  cases hy
  exact g_aret rfl rfl rfl (Or.inl ⟨_, rfl⟩) d_ArrayList_elementData_6
theorem hd_ArrayList_elementData : g_dsc y_ArrayList_elementData 1 := ⟨by decide +kernel, by decide +kernel, by decide +kernel⟩
/-! java/util/ArrayList.get(I)Ljava/lang/Object; -/
abbrev y_ArrayList_get : MethodName := ⟨"java/util/ArrayList", "get", "(I)Ljava/lang/Object;"⟩
abbrev k_ArrayList_get : g_M := (prog_45_method_20_code, 2, "java/util/ArrayList", 14, (some (FieldType.object "java/lang/Object")), "get", [], 0)
theorem d_ArrayList_get_0 : decode prog_45_method_20_code 0 = .ok (.iload_n 1, 1) := by decide +kernel
theorem d_ArrayList_get_1 : decode prog_45_method_20_code 1 = .ok (.aload_n 0, 1) := by decide +kernel
theorem d_ArrayList_get_2 : decode prog_45_method_20_code 2 = .ok (.getfield 48, 3) := by decide +kernel
theorem d_ArrayList_get_5 : decode prog_45_method_20_code 5 = .ok (.invokestatic 118, 3) := by decide +kernel
theorem d_ArrayList_get_8 : decode prog_45_method_20_code 8 = .ok (.pop, 1) := by decide +kernel
theorem d_ArrayList_get_9 : decode prog_45_method_20_code 9 = .ok (.aload_n 0, 1) := by decide +kernel
theorem d_ArrayList_get_10 : decode prog_45_method_20_code 10 = .ok (.iload_n 1, 1) := by decide +kernel
theorem d_ArrayList_get_11 : decode prog_45_method_20_code 11 = .ok (.invokevirtual 123, 3) := by decide +kernel
theorem d_ArrayList_get_14 : decode prog_45_method_20_code 14 = .ok (.areturn, 1) := by decide +kernel
def ArrayList_get (h : g_AH) (this : Nat) (p0 : Int32) : Option (Option Nat) :=
  g_gI h this 15 2 fun x2 => g_b (Objects_checkIndex p0 x2) fun x5 => g_is h this 15 <| g_b (ArrayList_elementData h this p0) fun x10 => some x10
set_option maxHeartbeats 4000000 in
set_option maxRecDepth 100000 in
theorem T_ArrayList_get {l : Launch} {B : g_B} (h : g_AH) (this : Nat) (p0 : Int32) (z : Option Nat) (hy : ArrayList_get h this p0 = some z) : g_CT l B y_ArrayList_get k_ArrayList_get [.ref this, .int p0] h (.inl (some (va_rf z))) h := by
  refine g_start2 (Lc := [(0, .ref this), (1, .int p0)]) (by decide) rfl rfl (by exact Nat.le_of_ble_eq_true rfl) (by rfl) fun X => ?_
  unfold ArrayList_get at hy
  refine g_iload_n 1 (i := 1) (pc' := 1) d_ArrayList_get_0 rfl rfl rfl ?_
  refine g_aload_n 0 (i := 0) (pc' := 2) d_ArrayList_get_1 rfl rfl rfl ?_
  replace hy := g_gI_inv hy
  obtain ⟨fs1, x2, hc3, hv4, hy⟩ := hy
  refine g_getf (pc' := 5) d_ArrayList_get_2 hc3 rfl (by decide) hv4 q498 (Or.inl rfl) rfl ?_
  replace hy := g_b_inv hy
  obtain ⟨x5, hf7, hy⟩ := hy
  refine g_callS (rv := some (.int x5)) (h1 := h) (pc' := 8) (As := [.int p0, .int x2]) (rest := []) 2 (T_Objects_checkIndex (hy := hf7)) d_ArrayList_get_5 q686 q687 q140 q688 hd_Objects_checkIndex rfl ⟨by decide, by decide⟩ (by first | exact Nat.le_of_ble_eq_true rfl | (simp only [List.map, List.sum_cons, List.sum_nil, g_cat_rf]; exact Nat.le_of_ble_eq_true rfl) | (simp only [List.map, List.sum_cons, List.sum_nil, g_cat_rf, Value.category]; decide)) rfl ?_
  refine g_pop (pc' := 9) d_ArrayList_get_8 rfl rfl ?_
  refine g_aload_n 0 (i := 0) (pc' := 10) d_ArrayList_get_9 rfl rfl rfl ?_
  refine g_iload_n 1 (i := 1) (pc' := 11) d_ArrayList_get_10 rfl rfl rfl ?_
  replace hy := g_is_inv hy
  obtain ⟨fs8, hc9, hy⟩ := hy
  replace hy := g_b_inv hy
  obtain ⟨x10, hf12, hy⟩ := hy
  refine g_callV (rv := some (va_rf x10)) (h1 := h) (pc' := 14) (As := [.int p0]) (rest := []) 1 (T_ArrayList_elementData (hy := hf12)) d_ArrayList_get_11 hc9 rfl rfl q692 q693 q694 q112 q695 hd_ArrayList_elementData rfl ⟨by decide, by decide⟩ (by first | exact Nat.le_of_ble_eq_true rfl | (simp only [List.map, List.sum_cons, List.sum_nil, g_cat_rf]; exact Nat.le_of_ble_eq_true rfl) | (simp only [List.map, List.sum_cons, List.sum_nil, g_cat_rf, Value.category]; decide)) rfl ?_
  cases hy
  exact g_aret rfl rfl rfl (Or.inl ⟨_, rfl⟩) d_ArrayList_get_14
theorem hd_ArrayList_get : g_dsc y_ArrayList_get 1 := ⟨by decide +kernel, by decide +kernel, by decide +kernel⟩
/-! java/util/ArrayList.fastRemove([Ljava/lang/Object;I)V -/
abbrev y_ArrayList_fastRemove : MethodName := ⟨"java/util/ArrayList", "fastRemove", "([Ljava/lang/Object;I)V"⟩
abbrev k_ArrayList_fastRemove : g_M := (prog_45_method_39_code, 4, "java/util/ArrayList", 13, none, "fastRemove", [], 0)
theorem d_ArrayList_fastRemove_0 : decode prog_45_method_39_code 0 = .ok (.aload_n 0, 1) := by decide +kernel
theorem d_ArrayList_fastRemove_1 : decode prog_45_method_39_code 1 = .ok (.dup, 1) := by decide +kernel
theorem d_ArrayList_fastRemove_2 : decode prog_45_method_39_code 2 = .ok (.getfield 63, 3) := by decide +kernel
theorem d_ArrayList_fastRemove_5 : decode prog_45_method_39_code 5 = .ok (.iconst 1, 1) := by decide +kernel
theorem d_ArrayList_fastRemove_6 : decode prog_45_method_39_code 6 = .ok (.iadd, 1) := by decide +kernel
theorem d_ArrayList_fastRemove_7 : decode prog_45_method_39_code 7 = .ok (.putfield 63, 3) := by decide +kernel
theorem d_ArrayList_fastRemove_10 : decode prog_45_method_39_code 10 = .ok (.aload_n 0, 1) := by decide +kernel
theorem d_ArrayList_fastRemove_11 : decode prog_45_method_39_code 11 = .ok (.getfield 48, 3) := by decide +kernel
theorem d_ArrayList_fastRemove_14 : decode prog_45_method_39_code 14 = .ok (.iconst 1, 1) := by decide +kernel
theorem d_ArrayList_fastRemove_15 : decode prog_45_method_39_code 15 = .ok (.isub, 1) := by decide +kernel
theorem d_ArrayList_fastRemove_16 : decode prog_45_method_39_code 16 = .ok (.dup, 1) := by decide +kernel
theorem d_ArrayList_fastRemove_17 : decode prog_45_method_39_code 17 = .ok (.istore_n 3, 1) := by decide +kernel
theorem d_ArrayList_fastRemove_18 : decode prog_45_method_39_code 18 = .ok (.iload_n 2, 1) := by decide +kernel
theorem d_ArrayList_fastRemove_19 : decode prog_45_method_39_code 19 = .ok (.if_icmp .le 15, 3) := by decide +kernel
theorem d_ArrayList_fastRemove_22 : decode prog_45_method_39_code 22 = .ok (.aload_n 1, 1) := by decide +kernel
theorem d_ArrayList_fastRemove_23 : decode prog_45_method_39_code 23 = .ok (.iload_n 2, 1) := by decide +kernel
theorem d_ArrayList_fastRemove_24 : decode prog_45_method_39_code 24 = .ok (.iconst 1, 1) := by decide +kernel
theorem d_ArrayList_fastRemove_25 : decode prog_45_method_39_code 25 = .ok (.iadd, 1) := by decide +kernel
theorem d_ArrayList_fastRemove_26 : decode prog_45_method_39_code 26 = .ok (.aload_n 1, 1) := by decide +kernel
theorem d_ArrayList_fastRemove_27 : decode prog_45_method_39_code 27 = .ok (.iload_n 2, 1) := by decide +kernel
theorem d_ArrayList_fastRemove_28 : decode prog_45_method_39_code 28 = .ok (.iload_n 3, 1) := by decide +kernel
theorem d_ArrayList_fastRemove_29 : decode prog_45_method_39_code 29 = .ok (.iload_n 2, 1) := by decide +kernel
theorem d_ArrayList_fastRemove_30 : decode prog_45_method_39_code 30 = .ok (.isub, 1) := by decide +kernel
theorem d_ArrayList_fastRemove_31 : decode prog_45_method_39_code 31 = .ok (.invokestatic 112, 3) := by decide +kernel
theorem d_ArrayList_fastRemove_34 : decode prog_45_method_39_code 34 = .ok (.aload_n 1, 1) := by decide +kernel
theorem d_ArrayList_fastRemove_35 : decode prog_45_method_39_code 35 = .ok (.aload_n 0, 1) := by decide +kernel
theorem d_ArrayList_fastRemove_36 : decode prog_45_method_39_code 36 = .ok (.iload_n 3, 1) := by decide +kernel
theorem d_ArrayList_fastRemove_37 : decode prog_45_method_39_code 37 = .ok (.dup_x1, 1) := by decide +kernel
theorem d_ArrayList_fastRemove_38 : decode prog_45_method_39_code 38 = .ok (.putfield 48, 3) := by decide +kernel
theorem d_ArrayList_fastRemove_41 : decode prog_45_method_39_code 41 = .ok (.aconst_null, 1) := by decide +kernel
theorem d_ArrayList_fastRemove_42 : decode prog_45_method_39_code 42 = .ok (.aastore, 1) := by decide +kernel
theorem d_ArrayList_fastRemove_43 : decode prog_45_method_39_code 43 = .ok (.return_, 1) := by decide +kernel
def ArrayList_fastRemove_34 (h : g_AH) (v0 : Nat) (v1 : Option Nat) (v3 : Int32) : Option g_AH :=
  g_pF h v0 15 2 (.int v3) fun h17 => g_nn v1 fun a18 => g_sA h17 5 a18 v3 none fun h24 => some h24
set_option maxHeartbeats 4000000 in
set_option maxRecDepth 100000 in
theorem W_ArrayList_fastRemove_34 {X : g_X} (z : g_AH) (h : g_AH) (v0 : Nat) (v1 : Option Nat) (v3 : Int32) (hy : ArrayList_fastRemove_34  h v0 v1 v3 = some z) : G X k_ArrayList_fastRemove (.inl none) z h 34 [(0, .ref v0), (1, va_rf v1), (3, .int v3)] [] := by
  unfold ArrayList_fastRemove_34 at hy
  refine g_aloadO_n 1 (i := 1) (pc' := 35) d_ArrayList_fastRemove_34 rfl rfl rfl ?_
  refine g_aload_n 0 (i := 0) (pc' := 36) d_ArrayList_fastRemove_35 rfl rfl rfl ?_
  refine g_iload_n 2 (i := 3) (pc' := 37) d_ArrayList_fastRemove_36 rfl rfl rfl ?_
  refine g_dup_x1 (pc' := 38) d_ArrayList_fastRemove_37 rfl rfl rfl ?_
  replace hy := g_pF_inv hy
  obtain ⟨fs14, hc15, hl16, hy⟩ := hy
  refine g_putf (pc' := 41) d_ArrayList_fastRemove_38 hc15 rfl (by decide) hl16 rfl rfl rfl q498 (Or.inl rfl) rfl ?_
  generalize g_up h v0 (.inr (15, fs14.set 2 (.int v3))) = h17 at hy ⊢
  refine g_null (pc' := 42) d_ArrayList_fastRemove_41 rfl ?_
  replace hy := g_nn_inv hy
  obtain ⟨a18, rfl, hy⟩ := hy
  replace hy := g_sA_inv hy
  obtain ⟨n19, f20, hc21, hi22, ho23, hy⟩ := hy
  refine g_aast (pc' := 43) d_ArrayList_fastRemove_42 hc21 (by decide) hi22 ho23 rfl ?_
  generalize g_up h17 a18 (.inl (5, n19, .inr (.inr (.inr (.inr (va_up f20 (v3).toNatClampNeg none)))))) = h24 at hy ⊢
  cases hy
  exact g_vret rfl rfl rfl d_ArrayList_fastRemove_43
def ArrayList_fastRemove (h : g_AH) (this : Nat) (p0 : Option Nat) (p1 : Int32) : Option g_AH :=
  g_gI h this 15 0 fun x2 => g_pF h this 15 0 (.int (x2 + (1 : Int32))) fun h8 => g_gI h8 this 15 2 fun x10 => if (x10 - (1 : Int32)) ≤ p1 then (ArrayList_fastRemove_34  h8 this p0 (x10 - (1 : Int32))) else (g_nn p0 fun a25 => g_cpQ h8 a25 (p1 + (1 : Int32)) a25 p1 ((x10 - (1 : Int32)) - p1) fun h34 => ArrayList_fastRemove_34  h34 this (some a25) (x10 - (1 : Int32)))
set_option maxHeartbeats 4000000 in
set_option maxRecDepth 100000 in
theorem T_ArrayList_fastRemove {l : Launch} {B : g_B} (h : g_AH) (this : Nat) (p0 : Option Nat) (p1 : Int32) (z : g_AH) (hy : ArrayList_fastRemove h this p0 p1 = some z) : g_CT l B y_ArrayList_fastRemove k_ArrayList_fastRemove [.ref this, va_rf p0, .int p1] h (.inl none) z := by
  refine g_start2 (Lc := [(0, .ref this), (1, va_rf p0), (2, .int p1)]) (by decide) rfl rfl (by rcases p0 with _ | p0 <;> exact Nat.le_of_ble_eq_true rfl) (by rcases p0 with _ | p0 <;> rfl) fun X => ?_
  unfold ArrayList_fastRemove at hy
  refine g_aload_n 0 (i := 0) (pc' := 1) d_ArrayList_fastRemove_0 rfl rfl rfl ?_
  refine g_dup (pc' := 2) d_ArrayList_fastRemove_1 rfl rfl ?_
  replace hy := g_gI_inv hy
  obtain ⟨fs1, x2, hc3, hv4, hy⟩ := hy
  refine g_getf (pc' := 5) d_ArrayList_fastRemove_2 hc3 rfl (by decide) hv4 q502 (Or.inr q501) rfl ?_
  refine g_iconst (v := (1 : Int32)) (pc' := 6) d_ArrayList_fastRemove_5 (by decide) rfl ?_
  refine g_iadd (pc' := 7) d_ArrayList_fastRemove_6 rfl ?_
  replace hy := g_pF_inv hy
  obtain ⟨fs5, hc6, hl7, hy⟩ := hy
  refine g_putf (pc' := 10) d_ArrayList_fastRemove_7 hc6 rfl (by decide) hl7 rfl rfl rfl q502 (Or.inr q501) rfl ?_
  generalize g_up h this (.inr (15, fs5.set 0 (.int (x2 + (1 : Int32))))) = h8 at hy ⊢
  refine g_aload_n 0 (i := 0) (pc' := 11) d_ArrayList_fastRemove_10 rfl rfl rfl ?_
  replace hy := g_gI_inv hy
  obtain ⟨fs9, x10, hc11, hv12, hy⟩ := hy
  refine g_getf (pc' := 14) d_ArrayList_fastRemove_11 hc11 rfl (by decide) hv12 q498 (Or.inl rfl) rfl ?_
  refine g_iconst (v := (1 : Int32)) (pc' := 15) d_ArrayList_fastRemove_14 (by decide) rfl ?_
  refine g_isub (pc' := 16) d_ArrayList_fastRemove_15 rfl ?_
  refine g_dup (pc' := 17) d_ArrayList_fastRemove_16 rfl rfl ?_
  refine g_istore_n (i := 3) (pc' := 18) (Lc' := [(3, .int (x10 - (1 : Int32))), (0, .ref this), (1, va_rf p0), (2, .int p1)]) d_ArrayList_fastRemove_17 rfl (by decide) rfl rfl ?_
  refine g_iload_n 3 (i := 2) (pc' := 19) d_ArrayList_fastRemove_18 rfl rfl rfl ?_
  by_cases c13 : (x10 - (1 : Int32)) ≤ p1
  · rw [if_pos c13] at hy
    refine g_icmp_leT (pc' := 34) d_ArrayList_fastRemove_19 c13 (by decide) ?_
    refine g_sub [1, 2, 0] rfl ?_
    exact W_ArrayList_fastRemove_34 _ _ _ _ _ hy
  · rw [if_neg c13] at hy
    refine g_icmp_leF (pc' := 22) d_ArrayList_fastRemove_19 34 c13 (by decide) rfl ?_
    refine g_aloadO_n 2 (i := 1) (pc' := 23) d_ArrayList_fastRemove_22 rfl rfl rfl ?_
    refine g_iload_n 3 (i := 2) (pc' := 24) d_ArrayList_fastRemove_23 rfl rfl rfl ?_
    refine g_iconst (v := (1 : Int32)) (pc' := 25) d_ArrayList_fastRemove_24 (by decide) rfl ?_
    refine g_iadd (pc' := 26) d_ArrayList_fastRemove_25 rfl ?_
    refine g_aloadO_n 2 (i := 1) (pc' := 27) d_ArrayList_fastRemove_26 rfl rfl rfl ?_
    refine g_iload_n 3 (i := 2) (pc' := 28) d_ArrayList_fastRemove_27 rfl rfl rfl ?_
    refine g_iload_n 0 (i := 3) (pc' := 29) d_ArrayList_fastRemove_28 rfl rfl rfl ?_
    refine g_iload_n 3 (i := 2) (pc' := 30) d_ArrayList_fastRemove_29 rfl rfl rfl ?_
    refine g_isub (pc' := 31) d_ArrayList_fastRemove_30 rfl ?_
    replace hy := g_nn_inv hy
    obtain ⟨a25, rfl, hy⟩ := hy
    replace hy := g_cpQ_inv hy
    obtain ⟨n26, f27, n28, g29, hc30, hc31, hr32, hf33, hy⟩ := hy
    refine g_copyQ (pc' := 34) d_ArrayList_fastRemove_31 q1429 hc30 hc31 hr32 hf33 (by first | exact Nat.le_of_ble_eq_true rfl | (simp only [List.map, List.sum_cons, List.sum_nil, g_cat_rf]; exact Nat.le_of_ble_eq_true rfl) | (simp only [List.map, List.sum_cons, List.sum_nil, g_cat_rf, Value.category]; decide)) (by decide) rfl ?_
    generalize g_up h8 a25 (.inl (5, n28, .inr (.inr (.inr (.inr (va_cpy f27 g29 ((p1 + (1 : Int32))).toNatClampNeg (p1).toNatClampNeg (((x10 - (1 : Int32)) - p1)).toNatClampNeg)))))) = h34 at hy ⊢
    refine g_sub [1, 2, 0] rfl ?_
    exact W_ArrayList_fastRemove_34 _ _ _ _ _ hy
theorem hd_ArrayList_fastRemove : g_dsc y_ArrayList_fastRemove 2 := ⟨by decide +kernel, by decide +kernel, by decide +kernel⟩
/-! java/util/ArrayList.remove(I)Ljava/lang/Object; -/
abbrev y_ArrayList_remove : MethodName := ⟨"java/util/ArrayList", "remove", "(I)Ljava/lang/Object;"⟩
abbrev k_ArrayList_remove : g_M := (prog_45_method_29_code, 4, "java/util/ArrayList", 14, (some (FieldType.object "java/lang/Object")), "remove", [], 0)
theorem d_ArrayList_remove_0 : decode prog_45_method_29_code 0 = .ok (.iload_n 1, 1) := by decide +kernel
theorem d_ArrayList_remove_1 : decode prog_45_method_29_code 1 = .ok (.aload_n 0, 1) := by decide +kernel
theorem d_ArrayList_remove_2 : decode prog_45_method_29_code 2 = .ok (.getfield 48, 3) := by decide +kernel
theorem d_ArrayList_remove_5 : decode prog_45_method_29_code 5 = .ok (.invokestatic 118, 3) := by decide +kernel
theorem d_ArrayList_remove_8 : decode prog_45_method_29_code 8 = .ok (.pop, 1) := by decide +kernel
theorem d_ArrayList_remove_9 : decode prog_45_method_29_code 9 = .ok (.aload_n 0, 1) := by decide +kernel
theorem d_ArrayList_remove_10 : decode prog_45_method_29_code 10 = .ok (.getfield 9, 3) := by decide +kernel
theorem d_ArrayList_remove_13 : decode prog_45_method_29_code 13 = .ok (.astore_n 2, 1) := by decide +kernel
theorem d_ArrayList_remove_14 : decode prog_45_method_29_code 14 = .ok (.aload_n 2, 1) := by decide +kernel
theorem d_ArrayList_remove_15 : decode prog_45_method_29_code 15 = .ok (.iload_n 1, 1) := by decide +kernel
theorem d_ArrayList_remove_16 : decode prog_45_method_29_code 16 = .ok (.aaload, 1) := by decide +kernel
theorem d_ArrayList_remove_17 : decode prog_45_method_29_code 17 = .ok (.astore_n 3, 1) := by decide +kernel
theorem d_ArrayList_remove_18 : decode prog_45_method_29_code 18 = .ok (.aload_n 0, 1) := by decide +kernel
theorem d_ArrayList_remove_19 : decode prog_45_method_29_code 19 = .ok (.aload_n 2, 1) := by decide +kernel
theorem d_ArrayList_remove_20 : decode prog_45_method_29_code 20 = .ok (.iload_n 1, 1) := by decide +kernel
theorem d_ArrayList_remove_21 : decode prog_45_method_29_code 21 = .ok (.invokevirtual 144, 3) := by decide +kernel
theorem d_ArrayList_remove_24 : decode prog_45_method_29_code 24 = .ok (.aload_n 3, 1) := by decide +kernel
theorem d_ArrayList_remove_25 : decode prog_45_method_29_code 25 = .ok (.areturn, 1) := by decide +kernel
def ArrayList_remove (h : g_AH) (this : Nat) (p0 : Int32) : Option (Option Nat × g_AH) :=
  g_gI h this 15 2 fun x2 => g_b (Objects_checkIndex p0 x2) fun x5 => g_gR h this 15 1 fun x9 => g_nn x9 fun a12 => g_aA h 5 a12 p0 fun x13 => g_is h this 15 <| g_b (ArrayList_fastRemove h this (some a12) p0) fun h21 => some (x13, h21)
set_option maxHeartbeats 4000000 in
set_option maxRecDepth 100000 in
theorem T_ArrayList_remove {l : Launch} {B : g_B} (h : g_AH) (this : Nat) (p0 : Int32) (z : Option Nat × g_AH) (hy : ArrayList_remove h this p0 = some z) : g_CT l B y_ArrayList_remove k_ArrayList_remove [.ref this, .int p0] h (.inl (some (va_rf z.1))) z.2 := by
  refine g_start2 (Lc := [(0, .ref this), (1, .int p0)]) (by decide) rfl rfl (by exact Nat.le_of_ble_eq_true rfl) (by rfl) fun X => ?_
  unfold ArrayList_remove at hy
  refine g_iload_n 1 (i := 1) (pc' := 1) d_ArrayList_remove_0 rfl rfl rfl ?_
  refine g_aload_n 0 (i := 0) (pc' := 2) d_ArrayList_remove_1 rfl rfl rfl ?_
  replace hy := g_gI_inv hy
  obtain ⟨fs1, x2, hc3, hv4, hy⟩ := hy
  refine g_getf (pc' := 5) d_ArrayList_remove_2 hc3 rfl (by decide) hv4 q498 (Or.inl rfl) rfl ?_
  replace hy := g_b_inv hy
  obtain ⟨x5, hf7, hy⟩ := hy
  refine g_callS (rv := some (.int x5)) (h1 := h) (pc' := 8) (As := [.int p0, .int x2]) (rest := []) 2 (T_Objects_checkIndex (hy := hf7)) d_ArrayList_remove_5 q686 q687 q140 q688 hd_Objects_checkIndex rfl ⟨by decide, by decide⟩ (by first | exact Nat.le_of_ble_eq_true rfl | (simp only [List.map, List.sum_cons, List.sum_nil, g_cat_rf]; exact Nat.le_of_ble_eq_true rfl) | (simp only [List.map, List.sum_cons, List.sum_nil, g_cat_rf, Value.category]; decide)) rfl ?_
  refine g_pop (pc' := 9) d_ArrayList_remove_8 rfl rfl ?_
  refine g_aload_n 0 (i := 0) (pc' := 10) d_ArrayList_remove_9 rfl rfl rfl ?_
  replace hy := g_gR_inv hy
  obtain ⟨fs8, x9, hc10, hv11, hy⟩ := hy
  refine g_getf (pc' := 13) d_ArrayList_remove_10 hc10 rfl (by decide) hv11 q495 (Or.inl rfl) rfl ?_
  refine g_astoreO_n (i := 2) (pc' := 14) (Lc' := [(2, va_rf x9), (0, .ref this), (1, .int p0)]) d_ArrayList_remove_13 rfl (by decide) rfl rfl ?_
  refine g_aloadO_n 0 (i := 2) (pc' := 15) d_ArrayList_remove_14 rfl rfl rfl ?_
  refine g_iload_n 2 (i := 1) (pc' := 16) d_ArrayList_remove_15 rfl rfl rfl ?_
  replace hy := g_nn_inv hy
  obtain ⟨a12, rfl, hy⟩ := hy
  replace hy := g_aA_inv hy
  obtain ⟨n14, f15, hc16, hi17, hy⟩ := hy
  refine g_aald (pc' := 17) d_ArrayList_remove_16 hc16 (by decide) hi17 rfl ?_
  generalize f15 (p0).toNatClampNeg = x13 at hy ⊢
  refine g_astoreO_n (i := 3) (pc' := 18) (Lc' := [(3, va_rf x13), (2, .ref a12), (0, .ref this), (1, .int p0)]) d_ArrayList_remove_17 rfl (by decide) rfl rfl ?_
  refine g_aload_n 2 (i := 0) (pc' := 19) d_ArrayList_remove_18 rfl rfl rfl ?_
  refine g_aload_n 1 (i := 2) (pc' := 20) d_ArrayList_remove_19 rfl rfl rfl ?_
  refine g_iload_n 3 (i := 1) (pc' := 21) d_ArrayList_remove_20 rfl rfl rfl ?_
  replace hy := g_is_inv hy
  obtain ⟨fs18, hc19, hy⟩ := hy
  replace hy := g_b_inv hy
  obtain ⟨h21, hf22, hy⟩ := hy
  refine g_callV (rv := none) (h1 := h21) (pc' := 24) (As := [va_rf (some a12), .int p0]) (rest := []) 2 (T_ArrayList_fastRemove (hy := hf22)) d_ArrayList_remove_21 hc19 rfl rfl q1425 q1427 qs17 q112 q1428 hd_ArrayList_fastRemove rfl ⟨by decide, by decide⟩ (by first | exact Nat.le_of_ble_eq_true rfl | (simp only [List.map, List.sum_cons, List.sum_nil, g_cat_rf]; exact Nat.le_of_ble_eq_true rfl) | (simp only [List.map, List.sum_cons, List.sum_nil, g_cat_rf, Value.category]; decide)) rfl ?_
  refine g_aloadO_n 0 (i := 3) (pc' := 25) d_ArrayList_remove_24 rfl rfl rfl ?_
  cases hy
  exact g_aret rfl rfl rfl (Or.inl ⟨_, rfl⟩) d_ArrayList_remove_25
theorem hd_ArrayList_remove : g_dsc y_ArrayList_remove 1 := ⟨by decide +kernel, by decide +kernel, by decide +kernel⟩
/-! java/util/ArrayList$Itr.<init>(Ljava/util/ArrayList;)V -/
abbrev y_ArrayListItr_init : MethodName := ⟨"java/util/ArrayList$Itr", "<init>", "(Ljava/util/ArrayList;)V"⟩
abbrev k_ArrayListItr_init : g_M := (prog_46_method_1_code, 2, "java/util/ArrayList$Itr", 13, none, "<init>", [], 0)
theorem d_ArrayListItr_init_0 : decode prog_46_method_1_code 0 = .ok (.aload_n 0, 1) := by decide +kernel
theorem d_ArrayListItr_init_1 : decode prog_46_method_1_code 1 = .ok (.aload_n 1, 1) := by decide +kernel
theorem d_ArrayListItr_init_2 : decode prog_46_method_1_code 2 = .ok (.putfield 1, 3) := by decide +kernel
theorem d_ArrayListItr_init_5 : decode prog_46_method_1_code 5 = .ok (.aload_n 0, 1) := by decide +kernel
theorem d_ArrayListItr_init_6 : decode prog_46_method_1_code 6 = .ok (.invokespecial 7, 3) := by decide +kernel
theorem d_ArrayListItr_init_9 : decode prog_46_method_1_code 9 = .ok (.aload_n 0, 1) := by decide +kernel
theorem d_ArrayListItr_init_10 : decode prog_46_method_1_code 10 = .ok (.iconst (-1), 1) := by decide +kernel
theorem d_ArrayListItr_init_11 : decode prog_46_method_1_code 11 = .ok (.putfield 13, 3) := by decide +kernel
theorem d_ArrayListItr_init_14 : decode prog_46_method_1_code 14 = .ok (.aload_n 0, 1) := by decide +kernel
theorem d_ArrayListItr_init_15 : decode prog_46_method_1_code 15 = .ok (.aload_n 0, 1) := by decide +kernel
theorem d_ArrayListItr_init_16 : decode prog_46_method_1_code 16 = .ok (.getfield 1, 3) := by decide +kernel
theorem d_ArrayListItr_init_19 : decode prog_46_method_1_code 19 = .ok (.getfield 17, 3) := by decide +kernel
theorem d_ArrayListItr_init_22 : decode prog_46_method_1_code 22 = .ok (.putfield 22, 3) := by decide +kernel
theorem d_ArrayListItr_init_25 : decode prog_46_method_1_code 25 = .ok (.return_, 1) := by decide +kernel
def ArrayListItr_init (h : g_AH) (this : Nat) (p0 : Option Nat) : Option g_AH :=
  g_pF h this 16 3 (va_rf p0) fun h4 => g_pF h4 this 16 1 (.int (-1 : Int32)) fun h8 => g_gR h8 this 16 3 fun x10 => g_nn x10 fun a13 => g_gI h8 a13 15 0 fun x15 => g_pF h8 this 16 2 (.int x15) fun h21 => some h21
set_option maxHeartbeats 4000000 in
set_option maxRecDepth 100000 in
theorem T_ArrayListItr_init {l : Launch} {B : g_B} (h : g_AH) (this : Nat) (p0 : Option Nat) (z : g_AH) (hy : ArrayListItr_init h this p0 = some z) : g_CT l B y_ArrayListItr_init k_ArrayListItr_init [.ref this, va_rf p0] h (.inl none) z := by
  refine g_start2 (Lc := [(0, .ref this), (1, va_rf p0)]) (by decide) rfl rfl (by rcases p0 with _ | p0 <;> exact Nat.le_of_ble_eq_true rfl) (by rcases p0 with _ | p0 <;> rfl) fun X => ?_
  unfold ArrayListItr_init at hy
  refine g_aload_n 0 (i := 0) (pc' := 1) d_ArrayListItr_init_0 rfl rfl rfl ?_
  refine g_aloadO_n 1 (i := 1) (pc' := 2) d_ArrayListItr_init_1 rfl rfl rfl ?_
  replace hy := g_pF_inv hy
  obtain ⟨fs1, hc2, hl3, hy⟩ := hy
  refine g_putfF (pc' := 5) d_ArrayListItr_init_2 rfl hc2 rfl (by decide) hl3 rfl rfl g_nar_rf g_fit_o q1472 rfl rfl ?_
  generalize g_up h this (.inr (16, fs1.set 3 (va_rf p0))) = h4 at hy ⊢
  refine g_aload_n 0 (i := 0) (pc' := 6) d_ArrayListItr_init_5 rfl rfl rfl ?_
  refine g_objInit (pc' := 9) d_ArrayListItr_init_6 q1468 (by first | exact Nat.le_of_ble_eq_true rfl | (simp only [List.map, List.sum_cons, List.sum_nil, g_cat_rf]; exact Nat.le_of_ble_eq_true rfl) | (simp only [List.map, List.sum_cons, List.sum_nil, g_cat_rf, Value.category]; decide)) (by decide) rfl ?_
  refine g_aload_n 0 (i := 0) (pc' := 10) d_ArrayListItr_init_9 rfl rfl rfl ?_
  refine g_iconst (v := (-1 : Int32)) (pc' := 11) d_ArrayListItr_init_10 (by decide) rfl ?_
  replace hy := g_pF_inv hy
  obtain ⟨fs5, hc6, hl7, hy⟩ := hy
  refine g_putf (pc' := 14) d_ArrayListItr_init_11 hc6 rfl (by decide) hl7 rfl rfl rfl q1470 (Or.inl rfl) rfl ?_
  generalize g_up h4 this (.inr (16, fs5.set 1 (.int (-1 : Int32)))) = h8 at hy ⊢
  refine g_aload_n 0 (i := 0) (pc' := 15) d_ArrayListItr_init_14 rfl rfl rfl ?_
  refine g_aload_n 0 (i := 0) (pc' := 16) d_ArrayListItr_init_15 rfl rfl rfl ?_
  replace hy := g_gR_inv hy
  obtain ⟨fs9, x10, hc11, hv12, hy⟩ := hy
  refine g_getf (pc' := 19) d_ArrayListItr_init_16 hc11 rfl (by decide) hv12 q1472 (Or.inl rfl) rfl ?_
  replace hy := g_nn_inv hy
  obtain ⟨a13, rfl, hy⟩ := hy
  replace hy := g_gI_inv hy
  obtain ⟨fs14, x15, hc16, hv17, hy⟩ := hy
  refine g_getf (pc' := 22) d_ArrayListItr_init_19 hc16 rfl (by decide) hv17 q500 (Or.inr q501) rfl ?_
  replace hy := g_pF_inv hy
  obtain ⟨fs18, hc19, hl20, hy⟩ := hy
  refine g_putf (pc' := 25) d_ArrayListItr_init_22 hc19 rfl (by decide) hl20 rfl rfl rfl q1471 (Or.inl rfl) rfl ?_
  generalize g_up h8 this (.inr (16, fs18.set 2 (.int x15))) = h21 at hy ⊢
  cases hy
  exact g_vret rfl rfl rfl d_ArrayListItr_init_25
theorem hd_ArrayListItr_init : g_dsc y_ArrayListItr_init 1 := ⟨by decide +kernel, by decide +kernel, by decide +kernel⟩
/-! java/util/ArrayList.iterator()Ljava/util/Iterator; -/
abbrev y_ArrayList_iterator : MethodName := ⟨"java/util/ArrayList", "iterator", "()Ljava/util/Iterator;"⟩
abbrev k_ArrayList_iterator : g_M := (prog_45_method_55_code, 1, "java/util/ArrayList", 14, (some (FieldType.object "java/util/Iterator")), "iterator", [], 0)
theorem d_ArrayList_iterator_0 : decode prog_45_method_55_code 0 = .ok (.new 267, 3) := by decide +kernel
theorem d_ArrayList_iterator_3 : decode prog_45_method_55_code 3 = .ok (.dup, 1) := by decide +kernel
theorem d_ArrayList_iterator_4 : decode prog_45_method_55_code 4 = .ok (.aload_n 0, 1) := by decide +kernel
theorem d_ArrayList_iterator_5 : decode prog_45_method_55_code 5 = .ok (.invokespecial 269, 3) := by decide +kernel
theorem d_ArrayList_iterator_8 : decode prog_45_method_55_code 8 = .ok (.areturn, 1) := by decide +kernel
def ArrayList_iterator (h : g_AH) (this : Nat) : Option (Option Nat × g_AH) :=
  g_mk h (.inr (16, [.int 0, .int 0, .int 0, .null])) 4 fun a1 h2 => g_b (ArrayListItr_init h2 a1 (some this)) fun h4 => some ((some a1), h4)
set_option maxHeartbeats 4000000 in
set_option maxRecDepth 100000 in
theorem T_ArrayList_iterator {l : Launch} {B : g_B} (h : g_AH) (this : Nat) (z : Option Nat × g_AH) (hy : ArrayList_iterator h this = some z) : g_CT l B y_ArrayList_iterator k_ArrayList_iterator [.ref this] h (.inl (some (va_rf z.1))) z.2 := by
  refine g_start2 (Lc := [(0, .ref this)]) (by decide) rfl rfl (by exact Nat.le_of_ble_eq_true rfl) (by rfl) fun X => ?_
  unfold ArrayList_iterator at hy
  replace hy := g_mk_inv hy
  refine g_new (ci := 16) (fs := [.int 0, .int 0, .int 0, .null]) (pc' := 3) d_ArrayList_iterator_0 rfl q1463 q1464 q145 gdf_16 rfl ?_
  generalize g_al h (.inr (16, [.int 0, .int 0, .int 0, .null])) 4 = h2 at hy ⊢
  generalize g_n h = a1 at hy ⊢
  refine g_dup (pc' := 4) d_ArrayList_iterator_3 rfl rfl ?_
  refine g_aload_n 0 (i := 0) (pc' := 5) d_ArrayList_iterator_4 rfl rfl rfl ?_
  replace hy := g_b_inv hy
  obtain ⟨h4, hf5, hy⟩ := hy
  refine g_callI (h1 := h4) (pc' := 8) (As := [va_rf (some this)]) (rest := [.ref a1]) 1 (T_ArrayListItr_init (hy := hf5)) d_ArrayList_iterator_5 rfl rfl q1465 q1466 q145 q1467 hd_ArrayListItr_init rfl ⟨by decide, by decide⟩ (by first | exact Nat.le_of_ble_eq_true rfl | (simp only [List.map, List.sum_cons, List.sum_nil, g_cat_rf]; exact Nat.le_of_ble_eq_true rfl) | (simp only [List.map, List.sum_cons, List.sum_nil, g_cat_rf, Value.category]; decide)) rfl ?_
  cases hy
  refine g_stk (st' := [va_rf (some a1)]) rfl ?_
  exact g_aret rfl rfl rfl (Or.inl ⟨_, rfl⟩) d_ArrayList_iterator_8
theorem hd_ArrayList_iterator : g_dsc y_ArrayList_iterator 0 := ⟨by decide +kernel, by decide +kernel, by decide +kernel⟩
/-! java/util/ArrayList$Itr.hasNext()Z -/
abbrev y_ArrayListItr_hasNext : MethodName := ⟨"java/util/ArrayList$Itr", "hasNext", "()Z"⟩
abbrev k_ArrayListItr_hasNext : g_M := (prog_46_method_2_code, 1, "java/util/ArrayList$Itr", 12, (some FieldType.boolean), "hasNext", [], 0)
theorem d_ArrayListItr_hasNext_0 : decode prog_46_method_2_code 0 = .ok (.aload_n 0, 1) := by decide +kernel
theorem d_ArrayListItr_hasNext_1 : decode prog_46_method_2_code 1 = .ok (.getfield 25, 3) := by decide +kernel
theorem d_ArrayListItr_hasNext_4 : decode prog_46_method_2_code 4 = .ok (.aload_n 0, 1) := by decide +kernel
theorem d_ArrayListItr_hasNext_5 : decode prog_46_method_2_code 5 = .ok (.getfield 1, 3) := by decide +kernel
theorem d_ArrayListItr_hasNext_8 : decode prog_46_method_2_code 8 = .ok (.getfield 28, 3) := by decide +kernel
theorem d_ArrayListItr_hasNext_11 : decode prog_46_method_2_code 11 = .ok (.if_icmp .eq 7, 3) := by decide +kernel
theorem d_ArrayListItr_hasNext_14 : decode prog_46_method_2_code 14 = .ok (.iconst 1, 1) := by decide +kernel
theorem d_ArrayListItr_hasNext_15 : decode prog_46_method_2_code 15 = .ok (.goto 4, 3) := by decide +kernel
theorem d_ArrayListItr_hasNext_18 : decode prog_46_method_2_code 18 = .ok (.iconst 0, 1) := by decide +kernel
theorem d_ArrayListItr_hasNext_19 : decode prog_46_method_2_code 19 = .ok (.ireturn, 1) := by decide +kernel
def ArrayListItr_hasNext (h : g_AH) (this : Nat) : Option (Int32) :=
  g_gI h this 16 0 fun x2 => g_gR h this 16 3 fun x6 => g_nn x6 fun a9 => g_gI h a9 15 2 fun x11 => if x2 = x11 then (some (0 : Int32)) else (some (1 : Int32))
set_option maxHeartbeats 4000000 in
set_option maxRecDepth 100000 in
theorem T_ArrayListItr_hasNext {l : Launch} {B : g_B} (h : g_AH) (this : Nat) (z : Int32) (hy : ArrayListItr_hasNext h this = some z) : g_CT l B y_ArrayListItr_hasNext k_ArrayListItr_hasNext [.ref this] h (.inl (some (.int z))) h := by
  refine g_start2 (Lc := [(0, .ref this)]) (by decide) rfl rfl (by exact Nat.le_of_ble_eq_true rfl) (by rfl) fun X => ?_
  unfold ArrayListItr_hasNext at hy
  refine g_aload_n 0 (i := 0) (pc' := 1) d_ArrayListItr_hasNext_0 rfl rfl rfl ?_
  replace hy := g_gI_inv hy
  obtain ⟨fs1, x2, hc3, hv4, hy⟩ := hy
  refine g_getf (pc' := 4) d_ArrayListItr_hasNext_1 hc3 rfl (by decide) hv4 q1469 (Or.inl rfl) rfl ?_
  refine g_aload_n 0 (i := 0) (pc' := 5) d_ArrayListItr_hasNext_4 rfl rfl rfl ?_
  replace hy := g_gR_inv hy
  obtain ⟨fs5, x6, hc7, hv8, hy⟩ := hy
  refine g_getf (pc' := 8) d_ArrayListItr_hasNext_5 hc7 rfl (by decide) hv8 q1472 (Or.inl rfl) rfl ?_
  replace hy := g_nn_inv hy
  obtain ⟨a9, rfl, hy⟩ := hy
  replace hy := g_gI_inv hy
  obtain ⟨fs10, x11, hc12, hv13, hy⟩ := hy
  refine g_getfN (pc' := 11) d_ArrayListItr_hasNext_8 hc12 rfl (by decide) hv13 q497 rfl rfl ?_
  by_cases c14 : x2 = x11
  · rw [if_pos c14] at hy
    refine g_icmp_eqT (pc' := 18) d_ArrayListItr_hasNext_11 c14 (by decide) ?_
    refine g_iconst (v := (0 : Int32)) (pc' := 19) d_ArrayListItr_hasNext_18 (by decide) rfl ?_
    cases hy
    exact g_zret rfl rfl rfl (g_nar_z (Or.inl rfl)).1 d_ArrayListItr_hasNext_19
  · rw [if_neg c14] at hy
    refine g_icmp_eqF (pc' := 14) d_ArrayListItr_hasNext_11 18 c14 (by decide) rfl ?_
    refine g_iconst (v := (1 : Int32)) (pc' := 15) d_ArrayListItr_hasNext_14 (by decide) rfl ?_
    refine g_goto (pc' := 19) d_ArrayListItr_hasNext_15 (by decide) ?_
    cases hy
    exact g_zret rfl rfl rfl (g_nar_z (Or.inr rfl)).1 d_ArrayListItr_hasNext_19
theorem hd_ArrayListItr_hasNext : g_dsc y_ArrayListItr_hasNext 0 := ⟨by decide +kernel, by decide +kernel, by decide +kernel⟩
/-! java/util/ArrayList$Itr.checkForComodification()V -/
abbrev y_ArrayListItr_checkForComodification : MethodName := ⟨"java/util/ArrayList$Itr", "checkForComodification", "()V"⟩
abbrev k_ArrayListItr_checkForComodification : g_M := (prog_46_method_6_code, 1, "java/util/ArrayList$Itr", 12, none, "checkForComodification", [], 0)
theorem d_ArrayListItr_checkForComodification_0 : decode prog_46_method_6_code 0 = .ok (.aload_n 0, 1) := by decide +kernel
theorem d_ArrayListItr_checkForComodification_1 : decode prog_46_method_6_code 1 = .ok (.getfield 1, 3) := by decide +kernel
theorem d_ArrayListItr_checkForComodification_4 : decode prog_46_method_6_code 4 = .ok (.getfield 17, 3) := by decide +kernel
theorem d_ArrayListItr_checkForComodification_7 : decode prog_46_method_6_code 7 = .ok (.aload_n 0, 1) := by decide +kernel
theorem d_ArrayListItr_checkForComodification_8 : decode prog_46_method_6_code 8 = .ok (.getfield 22, 3) := by decide +kernel
theorem d_ArrayListItr_checkForComodification_11 : decode prog_46_method_6_code 11 = .ok (.if_icmp .eq 11, 3) := by decide +kernel
theorem d_ArrayListItr_checkForComodification_22 : decode prog_46_method_6_code 22 = .ok (.return_, 1) := by decide +kernel
def ArrayListItr_checkForComodification (h : g_AH) (this : Nat) : Option (Unit) :=
  g_gR h this 16 3 fun x2 => g_nn x2 fun a5 => g_gI h a5 15 0 fun x7 => g_gI h this 16 2 fun x11 => if x7 = x11 then (some ()) else (none)
set_option maxHeartbeats 4000000 in
set_option maxRecDepth 100000 in
theorem T_ArrayListItr_checkForComodification {l : Launch} {B : g_B} (h : g_AH) (this : Nat) (z : Unit) (hy : ArrayListItr_checkForComodification h this = some z) : g_CT l B y_ArrayListItr_checkForComodification k_ArrayListItr_checkForComodification [.ref this] h (.inl none) h := by
  refine g_start2 (Lc := [(0, .ref this)]) (by decide) rfl rfl (by exact Nat.le_of_ble_eq_true rfl) (by rfl) fun X => ?_
  unfold ArrayListItr_checkForComodification at hy
  refine g_aload_n 0 (i := 0) (pc' := 1) d_ArrayListItr_checkForComodification_0 rfl rfl rfl ?_
  replace hy := g_gR_inv hy
  obtain ⟨fs1, x2, hc3, hv4, hy⟩ := hy
  refine g_getf (pc' := 4) d_ArrayListItr_checkForComodification_1 hc3 rfl (by decide) hv4 q1472 (Or.inl rfl) rfl ?_
  replace hy := g_nn_inv hy
  obtain ⟨a5, rfl, hy⟩ := hy
  replace hy := g_gI_inv hy
  obtain ⟨fs6, x7, hc8, hv9, hy⟩ := hy
  refine g_getf (pc' := 7) d_ArrayListItr_checkForComodification_4 hc8 rfl (by decide) hv9 q500 (Or.inr q501) rfl ?_
  refine g_aload_n 0 (i := 0) (pc' := 8) d_ArrayListItr_checkForComodification_7 rfl rfl rfl ?_
  replace hy := g_gI_inv hy
  obtain ⟨fs10, x11, hc12, hv13, hy⟩ := hy
  refine g_getf (pc' := 11) d_ArrayListItr_checkForComodification_8 hc12 rfl (by decide) hv13 q1471 (Or.inl rfl) rfl ?_
  by_cases c14 : x7 = x11
  · rw [if_pos c14] at hy
    refine g_icmp_eqT (pc' := 22) d_ArrayListItr_checkForComodification_11 c14 (by decide) ?_
    cases hy
    exact g_vret rfl rfl rfl d_ArrayListItr_checkForComodification_22
  · rw [if_neg c14] at hy
    refine g_icmp_eqF (pc' := 14) d_ArrayListItr_checkForComodification_11 22 c14 (by decide) rfl ?_
    cases hy
theorem hd_ArrayListItr_checkForComodification : g_dsc y_ArrayListItr_checkForComodification 0 := ⟨by decide +kernel, by decide +kernel, by decide +kernel⟩
/-! java/util/ArrayList$Itr.next()Ljava/lang/Object; -/
abbrev y_ArrayListItr_next : MethodName := ⟨"java/util/ArrayList$Itr", "next", "()Ljava/lang/Object;"⟩
abbrev k_ArrayListItr_next : g_M := (prog_46_method_3_code, 3, "java/util/ArrayList$Itr", 13, (some (FieldType.object "java/lang/Object")), "next", [], 0)
theorem d_ArrayListItr_next_0 : decode prog_46_method_3_code 0 = .ok (.aload_n 0, 1) := by decide +kernel
theorem d_ArrayListItr_next_1 : decode prog_46_method_3_code 1 = .ok (.invokevirtual 31, 3) := by decide +kernel
theorem d_ArrayListItr_next_4 : decode prog_46_method_3_code 4 = .ok (.aload_n 0, 1) := by decide +kernel
theorem d_ArrayListItr_next_5 : decode prog_46_method_3_code 5 = .ok (.getfield 25, 3) := by decide +kernel
theorem d_ArrayListItr_next_8 : decode prog_46_method_3_code 8 = .ok (.istore_n 1, 1) := by decide +kernel
theorem d_ArrayListItr_next_9 : decode prog_46_method_3_code 9 = .ok (.iload_n 1, 1) := by decide +kernel
theorem d_ArrayListItr_next_10 : decode prog_46_method_3_code 10 = .ok (.aload_n 0, 1) := by decide +kernel
theorem d_ArrayListItr_next_11 : decode prog_46_method_3_code 11 = .ok (.getfield 1, 3) := by decide +kernel
theorem d_ArrayListItr_next_14 : decode prog_46_method_3_code 14 = .ok (.getfield 28, 3) := by decide +kernel
theorem d_ArrayListItr_next_17 : decode prog_46_method_3_code 17 = .ok (.if_icmp .lt 11, 3) := by decide +kernel
theorem d_ArrayListItr_next_28 : decode prog_46_method_3_code 28 = .ok (.aload_n 0, 1) := by decide +kernel
theorem d_ArrayListItr_next_29 : decode prog_46_method_3_code 29 = .ok (.getfield 1, 3) := by decide +kernel
theorem d_ArrayListItr_next_32 : decode prog_46_method_3_code 32 = .ok (.getfield 37, 3) := by decide +kernel
theorem d_ArrayListItr_next_35 : decode prog_46_method_3_code 35 = .ok (.astore_n 2, 1) := by decide +kernel
theorem d_ArrayListItr_next_36 : decode prog_46_method_3_code 36 = .ok (.iload_n 1, 1) := by decide +kernel
theorem d_ArrayListItr_next_37 : decode prog_46_method_3_code 37 = .ok (.aload_n 2, 1) := by decide +kernel
theorem d_ArrayListItr_next_38 : decode prog_46_method_3_code 38 = .ok (.arraylength, 1) := by decide +kernel
theorem d_ArrayListItr_next_39 : decode prog_46_method_3_code 39 = .ok (.if_icmp .lt 11, 3) := by decide +kernel
theorem d_ArrayListItr_next_50 : decode prog_46_method_3_code 50 = .ok (.aload_n 0, 1) := by decide +kernel
theorem d_ArrayListItr_next_51 : decode prog_46_method_3_code 51 = .ok (.iload_n 1, 1) := by decide +kernel
theorem d_ArrayListItr_next_52 : decode prog_46_method_3_code 52 = .ok (.iconst 1, 1) := by decide +kernel
theorem d_ArrayListItr_next_53 : decode prog_46_method_3_code 53 = .ok (.iadd, 1) := by decide +kernel
theorem d_ArrayListItr_next_54 : decode prog_46_method_3_code 54 = .ok (.putfield 25, 3) := by decide +kernel
theorem d_ArrayListItr_next_57 : decode prog_46_method_3_code 57 = .ok (.aload_n 2, 1) := by decide +kernel
theorem d_ArrayListItr_next_58 : decode prog_46_method_3_code 58 = .ok (.aload_n 0, 1) := by decide +kernel
theorem d_ArrayListItr_next_59 : decode prog_46_method_3_code 59 = .ok (.iload_n 1, 1) := by decide +kernel
theorem d_ArrayListItr_next_60 : decode prog_46_method_3_code 60 = .ok (.dup_x1, 1) := by decide +kernel
theorem d_ArrayListItr_next_61 : decode prog_46_method_3_code 61 = .ok (.putfield 13, 3) := by decide +kernel
theorem d_ArrayListItr_next_64 : decode prog_46_method_3_code 64 = .ok (.aaload, 1) := by decide +kernel
theorem d_ArrayListItr_next_65 : decode prog_46_method_3_code 65 = .ok (.areturn, 1) := by decide +kernel
def ArrayListItr_next (h : g_AH) (this : Nat) : Option (Option Nat × g_AH) :=
  g_is h this 16 <| g_b (ArrayListItr_checkForComodification h this) fun x3 => g_gI h this 16 0 fun x7 => g_gR h this 16 3 fun x11 => g_nn x11 fun a14 => g_gI h a14 15 2 fun x16 => if x7 < x16 then (g_gR h this 16 3 fun x21 => g_nn x21 fun a24 => g_gR h a24 15 1 fun x26 => g_nn x26 fun a29 => g_len h a29 fun x34 => if x7 < x34 then (g_pF h this 16 0 (.int (x7 + (1 : Int32))) fun h39 => g_pF h39 this 16 1 (.int x7) fun h43 => g_aA h43 5 a29 x7 fun x44 => some (x44, h43)) else (none)) else (none)
set_option maxHeartbeats 4000000 in
set_option maxRecDepth 100000 in
theorem T_ArrayListItr_next {l : Launch} {B : g_B} (h : g_AH) (this : Nat) (z : Option Nat × g_AH) (hy : ArrayListItr_next h this = some z) : g_CT l B y_ArrayListItr_next k_ArrayListItr_next [.ref this] h (.inl (some (va_rf z.1))) z.2 := by
  refine g_start2 (Lc := [(0, .ref this)]) (by decide) rfl rfl (by exact Nat.le_of_ble_eq_true rfl) (by rfl) fun X => ?_
  unfold ArrayListItr_next at hy
  refine g_aload_n 0 (i := 0) (pc' := 1) d_ArrayListItr_next_0 rfl rfl rfl ?_
  replace hy := g_is_inv hy
  obtain ⟨fs1, hc2, hy⟩ := hy
  replace hy := g_b_inv hy
  obtain ⟨x3, hf5, hy⟩ := hy
  refine g_callV (rv := none) (h1 := h) (pc' := 4) (As := []) (rest := []) 0 (T_ArrayListItr_checkForComodification (hy := hf5)) d_ArrayListItr_next_1 hc2 rfl rfl q1501 q1502 q1503 q145 q1504 hd_ArrayListItr_checkForComodification rfl ⟨by decide, by decide⟩ (by first | exact Nat.le_of_ble_eq_true rfl | (simp only [List.map, List.sum_cons, List.sum_nil, g_cat_rf]; exact Nat.le_of_ble_eq_true rfl) | (simp only [List.map, List.sum_cons, List.sum_nil, g_cat_rf, Value.category]; decide)) rfl ?_
  refine g_aload_n 0 (i := 0) (pc' := 5) d_ArrayListItr_next_4 rfl rfl rfl ?_
  replace hy := g_gI_inv hy
  obtain ⟨fs6, x7, hc8, hv9, hy⟩ := hy
  refine g_getf (pc' := 8) d_ArrayListItr_next_5 hc8 rfl (by decide) hv9 q1469 (Or.inl rfl) rfl ?_
  refine g_istore_n (i := 1) (pc' := 9) (Lc' := [(1, .int x7), (0, .ref this)]) d_ArrayListItr_next_8 rfl (by decide) rfl rfl ?_
  refine g_iload_n 0 (i := 1) (pc' := 10) d_ArrayListItr_next_9 rfl rfl rfl ?_
  refine g_aload_n 1 (i := 0) (pc' := 11) d_ArrayListItr_next_10 rfl rfl rfl ?_
  replace hy := g_gR_inv hy
  obtain ⟨fs10, x11, hc12, hv13, hy⟩ := hy
  refine g_getf (pc' := 14) d_ArrayListItr_next_11 hc12 rfl (by decide) hv13 q1472 (Or.inl rfl) rfl ?_
  replace hy := g_nn_inv hy
  obtain ⟨a14, rfl, hy⟩ := hy
  replace hy := g_gI_inv hy
  obtain ⟨fs15, x16, hc17, hv18, hy⟩ := hy
  refine g_getfN (pc' := 17) d_ArrayListItr_next_14 hc17 rfl (by decide) hv18 q497 rfl rfl ?_
  by_cases c19 : x7 < x16
  · rw [if_pos c19] at hy
    refine g_icmp_ltT (pc' := 28) d_ArrayListItr_next_17 c19 (by decide) ?_
    refine g_aload_n 1 (i := 0) (pc' := 29) d_ArrayListItr_next_28 rfl rfl rfl ?_
    replace hy := g_gR_inv hy
    obtain ⟨fs20, x21, hc22, hv23, hy⟩ := hy
    refine g_getf (pc' := 32) d_ArrayListItr_next_29 hc22 rfl (by decide) hv23 q1472 (Or.inl rfl) rfl ?_
    replace hy := g_nn_inv hy
    obtain ⟨a24, rfl, hy⟩ := hy
    replace hy := g_gR_inv hy
    obtain ⟨fs25, x26, hc27, hv28, hy⟩ := hy
    refine g_getf (pc' := 35) d_ArrayListItr_next_32 hc27 rfl (by decide) hv28 q496 (Or.inl rfl) rfl ?_
    refine g_astoreO_n (i := 2) (pc' := 36) (Lc' := [(2, va_rf x26), (1, .int x7), (0, .ref this)]) d_ArrayListItr_next_35 rfl (by decide) rfl rfl ?_
    refine g_iload_n 1 (i := 1) (pc' := 37) d_ArrayListItr_next_36 rfl rfl rfl ?_
    refine g_aloadO_n 0 (i := 2) (pc' := 38) d_ArrayListItr_next_37 rfl rfl rfl ?_
    replace hy := g_nn_inv hy
    obtain ⟨a29, rfl, hy⟩ := hy
    replace hy := g_len_inv hy
    obtain ⟨t30, y31, hc32, ht33, hy⟩ := hy
    refine g_alen (pc' := 39) d_ArrayListItr_next_38 hc32 ht33 rfl rfl ?_
    generalize Int32.ofNat y31.1 = x34 at hy ⊢
    by_cases c35 : x7 < x34
    · rw [if_pos c35] at hy
      refine g_icmp_ltT (pc' := 50) d_ArrayListItr_next_39 c35 (by decide) ?_
      refine g_aload_n 2 (i := 0) (pc' := 51) d_ArrayListItr_next_50 rfl rfl rfl ?_
      refine g_iload_n 1 (i := 1) (pc' := 52) d_ArrayListItr_next_51 rfl rfl rfl ?_
      refine g_iconst (v := (1 : Int32)) (pc' := 53) d_ArrayListItr_next_52 (by decide) rfl ?_
      refine g_iadd (pc' := 54) d_ArrayListItr_next_53 rfl ?_
      replace hy := g_pF_inv hy
      obtain ⟨fs36, hc37, hl38, hy⟩ := hy
      refine g_putf (pc' := 57) d_ArrayListItr_next_54 hc37 rfl (by decide) hl38 rfl rfl rfl q1469 (Or.inl rfl) rfl ?_
      generalize g_up h this (.inr (16, fs36.set 0 (.int (x7 + (1 : Int32))))) = h39 at hy ⊢
      refine g_aload_n 0 (i := 2) (pc' := 58) d_ArrayListItr_next_57 rfl rfl rfl ?_
      refine g_aload_n 2 (i := 0) (pc' := 59) d_ArrayListItr_next_58 rfl rfl rfl ?_
      refine g_iload_n 1 (i := 1) (pc' := 60) d_ArrayListItr_next_59 rfl rfl rfl ?_
      refine g_dup_x1 (pc' := 61) d_ArrayListItr_next_60 rfl rfl rfl ?_
      replace hy := g_pF_inv hy
      obtain ⟨fs40, hc41, hl42, hy⟩ := hy
      refine g_putf (pc' := 64) d_ArrayListItr_next_61 hc41 rfl (by decide) hl42 rfl rfl rfl q1470 (Or.inl rfl) rfl ?_
      generalize g_up h39 this (.inr (16, fs40.set 1 (.int x7))) = h43 at hy ⊢
      replace hy := g_aA_inv hy
      obtain ⟨n45, f46, hc47, hi48, hy⟩ := hy
      refine g_aald (pc' := 65) d_ArrayListItr_next_64 hc47 (by decide) hi48 rfl ?_
      generalize f46 (x7).toNatClampNeg = x44 at hy ⊢
      cases hy
      exact g_aret rfl rfl rfl (Or.inl ⟨_, rfl⟩) d_ArrayListItr_next_65
    · rw [if_neg c35] at hy
      refine g_icmp_ltF (pc' := 42) d_ArrayListItr_next_39 50 c35 (by decide) rfl ?_
      cases hy
  · rw [if_neg c19] at hy
    refine g_icmp_ltF (pc' := 20) d_ArrayListItr_next_17 28 c19 (by decide) rfl ?_
    cases hy
theorem hd_ArrayListItr_next : g_dsc y_ArrayListItr_next 0 := ⟨by decide +kernel, by decide +kernel, by decide +kernel⟩
/-! java/util/AbstractCollection.<init>()V -/
abbrev y_AbstractCollection_init : MethodName := ⟨"java/util/AbstractCollection", "<init>", "()V"⟩
abbrev k_AbstractCollection_init : g_M := (prog_43_method_1_code, 1, "java/util/AbstractCollection", 13, none, "<init>", [], 0)
theorem d_AbstractCollection_init_0 : decode prog_43_method_1_code 0 = .ok (.aload_n 0, 1) := by decide +kernel
theorem d_AbstractCollection_init_1 : decode prog_43_method_1_code 1 = .ok (.invokespecial 1, 3) := by decide +kernel
theorem d_AbstractCollection_init_4 : decode prog_43_method_1_code 4 = .ok (.return_, 1) := by decide +kernel
def AbstractCollection_init (this : Nat) : Option (Unit) :=
  some ()
set_option maxHeartbeats 4000000 in
set_option maxRecDepth 100000 in
theorem T_AbstractCollection_init {l : Launch} {B : g_B} {h : g_AH} (this : Nat) (z : Unit) (hy : AbstractCollection_init this = some z) : g_CT l B y_AbstractCollection_init k_AbstractCollection_init [.ref this] h (.inl none) h := by
  refine g_start2 (Lc := [(0, .ref this)]) (by decide) rfl rfl (by exact Nat.le_of_ble_eq_true rfl) (by rfl) fun X => ?_
  unfold AbstractCollection_init at hy
  refine g_aload_n 0 (i := 0) (pc' := 1) d_AbstractCollection_init_0 rfl rfl rfl ?_
  refine g_objInit (pc' := 4) d_AbstractCollection_init_1 q173 (by first | exact Nat.le_of_ble_eq_true rfl | (simp only [List.map, List.sum_cons, List.sum_nil, g_cat_rf]; exact Nat.le_of_ble_eq_true rfl) | (simp only [List.map, List.sum_cons, List.sum_nil, g_cat_rf, Value.category]; decide)) (by decide) rfl ?_
  cases hy
  exact g_vret rfl rfl rfl d_AbstractCollection_init_4
theorem hd_AbstractCollection_init : g_dsc y_AbstractCollection_init 0 := ⟨by decide +kernel, by decide +kernel, by decide +kernel⟩
/-! java/util/AbstractList.<init>()V -/
abbrev y_AbstractList_init : MethodName := ⟨"java/util/AbstractList", "<init>", "()V"⟩
abbrev k_AbstractList_init : g_M := (prog_44_method_1_code, 1, "java/util/AbstractList", 14, none, "<init>", [], 0)
theorem d_AbstractList_init_0 : decode prog_44_method_1_code 0 = .ok (.aload_n 0, 1) := by decide +kernel
theorem d_AbstractList_init_1 : decode prog_44_method_1_code 1 = .ok (.invokespecial 1, 3) := by decide +kernel
theorem d_AbstractList_init_4 : decode prog_44_method_1_code 4 = .ok (.aload_n 0, 1) := by decide +kernel
theorem d_AbstractList_init_5 : decode prog_44_method_1_code 5 = .ok (.iconst 0, 1) := by decide +kernel
theorem d_AbstractList_init_6 : decode prog_44_method_1_code 6 = .ok (.putfield 7, 3) := by decide +kernel
theorem d_AbstractList_init_9 : decode prog_44_method_1_code 9 = .ok (.return_, 1) := by decide +kernel
def AbstractList_init (h : g_AH) (this : Nat) : Option g_AH :=
  g_b (AbstractCollection_init this) fun x1 => g_pF h this 15 0 (.int (0 : Int32)) fun h7 => some h7
set_option maxHeartbeats 4000000 in
set_option maxRecDepth 100000 in
theorem T_AbstractList_init {l : Launch} {B : g_B} (h : g_AH) (this : Nat) (z : g_AH) (hy : AbstractList_init h this = some z) : g_CT l B y_AbstractList_init k_AbstractList_init [.ref this] h (.inl none) z := by
  refine g_start2 (Lc := [(0, .ref this)]) (by decide) rfl rfl (by exact Nat.le_of_ble_eq_true rfl) (by rfl) fun X => ?_
  unfold AbstractList_init at hy
  refine g_aload_n 0 (i := 0) (pc' := 1) d_AbstractList_init_0 rfl rfl rfl ?_
  replace hy := g_b_inv hy
  obtain ⟨x1, hf3, hy⟩ := hy
  refine g_callI (h1 := h) (pc' := 4) (As := []) (rest := []) 0 (T_AbstractCollection_init (hy := hf3)) d_AbstractList_init_1 rfl rfl q170 q171 q110 q172 hd_AbstractCollection_init rfl ⟨by decide, by decide⟩ (by first | exact Nat.le_of_ble_eq_true rfl | (simp only [List.map, List.sum_cons, List.sum_nil, g_cat_rf]; exact Nat.le_of_ble_eq_true rfl) | (simp only [List.map, List.sum_cons, List.sum_nil, g_cat_rf, Value.category]; decide)) rfl ?_
  refine g_aload_n 0 (i := 0) (pc' := 5) d_AbstractList_init_4 rfl rfl rfl ?_
  refine g_iconst (v := (0 : Int32)) (pc' := 6) d_AbstractList_init_5 (by decide) rfl ?_
  replace hy := g_pF_inv hy
  obtain ⟨fs4, hc5, hl6, hy⟩ := hy
  refine g_putf (pc' := 9) d_AbstractList_init_6 hc5 rfl (by decide) hl6 rfl rfl rfl q499 (Or.inl rfl) rfl ?_
  generalize g_up h this (.inr (15, fs4.set 0 (.int (0 : Int32)))) = h7 at hy ⊢
  cases hy
  exact g_vret rfl rfl rfl d_AbstractList_init_9
theorem hd_AbstractList_init : g_dsc y_AbstractList_init 0 := ⟨by decide +kernel, by decide +kernel, by decide +kernel⟩
/-! java/lang/StringUTF16.newBytesLength(I)I -/
abbrev y_StringUTF16_newBytesLength : MethodName := ⟨"java/lang/StringUTF16", "newBytesLength", "(I)I"⟩
abbrev k_StringUTF16_newBytesLength : g_M := (prog_37_method_3_code, 1, "java/lang/StringUTF16", 12, (some FieldType.int), "newBytesLength", [], 0)
theorem d_StringUTF16_newBytesLength_0 : decode prog_37_method_3_code 0 = .ok (.iload_n 0, 1) := by decide +kernel
theorem d_StringUTF16_newBytesLength_1 : decode prog_37_method_3_code 1 = .ok (.ifCond .ge 11, 3) := by decide +kernel
theorem d_StringUTF16_newBytesLength_12 : decode prog_37_method_3_code 12 = .ok (.iload_n 0, 1) := by decide +kernel
theorem d_StringUTF16_newBytesLength_13 : decode prog_37_method_3_code 13 = .ok (.ldc 20, 2) := by decide +kernel
theorem d_StringUTF16_newBytesLength_15 : decode prog_37_method_3_code 15 = .ok (.if_icmp .lt 40, 3) := by decide +kernel
theorem d_StringUTF16_newBytesLength_55 : decode prog_37_method_3_code 55 = .ok (.iload_n 0, 1) := by decide +kernel
theorem d_StringUTF16_newBytesLength_56 : decode prog_37_method_3_code 56 = .ok (.iconst 1, 1) := by decide +kernel
theorem d_StringUTF16_newBytesLength_57 : decode prog_37_method_3_code 57 = .ok (.ishl, 1) := by decide +kernel
theorem d_StringUTF16_newBytesLength_58 : decode prog_37_method_3_code 58 = .ok (.ireturn, 1) := by decide +kernel
def StringUTF16_newBytesLength (h : g_AH) (p0 : Int32) : Option (Int32) :=
  if 0 ≤ p0 then (if p0 < (1073741823 : Int32) then (some (p0 <<< ((1 : Int32) &&& 31))) else (none)) else (none)
set_option maxHeartbeats 4000000 in
set_option maxRecDepth 100000 in
theorem T_StringUTF16_newBytesLength {l : Launch} {B : g_B} (h : g_AH) (p0 : Int32) (z : Int32) (hy : StringUTF16_newBytesLength h p0 = some z) : g_CT l B y_StringUTF16_newBytesLength k_StringUTF16_newBytesLength [.int p0] h (.inl (some (.int z))) h := by
  refine g_start2 (Lc := [(0, .int p0)]) (by decide) rfl rfl (by exact Nat.le_of_ble_eq_true rfl) (by rfl) fun X => ?_
  unfold StringUTF16_newBytesLength at hy
  refine g_iload_n 0 (i := 0) (pc' := 1) d_StringUTF16_newBytesLength_0 rfl rfl rfl ?_
  by_cases c1 : 0 ≤ p0
  · rw [if_pos c1] at hy
    refine g_if_geT (pc' := 12) d_StringUTF16_newBytesLength_1 c1 (by decide) ?_
    refine g_iload_n 0 (i := 0) (pc' := 13) d_StringUTF16_newBytesLength_12 rfl rfl rfl ?_
    refine g_ldcI (pc' := 15) d_StringUTF16_newBytesLength_13 q238 rfl ?_
    by_cases c2 : p0 < (1073741823 : Int32)
    · rw [if_pos c2] at hy
      refine g_icmp_ltT (pc' := 55) d_StringUTF16_newBytesLength_15 c2 (by decide) ?_
      refine g_iload_n 0 (i := 0) (pc' := 56) d_StringUTF16_newBytesLength_55 rfl rfl rfl ?_
      refine g_iconst (v := (1 : Int32)) (pc' := 57) d_StringUTF16_newBytesLength_56 (by decide) rfl ?_
      refine g_ishl (pc' := 58) d_StringUTF16_newBytesLength_57 rfl ?_
      cases hy
      exact g_iret rfl rfl rfl d_StringUTF16_newBytesLength_58
    · rw [if_neg c2] at hy
      refine g_icmp_ltF (pc' := 18) d_StringUTF16_newBytesLength_15 55 c2 (by decide) rfl ?_
      cases hy
  · rw [if_neg c1] at hy
    refine g_if_geF (pc' := 4) d_StringUTF16_newBytesLength_1 12 c1 (by decide) rfl ?_
    cases hy
theorem hd_StringUTF16_newBytesLength : g_dsc y_StringUTF16_newBytesLength 1 := ⟨by decide +kernel, by decide +kernel, by decide +kernel⟩
/-! java/lang/StringUTF16.newBytesFor(I)[B -/
abbrev y_StringUTF16_newBytesFor : MethodName := ⟨"java/lang/StringUTF16", "newBytesFor", "(I)[B"⟩
abbrev k_StringUTF16_newBytesFor : g_M := (prog_37_method_2_code, 1, "java/lang/StringUTF16", 13, (some (FieldType.array FieldType.byte)), "newBytesFor", [], 0)
theorem d_StringUTF16_newBytesFor_0 : decode prog_37_method_2_code 0 = .ok (.iload_n 0, 1) := by decide +kernel
theorem d_StringUTF16_newBytesFor_1 : decode prog_37_method_2_code 1 = .ok (.invokestatic 11, 3) := by decide +kernel
theorem d_StringUTF16_newBytesFor_4 : decode prog_37_method_2_code 4 = .ok (.newarray .byte, 2) := by decide +kernel
theorem d_StringUTF16_newBytesFor_6 : decode prog_37_method_2_code 6 = .ok (.areturn, 1) := by decide +kernel
def StringUTF16_newBytesFor (h : g_AH) (p0 : Int32) : Option (Option Nat × g_AH) :=
  g_b (StringUTF16_newBytesLength h p0) fun x1 => g_mkA h 2 x1 fun a4 h5 => some ((some a4), h5)
set_option maxHeartbeats 4000000 in
set_option maxRecDepth 100000 in
theorem T_StringUTF16_newBytesFor {l : Launch} {B : g_B} (h : g_AH) (p0 : Int32) (z : Option Nat × g_AH) (hy : StringUTF16_newBytesFor h p0 = some z) : g_CT l B y_StringUTF16_newBytesFor k_StringUTF16_newBytesFor [.int p0] h (.inl (some (va_rf z.1))) z.2 := by
  refine g_start2 (Lc := [(0, .int p0)]) (by decide) rfl rfl (by exact Nat.le_of_ble_eq_true rfl) (by rfl) fun X => ?_
  unfold StringUTF16_newBytesFor at hy
  refine g_iload_n 0 (i := 0) (pc' := 1) d_StringUTF16_newBytesFor_0 rfl rfl rfl ?_
  replace hy := g_b_inv hy
  obtain ⟨x1, hf3, hy⟩ := hy
  refine g_callS (rv := some (.int x1)) (h1 := h) (pc' := 4) (As := [.int p0]) (rest := []) 1 (T_StringUTF16_newBytesLength (hy := hf3)) d_StringUTF16_newBytesFor_1 q235 q236 q120 q237 hd_StringUTF16_newBytesLength rfl ⟨by decide, by decide⟩ (by first | exact Nat.le_of_ble_eq_true rfl | (simp only [List.map, List.sum_cons, List.sum_nil, g_cat_rf]; exact Nat.le_of_ble_eq_true rfl) | (simp only [List.map, List.sum_cons, List.sum_nil, g_cat_rf, Value.category]; decide)) rfl ?_
  replace hy := g_mkA_inv hy
  obtain ⟨hn6, hb7, hy⟩ := hy
  refine g_newa2 (pc' := 6) d_StringUTF16_newBytesFor_4 hn6 hb7 rfl ?_
  generalize g_al h (.inl (2, (x1).toNatClampNeg, .inl (fun _ => 0))) (x1).toNatClampNeg = h5 at hy ⊢
  generalize g_n h = a4 at hy ⊢
  cases hy
  refine g_stk (st' := [va_rf (some a4)]) rfl ?_
  exact g_aret rfl rfl rfl (Or.inr ⟨_, rfl⟩) d_StringUTF16_newBytesFor_6
theorem hd_StringUTF16_newBytesFor : g_dsc y_StringUTF16_newBytesFor 1 := ⟨by decide +kernel, by decide +kernel, by decide +kernel⟩
/-! java/lang/AbstractStringBuilder.<init>(I)V -/
abbrev y_AbstractStringBuilder_init : MethodName := ⟨"java/lang/AbstractStringBuilder", "<init>", "(I)V"⟩
abbrev k_AbstractStringBuilder_init : g_M := (prog_19_method_2_code, 2, "java/lang/AbstractStringBuilder", 14, none, "<init>", [], 0)
theorem d_AbstractStringBuilder_init_0 : decode prog_19_method_2_code 0 = .ok (.aload_n 0, 1) := by decide +kernel
theorem d_AbstractStringBuilder_init_1 : decode prog_19_method_2_code 1 = .ok (.invokespecial 3, 3) := by decide +kernel
theorem d_AbstractStringBuilder_init_4 : decode prog_19_method_2_code 4 = .ok (.getstatic 18, 3) := by decide +kernel
theorem d_AbstractStringBuilder_init_7 : decode prog_19_method_2_code 7 = .ok (.ifCond .eq 18, 3) := by decide +kernel
theorem d_AbstractStringBuilder_init_10 : decode prog_19_method_2_code 10 = .ok (.aload_n 0, 1) := by decide +kernel
theorem d_AbstractStringBuilder_init_11 : decode prog_19_method_2_code 11 = .ok (.iload_n 1, 1) := by decide +kernel
theorem d_AbstractStringBuilder_init_12 : decode prog_19_method_2_code 12 = .ok (.newarray .byte, 2) := by decide +kernel
theorem d_AbstractStringBuilder_init_14 : decode prog_19_method_2_code 14 = .ok (.putfield 15, 3) := by decide +kernel
theorem d_AbstractStringBuilder_init_17 : decode prog_19_method_2_code 17 = .ok (.aload_n 0, 1) := by decide +kernel
theorem d_AbstractStringBuilder_init_18 : decode prog_19_method_2_code 18 = .ok (.iconst 0, 1) := by decide +kernel
theorem d_AbstractStringBuilder_init_19 : decode prog_19_method_2_code 19 = .ok (.putfield 22, 3) := by decide +kernel
theorem d_AbstractStringBuilder_init_22 : decode prog_19_method_2_code 22 = .ok (.goto 16, 3) := by decide +kernel
theorem d_AbstractStringBuilder_init_25 : decode prog_19_method_2_code 25 = .ok (.aload_n 0, 1) := by decide +kernel
theorem d_AbstractStringBuilder_init_26 : decode prog_19_method_2_code 26 = .ok (.iload_n 1, 1) := by decide +kernel
theorem d_AbstractStringBuilder_init_27 : decode prog_19_method_2_code 27 = .ok (.invokestatic 26, 3) := by decide +kernel
theorem d_AbstractStringBuilder_init_30 : decode prog_19_method_2_code 30 = .ok (.putfield 15, 3) := by decide +kernel
theorem d_AbstractStringBuilder_init_33 : decode prog_19_method_2_code 33 = .ok (.aload_n 0, 1) := by decide +kernel
theorem d_AbstractStringBuilder_init_34 : decode prog_19_method_2_code 34 = .ok (.iconst 1, 1) := by decide +kernel
theorem d_AbstractStringBuilder_init_35 : decode prog_19_method_2_code 35 = .ok (.putfield 22, 3) := by decide +kernel
theorem d_AbstractStringBuilder_init_38 : decode prog_19_method_2_code 38 = .ok (.return_, 1) := by decide +kernel
def AbstractStringBuilder_init (h : g_AH) (this : Nat) (p0 : Int32) : Option g_AH :=
  if (1 : Int32) = 0 then (g_b2 (StringUTF16_newBytesFor h p0) fun x2 h3 => g_pF h3 this 17 0 (va_rf x2) fun h8 => g_rq (narrow .byte (.int (1 : Int32)) = .int (1 : Int32) ∧ fits .byte (.int (1 : Int32)) = true) <| g_pF h8 this 17 1 (.int (1 : Int32)) fun h13 => some h13) else (g_mkA h 2 p0 fun a14 h15 => g_pF h15 this 17 0 (.ref a14) fun h21 => g_rq (narrow .byte (.int (0 : Int32)) = .int (0 : Int32) ∧ fits .byte (.int (0 : Int32)) = true) <| g_pF h21 this 17 1 (.int (0 : Int32)) fun h26 => some h26)
set_option maxHeartbeats 4000000 in
set_option maxRecDepth 100000 in
theorem T_AbstractStringBuilder_init {l : Launch} {B : g_B} (h : g_AH) (this : Nat) (p0 : Int32) (z : g_AH) (hy : AbstractStringBuilder_init h this p0 = some z) : g_CT l B y_AbstractStringBuilder_init k_AbstractStringBuilder_init [.ref this, .int p0] h (.inl none) z := by
  refine g_start2 (Lc := [(0, .ref this), (1, .int p0)]) (by decide) rfl rfl (by exact Nat.le_of_ble_eq_true rfl) (by rfl) fun X => ?_
  unfold AbstractStringBuilder_init at hy
  refine g_aload_n 0 (i := 0) (pc' := 1) d_AbstractStringBuilder_init_0 rfl rfl rfl ?_
  refine g_objInit (pc' := 4) d_AbstractStringBuilder_init_1 q229 (by first | exact Nat.le_of_ble_eq_true rfl | (simp only [List.map, List.sum_cons, List.sum_nil, g_cat_rf]; exact Nat.le_of_ble_eq_true rfl) | (simp only [List.map, List.sum_cons, List.sum_nil, g_cat_rf, Value.category]; decide)) (by decide) rfl ?_
  refine g_compact (pc' := 7) d_AbstractStringBuilder_init_4 q230 rfl ?_
  by_cases c1 : (1 : Int32) = 0
  · rw [if_pos c1] at hy
    refine g_if_eqT (pc' := 25) d_AbstractStringBuilder_init_7 c1 (by decide) ?_
    refine g_aload_n 0 (i := 0) (pc' := 26) d_AbstractStringBuilder_init_25 rfl rfl rfl ?_
    refine g_iload_n 1 (i := 1) (pc' := 27) d_AbstractStringBuilder_init_26 rfl rfl rfl ?_
    replace hy := g_b2_inv hy
    obtain ⟨x2, h3, hf4, hy⟩ := hy
    refine g_callS (rv := some (va_rf x2)) (h1 := h3) (pc' := 30) (As := [.int p0]) (rest := [.ref this]) 1 (T_StringUTF16_newBytesFor (hy := hf4)) d_AbstractStringBuilder_init_27 q232 q233 q120 q234 hd_StringUTF16_newBytesFor rfl ⟨by decide, by decide⟩ (by first | exact Nat.le_of_ble_eq_true rfl | (simp only [List.map, List.sum_cons, List.sum_nil, g_cat_rf]; exact Nat.le_of_ble_eq_true rfl) | (simp only [List.map, List.sum_cons, List.sum_nil, g_cat_rf, Value.category]; decide)) rfl ?_
    replace hy := g_pF_inv hy
    obtain ⟨fs5, hc6, hl7, hy⟩ := hy
    refine g_putf (pc' := 33) d_AbstractStringBuilder_init_30 hc6 rfl (by decide) hl7 rfl g_nar_rf g_fit_a q239 (Or.inl rfl) rfl ?_
    generalize g_up h3 this (.inr (17, fs5.set 0 (va_rf x2))) = h8 at hy ⊢
    refine g_aload_n 0 (i := 0) (pc' := 34) d_AbstractStringBuilder_init_33 rfl rfl rfl ?_
    refine g_iconst (v := (1 : Int32)) (pc' := 35) d_AbstractStringBuilder_init_34 (by decide) rfl ?_
    replace hy := g_rq_inv hy
    obtain ⟨c9, hy⟩ := hy
    replace hy := g_pF_inv hy
    obtain ⟨fs10, hc11, hl12, hy⟩ := hy
    refine g_putf (pc' := 38) d_AbstractStringBuilder_init_35 hc11 rfl (by decide) hl12 rfl c9.1 c9.2 q240 (Or.inl rfl) rfl ?_
    generalize g_up h8 this (.inr (17, fs10.set 1 (.int (1 : Int32)))) = h13 at hy ⊢
    cases hy
    exact g_vret rfl rfl rfl d_AbstractStringBuilder_init_38
  · rw [if_neg c1] at hy
    refine g_if_eqF (pc' := 10) d_AbstractStringBuilder_init_7 25 c1 (by decide) rfl ?_
    refine g_aload_n 0 (i := 0) (pc' := 11) d_AbstractStringBuilder_init_10 rfl rfl rfl ?_
    refine g_iload_n 1 (i := 1) (pc' := 12) d_AbstractStringBuilder_init_11 rfl rfl rfl ?_
    replace hy := g_mkA_inv hy
    obtain ⟨hn16, hb17, hy⟩ := hy
    refine g_newa2 (pc' := 14) d_AbstractStringBuilder_init_12 hn16 hb17 rfl ?_
    generalize g_al h (.inl (2, (p0).toNatClampNeg, .inl (fun _ => 0))) (p0).toNatClampNeg = h15 at hy ⊢
    generalize g_n h = a14 at hy ⊢
    replace hy := g_pF_inv hy
    obtain ⟨fs18, hc19, hl20, hy⟩ := hy
    refine g_putf (pc' := 17) d_AbstractStringBuilder_init_14 hc19 rfl (by decide) hl20 rfl rfl rfl q239 (Or.inl rfl) rfl ?_
    generalize g_up h15 this (.inr (17, fs18.set 0 (.ref a14))) = h21 at hy ⊢
    refine g_aload_n 0 (i := 0) (pc' := 18) d_AbstractStringBuilder_init_17 rfl rfl rfl ?_
    refine g_iconst (v := (0 : Int32)) (pc' := 19) d_AbstractStringBuilder_init_18 (by decide) rfl ?_
    replace hy := g_rq_inv hy
    obtain ⟨c22, hy⟩ := hy
    replace hy := g_pF_inv hy
    obtain ⟨fs23, hc24, hl25, hy⟩ := hy
    refine g_putf (pc' := 22) d_AbstractStringBuilder_init_19 hc24 rfl (by decide) hl25 rfl c22.1 c22.2 q240 (Or.inl rfl) rfl ?_
    generalize g_up h21 this (.inr (17, fs23.set 1 (.int (0 : Int32)))) = h26 at hy ⊢
    refine g_goto (pc' := 38) d_AbstractStringBuilder_init_22 (by decide) ?_
    cases hy
    exact g_vret rfl rfl rfl d_AbstractStringBuilder_init_38
theorem hd_AbstractStringBuilder_init : g_dsc y_AbstractStringBuilder_init 1 := ⟨by decide +kernel, by decide +kernel, by decide +kernel⟩
/-! java/lang/StringBuilder.<init>()V -/
abbrev y_StringBuilder_init : MethodName := ⟨"java/lang/StringBuilder", "<init>", "()V"⟩
abbrev k_StringBuilder_init : g_M := (prog_35_method_1_code, 1, "java/lang/StringBuilder", 15, none, "<init>", [], 0)
theorem d_StringBuilder_init_0 : decode prog_35_method_1_code 0 = .ok (.aload_n 0, 1) := by decide +kernel
theorem d_StringBuilder_init_1 : decode prog_35_method_1_code 1 = .ok (.bipush 16, 2) := by decide +kernel
theorem d_StringBuilder_init_3 : decode prog_35_method_1_code 3 = .ok (.invokespecial 1, 3) := by decide +kernel
theorem d_StringBuilder_init_6 : decode prog_35_method_1_code 6 = .ok (.return_, 1) := by decide +kernel
def StringBuilder_init (h : g_AH) (this : Nat) : Option g_AH :=
  g_b (AbstractStringBuilder_init h this (16 : Int32)) fun h2 => some h2
set_option maxHeartbeats 4000000 in
set_option maxRecDepth 100000 in
theorem T_StringBuilder_init {l : Launch} {B : g_B} (h : g_AH) (this : Nat) (z : g_AH) (hy : StringBuilder_init h this = some z) : g_CT l B y_StringBuilder_init k_StringBuilder_init [.ref this] h (.inl none) z := by
  refine g_start2 (Lc := [(0, .ref this)]) (by decide) rfl rfl (by exact Nat.le_of_ble_eq_true rfl) (by rfl) fun X => ?_
  unfold StringBuilder_init at hy
  refine g_aload_n 0 (i := 0) (pc' := 1) d_StringBuilder_init_0 rfl rfl rfl ?_
  refine g_bipush (v := (16 : Int32)) (pc' := 3) d_StringBuilder_init_1 (by decide) rfl ?_
  replace hy := g_b_inv hy
  obtain ⟨h2, hf3, hy⟩ := hy
  refine g_callI (h1 := h2) (pc' := 6) (As := [.int (16 : Int32)]) (rest := []) 1 (T_AbstractStringBuilder_init (hy := hf3)) d_StringBuilder_init_3 rfl rfl q226 q227 q117 q228 hd_AbstractStringBuilder_init rfl ⟨by decide, by decide⟩ (by first | exact Nat.le_of_ble_eq_true rfl | (simp only [List.map, List.sum_cons, List.sum_nil, g_cat_rf]; exact Nat.le_of_ble_eq_true rfl) | (simp only [List.map, List.sum_cons, List.sum_nil, g_cat_rf, Value.category]; decide)) rfl ?_
  cases hy
  exact g_vret rfl rfl rfl d_StringBuilder_init_6
theorem hd_StringBuilder_init : g_dsc y_StringBuilder_init 0 := ⟨by decide +kernel, by decide +kernel, by decide +kernel⟩
/-! java/lang/AbstractStringBuilder.newCapacity(I)I -/
abbrev y_AbstractStringBuilder_newCapacity : MethodName := ⟨"java/lang/AbstractStringBuilder", "newCapacity", "(I)I"⟩
abbrev k_AbstractStringBuilder_newCapacity : g_M := (prog_19_method_10_code, 6, "java/lang/AbstractStringBuilder", 14, (some FieldType.int), "newCapacity", [], 0)
theorem d_AbstractStringBuilder_newCapacity_0 : decode prog_19_method_10_code 0 = .ok (.aload_n 0, 1) := by decide +kernel
theorem d_AbstractStringBuilder_newCapacity_1 : decode prog_19_method_10_code 1 = .ok (.getfield 15, 3) := by decide +kernel
theorem d_AbstractStringBuilder_newCapacity_4 : decode prog_19_method_10_code 4 = .ok (.arraylength, 1) := by decide +kernel
theorem d_AbstractStringBuilder_newCapacity_5 : decode prog_19_method_10_code 5 = .ok (.istore_n 2, 1) := by decide +kernel
theorem d_AbstractStringBuilder_newCapacity_6 : decode prog_19_method_10_code 6 = .ok (.iload_n 1, 1) := by decide +kernel
theorem d_AbstractStringBuilder_newCapacity_7 : decode prog_19_method_10_code 7 = .ok (.aload_n 0, 1) := by decide +kernel
theorem d_AbstractStringBuilder_newCapacity_8 : decode prog_19_method_10_code 8 = .ok (.getfield 22, 3) := by decide +kernel
theorem d_AbstractStringBuilder_newCapacity_11 : decode prog_19_method_10_code 11 = .ok (.ishl, 1) := by decide +kernel
theorem d_AbstractStringBuilder_newCapacity_12 : decode prog_19_method_10_code 12 = .ok (.istore_n 3, 1) := by decide +kernel
theorem d_AbstractStringBuilder_newCapacity_13 : decode prog_19_method_10_code 13 = .ok (.iload_n 3, 1) := by decide +kernel
theorem d_AbstractStringBuilder_newCapacity_14 : decode prog_19_method_10_code 14 = .ok (.iload_n 2, 1) := by decide +kernel
theorem d_AbstractStringBuilder_newCapacity_15 : decode prog_19_method_10_code 15 = .ok (.isub, 1) := by decide +kernel
theorem d_AbstractStringBuilder_newCapacity_16 : decode prog_19_method_10_code 16 = .ok (.istore 4, 2) := by decide +kernel
theorem d_AbstractStringBuilder_newCapacity_18 : decode prog_19_method_10_code 18 = .ok (.iload_n 2, 1) := by decide +kernel
theorem d_AbstractStringBuilder_newCapacity_19 : decode prog_19_method_10_code 19 = .ok (.iload 4, 2) := by decide +kernel
theorem d_AbstractStringBuilder_newCapacity_21 : decode prog_19_method_10_code 21 = .ok (.iload_n 2, 1) := by decide +kernel
theorem d_AbstractStringBuilder_newCapacity_22 : decode prog_19_method_10_code 22 = .ok (.iconst 2, 1) := by decide +kernel
theorem d_AbstractStringBuilder_newCapacity_23 : decode prog_19_method_10_code 23 = .ok (.aload_n 0, 1) := by decide +kernel
theorem d_AbstractStringBuilder_newCapacity_24 : decode prog_19_method_10_code 24 = .ok (.getfield 22, 3) := by decide +kernel
theorem d_AbstractStringBuilder_newCapacity_27 : decode prog_19_method_10_code 27 = .ok (.ishl, 1) := by decide +kernel
theorem d_AbstractStringBuilder_newCapacity_28 : decode prog_19_method_10_code 28 = .ok (.iadd, 1) := by decide +kernel
theorem d_AbstractStringBuilder_newCapacity_29 : decode prog_19_method_10_code 29 = .ok (.invokestatic 114, 3) := by decide +kernel
theorem d_AbstractStringBuilder_newCapacity_32 : decode prog_19_method_10_code 32 = .ok (.istore 5, 2) := by decide +kernel
theorem d_AbstractStringBuilder_newCapacity_34 : decode prog_19_method_10_code 34 = .ok (.iload 5, 2) := by decide +kernel
theorem d_AbstractStringBuilder_newCapacity_36 : decode prog_19_method_10_code 36 = .ok (.ldc 39, 2) := by decide +kernel
theorem d_AbstractStringBuilder_newCapacity_38 : decode prog_19_method_10_code 38 = .ok (.if_icmp .ne 13, 3) := by decide +kernel
theorem d_AbstractStringBuilder_newCapacity_51 : decode prog_19_method_10_code 51 = .ok (.iload 5, 2) := by decide +kernel
theorem d_AbstractStringBuilder_newCapacity_53 : decode prog_19_method_10_code 53 = .ok (.aload_n 0, 1) := by decide +kernel
theorem d_AbstractStringBuilder_newCapacity_54 : decode prog_19_method_10_code 54 = .ok (.getfield 22, 3) := by decide +kernel
theorem d_AbstractStringBuilder_newCapacity_57 : decode prog_19_method_10_code 57 = .ok (.ishr, 1) := by decide +kernel
theorem d_AbstractStringBuilder_newCapacity_58 : decode prog_19_method_10_code 58 = .ok (.ireturn, 1) := by decide +kernel
def AbstractStringBuilder_newCapacity (h : g_AH) (this : Nat) (p0 : Int32) : Option (Int32) :=
  g_gR h this 17 0 fun x2 => g_nn x2 fun a5 => g_len h a5 fun x10 => g_gI h this 17 1 fun x12 => g_gI h this 17 1 fun x16 => g_b (ArraysSupport_newLength x10 ((p0 <<< (x12 &&& 31)) - x10) (x10 + ((2 : Int32) <<< (x16 &&& 31)))) fun x19 => if x19 = (2147483647 : Int32) then (none) else (g_gI h this 17 1 fun x24 => some (x19 >>> (x24 &&& 31)))
set_option maxHeartbeats 4000000 in
set_option maxRecDepth 100000 in
theorem T_AbstractStringBuilder_newCapacity {l : Launch} {B : g_B} (h : g_AH) (this : Nat) (p0 : Int32) (z : Int32) (hy : AbstractStringBuilder_newCapacity h this p0 = some z) : g_CT l B y_AbstractStringBuilder_newCapacity k_AbstractStringBuilder_newCapacity [.ref this, .int p0] h (.inl (some (.int z))) h := by
  refine g_start2 (Lc := [(0, .ref this), (1, .int p0)]) (by decide) rfl rfl (by exact Nat.le_of_ble_eq_true rfl) (by rfl) fun X => ?_
  unfold AbstractStringBuilder_newCapacity at hy
  refine g_aload_n 0 (i := 0) (pc' := 1) d_AbstractStringBuilder_newCapacity_0 rfl rfl rfl ?_
  replace hy := g_gR_inv hy
  obtain ⟨fs1, x2, hc3, hv4, hy⟩ := hy
  refine g_getf (pc' := 4) d_AbstractStringBuilder_newCapacity_1 hc3 rfl (by decide) hv4 q239 (Or.inl rfl) rfl ?_
  replace hy := g_nn_inv hy
  obtain ⟨a5, rfl, hy⟩ := hy
  replace hy := g_len_inv hy
  obtain ⟨t6, y7, hc8, ht9, hy⟩ := hy
  refine g_alen (pc' := 5) d_AbstractStringBuilder_newCapacity_4 hc8 ht9 rfl rfl ?_
  generalize Int32.ofNat y7.1 = x10 at hy ⊢
  refine g_istore_n (i := 2) (pc' := 6) (Lc' := [(2, .int x10), (0, .ref this), (1, .int p0)]) d_AbstractStringBuilder_newCapacity_5 rfl (by decide) rfl rfl ?_
  refine g_iload_n 2 (i := 1) (pc' := 7) d_AbstractStringBuilder_newCapacity_6 rfl rfl rfl ?_
  refine g_aload_n 1 (i := 0) (pc' := 8) d_AbstractStringBuilder_newCapacity_7 rfl rfl rfl ?_
  replace hy := g_gI_inv hy
  obtain ⟨fs11, x12, hc13, hv14, hy⟩ := hy
  refine g_getf (pc' := 11) d_AbstractStringBuilder_newCapacity_8 hc13 rfl (by decide) hv14 q240 (Or.inl rfl) rfl ?_
  refine g_ishl (pc' := 12) d_AbstractStringBuilder_newCapacity_11 rfl ?_
  refine g_istore_n (i := 3) (pc' := 13) (Lc' := [(3, .int (p0 <<< (x12 &&& 31))), (2, .int x10), (0, .ref this), (1, .int p0)]) d_AbstractStringBuilder_newCapacity_12 rfl (by decide) rfl rfl ?_
  refine g_iload_n 0 (i := 3) (pc' := 14) d_AbstractStringBuilder_newCapacity_13 rfl rfl rfl ?_
  refine g_iload_n 1 (i := 2) (pc' := 15) d_AbstractStringBuilder_newCapacity_14 rfl rfl rfl ?_
  refine g_isub (pc' := 16) d_AbstractStringBuilder_newCapacity_15 rfl ?_
  refine g_istore (pc' := 18) (Lc' := [(4, .int ((p0 <<< (x12 &&& 31)) - x10)), (3, .int (p0 <<< (x12 &&& 31))), (2, .int x10), (0, .ref this), (1, .int p0)]) d_AbstractStringBuilder_newCapacity_16 (by decide) rfl rfl ?_
  refine g_iload_n 2 (i := 2) (pc' := 19) d_AbstractStringBuilder_newCapacity_18 rfl rfl rfl ?_
  refine g_iload 0 (pc' := 21) d_AbstractStringBuilder_newCapacity_19 rfl rfl ?_
  refine g_iload_n 2 (i := 2) (pc' := 22) d_AbstractStringBuilder_newCapacity_21 rfl rfl rfl ?_
  refine g_iconst (v := (2 : Int32)) (pc' := 23) d_AbstractStringBuilder_newCapacity_22 (by decide) rfl ?_
  refine g_aload_n 3 (i := 0) (pc' := 24) d_AbstractStringBuilder_newCapacity_23 rfl rfl rfl ?_
  replace hy := g_gI_inv hy
  obtain ⟨fs15, x16, hc17, hv18, hy⟩ := hy
  refine g_getf (pc' := 27) d_AbstractStringBuilder_newCapacity_24 hc17 rfl (by decide) hv18 q240 (Or.inl rfl) rfl ?_
  refine g_ishl (pc' := 28) d_AbstractStringBuilder_newCapacity_27 rfl ?_
  refine g_iadd (pc' := 29) d_AbstractStringBuilder_newCapacity_28 rfl ?_
  replace hy := g_b_inv hy
  obtain ⟨x19, hf21, hy⟩ := hy
  refine g_callS (rv := some (.int x19)) (h1 := h) (pc' := 32) (As := [.int x10, .int ((p0 <<< (x12 &&& 31)) - x10), .int (x10 + ((2 : Int32) <<< (x16 &&& 31)))]) (rest := []) 3 (T_ArraysSupport_newLength (hy := hf21)) d_AbstractStringBuilder_newCapacity_29 q274 q275 q121 q276 hd_ArraysSupport_newLength rfl ⟨by decide, by decide⟩ (by first | exact Nat.le_of_ble_eq_true rfl | (simp only [List.map, List.sum_cons, List.sum_nil, g_cat_rf]; exact Nat.le_of_ble_eq_true rfl) | (simp only [List.map, List.sum_cons, List.sum_nil, g_cat_rf, Value.category]; decide)) rfl ?_
  refine g_istore (pc' := 34) (Lc' := [(5, .int x19), (4, .int ((p0 <<< (x12 &&& 31)) - x10)), (3, .int (p0 <<< (x12 &&& 31))), (2, .int x10), (0, .ref this), (1, .int p0)]) d_AbstractStringBuilder_newCapacity_32 (by decide) rfl rfl ?_
  refine g_iload 0 (pc' := 36) d_AbstractStringBuilder_newCapacity_34 rfl rfl ?_
  refine g_ldcI (pc' := 38) d_AbstractStringBuilder_newCapacity_36 q284 rfl ?_
  by_cases c22 : x19 = (2147483647 : Int32)
  · rw [if_pos c22] at hy
    refine g_icmp_neF (pc' := 41) d_AbstractStringBuilder_newCapacity_38 51 c22 (by decide) rfl ?_
    cases hy
  · rw [if_neg c22] at hy
    refine g_icmp_neT (pc' := 51) d_AbstractStringBuilder_newCapacity_38 c22 (by decide) ?_
    refine g_iload 0 (pc' := 53) d_AbstractStringBuilder_newCapacity_51 rfl rfl ?_
    refine g_aload_n 4 (i := 0) (pc' := 54) d_AbstractStringBuilder_newCapacity_53 rfl rfl rfl ?_
    replace hy := g_gI_inv hy
    obtain ⟨fs23, x24, hc25, hv26, hy⟩ := hy
    refine g_getf (pc' := 57) d_AbstractStringBuilder_newCapacity_54 hc25 rfl (by decide) hv26 q240 (Or.inl rfl) rfl ?_
    refine g_ishr (pc' := 58) d_AbstractStringBuilder_newCapacity_57 rfl ?_
    cases hy
    exact g_iret rfl rfl rfl d_AbstractStringBuilder_newCapacity_58
theorem hd_AbstractStringBuilder_newCapacity : g_dsc y_AbstractStringBuilder_newCapacity 1 := ⟨by decide +kernel, by decide +kernel, by decide +kernel⟩
/-! java/util/Arrays.copyOf([BI)[B -/
abbrev y_Arrays_copyOf0 : MethodName := ⟨"java/util/Arrays", "copyOf", "([BI)[B"⟩
abbrev k_Arrays_copyOf0 : g_M := (prog_47_method_121_code, 3, "java/util/Arrays", 13, (some (FieldType.array FieldType.byte)), "copyOf", [], 0)
theorem d_Arrays_copyOf0_0 : decode prog_47_method_121_code 0 = .ok (.iload_n 1, 1) := by decide +kernel
theorem d_Arrays_copyOf0_1 : decode prog_47_method_121_code 1 = .ok (.aload_n 0, 1) := by decide +kernel
theorem d_Arrays_copyOf0_2 : decode prog_47_method_121_code 2 = .ok (.arraylength, 1) := by decide +kernel
theorem d_Arrays_copyOf0_3 : decode prog_47_method_121_code 3 = .ok (.if_icmp .ne 11, 3) := by decide +kernel
theorem d_Arrays_copyOf0_6 : decode prog_47_method_121_code 6 = .ok (.aload_n 0, 1) := by decide +kernel
theorem d_Arrays_copyOf0_7 : decode prog_47_method_121_code 7 = .ok (.invokevirtual 310, 3) := by decide +kernel
theorem d_Arrays_copyOf0_10 : decode prog_47_method_121_code 10 = .ok (.checkcast 311, 3) := by decide +kernel
theorem d_Arrays_copyOf0_13 : decode prog_47_method_121_code 13 = .ok (.areturn, 1) := by decide +kernel
theorem d_Arrays_copyOf0_14 : decode prog_47_method_121_code 14 = .ok (.iload_n 1, 1) := by decide +kernel
theorem d_Arrays_copyOf0_15 : decode prog_47_method_121_code 15 = .ok (.newarray .byte, 2) := by decide +kernel
theorem d_Arrays_copyOf0_17 : decode prog_47_method_121_code 17 = .ok (.astore_n 2, 1) := by decide +kernel
theorem d_Arrays_copyOf0_18 : decode prog_47_method_121_code 18 = .ok (.aload_n 0, 1) := by decide +kernel
theorem d_Arrays_copyOf0_19 : decode prog_47_method_121_code 19 = .ok (.iconst 0, 1) := by decide +kernel
theorem d_Arrays_copyOf0_20 : decode prog_47_method_121_code 20 = .ok (.aload_n 2, 1) := by decide +kernel
theorem d_Arrays_copyOf0_21 : decode prog_47_method_121_code 21 = .ok (.iconst 0, 1) := by decide +kernel
theorem d_Arrays_copyOf0_22 : decode prog_47_method_121_code 22 = .ok (.aload_n 0, 1) := by decide +kernel
theorem d_Arrays_copyOf0_23 : decode prog_47_method_121_code 23 = .ok (.arraylength, 1) := by decide +kernel
theorem d_Arrays_copyOf0_24 : decode prog_47_method_121_code 24 = .ok (.iload_n 1, 1) := by decide +kernel
theorem d_Arrays_copyOf0_25 : decode prog_47_method_121_code 25 = .ok (.invokestatic 304, 3) := by decide +kernel
theorem d_Arrays_copyOf0_28 : decode prog_47_method_121_code 28 = .ok (.invokestatic 150, 3) := by decide +kernel
theorem d_Arrays_copyOf0_31 : decode prog_47_method_121_code 31 = .ok (.aload_n 2, 1) := by decide +kernel
theorem d_Arrays_copyOf0_32 : decode prog_47_method_121_code 32 = .ok (.areturn, 1) := by decide +kernel
def Arrays_copyOf0 (h : g_AH) (p0 : Option Nat) (p1 : Int32) : Option (Option Nat × g_AH) :=
  g_nn p0 fun a1 => g_len h a1 fun x6 => if p1 = x6 then (g_cl h 2 a1 fun a30 h31 => g_isA h31 2 a30 <| some ((some a30), h31)) else (g_mkA h 2 p1 fun a8 h9 => g_len h9 a1 fun x16 => g_cpB h9 a1 (0 : Int32) a8 (0 : Int32) (if p1 < x16 then p1 else x16) fun h25 => some ((some a8), h25))
set_option maxHeartbeats 4000000 in
set_option maxRecDepth 100000 in
theorem T_Arrays_copyOf0 {l : Launch} {B : g_B} (h : g_AH) (p0 : Option Nat) (p1 : Int32) (z : Option Nat × g_AH) (hy : Arrays_copyOf0 h p0 p1 = some z) : g_CT l B y_Arrays_copyOf0 k_Arrays_copyOf0 [va_rf p0, .int p1] h (.inl (some (va_rf z.1))) z.2 := by
  refine g_start2 (Lc := [(0, va_rf p0), (1, .int p1)]) (by decide) rfl rfl (by rcases p0 with _ | p0 <;> exact Nat.le_of_ble_eq_true rfl) (by rcases p0 with _ | p0 <;> rfl) fun X => ?_
  unfold Arrays_copyOf0 at hy
  refine g_iload_n 1 (i := 1) (pc' := 1) d_Arrays_copyOf0_0 rfl rfl rfl ?_
  refine g_aloadO_n 0 (i := 0) (pc' := 2) d_Arrays_copyOf0_1 rfl rfl rfl ?_
  replace hy := g_nn_inv hy
  obtain ⟨a1, rfl, hy⟩ := hy
  replace hy := g_len_inv hy
  obtain ⟨t2, y3, hc4, ht5, hy⟩ := hy
  refine g_alen (pc' := 3) d_Arrays_copyOf0_2 hc4 ht5 rfl rfl ?_
  generalize Int32.ofNat y3.1 = x6 at hy ⊢
  by_cases c7 : p1 = x6
  · rw [if_pos c7] at hy
    refine g_icmp_neF (pc' := 6) d_Arrays_copyOf0_3 14 c7 (by decide) rfl ?_
    refine g_aload_n 0 (i := 0) (pc' := 7) d_Arrays_copyOf0_6 rfl rfl rfl ?_
    replace hy := g_cl_inv hy
    obtain ⟨n26, f27, hc28, hf29, hy⟩ := hy
    refine g_clone (ty := .byte) (pc' := 10) d_Arrays_copyOf0_7 hc28 hf29 (List.mem_of_getElem? (i := 2) rfl) (fun _ => rfl) (by decide) (fun C e => by cases e) q288 q289 q292 q293 (by first | exact Nat.le_of_ble_eq_true rfl | (simp only [List.map, List.sum_cons, List.sum_nil, g_cat_rf]; exact Nat.le_of_ble_eq_true rfl) | (simp only [List.map, List.sum_cons, List.sum_nil, g_cat_rf, Value.category]; decide)) (by decide) rfl ?_
    generalize g_al h (.inl (2, n26, .inl f27)) n26 = h31 at hy ⊢
    generalize g_n h = a30 at hy ⊢
    replace hy := g_isA_inv hy
    obtain ⟨y32, hc33, hy⟩ := hy
    refine g_castA (ty := .byte) (pc' := 13) d_Arrays_copyOf0_10 hc33 q294 (fun _ => rfl) (by decide) rfl ?_
    cases hy
    refine g_stk (st' := [va_rf (some a30)]) rfl ?_
    exact g_aret rfl rfl rfl (Or.inr ⟨_, rfl⟩) d_Arrays_copyOf0_13
  · rw [if_neg c7] at hy
    refine g_icmp_neT (pc' := 14) d_Arrays_copyOf0_3 c7 (by decide) ?_
    refine g_iload_n 1 (i := 1) (pc' := 15) d_Arrays_copyOf0_14 rfl rfl rfl ?_
    replace hy := g_mkA_inv hy
    obtain ⟨hn10, hb11, hy⟩ := hy
    refine g_newa2 (pc' := 17) d_Arrays_copyOf0_15 hn10 hb11 rfl ?_
    generalize g_al h (.inl (2, (p1).toNatClampNeg, .inl (fun _ => 0))) (p1).toNatClampNeg = h9 at hy ⊢
    generalize g_n h = a8 at hy ⊢
    refine g_astore_n (i := 2) (pc' := 18) (Lc' := [(2, .ref a8), (0, .ref a1), (1, .int p1)]) d_Arrays_copyOf0_17 rfl (by decide) rfl rfl ?_
    refine g_aload_n 1 (i := 0) (pc' := 19) d_Arrays_copyOf0_18 rfl rfl rfl ?_
    refine g_iconst (v := (0 : Int32)) (pc' := 20) d_Arrays_copyOf0_19 (by decide) rfl ?_
    refine g_aload_n 0 (i := 2) (pc' := 21) d_Arrays_copyOf0_20 rfl rfl rfl ?_
    refine g_iconst (v := (0 : Int32)) (pc' := 22) d_Arrays_copyOf0_21 (by decide) rfl ?_
    refine g_aload_n 1 (i := 0) (pc' := 23) d_Arrays_copyOf0_22 rfl rfl rfl ?_
    replace hy := g_len_inv hy
    obtain ⟨t12, y13, hc14, ht15, hy⟩ := hy
    refine g_alen (pc' := 24) d_Arrays_copyOf0_23 hc14 ht15 rfl rfl ?_
    generalize Int32.ofNat y13.1 = x16 at hy ⊢
    refine g_iload_n 2 (i := 1) (pc' := 25) d_Arrays_copyOf0_24 rfl rfl rfl ?_
    refine g_mmin (pc' := 28) d_Arrays_copyOf0_25 q295 q296 q122 q297 (by first | exact Nat.le_of_ble_eq_true rfl | (simp only [List.map, List.sum_cons, List.sum_nil, g_cat_rf]; exact Nat.le_of_ble_eq_true rfl) | (simp only [List.map, List.sum_cons, List.sum_nil, g_cat_rf, Value.category]; decide)) (by decide) rfl ?_
    replace hy := g_cpB_inv hy
    obtain ⟨n17, f18, n19, g20, hc21, hc22, hr23, hf24, hy⟩ := hy
    refine g_copyB (pc' := 31) d_Arrays_copyOf0_28 q298 hc21 hc22 hr23 hf24 (by first | exact Nat.le_of_ble_eq_true rfl | (simp only [List.map, List.sum_cons, List.sum_nil, g_cat_rf]; exact Nat.le_of_ble_eq_true rfl) | (simp only [List.map, List.sum_cons, List.sum_nil, g_cat_rf, Value.category]; decide)) (by decide) rfl ?_
    generalize g_up h9 a8 (.inl (2, n19, .inl (va_cpy f18 g20 ((0 : Int32)).toNatClampNeg ((0 : Int32)).toNatClampNeg ((if p1 < x16 then p1 else x16)).toNatClampNeg))) = h25 at hy ⊢
    refine g_aload_n 0 (i := 2) (pc' := 32) d_Arrays_copyOf0_31 rfl rfl rfl ?_
    cases hy
    refine g_stk (st' := [va_rf (some a8)]) rfl ?_
    exact g_aret rfl rfl rfl (Or.inr ⟨_, rfl⟩) d_Arrays_copyOf0_32
theorem hd_Arrays_copyOf0 : g_dsc y_Arrays_copyOf0 2 := ⟨by decide +kernel, by decide +kernel, by decide +kernel⟩
/-! java/lang/AbstractStringBuilder.ensureCapacityInternal(I)V -/
abbrev y_AbstractStringBuilder_ensureCapacityInternal : MethodName := ⟨"java/lang/AbstractStringBuilder", "ensureCapacityInternal", "(I)V"⟩
abbrev k_AbstractStringBuilder_ensureCapacityInternal : g_M := (prog_19_method_9_code, 3, "java/lang/AbstractStringBuilder", 15, none, "ensureCapacityInternal", [], 0)
theorem d_AbstractStringBuilder_ensureCapacityInternal_0 : decode prog_19_method_9_code 0 = .ok (.aload_n 0, 1) := by decide +kernel
theorem d_AbstractStringBuilder_ensureCapacityInternal_1 : decode prog_19_method_9_code 1 = .ok (.getfield 15, 3) := by decide +kernel
theorem d_AbstractStringBuilder_ensureCapacityInternal_4 : decode prog_19_method_9_code 4 = .ok (.arraylength, 1) := by decide +kernel
theorem d_AbstractStringBuilder_ensureCapacityInternal_5 : decode prog_19_method_9_code 5 = .ok (.aload_n 0, 1) := by decide +kernel
theorem d_AbstractStringBuilder_ensureCapacityInternal_6 : decode prog_19_method_9_code 6 = .ok (.getfield 22, 3) := by decide +kernel
theorem d_AbstractStringBuilder_ensureCapacityInternal_9 : decode prog_19_method_9_code 9 = .ok (.ishr, 1) := by decide +kernel
theorem d_AbstractStringBuilder_ensureCapacityInternal_10 : decode prog_19_method_9_code 10 = .ok (.istore_n 2, 1) := by decide +kernel
theorem d_AbstractStringBuilder_ensureCapacityInternal_11 : decode prog_19_method_9_code 11 = .ok (.iload_n 1, 1) := by decide +kernel
theorem d_AbstractStringBuilder_ensureCapacityInternal_12 : decode prog_19_method_9_code 12 = .ok (.iload_n 2, 1) := by decide +kernel
theorem d_AbstractStringBuilder_ensureCapacityInternal_13 : decode prog_19_method_9_code 13 = .ok (.isub, 1) := by decide +kernel
theorem d_AbstractStringBuilder_ensureCapacityInternal_14 : decode prog_19_method_9_code 14 = .ok (.ifCond .le 24, 3) := by decide +kernel
theorem d_AbstractStringBuilder_ensureCapacityInternal_17 : decode prog_19_method_9_code 17 = .ok (.aload_n 0, 1) := by decide +kernel
theorem d_AbstractStringBuilder_ensureCapacityInternal_18 : decode prog_19_method_9_code 18 = .ok (.aload_n 0, 1) := by decide +kernel
theorem d_AbstractStringBuilder_ensureCapacityInternal_19 : decode prog_19_method_9_code 19 = .ok (.getfield 15, 3) := by decide +kernel
theorem d_AbstractStringBuilder_ensureCapacityInternal_22 : decode prog_19_method_9_code 22 = .ok (.aload_n 0, 1) := by decide +kernel
theorem d_AbstractStringBuilder_ensureCapacityInternal_23 : decode prog_19_method_9_code 23 = .ok (.iload_n 1, 1) := by decide +kernel
theorem d_AbstractStringBuilder_ensureCapacityInternal_24 : decode prog_19_method_9_code 24 = .ok (.invokevirtual 104, 3) := by decide +kernel
theorem d_AbstractStringBuilder_ensureCapacityInternal_27 : decode prog_19_method_9_code 27 = .ok (.aload_n 0, 1) := by decide +kernel
theorem d_AbstractStringBuilder_ensureCapacityInternal_28 : decode prog_19_method_9_code 28 = .ok (.getfield 22, 3) := by decide +kernel
theorem d_AbstractStringBuilder_ensureCapacityInternal_31 : decode prog_19_method_9_code 31 = .ok (.ishl, 1) := by decide +kernel
theorem d_AbstractStringBuilder_ensureCapacityInternal_32 : decode prog_19_method_9_code 32 = .ok (.invokestatic 108, 3) := by decide +kernel
theorem d_AbstractStringBuilder_ensureCapacityInternal_35 : decode prog_19_method_9_code 35 = .ok (.putfield 15, 3) := by decide +kernel
theorem d_AbstractStringBuilder_ensureCapacityInternal_38 : decode prog_19_method_9_code 38 = .ok (.return_, 1) := by decide +kernel
def AbstractStringBuilder_ensureCapacityInternal (h : g_AH) (this : Nat) (p0 : Int32) : Option g_AH :=
  g_gR h this 17 0 fun x2 => g_nn x2 fun a5 => g_len h a5 fun x10 => g_gI h this 17 1 fun x12 => if (p0 - (x10 >>> (x12 &&& 31))) ≤ 0 then (some h) else (g_gR h this 17 0 fun x17 => g_is h this 17 <| g_b (AbstractStringBuilder_newCapacity h this p0) fun x22 => g_gI h this 17 1 fun x26 => g_b2 (Arrays_copyOf0 h x17 (x22 <<< (x26 &&& 31))) fun x29 h30 => g_pF h30 this 17 0 (va_rf x29) fun h35 => some h35)
set_option maxHeartbeats 4000000 in
set_option maxRecDepth 100000 in
theorem T_AbstractStringBuilder_ensureCapacityInternal {l : Launch} {B : g_B} (h : g_AH) (this : Nat) (p0 : Int32) (z : g_AH) (hy : AbstractStringBuilder_ensureCapacityInternal h this p0 = some z) : g_CT l B y_AbstractStringBuilder_ensureCapacityInternal k_AbstractStringBuilder_ensureCapacityInternal [.ref this, .int p0] h (.inl none) z := by
  refine g_start2 (Lc := [(0, .ref this), (1, .int p0)]) (by decide) rfl rfl (by exact Nat.le_of_ble_eq_true rfl) (by rfl) fun X => ?_
  unfold AbstractStringBuilder_ensureCapacityInternal at hy
  refine g_aload_n 0 (i := 0) (pc' := 1) d_AbstractStringBuilder_ensureCapacityInternal_0 rfl rfl rfl ?_
  replace hy := g_gR_inv hy
  obtain ⟨fs1, x2, hc3, hv4, hy⟩ := hy
  refine g_getf (pc' := 4) d_AbstractStringBuilder_ensureCapacityInternal_1 hc3 rfl (by decide) hv4 q239 (Or.inl rfl) rfl ?_
  replace hy := g_nn_inv hy
  obtain ⟨a5, rfl, hy⟩ := hy
  replace hy := g_len_inv hy
  obtain ⟨t6, y7, hc8, ht9, hy⟩ := hy
  refine g_alen (pc' := 5) d_AbstractStringBuilder_ensureCapacityInternal_4 hc8 ht9 rfl rfl ?_
  generalize Int32.ofNat y7.1 = x10 at hy ⊢
  refine g_aload_n 0 (i := 0) (pc' := 6) d_AbstractStringBuilder_ensureCapacityInternal_5 rfl rfl rfl ?_
  replace hy := g_gI_inv hy
  obtain ⟨fs11, x12, hc13, hv14, hy⟩ := hy
  refine g_getf (pc' := 9) d_AbstractStringBuilder_ensureCapacityInternal_6 hc13 rfl (by decide) hv14 q240 (Or.inl rfl) rfl ?_
  refine g_ishr (pc' := 10) d_AbstractStringBuilder_ensureCapacityInternal_9 rfl ?_
  refine g_istore_n (i := 2) (pc' := 11) (Lc' := [(2, .int (x10 >>> (x12 &&& 31))), (0, .ref this), (1, .int p0)]) d_AbstractStringBuilder_ensureCapacityInternal_10 rfl (by decide) rfl rfl ?_
  refine g_iload_n 2 (i := 1) (pc' := 12) d_AbstractStringBuilder_ensureCapacityInternal_11 rfl rfl rfl ?_
  refine g_iload_n 0 (i := 2) (pc' := 13) d_AbstractStringBuilder_ensureCapacityInternal_12 rfl rfl rfl ?_
  refine g_isub (pc' := 14) d_AbstractStringBuilder_ensureCapacityInternal_13 rfl ?_
  by_cases c15 : (p0 - (x10 >>> (x12 &&& 31))) ≤ 0
  · rw [if_pos c15] at hy
    refine g_if_leT (pc' := 38) d_AbstractStringBuilder_ensureCapacityInternal_14 c15 (by decide) ?_
    cases hy
    exact g_vret rfl rfl rfl d_AbstractStringBuilder_ensureCapacityInternal_38
  · rw [if_neg c15] at hy
    refine g_if_leF (pc' := 17) d_AbstractStringBuilder_ensureCapacityInternal_14 38 c15 (by decide) rfl ?_
    refine g_aload_n 1 (i := 0) (pc' := 18) d_AbstractStringBuilder_ensureCapacityInternal_17 rfl rfl rfl ?_
    refine g_aload_n 1 (i := 0) (pc' := 19) d_AbstractStringBuilder_ensureCapacityInternal_18 rfl rfl rfl ?_
    replace hy := g_gR_inv hy
    obtain ⟨fs16, x17, hc18, hv19, hy⟩ := hy
    refine g_getf (pc' := 22) d_AbstractStringBuilder_ensureCapacityInternal_19 hc18 rfl (by decide) hv19 q239 (Or.inl rfl) rfl ?_
    refine g_aload_n 1 (i := 0) (pc' := 23) d_AbstractStringBuilder_ensureCapacityInternal_22 rfl rfl rfl ?_
    refine g_iload_n 2 (i := 1) (pc' := 24) d_AbstractStringBuilder_ensureCapacityInternal_23 rfl rfl rfl ?_
    replace hy := g_is_inv hy
    obtain ⟨fs20, hc21, hy⟩ := hy
    replace hy := g_b_inv hy
    obtain ⟨x22, hf24, hy⟩ := hy
    refine g_callP (y2 := ⟨"java/lang/AbstractStringBuilder", "isLatin1", "()Z"⟩) (rv := some (.int x22)) (h1 := h) (pc' := 27) (As := [.int p0]) (rest := [va_rf x17, .ref this]) 1 (T_AbstractStringBuilder_newCapacity (hy := hf24)) d_AbstractStringBuilder_ensureCapacityInternal_24 hc21 rfl q270 q2544 q271 q272 q117 q273 rfl q302 q304 hd_AbstractStringBuilder_newCapacity rfl ⟨by decide, by decide⟩ (by first | exact Nat.le_of_ble_eq_true rfl | (simp only [List.map, List.sum_cons, List.sum_nil, g_cat_rf]; exact Nat.le_of_ble_eq_true rfl) | (simp only [List.map, List.sum_cons, List.sum_nil, g_cat_rf, Value.category]; decide)) rfl ?_
    refine g_aload_n 1 (i := 0) (pc' := 28) d_AbstractStringBuilder_ensureCapacityInternal_27 rfl rfl rfl ?_
    replace hy := g_gI_inv hy
    obtain ⟨fs25, x26, hc27, hv28, hy⟩ := hy
    refine g_getf (pc' := 31) d_AbstractStringBuilder_ensureCapacityInternal_28 hc27 rfl (by decide) hv28 q240 (Or.inl rfl) rfl ?_
    refine g_ishl (pc' := 32) d_AbstractStringBuilder_ensureCapacityInternal_31 rfl ?_
    replace hy := g_b2_inv hy
    obtain ⟨x29, h30, hf31, hy⟩ := hy
    refine g_callS (rv := some (va_rf x29)) (h1 := h30) (pc' := 35) (As := [va_rf x17, .int (x22 <<< (x26 &&& 31))]) (rest := [.ref this]) 2 (T_Arrays_copyOf0 (hy := hf31)) d_AbstractStringBuilder_ensureCapacityInternal_32 q285 q286 q123 q287 hd_Arrays_copyOf0 rfl ⟨by decide, by decide⟩ (by first | exact Nat.le_of_ble_eq_true rfl | (simp only [List.map, List.sum_cons, List.sum_nil, g_cat_rf]; exact Nat.le_of_ble_eq_true rfl) | (simp only [List.map, List.sum_cons, List.sum_nil, g_cat_rf, Value.category]; decide)) rfl ?_
    replace hy := g_pF_inv hy
    obtain ⟨fs32, hc33, hl34, hy⟩ := hy
    refine g_putf (pc' := 38) d_AbstractStringBuilder_ensureCapacityInternal_35 hc33 rfl (by decide) hl34 rfl g_nar_rf g_fit_a q239 (Or.inl rfl) rfl ?_
    generalize g_up h30 this (.inr (17, fs32.set 0 (va_rf x29))) = h35 at hy ⊢
    cases hy
    exact g_vret rfl rfl rfl d_AbstractStringBuilder_ensureCapacityInternal_38
theorem hd_AbstractStringBuilder_ensureCapacityInternal : g_dsc y_AbstractStringBuilder_ensureCapacityInternal 1 := ⟨by decide +kernel, by decide +kernel, by decide +kernel⟩
/-! java/lang/AbstractStringBuilder.isLatin1()Z -/
abbrev y_AbstractStringBuilder_isLatin1 : MethodName := ⟨"java/lang/AbstractStringBuilder", "isLatin1", "()Z"⟩
abbrev k_AbstractStringBuilder_isLatin1 : g_M := (prog_19_method_68_code, 1, "java/lang/AbstractStringBuilder", 12, (some FieldType.boolean), "isLatin1", [], 0)
theorem d_AbstractStringBuilder_isLatin1_0 : decode prog_19_method_68_code 0 = .ok (.getstatic 18, 3) := by decide +kernel
theorem d_AbstractStringBuilder_isLatin1_3 : decode prog_19_method_68_code 3 = .ok (.ifCond .eq 14, 3) := by decide +kernel
theorem d_AbstractStringBuilder_isLatin1_6 : decode prog_19_method_68_code 6 = .ok (.aload_n 0, 1) := by decide +kernel
theorem d_AbstractStringBuilder_isLatin1_7 : decode prog_19_method_68_code 7 = .ok (.getfield 22, 3) := by decide +kernel
theorem d_AbstractStringBuilder_isLatin1_10 : decode prog_19_method_68_code 10 = .ok (.ifCond .ne 7, 3) := by decide +kernel
theorem d_AbstractStringBuilder_isLatin1_13 : decode prog_19_method_68_code 13 = .ok (.iconst 1, 1) := by decide +kernel
theorem d_AbstractStringBuilder_isLatin1_14 : decode prog_19_method_68_code 14 = .ok (.goto 4, 3) := by decide +kernel
theorem d_AbstractStringBuilder_isLatin1_17 : decode prog_19_method_68_code 17 = .ok (.iconst 0, 1) := by decide +kernel
theorem d_AbstractStringBuilder_isLatin1_18 : decode prog_19_method_68_code 18 = .ok (.ireturn, 1) := by decide +kernel
def AbstractStringBuilder_isLatin1 (h : g_AH) (this : Nat) : Option (Int32) :=
  if (1 : Int32) = 0 then (some (0 : Int32)) else (g_gI h this 17 1 fun x4 => if x4 = 0 then (some (1 : Int32)) else (some (0 : Int32)))
set_option maxHeartbeats 4000000 in
set_option maxRecDepth 100000 in
theorem T_AbstractStringBuilder_isLatin1 {l : Launch} {B : g_B} (h : g_AH) (this : Nat) (z : Int32) (hy : AbstractStringBuilder_isLatin1 h this = some z) : g_CT l B y_AbstractStringBuilder_isLatin1 k_AbstractStringBuilder_isLatin1 [.ref this] h (.inl (some (.int z))) h := by
  refine g_start2 (Lc := [(0, .ref this)]) (by decide) rfl rfl (by exact Nat.le_of_ble_eq_true rfl) (by rfl) fun X => ?_
  unfold AbstractStringBuilder_isLatin1 at hy
  refine g_compact (pc' := 3) d_AbstractStringBuilder_isLatin1_0 q230 rfl ?_
  by_cases c1 : (1 : Int32) = 0
  · rw [if_pos c1] at hy
    refine g_if_eqT (pc' := 17) d_AbstractStringBuilder_isLatin1_3 c1 (by decide) ?_
    refine g_iconst (v := (0 : Int32)) (pc' := 18) d_AbstractStringBuilder_isLatin1_17 (by decide) rfl ?_
    cases hy
    exact g_zret rfl rfl rfl (g_nar_z (Or.inl rfl)).1 d_AbstractStringBuilder_isLatin1_18
  · rw [if_neg c1] at hy
    refine g_if_eqF (pc' := 6) d_AbstractStringBuilder_isLatin1_3 17 c1 (by decide) rfl ?_
    refine g_aload_n 0 (i := 0) (pc' := 7) d_AbstractStringBuilder_isLatin1_6 rfl rfl rfl ?_
    replace hy := g_gI_inv hy
    obtain ⟨fs3, x4, hc5, hv6, hy⟩ := hy
    refine g_getf (pc' := 10) d_AbstractStringBuilder_isLatin1_7 hc5 rfl (by decide) hv6 q240 (Or.inl rfl) rfl ?_
    by_cases c7 : x4 = 0
    · rw [if_pos c7] at hy
      refine g_if_neF (pc' := 13) d_AbstractStringBuilder_isLatin1_10 17 c7 (by decide) rfl ?_
      refine g_iconst (v := (1 : Int32)) (pc' := 14) d_AbstractStringBuilder_isLatin1_13 (by decide) rfl ?_
      refine g_goto (pc' := 18) d_AbstractStringBuilder_isLatin1_14 (by decide) ?_
      cases hy
      exact g_zret rfl rfl rfl (g_nar_z (Or.inr rfl)).1 d_AbstractStringBuilder_isLatin1_18
    · rw [if_neg c7] at hy
      refine g_if_neT (pc' := 17) d_AbstractStringBuilder_isLatin1_10 c7 (by decide) ?_
      refine g_iconst (v := (0 : Int32)) (pc' := 18) d_AbstractStringBuilder_isLatin1_17 (by decide) rfl ?_
      cases hy
      exact g_zret rfl rfl rfl (g_nar_z (Or.inl rfl)).1 d_AbstractStringBuilder_isLatin1_18
theorem hd_AbstractStringBuilder_isLatin1 : g_dsc y_AbstractStringBuilder_isLatin1 0 := ⟨by decide +kernel, by decide +kernel, by decide +kernel⟩
/-! java/lang/StringUTF16.length([B)I -/
abbrev y_StringUTF16_length : MethodName := ⟨"java/lang/StringUTF16", "length", "([B)I"⟩
abbrev k_StringUTF16_length : g_M := (prog_37_method_6_code, 1, "java/lang/StringUTF16", 12, (some FieldType.int), "length", [], 0)
theorem d_StringUTF16_length_0 : decode prog_37_method_6_code 0 = .ok (.aload_n 0, 1) := by decide +kernel
theorem d_StringUTF16_length_1 : decode prog_37_method_6_code 1 = .ok (.arraylength, 1) := by decide +kernel
theorem d_StringUTF16_length_2 : decode prog_37_method_6_code 2 = .ok (.iconst 1, 1) := by decide +kernel
theorem d_StringUTF16_length_3 : decode prog_37_method_6_code 3 = .ok (.ishr, 1) := by decide +kernel
theorem d_StringUTF16_length_4 : decode prog_37_method_6_code 4 = .ok (.ireturn, 1) := by decide +kernel
def StringUTF16_length (h : g_AH) (p0 : Option Nat) : Option (Int32) :=
  g_nn p0 fun a1 => g_len h a1 fun x6 => some (x6 >>> ((1 : Int32) &&& 31))
set_option maxHeartbeats 4000000 in
set_option maxRecDepth 100000 in
theorem T_StringUTF16_length {l : Launch} {B : g_B} (h : g_AH) (p0 : Option Nat) (z : Int32) (hy : StringUTF16_length h p0 = some z) : g_CT l B y_StringUTF16_length k_StringUTF16_length [va_rf p0] h (.inl (some (.int z))) h := by
  refine g_start2 (Lc := [(0, va_rf p0)]) (by decide) rfl rfl (by rcases p0 with _ | p0 <;> exact Nat.le_of_ble_eq_true rfl) (by rcases p0 with _ | p0 <;> rfl) fun X => ?_
  unfold StringUTF16_length at hy
  refine g_aloadO_n 0 (i := 0) (pc' := 1) d_StringUTF16_length_0 rfl rfl rfl ?_
  replace hy := g_nn_inv hy
  obtain ⟨a1, rfl, hy⟩ := hy
  replace hy := g_len_inv hy
  obtain ⟨t2, y3, hc4, ht5, hy⟩ := hy
  refine g_alen (pc' := 2) d_StringUTF16_length_1 hc4 ht5 rfl rfl ?_
  generalize Int32.ofNat y3.1 = x6 at hy ⊢
  refine g_iconst (v := (1 : Int32)) (pc' := 3) d_StringUTF16_length_2 (by decide) rfl ?_
  refine g_ishr (pc' := 4) d_StringUTF16_length_3 rfl ?_
  cases hy
  exact g_iret rfl rfl rfl d_StringUTF16_length_4
theorem hd_StringUTF16_length : g_dsc y_StringUTF16_length 1 := ⟨by decide +kernel, by decide +kernel, by decide +kernel⟩
/-! jdk/internal/util/Preconditions.checkFromToIndex(IIILjava/util/function/BiFunction;)I -/
abbrev y_Preconditions_checkFromToIndex : MethodName := ⟨"jdk/internal/util/Preconditions", "checkFromToIndex", "(IIILjava/util/function/BiFunction;)I"⟩
abbrev k_Preconditions_checkFromToIndex : g_M := (prog_56_method_12_code, 4, "jdk/internal/util/Preconditions", 12, (some FieldType.int), "checkFromToIndex", [], 0)
theorem d_Preconditions_checkFromToIndex_0 : decode prog_56_method_12_code 0 = .ok (.iload_n 0, 1) := by decide +kernel
theorem d_Preconditions_checkFromToIndex_1 : decode prog_56_method_12_code 1 = .ok (.ifCond .lt 13, 3) := by decide +kernel
theorem d_Preconditions_checkFromToIndex_4 : decode prog_56_method_12_code 4 = .ok (.iload_n 0, 1) := by decide +kernel
theorem d_Preconditions_checkFromToIndex_5 : decode prog_56_method_12_code 5 = .ok (.iload_n 1, 1) := by decide +kernel
theorem d_Preconditions_checkFromToIndex_6 : decode prog_56_method_12_code 6 = .ok (.if_icmp .gt 8, 3) := by decide +kernel
theorem d_Preconditions_checkFromToIndex_9 : decode prog_56_method_12_code 9 = .ok (.iload_n 1, 1) := by decide +kernel
theorem d_Preconditions_checkFromToIndex_10 : decode prog_56_method_12_code 10 = .ok (.iload_n 2, 1) := by decide +kernel
theorem d_Preconditions_checkFromToIndex_11 : decode prog_56_method_12_code 11 = .ok (.if_icmp .le 11, 3) := by decide +kernel
theorem d_Preconditions_checkFromToIndex_22 : decode prog_56_method_12_code 22 = .ok (.iload_n 0, 1) := by decide +kernel
theorem d_Preconditions_checkFromToIndex_23 : decode prog_56_method_12_code 23 = .ok (.ireturn, 1) := by decide +kernel
def Preconditions_checkFromToIndex (p0 : Int32) (p1 : Int32) (p2 : Int32) (p3 : Option Nat) : Option (Int32) :=
  if p0 < 0 then (none) else (if p1 < p0 then (none) else (if p1 ≤ p2 then (some p0) else (none)))
set_option maxHeartbeats 4000000 in
set_option maxRecDepth 100000 in
theorem T_Preconditions_checkFromToIndex {l : Launch} {B : g_B} {h : g_AH} (p0 : Int32) (p1 : Int32) (p2 : Int32) (p3 : Option Nat) (z : Int32) (hy : Preconditions_checkFromToIndex p0 p1 p2 p3 = some z) : g_CT l B y_Preconditions_checkFromToIndex k_Preconditions_checkFromToIndex [.int p0, .int p1, .int p2, va_rf p3] h (.inl (some (.int z))) h := by
  refine g_start2 (Lc := [(0, .int p0), (1, .int p1), (2, .int p2), (3, va_rf p3)]) (by decide) rfl rfl (by rcases p3 with _ | p3 <;> exact Nat.le_of_ble_eq_true rfl) (by rcases p3 with _ | p3 <;> rfl) fun X => ?_
  unfold Preconditions_checkFromToIndex at hy
  refine g_iload_n 0 (i := 0) (pc' := 1) d_Preconditions_checkFromToIndex_0 rfl rfl rfl ?_
  by_cases c1 : p0 < 0
  · rw [if_pos c1] at hy
    refine g_if_ltT (pc' := 14) d_Preconditions_checkFromToIndex_1 c1 (by decide) ?_
    cases hy
  · rw [if_neg c1] at hy
    refine g_if_ltF (pc' := 4) d_Preconditions_checkFromToIndex_1 14 c1 (by decide) rfl ?_
    refine g_iload_n 0 (i := 0) (pc' := 5) d_Preconditions_checkFromToIndex_4 rfl rfl rfl ?_
    refine g_iload_n 1 (i := 1) (pc' := 6) d_Preconditions_checkFromToIndex_5 rfl rfl rfl ?_
    by_cases c2 : p1 < p0
    · rw [if_pos c2] at hy
      refine g_icmp_gtT (pc' := 14) d_Preconditions_checkFromToIndex_6 c2 (by decide) ?_
      cases hy
    · rw [if_neg c2] at hy
      refine g_icmp_gtF (pc' := 9) d_Preconditions_checkFromToIndex_6 14 c2 (by decide) rfl ?_
      refine g_iload_n 1 (i := 1) (pc' := 10) d_Preconditions_checkFromToIndex_9 rfl rfl rfl ?_
      refine g_iload_n 2 (i := 2) (pc' := 11) d_Preconditions_checkFromToIndex_10 rfl rfl rfl ?_
      by_cases c3 : p1 ≤ p2
      · rw [if_pos c3] at hy
        refine g_icmp_leT (pc' := 22) d_Preconditions_checkFromToIndex_11 c3 (by decide) ?_
        refine g_iload_n 0 (i := 0) (pc' := 23) d_Preconditions_checkFromToIndex_22 rfl rfl rfl ?_
        cases hy
        exact g_iret rfl rfl rfl d_Preconditions_checkFromToIndex_23
      · rw [if_neg c3] at hy
        refine g_icmp_leF (pc' := 14) d_Preconditions_checkFromToIndex_11 22 c3 (by decide) rfl ?_
        cases hy
theorem hd_Preconditions_checkFromToIndex : g_dsc y_Preconditions_checkFromToIndex 4 := ⟨by decide +kernel, by decide +kernel, by decide +kernel⟩
