/-! CircuitDesk.way(IZII)I -/
abbrev y_Desk_way : MethodName := ⟨"CircuitDesk", "way", "(IZII)I"⟩
abbrev k_Desk_way : g_M := (prog_1_method_38_code, 7, "CircuitDesk", 19, (some FieldType.int), "way", [], 0)
theorem d_Desk_way_0 : decode prog_1_method_38_code 0 = .ok (.aload_n 0, 1) := by decide +kernel
theorem d_Desk_way_1 : decode prog_1_method_38_code 1 = .ok (.iload_n 1, 1) := by decide +kernel
theorem d_Desk_way_2 : decode prog_1_method_38_code 2 = .ok (.invokevirtual 263, 3) := by decide +kernel
theorem d_Desk_way_5 : decode prog_1_method_38_code 5 = .ok (.astore 5, 2) := by decide +kernel
theorem d_Desk_way_7 : decode prog_1_method_38_code 7 = .ok (.iload_n 3, 1) := by decide +kernel
theorem d_Desk_way_8 : decode prog_1_method_38_code 8 = .ok (.ifCond .lt 7, 3) := by decide +kernel
theorem d_Desk_way_11 : decode prog_1_method_38_code 11 = .ok (.iconst 1, 1) := by decide +kernel
theorem d_Desk_way_12 : decode prog_1_method_38_code 12 = .ok (.goto 4, 3) := by decide +kernel
theorem d_Desk_way_15 : decode prog_1_method_38_code 15 = .ok (.iconst 0, 1) := by decide +kernel
theorem d_Desk_way_16 : decode prog_1_method_38_code 16 = .ok (.invokestatic 58, 3) := by decide +kernel
theorem d_Desk_way_19 : decode prog_1_method_38_code 19 = .ok (.iload 4, 2) := by decide +kernel
theorem d_Desk_way_21 : decode prog_1_method_38_code 21 = .ok (.i2l, 1) := by decide +kernel
theorem d_Desk_way_22 : decode prog_1_method_38_code 22 = .ok (.lconst 0, 1) := by decide +kernel
theorem d_Desk_way_23 : decode prog_1_method_38_code 23 = .ok (.ldc2_w 341, 3) := by decide +kernel
theorem d_Desk_way_26 : decode prog_1_method_38_code 26 = .ok (.invokestatic 54, 3) := by decide +kernel
theorem d_Desk_way_29 : decode prog_1_method_38_code 29 = .ok (.invokestatic 80, 3) := by decide +kernel
theorem d_Desk_way_32 : decode prog_1_method_38_code 32 = .ok (.aload 5, 2) := by decide +kernel
theorem d_Desk_way_34 : decode prog_1_method_38_code 34 = .ok (.iload_n 2, 1) := by decide +kernel
theorem d_Desk_way_35 : decode prog_1_method_38_code 35 = .ok (.invokevirtual 343, 3) := by decide +kernel
theorem d_Desk_way_38 : decode prog_1_method_38_code 38 = .ok (.astore 6, 2) := by decide +kernel
theorem d_Desk_way_40 : decode prog_1_method_38_code 40 = .ok (.aload 6, 2) := by decide +kernel
theorem d_Desk_way_42 : decode prog_1_method_38_code 42 = .ok (.ifnull 12, 3) := by decide +kernel
theorem d_Desk_way_45 : decode prog_1_method_38_code 45 = .ok (.iload_n 3, 1) := by decide +kernel
theorem d_Desk_way_46 : decode prog_1_method_38_code 46 = .ok (.aload 6, 2) := by decide +kernel
theorem d_Desk_way_48 : decode prog_1_method_38_code 48 = .ok (.getfield 186, 3) := by decide +kernel
theorem d_Desk_way_51 : decode prog_1_method_38_code 51 = .ok (.if_icmp .lt 5, 3) := by decide +kernel
theorem d_Desk_way_54 : decode prog_1_method_38_code 54 = .ok (.iconst (-1), 1) := by decide +kernel
theorem d_Desk_way_55 : decode prog_1_method_38_code 55 = .ok (.ireturn, 1) := by decide +kernel
theorem d_Desk_way_56 : decode prog_1_method_38_code 56 = .ok (.iload 4, 2) := by decide +kernel
theorem d_Desk_way_58 : decode prog_1_method_38_code 58 = .ok (.ifCond .ne 13, 3) := by decide +kernel
theorem d_Desk_way_61 : decode prog_1_method_38_code 61 = .ok (.aload 6, 2) := by decide +kernel
theorem d_Desk_way_63 : decode prog_1_method_38_code 63 = .ok (.getfield 257, 3) := by decide +kernel
theorem d_Desk_way_66 : decode prog_1_method_38_code 66 = .ok (.iload_n 3, 1) := by decide +kernel
theorem d_Desk_way_67 : decode prog_1_method_38_code 67 = .ok (.iaload, 1) := by decide +kernel
theorem d_Desk_way_68 : decode prog_1_method_38_code 68 = .ok (.goto 26, 3) := by decide +kernel
theorem d_Desk_way_71 : decode prog_1_method_38_code 71 = .ok (.iload 4, 2) := by decide +kernel
theorem d_Desk_way_73 : decode prog_1_method_38_code 73 = .ok (.iconst 1, 1) := by decide +kernel
theorem d_Desk_way_74 : decode prog_1_method_38_code 74 = .ok (.if_icmp .ne 13, 3) := by decide +kernel
theorem d_Desk_way_77 : decode prog_1_method_38_code 77 = .ok (.aload 6, 2) := by decide +kernel
theorem d_Desk_way_79 : decode prog_1_method_38_code 79 = .ok (.getfield 347, 3) := by decide +kernel
theorem d_Desk_way_82 : decode prog_1_method_38_code 82 = .ok (.iload_n 3, 1) := by decide +kernel
theorem d_Desk_way_83 : decode prog_1_method_38_code 83 = .ok (.iaload, 1) := by decide +kernel
theorem d_Desk_way_84 : decode prog_1_method_38_code 84 = .ok (.goto 10, 3) := by decide +kernel
theorem d_Desk_way_87 : decode prog_1_method_38_code 87 = .ok (.aload 6, 2) := by decide +kernel
theorem d_Desk_way_89 : decode prog_1_method_38_code 89 = .ok (.getfield 350, 3) := by decide +kernel
theorem d_Desk_way_92 : decode prog_1_method_38_code 92 = .ok (.iload_n 3, 1) := by decide +kernel
theorem d_Desk_way_93 : decode prog_1_method_38_code 93 = .ok (.iaload, 1) := by decide +kernel
theorem d_Desk_way_94 : decode prog_1_method_38_code 94 = .ok (.ireturn, 1) := by decide +kernel
def Desk_way_16 (h : g_AH) (v2 : Int32) (v3 : Int32) (v4 : Int32) (v5 : Option Nat) (s0 : Int32) : Option ((Int32 ⊕ g_EX) × g_AH) :=
  g_bx (Desk_checkIndex h s0) fun x9 h10 => g_b (Desk_isBetween ((v4).toInt64) (0 : Int64) (2 : Int64)) fun x14 => g_bx (Desk_checkArgument h10 x14) fun x17 h18 => g_nn v5 fun a22 => g_is h18 a22 12 <| g_b (Circuit_of h18 a22 v2) fun x25 => if x25 = none then (some (.inl (-1 : Int32), h18)) else (g_nn x25 fun a29 => g_gI h18 a29 6 3 fun x31 => if v3 < x31 then (if v4 = 0 then (g_gR h18 a29 6 0 fun x58 => g_nn x58 fun a61 => g_aI h18 0 a61 v3 fun x62 => some (.inl x62, h18)) else (if v4 = (1 : Int32) then (g_gR h18 a29 6 1 fun x48 => g_nn x48 fun a51 => g_aI h18 0 a51 v3 fun x52 => some (.inl x52, h18)) else (g_gR h18 a29 6 2 fun x38 => g_nn x38 fun a41 => g_aI h18 0 a41 v3 fun x42 => some (.inl x42, h18)))) else (some (.inl (-1 : Int32), h18)))
set_option maxHeartbeats 4000000 in
set_option maxRecDepth 100000 in
theorem W_Desk_way_16 {X : g_X} (z : (Int32 ⊕ g_EX) × g_AH) (h : g_AH) (v2 : Int32) (v3 : Int32) (v4 : Int32) (v5 : Option Nat) (s0 : Int32) (hy : Desk_way_16  h v2 v3 v4 v5 s0 = some z) : G X k_Desk_way (g_rI z.1) z.2 h 16 [(2, .int v2), (3, .int v3), (4, .int v4), (5, va_rf v5)] [.int s0] := by
  unfold Desk_way_16 at hy
  replace hy := g_bx_inv hy
  rcases hy with ⟨x9, h10, hf11, hy⟩ | ⟨⟨E9, q9⟩, h10, hf11, ez13⟩
  rotate_left
  · subst ez13
    exact g_callSX (As := [.int s0]) (rest := []) 1 (T_Desk_checkIndex (hy := hf11)) d_Desk_way_16 q1380 q1381 q108 q1382 hd_Desk_checkIndex rfl ⟨by decide, by decide⟩ (by first | exact Nat.le_of_ble_eq_true rfl | (simp only [List.map, List.sum_cons, List.sum_nil, g_cat_rf]; exact Nat.le_of_ble_eq_true rfl) | (simp only [List.map, List.sum_cons, List.sum_nil, g_cat_rf, Value.category]; decide)) rfl rfl
  refine g_callS (rv := none) (h1 := h10) (pc' := 19) (As := [.int s0]) (rest := []) 1 (T_Desk_checkIndex (hy := hf11)) d_Desk_way_16 q1380 q1381 q108 q1382 hd_Desk_checkIndex rfl ⟨by decide, by decide⟩ (by first | exact Nat.le_of_ble_eq_true rfl | (simp only [List.map, List.sum_cons, List.sum_nil, g_cat_rf]; exact Nat.le_of_ble_eq_true rfl) | (simp only [List.map, List.sum_cons, List.sum_nil, g_cat_rf, Value.category]; decide)) rfl ?_
  refine g_iload 2 (pc' := 21) d_Desk_way_19 rfl rfl ?_
  refine g_i2l (pc' := 22) d_Desk_way_21 rfl ?_
  refine g_lconst (v := 0) (pc' := 23) d_Desk_way_22 (by decide) rfl ?_
  refine g_ldc2 (pc' := 26) d_Desk_way_23 q1861 rfl ?_
  replace hy := g_b_inv hy
  obtain ⟨x14, hf16, hy⟩ := hy
  refine g_callS (rv := some (.int x14)) (h1 := h10) (pc' := 29) (As := [.long ((v4).toInt64), .long (0 : Int64), .long (2 : Int64)]) (rest := []) 3 (T_Desk_isBetween (hy := hf16)) d_Desk_way_26 q1330 q828 q108 q829 hd_Desk_isBetween rfl ⟨by decide, by decide⟩ (by first | exact Nat.le_of_ble_eq_true rfl | (simp only [List.map, List.sum_cons, List.sum_nil, g_cat_rf]; exact Nat.le_of_ble_eq_true rfl) | (simp only [List.map, List.sum_cons, List.sum_nil, g_cat_rf, Value.category]; decide)) rfl ?_
  replace hy := g_bx_inv hy
  rcases hy with ⟨x17, h18, hf19, hy⟩ | ⟨⟨E9, q9⟩, h18, hf19, ez21⟩
  rotate_left
  · subst ez21
    exact g_callSX (As := [.int x14]) (rest := []) 1 (T_Desk_checkArgument (hy := hf19)) d_Desk_way_29 q1331 q1332 q108 q1333 hd_Desk_checkArgument rfl ⟨by decide, by decide⟩ (by first | exact Nat.le_of_ble_eq_true rfl | (simp only [List.map, List.sum_cons, List.sum_nil, g_cat_rf]; exact Nat.le_of_ble_eq_true rfl) | (simp only [List.map, List.sum_cons, List.sum_nil, g_cat_rf, Value.category]; decide)) rfl rfl
  refine g_callS (rv := none) (h1 := h18) (pc' := 32) (As := [.int x14]) (rest := []) 1 (T_Desk_checkArgument (hy := hf19)) d_Desk_way_29 q1331 q1332 q108 q1333 hd_Desk_checkArgument rfl ⟨by decide, by decide⟩ (by first | exact Nat.le_of_ble_eq_true rfl | (simp only [List.map, List.sum_cons, List.sum_nil, g_cat_rf]; exact Nat.le_of_ble_eq_true rfl) | (simp only [List.map, List.sum_cons, List.sum_nil, g_cat_rf, Value.category]; decide)) rfl ?_
  refine g_aloadO 3 (pc' := 34) d_Desk_way_32 rfl rfl ?_
  refine g_iload_n 0 (i := 2) (pc' := 35) d_Desk_way_34 rfl rfl rfl ?_
  replace hy := g_nn_inv hy
  obtain ⟨a22, rfl, hy⟩ := hy
  replace hy := g_is_inv hy
  obtain ⟨fs23, hc24, hy⟩ := hy
  replace hy := g_b_inv hy
  obtain ⟨x25, hf27, hy⟩ := hy
  refine g_callV (rv := some (va_rf x25)) (h1 := h18) (pc' := 38) (As := [.int v2]) (rest := []) 1 (T_Circuit_of (hy := hf27)) d_Desk_way_35 hc24 rfl rfl q1862 q1735 q1736 q142 q1737 hd_Circuit_of rfl ⟨by decide, by decide⟩ (by first | exact Nat.le_of_ble_eq_true rfl | (simp only [List.map, List.sum_cons, List.sum_nil, g_cat_rf]; exact Nat.le_of_ble_eq_true rfl) | (simp only [List.map, List.sum_cons, List.sum_nil, g_cat_rf, Value.category]; decide)) rfl ?_
  refine g_astoreO (pc' := 40) (Lc' := [(6, va_rf x25), (2, .int v2), (3, .int v3), (4, .int v4), (5, .ref a22)]) d_Desk_way_38 (by decide) rfl rfl ?_
  refine g_aloadO 0 (pc' := 42) d_Desk_way_40 rfl rfl ?_
  by_cases c28 : x25 = none
  · rw [if_pos c28] at hy
    refine g_ifnullT (pc' := 54) d_Desk_way_42 c28 (by decide) ?_
    refine g_iconst (v := (-1 : Int32)) (pc' := 55) d_Desk_way_54 (by decide) rfl ?_
    cases hy
    exact g_iret rfl rfl rfl d_Desk_way_55
  · rw [if_neg c28] at hy
    refine g_ifnullF (pc' := 45) d_Desk_way_42 c28 rfl ?_
    refine g_iload_n 2 (i := 3) (pc' := 46) d_Desk_way_45 rfl rfl rfl ?_
    refine g_aloadO 0 (pc' := 48) d_Desk_way_46 rfl rfl ?_
    replace hy := g_nn_inv hy
    obtain ⟨a29, rfl, hy⟩ := hy
    replace hy := g_gI_inv hy
    obtain ⟨fs30, x31, hc32, hv33, hy⟩ := hy
    refine g_getfN (pc' := 51) d_Desk_way_48 hc32 rfl (by decide) hv33 q631 rfl rfl ?_
    by_cases c34 : v3 < x31
    · rw [if_pos c34] at hy
      refine g_icmp_ltT (pc' := 56) d_Desk_way_51 c34 (by decide) ?_
      refine g_iload 3 (pc' := 58) d_Desk_way_56 rfl rfl ?_
      by_cases c35 : v4 = 0
      · rw [if_pos c35] at hy
        refine g_if_neF (pc' := 61) d_Desk_way_58 71 c35 (by decide) rfl ?_
        refine g_aload 0 (pc' := 63) d_Desk_way_61 rfl rfl ?_
        replace hy := g_gR_inv hy
        obtain ⟨fs57, x58, hc59, hv60, hy⟩ := hy
        refine g_getfN (pc' := 66) d_Desk_way_63 hc59 rfl (by decide) hv60 q618 rfl rfl ?_
        refine g_iload_n 2 (i := 3) (pc' := 67) d_Desk_way_66 rfl rfl rfl ?_
        replace hy := g_nn_inv hy
        obtain ⟨a61, rfl, hy⟩ := hy
        replace hy := g_aI_inv hy
        obtain ⟨n63, f64, hc65, hi66, hy⟩ := hy
        refine g_iald (pc' := 68) d_Desk_way_67 hc65 hi66 rfl ?_
        generalize f64 (v3).toNatClampNeg = x62 at hy ⊢
        refine g_goto (pc' := 94) d_Desk_way_68 (by decide) ?_
        cases hy
        exact g_iret rfl rfl rfl d_Desk_way_94
      · rw [if_neg c35] at hy
        refine g_if_neT (pc' := 71) d_Desk_way_58 c35 (by decide) ?_
        refine g_iload 3 (pc' := 73) d_Desk_way_71 rfl rfl ?_
        refine g_iconst (v := (1 : Int32)) (pc' := 74) d_Desk_way_73 (by decide) rfl ?_
        by_cases c36 : v4 = (1 : Int32)
        · rw [if_pos c36] at hy
          refine g_icmp_neF (pc' := 77) d_Desk_way_74 87 c36 (by decide) rfl ?_
          refine g_aload 0 (pc' := 79) d_Desk_way_77 rfl rfl ?_
          replace hy := g_gR_inv hy
          obtain ⟨fs47, x48, hc49, hv50, hy⟩ := hy
          refine g_getfN (pc' := 82) d_Desk_way_79 hc49 rfl (by decide) hv50 q621 rfl rfl ?_
          refine g_iload_n 2 (i := 3) (pc' := 83) d_Desk_way_82 rfl rfl rfl ?_
          replace hy := g_nn_inv hy
          obtain ⟨a51, rfl, hy⟩ := hy
          replace hy := g_aI_inv hy
          obtain ⟨n53, f54, hc55, hi56, hy⟩ := hy
          refine g_iald (pc' := 84) d_Desk_way_83 hc55 hi56 rfl ?_
          generalize f54 (v3).toNatClampNeg = x52 at hy ⊢
          refine g_goto (pc' := 94) d_Desk_way_84 (by decide) ?_
          cases hy
          exact g_iret rfl rfl rfl d_Desk_way_94
        · rw [if_neg c36] at hy
          refine g_icmp_neT (pc' := 87) d_Desk_way_74 c36 (by decide) ?_
          refine g_aload 0 (pc' := 89) d_Desk_way_87 rfl rfl ?_
          replace hy := g_gR_inv hy
          obtain ⟨fs37, x38, hc39, hv40, hy⟩ := hy
          refine g_getfN (pc' := 92) d_Desk_way_89 hc39 rfl (by decide) hv40 q624 rfl rfl ?_
          refine g_iload_n 2 (i := 3) (pc' := 93) d_Desk_way_92 rfl rfl rfl ?_
          replace hy := g_nn_inv hy
          obtain ⟨a41, rfl, hy⟩ := hy
          replace hy := g_aI_inv hy
          obtain ⟨n43, f44, hc45, hi46, hy⟩ := hy
          refine g_iald (pc' := 94) d_Desk_way_93 hc45 hi46 rfl ?_
          generalize f44 (v3).toNatClampNeg = x42 at hy ⊢
          cases hy
          exact g_iret rfl rfl rfl d_Desk_way_94
    · rw [if_neg c34] at hy
      refine g_icmp_ltF (pc' := 54) d_Desk_way_51 56 c34 (by decide) rfl ?_
      refine g_iconst (v := (-1 : Int32)) (pc' := 55) d_Desk_way_54 (by decide) rfl ?_
      cases hy
      exact g_iret rfl rfl rfl d_Desk_way_55
def Desk_way (h : g_AH) (this : Nat) (p0 : Int32) (p1 : Int32) (p2 : Int32) (p3 : Int32) : Option ((Int32 ⊕ g_EX) × g_AH) :=
  g_is h this 0 <| g_bx (Desk_circuitOf h this p0) fun x3 h4 => if p2 < 0 then (Desk_way_16  h4 p1 p2 p3 x3 (0 : Int32)) else (Desk_way_16  h4 p1 p2 p3 x3 (1 : Int32))
set_option maxHeartbeats 4000000 in
set_option maxRecDepth 100000 in
theorem T_Desk_way {l : Launch} {B : g_B} (h : g_AH) (this : Nat) (p0 : Int32) (p1 : Int32) (p2 : Int32) (p3 : Int32) (z : (Int32 ⊕ g_EX) × g_AH) (hy : Desk_way h this p0 p1 p2 p3 = some z) : g_CT l B y_Desk_way k_Desk_way [.ref this, .int p0, .int p1, .int p2, .int p3] h (g_rI z.1) z.2 := by
  refine g_start2 (Lc := [(0, .ref this), (1, .int p0), (2, .int p1), (3, .int p2), (4, .int p3)]) (by decide) rfl rfl (by exact Nat.le_of_ble_eq_true rfl) (by rfl) fun X => ?_
  unfold Desk_way at hy
  refine g_aload_n 0 (i := 0) (pc' := 1) d_Desk_way_0 rfl rfl rfl ?_
  refine g_iload_n 1 (i := 1) (pc' := 2) d_Desk_way_1 rfl rfl rfl ?_
  replace hy := g_is_inv hy
  obtain ⟨fs1, hc2, hy⟩ := hy
  replace hy := g_bx_inv hy
  rcases hy with ⟨x3, h4, hf5, hy⟩ | ⟨⟨E9, q9⟩, h4, hf5, ez7⟩
  rotate_left
  · subst ez7
    exact g_callVX (As := [.int p0]) (rest := []) 1 (T_Desk_circuitOf (hy := hf5)) d_Desk_way_2 hc2 rfl rfl q1631 q1633 qs22 q108 q1634 hd_Desk_circuitOf rfl ⟨by decide, by decide⟩ (by first | exact Nat.le_of_ble_eq_true rfl | (simp only [List.map, List.sum_cons, List.sum_nil, g_cat_rf]; exact Nat.le_of_ble_eq_true rfl) | (simp only [List.map, List.sum_cons, List.sum_nil, g_cat_rf, Value.category]; decide)) rfl rfl
  refine g_callV (rv := some (va_rf x3)) (h1 := h4) (pc' := 5) (As := [.int p0]) (rest := []) 1 (T_Desk_circuitOf (hy := hf5)) d_Desk_way_2 hc2 rfl rfl q1631 q1633 qs22 q108 q1634 hd_Desk_circuitOf rfl ⟨by decide, by decide⟩ (by first | exact Nat.le_of_ble_eq_true rfl | (simp only [List.map, List.sum_cons, List.sum_nil, g_cat_rf]; exact Nat.le_of_ble_eq_true rfl) | (simp only [List.map, List.sum_cons, List.sum_nil, g_cat_rf, Value.category]; decide)) rfl ?_
  refine g_astoreO (pc' := 7) (Lc' := [(5, va_rf x3), (0, .ref this), (1, .int p0), (2, .int p1), (3, .int p2), (4, .int p3)]) d_Desk_way_5 (by decide) rfl rfl ?_
  refine g_iload_n 4 (i := 3) (pc' := 8) d_Desk_way_7 rfl rfl rfl ?_
  by_cases c8 : p2 < 0
  · rw [if_pos c8] at hy
    refine g_if_ltT (pc' := 15) d_Desk_way_8 c8 (by decide) ?_
    refine g_iconst (v := (0 : Int32)) (pc' := 16) d_Desk_way_15 (by decide) rfl ?_
    refine g_sub [3, 4, 5, 0] rfl ?_
    exact W_Desk_way_16 _ _ _ _ _ _ _ hy
  · rw [if_neg c8] at hy
    refine g_if_ltF (pc' := 11) d_Desk_way_8 15 c8 (by decide) rfl ?_
    refine g_iconst (v := (1 : Int32)) (pc' := 12) d_Desk_way_11 (by decide) rfl ?_
    refine g_goto (pc' := 16) d_Desk_way_12 (by decide) ?_
    refine g_sub [3, 4, 5, 0] rfl ?_
    exact W_Desk_way_16 _ _ _ _ _ _ _ hy
theorem hd_Desk_way : g_dsc y_Desk_way 4 := ⟨by decide +kernel, by decide +kernel, by decide +kernel⟩
/-! CircuitDesk.packet(II)I -/
abbrev y_Desk_packet : MethodName := ⟨"CircuitDesk", "packet", "(II)I"⟩
abbrev k_Desk_packet : g_M := (prog_1_method_39_code, 4, "CircuitDesk", 18, (some FieldType.int), "packet", [], 0)
theorem d_Desk_packet_0 : decode prog_1_method_39_code 0 = .ok (.iload_n 1, 1) := by decide +kernel
theorem d_Desk_packet_1 : decode prog_1_method_39_code 1 = .ok (.i2l, 1) := by decide +kernel
theorem d_Desk_packet_2 : decode prog_1_method_39_code 2 = .ok (.lconst 0, 1) := by decide +kernel
theorem d_Desk_packet_3 : decode prog_1_method_39_code 3 = .ok (.aload_n 0, 1) := by decide +kernel
theorem d_Desk_packet_4 : decode prog_1_method_39_code 4 = .ok (.getfield 19, 3) := by decide +kernel
theorem d_Desk_packet_7 : decode prog_1_method_39_code 7 = .ok (.getfield 156, 3) := by decide +kernel
theorem d_Desk_packet_10 : decode prog_1_method_39_code 10 = .ok (.invokevirtual 48, 3) := by decide +kernel
theorem d_Desk_packet_13 : decode prog_1_method_39_code 13 = .ok (.iconst 1, 1) := by decide +kernel
theorem d_Desk_packet_14 : decode prog_1_method_39_code 14 = .ok (.isub, 1) := by decide +kernel
theorem d_Desk_packet_15 : decode prog_1_method_39_code 15 = .ok (.i2l, 1) := by decide +kernel
theorem d_Desk_packet_16 : decode prog_1_method_39_code 16 = .ok (.invokestatic 54, 3) := by decide +kernel
theorem d_Desk_packet_19 : decode prog_1_method_39_code 19 = .ok (.invokestatic 58, 3) := by decide +kernel
theorem d_Desk_packet_22 : decode prog_1_method_39_code 22 = .ok (.iload_n 2, 1) := by decide +kernel
theorem d_Desk_packet_23 : decode prog_1_method_39_code 23 = .ok (.i2l, 1) := by decide +kernel
theorem d_Desk_packet_24 : decode prog_1_method_39_code 24 = .ok (.lconst 0, 1) := by decide +kernel
theorem d_Desk_packet_25 : decode prog_1_method_39_code 25 = .ok (.ldc2_w 198, 3) := by decide +kernel
theorem d_Desk_packet_28 : decode prog_1_method_39_code 28 = .ok (.invokestatic 54, 3) := by decide +kernel
theorem d_Desk_packet_31 : decode prog_1_method_39_code 31 = .ok (.invokestatic 80, 3) := by decide +kernel
theorem d_Desk_packet_34 : decode prog_1_method_39_code 34 = .ok (.aload_n 0, 1) := by decide +kernel
theorem d_Desk_packet_35 : decode prog_1_method_39_code 35 = .ok (.getfield 19, 3) := by decide +kernel
theorem d_Desk_packet_38 : decode prog_1_method_39_code 38 = .ok (.getfield 156, 3) := by decide +kernel
theorem d_Desk_packet_41 : decode prog_1_method_39_code 41 = .ok (.iload_n 1, 1) := by decide +kernel
theorem d_Desk_packet_42 : decode prog_1_method_39_code 42 = .ok (.invokevirtual 62, 3) := by decide +kernel
theorem d_Desk_packet_45 : decode prog_1_method_39_code 45 = .ok (.checkcast 353, 3) := by decide +kernel
theorem d_Desk_packet_48 : decode prog_1_method_39_code 48 = .ok (.astore_n 3, 1) := by decide +kernel
theorem d_Desk_packet_49 : decode prog_1_method_39_code 49 = .ok (.iload_n 2, 1) := by decide +kernel
theorem d_Desk_packet_50 : decode prog_1_method_39_code 50 = .ok (.tableswitch 80 0 5 #[38, 45, 52, 59, 66, 73], 38) := by decide +kernel
theorem d_Desk_packet_88 : decode prog_1_method_39_code 88 = .ok (.aload_n 3, 1) := by decide +kernel
theorem d_Desk_packet_89 : decode prog_1_method_39_code 89 = .ok (.getfield 355, 3) := by decide +kernel
theorem d_Desk_packet_92 : decode prog_1_method_39_code 92 = .ok (.goto 42, 3) := by decide +kernel
theorem d_Desk_packet_95 : decode prog_1_method_39_code 95 = .ok (.aload_n 3, 1) := by decide +kernel
theorem d_Desk_packet_96 : decode prog_1_method_39_code 96 = .ok (.getfield 357, 3) := by decide +kernel
theorem d_Desk_packet_99 : decode prog_1_method_39_code 99 = .ok (.goto 35, 3) := by decide +kernel
theorem d_Desk_packet_102 : decode prog_1_method_39_code 102 = .ok (.aload_n 3, 1) := by decide +kernel
theorem d_Desk_packet_103 : decode prog_1_method_39_code 103 = .ok (.getfield 360, 3) := by decide +kernel
theorem d_Desk_packet_106 : decode prog_1_method_39_code 106 = .ok (.goto 28, 3) := by decide +kernel
theorem d_Desk_packet_109 : decode prog_1_method_39_code 109 = .ok (.aload_n 3, 1) := by decide +kernel
theorem d_Desk_packet_110 : decode prog_1_method_39_code 110 = .ok (.getfield 363, 3) := by decide +kernel
theorem d_Desk_packet_113 : decode prog_1_method_39_code 113 = .ok (.goto 21, 3) := by decide +kernel
theorem d_Desk_packet_116 : decode prog_1_method_39_code 116 = .ok (.aload_n 3, 1) := by decide +kernel
theorem d_Desk_packet_117 : decode prog_1_method_39_code 117 = .ok (.getfield 366, 3) := by decide +kernel
theorem d_Desk_packet_120 : decode prog_1_method_39_code 120 = .ok (.goto 14, 3) := by decide +kernel
theorem d_Desk_packet_123 : decode prog_1_method_39_code 123 = .ok (.aload_n 3, 1) := by decide +kernel
theorem d_Desk_packet_124 : decode prog_1_method_39_code 124 = .ok (.getfield 367, 3) := by decide +kernel
theorem d_Desk_packet_127 : decode prog_1_method_39_code 127 = .ok (.goto 7, 3) := by decide +kernel
theorem d_Desk_packet_130 : decode prog_1_method_39_code 130 = .ok (.aload_n 3, 1) := by decide +kernel
theorem d_Desk_packet_131 : decode prog_1_method_39_code 131 = .ok (.getfield 370, 3) := by decide +kernel
theorem d_Desk_packet_134 : decode prog_1_method_39_code 134 = .ok (.ireturn, 1) := by decide +kernel
def Desk_packet (h : g_AH) (this : Nat) (p0 : Int32) (p1 : Int32) : Option ((Int32 ⊕ g_EX) × g_AH) :=
  g_gR h this 0 0 fun x2 => g_nn x2 fun a5 => g_gR h a5 1 4 fun x7 => g_nn x7 fun a10 => g_is h a10 15 <| g_b (ArrayList_size h a10) fun x13 => g_b (Desk_isBetween ((p0).toInt64) (0 : Int64) (((x13 - (1 : Int32))).toInt64)) fun x16 => g_bx (Desk_checkIndex h x16) fun x19 h20 => g_b (Desk_isBetween ((p1).toInt64) (0 : Int64) (6 : Int64)) fun x24 => g_bx (Desk_checkArgument h20 x24) fun x27 h28 => g_gR h28 this 0 0 fun x33 => g_nn x33 fun a36 => g_gR h28 a36 1 4 fun x38 => g_nn x38 fun a41 => g_is h28 a41 15 <| g_b (ArrayList_get h28 a41 p0) fun x44 => g_ck h28 x44 14 <| if p1 = (0 : Int32) then (g_nn x44 fun a49 => g_gI h28 a49 14 0 fun x51 => some (.inl x51, h28)) else (if p1 = (1 : Int32) then (g_nn x44 fun a55 => g_gI h28 a55 14 1 fun x57 => some (.inl x57, h28)) else (if p1 = (2 : Int32) then (g_nn x44 fun a61 => g_gI h28 a61 14 3 fun x63 => some (.inl x63, h28)) else (if p1 = (3 : Int32) then (g_nn x44 fun a67 => g_gI h28 a67 14 4 fun x69 => some (.inl x69, h28)) else (if p1 = (4 : Int32) then (g_nn x44 fun a73 => g_gI h28 a73 14 5 fun x75 => some (.inl x75, h28)) else (if p1 = (5 : Int32) then (g_nn x44 fun a79 => g_gI h28 a79 14 6 fun x81 => some (.inl x81, h28)) else (g_nn x44 fun a84 => g_gI h28 a84 14 7 fun x86 => some (.inl x86, h28)))))))
set_option maxHeartbeats 4000000 in
set_option maxRecDepth 100000 in
theorem T_Desk_packet {l : Launch} {B : g_B} (h : g_AH) (this : Nat) (p0 : Int32) (p1 : Int32) (z : (Int32 ⊕ g_EX) × g_AH) (hy : Desk_packet h this p0 p1 = some z) : g_CT l B y_Desk_packet k_Desk_packet [.ref this, .int p0, .int p1] h (g_rI z.1) z.2 := by
  refine g_start2 (Lc := [(0, .ref this), (1, .int p0), (2, .int p1)]) (by decide) rfl rfl (by exact Nat.le_of_ble_eq_true rfl) (by rfl) fun X => ?_
  unfold Desk_packet at hy
  refine g_iload_n 1 (i := 1) (pc' := 1) d_Desk_packet_0 rfl rfl rfl ?_
  refine g_i2l (pc' := 2) d_Desk_packet_1 rfl ?_
  refine g_lconst (v := 0) (pc' := 3) d_Desk_packet_2 (by decide) rfl ?_
  refine g_aload_n 0 (i := 0) (pc' := 4) d_Desk_packet_3 rfl rfl rfl ?_
  replace hy := g_gR_inv hy
  obtain ⟨fs1, x2, hc3, hv4, hy⟩ := hy
  refine g_getf (pc' := 7) d_Desk_packet_4 hc3 rfl (by decide) hv4 q642 (Or.inl rfl) rfl ?_
  replace hy := g_nn_inv hy
  obtain ⟨a5, rfl, hy⟩ := hy
  replace hy := g_gR_inv hy
  obtain ⟨fs6, x7, hc8, hv9, hy⟩ := hy
  refine g_getfN (pc' := 10) d_Desk_packet_7 hc8 rfl (by decide) hv9 q562 rfl rfl ?_
  replace hy := g_nn_inv hy
  obtain ⟨a10, rfl, hy⟩ := hy
  replace hy := g_is_inv hy
  obtain ⟨fs11, hc12, hy⟩ := hy
  replace hy := g_b_inv hy
  obtain ⟨x13, hf15, hy⟩ := hy
  refine g_callV (rv := some (.int x13)) (h1 := h) (pc' := 13) (As := []) (rest := [.long (0 : Int64), .long ((p0).toInt64)]) 0 (T_ArrayList_size (hy := hf15)) d_Desk_packet_10 hc12 rfl rfl q673 q674 q675 q112 q676 hd_ArrayList_size rfl ⟨by decide, by decide⟩ (by first | exact Nat.le_of_ble_eq_true rfl | (simp only [List.map, List.sum_cons, List.sum_nil, g_cat_rf]; exact Nat.le_of_ble_eq_true rfl) | (simp only [List.map, List.sum_cons, List.sum_nil, g_cat_rf, Value.category]; decide)) rfl ?_
  refine g_iconst (v := (1 : Int32)) (pc' := 14) d_Desk_packet_13 (by decide) rfl ?_
  refine g_isub (pc' := 15) d_Desk_packet_14 rfl ?_
  refine g_i2l (pc' := 16) d_Desk_packet_15 rfl ?_
  replace hy := g_b_inv hy
  obtain ⟨x16, hf18, hy⟩ := hy
  refine g_callS (rv := some (.int x16)) (h1 := h) (pc' := 19) (As := [.long ((p0).toInt64), .long (0 : Int64), .long (((x13 - (1 : Int32))).toInt64)]) (rest := []) 3 (T_Desk_isBetween (hy := hf18)) d_Desk_packet_16 q1330 q828 q108 q829 hd_Desk_isBetween rfl ⟨by decide, by decide⟩ (by first | exact Nat.le_of_ble_eq_true rfl | (simp only [List.map, List.sum_cons, List.sum_nil, g_cat_rf]; exact Nat.le_of_ble_eq_true rfl) | (simp only [List.map, List.sum_cons, List.sum_nil, g_cat_rf, Value.category]; decide)) rfl ?_
  replace hy := g_bx_inv hy
  rcases hy with ⟨x19, h20, hf21, hy⟩ | ⟨⟨E9, q9⟩, h20, hf21, ez23⟩
  rotate_left
  · subst ez23
    exact g_callSX (As := [.int x16]) (rest := []) 1 (T_Desk_checkIndex (hy := hf21)) d_Desk_packet_19 q1380 q1381 q108 q1382 hd_Desk_checkIndex rfl ⟨by decide, by decide⟩ (by first | exact Nat.le_of_ble_eq_true rfl | (simp only [List.map, List.sum_cons, List.sum_nil, g_cat_rf]; exact Nat.le_of_ble_eq_true rfl) | (simp only [List.map, List.sum_cons, List.sum_nil, g_cat_rf, Value.category]; decide)) rfl rfl
  refine g_callS (rv := none) (h1 := h20) (pc' := 22) (As := [.int x16]) (rest := []) 1 (T_Desk_checkIndex (hy := hf21)) d_Desk_packet_19 q1380 q1381 q108 q1382 hd_Desk_checkIndex rfl ⟨by decide, by decide⟩ (by first | exact Nat.le_of_ble_eq_true rfl | (simp only [List.map, List.sum_cons, List.sum_nil, g_cat_rf]; exact Nat.le_of_ble_eq_true rfl) | (simp only [List.map, List.sum_cons, List.sum_nil, g_cat_rf, Value.category]; decide)) rfl ?_
  refine g_iload_n 2 (i := 2) (pc' := 23) d_Desk_packet_22 rfl rfl rfl ?_
  refine g_i2l (pc' := 24) d_Desk_packet_23 rfl ?_
  refine g_lconst (v := 0) (pc' := 25) d_Desk_packet_24 (by decide) rfl ?_
  refine g_ldc2 (pc' := 28) d_Desk_packet_25 q1535 rfl ?_
  replace hy := g_b_inv hy
  obtain ⟨x24, hf26, hy⟩ := hy
  refine g_callS (rv := some (.int x24)) (h1 := h20) (pc' := 31) (As := [.long ((p1).toInt64), .long (0 : Int64), .long (6 : Int64)]) (rest := []) 3 (T_Desk_isBetween (hy := hf26)) d_Desk_packet_28 q1330 q828 q108 q829 hd_Desk_isBetween rfl ⟨by decide, by decide⟩ (by first | exact Nat.le_of_ble_eq_true rfl | (simp only [List.map, List.sum_cons, List.sum_nil, g_cat_rf]; exact Nat.le_of_ble_eq_true rfl) | (simp only [List.map, List.sum_cons, List.sum_nil, g_cat_rf, Value.category]; decide)) rfl ?_
  replace hy := g_bx_inv hy
  rcases hy with ⟨x27, h28, hf29, hy⟩ | ⟨⟨E9, q9⟩, h28, hf29, ez31⟩
  rotate_left
  · subst ez31
    exact g_callSX (As := [.int x24]) (rest := []) 1 (T_Desk_checkArgument (hy := hf29)) d_Desk_packet_31 q1331 q1332 q108 q1333 hd_Desk_checkArgument rfl ⟨by decide, by decide⟩ (by first | exact Nat.le_of_ble_eq_true rfl | (simp only [List.map, List.sum_cons, List.sum_nil, g_cat_rf]; exact Nat.le_of_ble_eq_true rfl) | (simp only [List.map, List.sum_cons, List.sum_nil, g_cat_rf, Value.category]; decide)) rfl rfl
  refine g_callS (rv := none) (h1 := h28) (pc' := 34) (As := [.int x24]) (rest := []) 1 (T_Desk_checkArgument (hy := hf29)) d_Desk_packet_31 q1331 q1332 q108 q1333 hd_Desk_checkArgument rfl ⟨by decide, by decide⟩ (by first | exact Nat.le_of_ble_eq_true rfl | (simp only [List.map, List.sum_cons, List.sum_nil, g_cat_rf]; exact Nat.le_of_ble_eq_true rfl) | (simp only [List.map, List.sum_cons, List.sum_nil, g_cat_rf, Value.category]; decide)) rfl ?_
  refine g_aload_n 0 (i := 0) (pc' := 35) d_Desk_packet_34 rfl rfl rfl ?_
  replace hy := g_gR_inv hy
  obtain ⟨fs32, x33, hc34, hv35, hy⟩ := hy
  refine g_getf (pc' := 38) d_Desk_packet_35 hc34 rfl (by decide) hv35 q642 (Or.inl rfl) rfl ?_
  replace hy := g_nn_inv hy
  obtain ⟨a36, rfl, hy⟩ := hy
  replace hy := g_gR_inv hy
  obtain ⟨fs37, x38, hc39, hv40, hy⟩ := hy
  refine g_getfN (pc' := 41) d_Desk_packet_38 hc39 rfl (by decide) hv40 q562 rfl rfl ?_
  refine g_iload_n 1 (i := 1) (pc' := 42) d_Desk_packet_41 rfl rfl rfl ?_
  replace hy := g_nn_inv hy
  obtain ⟨a41, rfl, hy⟩ := hy
  replace hy := g_is_inv hy
  obtain ⟨fs42, hc43, hy⟩ := hy
  replace hy := g_b_inv hy
  obtain ⟨x44, hf46, hy⟩ := hy
  refine g_callV (rv := some (va_rf x44)) (h1 := h28) (pc' := 45) (As := [.int p0]) (rest := []) 1 (T_ArrayList_get (hy := hf46)) d_Desk_packet_42 hc43 rfl rfl q706 q683 q684 q112 q685 hd_ArrayList_get rfl ⟨by decide, by decide⟩ (by first | exact Nat.le_of_ble_eq_true rfl | (simp only [List.map, List.sum_cons, List.sum_nil, g_cat_rf]; exact Nat.le_of_ble_eq_true rfl) | (simp only [List.map, List.sum_cons, List.sum_nil, g_cat_rf, Value.category]; decide)) rfl ?_
  replace hy := g_ck_inv hy
  obtain ⟨hk47, hy⟩ := hy
  refine g_castO (pc' := 48) d_Desk_packet_45 hk47 rfl q1870 rfl ?_
  refine g_astoreO_n (i := 3) (pc' := 49) (Lc' := [(3, va_rf x44), (0, .ref this), (1, .int p0), (2, .int p1)]) d_Desk_packet_48 rfl (by decide) rfl rfl ?_
  refine g_iload_n 3 (i := 2) (pc' := 50) d_Desk_packet_49 rfl rfl rfl ?_
  by_cases c48 : p1 = (0 : Int32)
  · rw [if_pos c48] at hy
    refine g_tableIn (pc' := 88) (0 : Int32) d_Desk_packet_50 c48 (by decide) rfl (by decide) ?_
    refine g_aloadO_n 0 (i := 3) (pc' := 89) d_Desk_packet_88 rfl rfl rfl ?_
    replace hy := g_nn_inv hy
    obtain ⟨a49, rfl, hy⟩ := hy
    replace hy := g_gI_inv hy
    obtain ⟨fs50, x51, hc52, hv53, hy⟩ := hy
    refine g_getfN (pc' := 92) d_Desk_packet_89 hc52 rfl (by decide) hv53 q1805 rfl rfl ?_
    refine g_goto (pc' := 134) d_Desk_packet_92 (by decide) ?_
    cases hy
    exact g_iret rfl rfl rfl d_Desk_packet_134
  · rw [if_neg c48] at hy
    by_cases c54 : p1 = (1 : Int32)
    · rw [if_pos c54] at hy
      refine g_tableIn (pc' := 95) (1 : Int32) d_Desk_packet_50 c54 (by decide) rfl (by decide) ?_
      refine g_aloadO_n 0 (i := 3) (pc' := 96) d_Desk_packet_95 rfl rfl rfl ?_
      replace hy := g_nn_inv hy
      obtain ⟨a55, rfl, hy⟩ := hy
      replace hy := g_gI_inv hy
      obtain ⟨fs56, x57, hc58, hv59, hy⟩ := hy
      refine g_getfN (pc' := 99) d_Desk_packet_96 hc58 rfl (by decide) hv59 q1808 rfl rfl ?_
      refine g_goto (pc' := 134) d_Desk_packet_99 (by decide) ?_
      cases hy
      exact g_iret rfl rfl rfl d_Desk_packet_134
    · rw [if_neg c54] at hy
      by_cases c60 : p1 = (2 : Int32)
      · rw [if_pos c60] at hy
        refine g_tableIn (pc' := 102) (2 : Int32) d_Desk_packet_50 c60 (by decide) rfl (by decide) ?_
        refine g_aloadO_n 0 (i := 3) (pc' := 103) d_Desk_packet_102 rfl rfl rfl ?_
        replace hy := g_nn_inv hy
        obtain ⟨a61, rfl, hy⟩ := hy
        replace hy := g_gI_inv hy
        obtain ⟨fs62, x63, hc64, hv65, hy⟩ := hy
        refine g_getfN (pc' := 106) d_Desk_packet_103 hc64 rfl (by decide) hv65 q1813 rfl rfl ?_
        refine g_goto (pc' := 134) d_Desk_packet_106 (by decide) ?_
        cases hy
        exact g_iret rfl rfl rfl d_Desk_packet_134
      · rw [if_neg c60] at hy
        by_cases c66 : p1 = (3 : Int32)
        · rw [if_pos c66] at hy
          refine g_tableIn (pc' := 109) (3 : Int32) d_Desk_packet_50 c66 (by decide) rfl (by decide) ?_
          refine g_aloadO_n 0 (i := 3) (pc' := 110) d_Desk_packet_109 rfl rfl rfl ?_
          replace hy := g_nn_inv hy
          obtain ⟨a67, rfl, hy⟩ := hy
          replace hy := g_gI_inv hy
          obtain ⟨fs68, x69, hc70, hv71, hy⟩ := hy
          refine g_getfN (pc' := 113) d_Desk_packet_110 hc70 rfl (by decide) hv71 q1816 rfl rfl ?_
          refine g_goto (pc' := 134) d_Desk_packet_113 (by decide) ?_
          cases hy
          exact g_iret rfl rfl rfl d_Desk_packet_134
        · rw [if_neg c66] at hy
          by_cases c72 : p1 = (4 : Int32)
          · rw [if_pos c72] at hy
            refine g_tableIn (pc' := 116) (4 : Int32) d_Desk_packet_50 c72 (by decide) rfl (by decide) ?_
            refine g_aloadO_n 0 (i := 3) (pc' := 117) d_Desk_packet_116 rfl rfl rfl ?_
            replace hy := g_nn_inv hy
            obtain ⟨a73, rfl, hy⟩ := hy
            replace hy := g_gI_inv hy
            obtain ⟨fs74, x75, hc76, hv77, hy⟩ := hy
            refine g_getfN (pc' := 120) d_Desk_packet_117 hc76 rfl (by decide) hv77 q1819 rfl rfl ?_
            refine g_goto (pc' := 134) d_Desk_packet_120 (by decide) ?_
            cases hy
            exact g_iret rfl rfl rfl d_Desk_packet_134
          · rw [if_neg c72] at hy
            by_cases c78 : p1 = (5 : Int32)
            · rw [if_pos c78] at hy
              refine g_tableIn (pc' := 123) (5 : Int32) d_Desk_packet_50 c78 (by decide) rfl (by decide) ?_
              refine g_aloadO_n 0 (i := 3) (pc' := 124) d_Desk_packet_123 rfl rfl rfl ?_
              replace hy := g_nn_inv hy
              obtain ⟨a79, rfl, hy⟩ := hy
              replace hy := g_gI_inv hy
              obtain ⟨fs80, x81, hc82, hv83, hy⟩ := hy
              refine g_getfN (pc' := 127) d_Desk_packet_124 hc82 rfl (by decide) hv83 q1822 rfl rfl ?_
              refine g_goto (pc' := 134) d_Desk_packet_127 (by decide) ?_
              cases hy
              exact g_iret rfl rfl rfl d_Desk_packet_134
            · rw [if_neg c78] at hy
              have c48 := g_neI (n := 0) (by decide) c48
              have c54 := g_neI (n := 1) (by decide) c54
              have c60 := g_neI (n := 2) (by decide) c60
              have c66 := g_neI (n := 3) (by decide) c66
              have c72 := g_neI (n := 4) (by decide) c72
              have c78 := g_neI (n := 5) (by decide) c78
              refine g_tableOut (pc' := 130) d_Desk_packet_50 (by omega) (by decide) ?_
              refine g_aloadO_n 0 (i := 3) (pc' := 131) d_Desk_packet_130 rfl rfl rfl ?_
              replace hy := g_nn_inv hy
              obtain ⟨a84, rfl, hy⟩ := hy
              replace hy := g_gI_inv hy
              obtain ⟨fs85, x86, hc87, hv88, hy⟩ := hy
              refine g_getfN (pc' := 134) d_Desk_packet_131 hc87 rfl (by decide) hv88 q1825 rfl rfl ?_
              cases hy
              exact g_iret rfl rfl rfl d_Desk_packet_134
theorem hd_Desk_packet : g_dsc y_Desk_packet 2 := ⟨by decide +kernel, by decide +kernel, by decide +kernel⟩
/-! CircuitDesk.meanDelay(I)D -/
abbrev y_Desk_meanDelay : MethodName := ⟨"CircuitDesk", "meanDelay", "(I)D"⟩
abbrev k_Desk_meanDelay : g_M := (prog_1_method_40_code, 3, "CircuitDesk", 19, (some FieldType.double), "meanDelay", [], 0)
theorem d_Desk_meanDelay_0 : decode prog_1_method_40_code 0 = .ok (.aload_n 0, 1) := by decide +kernel
theorem d_Desk_meanDelay_1 : decode prog_1_method_40_code 1 = .ok (.iload_n 1, 1) := by decide +kernel
theorem d_Desk_meanDelay_2 : decode prog_1_method_40_code 2 = .ok (.invokevirtual 263, 3) := by decide +kernel
theorem d_Desk_meanDelay_5 : decode prog_1_method_40_code 5 = .ok (.astore_n 2, 1) := by decide +kernel
theorem d_Desk_meanDelay_6 : decode prog_1_method_40_code 6 = .ok (.aload_n 2, 1) := by decide +kernel
theorem d_Desk_meanDelay_7 : decode prog_1_method_40_code 7 = .ok (.getfield 324, 3) := by decide +kernel
theorem d_Desk_meanDelay_10 : decode prog_1_method_40_code 10 = .ok (.ifCond .ne 9, 3) := by decide +kernel
theorem d_Desk_meanDelay_13 : decode prog_1_method_40_code 13 = .ok (.ldc2_w 371, 3) := by decide +kernel
theorem d_Desk_meanDelay_16 : decode prog_1_method_40_code 16 = .ok (.goto 14, 3) := by decide +kernel
theorem d_Desk_meanDelay_19 : decode prog_1_method_40_code 19 = .ok (.aload_n 2, 1) := by decide +kernel
theorem d_Desk_meanDelay_20 : decode prog_1_method_40_code 20 = .ok (.getfield 373, 3) := by decide +kernel
theorem d_Desk_meanDelay_23 : decode prog_1_method_40_code 23 = .ok (.i2d, 1) := by decide +kernel
theorem d_Desk_meanDelay_24 : decode prog_1_method_40_code 24 = .ok (.aload_n 2, 1) := by decide +kernel
theorem d_Desk_meanDelay_25 : decode prog_1_method_40_code 25 = .ok (.getfield 324, 3) := by decide +kernel
theorem d_Desk_meanDelay_28 : decode prog_1_method_40_code 28 = .ok (.i2d, 1) := by decide +kernel
theorem d_Desk_meanDelay_29 : decode prog_1_method_40_code 29 = .ok (.ddiv, 1) := by decide +kernel
theorem d_Desk_meanDelay_30 : decode prog_1_method_40_code 30 = .ok (.dreturn, 1) := by decide +kernel
def Desk_meanDelay (h : g_AH) (this : Nat) (p0 : Int32) : Option ((UInt64 ⊕ g_EX) × g_AH) :=
  g_is h this 0 <| g_bx (Desk_circuitOf h this p0) fun x3 h4 => g_nn x3 fun a8 => g_gI h4 a8 12 10 fun x10 => if x10 = 0 then (some (.inl (13830554455654793216 : UInt64), h4)) else (g_gI h4 a8 12 14 fun x15 => g_gI h4 a8 12 10 fun x19 => g_rq ((FP.ddiv (FP.i2d x15) (FP.i2d x19)) &&& (0x7fffffffffffffff : UInt64) ≤ (0x7ff0000000000000 : UInt64)) <| some (.inl (FP.ddiv (FP.i2d x15) (FP.i2d x19)), h4))
set_option maxHeartbeats 4000000 in
set_option maxRecDepth 100000 in
theorem T_Desk_meanDelay {l : Launch} {B : g_B} (h : g_AH) (this : Nat) (p0 : Int32) (z : (UInt64 ⊕ g_EX) × g_AH) (hy : Desk_meanDelay h this p0 = some z) : g_CT l B y_Desk_meanDelay k_Desk_meanDelay [.ref this, .int p0] h (g_rD z.1) z.2 := by
  refine g_start2 (Lc := [(0, .ref this), (1, .int p0)]) (by decide) rfl rfl (by exact Nat.le_of_ble_eq_true rfl) (by rfl) fun X => ?_
  unfold Desk_meanDelay at hy
  refine g_aload_n 0 (i := 0) (pc' := 1) d_Desk_meanDelay_0 rfl rfl rfl ?_
  refine g_iload_n 1 (i := 1) (pc' := 2) d_Desk_meanDelay_1 rfl rfl rfl ?_
  replace hy := g_is_inv hy
  obtain ⟨fs1, hc2, hy⟩ := hy
  replace hy := g_bx_inv hy
  rcases hy with ⟨x3, h4, hf5, hy⟩ | ⟨⟨E9, q9⟩, h4, hf5, ez7⟩
  rotate_left
  · subst ez7
    exact g_callVX (As := [.int p0]) (rest := []) 1 (T_Desk_circuitOf (hy := hf5)) d_Desk_meanDelay_2 hc2 rfl rfl q1631 q1633 qs22 q108 q1634 hd_Desk_circuitOf rfl ⟨by decide, by decide⟩ (by first | exact Nat.le_of_ble_eq_true rfl | (simp only [List.map, List.sum_cons, List.sum_nil, g_cat_rf]; exact Nat.le_of_ble_eq_true rfl) | (simp only [List.map, List.sum_cons, List.sum_nil, g_cat_rf, Value.category]; decide)) rfl rfl
  refine g_callV (rv := some (va_rf x3)) (h1 := h4) (pc' := 5) (As := [.int p0]) (rest := []) 1 (T_Desk_circuitOf (hy := hf5)) d_Desk_meanDelay_2 hc2 rfl rfl q1631 q1633 qs22 q108 q1634 hd_Desk_circuitOf rfl ⟨by decide, by decide⟩ (by first | exact Nat.le_of_ble_eq_true rfl | (simp only [List.map, List.sum_cons, List.sum_nil, g_cat_rf]; exact Nat.le_of_ble_eq_true rfl) | (simp only [List.map, List.sum_cons, List.sum_nil, g_cat_rf, Value.category]; decide)) rfl ?_
  refine g_astoreO_n (i := 2) (pc' := 6) (Lc' := [(2, va_rf x3), (0, .ref this), (1, .int p0)]) d_Desk_meanDelay_5 rfl (by decide) rfl rfl ?_
  refine g_aloadO_n 0 (i := 2) (pc' := 7) d_Desk_meanDelay_6 rfl rfl rfl ?_
  replace hy := g_nn_inv hy
  obtain ⟨a8, rfl, hy⟩ := hy
  replace hy := g_gI_inv hy
  obtain ⟨fs9, x10, hc11, hv12, hy⟩ := hy
  refine g_getfN (pc' := 10) d_Desk_meanDelay_7 hc11 rfl (by decide) hv12 q1191 rfl rfl ?_
  by_cases c13 : x10 = 0
  · rw [if_pos c13] at hy
    refine g_if_neF (pc' := 13) d_Desk_meanDelay_10 19 c13 (by decide) rfl ?_
    refine g_ldc2d (pc' := 16) d_Desk_meanDelay_13 q1878 rfl ?_
    refine g_goto (pc' := 30) d_Desk_meanDelay_16 (by decide) ?_
    cases hy
    exact g_dret rfl rfl rfl d_Desk_meanDelay_30
  · rw [if_neg c13] at hy
    refine g_if_neT (pc' := 19) d_Desk_meanDelay_10 c13 (by decide) ?_
    refine g_aload_n 0 (i := 2) (pc' := 20) d_Desk_meanDelay_19 rfl rfl rfl ?_
    replace hy := g_gI_inv hy
    obtain ⟨fs14, x15, hc16, hv17, hy⟩ := hy
    refine g_getfN (pc' := 23) d_Desk_meanDelay_20 hc16 rfl (by decide) hv17 q1202 rfl rfl ?_
    refine g_i2d (pc' := 24) d_Desk_meanDelay_23 rfl ?_
    refine g_aload_n 0 (i := 2) (pc' := 25) d_Desk_meanDelay_24 rfl rfl rfl ?_
    replace hy := g_gI_inv hy
    obtain ⟨fs18, x19, hc20, hv21, hy⟩ := hy
    refine g_getfN (pc' := 28) d_Desk_meanDelay_25 hc20 rfl (by decide) hv21 q1191 rfl rfl ?_
    refine g_i2d (pc' := 29) d_Desk_meanDelay_28 rfl ?_
    replace hy := g_rq_inv hy
    obtain ⟨c22, hy⟩ := hy
    refine g_ddiv (pc' := 30) d_Desk_meanDelay_29 c22 rfl ?_
    cases hy
    exact g_dret rfl rfl rfl d_Desk_meanDelay_30
theorem hd_Desk_meanDelay : g_dsc y_Desk_meanDelay 1 := ⟨by decide +kernel, by decide +kernel, by decide +kernel⟩
/-! CircuitDesk$Resting.<init>()V -/
abbrev y_Resting_init : MethodName := ⟨"CircuitDesk$Resting", "<init>", "()V"⟩
abbrev k_Resting_init : g_M := (prog_12_method_1_code, 1, "CircuitDesk$Resting", 13, none, "<init>", [], 0)
theorem d_Resting_init_0 : decode prog_12_method_1_code 0 = .ok (.aload_n 0, 1) := by decide +kernel
theorem d_Resting_init_1 : decode prog_12_method_1_code 1 = .ok (.invokespecial 1, 3) := by decide +kernel
theorem d_Resting_init_4 : decode prog_12_method_1_code 4 = .ok (.return_, 1) := by decide +kernel
def Resting_init (this : Nat) : Option (Unit) :=
  some ()
set_option maxHeartbeats 4000000 in
set_option maxRecDepth 100000 in
theorem T_Resting_init {l : Launch} {B : g_B} {h : g_AH} (this : Nat) (z : Unit) (hy : Resting_init this = some z) : g_CT l B y_Resting_init k_Resting_init [.ref this] h (.inl none) h := by
  refine g_start2 (Lc := [(0, .ref this)]) (by decide) rfl rfl (by exact Nat.le_of_ble_eq_true rfl) (by rfl) fun X => ?_
  unfold Resting_init at hy
  refine g_aload_n 0 (i := 0) (pc' := 1) d_Resting_init_0 rfl rfl rfl ?_
  refine g_objInit (pc' := 4) d_Resting_init_1 q520 (by first | exact Nat.le_of_ble_eq_true rfl | (simp only [List.map, List.sum_cons, List.sum_nil, g_cat_rf]; exact Nat.le_of_ble_eq_true rfl) | (simp only [List.map, List.sum_cons, List.sum_nil, g_cat_rf, Value.category]; decide)) (by decide) rfl ?_
  cases hy
  exact g_vret rfl rfl rfl d_Resting_init_4
theorem hd_Resting_init : g_dsc y_Resting_init 0 := ⟨by decide +kernel, by decide +kernel, by decide +kernel⟩
/-! CircuitDesk$Building.<init>()V -/
abbrev y_Building_init : MethodName := ⟨"CircuitDesk$Building", "<init>", "()V"⟩
abbrev k_Building_init : g_M := (prog_2_method_1_code, 1, "CircuitDesk$Building", 13, none, "<init>", [], 0)
theorem d_Building_init_0 : decode prog_2_method_1_code 0 = .ok (.aload_n 0, 1) := by decide +kernel
theorem d_Building_init_1 : decode prog_2_method_1_code 1 = .ok (.invokespecial 3, 3) := by decide +kernel
theorem d_Building_init_4 : decode prog_2_method_1_code 4 = .ok (.return_, 1) := by decide +kernel
def Building_init (this : Nat) : Option (Unit) :=
  some ()
set_option maxHeartbeats 4000000 in
set_option maxRecDepth 100000 in
theorem T_Building_init {l : Launch} {B : g_B} {h : g_AH} (this : Nat) (z : Unit) (hy : Building_init this = some z) : g_CT l B y_Building_init k_Building_init [.ref this] h (.inl none) h := by
  refine g_start2 (Lc := [(0, .ref this)]) (by decide) rfl rfl (by exact Nat.le_of_ble_eq_true rfl) (by rfl) fun X => ?_
  unfold Building_init at hy
  refine g_aload_n 0 (i := 0) (pc' := 1) d_Building_init_0 rfl rfl rfl ?_
  refine g_objInit (pc' := 4) d_Building_init_1 q527 (by first | exact Nat.le_of_ble_eq_true rfl | (simp only [List.map, List.sum_cons, List.sum_nil, g_cat_rf]; exact Nat.le_of_ble_eq_true rfl) | (simp only [List.map, List.sum_cons, List.sum_nil, g_cat_rf, Value.category]; decide)) (by decide) rfl ?_
  cases hy
  exact g_vret rfl rfl rfl d_Building_init_4
theorem hd_Building_init : g_dsc y_Building_init 0 := ⟨by decide +kernel, by decide +kernel, by decide +kernel⟩
/-! CircuitDesk$Draining.<init>()V -/
abbrev y_Draining_init : MethodName := ⟨"CircuitDesk$Draining", "<init>", "()V"⟩
abbrev k_Draining_init : g_M := (prog_5_method_1_code, 1, "CircuitDesk$Draining", 13, none, "<init>", [], 0)
theorem d_Draining_init_0 : decode prog_5_method_1_code 0 = .ok (.aload_n 0, 1) := by decide +kernel
theorem d_Draining_init_1 : decode prog_5_method_1_code 1 = .ok (.invokespecial 3, 3) := by decide +kernel
theorem d_Draining_init_4 : decode prog_5_method_1_code 4 = .ok (.return_, 1) := by decide +kernel
def Draining_init (this : Nat) : Option (Unit) :=
  some ()
set_option maxHeartbeats 4000000 in
set_option maxRecDepth 100000 in
theorem T_Draining_init {l : Launch} {B : g_B} {h : g_AH} (this : Nat) (z : Unit) (hy : Draining_init this = some z) : g_CT l B y_Draining_init k_Draining_init [.ref this] h (.inl none) h := by
  refine g_start2 (Lc := [(0, .ref this)]) (by decide) rfl rfl (by exact Nat.le_of_ble_eq_true rfl) (by rfl) fun X => ?_
  unfold Draining_init at hy
  refine g_aload_n 0 (i := 0) (pc' := 1) d_Draining_init_0 rfl rfl rfl ?_
  refine g_objInit (pc' := 4) d_Draining_init_1 q534 (by first | exact Nat.le_of_ble_eq_true rfl | (simp only [List.map, List.sum_cons, List.sum_nil, g_cat_rf]; exact Nat.le_of_ble_eq_true rfl) | (simp only [List.map, List.sum_cons, List.sum_nil, g_cat_rf, Value.category]; decide)) (by decide) rfl ?_
  cases hy
  exact g_vret rfl rfl rfl d_Draining_init_4
theorem hd_Draining_init : g_dsc y_Draining_init 0 := ⟨by decide +kernel, by decide +kernel, by decide +kernel⟩
/-! CircuitDesk$Clearing.<init>()V -/
abbrev y_Clearing_init : MethodName := ⟨"CircuitDesk$Clearing", "<init>", "()V"⟩
abbrev k_Clearing_init : g_M := (prog_4_method_1_code, 1, "CircuitDesk$Clearing", 13, none, "<init>", [], 0)
theorem d_Clearing_init_0 : decode prog_4_method_1_code 0 = .ok (.aload_n 0, 1) := by decide +kernel
theorem d_Clearing_init_1 : decode prog_4_method_1_code 1 = .ok (.invokespecial 3, 3) := by decide +kernel
theorem d_Clearing_init_4 : decode prog_4_method_1_code 4 = .ok (.return_, 1) := by decide +kernel
def Clearing_init (this : Nat) : Option (Unit) :=
  some ()
set_option maxHeartbeats 4000000 in
set_option maxRecDepth 100000 in
theorem T_Clearing_init {l : Launch} {B : g_B} {h : g_AH} (this : Nat) (z : Unit) (hy : Clearing_init this = some z) : g_CT l B y_Clearing_init k_Clearing_init [.ref this] h (.inl none) h := by
  refine g_start2 (Lc := [(0, .ref this)]) (by decide) rfl rfl (by exact Nat.le_of_ble_eq_true rfl) (by rfl) fun X => ?_
  unfold Clearing_init at hy
  refine g_aload_n 0 (i := 0) (pc' := 1) d_Clearing_init_0 rfl rfl rfl ?_
  refine g_objInit (pc' := 4) d_Clearing_init_1 q541 (by first | exact Nat.le_of_ble_eq_true rfl | (simp only [List.map, List.sum_cons, List.sum_nil, g_cat_rf]; exact Nat.le_of_ble_eq_true rfl) | (simp only [List.map, List.sum_cons, List.sum_nil, g_cat_rf, Value.category]; decide)) (by decide) rfl ?_
  cases hy
  exact g_vret rfl rfl rfl d_Clearing_init_4
theorem hd_Clearing_init : g_dsc y_Clearing_init 0 := ⟨by decide +kernel, by decide +kernel, by decide +kernel⟩
/-! CircuitDesk$Phase.all()[LCircuitDesk$Phase; -/
abbrev y_Phase_all : MethodName := ⟨"CircuitDesk$Phase", "all", "()[LCircuitDesk$Phase;"⟩
abbrev k_Phase_all : g_M := (prog_11_method_3_code, 0, "CircuitDesk$Phase", 14, (some (FieldType.array (FieldType.object "CircuitDesk$Phase"))), "all", [], 0)
theorem d_Phase_all_0 : decode prog_11_method_3_code 0 = .ok (.iconst 4, 1) := by decide +kernel
theorem d_Phase_all_1 : decode prog_11_method_3_code 1 = .ok (.anewarray 1, 3) := by decide +kernel
theorem d_Phase_all_4 : decode prog_11_method_3_code 4 = .ok (.dup, 1) := by decide +kernel
theorem d_Phase_all_5 : decode prog_11_method_3_code 5 = .ok (.iconst 0, 1) := by decide +kernel
theorem d_Phase_all_6 : decode prog_11_method_3_code 6 = .ok (.new 3, 3) := by decide +kernel
theorem d_Phase_all_9 : decode prog_11_method_3_code 9 = .ok (.dup, 1) := by decide +kernel
theorem d_Phase_all_10 : decode prog_11_method_3_code 10 = .ok (.invokespecial 5, 3) := by decide +kernel
theorem d_Phase_all_13 : decode prog_11_method_3_code 13 = .ok (.aastore, 1) := by decide +kernel
theorem d_Phase_all_14 : decode prog_11_method_3_code 14 = .ok (.dup, 1) := by decide +kernel
theorem d_Phase_all_15 : decode prog_11_method_3_code 15 = .ok (.iconst 1, 1) := by decide +kernel
theorem d_Phase_all_16 : decode prog_11_method_3_code 16 = .ok (.new 9, 3) := by decide +kernel
theorem d_Phase_all_19 : decode prog_11_method_3_code 19 = .ok (.dup, 1) := by decide +kernel
theorem d_Phase_all_20 : decode prog_11_method_3_code 20 = .ok (.invokespecial 11, 3) := by decide +kernel
theorem d_Phase_all_23 : decode prog_11_method_3_code 23 = .ok (.aastore, 1) := by decide +kernel
theorem d_Phase_all_24 : decode prog_11_method_3_code 24 = .ok (.dup, 1) := by decide +kernel
theorem d_Phase_all_25 : decode prog_11_method_3_code 25 = .ok (.iconst 2, 1) := by decide +kernel
theorem d_Phase_all_26 : decode prog_11_method_3_code 26 = .ok (.new 12, 3) := by decide +kernel
theorem d_Phase_all_29 : decode prog_11_method_3_code 29 = .ok (.dup, 1) := by decide +kernel
theorem d_Phase_all_30 : decode prog_11_method_3_code 30 = .ok (.invokespecial 14, 3) := by decide +kernel
theorem d_Phase_all_33 : decode prog_11_method_3_code 33 = .ok (.aastore, 1) := by decide +kernel
theorem d_Phase_all_34 : decode prog_11_method_3_code 34 = .ok (.dup, 1) := by decide +kernel
theorem d_Phase_all_35 : decode prog_11_method_3_code 35 = .ok (.iconst 3, 1) := by decide +kernel
theorem d_Phase_all_36 : decode prog_11_method_3_code 36 = .ok (.new 15, 3) := by decide +kernel
theorem d_Phase_all_39 : decode prog_11_method_3_code 39 = .ok (.dup, 1) := by decide +kernel
theorem d_Phase_all_40 : decode prog_11_method_3_code 40 = .ok (.invokespecial 17, 3) := by decide +kernel
theorem d_Phase_all_43 : decode prog_11_method_3_code 43 = .ok (.aastore, 1) := by decide +kernel
theorem d_Phase_all_44 : decode prog_11_method_3_code 44 = .ok (.areturn, 1) := by decide +kernel
def Phase_all (h : g_AH)  : Option (Option Nat × g_AH) :=
  g_mkQ h 6 (4 : Int32) fun a1 h2 => g_mk h2 (.inr (2, [])) 0 fun a5 h6 => g_b (Resting_init a5) fun x7 => g_sA h6 6 a1 (0 : Int32) (some a5) fun h15 => g_mk h15 (.inr (3, [])) 0 fun a16 h17 => g_b (Building_init a16) fun x18 => g_sA h17 6 a1 (1 : Int32) (some a16) fun h26 => g_mk h26 (.inr (4, [])) 0 fun a27 h28 => g_b (Draining_init a27) fun x29 => g_sA h28 6 a1 (2 : Int32) (some a27) fun h37 => g_mk h37 (.inr (5, [])) 0 fun a38 h39 => g_b (Clearing_init a38) fun x40 => g_sA h39 6 a1 (3 : Int32) (some a38) fun h48 => some ((some a1), h48)
set_option maxHeartbeats 4000000 in
set_option maxRecDepth 100000 in
theorem T_Phase_all {l : Launch} {B : g_B} (h : g_AH)  (z : Option Nat × g_AH) (hy : Phase_all h  = some z) : g_CT l B y_Phase_all k_Phase_all [] h (.inl (some (va_rf z.1))) z.2 := by
  refine g_start2 (Lc := []) (by decide) rfl rfl (by exact Nat.le_of_ble_eq_true rfl) (by rfl) fun X => ?_
  unfold Phase_all at hy
  refine g_iconst (v := (4 : Int32)) (pc' := 1) d_Phase_all_0 (by decide) rfl ?_
  replace hy := g_mkQ_inv hy
  obtain ⟨hn3, hb4, hy⟩ := hy
  refine g_anew (t := 6) (C := "CircuitDesk$Phase") (pc' := 4) d_Phase_all_1 q513 (fun _ => rfl) (by decide) hn3 hb4 rfl ?_
  generalize g_al h (.inl (6, ((4 : Int32)).toNatClampNeg, .inr (.inr (.inr (.inr (fun _ => none)))))) ((4 : Int32)).toNatClampNeg = h2 at hy ⊢
  generalize g_n h = a1 at hy ⊢
  refine g_dup (pc' := 5) d_Phase_all_4 rfl rfl ?_
  refine g_iconst (v := (0 : Int32)) (pc' := 6) d_Phase_all_5 (by decide) rfl ?_
  replace hy := g_mk_inv hy
  refine g_new (ci := 2) (fs := []) (pc' := 9) d_Phase_all_6 rfl q515 q516 q130 gdf_2 rfl ?_
  generalize g_al h2 (.inr (2, [])) 0 = h6 at hy ⊢
  generalize g_n h2 = a5 at hy ⊢
  refine g_dup (pc' := 10) d_Phase_all_9 rfl rfl ?_
  replace hy := g_b_inv hy
  obtain ⟨x7, hf9, hy⟩ := hy
  refine g_callIN (h1 := h6) (pc' := 13) (As := []) (rest := [.ref a5, .int (0 : Int32), .ref a1, .ref a1]) 0 (T_Resting_init (hy := hf9)) d_Phase_all_10 rfl rfl q517 q518 q130 q519 hd_Resting_init rfl ⟨by decide, by decide⟩ (by first | exact Nat.le_of_ble_eq_true rfl | (simp only [List.map, List.sum_cons, List.sum_nil, g_cat_rf]; exact Nat.le_of_ble_eq_true rfl) | (simp only [List.map, List.sum_cons, List.sum_nil, g_cat_rf, Value.category]; decide)) rfl ?_
  replace hy := g_sA_inv hy
  obtain ⟨n10, f11, hc12, hi13, ho14, hy⟩ := hy
  refine g_stk (st' := va_rf (some a5) :: .int (0 : Int32) :: .ref a1 :: [.ref a1]) rfl ?_
  refine g_aast (pc' := 14) d_Phase_all_13 hc12 (by decide) hi13 ho14 rfl ?_
  generalize g_up h6 a1 (.inl (6, n10, .inr (.inr (.inr (.inr (va_up f11 ((0 : Int32)).toNatClampNeg (some a5))))))) = h15 at hy ⊢
  refine g_dup (pc' := 15) d_Phase_all_14 rfl rfl ?_
  refine g_iconst (v := (1 : Int32)) (pc' := 16) d_Phase_all_15 (by decide) rfl ?_
  replace hy := g_mk_inv hy
  refine g_new (ci := 3) (fs := []) (pc' := 19) d_Phase_all_16 rfl q522 q523 q131 gdf_3 rfl ?_
  generalize g_al h15 (.inr (3, [])) 0 = h17 at hy ⊢
  generalize g_n h15 = a16 at hy ⊢
  refine g_dup (pc' := 20) d_Phase_all_19 rfl rfl ?_
  replace hy := g_b_inv hy
  obtain ⟨x18, hf20, hy⟩ := hy
  refine g_callIN (h1 := h17) (pc' := 23) (As := []) (rest := [.ref a16, .int (1 : Int32), .ref a1, .ref a1]) 0 (T_Building_init (hy := hf20)) d_Phase_all_20 rfl rfl q524 q525 q131 q526 hd_Building_init rfl ⟨by decide, by decide⟩ (by first | exact Nat.le_of_ble_eq_true rfl | (simp only [List.map, List.sum_cons, List.sum_nil, g_cat_rf]; exact Nat.le_of_ble_eq_true rfl) | (simp only [List.map, List.sum_cons, List.sum_nil, g_cat_rf, Value.category]; decide)) rfl ?_
  replace hy := g_sA_inv hy
  obtain ⟨n21, f22, hc23, hi24, ho25, hy⟩ := hy
  refine g_stk (st' := va_rf (some a16) :: .int (1 : Int32) :: .ref a1 :: [.ref a1]) rfl ?_
  refine g_aast (pc' := 24) d_Phase_all_23 hc23 (by decide) hi24 ho25 rfl ?_
  generalize g_up h17 a1 (.inl (6, n21, .inr (.inr (.inr (.inr (va_up f22 ((1 : Int32)).toNatClampNeg (some a16))))))) = h26 at hy ⊢
  refine g_dup (pc' := 25) d_Phase_all_24 rfl rfl ?_
  refine g_iconst (v := (2 : Int32)) (pc' := 26) d_Phase_all_25 (by decide) rfl ?_
  replace hy := g_mk_inv hy
  refine g_new (ci := 4) (fs := []) (pc' := 29) d_Phase_all_26 rfl q529 q530 q132 gdf_4 rfl ?_
  generalize g_al h26 (.inr (4, [])) 0 = h28 at hy ⊢
  generalize g_n h26 = a27 at hy ⊢
  refine g_dup (pc' := 30) d_Phase_all_29 rfl rfl ?_
  replace hy := g_b_inv hy
  obtain ⟨x29, hf31, hy⟩ := hy
  refine g_callIN (h1 := h28) (pc' := 33) (As := []) (rest := [.ref a27, .int (2 : Int32), .ref a1, .ref a1]) 0 (T_Draining_init (hy := hf31)) d_Phase_all_30 rfl rfl q531 q532 q132 q533 hd_Draining_init rfl ⟨by decide, by decide⟩ (by first | exact Nat.le_of_ble_eq_true rfl | (simp only [List.map, List.sum_cons, List.sum_nil, g_cat_rf]; exact Nat.le_of_ble_eq_true rfl) | (simp only [List.map, List.sum_cons, List.sum_nil, g_cat_rf, Value.category]; decide)) rfl ?_
  replace hy := g_sA_inv hy
  obtain ⟨n32, f33, hc34, hi35, ho36, hy⟩ := hy
  refine g_stk (st' := va_rf (some a27) :: .int (2 : Int32) :: .ref a1 :: [.ref a1]) rfl ?_
  refine g_aast (pc' := 34) d_Phase_all_33 hc34 (by decide) hi35 ho36 rfl ?_
  generalize g_up h28 a1 (.inl (6, n32, .inr (.inr (.inr (.inr (va_up f33 ((2 : Int32)).toNatClampNeg (some a27))))))) = h37 at hy ⊢
  refine g_dup (pc' := 35) d_Phase_all_34 rfl rfl ?_
  refine g_iconst (v := (3 : Int32)) (pc' := 36) d_Phase_all_35 (by decide) rfl ?_
  replace hy := g_mk_inv hy
  refine g_new (ci := 5) (fs := []) (pc' := 39) d_Phase_all_36 rfl q536 q537 q133 gdf_5 rfl ?_
  generalize g_al h37 (.inr (5, [])) 0 = h39 at hy ⊢
  generalize g_n h37 = a38 at hy ⊢
  refine g_dup (pc' := 40) d_Phase_all_39 rfl rfl ?_
  replace hy := g_b_inv hy
  obtain ⟨x40, hf42, hy⟩ := hy
  refine g_callIN (h1 := h39) (pc' := 43) (As := []) (rest := [.ref a38, .int (3 : Int32), .ref a1, .ref a1]) 0 (T_Clearing_init (hy := hf42)) d_Phase_all_40 rfl rfl q538 q539 q133 q540 hd_Clearing_init rfl ⟨by decide, by decide⟩ (by first | exact Nat.le_of_ble_eq_true rfl | (simp only [List.map, List.sum_cons, List.sum_nil, g_cat_rf]; exact Nat.le_of_ble_eq_true rfl) | (simp only [List.map, List.sum_cons, List.sum_nil, g_cat_rf, Value.category]; decide)) rfl ?_
  replace hy := g_sA_inv hy
  obtain ⟨n43, f44, hc45, hi46, ho47, hy⟩ := hy
  refine g_stk (st' := va_rf (some a38) :: .int (3 : Int32) :: .ref a1 :: [.ref a1]) rfl ?_
  refine g_aast (pc' := 44) d_Phase_all_43 hc45 (by decide) hi46 ho47 rfl ?_
  generalize g_up h39 a1 (.inl (6, n43, .inr (.inr (.inr (.inr (va_up f44 ((3 : Int32)).toNatClampNeg (some a38))))))) = h48 at hy ⊢
  cases hy
  refine g_stk (st' := [va_rf (some a1)]) rfl ?_
  exact g_aret rfl rfl rfl (Or.inr ⟨_, rfl⟩) d_Phase_all_44
theorem hd_Phase_all : g_dsc y_Phase_all 0 := ⟨by decide +kernel, by decide +kernel, by decide +kernel⟩
/-! CircuitDesk$Net.<init>()V -/
abbrev y_Net_init : MethodName := ⟨"CircuitDesk$Net", "<init>", "()V"⟩
abbrev k_Net_init : g_M := (prog_7_method_1_code, 1, "CircuitDesk$Net", 30, none, "<init>", [], 0)
theorem d_Net_init_0 : decode prog_7_method_1_code 0 = .ok (.aload_n 0, 1) := by decide +kernel
theorem d_Net_init_1 : decode prog_7_method_1_code 1 = .ok (.invokespecial 3, 3) := by decide +kernel
theorem d_Net_init_4 : decode prog_7_method_1_code 4 = .ok (.aload_n 0, 1) := by decide +kernel
theorem d_Net_init_5 : decode prog_7_method_1_code 5 = .ok (.iconst 2, 1) := by decide +kernel
theorem d_Net_init_6 : decode prog_7_method_1_code 6 = .ok (.newarray .int, 2) := by decide +kernel
theorem d_Net_init_8 : decode prog_7_method_1_code 8 = .ok (.dup, 1) := by decide +kernel
theorem d_Net_init_9 : decode prog_7_method_1_code 9 = .ok (.iconst 0, 1) := by decide +kernel
theorem d_Net_init_10 : decode prog_7_method_1_code 10 = .ok (.iconst 1, 1) := by decide +kernel
theorem d_Net_init_11 : decode prog_7_method_1_code 11 = .ok (.iastore, 1) := by decide +kernel
theorem d_Net_init_12 : decode prog_7_method_1_code 12 = .ok (.dup, 1) := by decide +kernel
theorem d_Net_init_13 : decode prog_7_method_1_code 13 = .ok (.iconst 1, 1) := by decide +kernel
theorem d_Net_init_14 : decode prog_7_method_1_code 14 = .ok (.iconst 0, 1) := by decide +kernel
theorem d_Net_init_15 : decode prog_7_method_1_code 15 = .ok (.iastore, 1) := by decide +kernel
theorem d_Net_init_16 : decode prog_7_method_1_code 16 = .ok (.putfield 9, 3) := by decide +kernel
theorem d_Net_init_19 : decode prog_7_method_1_code 19 = .ok (.aload_n 0, 1) := by decide +kernel
theorem d_Net_init_20 : decode prog_7_method_1_code 20 = .ok (.new 15, 3) := by decide +kernel
theorem d_Net_init_23 : decode prog_7_method_1_code 23 = .ok (.dup, 1) := by decide +kernel
theorem d_Net_init_24 : decode prog_7_method_1_code 24 = .ok (.iconst 4, 1) := by decide +kernel
theorem d_Net_init_25 : decode prog_7_method_1_code 25 = .ok (.invokespecial 17, 3) := by decide +kernel
theorem d_Net_init_28 : decode prog_7_method_1_code 28 = .ok (.putfield 20, 3) := by decide +kernel
theorem d_Net_init_31 : decode prog_7_method_1_code 31 = .ok (.aload_n 0, 1) := by decide +kernel
theorem d_Net_init_32 : decode prog_7_method_1_code 32 = .ok (.new 15, 3) := by decide +kernel
theorem d_Net_init_35 : decode prog_7_method_1_code 35 = .ok (.dup, 1) := by decide +kernel
theorem d_Net_init_36 : decode prog_7_method_1_code 36 = .ok (.iconst 4, 1) := by decide +kernel
theorem d_Net_init_37 : decode prog_7_method_1_code 37 = .ok (.invokespecial 17, 3) := by decide +kernel
theorem d_Net_init_40 : decode prog_7_method_1_code 40 = .ok (.putfield 24, 3) := by decide +kernel
theorem d_Net_init_43 : decode prog_7_method_1_code 43 = .ok (.aload_n 0, 1) := by decide +kernel
theorem d_Net_init_44 : decode prog_7_method_1_code 44 = .ok (.new 15, 3) := by decide +kernel
theorem d_Net_init_47 : decode prog_7_method_1_code 47 = .ok (.dup, 1) := by decide +kernel
theorem d_Net_init_48 : decode prog_7_method_1_code 48 = .ok (.iconst 4, 1) := by decide +kernel
theorem d_Net_init_49 : decode prog_7_method_1_code 49 = .ok (.invokespecial 17, 3) := by decide +kernel
theorem d_Net_init_52 : decode prog_7_method_1_code 52 = .ok (.putfield 27, 3) := by decide +kernel
theorem d_Net_init_55 : decode prog_7_method_1_code 55 = .ok (.aload_n 0, 1) := by decide +kernel
theorem d_Net_init_56 : decode prog_7_method_1_code 56 = .ok (.new 15, 3) := by decide +kernel
theorem d_Net_init_59 : decode prog_7_method_1_code 59 = .ok (.dup, 1) := by decide +kernel
theorem d_Net_init_60 : decode prog_7_method_1_code 60 = .ok (.bipush 8, 2) := by decide +kernel
theorem d_Net_init_62 : decode prog_7_method_1_code 62 = .ok (.invokespecial 17, 3) := by decide +kernel
theorem d_Net_init_65 : decode prog_7_method_1_code 65 = .ok (.putfield 30, 3) := by decide +kernel
theorem d_Net_init_68 : decode prog_7_method_1_code 68 = .ok (.aload_n 0, 1) := by decide +kernel
theorem d_Net_init_69 : decode prog_7_method_1_code 69 = .ok (.invokestatic 33, 3) := by decide +kernel
theorem d_Net_init_72 : decode prog_7_method_1_code 72 = .ok (.putfield 39, 3) := by decide +kernel
theorem d_Net_init_75 : decode prog_7_method_1_code 75 = .ok (.return_, 1) := by decide +kernel
def Net_init (h : g_AH) (this : Nat) : Option g_AH :=
  g_mkA h 0 (2 : Int32) fun a1 h2 => g_sI h2 0 a1 (0 : Int32) (1 : Int32) fun h9 => g_sI h9 0 a1 (1 : Int32) (0 : Int32) fun h14 => g_pF h14 this 1 0 (.ref a1) fun h18 => g_mk h18 (.inr (15, [.int 0, .null, .int 0])) 3 fun a19 h20 => g_b (ArrayList_init h20 a19 (4 : Int32)) fun h22 => g_pF h22 this 1 1 (.ref a19) fun h27 => g_mk h27 (.inr (15, [.int 0, .null, .int 0])) 3 fun a28 h29 => g_b (ArrayList_init h29 a28 (4 : Int32)) fun h31 => g_pF h31 this 1 2 (.ref a28) fun h36 => g_mk h36 (.inr (15, [.int 0, .null, .int 0])) 3 fun a37 h38 => g_b (ArrayList_init h38 a37 (4 : Int32)) fun h40 => g_pF h40 this 1 3 (.ref a37) fun h45 => g_mk h45 (.inr (15, [.int 0, .null, .int 0])) 3 fun a46 h47 => g_b (ArrayList_init h47 a46 (8 : Int32)) fun h49 => g_pF h49 this 1 4 (.ref a46) fun h54 => g_b2 (Phase_all h54) fun x55 h56 => g_pF h56 this 1 5 (va_rf x55) fun h61 => some h61
set_option maxHeartbeats 4000000 in
set_option maxRecDepth 100000 in
theorem T_Net_init {l : Launch} {B : g_B} (h : g_AH) (this : Nat) (z : g_AH) (hy : Net_init h this = some z) : g_CT l B y_Net_init k_Net_init [.ref this] h (.inl none) z := by
  refine g_start2 (Lc := [(0, .ref this)]) (by decide) rfl rfl (by exact Nat.le_of_ble_eq_true rfl) (by rfl) fun X => ?_
  unfold Net_init at hy
  refine g_aload_n 0 (i := 0) (pc' := 1) d_Net_init_0 rfl rfl rfl ?_
  refine g_objInit (pc' := 4) d_Net_init_1 q161 (by first | exact Nat.le_of_ble_eq_true rfl | (simp only [List.map, List.sum_cons, List.sum_nil, g_cat_rf]; exact Nat.le_of_ble_eq_true rfl) | (simp only [List.map, List.sum_cons, List.sum_nil, g_cat_rf, Value.category]; decide)) (by decide) rfl ?_
  refine g_aload_n 0 (i := 0) (pc' := 5) d_Net_init_4 rfl rfl rfl ?_
  refine g_iconst (v := (2 : Int32)) (pc' := 6) d_Net_init_5 (by decide) rfl ?_
  replace hy := g_mkA_inv hy
  obtain ⟨hn3, hb4, hy⟩ := hy
  refine g_newa0 (pc' := 8) d_Net_init_6 hn3 hb4 rfl ?_
  generalize g_al h (.inl (0, ((2 : Int32)).toNatClampNeg, .inl (fun _ => 0))) ((2 : Int32)).toNatClampNeg = h2 at hy ⊢
  generalize g_n h = a1 at hy ⊢
  refine g_dup (pc' := 9) d_Net_init_8 rfl rfl ?_
  refine g_iconst (v := (0 : Int32)) (pc' := 10) d_Net_init_9 (by decide) rfl ?_
  refine g_iconst (v := (1 : Int32)) (pc' := 11) d_Net_init_10 (by decide) rfl ?_
  replace hy := g_sI_inv hy
  obtain ⟨n5, f6, hc7, hi8, hy⟩ := hy
  refine g_iast (pc' := 12) d_Net_init_11 hc7 hi8 rfl ?_
  generalize g_up h2 a1 (.inl (0, n5, .inl (upd f6 ((0 : Int32)).toNatClampNeg (1 : Int32)))) = h9 at hy ⊢
  refine g_dup (pc' := 13) d_Net_init_12 rfl rfl ?_
  refine g_iconst (v := (1 : Int32)) (pc' := 14) d_Net_init_13 (by decide) rfl ?_
  refine g_iconst (v := (0 : Int32)) (pc' := 15) d_Net_init_14 (by decide) rfl ?_
  replace hy := g_sI_inv hy
  obtain ⟨n10, f11, hc12, hi13, hy⟩ := hy
  refine g_iast (pc' := 16) d_Net_init_15 hc12 hi13 rfl ?_
  generalize g_up h9 a1 (.inl (0, n10, .inl (upd f11 ((1 : Int32)).toNatClampNeg (0 : Int32)))) = h14 at hy ⊢
  replace hy := g_pF_inv hy
  obtain ⟨fs15, hc16, hl17, hy⟩ := hy
  refine g_putf (pc' := 19) d_Net_init_16 hc16 rfl (by decide) hl17 rfl rfl rfl q543 (Or.inl rfl) rfl ?_
  generalize g_up h14 this (.inr (1, fs15.set 0 (.ref a1))) = h18 at hy ⊢
  refine g_aload_n 0 (i := 0) (pc' := 20) d_Net_init_19 rfl rfl rfl ?_
  replace hy := g_mk_inv hy
  refine g_new (ci := 15) (fs := [.int 0, .null, .int 0]) (pc' := 23) d_Net_init_20 rfl q162 q163 q112 gdf_15 rfl ?_
  generalize g_al h18 (.inr (15, [.int 0, .null, .int 0])) 3 = h20 at hy ⊢
  generalize g_n h18 = a19 at hy ⊢
  refine g_dup (pc' := 24) d_Net_init_23 rfl rfl ?_
  refine g_iconst (v := (4 : Int32)) (pc' := 25) d_Net_init_24 (by decide) rfl ?_
  replace hy := g_b_inv hy
  obtain ⟨h22, hf23, hy⟩ := hy
  refine g_callI (h1 := h22) (pc' := 28) (As := [.int (4 : Int32)]) (rest := [.ref a19, .ref this]) 1 (T_ArrayList_init (hy := hf23)) d_Net_init_25 rfl rfl q164 q165 q112 q166 hd_ArrayList_init rfl ⟨by decide, by decide⟩ (by first | exact Nat.le_of_ble_eq_true rfl | (simp only [List.map, List.sum_cons, List.sum_nil, g_cat_rf]; exact Nat.le_of_ble_eq_true rfl) | (simp only [List.map, List.sum_cons, List.sum_nil, g_cat_rf, Value.category]; decide)) rfl ?_
  replace hy := g_pF_inv hy
  obtain ⟨fs24, hc25, hl26, hy⟩ := hy
  refine g_putfF (pc' := 31) d_Net_init_28 rfl hc25 rfl (by decide) hl26 rfl rfl rfl rfl q547 rfl rfl ?_
  generalize g_up h22 this (.inr (1, fs24.set 1 (.ref a19))) = h27 at hy ⊢
  refine g_aload_n 0 (i := 0) (pc' := 32) d_Net_init_31 rfl rfl rfl ?_
  replace hy := g_mk_inv hy
  refine g_new (ci := 15) (fs := [.int 0, .null, .int 0]) (pc' := 35) d_Net_init_32 rfl q162 q163 q112 gdf_15 rfl ?_
  generalize g_al h27 (.inr (15, [.int 0, .null, .int 0])) 3 = h29 at hy ⊢
  generalize g_n h27 = a28 at hy ⊢
  refine g_dup (pc' := 36) d_Net_init_35 rfl rfl ?_
  refine g_iconst (v := (4 : Int32)) (pc' := 37) d_Net_init_36 (by decide) rfl ?_
  replace hy := g_b_inv hy
  obtain ⟨h31, hf32, hy⟩ := hy
  refine g_callI (h1 := h31) (pc' := 40) (As := [.int (4 : Int32)]) (rest := [.ref a28, .ref this]) 1 (T_ArrayList_init (hy := hf32)) d_Net_init_37 rfl rfl q164 q165 q112 q166 hd_ArrayList_init rfl ⟨by decide, by decide⟩ (by first | exact Nat.le_of_ble_eq_true rfl | (simp only [List.map, List.sum_cons, List.sum_nil, g_cat_rf]; exact Nat.le_of_ble_eq_true rfl) | (simp only [List.map, List.sum_cons, List.sum_nil, g_cat_rf, Value.category]; decide)) rfl ?_
  replace hy := g_pF_inv hy
  obtain ⟨fs33, hc34, hl35, hy⟩ := hy
  refine g_putfF (pc' := 43) d_Net_init_40 rfl hc34 rfl (by decide) hl35 rfl rfl rfl rfl q552 rfl rfl ?_
  generalize g_up h31 this (.inr (1, fs33.set 2 (.ref a28))) = h36 at hy ⊢
  refine g_aload_n 0 (i := 0) (pc' := 44) d_Net_init_43 rfl rfl rfl ?_
  replace hy := g_mk_inv hy
  refine g_new (ci := 15) (fs := [.int 0, .null, .int 0]) (pc' := 47) d_Net_init_44 rfl q162 q163 q112 gdf_15 rfl ?_
  generalize g_al h36 (.inr (15, [.int 0, .null, .int 0])) 3 = h38 at hy ⊢
  generalize g_n h36 = a37 at hy ⊢
  refine g_dup (pc' := 48) d_Net_init_47 rfl rfl ?_
  refine g_iconst (v := (4 : Int32)) (pc' := 49) d_Net_init_48 (by decide) rfl ?_
  replace hy := g_b_inv hy
  obtain ⟨h40, hf41, hy⟩ := hy
  refine g_callI (h1 := h40) (pc' := 52) (As := [.int (4 : Int32)]) (rest := [.ref a37, .ref this]) 1 (T_ArrayList_init (hy := hf41)) d_Net_init_49 rfl rfl q164 q165 q112 q166 hd_ArrayList_init rfl ⟨by decide, by decide⟩ (by first | exact Nat.le_of_ble_eq_true rfl | (simp only [List.map, List.sum_cons, List.sum_nil, g_cat_rf]; exact Nat.le_of_ble_eq_true rfl) | (simp only [List.map, List.sum_cons, List.sum_nil, g_cat_rf, Value.category]; decide)) rfl ?_
  replace hy := g_pF_inv hy
  obtain ⟨fs42, hc43, hl44, hy⟩ := hy
  refine g_putfF (pc' := 55) d_Net_init_52 rfl hc43 rfl (by decide) hl44 rfl rfl rfl rfl q555 rfl rfl ?_
  generalize g_up h40 this (.inr (1, fs42.set 3 (.ref a37))) = h45 at hy ⊢
  refine g_aload_n 0 (i := 0) (pc' := 56) d_Net_init_55 rfl rfl rfl ?_
  replace hy := g_mk_inv hy
  refine g_new (ci := 15) (fs := [.int 0, .null, .int 0]) (pc' := 59) d_Net_init_56 rfl q162 q163 q112 gdf_15 rfl ?_
  generalize g_al h45 (.inr (15, [.int 0, .null, .int 0])) 3 = h47 at hy ⊢
  generalize g_n h45 = a46 at hy ⊢
  refine g_dup (pc' := 60) d_Net_init_59 rfl rfl ?_
  refine g_bipush (v := (8 : Int32)) (pc' := 62) d_Net_init_60 (by decide) rfl ?_
  replace hy := g_b_inv hy
  obtain ⟨h49, hf50, hy⟩ := hy
  refine g_callI (h1 := h49) (pc' := 65) (As := [.int (8 : Int32)]) (rest := [.ref a46, .ref this]) 1 (T_ArrayList_init (hy := hf50)) d_Net_init_62 rfl rfl q164 q165 q112 q166 hd_ArrayList_init rfl ⟨by decide, by decide⟩ (by first | exact Nat.le_of_ble_eq_true rfl | (simp only [List.map, List.sum_cons, List.sum_nil, g_cat_rf]; exact Nat.le_of_ble_eq_true rfl) | (simp only [List.map, List.sum_cons, List.sum_nil, g_cat_rf, Value.category]; decide)) rfl ?_
  replace hy := g_pF_inv hy
  obtain ⟨fs51, hc52, hl53, hy⟩ := hy
  refine g_putfF (pc' := 68) d_Net_init_65 rfl hc52 rfl (by decide) hl53 rfl rfl rfl rfl q561 rfl rfl ?_
  generalize g_up h49 this (.inr (1, fs51.set 4 (.ref a46))) = h54 at hy ⊢
  refine g_aload_n 0 (i := 0) (pc' := 69) d_Net_init_68 rfl rfl rfl ?_
  replace hy := g_b2_inv hy
  obtain ⟨x55, h56, hf57, hy⟩ := hy
  refine g_callS (rv := some (va_rf x55)) (h1 := h56) (pc' := 72) (As := []) (rest := [.ref this]) 0 (T_Phase_all (hy := hf57)) d_Net_init_69 q510 q511 q129 q512 hd_Phase_all rfl ⟨by decide, by decide⟩ (by first | exact Nat.le_of_ble_eq_true rfl | (simp only [List.map, List.sum_cons, List.sum_nil, g_cat_rf]; exact Nat.le_of_ble_eq_true rfl) | (simp only [List.map, List.sum_cons, List.sum_nil, g_cat_rf, Value.category]; decide)) rfl ?_
  replace hy := g_pF_inv hy
  obtain ⟨fs58, hc59, hl60, hy⟩ := hy
  refine g_putfF (pc' := 75) d_Net_init_72 rfl hc59 rfl (by decide) hl60 rfl rfl g_nar_rf g_fit_a q563 rfl rfl ?_
  generalize g_up h56 this (.inr (1, fs58.set 5 (va_rf x55))) = h61 at hy ⊢
  cases hy
  exact g_vret rfl rfl rfl d_Net_init_75
theorem hd_Net_init : g_dsc y_Net_init 0 := ⟨by decide +kernel, by decide +kernel, by decide +kernel⟩
/-! CircuitDesk$Node.copy()LCircuitDesk$Node; -/
abbrev y_Node_copy : MethodName := ⟨"CircuitDesk$Node", "copy", "()LCircuitDesk$Node;"⟩
abbrev k_Node_copy : g_M := (prog_8_method_2_code, 2, "CircuitDesk$Node", 14, (some (FieldType.object "CircuitDesk$Node")), "copy", [], 0)
theorem d_Node_copy_0 : decode prog_8_method_2_code 0 = .ok (.new 10, 3) := by decide +kernel
theorem d_Node_copy_3 : decode prog_8_method_2_code 3 = .ok (.dup, 1) := by decide +kernel
theorem d_Node_copy_4 : decode prog_8_method_2_code 4 = .ok (.aload_n 0, 1) := by decide +kernel
theorem d_Node_copy_5 : decode prog_8_method_2_code 5 = .ok (.getfield 9, 3) := by decide +kernel
theorem d_Node_copy_8 : decode prog_8_method_2_code 8 = .ok (.invokespecial 29, 3) := by decide +kernel
theorem d_Node_copy_11 : decode prog_8_method_2_code 11 = .ok (.astore_n 1, 1) := by decide +kernel
theorem d_Node_copy_12 : decode prog_8_method_2_code 12 = .ok (.aload_n 1, 1) := by decide +kernel
theorem d_Node_copy_13 : decode prog_8_method_2_code 13 = .ok (.aload_n 0, 1) := by decide +kernel
theorem d_Node_copy_14 : decode prog_8_method_2_code 14 = .ok (.getfield 15, 3) := by decide +kernel
theorem d_Node_copy_17 : decode prog_8_method_2_code 17 = .ok (.invokevirtual 32, 3) := by decide +kernel
theorem d_Node_copy_20 : decode prog_8_method_2_code 20 = .ok (.checkcast 33, 3) := by decide +kernel
theorem d_Node_copy_23 : decode prog_8_method_2_code 23 = .ok (.putfield 15, 3) := by decide +kernel
theorem d_Node_copy_26 : decode prog_8_method_2_code 26 = .ok (.aload_n 1, 1) := by decide +kernel
theorem d_Node_copy_27 : decode prog_8_method_2_code 27 = .ok (.aload_n 0, 1) := by decide +kernel
theorem d_Node_copy_28 : decode prog_8_method_2_code 28 = .ok (.getfield 19, 3) := by decide +kernel
theorem d_Node_copy_31 : decode prog_8_method_2_code 31 = .ok (.invokevirtual 32, 3) := by decide +kernel
theorem d_Node_copy_34 : decode prog_8_method_2_code 34 = .ok (.checkcast 33, 3) := by decide +kernel
theorem d_Node_copy_37 : decode prog_8_method_2_code 37 = .ok (.putfield 19, 3) := by decide +kernel
theorem d_Node_copy_40 : decode prog_8_method_2_code 40 = .ok (.aload_n 1, 1) := by decide +kernel
theorem d_Node_copy_41 : decode prog_8_method_2_code 41 = .ok (.aload_n 0, 1) := by decide +kernel
theorem d_Node_copy_42 : decode prog_8_method_2_code 42 = .ok (.getfield 22, 3) := by decide +kernel
theorem d_Node_copy_45 : decode prog_8_method_2_code 45 = .ok (.invokevirtual 37, 3) := by decide +kernel
theorem d_Node_copy_48 : decode prog_8_method_2_code 48 = .ok (.checkcast 38, 3) := by decide +kernel
theorem d_Node_copy_51 : decode prog_8_method_2_code 51 = .ok (.putfield 22, 3) := by decide +kernel
theorem d_Node_copy_54 : decode prog_8_method_2_code 54 = .ok (.aload_n 1, 1) := by decide +kernel
theorem d_Node_copy_55 : decode prog_8_method_2_code 55 = .ok (.aload_n 0, 1) := by decide +kernel
theorem d_Node_copy_56 : decode prog_8_method_2_code 56 = .ok (.getfield 26, 3) := by decide +kernel
theorem d_Node_copy_59 : decode prog_8_method_2_code 59 = .ok (.invokevirtual 37, 3) := by decide +kernel
theorem d_Node_copy_62 : decode prog_8_method_2_code 62 = .ok (.checkcast 38, 3) := by decide +kernel
theorem d_Node_copy_65 : decode prog_8_method_2_code 65 = .ok (.putfield 26, 3) := by decide +kernel
theorem d_Node_copy_68 : decode prog_8_method_2_code 68 = .ok (.aload_n 1, 1) := by decide +kernel
theorem d_Node_copy_69 : decode prog_8_method_2_code 69 = .ok (.areturn, 1) := by decide +kernel
def Node_copy (h : g_AH) (this : Nat) : Option (Option Nat × g_AH) :=
  g_mk h (.inr (10, [.int 0, .null, .null, .null, .null])) 5 fun a1 h2 => g_gI h2 this 10 0 fun x4 => g_b (Node_init h2 a1 x4) fun h8 => g_gR h8 this 10 1 fun x11 => g_nn x11 fun a14 => g_cl h8 0 a14 fun a19 h20 => g_isA h20 0 a19 <| g_pF h20 a1 10 1 (.ref a19) fun h26 => g_gR h26 this 10 2 fun x28 => g_nn x28 fun a31 => g_cl h26 0 a31 fun a36 h37 => g_isA h37 0 a36 <| g_pF h37 a1 10 2 (.ref a36) fun h43 => g_gR h43 this 10 3 fun x45 => g_nn x45 fun a48 => g_cl h43 1 a48 fun a53 h54 => g_isA h54 1 a53 <| g_pF h54 a1 10 3 (.ref a53) fun h60 => g_gR h60 this 10 4 fun x62 => g_nn x62 fun a65 => g_cl h60 1 a65 fun a70 h71 => g_isA h71 1 a70 <| g_pF h71 a1 10 4 (.ref a70) fun h77 => some ((some a1), h77)
set_option maxHeartbeats 4000000 in
set_option maxRecDepth 100000 in
theorem T_Node_copy {l : Launch} {B : g_B} (h : g_AH) (this : Nat) (z : Option Nat × g_AH) (hy : Node_copy h this = some z) : g_CT l B y_Node_copy k_Node_copy [.ref this] h (.inl (some (va_rf z.1))) z.2 := by
  refine g_start2 (Lc := [(0, .ref this)]) (by decide) rfl rfl (by exact Nat.le_of_ble_eq_true rfl) (by rfl) fun X => ?_
  unfold Node_copy at hy
  replace hy := g_mk_inv hy
  refine g_new (ci := 10) (fs := [.int 0, .null, .null, .null, .null]) (pc' := 3) d_Node_copy_0 rfl q1898 q997 q139 gdf_10 rfl ?_
  generalize g_al h (.inr (10, [.int 0, .null, .null, .null, .null])) 5 = h2 at hy ⊢
  generalize g_n h = a1 at hy ⊢
  refine g_dup (pc' := 4) d_Node_copy_3 rfl rfl ?_
  refine g_aload_n 0 (i := 0) (pc' := 5) d_Node_copy_4 rfl rfl rfl ?_
  replace hy := g_gI_inv hy
  obtain ⟨fs3, x4, hc5, hv6, hy⟩ := hy
  refine g_getf (pc' := 8) d_Node_copy_5 hc5 rfl (by decide) hv6 q1010 (Or.inl rfl) rfl ?_
  replace hy := g_b_inv hy
  obtain ⟨h8, hf9, hy⟩ := hy
  refine g_callI (h1 := h8) (pc' := 11) (As := [.int x4]) (rest := [.ref a1]) 1 (T_Node_init (hy := hf9)) d_Node_copy_8 rfl rfl q1899 q1007 q139 q1008 hd_Node_init rfl ⟨by decide, by decide⟩ (by first | exact Nat.le_of_ble_eq_true rfl | (simp only [List.map, List.sum_cons, List.sum_nil, g_cat_rf]; exact Nat.le_of_ble_eq_true rfl) | (simp only [List.map, List.sum_cons, List.sum_nil, g_cat_rf, Value.category]; decide)) rfl ?_
  refine g_astore_n (i := 1) (pc' := 12) (Lc' := [(1, .ref a1), (0, .ref this)]) d_Node_copy_11 rfl (by decide) rfl rfl ?_
  refine g_aload_n 0 (i := 1) (pc' := 13) d_Node_copy_12 rfl rfl rfl ?_
  refine g_aload_n 1 (i := 0) (pc' := 14) d_Node_copy_13 rfl rfl rfl ?_
  replace hy := g_gR_inv hy
  obtain ⟨fs10, x11, hc12, hv13, hy⟩ := hy
  refine g_getf (pc' := 17) d_Node_copy_14 hc12 rfl (by decide) hv13 q1013 (Or.inl rfl) rfl ?_
  replace hy := g_nn_inv hy
  obtain ⟨a14, rfl, hy⟩ := hy
  replace hy := g_cl_inv hy
  obtain ⟨n15, f16, hc17, hf18, hy⟩ := hy
  refine g_clone (ty := .int) (pc' := 20) d_Node_copy_17 hc17 hf18 (List.mem_of_getElem? (i := 0) rfl) (fun _ => rfl) (by decide) (fun C e => by cases e) q1900 q782 q783 q784 (by first | exact Nat.le_of_ble_eq_true rfl | (simp only [List.map, List.sum_cons, List.sum_nil, g_cat_rf]; exact Nat.le_of_ble_eq_true rfl) | (simp only [List.map, List.sum_cons, List.sum_nil, g_cat_rf, Value.category]; decide)) (by decide) rfl ?_
  generalize g_al h8 (.inl (0, n15, .inl f16)) n15 = h20 at hy ⊢
  generalize g_n h8 = a19 at hy ⊢
  replace hy := g_isA_inv hy
  obtain ⟨y21, hc22, hy⟩ := hy
  refine g_castA (ty := .int) (pc' := 23) d_Node_copy_20 hc22 q1901 (fun _ => rfl) (by decide) rfl ?_
  replace hy := g_pF_inv hy
  obtain ⟨fs23, hc24, hl25, hy⟩ := hy
  refine g_putf (pc' := 26) d_Node_copy_23 hc24 rfl (by decide) hl25 rfl rfl rfl q1013 (Or.inl rfl) rfl ?_
  generalize g_up h20 a1 (.inr (10, fs23.set 1 (.ref a19))) = h26 at hy ⊢
  refine g_aload_n 0 (i := 1) (pc' := 27) d_Node_copy_26 rfl rfl rfl ?_
  refine g_aload_n 1 (i := 0) (pc' := 28) d_Node_copy_27 rfl rfl rfl ?_
  replace hy := g_gR_inv hy
  obtain ⟨fs27, x28, hc29, hv30, hy⟩ := hy
  refine g_getf (pc' := 31) d_Node_copy_28 hc29 rfl (by decide) hv30 q1016 (Or.inl rfl) rfl ?_
  replace hy := g_nn_inv hy
  obtain ⟨a31, rfl, hy⟩ := hy
  replace hy := g_cl_inv hy
  obtain ⟨n32, f33, hc34, hf35, hy⟩ := hy
  refine g_clone (ty := .int) (pc' := 34) d_Node_copy_31 hc34 hf35 (List.mem_of_getElem? (i := 0) rfl) (fun _ => rfl) (by decide) (fun C e => by cases e) q1900 q782 q783 q784 (by first | exact Nat.le_of_ble_eq_true rfl | (simp only [List.map, List.sum_cons, List.sum_nil, g_cat_rf]; exact Nat.le_of_ble_eq_true rfl) | (simp only [List.map, List.sum_cons, List.sum_nil, g_cat_rf, Value.category]; decide)) (by decide) rfl ?_
  generalize g_al h26 (.inl (0, n32, .inl f33)) n32 = h37 at hy ⊢
  generalize g_n h26 = a36 at hy ⊢
  replace hy := g_isA_inv hy
  obtain ⟨y38, hc39, hy⟩ := hy
  refine g_castA (ty := .int) (pc' := 37) d_Node_copy_34 hc39 q1901 (fun _ => rfl) (by decide) rfl ?_
  replace hy := g_pF_inv hy
  obtain ⟨fs40, hc41, hl42, hy⟩ := hy
  refine g_putf (pc' := 40) d_Node_copy_37 hc41 rfl (by decide) hl42 rfl rfl rfl q1016 (Or.inl rfl) rfl ?_
  generalize g_up h37 a1 (.inr (10, fs40.set 2 (.ref a36))) = h43 at hy ⊢
  refine g_aload_n 0 (i := 1) (pc' := 41) d_Node_copy_40 rfl rfl rfl ?_
  refine g_aload_n 1 (i := 0) (pc' := 42) d_Node_copy_41 rfl rfl rfl ?_
  replace hy := g_gR_inv hy
  obtain ⟨fs44, x45, hc46, hv47, hy⟩ := hy
  refine g_getf (pc' := 45) d_Node_copy_42 hc46 rfl (by decide) hv47 q1019 (Or.inl rfl) rfl ?_
  replace hy := g_nn_inv hy
  obtain ⟨a48, rfl, hy⟩ := hy
  replace hy := g_cl_inv hy
  obtain ⟨n49, f50, hc51, hf52, hy⟩ := hy
  refine g_clone (ty := .boolean) (pc' := 48) d_Node_copy_45 hc51 hf52 (List.mem_of_getElem? (i := 1) rfl) (fun _ => rfl) (by decide) (fun C e => by cases e) q1902 q1903 q1904 q1905 (by first | exact Nat.le_of_ble_eq_true rfl | (simp only [List.map, List.sum_cons, List.sum_nil, g_cat_rf]; exact Nat.le_of_ble_eq_true rfl) | (simp only [List.map, List.sum_cons, List.sum_nil, g_cat_rf, Value.category]; decide)) (by decide) rfl ?_
  generalize g_al h43 (.inl (1, n49, .inl f50)) n49 = h54 at hy ⊢
  generalize g_n h43 = a53 at hy ⊢
  replace hy := g_isA_inv hy
  obtain ⟨y55, hc56, hy⟩ := hy
  refine g_castA (ty := .boolean) (pc' := 51) d_Node_copy_48 hc56 q1906 (fun _ => rfl) (by decide) rfl ?_
  replace hy := g_pF_inv hy
  obtain ⟨fs57, hc58, hl59, hy⟩ := hy
  refine g_putf (pc' := 54) d_Node_copy_51 hc58 rfl (by decide) hl59 rfl rfl rfl q1019 (Or.inl rfl) rfl ?_
  generalize g_up h54 a1 (.inr (10, fs57.set 3 (.ref a53))) = h60 at hy ⊢
  refine g_aload_n 0 (i := 1) (pc' := 55) d_Node_copy_54 rfl rfl rfl ?_
  refine g_aload_n 1 (i := 0) (pc' := 56) d_Node_copy_55 rfl rfl rfl ?_
  replace hy := g_gR_inv hy
  obtain ⟨fs61, x62, hc63, hv64, hy⟩ := hy
  refine g_getf (pc' := 59) d_Node_copy_56 hc63 rfl (by decide) hv64 q1022 (Or.inl rfl) rfl ?_
  replace hy := g_nn_inv hy
  obtain ⟨a65, rfl, hy⟩ := hy
  replace hy := g_cl_inv hy
  obtain ⟨n66, f67, hc68, hf69, hy⟩ := hy
  refine g_clone (ty := .boolean) (pc' := 62) d_Node_copy_59 hc68 hf69 (List.mem_of_getElem? (i := 1) rfl) (fun _ => rfl) (by decide) (fun C e => by cases e) q1902 q1903 q1904 q1905 (by first | exact Nat.le_of_ble_eq_true rfl | (simp only [List.map, List.sum_cons, List.sum_nil, g_cat_rf]; exact Nat.le_of_ble_eq_true rfl) | (simp only [List.map, List.sum_cons, List.sum_nil, g_cat_rf, Value.category]; decide)) (by decide) rfl ?_
  generalize g_al h60 (.inl (1, n66, .inl f67)) n66 = h71 at hy ⊢
  generalize g_n h60 = a70 at hy ⊢
  replace hy := g_isA_inv hy
  obtain ⟨y72, hc73, hy⟩ := hy
  refine g_castA (ty := .boolean) (pc' := 65) d_Node_copy_62 hc73 q1906 (fun _ => rfl) (by decide) rfl ?_
  replace hy := g_pF_inv hy
  obtain ⟨fs74, hc75, hl76, hy⟩ := hy
  refine g_putf (pc' := 68) d_Node_copy_65 hc75 rfl (by decide) hl76 rfl rfl rfl q1022 (Or.inl rfl) rfl ?_
  generalize g_up h71 a1 (.inr (10, fs74.set 4 (.ref a70))) = h77 at hy ⊢
  refine g_aload_n 0 (i := 1) (pc' := 69) d_Node_copy_68 rfl rfl rfl ?_
  cases hy
  refine g_stk (st' := [va_rf (some a1)]) rfl ?_
  exact g_aret rfl rfl rfl (Or.inl ⟨_, rfl⟩) d_Node_copy_69
theorem hd_Node_copy : g_dsc y_Node_copy 0 := ⟨by decide +kernel, by decide +kernel, by decide +kernel⟩
/-! CircuitDesk$Link.copy()LCircuitDesk$Link; -/
abbrev y_Link_copy : MethodName := ⟨"CircuitDesk$Link", "copy", "()LCircuitDesk$Link;"⟩
abbrev k_Link_copy : g_M := (prog_6_method_2_code, 2, "CircuitDesk$Link", 14, (some (FieldType.object "CircuitDesk$Link")), "copy", [], 0)
theorem d_Link_copy_0 : decode prog_6_method_2_code 0 = .ok (.new 8, 3) := by decide +kernel
theorem d_Link_copy_3 : decode prog_6_method_2_code 3 = .ok (.dup, 1) := by decide +kernel
theorem d_Link_copy_4 : decode prog_6_method_2_code 4 = .ok (.aload_n 0, 1) := by decide +kernel
theorem d_Link_copy_5 : decode prog_6_method_2_code 5 = .ok (.getfield 13, 3) := by decide +kernel
theorem d_Link_copy_8 : decode prog_6_method_2_code 8 = .ok (.aload_n 0, 1) := by decide +kernel
theorem d_Link_copy_9 : decode prog_6_method_2_code 9 = .ok (.getfield 17, 3) := by decide +kernel
theorem d_Link_copy_12 : decode prog_6_method_2_code 12 = .ok (.aload_n 0, 1) := by decide +kernel
theorem d_Link_copy_13 : decode prog_6_method_2_code 13 = .ok (.getfield 20, 3) := by decide +kernel
theorem d_Link_copy_16 : decode prog_6_method_2_code 16 = .ok (.aload_n 0, 1) := by decide +kernel
theorem d_Link_copy_17 : decode prog_6_method_2_code 17 = .ok (.getfield 23, 3) := by decide +kernel
theorem d_Link_copy_20 : decode prog_6_method_2_code 20 = .ok (.invokespecial 26, 3) := by decide +kernel
theorem d_Link_copy_23 : decode prog_6_method_2_code 23 = .ok (.astore_n 1, 1) := by decide +kernel
theorem d_Link_copy_24 : decode prog_6_method_2_code 24 = .ok (.aload_n 1, 1) := by decide +kernel
theorem d_Link_copy_25 : decode prog_6_method_2_code 25 = .ok (.aload_n 0, 1) := by decide +kernel
theorem d_Link_copy_26 : decode prog_6_method_2_code 26 = .ok (.getfield 7, 3) := by decide +kernel
theorem d_Link_copy_29 : decode prog_6_method_2_code 29 = .ok (.putfield 7, 3) := by decide +kernel
theorem d_Link_copy_32 : decode prog_6_method_2_code 32 = .ok (.aload_n 1, 1) := by decide +kernel
theorem d_Link_copy_33 : decode prog_6_method_2_code 33 = .ok (.areturn, 1) := by decide +kernel
def Link_copy (h : g_AH) (this : Nat) : Option (Option Nat × g_AH) :=
  g_mk h (.inr (11, [.int 0, .int 0, .int 0, .int 0, .int 0])) 5 fun a1 h2 => g_gI h2 this 11 0 fun x4 => g_gI h2 this 11 1 fun x8 => g_gI h2 this 11 2 fun x12 => g_gI h2 this 11 3 fun x16 => g_b (Link_init h2 a1 x4 x8 x12 x16) fun h20 => g_gI h20 this 11 4 fun x23 => g_rq (x23 = 0 ∨ x23 = 1) <| g_pF h20 a1 11 4 (.int x23) fun h30 => some ((some a1), h30)
set_option maxHeartbeats 4000000 in
set_option maxRecDepth 100000 in
theorem T_Link_copy {l : Launch} {B : g_B} (h : g_AH) (this : Nat) (z : Option Nat × g_AH) (hy : Link_copy h this = some z) : g_CT l B y_Link_copy k_Link_copy [.ref this] h (.inl (some (va_rf z.1))) z.2 := by
  refine g_start2 (Lc := [(0, .ref this)]) (by decide) rfl rfl (by exact Nat.le_of_ble_eq_true rfl) (by rfl) fun X => ?_
  unfold Link_copy at hy
  replace hy := g_mk_inv hy
  refine g_new (ci := 11) (fs := [.int 0, .int 0, .int 0, .int 0, .int 0]) (pc' := 3) d_Link_copy_0 rfl q1911 q1102 q141 gdf_11 rfl ?_
  generalize g_al h (.inr (11, [.int 0, .int 0, .int 0, .int 0, .int 0])) 5 = h2 at hy ⊢
  generalize g_n h = a1 at hy ⊢
  refine g_dup (pc' := 4) d_Link_copy_3 rfl rfl ?_
  refine g_aload_n 0 (i := 0) (pc' := 5) d_Link_copy_4 rfl rfl rfl ?_
  replace hy := g_gI_inv hy
  obtain ⟨fs3, x4, hc5, hv6, hy⟩ := hy
  refine g_getf (pc' := 8) d_Link_copy_5 hc5 rfl (by decide) hv6 q1107 (Or.inl rfl) rfl ?_
  refine g_aload_n 0 (i := 0) (pc' := 9) d_Link_copy_8 rfl rfl rfl ?_
  replace hy := g_gI_inv hy
  obtain ⟨fs7, x8, hc9, hv10, hy⟩ := hy
  refine g_getf (pc' := 12) d_Link_copy_9 hc9 rfl (by decide) hv10 q1110 (Or.inl rfl) rfl ?_
  refine g_aload_n 0 (i := 0) (pc' := 13) d_Link_copy_12 rfl rfl rfl ?_
  replace hy := g_gI_inv hy
  obtain ⟨fs11, x12, hc13, hv14, hy⟩ := hy
  refine g_getf (pc' := 16) d_Link_copy_13 hc13 rfl (by decide) hv14 q1113 (Or.inl rfl) rfl ?_
  refine g_aload_n 0 (i := 0) (pc' := 17) d_Link_copy_16 rfl rfl rfl ?_
  replace hy := g_gI_inv hy
  obtain ⟨fs15, x16, hc17, hv18, hy⟩ := hy
  refine g_getf (pc' := 20) d_Link_copy_17 hc17 rfl (by decide) hv18 q1116 (Or.inl rfl) rfl ?_
  replace hy := g_b_inv hy
  obtain ⟨h20, hf21, hy⟩ := hy
  refine g_callI (h1 := h20) (pc' := 23) (As := [.int x4, .int x8, .int x12, .int x16]) (rest := [.ref a1]) 4 (T_Link_init (hy := hf21)) d_Link_copy_20 rfl rfl q1912 q1104 q141 q1105 hd_Link_init rfl ⟨by decide, by decide⟩ (by first | exact Nat.le_of_ble_eq_true rfl | (simp only [List.map, List.sum_cons, List.sum_nil, g_cat_rf]; exact Nat.le_of_ble_eq_true rfl) | (simp only [List.map, List.sum_cons, List.sum_nil, g_cat_rf, Value.category]; decide)) rfl ?_
  refine g_astore_n (i := 1) (pc' := 24) (Lc' := [(1, .ref a1), (0, .ref this)]) d_Link_copy_23 rfl (by decide) rfl rfl ?_
  refine g_aload_n 0 (i := 1) (pc' := 25) d_Link_copy_24 rfl rfl rfl ?_
  refine g_aload_n 1 (i := 0) (pc' := 26) d_Link_copy_25 rfl rfl rfl ?_
  replace hy := g_gI_inv hy
  obtain ⟨fs22, x23, hc24, hv25, hy⟩ := hy
  refine g_getf (pc' := 29) d_Link_copy_26 hc24 rfl (by decide) hv25 q1120 (Or.inl rfl) rfl ?_
  replace hy := g_rq_inv hy
  obtain ⟨c26, hy⟩ := hy
  replace hy := g_pF_inv hy
  obtain ⟨fs27, hc28, hl29, hy⟩ := hy
  refine g_putf (pc' := 32) d_Link_copy_29 hc28 rfl (by decide) hl29 rfl (g_nar_z c26).1 (g_nar_z c26).2 q1120 (Or.inl rfl) rfl ?_
  generalize g_up h20 a1 (.inr (11, fs27.set 4 (.int x23))) = h30 at hy ⊢
  refine g_aload_n 0 (i := 1) (pc' := 33) d_Link_copy_32 rfl rfl rfl ?_
  cases hy
  refine g_stk (st' := [va_rf (some a1)]) rfl ?_
  exact g_aret rfl rfl rfl (Or.inl ⟨_, rfl⟩) d_Link_copy_33
theorem hd_Link_copy : g_dsc y_Link_copy 0 := ⟨by decide +kernel, by decide +kernel, by decide +kernel⟩
/-! CircuitDesk$Circuit.copy()LCircuitDesk$Circuit; -/
abbrev y_Circuit_copy : MethodName := ⟨"CircuitDesk$Circuit", "copy", "()LCircuitDesk$Circuit;"⟩
abbrev k_Circuit_copy : g_M := (prog_3_method_2_code, 2, "CircuitDesk$Circuit", 15, (some (FieldType.object "CircuitDesk$Circuit")), "copy", [], 0)
theorem d_Circuit_copy_0 : decode prog_3_method_2_code 0 = .ok (.new 13, 3) := by decide +kernel
theorem d_Circuit_copy_3 : decode prog_3_method_2_code 3 = .ok (.dup, 1) := by decide +kernel
theorem d_Circuit_copy_4 : decode prog_3_method_2_code 4 = .ok (.aload_n 0, 1) := by decide +kernel
theorem d_Circuit_copy_5 : decode prog_3_method_2_code 5 = .ok (.getfield 22, 3) := by decide +kernel
theorem d_Circuit_copy_8 : decode prog_3_method_2_code 8 = .ok (.aload_n 0, 1) := by decide +kernel
theorem d_Circuit_copy_9 : decode prog_3_method_2_code 9 = .ok (.getfield 25, 3) := by decide +kernel
theorem d_Circuit_copy_12 : decode prog_3_method_2_code 12 = .ok (.invokespecial 28, 3) := by decide +kernel
theorem d_Circuit_copy_15 : decode prog_3_method_2_code 15 = .ok (.astore_n 1, 1) := by decide +kernel
theorem d_Circuit_copy_16 : decode prog_3_method_2_code 16 = .ok (.aload_n 1, 1) := by decide +kernel
theorem d_Circuit_copy_17 : decode prog_3_method_2_code 17 = .ok (.aload_n 0, 1) := by decide +kernel
theorem d_Circuit_copy_18 : decode prog_3_method_2_code 18 = .ok (.getfield 12, 3) := by decide +kernel
theorem d_Circuit_copy_21 : decode prog_3_method_2_code 21 = .ok (.invokevirtual 31, 3) := by decide +kernel
theorem d_Circuit_copy_24 : decode prog_3_method_2_code 24 = .ok (.putfield 12, 3) := by decide +kernel
theorem d_Circuit_copy_27 : decode prog_3_method_2_code 27 = .ok (.aload_n 1, 1) := by decide +kernel
theorem d_Circuit_copy_28 : decode prog_3_method_2_code 28 = .ok (.aload_n 0, 1) := by decide +kernel
theorem d_Circuit_copy_29 : decode prog_3_method_2_code 29 = .ok (.getfield 35, 3) := by decide +kernel
theorem d_Circuit_copy_32 : decode prog_3_method_2_code 32 = .ok (.ifnonnull 7, 3) := by decide +kernel
theorem d_Circuit_copy_35 : decode prog_3_method_2_code 35 = .ok (.aconst_null, 1) := by decide +kernel
theorem d_Circuit_copy_36 : decode prog_3_method_2_code 36 = .ok (.goto 10, 3) := by decide +kernel
theorem d_Circuit_copy_39 : decode prog_3_method_2_code 39 = .ok (.aload_n 0, 1) := by decide +kernel
theorem d_Circuit_copy_40 : decode prog_3_method_2_code 40 = .ok (.getfield 35, 3) := by decide +kernel
theorem d_Circuit_copy_43 : decode prog_3_method_2_code 43 = .ok (.invokevirtual 31, 3) := by decide +kernel
theorem d_Circuit_copy_46 : decode prog_3_method_2_code 46 = .ok (.putfield 35, 3) := by decide +kernel
theorem d_Circuit_copy_49 : decode prog_3_method_2_code 49 = .ok (.aload_n 1, 1) := by decide +kernel
theorem d_Circuit_copy_50 : decode prog_3_method_2_code 50 = .ok (.aload_n 0, 1) := by decide +kernel
theorem d_Circuit_copy_51 : decode prog_3_method_2_code 51 = .ok (.getfield 38, 3) := by decide +kernel
theorem d_Circuit_copy_54 : decode prog_3_method_2_code 54 = .ok (.putfield 38, 3) := by decide +kernel
theorem d_Circuit_copy_57 : decode prog_3_method_2_code 57 = .ok (.aload_n 1, 1) := by decide +kernel
theorem d_Circuit_copy_58 : decode prog_3_method_2_code 58 = .ok (.aload_n 0, 1) := by decide +kernel
theorem d_Circuit_copy_59 : decode prog_3_method_2_code 59 = .ok (.getfield 41, 3) := by decide +kernel
theorem d_Circuit_copy_62 : decode prog_3_method_2_code 62 = .ok (.putfield 41, 3) := by decide +kernel
theorem d_Circuit_copy_65 : decode prog_3_method_2_code 65 = .ok (.aload_n 1, 1) := by decide +kernel
theorem d_Circuit_copy_66 : decode prog_3_method_2_code 66 = .ok (.aload_n 0, 1) := by decide +kernel
theorem d_Circuit_copy_67 : decode prog_3_method_2_code 67 = .ok (.getfield 44, 3) := by decide +kernel
theorem d_Circuit_copy_70 : decode prog_3_method_2_code 70 = .ok (.putfield 44, 3) := by decide +kernel
theorem d_Circuit_copy_73 : decode prog_3_method_2_code 73 = .ok (.aload_n 1, 1) := by decide +kernel
theorem d_Circuit_copy_74 : decode prog_3_method_2_code 74 = .ok (.aload_n 0, 1) := by decide +kernel
theorem d_Circuit_copy_75 : decode prog_3_method_2_code 75 = .ok (.getfield 47, 3) := by decide +kernel
theorem d_Circuit_copy_78 : decode prog_3_method_2_code 78 = .ok (.putfield 47, 3) := by decide +kernel
theorem d_Circuit_copy_81 : decode prog_3_method_2_code 81 = .ok (.aload_n 1, 1) := by decide +kernel
theorem d_Circuit_copy_82 : decode prog_3_method_2_code 82 = .ok (.aload_n 0, 1) := by decide +kernel
theorem d_Circuit_copy_83 : decode prog_3_method_2_code 83 = .ok (.getfield 50, 3) := by decide +kernel
theorem d_Circuit_copy_86 : decode prog_3_method_2_code 86 = .ok (.putfield 50, 3) := by decide +kernel
theorem d_Circuit_copy_89 : decode prog_3_method_2_code 89 = .ok (.aload_n 1, 1) := by decide +kernel
theorem d_Circuit_copy_90 : decode prog_3_method_2_code 90 = .ok (.aload_n 0, 1) := by decide +kernel
theorem d_Circuit_copy_91 : decode prog_3_method_2_code 91 = .ok (.getfield 53, 3) := by decide +kernel
theorem d_Circuit_copy_94 : decode prog_3_method_2_code 94 = .ok (.putfield 53, 3) := by decide +kernel
theorem d_Circuit_copy_97 : decode prog_3_method_2_code 97 = .ok (.aload_n 1, 1) := by decide +kernel
theorem d_Circuit_copy_98 : decode prog_3_method_2_code 98 = .ok (.aload_n 0, 1) := by decide +kernel
theorem d_Circuit_copy_99 : decode prog_3_method_2_code 99 = .ok (.getfield 56, 3) := by decide +kernel
theorem d_Circuit_copy_102 : decode prog_3_method_2_code 102 = .ok (.putfield 56, 3) := by decide +kernel
theorem d_Circuit_copy_105 : decode prog_3_method_2_code 105 = .ok (.aload_n 1, 1) := by decide +kernel
theorem d_Circuit_copy_106 : decode prog_3_method_2_code 106 = .ok (.aload_n 0, 1) := by decide +kernel
theorem d_Circuit_copy_107 : decode prog_3_method_2_code 107 = .ok (.getfield 59, 3) := by decide +kernel
theorem d_Circuit_copy_110 : decode prog_3_method_2_code 110 = .ok (.putfield 59, 3) := by decide +kernel
theorem d_Circuit_copy_113 : decode prog_3_method_2_code 113 = .ok (.aload_n 1, 1) := by decide +kernel
theorem d_Circuit_copy_114 : decode prog_3_method_2_code 114 = .ok (.aload_n 0, 1) := by decide +kernel
theorem d_Circuit_copy_115 : decode prog_3_method_2_code 115 = .ok (.getfield 62, 3) := by decide +kernel
theorem d_Circuit_copy_118 : decode prog_3_method_2_code 118 = .ok (.putfield 62, 3) := by decide +kernel
theorem d_Circuit_copy_121 : decode prog_3_method_2_code 121 = .ok (.aload_n 1, 1) := by decide +kernel
theorem d_Circuit_copy_122 : decode prog_3_method_2_code 122 = .ok (.aload_n 0, 1) := by decide +kernel
theorem d_Circuit_copy_123 : decode prog_3_method_2_code 123 = .ok (.getfield 18, 3) := by decide +kernel
theorem d_Circuit_copy_126 : decode prog_3_method_2_code 126 = .ok (.putfield 18, 3) := by decide +kernel
theorem d_Circuit_copy_129 : decode prog_3_method_2_code 129 = .ok (.aload_n 1, 1) := by decide +kernel
theorem d_Circuit_copy_130 : decode prog_3_method_2_code 130 = .ok (.aload_n 0, 1) := by decide +kernel
theorem d_Circuit_copy_131 : decode prog_3_method_2_code 131 = .ok (.getfield 65, 3) := by decide +kernel
theorem d_Circuit_copy_134 : decode prog_3_method_2_code 134 = .ok (.putfield 65, 3) := by decide +kernel
theorem d_Circuit_copy_137 : decode prog_3_method_2_code 137 = .ok (.aload_n 1, 1) := by decide +kernel
theorem d_Circuit_copy_138 : decode prog_3_method_2_code 138 = .ok (.areturn, 1) := by decide +kernel
def Circuit_copy_46 (h : g_AH) (v0 : Nat) (v1 : Option Nat) (s0 : Option Nat) (s1 : Nat) : Option (Option Nat × g_AH) :=
  g_pF h s1 12 3 (va_rf s0) fun h46 => g_gI h46 v0 12 4 fun x48 => g_nn v1 fun a51 => g_pF h46 a51 12 4 (.int x48) fun h55 => g_gI h55 v0 12 5 fun x57 => g_pF h55 a51 12 5 (.int x57) fun h63 => g_gI h63 v0 12 6 fun x65 => g_pF h63 a51 12 6 (.int x65) fun h71 => g_gI h71 v0 12 7 fun x73 => g_pF h71 a51 12 7 (.int x73) fun h79 => g_gI h79 v0 12 8 fun x81 => g_pF h79 a51 12 8 (.int x81) fun h87 => g_gI h87 v0 12 9 fun x89 => g_pF h87 a51 12 9 (.int x89) fun h95 => g_gI h95 v0 12 10 fun x97 => g_pF h95 a51 12 10 (.int x97) fun h103 => g_gI h103 v0 12 11 fun x105 => g_pF h103 a51 12 11 (.int x105) fun h111 => g_gI h111 v0 12 12 fun x113 => g_pF h111 a51 12 12 (.int x113) fun h119 => g_gI h119 v0 12 13 fun x121 => g_pF h119 a51 12 13 (.int x121) fun h127 => g_gI h127 v0 12 14 fun x129 => g_pF h127 a51 12 14 (.int x129) fun h135 => some ((some a51), h135)
set_option maxHeartbeats 4000000 in
set_option maxRecDepth 100000 in
theorem W_Circuit_copy_46 {X : g_X} (z : Option Nat × g_AH) (h : g_AH) (v0 : Nat) (v1 : Option Nat) (s0 : Option Nat) (s1 : Nat) (hy : Circuit_copy_46  h v0 v1 s0 s1 = some z) : G X k_Circuit_copy (.inl (some (va_rf z.1))) z.2 h 46 [(0, .ref v0), (1, va_rf v1)] [va_rf s0, .ref s1] := by
  unfold Circuit_copy_46 at hy
  replace hy := g_pF_inv hy
  obtain ⟨fs43, hc44, hl45, hy⟩ := hy
  refine g_putf (pc' := 49) d_Circuit_copy_46 hc44 rfl (by decide) hl45 rfl g_nar_rf g_fit_o q1159 (Or.inl rfl) rfl ?_
  generalize g_up h s1 (.inr (12, fs43.set 3 (va_rf s0))) = h46 at hy ⊢
  refine g_aloadO_n 1 (i := 1) (pc' := 50) d_Circuit_copy_49 rfl rfl rfl ?_
  refine g_aload_n 0 (i := 0) (pc' := 51) d_Circuit_copy_50 rfl rfl rfl ?_
  replace hy := g_gI_inv hy
  obtain ⟨fs47, x48, hc49, hv50, hy⟩ := hy
  refine g_getf (pc' := 54) d_Circuit_copy_51 hc49 rfl (by decide) hv50 q1165 (Or.inl rfl) rfl ?_
  replace hy := g_nn_inv hy
  obtain ⟨a51, rfl, hy⟩ := hy
  replace hy := g_pF_inv hy
  obtain ⟨fs52, hc53, hl54, hy⟩ := hy
  refine g_putf (pc' := 57) d_Circuit_copy_54 hc53 rfl (by decide) hl54 rfl rfl rfl q1165 (Or.inl rfl) rfl ?_
  generalize g_up h46 a51 (.inr (12, fs52.set 4 (.int x48))) = h55 at hy ⊢
  refine g_aload_n 1 (i := 1) (pc' := 58) d_Circuit_copy_57 rfl rfl rfl ?_
  refine g_aload_n 0 (i := 0) (pc' := 59) d_Circuit_copy_58 rfl rfl rfl ?_
  replace hy := g_gI_inv hy
  obtain ⟨fs56, x57, hc58, hv59, hy⟩ := hy
  refine g_getf (pc' := 62) d_Circuit_copy_59 hc58 rfl (by decide) hv59 q1172 (Or.inl rfl) rfl ?_
  replace hy := g_pF_inv hy
  obtain ⟨fs60, hc61, hl62, hy⟩ := hy
  refine g_putf (pc' := 65) d_Circuit_copy_62 hc61 rfl (by decide) hl62 rfl rfl rfl q1172 (Or.inl rfl) rfl ?_
  generalize g_up h55 a51 (.inr (12, fs60.set 5 (.int x57))) = h63 at hy ⊢
  refine g_aload_n 1 (i := 1) (pc' := 66) d_Circuit_copy_65 rfl rfl rfl ?_
  refine g_aload_n 0 (i := 0) (pc' := 67) d_Circuit_copy_66 rfl rfl rfl ?_
  replace hy := g_gI_inv hy
  obtain ⟨fs64, x65, hc66, hv67, hy⟩ := hy
  refine g_getf (pc' := 70) d_Circuit_copy_67 hc66 rfl (by decide) hv67 q1177 (Or.inl rfl) rfl ?_
  replace hy := g_pF_inv hy
  obtain ⟨fs68, hc69, hl70, hy⟩ := hy
  refine g_putf (pc' := 73) d_Circuit_copy_70 hc69 rfl (by decide) hl70 rfl rfl rfl q1177 (Or.inl rfl) rfl ?_
  generalize g_up h63 a51 (.inr (12, fs68.set 6 (.int x65))) = h71 at hy ⊢
  refine g_aload_n 1 (i := 1) (pc' := 74) d_Circuit_copy_73 rfl rfl rfl ?_
  refine g_aload_n 0 (i := 0) (pc' := 75) d_Circuit_copy_74 rfl rfl rfl ?_
  replace hy := g_gI_inv hy
  obtain ⟨fs72, x73, hc74, hv75, hy⟩ := hy
  refine g_getf (pc' := 78) d_Circuit_copy_75 hc74 rfl (by decide) hv75 q1179 (Or.inl rfl) rfl ?_
  replace hy := g_pF_inv hy
  obtain ⟨fs76, hc77, hl78, hy⟩ := hy
  refine g_putf (pc' := 81) d_Circuit_copy_78 hc77 rfl (by decide) hl78 rfl rfl rfl q1179 (Or.inl rfl) rfl ?_
  generalize g_up h71 a51 (.inr (12, fs76.set 7 (.int x73))) = h79 at hy ⊢
  refine g_aload_n 1 (i := 1) (pc' := 82) d_Circuit_copy_81 rfl rfl rfl ?_
  refine g_aload_n 0 (i := 0) (pc' := 83) d_Circuit_copy_82 rfl rfl rfl ?_
  replace hy := g_gI_inv hy
  obtain ⟨fs80, x81, hc82, hv83, hy⟩ := hy
  refine g_getf (pc' := 86) d_Circuit_copy_83 hc82 rfl (by decide) hv83 q1183 (Or.inl rfl) rfl ?_
  replace hy := g_pF_inv hy
  obtain ⟨fs84, hc85, hl86, hy⟩ := hy
  refine g_putf (pc' := 89) d_Circuit_copy_86 hc85 rfl (by decide) hl86 rfl rfl rfl q1183 (Or.inl rfl) rfl ?_
  generalize g_up h79 a51 (.inr (12, fs84.set 8 (.int x81))) = h87 at hy ⊢
  refine g_aload_n 1 (i := 1) (pc' := 90) d_Circuit_copy_89 rfl rfl rfl ?_
  refine g_aload_n 0 (i := 0) (pc' := 91) d_Circuit_copy_90 rfl rfl rfl ?_
  replace hy := g_gI_inv hy
  obtain ⟨fs88, x89, hc90, hv91, hy⟩ := hy
  refine g_getf (pc' := 94) d_Circuit_copy_91 hc90 rfl (by decide) hv91 q1186 (Or.inl rfl) rfl ?_
  replace hy := g_pF_inv hy
  obtain ⟨fs92, hc93, hl94, hy⟩ := hy
  refine g_putf (pc' := 97) d_Circuit_copy_94 hc93 rfl (by decide) hl94 rfl rfl rfl q1186 (Or.inl rfl) rfl ?_
  generalize g_up h87 a51 (.inr (12, fs92.set 9 (.int x89))) = h95 at hy ⊢
  refine g_aload_n 1 (i := 1) (pc' := 98) d_Circuit_copy_97 rfl rfl rfl ?_
  refine g_aload_n 0 (i := 0) (pc' := 99) d_Circuit_copy_98 rfl rfl rfl ?_
  replace hy := g_gI_inv hy
  obtain ⟨fs96, x97, hc98, hv99, hy⟩ := hy
  refine g_getf (pc' := 102) d_Circuit_copy_99 hc98 rfl (by decide) hv99 q1189 (Or.inl rfl) rfl ?_
  replace hy := g_pF_inv hy
  obtain ⟨fs100, hc101, hl102, hy⟩ := hy
  refine g_putf (pc' := 105) d_Circuit_copy_102 hc101 rfl (by decide) hl102 rfl rfl rfl q1189 (Or.inl rfl) rfl ?_
  generalize g_up h95 a51 (.inr (12, fs100.set 10 (.int x97))) = h103 at hy ⊢
  refine g_aload_n 1 (i := 1) (pc' := 106) d_Circuit_copy_105 rfl rfl rfl ?_
  refine g_aload_n 0 (i := 0) (pc' := 107) d_Circuit_copy_106 rfl rfl rfl ?_
  replace hy := g_gI_inv hy
  obtain ⟨fs104, x105, hc106, hv107, hy⟩ := hy
  refine g_getf (pc' := 110) d_Circuit_copy_107 hc106 rfl (by decide) hv107 q1192 (Or.inl rfl) rfl ?_
  replace hy := g_pF_inv hy
  obtain ⟨fs108, hc109, hl110, hy⟩ := hy
  refine g_putf (pc' := 113) d_Circuit_copy_110 hc109 rfl (by decide) hl110 rfl rfl rfl q1192 (Or.inl rfl) rfl ?_
  generalize g_up h103 a51 (.inr (12, fs108.set 11 (.int x105))) = h111 at hy ⊢
  refine g_aload_n 1 (i := 1) (pc' := 114) d_Circuit_copy_113 rfl rfl rfl ?_
  refine g_aload_n 0 (i := 0) (pc' := 115) d_Circuit_copy_114 rfl rfl rfl ?_
  replace hy := g_gI_inv hy
  obtain ⟨fs112, x113, hc114, hv115, hy⟩ := hy
  refine g_getf (pc' := 118) d_Circuit_copy_115 hc114 rfl (by decide) hv115 q1195 (Or.inl rfl) rfl ?_
  replace hy := g_pF_inv hy
  obtain ⟨fs116, hc117, hl118, hy⟩ := hy
  refine g_putf (pc' := 121) d_Circuit_copy_118 hc117 rfl (by decide) hl118 rfl rfl rfl q1195 (Or.inl rfl) rfl ?_
  generalize g_up h111 a51 (.inr (12, fs116.set 12 (.int x113))) = h119 at hy ⊢
  refine g_aload_n 1 (i := 1) (pc' := 122) d_Circuit_copy_121 rfl rfl rfl ?_
  refine g_aload_n 0 (i := 0) (pc' := 123) d_Circuit_copy_122 rfl rfl rfl ?_
  replace hy := g_gI_inv hy
  obtain ⟨fs120, x121, hc122, hv123, hy⟩ := hy
  refine g_getf (pc' := 126) d_Circuit_copy_123 hc122 rfl (by decide) hv123 q1198 (Or.inl rfl) rfl ?_
  replace hy := g_pF_inv hy
  obtain ⟨fs124, hc125, hl126, hy⟩ := hy
  refine g_putf (pc' := 129) d_Circuit_copy_126 hc125 rfl (by decide) hl126 rfl rfl rfl q1198 (Or.inl rfl) rfl ?_
  generalize g_up h119 a51 (.inr (12, fs124.set 13 (.int x121))) = h127 at hy ⊢
  refine g_aload_n 1 (i := 1) (pc' := 130) d_Circuit_copy_129 rfl rfl rfl ?_
  refine g_aload_n 0 (i := 0) (pc' := 131) d_Circuit_copy_130 rfl rfl rfl ?_
  replace hy := g_gI_inv hy
  obtain ⟨fs128, x129, hc130, hv131, hy⟩ := hy
  refine g_getf (pc' := 134) d_Circuit_copy_131 hc130 rfl (by decide) hv131 q1200 (Or.inl rfl) rfl ?_
  replace hy := g_pF_inv hy
  obtain ⟨fs132, hc133, hl134, hy⟩ := hy
  refine g_putf (pc' := 137) d_Circuit_copy_134 hc133 rfl (by decide) hl134 rfl rfl rfl q1200 (Or.inl rfl) rfl ?_
  generalize g_up h127 a51 (.inr (12, fs132.set 14 (.int x129))) = h135 at hy ⊢
  refine g_aload_n 1 (i := 1) (pc' := 138) d_Circuit_copy_137 rfl rfl rfl ?_
  cases hy
  refine g_stk (st' := [va_rf (some a51)]) rfl ?_
  exact g_aret rfl rfl rfl (Or.inl ⟨_, rfl⟩) d_Circuit_copy_138
def Circuit_copy (h : g_AH) (this : Nat) : Option (Option Nat × g_AH) :=
  g_mk h (.inr (12, [.int 0, .int 0, .null, .null, .int 0, .int 0, .int 0, .int 0, .int 0, .int 0, .int 0, .int 0, .int 0, .int 0, .int 0])) 15 fun a1 h2 => g_gI h2 this 12 0 fun x4 => g_gI h2 this 12 1 fun x8 => g_b (Circuit_init h2 a1 x4 x8) fun h12 => g_gR h12 this 12 2 fun x15 => g_nn x15 fun a18 => g_is h12 a18 6 <| g_b2 (Way_copy h12 a18) fun x21 h22 => g_pF h22 a1 12 2 (va_rf x21) fun h27 => g_gR h27 this 12 3 fun x29 => if x29 = none then (Circuit_copy_46  h27 this (some a1) none a1) else (g_gR h27 this 12 3 fun x34 => g_nn x34 fun a37 => g_is h27 a37 6 <| g_b2 (Way_copy h27 a37) fun x40 h41 => Circuit_copy_46  h41 this (some a1) x40 a1)
set_option maxHeartbeats 4000000 in
set_option maxRecDepth 100000 in
theorem T_Circuit_copy {l : Launch} {B : g_B} (h : g_AH) (this : Nat) (z : Option Nat × g_AH) (hy : Circuit_copy h this = some z) : g_CT l B y_Circuit_copy k_Circuit_copy [.ref this] h (.inl (some (va_rf z.1))) z.2 := by
  refine g_start2 (Lc := [(0, .ref this)]) (by decide) rfl rfl (by exact Nat.le_of_ble_eq_true rfl) (by rfl) fun X => ?_
  unfold Circuit_copy at hy
  replace hy := g_mk_inv hy
  refine g_new (ci := 12) (fs := [.int 0, .int 0, .null, .null, .int 0, .int 0, .int 0, .int 0, .int 0, .int 0, .int 0, .int 0, .int 0, .int 0, .int 0]) (pc' := 3) d_Circuit_copy_0 rfl q1917 q1139 q142 gdf_12 rfl ?_
  generalize g_al h (.inr (12, [.int 0, .int 0, .null, .null, .int 0, .int 0, .int 0, .int 0, .int 0, .int 0, .int 0, .int 0, .int 0, .int 0, .int 0])) 15 = h2 at hy ⊢
  generalize g_n h = a1 at hy ⊢
  refine g_dup (pc' := 4) d_Circuit_copy_3 rfl rfl ?_
  refine g_aload_n 0 (i := 0) (pc' := 5) d_Circuit_copy_4 rfl rfl rfl ?_
  replace hy := g_gI_inv hy
  obtain ⟨fs3, x4, hc5, hv6, hy⟩ := hy
  refine g_getf (pc' := 8) d_Circuit_copy_5 hc5 rfl (by decide) hv6 q1146 (Or.inl rfl) rfl ?_
  refine g_aload_n 0 (i := 0) (pc' := 9) d_Circuit_copy_8 rfl rfl rfl ?_
  replace hy := g_gI_inv hy
  obtain ⟨fs7, x8, hc9, hv10, hy⟩ := hy
  refine g_getf (pc' := 12) d_Circuit_copy_9 hc9 rfl (by decide) hv10 q1149 (Or.inl rfl) rfl ?_
  replace hy := g_b_inv hy
  obtain ⟨h12, hf13, hy⟩ := hy
  refine g_callI (h1 := h12) (pc' := 15) (As := [.int x4, .int x8]) (rest := [.ref a1]) 2 (T_Circuit_init (hy := hf13)) d_Circuit_copy_12 rfl rfl q1918 q1141 q142 q1142 hd_Circuit_init rfl ⟨by decide, by decide⟩ (by first | exact Nat.le_of_ble_eq_true rfl | (simp only [List.map, List.sum_cons, List.sum_nil, g_cat_rf]; exact Nat.le_of_ble_eq_true rfl) | (simp only [List.map, List.sum_cons, List.sum_nil, g_cat_rf, Value.category]; decide)) rfl ?_
  refine g_astore_n (i := 1) (pc' := 16) (Lc' := [(1, .ref a1), (0, .ref this)]) d_Circuit_copy_15 rfl (by decide) rfl rfl ?_
  refine g_aload_n 0 (i := 1) (pc' := 17) d_Circuit_copy_16 rfl rfl rfl ?_
  refine g_aload_n 1 (i := 0) (pc' := 18) d_Circuit_copy_17 rfl rfl rfl ?_
  replace hy := g_gR_inv hy
  obtain ⟨fs14, x15, hc16, hv17, hy⟩ := hy
  refine g_getf (pc' := 21) d_Circuit_copy_18 hc16 rfl (by decide) hv17 q1152 (Or.inl rfl) rfl ?_
  replace hy := g_nn_inv hy
  obtain ⟨a18, rfl, hy⟩ := hy
  replace hy := g_is_inv hy
  obtain ⟨fs19, hc20, hy⟩ := hy
  replace hy := g_b2_inv hy
  obtain ⟨x21, h22, hf23, hy⟩ := hy
  refine g_callV (rv := some (va_rf x21)) (h1 := h22) (pc' := 24) (As := []) (rest := [.ref a1]) 0 (T_Way_copy (hy := hf23)) d_Circuit_copy_21 hc20 rfl rfl q1919 q776 q777 q134 q778 hd_Way_copy rfl ⟨by decide, by decide⟩ (by first | exact Nat.le_of_ble_eq_true rfl | (simp only [List.map, List.sum_cons, List.sum_nil, g_cat_rf]; exact Nat.le_of_ble_eq_true rfl) | (simp only [List.map, List.sum_cons, List.sum_nil, g_cat_rf, Value.category]; decide)) rfl ?_
  replace hy := g_pF_inv hy
  obtain ⟨fs24, hc25, hl26, hy⟩ := hy
  refine g_putf (pc' := 27) d_Circuit_copy_24 hc25 rfl (by decide) hl26 rfl g_nar_rf g_fit_o q1152 (Or.inl rfl) rfl ?_
  generalize g_up h22 a1 (.inr (12, fs24.set 2 (va_rf x21))) = h27 at hy ⊢
  refine g_aload_n 0 (i := 1) (pc' := 28) d_Circuit_copy_27 rfl rfl rfl ?_
  refine g_aload_n 1 (i := 0) (pc' := 29) d_Circuit_copy_28 rfl rfl rfl ?_
  replace hy := g_gR_inv hy
  obtain ⟨fs28, x29, hc30, hv31, hy⟩ := hy
  refine g_getf (pc' := 32) d_Circuit_copy_29 hc30 rfl (by decide) hv31 q1159 (Or.inl rfl) rfl ?_
  by_cases c32 : x29 = none
  · rw [if_pos c32] at hy
    refine g_ifnonnullF (pc' := 35) d_Circuit_copy_32 c32 rfl ?_
    refine g_null (pc' := 36) d_Circuit_copy_35 rfl ?_
    refine g_goto (pc' := 46) d_Circuit_copy_36 (by decide) ?_
    refine g_sub [1, 0] rfl ?_
    exact W_Circuit_copy_46 _ _ _ _ _ _ hy
  · rw [if_neg c32] at hy
    refine g_ifnonnullT (pc' := 39) d_Circuit_copy_32 c32 (by decide) ?_
    refine g_aload_n 1 (i := 0) (pc' := 40) d_Circuit_copy_39 rfl rfl rfl ?_
    replace hy := g_gR_inv hy
    obtain ⟨fs33, x34, hc35, hv36, hy⟩ := hy
    refine g_getf (pc' := 43) d_Circuit_copy_40 hc35 rfl (by decide) hv36 q1159 (Or.inl rfl) rfl ?_
    replace hy := g_nn_inv hy
    obtain ⟨a37, rfl, hy⟩ := hy
    replace hy := g_is_inv hy
    obtain ⟨fs38, hc39, hy⟩ := hy
    replace hy := g_b2_inv hy
    obtain ⟨x40, h41, hf42, hy⟩ := hy
    refine g_callV (rv := some (va_rf x40)) (h1 := h41) (pc' := 46) (As := []) (rest := [.ref a1]) 0 (T_Way_copy (hy := hf42)) d_Circuit_copy_43 hc39 rfl rfl q1919 q776 q777 q134 q778 hd_Way_copy rfl ⟨by decide, by decide⟩ (by first | exact Nat.le_of_ble_eq_true rfl | (simp only [List.map, List.sum_cons, List.sum_nil, g_cat_rf]; exact Nat.le_of_ble_eq_true rfl) | (simp only [List.map, List.sum_cons, List.sum_nil, g_cat_rf, Value.category]; decide)) rfl ?_
    refine g_sub [1, 0] rfl ?_
    exact W_Circuit_copy_46 _ _ _ _ _ _ hy
theorem hd_Circuit_copy : g_dsc y_Circuit_copy 0 := ⟨by decide +kernel, by decide +kernel, by decide +kernel⟩
/-! CircuitDesk$Packet.copy()LCircuitDesk$Packet; -/
abbrev y_Packet_copy : MethodName := ⟨"CircuitDesk$Packet", "copy", "()LCircuitDesk$Packet;"⟩
abbrev k_Packet_copy : g_M := (prog_9_method_2_code, 2, "CircuitDesk$Packet", 14, (some (FieldType.object "CircuitDesk$Packet")), "copy", [], 0)
theorem d_Packet_copy_0 : decode prog_9_method_2_code 0 = .ok (.new 8, 3) := by decide +kernel
theorem d_Packet_copy_3 : decode prog_9_method_2_code 3 = .ok (.dup, 1) := by decide +kernel
theorem d_Packet_copy_4 : decode prog_9_method_2_code 4 = .ok (.aload_n 0, 1) := by decide +kernel
theorem d_Packet_copy_5 : decode prog_9_method_2_code 5 = .ok (.getfield 7, 3) := by decide +kernel
theorem d_Packet_copy_8 : decode prog_9_method_2_code 8 = .ok (.aload_n 0, 1) := by decide +kernel
theorem d_Packet_copy_9 : decode prog_9_method_2_code 9 = .ok (.getfield 13, 3) := by decide +kernel
theorem d_Packet_copy_12 : decode prog_9_method_2_code 12 = .ok (.aload_n 0, 1) := by decide +kernel
theorem d_Packet_copy_13 : decode prog_9_method_2_code 13 = .ok (.getfield 16, 3) := by decide +kernel
theorem d_Packet_copy_16 : decode prog_9_method_2_code 16 = .ok (.invokespecial 19, 3) := by decide +kernel
theorem d_Packet_copy_19 : decode prog_9_method_2_code 19 = .ok (.astore_n 1, 1) := by decide +kernel
theorem d_Packet_copy_20 : decode prog_9_method_2_code 20 = .ok (.aload_n 1, 1) := by decide +kernel
theorem d_Packet_copy_21 : decode prog_9_method_2_code 21 = .ok (.aload_n 0, 1) := by decide +kernel
theorem d_Packet_copy_22 : decode prog_9_method_2_code 22 = .ok (.getfield 22, 3) := by decide +kernel
theorem d_Packet_copy_25 : decode prog_9_method_2_code 25 = .ok (.putfield 22, 3) := by decide +kernel
theorem d_Packet_copy_28 : decode prog_9_method_2_code 28 = .ok (.aload_n 1, 1) := by decide +kernel
theorem d_Packet_copy_29 : decode prog_9_method_2_code 29 = .ok (.aload_n 0, 1) := by decide +kernel
theorem d_Packet_copy_30 : decode prog_9_method_2_code 30 = .ok (.getfield 25, 3) := by decide +kernel
theorem d_Packet_copy_33 : decode prog_9_method_2_code 33 = .ok (.putfield 25, 3) := by decide +kernel
theorem d_Packet_copy_36 : decode prog_9_method_2_code 36 = .ok (.aload_n 1, 1) := by decide +kernel
theorem d_Packet_copy_37 : decode prog_9_method_2_code 37 = .ok (.aload_n 0, 1) := by decide +kernel
theorem d_Packet_copy_38 : decode prog_9_method_2_code 38 = .ok (.getfield 28, 3) := by decide +kernel
theorem d_Packet_copy_41 : decode prog_9_method_2_code 41 = .ok (.putfield 28, 3) := by decide +kernel
theorem d_Packet_copy_44 : decode prog_9_method_2_code 44 = .ok (.aload_n 1, 1) := by decide +kernel
theorem d_Packet_copy_45 : decode prog_9_method_2_code 45 = .ok (.aload_n 0, 1) := by decide +kernel
theorem d_Packet_copy_46 : decode prog_9_method_2_code 46 = .ok (.getfield 31, 3) := by decide +kernel
theorem d_Packet_copy_49 : decode prog_9_method_2_code 49 = .ok (.putfield 31, 3) := by decide +kernel
theorem d_Packet_copy_52 : decode prog_9_method_2_code 52 = .ok (.aload_n 1, 1) := by decide +kernel
theorem d_Packet_copy_53 : decode prog_9_method_2_code 53 = .ok (.aload_n 0, 1) := by decide +kernel
theorem d_Packet_copy_54 : decode prog_9_method_2_code 54 = .ok (.getfield 34, 3) := by decide +kernel
theorem d_Packet_copy_57 : decode prog_9_method_2_code 57 = .ok (.putfield 34, 3) := by decide +kernel
theorem d_Packet_copy_60 : decode prog_9_method_2_code 60 = .ok (.aload_n 1, 1) := by decide +kernel
theorem d_Packet_copy_61 : decode prog_9_method_2_code 61 = .ok (.areturn, 1) := by decide +kernel
def Packet_copy (h : g_AH) (this : Nat) : Option (Option Nat × g_AH) :=
  g_mk h (.inr (14, [.int 0, .int 0, .int 0, .int 0, .int 0, .int 0, .int 0, .int 0])) 8 fun a1 h2 => g_gI h2 this 14 0 fun x4 => g_gI h2 this 14 1 fun x8 => g_gI h2 this 14 2 fun x12 => g_b (Packet_init h2 a1 x4 x8 x12) fun h16 => g_gI h16 this 14 3 fun x19 => g_pF h16 a1 14 3 (.int x19) fun h25 => g_gI h25 this 14 4 fun x27 => g_pF h25 a1 14 4 (.int x27) fun h33 => g_gI h33 this 14 5 fun x35 => g_pF h33 a1 14 5 (.int x35) fun h41 => g_gI h41 this 14 6 fun x43 => g_pF h41 a1 14 6 (.int x43) fun h49 => g_gI h49 this 14 7 fun x51 => g_pF h49 a1 14 7 (.int x51) fun h57 => some ((some a1), h57)
set_option maxHeartbeats 4000000 in
set_option maxRecDepth 100000 in
theorem T_Packet_copy {l : Launch} {B : g_B} (h : g_AH) (this : Nat) (z : Option Nat × g_AH) (hy : Packet_copy h this = some z) : g_CT l B y_Packet_copy k_Packet_copy [.ref this] h (.inl (some (va_rf z.1))) z.2 := by
  refine g_start2 (Lc := [(0, .ref this)]) (by decide) rfl rfl (by exact Nat.le_of_ble_eq_true rfl) (by rfl) fun X => ?_
  unfold Packet_copy at hy
  replace hy := g_mk_inv hy
  refine g_new (ci := 14) (fs := [.int 0, .int 0, .int 0, .int 0, .int 0, .int 0, .int 0, .int 0]) (pc' := 3) d_Packet_copy_0 rfl q1924 q1798 q147 gdf_14 rfl ?_
  generalize g_al h (.inr (14, [.int 0, .int 0, .int 0, .int 0, .int 0, .int 0, .int 0, .int 0])) 8 = h2 at hy ⊢
  generalize g_n h = a1 at hy ⊢
  refine g_dup (pc' := 4) d_Packet_copy_3 rfl rfl ?_
  refine g_aload_n 0 (i := 0) (pc' := 5) d_Packet_copy_4 rfl rfl rfl ?_
  replace hy := g_gI_inv hy
  obtain ⟨fs3, x4, hc5, hv6, hy⟩ := hy
  refine g_getf (pc' := 8) d_Packet_copy_5 hc5 rfl (by decide) hv6 q1803 (Or.inl rfl) rfl ?_
  refine g_aload_n 0 (i := 0) (pc' := 9) d_Packet_copy_8 rfl rfl rfl ?_
  replace hy := g_gI_inv hy
  obtain ⟨fs7, x8, hc9, hv10, hy⟩ := hy
  refine g_getf (pc' := 12) d_Packet_copy_9 hc9 rfl (by decide) hv10 q1806 (Or.inl rfl) rfl ?_
  refine g_aload_n 0 (i := 0) (pc' := 13) d_Packet_copy_12 rfl rfl rfl ?_
  replace hy := g_gI_inv hy
  obtain ⟨fs11, x12, hc13, hv14, hy⟩ := hy
  refine g_getf (pc' := 16) d_Packet_copy_13 hc13 rfl (by decide) hv14 q1809 (Or.inl rfl) rfl ?_
  replace hy := g_b_inv hy
  obtain ⟨h16, hf17, hy⟩ := hy
  refine g_callI (h1 := h16) (pc' := 19) (As := [.int x4, .int x8, .int x12]) (rest := [.ref a1]) 3 (T_Packet_init (hy := hf17)) d_Packet_copy_16 rfl rfl q1925 q1800 q147 q1801 hd_Packet_init rfl ⟨by decide, by decide⟩ (by first | exact Nat.le_of_ble_eq_true rfl | (simp only [List.map, List.sum_cons, List.sum_nil, g_cat_rf]; exact Nat.le_of_ble_eq_true rfl) | (simp only [List.map, List.sum_cons, List.sum_nil, g_cat_rf, Value.category]; decide)) rfl ?_
  refine g_astore_n (i := 1) (pc' := 20) (Lc' := [(1, .ref a1), (0, .ref this)]) d_Packet_copy_19 rfl (by decide) rfl rfl ?_
  refine g_aload_n 0 (i := 1) (pc' := 21) d_Packet_copy_20 rfl rfl rfl ?_
  refine g_aload_n 1 (i := 0) (pc' := 22) d_Packet_copy_21 rfl rfl rfl ?_
  replace hy := g_gI_inv hy
  obtain ⟨fs18, x19, hc20, hv21, hy⟩ := hy
  refine g_getf (pc' := 25) d_Packet_copy_22 hc20 rfl (by decide) hv21 q1811 (Or.inl rfl) rfl ?_
  replace hy := g_pF_inv hy
  obtain ⟨fs22, hc23, hl24, hy⟩ := hy
  refine g_putf (pc' := 28) d_Packet_copy_25 hc23 rfl (by decide) hl24 rfl rfl rfl q1811 (Or.inl rfl) rfl ?_
  generalize g_up h16 a1 (.inr (14, fs22.set 3 (.int x19))) = h25 at hy ⊢
  refine g_aload_n 0 (i := 1) (pc' := 29) d_Packet_copy_28 rfl rfl rfl ?_
  refine g_aload_n 1 (i := 0) (pc' := 30) d_Packet_copy_29 rfl rfl rfl ?_
  replace hy := g_gI_inv hy
  obtain ⟨fs26, x27, hc28, hv29, hy⟩ := hy
  refine g_getf (pc' := 33) d_Packet_copy_30 hc28 rfl (by decide) hv29 q1814 (Or.inl rfl) rfl ?_
  replace hy := g_pF_inv hy
  obtain ⟨fs30, hc31, hl32, hy⟩ := hy
  refine g_putf (pc' := 36) d_Packet_copy_33 hc31 rfl (by decide) hl32 rfl rfl rfl q1814 (Or.inl rfl) rfl ?_
  generalize g_up h25 a1 (.inr (14, fs30.set 4 (.int x27))) = h33 at hy ⊢
  refine g_aload_n 0 (i := 1) (pc' := 37) d_Packet_copy_36 rfl rfl rfl ?_
  refine g_aload_n 1 (i := 0) (pc' := 38) d_Packet_copy_37 rfl rfl rfl ?_
  replace hy := g_gI_inv hy
  obtain ⟨fs34, x35, hc36, hv37, hy⟩ := hy
  refine g_getf (pc' := 41) d_Packet_copy_38 hc36 rfl (by decide) hv37 q1817 (Or.inl rfl) rfl ?_
  replace hy := g_pF_inv hy
  obtain ⟨fs38, hc39, hl40, hy⟩ := hy
  refine g_putf (pc' := 44) d_Packet_copy_41 hc39 rfl (by decide) hl40 rfl rfl rfl q1817 (Or.inl rfl) rfl ?_
  generalize g_up h33 a1 (.inr (14, fs38.set 5 (.int x35))) = h41 at hy ⊢
  refine g_aload_n 0 (i := 1) (pc' := 45) d_Packet_copy_44 rfl rfl rfl ?_
  refine g_aload_n 1 (i := 0) (pc' := 46) d_Packet_copy_45 rfl rfl rfl ?_
  replace hy := g_gI_inv hy
  obtain ⟨fs42, x43, hc44, hv45, hy⟩ := hy
  refine g_getf (pc' := 49) d_Packet_copy_46 hc44 rfl (by decide) hv45 q1820 (Or.inl rfl) rfl ?_
  replace hy := g_pF_inv hy
  obtain ⟨fs46, hc47, hl48, hy⟩ := hy
  refine g_putf (pc' := 52) d_Packet_copy_49 hc47 rfl (by decide) hl48 rfl rfl rfl q1820 (Or.inl rfl) rfl ?_
  generalize g_up h41 a1 (.inr (14, fs46.set 6 (.int x43))) = h49 at hy ⊢
  refine g_aload_n 0 (i := 1) (pc' := 53) d_Packet_copy_52 rfl rfl rfl ?_
  refine g_aload_n 1 (i := 0) (pc' := 54) d_Packet_copy_53 rfl rfl rfl ?_
  replace hy := g_gI_inv hy
  obtain ⟨fs50, x51, hc52, hv53, hy⟩ := hy
  refine g_getf (pc' := 57) d_Packet_copy_54 hc52 rfl (by decide) hv53 q1823 (Or.inl rfl) rfl ?_
  replace hy := g_pF_inv hy
  obtain ⟨fs54, hc55, hl56, hy⟩ := hy
  refine g_putf (pc' := 60) d_Packet_copy_57 hc55 rfl (by decide) hl56 rfl rfl rfl q1823 (Or.inl rfl) rfl ?_
  generalize g_up h49 a1 (.inr (14, fs54.set 7 (.int x51))) = h57 at hy ⊢
  refine g_aload_n 0 (i := 1) (pc' := 61) d_Packet_copy_60 rfl rfl rfl ?_
  cases hy
  refine g_stk (st' := [va_rf (some a1)]) rfl ?_
  exact g_aret rfl rfl rfl (Or.inl ⟨_, rfl⟩) d_Packet_copy_61
theorem hd_Packet_copy : g_dsc y_Packet_copy 0 := ⟨by decide +kernel, by decide +kernel, by decide +kernel⟩
/-! CircuitDesk$Net.copy()LCircuitDesk$Net; -/
abbrev y_Net_copy : MethodName := ⟨"CircuitDesk$Net", "copy", "()LCircuitDesk$Net;"⟩
abbrev k_Net_copy : g_M := (prog_7_method_2_code, 4, "CircuitDesk$Net", 31, (some (FieldType.object "CircuitDesk$Net")), "copy", [], 0)
theorem d_Net_copy_0 : decode prog_7_method_2_code 0 = .ok (.new 10, 3) := by decide +kernel
theorem d_Net_copy_3 : decode prog_7_method_2_code 3 = .ok (.dup, 1) := by decide +kernel
theorem d_Net_copy_4 : decode prog_7_method_2_code 4 = .ok (.invokespecial 43, 3) := by decide +kernel
theorem d_Net_copy_7 : decode prog_7_method_2_code 7 = .ok (.astore_n 1, 1) := by decide +kernel
theorem d_Net_copy_8 : decode prog_7_method_2_code 8 = .ok (.aload_n 1, 1) := by decide +kernel
theorem d_Net_copy_9 : decode prog_7_method_2_code 9 = .ok (.aload_n 0, 1) := by decide +kernel
theorem d_Net_copy_10 : decode prog_7_method_2_code 10 = .ok (.getfield 9, 3) := by decide +kernel
theorem d_Net_copy_13 : decode prog_7_method_2_code 13 = .ok (.invokevirtual 44, 3) := by decide +kernel
theorem d_Net_copy_16 : decode prog_7_method_2_code 16 = .ok (.checkcast 45, 3) := by decide +kernel
theorem d_Net_copy_19 : decode prog_7_method_2_code 19 = .ok (.putfield 9, 3) := by decide +kernel
theorem d_Net_copy_22 : decode prog_7_method_2_code 22 = .ok (.aload_n 0, 1) := by decide +kernel
theorem d_Net_copy_23 : decode prog_7_method_2_code 23 = .ok (.getfield 20, 3) := by decide +kernel
theorem d_Net_copy_26 : decode prog_7_method_2_code 26 = .ok (.invokevirtual 49, 3) := by decide +kernel
theorem d_Net_copy_29 : decode prog_7_method_2_code 29 = .ok (.astore_n 2, 1) := by decide +kernel
theorem d_Net_copy_30 : decode prog_7_method_2_code 30 = .ok (.aload_n 2, 1) := by decide +kernel
theorem d_Net_copy_31 : decode prog_7_method_2_code 31 = .ok (.invokeinterface 53 1, 5) := by decide +kernel
theorem d_Net_copy_36 : decode prog_7_method_2_code 36 = .ok (.ifCond .eq 28, 3) := by decide +kernel
theorem d_Net_copy_39 : decode prog_7_method_2_code 39 = .ok (.aload_n 2, 1) := by decide +kernel
theorem d_Net_copy_40 : decode prog_7_method_2_code 40 = .ok (.invokeinterface 59 1, 5) := by decide +kernel
theorem d_Net_copy_45 : decode prog_7_method_2_code 45 = .ok (.checkcast 62, 3) := by decide +kernel
theorem d_Net_copy_48 : decode prog_7_method_2_code 48 = .ok (.astore_n 3, 1) := by decide +kernel
theorem d_Net_copy_49 : decode prog_7_method_2_code 49 = .ok (.aload_n 1, 1) := by decide +kernel
theorem d_Net_copy_50 : decode prog_7_method_2_code 50 = .ok (.getfield 20, 3) := by decide +kernel
theorem d_Net_copy_53 : decode prog_7_method_2_code 53 = .ok (.aload_n 3, 1) := by decide +kernel
theorem d_Net_copy_54 : decode prog_7_method_2_code 54 = .ok (.invokevirtual 64, 3) := by decide +kernel
theorem d_Net_copy_57 : decode prog_7_method_2_code 57 = .ok (.invokevirtual 68, 3) := by decide +kernel
theorem d_Net_copy_60 : decode prog_7_method_2_code 60 = .ok (.pop, 1) := by decide +kernel
theorem d_Net_copy_61 : decode prog_7_method_2_code 61 = .ok (.goto (-31), 3) := by decide +kernel
theorem d_Net_copy_64 : decode prog_7_method_2_code 64 = .ok (.aload_n 0, 1) := by decide +kernel
theorem d_Net_copy_65 : decode prog_7_method_2_code 65 = .ok (.getfield 24, 3) := by decide +kernel
theorem d_Net_copy_68 : decode prog_7_method_2_code 68 = .ok (.invokevirtual 49, 3) := by decide +kernel
theorem d_Net_copy_71 : decode prog_7_method_2_code 71 = .ok (.astore_n 2, 1) := by decide +kernel
theorem d_Net_copy_72 : decode prog_7_method_2_code 72 = .ok (.aload_n 2, 1) := by decide +kernel
theorem d_Net_copy_73 : decode prog_7_method_2_code 73 = .ok (.invokeinterface 53 1, 5) := by decide +kernel
theorem d_Net_copy_78 : decode prog_7_method_2_code 78 = .ok (.ifCond .eq 28, 3) := by decide +kernel
theorem d_Net_copy_81 : decode prog_7_method_2_code 81 = .ok (.aload_n 2, 1) := by decide +kernel
theorem d_Net_copy_82 : decode prog_7_method_2_code 82 = .ok (.invokeinterface 59 1, 5) := by decide +kernel
theorem d_Net_copy_87 : decode prog_7_method_2_code 87 = .ok (.checkcast 72, 3) := by decide +kernel
theorem d_Net_copy_90 : decode prog_7_method_2_code 90 = .ok (.astore_n 3, 1) := by decide +kernel
theorem d_Net_copy_91 : decode prog_7_method_2_code 91 = .ok (.aload_n 1, 1) := by decide +kernel
theorem d_Net_copy_92 : decode prog_7_method_2_code 92 = .ok (.getfield 24, 3) := by decide +kernel
theorem d_Net_copy_95 : decode prog_7_method_2_code 95 = .ok (.aload_n 3, 1) := by decide +kernel
theorem d_Net_copy_96 : decode prog_7_method_2_code 96 = .ok (.invokevirtual 74, 3) := by decide +kernel
theorem d_Net_copy_99 : decode prog_7_method_2_code 99 = .ok (.invokevirtual 68, 3) := by decide +kernel
theorem d_Net_copy_102 : decode prog_7_method_2_code 102 = .ok (.pop, 1) := by decide +kernel
theorem d_Net_copy_103 : decode prog_7_method_2_code 103 = .ok (.goto (-31), 3) := by decide +kernel
theorem d_Net_copy_106 : decode prog_7_method_2_code 106 = .ok (.aload_n 0, 1) := by decide +kernel
theorem d_Net_copy_107 : decode prog_7_method_2_code 107 = .ok (.getfield 27, 3) := by decide +kernel
theorem d_Net_copy_110 : decode prog_7_method_2_code 110 = .ok (.invokevirtual 49, 3) := by decide +kernel
theorem d_Net_copy_113 : decode prog_7_method_2_code 113 = .ok (.astore_n 2, 1) := by decide +kernel
theorem d_Net_copy_114 : decode prog_7_method_2_code 114 = .ok (.aload_n 2, 1) := by decide +kernel
theorem d_Net_copy_115 : decode prog_7_method_2_code 115 = .ok (.invokeinterface 53 1, 5) := by decide +kernel
theorem d_Net_copy_120 : decode prog_7_method_2_code 120 = .ok (.ifCond .eq 28, 3) := by decide +kernel
theorem d_Net_copy_123 : decode prog_7_method_2_code 123 = .ok (.aload_n 2, 1) := by decide +kernel
theorem d_Net_copy_124 : decode prog_7_method_2_code 124 = .ok (.invokeinterface 59 1, 5) := by decide +kernel
theorem d_Net_copy_129 : decode prog_7_method_2_code 129 = .ok (.checkcast 77, 3) := by decide +kernel
theorem d_Net_copy_132 : decode prog_7_method_2_code 132 = .ok (.astore_n 3, 1) := by decide +kernel
theorem d_Net_copy_133 : decode prog_7_method_2_code 133 = .ok (.aload_n 1, 1) := by decide +kernel
theorem d_Net_copy_134 : decode prog_7_method_2_code 134 = .ok (.getfield 27, 3) := by decide +kernel
theorem d_Net_copy_137 : decode prog_7_method_2_code 137 = .ok (.aload_n 3, 1) := by decide +kernel
theorem d_Net_copy_138 : decode prog_7_method_2_code 138 = .ok (.invokevirtual 79, 3) := by decide +kernel
theorem d_Net_copy_141 : decode prog_7_method_2_code 141 = .ok (.invokevirtual 68, 3) := by decide +kernel
theorem d_Net_copy_144 : decode prog_7_method_2_code 144 = .ok (.pop, 1) := by decide +kernel
theorem d_Net_copy_145 : decode prog_7_method_2_code 145 = .ok (.goto (-31), 3) := by decide +kernel
theorem d_Net_copy_148 : decode prog_7_method_2_code 148 = .ok (.aload_n 0, 1) := by decide +kernel
theorem d_Net_copy_149 : decode prog_7_method_2_code 149 = .ok (.getfield 30, 3) := by decide +kernel
theorem d_Net_copy_152 : decode prog_7_method_2_code 152 = .ok (.invokevirtual 49, 3) := by decide +kernel
theorem d_Net_copy_155 : decode prog_7_method_2_code 155 = .ok (.astore_n 2, 1) := by decide +kernel
theorem d_Net_copy_156 : decode prog_7_method_2_code 156 = .ok (.aload_n 2, 1) := by decide +kernel
theorem d_Net_copy_157 : decode prog_7_method_2_code 157 = .ok (.invokeinterface 53 1, 5) := by decide +kernel
theorem d_Net_copy_162 : decode prog_7_method_2_code 162 = .ok (.ifCond .eq 28, 3) := by decide +kernel
theorem d_Net_copy_165 : decode prog_7_method_2_code 165 = .ok (.aload_n 2, 1) := by decide +kernel
theorem d_Net_copy_166 : decode prog_7_method_2_code 166 = .ok (.invokeinterface 59 1, 5) := by decide +kernel
theorem d_Net_copy_171 : decode prog_7_method_2_code 171 = .ok (.checkcast 82, 3) := by decide +kernel
theorem d_Net_copy_174 : decode prog_7_method_2_code 174 = .ok (.astore_n 3, 1) := by decide +kernel
theorem d_Net_copy_175 : decode prog_7_method_2_code 175 = .ok (.aload_n 1, 1) := by decide +kernel
theorem d_Net_copy_176 : decode prog_7_method_2_code 176 = .ok (.getfield 30, 3) := by decide +kernel
theorem d_Net_copy_179 : decode prog_7_method_2_code 179 = .ok (.aload_n 3, 1) := by decide +kernel
theorem d_Net_copy_180 : decode prog_7_method_2_code 180 = .ok (.invokevirtual 84, 3) := by decide +kernel
theorem d_Net_copy_183 : decode prog_7_method_2_code 183 = .ok (.invokevirtual 68, 3) := by decide +kernel
theorem d_Net_copy_186 : decode prog_7_method_2_code 186 = .ok (.pop, 1) := by decide +kernel
theorem d_Net_copy_187 : decode prog_7_method_2_code 187 = .ok (.goto (-31), 3) := by decide +kernel
theorem d_Net_copy_190 : decode prog_7_method_2_code 190 = .ok (.aload_n 1, 1) := by decide +kernel
theorem d_Net_copy_191 : decode prog_7_method_2_code 191 = .ok (.aload_n 0, 1) := by decide +kernel
theorem d_Net_copy_192 : decode prog_7_method_2_code 192 = .ok (.getfield 87, 3) := by decide +kernel
theorem d_Net_copy_195 : decode prog_7_method_2_code 195 = .ok (.putfield 87, 3) := by decide +kernel
theorem d_Net_copy_198 : decode prog_7_method_2_code 198 = .ok (.aload_n 1, 1) := by decide +kernel
theorem d_Net_copy_199 : decode prog_7_method_2_code 199 = .ok (.aload_n 0, 1) := by decide +kernel
theorem d_Net_copy_200 : decode prog_7_method_2_code 200 = .ok (.getfield 91, 3) := by decide +kernel
theorem d_Net_copy_203 : decode prog_7_method_2_code 203 = .ok (.putfield 91, 3) := by decide +kernel
theorem d_Net_copy_206 : decode prog_7_method_2_code 206 = .ok (.aload_n 1, 1) := by decide +kernel
theorem d_Net_copy_207 : decode prog_7_method_2_code 207 = .ok (.aload_n 0, 1) := by decide +kernel
theorem d_Net_copy_208 : decode prog_7_method_2_code 208 = .ok (.getfield 94, 3) := by decide +kernel
theorem d_Net_copy_211 : decode prog_7_method_2_code 211 = .ok (.putfield 94, 3) := by decide +kernel
theorem d_Net_copy_214 : decode prog_7_method_2_code 214 = .ok (.aload_n 1, 1) := by decide +kernel
theorem d_Net_copy_215 : decode prog_7_method_2_code 215 = .ok (.aload_n 0, 1) := by decide +kernel
theorem d_Net_copy_216 : decode prog_7_method_2_code 216 = .ok (.getfield 97, 3) := by decide +kernel
theorem d_Net_copy_219 : decode prog_7_method_2_code 219 = .ok (.putfield 97, 3) := by decide +kernel
theorem d_Net_copy_222 : decode prog_7_method_2_code 222 = .ok (.aload_n 1, 1) := by decide +kernel
theorem d_Net_copy_223 : decode prog_7_method_2_code 223 = .ok (.aload_n 0, 1) := by decide +kernel
theorem d_Net_copy_224 : decode prog_7_method_2_code 224 = .ok (.getfield 100, 3) := by decide +kernel
theorem d_Net_copy_227 : decode prog_7_method_2_code 227 = .ok (.putfield 100, 3) := by decide +kernel
theorem d_Net_copy_230 : decode prog_7_method_2_code 230 = .ok (.aload_n 1, 1) := by decide +kernel
theorem d_Net_copy_231 : decode prog_7_method_2_code 231 = .ok (.aload_n 0, 1) := by decide +kernel
theorem d_Net_copy_232 : decode prog_7_method_2_code 232 = .ok (.getfield 103, 3) := by decide +kernel
theorem d_Net_copy_235 : decode prog_7_method_2_code 235 = .ok (.putfield 103, 3) := by decide +kernel
theorem d_Net_copy_238 : decode prog_7_method_2_code 238 = .ok (.aload_n 1, 1) := by decide +kernel
theorem d_Net_copy_239 : decode prog_7_method_2_code 239 = .ok (.aload_n 0, 1) := by decide +kernel
theorem d_Net_copy_240 : decode prog_7_method_2_code 240 = .ok (.getfield 106, 3) := by decide +kernel
theorem d_Net_copy_243 : decode prog_7_method_2_code 243 = .ok (.putfield 106, 3) := by decide +kernel
theorem d_Net_copy_246 : decode prog_7_method_2_code 246 = .ok (.aload_n 1, 1) := by decide +kernel
theorem d_Net_copy_247 : decode prog_7_method_2_code 247 = .ok (.aload_n 0, 1) := by decide +kernel
theorem d_Net_copy_248 : decode prog_7_method_2_code 248 = .ok (.getfield 109, 3) := by decide +kernel
theorem d_Net_copy_251 : decode prog_7_method_2_code 251 = .ok (.putfield 109, 3) := by decide +kernel
theorem d_Net_copy_254 : decode prog_7_method_2_code 254 = .ok (.aload_n 1, 1) := by decide +kernel
theorem d_Net_copy_255 : decode prog_7_method_2_code 255 = .ok (.areturn, 1) := by decide +kernel
def Net_copy_156  : Nat → g_AH → Nat → Option Nat → Option Nat → Option (Option Nat × g_AH)
  | 0, _, _, _, _ => none
  | n + 1, h, v0, v1, v2 => g_nn v2 fun a84 => g_is h a84 16 <| g_b (ArrayListItr_hasNext h a84) fun x87 => if x87 = 0 then (g_gI h v0 1 6 fun x92 => g_nn v1 fun a95 => g_pF h a95 1 6 (.int x92) fun h99 => g_gI h99 v0 1 7 fun x101 => g_pF h99 a95 1 7 (.int x101) fun h107 => g_gI h107 v0 1 8 fun x109 => g_pF h107 a95 1 8 (.int x109) fun h115 => g_gI h115 v0 1 9 fun x117 => g_pF h115 a95 1 9 (.int x117) fun h123 => g_gI h123 v0 1 10 fun x125 => g_pF h123 a95 1 10 (.int x125) fun h131 => g_gI h131 v0 1 11 fun x133 => g_pF h131 a95 1 11 (.int x133) fun h139 => g_gI h139 v0 1 12 fun x141 => g_pF h139 a95 1 12 (.int x141) fun h147 => g_gI h147 v0 1 13 fun x149 => g_pF h147 a95 1 13 (.int x149) fun h155 => some ((some a95), h155)) else (g_is h a84 16 <| g_b2 (ArrayListItr_next h a84) fun x158 h159 => g_ck h159 x158 14 <| g_nn v1 fun a162 => g_gR h159 a162 1 4 fun x164 => g_nn x158 fun a167 => g_is h159 a167 14 <| g_b2 (Packet_copy h159 a167) fun x170 h171 => g_nn x164 fun a173 => g_is h171 a173 15 <| g_b2 (ArrayList_add0 h171 a173 x170) fun x176 h177 => (Net_copy_156  n) h177 v0 (some a162) (some a84))
set_option maxHeartbeats 4000000 in
set_option maxRecDepth 100000 in
theorem W_Net_copy_156 {X : g_X} (z : Option Nat × g_AH)  : ∀ (n : Nat) (h : g_AH) (v0 : Nat) (v1 : Option Nat) (v2 : Option Nat), Net_copy_156  n h v0 v1 v2 = some z → G X k_Net_copy (.inl (some (va_rf z.1))) z.2 h 156 [(0, .ref v0), (1, va_rf v1), (2, va_rf v2)] [] := by
  intro n
  induction n with
  | zero => intro h v0 v1 v2 hy; exact absurd hy (by simp [Net_copy_156])
  | succ n ih =>
    intro h v0 v1 v2 hy
    rw [Net_copy_156] at hy
    refine g_aloadO_n 2 (i := 2) (pc' := 157) d_Net_copy_156 rfl rfl rfl ?_
    replace hy := g_nn_inv hy
    obtain ⟨a84, rfl, hy⟩ := hy
    replace hy := g_is_inv hy
    obtain ⟨fs85, hc86, hy⟩ := hy
    replace hy := g_b_inv hy
    obtain ⟨x87, hf89, hy⟩ := hy
    refine g_callF (x := ⟨"java/util/Iterator", "hasNext", "()Z"⟩) (rv := some (.int x87)) (h1 := h) (pc' := 162) (As := []) (rest := []) 0 (T_ArrayListItr_hasNext (hy := hf89)) d_Net_copy_157 hc86 rfl (by decide) (g_wsF q1646 q1487 q1489 q145 q1491) ⟨by decide, by decide, by decide +kernel⟩ rfl ⟨by decide, by decide⟩ (by first | exact Nat.le_of_ble_eq_true rfl | (simp only [List.map, List.sum_cons, List.sum_nil, g_cat_rf]; exact Nat.le_of_ble_eq_true rfl) | (simp only [List.map, List.sum_cons, List.sum_nil, g_cat_rf, Value.category]; decide)) rfl ?_
    by_cases c90 : x87 = 0
    · rw [if_pos c90] at hy
      refine g_if_eqT (pc' := 190) d_Net_copy_162 c90 (by decide) ?_
      refine g_aloadO_n 1 (i := 1) (pc' := 191) d_Net_copy_190 rfl rfl rfl ?_
      refine g_aload_n 0 (i := 0) (pc' := 192) d_Net_copy_191 rfl rfl rfl ?_
      replace hy := g_gI_inv hy
      obtain ⟨fs91, x92, hc93, hv94, hy⟩ := hy
      refine g_getf (pc' := 195) d_Net_copy_192 hc93 rfl (by decide) hv94 q564 (Or.inl rfl) rfl ?_
      replace hy := g_nn_inv hy
      obtain ⟨a95, rfl, hy⟩ := hy
      replace hy := g_pF_inv hy
      obtain ⟨fs96, hc97, hl98, hy⟩ := hy
      refine g_putf (pc' := 198) d_Net_copy_195 hc97 rfl (by decide) hl98 rfl rfl rfl q564 (Or.inl rfl) rfl ?_
      generalize g_up h a95 (.inr (1, fs96.set 6 (.int x92))) = h99 at hy ⊢
      refine g_aload_n 1 (i := 1) (pc' := 199) d_Net_copy_198 rfl rfl rfl ?_
      refine g_aload_n 0 (i := 0) (pc' := 200) d_Net_copy_199 rfl rfl rfl ?_
      replace hy := g_gI_inv hy
      obtain ⟨fs100, x101, hc102, hv103, hy⟩ := hy
      refine g_getf (pc' := 203) d_Net_copy_200 hc102 rfl (by decide) hv103 q566 (Or.inl rfl) rfl ?_
      replace hy := g_pF_inv hy
      obtain ⟨fs104, hc105, hl106, hy⟩ := hy
      refine g_putf (pc' := 206) d_Net_copy_203 hc105 rfl (by decide) hl106 rfl rfl rfl q566 (Or.inl rfl) rfl ?_
      generalize g_up h99 a95 (.inr (1, fs104.set 7 (.int x101))) = h107 at hy ⊢
      refine g_aload_n 1 (i := 1) (pc' := 207) d_Net_copy_206 rfl rfl rfl ?_
      refine g_aload_n 0 (i := 0) (pc' := 208) d_Net_copy_207 rfl rfl rfl ?_
      replace hy := g_gI_inv hy
      obtain ⟨fs108, x109, hc110, hv111, hy⟩ := hy
      refine g_getf (pc' := 211) d_Net_copy_208 hc110 rfl (by decide) hv111 q568 (Or.inl rfl) rfl ?_
      replace hy := g_pF_inv hy
      obtain ⟨fs112, hc113, hl114, hy⟩ := hy
      refine g_putf (pc' := 214) d_Net_copy_211 hc113 rfl (by decide) hl114 rfl rfl rfl q568 (Or.inl rfl) rfl ?_
      generalize g_up h107 a95 (.inr (1, fs112.set 8 (.int x109))) = h115 at hy ⊢
      refine g_aload_n 1 (i := 1) (pc' := 215) d_Net_copy_214 rfl rfl rfl ?_
      refine g_aload_n 0 (i := 0) (pc' := 216) d_Net_copy_215 rfl rfl rfl ?_
      replace hy := g_gI_inv hy
      obtain ⟨fs116, x117, hc118, hv119, hy⟩ := hy
      refine g_getf (pc' := 219) d_Net_copy_216 hc118 rfl (by decide) hv119 q570 (Or.inl rfl) rfl ?_
      replace hy := g_pF_inv hy
      obtain ⟨fs120, hc121, hl122, hy⟩ := hy
      refine g_putf (pc' := 222) d_Net_copy_219 hc121 rfl (by decide) hl122 rfl rfl rfl q570 (Or.inl rfl) rfl ?_
      generalize g_up h115 a95 (.inr (1, fs120.set 9 (.int x117))) = h123 at hy ⊢
      refine g_aload_n 1 (i := 1) (pc' := 223) d_Net_copy_222 rfl rfl rfl ?_
      refine g_aload_n 0 (i := 0) (pc' := 224) d_Net_copy_223 rfl rfl rfl ?_
      replace hy := g_gI_inv hy
      obtain ⟨fs124, x125, hc126, hv127, hy⟩ := hy
      refine g_getf (pc' := 227) d_Net_copy_224 hc126 rfl (by decide) hv127 q572 (Or.inl rfl) rfl ?_
      replace hy := g_pF_inv hy
      obtain ⟨fs128, hc129, hl130, hy⟩ := hy
      refine g_putf (pc' := 230) d_Net_copy_227 hc129 rfl (by decide) hl130 rfl rfl rfl q572 (Or.inl rfl) rfl ?_
      generalize g_up h123 a95 (.inr (1, fs128.set 10 (.int x125))) = h131 at hy ⊢
      refine g_aload_n 1 (i := 1) (pc' := 231) d_Net_copy_230 rfl rfl rfl ?_
      refine g_aload_n 0 (i := 0) (pc' := 232) d_Net_copy_231 rfl rfl rfl ?_
      replace hy := g_gI_inv hy
      obtain ⟨fs132, x133, hc134, hv135, hy⟩ := hy
      refine g_getf (pc' := 235) d_Net_copy_232 hc134 rfl (by decide) hv135 q574 (Or.inl rfl) rfl ?_
      replace hy := g_pF_inv hy
      obtain ⟨fs136, hc137, hl138, hy⟩ := hy
      refine g_putf (pc' := 238) d_Net_copy_235 hc137 rfl (by decide) hl138 rfl rfl rfl q574 (Or.inl rfl) rfl ?_
      generalize g_up h131 a95 (.inr (1, fs136.set 11 (.int x133))) = h139 at hy ⊢
      refine g_aload_n 1 (i := 1) (pc' := 239) d_Net_copy_238 rfl rfl rfl ?_
      refine g_aload_n 0 (i := 0) (pc' := 240) d_Net_copy_239 rfl rfl rfl ?_
      replace hy := g_gI_inv hy
      obtain ⟨fs140, x141, hc142, hv143, hy⟩ := hy
      refine g_getf (pc' := 243) d_Net_copy_240 hc142 rfl (by decide) hv143 q577 (Or.inl rfl) rfl ?_
      replace hy := g_pF_inv hy
      obtain ⟨fs144, hc145, hl146, hy⟩ := hy
      refine g_putf (pc' := 246) d_Net_copy_243 hc145 rfl (by decide) hl146 rfl rfl rfl q577 (Or.inl rfl) rfl ?_
      generalize g_up h139 a95 (.inr (1, fs144.set 12 (.int x141))) = h147 at hy ⊢
      refine g_aload_n 1 (i := 1) (pc' := 247) d_Net_copy_246 rfl rfl rfl ?_
      refine g_aload_n 0 (i := 0) (pc' := 248) d_Net_copy_247 rfl rfl rfl ?_
      replace hy := g_gI_inv hy
      obtain ⟨fs148, x149, hc150, hv151, hy⟩ := hy
      refine g_getf (pc' := 251) d_Net_copy_248 hc150 rfl (by decide) hv151 q579 (Or.inl rfl) rfl ?_
      replace hy := g_pF_inv hy
      obtain ⟨fs152, hc153, hl154, hy⟩ := hy
      refine g_putf (pc' := 254) d_Net_copy_251 hc153 rfl (by decide) hl154 rfl rfl rfl q579 (Or.inl rfl) rfl ?_
      generalize g_up h147 a95 (.inr (1, fs152.set 13 (.int x149))) = h155 at hy ⊢
      refine g_aload_n 1 (i := 1) (pc' := 255) d_Net_copy_254 rfl rfl rfl ?_
      cases hy
      refine g_stk (st' := [va_rf (some a95)]) rfl ?_
      exact g_aret rfl rfl rfl (Or.inl ⟨_, rfl⟩) d_Net_copy_255
    · rw [if_neg c90] at hy
      refine g_if_eqF (pc' := 165) d_Net_copy_162 190 c90 (by decide) rfl ?_
      refine g_aload_n 2 (i := 2) (pc' := 166) d_Net_copy_165 rfl rfl rfl ?_
      replace hy := g_is_inv hy
      obtain ⟨fs156, hc157, hy⟩ := hy
      replace hy := g_b2_inv hy
      obtain ⟨x158, h159, hf160, hy⟩ := hy
      refine g_callF (x := ⟨"java/util/Iterator", "next", "()Ljava/lang/Object;"⟩) (rv := some (va_rf x158)) (h1 := h159) (pc' := 171) (As := []) (rest := []) 0 (T_ArrayListItr_next (hy := hf160)) d_Net_copy_166 hc157 rfl (by decide) (g_wsF q1648 q1496 q1498 q145 q1500) ⟨by decide, by decide, by decide +kernel⟩ rfl ⟨by decide, by decide⟩ (by first | exact Nat.le_of_ble_eq_true rfl | (simp only [List.map, List.sum_cons, List.sum_nil, g_cat_rf]; exact Nat.le_of_ble_eq_true rfl) | (simp only [List.map, List.sum_cons, List.sum_nil, g_cat_rf, Value.category]; decide)) rfl ?_
      replace hy := g_ck_inv hy
      obtain ⟨hk161, hy⟩ := hy
      refine g_castO (pc' := 174) d_Net_copy_171 hk161 rfl q1420 rfl ?_
      refine g_astoreO_n (i := 3) (pc' := 175) (Lc' := [(3, va_rf x158), (0, .ref v0), (1, va_rf v1), (2, .ref a84)]) d_Net_copy_174 rfl (by decide) rfl rfl ?_
      refine g_aloadO_n 2 (i := 1) (pc' := 176) d_Net_copy_175 rfl rfl rfl ?_
      replace hy := g_nn_inv hy
      obtain ⟨a162, rfl, hy⟩ := hy
      replace hy := g_gR_inv hy
      obtain ⟨fs163, x164, hc165, hv166, hy⟩ := hy
      refine g_getf (pc' := 179) d_Net_copy_176 hc165 rfl (by decide) hv166 q561 (Or.inl rfl) rfl ?_
      refine g_aloadO_n 0 (i := 3) (pc' := 180) d_Net_copy_179 rfl rfl rfl ?_
      replace hy := g_nn_inv hy
      obtain ⟨a167, rfl, hy⟩ := hy
      replace hy := g_is_inv hy
      obtain ⟨fs168, hc169, hy⟩ := hy
      replace hy := g_b2_inv hy
      obtain ⟨x170, h171, hf172, hy⟩ := hy
      refine g_callV (rv := some (va_rf x170)) (h1 := h171) (pc' := 183) (As := []) (rest := [va_rf x164]) 0 (T_Packet_copy (hy := hf172)) d_Net_copy_180 hc169 rfl rfl q1920 q1921 q1922 q147 q1923 hd_Packet_copy rfl ⟨by decide, by decide⟩ (by first | exact Nat.le_of_ble_eq_true rfl | (simp only [List.map, List.sum_cons, List.sum_nil, g_cat_rf]; exact Nat.le_of_ble_eq_true rfl) | (simp only [List.map, List.sum_cons, List.sum_nil, g_cat_rf, Value.category]; decide)) rfl ?_
      replace hy := g_nn_inv hy
      obtain ⟨a173, rfl, hy⟩ := hy
      replace hy := g_is_inv hy
      obtain ⟨fs174, hc175, hy⟩ := hy
      replace hy := g_b2_inv hy
      obtain ⟨x176, h177, hf178, hy⟩ := hy
      refine g_callV (rv := some (.int x176)) (h1 := h177) (pc' := 186) (As := [va_rf x170]) (rest := []) 1 (T_ArrayList_add0 (hy := hf178)) d_Net_copy_183 hc175 rfl rfl q1623 q1037 q1038 q112 q1039 hd_ArrayList_add0 rfl ⟨by decide, by decide⟩ (by first | exact Nat.le_of_ble_eq_true rfl | (simp only [List.map, List.sum_cons, List.sum_nil, g_cat_rf]; exact Nat.le_of_ble_eq_true rfl) | (simp only [List.map, List.sum_cons, List.sum_nil, g_cat_rf, Value.category]; decide)) rfl ?_
      refine g_pop (pc' := 187) d_Net_copy_186 rfl rfl ?_
      refine g_goto (pc' := 156) d_Net_copy_187 (by decide) ?_
      refine g_sub [1, 2, 3] rfl ?_
      exact ih _ _ _ _ hy
def Net_copy_114  : Nat → g_AH → Nat → Option Nat → Option Nat → Option (Option Nat × g_AH)
  | 0, _, _, _, _ => none
  | n + 1, h, v0, v1, v2 => g_nn v2 fun a67 => g_is h a67 16 <| g_b (ArrayListItr_hasNext h a67) fun x70 => if x70 = 0 then (g_gR h v0 1 4 fun x75 => g_nn x75 fun a78 => g_is h a78 15 <| g_b2 (ArrayList_iterator h a78) fun x81 h82 => Net_copy_156  gFU h82 v0 v1 x81) else (g_is h a67 16 <| g_b2 (ArrayListItr_next h a67) fun x181 h182 => g_ck h182 x181 12 <| g_nn v1 fun a185 => g_gR h182 a185 1 3 fun x187 => g_nn x181 fun a190 => g_is h182 a190 12 <| g_b2 (Circuit_copy h182 a190) fun x193 h194 => g_nn x187 fun a196 => g_is h194 a196 15 <| g_b2 (ArrayList_add0 h194 a196 x193) fun x199 h200 => (Net_copy_114  n) h200 v0 (some a185) (some a67))
set_option maxHeartbeats 4000000 in
set_option maxRecDepth 100000 in
theorem W_Net_copy_114 {X : g_X} (z : Option Nat × g_AH)  : ∀ (n : Nat) (h : g_AH) (v0 : Nat) (v1 : Option Nat) (v2 : Option Nat), Net_copy_114  n h v0 v1 v2 = some z → G X k_Net_copy (.inl (some (va_rf z.1))) z.2 h 114 [(0, .ref v0), (1, va_rf v1), (2, va_rf v2)] [] := by
  intro n
  induction n with
  | zero => intro h v0 v1 v2 hy; exact absurd hy (by simp [Net_copy_114])
  | succ n ih =>
    intro h v0 v1 v2 hy
    rw [Net_copy_114] at hy
    refine g_aloadO_n 2 (i := 2) (pc' := 115) d_Net_copy_114 rfl rfl rfl ?_
    replace hy := g_nn_inv hy
    obtain ⟨a67, rfl, hy⟩ := hy
    replace hy := g_is_inv hy
    obtain ⟨fs68, hc69, hy⟩ := hy
    replace hy := g_b_inv hy
    obtain ⟨x70, hf72, hy⟩ := hy
    refine g_callF (x := ⟨"java/util/Iterator", "hasNext", "()Z"⟩) (rv := some (.int x70)) (h1 := h) (pc' := 120) (As := []) (rest := []) 0 (T_ArrayListItr_hasNext (hy := hf72)) d_Net_copy_115 hc69 rfl (by decide) (g_wsF q1646 q1487 q1489 q145 q1491) ⟨by decide, by decide, by decide +kernel⟩ rfl ⟨by decide, by decide⟩ (by first | exact Nat.le_of_ble_eq_true rfl | (simp only [List.map, List.sum_cons, List.sum_nil, g_cat_rf]; exact Nat.le_of_ble_eq_true rfl) | (simp only [List.map, List.sum_cons, List.sum_nil, g_cat_rf, Value.category]; decide)) rfl ?_
    by_cases c73 : x70 = 0
    · rw [if_pos c73] at hy
      refine g_if_eqT (pc' := 148) d_Net_copy_120 c73 (by decide) ?_
      refine g_aload_n 0 (i := 0) (pc' := 149) d_Net_copy_148 rfl rfl rfl ?_
      replace hy := g_gR_inv hy
      obtain ⟨fs74, x75, hc76, hv77, hy⟩ := hy
      refine g_getf (pc' := 152) d_Net_copy_149 hc76 rfl (by decide) hv77 q561 (Or.inl rfl) rfl ?_
      replace hy := g_nn_inv hy
      obtain ⟨a78, rfl, hy⟩ := hy
      replace hy := g_is_inv hy
      obtain ⟨fs79, hc80, hy⟩ := hy
      replace hy := g_b2_inv hy
      obtain ⟨x81, h82, hf83, hy⟩ := hy
      refine g_callV (rv := some (va_rf x81)) (h1 := h82) (pc' := 155) (As := []) (rest := []) 0 (T_ArrayList_iterator (hy := hf83)) d_Net_copy_152 hc80 rfl rfl q1644 q1460 q1461 q112 q1462 hd_ArrayList_iterator rfl ⟨by decide, by decide⟩ (by first | exact Nat.le_of_ble_eq_true rfl | (simp only [List.map, List.sum_cons, List.sum_nil, g_cat_rf]; exact Nat.le_of_ble_eq_true rfl) | (simp only [List.map, List.sum_cons, List.sum_nil, g_cat_rf, Value.category]; decide)) rfl ?_
      refine g_astoreO_n (i := 2) (pc' := 156) (Lc' := [(2, va_rf x81), (0, .ref v0), (1, va_rf v1)]) d_Net_copy_155 rfl (by decide) (by cases v1 <;> rfl) rfl ?_
      refine g_sub [1, 2, 0] rfl ?_
      exact W_Net_copy_156 _ _ _ _ _ _ hy
    · rw [if_neg c73] at hy
      refine g_if_eqF (pc' := 123) d_Net_copy_120 148 c73 (by decide) rfl ?_
      refine g_aload_n 2 (i := 2) (pc' := 124) d_Net_copy_123 rfl rfl rfl ?_
      replace hy := g_is_inv hy
      obtain ⟨fs179, hc180, hy⟩ := hy
      replace hy := g_b2_inv hy
      obtain ⟨x181, h182, hf183, hy⟩ := hy
      refine g_callF (x := ⟨"java/util/Iterator", "next", "()Ljava/lang/Object;"⟩) (rv := some (va_rf x181)) (h1 := h182) (pc' := 129) (As := []) (rest := []) 0 (T_ArrayListItr_next (hy := hf183)) d_Net_copy_124 hc180 rfl (by decide) (g_wsF q1648 q1496 q1498 q145 q1500) ⟨by decide, by decide, by decide +kernel⟩ rfl ⟨by decide, by decide⟩ (by first | exact Nat.le_of_ble_eq_true rfl | (simp only [List.map, List.sum_cons, List.sum_nil, g_cat_rf]; exact Nat.le_of_ble_eq_true rfl) | (simp only [List.map, List.sum_cons, List.sum_nil, g_cat_rf, Value.category]; decide)) rfl ?_
      replace hy := g_ck_inv hy
      obtain ⟨hk184, hy⟩ := hy
      refine g_castO (pc' := 132) d_Net_copy_129 hk184 rfl q696 rfl ?_
      refine g_astoreO_n (i := 3) (pc' := 133) (Lc' := [(3, va_rf x181), (0, .ref v0), (1, va_rf v1), (2, .ref a67)]) d_Net_copy_132 rfl (by decide) rfl rfl ?_
      refine g_aloadO_n 2 (i := 1) (pc' := 134) d_Net_copy_133 rfl rfl rfl ?_
      replace hy := g_nn_inv hy
      obtain ⟨a185, rfl, hy⟩ := hy
      replace hy := g_gR_inv hy
      obtain ⟨fs186, x187, hc188, hv189, hy⟩ := hy
      refine g_getf (pc' := 137) d_Net_copy_134 hc188 rfl (by decide) hv189 q555 (Or.inl rfl) rfl ?_
      refine g_aloadO_n 0 (i := 3) (pc' := 138) d_Net_copy_137 rfl rfl rfl ?_
      replace hy := g_nn_inv hy
      obtain ⟨a190, rfl, hy⟩ := hy
      replace hy := g_is_inv hy
      obtain ⟨fs191, hc192, hy⟩ := hy
      replace hy := g_b2_inv hy
      obtain ⟨x193, h194, hf195, hy⟩ := hy
      refine g_callV (rv := some (va_rf x193)) (h1 := h194) (pc' := 141) (As := []) (rest := [va_rf x187]) 0 (T_Circuit_copy (hy := hf195)) d_Net_copy_138 hc192 rfl rfl q1913 q1914 q1915 q142 q1916 hd_Circuit_copy rfl ⟨by decide, by decide⟩ (by first | exact Nat.le_of_ble_eq_true rfl | (simp only [List.map, List.sum_cons, List.sum_nil, g_cat_rf]; exact Nat.le_of_ble_eq_true rfl) | (simp only [List.map, List.sum_cons, List.sum_nil, g_cat_rf, Value.category]; decide)) rfl ?_
      replace hy := g_nn_inv hy
      obtain ⟨a196, rfl, hy⟩ := hy
      replace hy := g_is_inv hy
      obtain ⟨fs197, hc198, hy⟩ := hy
      replace hy := g_b2_inv hy
      obtain ⟨x199, h200, hf201, hy⟩ := hy
      refine g_callV (rv := some (.int x199)) (h1 := h200) (pc' := 144) (As := [va_rf x193]) (rest := []) 1 (T_ArrayList_add0 (hy := hf201)) d_Net_copy_141 hc198 rfl rfl q1623 q1037 q1038 q112 q1039 hd_ArrayList_add0 rfl ⟨by decide, by decide⟩ (by first | exact Nat.le_of_ble_eq_true rfl | (simp only [List.map, List.sum_cons, List.sum_nil, g_cat_rf]; exact Nat.le_of_ble_eq_true rfl) | (simp only [List.map, List.sum_cons, List.sum_nil, g_cat_rf, Value.category]; decide)) rfl ?_
      refine g_pop (pc' := 145) d_Net_copy_144 rfl rfl ?_
      refine g_goto (pc' := 114) d_Net_copy_145 (by decide) ?_
      refine g_sub [1, 2, 3] rfl ?_
      exact ih _ _ _ _ hy
def Net_copy_72  : Nat → g_AH → Nat → Option Nat → Option Nat → Option (Option Nat × g_AH)
  | 0, _, _, _, _ => none
  | n + 1, h, v0, v1, v2 => g_nn v2 fun a50 => g_is h a50 16 <| g_b (ArrayListItr_hasNext h a50) fun x53 => if x53 = 0 then (g_gR h v0 1 3 fun x58 => g_nn x58 fun a61 => g_is h a61 15 <| g_b2 (ArrayList_iterator h a61) fun x64 h65 => Net_copy_114  gFU h65 v0 v1 x64) else (g_is h a50 16 <| g_b2 (ArrayListItr_next h a50) fun x204 h205 => g_ck h205 x204 11 <| g_nn v1 fun a208 => g_gR h205 a208 1 2 fun x210 => g_nn x204 fun a213 => g_is h205 a213 11 <| g_b2 (Link_copy h205 a213) fun x216 h217 => g_nn x210 fun a219 => g_is h217 a219 15 <| g_b2 (ArrayList_add0 h217 a219 x216) fun x222 h223 => (Net_copy_72  n) h223 v0 (some a208) (some a50))
set_option maxHeartbeats 4000000 in
set_option maxRecDepth 100000 in
theorem W_Net_copy_72 {X : g_X} (z : Option Nat × g_AH)  : ∀ (n : Nat) (h : g_AH) (v0 : Nat) (v1 : Option Nat) (v2 : Option Nat), Net_copy_72  n h v0 v1 v2 = some z → G X k_Net_copy (.inl (some (va_rf z.1))) z.2 h 72 [(0, .ref v0), (1, va_rf v1), (2, va_rf v2)] [] := by
  intro n
  induction n with
  | zero => intro h v0 v1 v2 hy; exact absurd hy (by simp [Net_copy_72])
  | succ n ih =>
    intro h v0 v1 v2 hy
    rw [Net_copy_72] at hy
    refine g_aloadO_n 2 (i := 2) (pc' := 73) d_Net_copy_72 rfl rfl rfl ?_
    replace hy := g_nn_inv hy
    obtain ⟨a50, rfl, hy⟩ := hy
    replace hy := g_is_inv hy
    obtain ⟨fs51, hc52, hy⟩ := hy
    replace hy := g_b_inv hy
    obtain ⟨x53, hf55, hy⟩ := hy
    refine g_callF (x := ⟨"java/util/Iterator", "hasNext", "()Z"⟩) (rv := some (.int x53)) (h1 := h) (pc' := 78) (As := []) (rest := []) 0 (T_ArrayListItr_hasNext (hy := hf55)) d_Net_copy_73 hc52 rfl (by decide) (g_wsF q1646 q1487 q1489 q145 q1491) ⟨by decide, by decide, by decide +kernel⟩ rfl ⟨by decide, by decide⟩ (by first | exact Nat.le_of_ble_eq_true rfl | (simp only [List.map, List.sum_cons, List.sum_nil, g_cat_rf]; exact Nat.le_of_ble_eq_true rfl) | (simp only [List.map, List.sum_cons, List.sum_nil, g_cat_rf, Value.category]; decide)) rfl ?_
    by_cases c56 : x53 = 0
    · rw [if_pos c56] at hy
      refine g_if_eqT (pc' := 106) d_Net_copy_78 c56 (by decide) ?_
      refine g_aload_n 0 (i := 0) (pc' := 107) d_Net_copy_106 rfl rfl rfl ?_
      replace hy := g_gR_inv hy
      obtain ⟨fs57, x58, hc59, hv60, hy⟩ := hy
      refine g_getf (pc' := 110) d_Net_copy_107 hc59 rfl (by decide) hv60 q555 (Or.inl rfl) rfl ?_
      replace hy := g_nn_inv hy
      obtain ⟨a61, rfl, hy⟩ := hy
      replace hy := g_is_inv hy
      obtain ⟨fs62, hc63, hy⟩ := hy
      replace hy := g_b2_inv hy
      obtain ⟨x64, h65, hf66, hy⟩ := hy
      refine g_callV (rv := some (va_rf x64)) (h1 := h65) (pc' := 113) (As := []) (rest := []) 0 (T_ArrayList_iterator (hy := hf66)) d_Net_copy_110 hc63 rfl rfl q1644 q1460 q1461 q112 q1462 hd_ArrayList_iterator rfl ⟨by decide, by decide⟩ (by first | exact Nat.le_of_ble_eq_true rfl | (simp only [List.map, List.sum_cons, List.sum_nil, g_cat_rf]; exact Nat.le_of_ble_eq_true rfl) | (simp only [List.map, List.sum_cons, List.sum_nil, g_cat_rf, Value.category]; decide)) rfl ?_
      refine g_astoreO_n (i := 2) (pc' := 114) (Lc' := [(2, va_rf x64), (0, .ref v0), (1, va_rf v1)]) d_Net_copy_113 rfl (by decide) (by cases v1 <;> rfl) rfl ?_
      refine g_sub [1, 2, 0] rfl ?_
      exact W_Net_copy_114 _ _ _ _ _ _ hy
    · rw [if_neg c56] at hy
      refine g_if_eqF (pc' := 81) d_Net_copy_78 106 c56 (by decide) rfl ?_
      refine g_aload_n 2 (i := 2) (pc' := 82) d_Net_copy_81 rfl rfl rfl ?_
      replace hy := g_is_inv hy
      obtain ⟨fs202, hc203, hy⟩ := hy
      replace hy := g_b2_inv hy
      obtain ⟨x204, h205, hf206, hy⟩ := hy
      refine g_callF (x := ⟨"java/util/Iterator", "next", "()Ljava/lang/Object;"⟩) (rv := some (va_rf x204)) (h1 := h205) (pc' := 87) (As := []) (rest := []) 0 (T_ArrayListItr_next (hy := hf206)) d_Net_copy_82 hc203 rfl (by decide) (g_wsF q1648 q1496 q1498 q145 q1500) ⟨by decide, by decide, by decide +kernel⟩ rfl ⟨by decide, by decide⟩ (by first | exact Nat.le_of_ble_eq_true rfl | (simp only [List.map, List.sum_cons, List.sum_nil, g_cat_rf]; exact Nat.le_of_ble_eq_true rfl) | (simp only [List.map, List.sum_cons, List.sum_nil, g_cat_rf, Value.category]; decide)) rfl ?_
      replace hy := g_ck_inv hy
      obtain ⟨hk207, hy⟩ := hy
      refine g_castO (pc' := 90) d_Net_copy_87 hk207 rfl q701 rfl ?_
      refine g_astoreO_n (i := 3) (pc' := 91) (Lc' := [(3, va_rf x204), (0, .ref v0), (1, va_rf v1), (2, .ref a50)]) d_Net_copy_90 rfl (by decide) rfl rfl ?_
      refine g_aloadO_n 2 (i := 1) (pc' := 92) d_Net_copy_91 rfl rfl rfl ?_
      replace hy := g_nn_inv hy
      obtain ⟨a208, rfl, hy⟩ := hy
      replace hy := g_gR_inv hy
      obtain ⟨fs209, x210, hc211, hv212, hy⟩ := hy
      refine g_getf (pc' := 95) d_Net_copy_92 hc211 rfl (by decide) hv212 q552 (Or.inl rfl) rfl ?_
      refine g_aloadO_n 0 (i := 3) (pc' := 96) d_Net_copy_95 rfl rfl rfl ?_
      replace hy := g_nn_inv hy
      obtain ⟨a213, rfl, hy⟩ := hy
      replace hy := g_is_inv hy
      obtain ⟨fs214, hc215, hy⟩ := hy
      replace hy := g_b2_inv hy
      obtain ⟨x216, h217, hf218, hy⟩ := hy
      refine g_callV (rv := some (va_rf x216)) (h1 := h217) (pc' := 99) (As := []) (rest := [va_rf x210]) 0 (T_Link_copy (hy := hf218)) d_Net_copy_96 hc215 rfl rfl q1907 q1908 q1909 q141 q1910 hd_Link_copy rfl ⟨by decide, by decide⟩ (by first | exact Nat.le_of_ble_eq_true rfl | (simp only [List.map, List.sum_cons, List.sum_nil, g_cat_rf]; exact Nat.le_of_ble_eq_true rfl) | (simp only [List.map, List.sum_cons, List.sum_nil, g_cat_rf, Value.category]; decide)) rfl ?_
      replace hy := g_nn_inv hy
      obtain ⟨a219, rfl, hy⟩ := hy
      replace hy := g_is_inv hy
      obtain ⟨fs220, hc221, hy⟩ := hy
      replace hy := g_b2_inv hy
      obtain ⟨x222, h223, hf224, hy⟩ := hy
      refine g_callV (rv := some (.int x222)) (h1 := h223) (pc' := 102) (As := [va_rf x216]) (rest := []) 1 (T_ArrayList_add0 (hy := hf224)) d_Net_copy_99 hc221 rfl rfl q1623 q1037 q1038 q112 q1039 hd_ArrayList_add0 rfl ⟨by decide, by decide⟩ (by first | exact Nat.le_of_ble_eq_true rfl | (simp only [List.map, List.sum_cons, List.sum_nil, g_cat_rf]; exact Nat.le_of_ble_eq_true rfl) | (simp only [List.map, List.sum_cons, List.sum_nil, g_cat_rf, Value.category]; decide)) rfl ?_
      refine g_pop (pc' := 103) d_Net_copy_102 rfl rfl ?_
      refine g_goto (pc' := 72) d_Net_copy_103 (by decide) ?_
      refine g_sub [1, 2, 3] rfl ?_
      exact ih _ _ _ _ hy
def Net_copy_30  : Nat → g_AH → Nat → Option Nat → Option Nat → Option (Option Nat × g_AH)
  | 0, _, _, _, _ => none
  | n + 1, h, v0, v1, v2 => g_nn v2 fun a33 => g_is h a33 16 <| g_b (ArrayListItr_hasNext h a33) fun x36 => if x36 = 0 then (g_gR h v0 1 2 fun x41 => g_nn x41 fun a44 => g_is h a44 15 <| g_b2 (ArrayList_iterator h a44) fun x47 h48 => Net_copy_72  gFU h48 v0 v1 x47) else (g_is h a33 16 <| g_b2 (ArrayListItr_next h a33) fun x227 h228 => g_ck h228 x227 10 <| g_nn v1 fun a231 => g_gR h228 a231 1 1 fun x233 => g_nn x227 fun a236 => g_is h228 a236 10 <| g_b2 (Node_copy h228 a236) fun x239 h240 => g_nn x233 fun a242 => g_is h240 a242 15 <| g_b2 (ArrayList_add0 h240 a242 x239) fun x245 h246 => (Net_copy_30  n) h246 v0 (some a231) (some a33))
set_option maxHeartbeats 4000000 in
set_option maxRecDepth 100000 in
theorem W_Net_copy_30 {X : g_X} (z : Option Nat × g_AH)  : ∀ (n : Nat) (h : g_AH) (v0 : Nat) (v1 : Option Nat) (v2 : Option Nat), Net_copy_30  n h v0 v1 v2 = some z → G X k_Net_copy (.inl (some (va_rf z.1))) z.2 h 30 [(0, .ref v0), (1, va_rf v1), (2, va_rf v2)] [] := by
  intro n
  induction n with
  | zero => intro h v0 v1 v2 hy; exact absurd hy (by simp [Net_copy_30])
  | succ n ih =>
    intro h v0 v1 v2 hy
    rw [Net_copy_30] at hy
    refine g_aloadO_n 2 (i := 2) (pc' := 31) d_Net_copy_30 rfl rfl rfl ?_
    replace hy := g_nn_inv hy
    obtain ⟨a33, rfl, hy⟩ := hy
    replace hy := g_is_inv hy
    obtain ⟨fs34, hc35, hy⟩ := hy
    replace hy := g_b_inv hy
    obtain ⟨x36, hf38, hy⟩ := hy
    refine g_callF (x := ⟨"java/util/Iterator", "hasNext", "()Z"⟩) (rv := some (.int x36)) (h1 := h) (pc' := 36) (As := []) (rest := []) 0 (T_ArrayListItr_hasNext (hy := hf38)) d_Net_copy_31 hc35 rfl (by decide) (g_wsF q1646 q1487 q1489 q145 q1491) ⟨by decide, by decide, by decide +kernel⟩ rfl ⟨by decide, by decide⟩ (by first | exact Nat.le_of_ble_eq_true rfl | (simp only [List.map, List.sum_cons, List.sum_nil, g_cat_rf]; exact Nat.le_of_ble_eq_true rfl) | (simp only [List.map, List.sum_cons, List.sum_nil, g_cat_rf, Value.category]; decide)) rfl ?_
    by_cases c39 : x36 = 0
    · rw [if_pos c39] at hy
      refine g_if_eqT (pc' := 64) d_Net_copy_36 c39 (by decide) ?_
      refine g_aload_n 0 (i := 0) (pc' := 65) d_Net_copy_64 rfl rfl rfl ?_
      replace hy := g_gR_inv hy
      obtain ⟨fs40, x41, hc42, hv43, hy⟩ := hy
      refine g_getf (pc' := 68) d_Net_copy_65 hc42 rfl (by decide) hv43 q552 (Or.inl rfl) rfl ?_
      replace hy := g_nn_inv hy
      obtain ⟨a44, rfl, hy⟩ := hy
      replace hy := g_is_inv hy
      obtain ⟨fs45, hc46, hy⟩ := hy
      replace hy := g_b2_inv hy
      obtain ⟨x47, h48, hf49, hy⟩ := hy
      refine g_callV (rv := some (va_rf x47)) (h1 := h48) (pc' := 71) (As := []) (rest := []) 0 (T_ArrayList_iterator (hy := hf49)) d_Net_copy_68 hc46 rfl rfl q1644 q1460 q1461 q112 q1462 hd_ArrayList_iterator rfl ⟨by decide, by decide⟩ (by first | exact Nat.le_of_ble_eq_true rfl | (simp only [List.map, List.sum_cons, List.sum_nil, g_cat_rf]; exact Nat.le_of_ble_eq_true rfl) | (simp only [List.map, List.sum_cons, List.sum_nil, g_cat_rf, Value.category]; decide)) rfl ?_
      refine g_astoreO_n (i := 2) (pc' := 72) (Lc' := [(2, va_rf x47), (0, .ref v0), (1, va_rf v1)]) d_Net_copy_71 rfl (by decide) (by cases v1 <;> rfl) rfl ?_
      refine g_sub [1, 2, 0] rfl ?_
      exact W_Net_copy_72 _ _ _ _ _ _ hy
    · rw [if_neg c39] at hy
      refine g_if_eqF (pc' := 39) d_Net_copy_36 64 c39 (by decide) rfl ?_
      refine g_aload_n 2 (i := 2) (pc' := 40) d_Net_copy_39 rfl rfl rfl ?_
      replace hy := g_is_inv hy
      obtain ⟨fs225, hc226, hy⟩ := hy
      replace hy := g_b2_inv hy
      obtain ⟨x227, h228, hf229, hy⟩ := hy
      refine g_callF (x := ⟨"java/util/Iterator", "next", "()Ljava/lang/Object;"⟩) (rv := some (va_rf x227)) (h1 := h228) (pc' := 45) (As := []) (rest := []) 0 (T_ArrayListItr_next (hy := hf229)) d_Net_copy_40 hc226 rfl (by decide) (g_wsF q1648 q1496 q1498 q145 q1500) ⟨by decide, by decide, by decide +kernel⟩ rfl ⟨by decide, by decide⟩ (by first | exact Nat.le_of_ble_eq_true rfl | (simp only [List.map, List.sum_cons, List.sum_nil, g_cat_rf]; exact Nat.le_of_ble_eq_true rfl) | (simp only [List.map, List.sum_cons, List.sum_nil, g_cat_rf, Value.category]; decide)) rfl ?_
      replace hy := g_ck_inv hy
      obtain ⟨hk230, hy⟩ := hy
      refine g_castO (pc' := 48) d_Net_copy_45 hk230 rfl q1243 rfl ?_
      refine g_astoreO_n (i := 3) (pc' := 49) (Lc' := [(3, va_rf x227), (0, .ref v0), (1, va_rf v1), (2, .ref a33)]) d_Net_copy_48 rfl (by decide) rfl rfl ?_
      refine g_aloadO_n 2 (i := 1) (pc' := 50) d_Net_copy_49 rfl rfl rfl ?_
      replace hy := g_nn_inv hy
      obtain ⟨a231, rfl, hy⟩ := hy
      replace hy := g_gR_inv hy
      obtain ⟨fs232, x233, hc234, hv235, hy⟩ := hy
      refine g_getf (pc' := 53) d_Net_copy_50 hc234 rfl (by decide) hv235 q547 (Or.inl rfl) rfl ?_
      refine g_aloadO_n 0 (i := 3) (pc' := 54) d_Net_copy_53 rfl rfl rfl ?_
      replace hy := g_nn_inv hy
      obtain ⟨a236, rfl, hy⟩ := hy
      replace hy := g_is_inv hy
      obtain ⟨fs237, hc238, hy⟩ := hy
      replace hy := g_b2_inv hy
      obtain ⟨x239, h240, hf241, hy⟩ := hy
      refine g_callV (rv := some (va_rf x239)) (h1 := h240) (pc' := 57) (As := []) (rest := [va_rf x233]) 0 (T_Node_copy (hy := hf241)) d_Net_copy_54 hc238 rfl rfl q1894 q1895 q1896 q139 q1897 hd_Node_copy rfl ⟨by decide, by decide⟩ (by first | exact Nat.le_of_ble_eq_true rfl | (simp only [List.map, List.sum_cons, List.sum_nil, g_cat_rf]; exact Nat.le_of_ble_eq_true rfl) | (simp only [List.map, List.sum_cons, List.sum_nil, g_cat_rf, Value.category]; decide)) rfl ?_
      replace hy := g_nn_inv hy
      obtain ⟨a242, rfl, hy⟩ := hy
      replace hy := g_is_inv hy
      obtain ⟨fs243, hc244, hy⟩ := hy
      replace hy := g_b2_inv hy
      obtain ⟨x245, h246, hf247, hy⟩ := hy
      refine g_callV (rv := some (.int x245)) (h1 := h246) (pc' := 60) (As := [va_rf x239]) (rest := []) 1 (T_ArrayList_add0 (hy := hf247)) d_Net_copy_57 hc244 rfl rfl q1623 q1037 q1038 q112 q1039 hd_ArrayList_add0 rfl ⟨by decide, by decide⟩ (by first | exact Nat.le_of_ble_eq_true rfl | (simp only [List.map, List.sum_cons, List.sum_nil, g_cat_rf]; exact Nat.le_of_ble_eq_true rfl) | (simp only [List.map, List.sum_cons, List.sum_nil, g_cat_rf, Value.category]; decide)) rfl ?_
      refine g_pop (pc' := 61) d_Net_copy_60 rfl rfl ?_
      refine g_goto (pc' := 30) d_Net_copy_61 (by decide) ?_
      refine g_sub [1, 2, 3] rfl ?_
      exact ih _ _ _ _ hy
def Net_copy (h : g_AH) (this : Nat) : Option (Option Nat × g_AH) :=
  g_mk h (.inr (1, [.null, .null, .null, .null, .null, .null, .int 0, .int 0, .int 0, .int 0, .int 0, .int 0, .int 0, .int 0])) 14 fun a1 h2 => g_b (Net_init h2 a1) fun h4 => g_gR h4 this 1 0 fun x7 => g_nn x7 fun a10 => g_cl h4 0 a10 fun a15 h16 => g_isA h16 0 a15 <| g_pF h16 a1 1 0 (.ref a15) fun h22 => g_gR h22 this 1 1 fun x24 => g_nn x24 fun a27 => g_is h22 a27 15 <| g_b2 (ArrayList_iterator h22 a27) fun x30 h31 => Net_copy_30  gFU h31 this (some a1) x30
set_option maxHeartbeats 4000000 in
set_option maxRecDepth 100000 in
theorem T_Net_copy {l : Launch} {B : g_B} (h : g_AH) (this : Nat) (z : Option Nat × g_AH) (hy : Net_copy h this = some z) : g_CT l B y_Net_copy k_Net_copy [.ref this] h (.inl (some (va_rf z.1))) z.2 := by
  refine g_start2 (Lc := [(0, .ref this)]) (by decide) rfl rfl (by exact Nat.le_of_ble_eq_true rfl) (by rfl) fun X => ?_
  unfold Net_copy at hy
  replace hy := g_mk_inv hy
  refine g_new (ci := 1) (fs := [.null, .null, .null, .null, .null, .null, .int 0, .int 0, .int 0, .int 0, .int 0, .int 0, .int 0, .int 0]) (pc' := 3) d_Net_copy_0 rfl q1890 q157 q109 gdf_1 rfl ?_
  generalize g_al h (.inr (1, [.null, .null, .null, .null, .null, .null, .int 0, .int 0, .int 0, .int 0, .int 0, .int 0, .int 0, .int 0])) 14 = h2 at hy ⊢
  generalize g_n h = a1 at hy ⊢
  refine g_dup (pc' := 4) d_Net_copy_3 rfl rfl ?_
  replace hy := g_b_inv hy
  obtain ⟨h4, hf5, hy⟩ := hy
  refine g_callI (h1 := h4) (pc' := 7) (As := []) (rest := [.ref a1]) 0 (T_Net_init (hy := hf5)) d_Net_copy_4 rfl rfl q1891 q159 q109 q160 hd_Net_init rfl ⟨by decide, by decide⟩ (by first | exact Nat.le_of_ble_eq_true rfl | (simp only [List.map, List.sum_cons, List.sum_nil, g_cat_rf]; exact Nat.le_of_ble_eq_true rfl) | (simp only [List.map, List.sum_cons, List.sum_nil, g_cat_rf, Value.category]; decide)) rfl ?_
  refine g_astore_n (i := 1) (pc' := 8) (Lc' := [(1, .ref a1), (0, .ref this)]) d_Net_copy_7 rfl (by decide) rfl rfl ?_
  refine g_aload_n 0 (i := 1) (pc' := 9) d_Net_copy_8 rfl rfl rfl ?_
  refine g_aload_n 1 (i := 0) (pc' := 10) d_Net_copy_9 rfl rfl rfl ?_
  replace hy := g_gR_inv hy
  obtain ⟨fs6, x7, hc8, hv9, hy⟩ := hy
  refine g_getf (pc' := 13) d_Net_copy_10 hc8 rfl (by decide) hv9 q543 (Or.inl rfl) rfl ?_
  replace hy := g_nn_inv hy
  obtain ⟨a10, rfl, hy⟩ := hy
  replace hy := g_cl_inv hy
  obtain ⟨n11, f12, hc13, hf14, hy⟩ := hy
  refine g_clone (ty := .int) (pc' := 16) d_Net_copy_13 hc13 hf14 (List.mem_of_getElem? (i := 0) rfl) (fun _ => rfl) (by decide) (fun C e => by cases e) q1892 q782 q783 q784 (by first | exact Nat.le_of_ble_eq_true rfl | (simp only [List.map, List.sum_cons, List.sum_nil, g_cat_rf]; exact Nat.le_of_ble_eq_true rfl) | (simp only [List.map, List.sum_cons, List.sum_nil, g_cat_rf, Value.category]; decide)) (by decide) rfl ?_
  generalize g_al h4 (.inl (0, n11, .inl f12)) n11 = h16 at hy ⊢
  generalize g_n h4 = a15 at hy ⊢
  replace hy := g_isA_inv hy
  obtain ⟨y17, hc18, hy⟩ := hy
  refine g_castA (ty := .int) (pc' := 19) d_Net_copy_16 hc18 q1893 (fun _ => rfl) (by decide) rfl ?_
  replace hy := g_pF_inv hy
  obtain ⟨fs19, hc20, hl21, hy⟩ := hy
  refine g_putf (pc' := 22) d_Net_copy_19 hc20 rfl (by decide) hl21 rfl rfl rfl q543 (Or.inl rfl) rfl ?_
  generalize g_up h16 a1 (.inr (1, fs19.set 0 (.ref a15))) = h22 at hy ⊢
  refine g_aload_n 1 (i := 0) (pc' := 23) d_Net_copy_22 rfl rfl rfl ?_
  replace hy := g_gR_inv hy
  obtain ⟨fs23, x24, hc25, hv26, hy⟩ := hy
  refine g_getf (pc' := 26) d_Net_copy_23 hc25 rfl (by decide) hv26 q547 (Or.inl rfl) rfl ?_
  replace hy := g_nn_inv hy
  obtain ⟨a27, rfl, hy⟩ := hy
  replace hy := g_is_inv hy
  obtain ⟨fs28, hc29, hy⟩ := hy
  replace hy := g_b2_inv hy
  obtain ⟨x30, h31, hf32, hy⟩ := hy
  refine g_callV (rv := some (va_rf x30)) (h1 := h31) (pc' := 29) (As := []) (rest := []) 0 (T_ArrayList_iterator (hy := hf32)) d_Net_copy_26 hc29 rfl rfl q1644 q1460 q1461 q112 q1462 hd_ArrayList_iterator rfl ⟨by decide, by decide⟩ (by first | exact Nat.le_of_ble_eq_true rfl | (simp only [List.map, List.sum_cons, List.sum_nil, g_cat_rf]; exact Nat.le_of_ble_eq_true rfl) | (simp only [List.map, List.sum_cons, List.sum_nil, g_cat_rf, Value.category]; decide)) rfl ?_
  refine g_astoreO_n (i := 2) (pc' := 30) (Lc' := [(2, va_rf x30), (1, .ref a1), (0, .ref this)]) d_Net_copy_29 rfl (by decide) rfl rfl ?_
  refine g_sub [2, 1, 0] rfl ?_
  exact W_Net_copy_30 _ _ _ _ _ _ hy
theorem hd_Net_copy : g_dsc y_Net_copy 0 := ⟨by decide +kernel, by decide +kernel, by decide +kernel⟩
