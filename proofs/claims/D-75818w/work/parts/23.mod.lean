/-! CircuitDeskModel.dropTried()V -/
abbrev y_Mod_dropTried : MethodName := ⟨"CircuitDeskModel", "dropTried", "()V"⟩
abbrev k_Mod_dropTried : g_M := (prog_17_method_68_code, 1, "CircuitDeskModel", 14, none, "dropTried", [], 0)
theorem d_Mod_dropTried_0 : decode prog_17_method_68_code 0 = .ok (.aload_n 0, 1) := by decide +kernel
theorem d_Mod_dropTried_1 : decode prog_17_method_68_code 1 = .ok (.dup, 1) := by decide +kernel
theorem d_Mod_dropTried_2 : decode prog_17_method_68_code 2 = .ok (.getfield 265, 3) := by decide +kernel
theorem d_Mod_dropTried_5 : decode prog_17_method_68_code 5 = .ok (.iconst 1, 1) := by decide +kernel
theorem d_Mod_dropTried_6 : decode prog_17_method_68_code 6 = .ok (.isub, 1) := by decide +kernel
theorem d_Mod_dropTried_7 : decode prog_17_method_68_code 7 = .ok (.putfield 265, 3) := by decide +kernel
theorem d_Mod_dropTried_10 : decode prog_17_method_68_code 10 = .ok (.aload_n 0, 1) := by decide +kernel
theorem d_Mod_dropTried_11 : decode prog_17_method_68_code 11 = .ok (.getfield 265, 3) := by decide +kernel
theorem d_Mod_dropTried_14 : decode prog_17_method_68_code 14 = .ok (.ifCond .le 41, 3) := by decide +kernel
theorem d_Mod_dropTried_17 : decode prog_17_method_68_code 17 = .ok (.aload_n 0, 1) := by decide +kernel
theorem d_Mod_dropTried_18 : decode prog_17_method_68_code 18 = .ok (.dup, 1) := by decide +kernel
theorem d_Mod_dropTried_19 : decode prog_17_method_68_code 19 = .ok (.getfield 268, 3) := by decide +kernel
theorem d_Mod_dropTried_22 : decode prog_17_method_68_code 22 = .ok (.aload_n 0, 1) := by decide +kernel
theorem d_Mod_dropTried_23 : decode prog_17_method_68_code 23 = .ok (.aload_n 0, 1) := by decide +kernel
theorem d_Mod_dropTried_24 : decode prog_17_method_68_code 24 = .ok (.aload_n 0, 1) := by decide +kernel
theorem d_Mod_dropTried_25 : decode prog_17_method_68_code 25 = .ok (.getfield 36, 3) := by decide +kernel
theorem d_Mod_dropTried_28 : decode prog_17_method_68_code 28 = .ok (.aload_n 0, 1) := by decide +kernel
theorem d_Mod_dropTried_29 : decode prog_17_method_68_code 29 = .ok (.getfield 265, 3) := by decide +kernel
theorem d_Mod_dropTried_32 : decode prog_17_method_68_code 32 = .ok (.iconst 1, 1) := by decide +kernel
theorem d_Mod_dropTried_33 : decode prog_17_method_68_code 33 = .ok (.isub, 1) := by decide +kernel
theorem d_Mod_dropTried_34 : decode prog_17_method_68_code 34 = .ok (.iaload, 1) := by decide +kernel
theorem d_Mod_dropTried_35 : decode prog_17_method_68_code 35 = .ok (.aload_n 0, 1) := by decide +kernel
theorem d_Mod_dropTried_36 : decode prog_17_method_68_code 36 = .ok (.getfield 36, 3) := by decide +kernel
theorem d_Mod_dropTried_39 : decode prog_17_method_68_code 39 = .ok (.aload_n 0, 1) := by decide +kernel
theorem d_Mod_dropTried_40 : decode prog_17_method_68_code 40 = .ok (.getfield 265, 3) := by decide +kernel
theorem d_Mod_dropTried_43 : decode prog_17_method_68_code 43 = .ok (.iaload, 1) := by decide +kernel
theorem d_Mod_dropTried_44 : decode prog_17_method_68_code 44 = .ok (.invokevirtual 137, 3) := by decide +kernel
theorem d_Mod_dropTried_47 : decode prog_17_method_68_code 47 = .ok (.iconst 3, 1) := by decide +kernel
theorem d_Mod_dropTried_48 : decode prog_17_method_68_code 48 = .ok (.invokevirtual 201, 3) := by decide +kernel
theorem d_Mod_dropTried_51 : decode prog_17_method_68_code 51 = .ok (.isub, 1) := by decide +kernel
theorem d_Mod_dropTried_52 : decode prog_17_method_68_code 52 = .ok (.putfield 268, 3) := by decide +kernel
theorem d_Mod_dropTried_55 : decode prog_17_method_68_code 55 = .ok (.return_, 1) := by decide +kernel
def Mod_dropTried (M : g_MD)  : Option g_MD :=
  g_let (mp M 24 ((M.2.1 24) - (1 : Int32))) fun M1 => if (M1.2.1 24) ≤ 0 then (some M1) else (g_mA M1 0 21 ((M1.2.1 24) - (1 : Int32)) fun x3 => g_mA M1 0 21 (M1.2.1 24) fun x5 => g_b (Mod_linkOf M1 x3 x5) fun x7 => g_b (Mod_ofLink M1 x7 (3 : Int32)) fun x10 => g_let (mp M1 25 ((M1.2.1 25) - x10)) fun M13 => some M13)
set_option maxHeartbeats 4000000 in
set_option maxRecDepth 100000 in
theorem T_Mod_dropTried {l : Launch} {B : g_B} {h0 : g_AH} {a0 : Nat} {ad : Nat → Nat} (ok : mOK a0 ad) (M : g_MD)  (z : g_MD) (hy : Mod_dropTried M  = some z) : g_CT l B y_Mod_dropTried k_Mod_dropTried [.ref a0] (mH h0 a0 ad M) (.inl none) (mH h0 a0 ad z) := by
  refine g_start2 (Lc := [(0, .ref a0)]) (by decide) rfl rfl (by exact Nat.le_of_ble_eq_true rfl) (by rfl) fun X => ?_
  unfold Mod_dropTried at hy
  refine g_aload_n 0 (i := 0) (pc' := 1) d_Mod_dropTried_0 rfl rfl rfl ?_
  refine g_dup (pc' := 2) d_Mod_dropTried_1 rfl rfl ?_
  refine gm_getA ok 24 (pc' := 5) d_Mod_dropTried_2 rfl q1989 rfl rfl ?_
  refine g_iconst (v := (1 : Int32)) (pc' := 6) d_Mod_dropTried_5 (by decide) rfl ?_
  refine g_isub (pc' := 7) d_Mod_dropTried_6 rfl ?_
  replace hy := g_let_inv hy
  refine gm_put ok 24 (pc' := 10) d_Mod_dropTried_7 rfl (by decide) q1989 rfl ?_
  generalize (mp M 24 ((M.2.1 24) - (1 : Int32))) = M1 at hy ⊢
  refine g_aload_n 0 (i := 0) (pc' := 11) d_Mod_dropTried_10 rfl rfl rfl ?_
  refine gm_getA ok 24 (pc' := 14) d_Mod_dropTried_11 rfl q1989 rfl rfl ?_
  by_cases c2 : (M1.2.1 24) ≤ 0
  · rw [if_pos c2] at hy
    refine g_if_leT (pc' := 55) d_Mod_dropTried_14 c2 (by decide) ?_
    cases hy
    exact g_vret rfl rfl rfl d_Mod_dropTried_55
  · rw [if_neg c2] at hy
    refine g_if_leF (pc' := 17) d_Mod_dropTried_14 55 c2 (by decide) rfl ?_
    refine g_aload_n 0 (i := 0) (pc' := 18) d_Mod_dropTried_17 rfl rfl rfl ?_
    refine g_dup (pc' := 19) d_Mod_dropTried_18 rfl rfl ?_
    refine gm_getA ok 25 (pc' := 22) d_Mod_dropTried_19 rfl q1990 rfl rfl ?_
    refine g_aload_n 0 (i := 0) (pc' := 23) d_Mod_dropTried_22 rfl rfl rfl ?_
    refine g_aload_n 0 (i := 0) (pc' := 24) d_Mod_dropTried_23 rfl rfl rfl ?_
    refine g_aload_n 0 (i := 0) (pc' := 25) d_Mod_dropTried_24 rfl rfl rfl ?_
    refine gm_getA ok 21 (pc' := 28) d_Mod_dropTried_25 rfl q1986 rfl rfl ?_
    refine g_aload_n 0 (i := 0) (pc' := 29) d_Mod_dropTried_28 rfl rfl rfl ?_
    refine gm_getA ok 24 (pc' := 32) d_Mod_dropTried_29 rfl q1989 rfl rfl ?_
    refine g_iconst (v := (1 : Int32)) (pc' := 33) d_Mod_dropTried_32 (by decide) rfl ?_
    refine g_isub (pc' := 34) d_Mod_dropTried_33 rfl ?_
    replace hy := g_mA_inv hy
    obtain ⟨x3, hc4, hy⟩ := hy
    refine gm_ald0 ok (pc' := 35) d_Mod_dropTried_34 hc4 rfl ?_
    refine g_aload_n 0 (i := 0) (pc' := 36) d_Mod_dropTried_35 rfl rfl rfl ?_
    refine gm_getA ok 21 (pc' := 39) d_Mod_dropTried_36 rfl q1986 rfl rfl ?_
    refine g_aload_n 0 (i := 0) (pc' := 40) d_Mod_dropTried_39 rfl rfl rfl ?_
    refine gm_getA ok 24 (pc' := 43) d_Mod_dropTried_40 rfl q1989 rfl rfl ?_
    replace hy := g_mA_inv hy
    obtain ⟨x5, hc6, hy⟩ := hy
    refine gm_ald0 ok (pc' := 44) d_Mod_dropTried_43 hc6 rfl ?_
    replace hy := g_b_inv hy
    obtain ⟨x7, hf9, hy⟩ := hy
    refine g_callV (rv := some (.int x7)) (h1 := (mH h0 a0 ad M1)) (pc' := 47) (As := [.int x3, .int x5]) (rest := [.ref a0, .int (M1.2.1 25), .ref a0]) 2 (T_Mod_linkOf ok (hy := hf9)) d_Mod_dropTried_44 (mH_look ok) rfl rfl q2150 q2152 qs44 q135 q2153 hd_Mod_linkOf rfl ⟨by decide, by decide⟩ (by first | exact Nat.le_of_ble_eq_true rfl | (simp only [List.map, List.sum_cons, List.sum_nil, g_cat_rf]; exact Nat.le_of_ble_eq_true rfl) | (simp only [List.map, List.sum_cons, List.sum_nil, g_cat_rf, Value.category]; decide)) rfl ?_
    refine g_iconst (v := (3 : Int32)) (pc' := 48) d_Mod_dropTried_47 (by decide) rfl ?_
    replace hy := g_b_inv hy
    obtain ⟨x10, hf12, hy⟩ := hy
    refine g_callV (rv := some (.int x10)) (h1 := (mH h0 a0 ad M1)) (pc' := 51) (As := [.int x7, .int (3 : Int32)]) (rest := [.int (M1.2.1 25), .ref a0]) 2 (T_Mod_ofLink ok (hy := hf12)) d_Mod_dropTried_48 (mH_look ok) rfl rfl q2154 q2156 qs45 q135 q2157 hd_Mod_ofLink rfl ⟨by decide, by decide⟩ (by first | exact Nat.le_of_ble_eq_true rfl | (simp only [List.map, List.sum_cons, List.sum_nil, g_cat_rf]; exact Nat.le_of_ble_eq_true rfl) | (simp only [List.map, List.sum_cons, List.sum_nil, g_cat_rf, Value.category]; decide)) rfl ?_
    refine g_isub (pc' := 52) d_Mod_dropTried_51 rfl ?_
    replace hy := g_let_inv hy
    refine gm_put ok 25 (pc' := 55) d_Mod_dropTried_52 rfl (by decide) q1990 rfl ?_
    generalize (mp M1 25 ((M1.2.1 25) - x10)) = M13 at hy ⊢
    cases hy
    exact g_vret rfl rfl rfl d_Mod_dropTried_55
theorem hd_Mod_dropTried : g_dsc y_Mod_dropTried 0 := ⟨by decide +kernel, by decide +kernel, by decide +kernel⟩
/-! CircuitDeskModel.layBest(IIIII)I -/
abbrev y_Mod_layBest : MethodName := ⟨"CircuitDeskModel", "layBest", "(IIIII)I"⟩
abbrev k_Mod_layBest : g_M := (prog_17_method_71_code, 7, "CircuitDeskModel", 17, (some FieldType.int), "layBest", [], 0)
theorem d_Mod_layBest_0 : decode prog_17_method_71_code 0 = .ok (.iconst 0, 1) := by decide +kernel
theorem d_Mod_layBest_1 : decode prog_17_method_71_code 1 = .ok (.istore 6, 2) := by decide +kernel
theorem d_Mod_layBest_3 : decode prog_17_method_71_code 3 = .ok (.iload 6, 2) := by decide +kernel
theorem d_Mod_layBest_5 : decode prog_17_method_71_code 5 = .ok (.aload_n 0, 1) := by decide +kernel
theorem d_Mod_layBest_6 : decode prog_17_method_71_code 6 = .ok (.getfield 7, 3) := by decide +kernel
theorem d_Mod_layBest_9 : decode prog_17_method_71_code 9 = .ok (.iconst 3, 1) := by decide +kernel
theorem d_Mod_layBest_10 : decode prog_17_method_71_code 10 = .ok (.iaload, 1) := by decide +kernel
theorem d_Mod_layBest_11 : decode prog_17_method_71_code 11 = .ok (.if_icmp .ge 40, 3) := by decide +kernel
theorem d_Mod_layBest_14 : decode prog_17_method_71_code 14 = .ok (.aload_n 0, 1) := by decide +kernel
theorem d_Mod_layBest_15 : decode prog_17_method_71_code 15 = .ok (.getfield 42, 3) := by decide +kernel
theorem d_Mod_layBest_18 : decode prog_17_method_71_code 18 = .ok (.iload 6, 2) := by decide +kernel
theorem d_Mod_layBest_20 : decode prog_17_method_71_code 20 = .ok (.iload 6, 2) := by decide +kernel
theorem d_Mod_layBest_22 : decode prog_17_method_71_code 22 = .ok (.iload 5, 2) := by decide +kernel
theorem d_Mod_layBest_24 : decode prog_17_method_71_code 24 = .ok (.if_icmp .eq 19, 3) := by decide +kernel
theorem d_Mod_layBest_27 : decode prog_17_method_71_code 27 = .ok (.aload_n 0, 1) := by decide +kernel
theorem d_Mod_layBest_28 : decode prog_17_method_71_code 28 = .ok (.iload 6, 2) := by decide +kernel
theorem d_Mod_layBest_30 : decode prog_17_method_71_code 30 = .ok (.iload_n 3, 1) := by decide +kernel
theorem d_Mod_layBest_31 : decode prog_17_method_71_code 31 = .ok (.iload 4, 2) := by decide +kernel
theorem d_Mod_layBest_33 : decode prog_17_method_71_code 33 = .ok (.invokevirtual 153, 3) := by decide +kernel
theorem d_Mod_layBest_36 : decode prog_17_method_71_code 36 = .ok (.ifCond .eq 7, 3) := by decide +kernel
theorem d_Mod_layBest_39 : decode prog_17_method_71_code 39 = .ok (.iconst 1, 1) := by decide +kernel
theorem d_Mod_layBest_40 : decode prog_17_method_71_code 40 = .ok (.goto 4, 3) := by decide +kernel
theorem d_Mod_layBest_43 : decode prog_17_method_71_code 43 = .ok (.iconst 0, 1) := by decide +kernel
theorem d_Mod_layBest_44 : decode prog_17_method_71_code 44 = .ok (.bastore, 1) := by decide +kernel
theorem d_Mod_layBest_45 : decode prog_17_method_71_code 45 = .ok (.iinc 6 1, 3) := by decide +kernel
theorem d_Mod_layBest_48 : decode prog_17_method_71_code 48 = .ok (.goto (-45), 3) := by decide +kernel
theorem d_Mod_layBest_51 : decode prog_17_method_71_code 51 = .ok (.aload_n 0, 1) := by decide +kernel
theorem d_Mod_layBest_52 : decode prog_17_method_71_code 52 = .ok (.iconst 0, 1) := by decide +kernel
theorem d_Mod_layBest_53 : decode prog_17_method_71_code 53 = .ok (.putfield 271, 3) := by decide +kernel
theorem d_Mod_layBest_56 : decode prog_17_method_71_code 56 = .ok (.aload_n 0, 1) := by decide +kernel
theorem d_Mod_layBest_57 : decode prog_17_method_71_code 57 = .ok (.iconst 0, 1) := by decide +kernel
theorem d_Mod_layBest_58 : decode prog_17_method_71_code 58 = .ok (.putfield 274, 3) := by decide +kernel
theorem d_Mod_layBest_61 : decode prog_17_method_71_code 61 = .ok (.aload_n 0, 1) := by decide +kernel
theorem d_Mod_layBest_62 : decode prog_17_method_71_code 62 = .ok (.getfield 36, 3) := by decide +kernel
theorem d_Mod_layBest_65 : decode prog_17_method_71_code 65 = .ok (.iconst 0, 1) := by decide +kernel
theorem d_Mod_layBest_66 : decode prog_17_method_71_code 66 = .ok (.iload_n 1, 1) := by decide +kernel
theorem d_Mod_layBest_67 : decode prog_17_method_71_code 67 = .ok (.iastore, 1) := by decide +kernel
theorem d_Mod_layBest_68 : decode prog_17_method_71_code 68 = .ok (.aload_n 0, 1) := by decide +kernel
theorem d_Mod_layBest_69 : decode prog_17_method_71_code 69 = .ok (.iconst 1, 1) := by decide +kernel
theorem d_Mod_layBest_70 : decode prog_17_method_71_code 70 = .ok (.putfield 265, 3) := by decide +kernel
theorem d_Mod_layBest_73 : decode prog_17_method_71_code 73 = .ok (.aload_n 0, 1) := by decide +kernel
theorem d_Mod_layBest_74 : decode prog_17_method_71_code 74 = .ok (.iconst 0, 1) := by decide +kernel
theorem d_Mod_layBest_75 : decode prog_17_method_71_code 75 = .ok (.putfield 268, 3) := by decide +kernel
theorem d_Mod_layBest_78 : decode prog_17_method_71_code 78 = .ok (.iconst 0, 1) := by decide +kernel
theorem d_Mod_layBest_79 : decode prog_17_method_71_code 79 = .ok (.istore 6, 2) := by decide +kernel
theorem d_Mod_layBest_81 : decode prog_17_method_71_code 81 = .ok (.aload_n 0, 1) := by decide +kernel
theorem d_Mod_layBest_82 : decode prog_17_method_71_code 82 = .ok (.getfield 265, 3) := by decide +kernel
theorem d_Mod_layBest_85 : decode prog_17_method_71_code 85 = .ok (.ifCond .le 60, 3) := by decide +kernel
theorem d_Mod_layBest_88 : decode prog_17_method_71_code 88 = .ok (.aload_n 0, 1) := by decide +kernel
theorem d_Mod_layBest_89 : decode prog_17_method_71_code 89 = .ok (.iload 6, 2) := by decide +kernel
theorem d_Mod_layBest_91 : decode prog_17_method_71_code 91 = .ok (.iload_n 2, 1) := by decide +kernel
theorem d_Mod_layBest_92 : decode prog_17_method_71_code 92 = .ok (.invokevirtual 280, 3) := by decide +kernel
theorem d_Mod_layBest_95 : decode prog_17_method_71_code 95 = .ok (.ifCond .eq 28, 3) := by decide +kernel
theorem d_Mod_layBest_98 : decode prog_17_method_71_code 98 = .ok (.iconst 0, 1) := by decide +kernel
theorem d_Mod_layBest_99 : decode prog_17_method_71_code 99 = .ok (.istore 6, 2) := by decide +kernel
theorem d_Mod_layBest_101 : decode prog_17_method_71_code 101 = .ok (.aload_n 0, 1) := by decide +kernel
theorem d_Mod_layBest_102 : decode prog_17_method_71_code 102 = .ok (.getfield 36, 3) := by decide +kernel
theorem d_Mod_layBest_105 : decode prog_17_method_71_code 105 = .ok (.aload_n 0, 1) := by decide +kernel
theorem d_Mod_layBest_106 : decode prog_17_method_71_code 106 = .ok (.getfield 265, 3) := by decide +kernel
theorem d_Mod_layBest_109 : decode prog_17_method_71_code 109 = .ok (.iconst 1, 1) := by decide +kernel
theorem d_Mod_layBest_110 : decode prog_17_method_71_code 110 = .ok (.isub, 1) := by decide +kernel
theorem d_Mod_layBest_111 : decode prog_17_method_71_code 111 = .ok (.iaload, 1) := by decide +kernel
theorem d_Mod_layBest_112 : decode prog_17_method_71_code 112 = .ok (.iload_n 2, 1) := by decide +kernel
theorem d_Mod_layBest_113 : decode prog_17_method_71_code 113 = .ok (.if_icmp .ne (-32), 3) := by decide +kernel
theorem d_Mod_layBest_116 : decode prog_17_method_71_code 116 = .ok (.aload_n 0, 1) := by decide +kernel
theorem d_Mod_layBest_117 : decode prog_17_method_71_code 117 = .ok (.invokevirtual 283, 3) := by decide +kernel
theorem d_Mod_layBest_120 : decode prog_17_method_71_code 120 = .ok (.goto (-39), 3) := by decide +kernel
theorem d_Mod_layBest_123 : decode prog_17_method_71_code 123 = .ok (.aload_n 0, 1) := by decide +kernel
theorem d_Mod_layBest_124 : decode prog_17_method_71_code 124 = .ok (.getfield 36, 3) := by decide +kernel
theorem d_Mod_layBest_127 : decode prog_17_method_71_code 127 = .ok (.aload_n 0, 1) := by decide +kernel
theorem d_Mod_layBest_128 : decode prog_17_method_71_code 128 = .ok (.getfield 265, 3) := by decide +kernel
theorem d_Mod_layBest_131 : decode prog_17_method_71_code 131 = .ok (.iconst 1, 1) := by decide +kernel
theorem d_Mod_layBest_132 : decode prog_17_method_71_code 132 = .ok (.isub, 1) := by decide +kernel
theorem d_Mod_layBest_133 : decode prog_17_method_71_code 133 = .ok (.iaload, 1) := by decide +kernel
theorem d_Mod_layBest_134 : decode prog_17_method_71_code 134 = .ok (.iconst 1, 1) := by decide +kernel
theorem d_Mod_layBest_135 : decode prog_17_method_71_code 135 = .ok (.iadd, 1) := by decide +kernel
theorem d_Mod_layBest_136 : decode prog_17_method_71_code 136 = .ok (.istore 6, 2) := by decide +kernel
theorem d_Mod_layBest_138 : decode prog_17_method_71_code 138 = .ok (.aload_n 0, 1) := by decide +kernel
theorem d_Mod_layBest_139 : decode prog_17_method_71_code 139 = .ok (.invokevirtual 286, 3) := by decide +kernel
theorem d_Mod_layBest_142 : decode prog_17_method_71_code 142 = .ok (.goto (-61), 3) := by decide +kernel
theorem d_Mod_layBest_145 : decode prog_17_method_71_code 145 = .ok (.aload_n 0, 1) := by decide +kernel
theorem d_Mod_layBest_146 : decode prog_17_method_71_code 146 = .ok (.getfield 271, 3) := by decide +kernel
theorem d_Mod_layBest_149 : decode prog_17_method_71_code 149 = .ok (.ireturn, 1) := by decide +kernel
def Mod_layBest_81  : Nat → g_MD → Int32 → Int32 → Option (Int32 × g_MD)
  | 0, _, _, _ => none
  | n + 1, M, v2, v6 => if (M.2.1 24) ≤ 0 then (some ((M.2.1 26), M)) else (g_bM (Mod_goOn M v6 v2) fun x11 M12 => if x11 = 0 then (g_mA M12 0 21 ((M12.2.1 24) - (1 : Int32)) fun x15 => g_b (Mod_dropTried M12) fun M18 => (Mod_layBest_81  n) M18 v2 (x15 + (1 : Int32))) else (g_mA M12 0 21 ((M12.2.1 24) - (1 : Int32)) fun x20 => if x20 = v2 then (g_b (Mod_compareTried M12) fun M24 => (Mod_layBest_81  n) M24 v2 (0 : Int32)) else ((Mod_layBest_81  n) M12 v2 (0 : Int32))))
set_option maxHeartbeats 4000000 in
set_option maxRecDepth 100000 in
theorem W_Mod_layBest_81 {X : g_X} {h0 : g_AH} {a0 : Nat} {ad : Nat → Nat} (ok : mOK a0 ad) (z : Int32 × g_MD)  : ∀ (n : Nat) (M : g_MD) (v2 : Int32) (v6 : Int32), Mod_layBest_81  n M v2 v6 = some z → G X k_Mod_layBest (.inl (some (.int z.1))) (mH h0 a0 ad z.2) (mH h0 a0 ad M) 81 [(0, .ref a0), (2, .int v2), (6, .int v6)] [] := by
  intro n
  induction n with
  | zero => intro M v2 v6 hy; exact absurd hy (by simp [Mod_layBest_81])
  | succ n ih =>
    intro M v2 v6 hy
    rw [Mod_layBest_81] at hy
    refine g_aload_n 0 (i := 0) (pc' := 82) d_Mod_layBest_81 rfl rfl rfl ?_
    refine gm_getA ok 24 (pc' := 85) d_Mod_layBest_82 rfl q1989 rfl rfl ?_
    by_cases c10 : (M.2.1 24) ≤ 0
    · rw [if_pos c10] at hy
      refine g_if_leT (pc' := 145) d_Mod_layBest_85 c10 (by decide) ?_
      refine g_aload_n 0 (i := 0) (pc' := 146) d_Mod_layBest_145 rfl rfl rfl ?_
      refine gm_getA ok 26 (pc' := 149) d_Mod_layBest_146 rfl q1991 rfl rfl ?_
      cases hy
      exact g_iret rfl rfl rfl d_Mod_layBest_149
    · rw [if_neg c10] at hy
      refine g_if_leF (pc' := 88) d_Mod_layBest_85 145 c10 (by decide) rfl ?_
      refine g_aload_n 0 (i := 0) (pc' := 89) d_Mod_layBest_88 rfl rfl rfl ?_
      refine g_iload 2 (pc' := 91) d_Mod_layBest_89 rfl rfl ?_
      refine g_iload_n 1 (i := 2) (pc' := 92) d_Mod_layBest_91 rfl rfl rfl ?_
      replace hy := g_bM_inv hy
      obtain ⟨x11, M12, hf13, hy⟩ := hy
      refine g_callV (rv := some (.int x11)) (h1 := (mH h0 a0 ad M12)) (pc' := 95) (As := [.int v6, .int v2]) (rest := []) 2 (T_Mod_goOn ok (hy := hf13)) d_Mod_layBest_92 (mH_look ok) rfl rfl q2335 q2337 qs76 q135 q2338 hd_Mod_goOn rfl ⟨by decide, by decide⟩ (by first | exact Nat.le_of_ble_eq_true rfl | (simp only [List.map, List.sum_cons, List.sum_nil, g_cat_rf]; exact Nat.le_of_ble_eq_true rfl) | (simp only [List.map, List.sum_cons, List.sum_nil, g_cat_rf, Value.category]; decide)) rfl ?_
      by_cases c14 : x11 = 0
      · rw [if_pos c14] at hy
        refine g_if_eqT (pc' := 123) d_Mod_layBest_95 c14 (by decide) ?_
        refine g_aload_n 0 (i := 0) (pc' := 124) d_Mod_layBest_123 rfl rfl rfl ?_
        refine gm_getA ok 21 (pc' := 127) d_Mod_layBest_124 rfl q1986 rfl rfl ?_
        refine g_aload_n 0 (i := 0) (pc' := 128) d_Mod_layBest_127 rfl rfl rfl ?_
        refine gm_getA ok 24 (pc' := 131) d_Mod_layBest_128 rfl q1989 rfl rfl ?_
        refine g_iconst (v := (1 : Int32)) (pc' := 132) d_Mod_layBest_131 (by decide) rfl ?_
        refine g_isub (pc' := 133) d_Mod_layBest_132 rfl ?_
        replace hy := g_mA_inv hy
        obtain ⟨x15, hc16, hy⟩ := hy
        refine gm_ald0 ok (pc' := 134) d_Mod_layBest_133 hc16 rfl ?_
        refine g_iconst (v := (1 : Int32)) (pc' := 135) d_Mod_layBest_134 (by decide) rfl ?_
        refine g_iadd (pc' := 136) d_Mod_layBest_135 rfl ?_
        refine g_istore (pc' := 138) (Lc' := [(6, .int (x15 + (1 : Int32))), (0, .ref a0), (2, .int v2)]) d_Mod_layBest_136 (by decide) rfl rfl ?_
        refine g_aload_n 1 (i := 0) (pc' := 139) d_Mod_layBest_138 rfl rfl rfl ?_
        replace hy := g_b_inv hy
        obtain ⟨M18, hf19, hy⟩ := hy
        refine g_callV (rv := none) (h1 := (mH h0 a0 ad M18)) (pc' := 142) (As := []) (rest := []) 0 (T_Mod_dropTried ok (hy := hf19)) d_Mod_layBest_139 (mH_look ok) rfl rfl q2347 q2349 qs79 q135 q2350 hd_Mod_dropTried rfl ⟨by decide, by decide⟩ (by first | exact Nat.le_of_ble_eq_true rfl | (simp only [List.map, List.sum_cons, List.sum_nil, g_cat_rf]; exact Nat.le_of_ble_eq_true rfl) | (simp only [List.map, List.sum_cons, List.sum_nil, g_cat_rf, Value.category]; decide)) rfl ?_
        refine g_goto (pc' := 81) d_Mod_layBest_142 (by decide) ?_
        refine g_sub [1, 2, 0] rfl ?_
        exact ih _ _ _ hy
      · rw [if_neg c14] at hy
        refine g_if_eqF (pc' := 98) d_Mod_layBest_95 123 c14 (by decide) rfl ?_
        refine g_iconst (v := (0 : Int32)) (pc' := 99) d_Mod_layBest_98 (by decide) rfl ?_
        refine g_istore (pc' := 101) (Lc' := [(6, .int (0 : Int32)), (0, .ref a0), (2, .int v2)]) d_Mod_layBest_99 (by decide) rfl rfl ?_
        refine g_aload_n 1 (i := 0) (pc' := 102) d_Mod_layBest_101 rfl rfl rfl ?_
        refine gm_getA ok 21 (pc' := 105) d_Mod_layBest_102 rfl q1986 rfl rfl ?_
        refine g_aload_n 1 (i := 0) (pc' := 106) d_Mod_layBest_105 rfl rfl rfl ?_
        refine gm_getA ok 24 (pc' := 109) d_Mod_layBest_106 rfl q1989 rfl rfl ?_
        refine g_iconst (v := (1 : Int32)) (pc' := 110) d_Mod_layBest_109 (by decide) rfl ?_
        refine g_isub (pc' := 111) d_Mod_layBest_110 rfl ?_
        replace hy := g_mA_inv hy
        obtain ⟨x20, hc21, hy⟩ := hy
        refine gm_ald0 ok (pc' := 112) d_Mod_layBest_111 hc21 rfl ?_
        refine g_iload_n 2 (i := 2) (pc' := 113) d_Mod_layBest_112 rfl rfl rfl ?_
        by_cases c22 : x20 = v2
        · rw [if_pos c22] at hy
          refine g_icmp_neF (pc' := 116) d_Mod_layBest_113 81 c22 (by decide) rfl ?_
          refine g_aload_n 1 (i := 0) (pc' := 117) d_Mod_layBest_116 rfl rfl rfl ?_
          replace hy := g_b_inv hy
          obtain ⟨M24, hf25, hy⟩ := hy
          refine g_callV (rv := none) (h1 := (mH h0 a0 ad M24)) (pc' := 120) (As := []) (rest := []) 0 (T_Mod_compareTried ok (hy := hf25)) d_Mod_layBest_117 (mH_look ok) rfl rfl q2343 q2345 qs78 q135 q2346 hd_Mod_compareTried rfl ⟨by decide, by decide⟩ (by first | exact Nat.le_of_ble_eq_true rfl | (simp only [List.map, List.sum_cons, List.sum_nil, g_cat_rf]; exact Nat.le_of_ble_eq_true rfl) | (simp only [List.map, List.sum_cons, List.sum_nil, g_cat_rf, Value.category]; decide)) rfl ?_
          refine g_goto (pc' := 81) d_Mod_layBest_120 (by decide) ?_
          refine g_sub [1, 2, 0] rfl ?_
          exact ih _ _ _ hy
        · rw [if_neg c22] at hy
          refine g_icmp_neT (pc' := 81) d_Mod_layBest_113 c22 (by decide) ?_
          refine g_sub [1, 2, 0] rfl ?_
          exact ih _ _ _ hy
def Mod_layBest_44 (k3 : g_MD → Int32 → Int32 → Int32 → Int32 → Int32 → Int32 → Option (Int32 × g_MD)) (M : g_MD) (v1 : Int32) (v2 : Int32) (v3 : Int32) (v4 : Int32) (v5 : Int32) (v6 : Int32) (s0 : Int32) (s1 : Int32) (s2 : Nat) : Option (Int32 × g_MD) :=
  g_mS M 1 s2 s1 (vp_nar .boolean s0) fun M27 => k3 M27 v1 v2 v3 v4 v5 (v6 + (1 : Int32))
set_option maxHeartbeats 4000000 in
set_option maxRecDepth 100000 in
theorem W_Mod_layBest_44 {X : g_X} {h0 : g_AH} {a0 : Nat} {ad : Nat → Nat} (ok : mOK a0 ad) (z : Int32 × g_MD) (k3 : g_MD → Int32 → Int32 → Int32 → Int32 → Int32 → Int32 → Option (Int32 × g_MD)) (hk3 : ∀ (M : g_MD) (v1 : Int32) (v2 : Int32) (v3 : Int32) (v4 : Int32) (v5 : Int32) (v6 : Int32), k3 M v1 v2 v3 v4 v5 v6 = some z → G X k_Mod_layBest (.inl (some (.int z.1))) (mH h0 a0 ad z.2) (mH h0 a0 ad M) 3 [(0, .ref a0), (1, .int v1), (2, .int v2), (3, .int v3), (4, .int v4), (5, .int v5), (6, .int v6)] []) (M : g_MD) (v1 : Int32) (v2 : Int32) (v3 : Int32) (v4 : Int32) (v5 : Int32) (v6 : Int32) (s0 : Int32) (s1 : Int32) (s2 : Nat) (hy : Mod_layBest_44 k3 M v1 v2 v3 v4 v5 v6 s0 s1 s2 = some z) : G X k_Mod_layBest (.inl (some (.int z.1))) (mH h0 a0 ad z.2) (mH h0 a0 ad M) 44 [(0, .ref a0), (1, .int v1), (2, .int v2), (3, .int v3), (4, .int v4), (5, .int v5), (6, .int v6)] [.int s0, .int s1, .ref (ad s2)] := by
  unfold Mod_layBest_44 at hy
  replace hy := g_mS_inv hy
  obtain ⟨hc28, hy⟩ := hy
  refine gm_ast1 ok (pc' := 45) d_Mod_layBest_44 hc28 rfl ?_
  generalize ms M s2 (s1).toNatClampNeg (vp_nar .boolean s0) = M27 at hy ⊢
  refine g_iinc 6 (v := (v6 + (1 : Int32))) (pc' := 48) (Lc' := [(6, .int (v6 + (1 : Int32))), (0, .ref a0), (1, .int v1), (2, .int v2), (3, .int v3), (4, .int v4), (5, .int v5)]) d_Mod_layBest_45 rfl rfl (by decide) rfl rfl ?_
  refine g_goto (pc' := 3) d_Mod_layBest_48 (by decide) ?_
  refine g_sub [1, 2, 3, 4, 5, 6, 0] rfl ?_
  exact hk3 _ _ _ _ _ _ _ hy
def Mod_layBest_43 (k3 : g_MD → Int32 → Int32 → Int32 → Int32 → Int32 → Int32 → Option (Int32 × g_MD)) (M : g_MD) (v1 : Int32) (v2 : Int32) (v3 : Int32) (v4 : Int32) (v5 : Int32) (v6 : Int32) (s0 : Int32) (s1 : Nat) : Option (Int32 × g_MD) :=
  Mod_layBest_44 k3 M v1 v2 v3 v4 v5 v6 (0 : Int32) s0 s1
set_option maxHeartbeats 4000000 in
set_option maxRecDepth 100000 in
theorem W_Mod_layBest_43 {X : g_X} {h0 : g_AH} {a0 : Nat} {ad : Nat → Nat} (ok : mOK a0 ad) (z : Int32 × g_MD) (k3 : g_MD → Int32 → Int32 → Int32 → Int32 → Int32 → Int32 → Option (Int32 × g_MD)) (hk3 : ∀ (M : g_MD) (v1 : Int32) (v2 : Int32) (v3 : Int32) (v4 : Int32) (v5 : Int32) (v6 : Int32), k3 M v1 v2 v3 v4 v5 v6 = some z → G X k_Mod_layBest (.inl (some (.int z.1))) (mH h0 a0 ad z.2) (mH h0 a0 ad M) 3 [(0, .ref a0), (1, .int v1), (2, .int v2), (3, .int v3), (4, .int v4), (5, .int v5), (6, .int v6)] []) (M : g_MD) (v1 : Int32) (v2 : Int32) (v3 : Int32) (v4 : Int32) (v5 : Int32) (v6 : Int32) (s0 : Int32) (s1 : Nat) (hy : Mod_layBest_43 k3 M v1 v2 v3 v4 v5 v6 s0 s1 = some z) : G X k_Mod_layBest (.inl (some (.int z.1))) (mH h0 a0 ad z.2) (mH h0 a0 ad M) 43 [(0, .ref a0), (1, .int v1), (2, .int v2), (3, .int v3), (4, .int v4), (5, .int v5), (6, .int v6)] [.int s0, .ref (ad s1)] := by
  unfold Mod_layBest_43 at hy
  refine g_iconst (v := (0 : Int32)) (pc' := 44) d_Mod_layBest_43 (by decide) rfl ?_
  exact W_Mod_layBest_44 ok _ _ hk3 _ _ _ _ _ _ _ _ _ _ hy
def Mod_layBest_3  : Nat → g_MD → Int32 → Int32 → Int32 → Int32 → Int32 → Int32 → Option (Int32 × g_MD)
  | 0, _, _, _, _, _, _, _ => none
  | n + 1, M, v1, v2, v3, v4, v5, v6 => g_mA M 0 0 (3 : Int32) fun x1 => if x1 ≤ v6 then (g_let (mp M 26 (0 : Int32)) fun M4 => g_let (mp M4 27 (0 : Int32)) fun M5 => g_mS M5 0 21 (0 : Int32) v1 fun M6 => g_let (mp M6 24 (1 : Int32)) fun M8 => g_let (mp M8 25 (0 : Int32)) fun M9 => Mod_layBest_81  gFU M9 v2 (0 : Int32)) else (if v6 = v5 then (Mod_layBest_43 (Mod_layBest_3  n) M v1 v2 v3 v4 v5 v6 v6 23) else (g_b (Mod_hasRoom M v6 v3 v4) fun x29 => if x29 = 0 then (Mod_layBest_43 (Mod_layBest_3  n) M v1 v2 v3 v4 v5 v6 v6 23) else (Mod_layBest_44 (Mod_layBest_3  n) M v1 v2 v3 v4 v5 v6 (1 : Int32) v6 23)))
set_option maxHeartbeats 4000000 in
set_option maxRecDepth 100000 in
theorem W_Mod_layBest_3 {X : g_X} {h0 : g_AH} {a0 : Nat} {ad : Nat → Nat} (ok : mOK a0 ad) (z : Int32 × g_MD)  : ∀ (n : Nat) (M : g_MD) (v1 : Int32) (v2 : Int32) (v3 : Int32) (v4 : Int32) (v5 : Int32) (v6 : Int32), Mod_layBest_3  n M v1 v2 v3 v4 v5 v6 = some z → G X k_Mod_layBest (.inl (some (.int z.1))) (mH h0 a0 ad z.2) (mH h0 a0 ad M) 3 [(0, .ref a0), (1, .int v1), (2, .int v2), (3, .int v3), (4, .int v4), (5, .int v5), (6, .int v6)] [] := by
  intro n
  induction n with
  | zero => intro M v1 v2 v3 v4 v5 v6 hy; exact absurd hy (by simp [Mod_layBest_3])
  | succ n ih =>
    intro M v1 v2 v3 v4 v5 v6 hy
    rw [Mod_layBest_3] at hy
    refine g_iload 6 (pc' := 5) d_Mod_layBest_3 rfl rfl ?_
    refine g_aload_n 0 (i := 0) (pc' := 6) d_Mod_layBest_5 rfl rfl rfl ?_
    refine gm_getA ok 0 (pc' := 9) d_Mod_layBest_6 rfl q1965 rfl rfl ?_
    refine g_iconst (v := (3 : Int32)) (pc' := 10) d_Mod_layBest_9 (by decide) rfl ?_
    replace hy := g_mA_inv hy
    obtain ⟨x1, hc2, hy⟩ := hy
    refine gm_ald0 ok (pc' := 11) d_Mod_layBest_10 hc2 rfl ?_
    by_cases c3 : x1 ≤ v6
    · rw [if_pos c3] at hy
      refine g_icmp_geT (pc' := 51) d_Mod_layBest_11 c3 (by decide) ?_
      refine g_aload_n 0 (i := 0) (pc' := 52) d_Mod_layBest_51 rfl rfl rfl ?_
      refine g_iconst (v := (0 : Int32)) (pc' := 53) d_Mod_layBest_52 (by decide) rfl ?_
      replace hy := g_let_inv hy
      refine gm_put ok 26 (pc' := 56) d_Mod_layBest_53 rfl (by decide) q1991 rfl ?_
      generalize (mp M 26 (0 : Int32)) = M4 at hy ⊢
      refine g_aload_n 0 (i := 0) (pc' := 57) d_Mod_layBest_56 rfl rfl rfl ?_
      refine g_iconst (v := (0 : Int32)) (pc' := 58) d_Mod_layBest_57 (by decide) rfl ?_
      replace hy := g_let_inv hy
      refine gm_put ok 27 (pc' := 61) d_Mod_layBest_58 rfl (by decide) q1992 rfl ?_
      generalize (mp M4 27 (0 : Int32)) = M5 at hy ⊢
      refine g_aload_n 0 (i := 0) (pc' := 62) d_Mod_layBest_61 rfl rfl rfl ?_
      refine gm_getA ok 21 (pc' := 65) d_Mod_layBest_62 rfl q1986 rfl rfl ?_
      refine g_iconst (v := (0 : Int32)) (pc' := 66) d_Mod_layBest_65 (by decide) rfl ?_
      refine g_iload_n 1 (i := 1) (pc' := 67) d_Mod_layBest_66 rfl rfl rfl ?_
      replace hy := g_mS_inv hy
      obtain ⟨hc7, hy⟩ := hy
      refine gm_ast0 ok (pc' := 68) d_Mod_layBest_67 hc7 rfl ?_
      generalize ms M5 21 ((0 : Int32)).toNatClampNeg v1 = M6 at hy ⊢
      refine g_aload_n 0 (i := 0) (pc' := 69) d_Mod_layBest_68 rfl rfl rfl ?_
      refine g_iconst (v := (1 : Int32)) (pc' := 70) d_Mod_layBest_69 (by decide) rfl ?_
      replace hy := g_let_inv hy
      refine gm_put ok 24 (pc' := 73) d_Mod_layBest_70 rfl (by decide) q1989 rfl ?_
      generalize (mp M6 24 (1 : Int32)) = M8 at hy ⊢
      refine g_aload_n 0 (i := 0) (pc' := 74) d_Mod_layBest_73 rfl rfl rfl ?_
      refine g_iconst (v := (0 : Int32)) (pc' := 75) d_Mod_layBest_74 (by decide) rfl ?_
      replace hy := g_let_inv hy
      refine gm_put ok 25 (pc' := 78) d_Mod_layBest_75 rfl (by decide) q1990 rfl ?_
      generalize (mp M8 25 (0 : Int32)) = M9 at hy ⊢
      refine g_iconst (v := (0 : Int32)) (pc' := 79) d_Mod_layBest_78 (by decide) rfl ?_
      refine g_istore (pc' := 81) (Lc' := [(6, .int (0 : Int32)), (0, .ref a0), (1, .int v1), (2, .int v2), (3, .int v3), (4, .int v4), (5, .int v5)]) d_Mod_layBest_79 (by decide) rfl rfl ?_
      refine g_sub [1, 3, 0] rfl ?_
      exact W_Mod_layBest_81 ok _ _ _ _ _ hy
    · rw [if_neg c3] at hy
      refine g_icmp_geF (pc' := 14) d_Mod_layBest_11 51 c3 (by decide) rfl ?_
      refine g_aload_n 0 (i := 0) (pc' := 15) d_Mod_layBest_14 rfl rfl rfl ?_
      refine gm_getA ok 23 (pc' := 18) d_Mod_layBest_15 rfl q1988 rfl rfl ?_
      refine g_iload 6 (pc' := 20) d_Mod_layBest_18 rfl rfl ?_
      refine g_iload 6 (pc' := 22) d_Mod_layBest_20 rfl rfl ?_
      refine g_iload 5 (pc' := 24) d_Mod_layBest_22 rfl rfl ?_
      by_cases c26 : v6 = v5
      · rw [if_pos c26] at hy
        refine g_icmp_eqT (pc' := 43) d_Mod_layBest_24 c26 (by decide) ?_
        exact W_Mod_layBest_43 ok _ _ ih _ _ _ _ _ _ _ _ _ hy
      · rw [if_neg c26] at hy
        refine g_icmp_eqF (pc' := 27) d_Mod_layBest_24 43 c26 (by decide) rfl ?_
        refine g_aload_n 0 (i := 0) (pc' := 28) d_Mod_layBest_27 rfl rfl rfl ?_
        refine g_iload 6 (pc' := 30) d_Mod_layBest_28 rfl rfl ?_
        refine g_iload_n 3 (i := 3) (pc' := 31) d_Mod_layBest_30 rfl rfl rfl ?_
        refine g_iload 4 (pc' := 33) d_Mod_layBest_31 rfl rfl ?_
        replace hy := g_b_inv hy
        obtain ⟨x29, hf31, hy⟩ := hy
        refine g_callV (rv := some (.int x29)) (h1 := (mH h0 a0 ad M)) (pc' := 36) (As := [.int v6, .int v3, .int v4]) (rest := [.int v6, .ref (ad 23)]) 3 (T_Mod_hasRoom ok (hy := hf31)) d_Mod_layBest_33 (mH_look ok) rfl rfl q2190 q2192 qs53 q135 q2193 hd_Mod_hasRoom rfl ⟨by decide, by decide⟩ (by first | exact Nat.le_of_ble_eq_true rfl | (simp only [List.map, List.sum_cons, List.sum_nil, g_cat_rf]; exact Nat.le_of_ble_eq_true rfl) | (simp only [List.map, List.sum_cons, List.sum_nil, g_cat_rf, Value.category]; decide)) rfl ?_
        by_cases c32 : x29 = 0
        · rw [if_pos c32] at hy
          refine g_if_eqT (pc' := 43) d_Mod_layBest_36 c32 (by decide) ?_
          exact W_Mod_layBest_43 ok _ _ ih _ _ _ _ _ _ _ _ _ hy
        · rw [if_neg c32] at hy
          refine g_if_eqF (pc' := 39) d_Mod_layBest_36 43 c32 (by decide) rfl ?_
          refine g_iconst (v := (1 : Int32)) (pc' := 40) d_Mod_layBest_39 (by decide) rfl ?_
          refine g_goto (pc' := 44) d_Mod_layBest_40 (by decide) ?_
          exact W_Mod_layBest_44 ok _ _ ih _ _ _ _ _ _ _ _ _ _ hy
def Mod_layBest (M : g_MD) (p0 : Int32) (p1 : Int32) (p2 : Int32) (p3 : Int32) (p4 : Int32) : Option (Int32 × g_MD) :=
  Mod_layBest_3  gFU M p0 p1 p2 p3 p4 (0 : Int32)
set_option maxHeartbeats 4000000 in
set_option maxRecDepth 100000 in
theorem T_Mod_layBest {l : Launch} {B : g_B} {h0 : g_AH} {a0 : Nat} {ad : Nat → Nat} (ok : mOK a0 ad) (M : g_MD) (p0 : Int32) (p1 : Int32) (p2 : Int32) (p3 : Int32) (p4 : Int32) (z : Int32 × g_MD) (hy : Mod_layBest M p0 p1 p2 p3 p4 = some z) : g_CT l B y_Mod_layBest k_Mod_layBest [.ref a0, .int p0, .int p1, .int p2, .int p3, .int p4] (mH h0 a0 ad M) (.inl (some (.int z.1))) (mH h0 a0 ad z.2) := by
  refine g_start2 (Lc := [(0, .ref a0), (1, .int p0), (2, .int p1), (3, .int p2), (4, .int p3), (5, .int p4)]) (by decide) rfl rfl (by exact Nat.le_of_ble_eq_true rfl) (by rfl) fun X => ?_
  unfold Mod_layBest at hy
  refine g_iconst (v := (0 : Int32)) (pc' := 1) d_Mod_layBest_0 (by decide) rfl ?_
  refine g_istore (pc' := 3) (Lc' := [(6, .int (0 : Int32)), (0, .ref a0), (1, .int p0), (2, .int p1), (3, .int p2), (4, .int p3), (5, .int p4)]) d_Mod_layBest_1 (by decide) rfl rfl ?_
  refine g_sub [1, 2, 3, 4, 5, 6, 0] rfl ?_
  exact W_Mod_layBest_3 ok _ _ _ _ _ _ _ _ _ hy
theorem hd_Mod_layBest : g_dsc y_Mod_layBest 5 := ⟨by decide +kernel, by decide +kernel, by decide +kernel⟩
/-! CircuitDeskModel.takeBest()V -/
abbrev y_Mod_takeBest : MethodName := ⟨"CircuitDeskModel", "takeBest", "()V"⟩
abbrev k_Mod_takeBest : g_M := (prog_17_method_73_code, 2, "CircuitDeskModel", 12, none, "takeBest", [], 0)
theorem d_Mod_takeBest_0 : decode prog_17_method_73_code 0 = .ok (.iconst 0, 1) := by decide +kernel
theorem d_Mod_takeBest_1 : decode prog_17_method_73_code 1 = .ok (.istore_n 1, 1) := by decide +kernel
theorem d_Mod_takeBest_2 : decode prog_17_method_73_code 2 = .ok (.iload_n 1, 1) := by decide +kernel
theorem d_Mod_takeBest_3 : decode prog_17_method_73_code 3 = .ok (.aload_n 0, 1) := by decide +kernel
theorem d_Mod_takeBest_4 : decode prog_17_method_73_code 4 = .ok (.getfield 271, 3) := by decide +kernel
theorem d_Mod_takeBest_7 : decode prog_17_method_73_code 7 = .ok (.if_icmp .ge 21, 3) := by decide +kernel
theorem d_Mod_takeBest_10 : decode prog_17_method_73_code 10 = .ok (.aload_n 0, 1) := by decide +kernel
theorem d_Mod_takeBest_11 : decode prog_17_method_73_code 11 = .ok (.getfield 26, 3) := by decide +kernel
theorem d_Mod_takeBest_14 : decode prog_17_method_73_code 14 = .ok (.iload_n 1, 1) := by decide +kernel
theorem d_Mod_takeBest_15 : decode prog_17_method_73_code 15 = .ok (.aload_n 0, 1) := by decide +kernel
theorem d_Mod_takeBest_16 : decode prog_17_method_73_code 16 = .ok (.getfield 39, 3) := by decide +kernel
theorem d_Mod_takeBest_19 : decode prog_17_method_73_code 19 = .ok (.iload_n 1, 1) := by decide +kernel
theorem d_Mod_takeBest_20 : decode prog_17_method_73_code 20 = .ok (.iaload, 1) := by decide +kernel
theorem d_Mod_takeBest_21 : decode prog_17_method_73_code 21 = .ok (.iastore, 1) := by decide +kernel
theorem d_Mod_takeBest_22 : decode prog_17_method_73_code 22 = .ok (.iinc 1 1, 3) := by decide +kernel
theorem d_Mod_takeBest_25 : decode prog_17_method_73_code 25 = .ok (.goto (-23), 3) := by decide +kernel
theorem d_Mod_takeBest_28 : decode prog_17_method_73_code 28 = .ok (.aload_n 0, 1) := by decide +kernel
theorem d_Mod_takeBest_29 : decode prog_17_method_73_code 29 = .ok (.aload_n 0, 1) := by decide +kernel
theorem d_Mod_takeBest_30 : decode prog_17_method_73_code 30 = .ok (.getfield 271, 3) := by decide +kernel
theorem d_Mod_takeBest_33 : decode prog_17_method_73_code 33 = .ok (.putfield 198, 3) := by decide +kernel
theorem d_Mod_takeBest_36 : decode prog_17_method_73_code 36 = .ok (.return_, 1) := by decide +kernel
def Mod_takeBest_2  : Nat → g_MD → Int32 → Option g_MD
  | 0, _, _ => none
  | n + 1, M, v1 => if (M.2.1 26) ≤ v1 then (g_let (mp M 6 (M.2.1 26)) fun M2 => some M2) else (g_mA M 0 22 v1 fun x3 => g_mS M 0 5 v1 x3 fun M5 => (Mod_takeBest_2  n) M5 (v1 + (1 : Int32)))
set_option maxHeartbeats 4000000 in
set_option maxRecDepth 100000 in
theorem W_Mod_takeBest_2 {X : g_X} {h0 : g_AH} {a0 : Nat} {ad : Nat → Nat} (ok : mOK a0 ad) (z : g_MD)  : ∀ (n : Nat) (M : g_MD) (v1 : Int32), Mod_takeBest_2  n M v1 = some z → G X k_Mod_takeBest (.inl none) (mH h0 a0 ad z) (mH h0 a0 ad M) 2 [(0, .ref a0), (1, .int v1)] [] := by
  intro n
  induction n with
  | zero => intro M v1 hy; exact absurd hy (by simp [Mod_takeBest_2])
  | succ n ih =>
    intro M v1 hy
    rw [Mod_takeBest_2] at hy
    refine g_iload_n 1 (i := 1) (pc' := 3) d_Mod_takeBest_2 rfl rfl rfl ?_
    refine g_aload_n 0 (i := 0) (pc' := 4) d_Mod_takeBest_3 rfl rfl rfl ?_
    refine gm_getA ok 26 (pc' := 7) d_Mod_takeBest_4 rfl q1991 rfl rfl ?_
    by_cases c1 : (M.2.1 26) ≤ v1
    · rw [if_pos c1] at hy
      refine g_icmp_geT (pc' := 28) d_Mod_takeBest_7 c1 (by decide) ?_
      refine g_aload_n 0 (i := 0) (pc' := 29) d_Mod_takeBest_28 rfl rfl rfl ?_
      refine g_aload_n 0 (i := 0) (pc' := 30) d_Mod_takeBest_29 rfl rfl rfl ?_
      refine gm_getA ok 26 (pc' := 33) d_Mod_takeBest_30 rfl q1991 rfl rfl ?_
      replace hy := g_let_inv hy
      refine gm_put ok 6 (pc' := 36) d_Mod_takeBest_33 rfl (by decide) q1971 rfl ?_
      generalize (mp M 6 (M.2.1 26)) = M2 at hy ⊢
      cases hy
      exact g_vret rfl rfl rfl d_Mod_takeBest_36
    · rw [if_neg c1] at hy
      refine g_icmp_geF (pc' := 10) d_Mod_takeBest_7 28 c1 (by decide) rfl ?_
      refine g_aload_n 0 (i := 0) (pc' := 11) d_Mod_takeBest_10 rfl rfl rfl ?_
      refine gm_getA ok 5 (pc' := 14) d_Mod_takeBest_11 rfl q1970 rfl rfl ?_
      refine g_iload_n 1 (i := 1) (pc' := 15) d_Mod_takeBest_14 rfl rfl rfl ?_
      refine g_aload_n 0 (i := 0) (pc' := 16) d_Mod_takeBest_15 rfl rfl rfl ?_
      refine gm_getA ok 22 (pc' := 19) d_Mod_takeBest_16 rfl q1987 rfl rfl ?_
      refine g_iload_n 1 (i := 1) (pc' := 20) d_Mod_takeBest_19 rfl rfl rfl ?_
      replace hy := g_mA_inv hy
      obtain ⟨x3, hc4, hy⟩ := hy
      refine gm_ald0 ok (pc' := 21) d_Mod_takeBest_20 hc4 rfl ?_
      replace hy := g_mS_inv hy
      obtain ⟨hc6, hy⟩ := hy
      refine gm_ast0 ok (pc' := 22) d_Mod_takeBest_21 hc6 rfl ?_
      generalize ms M 5 (v1).toNatClampNeg x3 = M5 at hy ⊢
      refine g_iinc 1 (v := (v1 + (1 : Int32))) (pc' := 25) (Lc' := [(1, .int (v1 + (1 : Int32))), (0, .ref a0)]) d_Mod_takeBest_22 rfl rfl (by decide) rfl rfl ?_
      refine g_goto (pc' := 2) d_Mod_takeBest_25 (by decide) ?_
      refine g_sub [1, 0] rfl ?_
      exact ih _ _ hy
def Mod_takeBest (M : g_MD)  : Option g_MD :=
  Mod_takeBest_2  gFU M (0 : Int32)
set_option maxHeartbeats 4000000 in
set_option maxRecDepth 100000 in
theorem T_Mod_takeBest {l : Launch} {B : g_B} {h0 : g_AH} {a0 : Nat} {ad : Nat → Nat} (ok : mOK a0 ad) (M : g_MD)  (z : g_MD) (hy : Mod_takeBest M  = some z) : g_CT l B y_Mod_takeBest k_Mod_takeBest [.ref a0] (mH h0 a0 ad M) (.inl none) (mH h0 a0 ad z) := by
  refine g_start2 (Lc := [(0, .ref a0)]) (by decide) rfl rfl (by exact Nat.le_of_ble_eq_true rfl) (by rfl) fun X => ?_
  unfold Mod_takeBest at hy
  refine g_iconst (v := (0 : Int32)) (pc' := 1) d_Mod_takeBest_0 (by decide) rfl ?_
  refine g_istore_n (i := 1) (pc' := 2) (Lc' := [(1, .int (0 : Int32)), (0, .ref a0)]) d_Mod_takeBest_1 rfl (by decide) rfl rfl ?_
  refine g_sub [1, 0] rfl ?_
  exact W_Mod_takeBest_2 ok _ _ _ _ hy
theorem hd_Mod_takeBest : g_dsc y_Mod_takeBest 0 := ⟨by decide +kernel, by decide +kernel, by decide +kernel⟩
/-! CircuitDeskModel.draftBest(III)I -/
abbrev y_Mod_draftBest : MethodName := ⟨"CircuitDeskModel", "draftBest", "(III)I"⟩
abbrev k_Mod_draftBest : g_M := (prog_17_method_72_code, 4, "CircuitDeskModel", 18, (some FieldType.int), "draftBest", [], 0)
theorem d_Mod_draftBest_0 : decode prog_17_method_72_code 0 = .ok (.aload_n 0, 1) := by decide +kernel
theorem d_Mod_draftBest_1 : decode prog_17_method_72_code 1 = .ok (.iconst 0, 1) := by decide +kernel
theorem d_Mod_draftBest_2 : decode prog_17_method_72_code 2 = .ok (.putfield 51, 3) := by decide +kernel
theorem d_Mod_draftBest_5 : decode prog_17_method_72_code 5 = .ok (.aload_n 0, 1) := by decide +kernel
theorem d_Mod_draftBest_6 : decode prog_17_method_72_code 6 = .ok (.iload_n 1, 1) := by decide +kernel
theorem d_Mod_draftBest_7 : decode prog_17_method_72_code 7 = .ok (.invokevirtual 204, 3) := by decide +kernel
theorem d_Mod_draftBest_10 : decode prog_17_method_72_code 10 = .ok (.ifCond .eq 11, 3) := by decide +kernel
theorem d_Mod_draftBest_13 : decode prog_17_method_72_code 13 = .ok (.aload_n 0, 1) := by decide +kernel
theorem d_Mod_draftBest_14 : decode prog_17_method_72_code 14 = .ok (.iload_n 2, 1) := by decide +kernel
theorem d_Mod_draftBest_15 : decode prog_17_method_72_code 15 = .ok (.invokevirtual 204, 3) := by decide +kernel
theorem d_Mod_draftBest_18 : decode prog_17_method_72_code 18 = .ok (.ifCond .ne 9, 3) := by decide +kernel
theorem d_Mod_draftBest_21 : decode prog_17_method_72_code 21 = .ok (.aload_n 0, 1) := by decide +kernel
theorem d_Mod_draftBest_22 : decode prog_17_method_72_code 22 = .ok (.iconst 1, 1) := by decide +kernel
theorem d_Mod_draftBest_23 : decode prog_17_method_72_code 23 = .ok (.invokevirtual 61, 3) := by decide +kernel
theorem d_Mod_draftBest_26 : decode prog_17_method_72_code 26 = .ok (.ireturn, 1) := by decide +kernel
theorem d_Mod_draftBest_27 : decode prog_17_method_72_code 27 = .ok (.iload_n 1, 1) := by decide +kernel
theorem d_Mod_draftBest_28 : decode prog_17_method_72_code 28 = .ok (.iload_n 2, 1) := by decide +kernel
theorem d_Mod_draftBest_29 : decode prog_17_method_72_code 29 = .ok (.if_icmp .eq 13, 3) := by decide +kernel
theorem d_Mod_draftBest_32 : decode prog_17_method_72_code 32 = .ok (.iload_n 3, 1) := by decide +kernel
theorem d_Mod_draftBest_33 : decode prog_17_method_72_code 33 = .ok (.iconst 1, 1) := by decide +kernel
theorem d_Mod_draftBest_34 : decode prog_17_method_72_code 34 = .ok (.bipush 20, 2) := by decide +kernel
theorem d_Mod_draftBest_36 : decode prog_17_method_72_code 36 = .ok (.invokestatic 54, 3) := by decide +kernel
theorem d_Mod_draftBest_39 : decode prog_17_method_72_code 39 = .ok (.ifCond .ne 9, 3) := by decide +kernel
theorem d_Mod_draftBest_42 : decode prog_17_method_72_code 42 = .ok (.aload_n 0, 1) := by decide +kernel
theorem d_Mod_draftBest_43 : decode prog_17_method_72_code 43 = .ok (.iconst 2, 1) := by decide +kernel
theorem d_Mod_draftBest_44 : decode prog_17_method_72_code 44 = .ok (.invokevirtual 61, 3) := by decide +kernel
theorem d_Mod_draftBest_47 : decode prog_17_method_72_code 47 = .ok (.ireturn, 1) := by decide +kernel
theorem d_Mod_draftBest_48 : decode prog_17_method_72_code 48 = .ok (.aload_n 0, 1) := by decide +kernel
theorem d_Mod_draftBest_49 : decode prog_17_method_72_code 49 = .ok (.iload_n 1, 1) := by decide +kernel
theorem d_Mod_draftBest_50 : decode prog_17_method_72_code 50 = .ok (.iload_n 2, 1) := by decide +kernel
theorem d_Mod_draftBest_51 : decode prog_17_method_72_code 51 = .ok (.iconst (-1), 1) := by decide +kernel
theorem d_Mod_draftBest_52 : decode prog_17_method_72_code 52 = .ok (.iload_n 3, 1) := by decide +kernel
theorem d_Mod_draftBest_53 : decode prog_17_method_72_code 53 = .ok (.iconst (-1), 1) := by decide +kernel
theorem d_Mod_draftBest_54 : decode prog_17_method_72_code 54 = .ok (.invokevirtual 289, 3) := by decide +kernel
theorem d_Mod_draftBest_57 : decode prog_17_method_72_code 57 = .ok (.ifCond .ne 5, 3) := by decide +kernel
theorem d_Mod_draftBest_60 : decode prog_17_method_72_code 60 = .ok (.iconst (-1), 1) := by decide +kernel
theorem d_Mod_draftBest_61 : decode prog_17_method_72_code 61 = .ok (.ireturn, 1) := by decide +kernel
theorem d_Mod_draftBest_62 : decode prog_17_method_72_code 62 = .ok (.aload_n 0, 1) := by decide +kernel
theorem d_Mod_draftBest_63 : decode prog_17_method_72_code 63 = .ok (.invokevirtual 293, 3) := by decide +kernel
theorem d_Mod_draftBest_66 : decode prog_17_method_72_code 66 = .ok (.aload_n 0, 1) := by decide +kernel
theorem d_Mod_draftBest_67 : decode prog_17_method_72_code 67 = .ok (.getfield 198, 3) := by decide +kernel
theorem d_Mod_draftBest_70 : decode prog_17_method_72_code 70 = .ok (.ireturn, 1) := by decide +kernel
def Mod_draftBest_21 (M : g_MD) : Option (Int32 × g_MD) :=
  g_bM (Mod_fail M (1 : Int32)) fun x6 M7 => some (x6, M7)
set_option maxHeartbeats 4000000 in
set_option maxRecDepth 100000 in
theorem W_Mod_draftBest_21 {X : g_X} {h0 : g_AH} {a0 : Nat} {ad : Nat → Nat} (ok : mOK a0 ad) (z : Int32 × g_MD) (M : g_MD) (hy : Mod_draftBest_21  M = some z) : G X k_Mod_draftBest (.inl (some (.int z.1))) (mH h0 a0 ad z.2) (mH h0 a0 ad M) 21 [(0, .ref a0)] [] := by
  unfold Mod_draftBest_21 at hy
  refine g_aload_n 0 (i := 0) (pc' := 22) d_Mod_draftBest_21 rfl rfl rfl ?_
  refine g_iconst (v := (1 : Int32)) (pc' := 23) d_Mod_draftBest_22 (by decide) rfl ?_
  replace hy := g_bM_inv hy
  obtain ⟨x6, M7, hf8, hy⟩ := hy
  refine g_callV (rv := some (.int x6)) (h1 := (mH h0 a0 ad M7)) (pc' := 26) (As := [.int (1 : Int32)]) (rest := []) 1 (T_Mod_fail ok (hy := hf8)) d_Mod_draftBest_23 (mH_look ok) rfl rfl q2061 q2063 qs31 q135 q2064 hd_Mod_fail rfl ⟨by decide, by decide⟩ (by first | exact Nat.le_of_ble_eq_true rfl | (simp only [List.map, List.sum_cons, List.sum_nil, g_cat_rf]; exact Nat.le_of_ble_eq_true rfl) | (simp only [List.map, List.sum_cons, List.sum_nil, g_cat_rf, Value.category]; decide)) rfl ?_
  cases hy
  exact g_iret rfl rfl rfl d_Mod_draftBest_26
def Mod_draftBest_42 (M : g_MD) : Option (Int32 × g_MD) :=
  g_bM (Mod_fail M (2 : Int32)) fun x14 M15 => some (x14, M15)
set_option maxHeartbeats 4000000 in
set_option maxRecDepth 100000 in
theorem W_Mod_draftBest_42 {X : g_X} {h0 : g_AH} {a0 : Nat} {ad : Nat → Nat} (ok : mOK a0 ad) (z : Int32 × g_MD) (M : g_MD) (hy : Mod_draftBest_42  M = some z) : G X k_Mod_draftBest (.inl (some (.int z.1))) (mH h0 a0 ad z.2) (mH h0 a0 ad M) 42 [(0, .ref a0)] [] := by
  unfold Mod_draftBest_42 at hy
  refine g_aload_n 0 (i := 0) (pc' := 43) d_Mod_draftBest_42 rfl rfl rfl ?_
  refine g_iconst (v := (2 : Int32)) (pc' := 44) d_Mod_draftBest_43 (by decide) rfl ?_
  replace hy := g_bM_inv hy
  obtain ⟨x14, M15, hf16, hy⟩ := hy
  refine g_callV (rv := some (.int x14)) (h1 := (mH h0 a0 ad M15)) (pc' := 47) (As := [.int (2 : Int32)]) (rest := []) 1 (T_Mod_fail ok (hy := hf16)) d_Mod_draftBest_44 (mH_look ok) rfl rfl q2061 q2063 qs31 q135 q2064 hd_Mod_fail rfl ⟨by decide, by decide⟩ (by first | exact Nat.le_of_ble_eq_true rfl | (simp only [List.map, List.sum_cons, List.sum_nil, g_cat_rf]; exact Nat.le_of_ble_eq_true rfl) | (simp only [List.map, List.sum_cons, List.sum_nil, g_cat_rf, Value.category]; decide)) rfl ?_
  cases hy
  exact g_iret rfl rfl rfl d_Mod_draftBest_47
def Mod_draftBest (M : g_MD) (p0 : Int32) (p1 : Int32) (p2 : Int32) : Option (Int32 × g_MD) :=
  g_let (mp M 7 (0 : Int32)) fun M1 => g_b (Mod_isNode M1 p0) fun x2 => if x2 = 0 then (Mod_draftBest_21  M1) else (g_b (Mod_isNode M1 p1) fun x9 => if x9 = 0 then (Mod_draftBest_21  M1) else (if p0 = p1 then (Mod_draftBest_42  M1) else (g_b (Mod_isBetween p2 (1 : Int32) (20 : Int32)) fun x17 => if x17 = 0 then (Mod_draftBest_42  M1) else (g_bM (Mod_layBest M1 p0 p1 (-1 : Int32) p2 (-1 : Int32)) fun x21 M22 => if x21 = 0 then (some ((-1 : Int32), M22)) else (g_b (Mod_takeBest M22) fun M26 => some ((M26.2.1 6), M26))))))
set_option maxHeartbeats 4000000 in
set_option maxRecDepth 100000 in
theorem T_Mod_draftBest {l : Launch} {B : g_B} {h0 : g_AH} {a0 : Nat} {ad : Nat → Nat} (ok : mOK a0 ad) (M : g_MD) (p0 : Int32) (p1 : Int32) (p2 : Int32) (z : Int32 × g_MD) (hy : Mod_draftBest M p0 p1 p2 = some z) : g_CT l B y_Mod_draftBest k_Mod_draftBest [.ref a0, .int p0, .int p1, .int p2] (mH h0 a0 ad M) (.inl (some (.int z.1))) (mH h0 a0 ad z.2) := by
  refine g_start2 (Lc := [(0, .ref a0), (1, .int p0), (2, .int p1), (3, .int p2)]) (by decide) rfl rfl (by exact Nat.le_of_ble_eq_true rfl) (by rfl) fun X => ?_
  unfold Mod_draftBest at hy
  refine g_aload_n 0 (i := 0) (pc' := 1) d_Mod_draftBest_0 rfl rfl rfl ?_
  refine g_iconst (v := (0 : Int32)) (pc' := 2) d_Mod_draftBest_1 (by decide) rfl ?_
  replace hy := g_let_inv hy
  refine gm_put ok 7 (pc' := 5) d_Mod_draftBest_2 rfl (by decide) q1972 rfl ?_
  generalize (mp M 7 (0 : Int32)) = M1 at hy ⊢
  refine g_aload_n 0 (i := 0) (pc' := 6) d_Mod_draftBest_5 rfl rfl rfl ?_
  refine g_iload_n 1 (i := 1) (pc' := 7) d_Mod_draftBest_6 rfl rfl rfl ?_
  replace hy := g_b_inv hy
  obtain ⟨x2, hf4, hy⟩ := hy
  refine g_callV (rv := some (.int x2)) (h1 := (mH h0 a0 ad M1)) (pc' := 10) (As := [.int p0]) (rest := []) 1 (T_Mod_isNode ok (hy := hf4)) d_Mod_draftBest_7 (mH_look ok) rfl rfl q2251 q2253 qs64 q135 q2254 hd_Mod_isNode rfl ⟨by decide, by decide⟩ (by first | exact Nat.le_of_ble_eq_true rfl | (simp only [List.map, List.sum_cons, List.sum_nil, g_cat_rf]; exact Nat.le_of_ble_eq_true rfl) | (simp only [List.map, List.sum_cons, List.sum_nil, g_cat_rf, Value.category]; decide)) rfl ?_
  by_cases c5 : x2 = 0
  · rw [if_pos c5] at hy
    refine g_if_eqT (pc' := 21) d_Mod_draftBest_10 c5 (by decide) ?_
    refine g_sub [0] rfl ?_
    exact W_Mod_draftBest_21 ok _ _ hy
  · rw [if_neg c5] at hy
    refine g_if_eqF (pc' := 13) d_Mod_draftBest_10 21 c5 (by decide) rfl ?_
    refine g_aload_n 0 (i := 0) (pc' := 14) d_Mod_draftBest_13 rfl rfl rfl ?_
    refine g_iload_n 2 (i := 2) (pc' := 15) d_Mod_draftBest_14 rfl rfl rfl ?_
    replace hy := g_b_inv hy
    obtain ⟨x9, hf11, hy⟩ := hy
    refine g_callV (rv := some (.int x9)) (h1 := (mH h0 a0 ad M1)) (pc' := 18) (As := [.int p1]) (rest := []) 1 (T_Mod_isNode ok (hy := hf11)) d_Mod_draftBest_15 (mH_look ok) rfl rfl q2251 q2253 qs64 q135 q2254 hd_Mod_isNode rfl ⟨by decide, by decide⟩ (by first | exact Nat.le_of_ble_eq_true rfl | (simp only [List.map, List.sum_cons, List.sum_nil, g_cat_rf]; exact Nat.le_of_ble_eq_true rfl) | (simp only [List.map, List.sum_cons, List.sum_nil, g_cat_rf, Value.category]; decide)) rfl ?_
    by_cases c12 : x9 = 0
    · rw [if_pos c12] at hy
      refine g_if_neF (pc' := 21) d_Mod_draftBest_18 27 c12 (by decide) rfl ?_
      refine g_sub [0] rfl ?_
      exact W_Mod_draftBest_21 ok _ _ hy
    · rw [if_neg c12] at hy
      refine g_if_neT (pc' := 27) d_Mod_draftBest_18 c12 (by decide) ?_
      refine g_iload_n 1 (i := 1) (pc' := 28) d_Mod_draftBest_27 rfl rfl rfl ?_
      refine g_iload_n 2 (i := 2) (pc' := 29) d_Mod_draftBest_28 rfl rfl rfl ?_
      by_cases c13 : p0 = p1
      · rw [if_pos c13] at hy
        refine g_icmp_eqT (pc' := 42) d_Mod_draftBest_29 c13 (by decide) ?_
        refine g_sub [0] rfl ?_
        exact W_Mod_draftBest_42 ok _ _ hy
      · rw [if_neg c13] at hy
        refine g_icmp_eqF (pc' := 32) d_Mod_draftBest_29 42 c13 (by decide) rfl ?_
        refine g_iload_n 3 (i := 3) (pc' := 33) d_Mod_draftBest_32 rfl rfl rfl ?_
        refine g_iconst (v := (1 : Int32)) (pc' := 34) d_Mod_draftBest_33 (by decide) rfl ?_
        refine g_bipush (v := (20 : Int32)) (pc' := 36) d_Mod_draftBest_34 (by decide) rfl ?_
        replace hy := g_b_inv hy
        obtain ⟨x17, hf19, hy⟩ := hy
        refine g_callS (rv := some (.int x17)) (h1 := (mH h0 a0 ad M1)) (pc' := 39) (As := [.int p2, .int (1 : Int32), .int (20 : Int32)]) (rest := []) 3 (T_Mod_isBetween (hy := hf19)) d_Mod_draftBest_36 q2069 q2070 q135 q2071 hd_Mod_isBetween rfl ⟨by decide, by decide⟩ (by first | exact Nat.le_of_ble_eq_true rfl | (simp only [List.map, List.sum_cons, List.sum_nil, g_cat_rf]; exact Nat.le_of_ble_eq_true rfl) | (simp only [List.map, List.sum_cons, List.sum_nil, g_cat_rf, Value.category]; decide)) rfl ?_
        by_cases c20 : x17 = 0
        · rw [if_pos c20] at hy
          refine g_if_neF (pc' := 42) d_Mod_draftBest_39 48 c20 (by decide) rfl ?_
          refine g_sub [0] rfl ?_
          exact W_Mod_draftBest_42 ok _ _ hy
        · rw [if_neg c20] at hy
          refine g_if_neT (pc' := 48) d_Mod_draftBest_39 c20 (by decide) ?_
          refine g_aload_n 0 (i := 0) (pc' := 49) d_Mod_draftBest_48 rfl rfl rfl ?_
          refine g_iload_n 1 (i := 1) (pc' := 50) d_Mod_draftBest_49 rfl rfl rfl ?_
          refine g_iload_n 2 (i := 2) (pc' := 51) d_Mod_draftBest_50 rfl rfl rfl ?_
          refine g_iconst (v := (-1 : Int32)) (pc' := 52) d_Mod_draftBest_51 (by decide) rfl ?_
          refine g_iload_n 3 (i := 3) (pc' := 53) d_Mod_draftBest_52 rfl rfl rfl ?_
          refine g_iconst (v := (-1 : Int32)) (pc' := 54) d_Mod_draftBest_53 (by decide) rfl ?_
          replace hy := g_bM_inv hy
          obtain ⟨x21, M22, hf23, hy⟩ := hy
          refine g_callV (rv := some (.int x21)) (h1 := (mH h0 a0 ad M22)) (pc' := 57) (As := [.int p0, .int p1, .int (-1 : Int32), .int p2, .int (-1 : Int32)]) (rest := []) 5 (T_Mod_layBest ok (hy := hf23)) d_Mod_draftBest_54 (mH_look ok) rfl rfl q2331 q2333 qs75 q135 q2334 hd_Mod_layBest rfl ⟨by decide, by decide⟩ (by first | exact Nat.le_of_ble_eq_true rfl | (simp only [List.map, List.sum_cons, List.sum_nil, g_cat_rf]; exact Nat.le_of_ble_eq_true rfl) | (simp only [List.map, List.sum_cons, List.sum_nil, g_cat_rf, Value.category]; decide)) rfl ?_
          by_cases c24 : x21 = 0
          · rw [if_pos c24] at hy
            refine g_if_neF (pc' := 60) d_Mod_draftBest_57 62 c24 (by decide) rfl ?_
            refine g_iconst (v := (-1 : Int32)) (pc' := 61) d_Mod_draftBest_60 (by decide) rfl ?_
            cases hy
            exact g_iret rfl rfl rfl d_Mod_draftBest_61
          · rw [if_neg c24] at hy
            refine g_if_neT (pc' := 62) d_Mod_draftBest_57 c24 (by decide) ?_
            refine g_aload_n 0 (i := 0) (pc' := 63) d_Mod_draftBest_62 rfl rfl rfl ?_
            replace hy := g_b_inv hy
            obtain ⟨M26, hf27, hy⟩ := hy
            refine g_callV (rv := none) (h1 := (mH h0 a0 ad M26)) (pc' := 66) (As := []) (rest := []) 0 (T_Mod_takeBest ok (hy := hf27)) d_Mod_draftBest_63 (mH_look ok) rfl rfl q2351 q2353 qs80 q135 q2354 hd_Mod_takeBest rfl ⟨by decide, by decide⟩ (by first | exact Nat.le_of_ble_eq_true rfl | (simp only [List.map, List.sum_cons, List.sum_nil, g_cat_rf]; exact Nat.le_of_ble_eq_true rfl) | (simp only [List.map, List.sum_cons, List.sum_nil, g_cat_rf, Value.category]; decide)) rfl ?_
            refine g_aload_n 0 (i := 0) (pc' := 67) d_Mod_draftBest_66 rfl rfl rfl ?_
            refine gm_getA ok 6 (pc' := 70) d_Mod_draftBest_67 rfl q1971 rfl rfl ?_
            cases hy
            exact g_iret rfl rfl rfl d_Mod_draftBest_70
theorem hd_Mod_draftBest : g_dsc y_Mod_draftBest 3 := ⟨by decide +kernel, by decide +kernel, by decide +kernel⟩
/-! CircuitDeskModel.draftNode(I)I -/
abbrev y_Mod_draftNode : MethodName := ⟨"CircuitDeskModel", "draftNode", "(I)I"⟩
abbrev k_Mod_draftNode : g_M := (prog_17_method_74_code, 2, "CircuitDeskModel", 13, (some FieldType.int), "draftNode", [], 0)
theorem d_Mod_draftNode_0 : decode prog_17_method_74_code 0 = .ok (.aload_n 0, 1) := by decide +kernel
theorem d_Mod_draftNode_1 : decode prog_17_method_74_code 1 = .ok (.iconst 0, 1) := by decide +kernel
theorem d_Mod_draftNode_2 : decode prog_17_method_74_code 2 = .ok (.putfield 51, 3) := by decide +kernel
theorem d_Mod_draftNode_5 : decode prog_17_method_74_code 5 = .ok (.iload_n 1, 1) := by decide +kernel
theorem d_Mod_draftNode_6 : decode prog_17_method_74_code 6 = .ok (.ifCond .ge 9, 3) := by decide +kernel
theorem d_Mod_draftNode_9 : decode prog_17_method_74_code 9 = .ok (.aload_n 0, 1) := by decide +kernel
theorem d_Mod_draftNode_10 : decode prog_17_method_74_code 10 = .ok (.iconst 1, 1) := by decide +kernel
theorem d_Mod_draftNode_11 : decode prog_17_method_74_code 11 = .ok (.invokevirtual 61, 3) := by decide +kernel
theorem d_Mod_draftNode_14 : decode prog_17_method_74_code 14 = .ok (.ireturn, 1) := by decide +kernel
theorem d_Mod_draftNode_15 : decode prog_17_method_74_code 15 = .ok (.iload_n 1, 1) := by decide +kernel
theorem d_Mod_draftNode_16 : decode prog_17_method_74_code 16 = .ok (.aload_n 0, 1) := by decide +kernel
theorem d_Mod_draftNode_17 : decode prog_17_method_74_code 17 = .ok (.getfield 198, 3) := by decide +kernel
theorem d_Mod_draftNode_20 : decode prog_17_method_74_code 20 = .ok (.if_icmp .ge 12, 3) := by decide +kernel
theorem d_Mod_draftNode_23 : decode prog_17_method_74_code 23 = .ok (.aload_n 0, 1) := by decide +kernel
theorem d_Mod_draftNode_24 : decode prog_17_method_74_code 24 = .ok (.getfield 26, 3) := by decide +kernel
theorem d_Mod_draftNode_27 : decode prog_17_method_74_code 27 = .ok (.iload_n 1, 1) := by decide +kernel
theorem d_Mod_draftNode_28 : decode prog_17_method_74_code 28 = .ok (.iaload, 1) := by decide +kernel
theorem d_Mod_draftNode_29 : decode prog_17_method_74_code 29 = .ok (.goto 4, 3) := by decide +kernel
theorem d_Mod_draftNode_32 : decode prog_17_method_74_code 32 = .ok (.iconst (-1), 1) := by decide +kernel
theorem d_Mod_draftNode_33 : decode prog_17_method_74_code 33 = .ok (.ireturn, 1) := by decide +kernel
def Mod_draftNode (M : g_MD) (p0 : Int32) : Option (Int32 × g_MD) :=
  g_let (mp M 7 (0 : Int32)) fun M1 => if 0 ≤ p0 then (if (M1.2.1 6) ≤ p0 then (some ((-1 : Int32), M1)) else (g_mA M1 0 5 p0 fun x4 => some (x4, M1))) else (g_bM (Mod_fail M1 (1 : Int32)) fun x6 M7 => some (x6, M7))
set_option maxHeartbeats 4000000 in
set_option maxRecDepth 100000 in
theorem T_Mod_draftNode {l : Launch} {B : g_B} {h0 : g_AH} {a0 : Nat} {ad : Nat → Nat} (ok : mOK a0 ad) (M : g_MD) (p0 : Int32) (z : Int32 × g_MD) (hy : Mod_draftNode M p0 = some z) : g_CT l B y_Mod_draftNode k_Mod_draftNode [.ref a0, .int p0] (mH h0 a0 ad M) (.inl (some (.int z.1))) (mH h0 a0 ad z.2) := by
  refine g_start2 (Lc := [(0, .ref a0), (1, .int p0)]) (by decide) rfl rfl (by exact Nat.le_of_ble_eq_true rfl) (by rfl) fun X => ?_
  unfold Mod_draftNode at hy
  refine g_aload_n 0 (i := 0) (pc' := 1) d_Mod_draftNode_0 rfl rfl rfl ?_
  refine g_iconst (v := (0 : Int32)) (pc' := 2) d_Mod_draftNode_1 (by decide) rfl ?_
  replace hy := g_let_inv hy
  refine gm_put ok 7 (pc' := 5) d_Mod_draftNode_2 rfl (by decide) q1972 rfl ?_
  generalize (mp M 7 (0 : Int32)) = M1 at hy ⊢
  refine g_iload_n 1 (i := 1) (pc' := 6) d_Mod_draftNode_5 rfl rfl rfl ?_
  by_cases c2 : 0 ≤ p0
  · rw [if_pos c2] at hy
    refine g_if_geT (pc' := 15) d_Mod_draftNode_6 c2 (by decide) ?_
    refine g_iload_n 1 (i := 1) (pc' := 16) d_Mod_draftNode_15 rfl rfl rfl ?_
    refine g_aload_n 0 (i := 0) (pc' := 17) d_Mod_draftNode_16 rfl rfl rfl ?_
    refine gm_getA ok 6 (pc' := 20) d_Mod_draftNode_17 rfl q1971 rfl rfl ?_
    by_cases c3 : (M1.2.1 6) ≤ p0
    · rw [if_pos c3] at hy
      refine g_icmp_geT (pc' := 32) d_Mod_draftNode_20 c3 (by decide) ?_
      refine g_iconst (v := (-1 : Int32)) (pc' := 33) d_Mod_draftNode_32 (by decide) rfl ?_
      cases hy
      exact g_iret rfl rfl rfl d_Mod_draftNode_33
    · rw [if_neg c3] at hy
      refine g_icmp_geF (pc' := 23) d_Mod_draftNode_20 32 c3 (by decide) rfl ?_
      refine g_aload_n 0 (i := 0) (pc' := 24) d_Mod_draftNode_23 rfl rfl rfl ?_
      refine gm_getA ok 5 (pc' := 27) d_Mod_draftNode_24 rfl q1970 rfl rfl ?_
      refine g_iload_n 1 (i := 1) (pc' := 28) d_Mod_draftNode_27 rfl rfl rfl ?_
      replace hy := g_mA_inv hy
      obtain ⟨x4, hc5, hy⟩ := hy
      refine gm_ald0 ok (pc' := 29) d_Mod_draftNode_28 hc5 rfl ?_
      refine g_goto (pc' := 33) d_Mod_draftNode_29 (by decide) ?_
      cases hy
      exact g_iret rfl rfl rfl d_Mod_draftNode_33
  · rw [if_neg c2] at hy
    refine g_if_geF (pc' := 9) d_Mod_draftNode_6 15 c2 (by decide) rfl ?_
    refine g_aload_n 0 (i := 0) (pc' := 10) d_Mod_draftNode_9 rfl rfl rfl ?_
    refine g_iconst (v := (1 : Int32)) (pc' := 11) d_Mod_draftNode_10 (by decide) rfl ?_
    replace hy := g_bM_inv hy
    obtain ⟨x6, M7, hf8, hy⟩ := hy
    refine g_callV (rv := some (.int x6)) (h1 := (mH h0 a0 ad M7)) (pc' := 14) (As := [.int (1 : Int32)]) (rest := []) 1 (T_Mod_fail ok (hy := hf8)) d_Mod_draftNode_11 (mH_look ok) rfl rfl q2061 q2063 qs31 q135 q2064 hd_Mod_fail rfl ⟨by decide, by decide⟩ (by first | exact Nat.le_of_ble_eq_true rfl | (simp only [List.map, List.sum_cons, List.sum_nil, g_cat_rf]; exact Nat.le_of_ble_eq_true rfl) | (simp only [List.map, List.sum_cons, List.sum_nil, g_cat_rf, Value.category]; decide)) rfl ?_
    cases hy
    exact g_iret rfl rfl rfl d_Mod_draftNode_14
theorem hd_Mod_draftNode : g_dsc y_Mod_draftNode 1 := ⟨by decide +kernel, by decide +kernel, by decide +kernel⟩
/-! CircuitDeskModel.draftHasRoom(II)Z -/
abbrev y_Mod_draftHasRoom : MethodName := ⟨"CircuitDeskModel", "draftHasRoom", "(II)Z"⟩
abbrev k_Mod_draftHasRoom : g_M := (prog_17_method_76_code, 4, "CircuitDeskModel", 17, (some FieldType.boolean), "draftHasRoom", [], 0)
theorem d_Mod_draftHasRoom_0 : decode prog_17_method_76_code 0 = .ok (.iconst 1, 1) := by decide +kernel
theorem d_Mod_draftHasRoom_1 : decode prog_17_method_76_code 1 = .ok (.istore_n 3, 1) := by decide +kernel
theorem d_Mod_draftHasRoom_2 : decode prog_17_method_76_code 2 = .ok (.iload_n 3, 1) := by decide +kernel
theorem d_Mod_draftHasRoom_3 : decode prog_17_method_76_code 3 = .ok (.aload_n 0, 1) := by decide +kernel
theorem d_Mod_draftHasRoom_4 : decode prog_17_method_76_code 4 = .ok (.getfield 198, 3) := by decide +kernel
theorem d_Mod_draftHasRoom_7 : decode prog_17_method_76_code 7 = .ok (.if_icmp .ge 38, 3) := by decide +kernel
theorem d_Mod_draftHasRoom_10 : decode prog_17_method_76_code 10 = .ok (.aload_n 0, 1) := by decide +kernel
theorem d_Mod_draftHasRoom_11 : decode prog_17_method_76_code 11 = .ok (.aload_n 0, 1) := by decide +kernel
theorem d_Mod_draftHasRoom_12 : decode prog_17_method_76_code 12 = .ok (.aload_n 0, 1) := by decide +kernel
theorem d_Mod_draftHasRoom_13 : decode prog_17_method_76_code 13 = .ok (.getfield 26, 3) := by decide +kernel
theorem d_Mod_draftHasRoom_16 : decode prog_17_method_76_code 16 = .ok (.iload_n 3, 1) := by decide +kernel
theorem d_Mod_draftHasRoom_17 : decode prog_17_method_76_code 17 = .ok (.iconst 1, 1) := by decide +kernel
theorem d_Mod_draftHasRoom_18 : decode prog_17_method_76_code 18 = .ok (.isub, 1) := by decide +kernel
theorem d_Mod_draftHasRoom_19 : decode prog_17_method_76_code 19 = .ok (.iaload, 1) := by decide +kernel
theorem d_Mod_draftHasRoom_20 : decode prog_17_method_76_code 20 = .ok (.aload_n 0, 1) := by decide +kernel
theorem d_Mod_draftHasRoom_21 : decode prog_17_method_76_code 21 = .ok (.getfield 26, 3) := by decide +kernel
theorem d_Mod_draftHasRoom_24 : decode prog_17_method_76_code 24 = .ok (.iload_n 3, 1) := by decide +kernel
theorem d_Mod_draftHasRoom_25 : decode prog_17_method_76_code 25 = .ok (.iaload, 1) := by decide +kernel
theorem d_Mod_draftHasRoom_26 : decode prog_17_method_76_code 26 = .ok (.invokevirtual 137, 3) := by decide +kernel
theorem d_Mod_draftHasRoom_29 : decode prog_17_method_76_code 29 = .ok (.iload_n 1, 1) := by decide +kernel
theorem d_Mod_draftHasRoom_30 : decode prog_17_method_76_code 30 = .ok (.iload_n 2, 1) := by decide +kernel
theorem d_Mod_draftHasRoom_31 : decode prog_17_method_76_code 31 = .ok (.invokevirtual 153, 3) := by decide +kernel
theorem d_Mod_draftHasRoom_34 : decode prog_17_method_76_code 34 = .ok (.ifCond .ne 5, 3) := by decide +kernel
theorem d_Mod_draftHasRoom_37 : decode prog_17_method_76_code 37 = .ok (.iconst 0, 1) := by decide +kernel
theorem d_Mod_draftHasRoom_38 : decode prog_17_method_76_code 38 = .ok (.ireturn, 1) := by decide +kernel
theorem d_Mod_draftHasRoom_39 : decode prog_17_method_76_code 39 = .ok (.iinc 3 1, 3) := by decide +kernel
theorem d_Mod_draftHasRoom_42 : decode prog_17_method_76_code 42 = .ok (.goto (-40), 3) := by decide +kernel
theorem d_Mod_draftHasRoom_45 : decode prog_17_method_76_code 45 = .ok (.iconst 1, 1) := by decide +kernel
theorem d_Mod_draftHasRoom_46 : decode prog_17_method_76_code 46 = .ok (.ireturn, 1) := by decide +kernel
def Mod_draftHasRoom_2 (M : g_MD)  : Nat → Int32 → Int32 → Int32 → Option (Int32)
  | 0, _, _, _ => none
  | n + 1, v1, v2, v3 => if (M.2.1 6) ≤ v3 then (some (1 : Int32)) else (g_mA M 0 5 (v3 - (1 : Int32)) fun x3 => g_mA M 0 5 v3 fun x5 => g_b (Mod_linkOf M x3 x5) fun x7 => g_b (Mod_hasRoom M x7 v1 v2) fun x10 => if x10 = 0 then (some (0 : Int32)) else ((Mod_draftHasRoom_2 M  n) v1 v2 (v3 + (1 : Int32))))
set_option maxHeartbeats 4000000 in
set_option maxRecDepth 100000 in
theorem W_Mod_draftHasRoom_2 {X : g_X} {h0 : g_AH} {a0 : Nat} {ad : Nat → Nat} (ok : mOK a0 ad) (M : g_MD) (z : Int32)  : ∀ (n : Nat) (v1 : Int32) (v2 : Int32) (v3 : Int32), Mod_draftHasRoom_2 M  n v1 v2 v3 = some z → G X k_Mod_draftHasRoom (.inl (some (.int z))) (mH h0 a0 ad M) (mH h0 a0 ad M) 2 [(0, .ref a0), (1, .int v1), (2, .int v2), (3, .int v3)] [] := by
  intro n
  induction n with
  | zero => intro v1 v2 v3 hy; exact absurd hy (by simp [Mod_draftHasRoom_2])
  | succ n ih =>
    intro v1 v2 v3 hy
    rw [Mod_draftHasRoom_2] at hy
    refine g_iload_n 3 (i := 3) (pc' := 3) d_Mod_draftHasRoom_2 rfl rfl rfl ?_
    refine g_aload_n 0 (i := 0) (pc' := 4) d_Mod_draftHasRoom_3 rfl rfl rfl ?_
    refine gm_getA ok 6 (pc' := 7) d_Mod_draftHasRoom_4 rfl q1971 rfl rfl ?_
    by_cases c1 : (M.2.1 6) ≤ v3
    · rw [if_pos c1] at hy
      refine g_icmp_geT (pc' := 45) d_Mod_draftHasRoom_7 c1 (by decide) ?_
      refine g_iconst (v := (1 : Int32)) (pc' := 46) d_Mod_draftHasRoom_45 (by decide) rfl ?_
      cases hy
      exact g_zret rfl rfl rfl (g_nar_z (Or.inr rfl)).1 d_Mod_draftHasRoom_46
    · rw [if_neg c1] at hy
      refine g_icmp_geF (pc' := 10) d_Mod_draftHasRoom_7 45 c1 (by decide) rfl ?_
      refine g_aload_n 0 (i := 0) (pc' := 11) d_Mod_draftHasRoom_10 rfl rfl rfl ?_
      refine g_aload_n 0 (i := 0) (pc' := 12) d_Mod_draftHasRoom_11 rfl rfl rfl ?_
      refine g_aload_n 0 (i := 0) (pc' := 13) d_Mod_draftHasRoom_12 rfl rfl rfl ?_
      refine gm_getA ok 5 (pc' := 16) d_Mod_draftHasRoom_13 rfl q1970 rfl rfl ?_
      refine g_iload_n 3 (i := 3) (pc' := 17) d_Mod_draftHasRoom_16 rfl rfl rfl ?_
      refine g_iconst (v := (1 : Int32)) (pc' := 18) d_Mod_draftHasRoom_17 (by decide) rfl ?_
      refine g_isub (pc' := 19) d_Mod_draftHasRoom_18 rfl ?_
      replace hy := g_mA_inv hy
      obtain ⟨x3, hc4, hy⟩ := hy
      refine gm_ald0 ok (pc' := 20) d_Mod_draftHasRoom_19 hc4 rfl ?_
      refine g_aload_n 0 (i := 0) (pc' := 21) d_Mod_draftHasRoom_20 rfl rfl rfl ?_
      refine gm_getA ok 5 (pc' := 24) d_Mod_draftHasRoom_21 rfl q1970 rfl rfl ?_
      refine g_iload_n 3 (i := 3) (pc' := 25) d_Mod_draftHasRoom_24 rfl rfl rfl ?_
      replace hy := g_mA_inv hy
      obtain ⟨x5, hc6, hy⟩ := hy
      refine gm_ald0 ok (pc' := 26) d_Mod_draftHasRoom_25 hc6 rfl ?_
      replace hy := g_b_inv hy
      obtain ⟨x7, hf9, hy⟩ := hy
      refine g_callV (rv := some (.int x7)) (h1 := (mH h0 a0 ad M)) (pc' := 29) (As := [.int x3, .int x5]) (rest := [.ref a0]) 2 (T_Mod_linkOf ok (hy := hf9)) d_Mod_draftHasRoom_26 (mH_look ok) rfl rfl q2150 q2152 qs44 q135 q2153 hd_Mod_linkOf rfl ⟨by decide, by decide⟩ (by first | exact Nat.le_of_ble_eq_true rfl | (simp only [List.map, List.sum_cons, List.sum_nil, g_cat_rf]; exact Nat.le_of_ble_eq_true rfl) | (simp only [List.map, List.sum_cons, List.sum_nil, g_cat_rf, Value.category]; decide)) rfl ?_
      refine g_iload_n 1 (i := 1) (pc' := 30) d_Mod_draftHasRoom_29 rfl rfl rfl ?_
      refine g_iload_n 2 (i := 2) (pc' := 31) d_Mod_draftHasRoom_30 rfl rfl rfl ?_
      replace hy := g_b_inv hy
      obtain ⟨x10, hf12, hy⟩ := hy
      refine g_callV (rv := some (.int x10)) (h1 := (mH h0 a0 ad M)) (pc' := 34) (As := [.int x7, .int v1, .int v2]) (rest := []) 3 (T_Mod_hasRoom ok (hy := hf12)) d_Mod_draftHasRoom_31 (mH_look ok) rfl rfl q2190 q2192 qs53 q135 q2193 hd_Mod_hasRoom rfl ⟨by decide, by decide⟩ (by first | exact Nat.le_of_ble_eq_true rfl | (simp only [List.map, List.sum_cons, List.sum_nil, g_cat_rf]; exact Nat.le_of_ble_eq_true rfl) | (simp only [List.map, List.sum_cons, List.sum_nil, g_cat_rf, Value.category]; decide)) rfl ?_
      by_cases c13 : x10 = 0
      · rw [if_pos c13] at hy
        refine g_if_neF (pc' := 37) d_Mod_draftHasRoom_34 39 c13 (by decide) rfl ?_
        refine g_iconst (v := (0 : Int32)) (pc' := 38) d_Mod_draftHasRoom_37 (by decide) rfl ?_
        cases hy
        exact g_zret rfl rfl rfl (g_nar_z (Or.inl rfl)).1 d_Mod_draftHasRoom_38
      · rw [if_neg c13] at hy
        refine g_if_neT (pc' := 39) d_Mod_draftHasRoom_34 c13 (by decide) ?_
        refine g_iinc 3 (v := (v3 + (1 : Int32))) (pc' := 42) (Lc' := [(3, .int (v3 + (1 : Int32))), (0, .ref a0), (1, .int v1), (2, .int v2)]) d_Mod_draftHasRoom_39 rfl rfl (by decide) rfl rfl ?_
        refine g_goto (pc' := 2) d_Mod_draftHasRoom_42 (by decide) ?_
        refine g_sub [1, 2, 3, 0] rfl ?_
        exact ih _ _ _ hy
def Mod_draftHasRoom (M : g_MD) (p0 : Int32) (p1 : Int32) : Option (Int32) :=
  Mod_draftHasRoom_2 M  gFU p0 p1 (1 : Int32)
set_option maxHeartbeats 4000000 in
set_option maxRecDepth 100000 in
theorem T_Mod_draftHasRoom {l : Launch} {B : g_B} {h0 : g_AH} {a0 : Nat} {ad : Nat → Nat} (ok : mOK a0 ad) (M : g_MD) (p0 : Int32) (p1 : Int32) (z : Int32) (hy : Mod_draftHasRoom M p0 p1 = some z) : g_CT l B y_Mod_draftHasRoom k_Mod_draftHasRoom [.ref a0, .int p0, .int p1] (mH h0 a0 ad M) (.inl (some (.int z))) (mH h0 a0 ad M) := by
  refine g_start2 (Lc := [(0, .ref a0), (1, .int p0), (2, .int p1)]) (by decide) rfl rfl (by exact Nat.le_of_ble_eq_true rfl) (by rfl) fun X => ?_
  unfold Mod_draftHasRoom at hy
  refine g_iconst (v := (1 : Int32)) (pc' := 1) d_Mod_draftHasRoom_0 (by decide) rfl ?_
  refine g_istore_n (i := 3) (pc' := 2) (Lc' := [(3, .int (1 : Int32)), (0, .ref a0), (1, .int p0), (2, .int p1)]) d_Mod_draftHasRoom_1 rfl (by decide) rfl rfl ?_
  refine g_sub [1, 2, 3, 0] rfl ?_
  exact W_Mod_draftHasRoom_2 ok _ _ _ _ _ _ hy
theorem hd_Mod_draftHasRoom : g_dsc y_Mod_draftHasRoom 2 := ⟨by decide +kernel, by decide +kernel, by decide +kernel⟩
/-! CircuitDeskModel.layDraft(III)Z -/
abbrev y_Mod_layDraft : MethodName := ⟨"CircuitDeskModel", "layDraft", "(III)Z"⟩
abbrev k_Mod_layDraft : g_M := (prog_17_method_77_code, 5, "CircuitDeskModel", 17, (some FieldType.boolean), "layDraft", [], 0)
theorem d_Mod_layDraft_0 : decode prog_17_method_77_code 0 = .ok (.aload_n 0, 1) := by decide +kernel
theorem d_Mod_layDraft_1 : decode prog_17_method_77_code 1 = .ok (.getfield 7, 3) := by decide +kernel
theorem d_Mod_layDraft_4 : decode prog_17_method_77_code 4 = .ok (.iload_n 1, 1) := by decide +kernel
theorem d_Mod_layDraft_5 : decode prog_17_method_77_code 5 = .ok (.iload_n 2, 1) := by decide +kernel
theorem d_Mod_layDraft_6 : decode prog_17_method_77_code 6 = .ok (.invokestatic 144, 3) := by decide +kernel
theorem d_Mod_layDraft_9 : decode prog_17_method_77_code 9 = .ok (.iconst 0, 1) := by decide +kernel
theorem d_Mod_layDraft_10 : decode prog_17_method_77_code 10 = .ok (.iastore, 1) := by decide +kernel
theorem d_Mod_layDraft_11 : decode prog_17_method_77_code 11 = .ok (.iconst 0, 1) := by decide +kernel
theorem d_Mod_layDraft_12 : decode prog_17_method_77_code 12 = .ok (.istore 4, 2) := by decide +kernel
theorem d_Mod_layDraft_14 : decode prog_17_method_77_code 14 = .ok (.iload 4, 2) := by decide +kernel
theorem d_Mod_layDraft_16 : decode prog_17_method_77_code 16 = .ok (.aload_n 0, 1) := by decide +kernel
theorem d_Mod_layDraft_17 : decode prog_17_method_77_code 17 = .ok (.getfield 198, 3) := by decide +kernel
theorem d_Mod_layDraft_20 : decode prog_17_method_77_code 20 = .ok (.if_icmp .ge 39, 3) := by decide +kernel
theorem d_Mod_layDraft_23 : decode prog_17_method_77_code 23 = .ok (.aload_n 0, 1) := by decide +kernel
theorem d_Mod_layDraft_24 : decode prog_17_method_77_code 24 = .ok (.iload_n 1, 1) := by decide +kernel
theorem d_Mod_layDraft_25 : decode prog_17_method_77_code 25 = .ok (.iload_n 2, 1) := by decide +kernel
theorem d_Mod_layDraft_26 : decode prog_17_method_77_code 26 = .ok (.aload_n 0, 1) := by decide +kernel
theorem d_Mod_layDraft_27 : decode prog_17_method_77_code 27 = .ok (.getfield 26, 3) := by decide +kernel
theorem d_Mod_layDraft_30 : decode prog_17_method_77_code 30 = .ok (.iload 4, 2) := by decide +kernel
theorem d_Mod_layDraft_32 : decode prog_17_method_77_code 32 = .ok (.iaload, 1) := by decide +kernel
theorem d_Mod_layDraft_33 : decode prog_17_method_77_code 33 = .ok (.iload_n 3, 1) := by decide +kernel
theorem d_Mod_layDraft_34 : decode prog_17_method_77_code 34 = .ok (.invokevirtual 156, 3) := by decide +kernel
theorem d_Mod_layDraft_37 : decode prog_17_method_77_code 37 = .ok (.ifCond .ne 16, 3) := by decide +kernel
theorem d_Mod_layDraft_40 : decode prog_17_method_77_code 40 = .ok (.aload_n 0, 1) := by decide +kernel
theorem d_Mod_layDraft_41 : decode prog_17_method_77_code 41 = .ok (.getfield 7, 3) := by decide +kernel
theorem d_Mod_layDraft_44 : decode prog_17_method_77_code 44 = .ok (.iload_n 1, 1) := by decide +kernel
theorem d_Mod_layDraft_45 : decode prog_17_method_77_code 45 = .ok (.iload_n 2, 1) := by decide +kernel
theorem d_Mod_layDraft_46 : decode prog_17_method_77_code 46 = .ok (.invokestatic 144, 3) := by decide +kernel
theorem d_Mod_layDraft_49 : decode prog_17_method_77_code 49 = .ok (.iconst 0, 1) := by decide +kernel
theorem d_Mod_layDraft_50 : decode prog_17_method_77_code 50 = .ok (.iastore, 1) := by decide +kernel
theorem d_Mod_layDraft_51 : decode prog_17_method_77_code 51 = .ok (.iconst 0, 1) := by decide +kernel
theorem d_Mod_layDraft_52 : decode prog_17_method_77_code 52 = .ok (.ireturn, 1) := by decide +kernel
theorem d_Mod_layDraft_53 : decode prog_17_method_77_code 53 = .ok (.iinc 4 1, 3) := by decide +kernel
theorem d_Mod_layDraft_56 : decode prog_17_method_77_code 56 = .ok (.goto (-42), 3) := by decide +kernel
theorem d_Mod_layDraft_59 : decode prog_17_method_77_code 59 = .ok (.iconst 1, 1) := by decide +kernel
theorem d_Mod_layDraft_60 : decode prog_17_method_77_code 60 = .ok (.ireturn, 1) := by decide +kernel
def Mod_layDraft_14  : Nat → g_MD → Int32 → Int32 → Int32 → Int32 → Option (Int32 × g_MD)
  | 0, _, _, _, _, _ => none
  | n + 1, M, v1, v2, v3, v4 => if (M.2.1 6) ≤ v4 then (some ((1 : Int32), M)) else (g_mA M 0 5 v4 fun x8 => g_bM (Mod_appendToWay M v1 v2 x8 v3) fun x10 M11 => if x10 = 0 then (g_b (Mod_wayPlace v1 v2) fun x14 => g_mS M11 0 0 x14 (0 : Int32) fun M17 => some ((0 : Int32), M17)) else ((Mod_layDraft_14  n) M11 v1 v2 v3 (v4 + (1 : Int32))))
set_option maxHeartbeats 4000000 in
set_option maxRecDepth 100000 in
theorem W_Mod_layDraft_14 {X : g_X} {h0 : g_AH} {a0 : Nat} {ad : Nat → Nat} (ok : mOK a0 ad) (z : Int32 × g_MD)  : ∀ (n : Nat) (M : g_MD) (v1 : Int32) (v2 : Int32) (v3 : Int32) (v4 : Int32), Mod_layDraft_14  n M v1 v2 v3 v4 = some z → G X k_Mod_layDraft (.inl (some (.int z.1))) (mH h0 a0 ad z.2) (mH h0 a0 ad M) 14 [(0, .ref a0), (1, .int v1), (2, .int v2), (3, .int v3), (4, .int v4)] [] := by
  intro n
  induction n with
  | zero => intro M v1 v2 v3 v4 hy; exact absurd hy (by simp [Mod_layDraft_14])
  | succ n ih =>
    intro M v1 v2 v3 v4 hy
    rw [Mod_layDraft_14] at hy
    refine g_iload 4 (pc' := 16) d_Mod_layDraft_14 rfl rfl ?_
    refine g_aload_n 0 (i := 0) (pc' := 17) d_Mod_layDraft_16 rfl rfl rfl ?_
    refine gm_getA ok 6 (pc' := 20) d_Mod_layDraft_17 rfl q1971 rfl rfl ?_
    by_cases c6 : (M.2.1 6) ≤ v4
    · rw [if_pos c6] at hy
      refine g_icmp_geT (pc' := 59) d_Mod_layDraft_20 c6 (by decide) ?_
      refine g_iconst (v := (1 : Int32)) (pc' := 60) d_Mod_layDraft_59 (by decide) rfl ?_
      cases hy
      exact g_zret rfl rfl rfl (g_nar_z (Or.inr rfl)).1 d_Mod_layDraft_60
    · rw [if_neg c6] at hy
      refine g_icmp_geF (pc' := 23) d_Mod_layDraft_20 59 c6 (by decide) rfl ?_
      refine g_aload_n 0 (i := 0) (pc' := 24) d_Mod_layDraft_23 rfl rfl rfl ?_
      refine g_iload_n 1 (i := 1) (pc' := 25) d_Mod_layDraft_24 rfl rfl rfl ?_
      refine g_iload_n 2 (i := 2) (pc' := 26) d_Mod_layDraft_25 rfl rfl rfl ?_
      refine g_aload_n 0 (i := 0) (pc' := 27) d_Mod_layDraft_26 rfl rfl rfl ?_
      refine gm_getA ok 5 (pc' := 30) d_Mod_layDraft_27 rfl q1970 rfl rfl ?_
      refine g_iload 4 (pc' := 32) d_Mod_layDraft_30 rfl rfl ?_
      replace hy := g_mA_inv hy
      obtain ⟨x8, hc9, hy⟩ := hy
      refine gm_ald0 ok (pc' := 33) d_Mod_layDraft_32 hc9 rfl ?_
      refine g_iload_n 3 (i := 3) (pc' := 34) d_Mod_layDraft_33 rfl rfl rfl ?_
      replace hy := g_bM_inv hy
      obtain ⟨x10, M11, hf12, hy⟩ := hy
      refine g_callV (rv := some (.int x10)) (h1 := (mH h0 a0 ad M11)) (pc' := 37) (As := [.int v1, .int v2, .int x8, .int v3]) (rest := []) 4 (T_Mod_appendToWay ok (hy := hf12)) d_Mod_layDraft_34 (mH_look ok) rfl rfl q2202 q2204 qs56 q135 q2205 hd_Mod_appendToWay rfl ⟨by decide, by decide⟩ (by first | exact Nat.le_of_ble_eq_true rfl | (simp only [List.map, List.sum_cons, List.sum_nil, g_cat_rf]; exact Nat.le_of_ble_eq_true rfl) | (simp only [List.map, List.sum_cons, List.sum_nil, g_cat_rf, Value.category]; decide)) rfl ?_
      by_cases c13 : x10 = 0
      · rw [if_pos c13] at hy
        refine g_if_neF (pc' := 40) d_Mod_layDraft_37 53 c13 (by decide) rfl ?_
        refine g_aload_n 0 (i := 0) (pc' := 41) d_Mod_layDraft_40 rfl rfl rfl ?_
        refine gm_getA ok 0 (pc' := 44) d_Mod_layDraft_41 rfl q1965 rfl rfl ?_
        refine g_iload_n 1 (i := 1) (pc' := 45) d_Mod_layDraft_44 rfl rfl rfl ?_
        refine g_iload_n 2 (i := 2) (pc' := 46) d_Mod_layDraft_45 rfl rfl rfl ?_
        replace hy := g_b_inv hy
        obtain ⟨x14, hf16, hy⟩ := hy
        refine g_callS (rv := some (.int x14)) (h1 := (mH h0 a0 ad M11)) (pc' := 49) (As := [.int v1, .int v2]) (rest := [.ref (ad 0)]) 2 (T_Mod_wayPlace (hy := hf16)) d_Mod_layDraft_46 q2179 q2180 q135 q2181 hd_Mod_wayPlace rfl ⟨by decide, by decide⟩ (by first | exact Nat.le_of_ble_eq_true rfl | (simp only [List.map, List.sum_cons, List.sum_nil, g_cat_rf]; exact Nat.le_of_ble_eq_true rfl) | (simp only [List.map, List.sum_cons, List.sum_nil, g_cat_rf, Value.category]; decide)) rfl ?_
        refine g_iconst (v := (0 : Int32)) (pc' := 50) d_Mod_layDraft_49 (by decide) rfl ?_
        replace hy := g_mS_inv hy
        obtain ⟨hc18, hy⟩ := hy
        refine gm_ast0 ok (pc' := 51) d_Mod_layDraft_50 hc18 rfl ?_
        generalize ms M11 0 (x14).toNatClampNeg (0 : Int32) = M17 at hy ⊢
        refine g_iconst (v := (0 : Int32)) (pc' := 52) d_Mod_layDraft_51 (by decide) rfl ?_
        cases hy
        exact g_zret rfl rfl rfl (g_nar_z (Or.inl rfl)).1 d_Mod_layDraft_52
      · rw [if_neg c13] at hy
        refine g_if_neT (pc' := 53) d_Mod_layDraft_37 c13 (by decide) ?_
        refine g_iinc 4 (v := (v4 + (1 : Int32))) (pc' := 56) (Lc' := [(4, .int (v4 + (1 : Int32))), (0, .ref a0), (1, .int v1), (2, .int v2), (3, .int v3)]) d_Mod_layDraft_53 rfl rfl (by decide) rfl rfl ?_
        refine g_goto (pc' := 14) d_Mod_layDraft_56 (by decide) ?_
        refine g_sub [1, 2, 3, 4, 0] rfl ?_
        exact ih _ _ _ _ _ hy
def Mod_layDraft (M : g_MD) (p0 : Int32) (p1 : Int32) (p2 : Int32) : Option (Int32 × g_MD) :=
  g_b (Mod_wayPlace p0 p1) fun x1 => g_mS M 0 0 x1 (0 : Int32) fun M4 => Mod_layDraft_14  gFU M4 p0 p1 p2 (0 : Int32)
set_option maxHeartbeats 4000000 in
set_option maxRecDepth 100000 in
theorem T_Mod_layDraft {l : Launch} {B : g_B} {h0 : g_AH} {a0 : Nat} {ad : Nat → Nat} (ok : mOK a0 ad) (M : g_MD) (p0 : Int32) (p1 : Int32) (p2 : Int32) (z : Int32 × g_MD) (hy : Mod_layDraft M p0 p1 p2 = some z) : g_CT l B y_Mod_layDraft k_Mod_layDraft [.ref a0, .int p0, .int p1, .int p2] (mH h0 a0 ad M) (.inl (some (.int z.1))) (mH h0 a0 ad z.2) := by
  refine g_start2 (Lc := [(0, .ref a0), (1, .int p0), (2, .int p1), (3, .int p2)]) (by decide) rfl rfl (by exact Nat.le_of_ble_eq_true rfl) (by rfl) fun X => ?_
  unfold Mod_layDraft at hy
  refine g_aload_n 0 (i := 0) (pc' := 1) d_Mod_layDraft_0 rfl rfl rfl ?_
  refine gm_getA ok 0 (pc' := 4) d_Mod_layDraft_1 rfl q1965 rfl rfl ?_
  refine g_iload_n 1 (i := 1) (pc' := 5) d_Mod_layDraft_4 rfl rfl rfl ?_
  refine g_iload_n 2 (i := 2) (pc' := 6) d_Mod_layDraft_5 rfl rfl rfl ?_
  replace hy := g_b_inv hy
  obtain ⟨x1, hf3, hy⟩ := hy
  refine g_callS (rv := some (.int x1)) (h1 := (mH h0 a0 ad M)) (pc' := 9) (As := [.int p0, .int p1]) (rest := [.ref (ad 0)]) 2 (T_Mod_wayPlace (hy := hf3)) d_Mod_layDraft_6 q2179 q2180 q135 q2181 hd_Mod_wayPlace rfl ⟨by decide, by decide⟩ (by first | exact Nat.le_of_ble_eq_true rfl | (simp only [List.map, List.sum_cons, List.sum_nil, g_cat_rf]; exact Nat.le_of_ble_eq_true rfl) | (simp only [List.map, List.sum_cons, List.sum_nil, g_cat_rf, Value.category]; decide)) rfl ?_
  refine g_iconst (v := (0 : Int32)) (pc' := 10) d_Mod_layDraft_9 (by decide) rfl ?_
  replace hy := g_mS_inv hy
  obtain ⟨hc5, hy⟩ := hy
  refine gm_ast0 ok (pc' := 11) d_Mod_layDraft_10 hc5 rfl ?_
  generalize ms M 0 (x1).toNatClampNeg (0 : Int32) = M4 at hy ⊢
  refine g_iconst (v := (0 : Int32)) (pc' := 12) d_Mod_layDraft_11 (by decide) rfl ?_
  refine g_istore (pc' := 14) (Lc' := [(4, .int (0 : Int32)), (0, .ref a0), (1, .int p0), (2, .int p1), (3, .int p2)]) d_Mod_layDraft_12 (by decide) rfl rfl ?_
  refine g_sub [1, 2, 3, 4, 0] rfl ?_
  exact W_Mod_layDraft_14 ok _ _ _ _ _ _ _ hy
theorem hd_Mod_layDraft : g_dsc y_Mod_layDraft 3 := ⟨by decide +kernel, by decide +kernel, by decide +kernel⟩
/-! CircuitDeskModel.open(II)I -/
abbrev y_Mod_open : MethodName := ⟨"CircuitDeskModel", "open", "(II)I"⟩
abbrev k_Mod_open : g_M := (prog_17_method_78_code, 4, "CircuitDeskModel", 18, (some FieldType.int), "open", [], 0)
theorem d_Mod_open_0 : decode prog_17_method_78_code 0 = .ok (.aload_n 0, 1) := by decide +kernel
theorem d_Mod_open_1 : decode prog_17_method_78_code 1 = .ok (.iconst 0, 1) := by decide +kernel
theorem d_Mod_open_2 : decode prog_17_method_78_code 2 = .ok (.putfield 51, 3) := by decide +kernel
theorem d_Mod_open_5 : decode prog_17_method_78_code 5 = .ok (.iload_n 1, 1) := by decide +kernel
theorem d_Mod_open_6 : decode prog_17_method_78_code 6 = .ok (.iconst 1, 1) := by decide +kernel
theorem d_Mod_open_7 : decode prog_17_method_78_code 7 = .ok (.bipush 20, 2) := by decide +kernel
theorem d_Mod_open_9 : decode prog_17_method_78_code 9 = .ok (.invokestatic 54, 3) := by decide +kernel
theorem d_Mod_open_12 : decode prog_17_method_78_code 12 = .ok (.ifCond .eq 13, 3) := by decide +kernel
theorem d_Mod_open_15 : decode prog_17_method_78_code 15 = .ok (.iload_n 2, 1) := by decide +kernel
theorem d_Mod_open_16 : decode prog_17_method_78_code 16 = .ok (.iconst 0, 1) := by decide +kernel
theorem d_Mod_open_17 : decode prog_17_method_78_code 17 = .ok (.bipush 9, 2) := by decide +kernel
theorem d_Mod_open_19 : decode prog_17_method_78_code 19 = .ok (.invokestatic 54, 3) := by decide +kernel
theorem d_Mod_open_22 : decode prog_17_method_78_code 22 = .ok (.ifCond .ne 9, 3) := by decide +kernel
theorem d_Mod_open_25 : decode prog_17_method_78_code 25 = .ok (.aload_n 0, 1) := by decide +kernel
theorem d_Mod_open_26 : decode prog_17_method_78_code 26 = .ok (.iconst 1, 1) := by decide +kernel
theorem d_Mod_open_27 : decode prog_17_method_78_code 27 = .ok (.invokevirtual 61, 3) := by decide +kernel
theorem d_Mod_open_30 : decode prog_17_method_78_code 30 = .ok (.ireturn, 1) := by decide +kernel
theorem d_Mod_open_31 : decode prog_17_method_78_code 31 = .ok (.aload_n 0, 1) := by decide +kernel
theorem d_Mod_open_32 : decode prog_17_method_78_code 32 = .ok (.getfield 7, 3) := by decide +kernel
theorem d_Mod_open_35 : decode prog_17_method_78_code 35 = .ok (.iconst 4, 1) := by decide +kernel
theorem d_Mod_open_36 : decode prog_17_method_78_code 36 = .ok (.iaload, 1) := by decide +kernel
theorem d_Mod_open_37 : decode prog_17_method_78_code 37 = .ok (.bipush 8, 2) := by decide +kernel
theorem d_Mod_open_39 : decode prog_17_method_78_code 39 = .ok (.if_icmp .ne 5, 3) := by decide +kernel
theorem d_Mod_open_42 : decode prog_17_method_78_code 42 = .ok (.iconst 1, 1) := by decide +kernel
theorem d_Mod_open_43 : decode prog_17_method_78_code 43 = .ok (.ireturn, 1) := by decide +kernel
theorem d_Mod_open_44 : decode prog_17_method_78_code 44 = .ok (.aload_n 0, 1) := by decide +kernel
theorem d_Mod_open_45 : decode prog_17_method_78_code 45 = .ok (.getfield 198, 3) := by decide +kernel
theorem d_Mod_open_48 : decode prog_17_method_78_code 48 = .ok (.iconst 2, 1) := by decide +kernel
theorem d_Mod_open_49 : decode prog_17_method_78_code 49 = .ok (.if_icmp .ge 5, 3) := by decide +kernel
theorem d_Mod_open_52 : decode prog_17_method_78_code 52 = .ok (.iconst 3, 1) := by decide +kernel
theorem d_Mod_open_53 : decode prog_17_method_78_code 53 = .ok (.ireturn, 1) := by decide +kernel
theorem d_Mod_open_54 : decode prog_17_method_78_code 54 = .ok (.aload_n 0, 1) := by decide +kernel
theorem d_Mod_open_55 : decode prog_17_method_78_code 55 = .ok (.iconst (-1), 1) := by decide +kernel
theorem d_Mod_open_56 : decode prog_17_method_78_code 56 = .ok (.iload_n 1, 1) := by decide +kernel
theorem d_Mod_open_57 : decode prog_17_method_78_code 57 = .ok (.invokevirtual 300, 3) := by decide +kernel
theorem d_Mod_open_60 : decode prog_17_method_78_code 60 = .ok (.ifCond .ne 5, 3) := by decide +kernel
theorem d_Mod_open_63 : decode prog_17_method_78_code 63 = .ok (.iconst 5, 1) := by decide +kernel
theorem d_Mod_open_64 : decode prog_17_method_78_code 64 = .ok (.ireturn, 1) := by decide +kernel
theorem d_Mod_open_65 : decode prog_17_method_78_code 65 = .ok (.aload_n 0, 1) := by decide +kernel
theorem d_Mod_open_66 : decode prog_17_method_78_code 66 = .ok (.iload_n 1, 1) := by decide +kernel
theorem d_Mod_open_67 : decode prog_17_method_78_code 67 = .ok (.iload_n 2, 1) := by decide +kernel
theorem d_Mod_open_68 : decode prog_17_method_78_code 68 = .ok (.invokevirtual 160, 3) := by decide +kernel
theorem d_Mod_open_71 : decode prog_17_method_78_code 71 = .ok (.istore_n 3, 1) := by decide +kernel
theorem d_Mod_open_72 : decode prog_17_method_78_code 72 = .ok (.aload_n 0, 1) := by decide +kernel
theorem d_Mod_open_73 : decode prog_17_method_78_code 73 = .ok (.iload_n 3, 1) := by decide +kernel
theorem d_Mod_open_74 : decode prog_17_method_78_code 74 = .ok (.iconst 0, 1) := by decide +kernel
theorem d_Mod_open_75 : decode prog_17_method_78_code 75 = .ok (.iconst 1, 1) := by decide +kernel
theorem d_Mod_open_76 : decode prog_17_method_78_code 76 = .ok (.invokevirtual 303, 3) := by decide +kernel
theorem d_Mod_open_79 : decode prog_17_method_78_code 79 = .ok (.ifCond .ne 16, 3) := by decide +kernel
theorem d_Mod_open_82 : decode prog_17_method_78_code 82 = .ok (.aload_n 0, 1) := by decide +kernel
theorem d_Mod_open_83 : decode prog_17_method_78_code 83 = .ok (.getfield 7, 3) := by decide +kernel
theorem d_Mod_open_86 : decode prog_17_method_78_code 86 = .ok (.iconst 4, 1) := by decide +kernel
theorem d_Mod_open_87 : decode prog_17_method_78_code 87 = .ok (.dup2, 1) := by decide +kernel
theorem d_Mod_open_88 : decode prog_17_method_78_code 88 = .ok (.iaload, 1) := by decide +kernel
theorem d_Mod_open_89 : decode prog_17_method_78_code 89 = .ok (.iconst 1, 1) := by decide +kernel
theorem d_Mod_open_90 : decode prog_17_method_78_code 90 = .ok (.isub, 1) := by decide +kernel
theorem d_Mod_open_91 : decode prog_17_method_78_code 91 = .ok (.iastore, 1) := by decide +kernel
theorem d_Mod_open_92 : decode prog_17_method_78_code 92 = .ok (.bipush 6, 2) := by decide +kernel
theorem d_Mod_open_94 : decode prog_17_method_78_code 94 = .ok (.ireturn, 1) := by decide +kernel
theorem d_Mod_open_95 : decode prog_17_method_78_code 95 = .ok (.aload_n 0, 1) := by decide +kernel
theorem d_Mod_open_96 : decode prog_17_method_78_code 96 = .ok (.iconst 0, 1) := by decide +kernel
theorem d_Mod_open_97 : decode prog_17_method_78_code 97 = .ok (.putfield 198, 3) := by decide +kernel
theorem d_Mod_open_100 : decode prog_17_method_78_code 100 = .ok (.iconst 0, 1) := by decide +kernel
theorem d_Mod_open_101 : decode prog_17_method_78_code 101 = .ok (.ireturn, 1) := by decide +kernel
def Mod_open_25 (M : g_MD) : Option (Int32 × g_MD) :=
  g_bM (Mod_fail M (1 : Int32)) fun x6 M7 => some (x6, M7)
set_option maxHeartbeats 4000000 in
set_option maxRecDepth 100000 in
theorem W_Mod_open_25 {X : g_X} {h0 : g_AH} {a0 : Nat} {ad : Nat → Nat} (ok : mOK a0 ad) (z : Int32 × g_MD) (M : g_MD) (hy : Mod_open_25  M = some z) : G X k_Mod_open (.inl (some (.int z.1))) (mH h0 a0 ad z.2) (mH h0 a0 ad M) 25 [(0, .ref a0)] [] := by
  unfold Mod_open_25 at hy
  refine g_aload_n 0 (i := 0) (pc' := 26) d_Mod_open_25 rfl rfl rfl ?_
  refine g_iconst (v := (1 : Int32)) (pc' := 27) d_Mod_open_26 (by decide) rfl ?_
  replace hy := g_bM_inv hy
  obtain ⟨x6, M7, hf8, hy⟩ := hy
  refine g_callV (rv := some (.int x6)) (h1 := (mH h0 a0 ad M7)) (pc' := 30) (As := [.int (1 : Int32)]) (rest := []) 1 (T_Mod_fail ok (hy := hf8)) d_Mod_open_27 (mH_look ok) rfl rfl q2061 q2063 qs31 q135 q2064 hd_Mod_fail rfl ⟨by decide, by decide⟩ (by first | exact Nat.le_of_ble_eq_true rfl | (simp only [List.map, List.sum_cons, List.sum_nil, g_cat_rf]; exact Nat.le_of_ble_eq_true rfl) | (simp only [List.map, List.sum_cons, List.sum_nil, g_cat_rf, Value.category]; decide)) rfl ?_
  cases hy
  exact g_iret rfl rfl rfl d_Mod_open_30
def Mod_open (M : g_MD) (p0 : Int32) (p1 : Int32) : Option (Int32 × g_MD) :=
  g_let (mp M 7 (0 : Int32)) fun M1 => g_b (Mod_isBetween p0 (1 : Int32) (20 : Int32)) fun x2 => if x2 = 0 then (Mod_open_25  M1) else (g_b (Mod_isBetween p1 (0 : Int32) (9 : Int32)) fun x9 => if x9 = 0 then (Mod_open_25  M1) else (g_mA M1 0 0 (4 : Int32) fun x13 => if x13 = (8 : Int32) then (some ((1 : Int32), M1)) else (if (2 : Int32) ≤ (M1.2.1 6) then (g_b (Mod_draftHasRoom M1 (-1 : Int32) p0) fun x17 => if x17 = 0 then (some ((5 : Int32), M1)) else (g_bM (Mod_appendCircuit M1 p0 p1) fun x21 M22 => g_bM (Mod_layDraft M22 x21 (0 : Int32) (1 : Int32)) fun x24 M25 => if x24 = 0 then (g_mA M25 0 0 (4 : Int32) fun x29 => g_mS M25 0 0 (4 : Int32) (x29 - (1 : Int32)) fun M31 => some ((6 : Int32), M31)) else (g_let (mp M25 6 (0 : Int32)) fun M28 => some ((0 : Int32), M28)))) else (some ((3 : Int32), M1)))))
set_option maxHeartbeats 4000000 in
set_option maxRecDepth 100000 in
theorem T_Mod_open {l : Launch} {B : g_B} {h0 : g_AH} {a0 : Nat} {ad : Nat → Nat} (ok : mOK a0 ad) (M : g_MD) (p0 : Int32) (p1 : Int32) (z : Int32 × g_MD) (hy : Mod_open M p0 p1 = some z) : g_CT l B y_Mod_open k_Mod_open [.ref a0, .int p0, .int p1] (mH h0 a0 ad M) (.inl (some (.int z.1))) (mH h0 a0 ad z.2) := by
  refine g_start2 (Lc := [(0, .ref a0), (1, .int p0), (2, .int p1)]) (by decide) rfl rfl (by exact Nat.le_of_ble_eq_true rfl) (by rfl) fun X => ?_
  unfold Mod_open at hy
  refine g_aload_n 0 (i := 0) (pc' := 1) d_Mod_open_0 rfl rfl rfl ?_
  refine g_iconst (v := (0 : Int32)) (pc' := 2) d_Mod_open_1 (by decide) rfl ?_
  replace hy := g_let_inv hy
  refine gm_put ok 7 (pc' := 5) d_Mod_open_2 rfl (by decide) q1972 rfl ?_
  generalize (mp M 7 (0 : Int32)) = M1 at hy ⊢
  refine g_iload_n 1 (i := 1) (pc' := 6) d_Mod_open_5 rfl rfl rfl ?_
  refine g_iconst (v := (1 : Int32)) (pc' := 7) d_Mod_open_6 (by decide) rfl ?_
  refine g_bipush (v := (20 : Int32)) (pc' := 9) d_Mod_open_7 (by decide) rfl ?_
  replace hy := g_b_inv hy
  obtain ⟨x2, hf4, hy⟩ := hy
  refine g_callS (rv := some (.int x2)) (h1 := (mH h0 a0 ad M1)) (pc' := 12) (As := [.int p0, .int (1 : Int32), .int (20 : Int32)]) (rest := []) 3 (T_Mod_isBetween (hy := hf4)) d_Mod_open_9 q2069 q2070 q135 q2071 hd_Mod_isBetween rfl ⟨by decide, by decide⟩ (by first | exact Nat.le_of_ble_eq_true rfl | (simp only [List.map, List.sum_cons, List.sum_nil, g_cat_rf]; exact Nat.le_of_ble_eq_true rfl) | (simp only [List.map, List.sum_cons, List.sum_nil, g_cat_rf, Value.category]; decide)) rfl ?_
  by_cases c5 : x2 = 0
  · rw [if_pos c5] at hy
    refine g_if_eqT (pc' := 25) d_Mod_open_12 c5 (by decide) ?_
    refine g_sub [0] rfl ?_
    exact W_Mod_open_25 ok _ _ hy
  · rw [if_neg c5] at hy
    refine g_if_eqF (pc' := 15) d_Mod_open_12 25 c5 (by decide) rfl ?_
    refine g_iload_n 2 (i := 2) (pc' := 16) d_Mod_open_15 rfl rfl rfl ?_
    refine g_iconst (v := (0 : Int32)) (pc' := 17) d_Mod_open_16 (by decide) rfl ?_
    refine g_bipush (v := (9 : Int32)) (pc' := 19) d_Mod_open_17 (by decide) rfl ?_
    replace hy := g_b_inv hy
    obtain ⟨x9, hf11, hy⟩ := hy
    refine g_callS (rv := some (.int x9)) (h1 := (mH h0 a0 ad M1)) (pc' := 22) (As := [.int p1, .int (0 : Int32), .int (9 : Int32)]) (rest := []) 3 (T_Mod_isBetween (hy := hf11)) d_Mod_open_19 q2069 q2070 q135 q2071 hd_Mod_isBetween rfl ⟨by decide, by decide⟩ (by first | exact Nat.le_of_ble_eq_true rfl | (simp only [List.map, List.sum_cons, List.sum_nil, g_cat_rf]; exact Nat.le_of_ble_eq_true rfl) | (simp only [List.map, List.sum_cons, List.sum_nil, g_cat_rf, Value.category]; decide)) rfl ?_
    by_cases c12 : x9 = 0
    · rw [if_pos c12] at hy
      refine g_if_neF (pc' := 25) d_Mod_open_22 31 c12 (by decide) rfl ?_
      refine g_sub [0] rfl ?_
      exact W_Mod_open_25 ok _ _ hy
    · rw [if_neg c12] at hy
      refine g_if_neT (pc' := 31) d_Mod_open_22 c12 (by decide) ?_
      refine g_aload_n 0 (i := 0) (pc' := 32) d_Mod_open_31 rfl rfl rfl ?_
      refine gm_getA ok 0 (pc' := 35) d_Mod_open_32 rfl q1965 rfl rfl ?_
      refine g_iconst (v := (4 : Int32)) (pc' := 36) d_Mod_open_35 (by decide) rfl ?_
      replace hy := g_mA_inv hy
      obtain ⟨x13, hc14, hy⟩ := hy
      refine gm_ald0 ok (pc' := 37) d_Mod_open_36 hc14 rfl ?_
      refine g_bipush (v := (8 : Int32)) (pc' := 39) d_Mod_open_37 (by decide) rfl ?_
      by_cases c15 : x13 = (8 : Int32)
      · rw [if_pos c15] at hy
        refine g_icmp_neF (pc' := 42) d_Mod_open_39 44 c15 (by decide) rfl ?_
        refine g_iconst (v := (1 : Int32)) (pc' := 43) d_Mod_open_42 (by decide) rfl ?_
        cases hy
        exact g_iret rfl rfl rfl d_Mod_open_43
      · rw [if_neg c15] at hy
        refine g_icmp_neT (pc' := 44) d_Mod_open_39 c15 (by decide) ?_
        refine g_aload_n 0 (i := 0) (pc' := 45) d_Mod_open_44 rfl rfl rfl ?_
        refine gm_getA ok 6 (pc' := 48) d_Mod_open_45 rfl q1971 rfl rfl ?_
        refine g_iconst (v := (2 : Int32)) (pc' := 49) d_Mod_open_48 (by decide) rfl ?_
        by_cases c16 : (2 : Int32) ≤ (M1.2.1 6)
        · rw [if_pos c16] at hy
          refine g_icmp_geT (pc' := 54) d_Mod_open_49 c16 (by decide) ?_
          refine g_aload_n 0 (i := 0) (pc' := 55) d_Mod_open_54 rfl rfl rfl ?_
          refine g_iconst (v := (-1 : Int32)) (pc' := 56) d_Mod_open_55 (by decide) rfl ?_
          refine g_iload_n 1 (i := 1) (pc' := 57) d_Mod_open_56 rfl rfl rfl ?_
          replace hy := g_b_inv hy
          obtain ⟨x17, hf19, hy⟩ := hy
          refine g_callV (rv := some (.int x17)) (h1 := (mH h0 a0 ad M1)) (pc' := 60) (As := [.int (-1 : Int32), .int p0]) (rest := []) 2 (T_Mod_draftHasRoom ok (hy := hf19)) d_Mod_open_57 (mH_look ok) rfl rfl q2363 q2365 qs81 q135 q2366 hd_Mod_draftHasRoom rfl ⟨by decide, by decide⟩ (by first | exact Nat.le_of_ble_eq_true rfl | (simp only [List.map, List.sum_cons, List.sum_nil, g_cat_rf]; exact Nat.le_of_ble_eq_true rfl) | (simp only [List.map, List.sum_cons, List.sum_nil, g_cat_rf, Value.category]; decide)) rfl ?_
          by_cases c20 : x17 = 0
          · rw [if_pos c20] at hy
            refine g_if_neF (pc' := 63) d_Mod_open_60 65 c20 (by decide) rfl ?_
            refine g_iconst (v := (5 : Int32)) (pc' := 64) d_Mod_open_63 (by decide) rfl ?_
            cases hy
            exact g_iret rfl rfl rfl d_Mod_open_64
          · rw [if_neg c20] at hy
            refine g_if_neT (pc' := 65) d_Mod_open_60 c20 (by decide) ?_
            refine g_aload_n 0 (i := 0) (pc' := 66) d_Mod_open_65 rfl rfl rfl ?_
            refine g_iload_n 1 (i := 1) (pc' := 67) d_Mod_open_66 rfl rfl rfl ?_
            refine g_iload_n 2 (i := 2) (pc' := 68) d_Mod_open_67 rfl rfl rfl ?_
            replace hy := g_bM_inv hy
            obtain ⟨x21, M22, hf23, hy⟩ := hy
            refine g_callV (rv := some (.int x21)) (h1 := (mH h0 a0 ad M22)) (pc' := 71) (As := [.int p0, .int p1]) (rest := []) 2 (T_Mod_appendCircuit ok (hy := hf23)) d_Mod_open_68 (mH_look ok) rfl rfl q2167 q2169 qs48 q135 q2170 hd_Mod_appendCircuit rfl ⟨by decide, by decide⟩ (by first | exact Nat.le_of_ble_eq_true rfl | (simp only [List.map, List.sum_cons, List.sum_nil, g_cat_rf]; exact Nat.le_of_ble_eq_true rfl) | (simp only [List.map, List.sum_cons, List.sum_nil, g_cat_rf, Value.category]; decide)) rfl ?_
            refine g_istore_n (i := 3) (pc' := 72) (Lc' := [(3, .int x21), (0, .ref a0), (1, .int p0), (2, .int p1)]) d_Mod_open_71 rfl (by decide) rfl rfl ?_
            refine g_aload_n 1 (i := 0) (pc' := 73) d_Mod_open_72 rfl rfl rfl ?_
            refine g_iload_n 0 (i := 3) (pc' := 74) d_Mod_open_73 rfl rfl rfl ?_
            refine g_iconst (v := (0 : Int32)) (pc' := 75) d_Mod_open_74 (by decide) rfl ?_
            refine g_iconst (v := (1 : Int32)) (pc' := 76) d_Mod_open_75 (by decide) rfl ?_
            replace hy := g_bM_inv hy
            obtain ⟨x24, M25, hf26, hy⟩ := hy
            refine g_callV (rv := some (.int x24)) (h1 := (mH h0 a0 ad M25)) (pc' := 79) (As := [.int x21, .int (0 : Int32), .int (1 : Int32)]) (rest := []) 3 (T_Mod_layDraft ok (hy := hf26)) d_Mod_open_76 (mH_look ok) rfl rfl q2367 q2369 qs82 q135 q2370 hd_Mod_layDraft rfl ⟨by decide, by decide⟩ (by first | exact Nat.le_of_ble_eq_true rfl | (simp only [List.map, List.sum_cons, List.sum_nil, g_cat_rf]; exact Nat.le_of_ble_eq_true rfl) | (simp only [List.map, List.sum_cons, List.sum_nil, g_cat_rf, Value.category]; decide)) rfl ?_
            by_cases c27 : x24 = 0
            · rw [if_pos c27] at hy
              refine g_if_neF (pc' := 82) d_Mod_open_79 95 c27 (by decide) rfl ?_
              refine g_aload_n 1 (i := 0) (pc' := 83) d_Mod_open_82 rfl rfl rfl ?_
              refine gm_getA ok 0 (pc' := 86) d_Mod_open_83 rfl q1965 rfl rfl ?_
              refine g_iconst (v := (4 : Int32)) (pc' := 87) d_Mod_open_86 (by decide) rfl ?_
              refine g_dup2 (pc' := 88) d_Mod_open_87 rfl rfl rfl ?_
              replace hy := g_mA_inv hy
              obtain ⟨x29, hc30, hy⟩ := hy
              refine gm_ald0 ok (pc' := 89) d_Mod_open_88 hc30 rfl ?_
              refine g_iconst (v := (1 : Int32)) (pc' := 90) d_Mod_open_89 (by decide) rfl ?_
              refine g_isub (pc' := 91) d_Mod_open_90 rfl ?_
              replace hy := g_mS_inv hy
              obtain ⟨hc32, hy⟩ := hy
              refine gm_ast0 ok (pc' := 92) d_Mod_open_91 hc32 rfl ?_
              generalize ms M25 0 ((4 : Int32)).toNatClampNeg (x29 - (1 : Int32)) = M31 at hy ⊢
              refine g_bipush (v := (6 : Int32)) (pc' := 94) d_Mod_open_92 (by decide) rfl ?_
              cases hy
              exact g_iret rfl rfl rfl d_Mod_open_94
            · rw [if_neg c27] at hy
              refine g_if_neT (pc' := 95) d_Mod_open_79 c27 (by decide) ?_
              refine g_aload_n 1 (i := 0) (pc' := 96) d_Mod_open_95 rfl rfl rfl ?_
              refine g_iconst (v := (0 : Int32)) (pc' := 97) d_Mod_open_96 (by decide) rfl ?_
              replace hy := g_let_inv hy
              refine gm_put ok 6 (pc' := 100) d_Mod_open_97 rfl (by decide) q1971 rfl ?_
              generalize (mp M25 6 (0 : Int32)) = M28 at hy ⊢
              refine g_iconst (v := (0 : Int32)) (pc' := 101) d_Mod_open_100 (by decide) rfl ?_
              cases hy
              exact g_iret rfl rfl rfl d_Mod_open_101
        · rw [if_neg c16] at hy
          refine g_icmp_geF (pc' := 52) d_Mod_open_49 54 c16 (by decide) rfl ?_
          refine g_iconst (v := (3 : Int32)) (pc' := 53) d_Mod_open_52 (by decide) rfl ?_
          cases hy
          exact g_iret rfl rfl rfl d_Mod_open_53
theorem hd_Mod_open : g_dsc y_Mod_open 2 := ⟨by decide +kernel, by decide +kernel, by decide +kernel⟩
/-! CircuitDeskModel.isCircuit(I)Z -/
abbrev y_Mod_isCircuit : MethodName := ⟨"CircuitDeskModel", "isCircuit", "(I)Z"⟩
abbrev k_Mod_isCircuit : g_M := (prog_17_method_9_code, 2, "CircuitDeskModel", 13, (some FieldType.boolean), "isCircuit", [], 0)
theorem d_Mod_isCircuit_0 : decode prog_17_method_9_code 0 = .ok (.iload_n 1, 1) := by decide +kernel
theorem d_Mod_isCircuit_1 : decode prog_17_method_9_code 1 = .ok (.iconst 0, 1) := by decide +kernel
theorem d_Mod_isCircuit_2 : decode prog_17_method_9_code 2 = .ok (.aload_n 0, 1) := by decide +kernel
theorem d_Mod_isCircuit_3 : decode prog_17_method_9_code 3 = .ok (.getfield 7, 3) := by decide +kernel
theorem d_Mod_isCircuit_6 : decode prog_17_method_9_code 6 = .ok (.iconst 4, 1) := by decide +kernel
theorem d_Mod_isCircuit_7 : decode prog_17_method_9_code 7 = .ok (.iaload, 1) := by decide +kernel
theorem d_Mod_isCircuit_8 : decode prog_17_method_9_code 8 = .ok (.iconst 1, 1) := by decide +kernel
theorem d_Mod_isCircuit_9 : decode prog_17_method_9_code 9 = .ok (.isub, 1) := by decide +kernel
theorem d_Mod_isCircuit_10 : decode prog_17_method_9_code 10 = .ok (.invokestatic 54, 3) := by decide +kernel
theorem d_Mod_isCircuit_13 : decode prog_17_method_9_code 13 = .ok (.ireturn, 1) := by decide +kernel
def Mod_isCircuit (M : g_MD) (p0 : Int32) : Option (Int32) :=
  g_mA M 0 0 (4 : Int32) fun x1 => g_b (Mod_isBetween p0 (0 : Int32) (x1 - (1 : Int32))) fun x3 => g_rq (x3 = 0 ∨ x3 = 1) <| some x3
set_option maxHeartbeats 4000000 in
set_option maxRecDepth 100000 in
theorem T_Mod_isCircuit {l : Launch} {B : g_B} {h0 : g_AH} {a0 : Nat} {ad : Nat → Nat} (ok : mOK a0 ad) (M : g_MD) (p0 : Int32) (z : Int32) (hy : Mod_isCircuit M p0 = some z) : g_CT l B y_Mod_isCircuit k_Mod_isCircuit [.ref a0, .int p0] (mH h0 a0 ad M) (.inl (some (.int z))) (mH h0 a0 ad M) := by
  refine g_start2 (Lc := [(0, .ref a0), (1, .int p0)]) (by decide) rfl rfl (by exact Nat.le_of_ble_eq_true rfl) (by rfl) fun X => ?_
  unfold Mod_isCircuit at hy
  refine g_iload_n 1 (i := 1) (pc' := 1) d_Mod_isCircuit_0 rfl rfl rfl ?_
  refine g_iconst (v := (0 : Int32)) (pc' := 2) d_Mod_isCircuit_1 (by decide) rfl ?_
  refine g_aload_n 0 (i := 0) (pc' := 3) d_Mod_isCircuit_2 rfl rfl rfl ?_
  refine gm_getA ok 0 (pc' := 6) d_Mod_isCircuit_3 rfl q1965 rfl rfl ?_
  refine g_iconst (v := (4 : Int32)) (pc' := 7) d_Mod_isCircuit_6 (by decide) rfl ?_
  replace hy := g_mA_inv hy
  obtain ⟨x1, hc2, hy⟩ := hy
  refine gm_ald0 ok (pc' := 8) d_Mod_isCircuit_7 hc2 rfl ?_
  refine g_iconst (v := (1 : Int32)) (pc' := 9) d_Mod_isCircuit_8 (by decide) rfl ?_
  refine g_isub (pc' := 10) d_Mod_isCircuit_9 rfl ?_
  replace hy := g_b_inv hy
  obtain ⟨x3, hf5, hy⟩ := hy
  refine g_callS (rv := some (.int x3)) (h1 := (mH h0 a0 ad M)) (pc' := 13) (As := [.int p0, .int (0 : Int32), .int (x1 - (1 : Int32))]) (rest := []) 3 (T_Mod_isBetween (hy := hf5)) d_Mod_isCircuit_10 q2069 q2070 q135 q2071 hd_Mod_isBetween rfl ⟨by decide, by decide⟩ (by first | exact Nat.le_of_ble_eq_true rfl | (simp only [List.map, List.sum_cons, List.sum_nil, g_cat_rf]; exact Nat.le_of_ble_eq_true rfl) | (simp only [List.map, List.sum_cons, List.sum_nil, g_cat_rf, Value.category]; decide)) rfl ?_
  replace hy := g_rq_inv hy
  obtain ⟨c6, hy⟩ := hy
  cases hy
  exact g_zret rfl rfl rfl (g_nar_z c6).1 d_Mod_isCircuit_13
theorem hd_Mod_isCircuit : g_dsc y_Mod_isCircuit 1 := ⟨by decide +kernel, by decide +kernel, by decide +kernel⟩
/-! CircuitDeskModel.packetsOf(I)I -/
abbrev y_Mod_packetsOf : MethodName := ⟨"CircuitDeskModel", "packetsOf", "(I)I"⟩
abbrev k_Mod_packetsOf : g_M := (prog_17_method_79_code, 4, "CircuitDeskModel", 13, (some FieldType.int), "packetsOf", [], 0)
theorem d_Mod_packetsOf_0 : decode prog_17_method_79_code 0 = .ok (.iconst 0, 1) := by decide +kernel
theorem d_Mod_packetsOf_1 : decode prog_17_method_79_code 1 = .ok (.istore_n 2, 1) := by decide +kernel
theorem d_Mod_packetsOf_2 : decode prog_17_method_79_code 2 = .ok (.iconst 0, 1) := by decide +kernel
theorem d_Mod_packetsOf_3 : decode prog_17_method_79_code 3 = .ok (.istore_n 3, 1) := by decide +kernel
theorem d_Mod_packetsOf_4 : decode prog_17_method_79_code 4 = .ok (.iload_n 3, 1) := by decide +kernel
theorem d_Mod_packetsOf_5 : decode prog_17_method_79_code 5 = .ok (.aload_n 0, 1) := by decide +kernel
theorem d_Mod_packetsOf_6 : decode prog_17_method_79_code 6 = .ok (.getfield 7, 3) := by decide +kernel
theorem d_Mod_packetsOf_9 : decode prog_17_method_79_code 9 = .ok (.bipush 6, 2) := by decide +kernel
theorem d_Mod_packetsOf_11 : decode prog_17_method_79_code 11 = .ok (.iaload, 1) := by decide +kernel
theorem d_Mod_packetsOf_12 : decode prog_17_method_79_code 12 = .ok (.if_icmp .ge 27, 3) := by decide +kernel
theorem d_Mod_packetsOf_15 : decode prog_17_method_79_code 15 = .ok (.iload_n 2, 1) := by decide +kernel
theorem d_Mod_packetsOf_16 : decode prog_17_method_79_code 16 = .ok (.aload_n 0, 1) := by decide +kernel
theorem d_Mod_packetsOf_17 : decode prog_17_method_79_code 17 = .ok (.iload_n 3, 1) := by decide +kernel
theorem d_Mod_packetsOf_18 : decode prog_17_method_79_code 18 = .ok (.iconst 0, 1) := by decide +kernel
theorem d_Mod_packetsOf_19 : decode prog_17_method_79_code 19 = .ok (.invokevirtual 217, 3) := by decide +kernel
theorem d_Mod_packetsOf_22 : decode prog_17_method_79_code 22 = .ok (.iload_n 1, 1) := by decide +kernel
theorem d_Mod_packetsOf_23 : decode prog_17_method_79_code 23 = .ok (.if_icmp .ne 7, 3) := by decide +kernel
theorem d_Mod_packetsOf_26 : decode prog_17_method_79_code 26 = .ok (.iconst 1, 1) := by decide +kernel
theorem d_Mod_packetsOf_27 : decode prog_17_method_79_code 27 = .ok (.goto 4, 3) := by decide +kernel
theorem d_Mod_packetsOf_30 : decode prog_17_method_79_code 30 = .ok (.iconst 0, 1) := by decide +kernel
theorem d_Mod_packetsOf_31 : decode prog_17_method_79_code 31 = .ok (.iadd, 1) := by decide +kernel
theorem d_Mod_packetsOf_32 : decode prog_17_method_79_code 32 = .ok (.istore_n 2, 1) := by decide +kernel
theorem d_Mod_packetsOf_33 : decode prog_17_method_79_code 33 = .ok (.iinc 3 1, 3) := by decide +kernel
theorem d_Mod_packetsOf_36 : decode prog_17_method_79_code 36 = .ok (.goto (-32), 3) := by decide +kernel
theorem d_Mod_packetsOf_39 : decode prog_17_method_79_code 39 = .ok (.iload_n 2, 1) := by decide +kernel
theorem d_Mod_packetsOf_40 : decode prog_17_method_79_code 40 = .ok (.ireturn, 1) := by decide +kernel
def Mod_packetsOf_31 (M : g_MD) (k4 : Int32 → Int32 → Int32 → Option (Int32)) (v1 : Int32) (v3 : Int32) (s0 : Int32) (s1 : Int32) : Option (Int32) :=
  k4 v1 (s1 + s0) (v3 + (1 : Int32))
set_option maxHeartbeats 4000000 in
set_option maxRecDepth 100000 in
theorem W_Mod_packetsOf_31 {X : g_X} {h0 : g_AH} {a0 : Nat} {ad : Nat → Nat} (ok : mOK a0 ad) (M : g_MD) (z : Int32) (k4 : Int32 → Int32 → Int32 → Option (Int32)) (hk4 : ∀ (v1 : Int32) (v2 : Int32) (v3 : Int32), k4 v1 v2 v3 = some z → G X k_Mod_packetsOf (.inl (some (.int z))) (mH h0 a0 ad M) (mH h0 a0 ad M) 4 [(0, .ref a0), (1, .int v1), (2, .int v2), (3, .int v3)] []) (v1 : Int32) (v3 : Int32) (s0 : Int32) (s1 : Int32) (hy : Mod_packetsOf_31 M k4 v1 v3 s0 s1 = some z) : G X k_Mod_packetsOf (.inl (some (.int z))) (mH h0 a0 ad M) (mH h0 a0 ad M) 31 [(0, .ref a0), (1, .int v1), (3, .int v3)] [.int s0, .int s1] := by
  unfold Mod_packetsOf_31 at hy
  refine g_iadd (pc' := 32) d_Mod_packetsOf_31 rfl ?_
  refine g_istore_n (i := 2) (pc' := 33) (Lc' := [(2, .int (s1 + s0)), (0, .ref a0), (1, .int v1), (3, .int v3)]) d_Mod_packetsOf_32 rfl (by decide) rfl rfl ?_
  refine g_iinc 3 (v := (v3 + (1 : Int32))) (pc' := 36) (Lc' := [(3, .int (v3 + (1 : Int32))), (2, .int (s1 + s0)), (0, .ref a0), (1, .int v1)]) d_Mod_packetsOf_33 rfl rfl (by decide) rfl rfl ?_
  refine g_goto (pc' := 4) d_Mod_packetsOf_36 (by decide) ?_
  refine g_sub [2, 3, 1, 0] rfl ?_
  exact hk4 _ _ _ hy
def Mod_packetsOf_4 (M : g_MD)  : Nat → Int32 → Int32 → Int32 → Option (Int32)
  | 0, _, _, _ => none
  | n + 1, v1, v2, v3 => g_mA M 0 0 (6 : Int32) fun x1 => if x1 ≤ v3 then (some v2) else (g_b (Mod_ofPacket M v3 (0 : Int32)) fun x4 => if x4 = v1 then (Mod_packetsOf_31 M (Mod_packetsOf_4 M  n) v1 v3 (1 : Int32) v2) else (Mod_packetsOf_31 M (Mod_packetsOf_4 M  n) v1 v3 (0 : Int32) v2))
set_option maxHeartbeats 4000000 in
set_option maxRecDepth 100000 in
theorem W_Mod_packetsOf_4 {X : g_X} {h0 : g_AH} {a0 : Nat} {ad : Nat → Nat} (ok : mOK a0 ad) (M : g_MD) (z : Int32)  : ∀ (n : Nat) (v1 : Int32) (v2 : Int32) (v3 : Int32), Mod_packetsOf_4 M  n v1 v2 v3 = some z → G X k_Mod_packetsOf (.inl (some (.int z))) (mH h0 a0 ad M) (mH h0 a0 ad M) 4 [(0, .ref a0), (1, .int v1), (2, .int v2), (3, .int v3)] [] := by
  intro n
  induction n with
  | zero => intro v1 v2 v3 hy; exact absurd hy (by simp [Mod_packetsOf_4])
  | succ n ih =>
    intro v1 v2 v3 hy
    rw [Mod_packetsOf_4] at hy
    refine g_iload_n 3 (i := 3) (pc' := 5) d_Mod_packetsOf_4 rfl rfl rfl ?_
    refine g_aload_n 0 (i := 0) (pc' := 6) d_Mod_packetsOf_5 rfl rfl rfl ?_
    refine gm_getA ok 0 (pc' := 9) d_Mod_packetsOf_6 rfl q1965 rfl rfl ?_
    refine g_bipush (v := (6 : Int32)) (pc' := 11) d_Mod_packetsOf_9 (by decide) rfl ?_
    replace hy := g_mA_inv hy
    obtain ⟨x1, hc2, hy⟩ := hy
    refine gm_ald0 ok (pc' := 12) d_Mod_packetsOf_11 hc2 rfl ?_
    by_cases c3 : x1 ≤ v3
    · rw [if_pos c3] at hy
      refine g_icmp_geT (pc' := 39) d_Mod_packetsOf_12 c3 (by decide) ?_
      refine g_iload_n 2 (i := 2) (pc' := 40) d_Mod_packetsOf_39 rfl rfl rfl ?_
      cases hy
      exact g_iret rfl rfl rfl d_Mod_packetsOf_40
    · rw [if_neg c3] at hy
      refine g_icmp_geF (pc' := 15) d_Mod_packetsOf_12 39 c3 (by decide) rfl ?_
      refine g_iload_n 2 (i := 2) (pc' := 16) d_Mod_packetsOf_15 rfl rfl rfl ?_
      refine g_aload_n 0 (i := 0) (pc' := 17) d_Mod_packetsOf_16 rfl rfl rfl ?_
      refine g_iload_n 3 (i := 3) (pc' := 18) d_Mod_packetsOf_17 rfl rfl rfl ?_
      refine g_iconst (v := (0 : Int32)) (pc' := 19) d_Mod_packetsOf_18 (by decide) rfl ?_
      replace hy := g_b_inv hy
      obtain ⟨x4, hf6, hy⟩ := hy
      refine g_callV (rv := some (.int x4)) (h1 := (mH h0 a0 ad M)) (pc' := 22) (As := [.int v3, .int (0 : Int32)]) (rest := [.int v2]) 2 (T_Mod_ofPacket ok (hy := hf6)) d_Mod_packetsOf_19 (mH_look ok) rfl rfl q2263 q2265 qs66 q135 q2266 hd_Mod_ofPacket rfl ⟨by decide, by decide⟩ (by first | exact Nat.le_of_ble_eq_true rfl | (simp only [List.map, List.sum_cons, List.sum_nil, g_cat_rf]; exact Nat.le_of_ble_eq_true rfl) | (simp only [List.map, List.sum_cons, List.sum_nil, g_cat_rf, Value.category]; decide)) rfl ?_
      refine g_iload_n 1 (i := 1) (pc' := 23) d_Mod_packetsOf_22 rfl rfl rfl ?_
      by_cases c7 : x4 = v1
      · rw [if_pos c7] at hy
        refine g_icmp_neF (pc' := 26) d_Mod_packetsOf_23 30 c7 (by decide) rfl ?_
        refine g_iconst (v := (1 : Int32)) (pc' := 27) d_Mod_packetsOf_26 (by decide) rfl ?_
        refine g_goto (pc' := 31) d_Mod_packetsOf_27 (by decide) ?_
        refine g_sub [0, 1, 3] rfl ?_
        exact W_Mod_packetsOf_31 ok _ _ _ ih _ _ _ _ hy
      · rw [if_neg c7] at hy
        refine g_icmp_neT (pc' := 30) d_Mod_packetsOf_23 c7 (by decide) ?_
        refine g_iconst (v := (0 : Int32)) (pc' := 31) d_Mod_packetsOf_30 (by decide) rfl ?_
        refine g_sub [0, 1, 3] rfl ?_
        exact W_Mod_packetsOf_31 ok _ _ _ ih _ _ _ _ hy
def Mod_packetsOf (M : g_MD) (p0 : Int32) : Option (Int32) :=
  Mod_packetsOf_4 M  gFU p0 (0 : Int32) (0 : Int32)
set_option maxHeartbeats 4000000 in
set_option maxRecDepth 100000 in
theorem T_Mod_packetsOf {l : Launch} {B : g_B} {h0 : g_AH} {a0 : Nat} {ad : Nat → Nat} (ok : mOK a0 ad) (M : g_MD) (p0 : Int32) (z : Int32) (hy : Mod_packetsOf M p0 = some z) : g_CT l B y_Mod_packetsOf k_Mod_packetsOf [.ref a0, .int p0] (mH h0 a0 ad M) (.inl (some (.int z))) (mH h0 a0 ad M) := by
  refine g_start2 (Lc := [(0, .ref a0), (1, .int p0)]) (by decide) rfl rfl (by exact Nat.le_of_ble_eq_true rfl) (by rfl) fun X => ?_
  unfold Mod_packetsOf at hy
  refine g_iconst (v := (0 : Int32)) (pc' := 1) d_Mod_packetsOf_0 (by decide) rfl ?_
  refine g_istore_n (i := 2) (pc' := 2) (Lc' := [(2, .int (0 : Int32)), (0, .ref a0), (1, .int p0)]) d_Mod_packetsOf_1 rfl (by decide) rfl rfl ?_
  refine g_iconst (v := (0 : Int32)) (pc' := 3) d_Mod_packetsOf_2 (by decide) rfl ?_
  refine g_istore_n (i := 3) (pc' := 4) (Lc' := [(3, .int (0 : Int32)), (2, .int (0 : Int32)), (0, .ref a0), (1, .int p0)]) d_Mod_packetsOf_3 rfl (by decide) rfl rfl ?_
  refine g_sub [2, 3, 1, 0] rfl ?_
  exact W_Mod_packetsOf_4 ok _ _ _ _ _ _ hy
theorem hd_Mod_packetsOf : g_dsc y_Mod_packetsOf 1 := ⟨by decide +kernel, by decide +kernel, by decide +kernel⟩
/-! CircuitDeskModel.close(I)I -/
abbrev y_Mod_close : MethodName := ⟨"CircuitDeskModel", "close", "(I)I"⟩
abbrev k_Mod_close : g_M := (prog_17_method_80_code, 3, "CircuitDeskModel", 14, (some FieldType.int), "close", [], 0)
theorem d_Mod_close_0 : decode prog_17_method_80_code 0 = .ok (.aload_n 0, 1) := by decide +kernel
theorem d_Mod_close_1 : decode prog_17_method_80_code 1 = .ok (.iconst 0, 1) := by decide +kernel
theorem d_Mod_close_2 : decode prog_17_method_80_code 2 = .ok (.putfield 51, 3) := by decide +kernel
theorem d_Mod_close_5 : decode prog_17_method_80_code 5 = .ok (.aload_n 0, 1) := by decide +kernel
theorem d_Mod_close_6 : decode prog_17_method_80_code 6 = .ok (.iload_n 1, 1) := by decide +kernel
theorem d_Mod_close_7 : decode prog_17_method_80_code 7 = .ok (.invokevirtual 306, 3) := by decide +kernel
theorem d_Mod_close_10 : decode prog_17_method_80_code 10 = .ok (.ifCond .ne 9, 3) := by decide +kernel
theorem d_Mod_close_13 : decode prog_17_method_80_code 13 = .ok (.aload_n 0, 1) := by decide +kernel
theorem d_Mod_close_14 : decode prog_17_method_80_code 14 = .ok (.iconst 1, 1) := by decide +kernel
theorem d_Mod_close_15 : decode prog_17_method_80_code 15 = .ok (.invokevirtual 61, 3) := by decide +kernel
theorem d_Mod_close_18 : decode prog_17_method_80_code 18 = .ok (.ireturn, 1) := by decide +kernel
theorem d_Mod_close_19 : decode prog_17_method_80_code 19 = .ok (.aload_n 0, 1) := by decide +kernel
theorem d_Mod_close_20 : decode prog_17_method_80_code 20 = .ok (.iload_n 1, 1) := by decide +kernel
theorem d_Mod_close_21 : decode prog_17_method_80_code 21 = .ok (.iconst 2, 1) := by decide +kernel
theorem d_Mod_close_22 : decode prog_17_method_80_code 22 = .ok (.invokevirtual 150, 3) := by decide +kernel
theorem d_Mod_close_25 : decode prog_17_method_80_code 25 = .ok (.ifCond .le 5, 3) := by decide +kernel
theorem d_Mod_close_28 : decode prog_17_method_80_code 28 = .ok (.iconst 2, 1) := by decide +kernel
theorem d_Mod_close_29 : decode prog_17_method_80_code 29 = .ok (.ireturn, 1) := by decide +kernel
theorem d_Mod_close_30 : decode prog_17_method_80_code 30 = .ok (.aload_n 0, 1) := by decide +kernel
theorem d_Mod_close_31 : decode prog_17_method_80_code 31 = .ok (.iload_n 1, 1) := by decide +kernel
theorem d_Mod_close_32 : decode prog_17_method_80_code 32 = .ok (.invokevirtual 309, 3) := by decide +kernel
theorem d_Mod_close_35 : decode prog_17_method_80_code 35 = .ok (.ifCond .gt 12, 3) := by decide +kernel
theorem d_Mod_close_38 : decode prog_17_method_80_code 38 = .ok (.aload_n 0, 1) := by decide +kernel
theorem d_Mod_close_39 : decode prog_17_method_80_code 39 = .ok (.iload_n 1, 1) := by decide +kernel
theorem d_Mod_close_40 : decode prog_17_method_80_code 40 = .ok (.iconst 5, 1) := by decide +kernel
theorem d_Mod_close_41 : decode prog_17_method_80_code 41 = .ok (.invokevirtual 150, 3) := by decide +kernel
theorem d_Mod_close_44 : decode prog_17_method_80_code 44 = .ok (.ifCond .le 6, 3) := by decide +kernel
theorem d_Mod_close_47 : decode prog_17_method_80_code 47 = .ok (.bipush 8, 2) := by decide +kernel
theorem d_Mod_close_49 : decode prog_17_method_80_code 49 = .ok (.ireturn, 1) := by decide +kernel
theorem d_Mod_close_50 : decode prog_17_method_80_code 50 = .ok (.aload_n 0, 1) := by decide +kernel
theorem d_Mod_close_51 : decode prog_17_method_80_code 51 = .ok (.getfield 7, 3) := by decide +kernel
theorem d_Mod_close_54 : decode prog_17_method_80_code 54 = .ok (.iconst 4, 1) := by decide +kernel
theorem d_Mod_close_55 : decode prog_17_method_80_code 55 = .ok (.dup2, 1) := by decide +kernel
theorem d_Mod_close_56 : decode prog_17_method_80_code 56 = .ok (.iaload, 1) := by decide +kernel
theorem d_Mod_close_57 : decode prog_17_method_80_code 57 = .ok (.iconst 1, 1) := by decide +kernel
theorem d_Mod_close_58 : decode prog_17_method_80_code 58 = .ok (.isub, 1) := by decide +kernel
theorem d_Mod_close_59 : decode prog_17_method_80_code 59 = .ok (.iastore, 1) := by decide +kernel
theorem d_Mod_close_60 : decode prog_17_method_80_code 60 = .ok (.bipush 104, 2) := by decide +kernel
theorem d_Mod_close_62 : decode prog_17_method_80_code 62 = .ok (.bipush 66, 2) := by decide +kernel
theorem d_Mod_close_64 : decode prog_17_method_80_code 64 = .ok (.iload_n 1, 1) := by decide +kernel
theorem d_Mod_close_65 : decode prog_17_method_80_code 65 = .ok (.imul, 1) := by decide +kernel
theorem d_Mod_close_66 : decode prog_17_method_80_code 66 = .ok (.iadd, 1) := by decide +kernel
theorem d_Mod_close_67 : decode prog_17_method_80_code 67 = .ok (.istore_n 2, 1) := by decide +kernel
theorem d_Mod_close_68 : decode prog_17_method_80_code 68 = .ok (.iload_n 2, 1) := by decide +kernel
theorem d_Mod_close_69 : decode prog_17_method_80_code 69 = .ok (.bipush 104, 2) := by decide +kernel
theorem d_Mod_close_71 : decode prog_17_method_80_code 71 = .ok (.bipush 66, 2) := by decide +kernel
theorem d_Mod_close_73 : decode prog_17_method_80_code 73 = .ok (.aload_n 0, 1) := by decide +kernel
theorem d_Mod_close_74 : decode prog_17_method_80_code 74 = .ok (.getfield 7, 3) := by decide +kernel
theorem d_Mod_close_77 : decode prog_17_method_80_code 77 = .ok (.iconst 4, 1) := by decide +kernel
theorem d_Mod_close_78 : decode prog_17_method_80_code 78 = .ok (.iaload, 1) := by decide +kernel
theorem d_Mod_close_79 : decode prog_17_method_80_code 79 = .ok (.imul, 1) := by decide +kernel
theorem d_Mod_close_80 : decode prog_17_method_80_code 80 = .ok (.iadd, 1) := by decide +kernel
theorem d_Mod_close_81 : decode prog_17_method_80_code 81 = .ok (.if_icmp .ge 24, 3) := by decide +kernel
theorem d_Mod_close_84 : decode prog_17_method_80_code 84 = .ok (.aload_n 0, 1) := by decide +kernel
theorem d_Mod_close_85 : decode prog_17_method_80_code 85 = .ok (.getfield 7, 3) := by decide +kernel
theorem d_Mod_close_88 : decode prog_17_method_80_code 88 = .ok (.iload_n 2, 1) := by decide +kernel
theorem d_Mod_close_89 : decode prog_17_method_80_code 89 = .ok (.aload_n 0, 1) := by decide +kernel
theorem d_Mod_close_90 : decode prog_17_method_80_code 90 = .ok (.getfield 7, 3) := by decide +kernel
theorem d_Mod_close_93 : decode prog_17_method_80_code 93 = .ok (.iload_n 2, 1) := by decide +kernel
theorem d_Mod_close_94 : decode prog_17_method_80_code 94 = .ok (.bipush 66, 2) := by decide +kernel
theorem d_Mod_close_96 : decode prog_17_method_80_code 96 = .ok (.iadd, 1) := by decide +kernel
theorem d_Mod_close_97 : decode prog_17_method_80_code 97 = .ok (.iaload, 1) := by decide +kernel
theorem d_Mod_close_98 : decode prog_17_method_80_code 98 = .ok (.iastore, 1) := by decide +kernel
theorem d_Mod_close_99 : decode prog_17_method_80_code 99 = .ok (.iinc 2 1, 3) := by decide +kernel
theorem d_Mod_close_102 : decode prog_17_method_80_code 102 = .ok (.goto (-34), 3) := by decide +kernel
theorem d_Mod_close_105 : decode prog_17_method_80_code 105 = .ok (.iconst 0, 1) := by decide +kernel
theorem d_Mod_close_106 : decode prog_17_method_80_code 106 = .ok (.istore_n 2, 1) := by decide +kernel
theorem d_Mod_close_107 : decode prog_17_method_80_code 107 = .ok (.iload_n 2, 1) := by decide +kernel
theorem d_Mod_close_108 : decode prog_17_method_80_code 108 = .ok (.aload_n 0, 1) := by decide +kernel
theorem d_Mod_close_109 : decode prog_17_method_80_code 109 = .ok (.getfield 7, 3) := by decide +kernel
theorem d_Mod_close_112 : decode prog_17_method_80_code 112 = .ok (.bipush 6, 2) := by decide +kernel
theorem d_Mod_close_114 : decode prog_17_method_80_code 114 = .ok (.iaload, 1) := by decide +kernel
theorem d_Mod_close_115 : decode prog_17_method_80_code 115 = .ok (.if_icmp .ge 40, 3) := by decide +kernel
theorem d_Mod_close_118 : decode prog_17_method_80_code 118 = .ok (.aload_n 0, 1) := by decide +kernel
theorem d_Mod_close_119 : decode prog_17_method_80_code 119 = .ok (.getfield 7, 3) := by decide +kernel
theorem d_Mod_close_122 : decode prog_17_method_80_code 122 = .ok (.sipush 632, 3) := by decide +kernel
theorem d_Mod_close_125 : decode prog_17_method_80_code 125 = .ok (.bipush 8, 2) := by decide +kernel
theorem d_Mod_close_127 : decode prog_17_method_80_code 127 = .ok (.iload_n 2, 1) := by decide +kernel
theorem d_Mod_close_128 : decode prog_17_method_80_code 128 = .ok (.imul, 1) := by decide +kernel
theorem d_Mod_close_129 : decode prog_17_method_80_code 129 = .ok (.iadd, 1) := by decide +kernel
theorem d_Mod_close_130 : decode prog_17_method_80_code 130 = .ok (.dup2, 1) := by decide +kernel
theorem d_Mod_close_131 : decode prog_17_method_80_code 131 = .ok (.iaload, 1) := by decide +kernel
theorem d_Mod_close_132 : decode prog_17_method_80_code 132 = .ok (.aload_n 0, 1) := by decide +kernel
theorem d_Mod_close_133 : decode prog_17_method_80_code 133 = .ok (.iload_n 2, 1) := by decide +kernel
theorem d_Mod_close_134 : decode prog_17_method_80_code 134 = .ok (.iconst 0, 1) := by decide +kernel
theorem d_Mod_close_135 : decode prog_17_method_80_code 135 = .ok (.invokevirtual 217, 3) := by decide +kernel
theorem d_Mod_close_138 : decode prog_17_method_80_code 138 = .ok (.iload_n 1, 1) := by decide +kernel
theorem d_Mod_close_139 : decode prog_17_method_80_code 139 = .ok (.if_icmp .le 7, 3) := by decide +kernel
theorem d_Mod_close_142 : decode prog_17_method_80_code 142 = .ok (.iconst 1, 1) := by decide +kernel
theorem d_Mod_close_143 : decode prog_17_method_80_code 143 = .ok (.goto 4, 3) := by decide +kernel
theorem d_Mod_close_146 : decode prog_17_method_80_code 146 = .ok (.iconst 0, 1) := by decide +kernel
theorem d_Mod_close_147 : decode prog_17_method_80_code 147 = .ok (.isub, 1) := by decide +kernel
theorem d_Mod_close_148 : decode prog_17_method_80_code 148 = .ok (.iastore, 1) := by decide +kernel
theorem d_Mod_close_149 : decode prog_17_method_80_code 149 = .ok (.iinc 2 1, 3) := by decide +kernel
theorem d_Mod_close_152 : decode prog_17_method_80_code 152 = .ok (.goto (-45), 3) := by decide +kernel
theorem d_Mod_close_155 : decode prog_17_method_80_code 155 = .ok (.iconst 0, 1) := by decide +kernel
theorem d_Mod_close_156 : decode prog_17_method_80_code 156 = .ok (.ireturn, 1) := by decide +kernel
def Mod_close_147 (k107 : g_MD → Int32 → Int32 → Option (Int32 × g_MD)) (M : g_MD) (v1 : Int32) (v2 : Int32) (s0 : Int32) (s1 : Int32) (s2 : Int32) (s3 : Nat) : Option (Int32 × g_MD) :=
  g_mS M 0 s3 s2 (s1 - s0) fun M34 => k107 M34 v1 (v2 + (1 : Int32))
set_option maxHeartbeats 4000000 in
set_option maxRecDepth 100000 in
theorem W_Mod_close_147 {X : g_X} {h0 : g_AH} {a0 : Nat} {ad : Nat → Nat} (ok : mOK a0 ad) (z : Int32 × g_MD) (k107 : g_MD → Int32 → Int32 → Option (Int32 × g_MD)) (hk107 : ∀ (M : g_MD) (v1 : Int32) (v2 : Int32), k107 M v1 v2 = some z → G X k_Mod_close (.inl (some (.int z.1))) (mH h0 a0 ad z.2) (mH h0 a0 ad M) 107 [(0, .ref a0), (1, .int v1), (2, .int v2)] []) (M : g_MD) (v1 : Int32) (v2 : Int32) (s0 : Int32) (s1 : Int32) (s2 : Int32) (s3 : Nat) (hy : Mod_close_147 k107 M v1 v2 s0 s1 s2 s3 = some z) : G X k_Mod_close (.inl (some (.int z.1))) (mH h0 a0 ad z.2) (mH h0 a0 ad M) 147 [(0, .ref a0), (1, .int v1), (2, .int v2)] [.int s0, .int s1, .int s2, .ref (ad s3)] := by
  unfold Mod_close_147 at hy
  refine g_isub (pc' := 148) d_Mod_close_147 rfl ?_
  replace hy := g_mS_inv hy
  obtain ⟨hc35, hy⟩ := hy
  refine gm_ast0 ok (pc' := 149) d_Mod_close_148 hc35 rfl ?_
  generalize ms M s3 (s2).toNatClampNeg (s1 - s0) = M34 at hy ⊢
  refine g_iinc 2 (v := (v2 + (1 : Int32))) (pc' := 152) (Lc' := [(2, .int (v2 + (1 : Int32))), (0, .ref a0), (1, .int v1)]) d_Mod_close_149 rfl rfl (by decide) rfl rfl ?_
  refine g_goto (pc' := 107) d_Mod_close_152 (by decide) ?_
  refine g_sub [1, 2, 0] rfl ?_
  exact hk107 _ _ _ hy
def Mod_close_107  : Nat → g_MD → Int32 → Int32 → Option (Int32 × g_MD)
  | 0, _, _, _ => none
  | n + 1, M, v1, v2 => g_mA M 0 0 (6 : Int32) fun x25 => if x25 ≤ v2 then (some ((0 : Int32), M)) else (g_mA M 0 0 ((632 : Int32) + ((8 : Int32) * v2)) fun x28 => g_b (Mod_ofPacket M v2 (0 : Int32)) fun x30 => if x30 ≤ v1 then (Mod_close_147 (Mod_close_107  n) M v1 v2 (0 : Int32) x28 ((632 : Int32) + ((8 : Int32) * v2)) 0) else (Mod_close_147 (Mod_close_107  n) M v1 v2 (1 : Int32) x28 ((632 : Int32) + ((8 : Int32) * v2)) 0))
set_option maxHeartbeats 4000000 in
set_option maxRecDepth 100000 in
theorem W_Mod_close_107 {X : g_X} {h0 : g_AH} {a0 : Nat} {ad : Nat → Nat} (ok : mOK a0 ad) (z : Int32 × g_MD)  : ∀ (n : Nat) (M : g_MD) (v1 : Int32) (v2 : Int32), Mod_close_107  n M v1 v2 = some z → G X k_Mod_close (.inl (some (.int z.1))) (mH h0 a0 ad z.2) (mH h0 a0 ad M) 107 [(0, .ref a0), (1, .int v1), (2, .int v2)] [] := by
  intro n
  induction n with
  | zero => intro M v1 v2 hy; exact absurd hy (by simp [Mod_close_107])
  | succ n ih =>
    intro M v1 v2 hy
    rw [Mod_close_107] at hy
    refine g_iload_n 2 (i := 2) (pc' := 108) d_Mod_close_107 rfl rfl rfl ?_
    refine g_aload_n 0 (i := 0) (pc' := 109) d_Mod_close_108 rfl rfl rfl ?_
    refine gm_getA ok 0 (pc' := 112) d_Mod_close_109 rfl q1965 rfl rfl ?_
    refine g_bipush (v := (6 : Int32)) (pc' := 114) d_Mod_close_112 (by decide) rfl ?_
    replace hy := g_mA_inv hy
    obtain ⟨x25, hc26, hy⟩ := hy
    refine gm_ald0 ok (pc' := 115) d_Mod_close_114 hc26 rfl ?_
    by_cases c27 : x25 ≤ v2
    · rw [if_pos c27] at hy
      refine g_icmp_geT (pc' := 155) d_Mod_close_115 c27 (by decide) ?_
      refine g_iconst (v := (0 : Int32)) (pc' := 156) d_Mod_close_155 (by decide) rfl ?_
      cases hy
      exact g_iret rfl rfl rfl d_Mod_close_156
    · rw [if_neg c27] at hy
      refine g_icmp_geF (pc' := 118) d_Mod_close_115 155 c27 (by decide) rfl ?_
      refine g_aload_n 0 (i := 0) (pc' := 119) d_Mod_close_118 rfl rfl rfl ?_
      refine gm_getA ok 0 (pc' := 122) d_Mod_close_119 rfl q1965 rfl rfl ?_
      refine g_sipush (v := (632 : Int32)) (pc' := 125) d_Mod_close_122 (by decide) rfl ?_
      refine g_bipush (v := (8 : Int32)) (pc' := 127) d_Mod_close_125 (by decide) rfl ?_
      refine g_iload_n 2 (i := 2) (pc' := 128) d_Mod_close_127 rfl rfl rfl ?_
      refine g_imul (pc' := 129) d_Mod_close_128 rfl ?_
      refine g_iadd (pc' := 130) d_Mod_close_129 rfl ?_
      refine g_dup2 (pc' := 131) d_Mod_close_130 rfl rfl rfl ?_
      replace hy := g_mA_inv hy
      obtain ⟨x28, hc29, hy⟩ := hy
      refine gm_ald0 ok (pc' := 132) d_Mod_close_131 hc29 rfl ?_
      refine g_aload_n 0 (i := 0) (pc' := 133) d_Mod_close_132 rfl rfl rfl ?_
      refine g_iload_n 2 (i := 2) (pc' := 134) d_Mod_close_133 rfl rfl rfl ?_
      refine g_iconst (v := (0 : Int32)) (pc' := 135) d_Mod_close_134 (by decide) rfl ?_
      replace hy := g_b_inv hy
      obtain ⟨x30, hf32, hy⟩ := hy
      refine g_callV (rv := some (.int x30)) (h1 := (mH h0 a0 ad M)) (pc' := 138) (As := [.int v2, .int (0 : Int32)]) (rest := [.int x28, .int ((632 : Int32) + ((8 : Int32) * v2)), .ref (ad 0)]) 2 (T_Mod_ofPacket ok (hy := hf32)) d_Mod_close_135 (mH_look ok) rfl rfl q2263 q2265 qs66 q135 q2266 hd_Mod_ofPacket rfl ⟨by decide, by decide⟩ (by first | exact Nat.le_of_ble_eq_true rfl | (simp only [List.map, List.sum_cons, List.sum_nil, g_cat_rf]; exact Nat.le_of_ble_eq_true rfl) | (simp only [List.map, List.sum_cons, List.sum_nil, g_cat_rf, Value.category]; decide)) rfl ?_
      refine g_iload_n 1 (i := 1) (pc' := 139) d_Mod_close_138 rfl rfl rfl ?_
      by_cases c33 : x30 ≤ v1
      · rw [if_pos c33] at hy
        refine g_icmp_leT (pc' := 146) d_Mod_close_139 c33 (by decide) ?_
        refine g_iconst (v := (0 : Int32)) (pc' := 147) d_Mod_close_146 (by decide) rfl ?_
        exact W_Mod_close_147 ok _ _ ih _ _ _ _ _ _ _ hy
      · rw [if_neg c33] at hy
        refine g_icmp_leF (pc' := 142) d_Mod_close_139 146 c33 (by decide) rfl ?_
        refine g_iconst (v := (1 : Int32)) (pc' := 143) d_Mod_close_142 (by decide) rfl ?_
        refine g_goto (pc' := 147) d_Mod_close_143 (by decide) ?_
        exact W_Mod_close_147 ok _ _ ih _ _ _ _ _ _ _ hy
def Mod_close_68  : Nat → g_MD → Int32 → Int32 → Option (Int32 × g_MD)
  | 0, _, _, _ => none
  | n + 1, M, v1, v2 => g_mA M 0 0 (4 : Int32) fun x22 => if ((104 : Int32) + ((66 : Int32) * x22)) ≤ v2 then (Mod_close_107  gFU M v1 (0 : Int32)) else (g_mA M 0 0 (v2 + (66 : Int32)) fun x36 => g_mS M 0 0 v2 x36 fun M38 => (Mod_close_68  n) M38 v1 (v2 + (1 : Int32)))
set_option maxHeartbeats 4000000 in
set_option maxRecDepth 100000 in
theorem W_Mod_close_68 {X : g_X} {h0 : g_AH} {a0 : Nat} {ad : Nat → Nat} (ok : mOK a0 ad) (z : Int32 × g_MD)  : ∀ (n : Nat) (M : g_MD) (v1 : Int32) (v2 : Int32), Mod_close_68  n M v1 v2 = some z → G X k_Mod_close (.inl (some (.int z.1))) (mH h0 a0 ad z.2) (mH h0 a0 ad M) 68 [(0, .ref a0), (1, .int v1), (2, .int v2)] [] := by
  intro n
  induction n with
  | zero => intro M v1 v2 hy; exact absurd hy (by simp [Mod_close_68])
  | succ n ih =>
    intro M v1 v2 hy
    rw [Mod_close_68] at hy
    refine g_iload_n 2 (i := 2) (pc' := 69) d_Mod_close_68 rfl rfl rfl ?_
    refine g_bipush (v := (104 : Int32)) (pc' := 71) d_Mod_close_69 (by decide) rfl ?_
    refine g_bipush (v := (66 : Int32)) (pc' := 73) d_Mod_close_71 (by decide) rfl ?_
    refine g_aload_n 0 (i := 0) (pc' := 74) d_Mod_close_73 rfl rfl rfl ?_
    refine gm_getA ok 0 (pc' := 77) d_Mod_close_74 rfl q1965 rfl rfl ?_
    refine g_iconst (v := (4 : Int32)) (pc' := 78) d_Mod_close_77 (by decide) rfl ?_
    replace hy := g_mA_inv hy
    obtain ⟨x22, hc23, hy⟩ := hy
    refine gm_ald0 ok (pc' := 79) d_Mod_close_78 hc23 rfl ?_
    refine g_imul (pc' := 80) d_Mod_close_79 rfl ?_
    refine g_iadd (pc' := 81) d_Mod_close_80 rfl ?_
    by_cases c24 : ((104 : Int32) + ((66 : Int32) * x22)) ≤ v2
    · rw [if_pos c24] at hy
      refine g_icmp_geT (pc' := 105) d_Mod_close_81 c24 (by decide) ?_
      refine g_iconst (v := (0 : Int32)) (pc' := 106) d_Mod_close_105 (by decide) rfl ?_
      refine g_istore_n (i := 2) (pc' := 107) (Lc' := [(2, .int (0 : Int32)), (0, .ref a0), (1, .int v1)]) d_Mod_close_106 rfl (by decide) rfl rfl ?_
      refine g_sub [1, 2, 0] rfl ?_
      exact W_Mod_close_107 ok _ _ _ _ _ hy
    · rw [if_neg c24] at hy
      refine g_icmp_geF (pc' := 84) d_Mod_close_81 105 c24 (by decide) rfl ?_
      refine g_aload_n 0 (i := 0) (pc' := 85) d_Mod_close_84 rfl rfl rfl ?_
      refine gm_getA ok 0 (pc' := 88) d_Mod_close_85 rfl q1965 rfl rfl ?_
      refine g_iload_n 2 (i := 2) (pc' := 89) d_Mod_close_88 rfl rfl rfl ?_
      refine g_aload_n 0 (i := 0) (pc' := 90) d_Mod_close_89 rfl rfl rfl ?_
      refine gm_getA ok 0 (pc' := 93) d_Mod_close_90 rfl q1965 rfl rfl ?_
      refine g_iload_n 2 (i := 2) (pc' := 94) d_Mod_close_93 rfl rfl rfl ?_
      refine g_bipush (v := (66 : Int32)) (pc' := 96) d_Mod_close_94 (by decide) rfl ?_
      refine g_iadd (pc' := 97) d_Mod_close_96 rfl ?_
      replace hy := g_mA_inv hy
      obtain ⟨x36, hc37, hy⟩ := hy
      refine gm_ald0 ok (pc' := 98) d_Mod_close_97 hc37 rfl ?_
      replace hy := g_mS_inv hy
      obtain ⟨hc39, hy⟩ := hy
      refine gm_ast0 ok (pc' := 99) d_Mod_close_98 hc39 rfl ?_
      generalize ms M 0 (v2).toNatClampNeg x36 = M38 at hy ⊢
      refine g_iinc 2 (v := (v2 + (1 : Int32))) (pc' := 102) (Lc' := [(2, .int (v2 + (1 : Int32))), (0, .ref a0), (1, .int v1)]) d_Mod_close_99 rfl rfl (by decide) rfl rfl ?_
      refine g_goto (pc' := 68) d_Mod_close_102 (by decide) ?_
      refine g_sub [1, 2, 0] rfl ?_
      exact ih _ _ _ hy
def Mod_close (M : g_MD) (p0 : Int32) : Option (Int32 × g_MD) :=
  g_let (mp M 7 (0 : Int32)) fun M1 => g_b (Mod_isCircuit M1 p0) fun x2 => if x2 = 0 then (g_bM (Mod_fail M1 (1 : Int32)) fun x40 M41 => some (x40, M41)) else (g_b (Mod_of M1 p0 (2 : Int32)) fun x6 => if x6 ≤ 0 then (g_b (Mod_packetsOf M1 p0) fun x10 => if 0 < x10 then (some ((8 : Int32), M1)) else (g_b (Mod_of M1 p0 (5 : Int32)) fun x14 => if x14 ≤ 0 then (g_mA M1 0 0 (4 : Int32) fun x18 => g_mS M1 0 0 (4 : Int32) (x18 - (1 : Int32)) fun M20 => Mod_close_68  gFU M20 p0 ((104 : Int32) + ((66 : Int32) * p0))) else (some ((8 : Int32), M1)))) else (some ((2 : Int32), M1)))
set_option maxHeartbeats 4000000 in
set_option maxRecDepth 100000 in
theorem T_Mod_close {l : Launch} {B : g_B} {h0 : g_AH} {a0 : Nat} {ad : Nat → Nat} (ok : mOK a0 ad) (M : g_MD) (p0 : Int32) (z : Int32 × g_MD) (hy : Mod_close M p0 = some z) : g_CT l B y_Mod_close k_Mod_close [.ref a0, .int p0] (mH h0 a0 ad M) (.inl (some (.int z.1))) (mH h0 a0 ad z.2) := by
  refine g_start2 (Lc := [(0, .ref a0), (1, .int p0)]) (by decide) rfl rfl (by exact Nat.le_of_ble_eq_true rfl) (by rfl) fun X => ?_
  unfold Mod_close at hy
  refine g_aload_n 0 (i := 0) (pc' := 1) d_Mod_close_0 rfl rfl rfl ?_
  refine g_iconst (v := (0 : Int32)) (pc' := 2) d_Mod_close_1 (by decide) rfl ?_
  replace hy := g_let_inv hy
  refine gm_put ok 7 (pc' := 5) d_Mod_close_2 rfl (by decide) q1972 rfl ?_
  generalize (mp M 7 (0 : Int32)) = M1 at hy ⊢
  refine g_aload_n 0 (i := 0) (pc' := 6) d_Mod_close_5 rfl rfl rfl ?_
  refine g_iload_n 1 (i := 1) (pc' := 7) d_Mod_close_6 rfl rfl rfl ?_
  replace hy := g_b_inv hy
  obtain ⟨x2, hf4, hy⟩ := hy
  refine g_callV (rv := some (.int x2)) (h1 := (mH h0 a0 ad M1)) (pc' := 10) (As := [.int p0]) (rest := []) 1 (T_Mod_isCircuit ok (hy := hf4)) d_Mod_close_7 (mH_look ok) rfl rfl q2375 q2377 qs83 q135 q2378 hd_Mod_isCircuit rfl ⟨by decide, by decide⟩ (by first | exact Nat.le_of_ble_eq_true rfl | (simp only [List.map, List.sum_cons, List.sum_nil, g_cat_rf]; exact Nat.le_of_ble_eq_true rfl) | (simp only [List.map, List.sum_cons, List.sum_nil, g_cat_rf, Value.category]; decide)) rfl ?_
  by_cases c5 : x2 = 0
  · rw [if_pos c5] at hy
    refine g_if_neF (pc' := 13) d_Mod_close_10 19 c5 (by decide) rfl ?_
    refine g_aload_n 0 (i := 0) (pc' := 14) d_Mod_close_13 rfl rfl rfl ?_
    refine g_iconst (v := (1 : Int32)) (pc' := 15) d_Mod_close_14 (by decide) rfl ?_
    replace hy := g_bM_inv hy
    obtain ⟨x40, M41, hf42, hy⟩ := hy
    refine g_callV (rv := some (.int x40)) (h1 := (mH h0 a0 ad M41)) (pc' := 18) (As := [.int (1 : Int32)]) (rest := []) 1 (T_Mod_fail ok (hy := hf42)) d_Mod_close_15 (mH_look ok) rfl rfl q2061 q2063 qs31 q135 q2064 hd_Mod_fail rfl ⟨by decide, by decide⟩ (by first | exact Nat.le_of_ble_eq_true rfl | (simp only [List.map, List.sum_cons, List.sum_nil, g_cat_rf]; exact Nat.le_of_ble_eq_true rfl) | (simp only [List.map, List.sum_cons, List.sum_nil, g_cat_rf, Value.category]; decide)) rfl ?_
    cases hy
    exact g_iret rfl rfl rfl d_Mod_close_18
  · rw [if_neg c5] at hy
    refine g_if_neT (pc' := 19) d_Mod_close_10 c5 (by decide) ?_
    refine g_aload_n 0 (i := 0) (pc' := 20) d_Mod_close_19 rfl rfl rfl ?_
    refine g_iload_n 1 (i := 1) (pc' := 21) d_Mod_close_20 rfl rfl rfl ?_
    refine g_iconst (v := (2 : Int32)) (pc' := 22) d_Mod_close_21 (by decide) rfl ?_
    replace hy := g_b_inv hy
    obtain ⟨x6, hf8, hy⟩ := hy
    refine g_callV (rv := some (.int x6)) (h1 := (mH h0 a0 ad M1)) (pc' := 25) (As := [.int p0, .int (2 : Int32)]) (rest := []) 2 (T_Mod_of ok (hy := hf8)) d_Mod_close_22 (mH_look ok) rfl rfl q2186 q2188 qs52 q135 q2189 hd_Mod_of rfl ⟨by decide, by decide⟩ (by first | exact Nat.le_of_ble_eq_true rfl | (simp only [List.map, List.sum_cons, List.sum_nil, g_cat_rf]; exact Nat.le_of_ble_eq_true rfl) | (simp only [List.map, List.sum_cons, List.sum_nil, g_cat_rf, Value.category]; decide)) rfl ?_
    by_cases c9 : x6 ≤ 0
    · rw [if_pos c9] at hy
      refine g_if_leT (pc' := 30) d_Mod_close_25 c9 (by decide) ?_
      refine g_aload_n 0 (i := 0) (pc' := 31) d_Mod_close_30 rfl rfl rfl ?_
      refine g_iload_n 1 (i := 1) (pc' := 32) d_Mod_close_31 rfl rfl rfl ?_
      replace hy := g_b_inv hy
      obtain ⟨x10, hf12, hy⟩ := hy
      refine g_callV (rv := some (.int x10)) (h1 := (mH h0 a0 ad M1)) (pc' := 35) (As := [.int p0]) (rest := []) 1 (T_Mod_packetsOf ok (hy := hf12)) d_Mod_close_32 (mH_look ok) rfl rfl q2379 q2381 qs84 q135 q2382 hd_Mod_packetsOf rfl ⟨by decide, by decide⟩ (by first | exact Nat.le_of_ble_eq_true rfl | (simp only [List.map, List.sum_cons, List.sum_nil, g_cat_rf]; exact Nat.le_of_ble_eq_true rfl) | (simp only [List.map, List.sum_cons, List.sum_nil, g_cat_rf, Value.category]; decide)) rfl ?_
      by_cases c13 : 0 < x10
      · rw [if_pos c13] at hy
        refine g_if_gtT (pc' := 47) d_Mod_close_35 c13 (by decide) ?_
        refine g_bipush (v := (8 : Int32)) (pc' := 49) d_Mod_close_47 (by decide) rfl ?_
        cases hy
        exact g_iret rfl rfl rfl d_Mod_close_49
      · rw [if_neg c13] at hy
        refine g_if_gtF (pc' := 38) d_Mod_close_35 47 c13 (by decide) rfl ?_
        refine g_aload_n 0 (i := 0) (pc' := 39) d_Mod_close_38 rfl rfl rfl ?_
        refine g_iload_n 1 (i := 1) (pc' := 40) d_Mod_close_39 rfl rfl rfl ?_
        refine g_iconst (v := (5 : Int32)) (pc' := 41) d_Mod_close_40 (by decide) rfl ?_
        replace hy := g_b_inv hy
        obtain ⟨x14, hf16, hy⟩ := hy
        refine g_callV (rv := some (.int x14)) (h1 := (mH h0 a0 ad M1)) (pc' := 44) (As := [.int p0, .int (5 : Int32)]) (rest := []) 2 (T_Mod_of ok (hy := hf16)) d_Mod_close_41 (mH_look ok) rfl rfl q2186 q2188 qs52 q135 q2189 hd_Mod_of rfl ⟨by decide, by decide⟩ (by first | exact Nat.le_of_ble_eq_true rfl | (simp only [List.map, List.sum_cons, List.sum_nil, g_cat_rf]; exact Nat.le_of_ble_eq_true rfl) | (simp only [List.map, List.sum_cons, List.sum_nil, g_cat_rf, Value.category]; decide)) rfl ?_
        by_cases c17 : x14 ≤ 0
        · rw [if_pos c17] at hy
          refine g_if_leT (pc' := 50) d_Mod_close_44 c17 (by decide) ?_
          refine g_aload_n 0 (i := 0) (pc' := 51) d_Mod_close_50 rfl rfl rfl ?_
          refine gm_getA ok 0 (pc' := 54) d_Mod_close_51 rfl q1965 rfl rfl ?_
          refine g_iconst (v := (4 : Int32)) (pc' := 55) d_Mod_close_54 (by decide) rfl ?_
          refine g_dup2 (pc' := 56) d_Mod_close_55 rfl rfl rfl ?_
          replace hy := g_mA_inv hy
          obtain ⟨x18, hc19, hy⟩ := hy
          refine gm_ald0 ok (pc' := 57) d_Mod_close_56 hc19 rfl ?_
          refine g_iconst (v := (1 : Int32)) (pc' := 58) d_Mod_close_57 (by decide) rfl ?_
          refine g_isub (pc' := 59) d_Mod_close_58 rfl ?_
          replace hy := g_mS_inv hy
          obtain ⟨hc21, hy⟩ := hy
          refine gm_ast0 ok (pc' := 60) d_Mod_close_59 hc21 rfl ?_
          generalize ms M1 0 ((4 : Int32)).toNatClampNeg (x18 - (1 : Int32)) = M20 at hy ⊢
          refine g_bipush (v := (104 : Int32)) (pc' := 62) d_Mod_close_60 (by decide) rfl ?_
          refine g_bipush (v := (66 : Int32)) (pc' := 64) d_Mod_close_62 (by decide) rfl ?_
          refine g_iload_n 1 (i := 1) (pc' := 65) d_Mod_close_64 rfl rfl rfl ?_
          refine g_imul (pc' := 66) d_Mod_close_65 rfl ?_
          refine g_iadd (pc' := 67) d_Mod_close_66 rfl ?_
          refine g_istore_n (i := 2) (pc' := 68) (Lc' := [(2, .int ((104 : Int32) + ((66 : Int32) * p0))), (0, .ref a0), (1, .int p0)]) d_Mod_close_67 rfl (by decide) rfl rfl ?_
          refine g_sub [1, 2, 0] rfl ?_
          exact W_Mod_close_68 ok _ _ _ _ _ hy
        · rw [if_neg c17] at hy
          refine g_if_leF (pc' := 47) d_Mod_close_44 50 c17 (by decide) rfl ?_
          refine g_bipush (v := (8 : Int32)) (pc' := 49) d_Mod_close_47 (by decide) rfl ?_
          cases hy
          exact g_iret rfl rfl rfl d_Mod_close_49
    · rw [if_neg c9] at hy
      refine g_if_leF (pc' := 28) d_Mod_close_25 30 c9 (by decide) rfl ?_
      refine g_iconst (v := (2 : Int32)) (pc' := 29) d_Mod_close_28 (by decide) rfl ?_
      cases hy
      exact g_iret rfl rfl rfl d_Mod_close_29
theorem hd_Mod_close : g_dsc y_Mod_close 1 := ⟨by decide +kernel, by decide +kernel, by decide +kernel⟩
/-! CircuitDeskModel.firstOf(I)I -/
abbrev y_Mod_firstOf : MethodName := ⟨"CircuitDeskModel", "firstOf", "(I)I"⟩
abbrev k_Mod_firstOf : g_M := (prog_17_method_81_code, 2, "CircuitDeskModel", 13, (some FieldType.int), "firstOf", [], 0)
theorem d_Mod_firstOf_0 : decode prog_17_method_81_code 0 = .ok (.aload_n 0, 1) := by decide +kernel
theorem d_Mod_firstOf_1 : decode prog_17_method_81_code 1 = .ok (.getfield 7, 3) := by decide +kernel
theorem d_Mod_firstOf_4 : decode prog_17_method_81_code 4 = .ok (.iload_n 1, 1) := by decide +kernel
theorem d_Mod_firstOf_5 : decode prog_17_method_81_code 5 = .ok (.iconst 0, 1) := by decide +kernel
theorem d_Mod_firstOf_6 : decode prog_17_method_81_code 6 = .ok (.invokestatic 144, 3) := by decide +kernel
theorem d_Mod_firstOf_9 : decode prog_17_method_81_code 9 = .ok (.iconst 1, 1) := by decide +kernel
theorem d_Mod_firstOf_10 : decode prog_17_method_81_code 10 = .ok (.iadd, 1) := by decide +kernel
theorem d_Mod_firstOf_11 : decode prog_17_method_81_code 11 = .ok (.iaload, 1) := by decide +kernel
theorem d_Mod_firstOf_12 : decode prog_17_method_81_code 12 = .ok (.ireturn, 1) := by decide +kernel
def Mod_firstOf (M : g_MD) (p0 : Int32) : Option (Int32) :=
  g_b (Mod_wayPlace p0 (0 : Int32)) fun x1 => g_mA M 0 0 (x1 + (1 : Int32)) fun x4 => some x4
set_option maxHeartbeats 4000000 in
set_option maxRecDepth 100000 in
theorem T_Mod_firstOf {l : Launch} {B : g_B} {h0 : g_AH} {a0 : Nat} {ad : Nat → Nat} (ok : mOK a0 ad) (M : g_MD) (p0 : Int32) (z : Int32) (hy : Mod_firstOf M p0 = some z) : g_CT l B y_Mod_firstOf k_Mod_firstOf [.ref a0, .int p0] (mH h0 a0 ad M) (.inl (some (.int z))) (mH h0 a0 ad M) := by
  refine g_start2 (Lc := [(0, .ref a0), (1, .int p0)]) (by decide) rfl rfl (by exact Nat.le_of_ble_eq_true rfl) (by rfl) fun X => ?_
  unfold Mod_firstOf at hy
  refine g_aload_n 0 (i := 0) (pc' := 1) d_Mod_firstOf_0 rfl rfl rfl ?_
  refine gm_getA ok 0 (pc' := 4) d_Mod_firstOf_1 rfl q1965 rfl rfl ?_
  refine g_iload_n 1 (i := 1) (pc' := 5) d_Mod_firstOf_4 rfl rfl rfl ?_
  refine g_iconst (v := (0 : Int32)) (pc' := 6) d_Mod_firstOf_5 (by decide) rfl ?_
  replace hy := g_b_inv hy
  obtain ⟨x1, hf3, hy⟩ := hy
  refine g_callS (rv := some (.int x1)) (h1 := (mH h0 a0 ad M)) (pc' := 9) (As := [.int p0, .int (0 : Int32)]) (rest := [.ref (ad 0)]) 2 (T_Mod_wayPlace (hy := hf3)) d_Mod_firstOf_6 q2179 q2180 q135 q2181 hd_Mod_wayPlace rfl ⟨by decide, by decide⟩ (by first | exact Nat.le_of_ble_eq_true rfl | (simp only [List.map, List.sum_cons, List.sum_nil, g_cat_rf]; exact Nat.le_of_ble_eq_true rfl) | (simp only [List.map, List.sum_cons, List.sum_nil, g_cat_rf, Value.category]; decide)) rfl ?_
  refine g_iconst (v := (1 : Int32)) (pc' := 10) d_Mod_firstOf_9 (by decide) rfl ?_
  refine g_iadd (pc' := 11) d_Mod_firstOf_10 rfl ?_
  replace hy := g_mA_inv hy
  obtain ⟨x4, hc5, hy⟩ := hy
  refine gm_ald0 ok (pc' := 12) d_Mod_firstOf_11 hc5 rfl ?_
  cases hy
  exact g_iret rfl rfl rfl d_Mod_firstOf_12
theorem hd_Mod_firstOf : g_dsc y_Mod_firstOf 1 := ⟨by decide +kernel, by decide +kernel, by decide +kernel⟩
/-! CircuitDeskModel.lastOf(I)I -/
abbrev y_Mod_lastOf : MethodName := ⟨"CircuitDeskModel", "lastOf", "(I)I"⟩
abbrev k_Mod_lastOf : g_M := (prog_17_method_82_code, 3, "CircuitDeskModel", 13, (some FieldType.int), "lastOf", [], 0)
theorem d_Mod_lastOf_0 : decode prog_17_method_82_code 0 = .ok (.iload_n 1, 1) := by decide +kernel
theorem d_Mod_lastOf_1 : decode prog_17_method_82_code 1 = .ok (.iconst 0, 1) := by decide +kernel
theorem d_Mod_lastOf_2 : decode prog_17_method_82_code 2 = .ok (.invokestatic 144, 3) := by decide +kernel
theorem d_Mod_lastOf_5 : decode prog_17_method_82_code 5 = .ok (.istore_n 2, 1) := by decide +kernel
theorem d_Mod_lastOf_6 : decode prog_17_method_82_code 6 = .ok (.aload_n 0, 1) := by decide +kernel
theorem d_Mod_lastOf_7 : decode prog_17_method_82_code 7 = .ok (.getfield 7, 3) := by decide +kernel
theorem d_Mod_lastOf_10 : decode prog_17_method_82_code 10 = .ok (.iload_n 2, 1) := by decide +kernel
theorem d_Mod_lastOf_11 : decode prog_17_method_82_code 11 = .ok (.iconst 1, 1) := by decide +kernel
theorem d_Mod_lastOf_12 : decode prog_17_method_82_code 12 = .ok (.iadd, 1) := by decide +kernel
theorem d_Mod_lastOf_13 : decode prog_17_method_82_code 13 = .ok (.aload_n 0, 1) := by decide +kernel
theorem d_Mod_lastOf_14 : decode prog_17_method_82_code 14 = .ok (.getfield 7, 3) := by decide +kernel
theorem d_Mod_lastOf_17 : decode prog_17_method_82_code 17 = .ok (.iload_n 2, 1) := by decide +kernel
theorem d_Mod_lastOf_18 : decode prog_17_method_82_code 18 = .ok (.iaload, 1) := by decide +kernel
theorem d_Mod_lastOf_19 : decode prog_17_method_82_code 19 = .ok (.iadd, 1) := by decide +kernel
theorem d_Mod_lastOf_20 : decode prog_17_method_82_code 20 = .ok (.iconst 1, 1) := by decide +kernel
theorem d_Mod_lastOf_21 : decode prog_17_method_82_code 21 = .ok (.isub, 1) := by decide +kernel
theorem d_Mod_lastOf_22 : decode prog_17_method_82_code 22 = .ok (.iaload, 1) := by decide +kernel
theorem d_Mod_lastOf_23 : decode prog_17_method_82_code 23 = .ok (.ireturn, 1) := by decide +kernel
def Mod_lastOf (M : g_MD) (p0 : Int32) : Option (Int32) :=
  g_b (Mod_wayPlace p0 (0 : Int32)) fun x1 => g_mA M 0 0 x1 fun x4 => g_mA M 0 0 (((x1 + (1 : Int32)) + x4) - (1 : Int32)) fun x6 => some x6
set_option maxHeartbeats 4000000 in
set_option maxRecDepth 100000 in
theorem T_Mod_lastOf {l : Launch} {B : g_B} {h0 : g_AH} {a0 : Nat} {ad : Nat → Nat} (ok : mOK a0 ad) (M : g_MD) (p0 : Int32) (z : Int32) (hy : Mod_lastOf M p0 = some z) : g_CT l B y_Mod_lastOf k_Mod_lastOf [.ref a0, .int p0] (mH h0 a0 ad M) (.inl (some (.int z))) (mH h0 a0 ad M) := by
  refine g_start2 (Lc := [(0, .ref a0), (1, .int p0)]) (by decide) rfl rfl (by exact Nat.le_of_ble_eq_true rfl) (by rfl) fun X => ?_
  unfold Mod_lastOf at hy
  refine g_iload_n 1 (i := 1) (pc' := 1) d_Mod_lastOf_0 rfl rfl rfl ?_
  refine g_iconst (v := (0 : Int32)) (pc' := 2) d_Mod_lastOf_1 (by decide) rfl ?_
  replace hy := g_b_inv hy
  obtain ⟨x1, hf3, hy⟩ := hy
  refine g_callS (rv := some (.int x1)) (h1 := (mH h0 a0 ad M)) (pc' := 5) (As := [.int p0, .int (0 : Int32)]) (rest := []) 2 (T_Mod_wayPlace (hy := hf3)) d_Mod_lastOf_2 q2179 q2180 q135 q2181 hd_Mod_wayPlace rfl ⟨by decide, by decide⟩ (by first | exact Nat.le_of_ble_eq_true rfl | (simp only [List.map, List.sum_cons, List.sum_nil, g_cat_rf]; exact Nat.le_of_ble_eq_true rfl) | (simp only [List.map, List.sum_cons, List.sum_nil, g_cat_rf, Value.category]; decide)) rfl ?_
  refine g_istore_n (i := 2) (pc' := 6) (Lc' := [(2, .int x1), (0, .ref a0), (1, .int p0)]) d_Mod_lastOf_5 rfl (by decide) rfl rfl ?_
  refine g_aload_n 1 (i := 0) (pc' := 7) d_Mod_lastOf_6 rfl rfl rfl ?_
  refine gm_getA ok 0 (pc' := 10) d_Mod_lastOf_7 rfl q1965 rfl rfl ?_
  refine g_iload_n 0 (i := 2) (pc' := 11) d_Mod_lastOf_10 rfl rfl rfl ?_
  refine g_iconst (v := (1 : Int32)) (pc' := 12) d_Mod_lastOf_11 (by decide) rfl ?_
  refine g_iadd (pc' := 13) d_Mod_lastOf_12 rfl ?_
  refine g_aload_n 1 (i := 0) (pc' := 14) d_Mod_lastOf_13 rfl rfl rfl ?_
  refine gm_getA ok 0 (pc' := 17) d_Mod_lastOf_14 rfl q1965 rfl rfl ?_
  refine g_iload_n 0 (i := 2) (pc' := 18) d_Mod_lastOf_17 rfl rfl rfl ?_
  replace hy := g_mA_inv hy
  obtain ⟨x4, hc5, hy⟩ := hy
  refine gm_ald0 ok (pc' := 19) d_Mod_lastOf_18 hc5 rfl ?_
  refine g_iadd (pc' := 20) d_Mod_lastOf_19 rfl ?_
  refine g_iconst (v := (1 : Int32)) (pc' := 21) d_Mod_lastOf_20 (by decide) rfl ?_
  refine g_isub (pc' := 22) d_Mod_lastOf_21 rfl ?_
  replace hy := g_mA_inv hy
  obtain ⟨x6, hc7, hy⟩ := hy
  refine gm_ald0 ok (pc' := 23) d_Mod_lastOf_22 hc7 rfl ?_
  cases hy
  exact g_iret rfl rfl rfl d_Mod_lastOf_23
theorem hd_Mod_lastOf : g_dsc y_Mod_lastOf 1 := ⟨by decide +kernel, by decide +kernel, by decide +kernel⟩
/-! CircuitDeskModel.isDraftWay(I)Z -/
abbrev y_Mod_isDraftWay : MethodName := ⟨"CircuitDeskModel", "isDraftWay", "(I)Z"⟩
abbrev k_Mod_isDraftWay : g_M := (prog_17_method_83_code, 5, "CircuitDeskModel", 13, (some FieldType.boolean), "isDraftWay", [], 0)
theorem d_Mod_isDraftWay_0 : decode prog_17_method_83_code 0 = .ok (.iload_n 1, 1) := by decide +kernel
theorem d_Mod_isDraftWay_1 : decode prog_17_method_83_code 1 = .ok (.iconst 0, 1) := by decide +kernel
theorem d_Mod_isDraftWay_2 : decode prog_17_method_83_code 2 = .ok (.invokestatic 144, 3) := by decide +kernel
theorem d_Mod_isDraftWay_5 : decode prog_17_method_83_code 5 = .ok (.istore_n 2, 1) := by decide +kernel
theorem d_Mod_isDraftWay_6 : decode prog_17_method_83_code 6 = .ok (.aload_n 0, 1) := by decide +kernel
theorem d_Mod_isDraftWay_7 : decode prog_17_method_83_code 7 = .ok (.getfield 7, 3) := by decide +kernel
theorem d_Mod_isDraftWay_10 : decode prog_17_method_83_code 10 = .ok (.iload_n 2, 1) := by decide +kernel
theorem d_Mod_isDraftWay_11 : decode prog_17_method_83_code 11 = .ok (.iaload, 1) := by decide +kernel
theorem d_Mod_isDraftWay_12 : decode prog_17_method_83_code 12 = .ok (.aload_n 0, 1) := by decide +kernel
theorem d_Mod_isDraftWay_13 : decode prog_17_method_83_code 13 = .ok (.getfield 198, 3) := by decide +kernel
theorem d_Mod_isDraftWay_16 : decode prog_17_method_83_code 16 = .ok (.if_icmp .ne 7, 3) := by decide +kernel
theorem d_Mod_isDraftWay_19 : decode prog_17_method_83_code 19 = .ok (.iconst 1, 1) := by decide +kernel
theorem d_Mod_isDraftWay_20 : decode prog_17_method_83_code 20 = .ok (.goto 4, 3) := by decide +kernel
theorem d_Mod_isDraftWay_23 : decode prog_17_method_83_code 23 = .ok (.iconst 0, 1) := by decide +kernel
theorem d_Mod_isDraftWay_24 : decode prog_17_method_83_code 24 = .ok (.istore_n 3, 1) := by decide +kernel
theorem d_Mod_isDraftWay_25 : decode prog_17_method_83_code 25 = .ok (.iconst 0, 1) := by decide +kernel
theorem d_Mod_isDraftWay_26 : decode prog_17_method_83_code 26 = .ok (.istore 4, 2) := by decide +kernel
theorem d_Mod_isDraftWay_28 : decode prog_17_method_83_code 28 = .ok (.iload 4, 2) := by decide +kernel
theorem d_Mod_isDraftWay_30 : decode prog_17_method_83_code 30 = .ok (.aload_n 0, 1) := by decide +kernel
theorem d_Mod_isDraftWay_31 : decode prog_17_method_83_code 31 = .ok (.getfield 198, 3) := by decide +kernel
theorem d_Mod_isDraftWay_34 : decode prog_17_method_83_code 34 = .ok (.if_icmp .ge 40, 3) := by decide +kernel
theorem d_Mod_isDraftWay_37 : decode prog_17_method_83_code 37 = .ok (.iload_n 3, 1) := by decide +kernel
theorem d_Mod_isDraftWay_38 : decode prog_17_method_83_code 38 = .ok (.ifCond .eq 36, 3) := by decide +kernel
theorem d_Mod_isDraftWay_41 : decode prog_17_method_83_code 41 = .ok (.aload_n 0, 1) := by decide +kernel
theorem d_Mod_isDraftWay_42 : decode prog_17_method_83_code 42 = .ok (.getfield 7, 3) := by decide +kernel
theorem d_Mod_isDraftWay_45 : decode prog_17_method_83_code 45 = .ok (.iload_n 2, 1) := by decide +kernel
theorem d_Mod_isDraftWay_46 : decode prog_17_method_83_code 46 = .ok (.iconst 1, 1) := by decide +kernel
theorem d_Mod_isDraftWay_47 : decode prog_17_method_83_code 47 = .ok (.iadd, 1) := by decide +kernel
theorem d_Mod_isDraftWay_48 : decode prog_17_method_83_code 48 = .ok (.iload 4, 2) := by decide +kernel
theorem d_Mod_isDraftWay_50 : decode prog_17_method_83_code 50 = .ok (.iadd, 1) := by decide +kernel
theorem d_Mod_isDraftWay_51 : decode prog_17_method_83_code 51 = .ok (.iaload, 1) := by decide +kernel
theorem d_Mod_isDraftWay_52 : decode prog_17_method_83_code 52 = .ok (.aload_n 0, 1) := by decide +kernel
theorem d_Mod_isDraftWay_53 : decode prog_17_method_83_code 53 = .ok (.getfield 26, 3) := by decide +kernel
theorem d_Mod_isDraftWay_56 : decode prog_17_method_83_code 56 = .ok (.iload 4, 2) := by decide +kernel
theorem d_Mod_isDraftWay_58 : decode prog_17_method_83_code 58 = .ok (.iaload, 1) := by decide +kernel
theorem d_Mod_isDraftWay_59 : decode prog_17_method_83_code 59 = .ok (.if_icmp .ne 7, 3) := by decide +kernel
theorem d_Mod_isDraftWay_62 : decode prog_17_method_83_code 62 = .ok (.iconst 1, 1) := by decide +kernel
theorem d_Mod_isDraftWay_63 : decode prog_17_method_83_code 63 = .ok (.goto 4, 3) := by decide +kernel
theorem d_Mod_isDraftWay_66 : decode prog_17_method_83_code 66 = .ok (.iconst 0, 1) := by decide +kernel
theorem d_Mod_isDraftWay_67 : decode prog_17_method_83_code 67 = .ok (.istore_n 3, 1) := by decide +kernel
theorem d_Mod_isDraftWay_68 : decode prog_17_method_83_code 68 = .ok (.iinc 4 1, 3) := by decide +kernel
theorem d_Mod_isDraftWay_71 : decode prog_17_method_83_code 71 = .ok (.goto (-43), 3) := by decide +kernel
theorem d_Mod_isDraftWay_74 : decode prog_17_method_83_code 74 = .ok (.iload_n 3, 1) := by decide +kernel
theorem d_Mod_isDraftWay_75 : decode prog_17_method_83_code 75 = .ok (.ireturn, 1) := by decide +kernel
def Mod_isDraftWay_67 (M : g_MD) (k28 : Int32 → Int32 → Int32 → Option (Int32)) (v2 : Int32) (v4 : Int32) (s0 : Int32) : Option (Int32) :=
  k28 v2 s0 (v4 + (1 : Int32))
set_option maxHeartbeats 4000000 in
set_option maxRecDepth 100000 in
theorem W_Mod_isDraftWay_67 {X : g_X} {h0 : g_AH} {a0 : Nat} {ad : Nat → Nat} (ok : mOK a0 ad) (M : g_MD) (z : Int32) (k28 : Int32 → Int32 → Int32 → Option (Int32)) (hk28 : ∀ (v2 : Int32) (v3 : Int32) (v4 : Int32), k28 v2 v3 v4 = some z → G X k_Mod_isDraftWay (.inl (some (.int z))) (mH h0 a0 ad M) (mH h0 a0 ad M) 28 [(0, .ref a0), (2, .int v2), (3, .int v3), (4, .int v4)] []) (v2 : Int32) (v4 : Int32) (s0 : Int32) (hy : Mod_isDraftWay_67 M k28 v2 v4 s0 = some z) : G X k_Mod_isDraftWay (.inl (some (.int z))) (mH h0 a0 ad M) (mH h0 a0 ad M) 67 [(0, .ref a0), (2, .int v2), (4, .int v4)] [.int s0] := by
  unfold Mod_isDraftWay_67 at hy
  refine g_istore_n (i := 3) (pc' := 68) (Lc' := [(3, .int s0), (0, .ref a0), (2, .int v2), (4, .int v4)]) d_Mod_isDraftWay_67 rfl (by decide) rfl rfl ?_
  refine g_iinc 3 (v := (v4 + (1 : Int32))) (pc' := 71) (Lc' := [(4, .int (v4 + (1 : Int32))), (3, .int s0), (0, .ref a0), (2, .int v2)]) d_Mod_isDraftWay_68 rfl rfl (by decide) rfl rfl ?_
  refine g_goto (pc' := 28) d_Mod_isDraftWay_71 (by decide) ?_
  refine g_sub [2, 3, 1, 0] rfl ?_
  exact hk28 _ _ _ hy
def Mod_isDraftWay_28 (M : g_MD)  : Nat → Int32 → Int32 → Int32 → Option (Int32)
  | 0, _, _, _ => none
  | n + 1, v2, v3, v4 => if (M.2.1 6) ≤ v4 then (g_rq (v3 = 0 ∨ v3 = 1) <| some v3) else (if v3 = 0 then (g_rq (v3 = 0 ∨ v3 = 1) <| some v3) else (g_mA M 0 0 ((v2 + (1 : Int32)) + v4) fun x11 => g_mA M 0 5 v4 fun x13 => if x11 = x13 then (Mod_isDraftWay_67 M (Mod_isDraftWay_28 M  n) v2 v4 (1 : Int32)) else (Mod_isDraftWay_67 M (Mod_isDraftWay_28 M  n) v2 v4 (0 : Int32))))
set_option maxHeartbeats 4000000 in
set_option maxRecDepth 100000 in
theorem W_Mod_isDraftWay_28 {X : g_X} {h0 : g_AH} {a0 : Nat} {ad : Nat → Nat} (ok : mOK a0 ad) (M : g_MD) (z : Int32)  : ∀ (n : Nat) (v2 : Int32) (v3 : Int32) (v4 : Int32), Mod_isDraftWay_28 M  n v2 v3 v4 = some z → G X k_Mod_isDraftWay (.inl (some (.int z))) (mH h0 a0 ad M) (mH h0 a0 ad M) 28 [(0, .ref a0), (2, .int v2), (3, .int v3), (4, .int v4)] [] := by
  intro n
  induction n with
  | zero => intro v2 v3 v4 hy; exact absurd hy (by simp [Mod_isDraftWay_28])
  | succ n ih =>
    intro v2 v3 v4 hy
    rw [Mod_isDraftWay_28] at hy
    refine g_iload 3 (pc' := 30) d_Mod_isDraftWay_28 rfl rfl ?_
    refine g_aload_n 0 (i := 0) (pc' := 31) d_Mod_isDraftWay_30 rfl rfl rfl ?_
    refine gm_getA ok 6 (pc' := 34) d_Mod_isDraftWay_31 rfl q1971 rfl rfl ?_
    by_cases c7 : (M.2.1 6) ≤ v4
    · rw [if_pos c7] at hy
      refine g_icmp_geT (pc' := 74) d_Mod_isDraftWay_34 c7 (by decide) ?_
      refine g_iload_n 2 (i := 3) (pc' := 75) d_Mod_isDraftWay_74 rfl rfl rfl ?_
      replace hy := g_rq_inv hy
      obtain ⟨c8, hy⟩ := hy
      cases hy
      exact g_zret rfl rfl rfl (g_nar_z c8).1 d_Mod_isDraftWay_75
    · rw [if_neg c7] at hy
      refine g_icmp_geF (pc' := 37) d_Mod_isDraftWay_34 74 c7 (by decide) rfl ?_
      refine g_iload_n 2 (i := 3) (pc' := 38) d_Mod_isDraftWay_37 rfl rfl rfl ?_
      by_cases c9 : v3 = 0
      · rw [if_pos c9] at hy
        refine g_if_eqT (pc' := 74) d_Mod_isDraftWay_38 c9 (by decide) ?_
        refine g_iload_n 2 (i := 3) (pc' := 75) d_Mod_isDraftWay_74 rfl rfl rfl ?_
        replace hy := g_rq_inv hy
        obtain ⟨c10, hy⟩ := hy
        cases hy
        exact g_zret rfl rfl rfl (g_nar_z c10).1 d_Mod_isDraftWay_75
      · rw [if_neg c9] at hy
        refine g_if_eqF (pc' := 41) d_Mod_isDraftWay_38 74 c9 (by decide) rfl ?_
        refine g_aload_n 0 (i := 0) (pc' := 42) d_Mod_isDraftWay_41 rfl rfl rfl ?_
        refine gm_getA ok 0 (pc' := 45) d_Mod_isDraftWay_42 rfl q1965 rfl rfl ?_
        refine g_iload_n 1 (i := 2) (pc' := 46) d_Mod_isDraftWay_45 rfl rfl rfl ?_
        refine g_iconst (v := (1 : Int32)) (pc' := 47) d_Mod_isDraftWay_46 (by decide) rfl ?_
        refine g_iadd (pc' := 48) d_Mod_isDraftWay_47 rfl ?_
        refine g_iload 3 (pc' := 50) d_Mod_isDraftWay_48 rfl rfl ?_
        refine g_iadd (pc' := 51) d_Mod_isDraftWay_50 rfl ?_
        replace hy := g_mA_inv hy
        obtain ⟨x11, hc12, hy⟩ := hy
        refine gm_ald0 ok (pc' := 52) d_Mod_isDraftWay_51 hc12 rfl ?_
        refine g_aload_n 0 (i := 0) (pc' := 53) d_Mod_isDraftWay_52 rfl rfl rfl ?_
        refine gm_getA ok 5 (pc' := 56) d_Mod_isDraftWay_53 rfl q1970 rfl rfl ?_
        refine g_iload 3 (pc' := 58) d_Mod_isDraftWay_56 rfl rfl ?_
        replace hy := g_mA_inv hy
        obtain ⟨x13, hc14, hy⟩ := hy
        refine gm_ald0 ok (pc' := 59) d_Mod_isDraftWay_58 hc14 rfl ?_
        by_cases c15 : x11 = x13
        · rw [if_pos c15] at hy
          refine g_icmp_neF (pc' := 62) d_Mod_isDraftWay_59 66 c15 (by decide) rfl ?_
          refine g_iconst (v := (1 : Int32)) (pc' := 63) d_Mod_isDraftWay_62 (by decide) rfl ?_
          refine g_goto (pc' := 67) d_Mod_isDraftWay_63 (by decide) ?_
          refine g_sub [0, 1, 3] rfl ?_
          exact W_Mod_isDraftWay_67 ok _ _ _ ih _ _ _ hy
        · rw [if_neg c15] at hy
          refine g_icmp_neT (pc' := 66) d_Mod_isDraftWay_59 c15 (by decide) ?_
          refine g_iconst (v := (0 : Int32)) (pc' := 67) d_Mod_isDraftWay_66 (by decide) rfl ?_
          refine g_sub [0, 1, 3] rfl ?_
          exact W_Mod_isDraftWay_67 ok _ _ _ ih _ _ _ hy
def Mod_isDraftWay_24 (M : g_MD) (v2 : Int32) (s0 : Int32) : Option (Int32) :=
  Mod_isDraftWay_28 M  gFU v2 s0 (0 : Int32)
set_option maxHeartbeats 4000000 in
set_option maxRecDepth 100000 in
theorem W_Mod_isDraftWay_24 {X : g_X} {h0 : g_AH} {a0 : Nat} {ad : Nat → Nat} (ok : mOK a0 ad) (M : g_MD) (z : Int32) (v2 : Int32) (s0 : Int32) (hy : Mod_isDraftWay_24 M  v2 s0 = some z) : G X k_Mod_isDraftWay (.inl (some (.int z))) (mH h0 a0 ad M) (mH h0 a0 ad M) 24 [(0, .ref a0), (2, .int v2)] [.int s0] := by
  unfold Mod_isDraftWay_24 at hy
  refine g_istore_n (i := 3) (pc' := 25) (Lc' := [(3, .int s0), (0, .ref a0), (2, .int v2)]) d_Mod_isDraftWay_24 rfl (by decide) rfl rfl ?_
  refine g_iconst (v := (0 : Int32)) (pc' := 26) d_Mod_isDraftWay_25 (by decide) rfl ?_
  refine g_istore (pc' := 28) (Lc' := [(4, .int (0 : Int32)), (3, .int s0), (0, .ref a0), (2, .int v2)]) d_Mod_isDraftWay_26 (by decide) rfl rfl ?_
  refine g_sub [2, 3, 1, 0] rfl ?_
  exact W_Mod_isDraftWay_28 ok _ _ _ _ _ _ hy
def Mod_isDraftWay (M : g_MD) (p0 : Int32) : Option (Int32) :=
  g_b (Mod_wayPlace p0 (0 : Int32)) fun x1 => g_mA M 0 0 x1 fun x4 => if x4 = (M.2.1 6) then (Mod_isDraftWay_24 M  x1 (1 : Int32)) else (Mod_isDraftWay_24 M  x1 (0 : Int32))
set_option maxHeartbeats 4000000 in
set_option maxRecDepth 100000 in
theorem T_Mod_isDraftWay {l : Launch} {B : g_B} {h0 : g_AH} {a0 : Nat} {ad : Nat → Nat} (ok : mOK a0 ad) (M : g_MD) (p0 : Int32) (z : Int32) (hy : Mod_isDraftWay M p0 = some z) : g_CT l B y_Mod_isDraftWay k_Mod_isDraftWay [.ref a0, .int p0] (mH h0 a0 ad M) (.inl (some (.int z))) (mH h0 a0 ad M) := by
  refine g_start2 (Lc := [(0, .ref a0), (1, .int p0)]) (by decide) rfl rfl (by exact Nat.le_of_ble_eq_true rfl) (by rfl) fun X => ?_
  unfold Mod_isDraftWay at hy
  refine g_iload_n 1 (i := 1) (pc' := 1) d_Mod_isDraftWay_0 rfl rfl rfl ?_
  refine g_iconst (v := (0 : Int32)) (pc' := 2) d_Mod_isDraftWay_1 (by decide) rfl ?_
  replace hy := g_b_inv hy
  obtain ⟨x1, hf3, hy⟩ := hy
  refine g_callS (rv := some (.int x1)) (h1 := (mH h0 a0 ad M)) (pc' := 5) (As := [.int p0, .int (0 : Int32)]) (rest := []) 2 (T_Mod_wayPlace (hy := hf3)) d_Mod_isDraftWay_2 q2179 q2180 q135 q2181 hd_Mod_wayPlace rfl ⟨by decide, by decide⟩ (by first | exact Nat.le_of_ble_eq_true rfl | (simp only [List.map, List.sum_cons, List.sum_nil, g_cat_rf]; exact Nat.le_of_ble_eq_true rfl) | (simp only [List.map, List.sum_cons, List.sum_nil, g_cat_rf, Value.category]; decide)) rfl ?_
  refine g_istore_n (i := 2) (pc' := 6) (Lc' := [(2, .int x1), (0, .ref a0), (1, .int p0)]) d_Mod_isDraftWay_5 rfl (by decide) rfl rfl ?_
  refine g_aload_n 1 (i := 0) (pc' := 7) d_Mod_isDraftWay_6 rfl rfl rfl ?_
  refine gm_getA ok 0 (pc' := 10) d_Mod_isDraftWay_7 rfl q1965 rfl rfl ?_
  refine g_iload_n 0 (i := 2) (pc' := 11) d_Mod_isDraftWay_10 rfl rfl rfl ?_
  replace hy := g_mA_inv hy
  obtain ⟨x4, hc5, hy⟩ := hy
  refine gm_ald0 ok (pc' := 12) d_Mod_isDraftWay_11 hc5 rfl ?_
  refine g_aload_n 1 (i := 0) (pc' := 13) d_Mod_isDraftWay_12 rfl rfl rfl ?_
  refine gm_getA ok 6 (pc' := 16) d_Mod_isDraftWay_13 rfl q1971 rfl rfl ?_
  by_cases c6 : x4 = (M.2.1 6)
  · rw [if_pos c6] at hy
    refine g_icmp_neF (pc' := 19) d_Mod_isDraftWay_16 23 c6 (by decide) rfl ?_
    refine g_iconst (v := (1 : Int32)) (pc' := 20) d_Mod_isDraftWay_19 (by decide) rfl ?_
    refine g_goto (pc' := 24) d_Mod_isDraftWay_20 (by decide) ?_
    refine g_sub [1, 0] rfl ?_
    exact W_Mod_isDraftWay_24 ok _ _ _ _ hy
  · rw [if_neg c6] at hy
    refine g_icmp_neT (pc' := 23) d_Mod_isDraftWay_16 c6 (by decide) ?_
    refine g_iconst (v := (0 : Int32)) (pc' := 24) d_Mod_isDraftWay_23 (by decide) rfl ?_
    refine g_sub [1, 0] rfl ?_
    exact W_Mod_isDraftWay_24 ok _ _ _ _ hy
theorem hd_Mod_isDraftWay : g_dsc y_Mod_isDraftWay 1 := ⟨by decide +kernel, by decide +kernel, by decide +kernel⟩
/-! CircuitDeskModel.moveToDraft(I)I -/
abbrev y_Mod_moveToDraft : MethodName := ⟨"CircuitDeskModel", "moveToDraft", "(I)I"⟩
abbrev k_Mod_moveToDraft : g_M := (prog_17_method_84_code, 2, "CircuitDeskModel", 18, (some FieldType.int), "moveToDraft", [], 0)
theorem d_Mod_moveToDraft_0 : decode prog_17_method_84_code 0 = .ok (.aload_n 0, 1) := by decide +kernel
theorem d_Mod_moveToDraft_1 : decode prog_17_method_84_code 1 = .ok (.iload_n 1, 1) := by decide +kernel
theorem d_Mod_moveToDraft_2 : decode prog_17_method_84_code 2 = .ok (.invokevirtual 312, 3) := by decide +kernel
theorem d_Mod_moveToDraft_5 : decode prog_17_method_84_code 5 = .ok (.ifCond .eq 5, 3) := by decide +kernel
theorem d_Mod_moveToDraft_8 : decode prog_17_method_84_code 8 = .ok (.iconst 4, 1) := by decide +kernel
theorem d_Mod_moveToDraft_9 : decode prog_17_method_84_code 9 = .ok (.ireturn, 1) := by decide +kernel
theorem d_Mod_moveToDraft_10 : decode prog_17_method_84_code 10 = .ok (.aload_n 0, 1) := by decide +kernel
theorem d_Mod_moveToDraft_11 : decode prog_17_method_84_code 11 = .ok (.iload_n 1, 1) := by decide +kernel
theorem d_Mod_moveToDraft_12 : decode prog_17_method_84_code 12 = .ok (.aload_n 0, 1) := by decide +kernel
theorem d_Mod_moveToDraft_13 : decode prog_17_method_84_code 13 = .ok (.iload_n 1, 1) := by decide +kernel
theorem d_Mod_moveToDraft_14 : decode prog_17_method_84_code 14 = .ok (.iconst 0, 1) := by decide +kernel
theorem d_Mod_moveToDraft_15 : decode prog_17_method_84_code 15 = .ok (.invokevirtual 150, 3) := by decide +kernel
theorem d_Mod_moveToDraft_18 : decode prog_17_method_84_code 18 = .ok (.invokevirtual 300, 3) := by decide +kernel
theorem d_Mod_moveToDraft_21 : decode prog_17_method_84_code 21 = .ok (.ifCond .ne 5, 3) := by decide +kernel
theorem d_Mod_moveToDraft_24 : decode prog_17_method_84_code 24 = .ok (.iconst 5, 1) := by decide +kernel
theorem d_Mod_moveToDraft_25 : decode prog_17_method_84_code 25 = .ok (.ireturn, 1) := by decide +kernel
theorem d_Mod_moveToDraft_26 : decode prog_17_method_84_code 26 = .ok (.aload_n 0, 1) := by decide +kernel
theorem d_Mod_moveToDraft_27 : decode prog_17_method_84_code 27 = .ok (.iload_n 1, 1) := by decide +kernel
theorem d_Mod_moveToDraft_28 : decode prog_17_method_84_code 28 = .ok (.iconst 1, 1) := by decide +kernel
theorem d_Mod_moveToDraft_29 : decode prog_17_method_84_code 29 = .ok (.iconst 0, 1) := by decide +kernel
theorem d_Mod_moveToDraft_30 : decode prog_17_method_84_code 30 = .ok (.invokevirtual 303, 3) := by decide +kernel
theorem d_Mod_moveToDraft_33 : decode prog_17_method_84_code 33 = .ok (.ifCond .ne 6, 3) := by decide +kernel
theorem d_Mod_moveToDraft_36 : decode prog_17_method_84_code 36 = .ok (.bipush 6, 2) := by decide +kernel
theorem d_Mod_moveToDraft_38 : decode prog_17_method_84_code 38 = .ok (.ireturn, 1) := by decide +kernel
theorem d_Mod_moveToDraft_39 : decode prog_17_method_84_code 39 = .ok (.aload_n 0, 1) := by decide +kernel
theorem d_Mod_moveToDraft_40 : decode prog_17_method_84_code 40 = .ok (.iload_n 1, 1) := by decide +kernel
theorem d_Mod_moveToDraft_41 : decode prog_17_method_84_code 41 = .ok (.iconst 2, 1) := by decide +kernel
theorem d_Mod_moveToDraft_42 : decode prog_17_method_84_code 42 = .ok (.iconst 1, 1) := by decide +kernel
theorem d_Mod_moveToDraft_43 : decode prog_17_method_84_code 43 = .ok (.invokevirtual 296, 3) := by decide +kernel
theorem d_Mod_moveToDraft_46 : decode prog_17_method_84_code 46 = .ok (.aload_n 0, 1) := by decide +kernel
theorem d_Mod_moveToDraft_47 : decode prog_17_method_84_code 47 = .ok (.iload_n 1, 1) := by decide +kernel
theorem d_Mod_moveToDraft_48 : decode prog_17_method_84_code 48 = .ok (.iconst 3, 1) := by decide +kernel
theorem d_Mod_moveToDraft_49 : decode prog_17_method_84_code 49 = .ok (.aload_n 0, 1) := by decide +kernel
theorem d_Mod_moveToDraft_50 : decode prog_17_method_84_code 50 = .ok (.getfield 198, 3) := by decide +kernel
theorem d_Mod_moveToDraft_53 : decode prog_17_method_84_code 53 = .ok (.iconst 1, 1) := by decide +kernel
theorem d_Mod_moveToDraft_54 : decode prog_17_method_84_code 54 = .ok (.isub, 1) := by decide +kernel
theorem d_Mod_moveToDraft_55 : decode prog_17_method_84_code 55 = .ok (.invokevirtual 296, 3) := by decide +kernel
theorem d_Mod_moveToDraft_58 : decode prog_17_method_84_code 58 = .ok (.iconst 0, 1) := by decide +kernel
theorem d_Mod_moveToDraft_59 : decode prog_17_method_84_code 59 = .ok (.ireturn, 1) := by decide +kernel
def Mod_moveToDraft (M : g_MD) (p0 : Int32) : Option (Int32 × g_MD) :=
  g_b (Mod_isDraftWay M p0) fun x1 => if x1 = 0 then (g_b (Mod_of M p0 (0 : Int32)) fun x5 => g_b (Mod_draftHasRoom M p0 x5) fun x8 => if x8 = 0 then (some ((5 : Int32), M)) else (g_bM (Mod_layDraft M p0 (1 : Int32) (0 : Int32)) fun x12 M13 => if x12 = 0 then (some ((6 : Int32), M13)) else (g_b (Mod_put M13 p0 (2 : Int32) (1 : Int32)) fun M17 => g_b (Mod_put M17 p0 (3 : Int32) ((M17.2.1 6) - (1 : Int32))) fun M20 => some ((0 : Int32), M20)))) else (some ((4 : Int32), M))
set_option maxHeartbeats 4000000 in
set_option maxRecDepth 100000 in
theorem T_Mod_moveToDraft {l : Launch} {B : g_B} {h0 : g_AH} {a0 : Nat} {ad : Nat → Nat} (ok : mOK a0 ad) (M : g_MD) (p0 : Int32) (z : Int32 × g_MD) (hy : Mod_moveToDraft M p0 = some z) : g_CT l B y_Mod_moveToDraft k_Mod_moveToDraft [.ref a0, .int p0] (mH h0 a0 ad M) (.inl (some (.int z.1))) (mH h0 a0 ad z.2) := by
  refine g_start2 (Lc := [(0, .ref a0), (1, .int p0)]) (by decide) rfl rfl (by exact Nat.le_of_ble_eq_true rfl) (by rfl) fun X => ?_
  unfold Mod_moveToDraft at hy
  refine g_aload_n 0 (i := 0) (pc' := 1) d_Mod_moveToDraft_0 rfl rfl rfl ?_
  refine g_iload_n 1 (i := 1) (pc' := 2) d_Mod_moveToDraft_1 rfl rfl rfl ?_
  replace hy := g_b_inv hy
  obtain ⟨x1, hf3, hy⟩ := hy
  refine g_callV (rv := some (.int x1)) (h1 := (mH h0 a0 ad M)) (pc' := 5) (As := [.int p0]) (rest := []) 1 (T_Mod_isDraftWay ok (hy := hf3)) d_Mod_moveToDraft_2 (mH_look ok) rfl rfl q2399 q2401 qs88 q135 q2402 hd_Mod_isDraftWay rfl ⟨by decide, by decide⟩ (by first | exact Nat.le_of_ble_eq_true rfl | (simp only [List.map, List.sum_cons, List.sum_nil, g_cat_rf]; exact Nat.le_of_ble_eq_true rfl) | (simp only [List.map, List.sum_cons, List.sum_nil, g_cat_rf, Value.category]; decide)) rfl ?_
  by_cases c4 : x1 = 0
  · rw [if_pos c4] at hy
    refine g_if_eqT (pc' := 10) d_Mod_moveToDraft_5 c4 (by decide) ?_
    refine g_aload_n 0 (i := 0) (pc' := 11) d_Mod_moveToDraft_10 rfl rfl rfl ?_
    refine g_iload_n 1 (i := 1) (pc' := 12) d_Mod_moveToDraft_11 rfl rfl rfl ?_
    refine g_aload_n 0 (i := 0) (pc' := 13) d_Mod_moveToDraft_12 rfl rfl rfl ?_
    refine g_iload_n 1 (i := 1) (pc' := 14) d_Mod_moveToDraft_13 rfl rfl rfl ?_
    refine g_iconst (v := (0 : Int32)) (pc' := 15) d_Mod_moveToDraft_14 (by decide) rfl ?_
    replace hy := g_b_inv hy
    obtain ⟨x5, hf7, hy⟩ := hy
    refine g_callV (rv := some (.int x5)) (h1 := (mH h0 a0 ad M)) (pc' := 18) (As := [.int p0, .int (0 : Int32)]) (rest := [.int p0, .ref a0]) 2 (T_Mod_of ok (hy := hf7)) d_Mod_moveToDraft_15 (mH_look ok) rfl rfl q2186 q2188 qs52 q135 q2189 hd_Mod_of rfl ⟨by decide, by decide⟩ (by first | exact Nat.le_of_ble_eq_true rfl | (simp only [List.map, List.sum_cons, List.sum_nil, g_cat_rf]; exact Nat.le_of_ble_eq_true rfl) | (simp only [List.map, List.sum_cons, List.sum_nil, g_cat_rf, Value.category]; decide)) rfl ?_
    replace hy := g_b_inv hy
    obtain ⟨x8, hf10, hy⟩ := hy
    refine g_callV (rv := some (.int x8)) (h1 := (mH h0 a0 ad M)) (pc' := 21) (As := [.int p0, .int x5]) (rest := []) 2 (T_Mod_draftHasRoom ok (hy := hf10)) d_Mod_moveToDraft_18 (mH_look ok) rfl rfl q2363 q2365 qs81 q135 q2366 hd_Mod_draftHasRoom rfl ⟨by decide, by decide⟩ (by first | exact Nat.le_of_ble_eq_true rfl | (simp only [List.map, List.sum_cons, List.sum_nil, g_cat_rf]; exact Nat.le_of_ble_eq_true rfl) | (simp only [List.map, List.sum_cons, List.sum_nil, g_cat_rf, Value.category]; decide)) rfl ?_
    by_cases c11 : x8 = 0
    · rw [if_pos c11] at hy
      refine g_if_neF (pc' := 24) d_Mod_moveToDraft_21 26 c11 (by decide) rfl ?_
      refine g_iconst (v := (5 : Int32)) (pc' := 25) d_Mod_moveToDraft_24 (by decide) rfl ?_
      cases hy
      exact g_iret rfl rfl rfl d_Mod_moveToDraft_25
    · rw [if_neg c11] at hy
      refine g_if_neT (pc' := 26) d_Mod_moveToDraft_21 c11 (by decide) ?_
      refine g_aload_n 0 (i := 0) (pc' := 27) d_Mod_moveToDraft_26 rfl rfl rfl ?_
      refine g_iload_n 1 (i := 1) (pc' := 28) d_Mod_moveToDraft_27 rfl rfl rfl ?_
      refine g_iconst (v := (1 : Int32)) (pc' := 29) d_Mod_moveToDraft_28 (by decide) rfl ?_
      refine g_iconst (v := (0 : Int32)) (pc' := 30) d_Mod_moveToDraft_29 (by decide) rfl ?_
      replace hy := g_bM_inv hy
      obtain ⟨x12, M13, hf14, hy⟩ := hy
      refine g_callV (rv := some (.int x12)) (h1 := (mH h0 a0 ad M13)) (pc' := 33) (As := [.int p0, .int (1 : Int32), .int (0 : Int32)]) (rest := []) 3 (T_Mod_layDraft ok (hy := hf14)) d_Mod_moveToDraft_30 (mH_look ok) rfl rfl q2367 q2369 qs82 q135 q2370 hd_Mod_layDraft rfl ⟨by decide, by decide⟩ (by first | exact Nat.le_of_ble_eq_true rfl | (simp only [List.map, List.sum_cons, List.sum_nil, g_cat_rf]; exact Nat.le_of_ble_eq_true rfl) | (simp only [List.map, List.sum_cons, List.sum_nil, g_cat_rf, Value.category]; decide)) rfl ?_
      by_cases c15 : x12 = 0
      · rw [if_pos c15] at hy
        refine g_if_neF (pc' := 36) d_Mod_moveToDraft_33 39 c15 (by decide) rfl ?_
        refine g_bipush (v := (6 : Int32)) (pc' := 38) d_Mod_moveToDraft_36 (by decide) rfl ?_
        cases hy
        exact g_iret rfl rfl rfl d_Mod_moveToDraft_38
      · rw [if_neg c15] at hy
        refine g_if_neT (pc' := 39) d_Mod_moveToDraft_33 c15 (by decide) ?_
        refine g_aload_n 0 (i := 0) (pc' := 40) d_Mod_moveToDraft_39 rfl rfl rfl ?_
        refine g_iload_n 1 (i := 1) (pc' := 41) d_Mod_moveToDraft_40 rfl rfl rfl ?_
        refine g_iconst (v := (2 : Int32)) (pc' := 42) d_Mod_moveToDraft_41 (by decide) rfl ?_
        refine g_iconst (v := (1 : Int32)) (pc' := 43) d_Mod_moveToDraft_42 (by decide) rfl ?_
        replace hy := g_b_inv hy
        obtain ⟨M17, hf18, hy⟩ := hy
        refine g_callV (rv := none) (h1 := (mH h0 a0 ad M17)) (pc' := 46) (As := [.int p0, .int (2 : Int32), .int (1 : Int32)]) (rest := []) 3 (T_Mod_put ok (hy := hf18)) d_Mod_moveToDraft_43 (mH_look ok) rfl rfl q2171 q2173 qs49 q135 q2174 hd_Mod_put rfl ⟨by decide, by decide⟩ (by first | exact Nat.le_of_ble_eq_true rfl | (simp only [List.map, List.sum_cons, List.sum_nil, g_cat_rf]; exact Nat.le_of_ble_eq_true rfl) | (simp only [List.map, List.sum_cons, List.sum_nil, g_cat_rf, Value.category]; decide)) rfl ?_
        refine g_aload_n 0 (i := 0) (pc' := 47) d_Mod_moveToDraft_46 rfl rfl rfl ?_
        refine g_iload_n 1 (i := 1) (pc' := 48) d_Mod_moveToDraft_47 rfl rfl rfl ?_
        refine g_iconst (v := (3 : Int32)) (pc' := 49) d_Mod_moveToDraft_48 (by decide) rfl ?_
        refine g_aload_n 0 (i := 0) (pc' := 50) d_Mod_moveToDraft_49 rfl rfl rfl ?_
        refine gm_getA ok 6 (pc' := 53) d_Mod_moveToDraft_50 rfl q1971 rfl rfl ?_
        refine g_iconst (v := (1 : Int32)) (pc' := 54) d_Mod_moveToDraft_53 (by decide) rfl ?_
        refine g_isub (pc' := 55) d_Mod_moveToDraft_54 rfl ?_
        replace hy := g_b_inv hy
        obtain ⟨M20, hf21, hy⟩ := hy
        refine g_callV (rv := none) (h1 := (mH h0 a0 ad M20)) (pc' := 58) (As := [.int p0, .int (3 : Int32), .int ((M17.2.1 6) - (1 : Int32))]) (rest := []) 3 (T_Mod_put ok (hy := hf21)) d_Mod_moveToDraft_55 (mH_look ok) rfl rfl q2171 q2173 qs49 q135 q2174 hd_Mod_put rfl ⟨by decide, by decide⟩ (by first | exact Nat.le_of_ble_eq_true rfl | (simp only [List.map, List.sum_cons, List.sum_nil, g_cat_rf]; exact Nat.le_of_ble_eq_true rfl) | (simp only [List.map, List.sum_cons, List.sum_nil, g_cat_rf, Value.category]; decide)) rfl ?_
        refine g_iconst (v := (0 : Int32)) (pc' := 59) d_Mod_moveToDraft_58 (by decide) rfl ?_
        cases hy
        exact g_iret rfl rfl rfl d_Mod_moveToDraft_59
  · rw [if_neg c4] at hy
    refine g_if_eqF (pc' := 8) d_Mod_moveToDraft_5 10 c4 (by decide) rfl ?_
    refine g_iconst (v := (4 : Int32)) (pc' := 9) d_Mod_moveToDraft_8 (by decide) rfl ?_
    cases hy
    exact g_iret rfl rfl rfl d_Mod_moveToDraft_9
theorem hd_Mod_moveToDraft : g_dsc y_Mod_moveToDraft 1 := ⟨by decide +kernel, by decide +kernel, by decide +kernel⟩
/-! CircuitDeskModel.move(I)I -/
abbrev y_Mod_move : MethodName := ⟨"CircuitDeskModel", "move", "(I)I"⟩
abbrev k_Mod_move : g_M := (prog_17_method_85_code, 3, "CircuitDeskModel", 19, (some FieldType.int), "move", [], 0)
theorem d_Mod_move_0 : decode prog_17_method_85_code 0 = .ok (.aload_n 0, 1) := by decide +kernel
theorem d_Mod_move_1 : decode prog_17_method_85_code 1 = .ok (.iconst 0, 1) := by decide +kernel
theorem d_Mod_move_2 : decode prog_17_method_85_code 2 = .ok (.putfield 51, 3) := by decide +kernel
theorem d_Mod_move_5 : decode prog_17_method_85_code 5 = .ok (.aload_n 0, 1) := by decide +kernel
theorem d_Mod_move_6 : decode prog_17_method_85_code 6 = .ok (.iload_n 1, 1) := by decide +kernel
theorem d_Mod_move_7 : decode prog_17_method_85_code 7 = .ok (.invokevirtual 306, 3) := by decide +kernel
theorem d_Mod_move_10 : decode prog_17_method_85_code 10 = .ok (.ifCond .ne 9, 3) := by decide +kernel
theorem d_Mod_move_13 : decode prog_17_method_85_code 13 = .ok (.aload_n 0, 1) := by decide +kernel
theorem d_Mod_move_14 : decode prog_17_method_85_code 14 = .ok (.iconst 1, 1) := by decide +kernel
theorem d_Mod_move_15 : decode prog_17_method_85_code 15 = .ok (.invokevirtual 61, 3) := by decide +kernel
theorem d_Mod_move_18 : decode prog_17_method_85_code 18 = .ok (.ireturn, 1) := by decide +kernel
theorem d_Mod_move_19 : decode prog_17_method_85_code 19 = .ok (.aload_n 0, 1) := by decide +kernel
theorem d_Mod_move_20 : decode prog_17_method_85_code 20 = .ok (.iload_n 1, 1) := by decide +kernel
theorem d_Mod_move_21 : decode prog_17_method_85_code 21 = .ok (.iconst 2, 1) := by decide +kernel
theorem d_Mod_move_22 : decode prog_17_method_85_code 22 = .ok (.invokevirtual 150, 3) := by decide +kernel
theorem d_Mod_move_25 : decode prog_17_method_85_code 25 = .ok (.ifCond .le 5, 3) := by decide +kernel
theorem d_Mod_move_28 : decode prog_17_method_85_code 28 = .ok (.iconst 2, 1) := by decide +kernel
theorem d_Mod_move_29 : decode prog_17_method_85_code 29 = .ok (.ireturn, 1) := by decide +kernel
theorem d_Mod_move_30 : decode prog_17_method_85_code 30 = .ok (.aload_n 0, 1) := by decide +kernel
theorem d_Mod_move_31 : decode prog_17_method_85_code 31 = .ok (.getfield 198, 3) := by decide +kernel
theorem d_Mod_move_34 : decode prog_17_method_85_code 34 = .ok (.iconst 2, 1) := by decide +kernel
theorem d_Mod_move_35 : decode prog_17_method_85_code 35 = .ok (.if_icmp .lt 36, 3) := by decide +kernel
theorem d_Mod_move_38 : decode prog_17_method_85_code 38 = .ok (.aload_n 0, 1) := by decide +kernel
theorem d_Mod_move_39 : decode prog_17_method_85_code 39 = .ok (.getfield 26, 3) := by decide +kernel
theorem d_Mod_move_42 : decode prog_17_method_85_code 42 = .ok (.iconst 0, 1) := by decide +kernel
theorem d_Mod_move_43 : decode prog_17_method_85_code 43 = .ok (.iaload, 1) := by decide +kernel
theorem d_Mod_move_44 : decode prog_17_method_85_code 44 = .ok (.aload_n 0, 1) := by decide +kernel
theorem d_Mod_move_45 : decode prog_17_method_85_code 45 = .ok (.iload_n 1, 1) := by decide +kernel
theorem d_Mod_move_46 : decode prog_17_method_85_code 46 = .ok (.invokevirtual 315, 3) := by decide +kernel
theorem d_Mod_move_49 : decode prog_17_method_85_code 49 = .ok (.if_icmp .ne 22, 3) := by decide +kernel
theorem d_Mod_move_52 : decode prog_17_method_85_code 52 = .ok (.aload_n 0, 1) := by decide +kernel
theorem d_Mod_move_53 : decode prog_17_method_85_code 53 = .ok (.getfield 26, 3) := by decide +kernel
theorem d_Mod_move_56 : decode prog_17_method_85_code 56 = .ok (.aload_n 0, 1) := by decide +kernel
theorem d_Mod_move_57 : decode prog_17_method_85_code 57 = .ok (.getfield 198, 3) := by decide +kernel
theorem d_Mod_move_60 : decode prog_17_method_85_code 60 = .ok (.iconst 1, 1) := by decide +kernel
theorem d_Mod_move_61 : decode prog_17_method_85_code 61 = .ok (.isub, 1) := by decide +kernel
theorem d_Mod_move_62 : decode prog_17_method_85_code 62 = .ok (.iaload, 1) := by decide +kernel
theorem d_Mod_move_63 : decode prog_17_method_85_code 63 = .ok (.aload_n 0, 1) := by decide +kernel
theorem d_Mod_move_64 : decode prog_17_method_85_code 64 = .ok (.iload_n 1, 1) := by decide +kernel
theorem d_Mod_move_65 : decode prog_17_method_85_code 65 = .ok (.invokevirtual 318, 3) := by decide +kernel
theorem d_Mod_move_68 : decode prog_17_method_85_code 68 = .ok (.if_icmp .eq 5, 3) := by decide +kernel
theorem d_Mod_move_71 : decode prog_17_method_85_code 71 = .ok (.iconst 3, 1) := by decide +kernel
theorem d_Mod_move_72 : decode prog_17_method_85_code 72 = .ok (.ireturn, 1) := by decide +kernel
theorem d_Mod_move_73 : decode prog_17_method_85_code 73 = .ok (.aload_n 0, 1) := by decide +kernel
theorem d_Mod_move_74 : decode prog_17_method_85_code 74 = .ok (.iload_n 1, 1) := by decide +kernel
theorem d_Mod_move_75 : decode prog_17_method_85_code 75 = .ok (.invokevirtual 321, 3) := by decide +kernel
theorem d_Mod_move_78 : decode prog_17_method_85_code 78 = .ok (.istore_n 2, 1) := by decide +kernel
theorem d_Mod_move_79 : decode prog_17_method_85_code 79 = .ok (.aload_n 0, 1) := by decide +kernel
theorem d_Mod_move_80 : decode prog_17_method_85_code 80 = .ok (.iload_n 2, 1) := by decide +kernel
theorem d_Mod_move_81 : decode prog_17_method_85_code 81 = .ok (.ifCond .ne 7, 3) := by decide +kernel
theorem d_Mod_move_84 : decode prog_17_method_85_code 84 = .ok (.iconst 0, 1) := by decide +kernel
theorem d_Mod_move_85 : decode prog_17_method_85_code 85 = .ok (.goto 7, 3) := by decide +kernel
theorem d_Mod_move_88 : decode prog_17_method_85_code 88 = .ok (.aload_n 0, 1) := by decide +kernel
theorem d_Mod_move_89 : decode prog_17_method_85_code 89 = .ok (.getfield 198, 3) := by decide +kernel
theorem d_Mod_move_92 : decode prog_17_method_85_code 92 = .ok (.putfield 198, 3) := by decide +kernel
theorem d_Mod_move_95 : decode prog_17_method_85_code 95 = .ok (.iload_n 2, 1) := by decide +kernel
theorem d_Mod_move_96 : decode prog_17_method_85_code 96 = .ok (.ireturn, 1) := by decide +kernel
def Mod_move_92 (M : g_MD) (v2 : Int32) (s0 : Int32) : Option (Int32 × g_MD) :=
  g_let (mp M 6 s0) fun M27 => some (v2, M27)
set_option maxHeartbeats 4000000 in
set_option maxRecDepth 100000 in
theorem W_Mod_move_92 {X : g_X} {h0 : g_AH} {a0 : Nat} {ad : Nat → Nat} (ok : mOK a0 ad) (z : Int32 × g_MD) (M : g_MD) (v2 : Int32) (s0 : Int32) (hy : Mod_move_92  M v2 s0 = some z) : G X k_Mod_move (.inl (some (.int z.1))) (mH h0 a0 ad z.2) (mH h0 a0 ad M) 92 [(2, .int v2)] [.int s0, .ref a0] := by
  unfold Mod_move_92 at hy
  replace hy := g_let_inv hy
  refine gm_put ok 6 (pc' := 95) d_Mod_move_92 rfl (by decide) q1971 rfl ?_
  generalize (mp M 6 s0) = M27 at hy ⊢
  refine g_iload_n 0 (i := 2) (pc' := 96) d_Mod_move_95 rfl rfl rfl ?_
  cases hy
  exact g_iret rfl rfl rfl d_Mod_move_96
def Mod_move (M : g_MD) (p0 : Int32) : Option (Int32 × g_MD) :=
  g_let (mp M 7 (0 : Int32)) fun M1 => g_b (Mod_isCircuit M1 p0) fun x2 => if x2 = 0 then (g_bM (Mod_fail M1 (1 : Int32)) fun x28 M29 => some (x28, M29)) else (g_b (Mod_of M1 p0 (2 : Int32)) fun x6 => if x6 ≤ 0 then (if (M1.2.1 6) < (2 : Int32) then (some ((3 : Int32), M1)) else (g_mA M1 0 5 (0 : Int32) fun x11 => g_b (Mod_firstOf M1 p0) fun x13 => if x11 = x13 then (g_mA M1 0 5 ((M1.2.1 6) - (1 : Int32)) fun x17 => g_b (Mod_lastOf M1 p0) fun x19 => if x17 = x19 then (g_bM (Mod_moveToDraft M1 p0) fun x23 M24 => if x23 = 0 then (Mod_move_92  M24 x23 (0 : Int32)) else (Mod_move_92  M24 x23 (M24.2.1 6))) else (some ((3 : Int32), M1))) else (some ((3 : Int32), M1)))) else (some ((2 : Int32), M1)))
set_option maxHeartbeats 4000000 in
set_option maxRecDepth 100000 in
theorem T_Mod_move {l : Launch} {B : g_B} {h0 : g_AH} {a0 : Nat} {ad : Nat → Nat} (ok : mOK a0 ad) (M : g_MD) (p0 : Int32) (z : Int32 × g_MD) (hy : Mod_move M p0 = some z) : g_CT l B y_Mod_move k_Mod_move [.ref a0, .int p0] (mH h0 a0 ad M) (.inl (some (.int z.1))) (mH h0 a0 ad z.2) := by
  refine g_start2 (Lc := [(0, .ref a0), (1, .int p0)]) (by decide) rfl rfl (by exact Nat.le_of_ble_eq_true rfl) (by rfl) fun X => ?_
  unfold Mod_move at hy
  refine g_aload_n 0 (i := 0) (pc' := 1) d_Mod_move_0 rfl rfl rfl ?_
  refine g_iconst (v := (0 : Int32)) (pc' := 2) d_Mod_move_1 (by decide) rfl ?_
  replace hy := g_let_inv hy
  refine gm_put ok 7 (pc' := 5) d_Mod_move_2 rfl (by decide) q1972 rfl ?_
  generalize (mp M 7 (0 : Int32)) = M1 at hy ⊢
  refine g_aload_n 0 (i := 0) (pc' := 6) d_Mod_move_5 rfl rfl rfl ?_
  refine g_iload_n 1 (i := 1) (pc' := 7) d_Mod_move_6 rfl rfl rfl ?_
  replace hy := g_b_inv hy
  obtain ⟨x2, hf4, hy⟩ := hy
  refine g_callV (rv := some (.int x2)) (h1 := (mH h0 a0 ad M1)) (pc' := 10) (As := [.int p0]) (rest := []) 1 (T_Mod_isCircuit ok (hy := hf4)) d_Mod_move_7 (mH_look ok) rfl rfl q2375 q2377 qs83 q135 q2378 hd_Mod_isCircuit rfl ⟨by decide, by decide⟩ (by first | exact Nat.le_of_ble_eq_true rfl | (simp only [List.map, List.sum_cons, List.sum_nil, g_cat_rf]; exact Nat.le_of_ble_eq_true rfl) | (simp only [List.map, List.sum_cons, List.sum_nil, g_cat_rf, Value.category]; decide)) rfl ?_
  by_cases c5 : x2 = 0
  · rw [if_pos c5] at hy
    refine g_if_neF (pc' := 13) d_Mod_move_10 19 c5 (by decide) rfl ?_
    refine g_aload_n 0 (i := 0) (pc' := 14) d_Mod_move_13 rfl rfl rfl ?_
    refine g_iconst (v := (1 : Int32)) (pc' := 15) d_Mod_move_14 (by decide) rfl ?_
    replace hy := g_bM_inv hy
    obtain ⟨x28, M29, hf30, hy⟩ := hy
    refine g_callV (rv := some (.int x28)) (h1 := (mH h0 a0 ad M29)) (pc' := 18) (As := [.int (1 : Int32)]) (rest := []) 1 (T_Mod_fail ok (hy := hf30)) d_Mod_move_15 (mH_look ok) rfl rfl q2061 q2063 qs31 q135 q2064 hd_Mod_fail rfl ⟨by decide, by decide⟩ (by first | exact Nat.le_of_ble_eq_true rfl | (simp only [List.map, List.sum_cons, List.sum_nil, g_cat_rf]; exact Nat.le_of_ble_eq_true rfl) | (simp only [List.map, List.sum_cons, List.sum_nil, g_cat_rf, Value.category]; decide)) rfl ?_
    cases hy
    exact g_iret rfl rfl rfl d_Mod_move_18
  · rw [if_neg c5] at hy
    refine g_if_neT (pc' := 19) d_Mod_move_10 c5 (by decide) ?_
    refine g_aload_n 0 (i := 0) (pc' := 20) d_Mod_move_19 rfl rfl rfl ?_
    refine g_iload_n 1 (i := 1) (pc' := 21) d_Mod_move_20 rfl rfl rfl ?_
    refine g_iconst (v := (2 : Int32)) (pc' := 22) d_Mod_move_21 (by decide) rfl ?_
    replace hy := g_b_inv hy
    obtain ⟨x6, hf8, hy⟩ := hy
    refine g_callV (rv := some (.int x6)) (h1 := (mH h0 a0 ad M1)) (pc' := 25) (As := [.int p0, .int (2 : Int32)]) (rest := []) 2 (T_Mod_of ok (hy := hf8)) d_Mod_move_22 (mH_look ok) rfl rfl q2186 q2188 qs52 q135 q2189 hd_Mod_of rfl ⟨by decide, by decide⟩ (by first | exact Nat.le_of_ble_eq_true rfl | (simp only [List.map, List.sum_cons, List.sum_nil, g_cat_rf]; exact Nat.le_of_ble_eq_true rfl) | (simp only [List.map, List.sum_cons, List.sum_nil, g_cat_rf, Value.category]; decide)) rfl ?_
    by_cases c9 : x6 ≤ 0
    · rw [if_pos c9] at hy
      refine g_if_leT (pc' := 30) d_Mod_move_25 c9 (by decide) ?_
      refine g_aload_n 0 (i := 0) (pc' := 31) d_Mod_move_30 rfl rfl rfl ?_
      refine gm_getA ok 6 (pc' := 34) d_Mod_move_31 rfl q1971 rfl rfl ?_
      refine g_iconst (v := (2 : Int32)) (pc' := 35) d_Mod_move_34 (by decide) rfl ?_
      by_cases c10 : (M1.2.1 6) < (2 : Int32)
      · rw [if_pos c10] at hy
        refine g_icmp_ltT (pc' := 71) d_Mod_move_35 c10 (by decide) ?_
        refine g_iconst (v := (3 : Int32)) (pc' := 72) d_Mod_move_71 (by decide) rfl ?_
        cases hy
        exact g_iret rfl rfl rfl d_Mod_move_72
      · rw [if_neg c10] at hy
        refine g_icmp_ltF (pc' := 38) d_Mod_move_35 71 c10 (by decide) rfl ?_
        refine g_aload_n 0 (i := 0) (pc' := 39) d_Mod_move_38 rfl rfl rfl ?_
        refine gm_getA ok 5 (pc' := 42) d_Mod_move_39 rfl q1970 rfl rfl ?_
        refine g_iconst (v := (0 : Int32)) (pc' := 43) d_Mod_move_42 (by decide) rfl ?_
        replace hy := g_mA_inv hy
        obtain ⟨x11, hc12, hy⟩ := hy
        refine gm_ald0 ok (pc' := 44) d_Mod_move_43 hc12 rfl ?_
        refine g_aload_n 0 (i := 0) (pc' := 45) d_Mod_move_44 rfl rfl rfl ?_
        refine g_iload_n 1 (i := 1) (pc' := 46) d_Mod_move_45 rfl rfl rfl ?_
        replace hy := g_b_inv hy
        obtain ⟨x13, hf15, hy⟩ := hy
        refine g_callV (rv := some (.int x13)) (h1 := (mH h0 a0 ad M1)) (pc' := 49) (As := [.int p0]) (rest := [.int x11]) 1 (T_Mod_firstOf ok (hy := hf15)) d_Mod_move_46 (mH_look ok) rfl rfl q2387 q2389 qs85 q135 q2390 hd_Mod_firstOf rfl ⟨by decide, by decide⟩ (by first | exact Nat.le_of_ble_eq_true rfl | (simp only [List.map, List.sum_cons, List.sum_nil, g_cat_rf]; exact Nat.le_of_ble_eq_true rfl) | (simp only [List.map, List.sum_cons, List.sum_nil, g_cat_rf, Value.category]; decide)) rfl ?_
        by_cases c16 : x11 = x13
        · rw [if_pos c16] at hy
          refine g_icmp_neF (pc' := 52) d_Mod_move_49 71 c16 (by decide) rfl ?_
          refine g_aload_n 0 (i := 0) (pc' := 53) d_Mod_move_52 rfl rfl rfl ?_
          refine gm_getA ok 5 (pc' := 56) d_Mod_move_53 rfl q1970 rfl rfl ?_
          refine g_aload_n 0 (i := 0) (pc' := 57) d_Mod_move_56 rfl rfl rfl ?_
          refine gm_getA ok 6 (pc' := 60) d_Mod_move_57 rfl q1971 rfl rfl ?_
          refine g_iconst (v := (1 : Int32)) (pc' := 61) d_Mod_move_60 (by decide) rfl ?_
          refine g_isub (pc' := 62) d_Mod_move_61 rfl ?_
          replace hy := g_mA_inv hy
          obtain ⟨x17, hc18, hy⟩ := hy
          refine gm_ald0 ok (pc' := 63) d_Mod_move_62 hc18 rfl ?_
          refine g_aload_n 0 (i := 0) (pc' := 64) d_Mod_move_63 rfl rfl rfl ?_
          refine g_iload_n 1 (i := 1) (pc' := 65) d_Mod_move_64 rfl rfl rfl ?_
          replace hy := g_b_inv hy
          obtain ⟨x19, hf21, hy⟩ := hy
          refine g_callV (rv := some (.int x19)) (h1 := (mH h0 a0 ad M1)) (pc' := 68) (As := [.int p0]) (rest := [.int x17]) 1 (T_Mod_lastOf ok (hy := hf21)) d_Mod_move_65 (mH_look ok) rfl rfl q2391 q2393 qs86 q135 q2394 hd_Mod_lastOf rfl ⟨by decide, by decide⟩ (by first | exact Nat.le_of_ble_eq_true rfl | (simp only [List.map, List.sum_cons, List.sum_nil, g_cat_rf]; exact Nat.le_of_ble_eq_true rfl) | (simp only [List.map, List.sum_cons, List.sum_nil, g_cat_rf, Value.category]; decide)) rfl ?_
          by_cases c22 : x17 = x19
          · rw [if_pos c22] at hy
            refine g_icmp_eqT (pc' := 73) d_Mod_move_68 c22 (by decide) ?_
            refine g_aload_n 0 (i := 0) (pc' := 74) d_Mod_move_73 rfl rfl rfl ?_
            refine g_iload_n 1 (i := 1) (pc' := 75) d_Mod_move_74 rfl rfl rfl ?_
            replace hy := g_bM_inv hy
            obtain ⟨x23, M24, hf25, hy⟩ := hy
            refine g_callV (rv := some (.int x23)) (h1 := (mH h0 a0 ad M24)) (pc' := 78) (As := [.int p0]) (rest := []) 1 (T_Mod_moveToDraft ok (hy := hf25)) d_Mod_move_75 (mH_look ok) rfl rfl q2395 q2397 qs87 q135 q2398 hd_Mod_moveToDraft rfl ⟨by decide, by decide⟩ (by first | exact Nat.le_of_ble_eq_true rfl | (simp only [List.map, List.sum_cons, List.sum_nil, g_cat_rf]; exact Nat.le_of_ble_eq_true rfl) | (simp only [List.map, List.sum_cons, List.sum_nil, g_cat_rf, Value.category]; decide)) rfl ?_
            refine g_istore_n (i := 2) (pc' := 79) (Lc' := [(2, .int x23), (0, .ref a0), (1, .int p0)]) d_Mod_move_78 rfl (by decide) rfl rfl ?_
            refine g_aload_n 1 (i := 0) (pc' := 80) d_Mod_move_79 rfl rfl rfl ?_
            refine g_iload_n 0 (i := 2) (pc' := 81) d_Mod_move_80 rfl rfl rfl ?_
            by_cases c26 : x23 = 0
            · rw [if_pos c26] at hy
              refine g_if_neF (pc' := 84) d_Mod_move_81 88 c26 (by decide) rfl ?_
              refine g_iconst (v := (0 : Int32)) (pc' := 85) d_Mod_move_84 (by decide) rfl ?_
              refine g_goto (pc' := 92) d_Mod_move_85 (by decide) ?_
              refine g_sub [0] rfl ?_
              exact W_Mod_move_92 ok _ _ _ _ hy
            · rw [if_neg c26] at hy
              refine g_if_neT (pc' := 88) d_Mod_move_81 c26 (by decide) ?_
              refine g_aload_n 1 (i := 0) (pc' := 89) d_Mod_move_88 rfl rfl rfl ?_
              refine gm_getA ok 6 (pc' := 92) d_Mod_move_89 rfl q1971 rfl rfl ?_
              refine g_sub [0] rfl ?_
              exact W_Mod_move_92 ok _ _ _ _ hy
          · rw [if_neg c22] at hy
            refine g_icmp_eqF (pc' := 71) d_Mod_move_68 73 c22 (by decide) rfl ?_
            refine g_iconst (v := (3 : Int32)) (pc' := 72) d_Mod_move_71 (by decide) rfl ?_
            cases hy
            exact g_iret rfl rfl rfl d_Mod_move_72
        · rw [if_neg c16] at hy
          refine g_icmp_neT (pc' := 71) d_Mod_move_49 c16 (by decide) ?_
          refine g_iconst (v := (3 : Int32)) (pc' := 72) d_Mod_move_71 (by decide) rfl ?_
          cases hy
          exact g_iret rfl rfl rfl d_Mod_move_72
    · rw [if_neg c9] at hy
      refine g_if_leF (pc' := 28) d_Mod_move_25 30 c9 (by decide) rfl ?_
      refine g_iconst (v := (2 : Int32)) (pc' := 29) d_Mod_move_28 (by decide) rfl ?_
      cases hy
      exact g_iret rfl rfl rfl d_Mod_move_29
theorem hd_Mod_move : g_dsc y_Mod_move 1 := ⟨by decide +kernel, by decide +kernel, by decide +kernel⟩
/-! CircuitDeskModel.moveToBest(II)I -/
abbrev y_Mod_moveToBest : MethodName := ⟨"CircuitDeskModel", "moveToBest", "(II)I"⟩
abbrev k_Mod_moveToBest : g_M := (prog_17_method_86_code, 6, "CircuitDeskModel", 19, (some FieldType.int), "moveToBest", [], 0)
theorem d_Mod_moveToBest_0 : decode prog_17_method_86_code 0 = .ok (.aload_n 0, 1) := by decide +kernel
theorem d_Mod_moveToBest_1 : decode prog_17_method_86_code 1 = .ok (.iload_n 1, 1) := by decide +kernel
theorem d_Mod_moveToBest_2 : decode prog_17_method_86_code 2 = .ok (.iconst 2, 1) := by decide +kernel
theorem d_Mod_moveToBest_3 : decode prog_17_method_86_code 3 = .ok (.invokevirtual 150, 3) := by decide +kernel
theorem d_Mod_moveToBest_6 : decode prog_17_method_86_code 6 = .ok (.ifCond .le 5, 3) := by decide +kernel
theorem d_Mod_moveToBest_9 : decode prog_17_method_86_code 9 = .ok (.iconst 2, 1) := by decide +kernel
theorem d_Mod_moveToBest_10 : decode prog_17_method_86_code 10 = .ok (.ireturn, 1) := by decide +kernel
theorem d_Mod_moveToBest_11 : decode prog_17_method_86_code 11 = .ok (.aload_n 0, 1) := by decide +kernel
theorem d_Mod_moveToBest_12 : decode prog_17_method_86_code 12 = .ok (.aload_n 0, 1) := by decide +kernel
theorem d_Mod_moveToBest_13 : decode prog_17_method_86_code 13 = .ok (.iload_n 1, 1) := by decide +kernel
theorem d_Mod_moveToBest_14 : decode prog_17_method_86_code 14 = .ok (.invokevirtual 315, 3) := by decide +kernel
theorem d_Mod_moveToBest_17 : decode prog_17_method_86_code 17 = .ok (.aload_n 0, 1) := by decide +kernel
theorem d_Mod_moveToBest_18 : decode prog_17_method_86_code 18 = .ok (.iload_n 1, 1) := by decide +kernel
theorem d_Mod_moveToBest_19 : decode prog_17_method_86_code 19 = .ok (.invokevirtual 318, 3) := by decide +kernel
theorem d_Mod_moveToBest_22 : decode prog_17_method_86_code 22 = .ok (.iload_n 1, 1) := by decide +kernel
theorem d_Mod_moveToBest_23 : decode prog_17_method_86_code 23 = .ok (.aload_n 0, 1) := by decide +kernel
theorem d_Mod_moveToBest_24 : decode prog_17_method_86_code 24 = .ok (.iload_n 1, 1) := by decide +kernel
theorem d_Mod_moveToBest_25 : decode prog_17_method_86_code 25 = .ok (.iconst 0, 1) := by decide +kernel
theorem d_Mod_moveToBest_26 : decode prog_17_method_86_code 26 = .ok (.invokevirtual 150, 3) := by decide +kernel
theorem d_Mod_moveToBest_29 : decode prog_17_method_86_code 29 = .ok (.iload_n 2, 1) := by decide +kernel
theorem d_Mod_moveToBest_30 : decode prog_17_method_86_code 30 = .ok (.invokevirtual 289, 3) := by decide +kernel
theorem d_Mod_moveToBest_33 : decode prog_17_method_86_code 33 = .ok (.ifCond .ne 5, 3) := by decide +kernel
theorem d_Mod_moveToBest_36 : decode prog_17_method_86_code 36 = .ok (.iconst 3, 1) := by decide +kernel
theorem d_Mod_moveToBest_37 : decode prog_17_method_86_code 37 = .ok (.ireturn, 1) := by decide +kernel
theorem d_Mod_moveToBest_38 : decode prog_17_method_86_code 38 = .ok (.aload_n 0, 1) := by decide +kernel
theorem d_Mod_moveToBest_39 : decode prog_17_method_86_code 39 = .ok (.getfield 198, 3) := by decide +kernel
theorem d_Mod_moveToBest_42 : decode prog_17_method_86_code 42 = .ok (.istore_n 3, 1) := by decide +kernel
theorem d_Mod_moveToBest_43 : decode prog_17_method_86_code 43 = .ok (.iconst 0, 1) := by decide +kernel
theorem d_Mod_moveToBest_44 : decode prog_17_method_86_code 44 = .ok (.istore 4, 2) := by decide +kernel
theorem d_Mod_moveToBest_46 : decode prog_17_method_86_code 46 = .ok (.iload 4, 2) := by decide +kernel
theorem d_Mod_moveToBest_48 : decode prog_17_method_86_code 48 = .ok (.iload_n 3, 1) := by decide +kernel
theorem d_Mod_moveToBest_49 : decode prog_17_method_86_code 49 = .ok (.if_icmp .ge 23, 3) := by decide +kernel
theorem d_Mod_moveToBest_52 : decode prog_17_method_86_code 52 = .ok (.aload_n 0, 1) := by decide +kernel
theorem d_Mod_moveToBest_53 : decode prog_17_method_86_code 53 = .ok (.getfield 45, 3) := by decide +kernel
theorem d_Mod_moveToBest_56 : decode prog_17_method_86_code 56 = .ok (.iload 4, 2) := by decide +kernel
theorem d_Mod_moveToBest_58 : decode prog_17_method_86_code 58 = .ok (.aload_n 0, 1) := by decide +kernel
theorem d_Mod_moveToBest_59 : decode prog_17_method_86_code 59 = .ok (.getfield 26, 3) := by decide +kernel
theorem d_Mod_moveToBest_62 : decode prog_17_method_86_code 62 = .ok (.iload 4, 2) := by decide +kernel
theorem d_Mod_moveToBest_64 : decode prog_17_method_86_code 64 = .ok (.iaload, 1) := by decide +kernel
theorem d_Mod_moveToBest_65 : decode prog_17_method_86_code 65 = .ok (.iastore, 1) := by decide +kernel
theorem d_Mod_moveToBest_66 : decode prog_17_method_86_code 66 = .ok (.iinc 4 1, 3) := by decide +kernel
theorem d_Mod_moveToBest_69 : decode prog_17_method_86_code 69 = .ok (.goto (-23), 3) := by decide +kernel
theorem d_Mod_moveToBest_72 : decode prog_17_method_86_code 72 = .ok (.aload_n 0, 1) := by decide +kernel
theorem d_Mod_moveToBest_73 : decode prog_17_method_86_code 73 = .ok (.invokevirtual 293, 3) := by decide +kernel
theorem d_Mod_moveToBest_76 : decode prog_17_method_86_code 76 = .ok (.aload_n 0, 1) := by decide +kernel
theorem d_Mod_moveToBest_77 : decode prog_17_method_86_code 77 = .ok (.iload_n 1, 1) := by decide +kernel
theorem d_Mod_moveToBest_78 : decode prog_17_method_86_code 78 = .ok (.invokevirtual 321, 3) := by decide +kernel
theorem d_Mod_moveToBest_81 : decode prog_17_method_86_code 81 = .ok (.istore 4, 2) := by decide +kernel
theorem d_Mod_moveToBest_83 : decode prog_17_method_86_code 83 = .ok (.iconst 0, 1) := by decide +kernel
theorem d_Mod_moveToBest_84 : decode prog_17_method_86_code 84 = .ok (.istore 5, 2) := by decide +kernel
theorem d_Mod_moveToBest_86 : decode prog_17_method_86_code 86 = .ok (.iload 5, 2) := by decide +kernel
theorem d_Mod_moveToBest_88 : decode prog_17_method_86_code 88 = .ok (.iload_n 3, 1) := by decide +kernel
theorem d_Mod_moveToBest_89 : decode prog_17_method_86_code 89 = .ok (.if_icmp .ge 23, 3) := by decide +kernel
theorem d_Mod_moveToBest_92 : decode prog_17_method_86_code 92 = .ok (.aload_n 0, 1) := by decide +kernel
theorem d_Mod_moveToBest_93 : decode prog_17_method_86_code 93 = .ok (.getfield 26, 3) := by decide +kernel
theorem d_Mod_moveToBest_96 : decode prog_17_method_86_code 96 = .ok (.iload 5, 2) := by decide +kernel
theorem d_Mod_moveToBest_98 : decode prog_17_method_86_code 98 = .ok (.aload_n 0, 1) := by decide +kernel
theorem d_Mod_moveToBest_99 : decode prog_17_method_86_code 99 = .ok (.getfield 45, 3) := by decide +kernel
theorem d_Mod_moveToBest_102 : decode prog_17_method_86_code 102 = .ok (.iload 5, 2) := by decide +kernel
theorem d_Mod_moveToBest_104 : decode prog_17_method_86_code 104 = .ok (.iaload, 1) := by decide +kernel
theorem d_Mod_moveToBest_105 : decode prog_17_method_86_code 105 = .ok (.iastore, 1) := by decide +kernel
theorem d_Mod_moveToBest_106 : decode prog_17_method_86_code 106 = .ok (.iinc 5 1, 3) := by decide +kernel
theorem d_Mod_moveToBest_109 : decode prog_17_method_86_code 109 = .ok (.goto (-23), 3) := by decide +kernel
theorem d_Mod_moveToBest_112 : decode prog_17_method_86_code 112 = .ok (.aload_n 0, 1) := by decide +kernel
theorem d_Mod_moveToBest_113 : decode prog_17_method_86_code 113 = .ok (.iload_n 3, 1) := by decide +kernel
theorem d_Mod_moveToBest_114 : decode prog_17_method_86_code 114 = .ok (.putfield 198, 3) := by decide +kernel
theorem d_Mod_moveToBest_117 : decode prog_17_method_86_code 117 = .ok (.iload 4, 2) := by decide +kernel
theorem d_Mod_moveToBest_119 : decode prog_17_method_86_code 119 = .ok (.ireturn, 1) := by decide +kernel
def Mod_moveToBest_86  : Nat → g_MD → Int32 → Int32 → Int32 → Option (Int32 × g_MD)
  | 0, _, _, _, _ => none
  | n + 1, M, v3, v4, v5 => if v3 ≤ v5 then (g_let (mp M 6 v3) fun M26 => some (v4, M26)) else (g_mA M 0 28 v5 fun x27 => g_mS M 0 5 v5 x27 fun M29 => (Mod_moveToBest_86  n) M29 v3 v4 (v5 + (1 : Int32)))
set_option maxHeartbeats 4000000 in
set_option maxRecDepth 100000 in
theorem W_Mod_moveToBest_86 {X : g_X} {h0 : g_AH} {a0 : Nat} {ad : Nat → Nat} (ok : mOK a0 ad) (z : Int32 × g_MD)  : ∀ (n : Nat) (M : g_MD) (v3 : Int32) (v4 : Int32) (v5 : Int32), Mod_moveToBest_86  n M v3 v4 v5 = some z → G X k_Mod_moveToBest (.inl (some (.int z.1))) (mH h0 a0 ad z.2) (mH h0 a0 ad M) 86 [(0, .ref a0), (3, .int v3), (4, .int v4), (5, .int v5)] [] := by
  intro n
  induction n with
  | zero => intro M v3 v4 v5 hy; exact absurd hy (by simp [Mod_moveToBest_86])
  | succ n ih =>
    intro M v3 v4 v5 hy
    rw [Mod_moveToBest_86] at hy
    refine g_iload 3 (pc' := 88) d_Mod_moveToBest_86 rfl rfl ?_
    refine g_iload_n 1 (i := 3) (pc' := 89) d_Mod_moveToBest_88 rfl rfl rfl ?_
    by_cases c25 : v3 ≤ v5
    · rw [if_pos c25] at hy
      refine g_icmp_geT (pc' := 112) d_Mod_moveToBest_89 c25 (by decide) ?_
      refine g_aload_n 0 (i := 0) (pc' := 113) d_Mod_moveToBest_112 rfl rfl rfl ?_
      refine g_iload_n 1 (i := 3) (pc' := 114) d_Mod_moveToBest_113 rfl rfl rfl ?_
      replace hy := g_let_inv hy
      refine gm_put ok 6 (pc' := 117) d_Mod_moveToBest_114 rfl (by decide) q1971 rfl ?_
      generalize (mp M 6 v3) = M26 at hy ⊢
      refine g_iload 2 (pc' := 119) d_Mod_moveToBest_117 rfl rfl ?_
      cases hy
      exact g_iret rfl rfl rfl d_Mod_moveToBest_119
    · rw [if_neg c25] at hy
      refine g_icmp_geF (pc' := 92) d_Mod_moveToBest_89 112 c25 (by decide) rfl ?_
      refine g_aload_n 0 (i := 0) (pc' := 93) d_Mod_moveToBest_92 rfl rfl rfl ?_
      refine gm_getA ok 5 (pc' := 96) d_Mod_moveToBest_93 rfl q1970 rfl rfl ?_
      refine g_iload 3 (pc' := 98) d_Mod_moveToBest_96 rfl rfl ?_
      refine g_aload_n 0 (i := 0) (pc' := 99) d_Mod_moveToBest_98 rfl rfl rfl ?_
      refine gm_getA ok 28 (pc' := 102) d_Mod_moveToBest_99 rfl q1993 rfl rfl ?_
      refine g_iload 3 (pc' := 104) d_Mod_moveToBest_102 rfl rfl ?_
      replace hy := g_mA_inv hy
      obtain ⟨x27, hc28, hy⟩ := hy
      refine gm_ald0 ok (pc' := 105) d_Mod_moveToBest_104 hc28 rfl ?_
      replace hy := g_mS_inv hy
      obtain ⟨hc30, hy⟩ := hy
      refine gm_ast0 ok (pc' := 106) d_Mod_moveToBest_105 hc30 rfl ?_
      generalize ms M 5 (v5).toNatClampNeg x27 = M29 at hy ⊢
      refine g_iinc 3 (v := (v5 + (1 : Int32))) (pc' := 109) (Lc' := [(5, .int (v5 + (1 : Int32))), (0, .ref a0), (3, .int v3), (4, .int v4)]) d_Mod_moveToBest_106 rfl rfl (by decide) rfl rfl ?_
      refine g_goto (pc' := 86) d_Mod_moveToBest_109 (by decide) ?_
      refine g_sub [1, 2, 3, 0] rfl ?_
      exact ih _ _ _ _ hy
def Mod_moveToBest_46  : Nat → g_MD → Int32 → Int32 → Int32 → Option (Int32 × g_MD)
  | 0, _, _, _, _ => none
  | n + 1, M, v1, v3, v4 => if v3 ≤ v4 then (g_b (Mod_takeBest M) fun M20 => g_bM (Mod_moveToDraft M20 v1) fun x22 M23 => Mod_moveToBest_86  gFU M23 v3 x22 (0 : Int32)) else (g_mA M 0 5 v4 fun x31 => g_mS M 0 28 v4 x31 fun M33 => (Mod_moveToBest_46  n) M33 v1 v3 (v4 + (1 : Int32)))
set_option maxHeartbeats 4000000 in
set_option maxRecDepth 100000 in
theorem W_Mod_moveToBest_46 {X : g_X} {h0 : g_AH} {a0 : Nat} {ad : Nat → Nat} (ok : mOK a0 ad) (z : Int32 × g_MD)  : ∀ (n : Nat) (M : g_MD) (v1 : Int32) (v3 : Int32) (v4 : Int32), Mod_moveToBest_46  n M v1 v3 v4 = some z → G X k_Mod_moveToBest (.inl (some (.int z.1))) (mH h0 a0 ad z.2) (mH h0 a0 ad M) 46 [(0, .ref a0), (1, .int v1), (3, .int v3), (4, .int v4)] [] := by
  intro n
  induction n with
  | zero => intro M v1 v3 v4 hy; exact absurd hy (by simp [Mod_moveToBest_46])
  | succ n ih =>
    intro M v1 v3 v4 hy
    rw [Mod_moveToBest_46] at hy
    refine g_iload 3 (pc' := 48) d_Mod_moveToBest_46 rfl rfl ?_
    refine g_iload_n 2 (i := 3) (pc' := 49) d_Mod_moveToBest_48 rfl rfl rfl ?_
    by_cases c18 : v3 ≤ v4
    · rw [if_pos c18] at hy
      refine g_icmp_geT (pc' := 72) d_Mod_moveToBest_49 c18 (by decide) ?_
      refine g_aload_n 0 (i := 0) (pc' := 73) d_Mod_moveToBest_72 rfl rfl rfl ?_
      replace hy := g_b_inv hy
      obtain ⟨M20, hf21, hy⟩ := hy
      refine g_callV (rv := none) (h1 := (mH h0 a0 ad M20)) (pc' := 76) (As := []) (rest := []) 0 (T_Mod_takeBest ok (hy := hf21)) d_Mod_moveToBest_73 (mH_look ok) rfl rfl q2351 q2353 qs80 q135 q2354 hd_Mod_takeBest rfl ⟨by decide, by decide⟩ (by first | exact Nat.le_of_ble_eq_true rfl | (simp only [List.map, List.sum_cons, List.sum_nil, g_cat_rf]; exact Nat.le_of_ble_eq_true rfl) | (simp only [List.map, List.sum_cons, List.sum_nil, g_cat_rf, Value.category]; decide)) rfl ?_
      refine g_aload_n 0 (i := 0) (pc' := 77) d_Mod_moveToBest_76 rfl rfl rfl ?_
      refine g_iload_n 1 (i := 1) (pc' := 78) d_Mod_moveToBest_77 rfl rfl rfl ?_
      replace hy := g_bM_inv hy
      obtain ⟨x22, M23, hf24, hy⟩ := hy
      refine g_callV (rv := some (.int x22)) (h1 := (mH h0 a0 ad M23)) (pc' := 81) (As := [.int v1]) (rest := []) 1 (T_Mod_moveToDraft ok (hy := hf24)) d_Mod_moveToBest_78 (mH_look ok) rfl rfl q2395 q2397 qs87 q135 q2398 hd_Mod_moveToDraft rfl ⟨by decide, by decide⟩ (by first | exact Nat.le_of_ble_eq_true rfl | (simp only [List.map, List.sum_cons, List.sum_nil, g_cat_rf]; exact Nat.le_of_ble_eq_true rfl) | (simp only [List.map, List.sum_cons, List.sum_nil, g_cat_rf, Value.category]; decide)) rfl ?_
      refine g_istore (pc' := 83) (Lc' := [(4, .int x22), (0, .ref a0), (1, .int v1), (3, .int v3)]) d_Mod_moveToBest_81 (by decide) rfl rfl ?_
      refine g_iconst (v := (0 : Int32)) (pc' := 84) d_Mod_moveToBest_83 (by decide) rfl ?_
      refine g_istore (pc' := 86) (Lc' := [(5, .int (0 : Int32)), (4, .int x22), (0, .ref a0), (1, .int v1), (3, .int v3)]) d_Mod_moveToBest_84 (by decide) rfl rfl ?_
      refine g_sub [2, 4, 1, 0] rfl ?_
      exact W_Mod_moveToBest_86 ok _ _ _ _ _ _ hy
    · rw [if_neg c18] at hy
      refine g_icmp_geF (pc' := 52) d_Mod_moveToBest_49 72 c18 (by decide) rfl ?_
      refine g_aload_n 0 (i := 0) (pc' := 53) d_Mod_moveToBest_52 rfl rfl rfl ?_
      refine gm_getA ok 28 (pc' := 56) d_Mod_moveToBest_53 rfl q1993 rfl rfl ?_
      refine g_iload 3 (pc' := 58) d_Mod_moveToBest_56 rfl rfl ?_
      refine g_aload_n 0 (i := 0) (pc' := 59) d_Mod_moveToBest_58 rfl rfl rfl ?_
      refine gm_getA ok 5 (pc' := 62) d_Mod_moveToBest_59 rfl q1970 rfl rfl ?_
      refine g_iload 3 (pc' := 64) d_Mod_moveToBest_62 rfl rfl ?_
      replace hy := g_mA_inv hy
      obtain ⟨x31, hc32, hy⟩ := hy
      refine gm_ald0 ok (pc' := 65) d_Mod_moveToBest_64 hc32 rfl ?_
      replace hy := g_mS_inv hy
      obtain ⟨hc34, hy⟩ := hy
      refine gm_ast0 ok (pc' := 66) d_Mod_moveToBest_65 hc34 rfl ?_
      generalize ms M 28 (v4).toNatClampNeg x31 = M33 at hy ⊢
      refine g_iinc 3 (v := (v4 + (1 : Int32))) (pc' := 69) (Lc' := [(4, .int (v4 + (1 : Int32))), (0, .ref a0), (1, .int v1), (3, .int v3)]) d_Mod_moveToBest_66 rfl rfl (by decide) rfl rfl ?_
      refine g_goto (pc' := 46) d_Mod_moveToBest_69 (by decide) ?_
      refine g_sub [1, 2, 3, 0] rfl ?_
      exact ih _ _ _ _ hy
def Mod_moveToBest (M : g_MD) (p0 : Int32) (p1 : Int32) : Option (Int32 × g_MD) :=
  g_b (Mod_of M p0 (2 : Int32)) fun x1 => if x1 ≤ 0 then (g_b (Mod_firstOf M p0) fun x5 => g_b (Mod_lastOf M p0) fun x8 => g_b (Mod_of M p0 (0 : Int32)) fun x11 => g_bM (Mod_layBest M x5 x8 p0 x11 p1) fun x14 M15 => if x14 = 0 then (some ((3 : Int32), M15)) else (Mod_moveToBest_46  gFU M15 p0 (M15.2.1 6) (0 : Int32))) else (some ((2 : Int32), M))
set_option maxHeartbeats 4000000 in
set_option maxRecDepth 100000 in
theorem T_Mod_moveToBest {l : Launch} {B : g_B} {h0 : g_AH} {a0 : Nat} {ad : Nat → Nat} (ok : mOK a0 ad) (M : g_MD) (p0 : Int32) (p1 : Int32) (z : Int32 × g_MD) (hy : Mod_moveToBest M p0 p1 = some z) : g_CT l B y_Mod_moveToBest k_Mod_moveToBest [.ref a0, .int p0, .int p1] (mH h0 a0 ad M) (.inl (some (.int z.1))) (mH h0 a0 ad z.2) := by
  refine g_start2 (Lc := [(0, .ref a0), (1, .int p0), (2, .int p1)]) (by decide) rfl rfl (by exact Nat.le_of_ble_eq_true rfl) (by rfl) fun X => ?_
  unfold Mod_moveToBest at hy
  refine g_aload_n 0 (i := 0) (pc' := 1) d_Mod_moveToBest_0 rfl rfl rfl ?_
  refine g_iload_n 1 (i := 1) (pc' := 2) d_Mod_moveToBest_1 rfl rfl rfl ?_
  refine g_iconst (v := (2 : Int32)) (pc' := 3) d_Mod_moveToBest_2 (by decide) rfl ?_
  replace hy := g_b_inv hy
  obtain ⟨x1, hf3, hy⟩ := hy
  refine g_callV (rv := some (.int x1)) (h1 := (mH h0 a0 ad M)) (pc' := 6) (As := [.int p0, .int (2 : Int32)]) (rest := []) 2 (T_Mod_of ok (hy := hf3)) d_Mod_moveToBest_3 (mH_look ok) rfl rfl q2186 q2188 qs52 q135 q2189 hd_Mod_of rfl ⟨by decide, by decide⟩ (by first | exact Nat.le_of_ble_eq_true rfl | (simp only [List.map, List.sum_cons, List.sum_nil, g_cat_rf]; exact Nat.le_of_ble_eq_true rfl) | (simp only [List.map, List.sum_cons, List.sum_nil, g_cat_rf, Value.category]; decide)) rfl ?_
  by_cases c4 : x1 ≤ 0
  · rw [if_pos c4] at hy
    refine g_if_leT (pc' := 11) d_Mod_moveToBest_6 c4 (by decide) ?_
    refine g_aload_n 0 (i := 0) (pc' := 12) d_Mod_moveToBest_11 rfl rfl rfl ?_
    refine g_aload_n 0 (i := 0) (pc' := 13) d_Mod_moveToBest_12 rfl rfl rfl ?_
    refine g_iload_n 1 (i := 1) (pc' := 14) d_Mod_moveToBest_13 rfl rfl rfl ?_
    replace hy := g_b_inv hy
    obtain ⟨x5, hf7, hy⟩ := hy
    refine g_callV (rv := some (.int x5)) (h1 := (mH h0 a0 ad M)) (pc' := 17) (As := [.int p0]) (rest := [.ref a0]) 1 (T_Mod_firstOf ok (hy := hf7)) d_Mod_moveToBest_14 (mH_look ok) rfl rfl q2387 q2389 qs85 q135 q2390 hd_Mod_firstOf rfl ⟨by decide, by decide⟩ (by first | exact Nat.le_of_ble_eq_true rfl | (simp only [List.map, List.sum_cons, List.sum_nil, g_cat_rf]; exact Nat.le_of_ble_eq_true rfl) | (simp only [List.map, List.sum_cons, List.sum_nil, g_cat_rf, Value.category]; decide)) rfl ?_
    refine g_aload_n 0 (i := 0) (pc' := 18) d_Mod_moveToBest_17 rfl rfl rfl ?_
    refine g_iload_n 1 (i := 1) (pc' := 19) d_Mod_moveToBest_18 rfl rfl rfl ?_
    replace hy := g_b_inv hy
    obtain ⟨x8, hf10, hy⟩ := hy
    refine g_callV (rv := some (.int x8)) (h1 := (mH h0 a0 ad M)) (pc' := 22) (As := [.int p0]) (rest := [.int x5, .ref a0]) 1 (T_Mod_lastOf ok (hy := hf10)) d_Mod_moveToBest_19 (mH_look ok) rfl rfl q2391 q2393 qs86 q135 q2394 hd_Mod_lastOf rfl ⟨by decide, by decide⟩ (by first | exact Nat.le_of_ble_eq_true rfl | (simp only [List.map, List.sum_cons, List.sum_nil, g_cat_rf]; exact Nat.le_of_ble_eq_true rfl) | (simp only [List.map, List.sum_cons, List.sum_nil, g_cat_rf, Value.category]; decide)) rfl ?_
    refine g_iload_n 1 (i := 1) (pc' := 23) d_Mod_moveToBest_22 rfl rfl rfl ?_
    refine g_aload_n 0 (i := 0) (pc' := 24) d_Mod_moveToBest_23 rfl rfl rfl ?_
    refine g_iload_n 1 (i := 1) (pc' := 25) d_Mod_moveToBest_24 rfl rfl rfl ?_
    refine g_iconst (v := (0 : Int32)) (pc' := 26) d_Mod_moveToBest_25 (by decide) rfl ?_
    replace hy := g_b_inv hy
    obtain ⟨x11, hf13, hy⟩ := hy
    refine g_callV (rv := some (.int x11)) (h1 := (mH h0 a0 ad M)) (pc' := 29) (As := [.int p0, .int (0 : Int32)]) (rest := [.int p0, .int x8, .int x5, .ref a0]) 2 (T_Mod_of ok (hy := hf13)) d_Mod_moveToBest_26 (mH_look ok) rfl rfl q2186 q2188 qs52 q135 q2189 hd_Mod_of rfl ⟨by decide, by decide⟩ (by first | exact Nat.le_of_ble_eq_true rfl | (simp only [List.map, List.sum_cons, List.sum_nil, g_cat_rf]; exact Nat.le_of_ble_eq_true rfl) | (simp only [List.map, List.sum_cons, List.sum_nil, g_cat_rf, Value.category]; decide)) rfl ?_
    refine g_iload_n 2 (i := 2) (pc' := 30) d_Mod_moveToBest_29 rfl rfl rfl ?_
    replace hy := g_bM_inv hy
    obtain ⟨x14, M15, hf16, hy⟩ := hy
    refine g_callV (rv := some (.int x14)) (h1 := (mH h0 a0 ad M15)) (pc' := 33) (As := [.int x5, .int x8, .int p0, .int x11, .int p1]) (rest := []) 5 (T_Mod_layBest ok (hy := hf16)) d_Mod_moveToBest_30 (mH_look ok) rfl rfl q2331 q2333 qs75 q135 q2334 hd_Mod_layBest rfl ⟨by decide, by decide⟩ (by first | exact Nat.le_of_ble_eq_true rfl | (simp only [List.map, List.sum_cons, List.sum_nil, g_cat_rf]; exact Nat.le_of_ble_eq_true rfl) | (simp only [List.map, List.sum_cons, List.sum_nil, g_cat_rf, Value.category]; decide)) rfl ?_
    by_cases c17 : x14 = 0
    · rw [if_pos c17] at hy
      refine g_if_neF (pc' := 36) d_Mod_moveToBest_33 38 c17 (by decide) rfl ?_
      refine g_iconst (v := (3 : Int32)) (pc' := 37) d_Mod_moveToBest_36 (by decide) rfl ?_
      cases hy
      exact g_iret rfl rfl rfl d_Mod_moveToBest_37
    · rw [if_neg c17] at hy
      refine g_if_neT (pc' := 38) d_Mod_moveToBest_33 c17 (by decide) ?_
      refine g_aload_n 0 (i := 0) (pc' := 39) d_Mod_moveToBest_38 rfl rfl rfl ?_
      refine gm_getA ok 6 (pc' := 42) d_Mod_moveToBest_39 rfl q1971 rfl rfl ?_
      refine g_istore_n (i := 3) (pc' := 43) (Lc' := [(3, .int (M15.2.1 6)), (0, .ref a0), (1, .int p0), (2, .int p1)]) d_Mod_moveToBest_42 rfl (by decide) rfl rfl ?_
      refine g_iconst (v := (0 : Int32)) (pc' := 44) d_Mod_moveToBest_43 (by decide) rfl ?_
      refine g_istore (pc' := 46) (Lc' := [(4, .int (0 : Int32)), (3, .int (M15.2.1 6)), (0, .ref a0), (1, .int p0), (2, .int p1)]) d_Mod_moveToBest_44 (by decide) rfl rfl ?_
      refine g_sub [2, 3, 1, 0] rfl ?_
      exact W_Mod_moveToBest_46 ok _ _ _ _ _ _ hy
  · rw [if_neg c4] at hy
    refine g_if_leF (pc' := 9) d_Mod_moveToBest_6 11 c4 (by decide) rfl ?_
    refine g_iconst (v := (2 : Int32)) (pc' := 10) d_Mod_moveToBest_9 (by decide) rfl ?_
    cases hy
    exact g_iret rfl rfl rfl d_Mod_moveToBest_10
theorem hd_Mod_moveToBest : g_dsc y_Mod_moveToBest 2 := ⟨by decide +kernel, by decide +kernel, by decide +kernel⟩
/-! CircuitDeskModel.moveBest(II)I -/
abbrev y_Mod_moveBest : MethodName := ⟨"CircuitDeskModel", "moveBest", "(II)I"⟩
abbrev k_Mod_moveBest : g_M := (prog_17_method_87_code, 3, "CircuitDeskModel", 20, (some FieldType.int), "moveBest", [], 0)
theorem d_Mod_moveBest_0 : decode prog_17_method_87_code 0 = .ok (.aload_n 0, 1) := by decide +kernel
theorem d_Mod_moveBest_1 : decode prog_17_method_87_code 1 = .ok (.iconst 0, 1) := by decide +kernel
theorem d_Mod_moveBest_2 : decode prog_17_method_87_code 2 = .ok (.putfield 51, 3) := by decide +kernel
theorem d_Mod_moveBest_5 : decode prog_17_method_87_code 5 = .ok (.aload_n 0, 1) := by decide +kernel
theorem d_Mod_moveBest_6 : decode prog_17_method_87_code 6 = .ok (.iload_n 1, 1) := by decide +kernel
theorem d_Mod_moveBest_7 : decode prog_17_method_87_code 7 = .ok (.invokevirtual 306, 3) := by decide +kernel
theorem d_Mod_moveBest_10 : decode prog_17_method_87_code 10 = .ok (.ifCond .eq 16, 3) := by decide +kernel
theorem d_Mod_moveBest_13 : decode prog_17_method_87_code 13 = .ok (.iload_n 2, 1) := by decide +kernel
theorem d_Mod_moveBest_14 : decode prog_17_method_87_code 14 = .ok (.iconst (-1), 1) := by decide +kernel
theorem d_Mod_moveBest_15 : decode prog_17_method_87_code 15 = .ok (.if_icmp .eq 17, 3) := by decide +kernel
theorem d_Mod_moveBest_18 : decode prog_17_method_87_code 18 = .ok (.aload_n 0, 1) := by decide +kernel
theorem d_Mod_moveBest_19 : decode prog_17_method_87_code 19 = .ok (.iload_n 2, 1) := by decide +kernel
theorem d_Mod_moveBest_20 : decode prog_17_method_87_code 20 = .ok (.invokevirtual 214, 3) := by decide +kernel
theorem d_Mod_moveBest_23 : decode prog_17_method_87_code 23 = .ok (.ifCond .ne 9, 3) := by decide +kernel
theorem d_Mod_moveBest_26 : decode prog_17_method_87_code 26 = .ok (.aload_n 0, 1) := by decide +kernel
theorem d_Mod_moveBest_27 : decode prog_17_method_87_code 27 = .ok (.iconst 1, 1) := by decide +kernel
theorem d_Mod_moveBest_28 : decode prog_17_method_87_code 28 = .ok (.invokevirtual 61, 3) := by decide +kernel
theorem d_Mod_moveBest_31 : decode prog_17_method_87_code 31 = .ok (.ireturn, 1) := by decide +kernel
theorem d_Mod_moveBest_32 : decode prog_17_method_87_code 32 = .ok (.aload_n 0, 1) := by decide +kernel
theorem d_Mod_moveBest_33 : decode prog_17_method_87_code 33 = .ok (.iload_n 1, 1) := by decide +kernel
theorem d_Mod_moveBest_34 : decode prog_17_method_87_code 34 = .ok (.iload_n 2, 1) := by decide +kernel
theorem d_Mod_moveBest_35 : decode prog_17_method_87_code 35 = .ok (.invokevirtual 324, 3) := by decide +kernel
theorem d_Mod_moveBest_38 : decode prog_17_method_87_code 38 = .ok (.ireturn, 1) := by decide +kernel
def Mod_moveBest_26 (M : g_MD) : Option (Int32 × g_MD) :=
  g_bM (Mod_fail M (1 : Int32)) fun x6 M7 => some (x6, M7)
set_option maxHeartbeats 4000000 in
set_option maxRecDepth 100000 in
theorem W_Mod_moveBest_26 {X : g_X} {h0 : g_AH} {a0 : Nat} {ad : Nat → Nat} (ok : mOK a0 ad) (z : Int32 × g_MD) (M : g_MD) (hy : Mod_moveBest_26  M = some z) : G X k_Mod_moveBest (.inl (some (.int z.1))) (mH h0 a0 ad z.2) (mH h0 a0 ad M) 26 [(0, .ref a0)] [] := by
  unfold Mod_moveBest_26 at hy
  refine g_aload_n 0 (i := 0) (pc' := 27) d_Mod_moveBest_26 rfl rfl rfl ?_
  refine g_iconst (v := (1 : Int32)) (pc' := 28) d_Mod_moveBest_27 (by decide) rfl ?_
  replace hy := g_bM_inv hy
  obtain ⟨x6, M7, hf8, hy⟩ := hy
  refine g_callV (rv := some (.int x6)) (h1 := (mH h0 a0 ad M7)) (pc' := 31) (As := [.int (1 : Int32)]) (rest := []) 1 (T_Mod_fail ok (hy := hf8)) d_Mod_moveBest_28 (mH_look ok) rfl rfl q2061 q2063 qs31 q135 q2064 hd_Mod_fail rfl ⟨by decide, by decide⟩ (by first | exact Nat.le_of_ble_eq_true rfl | (simp only [List.map, List.sum_cons, List.sum_nil, g_cat_rf]; exact Nat.le_of_ble_eq_true rfl) | (simp only [List.map, List.sum_cons, List.sum_nil, g_cat_rf, Value.category]; decide)) rfl ?_
  cases hy
  exact g_iret rfl rfl rfl d_Mod_moveBest_31
def Mod_moveBest_32 (M : g_MD) (v1 : Int32) (v2 : Int32) : Option (Int32 × g_MD) :=
  g_bM (Mod_moveToBest M v1 v2) fun x10 M11 => some (x10, M11)
set_option maxHeartbeats 4000000 in
set_option maxRecDepth 100000 in
theorem W_Mod_moveBest_32 {X : g_X} {h0 : g_AH} {a0 : Nat} {ad : Nat → Nat} (ok : mOK a0 ad) (z : Int32 × g_MD) (M : g_MD) (v1 : Int32) (v2 : Int32) (hy : Mod_moveBest_32  M v1 v2 = some z) : G X k_Mod_moveBest (.inl (some (.int z.1))) (mH h0 a0 ad z.2) (mH h0 a0 ad M) 32 [(0, .ref a0), (1, .int v1), (2, .int v2)] [] := by
  unfold Mod_moveBest_32 at hy
  refine g_aload_n 0 (i := 0) (pc' := 33) d_Mod_moveBest_32 rfl rfl rfl ?_
  refine g_iload_n 1 (i := 1) (pc' := 34) d_Mod_moveBest_33 rfl rfl rfl ?_
  refine g_iload_n 2 (i := 2) (pc' := 35) d_Mod_moveBest_34 rfl rfl rfl ?_
  replace hy := g_bM_inv hy
  obtain ⟨x10, M11, hf12, hy⟩ := hy
  refine g_callV (rv := some (.int x10)) (h1 := (mH h0 a0 ad M11)) (pc' := 38) (As := [.int v1, .int v2]) (rest := []) 2 (T_Mod_moveToBest ok (hy := hf12)) d_Mod_moveBest_35 (mH_look ok) rfl rfl q2407 q2409 qs89 q135 q2410 hd_Mod_moveToBest rfl ⟨by decide, by decide⟩ (by first | exact Nat.le_of_ble_eq_true rfl | (simp only [List.map, List.sum_cons, List.sum_nil, g_cat_rf]; exact Nat.le_of_ble_eq_true rfl) | (simp only [List.map, List.sum_cons, List.sum_nil, g_cat_rf, Value.category]; decide)) rfl ?_
  cases hy
  exact g_iret rfl rfl rfl d_Mod_moveBest_38
def Mod_moveBest (M : g_MD) (p0 : Int32) (p1 : Int32) : Option (Int32 × g_MD) :=
  g_let (mp M 7 (0 : Int32)) fun M1 => g_b (Mod_isCircuit M1 p0) fun x2 => if x2 = 0 then (Mod_moveBest_26  M1) else (if p1 = (-1 : Int32) then (Mod_moveBest_32  M1 p0 p1) else (g_b (Mod_isLink M1 p1) fun x13 => if x13 = 0 then (Mod_moveBest_26  M1) else (Mod_moveBest_32  M1 p0 p1)))
set_option maxHeartbeats 4000000 in
set_option maxRecDepth 100000 in
theorem T_Mod_moveBest {l : Launch} {B : g_B} {h0 : g_AH} {a0 : Nat} {ad : Nat → Nat} (ok : mOK a0 ad) (M : g_MD) (p0 : Int32) (p1 : Int32) (z : Int32 × g_MD) (hy : Mod_moveBest M p0 p1 = some z) : g_CT l B y_Mod_moveBest k_Mod_moveBest [.ref a0, .int p0, .int p1] (mH h0 a0 ad M) (.inl (some (.int z.1))) (mH h0 a0 ad z.2) := by
  refine g_start2 (Lc := [(0, .ref a0), (1, .int p0), (2, .int p1)]) (by decide) rfl rfl (by exact Nat.le_of_ble_eq_true rfl) (by rfl) fun X => ?_
  unfold Mod_moveBest at hy
  refine g_aload_n 0 (i := 0) (pc' := 1) d_Mod_moveBest_0 rfl rfl rfl ?_
  refine g_iconst (v := (0 : Int32)) (pc' := 2) d_Mod_moveBest_1 (by decide) rfl ?_
  replace hy := g_let_inv hy
  refine gm_put ok 7 (pc' := 5) d_Mod_moveBest_2 rfl (by decide) q1972 rfl ?_
  generalize (mp M 7 (0 : Int32)) = M1 at hy ⊢
  refine g_aload_n 0 (i := 0) (pc' := 6) d_Mod_moveBest_5 rfl rfl rfl ?_
  refine g_iload_n 1 (i := 1) (pc' := 7) d_Mod_moveBest_6 rfl rfl rfl ?_
  replace hy := g_b_inv hy
  obtain ⟨x2, hf4, hy⟩ := hy
  refine g_callV (rv := some (.int x2)) (h1 := (mH h0 a0 ad M1)) (pc' := 10) (As := [.int p0]) (rest := []) 1 (T_Mod_isCircuit ok (hy := hf4)) d_Mod_moveBest_7 (mH_look ok) rfl rfl q2375 q2377 qs83 q135 q2378 hd_Mod_isCircuit rfl ⟨by decide, by decide⟩ (by first | exact Nat.le_of_ble_eq_true rfl | (simp only [List.map, List.sum_cons, List.sum_nil, g_cat_rf]; exact Nat.le_of_ble_eq_true rfl) | (simp only [List.map, List.sum_cons, List.sum_nil, g_cat_rf, Value.category]; decide)) rfl ?_
  by_cases c5 : x2 = 0
  · rw [if_pos c5] at hy
    refine g_if_eqT (pc' := 26) d_Mod_moveBest_10 c5 (by decide) ?_
    refine g_sub [0] rfl ?_
    exact W_Mod_moveBest_26 ok _ _ hy
  · rw [if_neg c5] at hy
    refine g_if_eqF (pc' := 13) d_Mod_moveBest_10 26 c5 (by decide) rfl ?_
    refine g_iload_n 2 (i := 2) (pc' := 14) d_Mod_moveBest_13 rfl rfl rfl ?_
    refine g_iconst (v := (-1 : Int32)) (pc' := 15) d_Mod_moveBest_14 (by decide) rfl ?_
    by_cases c9 : p1 = (-1 : Int32)
    · rw [if_pos c9] at hy
      refine g_icmp_eqT (pc' := 32) d_Mod_moveBest_15 c9 (by decide) ?_
      exact W_Mod_moveBest_32 ok _ _ _ _ hy
    · rw [if_neg c9] at hy
      refine g_icmp_eqF (pc' := 18) d_Mod_moveBest_15 32 c9 (by decide) rfl ?_
      refine g_aload_n 0 (i := 0) (pc' := 19) d_Mod_moveBest_18 rfl rfl rfl ?_
      refine g_iload_n 2 (i := 2) (pc' := 20) d_Mod_moveBest_19 rfl rfl rfl ?_
      replace hy := g_b_inv hy
      obtain ⟨x13, hf15, hy⟩ := hy
      refine g_callV (rv := some (.int x13)) (h1 := (mH h0 a0 ad M1)) (pc' := 23) (As := [.int p1]) (rest := []) 1 (T_Mod_isLink ok (hy := hf15)) d_Mod_moveBest_20 (mH_look ok) rfl rfl q2259 q2261 qs65 q135 q2262 hd_Mod_isLink rfl ⟨by decide, by decide⟩ (by first | exact Nat.le_of_ble_eq_true rfl | (simp only [List.map, List.sum_cons, List.sum_nil, g_cat_rf]; exact Nat.le_of_ble_eq_true rfl) | (simp only [List.map, List.sum_cons, List.sum_nil, g_cat_rf, Value.category]; decide)) rfl ?_
      by_cases c16 : x13 = 0
      · rw [if_pos c16] at hy
        refine g_if_neF (pc' := 26) d_Mod_moveBest_23 32 c16 (by decide) rfl ?_
        refine g_sub [0] rfl ?_
        exact W_Mod_moveBest_26 ok _ _ hy
      · rw [if_neg c16] at hy
        refine g_if_neT (pc' := 32) d_Mod_moveBest_23 c16 (by decide) ?_
        exact W_Mod_moveBest_32 ok _ _ _ _ hy
theorem hd_Mod_moveBest : g_dsc y_Mod_moveBest 2 := ⟨by decide +kernel, by decide +kernel, by decide +kernel⟩
