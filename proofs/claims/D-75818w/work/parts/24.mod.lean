/-! CircuitDeskModel.abort(I)I -/
abbrev y_Mod_abort : MethodName := ⟨"CircuitDeskModel", "abort", "(I)I"⟩
abbrev k_Mod_abort : g_M := (prog_17_method_88_code, 2, "CircuitDeskModel", 14, (some FieldType.int), "abort", [], 0)
theorem d_Mod_abort_0 : decode prog_17_method_88_code 0 = .ok (.aload_n 0, 1) := by decide +kernel
theorem d_Mod_abort_1 : decode prog_17_method_88_code 1 = .ok (.iconst 0, 1) := by decide +kernel
theorem d_Mod_abort_2 : decode prog_17_method_88_code 2 = .ok (.putfield 51, 3) := by decide +kernel
theorem d_Mod_abort_5 : decode prog_17_method_88_code 5 = .ok (.aload_n 0, 1) := by decide +kernel
theorem d_Mod_abort_6 : decode prog_17_method_88_code 6 = .ok (.iload_n 1, 1) := by decide +kernel
theorem d_Mod_abort_7 : decode prog_17_method_88_code 7 = .ok (.invokevirtual 306, 3) := by decide +kernel
theorem d_Mod_abort_10 : decode prog_17_method_88_code 10 = .ok (.ifCond .ne 9, 3) := by decide +kernel
theorem d_Mod_abort_13 : decode prog_17_method_88_code 13 = .ok (.aload_n 0, 1) := by decide +kernel
theorem d_Mod_abort_14 : decode prog_17_method_88_code 14 = .ok (.iconst 1, 1) := by decide +kernel
theorem d_Mod_abort_15 : decode prog_17_method_88_code 15 = .ok (.invokevirtual 61, 3) := by decide +kernel
theorem d_Mod_abort_18 : decode prog_17_method_88_code 18 = .ok (.ireturn, 1) := by decide +kernel
theorem d_Mod_abort_19 : decode prog_17_method_88_code 19 = .ok (.aload_n 0, 1) := by decide +kernel
theorem d_Mod_abort_20 : decode prog_17_method_88_code 20 = .ok (.iload_n 1, 1) := by decide +kernel
theorem d_Mod_abort_21 : decode prog_17_method_88_code 21 = .ok (.iconst 2, 1) := by decide +kernel
theorem d_Mod_abort_22 : decode prog_17_method_88_code 22 = .ok (.invokevirtual 150, 3) := by decide +kernel
theorem d_Mod_abort_25 : decode prog_17_method_88_code 25 = .ok (.iconst 1, 1) := by decide +kernel
theorem d_Mod_abort_26 : decode prog_17_method_88_code 26 = .ok (.if_icmp .eq 6, 3) := by decide +kernel
theorem d_Mod_abort_29 : decode prog_17_method_88_code 29 = .ok (.bipush 7, 2) := by decide +kernel
theorem d_Mod_abort_31 : decode prog_17_method_88_code 31 = .ok (.ireturn, 1) := by decide +kernel
theorem d_Mod_abort_32 : decode prog_17_method_88_code 32 = .ok (.aload_n 0, 1) := by decide +kernel
theorem d_Mod_abort_33 : decode prog_17_method_88_code 33 = .ok (.getfield 7, 3) := by decide +kernel
theorem d_Mod_abort_36 : decode prog_17_method_88_code 36 = .ok (.iload_n 1, 1) := by decide +kernel
theorem d_Mod_abort_37 : decode prog_17_method_88_code 37 = .ok (.iconst 1, 1) := by decide +kernel
theorem d_Mod_abort_38 : decode prog_17_method_88_code 38 = .ok (.invokestatic 144, 3) := by decide +kernel
theorem d_Mod_abort_41 : decode prog_17_method_88_code 41 = .ok (.iconst 0, 1) := by decide +kernel
theorem d_Mod_abort_42 : decode prog_17_method_88_code 42 = .ok (.iastore, 1) := by decide +kernel
theorem d_Mod_abort_43 : decode prog_17_method_88_code 43 = .ok (.aload_n 0, 1) := by decide +kernel
theorem d_Mod_abort_44 : decode prog_17_method_88_code 44 = .ok (.iload_n 1, 1) := by decide +kernel
theorem d_Mod_abort_45 : decode prog_17_method_88_code 45 = .ok (.iconst 2, 1) := by decide +kernel
theorem d_Mod_abort_46 : decode prog_17_method_88_code 46 = .ok (.iconst 0, 1) := by decide +kernel
theorem d_Mod_abort_47 : decode prog_17_method_88_code 47 = .ok (.invokevirtual 296, 3) := by decide +kernel
theorem d_Mod_abort_50 : decode prog_17_method_88_code 50 = .ok (.aload_n 0, 1) := by decide +kernel
theorem d_Mod_abort_51 : decode prog_17_method_88_code 51 = .ok (.iload_n 1, 1) := by decide +kernel
theorem d_Mod_abort_52 : decode prog_17_method_88_code 52 = .ok (.iconst 3, 1) := by decide +kernel
theorem d_Mod_abort_53 : decode prog_17_method_88_code 53 = .ok (.iconst 0, 1) := by decide +kernel
theorem d_Mod_abort_54 : decode prog_17_method_88_code 54 = .ok (.invokevirtual 296, 3) := by decide +kernel
theorem d_Mod_abort_57 : decode prog_17_method_88_code 57 = .ok (.aload_n 0, 1) := by decide +kernel
theorem d_Mod_abort_58 : decode prog_17_method_88_code 58 = .ok (.getfield 7, 3) := by decide +kernel
theorem d_Mod_abort_61 : decode prog_17_method_88_code 61 = .ok (.bipush 13, 2) := by decide +kernel
theorem d_Mod_abort_63 : decode prog_17_method_88_code 63 = .ok (.dup2, 1) := by decide +kernel
theorem d_Mod_abort_64 : decode prog_17_method_88_code 64 = .ok (.iaload, 1) := by decide +kernel
theorem d_Mod_abort_65 : decode prog_17_method_88_code 65 = .ok (.iconst 1, 1) := by decide +kernel
theorem d_Mod_abort_66 : decode prog_17_method_88_code 66 = .ok (.iadd, 1) := by decide +kernel
theorem d_Mod_abort_67 : decode prog_17_method_88_code 67 = .ok (.iastore, 1) := by decide +kernel
theorem d_Mod_abort_68 : decode prog_17_method_88_code 68 = .ok (.iconst 0, 1) := by decide +kernel
theorem d_Mod_abort_69 : decode prog_17_method_88_code 69 = .ok (.ireturn, 1) := by decide +kernel
def Mod_abort (M : g_MD) (p0 : Int32) : Option (Int32 × g_MD) :=
  g_let (mp M 7 (0 : Int32)) fun M1 => g_b (Mod_isCircuit M1 p0) fun x2 => if x2 = 0 then (g_bM (Mod_fail M1 (1 : Int32)) fun x25 M26 => some (x25, M26)) else (g_b (Mod_of M1 p0 (2 : Int32)) fun x6 => if x6 = (1 : Int32) then (g_b (Mod_wayPlace p0 (1 : Int32)) fun x10 => g_mS M1 0 0 x10 (0 : Int32) fun M13 => g_b (Mod_put M13 p0 (2 : Int32) (0 : Int32)) fun M16 => g_b (Mod_put M16 p0 (3 : Int32) (0 : Int32)) fun M19 => g_mA M19 0 0 (13 : Int32) fun x21 => g_mS M19 0 0 (13 : Int32) (x21 + (1 : Int32)) fun M23 => some ((0 : Int32), M23)) else (some ((7 : Int32), M1)))
set_option maxHeartbeats 4000000 in
set_option maxRecDepth 100000 in
theorem T_Mod_abort {l : Launch} {B : g_B} {h0 : g_AH} {a0 : Nat} {ad : Nat → Nat} (ok : mOK a0 ad) (M : g_MD) (p0 : Int32) (z : Int32 × g_MD) (hy : Mod_abort M p0 = some z) : g_CT l B y_Mod_abort k_Mod_abort [.ref a0, .int p0] (mH h0 a0 ad M) (.inl (some (.int z.1))) (mH h0 a0 ad z.2) := by
  refine g_start2 (Lc := [(0, .ref a0), (1, .int p0)]) (by decide) rfl rfl (by exact Nat.le_of_ble_eq_true rfl) (by rfl) fun X => ?_
  unfold Mod_abort at hy
  refine g_aload_n 0 (i := 0) (pc' := 1) d_Mod_abort_0 rfl rfl rfl ?_
  refine g_iconst (v := (0 : Int32)) (pc' := 2) d_Mod_abort_1 (by decide) rfl ?_
  replace hy := g_let_inv hy
  refine gm_put ok 7 (pc' := 5) d_Mod_abort_2 rfl (by decide) q1972 rfl ?_
  generalize (mp M 7 (0 : Int32)) = M1 at hy ⊢
  refine g_aload_n 0 (i := 0) (pc' := 6) d_Mod_abort_5 rfl rfl rfl ?_
  refine g_iload_n 1 (i := 1) (pc' := 7) d_Mod_abort_6 rfl rfl rfl ?_
  replace hy := g_b_inv hy
  obtain ⟨x2, hf4, hy⟩ := hy
  refine g_callV (rv := some (.int x2)) (h1 := (mH h0 a0 ad M1)) (pc' := 10) (As := [.int p0]) (rest := []) 1 (T_Mod_isCircuit ok (hy := hf4)) d_Mod_abort_7 (mH_look ok) rfl rfl q2375 q2377 qs83 q135 q2378 hd_Mod_isCircuit rfl ⟨by decide, by decide⟩ (by first | exact Nat.le_of_ble_eq_true rfl | (simp only [List.map, List.sum_cons, List.sum_nil, g_cat_rf]; exact Nat.le_of_ble_eq_true rfl) | (simp only [List.map, List.sum_cons, List.sum_nil, g_cat_rf, Value.category]; decide)) rfl ?_
  by_cases c5 : x2 = 0
  · rw [if_pos c5] at hy
    refine g_if_neF (pc' := 13) d_Mod_abort_10 19 c5 (by decide) rfl ?_
    refine g_aload_n 0 (i := 0) (pc' := 14) d_Mod_abort_13 rfl rfl rfl ?_
    refine g_iconst (v := (1 : Int32)) (pc' := 15) d_Mod_abort_14 (by decide) rfl ?_
    replace hy := g_bM_inv hy
    obtain ⟨x25, M26, hf27, hy⟩ := hy
    refine g_callV (rv := some (.int x25)) (h1 := (mH h0 a0 ad M26)) (pc' := 18) (As := [.int (1 : Int32)]) (rest := []) 1 (T_Mod_fail ok (hy := hf27)) d_Mod_abort_15 (mH_look ok) rfl rfl q2061 q2063 qs31 q135 q2064 hd_Mod_fail rfl ⟨by decide, by decide⟩ (by first | exact Nat.le_of_ble_eq_true rfl | (simp only [List.map, List.sum_cons, List.sum_nil, g_cat_rf]; exact Nat.le_of_ble_eq_true rfl) | (simp only [List.map, List.sum_cons, List.sum_nil, g_cat_rf, Value.category]; decide)) rfl ?_
    cases hy
    exact g_iret rfl rfl rfl d_Mod_abort_18
  · rw [if_neg c5] at hy
    refine g_if_neT (pc' := 19) d_Mod_abort_10 c5 (by decide) ?_
    refine g_aload_n 0 (i := 0) (pc' := 20) d_Mod_abort_19 rfl rfl rfl ?_
    refine g_iload_n 1 (i := 1) (pc' := 21) d_Mod_abort_20 rfl rfl rfl ?_
    refine g_iconst (v := (2 : Int32)) (pc' := 22) d_Mod_abort_21 (by decide) rfl ?_
    replace hy := g_b_inv hy
    obtain ⟨x6, hf8, hy⟩ := hy
    refine g_callV (rv := some (.int x6)) (h1 := (mH h0 a0 ad M1)) (pc' := 25) (As := [.int p0, .int (2 : Int32)]) (rest := []) 2 (T_Mod_of ok (hy := hf8)) d_Mod_abort_22 (mH_look ok) rfl rfl q2186 q2188 qs52 q135 q2189 hd_Mod_of rfl ⟨by decide, by decide⟩ (by first | exact Nat.le_of_ble_eq_true rfl | (simp only [List.map, List.sum_cons, List.sum_nil, g_cat_rf]; exact Nat.le_of_ble_eq_true rfl) | (simp only [List.map, List.sum_cons, List.sum_nil, g_cat_rf, Value.category]; decide)) rfl ?_
    refine g_iconst (v := (1 : Int32)) (pc' := 26) d_Mod_abort_25 (by decide) rfl ?_
    by_cases c9 : x6 = (1 : Int32)
    · rw [if_pos c9] at hy
      refine g_icmp_eqT (pc' := 32) d_Mod_abort_26 c9 (by decide) ?_
      refine g_aload_n 0 (i := 0) (pc' := 33) d_Mod_abort_32 rfl rfl rfl ?_
      refine gm_getA ok 0 (pc' := 36) d_Mod_abort_33 rfl q1965 rfl rfl ?_
      refine g_iload_n 1 (i := 1) (pc' := 37) d_Mod_abort_36 rfl rfl rfl ?_
      refine g_iconst (v := (1 : Int32)) (pc' := 38) d_Mod_abort_37 (by decide) rfl ?_
      replace hy := g_b_inv hy
      obtain ⟨x10, hf12, hy⟩ := hy
      refine g_callS (rv := some (.int x10)) (h1 := (mH h0 a0 ad M1)) (pc' := 41) (As := [.int p0, .int (1 : Int32)]) (rest := [.ref (ad 0)]) 2 (T_Mod_wayPlace (hy := hf12)) d_Mod_abort_38 q2179 q2180 q135 q2181 hd_Mod_wayPlace rfl ⟨by decide, by decide⟩ (by first | exact Nat.le_of_ble_eq_true rfl | (simp only [List.map, List.sum_cons, List.sum_nil, g_cat_rf]; exact Nat.le_of_ble_eq_true rfl) | (simp only [List.map, List.sum_cons, List.sum_nil, g_cat_rf, Value.category]; decide)) rfl ?_
      refine g_iconst (v := (0 : Int32)) (pc' := 42) d_Mod_abort_41 (by decide) rfl ?_
      replace hy := g_mS_inv hy
      obtain ⟨hc14, hy⟩ := hy
      refine gm_ast0 ok (pc' := 43) d_Mod_abort_42 hc14 rfl ?_
      generalize ms M1 0 (x10).toNatClampNeg (0 : Int32) = M13 at hy ⊢
      refine g_aload_n 0 (i := 0) (pc' := 44) d_Mod_abort_43 rfl rfl rfl ?_
      refine g_iload_n 1 (i := 1) (pc' := 45) d_Mod_abort_44 rfl rfl rfl ?_
      refine g_iconst (v := (2 : Int32)) (pc' := 46) d_Mod_abort_45 (by decide) rfl ?_
      refine g_iconst (v := (0 : Int32)) (pc' := 47) d_Mod_abort_46 (by decide) rfl ?_
      replace hy := g_b_inv hy
      obtain ⟨M16, hf17, hy⟩ := hy
      refine g_callV (rv := none) (h1 := (mH h0 a0 ad M16)) (pc' := 50) (As := [.int p0, .int (2 : Int32), .int (0 : Int32)]) (rest := []) 3 (T_Mod_put ok (hy := hf17)) d_Mod_abort_47 (mH_look ok) rfl rfl q2171 q2173 qs49 q135 q2174 hd_Mod_put rfl ⟨by decide, by decide⟩ (by first | exact Nat.le_of_ble_eq_true rfl | (simp only [List.map, List.sum_cons, List.sum_nil, g_cat_rf]; exact Nat.le_of_ble_eq_true rfl) | (simp only [List.map, List.sum_cons, List.sum_nil, g_cat_rf, Value.category]; decide)) rfl ?_
      refine g_aload_n 0 (i := 0) (pc' := 51) d_Mod_abort_50 rfl rfl rfl ?_
      refine g_iload_n 1 (i := 1) (pc' := 52) d_Mod_abort_51 rfl rfl rfl ?_
      refine g_iconst (v := (3 : Int32)) (pc' := 53) d_Mod_abort_52 (by decide) rfl ?_
      refine g_iconst (v := (0 : Int32)) (pc' := 54) d_Mod_abort_53 (by decide) rfl ?_
      replace hy := g_b_inv hy
      obtain ⟨M19, hf20, hy⟩ := hy
      refine g_callV (rv := none) (h1 := (mH h0 a0 ad M19)) (pc' := 57) (As := [.int p0, .int (3 : Int32), .int (0 : Int32)]) (rest := []) 3 (T_Mod_put ok (hy := hf20)) d_Mod_abort_54 (mH_look ok) rfl rfl q2171 q2173 qs49 q135 q2174 hd_Mod_put rfl ⟨by decide, by decide⟩ (by first | exact Nat.le_of_ble_eq_true rfl | (simp only [List.map, List.sum_cons, List.sum_nil, g_cat_rf]; exact Nat.le_of_ble_eq_true rfl) | (simp only [List.map, List.sum_cons, List.sum_nil, g_cat_rf, Value.category]; decide)) rfl ?_
      refine g_aload_n 0 (i := 0) (pc' := 58) d_Mod_abort_57 rfl rfl rfl ?_
      refine gm_getA ok 0 (pc' := 61) d_Mod_abort_58 rfl q1965 rfl rfl ?_
      refine g_bipush (v := (13 : Int32)) (pc' := 63) d_Mod_abort_61 (by decide) rfl ?_
      refine g_dup2 (pc' := 64) d_Mod_abort_63 rfl rfl rfl ?_
      replace hy := g_mA_inv hy
      obtain ⟨x21, hc22, hy⟩ := hy
      refine gm_ald0 ok (pc' := 65) d_Mod_abort_64 hc22 rfl ?_
      refine g_iconst (v := (1 : Int32)) (pc' := 66) d_Mod_abort_65 (by decide) rfl ?_
      refine g_iadd (pc' := 67) d_Mod_abort_66 rfl ?_
      replace hy := g_mS_inv hy
      obtain ⟨hc24, hy⟩ := hy
      refine gm_ast0 ok (pc' := 68) d_Mod_abort_67 hc24 rfl ?_
      generalize ms M19 0 ((13 : Int32)).toNatClampNeg (x21 + (1 : Int32)) = M23 at hy ⊢
      refine g_iconst (v := (0 : Int32)) (pc' := 69) d_Mod_abort_68 (by decide) rfl ?_
      cases hy
      exact g_iret rfl rfl rfl d_Mod_abort_69
    · rw [if_neg c9] at hy
      refine g_icmp_eqF (pc' := 29) d_Mod_abort_26 32 c9 (by decide) rfl ?_
      refine g_bipush (v := (7 : Int32)) (pc' := 31) d_Mod_abort_29 (by decide) rfl ?_
      cases hy
      exact g_iret rfl rfl rfl d_Mod_abort_31
theorem hd_Mod_abort : g_dsc y_Mod_abort 1 := ⟨by decide +kernel, by decide +kernel, by decide +kernel⟩
/-! CircuitDeskModel.growBacklog(II)V -/
abbrev y_Mod_growBacklog : MethodName := ⟨"CircuitDeskModel", "growBacklog", "(II)V"⟩
abbrev k_Mod_growBacklog : g_M := (prog_17_method_89_code, 4, "CircuitDeskModel", 13, none, "growBacklog", [], 0)
theorem d_Mod_growBacklog_0 : decode prog_17_method_89_code 0 = .ok (.aload_n 0, 1) := by decide +kernel
theorem d_Mod_growBacklog_1 : decode prog_17_method_89_code 1 = .ok (.iload_n 1, 1) := by decide +kernel
theorem d_Mod_growBacklog_2 : decode prog_17_method_89_code 2 = .ok (.iconst 5, 1) := by decide +kernel
theorem d_Mod_growBacklog_3 : decode prog_17_method_89_code 3 = .ok (.invokevirtual 150, 3) := by decide +kernel
theorem d_Mod_growBacklog_6 : decode prog_17_method_89_code 6 = .ok (.iload_n 2, 1) := by decide +kernel
theorem d_Mod_growBacklog_7 : decode prog_17_method_89_code 7 = .ok (.iadd, 1) := by decide +kernel
theorem d_Mod_growBacklog_8 : decode prog_17_method_89_code 8 = .ok (.istore_n 3, 1) := by decide +kernel
theorem d_Mod_growBacklog_9 : decode prog_17_method_89_code 9 = .ok (.aload_n 0, 1) := by decide +kernel
theorem d_Mod_growBacklog_10 : decode prog_17_method_89_code 10 = .ok (.getfield 7, 3) := by decide +kernel
theorem d_Mod_growBacklog_13 : decode prog_17_method_89_code 13 = .ok (.bipush 10, 2) := by decide +kernel
theorem d_Mod_growBacklog_15 : decode prog_17_method_89_code 15 = .ok (.dup2, 1) := by decide +kernel
theorem d_Mod_growBacklog_16 : decode prog_17_method_89_code 16 = .ok (.iaload, 1) := by decide +kernel
theorem d_Mod_growBacklog_17 : decode prog_17_method_89_code 17 = .ok (.iconst 0, 1) := by decide +kernel
theorem d_Mod_growBacklog_18 : decode prog_17_method_89_code 18 = .ok (.iload_n 3, 1) := by decide +kernel
theorem d_Mod_growBacklog_19 : decode prog_17_method_89_code 19 = .ok (.bipush 9, 2) := by decide +kernel
theorem d_Mod_growBacklog_21 : decode prog_17_method_89_code 21 = .ok (.isub, 1) := by decide +kernel
theorem d_Mod_growBacklog_22 : decode prog_17_method_89_code 22 = .ok (.invokestatic 327, 3) := by decide +kernel
theorem d_Mod_growBacklog_25 : decode prog_17_method_89_code 25 = .ok (.iadd, 1) := by decide +kernel
theorem d_Mod_growBacklog_26 : decode prog_17_method_89_code 26 = .ok (.iastore, 1) := by decide +kernel
theorem d_Mod_growBacklog_27 : decode prog_17_method_89_code 27 = .ok (.aload_n 0, 1) := by decide +kernel
theorem d_Mod_growBacklog_28 : decode prog_17_method_89_code 28 = .ok (.iload_n 1, 1) := by decide +kernel
theorem d_Mod_growBacklog_29 : decode prog_17_method_89_code 29 = .ok (.iconst 5, 1) := by decide +kernel
theorem d_Mod_growBacklog_30 : decode prog_17_method_89_code 30 = .ok (.iload_n 3, 1) := by decide +kernel
theorem d_Mod_growBacklog_31 : decode prog_17_method_89_code 31 = .ok (.bipush 9, 2) := by decide +kernel
theorem d_Mod_growBacklog_33 : decode prog_17_method_89_code 33 = .ok (.invokestatic 332, 3) := by decide +kernel
theorem d_Mod_growBacklog_36 : decode prog_17_method_89_code 36 = .ok (.invokevirtual 296, 3) := by decide +kernel
theorem d_Mod_growBacklog_39 : decode prog_17_method_89_code 39 = .ok (.return_, 1) := by decide +kernel
def Mod_growBacklog (M : g_MD) (p0 : Int32) (p1 : Int32) : Option g_MD :=
  g_b (Mod_of M p0 (5 : Int32)) fun x1 => g_mA M 0 0 (10 : Int32) fun x4 => g_mS M 0 0 (10 : Int32) (x4 + (if (0 : Int32) < ((x1 + p1) - (9 : Int32)) then ((x1 + p1) - (9 : Int32)) else (0 : Int32))) fun M6 => g_b (Mod_put M6 p0 (5 : Int32) (if (9 : Int32) < (x1 + p1) then (9 : Int32) else (x1 + p1))) fun M9 => some M9
set_option maxHeartbeats 4000000 in
set_option maxRecDepth 100000 in
theorem T_Mod_growBacklog {l : Launch} {B : g_B} {h0 : g_AH} {a0 : Nat} {ad : Nat → Nat} (ok : mOK a0 ad) (M : g_MD) (p0 : Int32) (p1 : Int32) (z : g_MD) (hy : Mod_growBacklog M p0 p1 = some z) : g_CT l B y_Mod_growBacklog k_Mod_growBacklog [.ref a0, .int p0, .int p1] (mH h0 a0 ad M) (.inl none) (mH h0 a0 ad z) := by
  refine g_start2 (Lc := [(0, .ref a0), (1, .int p0), (2, .int p1)]) (by decide) rfl rfl (by exact Nat.le_of_ble_eq_true rfl) (by rfl) fun X => ?_
  unfold Mod_growBacklog at hy
  refine g_aload_n 0 (i := 0) (pc' := 1) d_Mod_growBacklog_0 rfl rfl rfl ?_
  refine g_iload_n 1 (i := 1) (pc' := 2) d_Mod_growBacklog_1 rfl rfl rfl ?_
  refine g_iconst (v := (5 : Int32)) (pc' := 3) d_Mod_growBacklog_2 (by decide) rfl ?_
  replace hy := g_b_inv hy
  obtain ⟨x1, hf3, hy⟩ := hy
  refine g_callV (rv := some (.int x1)) (h1 := (mH h0 a0 ad M)) (pc' := 6) (As := [.int p0, .int (5 : Int32)]) (rest := []) 2 (T_Mod_of ok (hy := hf3)) d_Mod_growBacklog_3 (mH_look ok) rfl rfl q2186 q2188 qs52 q135 q2189 hd_Mod_of rfl ⟨by decide, by decide⟩ (by first | exact Nat.le_of_ble_eq_true rfl | (simp only [List.map, List.sum_cons, List.sum_nil, g_cat_rf]; exact Nat.le_of_ble_eq_true rfl) | (simp only [List.map, List.sum_cons, List.sum_nil, g_cat_rf, Value.category]; decide)) rfl ?_
  refine g_iload_n 2 (i := 2) (pc' := 7) d_Mod_growBacklog_6 rfl rfl rfl ?_
  refine g_iadd (pc' := 8) d_Mod_growBacklog_7 rfl ?_
  refine g_istore_n (i := 3) (pc' := 9) (Lc' := [(3, .int (x1 + p1)), (0, .ref a0), (1, .int p0), (2, .int p1)]) d_Mod_growBacklog_8 rfl (by decide) rfl rfl ?_
  refine g_aload_n 1 (i := 0) (pc' := 10) d_Mod_growBacklog_9 rfl rfl rfl ?_
  refine gm_getA ok 0 (pc' := 13) d_Mod_growBacklog_10 rfl q1965 rfl rfl ?_
  refine g_bipush (v := (10 : Int32)) (pc' := 15) d_Mod_growBacklog_13 (by decide) rfl ?_
  refine g_dup2 (pc' := 16) d_Mod_growBacklog_15 rfl rfl rfl ?_
  replace hy := g_mA_inv hy
  obtain ⟨x4, hc5, hy⟩ := hy
  refine gm_ald0 ok (pc' := 17) d_Mod_growBacklog_16 hc5 rfl ?_
  refine g_iconst (v := (0 : Int32)) (pc' := 18) d_Mod_growBacklog_17 (by decide) rfl ?_
  refine g_iload_n 0 (i := 3) (pc' := 19) d_Mod_growBacklog_18 rfl rfl rfl ?_
  refine g_bipush (v := (9 : Int32)) (pc' := 21) d_Mod_growBacklog_19 (by decide) rfl ?_
  refine g_isub (pc' := 22) d_Mod_growBacklog_21 rfl ?_
  refine g_mmax (pc' := 25) d_Mod_growBacklog_22 q2423 q278 q122 q279 (by first | exact Nat.le_of_ble_eq_true rfl | (simp only [List.map, List.sum_cons, List.sum_nil, g_cat_rf]; exact Nat.le_of_ble_eq_true rfl) | (simp only [List.map, List.sum_cons, List.sum_nil, g_cat_rf, Value.category]; decide)) (by decide) rfl ?_
  refine g_iadd (pc' := 26) d_Mod_growBacklog_25 rfl ?_
  replace hy := g_mS_inv hy
  obtain ⟨hc7, hy⟩ := hy
  refine gm_ast0 ok (pc' := 27) d_Mod_growBacklog_26 hc7 rfl ?_
  generalize ms M 0 ((10 : Int32)).toNatClampNeg (x4 + (if (0 : Int32) < ((x1 + p1) - (9 : Int32)) then ((x1 + p1) - (9 : Int32)) else (0 : Int32))) = M6 at hy ⊢
  refine g_aload_n 1 (i := 0) (pc' := 28) d_Mod_growBacklog_27 rfl rfl rfl ?_
  refine g_iload_n 2 (i := 1) (pc' := 29) d_Mod_growBacklog_28 rfl rfl rfl ?_
  refine g_iconst (v := (5 : Int32)) (pc' := 30) d_Mod_growBacklog_29 (by decide) rfl ?_
  refine g_iload_n 0 (i := 3) (pc' := 31) d_Mod_growBacklog_30 rfl rfl rfl ?_
  refine g_bipush (v := (9 : Int32)) (pc' := 33) d_Mod_growBacklog_31 (by decide) rfl ?_
  refine g_mmin (pc' := 36) d_Mod_growBacklog_33 q2424 q296 q122 q297 (by first | exact Nat.le_of_ble_eq_true rfl | (simp only [List.map, List.sum_cons, List.sum_nil, g_cat_rf]; exact Nat.le_of_ble_eq_true rfl) | (simp only [List.map, List.sum_cons, List.sum_nil, g_cat_rf, Value.category]; decide)) (by decide) rfl ?_
  replace hy := g_b_inv hy
  obtain ⟨M9, hf10, hy⟩ := hy
  refine g_callV (rv := none) (h1 := (mH h0 a0 ad M9)) (pc' := 39) (As := [.int p0, .int (5 : Int32), .int (if (9 : Int32) < (x1 + p1) then (9 : Int32) else (x1 + p1))]) (rest := []) 3 (T_Mod_put ok (hy := hf10)) d_Mod_growBacklog_36 (mH_look ok) rfl rfl q2171 q2173 qs49 q135 q2174 hd_Mod_put rfl ⟨by decide, by decide⟩ (by first | exact Nat.le_of_ble_eq_true rfl | (simp only [List.map, List.sum_cons, List.sum_nil, g_cat_rf]; exact Nat.le_of_ble_eq_true rfl) | (simp only [List.map, List.sum_cons, List.sum_nil, g_cat_rf, Value.category]; decide)) rfl ?_
  cases hy
  exact g_vret rfl rfl rfl d_Mod_growBacklog_39
theorem hd_Mod_growBacklog : g_dsc y_Mod_growBacklog 2 := ⟨by decide +kernel, by decide +kernel, by decide +kernel⟩
/-! CircuitDeskModel.offer(II)I -/
abbrev y_Mod_offer : MethodName := ⟨"CircuitDeskModel", "offer", "(II)I"⟩
abbrev k_Mod_offer : g_M := (prog_17_method_90_code, 3, "CircuitDeskModel", 14, (some FieldType.int), "offer", [], 0)
theorem d_Mod_offer_0 : decode prog_17_method_90_code 0 = .ok (.aload_n 0, 1) := by decide +kernel
theorem d_Mod_offer_1 : decode prog_17_method_90_code 1 = .ok (.iconst 0, 1) := by decide +kernel
theorem d_Mod_offer_2 : decode prog_17_method_90_code 2 = .ok (.putfield 51, 3) := by decide +kernel
theorem d_Mod_offer_5 : decode prog_17_method_90_code 5 = .ok (.aload_n 0, 1) := by decide +kernel
theorem d_Mod_offer_6 : decode prog_17_method_90_code 6 = .ok (.iload_n 1, 1) := by decide +kernel
theorem d_Mod_offer_7 : decode prog_17_method_90_code 7 = .ok (.invokevirtual 306, 3) := by decide +kernel
theorem d_Mod_offer_10 : decode prog_17_method_90_code 10 = .ok (.ifCond .ne 9, 3) := by decide +kernel
theorem d_Mod_offer_13 : decode prog_17_method_90_code 13 = .ok (.aload_n 0, 1) := by decide +kernel
theorem d_Mod_offer_14 : decode prog_17_method_90_code 14 = .ok (.iconst 1, 1) := by decide +kernel
theorem d_Mod_offer_15 : decode prog_17_method_90_code 15 = .ok (.invokevirtual 61, 3) := by decide +kernel
theorem d_Mod_offer_18 : decode prog_17_method_90_code 18 = .ok (.ireturn, 1) := by decide +kernel
theorem d_Mod_offer_19 : decode prog_17_method_90_code 19 = .ok (.iload_n 2, 1) := by decide +kernel
theorem d_Mod_offer_20 : decode prog_17_method_90_code 20 = .ok (.iconst 1, 1) := by decide +kernel
theorem d_Mod_offer_21 : decode prog_17_method_90_code 21 = .ok (.bipush 9, 2) := by decide +kernel
theorem d_Mod_offer_23 : decode prog_17_method_90_code 23 = .ok (.invokestatic 54, 3) := by decide +kernel
theorem d_Mod_offer_26 : decode prog_17_method_90_code 26 = .ok (.ifCond .ne 9, 3) := by decide +kernel
theorem d_Mod_offer_29 : decode prog_17_method_90_code 29 = .ok (.aload_n 0, 1) := by decide +kernel
theorem d_Mod_offer_30 : decode prog_17_method_90_code 30 = .ok (.iconst 2, 1) := by decide +kernel
theorem d_Mod_offer_31 : decode prog_17_method_90_code 31 = .ok (.invokevirtual 61, 3) := by decide +kernel
theorem d_Mod_offer_34 : decode prog_17_method_90_code 34 = .ok (.ireturn, 1) := by decide +kernel
theorem d_Mod_offer_35 : decode prog_17_method_90_code 35 = .ok (.aload_n 0, 1) := by decide +kernel
theorem d_Mod_offer_36 : decode prog_17_method_90_code 36 = .ok (.iload_n 1, 1) := by decide +kernel
theorem d_Mod_offer_37 : decode prog_17_method_90_code 37 = .ok (.iload_n 2, 1) := by decide +kernel
theorem d_Mod_offer_38 : decode prog_17_method_90_code 38 = .ok (.invokevirtual 335, 3) := by decide +kernel
theorem d_Mod_offer_41 : decode prog_17_method_90_code 41 = .ok (.aload_n 0, 1) := by decide +kernel
theorem d_Mod_offer_42 : decode prog_17_method_90_code 42 = .ok (.iload_n 1, 1) := by decide +kernel
theorem d_Mod_offer_43 : decode prog_17_method_90_code 43 = .ok (.iconst 5, 1) := by decide +kernel
theorem d_Mod_offer_44 : decode prog_17_method_90_code 44 = .ok (.invokevirtual 150, 3) := by decide +kernel
theorem d_Mod_offer_47 : decode prog_17_method_90_code 47 = .ok (.ireturn, 1) := by decide +kernel
def Mod_offer (M : g_MD) (p0 : Int32) (p1 : Int32) : Option (Int32 × g_MD) :=
  g_let (mp M 7 (0 : Int32)) fun M1 => g_b (Mod_isCircuit M1 p0) fun x2 => if x2 = 0 then (g_bM (Mod_fail M1 (1 : Int32)) fun x19 M20 => some (x19, M20)) else (g_b (Mod_isBetween p1 (1 : Int32) (9 : Int32)) fun x6 => if x6 = 0 then (g_bM (Mod_fail M1 (2 : Int32)) fun x16 M17 => some (x16, M17)) else (g_b (Mod_growBacklog M1 p0 p1) fun M11 => g_b (Mod_of M11 p0 (5 : Int32)) fun x13 => some (x13, M11)))
set_option maxHeartbeats 4000000 in
set_option maxRecDepth 100000 in
theorem T_Mod_offer {l : Launch} {B : g_B} {h0 : g_AH} {a0 : Nat} {ad : Nat → Nat} (ok : mOK a0 ad) (M : g_MD) (p0 : Int32) (p1 : Int32) (z : Int32 × g_MD) (hy : Mod_offer M p0 p1 = some z) : g_CT l B y_Mod_offer k_Mod_offer [.ref a0, .int p0, .int p1] (mH h0 a0 ad M) (.inl (some (.int z.1))) (mH h0 a0 ad z.2) := by
  refine g_start2 (Lc := [(0, .ref a0), (1, .int p0), (2, .int p1)]) (by decide) rfl rfl (by exact Nat.le_of_ble_eq_true rfl) (by rfl) fun X => ?_
  unfold Mod_offer at hy
  refine g_aload_n 0 (i := 0) (pc' := 1) d_Mod_offer_0 rfl rfl rfl ?_
  refine g_iconst (v := (0 : Int32)) (pc' := 2) d_Mod_offer_1 (by decide) rfl ?_
  replace hy := g_let_inv hy
  refine gm_put ok 7 (pc' := 5) d_Mod_offer_2 rfl (by decide) q1972 rfl ?_
  generalize (mp M 7 (0 : Int32)) = M1 at hy ⊢
  refine g_aload_n 0 (i := 0) (pc' := 6) d_Mod_offer_5 rfl rfl rfl ?_
  refine g_iload_n 1 (i := 1) (pc' := 7) d_Mod_offer_6 rfl rfl rfl ?_
  replace hy := g_b_inv hy
  obtain ⟨x2, hf4, hy⟩ := hy
  refine g_callV (rv := some (.int x2)) (h1 := (mH h0 a0 ad M1)) (pc' := 10) (As := [.int p0]) (rest := []) 1 (T_Mod_isCircuit ok (hy := hf4)) d_Mod_offer_7 (mH_look ok) rfl rfl q2375 q2377 qs83 q135 q2378 hd_Mod_isCircuit rfl ⟨by decide, by decide⟩ (by first | exact Nat.le_of_ble_eq_true rfl | (simp only [List.map, List.sum_cons, List.sum_nil, g_cat_rf]; exact Nat.le_of_ble_eq_true rfl) | (simp only [List.map, List.sum_cons, List.sum_nil, g_cat_rf, Value.category]; decide)) rfl ?_
  by_cases c5 : x2 = 0
  · rw [if_pos c5] at hy
    refine g_if_neF (pc' := 13) d_Mod_offer_10 19 c5 (by decide) rfl ?_
    refine g_aload_n 0 (i := 0) (pc' := 14) d_Mod_offer_13 rfl rfl rfl ?_
    refine g_iconst (v := (1 : Int32)) (pc' := 15) d_Mod_offer_14 (by decide) rfl ?_
    replace hy := g_bM_inv hy
    obtain ⟨x19, M20, hf21, hy⟩ := hy
    refine g_callV (rv := some (.int x19)) (h1 := (mH h0 a0 ad M20)) (pc' := 18) (As := [.int (1 : Int32)]) (rest := []) 1 (T_Mod_fail ok (hy := hf21)) d_Mod_offer_15 (mH_look ok) rfl rfl q2061 q2063 qs31 q135 q2064 hd_Mod_fail rfl ⟨by decide, by decide⟩ (by first | exact Nat.le_of_ble_eq_true rfl | (simp only [List.map, List.sum_cons, List.sum_nil, g_cat_rf]; exact Nat.le_of_ble_eq_true rfl) | (simp only [List.map, List.sum_cons, List.sum_nil, g_cat_rf, Value.category]; decide)) rfl ?_
    cases hy
    exact g_iret rfl rfl rfl d_Mod_offer_18
  · rw [if_neg c5] at hy
    refine g_if_neT (pc' := 19) d_Mod_offer_10 c5 (by decide) ?_
    refine g_iload_n 2 (i := 2) (pc' := 20) d_Mod_offer_19 rfl rfl rfl ?_
    refine g_iconst (v := (1 : Int32)) (pc' := 21) d_Mod_offer_20 (by decide) rfl ?_
    refine g_bipush (v := (9 : Int32)) (pc' := 23) d_Mod_offer_21 (by decide) rfl ?_
    replace hy := g_b_inv hy
    obtain ⟨x6, hf8, hy⟩ := hy
    refine g_callS (rv := some (.int x6)) (h1 := (mH h0 a0 ad M1)) (pc' := 26) (As := [.int p1, .int (1 : Int32), .int (9 : Int32)]) (rest := []) 3 (T_Mod_isBetween (hy := hf8)) d_Mod_offer_23 q2069 q2070 q135 q2071 hd_Mod_isBetween rfl ⟨by decide, by decide⟩ (by first | exact Nat.le_of_ble_eq_true rfl | (simp only [List.map, List.sum_cons, List.sum_nil, g_cat_rf]; exact Nat.le_of_ble_eq_true rfl) | (simp only [List.map, List.sum_cons, List.sum_nil, g_cat_rf, Value.category]; decide)) rfl ?_
    by_cases c9 : x6 = 0
    · rw [if_pos c9] at hy
      refine g_if_neF (pc' := 29) d_Mod_offer_26 35 c9 (by decide) rfl ?_
      refine g_aload_n 0 (i := 0) (pc' := 30) d_Mod_offer_29 rfl rfl rfl ?_
      refine g_iconst (v := (2 : Int32)) (pc' := 31) d_Mod_offer_30 (by decide) rfl ?_
      replace hy := g_bM_inv hy
      obtain ⟨x16, M17, hf18, hy⟩ := hy
      refine g_callV (rv := some (.int x16)) (h1 := (mH h0 a0 ad M17)) (pc' := 34) (As := [.int (2 : Int32)]) (rest := []) 1 (T_Mod_fail ok (hy := hf18)) d_Mod_offer_31 (mH_look ok) rfl rfl q2061 q2063 qs31 q135 q2064 hd_Mod_fail rfl ⟨by decide, by decide⟩ (by first | exact Nat.le_of_ble_eq_true rfl | (simp only [List.map, List.sum_cons, List.sum_nil, g_cat_rf]; exact Nat.le_of_ble_eq_true rfl) | (simp only [List.map, List.sum_cons, List.sum_nil, g_cat_rf, Value.category]; decide)) rfl ?_
      cases hy
      exact g_iret rfl rfl rfl d_Mod_offer_34
    · rw [if_neg c9] at hy
      refine g_if_neT (pc' := 35) d_Mod_offer_26 c9 (by decide) ?_
      refine g_aload_n 0 (i := 0) (pc' := 36) d_Mod_offer_35 rfl rfl rfl ?_
      refine g_iload_n 1 (i := 1) (pc' := 37) d_Mod_offer_36 rfl rfl rfl ?_
      refine g_iload_n 2 (i := 2) (pc' := 38) d_Mod_offer_37 rfl rfl rfl ?_
      replace hy := g_b_inv hy
      obtain ⟨M11, hf12, hy⟩ := hy
      refine g_callV (rv := none) (h1 := (mH h0 a0 ad M11)) (pc' := 41) (As := [.int p0, .int p1]) (rest := []) 2 (T_Mod_growBacklog ok (hy := hf12)) d_Mod_offer_38 (mH_look ok) rfl rfl q2419 q2421 qs90 q135 q2422 hd_Mod_growBacklog rfl ⟨by decide, by decide⟩ (by first | exact Nat.le_of_ble_eq_true rfl | (simp only [List.map, List.sum_cons, List.sum_nil, g_cat_rf]; exact Nat.le_of_ble_eq_true rfl) | (simp only [List.map, List.sum_cons, List.sum_nil, g_cat_rf, Value.category]; decide)) rfl ?_
      refine g_aload_n 0 (i := 0) (pc' := 42) d_Mod_offer_41 rfl rfl rfl ?_
      refine g_iload_n 1 (i := 1) (pc' := 43) d_Mod_offer_42 rfl rfl rfl ?_
      refine g_iconst (v := (5 : Int32)) (pc' := 44) d_Mod_offer_43 (by decide) rfl ?_
      replace hy := g_b_inv hy
      obtain ⟨x13, hf15, hy⟩ := hy
      refine g_callV (rv := some (.int x13)) (h1 := (mH h0 a0 ad M11)) (pc' := 47) (As := [.int p0, .int (5 : Int32)]) (rest := []) 2 (T_Mod_of ok (hy := hf15)) d_Mod_offer_44 (mH_look ok) rfl rfl q2186 q2188 qs52 q135 q2189 hd_Mod_of rfl ⟨by decide, by decide⟩ (by first | exact Nat.le_of_ble_eq_true rfl | (simp only [List.map, List.sum_cons, List.sum_nil, g_cat_rf]; exact Nat.le_of_ble_eq_true rfl) | (simp only [List.map, List.sum_cons, List.sum_nil, g_cat_rf, Value.category]; decide)) rfl ?_
      cases hy
      exact g_iret rfl rfl rfl d_Mod_offer_47
theorem hd_Mod_offer : g_dsc y_Mod_offer 2 := ⟨by decide +kernel, by decide +kernel, by decide +kernel⟩
/-! CircuitDeskModel.deliverPacket(I)V -/
abbrev y_Mod_deliverPacket : MethodName := ⟨"CircuitDeskModel", "deliverPacket", "(I)V"⟩
abbrev k_Mod_deliverPacket : g_M := (prog_17_method_93_code, 4, "CircuitDeskModel", 13, none, "deliverPacket", [], 0)
theorem d_Mod_deliverPacket_0 : decode prog_17_method_93_code 0 = .ok (.aload_n 0, 1) := by decide +kernel
theorem d_Mod_deliverPacket_1 : decode prog_17_method_93_code 1 = .ok (.iload_n 1, 1) := by decide +kernel
theorem d_Mod_deliverPacket_2 : decode prog_17_method_93_code 2 = .ok (.iconst 0, 1) := by decide +kernel
theorem d_Mod_deliverPacket_3 : decode prog_17_method_93_code 3 = .ok (.invokevirtual 217, 3) := by decide +kernel
theorem d_Mod_deliverPacket_6 : decode prog_17_method_93_code 6 = .ok (.istore_n 2, 1) := by decide +kernel
theorem d_Mod_deliverPacket_7 : decode prog_17_method_93_code 7 = .ok (.aload_n 0, 1) := by decide +kernel
theorem d_Mod_deliverPacket_8 : decode prog_17_method_93_code 8 = .ok (.iload_n 1, 1) := by decide +kernel
theorem d_Mod_deliverPacket_9 : decode prog_17_method_93_code 9 = .ok (.iconst 1, 1) := by decide +kernel
theorem d_Mod_deliverPacket_10 : decode prog_17_method_93_code 10 = .ok (.invokevirtual 217, 3) := by decide +kernel
theorem d_Mod_deliverPacket_13 : decode prog_17_method_93_code 13 = .ok (.istore_n 3, 1) := by decide +kernel
theorem d_Mod_deliverPacket_14 : decode prog_17_method_93_code 14 = .ok (.aload_n 0, 1) := by decide +kernel
theorem d_Mod_deliverPacket_15 : decode prog_17_method_93_code 15 = .ok (.getfield 7, 3) := by decide +kernel
theorem d_Mod_deliverPacket_18 : decode prog_17_method_93_code 18 = .ok (.bipush 8, 2) := by decide +kernel
theorem d_Mod_deliverPacket_20 : decode prog_17_method_93_code 20 = .ok (.dup2, 1) := by decide +kernel
theorem d_Mod_deliverPacket_21 : decode prog_17_method_93_code 21 = .ok (.iaload, 1) := by decide +kernel
theorem d_Mod_deliverPacket_22 : decode prog_17_method_93_code 22 = .ok (.iconst 1, 1) := by decide +kernel
theorem d_Mod_deliverPacket_23 : decode prog_17_method_93_code 23 = .ok (.iadd, 1) := by decide +kernel
theorem d_Mod_deliverPacket_24 : decode prog_17_method_93_code 24 = .ok (.iastore, 1) := by decide +kernel
theorem d_Mod_deliverPacket_25 : decode prog_17_method_93_code 25 = .ok (.aload_n 0, 1) := by decide +kernel
theorem d_Mod_deliverPacket_26 : decode prog_17_method_93_code 26 = .ok (.iload_n 2, 1) := by decide +kernel
theorem d_Mod_deliverPacket_27 : decode prog_17_method_93_code 27 = .ok (.bipush 7, 2) := by decide +kernel
theorem d_Mod_deliverPacket_29 : decode prog_17_method_93_code 29 = .ok (.iconst 1, 1) := by decide +kernel
theorem d_Mod_deliverPacket_30 : decode prog_17_method_93_code 30 = .ok (.invokevirtual 338, 3) := by decide +kernel
theorem d_Mod_deliverPacket_33 : decode prog_17_method_93_code 33 = .ok (.aload_n 0, 1) := by decide +kernel
theorem d_Mod_deliverPacket_34 : decode prog_17_method_93_code 34 = .ok (.iload_n 2, 1) := by decide +kernel
theorem d_Mod_deliverPacket_35 : decode prog_17_method_93_code 35 = .ok (.bipush 11, 2) := by decide +kernel
theorem d_Mod_deliverPacket_37 : decode prog_17_method_93_code 37 = .ok (.aload_n 0, 1) := by decide +kernel
theorem d_Mod_deliverPacket_38 : decode prog_17_method_93_code 38 = .ok (.getfield 7, 3) := by decide +kernel
theorem d_Mod_deliverPacket_41 : decode prog_17_method_93_code 41 = .ok (.iconst 5, 1) := by decide +kernel
theorem d_Mod_deliverPacket_42 : decode prog_17_method_93_code 42 = .ok (.iaload, 1) := by decide +kernel
theorem d_Mod_deliverPacket_43 : decode prog_17_method_93_code 43 = .ok (.iconst 1, 1) := by decide +kernel
theorem d_Mod_deliverPacket_44 : decode prog_17_method_93_code 44 = .ok (.iadd, 1) := by decide +kernel
theorem d_Mod_deliverPacket_45 : decode prog_17_method_93_code 45 = .ok (.aload_n 0, 1) := by decide +kernel
theorem d_Mod_deliverPacket_46 : decode prog_17_method_93_code 46 = .ok (.iload_n 1, 1) := by decide +kernel
theorem d_Mod_deliverPacket_47 : decode prog_17_method_93_code 47 = .ok (.bipush 7, 2) := by decide +kernel
theorem d_Mod_deliverPacket_49 : decode prog_17_method_93_code 49 = .ok (.invokevirtual 217, 3) := by decide +kernel
theorem d_Mod_deliverPacket_52 : decode prog_17_method_93_code 52 = .ok (.isub, 1) := by decide +kernel
theorem d_Mod_deliverPacket_53 : decode prog_17_method_93_code 53 = .ok (.invokevirtual 338, 3) := by decide +kernel
theorem d_Mod_deliverPacket_56 : decode prog_17_method_93_code 56 = .ok (.iload_n 3, 1) := by decide +kernel
theorem d_Mod_deliverPacket_57 : decode prog_17_method_93_code 57 = .ok (.aload_n 0, 1) := by decide +kernel
theorem d_Mod_deliverPacket_58 : decode prog_17_method_93_code 58 = .ok (.iload_n 2, 1) := by decide +kernel
theorem d_Mod_deliverPacket_59 : decode prog_17_method_93_code 59 = .ok (.bipush 10, 2) := by decide +kernel
theorem d_Mod_deliverPacket_61 : decode prog_17_method_93_code 61 = .ok (.invokevirtual 150, 3) := by decide +kernel
theorem d_Mod_deliverPacket_64 : decode prog_17_method_93_code 64 = .ok (.if_icmp .ge 22, 3) := by decide +kernel
theorem d_Mod_deliverPacket_67 : decode prog_17_method_93_code 67 = .ok (.aload_n 0, 1) := by decide +kernel
theorem d_Mod_deliverPacket_68 : decode prog_17_method_93_code 68 = .ok (.getfield 7, 3) := by decide +kernel
theorem d_Mod_deliverPacket_71 : decode prog_17_method_93_code 71 = .ok (.bipush 11, 2) := by decide +kernel
theorem d_Mod_deliverPacket_73 : decode prog_17_method_93_code 73 = .ok (.dup2, 1) := by decide +kernel
theorem d_Mod_deliverPacket_74 : decode prog_17_method_93_code 74 = .ok (.iaload, 1) := by decide +kernel
theorem d_Mod_deliverPacket_75 : decode prog_17_method_93_code 75 = .ok (.iconst 1, 1) := by decide +kernel
theorem d_Mod_deliverPacket_76 : decode prog_17_method_93_code 76 = .ok (.iadd, 1) := by decide +kernel
theorem d_Mod_deliverPacket_77 : decode prog_17_method_93_code 77 = .ok (.iastore, 1) := by decide +kernel
theorem d_Mod_deliverPacket_78 : decode prog_17_method_93_code 78 = .ok (.aload_n 0, 1) := by decide +kernel
theorem d_Mod_deliverPacket_79 : decode prog_17_method_93_code 79 = .ok (.iload_n 2, 1) := by decide +kernel
theorem d_Mod_deliverPacket_80 : decode prog_17_method_93_code 80 = .ok (.bipush 9, 2) := by decide +kernel
theorem d_Mod_deliverPacket_82 : decode prog_17_method_93_code 82 = .ok (.iconst 1, 1) := by decide +kernel
theorem d_Mod_deliverPacket_83 : decode prog_17_method_93_code 83 = .ok (.invokevirtual 338, 3) := by decide +kernel
theorem d_Mod_deliverPacket_86 : decode prog_17_method_93_code 86 = .ok (.aload_n 0, 1) := by decide +kernel
theorem d_Mod_deliverPacket_87 : decode prog_17_method_93_code 87 = .ok (.iload_n 2, 1) := by decide +kernel
theorem d_Mod_deliverPacket_88 : decode prog_17_method_93_code 88 = .ok (.bipush 10, 2) := by decide +kernel
theorem d_Mod_deliverPacket_90 : decode prog_17_method_93_code 90 = .ok (.iload_n 3, 1) := by decide +kernel
theorem d_Mod_deliverPacket_91 : decode prog_17_method_93_code 91 = .ok (.aload_n 0, 1) := by decide +kernel
theorem d_Mod_deliverPacket_92 : decode prog_17_method_93_code 92 = .ok (.iload_n 2, 1) := by decide +kernel
theorem d_Mod_deliverPacket_93 : decode prog_17_method_93_code 93 = .ok (.bipush 10, 2) := by decide +kernel
theorem d_Mod_deliverPacket_95 : decode prog_17_method_93_code 95 = .ok (.invokevirtual 150, 3) := by decide +kernel
theorem d_Mod_deliverPacket_98 : decode prog_17_method_93_code 98 = .ok (.invokestatic 327, 3) := by decide +kernel
theorem d_Mod_deliverPacket_101 : decode prog_17_method_93_code 101 = .ok (.invokevirtual 296, 3) := by decide +kernel
theorem d_Mod_deliverPacket_104 : decode prog_17_method_93_code 104 = .ok (.aload_n 0, 1) := by decide +kernel
theorem d_Mod_deliverPacket_105 : decode prog_17_method_93_code 105 = .ok (.iload_n 1, 1) := by decide +kernel
theorem d_Mod_deliverPacket_106 : decode prog_17_method_93_code 106 = .ok (.invokevirtual 341, 3) := by decide +kernel
theorem d_Mod_deliverPacket_109 : decode prog_17_method_93_code 109 = .ok (.return_, 1) := by decide +kernel
def Mod_deliverPacket_86 (M : g_MD) (v1 : Int32) (v2 : Int32) (v3 : Int32) : Option g_MD :=
  g_b (Mod_of M v2 (10 : Int32)) fun x26 => g_b (Mod_put M v2 (10 : Int32) (if v3 < x26 then x26 else v3)) fun M30 => g_b (Mod_removePacket M30 v1) fun M33 => some M33
set_option maxHeartbeats 4000000 in
set_option maxRecDepth 100000 in
theorem W_Mod_deliverPacket_86 {X : g_X} {h0 : g_AH} {a0 : Nat} {ad : Nat → Nat} (ok : mOK a0 ad) (z : g_MD) (M : g_MD) (v1 : Int32) (v2 : Int32) (v3 : Int32) (hy : Mod_deliverPacket_86  M v1 v2 v3 = some z) : G X k_Mod_deliverPacket (.inl none) (mH h0 a0 ad z) (mH h0 a0 ad M) 86 [(0, .ref a0), (1, .int v1), (2, .int v2), (3, .int v3)] [] := by
  unfold Mod_deliverPacket_86 at hy
  refine g_aload_n 0 (i := 0) (pc' := 87) d_Mod_deliverPacket_86 rfl rfl rfl ?_
  refine g_iload_n 2 (i := 2) (pc' := 88) d_Mod_deliverPacket_87 rfl rfl rfl ?_
  refine g_bipush (v := (10 : Int32)) (pc' := 90) d_Mod_deliverPacket_88 (by decide) rfl ?_
  refine g_iload_n 3 (i := 3) (pc' := 91) d_Mod_deliverPacket_90 rfl rfl rfl ?_
  refine g_aload_n 0 (i := 0) (pc' := 92) d_Mod_deliverPacket_91 rfl rfl rfl ?_
  refine g_iload_n 2 (i := 2) (pc' := 93) d_Mod_deliverPacket_92 rfl rfl rfl ?_
  refine g_bipush (v := (10 : Int32)) (pc' := 95) d_Mod_deliverPacket_93 (by decide) rfl ?_
  replace hy := g_b_inv hy
  obtain ⟨x26, hf28, hy⟩ := hy
  refine g_callV (rv := some (.int x26)) (h1 := (mH h0 a0 ad M)) (pc' := 98) (As := [.int v2, .int (10 : Int32)]) (rest := [.int v3, .int (10 : Int32), .int v2, .ref a0]) 2 (T_Mod_of ok (hy := hf28)) d_Mod_deliverPacket_95 (mH_look ok) rfl rfl q2186 q2188 qs52 q135 q2189 hd_Mod_of rfl ⟨by decide, by decide⟩ (by first | exact Nat.le_of_ble_eq_true rfl | (simp only [List.map, List.sum_cons, List.sum_nil, g_cat_rf]; exact Nat.le_of_ble_eq_true rfl) | (simp only [List.map, List.sum_cons, List.sum_nil, g_cat_rf, Value.category]; decide)) rfl ?_
  refine g_mmax (pc' := 101) d_Mod_deliverPacket_98 q2423 q278 q122 q279 (by first | exact Nat.le_of_ble_eq_true rfl | (simp only [List.map, List.sum_cons, List.sum_nil, g_cat_rf]; exact Nat.le_of_ble_eq_true rfl) | (simp only [List.map, List.sum_cons, List.sum_nil, g_cat_rf, Value.category]; decide)) (by decide) rfl ?_
  replace hy := g_b_inv hy
  obtain ⟨M30, hf31, hy⟩ := hy
  refine g_callV (rv := none) (h1 := (mH h0 a0 ad M30)) (pc' := 104) (As := [.int v2, .int (10 : Int32), .int (if v3 < x26 then x26 else v3)]) (rest := []) 3 (T_Mod_put ok (hy := hf31)) d_Mod_deliverPacket_101 (mH_look ok) rfl rfl q2171 q2173 qs49 q135 q2174 hd_Mod_put rfl ⟨by decide, by decide⟩ (by first | exact Nat.le_of_ble_eq_true rfl | (simp only [List.map, List.sum_cons, List.sum_nil, g_cat_rf]; exact Nat.le_of_ble_eq_true rfl) | (simp only [List.map, List.sum_cons, List.sum_nil, g_cat_rf, Value.category]; decide)) rfl ?_
  refine g_aload_n 0 (i := 0) (pc' := 105) d_Mod_deliverPacket_104 rfl rfl rfl ?_
  refine g_iload_n 1 (i := 1) (pc' := 106) d_Mod_deliverPacket_105 rfl rfl rfl ?_
  replace hy := g_b_inv hy
  obtain ⟨M33, hf34, hy⟩ := hy
  refine g_callV (rv := none) (h1 := (mH h0 a0 ad M33)) (pc' := 109) (As := [.int v1]) (rest := []) 1 (T_Mod_removePacket ok (hy := hf34)) d_Mod_deliverPacket_106 (mH_look ok) rfl rfl q2275 q2277 qs69 q135 q2278 hd_Mod_removePacket rfl ⟨by decide, by decide⟩ (by first | exact Nat.le_of_ble_eq_true rfl | (simp only [List.map, List.sum_cons, List.sum_nil, g_cat_rf]; exact Nat.le_of_ble_eq_true rfl) | (simp only [List.map, List.sum_cons, List.sum_nil, g_cat_rf, Value.category]; decide)) rfl ?_
  cases hy
  exact g_vret rfl rfl rfl d_Mod_deliverPacket_109
def Mod_deliverPacket (M : g_MD) (p0 : Int32) : Option g_MD :=
  g_b (Mod_ofPacket M p0 (0 : Int32)) fun x1 => g_b (Mod_ofPacket M p0 (1 : Int32)) fun x4 => g_mA M 0 0 (8 : Int32) fun x7 => g_mS M 0 0 (8 : Int32) (x7 + (1 : Int32)) fun M9 => g_b (Mod_grow M9 x1 (7 : Int32) (1 : Int32)) fun M12 => g_mA M12 0 0 (5 : Int32) fun x14 => g_b (Mod_ofPacket M12 p0 (7 : Int32)) fun x16 => g_b (Mod_grow M12 x1 (11 : Int32) ((x14 + (1 : Int32)) - x16)) fun M20 => g_b (Mod_of M20 x1 (10 : Int32)) fun x22 => if x22 ≤ x4 then (Mod_deliverPacket_86  M20 p0 x1 x4) else (g_mA M20 0 0 (11 : Int32) fun x35 => g_mS M20 0 0 (11 : Int32) (x35 + (1 : Int32)) fun M37 => g_b (Mod_grow M37 x1 (9 : Int32) (1 : Int32)) fun M40 => Mod_deliverPacket_86  M40 p0 x1 x4)
set_option maxHeartbeats 4000000 in
set_option maxRecDepth 100000 in
theorem T_Mod_deliverPacket {l : Launch} {B : g_B} {h0 : g_AH} {a0 : Nat} {ad : Nat → Nat} (ok : mOK a0 ad) (M : g_MD) (p0 : Int32) (z : g_MD) (hy : Mod_deliverPacket M p0 = some z) : g_CT l B y_Mod_deliverPacket k_Mod_deliverPacket [.ref a0, .int p0] (mH h0 a0 ad M) (.inl none) (mH h0 a0 ad z) := by
  refine g_start2 (Lc := [(0, .ref a0), (1, .int p0)]) (by decide) rfl rfl (by exact Nat.le_of_ble_eq_true rfl) (by rfl) fun X => ?_
  unfold Mod_deliverPacket at hy
  refine g_aload_n 0 (i := 0) (pc' := 1) d_Mod_deliverPacket_0 rfl rfl rfl ?_
  refine g_iload_n 1 (i := 1) (pc' := 2) d_Mod_deliverPacket_1 rfl rfl rfl ?_
  refine g_iconst (v := (0 : Int32)) (pc' := 3) d_Mod_deliverPacket_2 (by decide) rfl ?_
  replace hy := g_b_inv hy
  obtain ⟨x1, hf3, hy⟩ := hy
  refine g_callV (rv := some (.int x1)) (h1 := (mH h0 a0 ad M)) (pc' := 6) (As := [.int p0, .int (0 : Int32)]) (rest := []) 2 (T_Mod_ofPacket ok (hy := hf3)) d_Mod_deliverPacket_3 (mH_look ok) rfl rfl q2263 q2265 qs66 q135 q2266 hd_Mod_ofPacket rfl ⟨by decide, by decide⟩ (by first | exact Nat.le_of_ble_eq_true rfl | (simp only [List.map, List.sum_cons, List.sum_nil, g_cat_rf]; exact Nat.le_of_ble_eq_true rfl) | (simp only [List.map, List.sum_cons, List.sum_nil, g_cat_rf, Value.category]; decide)) rfl ?_
  refine g_istore_n (i := 2) (pc' := 7) (Lc' := [(2, .int x1), (0, .ref a0), (1, .int p0)]) d_Mod_deliverPacket_6 rfl (by decide) rfl rfl ?_
  refine g_aload_n 1 (i := 0) (pc' := 8) d_Mod_deliverPacket_7 rfl rfl rfl ?_
  refine g_iload_n 2 (i := 1) (pc' := 9) d_Mod_deliverPacket_8 rfl rfl rfl ?_
  refine g_iconst (v := (1 : Int32)) (pc' := 10) d_Mod_deliverPacket_9 (by decide) rfl ?_
  replace hy := g_b_inv hy
  obtain ⟨x4, hf6, hy⟩ := hy
  refine g_callV (rv := some (.int x4)) (h1 := (mH h0 a0 ad M)) (pc' := 13) (As := [.int p0, .int (1 : Int32)]) (rest := []) 2 (T_Mod_ofPacket ok (hy := hf6)) d_Mod_deliverPacket_10 (mH_look ok) rfl rfl q2263 q2265 qs66 q135 q2266 hd_Mod_ofPacket rfl ⟨by decide, by decide⟩ (by first | exact Nat.le_of_ble_eq_true rfl | (simp only [List.map, List.sum_cons, List.sum_nil, g_cat_rf]; exact Nat.le_of_ble_eq_true rfl) | (simp only [List.map, List.sum_cons, List.sum_nil, g_cat_rf, Value.category]; decide)) rfl ?_
  refine g_istore_n (i := 3) (pc' := 14) (Lc' := [(3, .int x4), (2, .int x1), (0, .ref a0), (1, .int p0)]) d_Mod_deliverPacket_13 rfl (by decide) rfl rfl ?_
  refine g_aload_n 2 (i := 0) (pc' := 15) d_Mod_deliverPacket_14 rfl rfl rfl ?_
  refine gm_getA ok 0 (pc' := 18) d_Mod_deliverPacket_15 rfl q1965 rfl rfl ?_
  refine g_bipush (v := (8 : Int32)) (pc' := 20) d_Mod_deliverPacket_18 (by decide) rfl ?_
  refine g_dup2 (pc' := 21) d_Mod_deliverPacket_20 rfl rfl rfl ?_
  replace hy := g_mA_inv hy
  obtain ⟨x7, hc8, hy⟩ := hy
  refine gm_ald0 ok (pc' := 22) d_Mod_deliverPacket_21 hc8 rfl ?_
  refine g_iconst (v := (1 : Int32)) (pc' := 23) d_Mod_deliverPacket_22 (by decide) rfl ?_
  refine g_iadd (pc' := 24) d_Mod_deliverPacket_23 rfl ?_
  replace hy := g_mS_inv hy
  obtain ⟨hc10, hy⟩ := hy
  refine gm_ast0 ok (pc' := 25) d_Mod_deliverPacket_24 hc10 rfl ?_
  generalize ms M 0 ((8 : Int32)).toNatClampNeg (x7 + (1 : Int32)) = M9 at hy ⊢
  refine g_aload_n 2 (i := 0) (pc' := 26) d_Mod_deliverPacket_25 rfl rfl rfl ?_
  refine g_iload_n 1 (i := 2) (pc' := 27) d_Mod_deliverPacket_26 rfl rfl rfl ?_
  refine g_bipush (v := (7 : Int32)) (pc' := 29) d_Mod_deliverPacket_27 (by decide) rfl ?_
  refine g_iconst (v := (1 : Int32)) (pc' := 30) d_Mod_deliverPacket_29 (by decide) rfl ?_
  replace hy := g_b_inv hy
  obtain ⟨M12, hf13, hy⟩ := hy
  refine g_callV (rv := none) (h1 := (mH h0 a0 ad M12)) (pc' := 33) (As := [.int x1, .int (7 : Int32), .int (1 : Int32)]) (rest := []) 3 (T_Mod_grow ok (hy := hf13)) d_Mod_deliverPacket_30 (mH_look ok) rfl rfl q2271 q2273 qs68 q135 q2274 hd_Mod_grow rfl ⟨by decide, by decide⟩ (by first | exact Nat.le_of_ble_eq_true rfl | (simp only [List.map, List.sum_cons, List.sum_nil, g_cat_rf]; exact Nat.le_of_ble_eq_true rfl) | (simp only [List.map, List.sum_cons, List.sum_nil, g_cat_rf, Value.category]; decide)) rfl ?_
  refine g_aload_n 2 (i := 0) (pc' := 34) d_Mod_deliverPacket_33 rfl rfl rfl ?_
  refine g_iload_n 1 (i := 2) (pc' := 35) d_Mod_deliverPacket_34 rfl rfl rfl ?_
  refine g_bipush (v := (11 : Int32)) (pc' := 37) d_Mod_deliverPacket_35 (by decide) rfl ?_
  refine g_aload_n 2 (i := 0) (pc' := 38) d_Mod_deliverPacket_37 rfl rfl rfl ?_
  refine gm_getA ok 0 (pc' := 41) d_Mod_deliverPacket_38 rfl q1965 rfl rfl ?_
  refine g_iconst (v := (5 : Int32)) (pc' := 42) d_Mod_deliverPacket_41 (by decide) rfl ?_
  replace hy := g_mA_inv hy
  obtain ⟨x14, hc15, hy⟩ := hy
  refine gm_ald0 ok (pc' := 43) d_Mod_deliverPacket_42 hc15 rfl ?_
  refine g_iconst (v := (1 : Int32)) (pc' := 44) d_Mod_deliverPacket_43 (by decide) rfl ?_
  refine g_iadd (pc' := 45) d_Mod_deliverPacket_44 rfl ?_
  refine g_aload_n 2 (i := 0) (pc' := 46) d_Mod_deliverPacket_45 rfl rfl rfl ?_
  refine g_iload_n 3 (i := 1) (pc' := 47) d_Mod_deliverPacket_46 rfl rfl rfl ?_
  refine g_bipush (v := (7 : Int32)) (pc' := 49) d_Mod_deliverPacket_47 (by decide) rfl ?_
  replace hy := g_b_inv hy
  obtain ⟨x16, hf18, hy⟩ := hy
  refine g_callV (rv := some (.int x16)) (h1 := (mH h0 a0 ad M12)) (pc' := 52) (As := [.int p0, .int (7 : Int32)]) (rest := [.int (x14 + (1 : Int32)), .int (11 : Int32), .int x1, .ref a0]) 2 (T_Mod_ofPacket ok (hy := hf18)) d_Mod_deliverPacket_49 (mH_look ok) rfl rfl q2263 q2265 qs66 q135 q2266 hd_Mod_ofPacket rfl ⟨by decide, by decide⟩ (by first | exact Nat.le_of_ble_eq_true rfl | (simp only [List.map, List.sum_cons, List.sum_nil, g_cat_rf]; exact Nat.le_of_ble_eq_true rfl) | (simp only [List.map, List.sum_cons, List.sum_nil, g_cat_rf, Value.category]; decide)) rfl ?_
  refine g_isub (pc' := 53) d_Mod_deliverPacket_52 rfl ?_
  replace hy := g_b_inv hy
  obtain ⟨M20, hf21, hy⟩ := hy
  refine g_callV (rv := none) (h1 := (mH h0 a0 ad M20)) (pc' := 56) (As := [.int x1, .int (11 : Int32), .int ((x14 + (1 : Int32)) - x16)]) (rest := []) 3 (T_Mod_grow ok (hy := hf21)) d_Mod_deliverPacket_53 (mH_look ok) rfl rfl q2271 q2273 qs68 q135 q2274 hd_Mod_grow rfl ⟨by decide, by decide⟩ (by first | exact Nat.le_of_ble_eq_true rfl | (simp only [List.map, List.sum_cons, List.sum_nil, g_cat_rf]; exact Nat.le_of_ble_eq_true rfl) | (simp only [List.map, List.sum_cons, List.sum_nil, g_cat_rf, Value.category]; decide)) rfl ?_
  refine g_iload_n 0 (i := 3) (pc' := 57) d_Mod_deliverPacket_56 rfl rfl rfl ?_
  refine g_aload_n 2 (i := 0) (pc' := 58) d_Mod_deliverPacket_57 rfl rfl rfl ?_
  refine g_iload_n 1 (i := 2) (pc' := 59) d_Mod_deliverPacket_58 rfl rfl rfl ?_
  refine g_bipush (v := (10 : Int32)) (pc' := 61) d_Mod_deliverPacket_59 (by decide) rfl ?_
  replace hy := g_b_inv hy
  obtain ⟨x22, hf24, hy⟩ := hy
  refine g_callV (rv := some (.int x22)) (h1 := (mH h0 a0 ad M20)) (pc' := 64) (As := [.int x1, .int (10 : Int32)]) (rest := [.int x4]) 2 (T_Mod_of ok (hy := hf24)) d_Mod_deliverPacket_61 (mH_look ok) rfl rfl q2186 q2188 qs52 q135 q2189 hd_Mod_of rfl ⟨by decide, by decide⟩ (by first | exact Nat.le_of_ble_eq_true rfl | (simp only [List.map, List.sum_cons, List.sum_nil, g_cat_rf]; exact Nat.le_of_ble_eq_true rfl) | (simp only [List.map, List.sum_cons, List.sum_nil, g_cat_rf, Value.category]; decide)) rfl ?_
  by_cases c25 : x22 ≤ x4
  · rw [if_pos c25] at hy
    refine g_icmp_geT (pc' := 86) d_Mod_deliverPacket_64 c25 (by decide) ?_
    refine g_sub [2, 3, 1, 0] rfl ?_
    exact W_Mod_deliverPacket_86 ok _ _ _ _ _ hy
  · rw [if_neg c25] at hy
    refine g_icmp_geF (pc' := 67) d_Mod_deliverPacket_64 86 c25 (by decide) rfl ?_
    refine g_aload_n 2 (i := 0) (pc' := 68) d_Mod_deliverPacket_67 rfl rfl rfl ?_
    refine gm_getA ok 0 (pc' := 71) d_Mod_deliverPacket_68 rfl q1965 rfl rfl ?_
    refine g_bipush (v := (11 : Int32)) (pc' := 73) d_Mod_deliverPacket_71 (by decide) rfl ?_
    refine g_dup2 (pc' := 74) d_Mod_deliverPacket_73 rfl rfl rfl ?_
    replace hy := g_mA_inv hy
    obtain ⟨x35, hc36, hy⟩ := hy
    refine gm_ald0 ok (pc' := 75) d_Mod_deliverPacket_74 hc36 rfl ?_
    refine g_iconst (v := (1 : Int32)) (pc' := 76) d_Mod_deliverPacket_75 (by decide) rfl ?_
    refine g_iadd (pc' := 77) d_Mod_deliverPacket_76 rfl ?_
    replace hy := g_mS_inv hy
    obtain ⟨hc38, hy⟩ := hy
    refine gm_ast0 ok (pc' := 78) d_Mod_deliverPacket_77 hc38 rfl ?_
    generalize ms M20 0 ((11 : Int32)).toNatClampNeg (x35 + (1 : Int32)) = M37 at hy ⊢
    refine g_aload_n 2 (i := 0) (pc' := 79) d_Mod_deliverPacket_78 rfl rfl rfl ?_
    refine g_iload_n 1 (i := 2) (pc' := 80) d_Mod_deliverPacket_79 rfl rfl rfl ?_
    refine g_bipush (v := (9 : Int32)) (pc' := 82) d_Mod_deliverPacket_80 (by decide) rfl ?_
    refine g_iconst (v := (1 : Int32)) (pc' := 83) d_Mod_deliverPacket_82 (by decide) rfl ?_
    replace hy := g_b_inv hy
    obtain ⟨M40, hf41, hy⟩ := hy
    refine g_callV (rv := none) (h1 := (mH h0 a0 ad M40)) (pc' := 86) (As := [.int x1, .int (9 : Int32), .int (1 : Int32)]) (rest := []) 3 (T_Mod_grow ok (hy := hf41)) d_Mod_deliverPacket_83 (mH_look ok) rfl rfl q2271 q2273 qs68 q135 q2274 hd_Mod_grow rfl ⟨by decide, by decide⟩ (by first | exact Nat.le_of_ble_eq_true rfl | (simp only [List.map, List.sum_cons, List.sum_nil, g_cat_rf]; exact Nat.le_of_ble_eq_true rfl) | (simp only [List.map, List.sum_cons, List.sum_nil, g_cat_rf, Value.category]; decide)) rfl ?_
    refine g_sub [2, 3, 1, 0] rfl ?_
    exact W_Mod_deliverPacket_86 ok _ _ _ _ _ hy
theorem hd_Mod_deliverPacket : g_dsc y_Mod_deliverPacket 1 := ⟨by decide +kernel, by decide +kernel, by decide +kernel⟩
/-! CircuitDeskModel.setOut(III)V -/
abbrev y_Mod_setOut : MethodName := ⟨"CircuitDeskModel", "setOut", "(III)V"⟩
abbrev k_Mod_setOut : g_M := (prog_17_method_94_code, 6, "CircuitDeskModel", 14, none, "setOut", [], 0)
theorem d_Mod_setOut_0 : decode prog_17_method_94_code 0 = .ok (.sipush 632, 3) := by decide +kernel
theorem d_Mod_setOut_3 : decode prog_17_method_94_code 3 = .ok (.bipush 8, 2) := by decide +kernel
theorem d_Mod_setOut_5 : decode prog_17_method_94_code 5 = .ok (.iload_n 1, 1) := by decide +kernel
theorem d_Mod_setOut_6 : decode prog_17_method_94_code 6 = .ok (.imul, 1) := by decide +kernel
theorem d_Mod_setOut_7 : decode prog_17_method_94_code 7 = .ok (.iadd, 1) := by decide +kernel
theorem d_Mod_setOut_8 : decode prog_17_method_94_code 8 = .ok (.istore 4, 2) := by decide +kernel
theorem d_Mod_setOut_10 : decode prog_17_method_94_code 10 = .ok (.aload_n 0, 1) := by decide +kernel
theorem d_Mod_setOut_11 : decode prog_17_method_94_code 11 = .ok (.aload_n 0, 1) := by decide +kernel
theorem d_Mod_setOut_12 : decode prog_17_method_94_code 12 = .ok (.getfield 7, 3) := by decide +kernel
theorem d_Mod_setOut_15 : decode prog_17_method_94_code 15 = .ok (.iload_n 2, 1) := by decide +kernel
theorem d_Mod_setOut_16 : decode prog_17_method_94_code 16 = .ok (.iconst 1, 1) := by decide +kernel
theorem d_Mod_setOut_17 : decode prog_17_method_94_code 17 = .ok (.iadd, 1) := by decide +kernel
theorem d_Mod_setOut_18 : decode prog_17_method_94_code 18 = .ok (.iload_n 3, 1) := by decide +kernel
theorem d_Mod_setOut_19 : decode prog_17_method_94_code 19 = .ok (.iadd, 1) := by decide +kernel
theorem d_Mod_setOut_20 : decode prog_17_method_94_code 20 = .ok (.iconst 1, 1) := by decide +kernel
theorem d_Mod_setOut_21 : decode prog_17_method_94_code 21 = .ok (.isub, 1) := by decide +kernel
theorem d_Mod_setOut_22 : decode prog_17_method_94_code 22 = .ok (.iaload, 1) := by decide +kernel
theorem d_Mod_setOut_23 : decode prog_17_method_94_code 23 = .ok (.aload_n 0, 1) := by decide +kernel
theorem d_Mod_setOut_24 : decode prog_17_method_94_code 24 = .ok (.getfield 7, 3) := by decide +kernel
theorem d_Mod_setOut_27 : decode prog_17_method_94_code 27 = .ok (.iload_n 2, 1) := by decide +kernel
theorem d_Mod_setOut_28 : decode prog_17_method_94_code 28 = .ok (.iconst 1, 1) := by decide +kernel
theorem d_Mod_setOut_29 : decode prog_17_method_94_code 29 = .ok (.iadd, 1) := by decide +kernel
theorem d_Mod_setOut_30 : decode prog_17_method_94_code 30 = .ok (.iload_n 3, 1) := by decide +kernel
theorem d_Mod_setOut_31 : decode prog_17_method_94_code 31 = .ok (.iadd, 1) := by decide +kernel
theorem d_Mod_setOut_32 : decode prog_17_method_94_code 32 = .ok (.iaload, 1) := by decide +kernel
theorem d_Mod_setOut_33 : decode prog_17_method_94_code 33 = .ok (.invokevirtual 137, 3) := by decide +kernel
theorem d_Mod_setOut_36 : decode prog_17_method_94_code 36 = .ok (.istore 5, 2) := by decide +kernel
theorem d_Mod_setOut_38 : decode prog_17_method_94_code 38 = .ok (.aload_n 0, 1) := by decide +kernel
theorem d_Mod_setOut_39 : decode prog_17_method_94_code 39 = .ok (.getfield 7, 3) := by decide +kernel
theorem d_Mod_setOut_42 : decode prog_17_method_94_code 42 = .ok (.iload 4, 2) := by decide +kernel
theorem d_Mod_setOut_44 : decode prog_17_method_94_code 44 = .ok (.iconst 2, 1) := by decide +kernel
theorem d_Mod_setOut_45 : decode prog_17_method_94_code 45 = .ok (.iadd, 1) := by decide +kernel
theorem d_Mod_setOut_46 : decode prog_17_method_94_code 46 = .ok (.iload 5, 2) := by decide +kernel
theorem d_Mod_setOut_48 : decode prog_17_method_94_code 48 = .ok (.iastore, 1) := by decide +kernel
theorem d_Mod_setOut_49 : decode prog_17_method_94_code 49 = .ok (.aload_n 0, 1) := by decide +kernel
theorem d_Mod_setOut_50 : decode prog_17_method_94_code 50 = .ok (.getfield 7, 3) := by decide +kernel
theorem d_Mod_setOut_53 : decode prog_17_method_94_code 53 = .ok (.iload 4, 2) := by decide +kernel
theorem d_Mod_setOut_55 : decode prog_17_method_94_code 55 = .ok (.iconst 3, 1) := by decide +kernel
theorem d_Mod_setOut_56 : decode prog_17_method_94_code 56 = .ok (.iadd, 1) := by decide +kernel
theorem d_Mod_setOut_57 : decode prog_17_method_94_code 57 = .ok (.aload_n 0, 1) := by decide +kernel
theorem d_Mod_setOut_58 : decode prog_17_method_94_code 58 = .ok (.getfield 7, 3) := by decide +kernel
theorem d_Mod_setOut_61 : decode prog_17_method_94_code 61 = .ok (.iload_n 2, 1) := by decide +kernel
theorem d_Mod_setOut_62 : decode prog_17_method_94_code 62 = .ok (.iconst 1, 1) := by decide +kernel
theorem d_Mod_setOut_63 : decode prog_17_method_94_code 63 = .ok (.iadd, 1) := by decide +kernel
theorem d_Mod_setOut_64 : decode prog_17_method_94_code 64 = .ok (.iload_n 3, 1) := by decide +kernel
theorem d_Mod_setOut_65 : decode prog_17_method_94_code 65 = .ok (.iadd, 1) := by decide +kernel
theorem d_Mod_setOut_66 : decode prog_17_method_94_code 66 = .ok (.iaload, 1) := by decide +kernel
theorem d_Mod_setOut_67 : decode prog_17_method_94_code 67 = .ok (.iastore, 1) := by decide +kernel
theorem d_Mod_setOut_68 : decode prog_17_method_94_code 68 = .ok (.aload_n 0, 1) := by decide +kernel
theorem d_Mod_setOut_69 : decode prog_17_method_94_code 69 = .ok (.getfield 7, 3) := by decide +kernel
theorem d_Mod_setOut_72 : decode prog_17_method_94_code 72 = .ok (.iload 4, 2) := by decide +kernel
theorem d_Mod_setOut_74 : decode prog_17_method_94_code 74 = .ok (.iconst 4, 1) := by decide +kernel
theorem d_Mod_setOut_75 : decode prog_17_method_94_code 75 = .ok (.iadd, 1) := by decide +kernel
theorem d_Mod_setOut_76 : decode prog_17_method_94_code 76 = .ok (.aload_n 0, 1) := by decide +kernel
theorem d_Mod_setOut_77 : decode prog_17_method_94_code 77 = .ok (.getfield 7, 3) := by decide +kernel
theorem d_Mod_setOut_80 : decode prog_17_method_94_code 80 = .ok (.iload_n 2, 1) := by decide +kernel
theorem d_Mod_setOut_81 : decode prog_17_method_94_code 81 = .ok (.bipush 7, 2) := by decide +kernel
theorem d_Mod_setOut_83 : decode prog_17_method_94_code 83 = .ok (.iadd, 1) := by decide +kernel
theorem d_Mod_setOut_84 : decode prog_17_method_94_code 84 = .ok (.iload_n 3, 1) := by decide +kernel
theorem d_Mod_setOut_85 : decode prog_17_method_94_code 85 = .ok (.iadd, 1) := by decide +kernel
theorem d_Mod_setOut_86 : decode prog_17_method_94_code 86 = .ok (.iaload, 1) := by decide +kernel
theorem d_Mod_setOut_87 : decode prog_17_method_94_code 87 = .ok (.iastore, 1) := by decide +kernel
theorem d_Mod_setOut_88 : decode prog_17_method_94_code 88 = .ok (.aload_n 0, 1) := by decide +kernel
theorem d_Mod_setOut_89 : decode prog_17_method_94_code 89 = .ok (.getfield 7, 3) := by decide +kernel
theorem d_Mod_setOut_92 : decode prog_17_method_94_code 92 = .ok (.iload 4, 2) := by decide +kernel
theorem d_Mod_setOut_94 : decode prog_17_method_94_code 94 = .ok (.iconst 5, 1) := by decide +kernel
theorem d_Mod_setOut_95 : decode prog_17_method_94_code 95 = .ok (.iadd, 1) := by decide +kernel
theorem d_Mod_setOut_96 : decode prog_17_method_94_code 96 = .ok (.aload_n 0, 1) := by decide +kernel
theorem d_Mod_setOut_97 : decode prog_17_method_94_code 97 = .ok (.getfield 7, 3) := by decide +kernel
theorem d_Mod_setOut_100 : decode prog_17_method_94_code 100 = .ok (.iload_n 2, 1) := by decide +kernel
theorem d_Mod_setOut_101 : decode prog_17_method_94_code 101 = .ok (.bipush 13, 2) := by decide +kernel
theorem d_Mod_setOut_103 : decode prog_17_method_94_code 103 = .ok (.iadd, 1) := by decide +kernel
theorem d_Mod_setOut_104 : decode prog_17_method_94_code 104 = .ok (.iload_n 3, 1) := by decide +kernel
theorem d_Mod_setOut_105 : decode prog_17_method_94_code 105 = .ok (.iadd, 1) := by decide +kernel
theorem d_Mod_setOut_106 : decode prog_17_method_94_code 106 = .ok (.iaload, 1) := by decide +kernel
theorem d_Mod_setOut_107 : decode prog_17_method_94_code 107 = .ok (.iastore, 1) := by decide +kernel
theorem d_Mod_setOut_108 : decode prog_17_method_94_code 108 = .ok (.aload_n 0, 1) := by decide +kernel
theorem d_Mod_setOut_109 : decode prog_17_method_94_code 109 = .ok (.getfield 7, 3) := by decide +kernel
theorem d_Mod_setOut_112 : decode prog_17_method_94_code 112 = .ok (.iload 4, 2) := by decide +kernel
theorem d_Mod_setOut_114 : decode prog_17_method_94_code 114 = .ok (.bipush 6, 2) := by decide +kernel
theorem d_Mod_setOut_116 : decode prog_17_method_94_code 116 = .ok (.iadd, 1) := by decide +kernel
theorem d_Mod_setOut_117 : decode prog_17_method_94_code 117 = .ok (.aload_n 0, 1) := by decide +kernel
theorem d_Mod_setOut_118 : decode prog_17_method_94_code 118 = .ok (.iload 5, 2) := by decide +kernel
theorem d_Mod_setOut_120 : decode prog_17_method_94_code 120 = .ok (.iconst 3, 1) := by decide +kernel
theorem d_Mod_setOut_121 : decode prog_17_method_94_code 121 = .ok (.invokevirtual 201, 3) := by decide +kernel
theorem d_Mod_setOut_124 : decode prog_17_method_94_code 124 = .ok (.iastore, 1) := by decide +kernel
theorem d_Mod_setOut_125 : decode prog_17_method_94_code 125 = .ok (.return_, 1) := by decide +kernel
def Mod_setOut (M : g_MD) (p0 : Int32) (p1 : Int32) (p2 : Int32) : Option g_MD :=
  g_mA M 0 0 (((p1 + (1 : Int32)) + p2) - (1 : Int32)) fun x1 => g_mA M 0 0 ((p1 + (1 : Int32)) + p2) fun x3 => g_b (Mod_linkOf M x1 x3) fun x5 => g_mS M 0 0 (((632 : Int32) + ((8 : Int32) * p0)) + (2 : Int32)) x5 fun M8 => g_mA M8 0 0 ((p1 + (1 : Int32)) + p2) fun x10 => g_mS M8 0 0 (((632 : Int32) + ((8 : Int32) * p0)) + (3 : Int32)) x10 fun M12 => g_mA M12 0 0 ((p1 + (7 : Int32)) + p2) fun x14 => g_mS M12 0 0 (((632 : Int32) + ((8 : Int32) * p0)) + (4 : Int32)) x14 fun M16 => g_mA M16 0 0 ((p1 + (13 : Int32)) + p2) fun x18 => g_mS M16 0 0 (((632 : Int32) + ((8 : Int32) * p0)) + (5 : Int32)) x18 fun M20 => g_b (Mod_ofLink M20 x5 (3 : Int32)) fun x22 => g_mS M20 0 0 (((632 : Int32) + ((8 : Int32) * p0)) + (6 : Int32)) x22 fun M25 => some M25
set_option maxHeartbeats 4000000 in
set_option maxRecDepth 100000 in
theorem T_Mod_setOut {l : Launch} {B : g_B} {h0 : g_AH} {a0 : Nat} {ad : Nat → Nat} (ok : mOK a0 ad) (M : g_MD) (p0 : Int32) (p1 : Int32) (p2 : Int32) (z : g_MD) (hy : Mod_setOut M p0 p1 p2 = some z) : g_CT l B y_Mod_setOut k_Mod_setOut [.ref a0, .int p0, .int p1, .int p2] (mH h0 a0 ad M) (.inl none) (mH h0 a0 ad z) := by
  refine g_start2 (Lc := [(0, .ref a0), (1, .int p0), (2, .int p1), (3, .int p2)]) (by decide) rfl rfl (by exact Nat.le_of_ble_eq_true rfl) (by rfl) fun X => ?_
  unfold Mod_setOut at hy
  refine g_sipush (v := (632 : Int32)) (pc' := 3) d_Mod_setOut_0 (by decide) rfl ?_
  refine g_bipush (v := (8 : Int32)) (pc' := 5) d_Mod_setOut_3 (by decide) rfl ?_
  refine g_iload_n 1 (i := 1) (pc' := 6) d_Mod_setOut_5 rfl rfl rfl ?_
  refine g_imul (pc' := 7) d_Mod_setOut_6 rfl ?_
  refine g_iadd (pc' := 8) d_Mod_setOut_7 rfl ?_
  refine g_istore (pc' := 10) (Lc' := [(4, .int ((632 : Int32) + ((8 : Int32) * p0))), (0, .ref a0), (1, .int p0), (2, .int p1), (3, .int p2)]) d_Mod_setOut_8 (by decide) rfl rfl ?_
  refine g_aload_n 1 (i := 0) (pc' := 11) d_Mod_setOut_10 rfl rfl rfl ?_
  refine g_aload_n 1 (i := 0) (pc' := 12) d_Mod_setOut_11 rfl rfl rfl ?_
  refine gm_getA ok 0 (pc' := 15) d_Mod_setOut_12 rfl q1965 rfl rfl ?_
  refine g_iload_n 3 (i := 2) (pc' := 16) d_Mod_setOut_15 rfl rfl rfl ?_
  refine g_iconst (v := (1 : Int32)) (pc' := 17) d_Mod_setOut_16 (by decide) rfl ?_
  refine g_iadd (pc' := 18) d_Mod_setOut_17 rfl ?_
  refine g_iload_n 4 (i := 3) (pc' := 19) d_Mod_setOut_18 rfl rfl rfl ?_
  refine g_iadd (pc' := 20) d_Mod_setOut_19 rfl ?_
  refine g_iconst (v := (1 : Int32)) (pc' := 21) d_Mod_setOut_20 (by decide) rfl ?_
  refine g_isub (pc' := 22) d_Mod_setOut_21 rfl ?_
  replace hy := g_mA_inv hy
  obtain ⟨x1, hc2, hy⟩ := hy
  refine gm_ald0 ok (pc' := 23) d_Mod_setOut_22 hc2 rfl ?_
  refine g_aload_n 1 (i := 0) (pc' := 24) d_Mod_setOut_23 rfl rfl rfl ?_
  refine gm_getA ok 0 (pc' := 27) d_Mod_setOut_24 rfl q1965 rfl rfl ?_
  refine g_iload_n 3 (i := 2) (pc' := 28) d_Mod_setOut_27 rfl rfl rfl ?_
  refine g_iconst (v := (1 : Int32)) (pc' := 29) d_Mod_setOut_28 (by decide) rfl ?_
  refine g_iadd (pc' := 30) d_Mod_setOut_29 rfl ?_
  refine g_iload_n 4 (i := 3) (pc' := 31) d_Mod_setOut_30 rfl rfl rfl ?_
  refine g_iadd (pc' := 32) d_Mod_setOut_31 rfl ?_
  replace hy := g_mA_inv hy
  obtain ⟨x3, hc4, hy⟩ := hy
  refine gm_ald0 ok (pc' := 33) d_Mod_setOut_32 hc4 rfl ?_
  replace hy := g_b_inv hy
  obtain ⟨x5, hf7, hy⟩ := hy
  refine g_callV (rv := some (.int x5)) (h1 := (mH h0 a0 ad M)) (pc' := 36) (As := [.int x1, .int x3]) (rest := []) 2 (T_Mod_linkOf ok (hy := hf7)) d_Mod_setOut_33 (mH_look ok) rfl rfl q2150 q2152 qs44 q135 q2153 hd_Mod_linkOf rfl ⟨by decide, by decide⟩ (by first | exact Nat.le_of_ble_eq_true rfl | (simp only [List.map, List.sum_cons, List.sum_nil, g_cat_rf]; exact Nat.le_of_ble_eq_true rfl) | (simp only [List.map, List.sum_cons, List.sum_nil, g_cat_rf, Value.category]; decide)) rfl ?_
  refine g_istore (pc' := 38) (Lc' := [(5, .int x5), (4, .int ((632 : Int32) + ((8 : Int32) * p0))), (0, .ref a0), (1, .int p0), (2, .int p1), (3, .int p2)]) d_Mod_setOut_36 (by decide) rfl rfl ?_
  refine g_aload_n 2 (i := 0) (pc' := 39) d_Mod_setOut_38 rfl rfl rfl ?_
  refine gm_getA ok 0 (pc' := 42) d_Mod_setOut_39 rfl q1965 rfl rfl ?_
  refine g_iload 1 (pc' := 44) d_Mod_setOut_42 rfl rfl ?_
  refine g_iconst (v := (2 : Int32)) (pc' := 45) d_Mod_setOut_44 (by decide) rfl ?_
  refine g_iadd (pc' := 46) d_Mod_setOut_45 rfl ?_
  refine g_iload 0 (pc' := 48) d_Mod_setOut_46 rfl rfl ?_
  replace hy := g_mS_inv hy
  obtain ⟨hc9, hy⟩ := hy
  refine gm_ast0 ok (pc' := 49) d_Mod_setOut_48 hc9 rfl ?_
  generalize ms M 0 ((((632 : Int32) + ((8 : Int32) * p0)) + (2 : Int32))).toNatClampNeg x5 = M8 at hy ⊢
  refine g_aload_n 2 (i := 0) (pc' := 50) d_Mod_setOut_49 rfl rfl rfl ?_
  refine gm_getA ok 0 (pc' := 53) d_Mod_setOut_50 rfl q1965 rfl rfl ?_
  refine g_iload 1 (pc' := 55) d_Mod_setOut_53 rfl rfl ?_
  refine g_iconst (v := (3 : Int32)) (pc' := 56) d_Mod_setOut_55 (by decide) rfl ?_
  refine g_iadd (pc' := 57) d_Mod_setOut_56 rfl ?_
  refine g_aload_n 2 (i := 0) (pc' := 58) d_Mod_setOut_57 rfl rfl rfl ?_
  refine gm_getA ok 0 (pc' := 61) d_Mod_setOut_58 rfl q1965 rfl rfl ?_
  refine g_iload_n 4 (i := 2) (pc' := 62) d_Mod_setOut_61 rfl rfl rfl ?_
  refine g_iconst (v := (1 : Int32)) (pc' := 63) d_Mod_setOut_62 (by decide) rfl ?_
  refine g_iadd (pc' := 64) d_Mod_setOut_63 rfl ?_
  refine g_iload_n 5 (i := 3) (pc' := 65) d_Mod_setOut_64 rfl rfl rfl ?_
  refine g_iadd (pc' := 66) d_Mod_setOut_65 rfl ?_
  replace hy := g_mA_inv hy
  obtain ⟨x10, hc11, hy⟩ := hy
  refine gm_ald0 ok (pc' := 67) d_Mod_setOut_66 hc11 rfl ?_
  replace hy := g_mS_inv hy
  obtain ⟨hc13, hy⟩ := hy
  refine gm_ast0 ok (pc' := 68) d_Mod_setOut_67 hc13 rfl ?_
  generalize ms M8 0 ((((632 : Int32) + ((8 : Int32) * p0)) + (3 : Int32))).toNatClampNeg x10 = M12 at hy ⊢
  refine g_aload_n 2 (i := 0) (pc' := 69) d_Mod_setOut_68 rfl rfl rfl ?_
  refine gm_getA ok 0 (pc' := 72) d_Mod_setOut_69 rfl q1965 rfl rfl ?_
  refine g_iload 1 (pc' := 74) d_Mod_setOut_72 rfl rfl ?_
  refine g_iconst (v := (4 : Int32)) (pc' := 75) d_Mod_setOut_74 (by decide) rfl ?_
  refine g_iadd (pc' := 76) d_Mod_setOut_75 rfl ?_
  refine g_aload_n 2 (i := 0) (pc' := 77) d_Mod_setOut_76 rfl rfl rfl ?_
  refine gm_getA ok 0 (pc' := 80) d_Mod_setOut_77 rfl q1965 rfl rfl ?_
  refine g_iload_n 4 (i := 2) (pc' := 81) d_Mod_setOut_80 rfl rfl rfl ?_
  refine g_bipush (v := (7 : Int32)) (pc' := 83) d_Mod_setOut_81 (by decide) rfl ?_
  refine g_iadd (pc' := 84) d_Mod_setOut_83 rfl ?_
  refine g_iload_n 5 (i := 3) (pc' := 85) d_Mod_setOut_84 rfl rfl rfl ?_
  refine g_iadd (pc' := 86) d_Mod_setOut_85 rfl ?_
  replace hy := g_mA_inv hy
  obtain ⟨x14, hc15, hy⟩ := hy
  refine gm_ald0 ok (pc' := 87) d_Mod_setOut_86 hc15 rfl ?_
  replace hy := g_mS_inv hy
  obtain ⟨hc17, hy⟩ := hy
  refine gm_ast0 ok (pc' := 88) d_Mod_setOut_87 hc17 rfl ?_
  generalize ms M12 0 ((((632 : Int32) + ((8 : Int32) * p0)) + (4 : Int32))).toNatClampNeg x14 = M16 at hy ⊢
  refine g_aload_n 2 (i := 0) (pc' := 89) d_Mod_setOut_88 rfl rfl rfl ?_
  refine gm_getA ok 0 (pc' := 92) d_Mod_setOut_89 rfl q1965 rfl rfl ?_
  refine g_iload 1 (pc' := 94) d_Mod_setOut_92 rfl rfl ?_
  refine g_iconst (v := (5 : Int32)) (pc' := 95) d_Mod_setOut_94 (by decide) rfl ?_
  refine g_iadd (pc' := 96) d_Mod_setOut_95 rfl ?_
  refine g_aload_n 2 (i := 0) (pc' := 97) d_Mod_setOut_96 rfl rfl rfl ?_
  refine gm_getA ok 0 (pc' := 100) d_Mod_setOut_97 rfl q1965 rfl rfl ?_
  refine g_iload_n 4 (i := 2) (pc' := 101) d_Mod_setOut_100 rfl rfl rfl ?_
  refine g_bipush (v := (13 : Int32)) (pc' := 103) d_Mod_setOut_101 (by decide) rfl ?_
  refine g_iadd (pc' := 104) d_Mod_setOut_103 rfl ?_
  refine g_iload_n 5 (i := 3) (pc' := 105) d_Mod_setOut_104 rfl rfl rfl ?_
  refine g_iadd (pc' := 106) d_Mod_setOut_105 rfl ?_
  replace hy := g_mA_inv hy
  obtain ⟨x18, hc19, hy⟩ := hy
  refine gm_ald0 ok (pc' := 107) d_Mod_setOut_106 hc19 rfl ?_
  replace hy := g_mS_inv hy
  obtain ⟨hc21, hy⟩ := hy
  refine gm_ast0 ok (pc' := 108) d_Mod_setOut_107 hc21 rfl ?_
  generalize ms M16 0 ((((632 : Int32) + ((8 : Int32) * p0)) + (5 : Int32))).toNatClampNeg x18 = M20 at hy ⊢
  refine g_aload_n 2 (i := 0) (pc' := 109) d_Mod_setOut_108 rfl rfl rfl ?_
  refine gm_getA ok 0 (pc' := 112) d_Mod_setOut_109 rfl q1965 rfl rfl ?_
  refine g_iload 1 (pc' := 114) d_Mod_setOut_112 rfl rfl ?_
  refine g_bipush (v := (6 : Int32)) (pc' := 116) d_Mod_setOut_114 (by decide) rfl ?_
  refine g_iadd (pc' := 117) d_Mod_setOut_116 rfl ?_
  refine g_aload_n 2 (i := 0) (pc' := 118) d_Mod_setOut_117 rfl rfl rfl ?_
  refine g_iload 0 (pc' := 120) d_Mod_setOut_118 rfl rfl ?_
  refine g_iconst (v := (3 : Int32)) (pc' := 121) d_Mod_setOut_120 (by decide) rfl ?_
  replace hy := g_b_inv hy
  obtain ⟨x22, hf24, hy⟩ := hy
  refine g_callV (rv := some (.int x22)) (h1 := (mH h0 a0 ad M20)) (pc' := 124) (As := [.int x5, .int (3 : Int32)]) (rest := [.int (((632 : Int32) + ((8 : Int32) * p0)) + (6 : Int32)), .ref (ad 0)]) 2 (T_Mod_ofLink ok (hy := hf24)) d_Mod_setOut_121 (mH_look ok) rfl rfl q2154 q2156 qs45 q135 q2157 hd_Mod_ofLink rfl ⟨by decide, by decide⟩ (by first | exact Nat.le_of_ble_eq_true rfl | (simp only [List.map, List.sum_cons, List.sum_nil, g_cat_rf]; exact Nat.le_of_ble_eq_true rfl) | (simp only [List.map, List.sum_cons, List.sum_nil, g_cat_rf, Value.category]; decide)) rfl ?_
  replace hy := g_mS_inv hy
  obtain ⟨hc26, hy⟩ := hy
  refine gm_ast0 ok (pc' := 125) d_Mod_setOut_124 hc26 rfl ?_
  generalize ms M20 0 ((((632 : Int32) + ((8 : Int32) * p0)) + (6 : Int32))).toNatClampNeg x22 = M25 at hy ⊢
  cases hy
  exact g_vret rfl rfl rfl d_Mod_setOut_125
theorem hd_Mod_setOut : g_dsc y_Mod_setOut 3 := ⟨by decide +kernel, by decide +kernel, by decide +kernel⟩
/-! CircuitDeskModel.arrive(I)Z -/
abbrev y_Mod_arrive : MethodName := ⟨"CircuitDeskModel", "arrive", "(I)Z"⟩
abbrev k_Mod_arrive : g_M := (prog_17_method_95_code, 5, "CircuitDeskModel", 15, (some FieldType.boolean), "arrive", [], 0)
theorem d_Mod_arrive_0 : decode prog_17_method_95_code 0 = .ok (.aload_n 0, 1) := by decide +kernel
theorem d_Mod_arrive_1 : decode prog_17_method_95_code 1 = .ok (.aload_n 0, 1) := by decide +kernel
theorem d_Mod_arrive_2 : decode prog_17_method_95_code 2 = .ok (.iload_n 1, 1) := by decide +kernel
theorem d_Mod_arrive_3 : decode prog_17_method_95_code 3 = .ok (.iconst 4, 1) := by decide +kernel
theorem d_Mod_arrive_4 : decode prog_17_method_95_code 4 = .ok (.invokevirtual 217, 3) := by decide +kernel
theorem d_Mod_arrive_7 : decode prog_17_method_95_code 7 = .ok (.aload_n 0, 1) := by decide +kernel
theorem d_Mod_arrive_8 : decode prog_17_method_95_code 8 = .ok (.iload_n 1, 1) := by decide +kernel
theorem d_Mod_arrive_9 : decode prog_17_method_95_code 9 = .ok (.iconst 5, 1) := by decide +kernel
theorem d_Mod_arrive_10 : decode prog_17_method_95_code 10 = .ok (.invokevirtual 217, 3) := by decide +kernel
theorem d_Mod_arrive_13 : decode prog_17_method_95_code 13 = .ok (.invokevirtual 232, 3) := by decide +kernel
theorem d_Mod_arrive_16 : decode prog_17_method_95_code 16 = .ok (.istore_n 2, 1) := by decide +kernel
theorem d_Mod_arrive_17 : decode prog_17_method_95_code 17 = .ok (.iload_n 2, 1) := by decide +kernel
theorem d_Mod_arrive_18 : decode prog_17_method_95_code 18 = .ok (.ifCond .eq 17, 3) := by decide +kernel
theorem d_Mod_arrive_21 : decode prog_17_method_95_code 21 = .ok (.aload_n 0, 1) := by decide +kernel
theorem d_Mod_arrive_22 : decode prog_17_method_95_code 22 = .ok (.getfield 223, 3) := by decide +kernel
theorem d_Mod_arrive_25 : decode prog_17_method_95_code 25 = .ok (.aload_n 0, 1) := by decide +kernel
theorem d_Mod_arrive_26 : decode prog_17_method_95_code 26 = .ok (.getfield 226, 3) := by decide +kernel
theorem d_Mod_arrive_29 : decode prog_17_method_95_code 29 = .ok (.invokestatic 144, 3) := by decide +kernel
theorem d_Mod_arrive_32 : decode prog_17_method_95_code 32 = .ok (.goto 4, 3) := by decide +kernel
theorem d_Mod_arrive_35 : decode prog_17_method_95_code 35 = .ok (.iconst 0, 1) := by decide +kernel
theorem d_Mod_arrive_36 : decode prog_17_method_95_code 36 = .ok (.istore_n 3, 1) := by decide +kernel
theorem d_Mod_arrive_37 : decode prog_17_method_95_code 37 = .ok (.aload_n 0, 1) := by decide +kernel
theorem d_Mod_arrive_38 : decode prog_17_method_95_code 38 = .ok (.getfield 229, 3) := by decide +kernel
theorem d_Mod_arrive_41 : decode prog_17_method_95_code 41 = .ok (.istore 4, 2) := by decide +kernel
theorem d_Mod_arrive_43 : decode prog_17_method_95_code 43 = .ok (.iload_n 2, 1) := by decide +kernel
theorem d_Mod_arrive_44 : decode prog_17_method_95_code 44 = .ok (.ifCond .eq 38, 3) := by decide +kernel
theorem d_Mod_arrive_47 : decode prog_17_method_95_code 47 = .ok (.aload_n 0, 1) := by decide +kernel
theorem d_Mod_arrive_48 : decode prog_17_method_95_code 48 = .ok (.getfield 7, 3) := by decide +kernel
theorem d_Mod_arrive_51 : decode prog_17_method_95_code 51 = .ok (.iload_n 3, 1) := by decide +kernel
theorem d_Mod_arrive_52 : decode prog_17_method_95_code 52 = .ok (.iconst 1, 1) := by decide +kernel
theorem d_Mod_arrive_53 : decode prog_17_method_95_code 53 = .ok (.iadd, 1) := by decide +kernel
theorem d_Mod_arrive_54 : decode prog_17_method_95_code 54 = .ok (.iload 4, 2) := by decide +kernel
theorem d_Mod_arrive_56 : decode prog_17_method_95_code 56 = .ok (.iadd, 1) := by decide +kernel
theorem d_Mod_arrive_57 : decode prog_17_method_95_code 57 = .ok (.iaload, 1) := by decide +kernel
theorem d_Mod_arrive_58 : decode prog_17_method_95_code 58 = .ok (.aload_n 0, 1) := by decide +kernel
theorem d_Mod_arrive_59 : decode prog_17_method_95_code 59 = .ok (.iload_n 1, 1) := by decide +kernel
theorem d_Mod_arrive_60 : decode prog_17_method_95_code 60 = .ok (.iconst 3, 1) := by decide +kernel
theorem d_Mod_arrive_61 : decode prog_17_method_95_code 61 = .ok (.invokevirtual 217, 3) := by decide +kernel
theorem d_Mod_arrive_64 : decode prog_17_method_95_code 64 = .ok (.if_icmp .ne 18, 3) := by decide +kernel
theorem d_Mod_arrive_67 : decode prog_17_method_95_code 67 = .ok (.aload_n 0, 1) := by decide +kernel
theorem d_Mod_arrive_68 : decode prog_17_method_95_code 68 = .ok (.getfield 7, 3) := by decide +kernel
theorem d_Mod_arrive_71 : decode prog_17_method_95_code 71 = .ok (.iload_n 3, 1) := by decide +kernel
theorem d_Mod_arrive_72 : decode prog_17_method_95_code 72 = .ok (.bipush 19, 2) := by decide +kernel
theorem d_Mod_arrive_74 : decode prog_17_method_95_code 74 = .ok (.iadd, 1) := by decide +kernel
theorem d_Mod_arrive_75 : decode prog_17_method_95_code 75 = .ok (.iload 4, 2) := by decide +kernel
theorem d_Mod_arrive_77 : decode prog_17_method_95_code 77 = .ok (.iadd, 1) := by decide +kernel
theorem d_Mod_arrive_78 : decode prog_17_method_95_code 78 = .ok (.iaload, 1) := by decide +kernel
theorem d_Mod_arrive_79 : decode prog_17_method_95_code 79 = .ok (.ifCond .ne 10, 3) := by decide +kernel
theorem d_Mod_arrive_82 : decode prog_17_method_95_code 82 = .ok (.aload_n 0, 1) := by decide +kernel
theorem d_Mod_arrive_83 : decode prog_17_method_95_code 83 = .ok (.iload_n 1, 1) := by decide +kernel
theorem d_Mod_arrive_84 : decode prog_17_method_95_code 84 = .ok (.invokevirtual 220, 3) := by decide +kernel
theorem d_Mod_arrive_87 : decode prog_17_method_95_code 87 = .ok (.iconst 0, 1) := by decide +kernel
theorem d_Mod_arrive_88 : decode prog_17_method_95_code 88 = .ok (.ireturn, 1) := by decide +kernel
theorem d_Mod_arrive_89 : decode prog_17_method_95_code 89 = .ok (.iload 4, 2) := by decide +kernel
theorem d_Mod_arrive_91 : decode prog_17_method_95_code 91 = .ok (.iconst 1, 1) := by decide +kernel
theorem d_Mod_arrive_92 : decode prog_17_method_95_code 92 = .ok (.iadd, 1) := by decide +kernel
theorem d_Mod_arrive_93 : decode prog_17_method_95_code 93 = .ok (.aload_n 0, 1) := by decide +kernel
theorem d_Mod_arrive_94 : decode prog_17_method_95_code 94 = .ok (.getfield 7, 3) := by decide +kernel
theorem d_Mod_arrive_97 : decode prog_17_method_95_code 97 = .ok (.iload_n 3, 1) := by decide +kernel
theorem d_Mod_arrive_98 : decode prog_17_method_95_code 98 = .ok (.iaload, 1) := by decide +kernel
theorem d_Mod_arrive_99 : decode prog_17_method_95_code 99 = .ok (.if_icmp .ne 10, 3) := by decide +kernel
theorem d_Mod_arrive_102 : decode prog_17_method_95_code 102 = .ok (.aload_n 0, 1) := by decide +kernel
theorem d_Mod_arrive_103 : decode prog_17_method_95_code 103 = .ok (.iload_n 1, 1) := by decide +kernel
theorem d_Mod_arrive_104 : decode prog_17_method_95_code 104 = .ok (.invokevirtual 344, 3) := by decide +kernel
theorem d_Mod_arrive_107 : decode prog_17_method_95_code 107 = .ok (.iconst 0, 1) := by decide +kernel
theorem d_Mod_arrive_108 : decode prog_17_method_95_code 108 = .ok (.ireturn, 1) := by decide +kernel
theorem d_Mod_arrive_109 : decode prog_17_method_95_code 109 = .ok (.aload_n 0, 1) := by decide +kernel
theorem d_Mod_arrive_110 : decode prog_17_method_95_code 110 = .ok (.iload_n 1, 1) := by decide +kernel
theorem d_Mod_arrive_111 : decode prog_17_method_95_code 111 = .ok (.iload_n 3, 1) := by decide +kernel
theorem d_Mod_arrive_112 : decode prog_17_method_95_code 112 = .ok (.iload 4, 2) := by decide +kernel
theorem d_Mod_arrive_114 : decode prog_17_method_95_code 114 = .ok (.iconst 1, 1) := by decide +kernel
theorem d_Mod_arrive_115 : decode prog_17_method_95_code 115 = .ok (.iadd, 1) := by decide +kernel
theorem d_Mod_arrive_116 : decode prog_17_method_95_code 116 = .ok (.invokevirtual 347, 3) := by decide +kernel
theorem d_Mod_arrive_119 : decode prog_17_method_95_code 119 = .ok (.aload_n 0, 1) := by decide +kernel
theorem d_Mod_arrive_120 : decode prog_17_method_95_code 120 = .ok (.aload_n 0, 1) := by decide +kernel
theorem d_Mod_arrive_121 : decode prog_17_method_95_code 121 = .ok (.iload_n 1, 1) := by decide +kernel
theorem d_Mod_arrive_122 : decode prog_17_method_95_code 122 = .ok (.iconst 2, 1) := by decide +kernel
theorem d_Mod_arrive_123 : decode prog_17_method_95_code 123 = .ok (.invokevirtual 217, 3) := by decide +kernel
theorem d_Mod_arrive_126 : decode prog_17_method_95_code 126 = .ok (.iconst 4, 1) := by decide +kernel
theorem d_Mod_arrive_127 : decode prog_17_method_95_code 127 = .ok (.invokevirtual 201, 3) := by decide +kernel
theorem d_Mod_arrive_130 : decode prog_17_method_95_code 130 = .ok (.ifCond .ne 10, 3) := by decide +kernel
theorem d_Mod_arrive_133 : decode prog_17_method_95_code 133 = .ok (.aload_n 0, 1) := by decide +kernel
theorem d_Mod_arrive_134 : decode prog_17_method_95_code 134 = .ok (.iload_n 1, 1) := by decide +kernel
theorem d_Mod_arrive_135 : decode prog_17_method_95_code 135 = .ok (.invokevirtual 220, 3) := by decide +kernel
theorem d_Mod_arrive_138 : decode prog_17_method_95_code 138 = .ok (.iconst 0, 1) := by decide +kernel
theorem d_Mod_arrive_139 : decode prog_17_method_95_code 139 = .ok (.ireturn, 1) := by decide +kernel
theorem d_Mod_arrive_140 : decode prog_17_method_95_code 140 = .ok (.iconst 1, 1) := by decide +kernel
theorem d_Mod_arrive_141 : decode prog_17_method_95_code 141 = .ok (.ireturn, 1) := by decide +kernel
def Mod_arrive_82 (M : g_MD) (v1 : Int32) : Option (Int32 × g_MD) :=
  g_b (Mod_losePacket M v1) fun M13 => some ((0 : Int32), M13)
set_option maxHeartbeats 4000000 in
set_option maxRecDepth 100000 in
theorem W_Mod_arrive_82 {X : g_X} {h0 : g_AH} {a0 : Nat} {ad : Nat → Nat} (ok : mOK a0 ad) (z : Int32 × g_MD) (M : g_MD) (v1 : Int32) (hy : Mod_arrive_82  M v1 = some z) : G X k_Mod_arrive (.inl (some (.int z.1))) (mH h0 a0 ad z.2) (mH h0 a0 ad M) 82 [(0, .ref a0), (1, .int v1)] [] := by
  unfold Mod_arrive_82 at hy
  refine g_aload_n 0 (i := 0) (pc' := 83) d_Mod_arrive_82 rfl rfl rfl ?_
  refine g_iload_n 1 (i := 1) (pc' := 84) d_Mod_arrive_83 rfl rfl rfl ?_
  replace hy := g_b_inv hy
  obtain ⟨M13, hf14, hy⟩ := hy
  refine g_callV (rv := none) (h1 := (mH h0 a0 ad M13)) (pc' := 87) (As := [.int v1]) (rest := []) 1 (T_Mod_losePacket ok (hy := hf14)) d_Mod_arrive_84 (mH_look ok) rfl rfl q2267 q2269 qs67 q135 q2270 hd_Mod_losePacket rfl ⟨by decide, by decide⟩ (by first | exact Nat.le_of_ble_eq_true rfl | (simp only [List.map, List.sum_cons, List.sum_nil, g_cat_rf]; exact Nat.le_of_ble_eq_true rfl) | (simp only [List.map, List.sum_cons, List.sum_nil, g_cat_rf, Value.category]; decide)) rfl ?_
  refine g_iconst (v := (0 : Int32)) (pc' := 88) d_Mod_arrive_87 (by decide) rfl ?_
  cases hy
  exact g_zret rfl rfl rfl (g_nar_z (Or.inl rfl)).1 d_Mod_arrive_88
def Mod_arrive_36 (M : g_MD) (v1 : Int32) (v2 : Int32) (s0 : Int32) : Option (Int32 × g_MD) :=
  if v2 = 0 then (Mod_arrive_82  M v1) else (g_mA M 0 0 ((s0 + (1 : Int32)) + (M.2.1 20)) fun x16 => g_b (Mod_ofPacket M v1 (3 : Int32)) fun x18 => if x16 = x18 then (g_mA M 0 0 ((s0 + (19 : Int32)) + (M.2.1 20)) fun x22 => if x22 = 0 then (Mod_arrive_82  M v1) else (g_mA M 0 0 s0 fun x25 => if ((M.2.1 20) + (1 : Int32)) = x25 then (g_b (Mod_deliverPacket M v1) fun M44 => some ((0 : Int32), M44)) else (g_b (Mod_setOut M v1 s0 ((M.2.1 20) + (1 : Int32))) fun M29 => g_b (Mod_ofPacket M29 v1 (2 : Int32)) fun x31 => g_b (Mod_ofLink M29 x31 (4 : Int32)) fun x34 => if x34 = 0 then (g_b (Mod_losePacket M29 v1) fun M40 => some ((0 : Int32), M40)) else (some ((1 : Int32), M29))))) else (Mod_arrive_82  M v1))
set_option maxHeartbeats 4000000 in
set_option maxRecDepth 100000 in
theorem W_Mod_arrive_36 {X : g_X} {h0 : g_AH} {a0 : Nat} {ad : Nat → Nat} (ok : mOK a0 ad) (z : Int32 × g_MD) (M : g_MD) (v1 : Int32) (v2 : Int32) (s0 : Int32) (hy : Mod_arrive_36  M v1 v2 s0 = some z) : G X k_Mod_arrive (.inl (some (.int z.1))) (mH h0 a0 ad z.2) (mH h0 a0 ad M) 36 [(0, .ref a0), (1, .int v1), (2, .int v2)] [.int s0] := by
  unfold Mod_arrive_36 at hy
  refine g_istore_n (i := 3) (pc' := 37) (Lc' := [(3, .int s0), (0, .ref a0), (1, .int v1), (2, .int v2)]) d_Mod_arrive_36 rfl (by decide) rfl rfl ?_
  refine g_aload_n 1 (i := 0) (pc' := 38) d_Mod_arrive_37 rfl rfl rfl ?_
  refine gm_getA ok 20 (pc' := 41) d_Mod_arrive_38 rfl q1985 rfl rfl ?_
  refine g_istore (pc' := 43) (Lc' := [(4, .int (M.2.1 20)), (3, .int s0), (0, .ref a0), (1, .int v1), (2, .int v2)]) d_Mod_arrive_41 (by decide) rfl rfl ?_
  refine g_iload_n 4 (i := 2) (pc' := 44) d_Mod_arrive_43 rfl rfl rfl ?_
  by_cases c11 : v2 = 0
  · rw [if_pos c11] at hy
    refine g_if_eqT (pc' := 82) d_Mod_arrive_44 c11 (by decide) ?_
    refine g_sub [2, 3] rfl ?_
    exact W_Mod_arrive_82 ok _ _ _ hy
  · rw [if_neg c11] at hy
    refine g_if_eqF (pc' := 47) d_Mod_arrive_44 82 c11 (by decide) rfl ?_
    refine g_aload_n 2 (i := 0) (pc' := 48) d_Mod_arrive_47 rfl rfl rfl ?_
    refine gm_getA ok 0 (pc' := 51) d_Mod_arrive_48 rfl q1965 rfl rfl ?_
    refine g_iload_n 1 (i := 3) (pc' := 52) d_Mod_arrive_51 rfl rfl rfl ?_
    refine g_iconst (v := (1 : Int32)) (pc' := 53) d_Mod_arrive_52 (by decide) rfl ?_
    refine g_iadd (pc' := 54) d_Mod_arrive_53 rfl ?_
    refine g_iload 0 (pc' := 56) d_Mod_arrive_54 rfl rfl ?_
    refine g_iadd (pc' := 57) d_Mod_arrive_56 rfl ?_
    replace hy := g_mA_inv hy
    obtain ⟨x16, hc17, hy⟩ := hy
    refine gm_ald0 ok (pc' := 58) d_Mod_arrive_57 hc17 rfl ?_
    refine g_aload_n 2 (i := 0) (pc' := 59) d_Mod_arrive_58 rfl rfl rfl ?_
    refine g_iload_n 3 (i := 1) (pc' := 60) d_Mod_arrive_59 rfl rfl rfl ?_
    refine g_iconst (v := (3 : Int32)) (pc' := 61) d_Mod_arrive_60 (by decide) rfl ?_
    replace hy := g_b_inv hy
    obtain ⟨x18, hf20, hy⟩ := hy
    refine g_callV (rv := some (.int x18)) (h1 := (mH h0 a0 ad M)) (pc' := 64) (As := [.int v1, .int (3 : Int32)]) (rest := [.int x16]) 2 (T_Mod_ofPacket ok (hy := hf20)) d_Mod_arrive_61 (mH_look ok) rfl rfl q2263 q2265 qs66 q135 q2266 hd_Mod_ofPacket rfl ⟨by decide, by decide⟩ (by first | exact Nat.le_of_ble_eq_true rfl | (simp only [List.map, List.sum_cons, List.sum_nil, g_cat_rf]; exact Nat.le_of_ble_eq_true rfl) | (simp only [List.map, List.sum_cons, List.sum_nil, g_cat_rf, Value.category]; decide)) rfl ?_
    by_cases c21 : x16 = x18
    · rw [if_pos c21] at hy
      refine g_icmp_neF (pc' := 67) d_Mod_arrive_64 82 c21 (by decide) rfl ?_
      refine g_aload_n 2 (i := 0) (pc' := 68) d_Mod_arrive_67 rfl rfl rfl ?_
      refine gm_getA ok 0 (pc' := 71) d_Mod_arrive_68 rfl q1965 rfl rfl ?_
      refine g_iload_n 1 (i := 3) (pc' := 72) d_Mod_arrive_71 rfl rfl rfl ?_
      refine g_bipush (v := (19 : Int32)) (pc' := 74) d_Mod_arrive_72 (by decide) rfl ?_
      refine g_iadd (pc' := 75) d_Mod_arrive_74 rfl ?_
      refine g_iload 0 (pc' := 77) d_Mod_arrive_75 rfl rfl ?_
      refine g_iadd (pc' := 78) d_Mod_arrive_77 rfl ?_
      replace hy := g_mA_inv hy
      obtain ⟨x22, hc23, hy⟩ := hy
      refine gm_ald0 ok (pc' := 79) d_Mod_arrive_78 hc23 rfl ?_
      by_cases c24 : x22 = 0
      · rw [if_pos c24] at hy
        refine g_if_neF (pc' := 82) d_Mod_arrive_79 89 c24 (by decide) rfl ?_
        refine g_sub [2, 3] rfl ?_
        exact W_Mod_arrive_82 ok _ _ _ hy
      · rw [if_neg c24] at hy
        refine g_if_neT (pc' := 89) d_Mod_arrive_79 c24 (by decide) ?_
        refine g_iload 0 (pc' := 91) d_Mod_arrive_89 rfl rfl ?_
        refine g_iconst (v := (1 : Int32)) (pc' := 92) d_Mod_arrive_91 (by decide) rfl ?_
        refine g_iadd (pc' := 93) d_Mod_arrive_92 rfl ?_
        refine g_aload_n 2 (i := 0) (pc' := 94) d_Mod_arrive_93 rfl rfl rfl ?_
        refine gm_getA ok 0 (pc' := 97) d_Mod_arrive_94 rfl q1965 rfl rfl ?_
        refine g_iload_n 1 (i := 3) (pc' := 98) d_Mod_arrive_97 rfl rfl rfl ?_
        replace hy := g_mA_inv hy
        obtain ⟨x25, hc26, hy⟩ := hy
        refine gm_ald0 ok (pc' := 99) d_Mod_arrive_98 hc26 rfl ?_
        by_cases c27 : ((M.2.1 20) + (1 : Int32)) = x25
        · rw [if_pos c27] at hy
          refine g_icmp_neF (pc' := 102) d_Mod_arrive_99 109 c27 (by decide) rfl ?_
          refine g_aload_n 2 (i := 0) (pc' := 103) d_Mod_arrive_102 rfl rfl rfl ?_
          refine g_iload_n 3 (i := 1) (pc' := 104) d_Mod_arrive_103 rfl rfl rfl ?_
          replace hy := g_b_inv hy
          obtain ⟨M44, hf45, hy⟩ := hy
          refine g_callV (rv := none) (h1 := (mH h0 a0 ad M44)) (pc' := 107) (As := [.int v1]) (rest := []) 1 (T_Mod_deliverPacket ok (hy := hf45)) d_Mod_arrive_104 (mH_look ok) rfl rfl q2445 q2447 qs95 q135 q2448 hd_Mod_deliverPacket rfl ⟨by decide, by decide⟩ (by first | exact Nat.le_of_ble_eq_true rfl | (simp only [List.map, List.sum_cons, List.sum_nil, g_cat_rf]; exact Nat.le_of_ble_eq_true rfl) | (simp only [List.map, List.sum_cons, List.sum_nil, g_cat_rf, Value.category]; decide)) rfl ?_
          refine g_iconst (v := (0 : Int32)) (pc' := 108) d_Mod_arrive_107 (by decide) rfl ?_
          cases hy
          exact g_zret rfl rfl rfl (g_nar_z (Or.inl rfl)).1 d_Mod_arrive_108
        · rw [if_neg c27] at hy
          refine g_icmp_neT (pc' := 109) d_Mod_arrive_99 c27 (by decide) ?_
          refine g_aload_n 2 (i := 0) (pc' := 110) d_Mod_arrive_109 rfl rfl rfl ?_
          refine g_iload_n 3 (i := 1) (pc' := 111) d_Mod_arrive_110 rfl rfl rfl ?_
          refine g_iload_n 1 (i := 3) (pc' := 112) d_Mod_arrive_111 rfl rfl rfl ?_
          refine g_iload 0 (pc' := 114) d_Mod_arrive_112 rfl rfl ?_
          refine g_iconst (v := (1 : Int32)) (pc' := 115) d_Mod_arrive_114 (by decide) rfl ?_
          refine g_iadd (pc' := 116) d_Mod_arrive_115 rfl ?_
          replace hy := g_b_inv hy
          obtain ⟨M29, hf30, hy⟩ := hy
          refine g_callV (rv := none) (h1 := (mH h0 a0 ad M29)) (pc' := 119) (As := [.int v1, .int s0, .int ((M.2.1 20) + (1 : Int32))]) (rest := []) 3 (T_Mod_setOut ok (hy := hf30)) d_Mod_arrive_116 (mH_look ok) rfl rfl q2449 q2451 qs96 q135 q2452 hd_Mod_setOut rfl ⟨by decide, by decide⟩ (by first | exact Nat.le_of_ble_eq_true rfl | (simp only [List.map, List.sum_cons, List.sum_nil, g_cat_rf]; exact Nat.le_of_ble_eq_true rfl) | (simp only [List.map, List.sum_cons, List.sum_nil, g_cat_rf, Value.category]; decide)) rfl ?_
          refine g_aload_n 2 (i := 0) (pc' := 120) d_Mod_arrive_119 rfl rfl rfl ?_
          refine g_aload_n 2 (i := 0) (pc' := 121) d_Mod_arrive_120 rfl rfl rfl ?_
          refine g_iload_n 3 (i := 1) (pc' := 122) d_Mod_arrive_121 rfl rfl rfl ?_
          refine g_iconst (v := (2 : Int32)) (pc' := 123) d_Mod_arrive_122 (by decide) rfl ?_
          replace hy := g_b_inv hy
          obtain ⟨x31, hf33, hy⟩ := hy
          refine g_callV (rv := some (.int x31)) (h1 := (mH h0 a0 ad M29)) (pc' := 126) (As := [.int v1, .int (2 : Int32)]) (rest := [.ref a0]) 2 (T_Mod_ofPacket ok (hy := hf33)) d_Mod_arrive_123 (mH_look ok) rfl rfl q2263 q2265 qs66 q135 q2266 hd_Mod_ofPacket rfl ⟨by decide, by decide⟩ (by first | exact Nat.le_of_ble_eq_true rfl | (simp only [List.map, List.sum_cons, List.sum_nil, g_cat_rf]; exact Nat.le_of_ble_eq_true rfl) | (simp only [List.map, List.sum_cons, List.sum_nil, g_cat_rf, Value.category]; decide)) rfl ?_
          refine g_iconst (v := (4 : Int32)) (pc' := 127) d_Mod_arrive_126 (by decide) rfl ?_
          replace hy := g_b_inv hy
          obtain ⟨x34, hf36, hy⟩ := hy
          refine g_callV (rv := some (.int x34)) (h1 := (mH h0 a0 ad M29)) (pc' := 130) (As := [.int x31, .int (4 : Int32)]) (rest := []) 2 (T_Mod_ofLink ok (hy := hf36)) d_Mod_arrive_127 (mH_look ok) rfl rfl q2154 q2156 qs45 q135 q2157 hd_Mod_ofLink rfl ⟨by decide, by decide⟩ (by first | exact Nat.le_of_ble_eq_true rfl | (simp only [List.map, List.sum_cons, List.sum_nil, g_cat_rf]; exact Nat.le_of_ble_eq_true rfl) | (simp only [List.map, List.sum_cons, List.sum_nil, g_cat_rf, Value.category]; decide)) rfl ?_
          by_cases c37 : x34 = 0
          · rw [if_pos c37] at hy
            refine g_if_neF (pc' := 133) d_Mod_arrive_130 140 c37 (by decide) rfl ?_
            refine g_aload_n 2 (i := 0) (pc' := 134) d_Mod_arrive_133 rfl rfl rfl ?_
            refine g_iload_n 3 (i := 1) (pc' := 135) d_Mod_arrive_134 rfl rfl rfl ?_
            replace hy := g_b_inv hy
            obtain ⟨M40, hf41, hy⟩ := hy
            refine g_callV (rv := none) (h1 := (mH h0 a0 ad M40)) (pc' := 138) (As := [.int v1]) (rest := []) 1 (T_Mod_losePacket ok (hy := hf41)) d_Mod_arrive_135 (mH_look ok) rfl rfl q2267 q2269 qs67 q135 q2270 hd_Mod_losePacket rfl ⟨by decide, by decide⟩ (by first | exact Nat.le_of_ble_eq_true rfl | (simp only [List.map, List.sum_cons, List.sum_nil, g_cat_rf]; exact Nat.le_of_ble_eq_true rfl) | (simp only [List.map, List.sum_cons, List.sum_nil, g_cat_rf, Value.category]; decide)) rfl ?_
            refine g_iconst (v := (0 : Int32)) (pc' := 139) d_Mod_arrive_138 (by decide) rfl ?_
            cases hy
            exact g_zret rfl rfl rfl (g_nar_z (Or.inl rfl)).1 d_Mod_arrive_139
          · rw [if_neg c37] at hy
            refine g_if_neT (pc' := 140) d_Mod_arrive_130 c37 (by decide) ?_
            refine g_iconst (v := (1 : Int32)) (pc' := 141) d_Mod_arrive_140 (by decide) rfl ?_
            cases hy
            exact g_zret rfl rfl rfl (g_nar_z (Or.inr rfl)).1 d_Mod_arrive_141
    · rw [if_neg c21] at hy
      refine g_icmp_neT (pc' := 82) d_Mod_arrive_64 c21 (by decide) ?_
      refine g_sub [2, 3] rfl ?_
      exact W_Mod_arrive_82 ok _ _ _ hy
def Mod_arrive (M : g_MD) (p0 : Int32) : Option (Int32 × g_MD) :=
  g_b (Mod_ofPacket M p0 (4 : Int32)) fun x1 => g_b (Mod_ofPacket M p0 (5 : Int32)) fun x4 => g_bM (Mod_findHolder M x1 x4) fun x7 M8 => if x7 = 0 then (Mod_arrive_36  M8 p0 x7 (0 : Int32)) else (g_b (Mod_wayPlace (M8.2.1 18) (M8.2.1 19)) fun x47 => Mod_arrive_36  M8 p0 x7 x47)
set_option maxHeartbeats 4000000 in
set_option maxRecDepth 100000 in
theorem T_Mod_arrive {l : Launch} {B : g_B} {h0 : g_AH} {a0 : Nat} {ad : Nat → Nat} (ok : mOK a0 ad) (M : g_MD) (p0 : Int32) (z : Int32 × g_MD) (hy : Mod_arrive M p0 = some z) : g_CT l B y_Mod_arrive k_Mod_arrive [.ref a0, .int p0] (mH h0 a0 ad M) (.inl (some (.int z.1))) (mH h0 a0 ad z.2) := by
  refine g_start2 (Lc := [(0, .ref a0), (1, .int p0)]) (by decide) rfl rfl (by exact Nat.le_of_ble_eq_true rfl) (by rfl) fun X => ?_
  unfold Mod_arrive at hy
  refine g_aload_n 0 (i := 0) (pc' := 1) d_Mod_arrive_0 rfl rfl rfl ?_
  refine g_aload_n 0 (i := 0) (pc' := 2) d_Mod_arrive_1 rfl rfl rfl ?_
  refine g_iload_n 1 (i := 1) (pc' := 3) d_Mod_arrive_2 rfl rfl rfl ?_
  refine g_iconst (v := (4 : Int32)) (pc' := 4) d_Mod_arrive_3 (by decide) rfl ?_
  replace hy := g_b_inv hy
  obtain ⟨x1, hf3, hy⟩ := hy
  refine g_callV (rv := some (.int x1)) (h1 := (mH h0 a0 ad M)) (pc' := 7) (As := [.int p0, .int (4 : Int32)]) (rest := [.ref a0]) 2 (T_Mod_ofPacket ok (hy := hf3)) d_Mod_arrive_4 (mH_look ok) rfl rfl q2263 q2265 qs66 q135 q2266 hd_Mod_ofPacket rfl ⟨by decide, by decide⟩ (by first | exact Nat.le_of_ble_eq_true rfl | (simp only [List.map, List.sum_cons, List.sum_nil, g_cat_rf]; exact Nat.le_of_ble_eq_true rfl) | (simp only [List.map, List.sum_cons, List.sum_nil, g_cat_rf, Value.category]; decide)) rfl ?_
  refine g_aload_n 0 (i := 0) (pc' := 8) d_Mod_arrive_7 rfl rfl rfl ?_
  refine g_iload_n 1 (i := 1) (pc' := 9) d_Mod_arrive_8 rfl rfl rfl ?_
  refine g_iconst (v := (5 : Int32)) (pc' := 10) d_Mod_arrive_9 (by decide) rfl ?_
  replace hy := g_b_inv hy
  obtain ⟨x4, hf6, hy⟩ := hy
  refine g_callV (rv := some (.int x4)) (h1 := (mH h0 a0 ad M)) (pc' := 13) (As := [.int p0, .int (5 : Int32)]) (rest := [.int x1, .ref a0]) 2 (T_Mod_ofPacket ok (hy := hf6)) d_Mod_arrive_10 (mH_look ok) rfl rfl q2263 q2265 qs66 q135 q2266 hd_Mod_ofPacket rfl ⟨by decide, by decide⟩ (by first | exact Nat.le_of_ble_eq_true rfl | (simp only [List.map, List.sum_cons, List.sum_nil, g_cat_rf]; exact Nat.le_of_ble_eq_true rfl) | (simp only [List.map, List.sum_cons, List.sum_nil, g_cat_rf, Value.category]; decide)) rfl ?_
  replace hy := g_bM_inv hy
  obtain ⟨x7, M8, hf9, hy⟩ := hy
  refine g_callV (rv := some (.int x7)) (h1 := (mH h0 a0 ad M8)) (pc' := 16) (As := [.int x1, .int x4]) (rest := []) 2 (T_Mod_findHolder ok (hy := hf9)) d_Mod_arrive_13 (mH_look ok) rfl rfl q2210 q2212 qs58 q135 q2213 hd_Mod_findHolder rfl ⟨by decide, by decide⟩ (by first | exact Nat.le_of_ble_eq_true rfl | (simp only [List.map, List.sum_cons, List.sum_nil, g_cat_rf]; exact Nat.le_of_ble_eq_true rfl) | (simp only [List.map, List.sum_cons, List.sum_nil, g_cat_rf, Value.category]; decide)) rfl ?_
  refine g_istore_n (i := 2) (pc' := 17) (Lc' := [(2, .int x7), (0, .ref a0), (1, .int p0)]) d_Mod_arrive_16 rfl (by decide) rfl rfl ?_
  refine g_iload_n 0 (i := 2) (pc' := 18) d_Mod_arrive_17 rfl rfl rfl ?_
  by_cases c10 : x7 = 0
  · rw [if_pos c10] at hy
    refine g_if_eqT (pc' := 35) d_Mod_arrive_18 c10 (by decide) ?_
    refine g_iconst (v := (0 : Int32)) (pc' := 36) d_Mod_arrive_35 (by decide) rfl ?_
    refine g_sub [1, 2, 0] rfl ?_
    exact W_Mod_arrive_36 ok _ _ _ _ _ hy
  · rw [if_neg c10] at hy
    refine g_if_eqF (pc' := 21) d_Mod_arrive_18 35 c10 (by decide) rfl ?_
    refine g_aload_n 1 (i := 0) (pc' := 22) d_Mod_arrive_21 rfl rfl rfl ?_
    refine gm_getA ok 18 (pc' := 25) d_Mod_arrive_22 rfl q1983 rfl rfl ?_
    refine g_aload_n 1 (i := 0) (pc' := 26) d_Mod_arrive_25 rfl rfl rfl ?_
    refine gm_getA ok 19 (pc' := 29) d_Mod_arrive_26 rfl q1984 rfl rfl ?_
    replace hy := g_b_inv hy
    obtain ⟨x47, hf49, hy⟩ := hy
    refine g_callS (rv := some (.int x47)) (h1 := (mH h0 a0 ad M8)) (pc' := 32) (As := [.int (M8.2.1 18), .int (M8.2.1 19)]) (rest := []) 2 (T_Mod_wayPlace (hy := hf49)) d_Mod_arrive_29 q2179 q2180 q135 q2181 hd_Mod_wayPlace rfl ⟨by decide, by decide⟩ (by first | exact Nat.le_of_ble_eq_true rfl | (simp only [List.map, List.sum_cons, List.sum_nil, g_cat_rf]; exact Nat.le_of_ble_eq_true rfl) | (simp only [List.map, List.sum_cons, List.sum_nil, g_cat_rf, Value.category]; decide)) rfl ?_
    refine g_goto (pc' := 36) d_Mod_arrive_32 (by decide) ?_
    refine g_sub [1, 2, 0] rfl ?_
    exact W_Mod_arrive_36 ok _ _ _ _ _ hy
theorem hd_Mod_arrive : g_dsc y_Mod_arrive 1 := ⟨by decide +kernel, by decide +kernel, by decide +kernel⟩
/-! CircuitDeskModel.movePackets()V -/
abbrev y_Mod_movePackets : MethodName := ⟨"CircuitDeskModel", "movePackets", "()V"⟩
abbrev k_Mod_movePackets : g_M := (prog_17_method_96_code, 3, "CircuitDeskModel", 16, none, "movePackets", [], 0)
theorem d_Mod_movePackets_0 : decode prog_17_method_96_code 0 = .ok (.iconst 0, 1) := by decide +kernel
theorem d_Mod_movePackets_1 : decode prog_17_method_96_code 1 = .ok (.istore_n 1, 1) := by decide +kernel
theorem d_Mod_movePackets_2 : decode prog_17_method_96_code 2 = .ok (.iload_n 1, 1) := by decide +kernel
theorem d_Mod_movePackets_3 : decode prog_17_method_96_code 3 = .ok (.aload_n 0, 1) := by decide +kernel
theorem d_Mod_movePackets_4 : decode prog_17_method_96_code 4 = .ok (.getfield 7, 3) := by decide +kernel
theorem d_Mod_movePackets_7 : decode prog_17_method_96_code 7 = .ok (.bipush 6, 2) := by decide +kernel
theorem d_Mod_movePackets_9 : decode prog_17_method_96_code 9 = .ok (.iaload, 1) := by decide +kernel
theorem d_Mod_movePackets_10 : decode prog_17_method_96_code 10 = .ok (.if_icmp .ge 53, 3) := by decide +kernel
theorem d_Mod_movePackets_13 : decode prog_17_method_96_code 13 = .ok (.sipush 632, 3) := by decide +kernel
theorem d_Mod_movePackets_16 : decode prog_17_method_96_code 16 = .ok (.bipush 8, 2) := by decide +kernel
theorem d_Mod_movePackets_18 : decode prog_17_method_96_code 18 = .ok (.iload_n 1, 1) := by decide +kernel
theorem d_Mod_movePackets_19 : decode prog_17_method_96_code 19 = .ok (.imul, 1) := by decide +kernel
theorem d_Mod_movePackets_20 : decode prog_17_method_96_code 20 = .ok (.iadd, 1) := by decide +kernel
theorem d_Mod_movePackets_21 : decode prog_17_method_96_code 21 = .ok (.bipush 6, 2) := by decide +kernel
theorem d_Mod_movePackets_23 : decode prog_17_method_96_code 23 = .ok (.iadd, 1) := by decide +kernel
theorem d_Mod_movePackets_24 : decode prog_17_method_96_code 24 = .ok (.istore_n 2, 1) := by decide +kernel
theorem d_Mod_movePackets_25 : decode prog_17_method_96_code 25 = .ok (.aload_n 0, 1) := by decide +kernel
theorem d_Mod_movePackets_26 : decode prog_17_method_96_code 26 = .ok (.getfield 7, 3) := by decide +kernel
theorem d_Mod_movePackets_29 : decode prog_17_method_96_code 29 = .ok (.iload_n 2, 1) := by decide +kernel
theorem d_Mod_movePackets_30 : decode prog_17_method_96_code 30 = .ok (.dup2, 1) := by decide +kernel
theorem d_Mod_movePackets_31 : decode prog_17_method_96_code 31 = .ok (.iaload, 1) := by decide +kernel
theorem d_Mod_movePackets_32 : decode prog_17_method_96_code 32 = .ok (.iconst 1, 1) := by decide +kernel
theorem d_Mod_movePackets_33 : decode prog_17_method_96_code 33 = .ok (.isub, 1) := by decide +kernel
theorem d_Mod_movePackets_34 : decode prog_17_method_96_code 34 = .ok (.iastore, 1) := by decide +kernel
theorem d_Mod_movePackets_35 : decode prog_17_method_96_code 35 = .ok (.iload_n 1, 1) := by decide +kernel
theorem d_Mod_movePackets_36 : decode prog_17_method_96_code 36 = .ok (.aload_n 0, 1) := by decide +kernel
theorem d_Mod_movePackets_37 : decode prog_17_method_96_code 37 = .ok (.getfield 7, 3) := by decide +kernel
theorem d_Mod_movePackets_40 : decode prog_17_method_96_code 40 = .ok (.iload_n 2, 1) := by decide +kernel
theorem d_Mod_movePackets_41 : decode prog_17_method_96_code 41 = .ok (.iaload, 1) := by decide +kernel
theorem d_Mod_movePackets_42 : decode prog_17_method_96_code 42 = .ok (.ifCond .gt 11, 3) := by decide +kernel
theorem d_Mod_movePackets_45 : decode prog_17_method_96_code 45 = .ok (.aload_n 0, 1) := by decide +kernel
theorem d_Mod_movePackets_46 : decode prog_17_method_96_code 46 = .ok (.iload_n 1, 1) := by decide +kernel
theorem d_Mod_movePackets_47 : decode prog_17_method_96_code 47 = .ok (.invokevirtual 350, 3) := by decide +kernel
theorem d_Mod_movePackets_50 : decode prog_17_method_96_code 50 = .ok (.ifCond .eq 7, 3) := by decide +kernel
theorem d_Mod_movePackets_53 : decode prog_17_method_96_code 53 = .ok (.iconst 1, 1) := by decide +kernel
theorem d_Mod_movePackets_54 : decode prog_17_method_96_code 54 = .ok (.goto 4, 3) := by decide +kernel
theorem d_Mod_movePackets_57 : decode prog_17_method_96_code 57 = .ok (.iconst 0, 1) := by decide +kernel
theorem d_Mod_movePackets_58 : decode prog_17_method_96_code 58 = .ok (.iadd, 1) := by decide +kernel
theorem d_Mod_movePackets_59 : decode prog_17_method_96_code 59 = .ok (.istore_n 1, 1) := by decide +kernel
theorem d_Mod_movePackets_60 : decode prog_17_method_96_code 60 = .ok (.goto (-58), 3) := by decide +kernel
theorem d_Mod_movePackets_63 : decode prog_17_method_96_code 63 = .ok (.return_, 1) := by decide +kernel
def Mod_movePackets_58 (k2 : g_MD → Int32 → Option g_MD) (M : g_MD) (s0 : Int32) (s1 : Int32) : Option g_MD :=
  k2 M (s1 + s0)
set_option maxHeartbeats 4000000 in
set_option maxRecDepth 100000 in
theorem W_Mod_movePackets_58 {X : g_X} {h0 : g_AH} {a0 : Nat} {ad : Nat → Nat} (ok : mOK a0 ad) (z : g_MD) (k2 : g_MD → Int32 → Option g_MD) (hk2 : ∀ (M : g_MD) (v1 : Int32), k2 M v1 = some z → G X k_Mod_movePackets (.inl none) (mH h0 a0 ad z) (mH h0 a0 ad M) 2 [(0, .ref a0), (1, .int v1)] []) (M : g_MD) (s0 : Int32) (s1 : Int32) (hy : Mod_movePackets_58 k2 M s0 s1 = some z) : G X k_Mod_movePackets (.inl none) (mH h0 a0 ad z) (mH h0 a0 ad M) 58 [(0, .ref a0)] [.int s0, .int s1] := by
  unfold Mod_movePackets_58 at hy
  refine g_iadd (pc' := 59) d_Mod_movePackets_58 rfl ?_
  refine g_istore_n (i := 1) (pc' := 60) (Lc' := [(1, .int (s1 + s0)), (0, .ref a0)]) d_Mod_movePackets_59 rfl (by decide) rfl rfl ?_
  refine g_goto (pc' := 2) d_Mod_movePackets_60 (by decide) ?_
  refine g_sub [1, 0] rfl ?_
  exact hk2 _ _ hy
def Mod_movePackets_53 (k2 : g_MD → Int32 → Option g_MD) (M : g_MD) (s0 : Int32) : Option g_MD :=
  Mod_movePackets_58 k2 M (1 : Int32) s0
set_option maxHeartbeats 4000000 in
set_option maxRecDepth 100000 in
theorem W_Mod_movePackets_53 {X : g_X} {h0 : g_AH} {a0 : Nat} {ad : Nat → Nat} (ok : mOK a0 ad) (z : g_MD) (k2 : g_MD → Int32 → Option g_MD) (hk2 : ∀ (M : g_MD) (v1 : Int32), k2 M v1 = some z → G X k_Mod_movePackets (.inl none) (mH h0 a0 ad z) (mH h0 a0 ad M) 2 [(0, .ref a0), (1, .int v1)] []) (M : g_MD) (s0 : Int32) (hy : Mod_movePackets_53 k2 M s0 = some z) : G X k_Mod_movePackets (.inl none) (mH h0 a0 ad z) (mH h0 a0 ad M) 53 [(0, .ref a0)] [.int s0] := by
  unfold Mod_movePackets_53 at hy
  refine g_iconst (v := (1 : Int32)) (pc' := 54) d_Mod_movePackets_53 (by decide) rfl ?_
  refine g_goto (pc' := 58) d_Mod_movePackets_54 (by decide) ?_
  exact W_Mod_movePackets_58 ok _ _ hk2 _ _ _ hy
def Mod_movePackets_2  : Nat → g_MD → Int32 → Option g_MD
  | 0, _, _ => none
  | n + 1, M, v1 => g_mA M 0 0 (6 : Int32) fun x1 => if x1 ≤ v1 then (some M) else (g_mA M 0 0 (((632 : Int32) + ((8 : Int32) * v1)) + (6 : Int32)) fun x4 => g_mS M 0 0 (((632 : Int32) + ((8 : Int32) * v1)) + (6 : Int32)) (x4 - (1 : Int32)) fun M6 => g_mA M6 0 0 (((632 : Int32) + ((8 : Int32) * v1)) + (6 : Int32)) fun x8 => if 0 < x8 then (Mod_movePackets_53 (Mod_movePackets_2  n) M6 v1) else (g_bM (Mod_arrive M6 v1) fun x11 M12 => if x11 = 0 then (Mod_movePackets_58 (Mod_movePackets_2  n) M12 (0 : Int32) v1) else (Mod_movePackets_53 (Mod_movePackets_2  n) M12 v1)))
set_option maxHeartbeats 4000000 in
set_option maxRecDepth 100000 in
theorem W_Mod_movePackets_2 {X : g_X} {h0 : g_AH} {a0 : Nat} {ad : Nat → Nat} (ok : mOK a0 ad) (z : g_MD)  : ∀ (n : Nat) (M : g_MD) (v1 : Int32), Mod_movePackets_2  n M v1 = some z → G X k_Mod_movePackets (.inl none) (mH h0 a0 ad z) (mH h0 a0 ad M) 2 [(0, .ref a0), (1, .int v1)] [] := by
  intro n
  induction n with
  | zero => intro M v1 hy; exact absurd hy (by simp [Mod_movePackets_2])
  | succ n ih =>
    intro M v1 hy
    rw [Mod_movePackets_2] at hy
    refine g_iload_n 1 (i := 1) (pc' := 3) d_Mod_movePackets_2 rfl rfl rfl ?_
    refine g_aload_n 0 (i := 0) (pc' := 4) d_Mod_movePackets_3 rfl rfl rfl ?_
    refine gm_getA ok 0 (pc' := 7) d_Mod_movePackets_4 rfl q1965 rfl rfl ?_
    refine g_bipush (v := (6 : Int32)) (pc' := 9) d_Mod_movePackets_7 (by decide) rfl ?_
    replace hy := g_mA_inv hy
    obtain ⟨x1, hc2, hy⟩ := hy
    refine gm_ald0 ok (pc' := 10) d_Mod_movePackets_9 hc2 rfl ?_
    by_cases c3 : x1 ≤ v1
    · rw [if_pos c3] at hy
      refine g_icmp_geT (pc' := 63) d_Mod_movePackets_10 c3 (by decide) ?_
      cases hy
      exact g_vret rfl rfl rfl d_Mod_movePackets_63
    · rw [if_neg c3] at hy
      refine g_icmp_geF (pc' := 13) d_Mod_movePackets_10 63 c3 (by decide) rfl ?_
      refine g_sipush (v := (632 : Int32)) (pc' := 16) d_Mod_movePackets_13 (by decide) rfl ?_
      refine g_bipush (v := (8 : Int32)) (pc' := 18) d_Mod_movePackets_16 (by decide) rfl ?_
      refine g_iload_n 1 (i := 1) (pc' := 19) d_Mod_movePackets_18 rfl rfl rfl ?_
      refine g_imul (pc' := 20) d_Mod_movePackets_19 rfl ?_
      refine g_iadd (pc' := 21) d_Mod_movePackets_20 rfl ?_
      refine g_bipush (v := (6 : Int32)) (pc' := 23) d_Mod_movePackets_21 (by decide) rfl ?_
      refine g_iadd (pc' := 24) d_Mod_movePackets_23 rfl ?_
      refine g_istore_n (i := 2) (pc' := 25) (Lc' := [(2, .int (((632 : Int32) + ((8 : Int32) * v1)) + (6 : Int32))), (0, .ref a0), (1, .int v1)]) d_Mod_movePackets_24 rfl (by decide) rfl rfl ?_
      refine g_aload_n 1 (i := 0) (pc' := 26) d_Mod_movePackets_25 rfl rfl rfl ?_
      refine gm_getA ok 0 (pc' := 29) d_Mod_movePackets_26 rfl q1965 rfl rfl ?_
      refine g_iload_n 0 (i := 2) (pc' := 30) d_Mod_movePackets_29 rfl rfl rfl ?_
      refine g_dup2 (pc' := 31) d_Mod_movePackets_30 rfl rfl rfl ?_
      replace hy := g_mA_inv hy
      obtain ⟨x4, hc5, hy⟩ := hy
      refine gm_ald0 ok (pc' := 32) d_Mod_movePackets_31 hc5 rfl ?_
      refine g_iconst (v := (1 : Int32)) (pc' := 33) d_Mod_movePackets_32 (by decide) rfl ?_
      refine g_isub (pc' := 34) d_Mod_movePackets_33 rfl ?_
      replace hy := g_mS_inv hy
      obtain ⟨hc7, hy⟩ := hy
      refine gm_ast0 ok (pc' := 35) d_Mod_movePackets_34 hc7 rfl ?_
      generalize ms M 0 ((((632 : Int32) + ((8 : Int32) * v1)) + (6 : Int32))).toNatClampNeg (x4 - (1 : Int32)) = M6 at hy ⊢
      refine g_iload_n 2 (i := 1) (pc' := 36) d_Mod_movePackets_35 rfl rfl rfl ?_
      refine g_aload_n 1 (i := 0) (pc' := 37) d_Mod_movePackets_36 rfl rfl rfl ?_
      refine gm_getA ok 0 (pc' := 40) d_Mod_movePackets_37 rfl q1965 rfl rfl ?_
      refine g_iload_n 0 (i := 2) (pc' := 41) d_Mod_movePackets_40 rfl rfl rfl ?_
      replace hy := g_mA_inv hy
      obtain ⟨x8, hc9, hy⟩ := hy
      refine gm_ald0 ok (pc' := 42) d_Mod_movePackets_41 hc9 rfl ?_
      by_cases c10 : 0 < x8
      · rw [if_pos c10] at hy
        refine g_if_gtT (pc' := 53) d_Mod_movePackets_42 c10 (by decide) ?_
        refine g_sub [1] rfl ?_
        exact W_Mod_movePackets_53 ok _ _ ih _ _ hy
      · rw [if_neg c10] at hy
        refine g_if_gtF (pc' := 45) d_Mod_movePackets_42 53 c10 (by decide) rfl ?_
        refine g_aload_n 1 (i := 0) (pc' := 46) d_Mod_movePackets_45 rfl rfl rfl ?_
        refine g_iload_n 2 (i := 1) (pc' := 47) d_Mod_movePackets_46 rfl rfl rfl ?_
        replace hy := g_bM_inv hy
        obtain ⟨x11, M12, hf13, hy⟩ := hy
        refine g_callV (rv := some (.int x11)) (h1 := (mH h0 a0 ad M12)) (pc' := 50) (As := [.int v1]) (rest := [.int v1]) 1 (T_Mod_arrive ok (hy := hf13)) d_Mod_movePackets_47 (mH_look ok) rfl rfl q2441 q2443 qs94 q135 q2444 hd_Mod_arrive rfl ⟨by decide, by decide⟩ (by first | exact Nat.le_of_ble_eq_true rfl | (simp only [List.map, List.sum_cons, List.sum_nil, g_cat_rf]; exact Nat.le_of_ble_eq_true rfl) | (simp only [List.map, List.sum_cons, List.sum_nil, g_cat_rf, Value.category]; decide)) rfl ?_
        by_cases c14 : x11 = 0
        · rw [if_pos c14] at hy
          refine g_if_eqT (pc' := 57) d_Mod_movePackets_50 c14 (by decide) ?_
          refine g_iconst (v := (0 : Int32)) (pc' := 58) d_Mod_movePackets_57 (by decide) rfl ?_
          refine g_sub [1] rfl ?_
          exact W_Mod_movePackets_58 ok _ _ ih _ _ _ hy
        · rw [if_neg c14] at hy
          refine g_if_eqF (pc' := 53) d_Mod_movePackets_50 57 c14 (by decide) rfl ?_
          refine g_sub [1] rfl ?_
          exact W_Mod_movePackets_53 ok _ _ ih _ _ hy
def Mod_movePackets (M : g_MD)  : Option g_MD :=
  Mod_movePackets_2  gFU M (0 : Int32)
set_option maxHeartbeats 4000000 in
set_option maxRecDepth 100000 in
theorem T_Mod_movePackets {l : Launch} {B : g_B} {h0 : g_AH} {a0 : Nat} {ad : Nat → Nat} (ok : mOK a0 ad) (M : g_MD)  (z : g_MD) (hy : Mod_movePackets M  = some z) : g_CT l B y_Mod_movePackets k_Mod_movePackets [.ref a0] (mH h0 a0 ad M) (.inl none) (mH h0 a0 ad z) := by
  refine g_start2 (Lc := [(0, .ref a0)]) (by decide) rfl rfl (by exact Nat.le_of_ble_eq_true rfl) (by rfl) fun X => ?_
  unfold Mod_movePackets at hy
  refine g_iconst (v := (0 : Int32)) (pc' := 1) d_Mod_movePackets_0 (by decide) rfl ?_
  refine g_istore_n (i := 1) (pc' := 2) (Lc' := [(1, .int (0 : Int32)), (0, .ref a0)]) d_Mod_movePackets_1 rfl (by decide) rfl rfl ?_
  refine g_sub [1, 0] rfl ?_
  exact W_Mod_movePackets_2 ok _ _ _ _ hy
theorem hd_Mod_movePackets : g_dsc y_Mod_movePackets 0 := ⟨by decide +kernel, by decide +kernel, by decide +kernel⟩
/-! CircuitDeskModel.delayOf(I)I -/
abbrev y_Mod_delayOf : MethodName := ⟨"CircuitDeskModel", "delayOf", "(I)I"⟩
abbrev k_Mod_delayOf : g_M := (prog_17_method_97_code, 4, "CircuitDeskModel", 14, (some FieldType.int), "delayOf", [], 0)
theorem d_Mod_delayOf_0 : decode prog_17_method_97_code 0 = .ok (.iconst 0, 1) := by decide +kernel
theorem d_Mod_delayOf_1 : decode prog_17_method_97_code 1 = .ok (.istore_n 2, 1) := by decide +kernel
theorem d_Mod_delayOf_2 : decode prog_17_method_97_code 2 = .ok (.iconst 1, 1) := by decide +kernel
theorem d_Mod_delayOf_3 : decode prog_17_method_97_code 3 = .ok (.istore_n 3, 1) := by decide +kernel
theorem d_Mod_delayOf_4 : decode prog_17_method_97_code 4 = .ok (.iload_n 3, 1) := by decide +kernel
theorem d_Mod_delayOf_5 : decode prog_17_method_97_code 5 = .ok (.aload_n 0, 1) := by decide +kernel
theorem d_Mod_delayOf_6 : decode prog_17_method_97_code 6 = .ok (.getfield 7, 3) := by decide +kernel
theorem d_Mod_delayOf_9 : decode prog_17_method_97_code 9 = .ok (.iload_n 1, 1) := by decide +kernel
theorem d_Mod_delayOf_10 : decode prog_17_method_97_code 10 = .ok (.iaload, 1) := by decide +kernel
theorem d_Mod_delayOf_11 : decode prog_17_method_97_code 11 = .ok (.if_icmp .ge 43, 3) := by decide +kernel
theorem d_Mod_delayOf_14 : decode prog_17_method_97_code 14 = .ok (.iload_n 2, 1) := by decide +kernel
theorem d_Mod_delayOf_15 : decode prog_17_method_97_code 15 = .ok (.aload_n 0, 1) := by decide +kernel
theorem d_Mod_delayOf_16 : decode prog_17_method_97_code 16 = .ok (.aload_n 0, 1) := by decide +kernel
theorem d_Mod_delayOf_17 : decode prog_17_method_97_code 17 = .ok (.aload_n 0, 1) := by decide +kernel
theorem d_Mod_delayOf_18 : decode prog_17_method_97_code 18 = .ok (.getfield 7, 3) := by decide +kernel
theorem d_Mod_delayOf_21 : decode prog_17_method_97_code 21 = .ok (.iload_n 1, 1) := by decide +kernel
theorem d_Mod_delayOf_22 : decode prog_17_method_97_code 22 = .ok (.iconst 1, 1) := by decide +kernel
theorem d_Mod_delayOf_23 : decode prog_17_method_97_code 23 = .ok (.iadd, 1) := by decide +kernel
theorem d_Mod_delayOf_24 : decode prog_17_method_97_code 24 = .ok (.iload_n 3, 1) := by decide +kernel
theorem d_Mod_delayOf_25 : decode prog_17_method_97_code 25 = .ok (.iadd, 1) := by decide +kernel
theorem d_Mod_delayOf_26 : decode prog_17_method_97_code 26 = .ok (.iconst 1, 1) := by decide +kernel
theorem d_Mod_delayOf_27 : decode prog_17_method_97_code 27 = .ok (.isub, 1) := by decide +kernel
theorem d_Mod_delayOf_28 : decode prog_17_method_97_code 28 = .ok (.iaload, 1) := by decide +kernel
theorem d_Mod_delayOf_29 : decode prog_17_method_97_code 29 = .ok (.aload_n 0, 1) := by decide +kernel
theorem d_Mod_delayOf_30 : decode prog_17_method_97_code 30 = .ok (.getfield 7, 3) := by decide +kernel
theorem d_Mod_delayOf_33 : decode prog_17_method_97_code 33 = .ok (.iload_n 1, 1) := by decide +kernel
theorem d_Mod_delayOf_34 : decode prog_17_method_97_code 34 = .ok (.iconst 1, 1) := by decide +kernel
theorem d_Mod_delayOf_35 : decode prog_17_method_97_code 35 = .ok (.iadd, 1) := by decide +kernel
theorem d_Mod_delayOf_36 : decode prog_17_method_97_code 36 = .ok (.iload_n 3, 1) := by decide +kernel
theorem d_Mod_delayOf_37 : decode prog_17_method_97_code 37 = .ok (.iadd, 1) := by decide +kernel
theorem d_Mod_delayOf_38 : decode prog_17_method_97_code 38 = .ok (.iaload, 1) := by decide +kernel
theorem d_Mod_delayOf_39 : decode prog_17_method_97_code 39 = .ok (.invokevirtual 137, 3) := by decide +kernel
theorem d_Mod_delayOf_42 : decode prog_17_method_97_code 42 = .ok (.iconst 3, 1) := by decide +kernel
theorem d_Mod_delayOf_43 : decode prog_17_method_97_code 43 = .ok (.invokevirtual 201, 3) := by decide +kernel
theorem d_Mod_delayOf_46 : decode prog_17_method_97_code 46 = .ok (.iadd, 1) := by decide +kernel
theorem d_Mod_delayOf_47 : decode prog_17_method_97_code 47 = .ok (.istore_n 2, 1) := by decide +kernel
theorem d_Mod_delayOf_48 : decode prog_17_method_97_code 48 = .ok (.iinc 3 1, 3) := by decide +kernel
theorem d_Mod_delayOf_51 : decode prog_17_method_97_code 51 = .ok (.goto (-47), 3) := by decide +kernel
theorem d_Mod_delayOf_54 : decode prog_17_method_97_code 54 = .ok (.iload_n 2, 1) := by decide +kernel
theorem d_Mod_delayOf_55 : decode prog_17_method_97_code 55 = .ok (.ireturn, 1) := by decide +kernel
def Mod_delayOf_4 (M : g_MD)  : Nat → Int32 → Int32 → Int32 → Option (Int32)
  | 0, _, _, _ => none
  | n + 1, v1, v2, v3 => g_mA M 0 0 v1 fun x1 => if x1 ≤ v3 then (some v2) else (g_mA M 0 0 (((v1 + (1 : Int32)) + v3) - (1 : Int32)) fun x4 => g_mA M 0 0 ((v1 + (1 : Int32)) + v3) fun x6 => g_b (Mod_linkOf M x4 x6) fun x8 => g_b (Mod_ofLink M x8 (3 : Int32)) fun x11 => (Mod_delayOf_4 M  n) v1 (v2 + x11) (v3 + (1 : Int32)))
set_option maxHeartbeats 4000000 in
set_option maxRecDepth 100000 in
theorem W_Mod_delayOf_4 {X : g_X} {h0 : g_AH} {a0 : Nat} {ad : Nat → Nat} (ok : mOK a0 ad) (M : g_MD) (z : Int32)  : ∀ (n : Nat) (v1 : Int32) (v2 : Int32) (v3 : Int32), Mod_delayOf_4 M  n v1 v2 v3 = some z → G X k_Mod_delayOf (.inl (some (.int z))) (mH h0 a0 ad M) (mH h0 a0 ad M) 4 [(0, .ref a0), (1, .int v1), (2, .int v2), (3, .int v3)] [] := by
  intro n
  induction n with
  | zero => intro v1 v2 v3 hy; exact absurd hy (by simp [Mod_delayOf_4])
  | succ n ih =>
    intro v1 v2 v3 hy
    rw [Mod_delayOf_4] at hy
    refine g_iload_n 3 (i := 3) (pc' := 5) d_Mod_delayOf_4 rfl rfl rfl ?_
    refine g_aload_n 0 (i := 0) (pc' := 6) d_Mod_delayOf_5 rfl rfl rfl ?_
    refine gm_getA ok 0 (pc' := 9) d_Mod_delayOf_6 rfl q1965 rfl rfl ?_
    refine g_iload_n 1 (i := 1) (pc' := 10) d_Mod_delayOf_9 rfl rfl rfl ?_
    replace hy := g_mA_inv hy
    obtain ⟨x1, hc2, hy⟩ := hy
    refine gm_ald0 ok (pc' := 11) d_Mod_delayOf_10 hc2 rfl ?_
    by_cases c3 : x1 ≤ v3
    · rw [if_pos c3] at hy
      refine g_icmp_geT (pc' := 54) d_Mod_delayOf_11 c3 (by decide) ?_
      refine g_iload_n 2 (i := 2) (pc' := 55) d_Mod_delayOf_54 rfl rfl rfl ?_
      cases hy
      exact g_iret rfl rfl rfl d_Mod_delayOf_55
    · rw [if_neg c3] at hy
      refine g_icmp_geF (pc' := 14) d_Mod_delayOf_11 54 c3 (by decide) rfl ?_
      refine g_iload_n 2 (i := 2) (pc' := 15) d_Mod_delayOf_14 rfl rfl rfl ?_
      refine g_aload_n 0 (i := 0) (pc' := 16) d_Mod_delayOf_15 rfl rfl rfl ?_
      refine g_aload_n 0 (i := 0) (pc' := 17) d_Mod_delayOf_16 rfl rfl rfl ?_
      refine g_aload_n 0 (i := 0) (pc' := 18) d_Mod_delayOf_17 rfl rfl rfl ?_
      refine gm_getA ok 0 (pc' := 21) d_Mod_delayOf_18 rfl q1965 rfl rfl ?_
      refine g_iload_n 1 (i := 1) (pc' := 22) d_Mod_delayOf_21 rfl rfl rfl ?_
      refine g_iconst (v := (1 : Int32)) (pc' := 23) d_Mod_delayOf_22 (by decide) rfl ?_
      refine g_iadd (pc' := 24) d_Mod_delayOf_23 rfl ?_
      refine g_iload_n 3 (i := 3) (pc' := 25) d_Mod_delayOf_24 rfl rfl rfl ?_
      refine g_iadd (pc' := 26) d_Mod_delayOf_25 rfl ?_
      refine g_iconst (v := (1 : Int32)) (pc' := 27) d_Mod_delayOf_26 (by decide) rfl ?_
      refine g_isub (pc' := 28) d_Mod_delayOf_27 rfl ?_
      replace hy := g_mA_inv hy
      obtain ⟨x4, hc5, hy⟩ := hy
      refine gm_ald0 ok (pc' := 29) d_Mod_delayOf_28 hc5 rfl ?_
      refine g_aload_n 0 (i := 0) (pc' := 30) d_Mod_delayOf_29 rfl rfl rfl ?_
      refine gm_getA ok 0 (pc' := 33) d_Mod_delayOf_30 rfl q1965 rfl rfl ?_
      refine g_iload_n 1 (i := 1) (pc' := 34) d_Mod_delayOf_33 rfl rfl rfl ?_
      refine g_iconst (v := (1 : Int32)) (pc' := 35) d_Mod_delayOf_34 (by decide) rfl ?_
      refine g_iadd (pc' := 36) d_Mod_delayOf_35 rfl ?_
      refine g_iload_n 3 (i := 3) (pc' := 37) d_Mod_delayOf_36 rfl rfl rfl ?_
      refine g_iadd (pc' := 38) d_Mod_delayOf_37 rfl ?_
      replace hy := g_mA_inv hy
      obtain ⟨x6, hc7, hy⟩ := hy
      refine gm_ald0 ok (pc' := 39) d_Mod_delayOf_38 hc7 rfl ?_
      replace hy := g_b_inv hy
      obtain ⟨x8, hf10, hy⟩ := hy
      refine g_callV (rv := some (.int x8)) (h1 := (mH h0 a0 ad M)) (pc' := 42) (As := [.int x4, .int x6]) (rest := [.ref a0, .int v2]) 2 (T_Mod_linkOf ok (hy := hf10)) d_Mod_delayOf_39 (mH_look ok) rfl rfl q2150 q2152 qs44 q135 q2153 hd_Mod_linkOf rfl ⟨by decide, by decide⟩ (by first | exact Nat.le_of_ble_eq_true rfl | (simp only [List.map, List.sum_cons, List.sum_nil, g_cat_rf]; exact Nat.le_of_ble_eq_true rfl) | (simp only [List.map, List.sum_cons, List.sum_nil, g_cat_rf, Value.category]; decide)) rfl ?_
      refine g_iconst (v := (3 : Int32)) (pc' := 43) d_Mod_delayOf_42 (by decide) rfl ?_
      replace hy := g_b_inv hy
      obtain ⟨x11, hf13, hy⟩ := hy
      refine g_callV (rv := some (.int x11)) (h1 := (mH h0 a0 ad M)) (pc' := 46) (As := [.int x8, .int (3 : Int32)]) (rest := [.int v2]) 2 (T_Mod_ofLink ok (hy := hf13)) d_Mod_delayOf_43 (mH_look ok) rfl rfl q2154 q2156 qs45 q135 q2157 hd_Mod_ofLink rfl ⟨by decide, by decide⟩ (by first | exact Nat.le_of_ble_eq_true rfl | (simp only [List.map, List.sum_cons, List.sum_nil, g_cat_rf]; exact Nat.le_of_ble_eq_true rfl) | (simp only [List.map, List.sum_cons, List.sum_nil, g_cat_rf, Value.category]; decide)) rfl ?_
      refine g_iadd (pc' := 47) d_Mod_delayOf_46 rfl ?_
      refine g_istore_n (i := 2) (pc' := 48) (Lc' := [(2, .int (v2 + x11)), (0, .ref a0), (1, .int v1), (3, .int v3)]) d_Mod_delayOf_47 rfl (by decide) rfl rfl ?_
      refine g_iinc 3 (v := (v3 + (1 : Int32))) (pc' := 51) (Lc' := [(3, .int (v3 + (1 : Int32))), (2, .int (v2 + x11)), (0, .ref a0), (1, .int v1)]) d_Mod_delayOf_48 rfl rfl (by decide) rfl rfl ?_
      refine g_goto (pc' := 4) d_Mod_delayOf_51 (by decide) ?_
      refine g_sub [2, 3, 1, 0] rfl ?_
      exact ih _ _ _ hy
def Mod_delayOf (M : g_MD) (p0 : Int32) : Option (Int32) :=
  Mod_delayOf_4 M  gFU p0 (0 : Int32) (1 : Int32)
set_option maxHeartbeats 4000000 in
set_option maxRecDepth 100000 in
theorem T_Mod_delayOf {l : Launch} {B : g_B} {h0 : g_AH} {a0 : Nat} {ad : Nat → Nat} (ok : mOK a0 ad) (M : g_MD) (p0 : Int32) (z : Int32) (hy : Mod_delayOf M p0 = some z) : g_CT l B y_Mod_delayOf k_Mod_delayOf [.ref a0, .int p0] (mH h0 a0 ad M) (.inl (some (.int z))) (mH h0 a0 ad M) := by
  refine g_start2 (Lc := [(0, .ref a0), (1, .int p0)]) (by decide) rfl rfl (by exact Nat.le_of_ble_eq_true rfl) (by rfl) fun X => ?_
  unfold Mod_delayOf at hy
  refine g_iconst (v := (0 : Int32)) (pc' := 1) d_Mod_delayOf_0 (by decide) rfl ?_
  refine g_istore_n (i := 2) (pc' := 2) (Lc' := [(2, .int (0 : Int32)), (0, .ref a0), (1, .int p0)]) d_Mod_delayOf_1 rfl (by decide) rfl rfl ?_
  refine g_iconst (v := (1 : Int32)) (pc' := 3) d_Mod_delayOf_2 (by decide) rfl ?_
  refine g_istore_n (i := 3) (pc' := 4) (Lc' := [(3, .int (1 : Int32)), (2, .int (0 : Int32)), (0, .ref a0), (1, .int p0)]) d_Mod_delayOf_3 rfl (by decide) rfl rfl ?_
  refine g_sub [2, 3, 1, 0] rfl ?_
  exact W_Mod_delayOf_4 ok _ _ _ _ _ _ hy
theorem hd_Mod_delayOf : g_dsc y_Mod_delayOf 1 := ⟨by decide +kernel, by decide +kernel, by decide +kernel⟩
/-! CircuitDeskModel.build(I)V -/
abbrev y_Mod_build : MethodName := ⟨"CircuitDeskModel", "build", "(I)V"⟩
abbrev k_Mod_build : g_M := (prog_17_method_98_code, 5, "CircuitDeskModel", 15, none, "build", [], 0)
theorem d_Mod_build_0 : decode prog_17_method_98_code 0 = .ok (.aload_n 0, 1) := by decide +kernel
theorem d_Mod_build_1 : decode prog_17_method_98_code 1 = .ok (.iload_n 1, 1) := by decide +kernel
theorem d_Mod_build_2 : decode prog_17_method_98_code 2 = .ok (.iconst 3, 1) := by decide +kernel
theorem d_Mod_build_3 : decode prog_17_method_98_code 3 = .ok (.invokevirtual 150, 3) := by decide +kernel
theorem d_Mod_build_6 : decode prog_17_method_98_code 6 = .ok (.istore_n 2, 1) := by decide +kernel
theorem d_Mod_build_7 : decode prog_17_method_98_code 7 = .ok (.iload_n 2, 1) := by decide +kernel
theorem d_Mod_build_8 : decode prog_17_method_98_code 8 = .ok (.ifCond .le 29, 3) := by decide +kernel
theorem d_Mod_build_11 : decode prog_17_method_98_code 11 = .ok (.aload_n 0, 1) := by decide +kernel
theorem d_Mod_build_12 : decode prog_17_method_98_code 12 = .ok (.getfield 7, 3) := by decide +kernel
theorem d_Mod_build_15 : decode prog_17_method_98_code 15 = .ok (.iload_n 1, 1) := by decide +kernel
theorem d_Mod_build_16 : decode prog_17_method_98_code 16 = .ok (.iconst 1, 1) := by decide +kernel
theorem d_Mod_build_17 : decode prog_17_method_98_code 17 = .ok (.invokestatic 144, 3) := by decide +kernel
theorem d_Mod_build_20 : decode prog_17_method_98_code 20 = .ok (.bipush 19, 2) := by decide +kernel
theorem d_Mod_build_22 : decode prog_17_method_98_code 22 = .ok (.iadd, 1) := by decide +kernel
theorem d_Mod_build_23 : decode prog_17_method_98_code 23 = .ok (.iload_n 2, 1) := by decide +kernel
theorem d_Mod_build_24 : decode prog_17_method_98_code 24 = .ok (.iadd, 1) := by decide +kernel
theorem d_Mod_build_25 : decode prog_17_method_98_code 25 = .ok (.iconst 1, 1) := by decide +kernel
theorem d_Mod_build_26 : decode prog_17_method_98_code 26 = .ok (.iastore, 1) := by decide +kernel
theorem d_Mod_build_27 : decode prog_17_method_98_code 27 = .ok (.aload_n 0, 1) := by decide +kernel
theorem d_Mod_build_28 : decode prog_17_method_98_code 28 = .ok (.iload_n 1, 1) := by decide +kernel
theorem d_Mod_build_29 : decode prog_17_method_98_code 29 = .ok (.iconst 3, 1) := by decide +kernel
theorem d_Mod_build_30 : decode prog_17_method_98_code 30 = .ok (.iload_n 2, 1) := by decide +kernel
theorem d_Mod_build_31 : decode prog_17_method_98_code 31 = .ok (.iconst 1, 1) := by decide +kernel
theorem d_Mod_build_32 : decode prog_17_method_98_code 32 = .ok (.isub, 1) := by decide +kernel
theorem d_Mod_build_33 : decode prog_17_method_98_code 33 = .ok (.invokevirtual 296, 3) := by decide +kernel
theorem d_Mod_build_36 : decode prog_17_method_98_code 36 = .ok (.return_, 1) := by decide +kernel
theorem d_Mod_build_37 : decode prog_17_method_98_code 37 = .ok (.aload_n 0, 1) := by decide +kernel
theorem d_Mod_build_38 : decode prog_17_method_98_code 38 = .ok (.iload_n 1, 1) := by decide +kernel
theorem d_Mod_build_39 : decode prog_17_method_98_code 39 = .ok (.iconst 0, 1) := by decide +kernel
theorem d_Mod_build_40 : decode prog_17_method_98_code 40 = .ok (.invokestatic 144, 3) := by decide +kernel
theorem d_Mod_build_43 : decode prog_17_method_98_code 43 = .ok (.invokevirtual 353, 3) := by decide +kernel
theorem d_Mod_build_46 : decode prog_17_method_98_code 46 = .ok (.istore_n 3, 1) := by decide +kernel
theorem d_Mod_build_47 : decode prog_17_method_98_code 47 = .ok (.aload_n 0, 1) := by decide +kernel
theorem d_Mod_build_48 : decode prog_17_method_98_code 48 = .ok (.iload_n 1, 1) := by decide +kernel
theorem d_Mod_build_49 : decode prog_17_method_98_code 49 = .ok (.iconst 1, 1) := by decide +kernel
theorem d_Mod_build_50 : decode prog_17_method_98_code 50 = .ok (.invokestatic 144, 3) := by decide +kernel
theorem d_Mod_build_53 : decode prog_17_method_98_code 53 = .ok (.invokevirtual 353, 3) := by decide +kernel
theorem d_Mod_build_56 : decode prog_17_method_98_code 56 = .ok (.istore 4, 2) := by decide +kernel
theorem d_Mod_build_58 : decode prog_17_method_98_code 58 = .ok (.aload_n 0, 1) := by decide +kernel
theorem d_Mod_build_59 : decode prog_17_method_98_code 59 = .ok (.iload_n 1, 1) := by decide +kernel
theorem d_Mod_build_60 : decode prog_17_method_98_code 60 = .ok (.iconst 2, 1) := by decide +kernel
theorem d_Mod_build_61 : decode prog_17_method_98_code 61 = .ok (.iconst 2, 1) := by decide +kernel
theorem d_Mod_build_62 : decode prog_17_method_98_code 62 = .ok (.invokevirtual 296, 3) := by decide +kernel
theorem d_Mod_build_65 : decode prog_17_method_98_code 65 = .ok (.aload_n 0, 1) := by decide +kernel
theorem d_Mod_build_66 : decode prog_17_method_98_code 66 = .ok (.iload_n 1, 1) := by decide +kernel
theorem d_Mod_build_67 : decode prog_17_method_98_code 67 = .ok (.iconst 3, 1) := by decide +kernel
theorem d_Mod_build_68 : decode prog_17_method_98_code 68 = .ok (.iload_n 3, 1) := by decide +kernel
theorem d_Mod_build_69 : decode prog_17_method_98_code 69 = .ok (.invokevirtual 296, 3) := by decide +kernel
theorem d_Mod_build_72 : decode prog_17_method_98_code 72 = .ok (.aload_n 0, 1) := by decide +kernel
theorem d_Mod_build_73 : decode prog_17_method_98_code 73 = .ok (.iload_n 1, 1) := by decide +kernel
theorem d_Mod_build_74 : decode prog_17_method_98_code 74 = .ok (.iconst 4, 1) := by decide +kernel
theorem d_Mod_build_75 : decode prog_17_method_98_code 75 = .ok (.aload_n 0, 1) := by decide +kernel
theorem d_Mod_build_76 : decode prog_17_method_98_code 76 = .ok (.getfield 7, 3) := by decide +kernel
theorem d_Mod_build_79 : decode prog_17_method_98_code 79 = .ok (.iconst 1, 1) := by decide +kernel
theorem d_Mod_build_80 : decode prog_17_method_98_code 80 = .ok (.iaload, 1) := by decide +kernel
theorem d_Mod_build_81 : decode prog_17_method_98_code 81 = .ok (.iconst 1, 1) := by decide +kernel
theorem d_Mod_build_82 : decode prog_17_method_98_code 82 = .ok (.if_icmp .ne 14, 3) := by decide +kernel
theorem d_Mod_build_85 : decode prog_17_method_98_code 85 = .ok (.iconst 0, 1) := by decide +kernel
theorem d_Mod_build_86 : decode prog_17_method_98_code 86 = .ok (.iload_n 3, 1) := by decide +kernel
theorem d_Mod_build_87 : decode prog_17_method_98_code 87 = .ok (.iload 4, 2) := by decide +kernel
theorem d_Mod_build_89 : decode prog_17_method_98_code 89 = .ok (.isub, 1) := by decide +kernel
theorem d_Mod_build_90 : decode prog_17_method_98_code 90 = .ok (.invokestatic 327, 3) := by decide +kernel
theorem d_Mod_build_93 : decode prog_17_method_98_code 93 = .ok (.goto 4, 3) := by decide +kernel
theorem d_Mod_build_96 : decode prog_17_method_98_code 96 = .ok (.iconst 0, 1) := by decide +kernel
theorem d_Mod_build_97 : decode prog_17_method_98_code 97 = .ok (.invokevirtual 296, 3) := by decide +kernel
theorem d_Mod_build_100 : decode prog_17_method_98_code 100 = .ok (.return_, 1) := by decide +kernel
def Mod_build_97 (M : g_MD) (s0 : Int32) (s1 : Int32) (s2 : Int32) : Option g_MD :=
  g_b (Mod_put M s2 s1 s0) fun M27 => some M27
set_option maxHeartbeats 4000000 in
set_option maxRecDepth 100000 in
theorem W_Mod_build_97 {X : g_X} {h0 : g_AH} {a0 : Nat} {ad : Nat → Nat} (ok : mOK a0 ad) (z : g_MD) (M : g_MD) (s0 : Int32) (s1 : Int32) (s2 : Int32) (hy : Mod_build_97  M s0 s1 s2 = some z) : G X k_Mod_build (.inl none) (mH h0 a0 ad z) (mH h0 a0 ad M) 97 [] [.int s0, .int s1, .int s2, .ref a0] := by
  unfold Mod_build_97 at hy
  replace hy := g_b_inv hy
  obtain ⟨M27, hf28, hy⟩ := hy
  refine g_callV (rv := none) (h1 := (mH h0 a0 ad M27)) (pc' := 100) (As := [.int s2, .int s1, .int s0]) (rest := []) 3 (T_Mod_put ok (hy := hf28)) d_Mod_build_97 (mH_look ok) rfl rfl q2171 q2173 qs49 q135 q2174 hd_Mod_put rfl ⟨by decide, by decide⟩ (by first | exact Nat.le_of_ble_eq_true rfl | (simp only [List.map, List.sum_cons, List.sum_nil, g_cat_rf]; exact Nat.le_of_ble_eq_true rfl) | (simp only [List.map, List.sum_cons, List.sum_nil, g_cat_rf, Value.category]; decide)) rfl ?_
  cases hy
  exact g_vret rfl rfl rfl d_Mod_build_100
def Mod_build (M : g_MD) (p0 : Int32) : Option g_MD :=
  g_b (Mod_of M p0 (3 : Int32)) fun x1 => if x1 ≤ 0 then (g_b (Mod_wayPlace p0 (0 : Int32)) fun x5 => g_b (Mod_delayOf M x5) fun x8 => g_b (Mod_wayPlace p0 (1 : Int32)) fun x11 => g_b (Mod_delayOf M x11) fun x14 => g_b (Mod_put M p0 (2 : Int32) (2 : Int32)) fun M18 => g_b (Mod_put M18 p0 (3 : Int32) x8) fun M21 => g_mA M21 0 0 (1 : Int32) fun x23 => if x23 = (1 : Int32) then (Mod_build_97  M21 (if (0 : Int32) < (x8 - x14) then (x8 - x14) else (0 : Int32)) (4 : Int32) p0) else (Mod_build_97  M21 (0 : Int32) (4 : Int32) p0)) else (g_b (Mod_wayPlace p0 (1 : Int32)) fun x29 => g_mS M 0 0 ((x29 + (19 : Int32)) + x1) (1 : Int32) fun M32 => g_b (Mod_put M32 p0 (3 : Int32) (x1 - (1 : Int32))) fun M35 => some M35)
set_option maxHeartbeats 4000000 in
set_option maxRecDepth 100000 in
theorem T_Mod_build {l : Launch} {B : g_B} {h0 : g_AH} {a0 : Nat} {ad : Nat → Nat} (ok : mOK a0 ad) (M : g_MD) (p0 : Int32) (z : g_MD) (hy : Mod_build M p0 = some z) : g_CT l B y_Mod_build k_Mod_build [.ref a0, .int p0] (mH h0 a0 ad M) (.inl none) (mH h0 a0 ad z) := by
  refine g_start2 (Lc := [(0, .ref a0), (1, .int p0)]) (by decide) rfl rfl (by exact Nat.le_of_ble_eq_true rfl) (by rfl) fun X => ?_
  unfold Mod_build at hy
  refine g_aload_n 0 (i := 0) (pc' := 1) d_Mod_build_0 rfl rfl rfl ?_
  refine g_iload_n 1 (i := 1) (pc' := 2) d_Mod_build_1 rfl rfl rfl ?_
  refine g_iconst (v := (3 : Int32)) (pc' := 3) d_Mod_build_2 (by decide) rfl ?_
  replace hy := g_b_inv hy
  obtain ⟨x1, hf3, hy⟩ := hy
  refine g_callV (rv := some (.int x1)) (h1 := (mH h0 a0 ad M)) (pc' := 6) (As := [.int p0, .int (3 : Int32)]) (rest := []) 2 (T_Mod_of ok (hy := hf3)) d_Mod_build_3 (mH_look ok) rfl rfl q2186 q2188 qs52 q135 q2189 hd_Mod_of rfl ⟨by decide, by decide⟩ (by first | exact Nat.le_of_ble_eq_true rfl | (simp only [List.map, List.sum_cons, List.sum_nil, g_cat_rf]; exact Nat.le_of_ble_eq_true rfl) | (simp only [List.map, List.sum_cons, List.sum_nil, g_cat_rf, Value.category]; decide)) rfl ?_
  refine g_istore_n (i := 2) (pc' := 7) (Lc' := [(2, .int x1), (0, .ref a0), (1, .int p0)]) d_Mod_build_6 rfl (by decide) rfl rfl ?_
  refine g_iload_n 0 (i := 2) (pc' := 8) d_Mod_build_7 rfl rfl rfl ?_
  by_cases c4 : x1 ≤ 0
  · rw [if_pos c4] at hy
    refine g_if_leT (pc' := 37) d_Mod_build_8 c4 (by decide) ?_
    refine g_aload_n 1 (i := 0) (pc' := 38) d_Mod_build_37 rfl rfl rfl ?_
    refine g_iload_n 2 (i := 1) (pc' := 39) d_Mod_build_38 rfl rfl rfl ?_
    refine g_iconst (v := (0 : Int32)) (pc' := 40) d_Mod_build_39 (by decide) rfl ?_
    replace hy := g_b_inv hy
    obtain ⟨x5, hf7, hy⟩ := hy
    refine g_callS (rv := some (.int x5)) (h1 := (mH h0 a0 ad M)) (pc' := 43) (As := [.int p0, .int (0 : Int32)]) (rest := [.ref a0]) 2 (T_Mod_wayPlace (hy := hf7)) d_Mod_build_40 q2179 q2180 q135 q2181 hd_Mod_wayPlace rfl ⟨by decide, by decide⟩ (by first | exact Nat.le_of_ble_eq_true rfl | (simp only [List.map, List.sum_cons, List.sum_nil, g_cat_rf]; exact Nat.le_of_ble_eq_true rfl) | (simp only [List.map, List.sum_cons, List.sum_nil, g_cat_rf, Value.category]; decide)) rfl ?_
    replace hy := g_b_inv hy
    obtain ⟨x8, hf10, hy⟩ := hy
    refine g_callV (rv := some (.int x8)) (h1 := (mH h0 a0 ad M)) (pc' := 46) (As := [.int x5]) (rest := []) 1 (T_Mod_delayOf ok (hy := hf10)) d_Mod_build_43 (mH_look ok) rfl rfl q2461 q2463 qs99 q135 q2464 hd_Mod_delayOf rfl ⟨by decide, by decide⟩ (by first | exact Nat.le_of_ble_eq_true rfl | (simp only [List.map, List.sum_cons, List.sum_nil, g_cat_rf]; exact Nat.le_of_ble_eq_true rfl) | (simp only [List.map, List.sum_cons, List.sum_nil, g_cat_rf, Value.category]; decide)) rfl ?_
    refine g_istore_n (i := 3) (pc' := 47) (Lc' := [(3, .int x8), (2, .int x1), (0, .ref a0), (1, .int p0)]) d_Mod_build_46 rfl (by decide) rfl rfl ?_
    refine g_aload_n 2 (i := 0) (pc' := 48) d_Mod_build_47 rfl rfl rfl ?_
    refine g_iload_n 3 (i := 1) (pc' := 49) d_Mod_build_48 rfl rfl rfl ?_
    refine g_iconst (v := (1 : Int32)) (pc' := 50) d_Mod_build_49 (by decide) rfl ?_
    replace hy := g_b_inv hy
    obtain ⟨x11, hf13, hy⟩ := hy
    refine g_callS (rv := some (.int x11)) (h1 := (mH h0 a0 ad M)) (pc' := 53) (As := [.int p0, .int (1 : Int32)]) (rest := [.ref a0]) 2 (T_Mod_wayPlace (hy := hf13)) d_Mod_build_50 q2179 q2180 q135 q2181 hd_Mod_wayPlace rfl ⟨by decide, by decide⟩ (by first | exact Nat.le_of_ble_eq_true rfl | (simp only [List.map, List.sum_cons, List.sum_nil, g_cat_rf]; exact Nat.le_of_ble_eq_true rfl) | (simp only [List.map, List.sum_cons, List.sum_nil, g_cat_rf, Value.category]; decide)) rfl ?_
    replace hy := g_b_inv hy
    obtain ⟨x14, hf16, hy⟩ := hy
    refine g_callV (rv := some (.int x14)) (h1 := (mH h0 a0 ad M)) (pc' := 56) (As := [.int x11]) (rest := []) 1 (T_Mod_delayOf ok (hy := hf16)) d_Mod_build_53 (mH_look ok) rfl rfl q2461 q2463 qs99 q135 q2464 hd_Mod_delayOf rfl ⟨by decide, by decide⟩ (by first | exact Nat.le_of_ble_eq_true rfl | (simp only [List.map, List.sum_cons, List.sum_nil, g_cat_rf]; exact Nat.le_of_ble_eq_true rfl) | (simp only [List.map, List.sum_cons, List.sum_nil, g_cat_rf, Value.category]; decide)) rfl ?_
    refine g_istore (pc' := 58) (Lc' := [(4, .int x14), (3, .int x8), (2, .int x1), (0, .ref a0), (1, .int p0)]) d_Mod_build_56 (by decide) rfl rfl ?_
    refine g_aload_n 3 (i := 0) (pc' := 59) d_Mod_build_58 rfl rfl rfl ?_
    refine g_iload_n 4 (i := 1) (pc' := 60) d_Mod_build_59 rfl rfl rfl ?_
    refine g_iconst (v := (2 : Int32)) (pc' := 61) d_Mod_build_60 (by decide) rfl ?_
    refine g_iconst (v := (2 : Int32)) (pc' := 62) d_Mod_build_61 (by decide) rfl ?_
    replace hy := g_b_inv hy
    obtain ⟨M18, hf19, hy⟩ := hy
    refine g_callV (rv := none) (h1 := (mH h0 a0 ad M18)) (pc' := 65) (As := [.int p0, .int (2 : Int32), .int (2 : Int32)]) (rest := []) 3 (T_Mod_put ok (hy := hf19)) d_Mod_build_62 (mH_look ok) rfl rfl q2171 q2173 qs49 q135 q2174 hd_Mod_put rfl ⟨by decide, by decide⟩ (by first | exact Nat.le_of_ble_eq_true rfl | (simp only [List.map, List.sum_cons, List.sum_nil, g_cat_rf]; exact Nat.le_of_ble_eq_true rfl) | (simp only [List.map, List.sum_cons, List.sum_nil, g_cat_rf, Value.category]; decide)) rfl ?_
    refine g_aload_n 3 (i := 0) (pc' := 66) d_Mod_build_65 rfl rfl rfl ?_
    refine g_iload_n 4 (i := 1) (pc' := 67) d_Mod_build_66 rfl rfl rfl ?_
    refine g_iconst (v := (3 : Int32)) (pc' := 68) d_Mod_build_67 (by decide) rfl ?_
    refine g_iload_n 1 (i := 3) (pc' := 69) d_Mod_build_68 rfl rfl rfl ?_
    replace hy := g_b_inv hy
    obtain ⟨M21, hf22, hy⟩ := hy
    refine g_callV (rv := none) (h1 := (mH h0 a0 ad M21)) (pc' := 72) (As := [.int p0, .int (3 : Int32), .int x8]) (rest := []) 3 (T_Mod_put ok (hy := hf22)) d_Mod_build_69 (mH_look ok) rfl rfl q2171 q2173 qs49 q135 q2174 hd_Mod_put rfl ⟨by decide, by decide⟩ (by first | exact Nat.le_of_ble_eq_true rfl | (simp only [List.map, List.sum_cons, List.sum_nil, g_cat_rf]; exact Nat.le_of_ble_eq_true rfl) | (simp only [List.map, List.sum_cons, List.sum_nil, g_cat_rf, Value.category]; decide)) rfl ?_
    refine g_aload_n 3 (i := 0) (pc' := 73) d_Mod_build_72 rfl rfl rfl ?_
    refine g_iload_n 4 (i := 1) (pc' := 74) d_Mod_build_73 rfl rfl rfl ?_
    refine g_iconst (v := (4 : Int32)) (pc' := 75) d_Mod_build_74 (by decide) rfl ?_
    refine g_aload_n 3 (i := 0) (pc' := 76) d_Mod_build_75 rfl rfl rfl ?_
    refine gm_getA ok 0 (pc' := 79) d_Mod_build_76 rfl q1965 rfl rfl ?_
    refine g_iconst (v := (1 : Int32)) (pc' := 80) d_Mod_build_79 (by decide) rfl ?_
    replace hy := g_mA_inv hy
    obtain ⟨x23, hc24, hy⟩ := hy
    refine gm_ald0 ok (pc' := 81) d_Mod_build_80 hc24 rfl ?_
    refine g_iconst (v := (1 : Int32)) (pc' := 82) d_Mod_build_81 (by decide) rfl ?_
    by_cases c25 : x23 = (1 : Int32)
    · rw [if_pos c25] at hy
      refine g_icmp_neF (pc' := 85) d_Mod_build_82 96 c25 (by decide) rfl ?_
      refine g_iconst (v := (0 : Int32)) (pc' := 86) d_Mod_build_85 (by decide) rfl ?_
      refine g_iload_n 1 (i := 3) (pc' := 87) d_Mod_build_86 rfl rfl rfl ?_
      refine g_iload 0 (pc' := 89) d_Mod_build_87 rfl rfl ?_
      refine g_isub (pc' := 90) d_Mod_build_89 rfl ?_
      refine g_mmax (pc' := 93) d_Mod_build_90 q2423 q278 q122 q279 (by first | exact Nat.le_of_ble_eq_true rfl | (simp only [List.map, List.sum_cons, List.sum_nil, g_cat_rf]; exact Nat.le_of_ble_eq_true rfl) | (simp only [List.map, List.sum_cons, List.sum_nil, g_cat_rf, Value.category]; decide)) (by decide) rfl ?_
      refine g_goto (pc' := 97) d_Mod_build_93 (by decide) ?_
      refine g_sub [] rfl ?_
      exact W_Mod_build_97 ok _ _ _ _ _ hy
    · rw [if_neg c25] at hy
      refine g_icmp_neT (pc' := 96) d_Mod_build_82 c25 (by decide) ?_
      refine g_iconst (v := (0 : Int32)) (pc' := 97) d_Mod_build_96 (by decide) rfl ?_
      refine g_sub [] rfl ?_
      exact W_Mod_build_97 ok _ _ _ _ _ hy
  · rw [if_neg c4] at hy
    refine g_if_leF (pc' := 11) d_Mod_build_8 37 c4 (by decide) rfl ?_
    refine g_aload_n 1 (i := 0) (pc' := 12) d_Mod_build_11 rfl rfl rfl ?_
    refine gm_getA ok 0 (pc' := 15) d_Mod_build_12 rfl q1965 rfl rfl ?_
    refine g_iload_n 2 (i := 1) (pc' := 16) d_Mod_build_15 rfl rfl rfl ?_
    refine g_iconst (v := (1 : Int32)) (pc' := 17) d_Mod_build_16 (by decide) rfl ?_
    replace hy := g_b_inv hy
    obtain ⟨x29, hf31, hy⟩ := hy
    refine g_callS (rv := some (.int x29)) (h1 := (mH h0 a0 ad M)) (pc' := 20) (As := [.int p0, .int (1 : Int32)]) (rest := [.ref (ad 0)]) 2 (T_Mod_wayPlace (hy := hf31)) d_Mod_build_17 q2179 q2180 q135 q2181 hd_Mod_wayPlace rfl ⟨by decide, by decide⟩ (by first | exact Nat.le_of_ble_eq_true rfl | (simp only [List.map, List.sum_cons, List.sum_nil, g_cat_rf]; exact Nat.le_of_ble_eq_true rfl) | (simp only [List.map, List.sum_cons, List.sum_nil, g_cat_rf, Value.category]; decide)) rfl ?_
    refine g_bipush (v := (19 : Int32)) (pc' := 22) d_Mod_build_20 (by decide) rfl ?_
    refine g_iadd (pc' := 23) d_Mod_build_22 rfl ?_
    refine g_iload_n 0 (i := 2) (pc' := 24) d_Mod_build_23 rfl rfl rfl ?_
    refine g_iadd (pc' := 25) d_Mod_build_24 rfl ?_
    refine g_iconst (v := (1 : Int32)) (pc' := 26) d_Mod_build_25 (by decide) rfl ?_
    replace hy := g_mS_inv hy
    obtain ⟨hc33, hy⟩ := hy
    refine gm_ast0 ok (pc' := 27) d_Mod_build_26 hc33 rfl ?_
    generalize ms M 0 (((x29 + (19 : Int32)) + x1)).toNatClampNeg (1 : Int32) = M32 at hy ⊢
    refine g_aload_n 1 (i := 0) (pc' := 28) d_Mod_build_27 rfl rfl rfl ?_
    refine g_iload_n 2 (i := 1) (pc' := 29) d_Mod_build_28 rfl rfl rfl ?_
    refine g_iconst (v := (3 : Int32)) (pc' := 30) d_Mod_build_29 (by decide) rfl ?_
    refine g_iload_n 0 (i := 2) (pc' := 31) d_Mod_build_30 rfl rfl rfl ?_
    refine g_iconst (v := (1 : Int32)) (pc' := 32) d_Mod_build_31 (by decide) rfl ?_
    refine g_isub (pc' := 33) d_Mod_build_32 rfl ?_
    replace hy := g_b_inv hy
    obtain ⟨M35, hf36, hy⟩ := hy
    refine g_callV (rv := none) (h1 := (mH h0 a0 ad M35)) (pc' := 36) (As := [.int p0, .int (3 : Int32), .int (x1 - (1 : Int32))]) (rest := []) 3 (T_Mod_put ok (hy := hf36)) d_Mod_build_33 (mH_look ok) rfl rfl q2171 q2173 qs49 q135 q2174 hd_Mod_put rfl ⟨by decide, by decide⟩ (by first | exact Nat.le_of_ble_eq_true rfl | (simp only [List.map, List.sum_cons, List.sum_nil, g_cat_rf]; exact Nat.le_of_ble_eq_true rfl) | (simp only [List.map, List.sum_cons, List.sum_nil, g_cat_rf, Value.category]; decide)) rfl ?_
    cases hy
    exact g_vret rfl rfl rfl d_Mod_build_36
theorem hd_Mod_build : g_dsc y_Mod_build 1 := ⟨by decide +kernel, by decide +kernel, by decide +kernel⟩
/-! CircuitDeskModel.drain(I)V -/
abbrev y_Mod_drain : MethodName := ⟨"CircuitDeskModel", "drain", "(I)V"⟩
abbrev k_Mod_drain : g_M := (prog_17_method_99_code, 2, "CircuitDeskModel", 13, none, "drain", [], 0)
theorem d_Mod_drain_0 : decode prog_17_method_99_code 0 = .ok (.aload_n 0, 1) := by decide +kernel
theorem d_Mod_drain_1 : decode prog_17_method_99_code 1 = .ok (.iload_n 1, 1) := by decide +kernel
theorem d_Mod_drain_2 : decode prog_17_method_99_code 2 = .ok (.iconst 3, 1) := by decide +kernel
theorem d_Mod_drain_3 : decode prog_17_method_99_code 3 = .ok (.aload_n 0, 1) := by decide +kernel
theorem d_Mod_drain_4 : decode prog_17_method_99_code 4 = .ok (.iload_n 1, 1) := by decide +kernel
theorem d_Mod_drain_5 : decode prog_17_method_99_code 5 = .ok (.iconst 3, 1) := by decide +kernel
theorem d_Mod_drain_6 : decode prog_17_method_99_code 6 = .ok (.invokevirtual 150, 3) := by decide +kernel
theorem d_Mod_drain_9 : decode prog_17_method_99_code 9 = .ok (.iconst 1, 1) := by decide +kernel
theorem d_Mod_drain_10 : decode prog_17_method_99_code 10 = .ok (.isub, 1) := by decide +kernel
theorem d_Mod_drain_11 : decode prog_17_method_99_code 11 = .ok (.invokevirtual 296, 3) := by decide +kernel
theorem d_Mod_drain_14 : decode prog_17_method_99_code 14 = .ok (.aload_n 0, 1) := by decide +kernel
theorem d_Mod_drain_15 : decode prog_17_method_99_code 15 = .ok (.iload_n 1, 1) := by decide +kernel
theorem d_Mod_drain_16 : decode prog_17_method_99_code 16 = .ok (.iconst 3, 1) := by decide +kernel
theorem d_Mod_drain_17 : decode prog_17_method_99_code 17 = .ok (.invokevirtual 150, 3) := by decide +kernel
theorem d_Mod_drain_20 : decode prog_17_method_99_code 20 = .ok (.ifCond .ne 17, 3) := by decide +kernel
theorem d_Mod_drain_23 : decode prog_17_method_99_code 23 = .ok (.aload_n 0, 1) := by decide +kernel
theorem d_Mod_drain_24 : decode prog_17_method_99_code 24 = .ok (.iload_n 1, 1) := by decide +kernel
theorem d_Mod_drain_25 : decode prog_17_method_99_code 25 = .ok (.iconst 2, 1) := by decide +kernel
theorem d_Mod_drain_26 : decode prog_17_method_99_code 26 = .ok (.iconst 3, 1) := by decide +kernel
theorem d_Mod_drain_27 : decode prog_17_method_99_code 27 = .ok (.invokevirtual 296, 3) := by decide +kernel
theorem d_Mod_drain_30 : decode prog_17_method_99_code 30 = .ok (.aload_n 0, 1) := by decide +kernel
theorem d_Mod_drain_31 : decode prog_17_method_99_code 31 = .ok (.iload_n 1, 1) := by decide +kernel
theorem d_Mod_drain_32 : decode prog_17_method_99_code 32 = .ok (.iconst 3, 1) := by decide +kernel
theorem d_Mod_drain_33 : decode prog_17_method_99_code 33 = .ok (.iconst 1, 1) := by decide +kernel
theorem d_Mod_drain_34 : decode prog_17_method_99_code 34 = .ok (.invokevirtual 296, 3) := by decide +kernel
theorem d_Mod_drain_37 : decode prog_17_method_99_code 37 = .ok (.return_, 1) := by decide +kernel
def Mod_drain (M : g_MD) (p0 : Int32) : Option g_MD :=
  g_b (Mod_of M p0 (3 : Int32)) fun x1 => g_b (Mod_put M p0 (3 : Int32) (x1 - (1 : Int32))) fun M5 => g_b (Mod_of M5 p0 (3 : Int32)) fun x7 => if x7 = 0 then (g_b (Mod_put M5 p0 (2 : Int32) (3 : Int32)) fun M12 => g_b (Mod_put M12 p0 (3 : Int32) (1 : Int32)) fun M15 => some M15) else (some M5)
set_option maxHeartbeats 4000000 in
set_option maxRecDepth 100000 in
theorem T_Mod_drain {l : Launch} {B : g_B} {h0 : g_AH} {a0 : Nat} {ad : Nat → Nat} (ok : mOK a0 ad) (M : g_MD) (p0 : Int32) (z : g_MD) (hy : Mod_drain M p0 = some z) : g_CT l B y_Mod_drain k_Mod_drain [.ref a0, .int p0] (mH h0 a0 ad M) (.inl none) (mH h0 a0 ad z) := by
  refine g_start2 (Lc := [(0, .ref a0), (1, .int p0)]) (by decide) rfl rfl (by exact Nat.le_of_ble_eq_true rfl) (by rfl) fun X => ?_
  unfold Mod_drain at hy
  refine g_aload_n 0 (i := 0) (pc' := 1) d_Mod_drain_0 rfl rfl rfl ?_
  refine g_iload_n 1 (i := 1) (pc' := 2) d_Mod_drain_1 rfl rfl rfl ?_
  refine g_iconst (v := (3 : Int32)) (pc' := 3) d_Mod_drain_2 (by decide) rfl ?_
  refine g_aload_n 0 (i := 0) (pc' := 4) d_Mod_drain_3 rfl rfl rfl ?_
  refine g_iload_n 1 (i := 1) (pc' := 5) d_Mod_drain_4 rfl rfl rfl ?_
  refine g_iconst (v := (3 : Int32)) (pc' := 6) d_Mod_drain_5 (by decide) rfl ?_
  replace hy := g_b_inv hy
  obtain ⟨x1, hf3, hy⟩ := hy
  refine g_callV (rv := some (.int x1)) (h1 := (mH h0 a0 ad M)) (pc' := 9) (As := [.int p0, .int (3 : Int32)]) (rest := [.int (3 : Int32), .int p0, .ref a0]) 2 (T_Mod_of ok (hy := hf3)) d_Mod_drain_6 (mH_look ok) rfl rfl q2186 q2188 qs52 q135 q2189 hd_Mod_of rfl ⟨by decide, by decide⟩ (by first | exact Nat.le_of_ble_eq_true rfl | (simp only [List.map, List.sum_cons, List.sum_nil, g_cat_rf]; exact Nat.le_of_ble_eq_true rfl) | (simp only [List.map, List.sum_cons, List.sum_nil, g_cat_rf, Value.category]; decide)) rfl ?_
  refine g_iconst (v := (1 : Int32)) (pc' := 10) d_Mod_drain_9 (by decide) rfl ?_
  refine g_isub (pc' := 11) d_Mod_drain_10 rfl ?_
  replace hy := g_b_inv hy
  obtain ⟨M5, hf6, hy⟩ := hy
  refine g_callV (rv := none) (h1 := (mH h0 a0 ad M5)) (pc' := 14) (As := [.int p0, .int (3 : Int32), .int (x1 - (1 : Int32))]) (rest := []) 3 (T_Mod_put ok (hy := hf6)) d_Mod_drain_11 (mH_look ok) rfl rfl q2171 q2173 qs49 q135 q2174 hd_Mod_put rfl ⟨by decide, by decide⟩ (by first | exact Nat.le_of_ble_eq_true rfl | (simp only [List.map, List.sum_cons, List.sum_nil, g_cat_rf]; exact Nat.le_of_ble_eq_true rfl) | (simp only [List.map, List.sum_cons, List.sum_nil, g_cat_rf, Value.category]; decide)) rfl ?_
  refine g_aload_n 0 (i := 0) (pc' := 15) d_Mod_drain_14 rfl rfl rfl ?_
  refine g_iload_n 1 (i := 1) (pc' := 16) d_Mod_drain_15 rfl rfl rfl ?_
  refine g_iconst (v := (3 : Int32)) (pc' := 17) d_Mod_drain_16 (by decide) rfl ?_
  replace hy := g_b_inv hy
  obtain ⟨x7, hf9, hy⟩ := hy
  refine g_callV (rv := some (.int x7)) (h1 := (mH h0 a0 ad M5)) (pc' := 20) (As := [.int p0, .int (3 : Int32)]) (rest := []) 2 (T_Mod_of ok (hy := hf9)) d_Mod_drain_17 (mH_look ok) rfl rfl q2186 q2188 qs52 q135 q2189 hd_Mod_of rfl ⟨by decide, by decide⟩ (by first | exact Nat.le_of_ble_eq_true rfl | (simp only [List.map, List.sum_cons, List.sum_nil, g_cat_rf]; exact Nat.le_of_ble_eq_true rfl) | (simp only [List.map, List.sum_cons, List.sum_nil, g_cat_rf, Value.category]; decide)) rfl ?_
  by_cases c10 : x7 = 0
  · rw [if_pos c10] at hy
    refine g_if_neF (pc' := 23) d_Mod_drain_20 37 c10 (by decide) rfl ?_
    refine g_aload_n 0 (i := 0) (pc' := 24) d_Mod_drain_23 rfl rfl rfl ?_
    refine g_iload_n 1 (i := 1) (pc' := 25) d_Mod_drain_24 rfl rfl rfl ?_
    refine g_iconst (v := (2 : Int32)) (pc' := 26) d_Mod_drain_25 (by decide) rfl ?_
    refine g_iconst (v := (3 : Int32)) (pc' := 27) d_Mod_drain_26 (by decide) rfl ?_
    replace hy := g_b_inv hy
    obtain ⟨M12, hf13, hy⟩ := hy
    refine g_callV (rv := none) (h1 := (mH h0 a0 ad M12)) (pc' := 30) (As := [.int p0, .int (2 : Int32), .int (3 : Int32)]) (rest := []) 3 (T_Mod_put ok (hy := hf13)) d_Mod_drain_27 (mH_look ok) rfl rfl q2171 q2173 qs49 q135 q2174 hd_Mod_put rfl ⟨by decide, by decide⟩ (by first | exact Nat.le_of_ble_eq_true rfl | (simp only [List.map, List.sum_cons, List.sum_nil, g_cat_rf]; exact Nat.le_of_ble_eq_true rfl) | (simp only [List.map, List.sum_cons, List.sum_nil, g_cat_rf, Value.category]; decide)) rfl ?_
    refine g_aload_n 0 (i := 0) (pc' := 31) d_Mod_drain_30 rfl rfl rfl ?_
    refine g_iload_n 1 (i := 1) (pc' := 32) d_Mod_drain_31 rfl rfl rfl ?_
    refine g_iconst (v := (3 : Int32)) (pc' := 33) d_Mod_drain_32 (by decide) rfl ?_
    refine g_iconst (v := (1 : Int32)) (pc' := 34) d_Mod_drain_33 (by decide) rfl ?_
    replace hy := g_b_inv hy
    obtain ⟨M15, hf16, hy⟩ := hy
    refine g_callV (rv := none) (h1 := (mH h0 a0 ad M15)) (pc' := 37) (As := [.int p0, .int (3 : Int32), .int (1 : Int32)]) (rest := []) 3 (T_Mod_put ok (hy := hf16)) d_Mod_drain_34 (mH_look ok) rfl rfl q2171 q2173 qs49 q135 q2174 hd_Mod_put rfl ⟨by decide, by decide⟩ (by first | exact Nat.le_of_ble_eq_true rfl | (simp only [List.map, List.sum_cons, List.sum_nil, g_cat_rf]; exact Nat.le_of_ble_eq_true rfl) | (simp only [List.map, List.sum_cons, List.sum_nil, g_cat_rf, Value.category]; decide)) rfl ?_
    cases hy
    exact g_vret rfl rfl rfl d_Mod_drain_37
  · rw [if_neg c10] at hy
    refine g_if_neT (pc' := 37) d_Mod_drain_20 c10 (by decide) ?_
    cases hy
    exact g_vret rfl rfl rfl d_Mod_drain_37
theorem hd_Mod_drain : g_dsc y_Mod_drain 1 := ⟨by decide +kernel, by decide +kernel, by decide +kernel⟩
/-! CircuitDeskModel.giveUp(II)V -/
abbrev y_Mod_giveUp : MethodName := ⟨"CircuitDeskModel", "giveUp", "(II)V"⟩
abbrev k_Mod_giveUp : g_M := (prog_17_method_55_code, 3, "CircuitDeskModel", 12, none, "giveUp", [], 0)
theorem d_Mod_giveUp_0 : decode prog_17_method_55_code 0 = .ok (.aload_n 0, 1) := by decide +kernel
theorem d_Mod_giveUp_1 : decode prog_17_method_55_code 1 = .ok (.getfield 7, 3) := by decide +kernel
theorem d_Mod_giveUp_4 : decode prog_17_method_55_code 4 = .ok (.iload_n 1, 1) := by decide +kernel
theorem d_Mod_giveUp_5 : decode prog_17_method_55_code 5 = .ok (.bipush 7, 2) := by decide +kernel
theorem d_Mod_giveUp_7 : decode prog_17_method_55_code 7 = .ok (.iadd, 1) := by decide +kernel
theorem d_Mod_giveUp_8 : decode prog_17_method_55_code 8 = .ok (.iload_n 2, 1) := by decide +kernel
theorem d_Mod_giveUp_9 : decode prog_17_method_55_code 9 = .ok (.iadd, 1) := by decide +kernel
theorem d_Mod_giveUp_10 : decode prog_17_method_55_code 10 = .ok (.iconst (-1), 1) := by decide +kernel
theorem d_Mod_giveUp_11 : decode prog_17_method_55_code 11 = .ok (.iastore, 1) := by decide +kernel
theorem d_Mod_giveUp_12 : decode prog_17_method_55_code 12 = .ok (.aload_n 0, 1) := by decide +kernel
theorem d_Mod_giveUp_13 : decode prog_17_method_55_code 13 = .ok (.getfield 7, 3) := by decide +kernel
theorem d_Mod_giveUp_16 : decode prog_17_method_55_code 16 = .ok (.iload_n 1, 1) := by decide +kernel
theorem d_Mod_giveUp_17 : decode prog_17_method_55_code 17 = .ok (.bipush 13, 2) := by decide +kernel
theorem d_Mod_giveUp_19 : decode prog_17_method_55_code 19 = .ok (.iadd, 1) := by decide +kernel
theorem d_Mod_giveUp_20 : decode prog_17_method_55_code 20 = .ok (.iload_n 2, 1) := by decide +kernel
theorem d_Mod_giveUp_21 : decode prog_17_method_55_code 21 = .ok (.iadd, 1) := by decide +kernel
theorem d_Mod_giveUp_22 : decode prog_17_method_55_code 22 = .ok (.iconst (-1), 1) := by decide +kernel
theorem d_Mod_giveUp_23 : decode prog_17_method_55_code 23 = .ok (.iastore, 1) := by decide +kernel
theorem d_Mod_giveUp_24 : decode prog_17_method_55_code 24 = .ok (.aload_n 0, 1) := by decide +kernel
theorem d_Mod_giveUp_25 : decode prog_17_method_55_code 25 = .ok (.getfield 7, 3) := by decide +kernel
theorem d_Mod_giveUp_28 : decode prog_17_method_55_code 28 = .ok (.iload_n 1, 1) := by decide +kernel
theorem d_Mod_giveUp_29 : decode prog_17_method_55_code 29 = .ok (.bipush 19, 2) := by decide +kernel
theorem d_Mod_giveUp_31 : decode prog_17_method_55_code 31 = .ok (.iadd, 1) := by decide +kernel
theorem d_Mod_giveUp_32 : decode prog_17_method_55_code 32 = .ok (.iload_n 2, 1) := by decide +kernel
theorem d_Mod_giveUp_33 : decode prog_17_method_55_code 33 = .ok (.iadd, 1) := by decide +kernel
theorem d_Mod_giveUp_34 : decode prog_17_method_55_code 34 = .ok (.iconst 0, 1) := by decide +kernel
theorem d_Mod_giveUp_35 : decode prog_17_method_55_code 35 = .ok (.iastore, 1) := by decide +kernel
theorem d_Mod_giveUp_36 : decode prog_17_method_55_code 36 = .ok (.return_, 1) := by decide +kernel
def Mod_giveUp (M : g_MD) (p0 : Int32) (p1 : Int32) : Option g_MD :=
  g_mS M 0 0 ((p0 + (7 : Int32)) + p1) (-1 : Int32) fun M1 => g_mS M1 0 0 ((p0 + (13 : Int32)) + p1) (-1 : Int32) fun M3 => g_mS M3 0 0 ((p0 + (19 : Int32)) + p1) (0 : Int32) fun M5 => some M5
set_option maxHeartbeats 4000000 in
set_option maxRecDepth 100000 in
theorem T_Mod_giveUp {l : Launch} {B : g_B} {h0 : g_AH} {a0 : Nat} {ad : Nat → Nat} (ok : mOK a0 ad) (M : g_MD) (p0 : Int32) (p1 : Int32) (z : g_MD) (hy : Mod_giveUp M p0 p1 = some z) : g_CT l B y_Mod_giveUp k_Mod_giveUp [.ref a0, .int p0, .int p1] (mH h0 a0 ad M) (.inl none) (mH h0 a0 ad z) := by
  refine g_start2 (Lc := [(0, .ref a0), (1, .int p0), (2, .int p1)]) (by decide) rfl rfl (by exact Nat.le_of_ble_eq_true rfl) (by rfl) fun X => ?_
  unfold Mod_giveUp at hy
  refine g_aload_n 0 (i := 0) (pc' := 1) d_Mod_giveUp_0 rfl rfl rfl ?_
  refine gm_getA ok 0 (pc' := 4) d_Mod_giveUp_1 rfl q1965 rfl rfl ?_
  refine g_iload_n 1 (i := 1) (pc' := 5) d_Mod_giveUp_4 rfl rfl rfl ?_
  refine g_bipush (v := (7 : Int32)) (pc' := 7) d_Mod_giveUp_5 (by decide) rfl ?_
  refine g_iadd (pc' := 8) d_Mod_giveUp_7 rfl ?_
  refine g_iload_n 2 (i := 2) (pc' := 9) d_Mod_giveUp_8 rfl rfl rfl ?_
  refine g_iadd (pc' := 10) d_Mod_giveUp_9 rfl ?_
  refine g_iconst (v := (-1 : Int32)) (pc' := 11) d_Mod_giveUp_10 (by decide) rfl ?_
  replace hy := g_mS_inv hy
  obtain ⟨hc2, hy⟩ := hy
  refine gm_ast0 ok (pc' := 12) d_Mod_giveUp_11 hc2 rfl ?_
  generalize ms M 0 (((p0 + (7 : Int32)) + p1)).toNatClampNeg (-1 : Int32) = M1 at hy ⊢
  refine g_aload_n 0 (i := 0) (pc' := 13) d_Mod_giveUp_12 rfl rfl rfl ?_
  refine gm_getA ok 0 (pc' := 16) d_Mod_giveUp_13 rfl q1965 rfl rfl ?_
  refine g_iload_n 1 (i := 1) (pc' := 17) d_Mod_giveUp_16 rfl rfl rfl ?_
  refine g_bipush (v := (13 : Int32)) (pc' := 19) d_Mod_giveUp_17 (by decide) rfl ?_
  refine g_iadd (pc' := 20) d_Mod_giveUp_19 rfl ?_
  refine g_iload_n 2 (i := 2) (pc' := 21) d_Mod_giveUp_20 rfl rfl rfl ?_
  refine g_iadd (pc' := 22) d_Mod_giveUp_21 rfl ?_
  refine g_iconst (v := (-1 : Int32)) (pc' := 23) d_Mod_giveUp_22 (by decide) rfl ?_
  replace hy := g_mS_inv hy
  obtain ⟨hc4, hy⟩ := hy
  refine gm_ast0 ok (pc' := 24) d_Mod_giveUp_23 hc4 rfl ?_
  generalize ms M1 0 (((p0 + (13 : Int32)) + p1)).toNatClampNeg (-1 : Int32) = M3 at hy ⊢
  refine g_aload_n 0 (i := 0) (pc' := 25) d_Mod_giveUp_24 rfl rfl rfl ?_
  refine gm_getA ok 0 (pc' := 28) d_Mod_giveUp_25 rfl q1965 rfl rfl ?_
  refine g_iload_n 1 (i := 1) (pc' := 29) d_Mod_giveUp_28 rfl rfl rfl ?_
  refine g_bipush (v := (19 : Int32)) (pc' := 31) d_Mod_giveUp_29 (by decide) rfl ?_
  refine g_iadd (pc' := 32) d_Mod_giveUp_31 rfl ?_
  refine g_iload_n 2 (i := 2) (pc' := 33) d_Mod_giveUp_32 rfl rfl rfl ?_
  refine g_iadd (pc' := 34) d_Mod_giveUp_33 rfl ?_
  refine g_iconst (v := (0 : Int32)) (pc' := 35) d_Mod_giveUp_34 (by decide) rfl ?_
  replace hy := g_mS_inv hy
  obtain ⟨hc6, hy⟩ := hy
  refine gm_ast0 ok (pc' := 36) d_Mod_giveUp_35 hc6 rfl ?_
  generalize ms M3 0 (((p0 + (19 : Int32)) + p1)).toNatClampNeg (0 : Int32) = M5 at hy ⊢
  cases hy
  exact g_vret rfl rfl rfl d_Mod_giveUp_36
theorem hd_Mod_giveUp : g_dsc y_Mod_giveUp 2 := ⟨by decide +kernel, by decide +kernel, by decide +kernel⟩
/-! CircuitDeskModel.clearWay(I)V -/
abbrev y_Mod_clearWay : MethodName := ⟨"CircuitDeskModel", "clearWay", "(I)V"⟩
abbrev k_Mod_clearWay : g_M := (prog_17_method_100_code, 5, "CircuitDeskModel", 13, none, "clearWay", [], 0)
theorem d_Mod_clearWay_0 : decode prog_17_method_100_code 0 = .ok (.iload_n 1, 1) := by decide +kernel
theorem d_Mod_clearWay_1 : decode prog_17_method_100_code 1 = .ok (.iconst 0, 1) := by decide +kernel
theorem d_Mod_clearWay_2 : decode prog_17_method_100_code 2 = .ok (.invokestatic 144, 3) := by decide +kernel
theorem d_Mod_clearWay_5 : decode prog_17_method_100_code 5 = .ok (.istore_n 2, 1) := by decide +kernel
theorem d_Mod_clearWay_6 : decode prog_17_method_100_code 6 = .ok (.aload_n 0, 1) := by decide +kernel
theorem d_Mod_clearWay_7 : decode prog_17_method_100_code 7 = .ok (.iload_n 1, 1) := by decide +kernel
theorem d_Mod_clearWay_8 : decode prog_17_method_100_code 8 = .ok (.iconst 3, 1) := by decide +kernel
theorem d_Mod_clearWay_9 : decode prog_17_method_100_code 9 = .ok (.invokevirtual 150, 3) := by decide +kernel
theorem d_Mod_clearWay_12 : decode prog_17_method_100_code 12 = .ok (.istore_n 3, 1) := by decide +kernel
theorem d_Mod_clearWay_13 : decode prog_17_method_100_code 13 = .ok (.aload_n 0, 1) := by decide +kernel
theorem d_Mod_clearWay_14 : decode prog_17_method_100_code 14 = .ok (.iload_n 2, 1) := by decide +kernel
theorem d_Mod_clearWay_15 : decode prog_17_method_100_code 15 = .ok (.iload_n 3, 1) := by decide +kernel
theorem d_Mod_clearWay_16 : decode prog_17_method_100_code 16 = .ok (.invokevirtual 356, 3) := by decide +kernel
theorem d_Mod_clearWay_19 : decode prog_17_method_100_code 19 = .ok (.aload_n 0, 1) := by decide +kernel
theorem d_Mod_clearWay_20 : decode prog_17_method_100_code 20 = .ok (.iload_n 1, 1) := by decide +kernel
theorem d_Mod_clearWay_21 : decode prog_17_method_100_code 21 = .ok (.iconst 3, 1) := by decide +kernel
theorem d_Mod_clearWay_22 : decode prog_17_method_100_code 22 = .ok (.iload_n 3, 1) := by decide +kernel
theorem d_Mod_clearWay_23 : decode prog_17_method_100_code 23 = .ok (.iconst 1, 1) := by decide +kernel
theorem d_Mod_clearWay_24 : decode prog_17_method_100_code 24 = .ok (.iadd, 1) := by decide +kernel
theorem d_Mod_clearWay_25 : decode prog_17_method_100_code 25 = .ok (.invokevirtual 296, 3) := by decide +kernel
theorem d_Mod_clearWay_28 : decode prog_17_method_100_code 28 = .ok (.iload_n 3, 1) := by decide +kernel
theorem d_Mod_clearWay_29 : decode prog_17_method_100_code 29 = .ok (.iconst 1, 1) := by decide +kernel
theorem d_Mod_clearWay_30 : decode prog_17_method_100_code 30 = .ok (.iadd, 1) := by decide +kernel
theorem d_Mod_clearWay_31 : decode prog_17_method_100_code 31 = .ok (.aload_n 0, 1) := by decide +kernel
theorem d_Mod_clearWay_32 : decode prog_17_method_100_code 32 = .ok (.getfield 7, 3) := by decide +kernel
theorem d_Mod_clearWay_35 : decode prog_17_method_100_code 35 = .ok (.iload_n 2, 1) := by decide +kernel
theorem d_Mod_clearWay_36 : decode prog_17_method_100_code 36 = .ok (.iaload, 1) := by decide +kernel
theorem d_Mod_clearWay_37 : decode prog_17_method_100_code 37 = .ok (.if_icmp .ge 4, 3) := by decide +kernel
theorem d_Mod_clearWay_40 : decode prog_17_method_100_code 40 = .ok (.return_, 1) := by decide +kernel
theorem d_Mod_clearWay_41 : decode prog_17_method_100_code 41 = .ok (.iconst 0, 1) := by decide +kernel
theorem d_Mod_clearWay_42 : decode prog_17_method_100_code 42 = .ok (.istore 4, 2) := by decide +kernel
theorem d_Mod_clearWay_44 : decode prog_17_method_100_code 44 = .ok (.iload 4, 2) := by decide +kernel
theorem d_Mod_clearWay_46 : decode prog_17_method_100_code 46 = .ok (.bipush 25, 2) := by decide +kernel
theorem d_Mod_clearWay_48 : decode prog_17_method_100_code 48 = .ok (.if_icmp .ge 30, 3) := by decide +kernel
theorem d_Mod_clearWay_51 : decode prog_17_method_100_code 51 = .ok (.aload_n 0, 1) := by decide +kernel
theorem d_Mod_clearWay_52 : decode prog_17_method_100_code 52 = .ok (.getfield 7, 3) := by decide +kernel
theorem d_Mod_clearWay_55 : decode prog_17_method_100_code 55 = .ok (.iload_n 2, 1) := by decide +kernel
theorem d_Mod_clearWay_56 : decode prog_17_method_100_code 56 = .ok (.iload 4, 2) := by decide +kernel
theorem d_Mod_clearWay_58 : decode prog_17_method_100_code 58 = .ok (.iadd, 1) := by decide +kernel
theorem d_Mod_clearWay_59 : decode prog_17_method_100_code 59 = .ok (.aload_n 0, 1) := by decide +kernel
theorem d_Mod_clearWay_60 : decode prog_17_method_100_code 60 = .ok (.getfield 7, 3) := by decide +kernel
theorem d_Mod_clearWay_63 : decode prog_17_method_100_code 63 = .ok (.iload_n 2, 1) := by decide +kernel
theorem d_Mod_clearWay_64 : decode prog_17_method_100_code 64 = .ok (.bipush 25, 2) := by decide +kernel
theorem d_Mod_clearWay_66 : decode prog_17_method_100_code 66 = .ok (.iadd, 1) := by decide +kernel
theorem d_Mod_clearWay_67 : decode prog_17_method_100_code 67 = .ok (.iload 4, 2) := by decide +kernel
theorem d_Mod_clearWay_69 : decode prog_17_method_100_code 69 = .ok (.iadd, 1) := by decide +kernel
theorem d_Mod_clearWay_70 : decode prog_17_method_100_code 70 = .ok (.iaload, 1) := by decide +kernel
theorem d_Mod_clearWay_71 : decode prog_17_method_100_code 71 = .ok (.iastore, 1) := by decide +kernel
theorem d_Mod_clearWay_72 : decode prog_17_method_100_code 72 = .ok (.iinc 4 1, 3) := by decide +kernel
theorem d_Mod_clearWay_75 : decode prog_17_method_100_code 75 = .ok (.goto (-31), 3) := by decide +kernel
theorem d_Mod_clearWay_78 : decode prog_17_method_100_code 78 = .ok (.aload_n 0, 1) := by decide +kernel
theorem d_Mod_clearWay_79 : decode prog_17_method_100_code 79 = .ok (.getfield 7, 3) := by decide +kernel
theorem d_Mod_clearWay_82 : decode prog_17_method_100_code 82 = .ok (.iload_n 2, 1) := by decide +kernel
theorem d_Mod_clearWay_83 : decode prog_17_method_100_code 83 = .ok (.bipush 25, 2) := by decide +kernel
theorem d_Mod_clearWay_85 : decode prog_17_method_100_code 85 = .ok (.iadd, 1) := by decide +kernel
theorem d_Mod_clearWay_86 : decode prog_17_method_100_code 86 = .ok (.iconst 0, 1) := by decide +kernel
theorem d_Mod_clearWay_87 : decode prog_17_method_100_code 87 = .ok (.iastore, 1) := by decide +kernel
theorem d_Mod_clearWay_88 : decode prog_17_method_100_code 88 = .ok (.aload_n 0, 1) := by decide +kernel
theorem d_Mod_clearWay_89 : decode prog_17_method_100_code 89 = .ok (.iload_n 1, 1) := by decide +kernel
theorem d_Mod_clearWay_90 : decode prog_17_method_100_code 90 = .ok (.iconst 2, 1) := by decide +kernel
theorem d_Mod_clearWay_91 : decode prog_17_method_100_code 91 = .ok (.iconst 0, 1) := by decide +kernel
theorem d_Mod_clearWay_92 : decode prog_17_method_100_code 92 = .ok (.invokevirtual 296, 3) := by decide +kernel
theorem d_Mod_clearWay_95 : decode prog_17_method_100_code 95 = .ok (.aload_n 0, 1) := by decide +kernel
theorem d_Mod_clearWay_96 : decode prog_17_method_100_code 96 = .ok (.iload_n 1, 1) := by decide +kernel
theorem d_Mod_clearWay_97 : decode prog_17_method_100_code 97 = .ok (.iconst 3, 1) := by decide +kernel
theorem d_Mod_clearWay_98 : decode prog_17_method_100_code 98 = .ok (.iconst 0, 1) := by decide +kernel
theorem d_Mod_clearWay_99 : decode prog_17_method_100_code 99 = .ok (.invokevirtual 296, 3) := by decide +kernel
theorem d_Mod_clearWay_102 : decode prog_17_method_100_code 102 = .ok (.aload_n 0, 1) := by decide +kernel
theorem d_Mod_clearWay_103 : decode prog_17_method_100_code 103 = .ok (.getfield 7, 3) := by decide +kernel
theorem d_Mod_clearWay_106 : decode prog_17_method_100_code 106 = .ok (.bipush 12, 2) := by decide +kernel
theorem d_Mod_clearWay_108 : decode prog_17_method_100_code 108 = .ok (.dup2, 1) := by decide +kernel
theorem d_Mod_clearWay_109 : decode prog_17_method_100_code 109 = .ok (.iaload, 1) := by decide +kernel
theorem d_Mod_clearWay_110 : decode prog_17_method_100_code 110 = .ok (.iconst 1, 1) := by decide +kernel
theorem d_Mod_clearWay_111 : decode prog_17_method_100_code 111 = .ok (.iadd, 1) := by decide +kernel
theorem d_Mod_clearWay_112 : decode prog_17_method_100_code 112 = .ok (.iastore, 1) := by decide +kernel
theorem d_Mod_clearWay_113 : decode prog_17_method_100_code 113 = .ok (.return_, 1) := by decide +kernel
def Mod_clearWay_44  : Nat → g_MD → Int32 → Int32 → Int32 → Option g_MD
  | 0, _, _, _, _ => none
  | n + 1, M, v1, v2, v4 => if (25 : Int32) ≤ v4 then (g_mS M 0 0 (v2 + (25 : Int32)) (0 : Int32) fun M17 => g_b (Mod_put M17 v1 (2 : Int32) (0 : Int32)) fun M20 => g_b (Mod_put M20 v1 (3 : Int32) (0 : Int32)) fun M23 => g_mA M23 0 0 (12 : Int32) fun x25 => g_mS M23 0 0 (12 : Int32) (x25 + (1 : Int32)) fun M27 => some M27) else (g_mA M 0 0 ((v2 + (25 : Int32)) + v4) fun x29 => g_mS M 0 0 (v2 + v4) x29 fun M31 => (Mod_clearWay_44  n) M31 v1 v2 (v4 + (1 : Int32)))
set_option maxHeartbeats 4000000 in
set_option maxRecDepth 100000 in
theorem W_Mod_clearWay_44 {X : g_X} {h0 : g_AH} {a0 : Nat} {ad : Nat → Nat} (ok : mOK a0 ad) (z : g_MD)  : ∀ (n : Nat) (M : g_MD) (v1 : Int32) (v2 : Int32) (v4 : Int32), Mod_clearWay_44  n M v1 v2 v4 = some z → G X k_Mod_clearWay (.inl none) (mH h0 a0 ad z) (mH h0 a0 ad M) 44 [(0, .ref a0), (1, .int v1), (2, .int v2), (4, .int v4)] [] := by
  intro n
  induction n with
  | zero => intro M v1 v2 v4 hy; exact absurd hy (by simp [Mod_clearWay_44])
  | succ n ih =>
    intro M v1 v2 v4 hy
    rw [Mod_clearWay_44] at hy
    refine g_iload 3 (pc' := 46) d_Mod_clearWay_44 rfl rfl ?_
    refine g_bipush (v := (25 : Int32)) (pc' := 48) d_Mod_clearWay_46 (by decide) rfl ?_
    by_cases c16 : (25 : Int32) ≤ v4
    · rw [if_pos c16] at hy
      refine g_icmp_geT (pc' := 78) d_Mod_clearWay_48 c16 (by decide) ?_
      refine g_aload_n 0 (i := 0) (pc' := 79) d_Mod_clearWay_78 rfl rfl rfl ?_
      refine gm_getA ok 0 (pc' := 82) d_Mod_clearWay_79 rfl q1965 rfl rfl ?_
      refine g_iload_n 2 (i := 2) (pc' := 83) d_Mod_clearWay_82 rfl rfl rfl ?_
      refine g_bipush (v := (25 : Int32)) (pc' := 85) d_Mod_clearWay_83 (by decide) rfl ?_
      refine g_iadd (pc' := 86) d_Mod_clearWay_85 rfl ?_
      refine g_iconst (v := (0 : Int32)) (pc' := 87) d_Mod_clearWay_86 (by decide) rfl ?_
      replace hy := g_mS_inv hy
      obtain ⟨hc18, hy⟩ := hy
      refine gm_ast0 ok (pc' := 88) d_Mod_clearWay_87 hc18 rfl ?_
      generalize ms M 0 ((v2 + (25 : Int32))).toNatClampNeg (0 : Int32) = M17 at hy ⊢
      refine g_aload_n 0 (i := 0) (pc' := 89) d_Mod_clearWay_88 rfl rfl rfl ?_
      refine g_iload_n 1 (i := 1) (pc' := 90) d_Mod_clearWay_89 rfl rfl rfl ?_
      refine g_iconst (v := (2 : Int32)) (pc' := 91) d_Mod_clearWay_90 (by decide) rfl ?_
      refine g_iconst (v := (0 : Int32)) (pc' := 92) d_Mod_clearWay_91 (by decide) rfl ?_
      replace hy := g_b_inv hy
      obtain ⟨M20, hf21, hy⟩ := hy
      refine g_callV (rv := none) (h1 := (mH h0 a0 ad M20)) (pc' := 95) (As := [.int v1, .int (2 : Int32), .int (0 : Int32)]) (rest := []) 3 (T_Mod_put ok (hy := hf21)) d_Mod_clearWay_92 (mH_look ok) rfl rfl q2171 q2173 qs49 q135 q2174 hd_Mod_put rfl ⟨by decide, by decide⟩ (by first | exact Nat.le_of_ble_eq_true rfl | (simp only [List.map, List.sum_cons, List.sum_nil, g_cat_rf]; exact Nat.le_of_ble_eq_true rfl) | (simp only [List.map, List.sum_cons, List.sum_nil, g_cat_rf, Value.category]; decide)) rfl ?_
      refine g_aload_n 0 (i := 0) (pc' := 96) d_Mod_clearWay_95 rfl rfl rfl ?_
      refine g_iload_n 1 (i := 1) (pc' := 97) d_Mod_clearWay_96 rfl rfl rfl ?_
      refine g_iconst (v := (3 : Int32)) (pc' := 98) d_Mod_clearWay_97 (by decide) rfl ?_
      refine g_iconst (v := (0 : Int32)) (pc' := 99) d_Mod_clearWay_98 (by decide) rfl ?_
      replace hy := g_b_inv hy
      obtain ⟨M23, hf24, hy⟩ := hy
      refine g_callV (rv := none) (h1 := (mH h0 a0 ad M23)) (pc' := 102) (As := [.int v1, .int (3 : Int32), .int (0 : Int32)]) (rest := []) 3 (T_Mod_put ok (hy := hf24)) d_Mod_clearWay_99 (mH_look ok) rfl rfl q2171 q2173 qs49 q135 q2174 hd_Mod_put rfl ⟨by decide, by decide⟩ (by first | exact Nat.le_of_ble_eq_true rfl | (simp only [List.map, List.sum_cons, List.sum_nil, g_cat_rf]; exact Nat.le_of_ble_eq_true rfl) | (simp only [List.map, List.sum_cons, List.sum_nil, g_cat_rf, Value.category]; decide)) rfl ?_
      refine g_aload_n 0 (i := 0) (pc' := 103) d_Mod_clearWay_102 rfl rfl rfl ?_
      refine gm_getA ok 0 (pc' := 106) d_Mod_clearWay_103 rfl q1965 rfl rfl ?_
      refine g_bipush (v := (12 : Int32)) (pc' := 108) d_Mod_clearWay_106 (by decide) rfl ?_
      refine g_dup2 (pc' := 109) d_Mod_clearWay_108 rfl rfl rfl ?_
      replace hy := g_mA_inv hy
      obtain ⟨x25, hc26, hy⟩ := hy
      refine gm_ald0 ok (pc' := 110) d_Mod_clearWay_109 hc26 rfl ?_
      refine g_iconst (v := (1 : Int32)) (pc' := 111) d_Mod_clearWay_110 (by decide) rfl ?_
      refine g_iadd (pc' := 112) d_Mod_clearWay_111 rfl ?_
      replace hy := g_mS_inv hy
      obtain ⟨hc28, hy⟩ := hy
      refine gm_ast0 ok (pc' := 113) d_Mod_clearWay_112 hc28 rfl ?_
      generalize ms M23 0 ((12 : Int32)).toNatClampNeg (x25 + (1 : Int32)) = M27 at hy ⊢
      cases hy
      exact g_vret rfl rfl rfl d_Mod_clearWay_113
    · rw [if_neg c16] at hy
      refine g_icmp_geF (pc' := 51) d_Mod_clearWay_48 78 c16 (by decide) rfl ?_
      refine g_aload_n 0 (i := 0) (pc' := 52) d_Mod_clearWay_51 rfl rfl rfl ?_
      refine gm_getA ok 0 (pc' := 55) d_Mod_clearWay_52 rfl q1965 rfl rfl ?_
      refine g_iload_n 2 (i := 2) (pc' := 56) d_Mod_clearWay_55 rfl rfl rfl ?_
      refine g_iload 3 (pc' := 58) d_Mod_clearWay_56 rfl rfl ?_
      refine g_iadd (pc' := 59) d_Mod_clearWay_58 rfl ?_
      refine g_aload_n 0 (i := 0) (pc' := 60) d_Mod_clearWay_59 rfl rfl rfl ?_
      refine gm_getA ok 0 (pc' := 63) d_Mod_clearWay_60 rfl q1965 rfl rfl ?_
      refine g_iload_n 2 (i := 2) (pc' := 64) d_Mod_clearWay_63 rfl rfl rfl ?_
      refine g_bipush (v := (25 : Int32)) (pc' := 66) d_Mod_clearWay_64 (by decide) rfl ?_
      refine g_iadd (pc' := 67) d_Mod_clearWay_66 rfl ?_
      refine g_iload 3 (pc' := 69) d_Mod_clearWay_67 rfl rfl ?_
      refine g_iadd (pc' := 70) d_Mod_clearWay_69 rfl ?_
      replace hy := g_mA_inv hy
      obtain ⟨x29, hc30, hy⟩ := hy
      refine gm_ald0 ok (pc' := 71) d_Mod_clearWay_70 hc30 rfl ?_
      replace hy := g_mS_inv hy
      obtain ⟨hc32, hy⟩ := hy
      refine gm_ast0 ok (pc' := 72) d_Mod_clearWay_71 hc32 rfl ?_
      generalize ms M 0 ((v2 + v4)).toNatClampNeg x29 = M31 at hy ⊢
      refine g_iinc 3 (v := (v4 + (1 : Int32))) (pc' := 75) (Lc' := [(4, .int (v4 + (1 : Int32))), (0, .ref a0), (1, .int v1), (2, .int v2)]) d_Mod_clearWay_72 rfl rfl (by decide) rfl rfl ?_
      refine g_goto (pc' := 44) d_Mod_clearWay_75 (by decide) ?_
      refine g_sub [1, 2, 3, 0] rfl ?_
      exact ih _ _ _ _ hy
def Mod_clearWay (M : g_MD) (p0 : Int32) : Option g_MD :=
  g_b (Mod_wayPlace p0 (0 : Int32)) fun x1 => g_b (Mod_of M p0 (3 : Int32)) fun x4 => g_b (Mod_giveUp M x1 x4) fun M8 => g_b (Mod_put M8 p0 (3 : Int32) (x4 + (1 : Int32))) fun M11 => g_mA M11 0 0 x1 fun x13 => if x13 ≤ (x4 + (1 : Int32)) then (Mod_clearWay_44  gFU M11 p0 x1 (0 : Int32)) else (some M11)
set_option maxHeartbeats 4000000 in
set_option maxRecDepth 100000 in
theorem T_Mod_clearWay {l : Launch} {B : g_B} {h0 : g_AH} {a0 : Nat} {ad : Nat → Nat} (ok : mOK a0 ad) (M : g_MD) (p0 : Int32) (z : g_MD) (hy : Mod_clearWay M p0 = some z) : g_CT l B y_Mod_clearWay k_Mod_clearWay [.ref a0, .int p0] (mH h0 a0 ad M) (.inl none) (mH h0 a0 ad z) := by
  refine g_start2 (Lc := [(0, .ref a0), (1, .int p0)]) (by decide) rfl rfl (by exact Nat.le_of_ble_eq_true rfl) (by rfl) fun X => ?_
  unfold Mod_clearWay at hy
  refine g_iload_n 1 (i := 1) (pc' := 1) d_Mod_clearWay_0 rfl rfl rfl ?_
  refine g_iconst (v := (0 : Int32)) (pc' := 2) d_Mod_clearWay_1 (by decide) rfl ?_
  replace hy := g_b_inv hy
  obtain ⟨x1, hf3, hy⟩ := hy
  refine g_callS (rv := some (.int x1)) (h1 := (mH h0 a0 ad M)) (pc' := 5) (As := [.int p0, .int (0 : Int32)]) (rest := []) 2 (T_Mod_wayPlace (hy := hf3)) d_Mod_clearWay_2 q2179 q2180 q135 q2181 hd_Mod_wayPlace rfl ⟨by decide, by decide⟩ (by first | exact Nat.le_of_ble_eq_true rfl | (simp only [List.map, List.sum_cons, List.sum_nil, g_cat_rf]; exact Nat.le_of_ble_eq_true rfl) | (simp only [List.map, List.sum_cons, List.sum_nil, g_cat_rf, Value.category]; decide)) rfl ?_
  refine g_istore_n (i := 2) (pc' := 6) (Lc' := [(2, .int x1), (0, .ref a0), (1, .int p0)]) d_Mod_clearWay_5 rfl (by decide) rfl rfl ?_
  refine g_aload_n 1 (i := 0) (pc' := 7) d_Mod_clearWay_6 rfl rfl rfl ?_
  refine g_iload_n 2 (i := 1) (pc' := 8) d_Mod_clearWay_7 rfl rfl rfl ?_
  refine g_iconst (v := (3 : Int32)) (pc' := 9) d_Mod_clearWay_8 (by decide) rfl ?_
  replace hy := g_b_inv hy
  obtain ⟨x4, hf6, hy⟩ := hy
  refine g_callV (rv := some (.int x4)) (h1 := (mH h0 a0 ad M)) (pc' := 12) (As := [.int p0, .int (3 : Int32)]) (rest := []) 2 (T_Mod_of ok (hy := hf6)) d_Mod_clearWay_9 (mH_look ok) rfl rfl q2186 q2188 qs52 q135 q2189 hd_Mod_of rfl ⟨by decide, by decide⟩ (by first | exact Nat.le_of_ble_eq_true rfl | (simp only [List.map, List.sum_cons, List.sum_nil, g_cat_rf]; exact Nat.le_of_ble_eq_true rfl) | (simp only [List.map, List.sum_cons, List.sum_nil, g_cat_rf, Value.category]; decide)) rfl ?_
  refine g_istore_n (i := 3) (pc' := 13) (Lc' := [(3, .int x4), (2, .int x1), (0, .ref a0), (1, .int p0)]) d_Mod_clearWay_12 rfl (by decide) rfl rfl ?_
  refine g_aload_n 2 (i := 0) (pc' := 14) d_Mod_clearWay_13 rfl rfl rfl ?_
  refine g_iload_n 1 (i := 2) (pc' := 15) d_Mod_clearWay_14 rfl rfl rfl ?_
  refine g_iload_n 0 (i := 3) (pc' := 16) d_Mod_clearWay_15 rfl rfl rfl ?_
  replace hy := g_b_inv hy
  obtain ⟨M8, hf9, hy⟩ := hy
  refine g_callV (rv := none) (h1 := (mH h0 a0 ad M8)) (pc' := 19) (As := [.int x1, .int x4]) (rest := []) 2 (T_Mod_giveUp ok (hy := hf9)) d_Mod_clearWay_16 (mH_look ok) rfl rfl q2473 q2475 qs102 q135 q2476 hd_Mod_giveUp rfl ⟨by decide, by decide⟩ (by first | exact Nat.le_of_ble_eq_true rfl | (simp only [List.map, List.sum_cons, List.sum_nil, g_cat_rf]; exact Nat.le_of_ble_eq_true rfl) | (simp only [List.map, List.sum_cons, List.sum_nil, g_cat_rf, Value.category]; decide)) rfl ?_
  refine g_aload_n 2 (i := 0) (pc' := 20) d_Mod_clearWay_19 rfl rfl rfl ?_
  refine g_iload_n 3 (i := 1) (pc' := 21) d_Mod_clearWay_20 rfl rfl rfl ?_
  refine g_iconst (v := (3 : Int32)) (pc' := 22) d_Mod_clearWay_21 (by decide) rfl ?_
  refine g_iload_n 0 (i := 3) (pc' := 23) d_Mod_clearWay_22 rfl rfl rfl ?_
  refine g_iconst (v := (1 : Int32)) (pc' := 24) d_Mod_clearWay_23 (by decide) rfl ?_
  refine g_iadd (pc' := 25) d_Mod_clearWay_24 rfl ?_
  replace hy := g_b_inv hy
  obtain ⟨M11, hf12, hy⟩ := hy
  refine g_callV (rv := none) (h1 := (mH h0 a0 ad M11)) (pc' := 28) (As := [.int p0, .int (3 : Int32), .int (x4 + (1 : Int32))]) (rest := []) 3 (T_Mod_put ok (hy := hf12)) d_Mod_clearWay_25 (mH_look ok) rfl rfl q2171 q2173 qs49 q135 q2174 hd_Mod_put rfl ⟨by decide, by decide⟩ (by first | exact Nat.le_of_ble_eq_true rfl | (simp only [List.map, List.sum_cons, List.sum_nil, g_cat_rf]; exact Nat.le_of_ble_eq_true rfl) | (simp only [List.map, List.sum_cons, List.sum_nil, g_cat_rf, Value.category]; decide)) rfl ?_
  refine g_iload_n 0 (i := 3) (pc' := 29) d_Mod_clearWay_28 rfl rfl rfl ?_
  refine g_iconst (v := (1 : Int32)) (pc' := 30) d_Mod_clearWay_29 (by decide) rfl ?_
  refine g_iadd (pc' := 31) d_Mod_clearWay_30 rfl ?_
  refine g_aload_n 2 (i := 0) (pc' := 32) d_Mod_clearWay_31 rfl rfl rfl ?_
  refine gm_getA ok 0 (pc' := 35) d_Mod_clearWay_32 rfl q1965 rfl rfl ?_
  refine g_iload_n 1 (i := 2) (pc' := 36) d_Mod_clearWay_35 rfl rfl rfl ?_
  replace hy := g_mA_inv hy
  obtain ⟨x13, hc14, hy⟩ := hy
  refine gm_ald0 ok (pc' := 37) d_Mod_clearWay_36 hc14 rfl ?_
  by_cases c15 : x13 ≤ (x4 + (1 : Int32))
  · rw [if_pos c15] at hy
    refine g_icmp_geT (pc' := 41) d_Mod_clearWay_37 c15 (by decide) ?_
    refine g_iconst (v := (0 : Int32)) (pc' := 42) d_Mod_clearWay_41 (by decide) rfl ?_
    refine g_istore (pc' := 44) (Lc' := [(4, .int (0 : Int32)), (3, .int x4), (2, .int x1), (0, .ref a0), (1, .int p0)]) d_Mod_clearWay_42 (by decide) rfl rfl ?_
    refine g_sub [3, 4, 2, 0] rfl ?_
    exact W_Mod_clearWay_44 ok _ _ _ _ _ _ hy
  · rw [if_neg c15] at hy
    refine g_icmp_geF (pc' := 40) d_Mod_clearWay_37 41 c15 (by decide) rfl ?_
    cases hy
    exact g_vret rfl rfl rfl d_Mod_clearWay_40
theorem hd_Mod_clearWay : g_dsc y_Mod_clearWay 1 := ⟨by decide +kernel, by decide +kernel, by decide +kernel⟩
/-! CircuitDeskModel.moveCircuits()V -/
abbrev y_Mod_moveCircuits : MethodName := ⟨"CircuitDeskModel", "moveCircuits", "()V"⟩
abbrev k_Mod_moveCircuits : g_M := (prog_17_method_101_code, 2, "CircuitDeskModel", 16, none, "moveCircuits", [], 0)
theorem d_Mod_moveCircuits_0 : decode prog_17_method_101_code 0 = .ok (.iconst 0, 1) := by decide +kernel
theorem d_Mod_moveCircuits_1 : decode prog_17_method_101_code 1 = .ok (.istore_n 1, 1) := by decide +kernel
theorem d_Mod_moveCircuits_2 : decode prog_17_method_101_code 2 = .ok (.iload_n 1, 1) := by decide +kernel
theorem d_Mod_moveCircuits_3 : decode prog_17_method_101_code 3 = .ok (.aload_n 0, 1) := by decide +kernel
theorem d_Mod_moveCircuits_4 : decode prog_17_method_101_code 4 = .ok (.getfield 7, 3) := by decide +kernel
theorem d_Mod_moveCircuits_7 : decode prog_17_method_101_code 7 = .ok (.iconst 4, 1) := by decide +kernel
theorem d_Mod_moveCircuits_8 : decode prog_17_method_101_code 8 = .ok (.iaload, 1) := by decide +kernel
theorem d_Mod_moveCircuits_9 : decode prog_17_method_101_code 9 = .ok (.if_icmp .ge 65, 3) := by decide +kernel
theorem d_Mod_moveCircuits_12 : decode prog_17_method_101_code 12 = .ok (.aload_n 0, 1) := by decide +kernel
theorem d_Mod_moveCircuits_13 : decode prog_17_method_101_code 13 = .ok (.iload_n 1, 1) := by decide +kernel
theorem d_Mod_moveCircuits_14 : decode prog_17_method_101_code 14 = .ok (.iconst 2, 1) := by decide +kernel
theorem d_Mod_moveCircuits_15 : decode prog_17_method_101_code 15 = .ok (.invokevirtual 150, 3) := by decide +kernel
theorem d_Mod_moveCircuits_18 : decode prog_17_method_101_code 18 = .ok (.tableswitch 50 1 3 #[26, 34, 42], 26) := by decide +kernel
theorem d_Mod_moveCircuits_44 : decode prog_17_method_101_code 44 = .ok (.aload_n 0, 1) := by decide +kernel
theorem d_Mod_moveCircuits_45 : decode prog_17_method_101_code 45 = .ok (.iload_n 1, 1) := by decide +kernel
theorem d_Mod_moveCircuits_46 : decode prog_17_method_101_code 46 = .ok (.invokevirtual 359, 3) := by decide +kernel
theorem d_Mod_moveCircuits_49 : decode prog_17_method_101_code 49 = .ok (.goto 19, 3) := by decide +kernel
theorem d_Mod_moveCircuits_52 : decode prog_17_method_101_code 52 = .ok (.aload_n 0, 1) := by decide +kernel
theorem d_Mod_moveCircuits_53 : decode prog_17_method_101_code 53 = .ok (.iload_n 1, 1) := by decide +kernel
theorem d_Mod_moveCircuits_54 : decode prog_17_method_101_code 54 = .ok (.invokevirtual 362, 3) := by decide +kernel
theorem d_Mod_moveCircuits_57 : decode prog_17_method_101_code 57 = .ok (.goto 11, 3) := by decide +kernel
theorem d_Mod_moveCircuits_60 : decode prog_17_method_101_code 60 = .ok (.aload_n 0, 1) := by decide +kernel
theorem d_Mod_moveCircuits_61 : decode prog_17_method_101_code 61 = .ok (.iload_n 1, 1) := by decide +kernel
theorem d_Mod_moveCircuits_62 : decode prog_17_method_101_code 62 = .ok (.invokevirtual 365, 3) := by decide +kernel
theorem d_Mod_moveCircuits_65 : decode prog_17_method_101_code 65 = .ok (.goto 3, 3) := by decide +kernel
theorem d_Mod_moveCircuits_68 : decode prog_17_method_101_code 68 = .ok (.iinc 1 1, 3) := by decide +kernel
theorem d_Mod_moveCircuits_71 : decode prog_17_method_101_code 71 = .ok (.goto (-69), 3) := by decide +kernel
theorem d_Mod_moveCircuits_74 : decode prog_17_method_101_code 74 = .ok (.return_, 1) := by decide +kernel
def Mod_moveCircuits_68 (k2 : g_MD → Int32 → Option g_MD) (M : g_MD) (v1 : Int32) : Option g_MD :=
  k2 M (v1 + (1 : Int32))
set_option maxHeartbeats 4000000 in
set_option maxRecDepth 100000 in
theorem W_Mod_moveCircuits_68 {X : g_X} {h0 : g_AH} {a0 : Nat} {ad : Nat → Nat} (ok : mOK a0 ad) (z : g_MD) (k2 : g_MD → Int32 → Option g_MD) (hk2 : ∀ (M : g_MD) (v1 : Int32), k2 M v1 = some z → G X k_Mod_moveCircuits (.inl none) (mH h0 a0 ad z) (mH h0 a0 ad M) 2 [(0, .ref a0), (1, .int v1)] []) (M : g_MD) (v1 : Int32) (hy : Mod_moveCircuits_68 k2 M v1 = some z) : G X k_Mod_moveCircuits (.inl none) (mH h0 a0 ad z) (mH h0 a0 ad M) 68 [(0, .ref a0), (1, .int v1)] [] := by
  unfold Mod_moveCircuits_68 at hy
  refine g_iinc 1 (v := (v1 + (1 : Int32))) (pc' := 71) (Lc' := [(1, .int (v1 + (1 : Int32))), (0, .ref a0)]) d_Mod_moveCircuits_68 rfl rfl (by decide) rfl rfl ?_
  refine g_goto (pc' := 2) d_Mod_moveCircuits_71 (by decide) ?_
  refine g_sub [1, 0] rfl ?_
  exact hk2 _ _ hy
def Mod_moveCircuits_2  : Nat → g_MD → Int32 → Option g_MD
  | 0, _, _ => none
  | n + 1, M, v1 => g_mA M 0 0 (4 : Int32) fun x1 => if x1 ≤ v1 then (some M) else (g_b (Mod_of M v1 (2 : Int32)) fun x4 => if x4 = (1 : Int32) then (g_b (Mod_build M v1) fun M9 => Mod_moveCircuits_68 (Mod_moveCircuits_2  n) M9 v1) else (if x4 = (2 : Int32) then (g_b (Mod_drain M v1) fun M13 => Mod_moveCircuits_68 (Mod_moveCircuits_2  n) M13 v1) else (if x4 = (3 : Int32) then (g_b (Mod_clearWay M v1) fun M17 => Mod_moveCircuits_68 (Mod_moveCircuits_2  n) M17 v1) else (Mod_moveCircuits_68 (Mod_moveCircuits_2  n) M v1))))
set_option maxHeartbeats 4000000 in
set_option maxRecDepth 100000 in
theorem W_Mod_moveCircuits_2 {X : g_X} {h0 : g_AH} {a0 : Nat} {ad : Nat → Nat} (ok : mOK a0 ad) (z : g_MD)  : ∀ (n : Nat) (M : g_MD) (v1 : Int32), Mod_moveCircuits_2  n M v1 = some z → G X k_Mod_moveCircuits (.inl none) (mH h0 a0 ad z) (mH h0 a0 ad M) 2 [(0, .ref a0), (1, .int v1)] [] := by
  intro n
  induction n with
  | zero => intro M v1 hy; exact absurd hy (by simp [Mod_moveCircuits_2])
  | succ n ih =>
    intro M v1 hy
    rw [Mod_moveCircuits_2] at hy
    refine g_iload_n 1 (i := 1) (pc' := 3) d_Mod_moveCircuits_2 rfl rfl rfl ?_
    refine g_aload_n 0 (i := 0) (pc' := 4) d_Mod_moveCircuits_3 rfl rfl rfl ?_
    refine gm_getA ok 0 (pc' := 7) d_Mod_moveCircuits_4 rfl q1965 rfl rfl ?_
    refine g_iconst (v := (4 : Int32)) (pc' := 8) d_Mod_moveCircuits_7 (by decide) rfl ?_
    replace hy := g_mA_inv hy
    obtain ⟨x1, hc2, hy⟩ := hy
    refine gm_ald0 ok (pc' := 9) d_Mod_moveCircuits_8 hc2 rfl ?_
    by_cases c3 : x1 ≤ v1
    · rw [if_pos c3] at hy
      refine g_icmp_geT (pc' := 74) d_Mod_moveCircuits_9 c3 (by decide) ?_
      cases hy
      exact g_vret rfl rfl rfl d_Mod_moveCircuits_74
    · rw [if_neg c3] at hy
      refine g_icmp_geF (pc' := 12) d_Mod_moveCircuits_9 74 c3 (by decide) rfl ?_
      refine g_aload_n 0 (i := 0) (pc' := 13) d_Mod_moveCircuits_12 rfl rfl rfl ?_
      refine g_iload_n 1 (i := 1) (pc' := 14) d_Mod_moveCircuits_13 rfl rfl rfl ?_
      refine g_iconst (v := (2 : Int32)) (pc' := 15) d_Mod_moveCircuits_14 (by decide) rfl ?_
      replace hy := g_b_inv hy
      obtain ⟨x4, hf6, hy⟩ := hy
      refine g_callV (rv := some (.int x4)) (h1 := (mH h0 a0 ad M)) (pc' := 18) (As := [.int v1, .int (2 : Int32)]) (rest := []) 2 (T_Mod_of ok (hy := hf6)) d_Mod_moveCircuits_15 (mH_look ok) rfl rfl q2186 q2188 qs52 q135 q2189 hd_Mod_of rfl ⟨by decide, by decide⟩ (by first | exact Nat.le_of_ble_eq_true rfl | (simp only [List.map, List.sum_cons, List.sum_nil, g_cat_rf]; exact Nat.le_of_ble_eq_true rfl) | (simp only [List.map, List.sum_cons, List.sum_nil, g_cat_rf, Value.category]; decide)) rfl ?_
      by_cases c7 : x4 = (1 : Int32)
      · rw [if_pos c7] at hy
        refine g_tableIn (pc' := 44) (1 : Int32) d_Mod_moveCircuits_18 c7 (by decide) rfl (by decide) ?_
        refine g_aload_n 0 (i := 0) (pc' := 45) d_Mod_moveCircuits_44 rfl rfl rfl ?_
        refine g_iload_n 1 (i := 1) (pc' := 46) d_Mod_moveCircuits_45 rfl rfl rfl ?_
        replace hy := g_b_inv hy
        obtain ⟨M9, hf10, hy⟩ := hy
        refine g_callV (rv := none) (h1 := (mH h0 a0 ad M9)) (pc' := 49) (As := [.int v1]) (rest := []) 1 (T_Mod_build ok (hy := hf10)) d_Mod_moveCircuits_46 (mH_look ok) rfl rfl q2457 q2459 qs98 q135 q2460 hd_Mod_build rfl ⟨by decide, by decide⟩ (by first | exact Nat.le_of_ble_eq_true rfl | (simp only [List.map, List.sum_cons, List.sum_nil, g_cat_rf]; exact Nat.le_of_ble_eq_true rfl) | (simp only [List.map, List.sum_cons, List.sum_nil, g_cat_rf, Value.category]; decide)) rfl ?_
        refine g_goto (pc' := 68) d_Mod_moveCircuits_49 (by decide) ?_
        exact W_Mod_moveCircuits_68 ok _ _ ih _ _ hy
      · rw [if_neg c7] at hy
        by_cases c11 : x4 = (2 : Int32)
        · rw [if_pos c11] at hy
          refine g_tableIn (pc' := 52) (2 : Int32) d_Mod_moveCircuits_18 c11 (by decide) rfl (by decide) ?_
          refine g_aload_n 0 (i := 0) (pc' := 53) d_Mod_moveCircuits_52 rfl rfl rfl ?_
          refine g_iload_n 1 (i := 1) (pc' := 54) d_Mod_moveCircuits_53 rfl rfl rfl ?_
          replace hy := g_b_inv hy
          obtain ⟨M13, hf14, hy⟩ := hy
          refine g_callV (rv := none) (h1 := (mH h0 a0 ad M13)) (pc' := 57) (As := [.int v1]) (rest := []) 1 (T_Mod_drain ok (hy := hf14)) d_Mod_moveCircuits_54 (mH_look ok) rfl rfl q2465 q2467 qs100 q135 q2468 hd_Mod_drain rfl ⟨by decide, by decide⟩ (by first | exact Nat.le_of_ble_eq_true rfl | (simp only [List.map, List.sum_cons, List.sum_nil, g_cat_rf]; exact Nat.le_of_ble_eq_true rfl) | (simp only [List.map, List.sum_cons, List.sum_nil, g_cat_rf, Value.category]; decide)) rfl ?_
          refine g_goto (pc' := 68) d_Mod_moveCircuits_57 (by decide) ?_
          exact W_Mod_moveCircuits_68 ok _ _ ih _ _ hy
        · rw [if_neg c11] at hy
          by_cases c15 : x4 = (3 : Int32)
          · rw [if_pos c15] at hy
            refine g_tableIn (pc' := 60) (3 : Int32) d_Mod_moveCircuits_18 c15 (by decide) rfl (by decide) ?_
            refine g_aload_n 0 (i := 0) (pc' := 61) d_Mod_moveCircuits_60 rfl rfl rfl ?_
            refine g_iload_n 1 (i := 1) (pc' := 62) d_Mod_moveCircuits_61 rfl rfl rfl ?_
            replace hy := g_b_inv hy
            obtain ⟨M17, hf18, hy⟩ := hy
            refine g_callV (rv := none) (h1 := (mH h0 a0 ad M17)) (pc' := 65) (As := [.int v1]) (rest := []) 1 (T_Mod_clearWay ok (hy := hf18)) d_Mod_moveCircuits_62 (mH_look ok) rfl rfl q2469 q2471 qs101 q135 q2472 hd_Mod_clearWay rfl ⟨by decide, by decide⟩ (by first | exact Nat.le_of_ble_eq_true rfl | (simp only [List.map, List.sum_cons, List.sum_nil, g_cat_rf]; exact Nat.le_of_ble_eq_true rfl) | (simp only [List.map, List.sum_cons, List.sum_nil, g_cat_rf, Value.category]; decide)) rfl ?_
            refine g_goto (pc' := 68) d_Mod_moveCircuits_65 (by decide) ?_
            exact W_Mod_moveCircuits_68 ok _ _ ih _ _ hy
          · rw [if_neg c15] at hy
            have c7 := g_neI (n := 1) (by decide) c7
            have c11 := g_neI (n := 2) (by decide) c11
            have c15 := g_neI (n := 3) (by decide) c15
            refine g_tableOut (pc' := 68) d_Mod_moveCircuits_18 (by omega) (by decide) ?_
            exact W_Mod_moveCircuits_68 ok _ _ ih _ _ hy
def Mod_moveCircuits (M : g_MD)  : Option g_MD :=
  Mod_moveCircuits_2  gFU M (0 : Int32)
set_option maxHeartbeats 4000000 in
set_option maxRecDepth 100000 in
theorem T_Mod_moveCircuits {l : Launch} {B : g_B} {h0 : g_AH} {a0 : Nat} {ad : Nat → Nat} (ok : mOK a0 ad) (M : g_MD)  (z : g_MD) (hy : Mod_moveCircuits M  = some z) : g_CT l B y_Mod_moveCircuits k_Mod_moveCircuits [.ref a0] (mH h0 a0 ad M) (.inl none) (mH h0 a0 ad z) := by
  refine g_start2 (Lc := [(0, .ref a0)]) (by decide) rfl rfl (by exact Nat.le_of_ble_eq_true rfl) (by rfl) fun X => ?_
  unfold Mod_moveCircuits at hy
  refine g_iconst (v := (0 : Int32)) (pc' := 1) d_Mod_moveCircuits_0 (by decide) rfl ?_
  refine g_istore_n (i := 1) (pc' := 2) (Lc' := [(1, .int (0 : Int32)), (0, .ref a0)]) d_Mod_moveCircuits_1 rfl (by decide) rfl rfl ?_
  refine g_sub [1, 0] rfl ?_
  exact W_Mod_moveCircuits_2 ok _ _ _ _ hy
theorem hd_Mod_moveCircuits : g_dsc y_Mod_moveCircuits 0 := ⟨by decide +kernel, by decide +kernel, by decide +kernel⟩
/-! CircuitDeskModel.activePlace(I)I -/
abbrev y_Mod_activePlace : MethodName := ⟨"CircuitDeskModel", "activePlace", "(I)I"⟩
abbrev k_Mod_activePlace : g_M := (prog_17_method_102_code, 2, "CircuitDeskModel", 13, (some FieldType.int), "activePlace", [], 0)
theorem d_Mod_activePlace_0 : decode prog_17_method_102_code 0 = .ok (.iload_n 1, 1) := by decide +kernel
theorem d_Mod_activePlace_1 : decode prog_17_method_102_code 1 = .ok (.aload_n 0, 1) := by decide +kernel
theorem d_Mod_activePlace_2 : decode prog_17_method_102_code 2 = .ok (.iload_n 1, 1) := by decide +kernel
theorem d_Mod_activePlace_3 : decode prog_17_method_102_code 3 = .ok (.iconst 2, 1) := by decide +kernel
theorem d_Mod_activePlace_4 : decode prog_17_method_102_code 4 = .ok (.invokevirtual 150, 3) := by decide +kernel
theorem d_Mod_activePlace_7 : decode prog_17_method_102_code 7 = .ok (.iconst 1, 1) := by decide +kernel
theorem d_Mod_activePlace_8 : decode prog_17_method_102_code 8 = .ok (.if_icmp .le 7, 3) := by decide +kernel
theorem d_Mod_activePlace_11 : decode prog_17_method_102_code 11 = .ok (.iconst 1, 1) := by decide +kernel
theorem d_Mod_activePlace_12 : decode prog_17_method_102_code 12 = .ok (.goto 4, 3) := by decide +kernel
theorem d_Mod_activePlace_15 : decode prog_17_method_102_code 15 = .ok (.iconst 0, 1) := by decide +kernel
theorem d_Mod_activePlace_16 : decode prog_17_method_102_code 16 = .ok (.invokestatic 144, 3) := by decide +kernel
theorem d_Mod_activePlace_19 : decode prog_17_method_102_code 19 = .ok (.ireturn, 1) := by decide +kernel
def Mod_activePlace_16 (M : g_MD) (s0 : Int32) (s1 : Int32) : Option (Int32) :=
  g_b (Mod_wayPlace s1 s0) fun x5 => some x5
set_option maxHeartbeats 4000000 in
set_option maxRecDepth 100000 in
theorem W_Mod_activePlace_16 {X : g_X} {h0 : g_AH} {a0 : Nat} {ad : Nat → Nat} (ok : mOK a0 ad) (M : g_MD) (z : Int32) (s0 : Int32) (s1 : Int32) (hy : Mod_activePlace_16 M  s0 s1 = some z) : G X k_Mod_activePlace (.inl (some (.int z))) (mH h0 a0 ad M) (mH h0 a0 ad M) 16 [] [.int s0, .int s1] := by
  unfold Mod_activePlace_16 at hy
  replace hy := g_b_inv hy
  obtain ⟨x5, hf7, hy⟩ := hy
  refine g_callS (rv := some (.int x5)) (h1 := (mH h0 a0 ad M)) (pc' := 19) (As := [.int s1, .int s0]) (rest := []) 2 (T_Mod_wayPlace (hy := hf7)) d_Mod_activePlace_16 q2179 q2180 q135 q2181 hd_Mod_wayPlace rfl ⟨by decide, by decide⟩ (by first | exact Nat.le_of_ble_eq_true rfl | (simp only [List.map, List.sum_cons, List.sum_nil, g_cat_rf]; exact Nat.le_of_ble_eq_true rfl) | (simp only [List.map, List.sum_cons, List.sum_nil, g_cat_rf, Value.category]; decide)) rfl ?_
  cases hy
  exact g_iret rfl rfl rfl d_Mod_activePlace_19
def Mod_activePlace (M : g_MD) (p0 : Int32) : Option (Int32) :=
  g_b (Mod_of M p0 (2 : Int32)) fun x1 => if x1 ≤ (1 : Int32) then (Mod_activePlace_16 M  (0 : Int32) p0) else (Mod_activePlace_16 M  (1 : Int32) p0)
set_option maxHeartbeats 4000000 in
set_option maxRecDepth 100000 in
theorem T_Mod_activePlace {l : Launch} {B : g_B} {h0 : g_AH} {a0 : Nat} {ad : Nat → Nat} (ok : mOK a0 ad) (M : g_MD) (p0 : Int32) (z : Int32) (hy : Mod_activePlace M p0 = some z) : g_CT l B y_Mod_activePlace k_Mod_activePlace [.ref a0, .int p0] (mH h0 a0 ad M) (.inl (some (.int z))) (mH h0 a0 ad M) := by
  refine g_start2 (Lc := [(0, .ref a0), (1, .int p0)]) (by decide) rfl rfl (by exact Nat.le_of_ble_eq_true rfl) (by rfl) fun X => ?_
  unfold Mod_activePlace at hy
  refine g_iload_n 1 (i := 1) (pc' := 1) d_Mod_activePlace_0 rfl rfl rfl ?_
  refine g_aload_n 0 (i := 0) (pc' := 2) d_Mod_activePlace_1 rfl rfl rfl ?_
  refine g_iload_n 1 (i := 1) (pc' := 3) d_Mod_activePlace_2 rfl rfl rfl ?_
  refine g_iconst (v := (2 : Int32)) (pc' := 4) d_Mod_activePlace_3 (by decide) rfl ?_
  replace hy := g_b_inv hy
  obtain ⟨x1, hf3, hy⟩ := hy
  refine g_callV (rv := some (.int x1)) (h1 := (mH h0 a0 ad M)) (pc' := 7) (As := [.int p0, .int (2 : Int32)]) (rest := [.int p0]) 2 (T_Mod_of ok (hy := hf3)) d_Mod_activePlace_4 (mH_look ok) rfl rfl q2186 q2188 qs52 q135 q2189 hd_Mod_of rfl ⟨by decide, by decide⟩ (by first | exact Nat.le_of_ble_eq_true rfl | (simp only [List.map, List.sum_cons, List.sum_nil, g_cat_rf]; exact Nat.le_of_ble_eq_true rfl) | (simp only [List.map, List.sum_cons, List.sum_nil, g_cat_rf, Value.category]; decide)) rfl ?_
  refine g_iconst (v := (1 : Int32)) (pc' := 8) d_Mod_activePlace_7 (by decide) rfl ?_
  by_cases c4 : x1 ≤ (1 : Int32)
  · rw [if_pos c4] at hy
    refine g_icmp_leT (pc' := 15) d_Mod_activePlace_8 c4 (by decide) ?_
    refine g_iconst (v := (0 : Int32)) (pc' := 16) d_Mod_activePlace_15 (by decide) rfl ?_
    refine g_sub [] rfl ?_
    exact W_Mod_activePlace_16 ok _ _ _ _ hy
  · rw [if_neg c4] at hy
    refine g_icmp_leF (pc' := 11) d_Mod_activePlace_8 15 c4 (by decide) rfl ?_
    refine g_iconst (v := (1 : Int32)) (pc' := 12) d_Mod_activePlace_11 (by decide) rfl ?_
    refine g_goto (pc' := 16) d_Mod_activePlace_12 (by decide) ?_
    refine g_sub [] rfl ?_
    exact W_Mod_activePlace_16 ok _ _ _ _ hy
theorem hd_Mod_activePlace : g_dsc y_Mod_activePlace 1 := ⟨by decide +kernel, by decide +kernel, by decide +kernel⟩
/-! CircuitDeskModel.sendPacket(I)V -/
abbrev y_Mod_sendPacket : MethodName := ⟨"CircuitDeskModel", "sendPacket", "(I)V"⟩
abbrev k_Mod_sendPacket : g_M := (prog_17_method_103_code, 4, "CircuitDeskModel", 15, none, "sendPacket", [], 0)
theorem d_Mod_sendPacket_0 : decode prog_17_method_103_code 0 = .ok (.aload_n 0, 1) := by decide +kernel
theorem d_Mod_sendPacket_1 : decode prog_17_method_103_code 1 = .ok (.getfield 7, 3) := by decide +kernel
theorem d_Mod_sendPacket_4 : decode prog_17_method_103_code 4 = .ok (.bipush 6, 2) := by decide +kernel
theorem d_Mod_sendPacket_6 : decode prog_17_method_103_code 6 = .ok (.iaload, 1) := by decide +kernel
theorem d_Mod_sendPacket_7 : decode prog_17_method_103_code 7 = .ok (.istore_n 2, 1) := by decide +kernel
theorem d_Mod_sendPacket_8 : decode prog_17_method_103_code 8 = .ok (.sipush 632, 3) := by decide +kernel
theorem d_Mod_sendPacket_11 : decode prog_17_method_103_code 11 = .ok (.bipush 8, 2) := by decide +kernel
theorem d_Mod_sendPacket_13 : decode prog_17_method_103_code 13 = .ok (.iload_n 2, 1) := by decide +kernel
theorem d_Mod_sendPacket_14 : decode prog_17_method_103_code 14 = .ok (.imul, 1) := by decide +kernel
theorem d_Mod_sendPacket_15 : decode prog_17_method_103_code 15 = .ok (.iadd, 1) := by decide +kernel
theorem d_Mod_sendPacket_16 : decode prog_17_method_103_code 16 = .ok (.istore_n 3, 1) := by decide +kernel
theorem d_Mod_sendPacket_17 : decode prog_17_method_103_code 17 = .ok (.aload_n 0, 1) := by decide +kernel
theorem d_Mod_sendPacket_18 : decode prog_17_method_103_code 18 = .ok (.getfield 7, 3) := by decide +kernel
theorem d_Mod_sendPacket_21 : decode prog_17_method_103_code 21 = .ok (.iload_n 3, 1) := by decide +kernel
theorem d_Mod_sendPacket_22 : decode prog_17_method_103_code 22 = .ok (.iconst 0, 1) := by decide +kernel
theorem d_Mod_sendPacket_23 : decode prog_17_method_103_code 23 = .ok (.iadd, 1) := by decide +kernel
theorem d_Mod_sendPacket_24 : decode prog_17_method_103_code 24 = .ok (.iload_n 1, 1) := by decide +kernel
theorem d_Mod_sendPacket_25 : decode prog_17_method_103_code 25 = .ok (.iastore, 1) := by decide +kernel
theorem d_Mod_sendPacket_26 : decode prog_17_method_103_code 26 = .ok (.aload_n 0, 1) := by decide +kernel
theorem d_Mod_sendPacket_27 : decode prog_17_method_103_code 27 = .ok (.getfield 7, 3) := by decide +kernel
theorem d_Mod_sendPacket_30 : decode prog_17_method_103_code 30 = .ok (.iload_n 3, 1) := by decide +kernel
theorem d_Mod_sendPacket_31 : decode prog_17_method_103_code 31 = .ok (.iconst 1, 1) := by decide +kernel
theorem d_Mod_sendPacket_32 : decode prog_17_method_103_code 32 = .ok (.iadd, 1) := by decide +kernel
theorem d_Mod_sendPacket_33 : decode prog_17_method_103_code 33 = .ok (.aload_n 0, 1) := by decide +kernel
theorem d_Mod_sendPacket_34 : decode prog_17_method_103_code 34 = .ok (.iload_n 1, 1) := by decide +kernel
theorem d_Mod_sendPacket_35 : decode prog_17_method_103_code 35 = .ok (.bipush 6, 2) := by decide +kernel
theorem d_Mod_sendPacket_37 : decode prog_17_method_103_code 37 = .ok (.invokevirtual 150, 3) := by decide +kernel
theorem d_Mod_sendPacket_40 : decode prog_17_method_103_code 40 = .ok (.iastore, 1) := by decide +kernel
theorem d_Mod_sendPacket_41 : decode prog_17_method_103_code 41 = .ok (.aload_n 0, 1) := by decide +kernel
theorem d_Mod_sendPacket_42 : decode prog_17_method_103_code 42 = .ok (.getfield 7, 3) := by decide +kernel
theorem d_Mod_sendPacket_45 : decode prog_17_method_103_code 45 = .ok (.iload_n 3, 1) := by decide +kernel
theorem d_Mod_sendPacket_46 : decode prog_17_method_103_code 46 = .ok (.bipush 7, 2) := by decide +kernel
theorem d_Mod_sendPacket_48 : decode prog_17_method_103_code 48 = .ok (.iadd, 1) := by decide +kernel
theorem d_Mod_sendPacket_49 : decode prog_17_method_103_code 49 = .ok (.aload_n 0, 1) := by decide +kernel
theorem d_Mod_sendPacket_50 : decode prog_17_method_103_code 50 = .ok (.getfield 7, 3) := by decide +kernel
theorem d_Mod_sendPacket_53 : decode prog_17_method_103_code 53 = .ok (.iconst 5, 1) := by decide +kernel
theorem d_Mod_sendPacket_54 : decode prog_17_method_103_code 54 = .ok (.iaload, 1) := by decide +kernel
theorem d_Mod_sendPacket_55 : decode prog_17_method_103_code 55 = .ok (.iconst 1, 1) := by decide +kernel
theorem d_Mod_sendPacket_56 : decode prog_17_method_103_code 56 = .ok (.iadd, 1) := by decide +kernel
theorem d_Mod_sendPacket_57 : decode prog_17_method_103_code 57 = .ok (.iastore, 1) := by decide +kernel
theorem d_Mod_sendPacket_58 : decode prog_17_method_103_code 58 = .ok (.aload_n 0, 1) := by decide +kernel
theorem d_Mod_sendPacket_59 : decode prog_17_method_103_code 59 = .ok (.getfield 7, 3) := by decide +kernel
theorem d_Mod_sendPacket_62 : decode prog_17_method_103_code 62 = .ok (.bipush 6, 2) := by decide +kernel
theorem d_Mod_sendPacket_64 : decode prog_17_method_103_code 64 = .ok (.dup2, 1) := by decide +kernel
theorem d_Mod_sendPacket_65 : decode prog_17_method_103_code 65 = .ok (.iaload, 1) := by decide +kernel
theorem d_Mod_sendPacket_66 : decode prog_17_method_103_code 66 = .ok (.iconst 1, 1) := by decide +kernel
theorem d_Mod_sendPacket_67 : decode prog_17_method_103_code 67 = .ok (.iadd, 1) := by decide +kernel
theorem d_Mod_sendPacket_68 : decode prog_17_method_103_code 68 = .ok (.iastore, 1) := by decide +kernel
theorem d_Mod_sendPacket_69 : decode prog_17_method_103_code 69 = .ok (.aload_n 0, 1) := by decide +kernel
theorem d_Mod_sendPacket_70 : decode prog_17_method_103_code 70 = .ok (.getfield 7, 3) := by decide +kernel
theorem d_Mod_sendPacket_73 : decode prog_17_method_103_code 73 = .ok (.bipush 7, 2) := by decide +kernel
theorem d_Mod_sendPacket_75 : decode prog_17_method_103_code 75 = .ok (.dup2, 1) := by decide +kernel
theorem d_Mod_sendPacket_76 : decode prog_17_method_103_code 76 = .ok (.iaload, 1) := by decide +kernel
theorem d_Mod_sendPacket_77 : decode prog_17_method_103_code 77 = .ok (.iconst 1, 1) := by decide +kernel
theorem d_Mod_sendPacket_78 : decode prog_17_method_103_code 78 = .ok (.iadd, 1) := by decide +kernel
theorem d_Mod_sendPacket_79 : decode prog_17_method_103_code 79 = .ok (.iastore, 1) := by decide +kernel
theorem d_Mod_sendPacket_80 : decode prog_17_method_103_code 80 = .ok (.aload_n 0, 1) := by decide +kernel
theorem d_Mod_sendPacket_81 : decode prog_17_method_103_code 81 = .ok (.iload_n 1, 1) := by decide +kernel
theorem d_Mod_sendPacket_82 : decode prog_17_method_103_code 82 = .ok (.bipush 6, 2) := by decide +kernel
theorem d_Mod_sendPacket_84 : decode prog_17_method_103_code 84 = .ok (.iconst 1, 1) := by decide +kernel
theorem d_Mod_sendPacket_85 : decode prog_17_method_103_code 85 = .ok (.invokevirtual 338, 3) := by decide +kernel
theorem d_Mod_sendPacket_88 : decode prog_17_method_103_code 88 = .ok (.aload_n 0, 1) := by decide +kernel
theorem d_Mod_sendPacket_89 : decode prog_17_method_103_code 89 = .ok (.iload_n 1, 1) := by decide +kernel
theorem d_Mod_sendPacket_90 : decode prog_17_method_103_code 90 = .ok (.iconst 5, 1) := by decide +kernel
theorem d_Mod_sendPacket_91 : decode prog_17_method_103_code 91 = .ok (.iconst (-1), 1) := by decide +kernel
theorem d_Mod_sendPacket_92 : decode prog_17_method_103_code 92 = .ok (.invokevirtual 338, 3) := by decide +kernel
theorem d_Mod_sendPacket_95 : decode prog_17_method_103_code 95 = .ok (.aload_n 0, 1) := by decide +kernel
theorem d_Mod_sendPacket_96 : decode prog_17_method_103_code 96 = .ok (.iload_n 2, 1) := by decide +kernel
theorem d_Mod_sendPacket_97 : decode prog_17_method_103_code 97 = .ok (.aload_n 0, 1) := by decide +kernel
theorem d_Mod_sendPacket_98 : decode prog_17_method_103_code 98 = .ok (.iload_n 1, 1) := by decide +kernel
theorem d_Mod_sendPacket_99 : decode prog_17_method_103_code 99 = .ok (.invokevirtual 368, 3) := by decide +kernel
theorem d_Mod_sendPacket_102 : decode prog_17_method_103_code 102 = .ok (.iconst 1, 1) := by decide +kernel
theorem d_Mod_sendPacket_103 : decode prog_17_method_103_code 103 = .ok (.invokevirtual 347, 3) := by decide +kernel
theorem d_Mod_sendPacket_106 : decode prog_17_method_103_code 106 = .ok (.aload_n 0, 1) := by decide +kernel
theorem d_Mod_sendPacket_107 : decode prog_17_method_103_code 107 = .ok (.aload_n 0, 1) := by decide +kernel
theorem d_Mod_sendPacket_108 : decode prog_17_method_103_code 108 = .ok (.iload_n 2, 1) := by decide +kernel
theorem d_Mod_sendPacket_109 : decode prog_17_method_103_code 109 = .ok (.iconst 2, 1) := by decide +kernel
theorem d_Mod_sendPacket_110 : decode prog_17_method_103_code 110 = .ok (.invokevirtual 217, 3) := by decide +kernel
theorem d_Mod_sendPacket_113 : decode prog_17_method_103_code 113 = .ok (.iconst 4, 1) := by decide +kernel
theorem d_Mod_sendPacket_114 : decode prog_17_method_103_code 114 = .ok (.invokevirtual 201, 3) := by decide +kernel
theorem d_Mod_sendPacket_117 : decode prog_17_method_103_code 117 = .ok (.ifCond .ne 8, 3) := by decide +kernel
theorem d_Mod_sendPacket_120 : decode prog_17_method_103_code 120 = .ok (.aload_n 0, 1) := by decide +kernel
theorem d_Mod_sendPacket_121 : decode prog_17_method_103_code 121 = .ok (.iload_n 2, 1) := by decide +kernel
theorem d_Mod_sendPacket_122 : decode prog_17_method_103_code 122 = .ok (.invokevirtual 220, 3) := by decide +kernel
theorem d_Mod_sendPacket_125 : decode prog_17_method_103_code 125 = .ok (.return_, 1) := by decide +kernel
def Mod_sendPacket (M : g_MD) (p0 : Int32) : Option g_MD :=
  g_mA M 0 0 (6 : Int32) fun x1 => g_mS M 0 0 (((632 : Int32) + ((8 : Int32) * x1)) + (0 : Int32)) p0 fun M3 => g_b (Mod_of M3 p0 (6 : Int32)) fun x5 => g_mS M3 0 0 (((632 : Int32) + ((8 : Int32) * x1)) + (1 : Int32)) x5 fun M8 => g_mA M8 0 0 (5 : Int32) fun x10 => g_mS M8 0 0 (((632 : Int32) + ((8 : Int32) * x1)) + (7 : Int32)) (x10 + (1 : Int32)) fun M12 => g_mA M12 0 0 (6 : Int32) fun x14 => g_mS M12 0 0 (6 : Int32) (x14 + (1 : Int32)) fun M16 => g_mA M16 0 0 (7 : Int32) fun x18 => g_mS M16 0 0 (7 : Int32) (x18 + (1 : Int32)) fun M20 => g_b (Mod_grow M20 p0 (6 : Int32) (1 : Int32)) fun M23 => g_b (Mod_grow M23 p0 (5 : Int32) (-1 : Int32)) fun M26 => g_b (Mod_activePlace M26 p0) fun x28 => g_b (Mod_setOut M26 x1 x28 (1 : Int32)) fun M32 => g_b (Mod_ofPacket M32 x1 (2 : Int32)) fun x34 => g_b (Mod_ofLink M32 x34 (4 : Int32)) fun x37 => if x37 = 0 then (g_b (Mod_losePacket M32 x1) fun M42 => some M42) else (some M32)
set_option maxHeartbeats 4000000 in
set_option maxRecDepth 100000 in
theorem T_Mod_sendPacket {l : Launch} {B : g_B} {h0 : g_AH} {a0 : Nat} {ad : Nat → Nat} (ok : mOK a0 ad) (M : g_MD) (p0 : Int32) (z : g_MD) (hy : Mod_sendPacket M p0 = some z) : g_CT l B y_Mod_sendPacket k_Mod_sendPacket [.ref a0, .int p0] (mH h0 a0 ad M) (.inl none) (mH h0 a0 ad z) := by
  refine g_start2 (Lc := [(0, .ref a0), (1, .int p0)]) (by decide) rfl rfl (by exact Nat.le_of_ble_eq_true rfl) (by rfl) fun X => ?_
  unfold Mod_sendPacket at hy
  refine g_aload_n 0 (i := 0) (pc' := 1) d_Mod_sendPacket_0 rfl rfl rfl ?_
  refine gm_getA ok 0 (pc' := 4) d_Mod_sendPacket_1 rfl q1965 rfl rfl ?_
  refine g_bipush (v := (6 : Int32)) (pc' := 6) d_Mod_sendPacket_4 (by decide) rfl ?_
  replace hy := g_mA_inv hy
  obtain ⟨x1, hc2, hy⟩ := hy
  refine gm_ald0 ok (pc' := 7) d_Mod_sendPacket_6 hc2 rfl ?_
  refine g_istore_n (i := 2) (pc' := 8) (Lc' := [(2, .int x1), (0, .ref a0), (1, .int p0)]) d_Mod_sendPacket_7 rfl (by decide) rfl rfl ?_
  refine g_sipush (v := (632 : Int32)) (pc' := 11) d_Mod_sendPacket_8 (by decide) rfl ?_
  refine g_bipush (v := (8 : Int32)) (pc' := 13) d_Mod_sendPacket_11 (by decide) rfl ?_
  refine g_iload_n 0 (i := 2) (pc' := 14) d_Mod_sendPacket_13 rfl rfl rfl ?_
  refine g_imul (pc' := 15) d_Mod_sendPacket_14 rfl ?_
  refine g_iadd (pc' := 16) d_Mod_sendPacket_15 rfl ?_
  refine g_istore_n (i := 3) (pc' := 17) (Lc' := [(3, .int ((632 : Int32) + ((8 : Int32) * x1))), (2, .int x1), (0, .ref a0), (1, .int p0)]) d_Mod_sendPacket_16 rfl (by decide) rfl rfl ?_
  refine g_aload_n 2 (i := 0) (pc' := 18) d_Mod_sendPacket_17 rfl rfl rfl ?_
  refine gm_getA ok 0 (pc' := 21) d_Mod_sendPacket_18 rfl q1965 rfl rfl ?_
  refine g_iload_n 0 (i := 3) (pc' := 22) d_Mod_sendPacket_21 rfl rfl rfl ?_
  refine g_iconst (v := (0 : Int32)) (pc' := 23) d_Mod_sendPacket_22 (by decide) rfl ?_
  refine g_iadd (pc' := 24) d_Mod_sendPacket_23 rfl ?_
  refine g_iload_n 3 (i := 1) (pc' := 25) d_Mod_sendPacket_24 rfl rfl rfl ?_
  replace hy := g_mS_inv hy
  obtain ⟨hc4, hy⟩ := hy
  refine gm_ast0 ok (pc' := 26) d_Mod_sendPacket_25 hc4 rfl ?_
  generalize ms M 0 ((((632 : Int32) + ((8 : Int32) * x1)) + (0 : Int32))).toNatClampNeg p0 = M3 at hy ⊢
  refine g_aload_n 2 (i := 0) (pc' := 27) d_Mod_sendPacket_26 rfl rfl rfl ?_
  refine gm_getA ok 0 (pc' := 30) d_Mod_sendPacket_27 rfl q1965 rfl rfl ?_
  refine g_iload_n 0 (i := 3) (pc' := 31) d_Mod_sendPacket_30 rfl rfl rfl ?_
  refine g_iconst (v := (1 : Int32)) (pc' := 32) d_Mod_sendPacket_31 (by decide) rfl ?_
  refine g_iadd (pc' := 33) d_Mod_sendPacket_32 rfl ?_
  refine g_aload_n 2 (i := 0) (pc' := 34) d_Mod_sendPacket_33 rfl rfl rfl ?_
  refine g_iload_n 3 (i := 1) (pc' := 35) d_Mod_sendPacket_34 rfl rfl rfl ?_
  refine g_bipush (v := (6 : Int32)) (pc' := 37) d_Mod_sendPacket_35 (by decide) rfl ?_
  replace hy := g_b_inv hy
  obtain ⟨x5, hf7, hy⟩ := hy
  refine g_callV (rv := some (.int x5)) (h1 := (mH h0 a0 ad M3)) (pc' := 40) (As := [.int p0, .int (6 : Int32)]) (rest := [.int (((632 : Int32) + ((8 : Int32) * x1)) + (1 : Int32)), .ref (ad 0)]) 2 (T_Mod_of ok (hy := hf7)) d_Mod_sendPacket_37 (mH_look ok) rfl rfl q2186 q2188 qs52 q135 q2189 hd_Mod_of rfl ⟨by decide, by decide⟩ (by first | exact Nat.le_of_ble_eq_true rfl | (simp only [List.map, List.sum_cons, List.sum_nil, g_cat_rf]; exact Nat.le_of_ble_eq_true rfl) | (simp only [List.map, List.sum_cons, List.sum_nil, g_cat_rf, Value.category]; decide)) rfl ?_
  replace hy := g_mS_inv hy
  obtain ⟨hc9, hy⟩ := hy
  refine gm_ast0 ok (pc' := 41) d_Mod_sendPacket_40 hc9 rfl ?_
  generalize ms M3 0 ((((632 : Int32) + ((8 : Int32) * x1)) + (1 : Int32))).toNatClampNeg x5 = M8 at hy ⊢
  refine g_aload_n 2 (i := 0) (pc' := 42) d_Mod_sendPacket_41 rfl rfl rfl ?_
  refine gm_getA ok 0 (pc' := 45) d_Mod_sendPacket_42 rfl q1965 rfl rfl ?_
  refine g_iload_n 0 (i := 3) (pc' := 46) d_Mod_sendPacket_45 rfl rfl rfl ?_
  refine g_bipush (v := (7 : Int32)) (pc' := 48) d_Mod_sendPacket_46 (by decide) rfl ?_
  refine g_iadd (pc' := 49) d_Mod_sendPacket_48 rfl ?_
  refine g_aload_n 2 (i := 0) (pc' := 50) d_Mod_sendPacket_49 rfl rfl rfl ?_
  refine gm_getA ok 0 (pc' := 53) d_Mod_sendPacket_50 rfl q1965 rfl rfl ?_
  refine g_iconst (v := (5 : Int32)) (pc' := 54) d_Mod_sendPacket_53 (by decide) rfl ?_
  replace hy := g_mA_inv hy
  obtain ⟨x10, hc11, hy⟩ := hy
  refine gm_ald0 ok (pc' := 55) d_Mod_sendPacket_54 hc11 rfl ?_
  refine g_iconst (v := (1 : Int32)) (pc' := 56) d_Mod_sendPacket_55 (by decide) rfl ?_
  refine g_iadd (pc' := 57) d_Mod_sendPacket_56 rfl ?_
  replace hy := g_mS_inv hy
  obtain ⟨hc13, hy⟩ := hy
  refine gm_ast0 ok (pc' := 58) d_Mod_sendPacket_57 hc13 rfl ?_
  generalize ms M8 0 ((((632 : Int32) + ((8 : Int32) * x1)) + (7 : Int32))).toNatClampNeg (x10 + (1 : Int32)) = M12 at hy ⊢
  refine g_aload_n 2 (i := 0) (pc' := 59) d_Mod_sendPacket_58 rfl rfl rfl ?_
  refine gm_getA ok 0 (pc' := 62) d_Mod_sendPacket_59 rfl q1965 rfl rfl ?_
  refine g_bipush (v := (6 : Int32)) (pc' := 64) d_Mod_sendPacket_62 (by decide) rfl ?_
  refine g_dup2 (pc' := 65) d_Mod_sendPacket_64 rfl rfl rfl ?_
  replace hy := g_mA_inv hy
  obtain ⟨x14, hc15, hy⟩ := hy
  refine gm_ald0 ok (pc' := 66) d_Mod_sendPacket_65 hc15 rfl ?_
  refine g_iconst (v := (1 : Int32)) (pc' := 67) d_Mod_sendPacket_66 (by decide) rfl ?_
  refine g_iadd (pc' := 68) d_Mod_sendPacket_67 rfl ?_
  replace hy := g_mS_inv hy
  obtain ⟨hc17, hy⟩ := hy
  refine gm_ast0 ok (pc' := 69) d_Mod_sendPacket_68 hc17 rfl ?_
  generalize ms M12 0 ((6 : Int32)).toNatClampNeg (x14 + (1 : Int32)) = M16 at hy ⊢
  refine g_aload_n 2 (i := 0) (pc' := 70) d_Mod_sendPacket_69 rfl rfl rfl ?_
  refine gm_getA ok 0 (pc' := 73) d_Mod_sendPacket_70 rfl q1965 rfl rfl ?_
  refine g_bipush (v := (7 : Int32)) (pc' := 75) d_Mod_sendPacket_73 (by decide) rfl ?_
  refine g_dup2 (pc' := 76) d_Mod_sendPacket_75 rfl rfl rfl ?_
  replace hy := g_mA_inv hy
  obtain ⟨x18, hc19, hy⟩ := hy
  refine gm_ald0 ok (pc' := 77) d_Mod_sendPacket_76 hc19 rfl ?_
  refine g_iconst (v := (1 : Int32)) (pc' := 78) d_Mod_sendPacket_77 (by decide) rfl ?_
  refine g_iadd (pc' := 79) d_Mod_sendPacket_78 rfl ?_
  replace hy := g_mS_inv hy
  obtain ⟨hc21, hy⟩ := hy
  refine gm_ast0 ok (pc' := 80) d_Mod_sendPacket_79 hc21 rfl ?_
  generalize ms M16 0 ((7 : Int32)).toNatClampNeg (x18 + (1 : Int32)) = M20 at hy ⊢
  refine g_aload_n 2 (i := 0) (pc' := 81) d_Mod_sendPacket_80 rfl rfl rfl ?_
  refine g_iload_n 3 (i := 1) (pc' := 82) d_Mod_sendPacket_81 rfl rfl rfl ?_
  refine g_bipush (v := (6 : Int32)) (pc' := 84) d_Mod_sendPacket_82 (by decide) rfl ?_
  refine g_iconst (v := (1 : Int32)) (pc' := 85) d_Mod_sendPacket_84 (by decide) rfl ?_
  replace hy := g_b_inv hy
  obtain ⟨M23, hf24, hy⟩ := hy
  refine g_callV (rv := none) (h1 := (mH h0 a0 ad M23)) (pc' := 88) (As := [.int p0, .int (6 : Int32), .int (1 : Int32)]) (rest := []) 3 (T_Mod_grow ok (hy := hf24)) d_Mod_sendPacket_85 (mH_look ok) rfl rfl q2271 q2273 qs68 q135 q2274 hd_Mod_grow rfl ⟨by decide, by decide⟩ (by first | exact Nat.le_of_ble_eq_true rfl | (simp only [List.map, List.sum_cons, List.sum_nil, g_cat_rf]; exact Nat.le_of_ble_eq_true rfl) | (simp only [List.map, List.sum_cons, List.sum_nil, g_cat_rf, Value.category]; decide)) rfl ?_
  refine g_aload_n 2 (i := 0) (pc' := 89) d_Mod_sendPacket_88 rfl rfl rfl ?_
  refine g_iload_n 3 (i := 1) (pc' := 90) d_Mod_sendPacket_89 rfl rfl rfl ?_
  refine g_iconst (v := (5 : Int32)) (pc' := 91) d_Mod_sendPacket_90 (by decide) rfl ?_
  refine g_iconst (v := (-1 : Int32)) (pc' := 92) d_Mod_sendPacket_91 (by decide) rfl ?_
  replace hy := g_b_inv hy
  obtain ⟨M26, hf27, hy⟩ := hy
  refine g_callV (rv := none) (h1 := (mH h0 a0 ad M26)) (pc' := 95) (As := [.int p0, .int (5 : Int32), .int (-1 : Int32)]) (rest := []) 3 (T_Mod_grow ok (hy := hf27)) d_Mod_sendPacket_92 (mH_look ok) rfl rfl q2271 q2273 qs68 q135 q2274 hd_Mod_grow rfl ⟨by decide, by decide⟩ (by first | exact Nat.le_of_ble_eq_true rfl | (simp only [List.map, List.sum_cons, List.sum_nil, g_cat_rf]; exact Nat.le_of_ble_eq_true rfl) | (simp only [List.map, List.sum_cons, List.sum_nil, g_cat_rf, Value.category]; decide)) rfl ?_
  refine g_aload_n 2 (i := 0) (pc' := 96) d_Mod_sendPacket_95 rfl rfl rfl ?_
  refine g_iload_n 1 (i := 2) (pc' := 97) d_Mod_sendPacket_96 rfl rfl rfl ?_
  refine g_aload_n 2 (i := 0) (pc' := 98) d_Mod_sendPacket_97 rfl rfl rfl ?_
  refine g_iload_n 3 (i := 1) (pc' := 99) d_Mod_sendPacket_98 rfl rfl rfl ?_
  replace hy := g_b_inv hy
  obtain ⟨x28, hf30, hy⟩ := hy
  refine g_callV (rv := some (.int x28)) (h1 := (mH h0 a0 ad M26)) (pc' := 102) (As := [.int p0]) (rest := [.int x1, .ref a0]) 1 (T_Mod_activePlace ok (hy := hf30)) d_Mod_sendPacket_99 (mH_look ok) rfl rfl q2485 q2487 qs105 q135 q2488 hd_Mod_activePlace rfl ⟨by decide, by decide⟩ (by first | exact Nat.le_of_ble_eq_true rfl | (simp only [List.map, List.sum_cons, List.sum_nil, g_cat_rf]; exact Nat.le_of_ble_eq_true rfl) | (simp only [List.map, List.sum_cons, List.sum_nil, g_cat_rf, Value.category]; decide)) rfl ?_
  refine g_iconst (v := (1 : Int32)) (pc' := 103) d_Mod_sendPacket_102 (by decide) rfl ?_
  replace hy := g_b_inv hy
  obtain ⟨M32, hf33, hy⟩ := hy
  refine g_callV (rv := none) (h1 := (mH h0 a0 ad M32)) (pc' := 106) (As := [.int x1, .int x28, .int (1 : Int32)]) (rest := []) 3 (T_Mod_setOut ok (hy := hf33)) d_Mod_sendPacket_103 (mH_look ok) rfl rfl q2449 q2451 qs96 q135 q2452 hd_Mod_setOut rfl ⟨by decide, by decide⟩ (by first | exact Nat.le_of_ble_eq_true rfl | (simp only [List.map, List.sum_cons, List.sum_nil, g_cat_rf]; exact Nat.le_of_ble_eq_true rfl) | (simp only [List.map, List.sum_cons, List.sum_nil, g_cat_rf, Value.category]; decide)) rfl ?_
  refine g_aload_n 2 (i := 0) (pc' := 107) d_Mod_sendPacket_106 rfl rfl rfl ?_
  refine g_aload_n 2 (i := 0) (pc' := 108) d_Mod_sendPacket_107 rfl rfl rfl ?_
  refine g_iload_n 1 (i := 2) (pc' := 109) d_Mod_sendPacket_108 rfl rfl rfl ?_
  refine g_iconst (v := (2 : Int32)) (pc' := 110) d_Mod_sendPacket_109 (by decide) rfl ?_
  replace hy := g_b_inv hy
  obtain ⟨x34, hf36, hy⟩ := hy
  refine g_callV (rv := some (.int x34)) (h1 := (mH h0 a0 ad M32)) (pc' := 113) (As := [.int x1, .int (2 : Int32)]) (rest := [.ref a0]) 2 (T_Mod_ofPacket ok (hy := hf36)) d_Mod_sendPacket_110 (mH_look ok) rfl rfl q2263 q2265 qs66 q135 q2266 hd_Mod_ofPacket rfl ⟨by decide, by decide⟩ (by first | exact Nat.le_of_ble_eq_true rfl | (simp only [List.map, List.sum_cons, List.sum_nil, g_cat_rf]; exact Nat.le_of_ble_eq_true rfl) | (simp only [List.map, List.sum_cons, List.sum_nil, g_cat_rf, Value.category]; decide)) rfl ?_
  refine g_iconst (v := (4 : Int32)) (pc' := 114) d_Mod_sendPacket_113 (by decide) rfl ?_
  replace hy := g_b_inv hy
  obtain ⟨x37, hf39, hy⟩ := hy
  refine g_callV (rv := some (.int x37)) (h1 := (mH h0 a0 ad M32)) (pc' := 117) (As := [.int x34, .int (4 : Int32)]) (rest := []) 2 (T_Mod_ofLink ok (hy := hf39)) d_Mod_sendPacket_114 (mH_look ok) rfl rfl q2154 q2156 qs45 q135 q2157 hd_Mod_ofLink rfl ⟨by decide, by decide⟩ (by first | exact Nat.le_of_ble_eq_true rfl | (simp only [List.map, List.sum_cons, List.sum_nil, g_cat_rf]; exact Nat.le_of_ble_eq_true rfl) | (simp only [List.map, List.sum_cons, List.sum_nil, g_cat_rf, Value.category]; decide)) rfl ?_
  by_cases c40 : x37 = 0
  · rw [if_pos c40] at hy
    refine g_if_neF (pc' := 120) d_Mod_sendPacket_117 125 c40 (by decide) rfl ?_
    refine g_aload_n 2 (i := 0) (pc' := 121) d_Mod_sendPacket_120 rfl rfl rfl ?_
    refine g_iload_n 1 (i := 2) (pc' := 122) d_Mod_sendPacket_121 rfl rfl rfl ?_
    replace hy := g_b_inv hy
    obtain ⟨M42, hf43, hy⟩ := hy
    refine g_callV (rv := none) (h1 := (mH h0 a0 ad M42)) (pc' := 125) (As := [.int x1]) (rest := []) 1 (T_Mod_losePacket ok (hy := hf43)) d_Mod_sendPacket_122 (mH_look ok) rfl rfl q2267 q2269 qs67 q135 q2270 hd_Mod_losePacket rfl ⟨by decide, by decide⟩ (by first | exact Nat.le_of_ble_eq_true rfl | (simp only [List.map, List.sum_cons, List.sum_nil, g_cat_rf]; exact Nat.le_of_ble_eq_true rfl) | (simp only [List.map, List.sum_cons, List.sum_nil, g_cat_rf, Value.category]; decide)) rfl ?_
    cases hy
    exact g_vret rfl rfl rfl d_Mod_sendPacket_125
  · rw [if_neg c40] at hy
    refine g_if_neT (pc' := 125) d_Mod_sendPacket_117 c40 (by decide) ?_
    cases hy
    exact g_vret rfl rfl rfl d_Mod_sendPacket_125
theorem hd_Mod_sendPacket : g_dsc y_Mod_sendPacket 1 := ⟨by decide +kernel, by decide +kernel, by decide +kernel⟩
