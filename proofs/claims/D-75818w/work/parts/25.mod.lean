/-! CircuitDeskModel.sendFrom(I)V -/
abbrev y_Mod_sendFrom : MethodName := ⟨"CircuitDeskModel", "sendFrom", "(I)V"⟩
abbrev k_Mod_sendFrom : g_M := (prog_17_method_104_code, 2, "CircuitDeskModel", 16, none, "sendFrom", [], 0)
theorem d_Mod_sendFrom_0 : decode prog_17_method_104_code 0 = .ok (.aload_n 0, 1) := by decide +kernel
theorem d_Mod_sendFrom_1 : decode prog_17_method_104_code 1 = .ok (.iload_n 1, 1) := by decide +kernel
theorem d_Mod_sendFrom_2 : decode prog_17_method_104_code 2 = .ok (.iconst 1, 1) := by decide +kernel
theorem d_Mod_sendFrom_3 : decode prog_17_method_104_code 3 = .ok (.invokevirtual 150, 3) := by decide +kernel
theorem d_Mod_sendFrom_6 : decode prog_17_method_104_code 6 = .ok (.ifCond .le 27, 3) := by decide +kernel
theorem d_Mod_sendFrom_9 : decode prog_17_method_104_code 9 = .ok (.aload_n 0, 1) := by decide +kernel
theorem d_Mod_sendFrom_10 : decode prog_17_method_104_code 10 = .ok (.getfield 7, 3) := by decide +kernel
theorem d_Mod_sendFrom_13 : decode prog_17_method_104_code 13 = .ok (.iconst 5, 1) := by decide +kernel
theorem d_Mod_sendFrom_14 : decode prog_17_method_104_code 14 = .ok (.iaload, 1) := by decide +kernel
theorem d_Mod_sendFrom_15 : decode prog_17_method_104_code 15 = .ok (.iconst 1, 1) := by decide +kernel
theorem d_Mod_sendFrom_16 : decode prog_17_method_104_code 16 = .ok (.iadd, 1) := by decide +kernel
theorem d_Mod_sendFrom_17 : decode prog_17_method_104_code 17 = .ok (.aload_n 0, 1) := by decide +kernel
theorem d_Mod_sendFrom_18 : decode prog_17_method_104_code 18 = .ok (.iload_n 1, 1) := by decide +kernel
theorem d_Mod_sendFrom_19 : decode prog_17_method_104_code 19 = .ok (.iconst 1, 1) := by decide +kernel
theorem d_Mod_sendFrom_20 : decode prog_17_method_104_code 20 = .ok (.invokevirtual 150, 3) := by decide +kernel
theorem d_Mod_sendFrom_23 : decode prog_17_method_104_code 23 = .ok (.irem, 1) := by decide +kernel
theorem d_Mod_sendFrom_24 : decode prog_17_method_104_code 24 = .ok (.ifCond .ne 9, 3) := by decide +kernel
theorem d_Mod_sendFrom_27 : decode prog_17_method_104_code 27 = .ok (.aload_n 0, 1) := by decide +kernel
theorem d_Mod_sendFrom_28 : decode prog_17_method_104_code 28 = .ok (.iload_n 1, 1) := by decide +kernel
theorem d_Mod_sendFrom_29 : decode prog_17_method_104_code 29 = .ok (.iconst 1, 1) := by decide +kernel
theorem d_Mod_sendFrom_30 : decode prog_17_method_104_code 30 = .ok (.invokevirtual 335, 3) := by decide +kernel
theorem d_Mod_sendFrom_33 : decode prog_17_method_104_code 33 = .ok (.aload_n 0, 1) := by decide +kernel
theorem d_Mod_sendFrom_34 : decode prog_17_method_104_code 34 = .ok (.iload_n 1, 1) := by decide +kernel
theorem d_Mod_sendFrom_35 : decode prog_17_method_104_code 35 = .ok (.iconst 4, 1) := by decide +kernel
theorem d_Mod_sendFrom_36 : decode prog_17_method_104_code 36 = .ok (.invokevirtual 150, 3) := by decide +kernel
theorem d_Mod_sendFrom_39 : decode prog_17_method_104_code 39 = .ok (.ifCond .le 13, 3) := by decide +kernel
theorem d_Mod_sendFrom_42 : decode prog_17_method_104_code 42 = .ok (.aload_n 0, 1) := by decide +kernel
theorem d_Mod_sendFrom_43 : decode prog_17_method_104_code 43 = .ok (.iload_n 1, 1) := by decide +kernel
theorem d_Mod_sendFrom_44 : decode prog_17_method_104_code 44 = .ok (.iconst 4, 1) := by decide +kernel
theorem d_Mod_sendFrom_45 : decode prog_17_method_104_code 45 = .ok (.iconst (-1), 1) := by decide +kernel
theorem d_Mod_sendFrom_46 : decode prog_17_method_104_code 46 = .ok (.invokevirtual 338, 3) := by decide +kernel
theorem d_Mod_sendFrom_49 : decode prog_17_method_104_code 49 = .ok (.goto 29, 3) := by decide +kernel
theorem d_Mod_sendFrom_52 : decode prog_17_method_104_code 52 = .ok (.aload_n 0, 1) := by decide +kernel
theorem d_Mod_sendFrom_53 : decode prog_17_method_104_code 53 = .ok (.iload_n 1, 1) := by decide +kernel
theorem d_Mod_sendFrom_54 : decode prog_17_method_104_code 54 = .ok (.iconst 5, 1) := by decide +kernel
theorem d_Mod_sendFrom_55 : decode prog_17_method_104_code 55 = .ok (.invokevirtual 150, 3) := by decide +kernel
theorem d_Mod_sendFrom_58 : decode prog_17_method_104_code 58 = .ok (.ifCond .le 20, 3) := by decide +kernel
theorem d_Mod_sendFrom_61 : decode prog_17_method_104_code 61 = .ok (.aload_n 0, 1) := by decide +kernel
theorem d_Mod_sendFrom_62 : decode prog_17_method_104_code 62 = .ok (.getfield 7, 3) := by decide +kernel
theorem d_Mod_sendFrom_65 : decode prog_17_method_104_code 65 = .ok (.bipush 6, 2) := by decide +kernel
theorem d_Mod_sendFrom_67 : decode prog_17_method_104_code 67 = .ok (.iaload, 1) := by decide +kernel
theorem d_Mod_sendFrom_68 : decode prog_17_method_104_code 68 = .ok (.bipush 60, 2) := by decide +kernel
theorem d_Mod_sendFrom_70 : decode prog_17_method_104_code 70 = .ok (.if_icmp .ge 8, 3) := by decide +kernel
theorem d_Mod_sendFrom_73 : decode prog_17_method_104_code 73 = .ok (.aload_n 0, 1) := by decide +kernel
theorem d_Mod_sendFrom_74 : decode prog_17_method_104_code 74 = .ok (.iload_n 1, 1) := by decide +kernel
theorem d_Mod_sendFrom_75 : decode prog_17_method_104_code 75 = .ok (.invokevirtual 371, 3) := by decide +kernel
theorem d_Mod_sendFrom_78 : decode prog_17_method_104_code 78 = .ok (.return_, 1) := by decide +kernel
def Mod_sendFrom_33 (M : g_MD) (v1 : Int32) : Option g_MD :=
  g_b (Mod_of M v1 (4 : Int32)) fun x5 => if x5 ≤ 0 then (g_b (Mod_of M v1 (5 : Int32)) fun x9 => if x9 ≤ 0 then (some M) else (g_mA M 0 0 (6 : Int32) fun x13 => if (60 : Int32) ≤ x13 then (some M) else (g_b (Mod_sendPacket M v1) fun M17 => some M17))) else (g_b (Mod_grow M v1 (4 : Int32) (-1 : Int32)) fun M20 => some M20)
set_option maxHeartbeats 4000000 in
set_option maxRecDepth 100000 in
theorem W_Mod_sendFrom_33 {X : g_X} {h0 : g_AH} {a0 : Nat} {ad : Nat → Nat} (ok : mOK a0 ad) (z : g_MD) (M : g_MD) (v1 : Int32) (hy : Mod_sendFrom_33  M v1 = some z) : G X k_Mod_sendFrom (.inl none) (mH h0 a0 ad z) (mH h0 a0 ad M) 33 [(0, .ref a0), (1, .int v1)] [] := by
  unfold Mod_sendFrom_33 at hy
  refine g_aload_n 0 (i := 0) (pc' := 34) d_Mod_sendFrom_33 rfl rfl rfl ?_
  refine g_iload_n 1 (i := 1) (pc' := 35) d_Mod_sendFrom_34 rfl rfl rfl ?_
  refine g_iconst (v := (4 : Int32)) (pc' := 36) d_Mod_sendFrom_35 (by decide) rfl ?_
  replace hy := g_b_inv hy
  obtain ⟨x5, hf7, hy⟩ := hy
  refine g_callV (rv := some (.int x5)) (h1 := (mH h0 a0 ad M)) (pc' := 39) (As := [.int v1, .int (4 : Int32)]) (rest := []) 2 (T_Mod_of ok (hy := hf7)) d_Mod_sendFrom_36 (mH_look ok) rfl rfl q2186 q2188 qs52 q135 q2189 hd_Mod_of rfl ⟨by decide, by decide⟩ (by first | exact Nat.le_of_ble_eq_true rfl | (simp only [List.map, List.sum_cons, List.sum_nil, g_cat_rf]; exact Nat.le_of_ble_eq_true rfl) | (simp only [List.map, List.sum_cons, List.sum_nil, g_cat_rf, Value.category]; decide)) rfl ?_
  by_cases c8 : x5 ≤ 0
  · rw [if_pos c8] at hy
    refine g_if_leT (pc' := 52) d_Mod_sendFrom_39 c8 (by decide) ?_
    refine g_aload_n 0 (i := 0) (pc' := 53) d_Mod_sendFrom_52 rfl rfl rfl ?_
    refine g_iload_n 1 (i := 1) (pc' := 54) d_Mod_sendFrom_53 rfl rfl rfl ?_
    refine g_iconst (v := (5 : Int32)) (pc' := 55) d_Mod_sendFrom_54 (by decide) rfl ?_
    replace hy := g_b_inv hy
    obtain ⟨x9, hf11, hy⟩ := hy
    refine g_callV (rv := some (.int x9)) (h1 := (mH h0 a0 ad M)) (pc' := 58) (As := [.int v1, .int (5 : Int32)]) (rest := []) 2 (T_Mod_of ok (hy := hf11)) d_Mod_sendFrom_55 (mH_look ok) rfl rfl q2186 q2188 qs52 q135 q2189 hd_Mod_of rfl ⟨by decide, by decide⟩ (by first | exact Nat.le_of_ble_eq_true rfl | (simp only [List.map, List.sum_cons, List.sum_nil, g_cat_rf]; exact Nat.le_of_ble_eq_true rfl) | (simp only [List.map, List.sum_cons, List.sum_nil, g_cat_rf, Value.category]; decide)) rfl ?_
    by_cases c12 : x9 ≤ 0
    · rw [if_pos c12] at hy
      refine g_if_leT (pc' := 78) d_Mod_sendFrom_58 c12 (by decide) ?_
      cases hy
      exact g_vret rfl rfl rfl d_Mod_sendFrom_78
    · rw [if_neg c12] at hy
      refine g_if_leF (pc' := 61) d_Mod_sendFrom_58 78 c12 (by decide) rfl ?_
      refine g_aload_n 0 (i := 0) (pc' := 62) d_Mod_sendFrom_61 rfl rfl rfl ?_
      refine gm_getA ok 0 (pc' := 65) d_Mod_sendFrom_62 rfl q1965 rfl rfl ?_
      refine g_bipush (v := (6 : Int32)) (pc' := 67) d_Mod_sendFrom_65 (by decide) rfl ?_
      replace hy := g_mA_inv hy
      obtain ⟨x13, hc14, hy⟩ := hy
      refine gm_ald0 ok (pc' := 68) d_Mod_sendFrom_67 hc14 rfl ?_
      refine g_bipush (v := (60 : Int32)) (pc' := 70) d_Mod_sendFrom_68 (by decide) rfl ?_
      by_cases c15 : (60 : Int32) ≤ x13
      · rw [if_pos c15] at hy
        refine g_icmp_geT (pc' := 78) d_Mod_sendFrom_70 c15 (by decide) ?_
        cases hy
        exact g_vret rfl rfl rfl d_Mod_sendFrom_78
      · rw [if_neg c15] at hy
        refine g_icmp_geF (pc' := 73) d_Mod_sendFrom_70 78 c15 (by decide) rfl ?_
        refine g_aload_n 0 (i := 0) (pc' := 74) d_Mod_sendFrom_73 rfl rfl rfl ?_
        refine g_iload_n 1 (i := 1) (pc' := 75) d_Mod_sendFrom_74 rfl rfl rfl ?_
        replace hy := g_b_inv hy
        obtain ⟨M17, hf18, hy⟩ := hy
        refine g_callV (rv := none) (h1 := (mH h0 a0 ad M17)) (pc' := 78) (As := [.int v1]) (rest := []) 1 (T_Mod_sendPacket ok (hy := hf18)) d_Mod_sendFrom_75 (mH_look ok) rfl rfl q2481 q2483 qs104 q135 q2484 hd_Mod_sendPacket rfl ⟨by decide, by decide⟩ (by first | exact Nat.le_of_ble_eq_true rfl | (simp only [List.map, List.sum_cons, List.sum_nil, g_cat_rf]; exact Nat.le_of_ble_eq_true rfl) | (simp only [List.map, List.sum_cons, List.sum_nil, g_cat_rf, Value.category]; decide)) rfl ?_
        cases hy
        exact g_vret rfl rfl rfl d_Mod_sendFrom_78
  · rw [if_neg c8] at hy
    refine g_if_leF (pc' := 42) d_Mod_sendFrom_39 52 c8 (by decide) rfl ?_
    refine g_aload_n 0 (i := 0) (pc' := 43) d_Mod_sendFrom_42 rfl rfl rfl ?_
    refine g_iload_n 1 (i := 1) (pc' := 44) d_Mod_sendFrom_43 rfl rfl rfl ?_
    refine g_iconst (v := (4 : Int32)) (pc' := 45) d_Mod_sendFrom_44 (by decide) rfl ?_
    refine g_iconst (v := (-1 : Int32)) (pc' := 46) d_Mod_sendFrom_45 (by decide) rfl ?_
    replace hy := g_b_inv hy
    obtain ⟨M20, hf21, hy⟩ := hy
    refine g_callV (rv := none) (h1 := (mH h0 a0 ad M20)) (pc' := 49) (As := [.int v1, .int (4 : Int32), .int (-1 : Int32)]) (rest := []) 3 (T_Mod_grow ok (hy := hf21)) d_Mod_sendFrom_46 (mH_look ok) rfl rfl q2271 q2273 qs68 q135 q2274 hd_Mod_grow rfl ⟨by decide, by decide⟩ (by first | exact Nat.le_of_ble_eq_true rfl | (simp only [List.map, List.sum_cons, List.sum_nil, g_cat_rf]; exact Nat.le_of_ble_eq_true rfl) | (simp only [List.map, List.sum_cons, List.sum_nil, g_cat_rf, Value.category]; decide)) rfl ?_
    refine g_goto (pc' := 78) d_Mod_sendFrom_49 (by decide) ?_
    cases hy
    exact g_vret rfl rfl rfl d_Mod_sendFrom_78
def Mod_sendFrom (M : g_MD) (p0 : Int32) : Option g_MD :=
  g_b (Mod_of M p0 (1 : Int32)) fun x1 => if x1 ≤ 0 then (Mod_sendFrom_33  M p0) else (g_mA M 0 0 (5 : Int32) fun x22 => g_b (Mod_of M p0 (1 : Int32)) fun x24 => g_rq (¬ x24 = 0) <| if ((x22 + (1 : Int32)) - (x22 + (1 : Int32)) / x24 * x24) = 0 then (g_b (Mod_growBacklog M p0 (1 : Int32)) fun M30 => Mod_sendFrom_33  M30 p0) else (Mod_sendFrom_33  M p0))
set_option maxHeartbeats 4000000 in
set_option maxRecDepth 100000 in
theorem T_Mod_sendFrom {l : Launch} {B : g_B} {h0 : g_AH} {a0 : Nat} {ad : Nat → Nat} (ok : mOK a0 ad) (M : g_MD) (p0 : Int32) (z : g_MD) (hy : Mod_sendFrom M p0 = some z) : g_CT l B y_Mod_sendFrom k_Mod_sendFrom [.ref a0, .int p0] (mH h0 a0 ad M) (.inl none) (mH h0 a0 ad z) := by
  refine g_start2 (Lc := [(0, .ref a0), (1, .int p0)]) (by decide) rfl rfl (by exact Nat.le_of_ble_eq_true rfl) (by rfl) fun X => ?_
  unfold Mod_sendFrom at hy
  refine g_aload_n 0 (i := 0) (pc' := 1) d_Mod_sendFrom_0 rfl rfl rfl ?_
  refine g_iload_n 1 (i := 1) (pc' := 2) d_Mod_sendFrom_1 rfl rfl rfl ?_
  refine g_iconst (v := (1 : Int32)) (pc' := 3) d_Mod_sendFrom_2 (by decide) rfl ?_
  replace hy := g_b_inv hy
  obtain ⟨x1, hf3, hy⟩ := hy
  refine g_callV (rv := some (.int x1)) (h1 := (mH h0 a0 ad M)) (pc' := 6) (As := [.int p0, .int (1 : Int32)]) (rest := []) 2 (T_Mod_of ok (hy := hf3)) d_Mod_sendFrom_3 (mH_look ok) rfl rfl q2186 q2188 qs52 q135 q2189 hd_Mod_of rfl ⟨by decide, by decide⟩ (by first | exact Nat.le_of_ble_eq_true rfl | (simp only [List.map, List.sum_cons, List.sum_nil, g_cat_rf]; exact Nat.le_of_ble_eq_true rfl) | (simp only [List.map, List.sum_cons, List.sum_nil, g_cat_rf, Value.category]; decide)) rfl ?_
  by_cases c4 : x1 ≤ 0
  · rw [if_pos c4] at hy
    refine g_if_leT (pc' := 33) d_Mod_sendFrom_6 c4 (by decide) ?_
    exact W_Mod_sendFrom_33 ok _ _ _ hy
  · rw [if_neg c4] at hy
    refine g_if_leF (pc' := 9) d_Mod_sendFrom_6 33 c4 (by decide) rfl ?_
    refine g_aload_n 0 (i := 0) (pc' := 10) d_Mod_sendFrom_9 rfl rfl rfl ?_
    refine gm_getA ok 0 (pc' := 13) d_Mod_sendFrom_10 rfl q1965 rfl rfl ?_
    refine g_iconst (v := (5 : Int32)) (pc' := 14) d_Mod_sendFrom_13 (by decide) rfl ?_
    replace hy := g_mA_inv hy
    obtain ⟨x22, hc23, hy⟩ := hy
    refine gm_ald0 ok (pc' := 15) d_Mod_sendFrom_14 hc23 rfl ?_
    refine g_iconst (v := (1 : Int32)) (pc' := 16) d_Mod_sendFrom_15 (by decide) rfl ?_
    refine g_iadd (pc' := 17) d_Mod_sendFrom_16 rfl ?_
    refine g_aload_n 0 (i := 0) (pc' := 18) d_Mod_sendFrom_17 rfl rfl rfl ?_
    refine g_iload_n 1 (i := 1) (pc' := 19) d_Mod_sendFrom_18 rfl rfl rfl ?_
    refine g_iconst (v := (1 : Int32)) (pc' := 20) d_Mod_sendFrom_19 (by decide) rfl ?_
    replace hy := g_b_inv hy
    obtain ⟨x24, hf26, hy⟩ := hy
    refine g_callV (rv := some (.int x24)) (h1 := (mH h0 a0 ad M)) (pc' := 23) (As := [.int p0, .int (1 : Int32)]) (rest := [.int (x22 + (1 : Int32))]) 2 (T_Mod_of ok (hy := hf26)) d_Mod_sendFrom_20 (mH_look ok) rfl rfl q2186 q2188 qs52 q135 q2189 hd_Mod_of rfl ⟨by decide, by decide⟩ (by first | exact Nat.le_of_ble_eq_true rfl | (simp only [List.map, List.sum_cons, List.sum_nil, g_cat_rf]; exact Nat.le_of_ble_eq_true rfl) | (simp only [List.map, List.sum_cons, List.sum_nil, g_cat_rf, Value.category]; decide)) rfl ?_
    replace hy := g_rq_inv hy
    obtain ⟨c27, hy⟩ := hy
    refine g_irem (pc' := 24) d_Mod_sendFrom_23 c27 rfl ?_
    by_cases c28 : ((x22 + (1 : Int32)) - (x22 + (1 : Int32)) / x24 * x24) = 0
    · rw [if_pos c28] at hy
      refine g_if_neF (pc' := 27) d_Mod_sendFrom_24 33 c28 (by decide) rfl ?_
      refine g_aload_n 0 (i := 0) (pc' := 28) d_Mod_sendFrom_27 rfl rfl rfl ?_
      refine g_iload_n 1 (i := 1) (pc' := 29) d_Mod_sendFrom_28 rfl rfl rfl ?_
      refine g_iconst (v := (1 : Int32)) (pc' := 30) d_Mod_sendFrom_29 (by decide) rfl ?_
      replace hy := g_b_inv hy
      obtain ⟨M30, hf31, hy⟩ := hy
      refine g_callV (rv := none) (h1 := (mH h0 a0 ad M30)) (pc' := 33) (As := [.int p0, .int (1 : Int32)]) (rest := []) 2 (T_Mod_growBacklog ok (hy := hf31)) d_Mod_sendFrom_30 (mH_look ok) rfl rfl q2419 q2421 qs90 q135 q2422 hd_Mod_growBacklog rfl ⟨by decide, by decide⟩ (by first | exact Nat.le_of_ble_eq_true rfl | (simp only [List.map, List.sum_cons, List.sum_nil, g_cat_rf]; exact Nat.le_of_ble_eq_true rfl) | (simp only [List.map, List.sum_cons, List.sum_nil, g_cat_rf, Value.category]; decide)) rfl ?_
      exact W_Mod_sendFrom_33 ok _ _ _ hy
    · rw [if_neg c28] at hy
      refine g_if_neT (pc' := 33) d_Mod_sendFrom_24 c28 (by decide) ?_
      exact W_Mod_sendFrom_33 ok _ _ _ hy
theorem hd_Mod_sendFrom : g_dsc y_Mod_sendFrom 1 := ⟨by decide +kernel, by decide +kernel, by decide +kernel⟩
/-! CircuitDeskModel.passTick()V -/
abbrev y_Mod_passTick : MethodName := ⟨"CircuitDeskModel", "passTick", "()V"⟩
abbrev k_Mod_passTick : g_M := (prog_17_method_105_code, 2, "CircuitDeskModel", 17, none, "passTick", [], 0)
theorem d_Mod_passTick_0 : decode prog_17_method_105_code 0 = .ok (.aload_n 0, 1) := by decide +kernel
theorem d_Mod_passTick_1 : decode prog_17_method_105_code 1 = .ok (.invokevirtual 374, 3) := by decide +kernel
theorem d_Mod_passTick_4 : decode prog_17_method_105_code 4 = .ok (.aload_n 0, 1) := by decide +kernel
theorem d_Mod_passTick_5 : decode prog_17_method_105_code 5 = .ok (.invokevirtual 377, 3) := by decide +kernel
theorem d_Mod_passTick_8 : decode prog_17_method_105_code 8 = .ok (.iconst 0, 1) := by decide +kernel
theorem d_Mod_passTick_9 : decode prog_17_method_105_code 9 = .ok (.istore_n 1, 1) := by decide +kernel
theorem d_Mod_passTick_10 : decode prog_17_method_105_code 10 = .ok (.iload_n 1, 1) := by decide +kernel
theorem d_Mod_passTick_11 : decode prog_17_method_105_code 11 = .ok (.aload_n 0, 1) := by decide +kernel
theorem d_Mod_passTick_12 : decode prog_17_method_105_code 12 = .ok (.getfield 7, 3) := by decide +kernel
theorem d_Mod_passTick_15 : decode prog_17_method_105_code 15 = .ok (.iconst 4, 1) := by decide +kernel
theorem d_Mod_passTick_16 : decode prog_17_method_105_code 16 = .ok (.iaload, 1) := by decide +kernel
theorem d_Mod_passTick_17 : decode prog_17_method_105_code 17 = .ok (.if_icmp .ge 14, 3) := by decide +kernel
theorem d_Mod_passTick_20 : decode prog_17_method_105_code 20 = .ok (.aload_n 0, 1) := by decide +kernel
theorem d_Mod_passTick_21 : decode prog_17_method_105_code 21 = .ok (.iload_n 1, 1) := by decide +kernel
theorem d_Mod_passTick_22 : decode prog_17_method_105_code 22 = .ok (.invokevirtual 380, 3) := by decide +kernel
theorem d_Mod_passTick_25 : decode prog_17_method_105_code 25 = .ok (.iinc 1 1, 3) := by decide +kernel
theorem d_Mod_passTick_28 : decode prog_17_method_105_code 28 = .ok (.goto (-18), 3) := by decide +kernel
theorem d_Mod_passTick_31 : decode prog_17_method_105_code 31 = .ok (.aload_n 0, 1) := by decide +kernel
theorem d_Mod_passTick_32 : decode prog_17_method_105_code 32 = .ok (.getfield 7, 3) := by decide +kernel
theorem d_Mod_passTick_35 : decode prog_17_method_105_code 35 = .ok (.iconst 5, 1) := by decide +kernel
theorem d_Mod_passTick_36 : decode prog_17_method_105_code 36 = .ok (.dup2, 1) := by decide +kernel
theorem d_Mod_passTick_37 : decode prog_17_method_105_code 37 = .ok (.iaload, 1) := by decide +kernel
theorem d_Mod_passTick_38 : decode prog_17_method_105_code 38 = .ok (.iconst 1, 1) := by decide +kernel
theorem d_Mod_passTick_39 : decode prog_17_method_105_code 39 = .ok (.iadd, 1) := by decide +kernel
theorem d_Mod_passTick_40 : decode prog_17_method_105_code 40 = .ok (.iastore, 1) := by decide +kernel
theorem d_Mod_passTick_41 : decode prog_17_method_105_code 41 = .ok (.return_, 1) := by decide +kernel
def Mod_passTick_10  : Nat → g_MD → Int32 → Option g_MD
  | 0, _, _ => none
  | n + 1, M, v1 => g_mA M 0 0 (4 : Int32) fun x7 => if x7 ≤ v1 then (g_mA M 0 0 (5 : Int32) fun x10 => g_mS M 0 0 (5 : Int32) (x10 + (1 : Int32)) fun M12 => some M12) else (g_b (Mod_sendFrom M v1) fun M15 => (Mod_passTick_10  n) M15 (v1 + (1 : Int32)))
set_option maxHeartbeats 4000000 in
set_option maxRecDepth 100000 in
theorem W_Mod_passTick_10 {X : g_X} {h0 : g_AH} {a0 : Nat} {ad : Nat → Nat} (ok : mOK a0 ad) (z : g_MD)  : ∀ (n : Nat) (M : g_MD) (v1 : Int32), Mod_passTick_10  n M v1 = some z → G X k_Mod_passTick (.inl none) (mH h0 a0 ad z) (mH h0 a0 ad M) 10 [(0, .ref a0), (1, .int v1)] [] := by
  intro n
  induction n with
  | zero => intro M v1 hy; exact absurd hy (by simp [Mod_passTick_10])
  | succ n ih =>
    intro M v1 hy
    rw [Mod_passTick_10] at hy
    refine g_iload_n 1 (i := 1) (pc' := 11) d_Mod_passTick_10 rfl rfl rfl ?_
    refine g_aload_n 0 (i := 0) (pc' := 12) d_Mod_passTick_11 rfl rfl rfl ?_
    refine gm_getA ok 0 (pc' := 15) d_Mod_passTick_12 rfl q1965 rfl rfl ?_
    refine g_iconst (v := (4 : Int32)) (pc' := 16) d_Mod_passTick_15 (by decide) rfl ?_
    replace hy := g_mA_inv hy
    obtain ⟨x7, hc8, hy⟩ := hy
    refine gm_ald0 ok (pc' := 17) d_Mod_passTick_16 hc8 rfl ?_
    by_cases c9 : x7 ≤ v1
    · rw [if_pos c9] at hy
      refine g_icmp_geT (pc' := 31) d_Mod_passTick_17 c9 (by decide) ?_
      refine g_aload_n 0 (i := 0) (pc' := 32) d_Mod_passTick_31 rfl rfl rfl ?_
      refine gm_getA ok 0 (pc' := 35) d_Mod_passTick_32 rfl q1965 rfl rfl ?_
      refine g_iconst (v := (5 : Int32)) (pc' := 36) d_Mod_passTick_35 (by decide) rfl ?_
      refine g_dup2 (pc' := 37) d_Mod_passTick_36 rfl rfl rfl ?_
      replace hy := g_mA_inv hy
      obtain ⟨x10, hc11, hy⟩ := hy
      refine gm_ald0 ok (pc' := 38) d_Mod_passTick_37 hc11 rfl ?_
      refine g_iconst (v := (1 : Int32)) (pc' := 39) d_Mod_passTick_38 (by decide) rfl ?_
      refine g_iadd (pc' := 40) d_Mod_passTick_39 rfl ?_
      replace hy := g_mS_inv hy
      obtain ⟨hc13, hy⟩ := hy
      refine gm_ast0 ok (pc' := 41) d_Mod_passTick_40 hc13 rfl ?_
      generalize ms M 0 ((5 : Int32)).toNatClampNeg (x10 + (1 : Int32)) = M12 at hy ⊢
      cases hy
      exact g_vret rfl rfl rfl d_Mod_passTick_41
    · rw [if_neg c9] at hy
      refine g_icmp_geF (pc' := 20) d_Mod_passTick_17 31 c9 (by decide) rfl ?_
      refine g_aload_n 0 (i := 0) (pc' := 21) d_Mod_passTick_20 rfl rfl rfl ?_
      refine g_iload_n 1 (i := 1) (pc' := 22) d_Mod_passTick_21 rfl rfl rfl ?_
      replace hy := g_b_inv hy
      obtain ⟨M15, hf16, hy⟩ := hy
      refine g_callV (rv := none) (h1 := (mH h0 a0 ad M15)) (pc' := 25) (As := [.int v1]) (rest := []) 1 (T_Mod_sendFrom ok (hy := hf16)) d_Mod_passTick_22 (mH_look ok) rfl rfl q2477 q2479 qs103 q135 q2480 hd_Mod_sendFrom rfl ⟨by decide, by decide⟩ (by first | exact Nat.le_of_ble_eq_true rfl | (simp only [List.map, List.sum_cons, List.sum_nil, g_cat_rf]; exact Nat.le_of_ble_eq_true rfl) | (simp only [List.map, List.sum_cons, List.sum_nil, g_cat_rf, Value.category]; decide)) rfl ?_
      refine g_iinc 1 (v := (v1 + (1 : Int32))) (pc' := 28) (Lc' := [(1, .int (v1 + (1 : Int32))), (0, .ref a0)]) d_Mod_passTick_25 rfl rfl (by decide) rfl rfl ?_
      refine g_goto (pc' := 10) d_Mod_passTick_28 (by decide) ?_
      refine g_sub [1, 0] rfl ?_
      exact ih _ _ hy
def Mod_passTick (M : g_MD)  : Option g_MD :=
  g_b (Mod_movePackets M) fun M2 => g_b (Mod_moveCircuits M2) fun M5 => Mod_passTick_10  gFU M5 (0 : Int32)
set_option maxHeartbeats 4000000 in
set_option maxRecDepth 100000 in
theorem T_Mod_passTick {l : Launch} {B : g_B} {h0 : g_AH} {a0 : Nat} {ad : Nat → Nat} (ok : mOK a0 ad) (M : g_MD)  (z : g_MD) (hy : Mod_passTick M  = some z) : g_CT l B y_Mod_passTick k_Mod_passTick [.ref a0] (mH h0 a0 ad M) (.inl none) (mH h0 a0 ad z) := by
  refine g_start2 (Lc := [(0, .ref a0)]) (by decide) rfl rfl (by exact Nat.le_of_ble_eq_true rfl) (by rfl) fun X => ?_
  unfold Mod_passTick at hy
  refine g_aload_n 0 (i := 0) (pc' := 1) d_Mod_passTick_0 rfl rfl rfl ?_
  replace hy := g_b_inv hy
  obtain ⟨M2, hf3, hy⟩ := hy
  refine g_callV (rv := none) (h1 := (mH h0 a0 ad M2)) (pc' := 4) (As := []) (rest := []) 0 (T_Mod_movePackets ok (hy := hf3)) d_Mod_passTick_1 (mH_look ok) rfl rfl q2437 q2439 qs93 q135 q2440 hd_Mod_movePackets rfl ⟨by decide, by decide⟩ (by first | exact Nat.le_of_ble_eq_true rfl | (simp only [List.map, List.sum_cons, List.sum_nil, g_cat_rf]; exact Nat.le_of_ble_eq_true rfl) | (simp only [List.map, List.sum_cons, List.sum_nil, g_cat_rf, Value.category]; decide)) rfl ?_
  refine g_aload_n 0 (i := 0) (pc' := 5) d_Mod_passTick_4 rfl rfl rfl ?_
  replace hy := g_b_inv hy
  obtain ⟨M5, hf6, hy⟩ := hy
  refine g_callV (rv := none) (h1 := (mH h0 a0 ad M5)) (pc' := 8) (As := []) (rest := []) 0 (T_Mod_moveCircuits ok (hy := hf6)) d_Mod_passTick_5 (mH_look ok) rfl rfl q2453 q2455 qs97 q135 q2456 hd_Mod_moveCircuits rfl ⟨by decide, by decide⟩ (by first | exact Nat.le_of_ble_eq_true rfl | (simp only [List.map, List.sum_cons, List.sum_nil, g_cat_rf]; exact Nat.le_of_ble_eq_true rfl) | (simp only [List.map, List.sum_cons, List.sum_nil, g_cat_rf, Value.category]; decide)) rfl ?_
  refine g_iconst (v := (0 : Int32)) (pc' := 9) d_Mod_passTick_8 (by decide) rfl ?_
  refine g_istore_n (i := 1) (pc' := 10) (Lc' := [(1, .int (0 : Int32)), (0, .ref a0)]) d_Mod_passTick_9 rfl (by decide) rfl rfl ?_
  refine g_sub [1, 0] rfl ?_
  exact W_Mod_passTick_10 ok _ _ _ _ hy
theorem hd_Mod_passTick : g_dsc y_Mod_passTick 0 := ⟨by decide +kernel, by decide +kernel, by decide +kernel⟩
/-! CircuitDeskModel.passTicks(I)V -/
abbrev y_Mod_passTicks : MethodName := ⟨"CircuitDeskModel", "passTicks", "(I)V"⟩
abbrev k_Mod_passTicks : g_M := (prog_17_method_106_code, 3, "CircuitDeskModel", 18, none, "passTicks", [], 0)
theorem d_Mod_passTicks_0 : decode prog_17_method_106_code 0 = .ok (.iconst 0, 1) := by decide +kernel
theorem d_Mod_passTicks_1 : decode prog_17_method_106_code 1 = .ok (.istore_n 2, 1) := by decide +kernel
theorem d_Mod_passTicks_2 : decode prog_17_method_106_code 2 = .ok (.iload_n 2, 1) := by decide +kernel
theorem d_Mod_passTicks_3 : decode prog_17_method_106_code 3 = .ok (.iload_n 1, 1) := by decide +kernel
theorem d_Mod_passTicks_4 : decode prog_17_method_106_code 4 = .ok (.if_icmp .ge 13, 3) := by decide +kernel
theorem d_Mod_passTicks_7 : decode prog_17_method_106_code 7 = .ok (.aload_n 0, 1) := by decide +kernel
theorem d_Mod_passTicks_8 : decode prog_17_method_106_code 8 = .ok (.invokevirtual 383, 3) := by decide +kernel
theorem d_Mod_passTicks_11 : decode prog_17_method_106_code 11 = .ok (.iinc 2 1, 3) := by decide +kernel
theorem d_Mod_passTicks_14 : decode prog_17_method_106_code 14 = .ok (.goto (-12), 3) := by decide +kernel
theorem d_Mod_passTicks_17 : decode prog_17_method_106_code 17 = .ok (.return_, 1) := by decide +kernel
def Mod_passTicks_2  : Nat → g_MD → Int32 → Int32 → Option g_MD
  | 0, _, _, _ => none
  | n + 1, M, v1, v2 => if v1 ≤ v2 then (some M) else (g_b (Mod_passTick M) fun M3 => (Mod_passTicks_2  n) M3 v1 (v2 + (1 : Int32)))
set_option maxHeartbeats 4000000 in
set_option maxRecDepth 100000 in
theorem W_Mod_passTicks_2 {X : g_X} {h0 : g_AH} {a0 : Nat} {ad : Nat → Nat} (ok : mOK a0 ad) (z : g_MD)  : ∀ (n : Nat) (M : g_MD) (v1 : Int32) (v2 : Int32), Mod_passTicks_2  n M v1 v2 = some z → G X k_Mod_passTicks (.inl none) (mH h0 a0 ad z) (mH h0 a0 ad M) 2 [(0, .ref a0), (1, .int v1), (2, .int v2)] [] := by
  intro n
  induction n with
  | zero => intro M v1 v2 hy; exact absurd hy (by simp [Mod_passTicks_2])
  | succ n ih =>
    intro M v1 v2 hy
    rw [Mod_passTicks_2] at hy
    refine g_iload_n 2 (i := 2) (pc' := 3) d_Mod_passTicks_2 rfl rfl rfl ?_
    refine g_iload_n 1 (i := 1) (pc' := 4) d_Mod_passTicks_3 rfl rfl rfl ?_
    by_cases c1 : v1 ≤ v2
    · rw [if_pos c1] at hy
      refine g_icmp_geT (pc' := 17) d_Mod_passTicks_4 c1 (by decide) ?_
      cases hy
      exact g_vret rfl rfl rfl d_Mod_passTicks_17
    · rw [if_neg c1] at hy
      refine g_icmp_geF (pc' := 7) d_Mod_passTicks_4 17 c1 (by decide) rfl ?_
      refine g_aload_n 0 (i := 0) (pc' := 8) d_Mod_passTicks_7 rfl rfl rfl ?_
      replace hy := g_b_inv hy
      obtain ⟨M3, hf4, hy⟩ := hy
      refine g_callV (rv := none) (h1 := (mH h0 a0 ad M3)) (pc' := 11) (As := []) (rest := []) 0 (T_Mod_passTick ok (hy := hf4)) d_Mod_passTicks_8 (mH_look ok) rfl rfl q2433 q2435 qs92 q135 q2436 hd_Mod_passTick rfl ⟨by decide, by decide⟩ (by first | exact Nat.le_of_ble_eq_true rfl | (simp only [List.map, List.sum_cons, List.sum_nil, g_cat_rf]; exact Nat.le_of_ble_eq_true rfl) | (simp only [List.map, List.sum_cons, List.sum_nil, g_cat_rf, Value.category]; decide)) rfl ?_
      refine g_iinc 2 (v := (v2 + (1 : Int32))) (pc' := 14) (Lc' := [(2, .int (v2 + (1 : Int32))), (0, .ref a0), (1, .int v1)]) d_Mod_passTicks_11 rfl rfl (by decide) rfl rfl ?_
      refine g_goto (pc' := 2) d_Mod_passTicks_14 (by decide) ?_
      refine g_sub [1, 2, 0] rfl ?_
      exact ih _ _ _ hy
def Mod_passTicks (M : g_MD) (p0 : Int32) : Option g_MD :=
  Mod_passTicks_2  gFU M p0 (0 : Int32)
set_option maxHeartbeats 4000000 in
set_option maxRecDepth 100000 in
theorem T_Mod_passTicks {l : Launch} {B : g_B} {h0 : g_AH} {a0 : Nat} {ad : Nat → Nat} (ok : mOK a0 ad) (M : g_MD) (p0 : Int32) (z : g_MD) (hy : Mod_passTicks M p0 = some z) : g_CT l B y_Mod_passTicks k_Mod_passTicks [.ref a0, .int p0] (mH h0 a0 ad M) (.inl none) (mH h0 a0 ad z) := by
  refine g_start2 (Lc := [(0, .ref a0), (1, .int p0)]) (by decide) rfl rfl (by exact Nat.le_of_ble_eq_true rfl) (by rfl) fun X => ?_
  unfold Mod_passTicks at hy
  refine g_iconst (v := (0 : Int32)) (pc' := 1) d_Mod_passTicks_0 (by decide) rfl ?_
  refine g_istore_n (i := 2) (pc' := 2) (Lc' := [(2, .int (0 : Int32)), (0, .ref a0), (1, .int p0)]) d_Mod_passTicks_1 rfl (by decide) rfl rfl ?_
  refine g_sub [1, 2, 0] rfl ?_
  exact W_Mod_passTicks_2 ok _ _ _ _ _ hy
theorem hd_Mod_passTicks : g_dsc y_Mod_passTicks 1 := ⟨by decide +kernel, by decide +kernel, by decide +kernel⟩
/-! CircuitDeskModel.run(I)I -/
abbrev y_Mod_run : MethodName := ⟨"CircuitDeskModel", "run", "(I)I"⟩
abbrev k_Mod_run : g_M := (prog_17_method_107_code, 3, "CircuitDeskModel", 19, (some FieldType.int), "run", [], 0)
theorem d_Mod_run_0 : decode prog_17_method_107_code 0 = .ok (.aload_n 0, 1) := by decide +kernel
theorem d_Mod_run_1 : decode prog_17_method_107_code 1 = .ok (.iconst 0, 1) := by decide +kernel
theorem d_Mod_run_2 : decode prog_17_method_107_code 2 = .ok (.putfield 51, 3) := by decide +kernel
theorem d_Mod_run_5 : decode prog_17_method_107_code 5 = .ok (.iload_n 1, 1) := by decide +kernel
theorem d_Mod_run_6 : decode prog_17_method_107_code 6 = .ok (.iconst 1, 1) := by decide +kernel
theorem d_Mod_run_7 : decode prog_17_method_107_code 7 = .ok (.sipush 200, 3) := by decide +kernel
theorem d_Mod_run_10 : decode prog_17_method_107_code 10 = .ok (.invokestatic 54, 3) := by decide +kernel
theorem d_Mod_run_13 : decode prog_17_method_107_code 13 = .ok (.ifCond .ne 9, 3) := by decide +kernel
theorem d_Mod_run_16 : decode prog_17_method_107_code 16 = .ok (.aload_n 0, 1) := by decide +kernel
theorem d_Mod_run_17 : decode prog_17_method_107_code 17 = .ok (.iconst 1, 1) := by decide +kernel
theorem d_Mod_run_18 : decode prog_17_method_107_code 18 = .ok (.invokevirtual 61, 3) := by decide +kernel
theorem d_Mod_run_21 : decode prog_17_method_107_code 21 = .ok (.ireturn, 1) := by decide +kernel
theorem d_Mod_run_22 : decode prog_17_method_107_code 22 = .ok (.aload_n 0, 1) := by decide +kernel
theorem d_Mod_run_23 : decode prog_17_method_107_code 23 = .ok (.getfield 7, 3) := by decide +kernel
theorem d_Mod_run_26 : decode prog_17_method_107_code 26 = .ok (.bipush 8, 2) := by decide +kernel
theorem d_Mod_run_28 : decode prog_17_method_107_code 28 = .ok (.iaload, 1) := by decide +kernel
theorem d_Mod_run_29 : decode prog_17_method_107_code 29 = .ok (.istore_n 2, 1) := by decide +kernel
theorem d_Mod_run_30 : decode prog_17_method_107_code 30 = .ok (.aload_n 0, 1) := by decide +kernel
theorem d_Mod_run_31 : decode prog_17_method_107_code 31 = .ok (.iload_n 1, 1) := by decide +kernel
theorem d_Mod_run_32 : decode prog_17_method_107_code 32 = .ok (.invokevirtual 386, 3) := by decide +kernel
theorem d_Mod_run_35 : decode prog_17_method_107_code 35 = .ok (.aload_n 0, 1) := by decide +kernel
theorem d_Mod_run_36 : decode prog_17_method_107_code 36 = .ok (.getfield 7, 3) := by decide +kernel
theorem d_Mod_run_39 : decode prog_17_method_107_code 39 = .ok (.bipush 8, 2) := by decide +kernel
theorem d_Mod_run_41 : decode prog_17_method_107_code 41 = .ok (.iaload, 1) := by decide +kernel
theorem d_Mod_run_42 : decode prog_17_method_107_code 42 = .ok (.iload_n 2, 1) := by decide +kernel
theorem d_Mod_run_43 : decode prog_17_method_107_code 43 = .ok (.isub, 1) := by decide +kernel
theorem d_Mod_run_44 : decode prog_17_method_107_code 44 = .ok (.ireturn, 1) := by decide +kernel
def Mod_run (M : g_MD) (p0 : Int32) : Option (Int32 × g_MD) :=
  g_let (mp M 7 (0 : Int32)) fun M1 => g_b (Mod_isBetween p0 (1 : Int32) (200 : Int32)) fun x2 => if x2 = 0 then (g_bM (Mod_fail M1 (1 : Int32)) fun x13 M14 => some (x13, M14)) else (g_mA M1 0 0 (8 : Int32) fun x6 => g_b (Mod_passTicks M1 p0) fun M9 => g_mA M9 0 0 (8 : Int32) fun x11 => some ((x11 - x6), M9))
set_option maxHeartbeats 4000000 in
set_option maxRecDepth 100000 in
theorem T_Mod_run {l : Launch} {B : g_B} {h0 : g_AH} {a0 : Nat} {ad : Nat → Nat} (ok : mOK a0 ad) (M : g_MD) (p0 : Int32) (z : Int32 × g_MD) (hy : Mod_run M p0 = some z) : g_CT l B y_Mod_run k_Mod_run [.ref a0, .int p0] (mH h0 a0 ad M) (.inl (some (.int z.1))) (mH h0 a0 ad z.2) := by
  refine g_start2 (Lc := [(0, .ref a0), (1, .int p0)]) (by decide) rfl rfl (by exact Nat.le_of_ble_eq_true rfl) (by rfl) fun X => ?_
  unfold Mod_run at hy
  refine g_aload_n 0 (i := 0) (pc' := 1) d_Mod_run_0 rfl rfl rfl ?_
  refine g_iconst (v := (0 : Int32)) (pc' := 2) d_Mod_run_1 (by decide) rfl ?_
  replace hy := g_let_inv hy
  refine gm_put ok 7 (pc' := 5) d_Mod_run_2 rfl (by decide) q1972 rfl ?_
  generalize (mp M 7 (0 : Int32)) = M1 at hy ⊢
  refine g_iload_n 1 (i := 1) (pc' := 6) d_Mod_run_5 rfl rfl rfl ?_
  refine g_iconst (v := (1 : Int32)) (pc' := 7) d_Mod_run_6 (by decide) rfl ?_
  refine g_sipush (v := (200 : Int32)) (pc' := 10) d_Mod_run_7 (by decide) rfl ?_
  replace hy := g_b_inv hy
  obtain ⟨x2, hf4, hy⟩ := hy
  refine g_callS (rv := some (.int x2)) (h1 := (mH h0 a0 ad M1)) (pc' := 13) (As := [.int p0, .int (1 : Int32), .int (200 : Int32)]) (rest := []) 3 (T_Mod_isBetween (hy := hf4)) d_Mod_run_10 q2069 q2070 q135 q2071 hd_Mod_isBetween rfl ⟨by decide, by decide⟩ (by first | exact Nat.le_of_ble_eq_true rfl | (simp only [List.map, List.sum_cons, List.sum_nil, g_cat_rf]; exact Nat.le_of_ble_eq_true rfl) | (simp only [List.map, List.sum_cons, List.sum_nil, g_cat_rf, Value.category]; decide)) rfl ?_
  by_cases c5 : x2 = 0
  · rw [if_pos c5] at hy
    refine g_if_neF (pc' := 16) d_Mod_run_13 22 c5 (by decide) rfl ?_
    refine g_aload_n 0 (i := 0) (pc' := 17) d_Mod_run_16 rfl rfl rfl ?_
    refine g_iconst (v := (1 : Int32)) (pc' := 18) d_Mod_run_17 (by decide) rfl ?_
    replace hy := g_bM_inv hy
    obtain ⟨x13, M14, hf15, hy⟩ := hy
    refine g_callV (rv := some (.int x13)) (h1 := (mH h0 a0 ad M14)) (pc' := 21) (As := [.int (1 : Int32)]) (rest := []) 1 (T_Mod_fail ok (hy := hf15)) d_Mod_run_18 (mH_look ok) rfl rfl q2061 q2063 qs31 q135 q2064 hd_Mod_fail rfl ⟨by decide, by decide⟩ (by first | exact Nat.le_of_ble_eq_true rfl | (simp only [List.map, List.sum_cons, List.sum_nil, g_cat_rf]; exact Nat.le_of_ble_eq_true rfl) | (simp only [List.map, List.sum_cons, List.sum_nil, g_cat_rf, Value.category]; decide)) rfl ?_
    cases hy
    exact g_iret rfl rfl rfl d_Mod_run_21
  · rw [if_neg c5] at hy
    refine g_if_neT (pc' := 22) d_Mod_run_13 c5 (by decide) ?_
    refine g_aload_n 0 (i := 0) (pc' := 23) d_Mod_run_22 rfl rfl rfl ?_
    refine gm_getA ok 0 (pc' := 26) d_Mod_run_23 rfl q1965 rfl rfl ?_
    refine g_bipush (v := (8 : Int32)) (pc' := 28) d_Mod_run_26 (by decide) rfl ?_
    replace hy := g_mA_inv hy
    obtain ⟨x6, hc7, hy⟩ := hy
    refine gm_ald0 ok (pc' := 29) d_Mod_run_28 hc7 rfl ?_
    refine g_istore_n (i := 2) (pc' := 30) (Lc' := [(2, .int x6), (0, .ref a0), (1, .int p0)]) d_Mod_run_29 rfl (by decide) rfl rfl ?_
    refine g_aload_n 1 (i := 0) (pc' := 31) d_Mod_run_30 rfl rfl rfl ?_
    refine g_iload_n 2 (i := 1) (pc' := 32) d_Mod_run_31 rfl rfl rfl ?_
    replace hy := g_b_inv hy
    obtain ⟨M9, hf10, hy⟩ := hy
    refine g_callV (rv := none) (h1 := (mH h0 a0 ad M9)) (pc' := 35) (As := [.int p0]) (rest := []) 1 (T_Mod_passTicks ok (hy := hf10)) d_Mod_run_32 (mH_look ok) rfl rfl q2429 q2431 qs91 q135 q2432 hd_Mod_passTicks rfl ⟨by decide, by decide⟩ (by first | exact Nat.le_of_ble_eq_true rfl | (simp only [List.map, List.sum_cons, List.sum_nil, g_cat_rf]; exact Nat.le_of_ble_eq_true rfl) | (simp only [List.map, List.sum_cons, List.sum_nil, g_cat_rf, Value.category]; decide)) rfl ?_
    refine g_aload_n 1 (i := 0) (pc' := 36) d_Mod_run_35 rfl rfl rfl ?_
    refine gm_getA ok 0 (pc' := 39) d_Mod_run_36 rfl q1965 rfl rfl ?_
    refine g_bipush (v := (8 : Int32)) (pc' := 41) d_Mod_run_39 (by decide) rfl ?_
    replace hy := g_mA_inv hy
    obtain ⟨x11, hc12, hy⟩ := hy
    refine gm_ald0 ok (pc' := 42) d_Mod_run_41 hc12 rfl ?_
    refine g_iload_n 0 (i := 2) (pc' := 43) d_Mod_run_42 rfl rfl rfl ?_
    refine g_isub (pc' := 44) d_Mod_run_43 rfl ?_
    cases hy
    exact g_iret rfl rfl rfl d_Mod_run_44
theorem hd_Mod_run : g_dsc y_Mod_run 1 := ⟨by decide +kernel, by decide +kernel, by decide +kernel⟩
/-! CircuitDeskModel.circuit(II)I -/
abbrev y_Mod_circuit : MethodName := ⟨"CircuitDeskModel", "circuit", "(II)I"⟩
abbrev k_Mod_circuit : g_M := (prog_17_method_108_code, 3, "CircuitDeskModel", 15, (some FieldType.int), "circuit", [], 0)
theorem d_Mod_circuit_0 : decode prog_17_method_108_code 0 = .ok (.aload_n 0, 1) := by decide +kernel
theorem d_Mod_circuit_1 : decode prog_17_method_108_code 1 = .ok (.iconst 0, 1) := by decide +kernel
theorem d_Mod_circuit_2 : decode prog_17_method_108_code 2 = .ok (.putfield 51, 3) := by decide +kernel
theorem d_Mod_circuit_5 : decode prog_17_method_108_code 5 = .ok (.aload_n 0, 1) := by decide +kernel
theorem d_Mod_circuit_6 : decode prog_17_method_108_code 6 = .ok (.iload_n 1, 1) := by decide +kernel
theorem d_Mod_circuit_7 : decode prog_17_method_108_code 7 = .ok (.invokevirtual 306, 3) := by decide +kernel
theorem d_Mod_circuit_10 : decode prog_17_method_108_code 10 = .ok (.ifCond .ne 9, 3) := by decide +kernel
theorem d_Mod_circuit_13 : decode prog_17_method_108_code 13 = .ok (.aload_n 0, 1) := by decide +kernel
theorem d_Mod_circuit_14 : decode prog_17_method_108_code 14 = .ok (.iconst 1, 1) := by decide +kernel
theorem d_Mod_circuit_15 : decode prog_17_method_108_code 15 = .ok (.invokevirtual 61, 3) := by decide +kernel
theorem d_Mod_circuit_18 : decode prog_17_method_108_code 18 = .ok (.ireturn, 1) := by decide +kernel
theorem d_Mod_circuit_19 : decode prog_17_method_108_code 19 = .ok (.iload_n 2, 1) := by decide +kernel
theorem d_Mod_circuit_20 : decode prog_17_method_108_code 20 = .ok (.tableswitch 174 0 14 #[76, 82, 88, 88, 88, 97, 107, 107, 107, 107, 107, 119, 126, 147, 153], 76) := by decide +kernel
theorem d_Mod_circuit_96 : decode prog_17_method_108_code 96 = .ok (.aload_n 0, 1) := by decide +kernel
theorem d_Mod_circuit_97 : decode prog_17_method_108_code 97 = .ok (.iload_n 1, 1) := by decide +kernel
theorem d_Mod_circuit_98 : decode prog_17_method_108_code 98 = .ok (.invokevirtual 315, 3) := by decide +kernel
theorem d_Mod_circuit_101 : decode prog_17_method_108_code 101 = .ok (.ireturn, 1) := by decide +kernel
theorem d_Mod_circuit_102 : decode prog_17_method_108_code 102 = .ok (.aload_n 0, 1) := by decide +kernel
theorem d_Mod_circuit_103 : decode prog_17_method_108_code 103 = .ok (.iload_n 1, 1) := by decide +kernel
theorem d_Mod_circuit_104 : decode prog_17_method_108_code 104 = .ok (.invokevirtual 318, 3) := by decide +kernel
theorem d_Mod_circuit_107 : decode prog_17_method_108_code 107 = .ok (.ireturn, 1) := by decide +kernel
theorem d_Mod_circuit_108 : decode prog_17_method_108_code 108 = .ok (.aload_n 0, 1) := by decide +kernel
theorem d_Mod_circuit_109 : decode prog_17_method_108_code 109 = .ok (.iload_n 1, 1) := by decide +kernel
theorem d_Mod_circuit_110 : decode prog_17_method_108_code 110 = .ok (.iload_n 2, 1) := by decide +kernel
theorem d_Mod_circuit_111 : decode prog_17_method_108_code 111 = .ok (.iconst 2, 1) := by decide +kernel
theorem d_Mod_circuit_112 : decode prog_17_method_108_code 112 = .ok (.isub, 1) := by decide +kernel
theorem d_Mod_circuit_113 : decode prog_17_method_108_code 113 = .ok (.invokevirtual 150, 3) := by decide +kernel
theorem d_Mod_circuit_116 : decode prog_17_method_108_code 116 = .ok (.ireturn, 1) := by decide +kernel
theorem d_Mod_circuit_117 : decode prog_17_method_108_code 117 = .ok (.aload_n 0, 1) := by decide +kernel
theorem d_Mod_circuit_118 : decode prog_17_method_108_code 118 = .ok (.aload_n 0, 1) := by decide +kernel
theorem d_Mod_circuit_119 : decode prog_17_method_108_code 119 = .ok (.iload_n 1, 1) := by decide +kernel
theorem d_Mod_circuit_120 : decode prog_17_method_108_code 120 = .ok (.invokevirtual 368, 3) := by decide +kernel
theorem d_Mod_circuit_123 : decode prog_17_method_108_code 123 = .ok (.invokevirtual 353, 3) := by decide +kernel
theorem d_Mod_circuit_126 : decode prog_17_method_108_code 126 = .ok (.ireturn, 1) := by decide +kernel
theorem d_Mod_circuit_127 : decode prog_17_method_108_code 127 = .ok (.aload_n 0, 1) := by decide +kernel
theorem d_Mod_circuit_128 : decode prog_17_method_108_code 128 = .ok (.iload_n 1, 1) := by decide +kernel
theorem d_Mod_circuit_129 : decode prog_17_method_108_code 129 = .ok (.iconst 5, 1) := by decide +kernel
theorem d_Mod_circuit_130 : decode prog_17_method_108_code 130 = .ok (.iload_n 2, 1) := by decide +kernel
theorem d_Mod_circuit_131 : decode prog_17_method_108_code 131 = .ok (.iadd, 1) := by decide +kernel
theorem d_Mod_circuit_132 : decode prog_17_method_108_code 132 = .ok (.bipush 6, 2) := by decide +kernel
theorem d_Mod_circuit_134 : decode prog_17_method_108_code 134 = .ok (.isub, 1) := by decide +kernel
theorem d_Mod_circuit_135 : decode prog_17_method_108_code 135 = .ok (.invokevirtual 150, 3) := by decide +kernel
theorem d_Mod_circuit_138 : decode prog_17_method_108_code 138 = .ok (.ireturn, 1) := by decide +kernel
theorem d_Mod_circuit_139 : decode prog_17_method_108_code 139 = .ok (.aload_n 0, 1) := by decide +kernel
theorem d_Mod_circuit_140 : decode prog_17_method_108_code 140 = .ok (.iload_n 1, 1) := by decide +kernel
theorem d_Mod_circuit_141 : decode prog_17_method_108_code 141 = .ok (.iconst 4, 1) := by decide +kernel
theorem d_Mod_circuit_142 : decode prog_17_method_108_code 142 = .ok (.invokevirtual 150, 3) := by decide +kernel
theorem d_Mod_circuit_145 : decode prog_17_method_108_code 145 = .ok (.ireturn, 1) := by decide +kernel
theorem d_Mod_circuit_146 : decode prog_17_method_108_code 146 = .ok (.aload_n 0, 1) := by decide +kernel
theorem d_Mod_circuit_147 : decode prog_17_method_108_code 147 = .ok (.iload_n 1, 1) := by decide +kernel
theorem d_Mod_circuit_148 : decode prog_17_method_108_code 148 = .ok (.iconst 2, 1) := by decide +kernel
theorem d_Mod_circuit_149 : decode prog_17_method_108_code 149 = .ok (.invokevirtual 150, 3) := by decide +kernel
theorem d_Mod_circuit_152 : decode prog_17_method_108_code 152 = .ok (.iconst 2, 1) := by decide +kernel
theorem d_Mod_circuit_153 : decode prog_17_method_108_code 153 = .ok (.if_icmp .ne 12, 3) := by decide +kernel
theorem d_Mod_circuit_156 : decode prog_17_method_108_code 156 = .ok (.aload_n 0, 1) := by decide +kernel
theorem d_Mod_circuit_157 : decode prog_17_method_108_code 157 = .ok (.iload_n 1, 1) := by decide +kernel
theorem d_Mod_circuit_158 : decode prog_17_method_108_code 158 = .ok (.iconst 3, 1) := by decide +kernel
theorem d_Mod_circuit_159 : decode prog_17_method_108_code 159 = .ok (.invokevirtual 150, 3) := by decide +kernel
theorem d_Mod_circuit_162 : decode prog_17_method_108_code 162 = .ok (.goto 4, 3) := by decide +kernel
theorem d_Mod_circuit_165 : decode prog_17_method_108_code 165 = .ok (.iconst 0, 1) := by decide +kernel
theorem d_Mod_circuit_166 : decode prog_17_method_108_code 166 = .ok (.ireturn, 1) := by decide +kernel
theorem d_Mod_circuit_167 : decode prog_17_method_108_code 167 = .ok (.aload_n 0, 1) := by decide +kernel
theorem d_Mod_circuit_168 : decode prog_17_method_108_code 168 = .ok (.iload_n 1, 1) := by decide +kernel
theorem d_Mod_circuit_169 : decode prog_17_method_108_code 169 = .ok (.invokevirtual 309, 3) := by decide +kernel
theorem d_Mod_circuit_172 : decode prog_17_method_108_code 172 = .ok (.ireturn, 1) := by decide +kernel
theorem d_Mod_circuit_173 : decode prog_17_method_108_code 173 = .ok (.aload_n 0, 1) := by decide +kernel
theorem d_Mod_circuit_174 : decode prog_17_method_108_code 174 = .ok (.iload_n 1, 1) := by decide +kernel
theorem d_Mod_circuit_175 : decode prog_17_method_108_code 175 = .ok (.iconst 2, 1) := by decide +kernel
theorem d_Mod_circuit_176 : decode prog_17_method_108_code 176 = .ok (.invokevirtual 150, 3) := by decide +kernel
theorem d_Mod_circuit_179 : decode prog_17_method_108_code 179 = .ok (.iconst 1, 1) := by decide +kernel
theorem d_Mod_circuit_180 : decode prog_17_method_108_code 180 = .ok (.if_icmp .ne 12, 3) := by decide +kernel
theorem d_Mod_circuit_183 : decode prog_17_method_108_code 183 = .ok (.aload_n 0, 1) := by decide +kernel
theorem d_Mod_circuit_184 : decode prog_17_method_108_code 184 = .ok (.iload_n 1, 1) := by decide +kernel
theorem d_Mod_circuit_185 : decode prog_17_method_108_code 185 = .ok (.iconst 3, 1) := by decide +kernel
theorem d_Mod_circuit_186 : decode prog_17_method_108_code 186 = .ok (.invokevirtual 150, 3) := by decide +kernel
theorem d_Mod_circuit_189 : decode prog_17_method_108_code 189 = .ok (.goto 4, 3) := by decide +kernel
theorem d_Mod_circuit_192 : decode prog_17_method_108_code 192 = .ok (.iconst 0, 1) := by decide +kernel
theorem d_Mod_circuit_193 : decode prog_17_method_108_code 193 = .ok (.ireturn, 1) := by decide +kernel
theorem d_Mod_circuit_194 : decode prog_17_method_108_code 194 = .ok (.aload_n 0, 1) := by decide +kernel
theorem d_Mod_circuit_195 : decode prog_17_method_108_code 195 = .ok (.iconst 2, 1) := by decide +kernel
theorem d_Mod_circuit_196 : decode prog_17_method_108_code 196 = .ok (.invokevirtual 61, 3) := by decide +kernel
theorem d_Mod_circuit_199 : decode prog_17_method_108_code 199 = .ok (.ireturn, 1) := by decide +kernel
def Mod_circuit_108 (M : g_MD) (v1 : Int32) (v2 : Int32) : Option (Int32 × g_MD) :=
  g_b (Mod_of M v1 (v2 - (2 : Int32))) fun x15 => some (x15, M)
set_option maxHeartbeats 4000000 in
set_option maxRecDepth 100000 in
theorem W_Mod_circuit_108 {X : g_X} {h0 : g_AH} {a0 : Nat} {ad : Nat → Nat} (ok : mOK a0 ad) (z : Int32 × g_MD) (M : g_MD) (v1 : Int32) (v2 : Int32) (hy : Mod_circuit_108  M v1 v2 = some z) : G X k_Mod_circuit (.inl (some (.int z.1))) (mH h0 a0 ad z.2) (mH h0 a0 ad M) 108 [(0, .ref a0), (1, .int v1), (2, .int v2)] [] := by
  unfold Mod_circuit_108 at hy
  refine g_aload_n 0 (i := 0) (pc' := 109) d_Mod_circuit_108 rfl rfl rfl ?_
  refine g_iload_n 1 (i := 1) (pc' := 110) d_Mod_circuit_109 rfl rfl rfl ?_
  refine g_iload_n 2 (i := 2) (pc' := 111) d_Mod_circuit_110 rfl rfl rfl ?_
  refine g_iconst (v := (2 : Int32)) (pc' := 112) d_Mod_circuit_111 (by decide) rfl ?_
  refine g_isub (pc' := 113) d_Mod_circuit_112 rfl ?_
  replace hy := g_b_inv hy
  obtain ⟨x15, hf17, hy⟩ := hy
  refine g_callV (rv := some (.int x15)) (h1 := (mH h0 a0 ad M)) (pc' := 116) (As := [.int v1, .int (v2 - (2 : Int32))]) (rest := []) 2 (T_Mod_of ok (hy := hf17)) d_Mod_circuit_113 (mH_look ok) rfl rfl q2186 q2188 qs52 q135 q2189 hd_Mod_of rfl ⟨by decide, by decide⟩ (by first | exact Nat.le_of_ble_eq_true rfl | (simp only [List.map, List.sum_cons, List.sum_nil, g_cat_rf]; exact Nat.le_of_ble_eq_true rfl) | (simp only [List.map, List.sum_cons, List.sum_nil, g_cat_rf, Value.category]; decide)) rfl ?_
  cases hy
  exact g_iret rfl rfl rfl d_Mod_circuit_116
def Mod_circuit_127 (M : g_MD) (v1 : Int32) (v2 : Int32) : Option (Int32 × g_MD) :=
  g_b (Mod_of M v1 (((5 : Int32) + v2) - (6 : Int32))) fun x28 => some (x28, M)
set_option maxHeartbeats 4000000 in
set_option maxRecDepth 100000 in
theorem W_Mod_circuit_127 {X : g_X} {h0 : g_AH} {a0 : Nat} {ad : Nat → Nat} (ok : mOK a0 ad) (z : Int32 × g_MD) (M : g_MD) (v1 : Int32) (v2 : Int32) (hy : Mod_circuit_127  M v1 v2 = some z) : G X k_Mod_circuit (.inl (some (.int z.1))) (mH h0 a0 ad z.2) (mH h0 a0 ad M) 127 [(0, .ref a0), (1, .int v1), (2, .int v2)] [] := by
  unfold Mod_circuit_127 at hy
  refine g_aload_n 0 (i := 0) (pc' := 128) d_Mod_circuit_127 rfl rfl rfl ?_
  refine g_iload_n 1 (i := 1) (pc' := 129) d_Mod_circuit_128 rfl rfl rfl ?_
  refine g_iconst (v := (5 : Int32)) (pc' := 130) d_Mod_circuit_129 (by decide) rfl ?_
  refine g_iload_n 2 (i := 2) (pc' := 131) d_Mod_circuit_130 rfl rfl rfl ?_
  refine g_iadd (pc' := 132) d_Mod_circuit_131 rfl ?_
  refine g_bipush (v := (6 : Int32)) (pc' := 134) d_Mod_circuit_132 (by decide) rfl ?_
  refine g_isub (pc' := 135) d_Mod_circuit_134 rfl ?_
  replace hy := g_b_inv hy
  obtain ⟨x28, hf30, hy⟩ := hy
  refine g_callV (rv := some (.int x28)) (h1 := (mH h0 a0 ad M)) (pc' := 138) (As := [.int v1, .int (((5 : Int32) + v2) - (6 : Int32))]) (rest := []) 2 (T_Mod_of ok (hy := hf30)) d_Mod_circuit_135 (mH_look ok) rfl rfl q2186 q2188 qs52 q135 q2189 hd_Mod_of rfl ⟨by decide, by decide⟩ (by first | exact Nat.le_of_ble_eq_true rfl | (simp only [List.map, List.sum_cons, List.sum_nil, g_cat_rf]; exact Nat.le_of_ble_eq_true rfl) | (simp only [List.map, List.sum_cons, List.sum_nil, g_cat_rf, Value.category]; decide)) rfl ?_
  cases hy
  exact g_iret rfl rfl rfl d_Mod_circuit_138
def Mod_circuit (M : g_MD) (p0 : Int32) (p1 : Int32) : Option (Int32 × g_MD) :=
  g_let (mp M 7 (0 : Int32)) fun M1 => g_b (Mod_isCircuit M1 p0) fun x2 => if x2 = 0 then (g_bM (Mod_fail M1 (1 : Int32)) fun x62 M63 => some (x62, M63)) else (if p1 = (0 : Int32) then (g_b (Mod_firstOf M1 p0) fun x7 => some (x7, M1)) else (if p1 = (1 : Int32) then (g_b (Mod_lastOf M1 p0) fun x11 => some (x11, M1)) else (if p1 = (2 : Int32) then (Mod_circuit_108  M1 p0 p1) else (if p1 = (3 : Int32) then (Mod_circuit_108  M1 p0 p1) else (if p1 = (4 : Int32) then (Mod_circuit_108  M1 p0 p1) else (if p1 = (5 : Int32) then (g_b (Mod_activePlace M1 p0) fun x21 => g_b (Mod_delayOf M1 x21) fun x24 => some (x24, M1)) else (if p1 = (6 : Int32) then (Mod_circuit_127  M1 p0 p1) else (if p1 = (7 : Int32) then (Mod_circuit_127  M1 p0 p1) else (if p1 = (8 : Int32) then (Mod_circuit_127  M1 p0 p1) else (if p1 = (9 : Int32) then (Mod_circuit_127  M1 p0 p1) else (if p1 = (10 : Int32) then (Mod_circuit_127  M1 p0 p1) else (if p1 = (11 : Int32) then (g_b (Mod_of M1 p0 (4 : Int32)) fun x36 => some (x36, M1)) else (if p1 = (12 : Int32) then (g_b (Mod_of M1 p0 (2 : Int32)) fun x40 => if x40 = (2 : Int32) then (g_b (Mod_of M1 p0 (3 : Int32)) fun x44 => some (x44, M1)) else (some ((0 : Int32), M1))) else (if p1 = (13 : Int32) then (g_b (Mod_packetsOf M1 p0) fun x48 => some (x48, M1)) else (if p1 = (14 : Int32) then (g_b (Mod_of M1 p0 (2 : Int32)) fun x52 => if x52 = (1 : Int32) then (g_b (Mod_of M1 p0 (3 : Int32)) fun x56 => some (x56, M1)) else (some ((0 : Int32), M1))) else (g_bM (Mod_fail M1 (2 : Int32)) fun x59 M60 => some (x59, M60)))))))))))))))))
set_option maxHeartbeats 4000000 in
set_option maxRecDepth 100000 in
theorem T_Mod_circuit {l : Launch} {B : g_B} {h0 : g_AH} {a0 : Nat} {ad : Nat → Nat} (ok : mOK a0 ad) (M : g_MD) (p0 : Int32) (p1 : Int32) (z : Int32 × g_MD) (hy : Mod_circuit M p0 p1 = some z) : g_CT l B y_Mod_circuit k_Mod_circuit [.ref a0, .int p0, .int p1] (mH h0 a0 ad M) (.inl (some (.int z.1))) (mH h0 a0 ad z.2) := by
  refine g_start2 (Lc := [(0, .ref a0), (1, .int p0), (2, .int p1)]) (by decide) rfl rfl (by exact Nat.le_of_ble_eq_true rfl) (by rfl) fun X => ?_
  unfold Mod_circuit at hy
  refine g_aload_n 0 (i := 0) (pc' := 1) d_Mod_circuit_0 rfl rfl rfl ?_
  refine g_iconst (v := (0 : Int32)) (pc' := 2) d_Mod_circuit_1 (by decide) rfl ?_
  replace hy := g_let_inv hy
  refine gm_put ok 7 (pc' := 5) d_Mod_circuit_2 rfl (by decide) q1972 rfl ?_
  generalize (mp M 7 (0 : Int32)) = M1 at hy ⊢
  refine g_aload_n 0 (i := 0) (pc' := 6) d_Mod_circuit_5 rfl rfl rfl ?_
  refine g_iload_n 1 (i := 1) (pc' := 7) d_Mod_circuit_6 rfl rfl rfl ?_
  replace hy := g_b_inv hy
  obtain ⟨x2, hf4, hy⟩ := hy
  refine g_callV (rv := some (.int x2)) (h1 := (mH h0 a0 ad M1)) (pc' := 10) (As := [.int p0]) (rest := []) 1 (T_Mod_isCircuit ok (hy := hf4)) d_Mod_circuit_7 (mH_look ok) rfl rfl q2375 q2377 qs83 q135 q2378 hd_Mod_isCircuit rfl ⟨by decide, by decide⟩ (by first | exact Nat.le_of_ble_eq_true rfl | (simp only [List.map, List.sum_cons, List.sum_nil, g_cat_rf]; exact Nat.le_of_ble_eq_true rfl) | (simp only [List.map, List.sum_cons, List.sum_nil, g_cat_rf, Value.category]; decide)) rfl ?_
  by_cases c5 : x2 = 0
  · rw [if_pos c5] at hy
    refine g_if_neF (pc' := 13) d_Mod_circuit_10 19 c5 (by decide) rfl ?_
    refine g_aload_n 0 (i := 0) (pc' := 14) d_Mod_circuit_13 rfl rfl rfl ?_
    refine g_iconst (v := (1 : Int32)) (pc' := 15) d_Mod_circuit_14 (by decide) rfl ?_
    replace hy := g_bM_inv hy
    obtain ⟨x62, M63, hf64, hy⟩ := hy
    refine g_callV (rv := some (.int x62)) (h1 := (mH h0 a0 ad M63)) (pc' := 18) (As := [.int (1 : Int32)]) (rest := []) 1 (T_Mod_fail ok (hy := hf64)) d_Mod_circuit_15 (mH_look ok) rfl rfl q2061 q2063 qs31 q135 q2064 hd_Mod_fail rfl ⟨by decide, by decide⟩ (by first | exact Nat.le_of_ble_eq_true rfl | (simp only [List.map, List.sum_cons, List.sum_nil, g_cat_rf]; exact Nat.le_of_ble_eq_true rfl) | (simp only [List.map, List.sum_cons, List.sum_nil, g_cat_rf, Value.category]; decide)) rfl ?_
    cases hy
    exact g_iret rfl rfl rfl d_Mod_circuit_18
  · rw [if_neg c5] at hy
    refine g_if_neT (pc' := 19) d_Mod_circuit_10 c5 (by decide) ?_
    refine g_iload_n 2 (i := 2) (pc' := 20) d_Mod_circuit_19 rfl rfl rfl ?_
    by_cases c6 : p1 = (0 : Int32)
    · rw [if_pos c6] at hy
      refine g_tableIn (pc' := 96) (0 : Int32) d_Mod_circuit_20 c6 (by decide) rfl (by decide) ?_
      refine g_aload_n 0 (i := 0) (pc' := 97) d_Mod_circuit_96 rfl rfl rfl ?_
      refine g_iload_n 1 (i := 1) (pc' := 98) d_Mod_circuit_97 rfl rfl rfl ?_
      replace hy := g_b_inv hy
      obtain ⟨x7, hf9, hy⟩ := hy
      refine g_callV (rv := some (.int x7)) (h1 := (mH h0 a0 ad M1)) (pc' := 101) (As := [.int p0]) (rest := []) 1 (T_Mod_firstOf ok (hy := hf9)) d_Mod_circuit_98 (mH_look ok) rfl rfl q2387 q2389 qs85 q135 q2390 hd_Mod_firstOf rfl ⟨by decide, by decide⟩ (by first | exact Nat.le_of_ble_eq_true rfl | (simp only [List.map, List.sum_cons, List.sum_nil, g_cat_rf]; exact Nat.le_of_ble_eq_true rfl) | (simp only [List.map, List.sum_cons, List.sum_nil, g_cat_rf, Value.category]; decide)) rfl ?_
      cases hy
      exact g_iret rfl rfl rfl d_Mod_circuit_101
    · rw [if_neg c6] at hy
      by_cases c10 : p1 = (1 : Int32)
      · rw [if_pos c10] at hy
        refine g_tableIn (pc' := 102) (1 : Int32) d_Mod_circuit_20 c10 (by decide) rfl (by decide) ?_
        refine g_aload_n 0 (i := 0) (pc' := 103) d_Mod_circuit_102 rfl rfl rfl ?_
        refine g_iload_n 1 (i := 1) (pc' := 104) d_Mod_circuit_103 rfl rfl rfl ?_
        replace hy := g_b_inv hy
        obtain ⟨x11, hf13, hy⟩ := hy
        refine g_callV (rv := some (.int x11)) (h1 := (mH h0 a0 ad M1)) (pc' := 107) (As := [.int p0]) (rest := []) 1 (T_Mod_lastOf ok (hy := hf13)) d_Mod_circuit_104 (mH_look ok) rfl rfl q2391 q2393 qs86 q135 q2394 hd_Mod_lastOf rfl ⟨by decide, by decide⟩ (by first | exact Nat.le_of_ble_eq_true rfl | (simp only [List.map, List.sum_cons, List.sum_nil, g_cat_rf]; exact Nat.le_of_ble_eq_true rfl) | (simp only [List.map, List.sum_cons, List.sum_nil, g_cat_rf, Value.category]; decide)) rfl ?_
        cases hy
        exact g_iret rfl rfl rfl d_Mod_circuit_107
      · rw [if_neg c10] at hy
        by_cases c14 : p1 = (2 : Int32)
        · rw [if_pos c14] at hy
          refine g_tableIn (pc' := 108) (2 : Int32) d_Mod_circuit_20 c14 (by decide) rfl (by decide) ?_
          exact W_Mod_circuit_108 ok _ _ _ _ hy
        · rw [if_neg c14] at hy
          by_cases c18 : p1 = (3 : Int32)
          · rw [if_pos c18] at hy
            refine g_tableIn (pc' := 108) (3 : Int32) d_Mod_circuit_20 c18 (by decide) rfl (by decide) ?_
            exact W_Mod_circuit_108 ok _ _ _ _ hy
          · rw [if_neg c18] at hy
            by_cases c19 : p1 = (4 : Int32)
            · rw [if_pos c19] at hy
              refine g_tableIn (pc' := 108) (4 : Int32) d_Mod_circuit_20 c19 (by decide) rfl (by decide) ?_
              exact W_Mod_circuit_108 ok _ _ _ _ hy
            · rw [if_neg c19] at hy
              by_cases c20 : p1 = (5 : Int32)
              · rw [if_pos c20] at hy
                refine g_tableIn (pc' := 117) (5 : Int32) d_Mod_circuit_20 c20 (by decide) rfl (by decide) ?_
                refine g_aload_n 0 (i := 0) (pc' := 118) d_Mod_circuit_117 rfl rfl rfl ?_
                refine g_aload_n 0 (i := 0) (pc' := 119) d_Mod_circuit_118 rfl rfl rfl ?_
                refine g_iload_n 1 (i := 1) (pc' := 120) d_Mod_circuit_119 rfl rfl rfl ?_
                replace hy := g_b_inv hy
                obtain ⟨x21, hf23, hy⟩ := hy
                refine g_callV (rv := some (.int x21)) (h1 := (mH h0 a0 ad M1)) (pc' := 123) (As := [.int p0]) (rest := [.ref a0]) 1 (T_Mod_activePlace ok (hy := hf23)) d_Mod_circuit_120 (mH_look ok) rfl rfl q2485 q2487 qs105 q135 q2488 hd_Mod_activePlace rfl ⟨by decide, by decide⟩ (by first | exact Nat.le_of_ble_eq_true rfl | (simp only [List.map, List.sum_cons, List.sum_nil, g_cat_rf]; exact Nat.le_of_ble_eq_true rfl) | (simp only [List.map, List.sum_cons, List.sum_nil, g_cat_rf, Value.category]; decide)) rfl ?_
                replace hy := g_b_inv hy
                obtain ⟨x24, hf26, hy⟩ := hy
                refine g_callV (rv := some (.int x24)) (h1 := (mH h0 a0 ad M1)) (pc' := 126) (As := [.int x21]) (rest := []) 1 (T_Mod_delayOf ok (hy := hf26)) d_Mod_circuit_123 (mH_look ok) rfl rfl q2461 q2463 qs99 q135 q2464 hd_Mod_delayOf rfl ⟨by decide, by decide⟩ (by first | exact Nat.le_of_ble_eq_true rfl | (simp only [List.map, List.sum_cons, List.sum_nil, g_cat_rf]; exact Nat.le_of_ble_eq_true rfl) | (simp only [List.map, List.sum_cons, List.sum_nil, g_cat_rf, Value.category]; decide)) rfl ?_
                cases hy
                exact g_iret rfl rfl rfl d_Mod_circuit_126
              · rw [if_neg c20] at hy
                by_cases c27 : p1 = (6 : Int32)
                · rw [if_pos c27] at hy
                  refine g_tableIn (pc' := 127) (6 : Int32) d_Mod_circuit_20 c27 (by decide) rfl (by decide) ?_
                  exact W_Mod_circuit_127 ok _ _ _ _ hy
                · rw [if_neg c27] at hy
                  by_cases c31 : p1 = (7 : Int32)
                  · rw [if_pos c31] at hy
                    refine g_tableIn (pc' := 127) (7 : Int32) d_Mod_circuit_20 c31 (by decide) rfl (by decide) ?_
                    exact W_Mod_circuit_127 ok _ _ _ _ hy
                  · rw [if_neg c31] at hy
                    by_cases c32 : p1 = (8 : Int32)
                    · rw [if_pos c32] at hy
                      refine g_tableIn (pc' := 127) (8 : Int32) d_Mod_circuit_20 c32 (by decide) rfl (by decide) ?_
                      exact W_Mod_circuit_127 ok _ _ _ _ hy
                    · rw [if_neg c32] at hy
                      by_cases c33 : p1 = (9 : Int32)
                      · rw [if_pos c33] at hy
                        refine g_tableIn (pc' := 127) (9 : Int32) d_Mod_circuit_20 c33 (by decide) rfl (by decide) ?_
                        exact W_Mod_circuit_127 ok _ _ _ _ hy
                      · rw [if_neg c33] at hy
                        by_cases c34 : p1 = (10 : Int32)
                        · rw [if_pos c34] at hy
                          refine g_tableIn (pc' := 127) (10 : Int32) d_Mod_circuit_20 c34 (by decide) rfl (by decide) ?_
                          exact W_Mod_circuit_127 ok _ _ _ _ hy
                        · rw [if_neg c34] at hy
                          by_cases c35 : p1 = (11 : Int32)
                          · rw [if_pos c35] at hy
                            refine g_tableIn (pc' := 139) (11 : Int32) d_Mod_circuit_20 c35 (by decide) rfl (by decide) ?_
                            refine g_aload_n 0 (i := 0) (pc' := 140) d_Mod_circuit_139 rfl rfl rfl ?_
                            refine g_iload_n 1 (i := 1) (pc' := 141) d_Mod_circuit_140 rfl rfl rfl ?_
                            refine g_iconst (v := (4 : Int32)) (pc' := 142) d_Mod_circuit_141 (by decide) rfl ?_
                            replace hy := g_b_inv hy
                            obtain ⟨x36, hf38, hy⟩ := hy
                            refine g_callV (rv := some (.int x36)) (h1 := (mH h0 a0 ad M1)) (pc' := 145) (As := [.int p0, .int (4 : Int32)]) (rest := []) 2 (T_Mod_of ok (hy := hf38)) d_Mod_circuit_142 (mH_look ok) rfl rfl q2186 q2188 qs52 q135 q2189 hd_Mod_of rfl ⟨by decide, by decide⟩ (by first | exact Nat.le_of_ble_eq_true rfl | (simp only [List.map, List.sum_cons, List.sum_nil, g_cat_rf]; exact Nat.le_of_ble_eq_true rfl) | (simp only [List.map, List.sum_cons, List.sum_nil, g_cat_rf, Value.category]; decide)) rfl ?_
                            cases hy
                            exact g_iret rfl rfl rfl d_Mod_circuit_145
                          · rw [if_neg c35] at hy
                            by_cases c39 : p1 = (12 : Int32)
                            · rw [if_pos c39] at hy
                              refine g_tableIn (pc' := 146) (12 : Int32) d_Mod_circuit_20 c39 (by decide) rfl (by decide) ?_
                              refine g_aload_n 0 (i := 0) (pc' := 147) d_Mod_circuit_146 rfl rfl rfl ?_
                              refine g_iload_n 1 (i := 1) (pc' := 148) d_Mod_circuit_147 rfl rfl rfl ?_
                              refine g_iconst (v := (2 : Int32)) (pc' := 149) d_Mod_circuit_148 (by decide) rfl ?_
                              replace hy := g_b_inv hy
                              obtain ⟨x40, hf42, hy⟩ := hy
                              refine g_callV (rv := some (.int x40)) (h1 := (mH h0 a0 ad M1)) (pc' := 152) (As := [.int p0, .int (2 : Int32)]) (rest := []) 2 (T_Mod_of ok (hy := hf42)) d_Mod_circuit_149 (mH_look ok) rfl rfl q2186 q2188 qs52 q135 q2189 hd_Mod_of rfl ⟨by decide, by decide⟩ (by first | exact Nat.le_of_ble_eq_true rfl | (simp only [List.map, List.sum_cons, List.sum_nil, g_cat_rf]; exact Nat.le_of_ble_eq_true rfl) | (simp only [List.map, List.sum_cons, List.sum_nil, g_cat_rf, Value.category]; decide)) rfl ?_
                              refine g_iconst (v := (2 : Int32)) (pc' := 153) d_Mod_circuit_152 (by decide) rfl ?_
                              by_cases c43 : x40 = (2 : Int32)
                              · rw [if_pos c43] at hy
                                refine g_icmp_neF (pc' := 156) d_Mod_circuit_153 165 c43 (by decide) rfl ?_
                                refine g_aload_n 0 (i := 0) (pc' := 157) d_Mod_circuit_156 rfl rfl rfl ?_
                                refine g_iload_n 1 (i := 1) (pc' := 158) d_Mod_circuit_157 rfl rfl rfl ?_
                                refine g_iconst (v := (3 : Int32)) (pc' := 159) d_Mod_circuit_158 (by decide) rfl ?_
                                replace hy := g_b_inv hy
                                obtain ⟨x44, hf46, hy⟩ := hy
                                refine g_callV (rv := some (.int x44)) (h1 := (mH h0 a0 ad M1)) (pc' := 162) (As := [.int p0, .int (3 : Int32)]) (rest := []) 2 (T_Mod_of ok (hy := hf46)) d_Mod_circuit_159 (mH_look ok) rfl rfl q2186 q2188 qs52 q135 q2189 hd_Mod_of rfl ⟨by decide, by decide⟩ (by first | exact Nat.le_of_ble_eq_true rfl | (simp only [List.map, List.sum_cons, List.sum_nil, g_cat_rf]; exact Nat.le_of_ble_eq_true rfl) | (simp only [List.map, List.sum_cons, List.sum_nil, g_cat_rf, Value.category]; decide)) rfl ?_
                                refine g_goto (pc' := 166) d_Mod_circuit_162 (by decide) ?_
                                cases hy
                                exact g_iret rfl rfl rfl d_Mod_circuit_166
                              · rw [if_neg c43] at hy
                                refine g_icmp_neT (pc' := 165) d_Mod_circuit_153 c43 (by decide) ?_
                                refine g_iconst (v := (0 : Int32)) (pc' := 166) d_Mod_circuit_165 (by decide) rfl ?_
                                cases hy
                                exact g_iret rfl rfl rfl d_Mod_circuit_166
                            · rw [if_neg c39] at hy
                              by_cases c47 : p1 = (13 : Int32)
                              · rw [if_pos c47] at hy
                                refine g_tableIn (pc' := 167) (13 : Int32) d_Mod_circuit_20 c47 (by decide) rfl (by decide) ?_
                                refine g_aload_n 0 (i := 0) (pc' := 168) d_Mod_circuit_167 rfl rfl rfl ?_
                                refine g_iload_n 1 (i := 1) (pc' := 169) d_Mod_circuit_168 rfl rfl rfl ?_
                                replace hy := g_b_inv hy
                                obtain ⟨x48, hf50, hy⟩ := hy
                                refine g_callV (rv := some (.int x48)) (h1 := (mH h0 a0 ad M1)) (pc' := 172) (As := [.int p0]) (rest := []) 1 (T_Mod_packetsOf ok (hy := hf50)) d_Mod_circuit_169 (mH_look ok) rfl rfl q2379 q2381 qs84 q135 q2382 hd_Mod_packetsOf rfl ⟨by decide, by decide⟩ (by first | exact Nat.le_of_ble_eq_true rfl | (simp only [List.map, List.sum_cons, List.sum_nil, g_cat_rf]; exact Nat.le_of_ble_eq_true rfl) | (simp only [List.map, List.sum_cons, List.sum_nil, g_cat_rf, Value.category]; decide)) rfl ?_
                                cases hy
                                exact g_iret rfl rfl rfl d_Mod_circuit_172
                              · rw [if_neg c47] at hy
                                by_cases c51 : p1 = (14 : Int32)
                                · rw [if_pos c51] at hy
                                  refine g_tableIn (pc' := 173) (14 : Int32) d_Mod_circuit_20 c51 (by decide) rfl (by decide) ?_
                                  refine g_aload_n 0 (i := 0) (pc' := 174) d_Mod_circuit_173 rfl rfl rfl ?_
                                  refine g_iload_n 1 (i := 1) (pc' := 175) d_Mod_circuit_174 rfl rfl rfl ?_
                                  refine g_iconst (v := (2 : Int32)) (pc' := 176) d_Mod_circuit_175 (by decide) rfl ?_
                                  replace hy := g_b_inv hy
                                  obtain ⟨x52, hf54, hy⟩ := hy
                                  refine g_callV (rv := some (.int x52)) (h1 := (mH h0 a0 ad M1)) (pc' := 179) (As := [.int p0, .int (2 : Int32)]) (rest := []) 2 (T_Mod_of ok (hy := hf54)) d_Mod_circuit_176 (mH_look ok) rfl rfl q2186 q2188 qs52 q135 q2189 hd_Mod_of rfl ⟨by decide, by decide⟩ (by first | exact Nat.le_of_ble_eq_true rfl | (simp only [List.map, List.sum_cons, List.sum_nil, g_cat_rf]; exact Nat.le_of_ble_eq_true rfl) | (simp only [List.map, List.sum_cons, List.sum_nil, g_cat_rf, Value.category]; decide)) rfl ?_
                                  refine g_iconst (v := (1 : Int32)) (pc' := 180) d_Mod_circuit_179 (by decide) rfl ?_
                                  by_cases c55 : x52 = (1 : Int32)
                                  · rw [if_pos c55] at hy
                                    refine g_icmp_neF (pc' := 183) d_Mod_circuit_180 192 c55 (by decide) rfl ?_
                                    refine g_aload_n 0 (i := 0) (pc' := 184) d_Mod_circuit_183 rfl rfl rfl ?_
                                    refine g_iload_n 1 (i := 1) (pc' := 185) d_Mod_circuit_184 rfl rfl rfl ?_
                                    refine g_iconst (v := (3 : Int32)) (pc' := 186) d_Mod_circuit_185 (by decide) rfl ?_
                                    replace hy := g_b_inv hy
                                    obtain ⟨x56, hf58, hy⟩ := hy
                                    refine g_callV (rv := some (.int x56)) (h1 := (mH h0 a0 ad M1)) (pc' := 189) (As := [.int p0, .int (3 : Int32)]) (rest := []) 2 (T_Mod_of ok (hy := hf58)) d_Mod_circuit_186 (mH_look ok) rfl rfl q2186 q2188 qs52 q135 q2189 hd_Mod_of rfl ⟨by decide, by decide⟩ (by first | exact Nat.le_of_ble_eq_true rfl | (simp only [List.map, List.sum_cons, List.sum_nil, g_cat_rf]; exact Nat.le_of_ble_eq_true rfl) | (simp only [List.map, List.sum_cons, List.sum_nil, g_cat_rf, Value.category]; decide)) rfl ?_
                                    refine g_goto (pc' := 193) d_Mod_circuit_189 (by decide) ?_
                                    cases hy
                                    exact g_iret rfl rfl rfl d_Mod_circuit_193
                                  · rw [if_neg c55] at hy
                                    refine g_icmp_neT (pc' := 192) d_Mod_circuit_180 c55 (by decide) ?_
                                    refine g_iconst (v := (0 : Int32)) (pc' := 193) d_Mod_circuit_192 (by decide) rfl ?_
                                    cases hy
                                    exact g_iret rfl rfl rfl d_Mod_circuit_193
                                · rw [if_neg c51] at hy
                                  have c6 := g_neI (n := 0) (by decide) c6
                                  have c10 := g_neI (n := 1) (by decide) c10
                                  have c14 := g_neI (n := 2) (by decide) c14
                                  have c18 := g_neI (n := 3) (by decide) c18
                                  have c19 := g_neI (n := 4) (by decide) c19
                                  have c20 := g_neI (n := 5) (by decide) c20
                                  have c27 := g_neI (n := 6) (by decide) c27
                                  have c31 := g_neI (n := 7) (by decide) c31
                                  have c32 := g_neI (n := 8) (by decide) c32
                                  have c33 := g_neI (n := 9) (by decide) c33
                                  have c34 := g_neI (n := 10) (by decide) c34
                                  have c35 := g_neI (n := 11) (by decide) c35
                                  have c39 := g_neI (n := 12) (by decide) c39
                                  have c47 := g_neI (n := 13) (by decide) c47
                                  have c51 := g_neI (n := 14) (by decide) c51
                                  refine g_tableOut (pc' := 194) d_Mod_circuit_20 (by omega) (by decide) ?_
                                  refine g_aload_n 0 (i := 0) (pc' := 195) d_Mod_circuit_194 rfl rfl rfl ?_
                                  refine g_iconst (v := (2 : Int32)) (pc' := 196) d_Mod_circuit_195 (by decide) rfl ?_
                                  replace hy := g_bM_inv hy
                                  obtain ⟨x59, M60, hf61, hy⟩ := hy
                                  refine g_callV (rv := some (.int x59)) (h1 := (mH h0 a0 ad M60)) (pc' := 199) (As := [.int (2 : Int32)]) (rest := []) 1 (T_Mod_fail ok (hy := hf61)) d_Mod_circuit_196 (mH_look ok) rfl rfl q2061 q2063 qs31 q135 q2064 hd_Mod_fail rfl ⟨by decide, by decide⟩ (by first | exact Nat.le_of_ble_eq_true rfl | (simp only [List.map, List.sum_cons, List.sum_nil, g_cat_rf]; exact Nat.le_of_ble_eq_true rfl) | (simp only [List.map, List.sum_cons, List.sum_nil, g_cat_rf, Value.category]; decide)) rfl ?_
                                  cases hy
                                  exact g_iret rfl rfl rfl d_Mod_circuit_199
theorem hd_Mod_circuit : g_dsc y_Mod_circuit 2 := ⟨by decide +kernel, by decide +kernel, by decide +kernel⟩
/-! CircuitDeskModel.way(IZII)I -/
abbrev y_Mod_way : MethodName := ⟨"CircuitDeskModel", "way", "(IZII)I"⟩
abbrev k_Mod_way : g_M := (prog_17_method_109_code, 6, "CircuitDeskModel", 14, (some FieldType.int), "way", [], 0)
theorem d_Mod_way_0 : decode prog_17_method_109_code 0 = .ok (.aload_n 0, 1) := by decide +kernel
theorem d_Mod_way_1 : decode prog_17_method_109_code 1 = .ok (.iconst 0, 1) := by decide +kernel
theorem d_Mod_way_2 : decode prog_17_method_109_code 2 = .ok (.putfield 51, 3) := by decide +kernel
theorem d_Mod_way_5 : decode prog_17_method_109_code 5 = .ok (.aload_n 0, 1) := by decide +kernel
theorem d_Mod_way_6 : decode prog_17_method_109_code 6 = .ok (.iload_n 1, 1) := by decide +kernel
theorem d_Mod_way_7 : decode prog_17_method_109_code 7 = .ok (.invokevirtual 306, 3) := by decide +kernel
theorem d_Mod_way_10 : decode prog_17_method_109_code 10 = .ok (.ifCond .eq 7, 3) := by decide +kernel
theorem d_Mod_way_13 : decode prog_17_method_109_code 13 = .ok (.iload_n 3, 1) := by decide +kernel
theorem d_Mod_way_14 : decode prog_17_method_109_code 14 = .ok (.ifCond .ge 9, 3) := by decide +kernel
theorem d_Mod_way_17 : decode prog_17_method_109_code 17 = .ok (.aload_n 0, 1) := by decide +kernel
theorem d_Mod_way_18 : decode prog_17_method_109_code 18 = .ok (.iconst 1, 1) := by decide +kernel
theorem d_Mod_way_19 : decode prog_17_method_109_code 19 = .ok (.invokevirtual 61, 3) := by decide +kernel
theorem d_Mod_way_22 : decode prog_17_method_109_code 22 = .ok (.ireturn, 1) := by decide +kernel
theorem d_Mod_way_23 : decode prog_17_method_109_code 23 = .ok (.iload 4, 2) := by decide +kernel
theorem d_Mod_way_25 : decode prog_17_method_109_code 25 = .ok (.iconst 0, 1) := by decide +kernel
theorem d_Mod_way_26 : decode prog_17_method_109_code 26 = .ok (.iconst 2, 1) := by decide +kernel
theorem d_Mod_way_27 : decode prog_17_method_109_code 27 = .ok (.invokestatic 54, 3) := by decide +kernel
theorem d_Mod_way_30 : decode prog_17_method_109_code 30 = .ok (.ifCond .ne 9, 3) := by decide +kernel
theorem d_Mod_way_33 : decode prog_17_method_109_code 33 = .ok (.aload_n 0, 1) := by decide +kernel
theorem d_Mod_way_34 : decode prog_17_method_109_code 34 = .ok (.iconst 2, 1) := by decide +kernel
theorem d_Mod_way_35 : decode prog_17_method_109_code 35 = .ok (.invokevirtual 61, 3) := by decide +kernel
theorem d_Mod_way_38 : decode prog_17_method_109_code 38 = .ok (.ireturn, 1) := by decide +kernel
theorem d_Mod_way_39 : decode prog_17_method_109_code 39 = .ok (.iload_n 1, 1) := by decide +kernel
theorem d_Mod_way_40 : decode prog_17_method_109_code 40 = .ok (.iload_n 2, 1) := by decide +kernel
theorem d_Mod_way_41 : decode prog_17_method_109_code 41 = .ok (.ifCond .eq 7, 3) := by decide +kernel
theorem d_Mod_way_44 : decode prog_17_method_109_code 44 = .ok (.iconst 1, 1) := by decide +kernel
theorem d_Mod_way_45 : decode prog_17_method_109_code 45 = .ok (.goto 4, 3) := by decide +kernel
theorem d_Mod_way_48 : decode prog_17_method_109_code 48 = .ok (.iconst 0, 1) := by decide +kernel
theorem d_Mod_way_49 : decode prog_17_method_109_code 49 = .ok (.invokestatic 144, 3) := by decide +kernel
theorem d_Mod_way_52 : decode prog_17_method_109_code 52 = .ok (.istore 5, 2) := by decide +kernel
theorem d_Mod_way_54 : decode prog_17_method_109_code 54 = .ok (.iload_n 3, 1) := by decide +kernel
theorem d_Mod_way_55 : decode prog_17_method_109_code 55 = .ok (.aload_n 0, 1) := by decide +kernel
theorem d_Mod_way_56 : decode prog_17_method_109_code 56 = .ok (.getfield 7, 3) := by decide +kernel
theorem d_Mod_way_59 : decode prog_17_method_109_code 59 = .ok (.iload 5, 2) := by decide +kernel
theorem d_Mod_way_61 : decode prog_17_method_109_code 61 = .ok (.iaload, 1) := by decide +kernel
theorem d_Mod_way_62 : decode prog_17_method_109_code 62 = .ok (.if_icmp .lt 5, 3) := by decide +kernel
theorem d_Mod_way_65 : decode prog_17_method_109_code 65 = .ok (.iconst (-1), 1) := by decide +kernel
theorem d_Mod_way_66 : decode prog_17_method_109_code 66 = .ok (.ireturn, 1) := by decide +kernel
theorem d_Mod_way_67 : decode prog_17_method_109_code 67 = .ok (.aload_n 0, 1) := by decide +kernel
theorem d_Mod_way_68 : decode prog_17_method_109_code 68 = .ok (.getfield 7, 3) := by decide +kernel
theorem d_Mod_way_71 : decode prog_17_method_109_code 71 = .ok (.iload 5, 2) := by decide +kernel
theorem d_Mod_way_73 : decode prog_17_method_109_code 73 = .ok (.iload 4, 2) := by decide +kernel
theorem d_Mod_way_75 : decode prog_17_method_109_code 75 = .ok (.ifCond .ne 7, 3) := by decide +kernel
theorem d_Mod_way_78 : decode prog_17_method_109_code 78 = .ok (.iconst 1, 1) := by decide +kernel
theorem d_Mod_way_79 : decode prog_17_method_109_code 79 = .ok (.goto 16, 3) := by decide +kernel
theorem d_Mod_way_82 : decode prog_17_method_109_code 82 = .ok (.iload 4, 2) := by decide +kernel
theorem d_Mod_way_84 : decode prog_17_method_109_code 84 = .ok (.iconst 1, 1) := by decide +kernel
theorem d_Mod_way_85 : decode prog_17_method_109_code 85 = .ok (.if_icmp .ne 8, 3) := by decide +kernel
theorem d_Mod_way_88 : decode prog_17_method_109_code 88 = .ok (.bipush 7, 2) := by decide +kernel
theorem d_Mod_way_90 : decode prog_17_method_109_code 90 = .ok (.goto 5, 3) := by decide +kernel
theorem d_Mod_way_93 : decode prog_17_method_109_code 93 = .ok (.bipush 13, 2) := by decide +kernel
theorem d_Mod_way_95 : decode prog_17_method_109_code 95 = .ok (.iadd, 1) := by decide +kernel
theorem d_Mod_way_96 : decode prog_17_method_109_code 96 = .ok (.iload_n 3, 1) := by decide +kernel
theorem d_Mod_way_97 : decode prog_17_method_109_code 97 = .ok (.iadd, 1) := by decide +kernel
theorem d_Mod_way_98 : decode prog_17_method_109_code 98 = .ok (.iaload, 1) := by decide +kernel
theorem d_Mod_way_99 : decode prog_17_method_109_code 99 = .ok (.ireturn, 1) := by decide +kernel
def Mod_way_17 (M : g_MD) : Option (Int32 × g_MD) :=
  g_bM (Mod_fail M (1 : Int32)) fun x6 M7 => some (x6, M7)
set_option maxHeartbeats 4000000 in
set_option maxRecDepth 100000 in
theorem W_Mod_way_17 {X : g_X} {h0 : g_AH} {a0 : Nat} {ad : Nat → Nat} (ok : mOK a0 ad) (z : Int32 × g_MD) (M : g_MD) (hy : Mod_way_17  M = some z) : G X k_Mod_way (.inl (some (.int z.1))) (mH h0 a0 ad z.2) (mH h0 a0 ad M) 17 [(0, .ref a0)] [] := by
  unfold Mod_way_17 at hy
  refine g_aload_n 0 (i := 0) (pc' := 18) d_Mod_way_17 rfl rfl rfl ?_
  refine g_iconst (v := (1 : Int32)) (pc' := 19) d_Mod_way_18 (by decide) rfl ?_
  replace hy := g_bM_inv hy
  obtain ⟨x6, M7, hf8, hy⟩ := hy
  refine g_callV (rv := some (.int x6)) (h1 := (mH h0 a0 ad M7)) (pc' := 22) (As := [.int (1 : Int32)]) (rest := []) 1 (T_Mod_fail ok (hy := hf8)) d_Mod_way_19 (mH_look ok) rfl rfl q2061 q2063 qs31 q135 q2064 hd_Mod_fail rfl ⟨by decide, by decide⟩ (by first | exact Nat.le_of_ble_eq_true rfl | (simp only [List.map, List.sum_cons, List.sum_nil, g_cat_rf]; exact Nat.le_of_ble_eq_true rfl) | (simp only [List.map, List.sum_cons, List.sum_nil, g_cat_rf, Value.category]; decide)) rfl ?_
  cases hy
  exact g_iret rfl rfl rfl d_Mod_way_22
def Mod_way_49 (M : g_MD) (v3 : Int32) (v4 : Int32) (s0 : Int32) (s1 : Int32) : Option (Int32 × g_MD) :=
  g_b (Mod_wayPlace s1 s0) fun x15 => g_mA M 0 0 x15 fun x18 => if v3 < x18 then (if v4 = 0 then (g_mA M 0 0 ((x15 + (1 : Int32)) + v3) fun x27 => some (x27, M)) else (if v4 = (1 : Int32) then (g_mA M 0 0 ((x15 + (7 : Int32)) + v3) fun x25 => some (x25, M)) else (g_mA M 0 0 ((x15 + (13 : Int32)) + v3) fun x23 => some (x23, M)))) else (some ((-1 : Int32), M))
set_option maxHeartbeats 4000000 in
set_option maxRecDepth 100000 in
theorem W_Mod_way_49 {X : g_X} {h0 : g_AH} {a0 : Nat} {ad : Nat → Nat} (ok : mOK a0 ad) (z : Int32 × g_MD) (M : g_MD) (v3 : Int32) (v4 : Int32) (s0 : Int32) (s1 : Int32) (hy : Mod_way_49  M v3 v4 s0 s1 = some z) : G X k_Mod_way (.inl (some (.int z.1))) (mH h0 a0 ad z.2) (mH h0 a0 ad M) 49 [(0, .ref a0), (3, .int v3), (4, .int v4)] [.int s0, .int s1] := by
  unfold Mod_way_49 at hy
  replace hy := g_b_inv hy
  obtain ⟨x15, hf17, hy⟩ := hy
  refine g_callS (rv := some (.int x15)) (h1 := (mH h0 a0 ad M)) (pc' := 52) (As := [.int s1, .int s0]) (rest := []) 2 (T_Mod_wayPlace (hy := hf17)) d_Mod_way_49 q2179 q2180 q135 q2181 hd_Mod_wayPlace rfl ⟨by decide, by decide⟩ (by first | exact Nat.le_of_ble_eq_true rfl | (simp only [List.map, List.sum_cons, List.sum_nil, g_cat_rf]; exact Nat.le_of_ble_eq_true rfl) | (simp only [List.map, List.sum_cons, List.sum_nil, g_cat_rf, Value.category]; decide)) rfl ?_
  refine g_istore (pc' := 54) (Lc' := [(5, .int x15), (0, .ref a0), (3, .int v3), (4, .int v4)]) d_Mod_way_52 (by decide) rfl rfl ?_
  refine g_iload_n 2 (i := 3) (pc' := 55) d_Mod_way_54 rfl rfl rfl ?_
  refine g_aload_n 1 (i := 0) (pc' := 56) d_Mod_way_55 rfl rfl rfl ?_
  refine gm_getA ok 0 (pc' := 59) d_Mod_way_56 rfl q1965 rfl rfl ?_
  refine g_iload 0 (pc' := 61) d_Mod_way_59 rfl rfl ?_
  replace hy := g_mA_inv hy
  obtain ⟨x18, hc19, hy⟩ := hy
  refine gm_ald0 ok (pc' := 62) d_Mod_way_61 hc19 rfl ?_
  by_cases c20 : v3 < x18
  · rw [if_pos c20] at hy
    refine g_icmp_ltT (pc' := 67) d_Mod_way_62 c20 (by decide) ?_
    refine g_aload_n 1 (i := 0) (pc' := 68) d_Mod_way_67 rfl rfl rfl ?_
    refine gm_getA ok 0 (pc' := 71) d_Mod_way_68 rfl q1965 rfl rfl ?_
    refine g_iload 0 (pc' := 73) d_Mod_way_71 rfl rfl ?_
    refine g_iload 3 (pc' := 75) d_Mod_way_73 rfl rfl ?_
    by_cases c21 : v4 = 0
    · rw [if_pos c21] at hy
      refine g_if_neF (pc' := 78) d_Mod_way_75 82 c21 (by decide) rfl ?_
      refine g_iconst (v := (1 : Int32)) (pc' := 79) d_Mod_way_78 (by decide) rfl ?_
      refine g_goto (pc' := 95) d_Mod_way_79 (by decide) ?_
      refine g_iadd (pc' := 96) d_Mod_way_95 rfl ?_
      refine g_iload_n 2 (i := 3) (pc' := 97) d_Mod_way_96 rfl rfl rfl ?_
      refine g_iadd (pc' := 98) d_Mod_way_97 rfl ?_
      replace hy := g_mA_inv hy
      obtain ⟨x27, hc28, hy⟩ := hy
      refine gm_ald0 ok (pc' := 99) d_Mod_way_98 hc28 rfl ?_
      cases hy
      exact g_iret rfl rfl rfl d_Mod_way_99
    · rw [if_neg c21] at hy
      refine g_if_neT (pc' := 82) d_Mod_way_75 c21 (by decide) ?_
      refine g_iload 3 (pc' := 84) d_Mod_way_82 rfl rfl ?_
      refine g_iconst (v := (1 : Int32)) (pc' := 85) d_Mod_way_84 (by decide) rfl ?_
      by_cases c22 : v4 = (1 : Int32)
      · rw [if_pos c22] at hy
        refine g_icmp_neF (pc' := 88) d_Mod_way_85 93 c22 (by decide) rfl ?_
        refine g_bipush (v := (7 : Int32)) (pc' := 90) d_Mod_way_88 (by decide) rfl ?_
        refine g_goto (pc' := 95) d_Mod_way_90 (by decide) ?_
        refine g_iadd (pc' := 96) d_Mod_way_95 rfl ?_
        refine g_iload_n 2 (i := 3) (pc' := 97) d_Mod_way_96 rfl rfl rfl ?_
        refine g_iadd (pc' := 98) d_Mod_way_97 rfl ?_
        replace hy := g_mA_inv hy
        obtain ⟨x25, hc26, hy⟩ := hy
        refine gm_ald0 ok (pc' := 99) d_Mod_way_98 hc26 rfl ?_
        cases hy
        exact g_iret rfl rfl rfl d_Mod_way_99
      · rw [if_neg c22] at hy
        refine g_icmp_neT (pc' := 93) d_Mod_way_85 c22 (by decide) ?_
        refine g_bipush (v := (13 : Int32)) (pc' := 95) d_Mod_way_93 (by decide) rfl ?_
        refine g_iadd (pc' := 96) d_Mod_way_95 rfl ?_
        refine g_iload_n 2 (i := 3) (pc' := 97) d_Mod_way_96 rfl rfl rfl ?_
        refine g_iadd (pc' := 98) d_Mod_way_97 rfl ?_
        replace hy := g_mA_inv hy
        obtain ⟨x23, hc24, hy⟩ := hy
        refine gm_ald0 ok (pc' := 99) d_Mod_way_98 hc24 rfl ?_
        cases hy
        exact g_iret rfl rfl rfl d_Mod_way_99
  · rw [if_neg c20] at hy
    refine g_icmp_ltF (pc' := 65) d_Mod_way_62 67 c20 (by decide) rfl ?_
    refine g_iconst (v := (-1 : Int32)) (pc' := 66) d_Mod_way_65 (by decide) rfl ?_
    cases hy
    exact g_iret rfl rfl rfl d_Mod_way_66
def Mod_way (M : g_MD) (p0 : Int32) (p1 : Int32) (p2 : Int32) (p3 : Int32) : Option (Int32 × g_MD) :=
  g_let (mp M 7 (0 : Int32)) fun M1 => g_b (Mod_isCircuit M1 p0) fun x2 => if x2 = 0 then (Mod_way_17  M1) else (if 0 ≤ p2 then (g_b (Mod_isBetween p3 (0 : Int32) (2 : Int32)) fun x10 => if x10 = 0 then (g_bM (Mod_fail M1 (2 : Int32)) fun x29 M30 => some (x29, M30)) else (if p1 = 0 then (Mod_way_49  M1 p2 p3 (0 : Int32) p0) else (Mod_way_49  M1 p2 p3 (1 : Int32) p0))) else (Mod_way_17  M1))
set_option maxHeartbeats 4000000 in
set_option maxRecDepth 100000 in
theorem T_Mod_way {l : Launch} {B : g_B} {h0 : g_AH} {a0 : Nat} {ad : Nat → Nat} (ok : mOK a0 ad) (M : g_MD) (p0 : Int32) (p1 : Int32) (p2 : Int32) (p3 : Int32) (z : Int32 × g_MD) (hy : Mod_way M p0 p1 p2 p3 = some z) : g_CT l B y_Mod_way k_Mod_way [.ref a0, .int p0, .int p1, .int p2, .int p3] (mH h0 a0 ad M) (.inl (some (.int z.1))) (mH h0 a0 ad z.2) := by
  refine g_start2 (Lc := [(0, .ref a0), (1, .int p0), (2, .int p1), (3, .int p2), (4, .int p3)]) (by decide) rfl rfl (by exact Nat.le_of_ble_eq_true rfl) (by rfl) fun X => ?_
  unfold Mod_way at hy
  refine g_aload_n 0 (i := 0) (pc' := 1) d_Mod_way_0 rfl rfl rfl ?_
  refine g_iconst (v := (0 : Int32)) (pc' := 2) d_Mod_way_1 (by decide) rfl ?_
  replace hy := g_let_inv hy
  refine gm_put ok 7 (pc' := 5) d_Mod_way_2 rfl (by decide) q1972 rfl ?_
  generalize (mp M 7 (0 : Int32)) = M1 at hy ⊢
  refine g_aload_n 0 (i := 0) (pc' := 6) d_Mod_way_5 rfl rfl rfl ?_
  refine g_iload_n 1 (i := 1) (pc' := 7) d_Mod_way_6 rfl rfl rfl ?_
  replace hy := g_b_inv hy
  obtain ⟨x2, hf4, hy⟩ := hy
  refine g_callV (rv := some (.int x2)) (h1 := (mH h0 a0 ad M1)) (pc' := 10) (As := [.int p0]) (rest := []) 1 (T_Mod_isCircuit ok (hy := hf4)) d_Mod_way_7 (mH_look ok) rfl rfl q2375 q2377 qs83 q135 q2378 hd_Mod_isCircuit rfl ⟨by decide, by decide⟩ (by first | exact Nat.le_of_ble_eq_true rfl | (simp only [List.map, List.sum_cons, List.sum_nil, g_cat_rf]; exact Nat.le_of_ble_eq_true rfl) | (simp only [List.map, List.sum_cons, List.sum_nil, g_cat_rf, Value.category]; decide)) rfl ?_
  by_cases c5 : x2 = 0
  · rw [if_pos c5] at hy
    refine g_if_eqT (pc' := 17) d_Mod_way_10 c5 (by decide) ?_
    refine g_sub [0] rfl ?_
    exact W_Mod_way_17 ok _ _ hy
  · rw [if_neg c5] at hy
    refine g_if_eqF (pc' := 13) d_Mod_way_10 17 c5 (by decide) rfl ?_
    refine g_iload_n 3 (i := 3) (pc' := 14) d_Mod_way_13 rfl rfl rfl ?_
    by_cases c9 : 0 ≤ p2
    · rw [if_pos c9] at hy
      refine g_if_geT (pc' := 23) d_Mod_way_14 c9 (by decide) ?_
      refine g_iload 4 (pc' := 25) d_Mod_way_23 rfl rfl ?_
      refine g_iconst (v := (0 : Int32)) (pc' := 26) d_Mod_way_25 (by decide) rfl ?_
      refine g_iconst (v := (2 : Int32)) (pc' := 27) d_Mod_way_26 (by decide) rfl ?_
      replace hy := g_b_inv hy
      obtain ⟨x10, hf12, hy⟩ := hy
      refine g_callS (rv := some (.int x10)) (h1 := (mH h0 a0 ad M1)) (pc' := 30) (As := [.int p3, .int (0 : Int32), .int (2 : Int32)]) (rest := []) 3 (T_Mod_isBetween (hy := hf12)) d_Mod_way_27 q2069 q2070 q135 q2071 hd_Mod_isBetween rfl ⟨by decide, by decide⟩ (by first | exact Nat.le_of_ble_eq_true rfl | (simp only [List.map, List.sum_cons, List.sum_nil, g_cat_rf]; exact Nat.le_of_ble_eq_true rfl) | (simp only [List.map, List.sum_cons, List.sum_nil, g_cat_rf, Value.category]; decide)) rfl ?_
      by_cases c13 : x10 = 0
      · rw [if_pos c13] at hy
        refine g_if_neF (pc' := 33) d_Mod_way_30 39 c13 (by decide) rfl ?_
        refine g_aload_n 0 (i := 0) (pc' := 34) d_Mod_way_33 rfl rfl rfl ?_
        refine g_iconst (v := (2 : Int32)) (pc' := 35) d_Mod_way_34 (by decide) rfl ?_
        replace hy := g_bM_inv hy
        obtain ⟨x29, M30, hf31, hy⟩ := hy
        refine g_callV (rv := some (.int x29)) (h1 := (mH h0 a0 ad M30)) (pc' := 38) (As := [.int (2 : Int32)]) (rest := []) 1 (T_Mod_fail ok (hy := hf31)) d_Mod_way_35 (mH_look ok) rfl rfl q2061 q2063 qs31 q135 q2064 hd_Mod_fail rfl ⟨by decide, by decide⟩ (by first | exact Nat.le_of_ble_eq_true rfl | (simp only [List.map, List.sum_cons, List.sum_nil, g_cat_rf]; exact Nat.le_of_ble_eq_true rfl) | (simp only [List.map, List.sum_cons, List.sum_nil, g_cat_rf, Value.category]; decide)) rfl ?_
        cases hy
        exact g_iret rfl rfl rfl d_Mod_way_38
      · rw [if_neg c13] at hy
        refine g_if_neT (pc' := 39) d_Mod_way_30 c13 (by decide) ?_
        refine g_iload_n 1 (i := 1) (pc' := 40) d_Mod_way_39 rfl rfl rfl ?_
        refine g_iload_n 2 (i := 2) (pc' := 41) d_Mod_way_40 rfl rfl rfl ?_
        by_cases c14 : p1 = 0
        · rw [if_pos c14] at hy
          refine g_if_eqT (pc' := 48) d_Mod_way_41 c14 (by decide) ?_
          refine g_iconst (v := (0 : Int32)) (pc' := 49) d_Mod_way_48 (by decide) rfl ?_
          refine g_sub [0, 3, 4] rfl ?_
          exact W_Mod_way_49 ok _ _ _ _ _ _ hy
        · rw [if_neg c14] at hy
          refine g_if_eqF (pc' := 44) d_Mod_way_41 48 c14 (by decide) rfl ?_
          refine g_iconst (v := (1 : Int32)) (pc' := 45) d_Mod_way_44 (by decide) rfl ?_
          refine g_goto (pc' := 49) d_Mod_way_45 (by decide) ?_
          refine g_sub [0, 3, 4] rfl ?_
          exact W_Mod_way_49 ok _ _ _ _ _ _ hy
    · rw [if_neg c9] at hy
      refine g_if_geF (pc' := 17) d_Mod_way_14 23 c9 (by decide) rfl ?_
      refine g_sub [0] rfl ?_
      exact W_Mod_way_17 ok _ _ hy
theorem hd_Mod_way : g_dsc y_Mod_way 4 := ⟨by decide +kernel, by decide +kernel, by decide +kernel⟩
/-! CircuitDeskModel.packet(II)I -/
abbrev y_Mod_packet : MethodName := ⟨"CircuitDeskModel", "packet", "(II)I"⟩
abbrev k_Mod_packet : g_M := (prog_17_method_110_code, 3, "CircuitDeskModel", 13, (some FieldType.int), "packet", [], 0)
theorem d_Mod_packet_0 : decode prog_17_method_110_code 0 = .ok (.aload_n 0, 1) := by decide +kernel
theorem d_Mod_packet_1 : decode prog_17_method_110_code 1 = .ok (.iconst 0, 1) := by decide +kernel
theorem d_Mod_packet_2 : decode prog_17_method_110_code 2 = .ok (.putfield 51, 3) := by decide +kernel
theorem d_Mod_packet_5 : decode prog_17_method_110_code 5 = .ok (.iload_n 1, 1) := by decide +kernel
theorem d_Mod_packet_6 : decode prog_17_method_110_code 6 = .ok (.iconst 0, 1) := by decide +kernel
theorem d_Mod_packet_7 : decode prog_17_method_110_code 7 = .ok (.aload_n 0, 1) := by decide +kernel
theorem d_Mod_packet_8 : decode prog_17_method_110_code 8 = .ok (.getfield 7, 3) := by decide +kernel
theorem d_Mod_packet_11 : decode prog_17_method_110_code 11 = .ok (.bipush 6, 2) := by decide +kernel
theorem d_Mod_packet_13 : decode prog_17_method_110_code 13 = .ok (.iaload, 1) := by decide +kernel
theorem d_Mod_packet_14 : decode prog_17_method_110_code 14 = .ok (.iconst 1, 1) := by decide +kernel
theorem d_Mod_packet_15 : decode prog_17_method_110_code 15 = .ok (.isub, 1) := by decide +kernel
theorem d_Mod_packet_16 : decode prog_17_method_110_code 16 = .ok (.invokestatic 54, 3) := by decide +kernel
theorem d_Mod_packet_19 : decode prog_17_method_110_code 19 = .ok (.ifCond .ne 9, 3) := by decide +kernel
theorem d_Mod_packet_22 : decode prog_17_method_110_code 22 = .ok (.aload_n 0, 1) := by decide +kernel
theorem d_Mod_packet_23 : decode prog_17_method_110_code 23 = .ok (.iconst 1, 1) := by decide +kernel
theorem d_Mod_packet_24 : decode prog_17_method_110_code 24 = .ok (.invokevirtual 61, 3) := by decide +kernel
theorem d_Mod_packet_27 : decode prog_17_method_110_code 27 = .ok (.ireturn, 1) := by decide +kernel
theorem d_Mod_packet_28 : decode prog_17_method_110_code 28 = .ok (.iload_n 2, 1) := by decide +kernel
theorem d_Mod_packet_29 : decode prog_17_method_110_code 29 = .ok (.iconst 0, 1) := by decide +kernel
theorem d_Mod_packet_30 : decode prog_17_method_110_code 30 = .ok (.bipush 6, 2) := by decide +kernel
theorem d_Mod_packet_32 : decode prog_17_method_110_code 32 = .ok (.invokestatic 54, 3) := by decide +kernel
theorem d_Mod_packet_35 : decode prog_17_method_110_code 35 = .ok (.ifCond .eq 12, 3) := by decide +kernel
theorem d_Mod_packet_38 : decode prog_17_method_110_code 38 = .ok (.aload_n 0, 1) := by decide +kernel
theorem d_Mod_packet_39 : decode prog_17_method_110_code 39 = .ok (.iload_n 1, 1) := by decide +kernel
theorem d_Mod_packet_40 : decode prog_17_method_110_code 40 = .ok (.iload_n 2, 1) := by decide +kernel
theorem d_Mod_packet_41 : decode prog_17_method_110_code 41 = .ok (.invokevirtual 217, 3) := by decide +kernel
theorem d_Mod_packet_44 : decode prog_17_method_110_code 44 = .ok (.goto 8, 3) := by decide +kernel
theorem d_Mod_packet_47 : decode prog_17_method_110_code 47 = .ok (.aload_n 0, 1) := by decide +kernel
theorem d_Mod_packet_48 : decode prog_17_method_110_code 48 = .ok (.iconst 2, 1) := by decide +kernel
theorem d_Mod_packet_49 : decode prog_17_method_110_code 49 = .ok (.invokevirtual 61, 3) := by decide +kernel
theorem d_Mod_packet_52 : decode prog_17_method_110_code 52 = .ok (.ireturn, 1) := by decide +kernel
def Mod_packet (M : g_MD) (p0 : Int32) (p1 : Int32) : Option (Int32 × g_MD) :=
  g_let (mp M 7 (0 : Int32)) fun M1 => g_mA M1 0 0 (6 : Int32) fun x2 => g_b (Mod_isBetween p0 (0 : Int32) (x2 - (1 : Int32))) fun x4 => if x4 = 0 then (g_bM (Mod_fail M1 (1 : Int32)) fun x18 M19 => some (x18, M19)) else (g_b (Mod_isBetween p1 (0 : Int32) (6 : Int32)) fun x8 => if x8 = 0 then (g_bM (Mod_fail M1 (2 : Int32)) fun x12 M13 => some (x12, M13)) else (g_b (Mod_ofPacket M1 p0 p1) fun x15 => some (x15, M1)))
set_option maxHeartbeats 4000000 in
set_option maxRecDepth 100000 in
theorem T_Mod_packet {l : Launch} {B : g_B} {h0 : g_AH} {a0 : Nat} {ad : Nat → Nat} (ok : mOK a0 ad) (M : g_MD) (p0 : Int32) (p1 : Int32) (z : Int32 × g_MD) (hy : Mod_packet M p0 p1 = some z) : g_CT l B y_Mod_packet k_Mod_packet [.ref a0, .int p0, .int p1] (mH h0 a0 ad M) (.inl (some (.int z.1))) (mH h0 a0 ad z.2) := by
  refine g_start2 (Lc := [(0, .ref a0), (1, .int p0), (2, .int p1)]) (by decide) rfl rfl (by exact Nat.le_of_ble_eq_true rfl) (by rfl) fun X => ?_
  unfold Mod_packet at hy
  refine g_aload_n 0 (i := 0) (pc' := 1) d_Mod_packet_0 rfl rfl rfl ?_
  refine g_iconst (v := (0 : Int32)) (pc' := 2) d_Mod_packet_1 (by decide) rfl ?_
  replace hy := g_let_inv hy
  refine gm_put ok 7 (pc' := 5) d_Mod_packet_2 rfl (by decide) q1972 rfl ?_
  generalize (mp M 7 (0 : Int32)) = M1 at hy ⊢
  refine g_iload_n 1 (i := 1) (pc' := 6) d_Mod_packet_5 rfl rfl rfl ?_
  refine g_iconst (v := (0 : Int32)) (pc' := 7) d_Mod_packet_6 (by decide) rfl ?_
  refine g_aload_n 0 (i := 0) (pc' := 8) d_Mod_packet_7 rfl rfl rfl ?_
  refine gm_getA ok 0 (pc' := 11) d_Mod_packet_8 rfl q1965 rfl rfl ?_
  refine g_bipush (v := (6 : Int32)) (pc' := 13) d_Mod_packet_11 (by decide) rfl ?_
  replace hy := g_mA_inv hy
  obtain ⟨x2, hc3, hy⟩ := hy
  refine gm_ald0 ok (pc' := 14) d_Mod_packet_13 hc3 rfl ?_
  refine g_iconst (v := (1 : Int32)) (pc' := 15) d_Mod_packet_14 (by decide) rfl ?_
  refine g_isub (pc' := 16) d_Mod_packet_15 rfl ?_
  replace hy := g_b_inv hy
  obtain ⟨x4, hf6, hy⟩ := hy
  refine g_callS (rv := some (.int x4)) (h1 := (mH h0 a0 ad M1)) (pc' := 19) (As := [.int p0, .int (0 : Int32), .int (x2 - (1 : Int32))]) (rest := []) 3 (T_Mod_isBetween (hy := hf6)) d_Mod_packet_16 q2069 q2070 q135 q2071 hd_Mod_isBetween rfl ⟨by decide, by decide⟩ (by first | exact Nat.le_of_ble_eq_true rfl | (simp only [List.map, List.sum_cons, List.sum_nil, g_cat_rf]; exact Nat.le_of_ble_eq_true rfl) | (simp only [List.map, List.sum_cons, List.sum_nil, g_cat_rf, Value.category]; decide)) rfl ?_
  by_cases c7 : x4 = 0
  · rw [if_pos c7] at hy
    refine g_if_neF (pc' := 22) d_Mod_packet_19 28 c7 (by decide) rfl ?_
    refine g_aload_n 0 (i := 0) (pc' := 23) d_Mod_packet_22 rfl rfl rfl ?_
    refine g_iconst (v := (1 : Int32)) (pc' := 24) d_Mod_packet_23 (by decide) rfl ?_
    replace hy := g_bM_inv hy
    obtain ⟨x18, M19, hf20, hy⟩ := hy
    refine g_callV (rv := some (.int x18)) (h1 := (mH h0 a0 ad M19)) (pc' := 27) (As := [.int (1 : Int32)]) (rest := []) 1 (T_Mod_fail ok (hy := hf20)) d_Mod_packet_24 (mH_look ok) rfl rfl q2061 q2063 qs31 q135 q2064 hd_Mod_fail rfl ⟨by decide, by decide⟩ (by first | exact Nat.le_of_ble_eq_true rfl | (simp only [List.map, List.sum_cons, List.sum_nil, g_cat_rf]; exact Nat.le_of_ble_eq_true rfl) | (simp only [List.map, List.sum_cons, List.sum_nil, g_cat_rf, Value.category]; decide)) rfl ?_
    cases hy
    exact g_iret rfl rfl rfl d_Mod_packet_27
  · rw [if_neg c7] at hy
    refine g_if_neT (pc' := 28) d_Mod_packet_19 c7 (by decide) ?_
    refine g_iload_n 2 (i := 2) (pc' := 29) d_Mod_packet_28 rfl rfl rfl ?_
    refine g_iconst (v := (0 : Int32)) (pc' := 30) d_Mod_packet_29 (by decide) rfl ?_
    refine g_bipush (v := (6 : Int32)) (pc' := 32) d_Mod_packet_30 (by decide) rfl ?_
    replace hy := g_b_inv hy
    obtain ⟨x8, hf10, hy⟩ := hy
    refine g_callS (rv := some (.int x8)) (h1 := (mH h0 a0 ad M1)) (pc' := 35) (As := [.int p1, .int (0 : Int32), .int (6 : Int32)]) (rest := []) 3 (T_Mod_isBetween (hy := hf10)) d_Mod_packet_32 q2069 q2070 q135 q2071 hd_Mod_isBetween rfl ⟨by decide, by decide⟩ (by first | exact Nat.le_of_ble_eq_true rfl | (simp only [List.map, List.sum_cons, List.sum_nil, g_cat_rf]; exact Nat.le_of_ble_eq_true rfl) | (simp only [List.map, List.sum_cons, List.sum_nil, g_cat_rf, Value.category]; decide)) rfl ?_
    by_cases c11 : x8 = 0
    · rw [if_pos c11] at hy
      refine g_if_eqT (pc' := 47) d_Mod_packet_35 c11 (by decide) ?_
      refine g_aload_n 0 (i := 0) (pc' := 48) d_Mod_packet_47 rfl rfl rfl ?_
      refine g_iconst (v := (2 : Int32)) (pc' := 49) d_Mod_packet_48 (by decide) rfl ?_
      replace hy := g_bM_inv hy
      obtain ⟨x12, M13, hf14, hy⟩ := hy
      refine g_callV (rv := some (.int x12)) (h1 := (mH h0 a0 ad M13)) (pc' := 52) (As := [.int (2 : Int32)]) (rest := []) 1 (T_Mod_fail ok (hy := hf14)) d_Mod_packet_49 (mH_look ok) rfl rfl q2061 q2063 qs31 q135 q2064 hd_Mod_fail rfl ⟨by decide, by decide⟩ (by first | exact Nat.le_of_ble_eq_true rfl | (simp only [List.map, List.sum_cons, List.sum_nil, g_cat_rf]; exact Nat.le_of_ble_eq_true rfl) | (simp only [List.map, List.sum_cons, List.sum_nil, g_cat_rf, Value.category]; decide)) rfl ?_
      cases hy
      exact g_iret rfl rfl rfl d_Mod_packet_52
    · rw [if_neg c11] at hy
      refine g_if_eqF (pc' := 38) d_Mod_packet_35 47 c11 (by decide) rfl ?_
      refine g_aload_n 0 (i := 0) (pc' := 39) d_Mod_packet_38 rfl rfl rfl ?_
      refine g_iload_n 1 (i := 1) (pc' := 40) d_Mod_packet_39 rfl rfl rfl ?_
      refine g_iload_n 2 (i := 2) (pc' := 41) d_Mod_packet_40 rfl rfl rfl ?_
      replace hy := g_b_inv hy
      obtain ⟨x15, hf17, hy⟩ := hy
      refine g_callV (rv := some (.int x15)) (h1 := (mH h0 a0 ad M1)) (pc' := 44) (As := [.int p0, .int p1]) (rest := []) 2 (T_Mod_ofPacket ok (hy := hf17)) d_Mod_packet_41 (mH_look ok) rfl rfl q2263 q2265 qs66 q135 q2266 hd_Mod_ofPacket rfl ⟨by decide, by decide⟩ (by first | exact Nat.le_of_ble_eq_true rfl | (simp only [List.map, List.sum_cons, List.sum_nil, g_cat_rf]; exact Nat.le_of_ble_eq_true rfl) | (simp only [List.map, List.sum_cons, List.sum_nil, g_cat_rf, Value.category]; decide)) rfl ?_
      refine g_goto (pc' := 52) d_Mod_packet_44 (by decide) ?_
      cases hy
      exact g_iret rfl rfl rfl d_Mod_packet_52
theorem hd_Mod_packet : g_dsc y_Mod_packet 2 := ⟨by decide +kernel, by decide +kernel, by decide +kernel⟩
/-! CircuitDeskModel.meanDelay(I)D -/
abbrev y_Mod_meanDelay : MethodName := ⟨"CircuitDeskModel", "meanDelay", "(I)D"⟩
abbrev k_Mod_meanDelay : g_M := (prog_17_method_111_code, 3, "CircuitDeskModel", 14, (some FieldType.double), "meanDelay", [], 0)
theorem d_Mod_meanDelay_0 : decode prog_17_method_111_code 0 = .ok (.aload_n 0, 1) := by decide +kernel
theorem d_Mod_meanDelay_1 : decode prog_17_method_111_code 1 = .ok (.aload_n 0, 1) := by decide +kernel
theorem d_Mod_meanDelay_2 : decode prog_17_method_111_code 2 = .ok (.iload_n 1, 1) := by decide +kernel
theorem d_Mod_meanDelay_3 : decode prog_17_method_111_code 3 = .ok (.invokevirtual 306, 3) := by decide +kernel
theorem d_Mod_meanDelay_6 : decode prog_17_method_111_code 6 = .ok (.ifCond .eq 7, 3) := by decide +kernel
theorem d_Mod_meanDelay_9 : decode prog_17_method_111_code 9 = .ok (.iconst 0, 1) := by decide +kernel
theorem d_Mod_meanDelay_10 : decode prog_17_method_111_code 10 = .ok (.goto 4, 3) := by decide +kernel
theorem d_Mod_meanDelay_13 : decode prog_17_method_111_code 13 = .ok (.iconst 1, 1) := by decide +kernel
theorem d_Mod_meanDelay_14 : decode prog_17_method_111_code 14 = .ok (.putfield 51, 3) := by decide +kernel
theorem d_Mod_meanDelay_17 : decode prog_17_method_111_code 17 = .ok (.aload_n 0, 1) := by decide +kernel
theorem d_Mod_meanDelay_18 : decode prog_17_method_111_code 18 = .ok (.getfield 51, 3) := by decide +kernel
theorem d_Mod_meanDelay_21 : decode prog_17_method_111_code 21 = .ok (.ifCond .eq 5, 3) := by decide +kernel
theorem d_Mod_meanDelay_24 : decode prog_17_method_111_code 24 = .ok (.dconst 0, 1) := by decide +kernel
theorem d_Mod_meanDelay_25 : decode prog_17_method_111_code 25 = .ok (.dreturn, 1) := by decide +kernel
theorem d_Mod_meanDelay_26 : decode prog_17_method_111_code 26 = .ok (.aload_n 0, 1) := by decide +kernel
theorem d_Mod_meanDelay_27 : decode prog_17_method_111_code 27 = .ok (.iload_n 1, 1) := by decide +kernel
theorem d_Mod_meanDelay_28 : decode prog_17_method_111_code 28 = .ok (.bipush 7, 2) := by decide +kernel
theorem d_Mod_meanDelay_30 : decode prog_17_method_111_code 30 = .ok (.invokevirtual 150, 3) := by decide +kernel
theorem d_Mod_meanDelay_33 : decode prog_17_method_111_code 33 = .ok (.istore_n 2, 1) := by decide +kernel
theorem d_Mod_meanDelay_34 : decode prog_17_method_111_code 34 = .ok (.iload_n 2, 1) := by decide +kernel
theorem d_Mod_meanDelay_35 : decode prog_17_method_111_code 35 = .ok (.ifCond .ne 9, 3) := by decide +kernel
theorem d_Mod_meanDelay_38 : decode prog_17_method_111_code 38 = .ok (.ldc2_w 389, 3) := by decide +kernel
theorem d_Mod_meanDelay_41 : decode prog_17_method_111_code 41 = .ok (.goto 14, 3) := by decide +kernel
theorem d_Mod_meanDelay_44 : decode prog_17_method_111_code 44 = .ok (.aload_n 0, 1) := by decide +kernel
theorem d_Mod_meanDelay_45 : decode prog_17_method_111_code 45 = .ok (.iload_n 1, 1) := by decide +kernel
theorem d_Mod_meanDelay_46 : decode prog_17_method_111_code 46 = .ok (.bipush 11, 2) := by decide +kernel
theorem d_Mod_meanDelay_48 : decode prog_17_method_111_code 48 = .ok (.invokevirtual 150, 3) := by decide +kernel
theorem d_Mod_meanDelay_51 : decode prog_17_method_111_code 51 = .ok (.i2d, 1) := by decide +kernel
theorem d_Mod_meanDelay_52 : decode prog_17_method_111_code 52 = .ok (.iload_n 2, 1) := by decide +kernel
theorem d_Mod_meanDelay_53 : decode prog_17_method_111_code 53 = .ok (.i2d, 1) := by decide +kernel
theorem d_Mod_meanDelay_54 : decode prog_17_method_111_code 54 = .ok (.ddiv, 1) := by decide +kernel
theorem d_Mod_meanDelay_55 : decode prog_17_method_111_code 55 = .ok (.dreturn, 1) := by decide +kernel
def Mod_meanDelay_14 (M : g_MD) (v1 : Int32) (s0 : Int32) : Option (UInt64 × g_MD) :=
  g_let (mp M 7 s0) fun M5 => if (M5.2.1 7) = 0 then (g_b (Mod_of M5 v1 (7 : Int32)) fun x7 => if x7 = 0 then (some ((13830554455654793216 : UInt64), M5)) else (g_b (Mod_of M5 v1 (11 : Int32)) fun x11 => g_rq ((FP.ddiv (FP.i2d x11) (FP.i2d x7)) &&& (0x7fffffffffffffff : UInt64) ≤ (0x7ff0000000000000 : UInt64)) <| some ((FP.ddiv (FP.i2d x11) (FP.i2d x7)), M5))) else (some (FP.dconst0, M5))
set_option maxHeartbeats 4000000 in
set_option maxRecDepth 100000 in
theorem W_Mod_meanDelay_14 {X : g_X} {h0 : g_AH} {a0 : Nat} {ad : Nat → Nat} (ok : mOK a0 ad) (z : UInt64 × g_MD) (M : g_MD) (v1 : Int32) (s0 : Int32) (hy : Mod_meanDelay_14  M v1 s0 = some z) : G X k_Mod_meanDelay (.inl (some (.double z.1))) (mH h0 a0 ad z.2) (mH h0 a0 ad M) 14 [(0, .ref a0), (1, .int v1)] [.int s0, .ref a0] := by
  unfold Mod_meanDelay_14 at hy
  replace hy := g_let_inv hy
  refine gm_put ok 7 (pc' := 17) d_Mod_meanDelay_14 rfl (by decide) q1972 rfl ?_
  generalize (mp M 7 s0) = M5 at hy ⊢
  refine g_aload_n 0 (i := 0) (pc' := 18) d_Mod_meanDelay_17 rfl rfl rfl ?_
  refine gm_getA ok 7 (pc' := 21) d_Mod_meanDelay_18 rfl q1972 rfl rfl ?_
  by_cases c6 : (M5.2.1 7) = 0
  · rw [if_pos c6] at hy
    refine g_if_eqT (pc' := 26) d_Mod_meanDelay_21 c6 (by decide) ?_
    refine g_aload_n 0 (i := 0) (pc' := 27) d_Mod_meanDelay_26 rfl rfl rfl ?_
    refine g_iload_n 1 (i := 1) (pc' := 28) d_Mod_meanDelay_27 rfl rfl rfl ?_
    refine g_bipush (v := (7 : Int32)) (pc' := 30) d_Mod_meanDelay_28 (by decide) rfl ?_
    replace hy := g_b_inv hy
    obtain ⟨x7, hf9, hy⟩ := hy
    refine g_callV (rv := some (.int x7)) (h1 := (mH h0 a0 ad M5)) (pc' := 33) (As := [.int v1, .int (7 : Int32)]) (rest := []) 2 (T_Mod_of ok (hy := hf9)) d_Mod_meanDelay_30 (mH_look ok) rfl rfl q2186 q2188 qs52 q135 q2189 hd_Mod_of rfl ⟨by decide, by decide⟩ (by first | exact Nat.le_of_ble_eq_true rfl | (simp only [List.map, List.sum_cons, List.sum_nil, g_cat_rf]; exact Nat.le_of_ble_eq_true rfl) | (simp only [List.map, List.sum_cons, List.sum_nil, g_cat_rf, Value.category]; decide)) rfl ?_
    refine g_istore_n (i := 2) (pc' := 34) (Lc' := [(2, .int x7), (0, .ref a0), (1, .int v1)]) d_Mod_meanDelay_33 rfl (by decide) rfl rfl ?_
    refine g_iload_n 0 (i := 2) (pc' := 35) d_Mod_meanDelay_34 rfl rfl rfl ?_
    by_cases c10 : x7 = 0
    · rw [if_pos c10] at hy
      refine g_if_neF (pc' := 38) d_Mod_meanDelay_35 44 c10 (by decide) rfl ?_
      refine g_ldc2d (pc' := 41) d_Mod_meanDelay_38 q2505 rfl ?_
      refine g_goto (pc' := 55) d_Mod_meanDelay_41 (by decide) ?_
      cases hy
      exact g_dret rfl rfl rfl d_Mod_meanDelay_55
    · rw [if_neg c10] at hy
      refine g_if_neT (pc' := 44) d_Mod_meanDelay_35 c10 (by decide) ?_
      refine g_aload_n 1 (i := 0) (pc' := 45) d_Mod_meanDelay_44 rfl rfl rfl ?_
      refine g_iload_n 2 (i := 1) (pc' := 46) d_Mod_meanDelay_45 rfl rfl rfl ?_
      refine g_bipush (v := (11 : Int32)) (pc' := 48) d_Mod_meanDelay_46 (by decide) rfl ?_
      replace hy := g_b_inv hy
      obtain ⟨x11, hf13, hy⟩ := hy
      refine g_callV (rv := some (.int x11)) (h1 := (mH h0 a0 ad M5)) (pc' := 51) (As := [.int v1, .int (11 : Int32)]) (rest := []) 2 (T_Mod_of ok (hy := hf13)) d_Mod_meanDelay_48 (mH_look ok) rfl rfl q2186 q2188 qs52 q135 q2189 hd_Mod_of rfl ⟨by decide, by decide⟩ (by first | exact Nat.le_of_ble_eq_true rfl | (simp only [List.map, List.sum_cons, List.sum_nil, g_cat_rf]; exact Nat.le_of_ble_eq_true rfl) | (simp only [List.map, List.sum_cons, List.sum_nil, g_cat_rf, Value.category]; decide)) rfl ?_
      refine g_i2d (pc' := 52) d_Mod_meanDelay_51 rfl ?_
      refine g_iload_n 0 (i := 2) (pc' := 53) d_Mod_meanDelay_52 rfl rfl rfl ?_
      refine g_i2d (pc' := 54) d_Mod_meanDelay_53 rfl ?_
      replace hy := g_rq_inv hy
      obtain ⟨c14, hy⟩ := hy
      refine g_ddiv (pc' := 55) d_Mod_meanDelay_54 c14 rfl ?_
      cases hy
      exact g_dret rfl rfl rfl d_Mod_meanDelay_55
  · rw [if_neg c6] at hy
    refine g_if_eqF (pc' := 24) d_Mod_meanDelay_21 26 c6 (by decide) rfl ?_
    refine g_dconst0 (pc' := 25) d_Mod_meanDelay_24 rfl ?_
    cases hy
    exact g_dret rfl rfl rfl d_Mod_meanDelay_25
def Mod_meanDelay (M : g_MD) (p0 : Int32) : Option (UInt64 × g_MD) :=
  g_b (Mod_isCircuit M p0) fun x1 => if x1 = 0 then (Mod_meanDelay_14  M p0 (1 : Int32)) else (Mod_meanDelay_14  M p0 (0 : Int32))
set_option maxHeartbeats 4000000 in
set_option maxRecDepth 100000 in
theorem T_Mod_meanDelay {l : Launch} {B : g_B} {h0 : g_AH} {a0 : Nat} {ad : Nat → Nat} (ok : mOK a0 ad) (M : g_MD) (p0 : Int32) (z : UInt64 × g_MD) (hy : Mod_meanDelay M p0 = some z) : g_CT l B y_Mod_meanDelay k_Mod_meanDelay [.ref a0, .int p0] (mH h0 a0 ad M) (.inl (some (.double z.1))) (mH h0 a0 ad z.2) := by
  refine g_start2 (Lc := [(0, .ref a0), (1, .int p0)]) (by decide) rfl rfl (by exact Nat.le_of_ble_eq_true rfl) (by rfl) fun X => ?_
  unfold Mod_meanDelay at hy
  refine g_aload_n 0 (i := 0) (pc' := 1) d_Mod_meanDelay_0 rfl rfl rfl ?_
  refine g_aload_n 0 (i := 0) (pc' := 2) d_Mod_meanDelay_1 rfl rfl rfl ?_
  refine g_iload_n 1 (i := 1) (pc' := 3) d_Mod_meanDelay_2 rfl rfl rfl ?_
  replace hy := g_b_inv hy
  obtain ⟨x1, hf3, hy⟩ := hy
  refine g_callV (rv := some (.int x1)) (h1 := (mH h0 a0 ad M)) (pc' := 6) (As := [.int p0]) (rest := [.ref a0]) 1 (T_Mod_isCircuit ok (hy := hf3)) d_Mod_meanDelay_3 (mH_look ok) rfl rfl q2375 q2377 qs83 q135 q2378 hd_Mod_isCircuit rfl ⟨by decide, by decide⟩ (by first | exact Nat.le_of_ble_eq_true rfl | (simp only [List.map, List.sum_cons, List.sum_nil, g_cat_rf]; exact Nat.le_of_ble_eq_true rfl) | (simp only [List.map, List.sum_cons, List.sum_nil, g_cat_rf, Value.category]; decide)) rfl ?_
  by_cases c4 : x1 = 0
  · rw [if_pos c4] at hy
    refine g_if_eqT (pc' := 13) d_Mod_meanDelay_6 c4 (by decide) ?_
    refine g_iconst (v := (1 : Int32)) (pc' := 14) d_Mod_meanDelay_13 (by decide) rfl ?_
    exact W_Mod_meanDelay_14 ok _ _ _ _ hy
  · rw [if_neg c4] at hy
    refine g_if_eqF (pc' := 9) d_Mod_meanDelay_6 13 c4 (by decide) rfl ?_
    refine g_iconst (v := (0 : Int32)) (pc' := 10) d_Mod_meanDelay_9 (by decide) rfl ?_
    refine g_goto (pc' := 14) d_Mod_meanDelay_10 (by decide) ?_
    exact W_Mod_meanDelay_14 ok _ _ _ _ hy
theorem hd_Mod_meanDelay : g_dsc y_Mod_meanDelay 1 := ⟨by decide +kernel, by decide +kernel, by decide +kernel⟩
/-! CircuitDeskModel.usage()F -/
abbrev y_Mod_usage : MethodName := ⟨"CircuitDeskModel", "usage", "()F"⟩
abbrev k_Mod_usage : g_M := (prog_17_method_112_code, 4, "CircuitDeskModel", 16, (some FieldType.float), "usage", [], 0)
theorem d_Mod_usage_0 : decode prog_17_method_112_code 0 = .ok (.aload_n 0, 1) := by decide +kernel
theorem d_Mod_usage_1 : decode prog_17_method_112_code 1 = .ok (.iconst 0, 1) := by decide +kernel
theorem d_Mod_usage_2 : decode prog_17_method_112_code 2 = .ok (.putfield 51, 3) := by decide +kernel
theorem d_Mod_usage_5 : decode prog_17_method_112_code 5 = .ok (.iconst 0, 1) := by decide +kernel
theorem d_Mod_usage_6 : decode prog_17_method_112_code 6 = .ok (.istore_n 1, 1) := by decide +kernel
theorem d_Mod_usage_7 : decode prog_17_method_112_code 7 = .ok (.iconst 0, 1) := by decide +kernel
theorem d_Mod_usage_8 : decode prog_17_method_112_code 8 = .ok (.istore_n 2, 1) := by decide +kernel
theorem d_Mod_usage_9 : decode prog_17_method_112_code 9 = .ok (.iconst 0, 1) := by decide +kernel
theorem d_Mod_usage_10 : decode prog_17_method_112_code 10 = .ok (.istore_n 3, 1) := by decide +kernel
theorem d_Mod_usage_11 : decode prog_17_method_112_code 11 = .ok (.iload_n 3, 1) := by decide +kernel
theorem d_Mod_usage_12 : decode prog_17_method_112_code 12 = .ok (.aload_n 0, 1) := by decide +kernel
theorem d_Mod_usage_13 : decode prog_17_method_112_code 13 = .ok (.getfield 7, 3) := by decide +kernel
theorem d_Mod_usage_16 : decode prog_17_method_112_code 16 = .ok (.iconst 3, 1) := by decide +kernel
theorem d_Mod_usage_17 : decode prog_17_method_112_code 17 = .ok (.iaload, 1) := by decide +kernel
theorem d_Mod_usage_18 : decode prog_17_method_112_code 18 = .ok (.if_icmp .ge 27, 3) := by decide +kernel
theorem d_Mod_usage_21 : decode prog_17_method_112_code 21 = .ok (.iload_n 1, 1) := by decide +kernel
theorem d_Mod_usage_22 : decode prog_17_method_112_code 22 = .ok (.aload_n 0, 1) := by decide +kernel
theorem d_Mod_usage_23 : decode prog_17_method_112_code 23 = .ok (.iload_n 3, 1) := by decide +kernel
theorem d_Mod_usage_24 : decode prog_17_method_112_code 24 = .ok (.iconst (-1), 1) := by decide +kernel
theorem d_Mod_usage_25 : decode prog_17_method_112_code 25 = .ok (.invokevirtual 211, 3) := by decide +kernel
theorem d_Mod_usage_28 : decode prog_17_method_112_code 28 = .ok (.iadd, 1) := by decide +kernel
theorem d_Mod_usage_29 : decode prog_17_method_112_code 29 = .ok (.istore_n 1, 1) := by decide +kernel
theorem d_Mod_usage_30 : decode prog_17_method_112_code 30 = .ok (.iload_n 2, 1) := by decide +kernel
theorem d_Mod_usage_31 : decode prog_17_method_112_code 31 = .ok (.aload_n 0, 1) := by decide +kernel
theorem d_Mod_usage_32 : decode prog_17_method_112_code 32 = .ok (.iload_n 3, 1) := by decide +kernel
theorem d_Mod_usage_33 : decode prog_17_method_112_code 33 = .ok (.iconst 2, 1) := by decide +kernel
theorem d_Mod_usage_34 : decode prog_17_method_112_code 34 = .ok (.invokevirtual 201, 3) := by decide +kernel
theorem d_Mod_usage_37 : decode prog_17_method_112_code 37 = .ok (.iadd, 1) := by decide +kernel
theorem d_Mod_usage_38 : decode prog_17_method_112_code 38 = .ok (.istore_n 2, 1) := by decide +kernel
theorem d_Mod_usage_39 : decode prog_17_method_112_code 39 = .ok (.iinc 3 1, 3) := by decide +kernel
theorem d_Mod_usage_42 : decode prog_17_method_112_code 42 = .ok (.goto (-31), 3) := by decide +kernel
theorem d_Mod_usage_45 : decode prog_17_method_112_code 45 = .ok (.iload_n 2, 1) := by decide +kernel
theorem d_Mod_usage_46 : decode prog_17_method_112_code 46 = .ok (.ifCond .ne 7, 3) := by decide +kernel
theorem d_Mod_usage_49 : decode prog_17_method_112_code 49 = .ok (.fconst 0, 1) := by decide +kernel
theorem d_Mod_usage_50 : decode prog_17_method_112_code 50 = .ok (.goto 8, 3) := by decide +kernel
theorem d_Mod_usage_53 : decode prog_17_method_112_code 53 = .ok (.iload_n 1, 1) := by decide +kernel
theorem d_Mod_usage_54 : decode prog_17_method_112_code 54 = .ok (.i2f, 1) := by decide +kernel
theorem d_Mod_usage_55 : decode prog_17_method_112_code 55 = .ok (.iload_n 2, 1) := by decide +kernel
theorem d_Mod_usage_56 : decode prog_17_method_112_code 56 = .ok (.i2f, 1) := by decide +kernel
theorem d_Mod_usage_57 : decode prog_17_method_112_code 57 = .ok (.fdiv, 1) := by decide +kernel
theorem d_Mod_usage_58 : decode prog_17_method_112_code 58 = .ok (.freturn, 1) := by decide +kernel
def Mod_usage_11  : Nat → g_MD → Int32 → Int32 → Int32 → Option (UInt32 × g_MD)
  | 0, _, _, _, _ => none
  | n + 1, M, v1, v2, v3 => g_mA M 0 0 (3 : Int32) fun x2 => if x2 ≤ v3 then (if v2 = 0 then (some (FP.fconst0, M)) else (g_rq ((FP.fdiv (FP.i2f v1) (FP.i2f v2)) &&& (0x7fffffff : UInt32) ≤ (0x7f800000 : UInt32)) <| some ((FP.fdiv (FP.i2f v1) (FP.i2f v2)), M))) else (g_b (Mod_reserved M v3 (-1 : Int32)) fun x7 => g_b (Mod_ofLink M v3 (2 : Int32)) fun x10 => (Mod_usage_11  n) M (v1 + x7) (v2 + x10) (v3 + (1 : Int32)))
set_option maxHeartbeats 4000000 in
set_option maxRecDepth 100000 in
theorem W_Mod_usage_11 {X : g_X} {h0 : g_AH} {a0 : Nat} {ad : Nat → Nat} (ok : mOK a0 ad) (z : UInt32 × g_MD)  : ∀ (n : Nat) (M : g_MD) (v1 : Int32) (v2 : Int32) (v3 : Int32), Mod_usage_11  n M v1 v2 v3 = some z → G X k_Mod_usage (.inl (some (.float z.1))) (mH h0 a0 ad z.2) (mH h0 a0 ad M) 11 [(0, .ref a0), (1, .int v1), (2, .int v2), (3, .int v3)] [] := by
  intro n
  induction n with
  | zero => intro M v1 v2 v3 hy; exact absurd hy (by simp [Mod_usage_11])
  | succ n ih =>
    intro M v1 v2 v3 hy
    rw [Mod_usage_11] at hy
    refine g_iload_n 3 (i := 3) (pc' := 12) d_Mod_usage_11 rfl rfl rfl ?_
    refine g_aload_n 0 (i := 0) (pc' := 13) d_Mod_usage_12 rfl rfl rfl ?_
    refine gm_getA ok 0 (pc' := 16) d_Mod_usage_13 rfl q1965 rfl rfl ?_
    refine g_iconst (v := (3 : Int32)) (pc' := 17) d_Mod_usage_16 (by decide) rfl ?_
    replace hy := g_mA_inv hy
    obtain ⟨x2, hc3, hy⟩ := hy
    refine gm_ald0 ok (pc' := 18) d_Mod_usage_17 hc3 rfl ?_
    by_cases c4 : x2 ≤ v3
    · rw [if_pos c4] at hy
      refine g_icmp_geT (pc' := 45) d_Mod_usage_18 c4 (by decide) ?_
      refine g_iload_n 2 (i := 2) (pc' := 46) d_Mod_usage_45 rfl rfl rfl ?_
      by_cases c5 : v2 = 0
      · rw [if_pos c5] at hy
        refine g_if_neF (pc' := 49) d_Mod_usage_46 53 c5 (by decide) rfl ?_
        refine g_fconst0 (pc' := 50) d_Mod_usage_49 rfl ?_
        refine g_goto (pc' := 58) d_Mod_usage_50 (by decide) ?_
        cases hy
        exact g_fret rfl rfl rfl d_Mod_usage_58
      · rw [if_neg c5] at hy
        refine g_if_neT (pc' := 53) d_Mod_usage_46 c5 (by decide) ?_
        refine g_iload_n 1 (i := 1) (pc' := 54) d_Mod_usage_53 rfl rfl rfl ?_
        refine g_i2f (pc' := 55) d_Mod_usage_54 rfl ?_
        refine g_iload_n 2 (i := 2) (pc' := 56) d_Mod_usage_55 rfl rfl rfl ?_
        refine g_i2f (pc' := 57) d_Mod_usage_56 rfl ?_
        replace hy := g_rq_inv hy
        obtain ⟨c6, hy⟩ := hy
        refine g_fdiv (pc' := 58) d_Mod_usage_57 c6 rfl ?_
        cases hy
        exact g_fret rfl rfl rfl d_Mod_usage_58
    · rw [if_neg c4] at hy
      refine g_icmp_geF (pc' := 21) d_Mod_usage_18 45 c4 (by decide) rfl ?_
      refine g_iload_n 1 (i := 1) (pc' := 22) d_Mod_usage_21 rfl rfl rfl ?_
      refine g_aload_n 0 (i := 0) (pc' := 23) d_Mod_usage_22 rfl rfl rfl ?_
      refine g_iload_n 3 (i := 3) (pc' := 24) d_Mod_usage_23 rfl rfl rfl ?_
      refine g_iconst (v := (-1 : Int32)) (pc' := 25) d_Mod_usage_24 (by decide) rfl ?_
      replace hy := g_b_inv hy
      obtain ⟨x7, hf9, hy⟩ := hy
      refine g_callV (rv := some (.int x7)) (h1 := (mH h0 a0 ad M)) (pc' := 28) (As := [.int v3, .int (-1 : Int32)]) (rest := [.int v1]) 2 (T_Mod_reserved ok (hy := hf9)) d_Mod_usage_25 (mH_look ok) rfl rfl q2194 q2196 qs54 q135 q2197 hd_Mod_reserved rfl ⟨by decide, by decide⟩ (by first | exact Nat.le_of_ble_eq_true rfl | (simp only [List.map, List.sum_cons, List.sum_nil, g_cat_rf]; exact Nat.le_of_ble_eq_true rfl) | (simp only [List.map, List.sum_cons, List.sum_nil, g_cat_rf, Value.category]; decide)) rfl ?_
      refine g_iadd (pc' := 29) d_Mod_usage_28 rfl ?_
      refine g_istore_n (i := 1) (pc' := 30) (Lc' := [(1, .int (v1 + x7)), (0, .ref a0), (2, .int v2), (3, .int v3)]) d_Mod_usage_29 rfl (by decide) rfl rfl ?_
      refine g_iload_n 2 (i := 2) (pc' := 31) d_Mod_usage_30 rfl rfl rfl ?_
      refine g_aload_n 1 (i := 0) (pc' := 32) d_Mod_usage_31 rfl rfl rfl ?_
      refine g_iload_n 3 (i := 3) (pc' := 33) d_Mod_usage_32 rfl rfl rfl ?_
      refine g_iconst (v := (2 : Int32)) (pc' := 34) d_Mod_usage_33 (by decide) rfl ?_
      replace hy := g_b_inv hy
      obtain ⟨x10, hf12, hy⟩ := hy
      refine g_callV (rv := some (.int x10)) (h1 := (mH h0 a0 ad M)) (pc' := 37) (As := [.int v3, .int (2 : Int32)]) (rest := [.int v2]) 2 (T_Mod_ofLink ok (hy := hf12)) d_Mod_usage_34 (mH_look ok) rfl rfl q2154 q2156 qs45 q135 q2157 hd_Mod_ofLink rfl ⟨by decide, by decide⟩ (by first | exact Nat.le_of_ble_eq_true rfl | (simp only [List.map, List.sum_cons, List.sum_nil, g_cat_rf]; exact Nat.le_of_ble_eq_true rfl) | (simp only [List.map, List.sum_cons, List.sum_nil, g_cat_rf, Value.category]; decide)) rfl ?_
      refine g_iadd (pc' := 38) d_Mod_usage_37 rfl ?_
      refine g_istore_n (i := 2) (pc' := 39) (Lc' := [(2, .int (v2 + x10)), (1, .int (v1 + x7)), (0, .ref a0), (3, .int v3)]) d_Mod_usage_38 rfl (by decide) rfl rfl ?_
      refine g_iinc 3 (v := (v3 + (1 : Int32))) (pc' := 42) (Lc' := [(3, .int (v3 + (1 : Int32))), (2, .int (v2 + x10)), (1, .int (v1 + x7)), (0, .ref a0)]) d_Mod_usage_39 rfl rfl (by decide) rfl rfl ?_
      refine g_goto (pc' := 11) d_Mod_usage_42 (by decide) ?_
      refine g_sub [3, 2, 1, 0] rfl ?_
      exact ih _ _ _ _ hy
def Mod_usage (M : g_MD)  : Option (UInt32 × g_MD) :=
  g_let (mp M 7 (0 : Int32)) fun M1 => Mod_usage_11  gFU M1 (0 : Int32) (0 : Int32) (0 : Int32)
set_option maxHeartbeats 4000000 in
set_option maxRecDepth 100000 in
theorem T_Mod_usage {l : Launch} {B : g_B} {h0 : g_AH} {a0 : Nat} {ad : Nat → Nat} (ok : mOK a0 ad) (M : g_MD)  (z : UInt32 × g_MD) (hy : Mod_usage M  = some z) : g_CT l B y_Mod_usage k_Mod_usage [.ref a0] (mH h0 a0 ad M) (.inl (some (.float z.1))) (mH h0 a0 ad z.2) := by
  refine g_start2 (Lc := [(0, .ref a0)]) (by decide) rfl rfl (by exact Nat.le_of_ble_eq_true rfl) (by rfl) fun X => ?_
  unfold Mod_usage at hy
  refine g_aload_n 0 (i := 0) (pc' := 1) d_Mod_usage_0 rfl rfl rfl ?_
  refine g_iconst (v := (0 : Int32)) (pc' := 2) d_Mod_usage_1 (by decide) rfl ?_
  replace hy := g_let_inv hy
  refine gm_put ok 7 (pc' := 5) d_Mod_usage_2 rfl (by decide) q1972 rfl ?_
  generalize (mp M 7 (0 : Int32)) = M1 at hy ⊢
  refine g_iconst (v := (0 : Int32)) (pc' := 6) d_Mod_usage_5 (by decide) rfl ?_
  refine g_istore_n (i := 1) (pc' := 7) (Lc' := [(1, .int (0 : Int32)), (0, .ref a0)]) d_Mod_usage_6 rfl (by decide) rfl rfl ?_
  refine g_iconst (v := (0 : Int32)) (pc' := 8) d_Mod_usage_7 (by decide) rfl ?_
  refine g_istore_n (i := 2) (pc' := 9) (Lc' := [(2, .int (0 : Int32)), (1, .int (0 : Int32)), (0, .ref a0)]) d_Mod_usage_8 rfl (by decide) rfl rfl ?_
  refine g_iconst (v := (0 : Int32)) (pc' := 10) d_Mod_usage_9 (by decide) rfl ?_
  refine g_istore_n (i := 3) (pc' := 11) (Lc' := [(3, .int (0 : Int32)), (2, .int (0 : Int32)), (1, .int (0 : Int32)), (0, .ref a0)]) d_Mod_usage_10 rfl (by decide) rfl rfl ?_
  refine g_sub [3, 2, 1, 0] rfl ?_
  exact W_Mod_usage_11 ok _ _ _ _ _ _ hy
theorem hd_Mod_usage : g_dsc y_Mod_usage 0 := ⟨by decide +kernel, by decide +kernel, by decide +kernel⟩
/-! CircuitDeskModel.canMove(II)I -/
abbrev y_Mod_canMove : MethodName := ⟨"CircuitDeskModel", "canMove", "(II)I"⟩
abbrev k_Mod_canMove : g_M := (prog_17_method_113_code, 4, "CircuitDeskModel", 20, (some FieldType.int), "canMove", [], 0)
theorem d_Mod_canMove_0 : decode prog_17_method_113_code 0 = .ok (.aload_n 0, 1) := by decide +kernel
theorem d_Mod_canMove_1 : decode prog_17_method_113_code 1 = .ok (.iconst 0, 1) := by decide +kernel
theorem d_Mod_canMove_2 : decode prog_17_method_113_code 2 = .ok (.putfield 51, 3) := by decide +kernel
theorem d_Mod_canMove_5 : decode prog_17_method_113_code 5 = .ok (.aload_n 0, 1) := by decide +kernel
theorem d_Mod_canMove_6 : decode prog_17_method_113_code 6 = .ok (.iload_n 1, 1) := by decide +kernel
theorem d_Mod_canMove_7 : decode prog_17_method_113_code 7 = .ok (.invokevirtual 306, 3) := by decide +kernel
theorem d_Mod_canMove_10 : decode prog_17_method_113_code 10 = .ok (.ifCond .eq 16, 3) := by decide +kernel
theorem d_Mod_canMove_13 : decode prog_17_method_113_code 13 = .ok (.iload_n 2, 1) := by decide +kernel
theorem d_Mod_canMove_14 : decode prog_17_method_113_code 14 = .ok (.iconst (-1), 1) := by decide +kernel
theorem d_Mod_canMove_15 : decode prog_17_method_113_code 15 = .ok (.if_icmp .eq 17, 3) := by decide +kernel
theorem d_Mod_canMove_18 : decode prog_17_method_113_code 18 = .ok (.aload_n 0, 1) := by decide +kernel
theorem d_Mod_canMove_19 : decode prog_17_method_113_code 19 = .ok (.iload_n 2, 1) := by decide +kernel
theorem d_Mod_canMove_20 : decode prog_17_method_113_code 20 = .ok (.invokevirtual 214, 3) := by decide +kernel
theorem d_Mod_canMove_23 : decode prog_17_method_113_code 23 = .ok (.ifCond .ne 9, 3) := by decide +kernel
theorem d_Mod_canMove_26 : decode prog_17_method_113_code 26 = .ok (.aload_n 0, 1) := by decide +kernel
theorem d_Mod_canMove_27 : decode prog_17_method_113_code 27 = .ok (.iconst 1, 1) := by decide +kernel
theorem d_Mod_canMove_28 : decode prog_17_method_113_code 28 = .ok (.invokevirtual 61, 3) := by decide +kernel
theorem d_Mod_canMove_31 : decode prog_17_method_113_code 31 = .ok (.ireturn, 1) := by decide +kernel
theorem d_Mod_canMove_32 : decode prog_17_method_113_code 32 = .ok (.aload_n 0, 1) := by decide +kernel
theorem d_Mod_canMove_33 : decode prog_17_method_113_code 33 = .ok (.getfield 7, 3) := by decide +kernel
theorem d_Mod_canMove_36 : decode prog_17_method_113_code 36 = .ok (.iconst 0, 1) := by decide +kernel
theorem d_Mod_canMove_37 : decode prog_17_method_113_code 37 = .ok (.aload_n 0, 1) := by decide +kernel
theorem d_Mod_canMove_38 : decode prog_17_method_113_code 38 = .ok (.getfield 16, 3) := by decide +kernel
theorem d_Mod_canMove_41 : decode prog_17_method_113_code 41 = .ok (.iconst 0, 1) := by decide +kernel
theorem d_Mod_canMove_42 : decode prog_17_method_113_code 42 = .ok (.invokestatic 191, 3) := by decide +kernel
theorem d_Mod_canMove_45 : decode prog_17_method_113_code 45 = .ok (.aload_n 0, 1) := by decide +kernel
theorem d_Mod_canMove_46 : decode prog_17_method_113_code 46 = .ok (.iload_n 1, 1) := by decide +kernel
theorem d_Mod_canMove_47 : decode prog_17_method_113_code 47 = .ok (.iload_n 2, 1) := by decide +kernel
theorem d_Mod_canMove_48 : decode prog_17_method_113_code 48 = .ok (.invokevirtual 324, 3) := by decide +kernel
theorem d_Mod_canMove_51 : decode prog_17_method_113_code 51 = .ok (.istore_n 3, 1) := by decide +kernel
theorem d_Mod_canMove_52 : decode prog_17_method_113_code 52 = .ok (.aload_n 0, 1) := by decide +kernel
theorem d_Mod_canMove_53 : decode prog_17_method_113_code 53 = .ok (.getfield 16, 3) := by decide +kernel
theorem d_Mod_canMove_56 : decode prog_17_method_113_code 56 = .ok (.iconst 0, 1) := by decide +kernel
theorem d_Mod_canMove_57 : decode prog_17_method_113_code 57 = .ok (.aload_n 0, 1) := by decide +kernel
theorem d_Mod_canMove_58 : decode prog_17_method_113_code 58 = .ok (.getfield 7, 3) := by decide +kernel
theorem d_Mod_canMove_61 : decode prog_17_method_113_code 61 = .ok (.iconst 0, 1) := by decide +kernel
theorem d_Mod_canMove_62 : decode prog_17_method_113_code 62 = .ok (.invokestatic 191, 3) := by decide +kernel
theorem d_Mod_canMove_65 : decode prog_17_method_113_code 65 = .ok (.iload_n 3, 1) := by decide +kernel
theorem d_Mod_canMove_66 : decode prog_17_method_113_code 66 = .ok (.ireturn, 1) := by decide +kernel
def Mod_canMove_26 (M : g_MD) : Option (Int32 × g_MD) :=
  g_bM (Mod_fail M (1 : Int32)) fun x6 M7 => some (x6, M7)
set_option maxHeartbeats 4000000 in
set_option maxRecDepth 100000 in
theorem W_Mod_canMove_26 {X : g_X} {h0 : g_AH} {a0 : Nat} {ad : Nat → Nat} (ok : mOK a0 ad) (z : Int32 × g_MD) (M : g_MD) (hy : Mod_canMove_26  M = some z) : G X k_Mod_canMove (.inl (some (.int z.1))) (mH h0 a0 ad z.2) (mH h0 a0 ad M) 26 [(0, .ref a0)] [] := by
  unfold Mod_canMove_26 at hy
  refine g_aload_n 0 (i := 0) (pc' := 27) d_Mod_canMove_26 rfl rfl rfl ?_
  refine g_iconst (v := (1 : Int32)) (pc' := 28) d_Mod_canMove_27 (by decide) rfl ?_
  replace hy := g_bM_inv hy
  obtain ⟨x6, M7, hf8, hy⟩ := hy
  refine g_callV (rv := some (.int x6)) (h1 := (mH h0 a0 ad M7)) (pc' := 31) (As := [.int (1 : Int32)]) (rest := []) 1 (T_Mod_fail ok (hy := hf8)) d_Mod_canMove_28 (mH_look ok) rfl rfl q2061 q2063 qs31 q135 q2064 hd_Mod_fail rfl ⟨by decide, by decide⟩ (by first | exact Nat.le_of_ble_eq_true rfl | (simp only [List.map, List.sum_cons, List.sum_nil, g_cat_rf]; exact Nat.le_of_ble_eq_true rfl) | (simp only [List.map, List.sum_cons, List.sum_nil, g_cat_rf, Value.category]; decide)) rfl ?_
  cases hy
  exact g_iret rfl rfl rfl d_Mod_canMove_31
def Mod_canMove_32 (M : g_MD) (v1 : Int32) (v2 : Int32) : Option (Int32 × g_MD) :=
  g_b (Mod_copy M 0 (0 : Int32) 2 (0 : Int32)) fun M11 => g_bM (Mod_moveToBest M11 v1 v2) fun x13 M14 => g_b (Mod_copy M14 2 (0 : Int32) 0 (0 : Int32)) fun M17 => some (x13, M17)
set_option maxHeartbeats 4000000 in
set_option maxRecDepth 100000 in
theorem W_Mod_canMove_32 {X : g_X} {h0 : g_AH} {a0 : Nat} {ad : Nat → Nat} (ok : mOK a0 ad) (z : Int32 × g_MD) (M : g_MD) (v1 : Int32) (v2 : Int32) (hy : Mod_canMove_32  M v1 v2 = some z) : G X k_Mod_canMove (.inl (some (.int z.1))) (mH h0 a0 ad z.2) (mH h0 a0 ad M) 32 [(0, .ref a0), (1, .int v1), (2, .int v2)] [] := by
  unfold Mod_canMove_32 at hy
  refine g_aload_n 0 (i := 0) (pc' := 33) d_Mod_canMove_32 rfl rfl rfl ?_
  refine gm_getA ok 0 (pc' := 36) d_Mod_canMove_33 rfl q1965 rfl rfl ?_
  refine g_iconst (v := (0 : Int32)) (pc' := 37) d_Mod_canMove_36 (by decide) rfl ?_
  refine g_aload_n 0 (i := 0) (pc' := 38) d_Mod_canMove_37 rfl rfl rfl ?_
  refine gm_getA ok 2 (pc' := 41) d_Mod_canMove_38 rfl q1967 rfl rfl ?_
  refine g_iconst (v := (0 : Int32)) (pc' := 42) d_Mod_canMove_41 (by decide) rfl ?_
  replace hy := g_b_inv hy
  obtain ⟨M11, hf12, hy⟩ := hy
  refine g_callS (rv := none) (h1 := (mH h0 a0 ad M11)) (pc' := 45) (As := [.ref (ad 0), .int (0 : Int32), .ref (ad 2), .int (0 : Int32)]) (rest := []) 4 (T_Mod_copy ok (hy := hf12)) d_Mod_canMove_42 q2076 q2077 q135 q2078 hd_Mod_copy rfl ⟨by decide, by decide⟩ (by first | exact Nat.le_of_ble_eq_true rfl | (simp only [List.map, List.sum_cons, List.sum_nil, g_cat_rf]; exact Nat.le_of_ble_eq_true rfl) | (simp only [List.map, List.sum_cons, List.sum_nil, g_cat_rf, Value.category]; decide)) rfl ?_
  refine g_aload_n 0 (i := 0) (pc' := 46) d_Mod_canMove_45 rfl rfl rfl ?_
  refine g_iload_n 1 (i := 1) (pc' := 47) d_Mod_canMove_46 rfl rfl rfl ?_
  refine g_iload_n 2 (i := 2) (pc' := 48) d_Mod_canMove_47 rfl rfl rfl ?_
  replace hy := g_bM_inv hy
  obtain ⟨x13, M14, hf15, hy⟩ := hy
  refine g_callV (rv := some (.int x13)) (h1 := (mH h0 a0 ad M14)) (pc' := 51) (As := [.int v1, .int v2]) (rest := []) 2 (T_Mod_moveToBest ok (hy := hf15)) d_Mod_canMove_48 (mH_look ok) rfl rfl q2407 q2409 qs89 q135 q2410 hd_Mod_moveToBest rfl ⟨by decide, by decide⟩ (by first | exact Nat.le_of_ble_eq_true rfl | (simp only [List.map, List.sum_cons, List.sum_nil, g_cat_rf]; exact Nat.le_of_ble_eq_true rfl) | (simp only [List.map, List.sum_cons, List.sum_nil, g_cat_rf, Value.category]; decide)) rfl ?_
  refine g_istore_n (i := 3) (pc' := 52) (Lc' := [(3, .int x13), (0, .ref a0), (1, .int v1), (2, .int v2)]) d_Mod_canMove_51 rfl (by decide) rfl rfl ?_
  refine g_aload_n 1 (i := 0) (pc' := 53) d_Mod_canMove_52 rfl rfl rfl ?_
  refine gm_getA ok 2 (pc' := 56) d_Mod_canMove_53 rfl q1967 rfl rfl ?_
  refine g_iconst (v := (0 : Int32)) (pc' := 57) d_Mod_canMove_56 (by decide) rfl ?_
  refine g_aload_n 1 (i := 0) (pc' := 58) d_Mod_canMove_57 rfl rfl rfl ?_
  refine gm_getA ok 0 (pc' := 61) d_Mod_canMove_58 rfl q1965 rfl rfl ?_
  refine g_iconst (v := (0 : Int32)) (pc' := 62) d_Mod_canMove_61 (by decide) rfl ?_
  replace hy := g_b_inv hy
  obtain ⟨M17, hf18, hy⟩ := hy
  refine g_callS (rv := none) (h1 := (mH h0 a0 ad M17)) (pc' := 65) (As := [.ref (ad 2), .int (0 : Int32), .ref (ad 0), .int (0 : Int32)]) (rest := []) 4 (T_Mod_copy ok (hy := hf18)) d_Mod_canMove_62 q2076 q2077 q135 q2078 hd_Mod_copy rfl ⟨by decide, by decide⟩ (by first | exact Nat.le_of_ble_eq_true rfl | (simp only [List.map, List.sum_cons, List.sum_nil, g_cat_rf]; exact Nat.le_of_ble_eq_true rfl) | (simp only [List.map, List.sum_cons, List.sum_nil, g_cat_rf, Value.category]; decide)) rfl ?_
  refine g_iload_n 0 (i := 3) (pc' := 66) d_Mod_canMove_65 rfl rfl rfl ?_
  cases hy
  exact g_iret rfl rfl rfl d_Mod_canMove_66
def Mod_canMove (M : g_MD) (p0 : Int32) (p1 : Int32) : Option (Int32 × g_MD) :=
  g_let (mp M 7 (0 : Int32)) fun M1 => g_b (Mod_isCircuit M1 p0) fun x2 => if x2 = 0 then (Mod_canMove_26  M1) else (if p1 = (-1 : Int32) then (Mod_canMove_32  M1 p0 p1) else (g_b (Mod_isLink M1 p1) fun x19 => if x19 = 0 then (Mod_canMove_26  M1) else (Mod_canMove_32  M1 p0 p1)))
set_option maxHeartbeats 4000000 in
set_option maxRecDepth 100000 in
theorem T_Mod_canMove {l : Launch} {B : g_B} {h0 : g_AH} {a0 : Nat} {ad : Nat → Nat} (ok : mOK a0 ad) (M : g_MD) (p0 : Int32) (p1 : Int32) (z : Int32 × g_MD) (hy : Mod_canMove M p0 p1 = some z) : g_CT l B y_Mod_canMove k_Mod_canMove [.ref a0, .int p0, .int p1] (mH h0 a0 ad M) (.inl (some (.int z.1))) (mH h0 a0 ad z.2) := by
  refine g_start2 (Lc := [(0, .ref a0), (1, .int p0), (2, .int p1)]) (by decide) rfl rfl (by exact Nat.le_of_ble_eq_true rfl) (by rfl) fun X => ?_
  unfold Mod_canMove at hy
  refine g_aload_n 0 (i := 0) (pc' := 1) d_Mod_canMove_0 rfl rfl rfl ?_
  refine g_iconst (v := (0 : Int32)) (pc' := 2) d_Mod_canMove_1 (by decide) rfl ?_
  replace hy := g_let_inv hy
  refine gm_put ok 7 (pc' := 5) d_Mod_canMove_2 rfl (by decide) q1972 rfl ?_
  generalize (mp M 7 (0 : Int32)) = M1 at hy ⊢
  refine g_aload_n 0 (i := 0) (pc' := 6) d_Mod_canMove_5 rfl rfl rfl ?_
  refine g_iload_n 1 (i := 1) (pc' := 7) d_Mod_canMove_6 rfl rfl rfl ?_
  replace hy := g_b_inv hy
  obtain ⟨x2, hf4, hy⟩ := hy
  refine g_callV (rv := some (.int x2)) (h1 := (mH h0 a0 ad M1)) (pc' := 10) (As := [.int p0]) (rest := []) 1 (T_Mod_isCircuit ok (hy := hf4)) d_Mod_canMove_7 (mH_look ok) rfl rfl q2375 q2377 qs83 q135 q2378 hd_Mod_isCircuit rfl ⟨by decide, by decide⟩ (by first | exact Nat.le_of_ble_eq_true rfl | (simp only [List.map, List.sum_cons, List.sum_nil, g_cat_rf]; exact Nat.le_of_ble_eq_true rfl) | (simp only [List.map, List.sum_cons, List.sum_nil, g_cat_rf, Value.category]; decide)) rfl ?_
  by_cases c5 : x2 = 0
  · rw [if_pos c5] at hy
    refine g_if_eqT (pc' := 26) d_Mod_canMove_10 c5 (by decide) ?_
    refine g_sub [0] rfl ?_
    exact W_Mod_canMove_26 ok _ _ hy
  · rw [if_neg c5] at hy
    refine g_if_eqF (pc' := 13) d_Mod_canMove_10 26 c5 (by decide) rfl ?_
    refine g_iload_n 2 (i := 2) (pc' := 14) d_Mod_canMove_13 rfl rfl rfl ?_
    refine g_iconst (v := (-1 : Int32)) (pc' := 15) d_Mod_canMove_14 (by decide) rfl ?_
    by_cases c9 : p1 = (-1 : Int32)
    · rw [if_pos c9] at hy
      refine g_icmp_eqT (pc' := 32) d_Mod_canMove_15 c9 (by decide) ?_
      exact W_Mod_canMove_32 ok _ _ _ _ hy
    · rw [if_neg c9] at hy
      refine g_icmp_eqF (pc' := 18) d_Mod_canMove_15 32 c9 (by decide) rfl ?_
      refine g_aload_n 0 (i := 0) (pc' := 19) d_Mod_canMove_18 rfl rfl rfl ?_
      refine g_iload_n 2 (i := 2) (pc' := 20) d_Mod_canMove_19 rfl rfl rfl ?_
      replace hy := g_b_inv hy
      obtain ⟨x19, hf21, hy⟩ := hy
      refine g_callV (rv := some (.int x19)) (h1 := (mH h0 a0 ad M1)) (pc' := 23) (As := [.int p1]) (rest := []) 1 (T_Mod_isLink ok (hy := hf21)) d_Mod_canMove_20 (mH_look ok) rfl rfl q2259 q2261 qs65 q135 q2262 hd_Mod_isLink rfl ⟨by decide, by decide⟩ (by first | exact Nat.le_of_ble_eq_true rfl | (simp only [List.map, List.sum_cons, List.sum_nil, g_cat_rf]; exact Nat.le_of_ble_eq_true rfl) | (simp only [List.map, List.sum_cons, List.sum_nil, g_cat_rf, Value.category]; decide)) rfl ?_
      by_cases c22 : x19 = 0
      · rw [if_pos c22] at hy
        refine g_if_neF (pc' := 26) d_Mod_canMove_23 32 c22 (by decide) rfl ?_
        refine g_sub [0] rfl ?_
        exact W_Mod_canMove_26 ok _ _ hy
      · rw [if_neg c22] at hy
        refine g_if_neT (pc' := 32) d_Mod_canMove_23 c22 (by decide) ?_
        exact W_Mod_canMove_32 ok _ _ _ _ hy
theorem hd_Mod_canMove : g_dsc y_Mod_canMove 2 := ⟨by decide +kernel, by decide +kernel, by decide +kernel⟩
/-! CircuitDeskModel.movedIn(I)I -/
abbrev y_Mod_movedIn : MethodName := ⟨"CircuitDeskModel", "movedIn", "(I)I"⟩
abbrev k_Mod_movedIn : g_M := (prog_17_method_114_code, 3, "CircuitDeskModel", 18, (some FieldType.int), "movedIn", [], 0)
theorem d_Mod_movedIn_0 : decode prog_17_method_114_code 0 = .ok (.aload_n 0, 1) := by decide +kernel
theorem d_Mod_movedIn_1 : decode prog_17_method_114_code 1 = .ok (.iconst 0, 1) := by decide +kernel
theorem d_Mod_movedIn_2 : decode prog_17_method_114_code 2 = .ok (.putfield 51, 3) := by decide +kernel
theorem d_Mod_movedIn_5 : decode prog_17_method_114_code 5 = .ok (.aload_n 0, 1) := by decide +kernel
theorem d_Mod_movedIn_6 : decode prog_17_method_114_code 6 = .ok (.iload_n 1, 1) := by decide +kernel
theorem d_Mod_movedIn_7 : decode prog_17_method_114_code 7 = .ok (.invokevirtual 306, 3) := by decide +kernel
theorem d_Mod_movedIn_10 : decode prog_17_method_114_code 10 = .ok (.ifCond .ne 9, 3) := by decide +kernel
theorem d_Mod_movedIn_13 : decode prog_17_method_114_code 13 = .ok (.aload_n 0, 1) := by decide +kernel
theorem d_Mod_movedIn_14 : decode prog_17_method_114_code 14 = .ok (.iconst 1, 1) := by decide +kernel
theorem d_Mod_movedIn_15 : decode prog_17_method_114_code 15 = .ok (.invokevirtual 61, 3) := by decide +kernel
theorem d_Mod_movedIn_18 : decode prog_17_method_114_code 18 = .ok (.ireturn, 1) := by decide +kernel
theorem d_Mod_movedIn_19 : decode prog_17_method_114_code 19 = .ok (.aload_n 0, 1) := by decide +kernel
theorem d_Mod_movedIn_20 : decode prog_17_method_114_code 20 = .ok (.getfield 7, 3) := by decide +kernel
theorem d_Mod_movedIn_23 : decode prog_17_method_114_code 23 = .ok (.iconst 0, 1) := by decide +kernel
theorem d_Mod_movedIn_24 : decode prog_17_method_114_code 24 = .ok (.aload_n 0, 1) := by decide +kernel
theorem d_Mod_movedIn_25 : decode prog_17_method_114_code 25 = .ok (.getfield 16, 3) := by decide +kernel
theorem d_Mod_movedIn_28 : decode prog_17_method_114_code 28 = .ok (.iconst 0, 1) := by decide +kernel
theorem d_Mod_movedIn_29 : decode prog_17_method_114_code 29 = .ok (.invokestatic 191, 3) := by decide +kernel
theorem d_Mod_movedIn_32 : decode prog_17_method_114_code 32 = .ok (.iconst 0, 1) := by decide +kernel
theorem d_Mod_movedIn_33 : decode prog_17_method_114_code 33 = .ok (.istore_n 2, 1) := by decide +kernel
theorem d_Mod_movedIn_34 : decode prog_17_method_114_code 34 = .ok (.aload_n 0, 1) := by decide +kernel
theorem d_Mod_movedIn_35 : decode prog_17_method_114_code 35 = .ok (.iload_n 1, 1) := by decide +kernel
theorem d_Mod_movedIn_36 : decode prog_17_method_114_code 36 = .ok (.iconst 2, 1) := by decide +kernel
theorem d_Mod_movedIn_37 : decode prog_17_method_114_code 37 = .ok (.invokevirtual 150, 3) := by decide +kernel
theorem d_Mod_movedIn_40 : decode prog_17_method_114_code 40 = .ok (.ifCond .le 13, 3) := by decide +kernel
theorem d_Mod_movedIn_43 : decode prog_17_method_114_code 43 = .ok (.aload_n 0, 1) := by decide +kernel
theorem d_Mod_movedIn_44 : decode prog_17_method_114_code 44 = .ok (.invokevirtual 383, 3) := by decide +kernel
theorem d_Mod_movedIn_47 : decode prog_17_method_114_code 47 = .ok (.iinc 2 1, 3) := by decide +kernel
theorem d_Mod_movedIn_50 : decode prog_17_method_114_code 50 = .ok (.goto (-16), 3) := by decide +kernel
theorem d_Mod_movedIn_53 : decode prog_17_method_114_code 53 = .ok (.aload_n 0, 1) := by decide +kernel
theorem d_Mod_movedIn_54 : decode prog_17_method_114_code 54 = .ok (.getfield 16, 3) := by decide +kernel
theorem d_Mod_movedIn_57 : decode prog_17_method_114_code 57 = .ok (.iconst 0, 1) := by decide +kernel
theorem d_Mod_movedIn_58 : decode prog_17_method_114_code 58 = .ok (.aload_n 0, 1) := by decide +kernel
theorem d_Mod_movedIn_59 : decode prog_17_method_114_code 59 = .ok (.getfield 7, 3) := by decide +kernel
theorem d_Mod_movedIn_62 : decode prog_17_method_114_code 62 = .ok (.iconst 0, 1) := by decide +kernel
theorem d_Mod_movedIn_63 : decode prog_17_method_114_code 63 = .ok (.invokestatic 191, 3) := by decide +kernel
theorem d_Mod_movedIn_66 : decode prog_17_method_114_code 66 = .ok (.iload_n 2, 1) := by decide +kernel
theorem d_Mod_movedIn_67 : decode prog_17_method_114_code 67 = .ok (.ireturn, 1) := by decide +kernel
def Mod_movedIn_34  : Nat → g_MD → Int32 → Int32 → Option (Int32 × g_MD)
  | 0, _, _, _ => none
  | n + 1, M, v1, v2 => g_b (Mod_of M v1 (2 : Int32)) fun x9 => if x9 ≤ 0 then (g_b (Mod_copy M 2 (0 : Int32) 0 (0 : Int32)) fun M14 => some (v2, M14)) else (g_b (Mod_passTick M) fun M17 => (Mod_movedIn_34  n) M17 v1 (v2 + (1 : Int32)))
set_option maxHeartbeats 4000000 in
set_option maxRecDepth 100000 in
theorem W_Mod_movedIn_34 {X : g_X} {h0 : g_AH} {a0 : Nat} {ad : Nat → Nat} (ok : mOK a0 ad) (z : Int32 × g_MD)  : ∀ (n : Nat) (M : g_MD) (v1 : Int32) (v2 : Int32), Mod_movedIn_34  n M v1 v2 = some z → G X k_Mod_movedIn (.inl (some (.int z.1))) (mH h0 a0 ad z.2) (mH h0 a0 ad M) 34 [(0, .ref a0), (1, .int v1), (2, .int v2)] [] := by
  intro n
  induction n with
  | zero => intro M v1 v2 hy; exact absurd hy (by simp [Mod_movedIn_34])
  | succ n ih =>
    intro M v1 v2 hy
    rw [Mod_movedIn_34] at hy
    refine g_aload_n 0 (i := 0) (pc' := 35) d_Mod_movedIn_34 rfl rfl rfl ?_
    refine g_iload_n 1 (i := 1) (pc' := 36) d_Mod_movedIn_35 rfl rfl rfl ?_
    refine g_iconst (v := (2 : Int32)) (pc' := 37) d_Mod_movedIn_36 (by decide) rfl ?_
    replace hy := g_b_inv hy
    obtain ⟨x9, hf11, hy⟩ := hy
    refine g_callV (rv := some (.int x9)) (h1 := (mH h0 a0 ad M)) (pc' := 40) (As := [.int v1, .int (2 : Int32)]) (rest := []) 2 (T_Mod_of ok (hy := hf11)) d_Mod_movedIn_37 (mH_look ok) rfl rfl q2186 q2188 qs52 q135 q2189 hd_Mod_of rfl ⟨by decide, by decide⟩ (by first | exact Nat.le_of_ble_eq_true rfl | (simp only [List.map, List.sum_cons, List.sum_nil, g_cat_rf]; exact Nat.le_of_ble_eq_true rfl) | (simp only [List.map, List.sum_cons, List.sum_nil, g_cat_rf, Value.category]; decide)) rfl ?_
    by_cases c12 : x9 ≤ 0
    · rw [if_pos c12] at hy
      refine g_if_leT (pc' := 53) d_Mod_movedIn_40 c12 (by decide) ?_
      refine g_aload_n 0 (i := 0) (pc' := 54) d_Mod_movedIn_53 rfl rfl rfl ?_
      refine gm_getA ok 2 (pc' := 57) d_Mod_movedIn_54 rfl q1967 rfl rfl ?_
      refine g_iconst (v := (0 : Int32)) (pc' := 58) d_Mod_movedIn_57 (by decide) rfl ?_
      refine g_aload_n 0 (i := 0) (pc' := 59) d_Mod_movedIn_58 rfl rfl rfl ?_
      refine gm_getA ok 0 (pc' := 62) d_Mod_movedIn_59 rfl q1965 rfl rfl ?_
      refine g_iconst (v := (0 : Int32)) (pc' := 63) d_Mod_movedIn_62 (by decide) rfl ?_
      replace hy := g_b_inv hy
      obtain ⟨M14, hf15, hy⟩ := hy
      refine g_callS (rv := none) (h1 := (mH h0 a0 ad M14)) (pc' := 66) (As := [.ref (ad 2), .int (0 : Int32), .ref (ad 0), .int (0 : Int32)]) (rest := []) 4 (T_Mod_copy ok (hy := hf15)) d_Mod_movedIn_63 q2076 q2077 q135 q2078 hd_Mod_copy rfl ⟨by decide, by decide⟩ (by first | exact Nat.le_of_ble_eq_true rfl | (simp only [List.map, List.sum_cons, List.sum_nil, g_cat_rf]; exact Nat.le_of_ble_eq_true rfl) | (simp only [List.map, List.sum_cons, List.sum_nil, g_cat_rf, Value.category]; decide)) rfl ?_
      refine g_iload_n 2 (i := 2) (pc' := 67) d_Mod_movedIn_66 rfl rfl rfl ?_
      cases hy
      exact g_iret rfl rfl rfl d_Mod_movedIn_67
    · rw [if_neg c12] at hy
      refine g_if_leF (pc' := 43) d_Mod_movedIn_40 53 c12 (by decide) rfl ?_
      refine g_aload_n 0 (i := 0) (pc' := 44) d_Mod_movedIn_43 rfl rfl rfl ?_
      replace hy := g_b_inv hy
      obtain ⟨M17, hf18, hy⟩ := hy
      refine g_callV (rv := none) (h1 := (mH h0 a0 ad M17)) (pc' := 47) (As := []) (rest := []) 0 (T_Mod_passTick ok (hy := hf18)) d_Mod_movedIn_44 (mH_look ok) rfl rfl q2433 q2435 qs92 q135 q2436 hd_Mod_passTick rfl ⟨by decide, by decide⟩ (by first | exact Nat.le_of_ble_eq_true rfl | (simp only [List.map, List.sum_cons, List.sum_nil, g_cat_rf]; exact Nat.le_of_ble_eq_true rfl) | (simp only [List.map, List.sum_cons, List.sum_nil, g_cat_rf, Value.category]; decide)) rfl ?_
      refine g_iinc 2 (v := (v2 + (1 : Int32))) (pc' := 50) (Lc' := [(2, .int (v2 + (1 : Int32))), (0, .ref a0), (1, .int v1)]) d_Mod_movedIn_47 rfl rfl (by decide) rfl rfl ?_
      refine g_goto (pc' := 34) d_Mod_movedIn_50 (by decide) ?_
      refine g_sub [1, 2, 0] rfl ?_
      exact ih _ _ _ hy
def Mod_movedIn (M : g_MD) (p0 : Int32) : Option (Int32 × g_MD) :=
  g_let (mp M 7 (0 : Int32)) fun M1 => g_b (Mod_isCircuit M1 p0) fun x2 => if x2 = 0 then (g_bM (Mod_fail M1 (1 : Int32)) fun x19 M20 => some (x19, M20)) else (g_b (Mod_copy M1 0 (0 : Int32) 2 (0 : Int32)) fun M7 => Mod_movedIn_34  gFU M7 p0 (0 : Int32))
set_option maxHeartbeats 4000000 in
set_option maxRecDepth 100000 in
theorem T_Mod_movedIn {l : Launch} {B : g_B} {h0 : g_AH} {a0 : Nat} {ad : Nat → Nat} (ok : mOK a0 ad) (M : g_MD) (p0 : Int32) (z : Int32 × g_MD) (hy : Mod_movedIn M p0 = some z) : g_CT l B y_Mod_movedIn k_Mod_movedIn [.ref a0, .int p0] (mH h0 a0 ad M) (.inl (some (.int z.1))) (mH h0 a0 ad z.2) := by
  refine g_start2 (Lc := [(0, .ref a0), (1, .int p0)]) (by decide) rfl rfl (by exact Nat.le_of_ble_eq_true rfl) (by rfl) fun X => ?_
  unfold Mod_movedIn at hy
  refine g_aload_n 0 (i := 0) (pc' := 1) d_Mod_movedIn_0 rfl rfl rfl ?_
  refine g_iconst (v := (0 : Int32)) (pc' := 2) d_Mod_movedIn_1 (by decide) rfl ?_
  replace hy := g_let_inv hy
  refine gm_put ok 7 (pc' := 5) d_Mod_movedIn_2 rfl (by decide) q1972 rfl ?_
  generalize (mp M 7 (0 : Int32)) = M1 at hy ⊢
  refine g_aload_n 0 (i := 0) (pc' := 6) d_Mod_movedIn_5 rfl rfl rfl ?_
  refine g_iload_n 1 (i := 1) (pc' := 7) d_Mod_movedIn_6 rfl rfl rfl ?_
  replace hy := g_b_inv hy
  obtain ⟨x2, hf4, hy⟩ := hy
  refine g_callV (rv := some (.int x2)) (h1 := (mH h0 a0 ad M1)) (pc' := 10) (As := [.int p0]) (rest := []) 1 (T_Mod_isCircuit ok (hy := hf4)) d_Mod_movedIn_7 (mH_look ok) rfl rfl q2375 q2377 qs83 q135 q2378 hd_Mod_isCircuit rfl ⟨by decide, by decide⟩ (by first | exact Nat.le_of_ble_eq_true rfl | (simp only [List.map, List.sum_cons, List.sum_nil, g_cat_rf]; exact Nat.le_of_ble_eq_true rfl) | (simp only [List.map, List.sum_cons, List.sum_nil, g_cat_rf, Value.category]; decide)) rfl ?_
  by_cases c5 : x2 = 0
  · rw [if_pos c5] at hy
    refine g_if_neF (pc' := 13) d_Mod_movedIn_10 19 c5 (by decide) rfl ?_
    refine g_aload_n 0 (i := 0) (pc' := 14) d_Mod_movedIn_13 rfl rfl rfl ?_
    refine g_iconst (v := (1 : Int32)) (pc' := 15) d_Mod_movedIn_14 (by decide) rfl ?_
    replace hy := g_bM_inv hy
    obtain ⟨x19, M20, hf21, hy⟩ := hy
    refine g_callV (rv := some (.int x19)) (h1 := (mH h0 a0 ad M20)) (pc' := 18) (As := [.int (1 : Int32)]) (rest := []) 1 (T_Mod_fail ok (hy := hf21)) d_Mod_movedIn_15 (mH_look ok) rfl rfl q2061 q2063 qs31 q135 q2064 hd_Mod_fail rfl ⟨by decide, by decide⟩ (by first | exact Nat.le_of_ble_eq_true rfl | (simp only [List.map, List.sum_cons, List.sum_nil, g_cat_rf]; exact Nat.le_of_ble_eq_true rfl) | (simp only [List.map, List.sum_cons, List.sum_nil, g_cat_rf, Value.category]; decide)) rfl ?_
    cases hy
    exact g_iret rfl rfl rfl d_Mod_movedIn_18
  · rw [if_neg c5] at hy
    refine g_if_neT (pc' := 19) d_Mod_movedIn_10 c5 (by decide) ?_
    refine g_aload_n 0 (i := 0) (pc' := 20) d_Mod_movedIn_19 rfl rfl rfl ?_
    refine gm_getA ok 0 (pc' := 23) d_Mod_movedIn_20 rfl q1965 rfl rfl ?_
    refine g_iconst (v := (0 : Int32)) (pc' := 24) d_Mod_movedIn_23 (by decide) rfl ?_
    refine g_aload_n 0 (i := 0) (pc' := 25) d_Mod_movedIn_24 rfl rfl rfl ?_
    refine gm_getA ok 2 (pc' := 28) d_Mod_movedIn_25 rfl q1967 rfl rfl ?_
    refine g_iconst (v := (0 : Int32)) (pc' := 29) d_Mod_movedIn_28 (by decide) rfl ?_
    replace hy := g_b_inv hy
    obtain ⟨M7, hf8, hy⟩ := hy
    refine g_callS (rv := none) (h1 := (mH h0 a0 ad M7)) (pc' := 32) (As := [.ref (ad 0), .int (0 : Int32), .ref (ad 2), .int (0 : Int32)]) (rest := []) 4 (T_Mod_copy ok (hy := hf8)) d_Mod_movedIn_29 q2076 q2077 q135 q2078 hd_Mod_copy rfl ⟨by decide, by decide⟩ (by first | exact Nat.le_of_ble_eq_true rfl | (simp only [List.map, List.sum_cons, List.sum_nil, g_cat_rf]; exact Nat.le_of_ble_eq_true rfl) | (simp only [List.map, List.sum_cons, List.sum_nil, g_cat_rf, Value.category]; decide)) rfl ?_
    refine g_iconst (v := (0 : Int32)) (pc' := 33) d_Mod_movedIn_32 (by decide) rfl ?_
    refine g_istore_n (i := 2) (pc' := 34) (Lc' := [(2, .int (0 : Int32)), (0, .ref a0), (1, .int p0)]) d_Mod_movedIn_33 rfl (by decide) rfl rfl ?_
    refine g_sub [1, 2, 0] rfl ?_
    exact W_Mod_movedIn_34 ok _ _ _ _ _ hy
theorem hd_Mod_movedIn : g_dsc y_Mod_movedIn 1 := ⟨by decide +kernel, by decide +kernel, by decide +kernel⟩
/-! CircuitDeskModel.ahead(II)I -/
abbrev y_Mod_ahead : MethodName := ⟨"CircuitDeskModel", "ahead", "(II)I"⟩
abbrev k_Mod_ahead : g_M := (prog_17_method_115_code, 6, "CircuitDeskModel", 19, (some FieldType.int), "ahead", [], 0)
theorem d_Mod_ahead_0 : decode prog_17_method_115_code 0 = .ok (.aload_n 0, 1) := by decide +kernel
theorem d_Mod_ahead_1 : decode prog_17_method_115_code 1 = .ok (.iconst 0, 1) := by decide +kernel
theorem d_Mod_ahead_2 : decode prog_17_method_115_code 2 = .ok (.putfield 51, 3) := by decide +kernel
theorem d_Mod_ahead_5 : decode prog_17_method_115_code 5 = .ok (.iload_n 1, 1) := by decide +kernel
theorem d_Mod_ahead_6 : decode prog_17_method_115_code 6 = .ok (.iconst 1, 1) := by decide +kernel
theorem d_Mod_ahead_7 : decode prog_17_method_115_code 7 = .ok (.sipush 200, 3) := by decide +kernel
theorem d_Mod_ahead_10 : decode prog_17_method_115_code 10 = .ok (.invokestatic 54, 3) := by decide +kernel
theorem d_Mod_ahead_13 : decode prog_17_method_115_code 13 = .ok (.ifCond .eq 12, 3) := by decide +kernel
theorem d_Mod_ahead_16 : decode prog_17_method_115_code 16 = .ok (.iload_n 2, 1) := by decide +kernel
theorem d_Mod_ahead_17 : decode prog_17_method_115_code 17 = .ok (.iconst 0, 1) := by decide +kernel
theorem d_Mod_ahead_18 : decode prog_17_method_115_code 18 = .ok (.iconst 3, 1) := by decide +kernel
theorem d_Mod_ahead_19 : decode prog_17_method_115_code 19 = .ok (.invokestatic 54, 3) := by decide +kernel
theorem d_Mod_ahead_22 : decode prog_17_method_115_code 22 = .ok (.ifCond .ne 9, 3) := by decide +kernel
theorem d_Mod_ahead_25 : decode prog_17_method_115_code 25 = .ok (.aload_n 0, 1) := by decide +kernel
theorem d_Mod_ahead_26 : decode prog_17_method_115_code 26 = .ok (.iconst 1, 1) := by decide +kernel
theorem d_Mod_ahead_27 : decode prog_17_method_115_code 27 = .ok (.invokevirtual 61, 3) := by decide +kernel
theorem d_Mod_ahead_30 : decode prog_17_method_115_code 30 = .ok (.ireturn, 1) := by decide +kernel
theorem d_Mod_ahead_31 : decode prog_17_method_115_code 31 = .ok (.iload_n 2, 1) := by decide +kernel
theorem d_Mod_ahead_32 : decode prog_17_method_115_code 32 = .ok (.ifCond .ne 8, 3) := by decide +kernel
theorem d_Mod_ahead_35 : decode prog_17_method_115_code 35 = .ok (.bipush 8, 2) := by decide +kernel
theorem d_Mod_ahead_37 : decode prog_17_method_115_code 37 = .ok (.goto 25, 3) := by decide +kernel
theorem d_Mod_ahead_40 : decode prog_17_method_115_code 40 = .ok (.iload_n 2, 1) := by decide +kernel
theorem d_Mod_ahead_41 : decode prog_17_method_115_code 41 = .ok (.iconst 1, 1) := by decide +kernel
theorem d_Mod_ahead_42 : decode prog_17_method_115_code 42 = .ok (.if_icmp .ne 8, 3) := by decide +kernel
theorem d_Mod_ahead_45 : decode prog_17_method_115_code 45 = .ok (.bipush 9, 2) := by decide +kernel
theorem d_Mod_ahead_47 : decode prog_17_method_115_code 47 = .ok (.goto 15, 3) := by decide +kernel
theorem d_Mod_ahead_50 : decode prog_17_method_115_code 50 = .ok (.iload_n 2, 1) := by decide +kernel
theorem d_Mod_ahead_51 : decode prog_17_method_115_code 51 = .ok (.iconst 2, 1) := by decide +kernel
theorem d_Mod_ahead_52 : decode prog_17_method_115_code 52 = .ok (.if_icmp .ne 8, 3) := by decide +kernel
theorem d_Mod_ahead_55 : decode prog_17_method_115_code 55 = .ok (.bipush 11, 2) := by decide +kernel
theorem d_Mod_ahead_57 : decode prog_17_method_115_code 57 = .ok (.goto 5, 3) := by decide +kernel
theorem d_Mod_ahead_60 : decode prog_17_method_115_code 60 = .ok (.bipush 10, 2) := by decide +kernel
theorem d_Mod_ahead_62 : decode prog_17_method_115_code 62 = .ok (.istore_n 3, 1) := by decide +kernel
theorem d_Mod_ahead_63 : decode prog_17_method_115_code 63 = .ok (.aload_n 0, 1) := by decide +kernel
theorem d_Mod_ahead_64 : decode prog_17_method_115_code 64 = .ok (.getfield 7, 3) := by decide +kernel
theorem d_Mod_ahead_67 : decode prog_17_method_115_code 67 = .ok (.iconst 0, 1) := by decide +kernel
theorem d_Mod_ahead_68 : decode prog_17_method_115_code 68 = .ok (.aload_n 0, 1) := by decide +kernel
theorem d_Mod_ahead_69 : decode prog_17_method_115_code 69 = .ok (.getfield 16, 3) := by decide +kernel
theorem d_Mod_ahead_72 : decode prog_17_method_115_code 72 = .ok (.iconst 0, 1) := by decide +kernel
theorem d_Mod_ahead_73 : decode prog_17_method_115_code 73 = .ok (.invokestatic 191, 3) := by decide +kernel
theorem d_Mod_ahead_76 : decode prog_17_method_115_code 76 = .ok (.aload_n 0, 1) := by decide +kernel
theorem d_Mod_ahead_77 : decode prog_17_method_115_code 77 = .ok (.getfield 7, 3) := by decide +kernel
theorem d_Mod_ahead_80 : decode prog_17_method_115_code 80 = .ok (.iload_n 3, 1) := by decide +kernel
theorem d_Mod_ahead_81 : decode prog_17_method_115_code 81 = .ok (.iaload, 1) := by decide +kernel
theorem d_Mod_ahead_82 : decode prog_17_method_115_code 82 = .ok (.istore 4, 2) := by decide +kernel
theorem d_Mod_ahead_84 : decode prog_17_method_115_code 84 = .ok (.aload_n 0, 1) := by decide +kernel
theorem d_Mod_ahead_85 : decode prog_17_method_115_code 85 = .ok (.iload_n 1, 1) := by decide +kernel
theorem d_Mod_ahead_86 : decode prog_17_method_115_code 86 = .ok (.invokevirtual 386, 3) := by decide +kernel
theorem d_Mod_ahead_89 : decode prog_17_method_115_code 89 = .ok (.aload_n 0, 1) := by decide +kernel
theorem d_Mod_ahead_90 : decode prog_17_method_115_code 90 = .ok (.getfield 7, 3) := by decide +kernel
theorem d_Mod_ahead_93 : decode prog_17_method_115_code 93 = .ok (.iload_n 3, 1) := by decide +kernel
theorem d_Mod_ahead_94 : decode prog_17_method_115_code 94 = .ok (.iaload, 1) := by decide +kernel
theorem d_Mod_ahead_95 : decode prog_17_method_115_code 95 = .ok (.iload 4, 2) := by decide +kernel
theorem d_Mod_ahead_97 : decode prog_17_method_115_code 97 = .ok (.isub, 1) := by decide +kernel
theorem d_Mod_ahead_98 : decode prog_17_method_115_code 98 = .ok (.istore 5, 2) := by decide +kernel
theorem d_Mod_ahead_100 : decode prog_17_method_115_code 100 = .ok (.aload_n 0, 1) := by decide +kernel
theorem d_Mod_ahead_101 : decode prog_17_method_115_code 101 = .ok (.getfield 16, 3) := by decide +kernel
theorem d_Mod_ahead_104 : decode prog_17_method_115_code 104 = .ok (.iconst 0, 1) := by decide +kernel
theorem d_Mod_ahead_105 : decode prog_17_method_115_code 105 = .ok (.aload_n 0, 1) := by decide +kernel
theorem d_Mod_ahead_106 : decode prog_17_method_115_code 106 = .ok (.getfield 7, 3) := by decide +kernel
theorem d_Mod_ahead_109 : decode prog_17_method_115_code 109 = .ok (.iconst 0, 1) := by decide +kernel
theorem d_Mod_ahead_110 : decode prog_17_method_115_code 110 = .ok (.invokestatic 191, 3) := by decide +kernel
theorem d_Mod_ahead_113 : decode prog_17_method_115_code 113 = .ok (.iload 5, 2) := by decide +kernel
theorem d_Mod_ahead_115 : decode prog_17_method_115_code 115 = .ok (.ireturn, 1) := by decide +kernel
def Mod_ahead_25 (M : g_MD) : Option (Int32 × g_MD) :=
  g_bM (Mod_fail M (1 : Int32)) fun x6 M7 => some (x6, M7)
set_option maxHeartbeats 4000000 in
set_option maxRecDepth 100000 in
theorem W_Mod_ahead_25 {X : g_X} {h0 : g_AH} {a0 : Nat} {ad : Nat → Nat} (ok : mOK a0 ad) (z : Int32 × g_MD) (M : g_MD) (hy : Mod_ahead_25  M = some z) : G X k_Mod_ahead (.inl (some (.int z.1))) (mH h0 a0 ad z.2) (mH h0 a0 ad M) 25 [(0, .ref a0)] [] := by
  unfold Mod_ahead_25 at hy
  refine g_aload_n 0 (i := 0) (pc' := 26) d_Mod_ahead_25 rfl rfl rfl ?_
  refine g_iconst (v := (1 : Int32)) (pc' := 27) d_Mod_ahead_26 (by decide) rfl ?_
  replace hy := g_bM_inv hy
  obtain ⟨x6, M7, hf8, hy⟩ := hy
  refine g_callV (rv := some (.int x6)) (h1 := (mH h0 a0 ad M7)) (pc' := 30) (As := [.int (1 : Int32)]) (rest := []) 1 (T_Mod_fail ok (hy := hf8)) d_Mod_ahead_27 (mH_look ok) rfl rfl q2061 q2063 qs31 q135 q2064 hd_Mod_fail rfl ⟨by decide, by decide⟩ (by first | exact Nat.le_of_ble_eq_true rfl | (simp only [List.map, List.sum_cons, List.sum_nil, g_cat_rf]; exact Nat.le_of_ble_eq_true rfl) | (simp only [List.map, List.sum_cons, List.sum_nil, g_cat_rf, Value.category]; decide)) rfl ?_
  cases hy
  exact g_iret rfl rfl rfl d_Mod_ahead_30
def Mod_ahead_62 (M : g_MD) (v1 : Int32) (s0 : Int32) : Option (Int32 × g_MD) :=
  g_b (Mod_copy M 0 (0 : Int32) 2 (0 : Int32)) fun M17 => g_mA M17 0 0 s0 fun x19 => g_b (Mod_passTicks M17 v1) fun M22 => g_mA M22 0 0 s0 fun x24 => g_b (Mod_copy M22 2 (0 : Int32) 0 (0 : Int32)) fun M27 => some ((x24 - x19), M27)
set_option maxHeartbeats 4000000 in
set_option maxRecDepth 100000 in
theorem W_Mod_ahead_62 {X : g_X} {h0 : g_AH} {a0 : Nat} {ad : Nat → Nat} (ok : mOK a0 ad) (z : Int32 × g_MD) (M : g_MD) (v1 : Int32) (s0 : Int32) (hy : Mod_ahead_62  M v1 s0 = some z) : G X k_Mod_ahead (.inl (some (.int z.1))) (mH h0 a0 ad z.2) (mH h0 a0 ad M) 62 [(0, .ref a0), (1, .int v1)] [.int s0] := by
  unfold Mod_ahead_62 at hy
  refine g_istore_n (i := 3) (pc' := 63) (Lc' := [(3, .int s0), (0, .ref a0), (1, .int v1)]) d_Mod_ahead_62 rfl (by decide) rfl rfl ?_
  refine g_aload_n 1 (i := 0) (pc' := 64) d_Mod_ahead_63 rfl rfl rfl ?_
  refine gm_getA ok 0 (pc' := 67) d_Mod_ahead_64 rfl q1965 rfl rfl ?_
  refine g_iconst (v := (0 : Int32)) (pc' := 68) d_Mod_ahead_67 (by decide) rfl ?_
  refine g_aload_n 1 (i := 0) (pc' := 69) d_Mod_ahead_68 rfl rfl rfl ?_
  refine gm_getA ok 2 (pc' := 72) d_Mod_ahead_69 rfl q1967 rfl rfl ?_
  refine g_iconst (v := (0 : Int32)) (pc' := 73) d_Mod_ahead_72 (by decide) rfl ?_
  replace hy := g_b_inv hy
  obtain ⟨M17, hf18, hy⟩ := hy
  refine g_callS (rv := none) (h1 := (mH h0 a0 ad M17)) (pc' := 76) (As := [.ref (ad 0), .int (0 : Int32), .ref (ad 2), .int (0 : Int32)]) (rest := []) 4 (T_Mod_copy ok (hy := hf18)) d_Mod_ahead_73 q2076 q2077 q135 q2078 hd_Mod_copy rfl ⟨by decide, by decide⟩ (by first | exact Nat.le_of_ble_eq_true rfl | (simp only [List.map, List.sum_cons, List.sum_nil, g_cat_rf]; exact Nat.le_of_ble_eq_true rfl) | (simp only [List.map, List.sum_cons, List.sum_nil, g_cat_rf, Value.category]; decide)) rfl ?_
  refine g_aload_n 1 (i := 0) (pc' := 77) d_Mod_ahead_76 rfl rfl rfl ?_
  refine gm_getA ok 0 (pc' := 80) d_Mod_ahead_77 rfl q1965 rfl rfl ?_
  refine g_iload_n 0 (i := 3) (pc' := 81) d_Mod_ahead_80 rfl rfl rfl ?_
  replace hy := g_mA_inv hy
  obtain ⟨x19, hc20, hy⟩ := hy
  refine gm_ald0 ok (pc' := 82) d_Mod_ahead_81 hc20 rfl ?_
  refine g_istore (pc' := 84) (Lc' := [(4, .int x19), (3, .int s0), (0, .ref a0), (1, .int v1)]) d_Mod_ahead_82 (by decide) rfl rfl ?_
  refine g_aload_n 2 (i := 0) (pc' := 85) d_Mod_ahead_84 rfl rfl rfl ?_
  refine g_iload_n 3 (i := 1) (pc' := 86) d_Mod_ahead_85 rfl rfl rfl ?_
  replace hy := g_b_inv hy
  obtain ⟨M22, hf23, hy⟩ := hy
  refine g_callV (rv := none) (h1 := (mH h0 a0 ad M22)) (pc' := 89) (As := [.int v1]) (rest := []) 1 (T_Mod_passTicks ok (hy := hf23)) d_Mod_ahead_86 (mH_look ok) rfl rfl q2429 q2431 qs91 q135 q2432 hd_Mod_passTicks rfl ⟨by decide, by decide⟩ (by first | exact Nat.le_of_ble_eq_true rfl | (simp only [List.map, List.sum_cons, List.sum_nil, g_cat_rf]; exact Nat.le_of_ble_eq_true rfl) | (simp only [List.map, List.sum_cons, List.sum_nil, g_cat_rf, Value.category]; decide)) rfl ?_
  refine g_aload_n 2 (i := 0) (pc' := 90) d_Mod_ahead_89 rfl rfl rfl ?_
  refine gm_getA ok 0 (pc' := 93) d_Mod_ahead_90 rfl q1965 rfl rfl ?_
  refine g_iload_n 1 (i := 3) (pc' := 94) d_Mod_ahead_93 rfl rfl rfl ?_
  replace hy := g_mA_inv hy
  obtain ⟨x24, hc25, hy⟩ := hy
  refine gm_ald0 ok (pc' := 95) d_Mod_ahead_94 hc25 rfl ?_
  refine g_iload 0 (pc' := 97) d_Mod_ahead_95 rfl rfl ?_
  refine g_isub (pc' := 98) d_Mod_ahead_97 rfl ?_
  refine g_istore (pc' := 100) (Lc' := [(5, .int (x24 - x19)), (4, .int x19), (3, .int s0), (0, .ref a0), (1, .int v1)]) d_Mod_ahead_98 (by decide) rfl rfl ?_
  refine g_aload_n 3 (i := 0) (pc' := 101) d_Mod_ahead_100 rfl rfl rfl ?_
  refine gm_getA ok 2 (pc' := 104) d_Mod_ahead_101 rfl q1967 rfl rfl ?_
  refine g_iconst (v := (0 : Int32)) (pc' := 105) d_Mod_ahead_104 (by decide) rfl ?_
  refine g_aload_n 3 (i := 0) (pc' := 106) d_Mod_ahead_105 rfl rfl rfl ?_
  refine gm_getA ok 0 (pc' := 109) d_Mod_ahead_106 rfl q1965 rfl rfl ?_
  refine g_iconst (v := (0 : Int32)) (pc' := 110) d_Mod_ahead_109 (by decide) rfl ?_
  replace hy := g_b_inv hy
  obtain ⟨M27, hf28, hy⟩ := hy
  refine g_callS (rv := none) (h1 := (mH h0 a0 ad M27)) (pc' := 113) (As := [.ref (ad 2), .int (0 : Int32), .ref (ad 0), .int (0 : Int32)]) (rest := []) 4 (T_Mod_copy ok (hy := hf28)) d_Mod_ahead_110 q2076 q2077 q135 q2078 hd_Mod_copy rfl ⟨by decide, by decide⟩ (by first | exact Nat.le_of_ble_eq_true rfl | (simp only [List.map, List.sum_cons, List.sum_nil, g_cat_rf]; exact Nat.le_of_ble_eq_true rfl) | (simp only [List.map, List.sum_cons, List.sum_nil, g_cat_rf, Value.category]; decide)) rfl ?_
  refine g_iload 0 (pc' := 115) d_Mod_ahead_113 rfl rfl ?_
  cases hy
  exact g_iret rfl rfl rfl d_Mod_ahead_115
def Mod_ahead (M : g_MD) (p0 : Int32) (p1 : Int32) : Option (Int32 × g_MD) :=
  g_let (mp M 7 (0 : Int32)) fun M1 => g_b (Mod_isBetween p0 (1 : Int32) (200 : Int32)) fun x2 => if x2 = 0 then (Mod_ahead_25  M1) else (g_b (Mod_isBetween p1 (0 : Int32) (3 : Int32)) fun x9 => if x9 = 0 then (Mod_ahead_25  M1) else (if p1 = 0 then (Mod_ahead_62  M1 p0 (8 : Int32)) else (if p1 = (1 : Int32) then (Mod_ahead_62  M1 p0 (9 : Int32)) else (if p1 = (2 : Int32) then (Mod_ahead_62  M1 p0 (11 : Int32)) else (Mod_ahead_62  M1 p0 (10 : Int32))))))
set_option maxHeartbeats 4000000 in
set_option maxRecDepth 100000 in
theorem T_Mod_ahead {l : Launch} {B : g_B} {h0 : g_AH} {a0 : Nat} {ad : Nat → Nat} (ok : mOK a0 ad) (M : g_MD) (p0 : Int32) (p1 : Int32) (z : Int32 × g_MD) (hy : Mod_ahead M p0 p1 = some z) : g_CT l B y_Mod_ahead k_Mod_ahead [.ref a0, .int p0, .int p1] (mH h0 a0 ad M) (.inl (some (.int z.1))) (mH h0 a0 ad z.2) := by
  refine g_start2 (Lc := [(0, .ref a0), (1, .int p0), (2, .int p1)]) (by decide) rfl rfl (by exact Nat.le_of_ble_eq_true rfl) (by rfl) fun X => ?_
  unfold Mod_ahead at hy
  refine g_aload_n 0 (i := 0) (pc' := 1) d_Mod_ahead_0 rfl rfl rfl ?_
  refine g_iconst (v := (0 : Int32)) (pc' := 2) d_Mod_ahead_1 (by decide) rfl ?_
  replace hy := g_let_inv hy
  refine gm_put ok 7 (pc' := 5) d_Mod_ahead_2 rfl (by decide) q1972 rfl ?_
  generalize (mp M 7 (0 : Int32)) = M1 at hy ⊢
  refine g_iload_n 1 (i := 1) (pc' := 6) d_Mod_ahead_5 rfl rfl rfl ?_
  refine g_iconst (v := (1 : Int32)) (pc' := 7) d_Mod_ahead_6 (by decide) rfl ?_
  refine g_sipush (v := (200 : Int32)) (pc' := 10) d_Mod_ahead_7 (by decide) rfl ?_
  replace hy := g_b_inv hy
  obtain ⟨x2, hf4, hy⟩ := hy
  refine g_callS (rv := some (.int x2)) (h1 := (mH h0 a0 ad M1)) (pc' := 13) (As := [.int p0, .int (1 : Int32), .int (200 : Int32)]) (rest := []) 3 (T_Mod_isBetween (hy := hf4)) d_Mod_ahead_10 q2069 q2070 q135 q2071 hd_Mod_isBetween rfl ⟨by decide, by decide⟩ (by first | exact Nat.le_of_ble_eq_true rfl | (simp only [List.map, List.sum_cons, List.sum_nil, g_cat_rf]; exact Nat.le_of_ble_eq_true rfl) | (simp only [List.map, List.sum_cons, List.sum_nil, g_cat_rf, Value.category]; decide)) rfl ?_
  by_cases c5 : x2 = 0
  · rw [if_pos c5] at hy
    refine g_if_eqT (pc' := 25) d_Mod_ahead_13 c5 (by decide) ?_
    refine g_sub [0] rfl ?_
    exact W_Mod_ahead_25 ok _ _ hy
  · rw [if_neg c5] at hy
    refine g_if_eqF (pc' := 16) d_Mod_ahead_13 25 c5 (by decide) rfl ?_
    refine g_iload_n 2 (i := 2) (pc' := 17) d_Mod_ahead_16 rfl rfl rfl ?_
    refine g_iconst (v := (0 : Int32)) (pc' := 18) d_Mod_ahead_17 (by decide) rfl ?_
    refine g_iconst (v := (3 : Int32)) (pc' := 19) d_Mod_ahead_18 (by decide) rfl ?_
    replace hy := g_b_inv hy
    obtain ⟨x9, hf11, hy⟩ := hy
    refine g_callS (rv := some (.int x9)) (h1 := (mH h0 a0 ad M1)) (pc' := 22) (As := [.int p1, .int (0 : Int32), .int (3 : Int32)]) (rest := []) 3 (T_Mod_isBetween (hy := hf11)) d_Mod_ahead_19 q2069 q2070 q135 q2071 hd_Mod_isBetween rfl ⟨by decide, by decide⟩ (by first | exact Nat.le_of_ble_eq_true rfl | (simp only [List.map, List.sum_cons, List.sum_nil, g_cat_rf]; exact Nat.le_of_ble_eq_true rfl) | (simp only [List.map, List.sum_cons, List.sum_nil, g_cat_rf, Value.category]; decide)) rfl ?_
    by_cases c12 : x9 = 0
    · rw [if_pos c12] at hy
      refine g_if_neF (pc' := 25) d_Mod_ahead_22 31 c12 (by decide) rfl ?_
      refine g_sub [0] rfl ?_
      exact W_Mod_ahead_25 ok _ _ hy
    · rw [if_neg c12] at hy
      refine g_if_neT (pc' := 31) d_Mod_ahead_22 c12 (by decide) ?_
      refine g_iload_n 2 (i := 2) (pc' := 32) d_Mod_ahead_31 rfl rfl rfl ?_
      by_cases c13 : p1 = 0
      · rw [if_pos c13] at hy
        refine g_if_neF (pc' := 35) d_Mod_ahead_32 40 c13 (by decide) rfl ?_
        refine g_bipush (v := (8 : Int32)) (pc' := 37) d_Mod_ahead_35 (by decide) rfl ?_
        refine g_goto (pc' := 62) d_Mod_ahead_37 (by decide) ?_
        refine g_sub [0, 1] rfl ?_
        exact W_Mod_ahead_62 ok _ _ _ _ hy
      · rw [if_neg c13] at hy
        refine g_if_neT (pc' := 40) d_Mod_ahead_32 c13 (by decide) ?_
        refine g_iload_n 2 (i := 2) (pc' := 41) d_Mod_ahead_40 rfl rfl rfl ?_
        refine g_iconst (v := (1 : Int32)) (pc' := 42) d_Mod_ahead_41 (by decide) rfl ?_
        by_cases c14 : p1 = (1 : Int32)
        · rw [if_pos c14] at hy
          refine g_icmp_neF (pc' := 45) d_Mod_ahead_42 50 c14 (by decide) rfl ?_
          refine g_bipush (v := (9 : Int32)) (pc' := 47) d_Mod_ahead_45 (by decide) rfl ?_
          refine g_goto (pc' := 62) d_Mod_ahead_47 (by decide) ?_
          refine g_sub [0, 1] rfl ?_
          exact W_Mod_ahead_62 ok _ _ _ _ hy
        · rw [if_neg c14] at hy
          refine g_icmp_neT (pc' := 50) d_Mod_ahead_42 c14 (by decide) ?_
          refine g_iload_n 2 (i := 2) (pc' := 51) d_Mod_ahead_50 rfl rfl rfl ?_
          refine g_iconst (v := (2 : Int32)) (pc' := 52) d_Mod_ahead_51 (by decide) rfl ?_
          by_cases c15 : p1 = (2 : Int32)
          · rw [if_pos c15] at hy
            refine g_icmp_neF (pc' := 55) d_Mod_ahead_52 60 c15 (by decide) rfl ?_
            refine g_bipush (v := (11 : Int32)) (pc' := 57) d_Mod_ahead_55 (by decide) rfl ?_
            refine g_goto (pc' := 62) d_Mod_ahead_57 (by decide) ?_
            refine g_sub [0, 1] rfl ?_
            exact W_Mod_ahead_62 ok _ _ _ _ hy
          · rw [if_neg c15] at hy
            refine g_icmp_neT (pc' := 60) d_Mod_ahead_52 c15 (by decide) ?_
            refine g_bipush (v := (10 : Int32)) (pc' := 62) d_Mod_ahead_60 (by decide) rfl ?_
            refine g_sub [0, 1] rfl ?_
            exact W_Mod_ahead_62 ok _ _ _ _ hy
theorem hd_Mod_ahead : g_dsc y_Mod_ahead 2 := ⟨by decide +kernel, by decide +kernel, by decide +kernel⟩
/-! CircuitDeskModel.cutOff(I)I -/
abbrev y_Mod_cutOff : MethodName := ⟨"CircuitDeskModel", "cutOff", "(I)I"⟩
abbrev k_Mod_cutOff : g_M := (prog_17_method_116_code, 5, "CircuitDeskModel", 18, (some FieldType.int), "cutOff", [], 0)
theorem d_Mod_cutOff_0 : decode prog_17_method_116_code 0 = .ok (.iconst 0, 1) := by decide +kernel
theorem d_Mod_cutOff_1 : decode prog_17_method_116_code 1 = .ok (.istore_n 2, 1) := by decide +kernel
theorem d_Mod_cutOff_2 : decode prog_17_method_116_code 2 = .ok (.iconst 0, 1) := by decide +kernel
theorem d_Mod_cutOff_3 : decode prog_17_method_116_code 3 = .ok (.istore_n 3, 1) := by decide +kernel
theorem d_Mod_cutOff_4 : decode prog_17_method_116_code 4 = .ok (.iload_n 3, 1) := by decide +kernel
theorem d_Mod_cutOff_5 : decode prog_17_method_116_code 5 = .ok (.aload_n 0, 1) := by decide +kernel
theorem d_Mod_cutOff_6 : decode prog_17_method_116_code 6 = .ok (.getfield 7, 3) := by decide +kernel
theorem d_Mod_cutOff_9 : decode prog_17_method_116_code 9 = .ok (.iconst 4, 1) := by decide +kernel
theorem d_Mod_cutOff_10 : decode prog_17_method_116_code 10 = .ok (.iaload, 1) := by decide +kernel
theorem d_Mod_cutOff_11 : decode prog_17_method_116_code 11 = .ok (.if_icmp .ge 67, 3) := by decide +kernel
theorem d_Mod_cutOff_14 : decode prog_17_method_116_code 14 = .ok (.aload_n 0, 1) := by decide +kernel
theorem d_Mod_cutOff_15 : decode prog_17_method_116_code 15 = .ok (.aload_n 0, 1) := by decide +kernel
theorem d_Mod_cutOff_16 : decode prog_17_method_116_code 16 = .ok (.iload_n 3, 1) := by decide +kernel
theorem d_Mod_cutOff_17 : decode prog_17_method_116_code 17 = .ok (.invokevirtual 368, 3) := by decide +kernel
theorem d_Mod_cutOff_20 : decode prog_17_method_116_code 20 = .ok (.iload_n 1, 1) := by decide +kernel
theorem d_Mod_cutOff_21 : decode prog_17_method_116_code 21 = .ok (.invokevirtual 207, 3) := by decide +kernel
theorem d_Mod_cutOff_24 : decode prog_17_method_116_code 24 = .ok (.ifCond .eq 32, 3) := by decide +kernel
theorem d_Mod_cutOff_27 : decode prog_17_method_116_code 27 = .ok (.aload_n 0, 1) := by decide +kernel
theorem d_Mod_cutOff_28 : decode prog_17_method_116_code 28 = .ok (.aload_n 0, 1) := by decide +kernel
theorem d_Mod_cutOff_29 : decode prog_17_method_116_code 29 = .ok (.iload_n 3, 1) := by decide +kernel
theorem d_Mod_cutOff_30 : decode prog_17_method_116_code 30 = .ok (.invokevirtual 315, 3) := by decide +kernel
theorem d_Mod_cutOff_33 : decode prog_17_method_116_code 33 = .ok (.aload_n 0, 1) := by decide +kernel
theorem d_Mod_cutOff_34 : decode prog_17_method_116_code 34 = .ok (.iload_n 3, 1) := by decide +kernel
theorem d_Mod_cutOff_35 : decode prog_17_method_116_code 35 = .ok (.invokevirtual 318, 3) := by decide +kernel
theorem d_Mod_cutOff_38 : decode prog_17_method_116_code 38 = .ok (.iload_n 3, 1) := by decide +kernel
theorem d_Mod_cutOff_39 : decode prog_17_method_116_code 39 = .ok (.aload_n 0, 1) := by decide +kernel
theorem d_Mod_cutOff_40 : decode prog_17_method_116_code 40 = .ok (.iload_n 3, 1) := by decide +kernel
theorem d_Mod_cutOff_41 : decode prog_17_method_116_code 41 = .ok (.iconst 0, 1) := by decide +kernel
theorem d_Mod_cutOff_42 : decode prog_17_method_116_code 42 = .ok (.invokevirtual 150, 3) := by decide +kernel
theorem d_Mod_cutOff_45 : decode prog_17_method_116_code 45 = .ok (.iload_n 1, 1) := by decide +kernel
theorem d_Mod_cutOff_46 : decode prog_17_method_116_code 46 = .ok (.invokevirtual 289, 3) := by decide +kernel
theorem d_Mod_cutOff_49 : decode prog_17_method_116_code 49 = .ok (.ifCond .ne 7, 3) := by decide +kernel
theorem d_Mod_cutOff_52 : decode prog_17_method_116_code 52 = .ok (.iconst 1, 1) := by decide +kernel
theorem d_Mod_cutOff_53 : decode prog_17_method_116_code 53 = .ok (.goto 4, 3) := by decide +kernel
theorem d_Mod_cutOff_56 : decode prog_17_method_116_code 56 = .ok (.iconst 0, 1) := by decide +kernel
theorem d_Mod_cutOff_57 : decode prog_17_method_116_code 57 = .ok (.istore 4, 2) := by decide +kernel
theorem d_Mod_cutOff_59 : decode prog_17_method_116_code 59 = .ok (.iload_n 2, 1) := by decide +kernel
theorem d_Mod_cutOff_60 : decode prog_17_method_116_code 60 = .ok (.iload 4, 2) := by decide +kernel
theorem d_Mod_cutOff_62 : decode prog_17_method_116_code 62 = .ok (.ifCond .eq 7, 3) := by decide +kernel
theorem d_Mod_cutOff_65 : decode prog_17_method_116_code 65 = .ok (.iconst 1, 1) := by decide +kernel
theorem d_Mod_cutOff_66 : decode prog_17_method_116_code 66 = .ok (.goto 4, 3) := by decide +kernel
theorem d_Mod_cutOff_69 : decode prog_17_method_116_code 69 = .ok (.iconst 0, 1) := by decide +kernel
theorem d_Mod_cutOff_70 : decode prog_17_method_116_code 70 = .ok (.iadd, 1) := by decide +kernel
theorem d_Mod_cutOff_71 : decode prog_17_method_116_code 71 = .ok (.istore_n 2, 1) := by decide +kernel
theorem d_Mod_cutOff_72 : decode prog_17_method_116_code 72 = .ok (.iinc 3 1, 3) := by decide +kernel
theorem d_Mod_cutOff_75 : decode prog_17_method_116_code 75 = .ok (.goto (-71), 3) := by decide +kernel
theorem d_Mod_cutOff_78 : decode prog_17_method_116_code 78 = .ok (.iload_n 2, 1) := by decide +kernel
theorem d_Mod_cutOff_79 : decode prog_17_method_116_code 79 = .ok (.ireturn, 1) := by decide +kernel
def Mod_cutOff_70 (k4 : g_MD → Int32 → Int32 → Int32 → Option (Int32 × g_MD)) (M : g_MD) (v1 : Int32) (v3 : Int32) (s0 : Int32) (s1 : Int32) : Option (Int32 × g_MD) :=
  k4 M v1 (s1 + s0) (v3 + (1 : Int32))
set_option maxHeartbeats 4000000 in
set_option maxRecDepth 100000 in
theorem W_Mod_cutOff_70 {X : g_X} {h0 : g_AH} {a0 : Nat} {ad : Nat → Nat} (ok : mOK a0 ad) (z : Int32 × g_MD) (k4 : g_MD → Int32 → Int32 → Int32 → Option (Int32 × g_MD)) (hk4 : ∀ (M : g_MD) (v1 : Int32) (v2 : Int32) (v3 : Int32), k4 M v1 v2 v3 = some z → G X k_Mod_cutOff (.inl (some (.int z.1))) (mH h0 a0 ad z.2) (mH h0 a0 ad M) 4 [(0, .ref a0), (1, .int v1), (2, .int v2), (3, .int v3)] []) (M : g_MD) (v1 : Int32) (v3 : Int32) (s0 : Int32) (s1 : Int32) (hy : Mod_cutOff_70 k4 M v1 v3 s0 s1 = some z) : G X k_Mod_cutOff (.inl (some (.int z.1))) (mH h0 a0 ad z.2) (mH h0 a0 ad M) 70 [(0, .ref a0), (1, .int v1), (3, .int v3)] [.int s0, .int s1] := by
  unfold Mod_cutOff_70 at hy
  refine g_iadd (pc' := 71) d_Mod_cutOff_70 rfl ?_
  refine g_istore_n (i := 2) (pc' := 72) (Lc' := [(2, .int (s1 + s0)), (0, .ref a0), (1, .int v1), (3, .int v3)]) d_Mod_cutOff_71 rfl (by decide) rfl rfl ?_
  refine g_iinc 3 (v := (v3 + (1 : Int32))) (pc' := 75) (Lc' := [(3, .int (v3 + (1 : Int32))), (2, .int (s1 + s0)), (0, .ref a0), (1, .int v1)]) d_Mod_cutOff_72 rfl rfl (by decide) rfl rfl ?_
  refine g_goto (pc' := 4) d_Mod_cutOff_75 (by decide) ?_
  refine g_sub [2, 3, 1, 0] rfl ?_
  exact hk4 _ _ _ _ hy
def Mod_cutOff_57 (k4 : g_MD → Int32 → Int32 → Int32 → Option (Int32 × g_MD)) (M : g_MD) (v1 : Int32) (v2 : Int32) (v3 : Int32) (s0 : Int32) : Option (Int32 × g_MD) :=
  if s0 = 0 then (Mod_cutOff_70 k4 M v1 v3 (0 : Int32) v2) else (Mod_cutOff_70 k4 M v1 v3 (1 : Int32) v2)
set_option maxHeartbeats 4000000 in
set_option maxRecDepth 100000 in
theorem W_Mod_cutOff_57 {X : g_X} {h0 : g_AH} {a0 : Nat} {ad : Nat → Nat} (ok : mOK a0 ad) (z : Int32 × g_MD) (k4 : g_MD → Int32 → Int32 → Int32 → Option (Int32 × g_MD)) (hk4 : ∀ (M : g_MD) (v1 : Int32) (v2 : Int32) (v3 : Int32), k4 M v1 v2 v3 = some z → G X k_Mod_cutOff (.inl (some (.int z.1))) (mH h0 a0 ad z.2) (mH h0 a0 ad M) 4 [(0, .ref a0), (1, .int v1), (2, .int v2), (3, .int v3)] []) (M : g_MD) (v1 : Int32) (v2 : Int32) (v3 : Int32) (s0 : Int32) (hy : Mod_cutOff_57 k4 M v1 v2 v3 s0 = some z) : G X k_Mod_cutOff (.inl (some (.int z.1))) (mH h0 a0 ad z.2) (mH h0 a0 ad M) 57 [(0, .ref a0), (1, .int v1), (2, .int v2), (3, .int v3)] [.int s0] := by
  unfold Mod_cutOff_57 at hy
  refine g_istore (pc' := 59) (Lc' := [(4, .int s0), (0, .ref a0), (1, .int v1), (2, .int v2), (3, .int v3)]) d_Mod_cutOff_57 (by decide) rfl rfl ?_
  refine g_iload_n 3 (i := 2) (pc' := 60) d_Mod_cutOff_59 rfl rfl rfl ?_
  refine g_iload 0 (pc' := 62) d_Mod_cutOff_60 rfl rfl ?_
  by_cases c11 : s0 = 0
  · rw [if_pos c11] at hy
    refine g_if_eqT (pc' := 69) d_Mod_cutOff_62 c11 (by decide) ?_
    refine g_iconst (v := (0 : Int32)) (pc' := 70) d_Mod_cutOff_69 (by decide) rfl ?_
    refine g_sub [1, 2, 4] rfl ?_
    exact W_Mod_cutOff_70 ok _ _ hk4 _ _ _ _ _ hy
  · rw [if_neg c11] at hy
    refine g_if_eqF (pc' := 65) d_Mod_cutOff_62 69 c11 (by decide) rfl ?_
    refine g_iconst (v := (1 : Int32)) (pc' := 66) d_Mod_cutOff_65 (by decide) rfl ?_
    refine g_goto (pc' := 70) d_Mod_cutOff_66 (by decide) ?_
    refine g_sub [1, 2, 4] rfl ?_
    exact W_Mod_cutOff_70 ok _ _ hk4 _ _ _ _ _ hy
def Mod_cutOff_56 (k4 : g_MD → Int32 → Int32 → Int32 → Option (Int32 × g_MD)) (M : g_MD) (v1 : Int32) (v2 : Int32) (v3 : Int32) : Option (Int32 × g_MD) :=
  Mod_cutOff_57 k4 M v1 v2 v3 (0 : Int32)
set_option maxHeartbeats 4000000 in
set_option maxRecDepth 100000 in
theorem W_Mod_cutOff_56 {X : g_X} {h0 : g_AH} {a0 : Nat} {ad : Nat → Nat} (ok : mOK a0 ad) (z : Int32 × g_MD) (k4 : g_MD → Int32 → Int32 → Int32 → Option (Int32 × g_MD)) (hk4 : ∀ (M : g_MD) (v1 : Int32) (v2 : Int32) (v3 : Int32), k4 M v1 v2 v3 = some z → G X k_Mod_cutOff (.inl (some (.int z.1))) (mH h0 a0 ad z.2) (mH h0 a0 ad M) 4 [(0, .ref a0), (1, .int v1), (2, .int v2), (3, .int v3)] []) (M : g_MD) (v1 : Int32) (v2 : Int32) (v3 : Int32) (hy : Mod_cutOff_56 k4 M v1 v2 v3 = some z) : G X k_Mod_cutOff (.inl (some (.int z.1))) (mH h0 a0 ad z.2) (mH h0 a0 ad M) 56 [(0, .ref a0), (1, .int v1), (2, .int v2), (3, .int v3)] [] := by
  unfold Mod_cutOff_56 at hy
  refine g_iconst (v := (0 : Int32)) (pc' := 57) d_Mod_cutOff_56 (by decide) rfl ?_
  exact W_Mod_cutOff_57 ok _ _ hk4 _ _ _ _ _ hy
def Mod_cutOff_4  : Nat → g_MD → Int32 → Int32 → Int32 → Option (Int32 × g_MD)
  | 0, _, _, _, _ => none
  | n + 1, M, v1, v2, v3 => g_mA M 0 0 (4 : Int32) fun x1 => if x1 ≤ v3 then (some (v2, M)) else (g_b (Mod_activePlace M v3) fun x4 => g_b (Mod_usesLink M x4 v1) fun x7 => if x7 = 0 then (Mod_cutOff_56 (Mod_cutOff_4  n) M v1 v2 v3) else (g_b (Mod_firstOf M v3) fun x12 => g_b (Mod_lastOf M v3) fun x15 => g_b (Mod_of M v3 (0 : Int32)) fun x18 => g_bM (Mod_layBest M x12 x15 v3 x18 v1) fun x21 M22 => if x21 = 0 then (Mod_cutOff_57 (Mod_cutOff_4  n) M22 v1 v2 v3 (1 : Int32)) else (Mod_cutOff_56 (Mod_cutOff_4  n) M22 v1 v2 v3)))
set_option maxHeartbeats 4000000 in
set_option maxRecDepth 100000 in
theorem W_Mod_cutOff_4 {X : g_X} {h0 : g_AH} {a0 : Nat} {ad : Nat → Nat} (ok : mOK a0 ad) (z : Int32 × g_MD)  : ∀ (n : Nat) (M : g_MD) (v1 : Int32) (v2 : Int32) (v3 : Int32), Mod_cutOff_4  n M v1 v2 v3 = some z → G X k_Mod_cutOff (.inl (some (.int z.1))) (mH h0 a0 ad z.2) (mH h0 a0 ad M) 4 [(0, .ref a0), (1, .int v1), (2, .int v2), (3, .int v3)] [] := by
  intro n
  induction n with
  | zero => intro M v1 v2 v3 hy; exact absurd hy (by simp [Mod_cutOff_4])
  | succ n ih =>
    intro M v1 v2 v3 hy
    rw [Mod_cutOff_4] at hy
    refine g_iload_n 3 (i := 3) (pc' := 5) d_Mod_cutOff_4 rfl rfl rfl ?_
    refine g_aload_n 0 (i := 0) (pc' := 6) d_Mod_cutOff_5 rfl rfl rfl ?_
    refine gm_getA ok 0 (pc' := 9) d_Mod_cutOff_6 rfl q1965 rfl rfl ?_
    refine g_iconst (v := (4 : Int32)) (pc' := 10) d_Mod_cutOff_9 (by decide) rfl ?_
    replace hy := g_mA_inv hy
    obtain ⟨x1, hc2, hy⟩ := hy
    refine gm_ald0 ok (pc' := 11) d_Mod_cutOff_10 hc2 rfl ?_
    by_cases c3 : x1 ≤ v3
    · rw [if_pos c3] at hy
      refine g_icmp_geT (pc' := 78) d_Mod_cutOff_11 c3 (by decide) ?_
      refine g_iload_n 2 (i := 2) (pc' := 79) d_Mod_cutOff_78 rfl rfl rfl ?_
      cases hy
      exact g_iret rfl rfl rfl d_Mod_cutOff_79
    · rw [if_neg c3] at hy
      refine g_icmp_geF (pc' := 14) d_Mod_cutOff_11 78 c3 (by decide) rfl ?_
      refine g_aload_n 0 (i := 0) (pc' := 15) d_Mod_cutOff_14 rfl rfl rfl ?_
      refine g_aload_n 0 (i := 0) (pc' := 16) d_Mod_cutOff_15 rfl rfl rfl ?_
      refine g_iload_n 3 (i := 3) (pc' := 17) d_Mod_cutOff_16 rfl rfl rfl ?_
      replace hy := g_b_inv hy
      obtain ⟨x4, hf6, hy⟩ := hy
      refine g_callV (rv := some (.int x4)) (h1 := (mH h0 a0 ad M)) (pc' := 20) (As := [.int v3]) (rest := [.ref a0]) 1 (T_Mod_activePlace ok (hy := hf6)) d_Mod_cutOff_17 (mH_look ok) rfl rfl q2485 q2487 qs105 q135 q2488 hd_Mod_activePlace rfl ⟨by decide, by decide⟩ (by first | exact Nat.le_of_ble_eq_true rfl | (simp only [List.map, List.sum_cons, List.sum_nil, g_cat_rf]; exact Nat.le_of_ble_eq_true rfl) | (simp only [List.map, List.sum_cons, List.sum_nil, g_cat_rf, Value.category]; decide)) rfl ?_
      refine g_iload_n 1 (i := 1) (pc' := 21) d_Mod_cutOff_20 rfl rfl rfl ?_
      replace hy := g_b_inv hy
      obtain ⟨x7, hf9, hy⟩ := hy
      refine g_callV (rv := some (.int x7)) (h1 := (mH h0 a0 ad M)) (pc' := 24) (As := [.int x4, .int v1]) (rest := []) 2 (T_Mod_usesLink ok (hy := hf9)) d_Mod_cutOff_21 (mH_look ok) rfl rfl q2198 q2200 qs55 q135 q2201 hd_Mod_usesLink rfl ⟨by decide, by decide⟩ (by first | exact Nat.le_of_ble_eq_true rfl | (simp only [List.map, List.sum_cons, List.sum_nil, g_cat_rf]; exact Nat.le_of_ble_eq_true rfl) | (simp only [List.map, List.sum_cons, List.sum_nil, g_cat_rf, Value.category]; decide)) rfl ?_
      by_cases c10 : x7 = 0
      · rw [if_pos c10] at hy
        refine g_if_eqT (pc' := 56) d_Mod_cutOff_24 c10 (by decide) ?_
        exact W_Mod_cutOff_56 ok _ _ ih _ _ _ _ hy
      · rw [if_neg c10] at hy
        refine g_if_eqF (pc' := 27) d_Mod_cutOff_24 56 c10 (by decide) rfl ?_
        refine g_aload_n 0 (i := 0) (pc' := 28) d_Mod_cutOff_27 rfl rfl rfl ?_
        refine g_aload_n 0 (i := 0) (pc' := 29) d_Mod_cutOff_28 rfl rfl rfl ?_
        refine g_iload_n 3 (i := 3) (pc' := 30) d_Mod_cutOff_29 rfl rfl rfl ?_
        replace hy := g_b_inv hy
        obtain ⟨x12, hf14, hy⟩ := hy
        refine g_callV (rv := some (.int x12)) (h1 := (mH h0 a0 ad M)) (pc' := 33) (As := [.int v3]) (rest := [.ref a0]) 1 (T_Mod_firstOf ok (hy := hf14)) d_Mod_cutOff_30 (mH_look ok) rfl rfl q2387 q2389 qs85 q135 q2390 hd_Mod_firstOf rfl ⟨by decide, by decide⟩ (by first | exact Nat.le_of_ble_eq_true rfl | (simp only [List.map, List.sum_cons, List.sum_nil, g_cat_rf]; exact Nat.le_of_ble_eq_true rfl) | (simp only [List.map, List.sum_cons, List.sum_nil, g_cat_rf, Value.category]; decide)) rfl ?_
        refine g_aload_n 0 (i := 0) (pc' := 34) d_Mod_cutOff_33 rfl rfl rfl ?_
        refine g_iload_n 3 (i := 3) (pc' := 35) d_Mod_cutOff_34 rfl rfl rfl ?_
        replace hy := g_b_inv hy
        obtain ⟨x15, hf17, hy⟩ := hy
        refine g_callV (rv := some (.int x15)) (h1 := (mH h0 a0 ad M)) (pc' := 38) (As := [.int v3]) (rest := [.int x12, .ref a0]) 1 (T_Mod_lastOf ok (hy := hf17)) d_Mod_cutOff_35 (mH_look ok) rfl rfl q2391 q2393 qs86 q135 q2394 hd_Mod_lastOf rfl ⟨by decide, by decide⟩ (by first | exact Nat.le_of_ble_eq_true rfl | (simp only [List.map, List.sum_cons, List.sum_nil, g_cat_rf]; exact Nat.le_of_ble_eq_true rfl) | (simp only [List.map, List.sum_cons, List.sum_nil, g_cat_rf, Value.category]; decide)) rfl ?_
        refine g_iload_n 3 (i := 3) (pc' := 39) d_Mod_cutOff_38 rfl rfl rfl ?_
        refine g_aload_n 0 (i := 0) (pc' := 40) d_Mod_cutOff_39 rfl rfl rfl ?_
        refine g_iload_n 3 (i := 3) (pc' := 41) d_Mod_cutOff_40 rfl rfl rfl ?_
        refine g_iconst (v := (0 : Int32)) (pc' := 42) d_Mod_cutOff_41 (by decide) rfl ?_
        replace hy := g_b_inv hy
        obtain ⟨x18, hf20, hy⟩ := hy
        refine g_callV (rv := some (.int x18)) (h1 := (mH h0 a0 ad M)) (pc' := 45) (As := [.int v3, .int (0 : Int32)]) (rest := [.int v3, .int x15, .int x12, .ref a0]) 2 (T_Mod_of ok (hy := hf20)) d_Mod_cutOff_42 (mH_look ok) rfl rfl q2186 q2188 qs52 q135 q2189 hd_Mod_of rfl ⟨by decide, by decide⟩ (by first | exact Nat.le_of_ble_eq_true rfl | (simp only [List.map, List.sum_cons, List.sum_nil, g_cat_rf]; exact Nat.le_of_ble_eq_true rfl) | (simp only [List.map, List.sum_cons, List.sum_nil, g_cat_rf, Value.category]; decide)) rfl ?_
        refine g_iload_n 1 (i := 1) (pc' := 46) d_Mod_cutOff_45 rfl rfl rfl ?_
        replace hy := g_bM_inv hy
        obtain ⟨x21, M22, hf23, hy⟩ := hy
        refine g_callV (rv := some (.int x21)) (h1 := (mH h0 a0 ad M22)) (pc' := 49) (As := [.int x12, .int x15, .int v3, .int x18, .int v1]) (rest := []) 5 (T_Mod_layBest ok (hy := hf23)) d_Mod_cutOff_46 (mH_look ok) rfl rfl q2331 q2333 qs75 q135 q2334 hd_Mod_layBest rfl ⟨by decide, by decide⟩ (by first | exact Nat.le_of_ble_eq_true rfl | (simp only [List.map, List.sum_cons, List.sum_nil, g_cat_rf]; exact Nat.le_of_ble_eq_true rfl) | (simp only [List.map, List.sum_cons, List.sum_nil, g_cat_rf, Value.category]; decide)) rfl ?_
        by_cases c24 : x21 = 0
        · rw [if_pos c24] at hy
          refine g_if_neF (pc' := 52) d_Mod_cutOff_49 56 c24 (by decide) rfl ?_
          refine g_iconst (v := (1 : Int32)) (pc' := 53) d_Mod_cutOff_52 (by decide) rfl ?_
          refine g_goto (pc' := 57) d_Mod_cutOff_53 (by decide) ?_
          exact W_Mod_cutOff_57 ok _ _ ih _ _ _ _ _ hy
        · rw [if_neg c24] at hy
          refine g_if_neT (pc' := 56) d_Mod_cutOff_49 c24 (by decide) ?_
          exact W_Mod_cutOff_56 ok _ _ ih _ _ _ _ hy
def Mod_cutOff (M : g_MD) (p0 : Int32) : Option (Int32 × g_MD) :=
  Mod_cutOff_4  gFU M p0 (0 : Int32) (0 : Int32)
set_option maxHeartbeats 4000000 in
set_option maxRecDepth 100000 in
theorem T_Mod_cutOff {l : Launch} {B : g_B} {h0 : g_AH} {a0 : Nat} {ad : Nat → Nat} (ok : mOK a0 ad) (M : g_MD) (p0 : Int32) (z : Int32 × g_MD) (hy : Mod_cutOff M p0 = some z) : g_CT l B y_Mod_cutOff k_Mod_cutOff [.ref a0, .int p0] (mH h0 a0 ad M) (.inl (some (.int z.1))) (mH h0 a0 ad z.2) := by
  refine g_start2 (Lc := [(0, .ref a0), (1, .int p0)]) (by decide) rfl rfl (by exact Nat.le_of_ble_eq_true rfl) (by rfl) fun X => ?_
  unfold Mod_cutOff at hy
  refine g_iconst (v := (0 : Int32)) (pc' := 1) d_Mod_cutOff_0 (by decide) rfl ?_
  refine g_istore_n (i := 2) (pc' := 2) (Lc' := [(2, .int (0 : Int32)), (0, .ref a0), (1, .int p0)]) d_Mod_cutOff_1 rfl (by decide) rfl rfl ?_
  refine g_iconst (v := (0 : Int32)) (pc' := 3) d_Mod_cutOff_2 (by decide) rfl ?_
  refine g_istore_n (i := 3) (pc' := 4) (Lc' := [(3, .int (0 : Int32)), (2, .int (0 : Int32)), (0, .ref a0), (1, .int p0)]) d_Mod_cutOff_3 rfl (by decide) rfl rfl ?_
  refine g_sub [2, 3, 1, 0] rfl ?_
  exact W_Mod_cutOff_4 ok _ _ _ _ _ _ hy
theorem hd_Mod_cutOff : g_dsc y_Mod_cutOff 1 := ⟨by decide +kernel, by decide +kernel, by decide +kernel⟩
/-! CircuitDeskModel.weakLink()I -/
abbrev y_Mod_weakLink : MethodName := ⟨"CircuitDeskModel", "weakLink", "()I"⟩
abbrev k_Mod_weakLink : g_M := (prog_17_method_117_code, 5, "CircuitDeskModel", 19, (some FieldType.int), "weakLink", [], 0)
theorem d_Mod_weakLink_0 : decode prog_17_method_117_code 0 = .ok (.aload_n 0, 1) := by decide +kernel
theorem d_Mod_weakLink_1 : decode prog_17_method_117_code 1 = .ok (.iconst 0, 1) := by decide +kernel
theorem d_Mod_weakLink_2 : decode prog_17_method_117_code 2 = .ok (.putfield 51, 3) := by decide +kernel
theorem d_Mod_weakLink_5 : decode prog_17_method_117_code 5 = .ok (.iconst (-1), 1) := by decide +kernel
theorem d_Mod_weakLink_6 : decode prog_17_method_117_code 6 = .ok (.istore_n 1, 1) := by decide +kernel
theorem d_Mod_weakLink_7 : decode prog_17_method_117_code 7 = .ok (.iconst 0, 1) := by decide +kernel
theorem d_Mod_weakLink_8 : decode prog_17_method_117_code 8 = .ok (.istore_n 2, 1) := by decide +kernel
theorem d_Mod_weakLink_9 : decode prog_17_method_117_code 9 = .ok (.iconst 0, 1) := by decide +kernel
theorem d_Mod_weakLink_10 : decode prog_17_method_117_code 10 = .ok (.istore_n 3, 1) := by decide +kernel
theorem d_Mod_weakLink_11 : decode prog_17_method_117_code 11 = .ok (.iload_n 3, 1) := by decide +kernel
theorem d_Mod_weakLink_12 : decode prog_17_method_117_code 12 = .ok (.aload_n 0, 1) := by decide +kernel
theorem d_Mod_weakLink_13 : decode prog_17_method_117_code 13 = .ok (.getfield 7, 3) := by decide +kernel
theorem d_Mod_weakLink_16 : decode prog_17_method_117_code 16 = .ok (.iconst 3, 1) := by decide +kernel
theorem d_Mod_weakLink_17 : decode prog_17_method_117_code 17 = .ok (.iaload, 1) := by decide +kernel
theorem d_Mod_weakLink_18 : decode prog_17_method_117_code 18 = .ok (.if_icmp .ge 27, 3) := by decide +kernel
theorem d_Mod_weakLink_21 : decode prog_17_method_117_code 21 = .ok (.aload_n 0, 1) := by decide +kernel
theorem d_Mod_weakLink_22 : decode prog_17_method_117_code 22 = .ok (.iload_n 3, 1) := by decide +kernel
theorem d_Mod_weakLink_23 : decode prog_17_method_117_code 23 = .ok (.invokevirtual 391, 3) := by decide +kernel
theorem d_Mod_weakLink_26 : decode prog_17_method_117_code 26 = .ok (.istore 4, 2) := by decide +kernel
theorem d_Mod_weakLink_28 : decode prog_17_method_117_code 28 = .ok (.iload 4, 2) := by decide +kernel
theorem d_Mod_weakLink_30 : decode prog_17_method_117_code 30 = .ok (.iload_n 2, 1) := by decide +kernel
theorem d_Mod_weakLink_31 : decode prog_17_method_117_code 31 = .ok (.if_icmp .le 8, 3) := by decide +kernel
theorem d_Mod_weakLink_34 : decode prog_17_method_117_code 34 = .ok (.iload_n 3, 1) := by decide +kernel
theorem d_Mod_weakLink_35 : decode prog_17_method_117_code 35 = .ok (.istore_n 1, 1) := by decide +kernel
theorem d_Mod_weakLink_36 : decode prog_17_method_117_code 36 = .ok (.iload 4, 2) := by decide +kernel
theorem d_Mod_weakLink_38 : decode prog_17_method_117_code 38 = .ok (.istore_n 2, 1) := by decide +kernel
theorem d_Mod_weakLink_39 : decode prog_17_method_117_code 39 = .ok (.iinc 3 1, 3) := by decide +kernel
theorem d_Mod_weakLink_42 : decode prog_17_method_117_code 42 = .ok (.goto (-31), 3) := by decide +kernel
theorem d_Mod_weakLink_45 : decode prog_17_method_117_code 45 = .ok (.iload_n 1, 1) := by decide +kernel
theorem d_Mod_weakLink_46 : decode prog_17_method_117_code 46 = .ok (.ireturn, 1) := by decide +kernel
def Mod_weakLink_39 (k11 : g_MD → Int32 → Int32 → Int32 → Option (Int32 × g_MD)) (M : g_MD) (v1 : Int32) (v2 : Int32) (v3 : Int32) : Option (Int32 × g_MD) :=
  k11 M v1 v2 (v3 + (1 : Int32))
set_option maxHeartbeats 4000000 in
set_option maxRecDepth 100000 in
theorem W_Mod_weakLink_39 {X : g_X} {h0 : g_AH} {a0 : Nat} {ad : Nat → Nat} (ok : mOK a0 ad) (z : Int32 × g_MD) (k11 : g_MD → Int32 → Int32 → Int32 → Option (Int32 × g_MD)) (hk11 : ∀ (M : g_MD) (v1 : Int32) (v2 : Int32) (v3 : Int32), k11 M v1 v2 v3 = some z → G X k_Mod_weakLink (.inl (some (.int z.1))) (mH h0 a0 ad z.2) (mH h0 a0 ad M) 11 [(0, .ref a0), (1, .int v1), (2, .int v2), (3, .int v3)] []) (M : g_MD) (v1 : Int32) (v2 : Int32) (v3 : Int32) (hy : Mod_weakLink_39 k11 M v1 v2 v3 = some z) : G X k_Mod_weakLink (.inl (some (.int z.1))) (mH h0 a0 ad z.2) (mH h0 a0 ad M) 39 [(0, .ref a0), (1, .int v1), (2, .int v2), (3, .int v3)] [] := by
  unfold Mod_weakLink_39 at hy
  refine g_iinc 3 (v := (v3 + (1 : Int32))) (pc' := 42) (Lc' := [(3, .int (v3 + (1 : Int32))), (0, .ref a0), (1, .int v1), (2, .int v2)]) d_Mod_weakLink_39 rfl rfl (by decide) rfl rfl ?_
  refine g_goto (pc' := 11) d_Mod_weakLink_42 (by decide) ?_
  refine g_sub [1, 2, 3, 0] rfl ?_
  exact hk11 _ _ _ _ hy
def Mod_weakLink_11  : Nat → g_MD → Int32 → Int32 → Int32 → Option (Int32 × g_MD)
  | 0, _, _, _, _ => none
  | n + 1, M, v1, v2, v3 => g_mA M 0 0 (3 : Int32) fun x2 => if x2 ≤ v3 then (some (v1, M)) else (g_bM (Mod_cutOff M v3) fun x5 M6 => if x5 ≤ v2 then (Mod_weakLink_39 (Mod_weakLink_11  n) M6 v1 v2 v3) else (Mod_weakLink_39 (Mod_weakLink_11  n) M6 v3 x5 v3))
set_option maxHeartbeats 4000000 in
set_option maxRecDepth 100000 in
theorem W_Mod_weakLink_11 {X : g_X} {h0 : g_AH} {a0 : Nat} {ad : Nat → Nat} (ok : mOK a0 ad) (z : Int32 × g_MD)  : ∀ (n : Nat) (M : g_MD) (v1 : Int32) (v2 : Int32) (v3 : Int32), Mod_weakLink_11  n M v1 v2 v3 = some z → G X k_Mod_weakLink (.inl (some (.int z.1))) (mH h0 a0 ad z.2) (mH h0 a0 ad M) 11 [(0, .ref a0), (1, .int v1), (2, .int v2), (3, .int v3)] [] := by
  intro n
  induction n with
  | zero => intro M v1 v2 v3 hy; exact absurd hy (by simp [Mod_weakLink_11])
  | succ n ih =>
    intro M v1 v2 v3 hy
    rw [Mod_weakLink_11] at hy
    refine g_iload_n 3 (i := 3) (pc' := 12) d_Mod_weakLink_11 rfl rfl rfl ?_
    refine g_aload_n 0 (i := 0) (pc' := 13) d_Mod_weakLink_12 rfl rfl rfl ?_
    refine gm_getA ok 0 (pc' := 16) d_Mod_weakLink_13 rfl q1965 rfl rfl ?_
    refine g_iconst (v := (3 : Int32)) (pc' := 17) d_Mod_weakLink_16 (by decide) rfl ?_
    replace hy := g_mA_inv hy
    obtain ⟨x2, hc3, hy⟩ := hy
    refine gm_ald0 ok (pc' := 18) d_Mod_weakLink_17 hc3 rfl ?_
    by_cases c4 : x2 ≤ v3
    · rw [if_pos c4] at hy
      refine g_icmp_geT (pc' := 45) d_Mod_weakLink_18 c4 (by decide) ?_
      refine g_iload_n 1 (i := 1) (pc' := 46) d_Mod_weakLink_45 rfl rfl rfl ?_
      cases hy
      exact g_iret rfl rfl rfl d_Mod_weakLink_46
    · rw [if_neg c4] at hy
      refine g_icmp_geF (pc' := 21) d_Mod_weakLink_18 45 c4 (by decide) rfl ?_
      refine g_aload_n 0 (i := 0) (pc' := 22) d_Mod_weakLink_21 rfl rfl rfl ?_
      refine g_iload_n 3 (i := 3) (pc' := 23) d_Mod_weakLink_22 rfl rfl rfl ?_
      replace hy := g_bM_inv hy
      obtain ⟨x5, M6, hf7, hy⟩ := hy
      refine g_callV (rv := some (.int x5)) (h1 := (mH h0 a0 ad M6)) (pc' := 26) (As := [.int v3]) (rest := []) 1 (T_Mod_cutOff ok (hy := hf7)) d_Mod_weakLink_23 (mH_look ok) rfl rfl q2526 q2528 qs106 q135 q2529 hd_Mod_cutOff rfl ⟨by decide, by decide⟩ (by first | exact Nat.le_of_ble_eq_true rfl | (simp only [List.map, List.sum_cons, List.sum_nil, g_cat_rf]; exact Nat.le_of_ble_eq_true rfl) | (simp only [List.map, List.sum_cons, List.sum_nil, g_cat_rf, Value.category]; decide)) rfl ?_
      refine g_istore (pc' := 28) (Lc' := [(4, .int x5), (0, .ref a0), (1, .int v1), (2, .int v2), (3, .int v3)]) d_Mod_weakLink_26 (by decide) rfl rfl ?_
      refine g_iload 0 (pc' := 30) d_Mod_weakLink_28 rfl rfl ?_
      refine g_iload_n 3 (i := 2) (pc' := 31) d_Mod_weakLink_30 rfl rfl rfl ?_
      by_cases c8 : x5 ≤ v2
      · rw [if_pos c8] at hy
        refine g_icmp_leT (pc' := 39) d_Mod_weakLink_31 c8 (by decide) ?_
        refine g_sub [1, 2, 3, 4] rfl ?_
        exact W_Mod_weakLink_39 ok _ _ ih _ _ _ _ hy
      · rw [if_neg c8] at hy
        refine g_icmp_leF (pc' := 34) d_Mod_weakLink_31 39 c8 (by decide) rfl ?_
        refine g_iload_n 4 (i := 3) (pc' := 35) d_Mod_weakLink_34 rfl rfl rfl ?_
        refine g_istore_n (i := 1) (pc' := 36) (Lc' := [(1, .int v3), (4, .int x5), (0, .ref a0), (2, .int v2), (3, .int v3)]) d_Mod_weakLink_35 rfl (by decide) rfl rfl ?_
        refine g_iload 1 (pc' := 38) d_Mod_weakLink_36 rfl rfl ?_
        refine g_istore_n (i := 2) (pc' := 39) (Lc' := [(2, .int x5), (1, .int v3), (4, .int x5), (0, .ref a0), (3, .int v3)]) d_Mod_weakLink_38 rfl (by decide) rfl rfl ?_
        refine g_sub [3, 1, 0, 4] rfl ?_
        exact W_Mod_weakLink_39 ok _ _ ih _ _ _ _ hy
def Mod_weakLink (M : g_MD)  : Option (Int32 × g_MD) :=
  g_let (mp M 7 (0 : Int32)) fun M1 => Mod_weakLink_11  gFU M1 (-1 : Int32) (0 : Int32) (0 : Int32)
set_option maxHeartbeats 4000000 in
set_option maxRecDepth 100000 in
theorem T_Mod_weakLink {l : Launch} {B : g_B} {h0 : g_AH} {a0 : Nat} {ad : Nat → Nat} (ok : mOK a0 ad) (M : g_MD)  (z : Int32 × g_MD) (hy : Mod_weakLink M  = some z) : g_CT l B y_Mod_weakLink k_Mod_weakLink [.ref a0] (mH h0 a0 ad M) (.inl (some (.int z.1))) (mH h0 a0 ad z.2) := by
  refine g_start2 (Lc := [(0, .ref a0)]) (by decide) rfl rfl (by exact Nat.le_of_ble_eq_true rfl) (by rfl) fun X => ?_
  unfold Mod_weakLink at hy
  refine g_aload_n 0 (i := 0) (pc' := 1) d_Mod_weakLink_0 rfl rfl rfl ?_
  refine g_iconst (v := (0 : Int32)) (pc' := 2) d_Mod_weakLink_1 (by decide) rfl ?_
  replace hy := g_let_inv hy
  refine gm_put ok 7 (pc' := 5) d_Mod_weakLink_2 rfl (by decide) q1972 rfl ?_
  generalize (mp M 7 (0 : Int32)) = M1 at hy ⊢
  refine g_iconst (v := (-1 : Int32)) (pc' := 6) d_Mod_weakLink_5 (by decide) rfl ?_
  refine g_istore_n (i := 1) (pc' := 7) (Lc' := [(1, .int (-1 : Int32)), (0, .ref a0)]) d_Mod_weakLink_6 rfl (by decide) rfl rfl ?_
  refine g_iconst (v := (0 : Int32)) (pc' := 8) d_Mod_weakLink_7 (by decide) rfl ?_
  refine g_istore_n (i := 2) (pc' := 9) (Lc' := [(2, .int (0 : Int32)), (1, .int (-1 : Int32)), (0, .ref a0)]) d_Mod_weakLink_8 rfl (by decide) rfl rfl ?_
  refine g_iconst (v := (0 : Int32)) (pc' := 10) d_Mod_weakLink_9 (by decide) rfl ?_
  refine g_istore_n (i := 3) (pc' := 11) (Lc' := [(3, .int (0 : Int32)), (2, .int (0 : Int32)), (1, .int (-1 : Int32)), (0, .ref a0)]) d_Mod_weakLink_10 rfl (by decide) rfl rfl ?_
  refine g_sub [3, 2, 1, 0] rfl ?_
  exact W_Mod_weakLink_11 ok _ _ _ _ _ _ hy
theorem hd_Mod_weakLink : g_dsc y_Mod_weakLink 0 := ⟨by decide +kernel, by decide +kernel, by decide +kernel⟩
/-! CircuitDeskModel.save(I)V -/
abbrev y_Mod_save : MethodName := ⟨"CircuitDeskModel", "save", "(I)V"⟩
abbrev k_Mod_save : g_M := (prog_17_method_118_code, 2, "CircuitDeskModel", 13, none, "save", [], 0)
theorem d_Mod_save_0 : decode prog_17_method_118_code 0 = .ok (.aload_n 0, 1) := by decide +kernel
theorem d_Mod_save_1 : decode prog_17_method_118_code 1 = .ok (.iload_n 1, 1) := by decide +kernel
theorem d_Mod_save_2 : decode prog_17_method_118_code 2 = .ok (.iconst 0, 1) := by decide +kernel
theorem d_Mod_save_3 : decode prog_17_method_118_code 3 = .ok (.iconst 1, 1) := by decide +kernel
theorem d_Mod_save_4 : decode prog_17_method_118_code 4 = .ok (.invokestatic 54, 3) := by decide +kernel
theorem d_Mod_save_7 : decode prog_17_method_118_code 7 = .ok (.ifCond .eq 7, 3) := by decide +kernel
theorem d_Mod_save_10 : decode prog_17_method_118_code 10 = .ok (.iconst 0, 1) := by decide +kernel
theorem d_Mod_save_11 : decode prog_17_method_118_code 11 = .ok (.goto 4, 3) := by decide +kernel
theorem d_Mod_save_14 : decode prog_17_method_118_code 14 = .ok (.iconst 1, 1) := by decide +kernel
theorem d_Mod_save_15 : decode prog_17_method_118_code 15 = .ok (.putfield 51, 3) := by decide +kernel
theorem d_Mod_save_18 : decode prog_17_method_118_code 18 = .ok (.aload_n 0, 1) := by decide +kernel
theorem d_Mod_save_19 : decode prog_17_method_118_code 19 = .ok (.getfield 51, 3) := by decide +kernel
theorem d_Mod_save_22 : decode prog_17_method_118_code 22 = .ok (.ifCond .ne 27, 3) := by decide +kernel
theorem d_Mod_save_25 : decode prog_17_method_118_code 25 = .ok (.aload_n 0, 1) := by decide +kernel
theorem d_Mod_save_26 : decode prog_17_method_118_code 26 = .ok (.getfield 7, 3) := by decide +kernel
theorem d_Mod_save_29 : decode prog_17_method_118_code 29 = .ok (.iconst 0, 1) := by decide +kernel
theorem d_Mod_save_30 : decode prog_17_method_118_code 30 = .ok (.aload_n 0, 1) := by decide +kernel
theorem d_Mod_save_31 : decode prog_17_method_118_code 31 = .ok (.getfield 19, 3) := by decide +kernel
theorem d_Mod_save_34 : decode prog_17_method_118_code 34 = .ok (.sipush 1112, 3) := by decide +kernel
theorem d_Mod_save_37 : decode prog_17_method_118_code 37 = .ok (.iload_n 1, 1) := by decide +kernel
theorem d_Mod_save_38 : decode prog_17_method_118_code 38 = .ok (.imul, 1) := by decide +kernel
theorem d_Mod_save_39 : decode prog_17_method_118_code 39 = .ok (.invokestatic 191, 3) := by decide +kernel
theorem d_Mod_save_42 : decode prog_17_method_118_code 42 = .ok (.aload_n 0, 1) := by decide +kernel
theorem d_Mod_save_43 : decode prog_17_method_118_code 43 = .ok (.getfield 22, 3) := by decide +kernel
theorem d_Mod_save_46 : decode prog_17_method_118_code 46 = .ok (.iload_n 1, 1) := by decide +kernel
theorem d_Mod_save_47 : decode prog_17_method_118_code 47 = .ok (.iconst 1, 1) := by decide +kernel
theorem d_Mod_save_48 : decode prog_17_method_118_code 48 = .ok (.bastore, 1) := by decide +kernel
theorem d_Mod_save_49 : decode prog_17_method_118_code 49 = .ok (.return_, 1) := by decide +kernel
def Mod_save_15 (M : g_MD) (v1 : Int32) (s0 : Int32) : Option g_MD :=
  g_let (mp M 7 s0) fun M5 => if (M5.2.1 7) = 0 then (g_b (Mod_copy M5 0 (0 : Int32) 3 ((1112 : Int32) * v1)) fun M8 => g_mS M8 1 4 v1 (vp_nar .boolean (1 : Int32)) fun M10 => some M10) else (some M5)
set_option maxHeartbeats 4000000 in
set_option maxRecDepth 100000 in
theorem W_Mod_save_15 {X : g_X} {h0 : g_AH} {a0 : Nat} {ad : Nat → Nat} (ok : mOK a0 ad) (z : g_MD) (M : g_MD) (v1 : Int32) (s0 : Int32) (hy : Mod_save_15  M v1 s0 = some z) : G X k_Mod_save (.inl none) (mH h0 a0 ad z) (mH h0 a0 ad M) 15 [(0, .ref a0), (1, .int v1)] [.int s0, .ref a0] := by
  unfold Mod_save_15 at hy
  replace hy := g_let_inv hy
  refine gm_put ok 7 (pc' := 18) d_Mod_save_15 rfl (by decide) q1972 rfl ?_
  generalize (mp M 7 s0) = M5 at hy ⊢
  refine g_aload_n 0 (i := 0) (pc' := 19) d_Mod_save_18 rfl rfl rfl ?_
  refine gm_getA ok 7 (pc' := 22) d_Mod_save_19 rfl q1972 rfl rfl ?_
  by_cases c6 : (M5.2.1 7) = 0
  · rw [if_pos c6] at hy
    refine g_if_neF (pc' := 25) d_Mod_save_22 49 c6 (by decide) rfl ?_
    refine g_aload_n 0 (i := 0) (pc' := 26) d_Mod_save_25 rfl rfl rfl ?_
    refine gm_getA ok 0 (pc' := 29) d_Mod_save_26 rfl q1965 rfl rfl ?_
    refine g_iconst (v := (0 : Int32)) (pc' := 30) d_Mod_save_29 (by decide) rfl ?_
    refine g_aload_n 0 (i := 0) (pc' := 31) d_Mod_save_30 rfl rfl rfl ?_
    refine gm_getA ok 3 (pc' := 34) d_Mod_save_31 rfl q1968 rfl rfl ?_
    refine g_sipush (v := (1112 : Int32)) (pc' := 37) d_Mod_save_34 (by decide) rfl ?_
    refine g_iload_n 1 (i := 1) (pc' := 38) d_Mod_save_37 rfl rfl rfl ?_
    refine g_imul (pc' := 39) d_Mod_save_38 rfl ?_
    replace hy := g_b_inv hy
    obtain ⟨M8, hf9, hy⟩ := hy
    refine g_callS (rv := none) (h1 := (mH h0 a0 ad M8)) (pc' := 42) (As := [.ref (ad 0), .int (0 : Int32), .ref (ad 3), .int ((1112 : Int32) * v1)]) (rest := []) 4 (T_Mod_copy ok (hy := hf9)) d_Mod_save_39 q2076 q2077 q135 q2078 hd_Mod_copy rfl ⟨by decide, by decide⟩ (by first | exact Nat.le_of_ble_eq_true rfl | (simp only [List.map, List.sum_cons, List.sum_nil, g_cat_rf]; exact Nat.le_of_ble_eq_true rfl) | (simp only [List.map, List.sum_cons, List.sum_nil, g_cat_rf, Value.category]; decide)) rfl ?_
    refine g_aload_n 0 (i := 0) (pc' := 43) d_Mod_save_42 rfl rfl rfl ?_
    refine gm_getA ok 4 (pc' := 46) d_Mod_save_43 rfl q1969 rfl rfl ?_
    refine g_iload_n 1 (i := 1) (pc' := 47) d_Mod_save_46 rfl rfl rfl ?_
    refine g_iconst (v := (1 : Int32)) (pc' := 48) d_Mod_save_47 (by decide) rfl ?_
    replace hy := g_mS_inv hy
    obtain ⟨hc11, hy⟩ := hy
    refine gm_ast1 ok (pc' := 49) d_Mod_save_48 hc11 rfl ?_
    generalize ms M8 4 (v1).toNatClampNeg (vp_nar .boolean (1 : Int32)) = M10 at hy ⊢
    cases hy
    exact g_vret rfl rfl rfl d_Mod_save_49
  · rw [if_neg c6] at hy
    refine g_if_neT (pc' := 49) d_Mod_save_22 c6 (by decide) ?_
    cases hy
    exact g_vret rfl rfl rfl d_Mod_save_49
def Mod_save (M : g_MD) (p0 : Int32) : Option g_MD :=
  g_b (Mod_isBetween p0 (0 : Int32) (1 : Int32)) fun x1 => if x1 = 0 then (Mod_save_15  M p0 (1 : Int32)) else (Mod_save_15  M p0 (0 : Int32))
set_option maxHeartbeats 4000000 in
set_option maxRecDepth 100000 in
theorem T_Mod_save {l : Launch} {B : g_B} {h0 : g_AH} {a0 : Nat} {ad : Nat → Nat} (ok : mOK a0 ad) (M : g_MD) (p0 : Int32) (z : g_MD) (hy : Mod_save M p0 = some z) : g_CT l B y_Mod_save k_Mod_save [.ref a0, .int p0] (mH h0 a0 ad M) (.inl none) (mH h0 a0 ad z) := by
  refine g_start2 (Lc := [(0, .ref a0), (1, .int p0)]) (by decide) rfl rfl (by exact Nat.le_of_ble_eq_true rfl) (by rfl) fun X => ?_
  unfold Mod_save at hy
  refine g_aload_n 0 (i := 0) (pc' := 1) d_Mod_save_0 rfl rfl rfl ?_
  refine g_iload_n 1 (i := 1) (pc' := 2) d_Mod_save_1 rfl rfl rfl ?_
  refine g_iconst (v := (0 : Int32)) (pc' := 3) d_Mod_save_2 (by decide) rfl ?_
  refine g_iconst (v := (1 : Int32)) (pc' := 4) d_Mod_save_3 (by decide) rfl ?_
  replace hy := g_b_inv hy
  obtain ⟨x1, hf3, hy⟩ := hy
  refine g_callS (rv := some (.int x1)) (h1 := (mH h0 a0 ad M)) (pc' := 7) (As := [.int p0, .int (0 : Int32), .int (1 : Int32)]) (rest := [.ref a0]) 3 (T_Mod_isBetween (hy := hf3)) d_Mod_save_4 q2069 q2070 q135 q2071 hd_Mod_isBetween rfl ⟨by decide, by decide⟩ (by first | exact Nat.le_of_ble_eq_true rfl | (simp only [List.map, List.sum_cons, List.sum_nil, g_cat_rf]; exact Nat.le_of_ble_eq_true rfl) | (simp only [List.map, List.sum_cons, List.sum_nil, g_cat_rf, Value.category]; decide)) rfl ?_
  by_cases c4 : x1 = 0
  · rw [if_pos c4] at hy
    refine g_if_eqT (pc' := 14) d_Mod_save_7 c4 (by decide) ?_
    refine g_iconst (v := (1 : Int32)) (pc' := 15) d_Mod_save_14 (by decide) rfl ?_
    exact W_Mod_save_15 ok _ _ _ _ hy
  · rw [if_neg c4] at hy
    refine g_if_eqF (pc' := 10) d_Mod_save_7 14 c4 (by decide) rfl ?_
    refine g_iconst (v := (0 : Int32)) (pc' := 11) d_Mod_save_10 (by decide) rfl ?_
    refine g_goto (pc' := 15) d_Mod_save_11 (by decide) ?_
    exact W_Mod_save_15 ok _ _ _ _ hy
theorem hd_Mod_save : g_dsc y_Mod_save 1 := ⟨by decide +kernel, by decide +kernel, by decide +kernel⟩
/-! CircuitDeskModel.restore(I)V -/
abbrev y_Mod_restore : MethodName := ⟨"CircuitDeskModel", "restore", "(I)V"⟩
abbrev k_Mod_restore : g_M := (prog_17_method_119_code, 2, "CircuitDeskModel", 13, none, "restore", [], 0)
theorem d_Mod_restore_0 : decode prog_17_method_119_code 0 = .ok (.aload_n 0, 1) := by decide +kernel
theorem d_Mod_restore_1 : decode prog_17_method_119_code 1 = .ok (.iload_n 1, 1) := by decide +kernel
theorem d_Mod_restore_2 : decode prog_17_method_119_code 2 = .ok (.iconst 0, 1) := by decide +kernel
theorem d_Mod_restore_3 : decode prog_17_method_119_code 3 = .ok (.iconst 1, 1) := by decide +kernel
theorem d_Mod_restore_4 : decode prog_17_method_119_code 4 = .ok (.invokestatic 54, 3) := by decide +kernel
theorem d_Mod_restore_7 : decode prog_17_method_119_code 7 = .ok (.ifCond .ne 7, 3) := by decide +kernel
theorem d_Mod_restore_10 : decode prog_17_method_119_code 10 = .ok (.iconst 1, 1) := by decide +kernel
theorem d_Mod_restore_11 : decode prog_17_method_119_code 11 = .ok (.goto 17, 3) := by decide +kernel
theorem d_Mod_restore_14 : decode prog_17_method_119_code 14 = .ok (.aload_n 0, 1) := by decide +kernel
theorem d_Mod_restore_15 : decode prog_17_method_119_code 15 = .ok (.getfield 22, 3) := by decide +kernel
theorem d_Mod_restore_18 : decode prog_17_method_119_code 18 = .ok (.iload_n 1, 1) := by decide +kernel
theorem d_Mod_restore_19 : decode prog_17_method_119_code 19 = .ok (.baload, 1) := by decide +kernel
theorem d_Mod_restore_20 : decode prog_17_method_119_code 20 = .ok (.ifCond .ne 7, 3) := by decide +kernel
theorem d_Mod_restore_23 : decode prog_17_method_119_code 23 = .ok (.iconst 2, 1) := by decide +kernel
theorem d_Mod_restore_24 : decode prog_17_method_119_code 24 = .ok (.goto 4, 3) := by decide +kernel
theorem d_Mod_restore_27 : decode prog_17_method_119_code 27 = .ok (.iconst 0, 1) := by decide +kernel
theorem d_Mod_restore_28 : decode prog_17_method_119_code 28 = .ok (.putfield 51, 3) := by decide +kernel
theorem d_Mod_restore_31 : decode prog_17_method_119_code 31 = .ok (.aload_n 0, 1) := by decide +kernel
theorem d_Mod_restore_32 : decode prog_17_method_119_code 32 = .ok (.getfield 51, 3) := by decide +kernel
theorem d_Mod_restore_35 : decode prog_17_method_119_code 35 = .ok (.ifCond .ne 25, 3) := by decide +kernel
theorem d_Mod_restore_38 : decode prog_17_method_119_code 38 = .ok (.aload_n 0, 1) := by decide +kernel
theorem d_Mod_restore_39 : decode prog_17_method_119_code 39 = .ok (.getfield 19, 3) := by decide +kernel
theorem d_Mod_restore_42 : decode prog_17_method_119_code 42 = .ok (.sipush 1112, 3) := by decide +kernel
theorem d_Mod_restore_45 : decode prog_17_method_119_code 45 = .ok (.iload_n 1, 1) := by decide +kernel
theorem d_Mod_restore_46 : decode prog_17_method_119_code 46 = .ok (.imul, 1) := by decide +kernel
theorem d_Mod_restore_47 : decode prog_17_method_119_code 47 = .ok (.aload_n 0, 1) := by decide +kernel
theorem d_Mod_restore_48 : decode prog_17_method_119_code 48 = .ok (.getfield 7, 3) := by decide +kernel
theorem d_Mod_restore_51 : decode prog_17_method_119_code 51 = .ok (.iconst 0, 1) := by decide +kernel
theorem d_Mod_restore_52 : decode prog_17_method_119_code 52 = .ok (.invokestatic 191, 3) := by decide +kernel
theorem d_Mod_restore_55 : decode prog_17_method_119_code 55 = .ok (.aload_n 0, 1) := by decide +kernel
theorem d_Mod_restore_56 : decode prog_17_method_119_code 56 = .ok (.iconst 0, 1) := by decide +kernel
theorem d_Mod_restore_57 : decode prog_17_method_119_code 57 = .ok (.putfield 198, 3) := by decide +kernel
theorem d_Mod_restore_60 : decode prog_17_method_119_code 60 = .ok (.return_, 1) := by decide +kernel
def Mod_restore_28 (M : g_MD) (v1 : Int32) (s0 : Int32) : Option g_MD :=
  g_let (mp M 7 s0) fun M8 => if (M8.2.1 7) = 0 then (g_b (Mod_copy M8 3 ((1112 : Int32) * v1) 0 (0 : Int32)) fun M11 => g_let (mp M11 6 (0 : Int32)) fun M13 => some M13) else (some M8)
set_option maxHeartbeats 4000000 in
set_option maxRecDepth 100000 in
theorem W_Mod_restore_28 {X : g_X} {h0 : g_AH} {a0 : Nat} {ad : Nat → Nat} (ok : mOK a0 ad) (z : g_MD) (M : g_MD) (v1 : Int32) (s0 : Int32) (hy : Mod_restore_28  M v1 s0 = some z) : G X k_Mod_restore (.inl none) (mH h0 a0 ad z) (mH h0 a0 ad M) 28 [(0, .ref a0), (1, .int v1)] [.int s0, .ref a0] := by
  unfold Mod_restore_28 at hy
  replace hy := g_let_inv hy
  refine gm_put ok 7 (pc' := 31) d_Mod_restore_28 rfl (by decide) q1972 rfl ?_
  generalize (mp M 7 s0) = M8 at hy ⊢
  refine g_aload_n 0 (i := 0) (pc' := 32) d_Mod_restore_31 rfl rfl rfl ?_
  refine gm_getA ok 7 (pc' := 35) d_Mod_restore_32 rfl q1972 rfl rfl ?_
  by_cases c9 : (M8.2.1 7) = 0
  · rw [if_pos c9] at hy
    refine g_if_neF (pc' := 38) d_Mod_restore_35 60 c9 (by decide) rfl ?_
    refine g_aload_n 0 (i := 0) (pc' := 39) d_Mod_restore_38 rfl rfl rfl ?_
    refine gm_getA ok 3 (pc' := 42) d_Mod_restore_39 rfl q1968 rfl rfl ?_
    refine g_sipush (v := (1112 : Int32)) (pc' := 45) d_Mod_restore_42 (by decide) rfl ?_
    refine g_iload_n 1 (i := 1) (pc' := 46) d_Mod_restore_45 rfl rfl rfl ?_
    refine g_imul (pc' := 47) d_Mod_restore_46 rfl ?_
    refine g_aload_n 0 (i := 0) (pc' := 48) d_Mod_restore_47 rfl rfl rfl ?_
    refine gm_getA ok 0 (pc' := 51) d_Mod_restore_48 rfl q1965 rfl rfl ?_
    refine g_iconst (v := (0 : Int32)) (pc' := 52) d_Mod_restore_51 (by decide) rfl ?_
    replace hy := g_b_inv hy
    obtain ⟨M11, hf12, hy⟩ := hy
    refine g_callS (rv := none) (h1 := (mH h0 a0 ad M11)) (pc' := 55) (As := [.ref (ad 3), .int ((1112 : Int32) * v1), .ref (ad 0), .int (0 : Int32)]) (rest := []) 4 (T_Mod_copy ok (hy := hf12)) d_Mod_restore_52 q2076 q2077 q135 q2078 hd_Mod_copy rfl ⟨by decide, by decide⟩ (by first | exact Nat.le_of_ble_eq_true rfl | (simp only [List.map, List.sum_cons, List.sum_nil, g_cat_rf]; exact Nat.le_of_ble_eq_true rfl) | (simp only [List.map, List.sum_cons, List.sum_nil, g_cat_rf, Value.category]; decide)) rfl ?_
    refine g_aload_n 0 (i := 0) (pc' := 56) d_Mod_restore_55 rfl rfl rfl ?_
    refine g_iconst (v := (0 : Int32)) (pc' := 57) d_Mod_restore_56 (by decide) rfl ?_
    replace hy := g_let_inv hy
    refine gm_put ok 6 (pc' := 60) d_Mod_restore_57 rfl (by decide) q1971 rfl ?_
    generalize (mp M11 6 (0 : Int32)) = M13 at hy ⊢
    cases hy
    exact g_vret rfl rfl rfl d_Mod_restore_60
  · rw [if_neg c9] at hy
    refine g_if_neT (pc' := 60) d_Mod_restore_35 c9 (by decide) ?_
    cases hy
    exact g_vret rfl rfl rfl d_Mod_restore_60
def Mod_restore (M : g_MD) (p0 : Int32) : Option g_MD :=
  g_b (Mod_isBetween p0 (0 : Int32) (1 : Int32)) fun x1 => if x1 = 0 then (Mod_restore_28  M p0 (1 : Int32)) else (g_mA M 1 4 p0 fun x5 => if x5 = 0 then (Mod_restore_28  M p0 (2 : Int32)) else (Mod_restore_28  M p0 (0 : Int32)))
set_option maxHeartbeats 4000000 in
set_option maxRecDepth 100000 in
theorem T_Mod_restore {l : Launch} {B : g_B} {h0 : g_AH} {a0 : Nat} {ad : Nat → Nat} (ok : mOK a0 ad) (M : g_MD) (p0 : Int32) (z : g_MD) (hy : Mod_restore M p0 = some z) : g_CT l B y_Mod_restore k_Mod_restore [.ref a0, .int p0] (mH h0 a0 ad M) (.inl none) (mH h0 a0 ad z) := by
  refine g_start2 (Lc := [(0, .ref a0), (1, .int p0)]) (by decide) rfl rfl (by exact Nat.le_of_ble_eq_true rfl) (by rfl) fun X => ?_
  unfold Mod_restore at hy
  refine g_aload_n 0 (i := 0) (pc' := 1) d_Mod_restore_0 rfl rfl rfl ?_
  refine g_iload_n 1 (i := 1) (pc' := 2) d_Mod_restore_1 rfl rfl rfl ?_
  refine g_iconst (v := (0 : Int32)) (pc' := 3) d_Mod_restore_2 (by decide) rfl ?_
  refine g_iconst (v := (1 : Int32)) (pc' := 4) d_Mod_restore_3 (by decide) rfl ?_
  replace hy := g_b_inv hy
  obtain ⟨x1, hf3, hy⟩ := hy
  refine g_callS (rv := some (.int x1)) (h1 := (mH h0 a0 ad M)) (pc' := 7) (As := [.int p0, .int (0 : Int32), .int (1 : Int32)]) (rest := [.ref a0]) 3 (T_Mod_isBetween (hy := hf3)) d_Mod_restore_4 q2069 q2070 q135 q2071 hd_Mod_isBetween rfl ⟨by decide, by decide⟩ (by first | exact Nat.le_of_ble_eq_true rfl | (simp only [List.map, List.sum_cons, List.sum_nil, g_cat_rf]; exact Nat.le_of_ble_eq_true rfl) | (simp only [List.map, List.sum_cons, List.sum_nil, g_cat_rf, Value.category]; decide)) rfl ?_
  by_cases c4 : x1 = 0
  · rw [if_pos c4] at hy
    refine g_if_neF (pc' := 10) d_Mod_restore_7 14 c4 (by decide) rfl ?_
    refine g_iconst (v := (1 : Int32)) (pc' := 11) d_Mod_restore_10 (by decide) rfl ?_
    refine g_goto (pc' := 28) d_Mod_restore_11 (by decide) ?_
    exact W_Mod_restore_28 ok _ _ _ _ hy
  · rw [if_neg c4] at hy
    refine g_if_neT (pc' := 14) d_Mod_restore_7 c4 (by decide) ?_
    refine g_aload_n 0 (i := 0) (pc' := 15) d_Mod_restore_14 rfl rfl rfl ?_
    refine gm_getA ok 4 (pc' := 18) d_Mod_restore_15 rfl q1969 rfl rfl ?_
    refine g_iload_n 1 (i := 1) (pc' := 19) d_Mod_restore_18 rfl rfl rfl ?_
    replace hy := g_mA_inv hy
    obtain ⟨x5, hc6, hy⟩ := hy
    refine gm_ald1 ok (pc' := 20) d_Mod_restore_19 hc6 rfl ?_
    by_cases c7 : x5 = 0
    · rw [if_pos c7] at hy
      refine g_if_neF (pc' := 23) d_Mod_restore_20 27 c7 (by decide) rfl ?_
      refine g_iconst (v := (2 : Int32)) (pc' := 24) d_Mod_restore_23 (by decide) rfl ?_
      refine g_goto (pc' := 28) d_Mod_restore_24 (by decide) ?_
      exact W_Mod_restore_28 ok _ _ _ _ hy
    · rw [if_neg c7] at hy
      refine g_if_neT (pc' := 27) d_Mod_restore_20 c7 (by decide) ?_
      refine g_iconst (v := (0 : Int32)) (pc' := 28) d_Mod_restore_27 (by decide) rfl ?_
      exact W_Mod_restore_28 ok _ _ _ _ hy
theorem hd_Mod_restore : g_dsc y_Mod_restore 1 := ⟨by decide +kernel, by decide +kernel, by decide +kernel⟩
