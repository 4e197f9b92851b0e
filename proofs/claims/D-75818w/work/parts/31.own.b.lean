/-! CircuitDesk.lent()I -/
abbrev y_Desk_lent : MethodName := ⟨"CircuitDesk", "lent", "()I"⟩
abbrev k_Desk_lent : g_M := (prog_1_method_15_code, 3, "CircuitDesk", 16, (some FieldType.int), "lent", [], 0)
theorem d_Desk_lent_0 : decode prog_1_method_15_code 0 = .ok (.iconst 0, 1) := by decide +kernel
theorem d_Desk_lent_1 : decode prog_1_method_15_code 1 = .ok (.istore_n 1, 1) := by decide +kernel
theorem d_Desk_lent_2 : decode prog_1_method_15_code 2 = .ok (.iconst 0, 1) := by decide +kernel
theorem d_Desk_lent_3 : decode prog_1_method_15_code 3 = .ok (.istore_n 2, 1) := by decide +kernel
theorem d_Desk_lent_4 : decode prog_1_method_15_code 4 = .ok (.iload_n 2, 1) := by decide +kernel
theorem d_Desk_lent_5 : decode prog_1_method_15_code 5 = .ok (.aload_n 0, 1) := by decide +kernel
theorem d_Desk_lent_6 : decode prog_1_method_15_code 6 = .ok (.getfield 19, 3) := by decide +kernel
theorem d_Desk_lent_9 : decode prog_1_method_15_code 9 = .ok (.getfield 44, 3) := by decide +kernel
theorem d_Desk_lent_12 : decode prog_1_method_15_code 12 = .ok (.invokevirtual 48, 3) := by decide +kernel
theorem d_Desk_lent_15 : decode prog_1_method_15_code 15 = .ok (.if_icmp .ge 20, 3) := by decide +kernel
theorem d_Desk_lent_18 : decode prog_1_method_15_code 18 = .ok (.iload_n 1, 1) := by decide +kernel
theorem d_Desk_lent_19 : decode prog_1_method_15_code 19 = .ok (.aload_n 0, 1) := by decide +kernel
theorem d_Desk_lent_20 : decode prog_1_method_15_code 20 = .ok (.getfield 19, 3) := by decide +kernel
theorem d_Desk_lent_23 : decode prog_1_method_15_code 23 = .ok (.iload_n 2, 1) := by decide +kernel
theorem d_Desk_lent_24 : decode prog_1_method_15_code 24 = .ok (.invokevirtual 130, 3) := by decide +kernel
theorem d_Desk_lent_27 : decode prog_1_method_15_code 27 = .ok (.iadd, 1) := by decide +kernel
theorem d_Desk_lent_28 : decode prog_1_method_15_code 28 = .ok (.istore_n 1, 1) := by decide +kernel
theorem d_Desk_lent_29 : decode prog_1_method_15_code 29 = .ok (.iinc 2 1, 3) := by decide +kernel
theorem d_Desk_lent_32 : decode prog_1_method_15_code 32 = .ok (.goto (-28), 3) := by decide +kernel
theorem d_Desk_lent_35 : decode prog_1_method_15_code 35 = .ok (.iload_n 1, 1) := by decide +kernel
theorem d_Desk_lent_36 : decode prog_1_method_15_code 36 = .ok (.ireturn, 1) := by decide +kernel
def Desk_lent_4 (h : g_AH)  : Nat → Nat → Int32 → Int32 → Option (Int32)
  | 0, _, _, _ => none
  | n + 1, v0, v1, v2 => g_gR h v0 0 0 fun x2 => g_nn x2 fun a5 => g_gR h a5 1 1 fun x7 => g_nn x7 fun a10 => g_is h a10 15 <| g_b (ArrayList_size h a10) fun x13 => if x13 ≤ v2 then (some v1) else (g_gR h v0 0 0 fun x18 => g_nn x18 fun a21 => g_is h a21 1 <| g_b (Net_borrowedBy h a21 v2) fun x24 => (Desk_lent_4 h  n) v0 (v1 + x24) (v2 + (1 : Int32)))
set_option maxHeartbeats 4000000 in
set_option maxRecDepth 100000 in
theorem W_Desk_lent_4 {X : g_X} (h : g_AH) (z : Int32)  : ∀ (n : Nat) (v0 : Nat) (v1 : Int32) (v2 : Int32), Desk_lent_4 h  n v0 v1 v2 = some z → G X k_Desk_lent (.inl (some (.int z))) h h 4 [(0, .ref v0), (1, .int v1), (2, .int v2)] [] := by
  intro n
  induction n with
  | zero => intro v0 v1 v2 hy; exact absurd hy (by simp [Desk_lent_4])
  | succ n ih =>
    intro v0 v1 v2 hy
    rw [Desk_lent_4] at hy
    refine g_iload_n 2 (i := 2) (pc' := 5) d_Desk_lent_4 rfl rfl rfl ?_
    refine g_aload_n 0 (i := 0) (pc' := 6) d_Desk_lent_5 rfl rfl rfl ?_
    replace hy := g_gR_inv hy
    obtain ⟨fs1, x2, hc3, hv4, hy⟩ := hy
    refine g_getf (pc' := 9) d_Desk_lent_6 hc3 rfl (by decide) hv4 q642 (Or.inl rfl) rfl ?_
    replace hy := g_nn_inv hy
    obtain ⟨a5, rfl, hy⟩ := hy
    replace hy := g_gR_inv hy
    obtain ⟨fs6, x7, hc8, hv9, hy⟩ := hy
    refine g_getfN (pc' := 12) d_Desk_lent_9 hc8 rfl (by decide) hv9 q549 rfl rfl ?_
    replace hy := g_nn_inv hy
    obtain ⟨a10, rfl, hy⟩ := hy
    replace hy := g_is_inv hy
    obtain ⟨fs11, hc12, hy⟩ := hy
    replace hy := g_b_inv hy
    obtain ⟨x13, hf15, hy⟩ := hy
    refine g_callV (rv := some (.int x13)) (h1 := h) (pc' := 15) (As := []) (rest := [.int v2]) 0 (T_ArrayList_size (hy := hf15)) d_Desk_lent_12 hc12 rfl rfl q673 q674 q675 q112 q676 hd_ArrayList_size rfl ⟨by decide, by decide⟩ (by first | exact Nat.le_of_ble_eq_true rfl | (simp only [List.map, List.sum_cons, List.sum_nil, g_cat_rf]; exact Nat.le_of_ble_eq_true rfl) | (simp only [List.map, List.sum_cons, List.sum_nil, g_cat_rf, Value.category]; decide)) rfl ?_
    by_cases c16 : x13 ≤ v2
    · rw [if_pos c16] at hy
      refine g_icmp_geT (pc' := 35) d_Desk_lent_15 c16 (by decide) ?_
      refine g_iload_n 1 (i := 1) (pc' := 36) d_Desk_lent_35 rfl rfl rfl ?_
      cases hy
      exact g_iret rfl rfl rfl d_Desk_lent_36
    · rw [if_neg c16] at hy
      refine g_icmp_geF (pc' := 18) d_Desk_lent_15 35 c16 (by decide) rfl ?_
      refine g_iload_n 1 (i := 1) (pc' := 19) d_Desk_lent_18 rfl rfl rfl ?_
      refine g_aload_n 0 (i := 0) (pc' := 20) d_Desk_lent_19 rfl rfl rfl ?_
      replace hy := g_gR_inv hy
      obtain ⟨fs17, x18, hc19, hv20, hy⟩ := hy
      refine g_getf (pc' := 23) d_Desk_lent_20 hc19 rfl (by decide) hv20 q642 (Or.inl rfl) rfl ?_
      refine g_iload_n 2 (i := 2) (pc' := 24) d_Desk_lent_23 rfl rfl rfl ?_
      replace hy := g_nn_inv hy
      obtain ⟨a21, rfl, hy⟩ := hy
      replace hy := g_is_inv hy
      obtain ⟨fs22, hc23, hy⟩ := hy
      replace hy := g_b_inv hy
      obtain ⟨x24, hf26, hy⟩ := hy
      refine g_callV (rv := some (.int x24)) (h1 := h) (pc' := 27) (As := [.int v2]) (rest := [.int v1]) 1 (T_Net_borrowedBy (hy := hf26)) d_Desk_lent_24 hc23 rfl rfl q1454 q1253 q1254 q109 q1255 hd_Net_borrowedBy rfl ⟨by decide, by decide⟩ (by first | exact Nat.le_of_ble_eq_true rfl | (simp only [List.map, List.sum_cons, List.sum_nil, g_cat_rf]; exact Nat.le_of_ble_eq_true rfl) | (simp only [List.map, List.sum_cons, List.sum_nil, g_cat_rf, Value.category]; decide)) rfl ?_
      refine g_iadd (pc' := 28) d_Desk_lent_27 rfl ?_
      refine g_istore_n (i := 1) (pc' := 29) (Lc' := [(1, .int (v1 + x24)), (0, .ref v0), (2, .int v2)]) d_Desk_lent_28 rfl (by decide) rfl rfl ?_
      refine g_iinc 2 (v := (v2 + (1 : Int32))) (pc' := 32) (Lc' := [(2, .int (v2 + (1 : Int32))), (1, .int (v1 + x24)), (0, .ref v0)]) d_Desk_lent_29 rfl rfl (by decide) rfl rfl ?_
      refine g_goto (pc' := 4) d_Desk_lent_32 (by decide) ?_
      refine g_sub [2, 1, 0] rfl ?_
      exact ih _ _ _ hy
def Desk_lent (h : g_AH) (this : Nat) : Option (Int32) :=
  Desk_lent_4 h  gFU this (0 : Int32) (0 : Int32)
set_option maxHeartbeats 4000000 in
set_option maxRecDepth 100000 in
theorem T_Desk_lent {l : Launch} {B : g_B} (h : g_AH) (this : Nat) (z : Int32) (hy : Desk_lent h this = some z) : g_CT l B y_Desk_lent k_Desk_lent [.ref this] h (.inl (some (.int z))) h := by
  refine g_start2 (Lc := [(0, .ref this)]) (by decide) rfl rfl (by exact Nat.le_of_ble_eq_true rfl) (by rfl) fun X => ?_
  unfold Desk_lent at hy
  refine g_iconst (v := (0 : Int32)) (pc' := 1) d_Desk_lent_0 (by decide) rfl ?_
  refine g_istore_n (i := 1) (pc' := 2) (Lc' := [(1, .int (0 : Int32)), (0, .ref this)]) d_Desk_lent_1 rfl (by decide) rfl rfl ?_
  refine g_iconst (v := (0 : Int32)) (pc' := 3) d_Desk_lent_2 (by decide) rfl ?_
  refine g_istore_n (i := 2) (pc' := 4) (Lc' := [(2, .int (0 : Int32)), (1, .int (0 : Int32)), (0, .ref this)]) d_Desk_lent_3 rfl (by decide) rfl rfl ?_
  refine g_sub [2, 1, 0] rfl ?_
  exact W_Desk_lent_4 _ _ _ _ _ _ hy
theorem hd_Desk_lent : g_dsc y_Desk_lent 0 := ⟨by decide +kernel, by decide +kernel, by decide +kernel⟩
/-! CircuitDesk$Phase.isMoving()Z -/
abbrev y_Phase_isMoving : MethodName := ⟨"CircuitDesk$Phase", "isMoving", "()Z"⟩
abbrev k_Phase_isMoving : g_M := (prog_11_method_2_code, 1, "CircuitDesk$Phase", 12, (some FieldType.boolean), "isMoving", [], 0)
theorem d_Phase_isMoving_0 : decode prog_11_method_2_code 0 = .ok (.iconst 1, 1) := by decide +kernel
theorem d_Phase_isMoving_1 : decode prog_11_method_2_code 1 = .ok (.ireturn, 1) := by decide +kernel
def Phase_isMoving (this : Nat) : Option (Int32) :=
  some (1 : Int32)
set_option maxHeartbeats 4000000 in
set_option maxRecDepth 100000 in
theorem T_Phase_isMoving {l : Launch} {B : g_B} {h : g_AH} (this : Nat) (z : Int32) (hy : Phase_isMoving this = some z) : g_CT l B y_Phase_isMoving k_Phase_isMoving [.ref this] h (.inl (some (.int z))) h := by
  refine g_start2 (Lc := [(0, .ref this)]) (by decide) rfl rfl (by exact Nat.le_of_ble_eq_true rfl) (by rfl) fun X => ?_
  unfold Phase_isMoving at hy
  refine g_iconst (v := (1 : Int32)) (pc' := 1) d_Phase_isMoving_0 (by decide) rfl ?_
  cases hy
  exact g_zret rfl rfl rfl (g_nar_z (Or.inr rfl)).1 d_Phase_isMoving_1
theorem hd_Phase_isMoving : g_dsc y_Phase_isMoving 0 := ⟨by decide +kernel, by decide +kernel, by decide +kernel⟩
/-! CircuitDesk$Resting.isMoving()Z -/
abbrev y_Resting_isMoving : MethodName := ⟨"CircuitDesk$Resting", "isMoving", "()Z"⟩
abbrev k_Resting_isMoving : g_M := (prog_12_method_3_code, 1, "CircuitDesk$Resting", 12, (some FieldType.boolean), "isMoving", [], 0)
theorem d_Resting_isMoving_0 : decode prog_12_method_3_code 0 = .ok (.iconst 0, 1) := by decide +kernel
theorem d_Resting_isMoving_1 : decode prog_12_method_3_code 1 = .ok (.ireturn, 1) := by decide +kernel
def Resting_isMoving (this : Nat) : Option (Int32) :=
  some (0 : Int32)
set_option maxHeartbeats 4000000 in
set_option maxRecDepth 100000 in
theorem T_Resting_isMoving {l : Launch} {B : g_B} {h : g_AH} (this : Nat) (z : Int32) (hy : Resting_isMoving this = some z) : g_CT l B y_Resting_isMoving k_Resting_isMoving [.ref this] h (.inl (some (.int z))) h := by
  refine g_start2 (Lc := [(0, .ref this)]) (by decide) rfl rfl (by exact Nat.le_of_ble_eq_true rfl) (by rfl) fun X => ?_
  unfold Resting_isMoving at hy
  refine g_iconst (v := (0 : Int32)) (pc' := 1) d_Resting_isMoving_0 (by decide) rfl ?_
  cases hy
  exact g_zret rfl rfl rfl (g_nar_z (Or.inl rfl)).1 d_Resting_isMoving_1
theorem hd_Resting_isMoving : g_dsc y_Resting_isMoving 0 := ⟨by decide +kernel, by decide +kernel, by decide +kernel⟩
/-! CircuitDesk$Net.isMoving(LCircuitDesk$Circuit;)Z -/
abbrev y_Net_isMoving : MethodName := ⟨"CircuitDesk$Net", "isMoving", "(LCircuitDesk$Circuit;)Z"⟩
abbrev k_Net_isMoving : g_M := (prog_7_method_32_code, 3, "CircuitDesk$Net", 13, (some FieldType.boolean), "isMoving", [], 0)
theorem d_Net_isMoving_0 : decode prog_7_method_32_code 0 = .ok (.aload_n 0, 1) := by decide +kernel
theorem d_Net_isMoving_1 : decode prog_7_method_32_code 1 = .ok (.getfield 39, 3) := by decide +kernel
theorem d_Net_isMoving_4 : decode prog_7_method_32_code 4 = .ok (.aload_n 1, 1) := by decide +kernel
theorem d_Net_isMoving_5 : decode prog_7_method_32_code 5 = .ok (.getfield 315, 3) := by decide +kernel
theorem d_Net_isMoving_8 : decode prog_7_method_32_code 8 = .ok (.aaload, 1) := by decide +kernel
theorem d_Net_isMoving_9 : decode prog_7_method_32_code 9 = .ok (.astore_n 2, 1) := by decide +kernel
theorem d_Net_isMoving_10 : decode prog_7_method_32_code 10 = .ok (.aload_n 2, 1) := by decide +kernel
theorem d_Net_isMoving_11 : decode prog_7_method_32_code 11 = .ok (.invokeinterface 340 1, 5) := by decide +kernel
theorem d_Net_isMoving_16 : decode prog_7_method_32_code 16 = .ok (.ireturn, 1) := by decide +kernel
def Net_isMoving_16 (h : g_AH) (s0 : Int32) : Option (Int32) :=
  g_rq (s0 = 0 ∨ s0 = 1) <| some s0
set_option maxHeartbeats 4000000 in
set_option maxRecDepth 100000 in
theorem W_Net_isMoving_16 {X : g_X} (h : g_AH) (z : Int32) (s0 : Int32) (hy : Net_isMoving_16 h  s0 = some z) : G X k_Net_isMoving (.inl (some (.int z))) h h 16 [] [.int s0] := by
  unfold Net_isMoving_16 at hy
  replace hy := g_rq_inv hy
  obtain ⟨c24, hy⟩ := hy
  cases hy
  exact g_zret rfl rfl rfl (g_nar_z c24).1 d_Net_isMoving_16
def Net_isMoving (h : g_AH) (this : Nat) (p0 : Option Nat) : Option (Int32) :=
  g_gR h this 1 5 fun x2 => g_nn p0 fun a5 => g_gI h a5 12 4 fun x7 => g_nn x2 fun a10 => g_aA h 6 a10 x7 fun x11 => g_nn x11 fun a16 => g_cls h a16 fun ci17 => if ci17 = 2 then (g_b (Resting_isMoving a16) fun x21 => Net_isMoving_16 h  x21) else (if ci17 = 3 then (g_b (Phase_isMoving a16) fun x26 => Net_isMoving_16 h  x26) else (if ci17 = 4 then (g_b (Phase_isMoving a16) fun x30 => Net_isMoving_16 h  x30) else (if ci17 = 5 then (g_b (Phase_isMoving a16) fun x34 => Net_isMoving_16 h  x34) else (none))))
set_option maxHeartbeats 4000000 in
set_option maxRecDepth 100000 in
theorem T_Net_isMoving {l : Launch} {B : g_B} (h : g_AH) (this : Nat) (p0 : Option Nat) (z : Int32) (hy : Net_isMoving h this p0 = some z) : g_CT l B y_Net_isMoving k_Net_isMoving [.ref this, va_rf p0] h (.inl (some (.int z))) h := by
  refine g_start2 (Lc := [(0, .ref this), (1, va_rf p0)]) (by decide) rfl rfl (by rcases p0 with _ | p0 <;> exact Nat.le_of_ble_eq_true rfl) (by rcases p0 with _ | p0 <;> rfl) fun X => ?_
  unfold Net_isMoving at hy
  refine g_aload_n 0 (i := 0) (pc' := 1) d_Net_isMoving_0 rfl rfl rfl ?_
  replace hy := g_gR_inv hy
  obtain ⟨fs1, x2, hc3, hv4, hy⟩ := hy
  refine g_getf (pc' := 4) d_Net_isMoving_1 hc3 rfl (by decide) hv4 q563 (Or.inl rfl) rfl ?_
  refine g_aloadO_n 1 (i := 1) (pc' := 5) d_Net_isMoving_4 rfl rfl rfl ?_
  replace hy := g_nn_inv hy
  obtain ⟨a5, rfl, hy⟩ := hy
  replace hy := g_gI_inv hy
  obtain ⟨fs6, x7, hc8, hv9, hy⟩ := hy
  refine g_getfN (pc' := 8) d_Net_isMoving_5 hc8 rfl (by decide) hv9 q1167 rfl rfl ?_
  replace hy := g_nn_inv hy
  obtain ⟨a10, rfl, hy⟩ := hy
  replace hy := g_aA_inv hy
  obtain ⟨n12, f13, hc14, hi15, hy⟩ := hy
  refine g_aald (pc' := 9) d_Net_isMoving_8 hc14 (by decide) hi15 rfl ?_
  generalize f13 (x7).toNatClampNeg = x11 at hy ⊢
  refine g_astoreO_n (i := 2) (pc' := 10) (Lc' := [(2, va_rf x11), (0, .ref this), (1, .ref a5)]) d_Net_isMoving_9 rfl (by decide) rfl rfl ?_
  refine g_aloadO_n 0 (i := 2) (pc' := 11) d_Net_isMoving_10 rfl rfl rfl ?_
  replace hy := g_nn_inv hy
  obtain ⟨a16, rfl, hy⟩ := hy
  replace hy := g_cls_inv hy
  obtain ⟨ci17, fs18, hc19, hy⟩ := hy
  by_cases c20 : ci17 = 2
  · rw [if_pos c20] at hy
    rw [c20] at hc19
    replace hy := g_b_inv hy
    obtain ⟨x21, hf23, hy⟩ := hy
    refine g_callF (x := ⟨"CircuitDesk$Phase", "isMoving", "()Z"⟩) (rv := some (.int x21)) (h1 := h) (pc' := 16) (As := []) (rest := []) 0 (T_Resting_isMoving (hy := hf23)) d_Net_isMoving_11 hc19 rfl (by decide) (g_wsF q1510 q1523 q1525 q130 q1527) ⟨by decide, by decide, by decide +kernel⟩ rfl ⟨by decide, by decide⟩ (by first | exact Nat.le_of_ble_eq_true rfl | (simp only [List.map, List.sum_cons, List.sum_nil, g_cat_rf]; exact Nat.le_of_ble_eq_true rfl) | (simp only [List.map, List.sum_cons, List.sum_nil, g_cat_rf, Value.category]; decide)) rfl ?_
    refine g_sub [] rfl ?_
    exact W_Net_isMoving_16 _ _ _ hy
  · rw [if_neg c20] at hy
    by_cases c25 : ci17 = 3
    · rw [if_pos c25] at hy
      rw [c25] at hc19
      replace hy := g_b_inv hy
      obtain ⟨x26, hf28, hy⟩ := hy
      refine g_callD (rv := some (.int x26)) (h1 := h) (pc' := 16) (rest := []) (T_Phase_isMoving (hy := hf28)) d_Net_isMoving_11 hc19 rfl (by decide) (by decide) q1510 q1517 ⟨by decide, by decide⟩ (by first | exact Nat.le_of_ble_eq_true rfl | (simp only [List.map, List.sum_cons, List.sum_nil, g_cat_rf]; exact Nat.le_of_ble_eq_true rfl) | (simp only [List.map, List.sum_cons, List.sum_nil, g_cat_rf, Value.category]; decide)) rfl ?_
      refine g_sub [] rfl ?_
      exact W_Net_isMoving_16 _ _ _ hy
    · rw [if_neg c25] at hy
      by_cases c29 : ci17 = 4
      · rw [if_pos c29] at hy
        rw [c29] at hc19
        replace hy := g_b_inv hy
        obtain ⟨x30, hf32, hy⟩ := hy
        refine g_callD (rv := some (.int x30)) (h1 := h) (pc' := 16) (rest := []) (T_Phase_isMoving (hy := hf32)) d_Net_isMoving_11 hc19 rfl (by decide) (by decide) q1510 q1517 ⟨by decide, by decide⟩ (by first | exact Nat.le_of_ble_eq_true rfl | (simp only [List.map, List.sum_cons, List.sum_nil, g_cat_rf]; exact Nat.le_of_ble_eq_true rfl) | (simp only [List.map, List.sum_cons, List.sum_nil, g_cat_rf, Value.category]; decide)) rfl ?_
        refine g_sub [] rfl ?_
        exact W_Net_isMoving_16 _ _ _ hy
      · rw [if_neg c29] at hy
        by_cases c33 : ci17 = 5
        · rw [if_pos c33] at hy
          rw [c33] at hc19
          replace hy := g_b_inv hy
          obtain ⟨x34, hf36, hy⟩ := hy
          refine g_callD (rv := some (.int x34)) (h1 := h) (pc' := 16) (rest := []) (T_Phase_isMoving (hy := hf36)) d_Net_isMoving_11 hc19 rfl (by decide) (by decide) q1510 q1517 ⟨by decide, by decide⟩ (by first | exact Nat.le_of_ble_eq_true rfl | (simp only [List.map, List.sum_cons, List.sum_nil, g_cat_rf]; exact Nat.le_of_ble_eq_true rfl) | (simp only [List.map, List.sum_cons, List.sum_nil, g_cat_rf, Value.category]; decide)) rfl ?_
          refine g_sub [] rfl ?_
          exact W_Net_isMoving_16 _ _ _ hy
        · rw [if_neg c33] at hy
          cases hy
theorem hd_Net_isMoving : g_dsc y_Net_isMoving 1 := ⟨by decide +kernel, by decide +kernel, by decide +kernel⟩
/-! CircuitDesk.moving()I -/
abbrev y_Desk_moving : MethodName := ⟨"CircuitDesk", "moving", "()I"⟩
abbrev k_Desk_moving : g_M := (prog_1_method_16_code, 4, "CircuitDesk", 15, (some FieldType.int), "moving", [], 0)
theorem d_Desk_moving_0 : decode prog_1_method_16_code 0 = .ok (.iconst 0, 1) := by decide +kernel
theorem d_Desk_moving_1 : decode prog_1_method_16_code 1 = .ok (.istore_n 1, 1) := by decide +kernel
theorem d_Desk_moving_2 : decode prog_1_method_16_code 2 = .ok (.aload_n 0, 1) := by decide +kernel
theorem d_Desk_moving_3 : decode prog_1_method_16_code 3 = .ok (.getfield 19, 3) := by decide +kernel
theorem d_Desk_moving_6 : decode prog_1_method_16_code 6 = .ok (.getfield 73, 3) := by decide +kernel
theorem d_Desk_moving_9 : decode prog_1_method_16_code 9 = .ok (.invokevirtual 133, 3) := by decide +kernel
theorem d_Desk_moving_12 : decode prog_1_method_16_code 12 = .ok (.astore_n 2, 1) := by decide +kernel
theorem d_Desk_moving_13 : decode prog_1_method_16_code 13 = .ok (.aload_n 2, 1) := by decide +kernel
theorem d_Desk_moving_14 : decode prog_1_method_16_code 14 = .ok (.invokeinterface 137 1, 5) := by decide +kernel
theorem d_Desk_moving_19 : decode prog_1_method_16_code 19 = .ok (.ifCond .eq 35, 3) := by decide +kernel
theorem d_Desk_moving_22 : decode prog_1_method_16_code 22 = .ok (.aload_n 2, 1) := by decide +kernel
theorem d_Desk_moving_23 : decode prog_1_method_16_code 23 = .ok (.invokeinterface 143 1, 5) := by decide +kernel
theorem d_Desk_moving_28 : decode prog_1_method_16_code 28 = .ok (.checkcast 76, 3) := by decide +kernel
theorem d_Desk_moving_31 : decode prog_1_method_16_code 31 = .ok (.astore_n 3, 1) := by decide +kernel
theorem d_Desk_moving_32 : decode prog_1_method_16_code 32 = .ok (.iload_n 1, 1) := by decide +kernel
theorem d_Desk_moving_33 : decode prog_1_method_16_code 33 = .ok (.aload_n 0, 1) := by decide +kernel
theorem d_Desk_moving_34 : decode prog_1_method_16_code 34 = .ok (.getfield 19, 3) := by decide +kernel
theorem d_Desk_moving_37 : decode prog_1_method_16_code 37 = .ok (.aload_n 3, 1) := by decide +kernel
theorem d_Desk_moving_38 : decode prog_1_method_16_code 38 = .ok (.invokevirtual 147, 3) := by decide +kernel
theorem d_Desk_moving_41 : decode prog_1_method_16_code 41 = .ok (.ifCond .eq 7, 3) := by decide +kernel
theorem d_Desk_moving_44 : decode prog_1_method_16_code 44 = .ok (.iconst 1, 1) := by decide +kernel
theorem d_Desk_moving_45 : decode prog_1_method_16_code 45 = .ok (.goto 4, 3) := by decide +kernel
theorem d_Desk_moving_48 : decode prog_1_method_16_code 48 = .ok (.iconst 0, 1) := by decide +kernel
theorem d_Desk_moving_49 : decode prog_1_method_16_code 49 = .ok (.iadd, 1) := by decide +kernel
theorem d_Desk_moving_50 : decode prog_1_method_16_code 50 = .ok (.istore_n 1, 1) := by decide +kernel
theorem d_Desk_moving_51 : decode prog_1_method_16_code 51 = .ok (.goto (-38), 3) := by decide +kernel
theorem d_Desk_moving_54 : decode prog_1_method_16_code 54 = .ok (.iload_n 1, 1) := by decide +kernel
theorem d_Desk_moving_55 : decode prog_1_method_16_code 55 = .ok (.ireturn, 1) := by decide +kernel
def Desk_moving_49 (k13 : g_AH → Nat → Int32 → Option Nat → Option (Int32 × g_AH)) (h : g_AH) (v0 : Nat) (v2 : Option Nat) (s0 : Int32) (s1 : Int32) : Option (Int32 × g_AH) :=
  k13 h v0 (s1 + s0) v2
set_option maxHeartbeats 4000000 in
set_option maxRecDepth 100000 in
theorem W_Desk_moving_49 {X : g_X} (z : Int32 × g_AH) (k13 : g_AH → Nat → Int32 → Option Nat → Option (Int32 × g_AH)) (hk13 : ∀ (h : g_AH) (v0 : Nat) (v1 : Int32) (v2 : Option Nat), k13 h v0 v1 v2 = some z → G X k_Desk_moving (.inl (some (.int z.1))) z.2 h 13 [(0, .ref v0), (1, .int v1), (2, va_rf v2)] []) (h : g_AH) (v0 : Nat) (v2 : Option Nat) (s0 : Int32) (s1 : Int32) (hy : Desk_moving_49 k13 h v0 v2 s0 s1 = some z) : G X k_Desk_moving (.inl (some (.int z.1))) z.2 h 49 [(0, .ref v0), (2, va_rf v2)] [.int s0, .int s1] := by
  unfold Desk_moving_49 at hy
  refine g_iadd (pc' := 50) d_Desk_moving_49 rfl ?_
  refine g_istore_n (i := 1) (pc' := 51) (Lc' := [(1, .int (s1 + s0)), (0, .ref v0), (2, va_rf v2)]) d_Desk_moving_50 rfl (by decide) rfl rfl ?_
  refine g_goto (pc' := 13) d_Desk_moving_51 (by decide) ?_
  refine g_sub [1, 0, 2] rfl ?_
  exact hk13 _ _ _ _ hy
def Desk_moving_13  : Nat → g_AH → Nat → Int32 → Option Nat → Option (Int32 × g_AH)
  | 0, _, _, _, _ => none
  | n + 1, h, v0, v1, v2 => g_nn v2 fun a16 => g_is h a16 16 <| g_b (ArrayListItr_hasNext h a16) fun x19 => if x19 = 0 then (some (v1, h)) else (g_is h a16 16 <| g_b2 (ArrayListItr_next h a16) fun x25 h26 => g_ck h26 x25 12 <| g_gR h26 v0 0 0 fun x30 => g_nn x30 fun a33 => g_is h26 a33 1 <| g_b (Net_isMoving h26 a33 x25) fun x36 => if x36 = 0 then (Desk_moving_49 (Desk_moving_13  n) h26 v0 (some a16) (0 : Int32) v1) else (Desk_moving_49 (Desk_moving_13  n) h26 v0 (some a16) (1 : Int32) v1))
set_option maxHeartbeats 4000000 in
set_option maxRecDepth 100000 in
theorem W_Desk_moving_13 {X : g_X} (z : Int32 × g_AH)  : ∀ (n : Nat) (h : g_AH) (v0 : Nat) (v1 : Int32) (v2 : Option Nat), Desk_moving_13  n h v0 v1 v2 = some z → G X k_Desk_moving (.inl (some (.int z.1))) z.2 h 13 [(0, .ref v0), (1, .int v1), (2, va_rf v2)] [] := by
  intro n
  induction n with
  | zero => intro h v0 v1 v2 hy; exact absurd hy (by simp [Desk_moving_13])
  | succ n ih =>
    intro h v0 v1 v2 hy
    rw [Desk_moving_13] at hy
    refine g_aloadO_n 2 (i := 2) (pc' := 14) d_Desk_moving_13 rfl rfl rfl ?_
    replace hy := g_nn_inv hy
    obtain ⟨a16, rfl, hy⟩ := hy
    replace hy := g_is_inv hy
    obtain ⟨fs17, hc18, hy⟩ := hy
    replace hy := g_b_inv hy
    obtain ⟨x19, hf21, hy⟩ := hy
    refine g_callF (x := ⟨"java/util/Iterator", "hasNext", "()Z"⟩) (rv := some (.int x19)) (h1 := h) (pc' := 19) (As := []) (rest := []) 0 (T_ArrayListItr_hasNext (hy := hf21)) d_Desk_moving_14 hc18 rfl (by decide) (g_wsF q1483 q1487 q1489 q145 q1491) ⟨by decide, by decide, by decide +kernel⟩ rfl ⟨by decide, by decide⟩ (by first | exact Nat.le_of_ble_eq_true rfl | (simp only [List.map, List.sum_cons, List.sum_nil, g_cat_rf]; exact Nat.le_of_ble_eq_true rfl) | (simp only [List.map, List.sum_cons, List.sum_nil, g_cat_rf, Value.category]; decide)) rfl ?_
    by_cases c22 : x19 = 0
    · rw [if_pos c22] at hy
      refine g_if_eqT (pc' := 54) d_Desk_moving_19 c22 (by decide) ?_
      refine g_iload_n 1 (i := 1) (pc' := 55) d_Desk_moving_54 rfl rfl rfl ?_
      cases hy
      exact g_iret rfl rfl rfl d_Desk_moving_55
    · rw [if_neg c22] at hy
      refine g_if_eqF (pc' := 22) d_Desk_moving_19 54 c22 (by decide) rfl ?_
      refine g_aload_n 2 (i := 2) (pc' := 23) d_Desk_moving_22 rfl rfl rfl ?_
      replace hy := g_is_inv hy
      obtain ⟨fs23, hc24, hy⟩ := hy
      replace hy := g_b2_inv hy
      obtain ⟨x25, h26, hf27, hy⟩ := hy
      refine g_callF (x := ⟨"java/util/Iterator", "next", "()Ljava/lang/Object;"⟩) (rv := some (va_rf x25)) (h1 := h26) (pc' := 28) (As := []) (rest := []) 0 (T_ArrayListItr_next (hy := hf27)) d_Desk_moving_23 hc24 rfl (by decide) (g_wsF q1493 q1496 q1498 q145 q1500) ⟨by decide, by decide, by decide +kernel⟩ rfl ⟨by decide, by decide⟩ (by first | exact Nat.le_of_ble_eq_true rfl | (simp only [List.map, List.sum_cons, List.sum_nil, g_cat_rf]; exact Nat.le_of_ble_eq_true rfl) | (simp only [List.map, List.sum_cons, List.sum_nil, g_cat_rf, Value.category]; decide)) rfl ?_
      replace hy := g_ck_inv hy
      obtain ⟨hk28, hy⟩ := hy
      refine g_castO (pc' := 31) d_Desk_moving_28 hk28 rfl q716 rfl ?_
      refine g_astoreO_n (i := 3) (pc' := 32) (Lc' := [(3, va_rf x25), (0, .ref v0), (1, .int v1), (2, .ref a16)]) d_Desk_moving_31 rfl (by decide) rfl rfl ?_
      refine g_iload_n 2 (i := 1) (pc' := 33) d_Desk_moving_32 rfl rfl rfl ?_
      refine g_aload_n 1 (i := 0) (pc' := 34) d_Desk_moving_33 rfl rfl rfl ?_
      replace hy := g_gR_inv hy
      obtain ⟨fs29, x30, hc31, hv32, hy⟩ := hy
      refine g_getf (pc' := 37) d_Desk_moving_34 hc31 rfl (by decide) hv32 q642 (Or.inl rfl) rfl ?_
      refine g_aloadO_n 0 (i := 3) (pc' := 38) d_Desk_moving_37 rfl rfl rfl ?_
      replace hy := g_nn_inv hy
      obtain ⟨a33, rfl, hy⟩ := hy
      replace hy := g_is_inv hy
      obtain ⟨fs34, hc35, hy⟩ := hy
      replace hy := g_b_inv hy
      obtain ⟨x36, hf38, hy⟩ := hy
      refine g_callV (rv := some (.int x36)) (h1 := h26) (pc' := 41) (As := [va_rf x25]) (rest := [.int v1]) 1 (T_Net_isMoving (hy := hf38)) d_Desk_moving_38 hc35 rfl rfl q1505 q1506 q1507 q109 q1508 hd_Net_isMoving rfl ⟨by decide, by decide⟩ (by first | exact Nat.le_of_ble_eq_true rfl | (simp only [List.map, List.sum_cons, List.sum_nil, g_cat_rf]; exact Nat.le_of_ble_eq_true rfl) | (simp only [List.map, List.sum_cons, List.sum_nil, g_cat_rf, Value.category]; decide)) rfl ?_
      by_cases c39 : x36 = 0
      · rw [if_pos c39] at hy
        refine g_if_eqT (pc' := 48) d_Desk_moving_41 c39 (by decide) ?_
        refine g_iconst (v := (0 : Int32)) (pc' := 49) d_Desk_moving_48 (by decide) rfl ?_
        refine g_sub [1, 3] rfl ?_
        exact W_Desk_moving_49 _ _ ih _ _ _ _ _ hy
      · rw [if_neg c39] at hy
        refine g_if_eqF (pc' := 44) d_Desk_moving_41 48 c39 (by decide) rfl ?_
        refine g_iconst (v := (1 : Int32)) (pc' := 45) d_Desk_moving_44 (by decide) rfl ?_
        refine g_goto (pc' := 49) d_Desk_moving_45 (by decide) ?_
        refine g_sub [1, 3] rfl ?_
        exact W_Desk_moving_49 _ _ ih _ _ _ _ _ hy
def Desk_moving (h : g_AH) (this : Nat) : Option (Int32 × g_AH) :=
  g_gR h this 0 0 fun x2 => g_nn x2 fun a5 => g_gR h a5 1 3 fun x7 => g_nn x7 fun a10 => g_is h a10 15 <| g_b2 (ArrayList_iterator h a10) fun x13 h14 => Desk_moving_13  gFU h14 this (0 : Int32) x13
set_option maxHeartbeats 4000000 in
set_option maxRecDepth 100000 in
theorem T_Desk_moving {l : Launch} {B : g_B} (h : g_AH) (this : Nat) (z : Int32 × g_AH) (hy : Desk_moving h this = some z) : g_CT l B y_Desk_moving k_Desk_moving [.ref this] h (.inl (some (.int z.1))) z.2 := by
  refine g_start2 (Lc := [(0, .ref this)]) (by decide) rfl rfl (by exact Nat.le_of_ble_eq_true rfl) (by rfl) fun X => ?_
  unfold Desk_moving at hy
  refine g_iconst (v := (0 : Int32)) (pc' := 1) d_Desk_moving_0 (by decide) rfl ?_
  refine g_istore_n (i := 1) (pc' := 2) (Lc' := [(1, .int (0 : Int32)), (0, .ref this)]) d_Desk_moving_1 rfl (by decide) rfl rfl ?_
  refine g_aload_n 1 (i := 0) (pc' := 3) d_Desk_moving_2 rfl rfl rfl ?_
  replace hy := g_gR_inv hy
  obtain ⟨fs1, x2, hc3, hv4, hy⟩ := hy
  refine g_getf (pc' := 6) d_Desk_moving_3 hc3 rfl (by decide) hv4 q642 (Or.inl rfl) rfl ?_
  replace hy := g_nn_inv hy
  obtain ⟨a5, rfl, hy⟩ := hy
  replace hy := g_gR_inv hy
  obtain ⟨fs6, x7, hc8, hv9, hy⟩ := hy
  refine g_getfN (pc' := 9) d_Desk_moving_6 hc8 rfl (by decide) hv9 q559 rfl rfl ?_
  replace hy := g_nn_inv hy
  obtain ⟨a10, rfl, hy⟩ := hy
  replace hy := g_is_inv hy
  obtain ⟨fs11, hc12, hy⟩ := hy
  replace hy := g_b2_inv hy
  obtain ⟨x13, h14, hf15, hy⟩ := hy
  refine g_callV (rv := some (va_rf x13)) (h1 := h14) (pc' := 12) (As := []) (rest := []) 0 (T_ArrayList_iterator (hy := hf15)) d_Desk_moving_9 hc12 rfl rfl q1459 q1460 q1461 q112 q1462 hd_ArrayList_iterator rfl ⟨by decide, by decide⟩ (by first | exact Nat.le_of_ble_eq_true rfl | (simp only [List.map, List.sum_cons, List.sum_nil, g_cat_rf]; exact Nat.le_of_ble_eq_true rfl) | (simp only [List.map, List.sum_cons, List.sum_nil, g_cat_rf, Value.category]; decide)) rfl ?_
  refine g_astoreO_n (i := 2) (pc' := 13) (Lc' := [(2, va_rf x13), (1, .int (0 : Int32)), (0, .ref this)]) d_Desk_moving_12 rfl (by decide) rfl rfl ?_
  refine g_sub [2, 1, 0] rfl ?_
  exact W_Desk_moving_13 _ _ _ _ _ _ hy
theorem hd_Desk_moving : g_dsc y_Desk_moving 0 := ⟨by decide +kernel, by decide +kernel, by decide +kernel⟩
/-! CircuitDesk.count(I)I -/
abbrev y_Desk_count : MethodName := ⟨"CircuitDesk", "count", "(I)I"⟩
abbrev k_Desk_count : g_M := (prog_1_method_17_code, 2, "CircuitDesk", 18, (some FieldType.int), "count", [], 0)
theorem d_Desk_count_0 : decode prog_1_method_17_code 0 = .ok (.iload_n 1, 1) := by decide +kernel
theorem d_Desk_count_1 : decode prog_1_method_17_code 1 = .ok (.i2l, 1) := by decide +kernel
theorem d_Desk_count_2 : decode prog_1_method_17_code 2 = .ok (.lconst 0, 1) := by decide +kernel
theorem d_Desk_count_3 : decode prog_1_method_17_code 3 = .ok (.ldc2_w 151, 3) := by decide +kernel
theorem d_Desk_count_6 : decode prog_1_method_17_code 6 = .ok (.invokestatic 54, 3) := by decide +kernel
theorem d_Desk_count_9 : decode prog_1_method_17_code 9 = .ok (.invokestatic 80, 3) := by decide +kernel
theorem d_Desk_count_12 : decode prog_1_method_17_code 12 = .ok (.iload_n 1, 1) := by decide +kernel
theorem d_Desk_count_13 : decode prog_1_method_17_code 13 = .ok (.tableswitch 237 0 15 #[79, 79, 91, 104, 117, 130, 140, 153, 163, 173, 183, 193, 203, 210, 217, 227], 79) := by decide +kernel
theorem d_Desk_count_92 : decode prog_1_method_17_code 92 = .ok (.aload_n 0, 1) := by decide +kernel
theorem d_Desk_count_93 : decode prog_1_method_17_code 93 = .ok (.getfield 19, 3) := by decide +kernel
theorem d_Desk_count_96 : decode prog_1_method_17_code 96 = .ok (.getfield 126, 3) := by decide +kernel
theorem d_Desk_count_99 : decode prog_1_method_17_code 99 = .ok (.iload_n 1, 1) := by decide +kernel
theorem d_Desk_count_100 : decode prog_1_method_17_code 100 = .ok (.iaload, 1) := by decide +kernel
theorem d_Desk_count_101 : decode prog_1_method_17_code 101 = .ok (.goto 156, 3) := by decide +kernel
theorem d_Desk_count_104 : decode prog_1_method_17_code 104 = .ok (.aload_n 0, 1) := by decide +kernel
theorem d_Desk_count_105 : decode prog_1_method_17_code 105 = .ok (.getfield 19, 3) := by decide +kernel
theorem d_Desk_count_108 : decode prog_1_method_17_code 108 = .ok (.getfield 44, 3) := by decide +kernel
theorem d_Desk_count_111 : decode prog_1_method_17_code 111 = .ok (.invokevirtual 48, 3) := by decide +kernel
theorem d_Desk_count_114 : decode prog_1_method_17_code 114 = .ok (.goto 143, 3) := by decide +kernel
theorem d_Desk_count_117 : decode prog_1_method_17_code 117 = .ok (.aload_n 0, 1) := by decide +kernel
theorem d_Desk_count_118 : decode prog_1_method_17_code 118 = .ok (.getfield 19, 3) := by decide +kernel
theorem d_Desk_count_121 : decode prog_1_method_17_code 121 = .ok (.getfield 68, 3) := by decide +kernel
theorem d_Desk_count_124 : decode prog_1_method_17_code 124 = .ok (.invokevirtual 48, 3) := by decide +kernel
theorem d_Desk_count_127 : decode prog_1_method_17_code 127 = .ok (.goto 130, 3) := by decide +kernel
theorem d_Desk_count_130 : decode prog_1_method_17_code 130 = .ok (.aload_n 0, 1) := by decide +kernel
theorem d_Desk_count_131 : decode prog_1_method_17_code 131 = .ok (.getfield 19, 3) := by decide +kernel
theorem d_Desk_count_134 : decode prog_1_method_17_code 134 = .ok (.getfield 73, 3) := by decide +kernel
theorem d_Desk_count_137 : decode prog_1_method_17_code 137 = .ok (.invokevirtual 48, 3) := by decide +kernel
theorem d_Desk_count_140 : decode prog_1_method_17_code 140 = .ok (.goto 117, 3) := by decide +kernel
theorem d_Desk_count_143 : decode prog_1_method_17_code 143 = .ok (.aload_n 0, 1) := by decide +kernel
theorem d_Desk_count_144 : decode prog_1_method_17_code 144 = .ok (.getfield 19, 3) := by decide +kernel
theorem d_Desk_count_147 : decode prog_1_method_17_code 147 = .ok (.getfield 153, 3) := by decide +kernel
theorem d_Desk_count_150 : decode prog_1_method_17_code 150 = .ok (.goto 107, 3) := by decide +kernel
theorem d_Desk_count_153 : decode prog_1_method_17_code 153 = .ok (.aload_n 0, 1) := by decide +kernel
theorem d_Desk_count_154 : decode prog_1_method_17_code 154 = .ok (.getfield 19, 3) := by decide +kernel
theorem d_Desk_count_157 : decode prog_1_method_17_code 157 = .ok (.getfield 156, 3) := by decide +kernel
theorem d_Desk_count_160 : decode prog_1_method_17_code 160 = .ok (.invokevirtual 48, 3) := by decide +kernel
theorem d_Desk_count_163 : decode prog_1_method_17_code 163 = .ok (.goto 94, 3) := by decide +kernel
theorem d_Desk_count_166 : decode prog_1_method_17_code 166 = .ok (.aload_n 0, 1) := by decide +kernel
theorem d_Desk_count_167 : decode prog_1_method_17_code 167 = .ok (.getfield 19, 3) := by decide +kernel
theorem d_Desk_count_170 : decode prog_1_method_17_code 170 = .ok (.getfield 159, 3) := by decide +kernel
theorem d_Desk_count_173 : decode prog_1_method_17_code 173 = .ok (.goto 84, 3) := by decide +kernel
theorem d_Desk_count_176 : decode prog_1_method_17_code 176 = .ok (.aload_n 0, 1) := by decide +kernel
theorem d_Desk_count_177 : decode prog_1_method_17_code 177 = .ok (.getfield 19, 3) := by decide +kernel
theorem d_Desk_count_180 : decode prog_1_method_17_code 180 = .ok (.getfield 162, 3) := by decide +kernel
theorem d_Desk_count_183 : decode prog_1_method_17_code 183 = .ok (.goto 74, 3) := by decide +kernel
theorem d_Desk_count_186 : decode prog_1_method_17_code 186 = .ok (.aload_n 0, 1) := by decide +kernel
theorem d_Desk_count_187 : decode prog_1_method_17_code 187 = .ok (.getfield 19, 3) := by decide +kernel
theorem d_Desk_count_190 : decode prog_1_method_17_code 190 = .ok (.getfield 165, 3) := by decide +kernel
theorem d_Desk_count_193 : decode prog_1_method_17_code 193 = .ok (.goto 64, 3) := by decide +kernel
theorem d_Desk_count_196 : decode prog_1_method_17_code 196 = .ok (.aload_n 0, 1) := by decide +kernel
theorem d_Desk_count_197 : decode prog_1_method_17_code 197 = .ok (.getfield 19, 3) := by decide +kernel
theorem d_Desk_count_200 : decode prog_1_method_17_code 200 = .ok (.getfield 168, 3) := by decide +kernel
theorem d_Desk_count_203 : decode prog_1_method_17_code 203 = .ok (.goto 54, 3) := by decide +kernel
theorem d_Desk_count_206 : decode prog_1_method_17_code 206 = .ok (.aload_n 0, 1) := by decide +kernel
theorem d_Desk_count_207 : decode prog_1_method_17_code 207 = .ok (.getfield 19, 3) := by decide +kernel
theorem d_Desk_count_210 : decode prog_1_method_17_code 210 = .ok (.getfield 171, 3) := by decide +kernel
theorem d_Desk_count_213 : decode prog_1_method_17_code 213 = .ok (.goto 44, 3) := by decide +kernel
theorem d_Desk_count_216 : decode prog_1_method_17_code 216 = .ok (.aload_n 0, 1) := by decide +kernel
theorem d_Desk_count_217 : decode prog_1_method_17_code 217 = .ok (.invokevirtual 174, 3) := by decide +kernel
theorem d_Desk_count_220 : decode prog_1_method_17_code 220 = .ok (.goto 37, 3) := by decide +kernel
theorem d_Desk_count_223 : decode prog_1_method_17_code 223 = .ok (.aload_n 0, 1) := by decide +kernel
theorem d_Desk_count_224 : decode prog_1_method_17_code 224 = .ok (.invokevirtual 177, 3) := by decide +kernel
theorem d_Desk_count_227 : decode prog_1_method_17_code 227 = .ok (.goto 30, 3) := by decide +kernel
theorem d_Desk_count_230 : decode prog_1_method_17_code 230 = .ok (.aload_n 0, 1) := by decide +kernel
theorem d_Desk_count_231 : decode prog_1_method_17_code 231 = .ok (.getfield 19, 3) := by decide +kernel
theorem d_Desk_count_234 : decode prog_1_method_17_code 234 = .ok (.getfield 180, 3) := by decide +kernel
theorem d_Desk_count_237 : decode prog_1_method_17_code 237 = .ok (.goto 20, 3) := by decide +kernel
theorem d_Desk_count_240 : decode prog_1_method_17_code 240 = .ok (.aload_n 0, 1) := by decide +kernel
theorem d_Desk_count_241 : decode prog_1_method_17_code 241 = .ok (.getfield 19, 3) := by decide +kernel
theorem d_Desk_count_244 : decode prog_1_method_17_code 244 = .ok (.getfield 183, 3) := by decide +kernel
theorem d_Desk_count_247 : decode prog_1_method_17_code 247 = .ok (.goto 10, 3) := by decide +kernel
theorem d_Desk_count_250 : decode prog_1_method_17_code 250 = .ok (.aload_n 0, 1) := by decide +kernel
theorem d_Desk_count_251 : decode prog_1_method_17_code 251 = .ok (.getfield 28, 3) := by decide +kernel
theorem d_Desk_count_254 : decode prog_1_method_17_code 254 = .ok (.getfield 186, 3) := by decide +kernel
theorem d_Desk_count_257 : decode prog_1_method_17_code 257 = .ok (.ireturn, 1) := by decide +kernel
def Desk_count_92 (h : g_AH) (v0 : Nat) (v1 : Int32) : Option ((Int32 ⊕ g_EX) × g_AH) :=
  g_gR h v0 0 0 fun x11 => g_nn x11 fun a14 => g_gR h a14 1 0 fun x16 => g_nn x16 fun a19 => g_aI h 0 a19 v1 fun x20 => some (.inl x20, h)
set_option maxHeartbeats 4000000 in
set_option maxRecDepth 100000 in
theorem W_Desk_count_92 {X : g_X} (z : (Int32 ⊕ g_EX) × g_AH) (h : g_AH) (v0 : Nat) (v1 : Int32) (hy : Desk_count_92  h v0 v1 = some z) : G X k_Desk_count (g_rI z.1) z.2 h 92 [(0, .ref v0), (1, .int v1)] [] := by
  unfold Desk_count_92 at hy
  refine g_aload_n 0 (i := 0) (pc' := 93) d_Desk_count_92 rfl rfl rfl ?_
  replace hy := g_gR_inv hy
  obtain ⟨fs10, x11, hc12, hv13, hy⟩ := hy
  refine g_getf (pc' := 96) d_Desk_count_93 hc12 rfl (by decide) hv13 q642 (Or.inl rfl) rfl ?_
  replace hy := g_nn_inv hy
  obtain ⟨a14, rfl, hy⟩ := hy
  replace hy := g_gR_inv hy
  obtain ⟨fs15, x16, hc17, hv18, hy⟩ := hy
  refine g_getfN (pc' := 99) d_Desk_count_96 hc17 rfl (by decide) hv18 q546 rfl rfl ?_
  refine g_iload_n 1 (i := 1) (pc' := 100) d_Desk_count_99 rfl rfl rfl ?_
  replace hy := g_nn_inv hy
  obtain ⟨a19, rfl, hy⟩ := hy
  replace hy := g_aI_inv hy
  obtain ⟨n21, f22, hc23, hi24, hy⟩ := hy
  refine g_iald (pc' := 101) d_Desk_count_100 hc23 hi24 rfl ?_
  generalize f22 (v1).toNatClampNeg = x20 at hy ⊢
  refine g_goto (pc' := 257) d_Desk_count_101 (by decide) ?_
  cases hy
  exact g_iret rfl rfl rfl d_Desk_count_257
def Desk_count (h : g_AH) (this : Nat) (p0 : Int32) : Option ((Int32 ⊕ g_EX) × g_AH) :=
  g_b (Desk_isBetween ((p0).toInt64) (0 : Int64) (16 : Int64)) fun x1 => g_bx (Desk_checkArgument h x1) fun x4 h5 => if p0 = (0 : Int32) then (Desk_count_92  h5 this p0) else (if p0 = (1 : Int32) then (Desk_count_92  h5 this p0) else (if p0 = (2 : Int32) then (g_gR h5 this 0 0 fun x28 => g_nn x28 fun a31 => g_gR h5 a31 1 1 fun x33 => g_nn x33 fun a36 => g_is h5 a36 15 <| g_b (ArrayList_size h5 a36) fun x39 => some (.inl x39, h5)) else (if p0 = (3 : Int32) then (g_gR h5 this 0 0 fun x44 => g_nn x44 fun a47 => g_gR h5 a47 1 2 fun x49 => g_nn x49 fun a52 => g_is h5 a52 15 <| g_b (ArrayList_size h5 a52) fun x55 => some (.inl x55, h5)) else (if p0 = (4 : Int32) then (g_gR h5 this 0 0 fun x60 => g_nn x60 fun a63 => g_gR h5 a63 1 3 fun x65 => g_nn x65 fun a68 => g_is h5 a68 15 <| g_b (ArrayList_size h5 a68) fun x71 => some (.inl x71, h5)) else (if p0 = (5 : Int32) then (g_gR h5 this 0 0 fun x76 => g_nn x76 fun a79 => g_gI h5 a79 1 6 fun x81 => some (.inl x81, h5)) else (if p0 = (6 : Int32) then (g_gR h5 this 0 0 fun x86 => g_nn x86 fun a89 => g_gR h5 a89 1 4 fun x91 => g_nn x91 fun a94 => g_is h5 a94 15 <| g_b (ArrayList_size h5 a94) fun x97 => some (.inl x97, h5)) else (if p0 = (7 : Int32) then (g_gR h5 this 0 0 fun x102 => g_nn x102 fun a105 => g_gI h5 a105 1 7 fun x107 => some (.inl x107, h5)) else (if p0 = (8 : Int32) then (g_gR h5 this 0 0 fun x112 => g_nn x112 fun a115 => g_gI h5 a115 1 8 fun x117 => some (.inl x117, h5)) else (if p0 = (9 : Int32) then (g_gR h5 this 0 0 fun x122 => g_nn x122 fun a125 => g_gI h5 a125 1 9 fun x127 => some (.inl x127, h5)) else (if p0 = (10 : Int32) then (g_gR h5 this 0 0 fun x132 => g_nn x132 fun a135 => g_gI h5 a135 1 10 fun x137 => some (.inl x137, h5)) else (if p0 = (11 : Int32) then (g_gR h5 this 0 0 fun x142 => g_nn x142 fun a145 => g_gI h5 a145 1 11 fun x147 => some (.inl x147, h5)) else (if p0 = (12 : Int32) then (g_is h5 this 0 <| g_b (Desk_lent h5 this) fun x153 => some (.inl x153, h5)) else (if p0 = (13 : Int32) then (g_is h5 this 0 <| g_b2 (Desk_moving h5 this) fun x159 h160 => some (.inl x159, h160)) else (if p0 = (14 : Int32) then (g_gR h5 this 0 0 fun x164 => g_nn x164 fun a167 => g_gI h5 a167 1 12 fun x169 => some (.inl x169, h5)) else (if p0 = (15 : Int32) then (g_gR h5 this 0 0 fun x174 => g_nn x174 fun a177 => g_gI h5 a177 1 13 fun x179 => some (.inl x179, h5)) else (g_gR h5 this 0 1 fun x183 => g_nn x183 fun a186 => g_gI h5 a186 6 3 fun x188 => some (.inl x188, h5)))))))))))))))))
set_option maxHeartbeats 4000000 in
set_option maxRecDepth 100000 in
theorem T_Desk_count {l : Launch} {B : g_B} (h : g_AH) (this : Nat) (p0 : Int32) (z : (Int32 ⊕ g_EX) × g_AH) (hy : Desk_count h this p0 = some z) : g_CT l B y_Desk_count k_Desk_count [.ref this, .int p0] h (g_rI z.1) z.2 := by
  refine g_start2 (Lc := [(0, .ref this), (1, .int p0)]) (by decide) rfl rfl (by exact Nat.le_of_ble_eq_true rfl) (by rfl) fun X => ?_
  unfold Desk_count at hy
  refine g_iload_n 1 (i := 1) (pc' := 1) d_Desk_count_0 rfl rfl rfl ?_
  refine g_i2l (pc' := 2) d_Desk_count_1 rfl ?_
  refine g_lconst (v := 0) (pc' := 3) d_Desk_count_2 (by decide) rfl ?_
  refine g_ldc2 (pc' := 6) d_Desk_count_3 q1449 rfl ?_
  replace hy := g_b_inv hy
  obtain ⟨x1, hf3, hy⟩ := hy
  refine g_callS (rv := some (.int x1)) (h1 := h) (pc' := 9) (As := [.long ((p0).toInt64), .long (0 : Int64), .long (16 : Int64)]) (rest := []) 3 (T_Desk_isBetween (hy := hf3)) d_Desk_count_6 q1330 q828 q108 q829 hd_Desk_isBetween rfl ⟨by decide, by decide⟩ (by first | exact Nat.le_of_ble_eq_true rfl | (simp only [List.map, List.sum_cons, List.sum_nil, g_cat_rf]; exact Nat.le_of_ble_eq_true rfl) | (simp only [List.map, List.sum_cons, List.sum_nil, g_cat_rf, Value.category]; decide)) rfl ?_
  replace hy := g_bx_inv hy
  rcases hy with ⟨x4, h5, hf6, hy⟩ | ⟨⟨E9, q9⟩, h5, hf6, ez8⟩
  rotate_left
  · subst ez8
    exact g_callSX (As := [.int x1]) (rest := []) 1 (T_Desk_checkArgument (hy := hf6)) d_Desk_count_9 q1331 q1332 q108 q1333 hd_Desk_checkArgument rfl ⟨by decide, by decide⟩ (by first | exact Nat.le_of_ble_eq_true rfl | (simp only [List.map, List.sum_cons, List.sum_nil, g_cat_rf]; exact Nat.le_of_ble_eq_true rfl) | (simp only [List.map, List.sum_cons, List.sum_nil, g_cat_rf, Value.category]; decide)) rfl rfl
  refine g_callS (rv := none) (h1 := h5) (pc' := 12) (As := [.int x1]) (rest := []) 1 (T_Desk_checkArgument (hy := hf6)) d_Desk_count_9 q1331 q1332 q108 q1333 hd_Desk_checkArgument rfl ⟨by decide, by decide⟩ (by first | exact Nat.le_of_ble_eq_true rfl | (simp only [List.map, List.sum_cons, List.sum_nil, g_cat_rf]; exact Nat.le_of_ble_eq_true rfl) | (simp only [List.map, List.sum_cons, List.sum_nil, g_cat_rf, Value.category]; decide)) rfl ?_
  refine g_iload_n 1 (i := 1) (pc' := 13) d_Desk_count_12 rfl rfl rfl ?_
  by_cases c9 : p0 = (0 : Int32)
  · rw [if_pos c9] at hy
    refine g_tableIn (pc' := 92) (0 : Int32) d_Desk_count_13 c9 (by decide) rfl (by decide) ?_
    exact W_Desk_count_92 _ _ _ _ hy
  · rw [if_neg c9] at hy
    by_cases c25 : p0 = (1 : Int32)
    · rw [if_pos c25] at hy
      refine g_tableIn (pc' := 92) (1 : Int32) d_Desk_count_13 c25 (by decide) rfl (by decide) ?_
      exact W_Desk_count_92 _ _ _ _ hy
    · rw [if_neg c25] at hy
      by_cases c26 : p0 = (2 : Int32)
      · rw [if_pos c26] at hy
        refine g_tableIn (pc' := 104) (2 : Int32) d_Desk_count_13 c26 (by decide) rfl (by decide) ?_
        refine g_aload_n 0 (i := 0) (pc' := 105) d_Desk_count_104 rfl rfl rfl ?_
        replace hy := g_gR_inv hy
        obtain ⟨fs27, x28, hc29, hv30, hy⟩ := hy
        refine g_getf (pc' := 108) d_Desk_count_105 hc29 rfl (by decide) hv30 q642 (Or.inl rfl) rfl ?_
        replace hy := g_nn_inv hy
        obtain ⟨a31, rfl, hy⟩ := hy
        replace hy := g_gR_inv hy
        obtain ⟨fs32, x33, hc34, hv35, hy⟩ := hy
        refine g_getfN (pc' := 111) d_Desk_count_108 hc34 rfl (by decide) hv35 q549 rfl rfl ?_
        replace hy := g_nn_inv hy
        obtain ⟨a36, rfl, hy⟩ := hy
        replace hy := g_is_inv hy
        obtain ⟨fs37, hc38, hy⟩ := hy
        replace hy := g_b_inv hy
        obtain ⟨x39, hf41, hy⟩ := hy
        refine g_callV (rv := some (.int x39)) (h1 := h5) (pc' := 114) (As := []) (rest := []) 0 (T_ArrayList_size (hy := hf41)) d_Desk_count_111 hc38 rfl rfl q673 q674 q675 q112 q676 hd_ArrayList_size rfl ⟨by decide, by decide⟩ (by first | exact Nat.le_of_ble_eq_true rfl | (simp only [List.map, List.sum_cons, List.sum_nil, g_cat_rf]; exact Nat.le_of_ble_eq_true rfl) | (simp only [List.map, List.sum_cons, List.sum_nil, g_cat_rf, Value.category]; decide)) rfl ?_
        refine g_goto (pc' := 257) d_Desk_count_114 (by decide) ?_
        cases hy
        exact g_iret rfl rfl rfl d_Desk_count_257
      · rw [if_neg c26] at hy
        by_cases c42 : p0 = (3 : Int32)
        · rw [if_pos c42] at hy
          refine g_tableIn (pc' := 117) (3 : Int32) d_Desk_count_13 c42 (by decide) rfl (by decide) ?_
          refine g_aload_n 0 (i := 0) (pc' := 118) d_Desk_count_117 rfl rfl rfl ?_
          replace hy := g_gR_inv hy
          obtain ⟨fs43, x44, hc45, hv46, hy⟩ := hy
          refine g_getf (pc' := 121) d_Desk_count_118 hc45 rfl (by decide) hv46 q642 (Or.inl rfl) rfl ?_
          replace hy := g_nn_inv hy
          obtain ⟨a47, rfl, hy⟩ := hy
          replace hy := g_gR_inv hy
          obtain ⟨fs48, x49, hc50, hv51, hy⟩ := hy
          refine g_getfN (pc' := 124) d_Desk_count_121 hc50 rfl (by decide) hv51 q553 rfl rfl ?_
          replace hy := g_nn_inv hy
          obtain ⟨a52, rfl, hy⟩ := hy
          replace hy := g_is_inv hy
          obtain ⟨fs53, hc54, hy⟩ := hy
          replace hy := g_b_inv hy
          obtain ⟨x55, hf57, hy⟩ := hy
          refine g_callV (rv := some (.int x55)) (h1 := h5) (pc' := 127) (As := []) (rest := []) 0 (T_ArrayList_size (hy := hf57)) d_Desk_count_124 hc54 rfl rfl q673 q674 q675 q112 q676 hd_ArrayList_size rfl ⟨by decide, by decide⟩ (by first | exact Nat.le_of_ble_eq_true rfl | (simp only [List.map, List.sum_cons, List.sum_nil, g_cat_rf]; exact Nat.le_of_ble_eq_true rfl) | (simp only [List.map, List.sum_cons, List.sum_nil, g_cat_rf, Value.category]; decide)) rfl ?_
          refine g_goto (pc' := 257) d_Desk_count_127 (by decide) ?_
          cases hy
          exact g_iret rfl rfl rfl d_Desk_count_257
        · rw [if_neg c42] at hy
          by_cases c58 : p0 = (4 : Int32)
          · rw [if_pos c58] at hy
            refine g_tableIn (pc' := 130) (4 : Int32) d_Desk_count_13 c58 (by decide) rfl (by decide) ?_
            refine g_aload_n 0 (i := 0) (pc' := 131) d_Desk_count_130 rfl rfl rfl ?_
            replace hy := g_gR_inv hy
            obtain ⟨fs59, x60, hc61, hv62, hy⟩ := hy
            refine g_getf (pc' := 134) d_Desk_count_131 hc61 rfl (by decide) hv62 q642 (Or.inl rfl) rfl ?_
            replace hy := g_nn_inv hy
            obtain ⟨a63, rfl, hy⟩ := hy
            replace hy := g_gR_inv hy
            obtain ⟨fs64, x65, hc66, hv67, hy⟩ := hy
            refine g_getfN (pc' := 137) d_Desk_count_134 hc66 rfl (by decide) hv67 q559 rfl rfl ?_
            replace hy := g_nn_inv hy
            obtain ⟨a68, rfl, hy⟩ := hy
            replace hy := g_is_inv hy
            obtain ⟨fs69, hc70, hy⟩ := hy
            replace hy := g_b_inv hy
            obtain ⟨x71, hf73, hy⟩ := hy
            refine g_callV (rv := some (.int x71)) (h1 := h5) (pc' := 140) (As := []) (rest := []) 0 (T_ArrayList_size (hy := hf73)) d_Desk_count_137 hc70 rfl rfl q673 q674 q675 q112 q676 hd_ArrayList_size rfl ⟨by decide, by decide⟩ (by first | exact Nat.le_of_ble_eq_true rfl | (simp only [List.map, List.sum_cons, List.sum_nil, g_cat_rf]; exact Nat.le_of_ble_eq_true rfl) | (simp only [List.map, List.sum_cons, List.sum_nil, g_cat_rf, Value.category]; decide)) rfl ?_
            refine g_goto (pc' := 257) d_Desk_count_140 (by decide) ?_
            cases hy
            exact g_iret rfl rfl rfl d_Desk_count_257
          · rw [if_neg c58] at hy
            by_cases c74 : p0 = (5 : Int32)
            · rw [if_pos c74] at hy
              refine g_tableIn (pc' := 143) (5 : Int32) d_Desk_count_13 c74 (by decide) rfl (by decide) ?_
              refine g_aload_n 0 (i := 0) (pc' := 144) d_Desk_count_143 rfl rfl rfl ?_
              replace hy := g_gR_inv hy
              obtain ⟨fs75, x76, hc77, hv78, hy⟩ := hy
              refine g_getf (pc' := 147) d_Desk_count_144 hc77 rfl (by decide) hv78 q642 (Or.inl rfl) rfl ?_
              replace hy := g_nn_inv hy
              obtain ⟨a79, rfl, hy⟩ := hy
              replace hy := g_gI_inv hy
              obtain ⟨fs80, x81, hc82, hv83, hy⟩ := hy
              refine g_getfN (pc' := 150) d_Desk_count_147 hc82 rfl (by decide) hv83 q565 rfl rfl ?_
              refine g_goto (pc' := 257) d_Desk_count_150 (by decide) ?_
              cases hy
              exact g_iret rfl rfl rfl d_Desk_count_257
            · rw [if_neg c74] at hy
              by_cases c84 : p0 = (6 : Int32)
              · rw [if_pos c84] at hy
                refine g_tableIn (pc' := 153) (6 : Int32) d_Desk_count_13 c84 (by decide) rfl (by decide) ?_
                refine g_aload_n 0 (i := 0) (pc' := 154) d_Desk_count_153 rfl rfl rfl ?_
                replace hy := g_gR_inv hy
                obtain ⟨fs85, x86, hc87, hv88, hy⟩ := hy
                refine g_getf (pc' := 157) d_Desk_count_154 hc87 rfl (by decide) hv88 q642 (Or.inl rfl) rfl ?_
                replace hy := g_nn_inv hy
                obtain ⟨a89, rfl, hy⟩ := hy
                replace hy := g_gR_inv hy
                obtain ⟨fs90, x91, hc92, hv93, hy⟩ := hy
                refine g_getfN (pc' := 160) d_Desk_count_157 hc92 rfl (by decide) hv93 q562 rfl rfl ?_
                replace hy := g_nn_inv hy
                obtain ⟨a94, rfl, hy⟩ := hy
                replace hy := g_is_inv hy
                obtain ⟨fs95, hc96, hy⟩ := hy
                replace hy := g_b_inv hy
                obtain ⟨x97, hf99, hy⟩ := hy
                refine g_callV (rv := some (.int x97)) (h1 := h5) (pc' := 163) (As := []) (rest := []) 0 (T_ArrayList_size (hy := hf99)) d_Desk_count_160 hc96 rfl rfl q673 q674 q675 q112 q676 hd_ArrayList_size rfl ⟨by decide, by decide⟩ (by first | exact Nat.le_of_ble_eq_true rfl | (simp only [List.map, List.sum_cons, List.sum_nil, g_cat_rf]; exact Nat.le_of_ble_eq_true rfl) | (simp only [List.map, List.sum_cons, List.sum_nil, g_cat_rf, Value.category]; decide)) rfl ?_
                refine g_goto (pc' := 257) d_Desk_count_163 (by decide) ?_
                cases hy
                exact g_iret rfl rfl rfl d_Desk_count_257
              · rw [if_neg c84] at hy
                by_cases c100 : p0 = (7 : Int32)
                · rw [if_pos c100] at hy
                  refine g_tableIn (pc' := 166) (7 : Int32) d_Desk_count_13 c100 (by decide) rfl (by decide) ?_
                  refine g_aload_n 0 (i := 0) (pc' := 167) d_Desk_count_166 rfl rfl rfl ?_
                  replace hy := g_gR_inv hy
                  obtain ⟨fs101, x102, hc103, hv104, hy⟩ := hy
                  refine g_getf (pc' := 170) d_Desk_count_167 hc103 rfl (by decide) hv104 q642 (Or.inl rfl) rfl ?_
                  replace hy := g_nn_inv hy
                  obtain ⟨a105, rfl, hy⟩ := hy
                  replace hy := g_gI_inv hy
                  obtain ⟨fs106, x107, hc108, hv109, hy⟩ := hy
                  refine g_getfN (pc' := 173) d_Desk_count_170 hc108 rfl (by decide) hv109 q567 rfl rfl ?_
                  refine g_goto (pc' := 257) d_Desk_count_173 (by decide) ?_
                  cases hy
                  exact g_iret rfl rfl rfl d_Desk_count_257
                · rw [if_neg c100] at hy
                  by_cases c110 : p0 = (8 : Int32)
                  · rw [if_pos c110] at hy
                    refine g_tableIn (pc' := 176) (8 : Int32) d_Desk_count_13 c110 (by decide) rfl (by decide) ?_
                    refine g_aload_n 0 (i := 0) (pc' := 177) d_Desk_count_176 rfl rfl rfl ?_
                    replace hy := g_gR_inv hy
                    obtain ⟨fs111, x112, hc113, hv114, hy⟩ := hy
                    refine g_getf (pc' := 180) d_Desk_count_177 hc113 rfl (by decide) hv114 q642 (Or.inl rfl) rfl ?_
                    replace hy := g_nn_inv hy
                    obtain ⟨a115, rfl, hy⟩ := hy
                    replace hy := g_gI_inv hy
                    obtain ⟨fs116, x117, hc118, hv119, hy⟩ := hy
                    refine g_getfN (pc' := 183) d_Desk_count_180 hc118 rfl (by decide) hv119 q569 rfl rfl ?_
                    refine g_goto (pc' := 257) d_Desk_count_183 (by decide) ?_
                    cases hy
                    exact g_iret rfl rfl rfl d_Desk_count_257
                  · rw [if_neg c110] at hy
                    by_cases c120 : p0 = (9 : Int32)
                    · rw [if_pos c120] at hy
                      refine g_tableIn (pc' := 186) (9 : Int32) d_Desk_count_13 c120 (by decide) rfl (by decide) ?_
                      refine g_aload_n 0 (i := 0) (pc' := 187) d_Desk_count_186 rfl rfl rfl ?_
                      replace hy := g_gR_inv hy
                      obtain ⟨fs121, x122, hc123, hv124, hy⟩ := hy
                      refine g_getf (pc' := 190) d_Desk_count_187 hc123 rfl (by decide) hv124 q642 (Or.inl rfl) rfl ?_
                      replace hy := g_nn_inv hy
                      obtain ⟨a125, rfl, hy⟩ := hy
                      replace hy := g_gI_inv hy
                      obtain ⟨fs126, x127, hc128, hv129, hy⟩ := hy
                      refine g_getfN (pc' := 193) d_Desk_count_190 hc128 rfl (by decide) hv129 q571 rfl rfl ?_
                      refine g_goto (pc' := 257) d_Desk_count_193 (by decide) ?_
                      cases hy
                      exact g_iret rfl rfl rfl d_Desk_count_257
                    · rw [if_neg c120] at hy
                      by_cases c130 : p0 = (10 : Int32)
                      · rw [if_pos c130] at hy
                        refine g_tableIn (pc' := 196) (10 : Int32) d_Desk_count_13 c130 (by decide) rfl (by decide) ?_
                        refine g_aload_n 0 (i := 0) (pc' := 197) d_Desk_count_196 rfl rfl rfl ?_
                        replace hy := g_gR_inv hy
                        obtain ⟨fs131, x132, hc133, hv134, hy⟩ := hy
                        refine g_getf (pc' := 200) d_Desk_count_197 hc133 rfl (by decide) hv134 q642 (Or.inl rfl) rfl ?_
                        replace hy := g_nn_inv hy
                        obtain ⟨a135, rfl, hy⟩ := hy
                        replace hy := g_gI_inv hy
                        obtain ⟨fs136, x137, hc138, hv139, hy⟩ := hy
                        refine g_getfN (pc' := 203) d_Desk_count_200 hc138 rfl (by decide) hv139 q573 rfl rfl ?_
                        refine g_goto (pc' := 257) d_Desk_count_203 (by decide) ?_
                        cases hy
                        exact g_iret rfl rfl rfl d_Desk_count_257
                      · rw [if_neg c130] at hy
                        by_cases c140 : p0 = (11 : Int32)
                        · rw [if_pos c140] at hy
                          refine g_tableIn (pc' := 206) (11 : Int32) d_Desk_count_13 c140 (by decide) rfl (by decide) ?_
                          refine g_aload_n 0 (i := 0) (pc' := 207) d_Desk_count_206 rfl rfl rfl ?_
                          replace hy := g_gR_inv hy
                          obtain ⟨fs141, x142, hc143, hv144, hy⟩ := hy
                          refine g_getf (pc' := 210) d_Desk_count_207 hc143 rfl (by decide) hv144 q642 (Or.inl rfl) rfl ?_
                          replace hy := g_nn_inv hy
                          obtain ⟨a145, rfl, hy⟩ := hy
                          replace hy := g_gI_inv hy
                          obtain ⟨fs146, x147, hc148, hv149, hy⟩ := hy
                          refine g_getfN (pc' := 213) d_Desk_count_210 hc148 rfl (by decide) hv149 q575 rfl rfl ?_
                          refine g_goto (pc' := 257) d_Desk_count_213 (by decide) ?_
                          cases hy
                          exact g_iret rfl rfl rfl d_Desk_count_257
                        · rw [if_neg c140] at hy
                          by_cases c150 : p0 = (12 : Int32)
                          · rw [if_pos c150] at hy
                            refine g_tableIn (pc' := 216) (12 : Int32) d_Desk_count_13 c150 (by decide) rfl (by decide) ?_
                            refine g_aload_n 0 (i := 0) (pc' := 217) d_Desk_count_216 rfl rfl rfl ?_
                            replace hy := g_is_inv hy
                            obtain ⟨fs151, hc152, hy⟩ := hy
                            replace hy := g_b_inv hy
                            obtain ⟨x153, hf155, hy⟩ := hy
                            refine g_callV (rv := some (.int x153)) (h1 := h5) (pc' := 220) (As := []) (rest := []) 0 (T_Desk_lent (hy := hf155)) d_Desk_count_217 hc152 rfl rfl q1450 q1452 qs19 q108 q1453 hd_Desk_lent rfl ⟨by decide, by decide⟩ (by first | exact Nat.le_of_ble_eq_true rfl | (simp only [List.map, List.sum_cons, List.sum_nil, g_cat_rf]; exact Nat.le_of_ble_eq_true rfl) | (simp only [List.map, List.sum_cons, List.sum_nil, g_cat_rf, Value.category]; decide)) rfl ?_
                            refine g_goto (pc' := 257) d_Desk_count_220 (by decide) ?_
                            cases hy
                            exact g_iret rfl rfl rfl d_Desk_count_257
                          · rw [if_neg c150] at hy
                            by_cases c156 : p0 = (13 : Int32)
                            · rw [if_pos c156] at hy
                              refine g_tableIn (pc' := 223) (13 : Int32) d_Desk_count_13 c156 (by decide) rfl (by decide) ?_
                              refine g_aload_n 0 (i := 0) (pc' := 224) d_Desk_count_223 rfl rfl rfl ?_
                              replace hy := g_is_inv hy
                              obtain ⟨fs157, hc158, hy⟩ := hy
                              replace hy := g_b2_inv hy
                              obtain ⟨x159, h160, hf161, hy⟩ := hy
                              refine g_callV (rv := some (.int x159)) (h1 := h160) (pc' := 227) (As := []) (rest := []) 0 (T_Desk_moving (hy := hf161)) d_Desk_count_224 hc158 rfl rfl q1455 q1457 qs20 q108 q1458 hd_Desk_moving rfl ⟨by decide, by decide⟩ (by first | exact Nat.le_of_ble_eq_true rfl | (simp only [List.map, List.sum_cons, List.sum_nil, g_cat_rf]; exact Nat.le_of_ble_eq_true rfl) | (simp only [List.map, List.sum_cons, List.sum_nil, g_cat_rf, Value.category]; decide)) rfl ?_
                              refine g_goto (pc' := 257) d_Desk_count_227 (by decide) ?_
                              cases hy
                              exact g_iret rfl rfl rfl d_Desk_count_257
                            · rw [if_neg c156] at hy
                              by_cases c162 : p0 = (14 : Int32)
                              · rw [if_pos c162] at hy
                                refine g_tableIn (pc' := 230) (14 : Int32) d_Desk_count_13 c162 (by decide) rfl (by decide) ?_
                                refine g_aload_n 0 (i := 0) (pc' := 231) d_Desk_count_230 rfl rfl rfl ?_
                                replace hy := g_gR_inv hy
                                obtain ⟨fs163, x164, hc165, hv166, hy⟩ := hy
                                refine g_getf (pc' := 234) d_Desk_count_231 hc165 rfl (by decide) hv166 q642 (Or.inl rfl) rfl ?_
                                replace hy := g_nn_inv hy
                                obtain ⟨a167, rfl, hy⟩ := hy
                                replace hy := g_gI_inv hy
                                obtain ⟨fs168, x169, hc170, hv171, hy⟩ := hy
                                refine g_getfN (pc' := 237) d_Desk_count_234 hc170 rfl (by decide) hv171 q578 rfl rfl ?_
                                refine g_goto (pc' := 257) d_Desk_count_237 (by decide) ?_
                                cases hy
                                exact g_iret rfl rfl rfl d_Desk_count_257
                              · rw [if_neg c162] at hy
                                by_cases c172 : p0 = (15 : Int32)
                                · rw [if_pos c172] at hy
                                  refine g_tableIn (pc' := 240) (15 : Int32) d_Desk_count_13 c172 (by decide) rfl (by decide) ?_
                                  refine g_aload_n 0 (i := 0) (pc' := 241) d_Desk_count_240 rfl rfl rfl ?_
                                  replace hy := g_gR_inv hy
                                  obtain ⟨fs173, x174, hc175, hv176, hy⟩ := hy
                                  refine g_getf (pc' := 244) d_Desk_count_241 hc175 rfl (by decide) hv176 q642 (Or.inl rfl) rfl ?_
                                  replace hy := g_nn_inv hy
                                  obtain ⟨a177, rfl, hy⟩ := hy
                                  replace hy := g_gI_inv hy
                                  obtain ⟨fs178, x179, hc180, hv181, hy⟩ := hy
                                  refine g_getfN (pc' := 247) d_Desk_count_244 hc180 rfl (by decide) hv181 q580 rfl rfl ?_
                                  refine g_goto (pc' := 257) d_Desk_count_247 (by decide) ?_
                                  cases hy
                                  exact g_iret rfl rfl rfl d_Desk_count_257
                                · rw [if_neg c172] at hy
                                  have c9 := g_neI (n := 0) (by decide) c9
                                  have c25 := g_neI (n := 1) (by decide) c25
                                  have c26 := g_neI (n := 2) (by decide) c26
                                  have c42 := g_neI (n := 3) (by decide) c42
                                  have c58 := g_neI (n := 4) (by decide) c58
                                  have c74 := g_neI (n := 5) (by decide) c74
                                  have c84 := g_neI (n := 6) (by decide) c84
                                  have c100 := g_neI (n := 7) (by decide) c100
                                  have c110 := g_neI (n := 8) (by decide) c110
                                  have c120 := g_neI (n := 9) (by decide) c120
                                  have c130 := g_neI (n := 10) (by decide) c130
                                  have c140 := g_neI (n := 11) (by decide) c140
                                  have c150 := g_neI (n := 12) (by decide) c150
                                  have c156 := g_neI (n := 13) (by decide) c156
                                  have c162 := g_neI (n := 14) (by decide) c162
                                  have c172 := g_neI (n := 15) (by decide) c172
                                  refine g_tableOut (pc' := 250) d_Desk_count_13 (by omega) (by decide) ?_
                                  refine g_aload_n 0 (i := 0) (pc' := 251) d_Desk_count_250 rfl rfl rfl ?_
                                  replace hy := g_gR_inv hy
                                  obtain ⟨fs182, x183, hc184, hv185, hy⟩ := hy
                                  refine g_getf (pc' := 254) d_Desk_count_251 hc184 rfl (by decide) hv185 q643 (Or.inl rfl) rfl ?_
                                  replace hy := g_nn_inv hy
                                  obtain ⟨a186, rfl, hy⟩ := hy
                                  replace hy := g_gI_inv hy
                                  obtain ⟨fs187, x188, hc189, hv190, hy⟩ := hy
                                  refine g_getfN (pc' := 257) d_Desk_count_254 hc189 rfl (by decide) hv190 q631 rfl rfl ?_
                                  cases hy
                                  exact g_iret rfl rfl rfl d_Desk_count_257
theorem hd_Desk_count : g_dsc y_Desk_count 1 := ⟨by decide +kernel, by decide +kernel, by decide +kernel⟩
/-! CircuitDesk$Node.free()I -/
abbrev y_Node_free : MethodName := ⟨"CircuitDesk$Node", "free", "()I"⟩
abbrev k_Node_free : g_M := (prog_8_method_4_code, 1, "CircuitDesk$Node", 13, (some FieldType.int), "free", [], 0)
theorem d_Node_free_0 : decode prog_8_method_4_code 0 = .ok (.aload_n 0, 1) := by decide +kernel
theorem d_Node_free_1 : decode prog_8_method_4_code 1 = .ok (.iconst (-1), 1) := by decide +kernel
theorem d_Node_free_2 : decode prog_8_method_4_code 2 = .ok (.invokevirtual 39, 3) := by decide +kernel
theorem d_Node_free_5 : decode prog_8_method_4_code 5 = .ok (.ireturn, 1) := by decide +kernel
def Node_free (h : g_AH) (this : Nat) : Option (Int32) :=
  g_is h this 10 <| g_b (Node_heldBy h this (-1 : Int32)) fun x3 => some x3
set_option maxHeartbeats 4000000 in
set_option maxRecDepth 100000 in
theorem T_Node_free {l : Launch} {B : g_B} (h : g_AH) (this : Nat) (z : Int32) (hy : Node_free h this = some z) : g_CT l B y_Node_free k_Node_free [.ref this] h (.inl (some (.int z))) h := by
  refine g_start2 (Lc := [(0, .ref this)]) (by decide) rfl rfl (by exact Nat.le_of_ble_eq_true rfl) (by rfl) fun X => ?_
  unfold Node_free at hy
  refine g_aload_n 0 (i := 0) (pc' := 1) d_Node_free_0 rfl rfl rfl ?_
  refine g_iconst (v := (-1 : Int32)) (pc' := 2) d_Node_free_1 (by decide) rfl ?_
  replace hy := g_is_inv hy
  obtain ⟨fs1, hc2, hy⟩ := hy
  replace hy := g_b_inv hy
  obtain ⟨x3, hf5, hy⟩ := hy
  refine g_callV (rv := some (.int x3)) (h1 := h) (pc' := 5) (As := [.int (-1 : Int32)]) (rest := []) 1 (T_Node_heldBy (hy := hf5)) d_Node_free_2 hc2 rfl rfl q1248 q1249 q1250 q139 q1251 hd_Node_heldBy rfl ⟨by decide, by decide⟩ (by first | exact Nat.le_of_ble_eq_true rfl | (simp only [List.map, List.sum_cons, List.sum_nil, g_cat_rf]; exact Nat.le_of_ble_eq_true rfl) | (simp only [List.map, List.sum_cons, List.sum_nil, g_cat_rf, Value.category]; decide)) rfl ?_
  cases hy
  exact g_iret rfl rfl rfl d_Node_free_5
theorem hd_Node_free : g_dsc y_Node_free 0 := ⟨by decide +kernel, by decide +kernel, by decide +kernel⟩
/-! CircuitDesk.entriesOf(I)I -/
abbrev y_Desk_entriesOf : MethodName := ⟨"CircuitDesk", "entriesOf", "(I)I"⟩
abbrev k_Desk_entriesOf : g_M := (prog_1_method_18_code, 6, "CircuitDesk", 15, (some FieldType.int), "entriesOf", [], 0)
theorem d_Desk_entriesOf_0 : decode prog_1_method_18_code 0 = .ok (.iconst 0, 1) := by decide +kernel
theorem d_Desk_entriesOf_1 : decode prog_1_method_18_code 1 = .ok (.istore_n 2, 1) := by decide +kernel
theorem d_Desk_entriesOf_2 : decode prog_1_method_18_code 2 = .ok (.aload_n 0, 1) := by decide +kernel
theorem d_Desk_entriesOf_3 : decode prog_1_method_18_code 3 = .ok (.getfield 19, 3) := by decide +kernel
theorem d_Desk_entriesOf_6 : decode prog_1_method_18_code 6 = .ok (.getfield 44, 3) := by decide +kernel
theorem d_Desk_entriesOf_9 : decode prog_1_method_18_code 9 = .ok (.invokevirtual 133, 3) := by decide +kernel
theorem d_Desk_entriesOf_12 : decode prog_1_method_18_code 12 = .ok (.astore_n 3, 1) := by decide +kernel
theorem d_Desk_entriesOf_13 : decode prog_1_method_18_code 13 = .ok (.aload_n 3, 1) := by decide +kernel
theorem d_Desk_entriesOf_14 : decode prog_1_method_18_code 14 = .ok (.invokeinterface 137 1, 5) := by decide +kernel
theorem d_Desk_entriesOf_19 : decode prog_1_method_18_code 19 = .ok (.ifCond .eq 67, 3) := by decide +kernel
theorem d_Desk_entriesOf_22 : decode prog_1_method_18_code 22 = .ok (.aload_n 3, 1) := by decide +kernel
theorem d_Desk_entriesOf_23 : decode prog_1_method_18_code 23 = .ok (.invokeinterface 143 1, 5) := by decide +kernel
theorem d_Desk_entriesOf_28 : decode prog_1_method_18_code 28 = .ok (.checkcast 66, 3) := by decide +kernel
theorem d_Desk_entriesOf_31 : decode prog_1_method_18_code 31 = .ok (.astore 4, 2) := by decide +kernel
theorem d_Desk_entriesOf_33 : decode prog_1_method_18_code 33 = .ok (.iconst 0, 1) := by decide +kernel
theorem d_Desk_entriesOf_34 : decode prog_1_method_18_code 34 = .ok (.istore 5, 2) := by decide +kernel
theorem d_Desk_entriesOf_36 : decode prog_1_method_18_code 36 = .ok (.iload 5, 2) := by decide +kernel
theorem d_Desk_entriesOf_38 : decode prog_1_method_18_code 38 = .ok (.aload 4, 2) := by decide +kernel
theorem d_Desk_entriesOf_40 : decode prog_1_method_18_code 40 = .ok (.getfield 188, 3) := by decide +kernel
theorem d_Desk_entriesOf_43 : decode prog_1_method_18_code 43 = .ok (.if_icmp .ge 40, 3) := by decide +kernel
theorem d_Desk_entriesOf_46 : decode prog_1_method_18_code 46 = .ok (.iload_n 2, 1) := by decide +kernel
theorem d_Desk_entriesOf_47 : decode prog_1_method_18_code 47 = .ok (.aload 4, 2) := by decide +kernel
theorem d_Desk_entriesOf_49 : decode prog_1_method_18_code 49 = .ok (.getfield 191, 3) := by decide +kernel
theorem d_Desk_entriesOf_52 : decode prog_1_method_18_code 52 = .ok (.iload 5, 2) := by decide +kernel
theorem d_Desk_entriesOf_54 : decode prog_1_method_18_code 54 = .ok (.iaload, 1) := by decide +kernel
theorem d_Desk_entriesOf_55 : decode prog_1_method_18_code 55 = .ok (.iload_n 1, 1) := by decide +kernel
theorem d_Desk_entriesOf_56 : decode prog_1_method_18_code 56 = .ok (.if_icmp .ne 18, 3) := by decide +kernel
theorem d_Desk_entriesOf_59 : decode prog_1_method_18_code 59 = .ok (.aload 4, 2) := by decide +kernel
theorem d_Desk_entriesOf_61 : decode prog_1_method_18_code 61 = .ok (.getfield 194, 3) := by decide +kernel
theorem d_Desk_entriesOf_64 : decode prog_1_method_18_code 64 = .ok (.iload 5, 2) := by decide +kernel
theorem d_Desk_entriesOf_66 : decode prog_1_method_18_code 66 = .ok (.baload, 1) := by decide +kernel
theorem d_Desk_entriesOf_67 : decode prog_1_method_18_code 67 = .ok (.ifCond .eq 7, 3) := by decide +kernel
theorem d_Desk_entriesOf_70 : decode prog_1_method_18_code 70 = .ok (.iconst 1, 1) := by decide +kernel
theorem d_Desk_entriesOf_71 : decode prog_1_method_18_code 71 = .ok (.goto 4, 3) := by decide +kernel
theorem d_Desk_entriesOf_74 : decode prog_1_method_18_code 74 = .ok (.iconst 0, 1) := by decide +kernel
theorem d_Desk_entriesOf_75 : decode prog_1_method_18_code 75 = .ok (.iadd, 1) := by decide +kernel
theorem d_Desk_entriesOf_76 : decode prog_1_method_18_code 76 = .ok (.istore_n 2, 1) := by decide +kernel
theorem d_Desk_entriesOf_77 : decode prog_1_method_18_code 77 = .ok (.iinc 5 1, 3) := by decide +kernel
theorem d_Desk_entriesOf_80 : decode prog_1_method_18_code 80 = .ok (.goto (-44), 3) := by decide +kernel
theorem d_Desk_entriesOf_83 : decode prog_1_method_18_code 83 = .ok (.goto (-70), 3) := by decide +kernel
theorem d_Desk_entriesOf_86 : decode prog_1_method_18_code 86 = .ok (.iload_n 2, 1) := by decide +kernel
theorem d_Desk_entriesOf_87 : decode prog_1_method_18_code 87 = .ok (.ireturn, 1) := by decide +kernel
def Desk_entriesOf_75 (k13 : g_AH → Int32 → Int32 → Option Nat → Option (Int32 × g_AH)) (k36 : g_AH → Int32 → Int32 → Option Nat → Option Nat → Int32 → Option (Int32 × g_AH)) (h : g_AH) (v1 : Int32) (v3 : Option Nat) (v4 : Option Nat) (v5 : Int32) (s0 : Int32) (s1 : Int32) : Option (Int32 × g_AH) :=
  k36 h v1 (s1 + s0) v3 v4 (v5 + (1 : Int32))
set_option maxHeartbeats 4000000 in
set_option maxRecDepth 100000 in
theorem W_Desk_entriesOf_75 {X : g_X} (z : Int32 × g_AH) (k13 : g_AH → Int32 → Int32 → Option Nat → Option (Int32 × g_AH)) (hk13 : ∀ (h : g_AH) (v1 : Int32) (v2 : Int32) (v3 : Option Nat), k13 h v1 v2 v3 = some z → G X k_Desk_entriesOf (.inl (some (.int z.1))) z.2 h 13 [(1, .int v1), (2, .int v2), (3, va_rf v3)] []) (k36 : g_AH → Int32 → Int32 → Option Nat → Option Nat → Int32 → Option (Int32 × g_AH)) (hk36 : ∀ (h : g_AH) (v1 : Int32) (v2 : Int32) (v3 : Option Nat) (v4 : Option Nat) (v5 : Int32), k36 h v1 v2 v3 v4 v5 = some z → G X k_Desk_entriesOf (.inl (some (.int z.1))) z.2 h 36 [(1, .int v1), (2, .int v2), (3, va_rf v3), (4, va_rf v4), (5, .int v5)] []) (h : g_AH) (v1 : Int32) (v3 : Option Nat) (v4 : Option Nat) (v5 : Int32) (s0 : Int32) (s1 : Int32) (hy : Desk_entriesOf_75 k13 k36 h v1 v3 v4 v5 s0 s1 = some z) : G X k_Desk_entriesOf (.inl (some (.int z.1))) z.2 h 75 [(1, .int v1), (3, va_rf v3), (4, va_rf v4), (5, .int v5)] [.int s0, .int s1] := by
  unfold Desk_entriesOf_75 at hy
  refine g_iadd (pc' := 76) d_Desk_entriesOf_75 rfl ?_
  refine g_istore_n (i := 2) (pc' := 77) (Lc' := [(2, .int (s1 + s0)), (1, .int v1), (3, va_rf v3), (4, va_rf v4), (5, .int v5)]) d_Desk_entriesOf_76 rfl (by decide) rfl rfl ?_
  refine g_iinc 4 (v := (v5 + (1 : Int32))) (pc' := 80) (Lc' := [(5, .int (v5 + (1 : Int32))), (2, .int (s1 + s0)), (1, .int v1), (3, va_rf v3), (4, va_rf v4)]) d_Desk_entriesOf_77 rfl rfl (by decide) (by cases v4 <;> rfl) rfl ?_
  refine g_goto (pc' := 36) d_Desk_entriesOf_80 (by decide) ?_
  refine g_sub [2, 1, 3, 4, 0] rfl ?_
  exact hk36 _ _ _ _ _ _ hy
def Desk_entriesOf_74 (k13 : g_AH → Int32 → Int32 → Option Nat → Option (Int32 × g_AH)) (k36 : g_AH → Int32 → Int32 → Option Nat → Option Nat → Int32 → Option (Int32 × g_AH)) (h : g_AH) (v1 : Int32) (v3 : Option Nat) (v4 : Option Nat) (v5 : Int32) (s0 : Int32) : Option (Int32 × g_AH) :=
  Desk_entriesOf_75 k13 k36 h v1 v3 v4 v5 (0 : Int32) s0
set_option maxHeartbeats 4000000 in
set_option maxRecDepth 100000 in
theorem W_Desk_entriesOf_74 {X : g_X} (z : Int32 × g_AH) (k13 : g_AH → Int32 → Int32 → Option Nat → Option (Int32 × g_AH)) (hk13 : ∀ (h : g_AH) (v1 : Int32) (v2 : Int32) (v3 : Option Nat), k13 h v1 v2 v3 = some z → G X k_Desk_entriesOf (.inl (some (.int z.1))) z.2 h 13 [(1, .int v1), (2, .int v2), (3, va_rf v3)] []) (k36 : g_AH → Int32 → Int32 → Option Nat → Option Nat → Int32 → Option (Int32 × g_AH)) (hk36 : ∀ (h : g_AH) (v1 : Int32) (v2 : Int32) (v3 : Option Nat) (v4 : Option Nat) (v5 : Int32), k36 h v1 v2 v3 v4 v5 = some z → G X k_Desk_entriesOf (.inl (some (.int z.1))) z.2 h 36 [(1, .int v1), (2, .int v2), (3, va_rf v3), (4, va_rf v4), (5, .int v5)] []) (h : g_AH) (v1 : Int32) (v3 : Option Nat) (v4 : Option Nat) (v5 : Int32) (s0 : Int32) (hy : Desk_entriesOf_74 k13 k36 h v1 v3 v4 v5 s0 = some z) : G X k_Desk_entriesOf (.inl (some (.int z.1))) z.2 h 74 [(1, .int v1), (3, va_rf v3), (4, va_rf v4), (5, .int v5)] [.int s0] := by
  unfold Desk_entriesOf_74 at hy
  refine g_iconst (v := (0 : Int32)) (pc' := 75) d_Desk_entriesOf_74 (by decide) rfl ?_
  exact W_Desk_entriesOf_75 _ _ hk13 _ hk36 _ _ _ _ _ _ _ hy
def Desk_entriesOf_36 (k13 : g_AH → Int32 → Int32 → Option Nat → Option (Int32 × g_AH))  : Nat → g_AH → Int32 → Int32 → Option Nat → Option Nat → Int32 → Option (Int32 × g_AH)
  | 0, _, _, _, _, _, _ => none
  | n + 1, h, v1, v2, v3, v4, v5 => g_nn v4 fun a29 => g_gI h a29 10 0 fun x31 => if x31 ≤ v5 then (k13 h v1 v2 v3) else (g_gR h a29 10 1 fun x36 => g_nn x36 fun a39 => g_aI h 0 a39 v5 fun x40 => if x40 = v1 then (g_gR h a29 10 4 fun x47 => g_nn x47 fun a50 => g_aI h 1 a50 v5 fun x51 => if x51 = 0 then (Desk_entriesOf_74 k13 (Desk_entriesOf_36 k13 n) h v1 v3 (some a29) v5 v2) else (Desk_entriesOf_75 k13 (Desk_entriesOf_36 k13 n) h v1 v3 (some a29) v5 (1 : Int32) v2)) else (Desk_entriesOf_74 k13 (Desk_entriesOf_36 k13 n) h v1 v3 (some a29) v5 v2))
set_option maxHeartbeats 4000000 in
set_option maxRecDepth 100000 in
theorem W_Desk_entriesOf_36 {X : g_X} (z : Int32 × g_AH) (k13 : g_AH → Int32 → Int32 → Option Nat → Option (Int32 × g_AH)) (hk13 : ∀ (h : g_AH) (v1 : Int32) (v2 : Int32) (v3 : Option Nat), k13 h v1 v2 v3 = some z → G X k_Desk_entriesOf (.inl (some (.int z.1))) z.2 h 13 [(1, .int v1), (2, .int v2), (3, va_rf v3)] [])  : ∀ (n : Nat) (h : g_AH) (v1 : Int32) (v2 : Int32) (v3 : Option Nat) (v4 : Option Nat) (v5 : Int32), Desk_entriesOf_36 k13 n h v1 v2 v3 v4 v5 = some z → G X k_Desk_entriesOf (.inl (some (.int z.1))) z.2 h 36 [(1, .int v1), (2, .int v2), (3, va_rf v3), (4, va_rf v4), (5, .int v5)] [] := by
  intro n
  induction n with
  | zero => intro h v1 v2 v3 v4 v5 hy; exact absurd hy (by simp [Desk_entriesOf_36])
  | succ n ih =>
    intro h v1 v2 v3 v4 v5 hy
    rw [Desk_entriesOf_36] at hy
    refine g_iload 4 (pc' := 38) d_Desk_entriesOf_36 rfl rfl ?_
    refine g_aloadO 3 (pc' := 40) d_Desk_entriesOf_38 rfl rfl ?_
    replace hy := g_nn_inv hy
    obtain ⟨a29, rfl, hy⟩ := hy
    replace hy := g_gI_inv hy
    obtain ⟨fs30, x31, hc32, hv33, hy⟩ := hy
    refine g_getfN (pc' := 43) d_Desk_entriesOf_40 hc32 rfl (by decide) hv33 q1011 rfl rfl ?_
    by_cases c34 : x31 ≤ v5
    · rw [if_pos c34] at hy
      refine g_icmp_geT (pc' := 83) d_Desk_entriesOf_43 c34 (by decide) ?_
      refine g_goto (pc' := 13) d_Desk_entriesOf_83 (by decide) ?_
      refine g_sub [0, 1, 2] rfl ?_
      exact hk13 _ _ _ _ hy
    · rw [if_neg c34] at hy
      refine g_icmp_geF (pc' := 46) d_Desk_entriesOf_43 83 c34 (by decide) rfl ?_
      refine g_iload_n 1 (i := 2) (pc' := 47) d_Desk_entriesOf_46 rfl rfl rfl ?_
      refine g_aload 3 (pc' := 49) d_Desk_entriesOf_47 rfl rfl ?_
      replace hy := g_gR_inv hy
      obtain ⟨fs35, x36, hc37, hv38, hy⟩ := hy
      refine g_getfN (pc' := 52) d_Desk_entriesOf_49 hc37 rfl (by decide) hv38 q1014 rfl rfl ?_
      refine g_iload 4 (pc' := 54) d_Desk_entriesOf_52 rfl rfl ?_
      replace hy := g_nn_inv hy
      obtain ⟨a39, rfl, hy⟩ := hy
      replace hy := g_aI_inv hy
      obtain ⟨n41, f42, hc43, hi44, hy⟩ := hy
      refine g_iald (pc' := 55) d_Desk_entriesOf_54 hc43 hi44 rfl ?_
      generalize f42 (v5).toNatClampNeg = x40 at hy ⊢
      refine g_iload_n 0 (i := 1) (pc' := 56) d_Desk_entriesOf_55 rfl rfl rfl ?_
      by_cases c45 : x40 = v1
      · rw [if_pos c45] at hy
        refine g_icmp_neF (pc' := 59) d_Desk_entriesOf_56 74 c45 (by decide) rfl ?_
        refine g_aload 3 (pc' := 61) d_Desk_entriesOf_59 rfl rfl ?_
        replace hy := g_gR_inv hy
        obtain ⟨fs46, x47, hc48, hv49, hy⟩ := hy
        refine g_getfN (pc' := 64) d_Desk_entriesOf_61 hc48 rfl (by decide) hv49 q1024 rfl rfl ?_
        refine g_iload 4 (pc' := 66) d_Desk_entriesOf_64 rfl rfl ?_
        replace hy := g_nn_inv hy
        obtain ⟨a50, rfl, hy⟩ := hy
        replace hy := g_aI_inv hy
        obtain ⟨n52, f53, hc54, hi55, hy⟩ := hy
        refine g_zald (pc' := 67) d_Desk_entriesOf_66 hc54 hi55 rfl ?_
        generalize f53 (v5).toNatClampNeg = x51 at hy ⊢
        by_cases c56 : x51 = 0
        · rw [if_pos c56] at hy
          refine g_if_eqT (pc' := 74) d_Desk_entriesOf_67 c56 (by decide) ?_
          refine g_sub [0, 2, 3, 4] rfl ?_
          exact W_Desk_entriesOf_74 _ _ hk13 _ ih _ _ _ _ _ _ hy
        · rw [if_neg c56] at hy
          refine g_if_eqF (pc' := 70) d_Desk_entriesOf_67 74 c56 (by decide) rfl ?_
          refine g_iconst (v := (1 : Int32)) (pc' := 71) d_Desk_entriesOf_70 (by decide) rfl ?_
          refine g_goto (pc' := 75) d_Desk_entriesOf_71 (by decide) ?_
          refine g_sub [0, 2, 3, 4] rfl ?_
          exact W_Desk_entriesOf_75 _ _ hk13 _ ih _ _ _ _ _ _ _ hy
      · rw [if_neg c45] at hy
        refine g_icmp_neT (pc' := 74) d_Desk_entriesOf_56 c45 (by decide) ?_
        refine g_sub [0, 2, 3, 4] rfl ?_
        exact W_Desk_entriesOf_74 _ _ hk13 _ ih _ _ _ _ _ _ hy
def Desk_entriesOf_13  : Nat → g_AH → Int32 → Int32 → Option Nat → Option (Int32 × g_AH)
  | 0, _, _, _, _ => none
  | n + 1, h, v1, v2, v3 => g_nn v3 fun a16 => g_is h a16 16 <| g_b (ArrayListItr_hasNext h a16) fun x19 => if x19 = 0 then (some (v2, h)) else (g_is h a16 16 <| g_b2 (ArrayListItr_next h a16) fun x25 h26 => g_ck h26 x25 10 <| Desk_entriesOf_36 (Desk_entriesOf_13  n) gFU h26 v1 v2 (some a16) x25 (0 : Int32))
set_option maxHeartbeats 4000000 in
set_option maxRecDepth 100000 in
theorem W_Desk_entriesOf_13 {X : g_X} (z : Int32 × g_AH)  : ∀ (n : Nat) (h : g_AH) (v1 : Int32) (v2 : Int32) (v3 : Option Nat), Desk_entriesOf_13  n h v1 v2 v3 = some z → G X k_Desk_entriesOf (.inl (some (.int z.1))) z.2 h 13 [(1, .int v1), (2, .int v2), (3, va_rf v3)] [] := by
  intro n
  induction n with
  | zero => intro h v1 v2 v3 hy; exact absurd hy (by simp [Desk_entriesOf_13])
  | succ n ih =>
    intro h v1 v2 v3 hy
    rw [Desk_entriesOf_13] at hy
    refine g_aloadO_n 2 (i := 3) (pc' := 14) d_Desk_entriesOf_13 rfl rfl rfl ?_
    replace hy := g_nn_inv hy
    obtain ⟨a16, rfl, hy⟩ := hy
    replace hy := g_is_inv hy
    obtain ⟨fs17, hc18, hy⟩ := hy
    replace hy := g_b_inv hy
    obtain ⟨x19, hf21, hy⟩ := hy
    refine g_callF (x := ⟨"java/util/Iterator", "hasNext", "()Z"⟩) (rv := some (.int x19)) (h1 := h) (pc' := 19) (As := []) (rest := []) 0 (T_ArrayListItr_hasNext (hy := hf21)) d_Desk_entriesOf_14 hc18 rfl (by decide) (g_wsF q1483 q1487 q1489 q145 q1491) ⟨by decide, by decide, by decide +kernel⟩ rfl ⟨by decide, by decide⟩ (by first | exact Nat.le_of_ble_eq_true rfl | (simp only [List.map, List.sum_cons, List.sum_nil, g_cat_rf]; exact Nat.le_of_ble_eq_true rfl) | (simp only [List.map, List.sum_cons, List.sum_nil, g_cat_rf, Value.category]; decide)) rfl ?_
    by_cases c22 : x19 = 0
    · rw [if_pos c22] at hy
      refine g_if_eqT (pc' := 86) d_Desk_entriesOf_19 c22 (by decide) ?_
      refine g_iload_n 1 (i := 2) (pc' := 87) d_Desk_entriesOf_86 rfl rfl rfl ?_
      cases hy
      exact g_iret rfl rfl rfl d_Desk_entriesOf_87
    · rw [if_neg c22] at hy
      refine g_if_eqF (pc' := 22) d_Desk_entriesOf_19 86 c22 (by decide) rfl ?_
      refine g_aload_n 2 (i := 3) (pc' := 23) d_Desk_entriesOf_22 rfl rfl rfl ?_
      replace hy := g_is_inv hy
      obtain ⟨fs23, hc24, hy⟩ := hy
      replace hy := g_b2_inv hy
      obtain ⟨x25, h26, hf27, hy⟩ := hy
      refine g_callF (x := ⟨"java/util/Iterator", "next", "()Ljava/lang/Object;"⟩) (rv := some (va_rf x25)) (h1 := h26) (pc' := 28) (As := []) (rest := []) 0 (T_ArrayListItr_next (hy := hf27)) d_Desk_entriesOf_23 hc24 rfl (by decide) (g_wsF q1493 q1496 q1498 q145 q1500) ⟨by decide, by decide, by decide +kernel⟩ rfl ⟨by decide, by decide⟩ (by first | exact Nat.le_of_ble_eq_true rfl | (simp only [List.map, List.sum_cons, List.sum_nil, g_cat_rf]; exact Nat.le_of_ble_eq_true rfl) | (simp only [List.map, List.sum_cons, List.sum_nil, g_cat_rf, Value.category]; decide)) rfl ?_
      replace hy := g_ck_inv hy
      obtain ⟨hk28, hy⟩ := hy
      refine g_castO (pc' := 31) d_Desk_entriesOf_28 hk28 rfl q1347 rfl ?_
      refine g_astoreO (pc' := 33) (Lc' := [(4, va_rf x25), (1, .int v1), (2, .int v2), (3, .ref a16)]) d_Desk_entriesOf_31 (by decide) rfl rfl ?_
      refine g_iconst (v := (0 : Int32)) (pc' := 34) d_Desk_entriesOf_33 (by decide) rfl ?_
      refine g_istore (pc' := 36) (Lc' := [(5, .int (0 : Int32)), (4, va_rf x25), (1, .int v1), (2, .int v2), (3, .ref a16)]) d_Desk_entriesOf_34 (by decide) (by cases x25 <;> rfl) rfl ?_
      refine g_sub [2, 3, 4, 1, 0] rfl ?_
      exact W_Desk_entriesOf_36 _ _ ih _ _ _ _ _ _ _ hy
def Desk_entriesOf (h : g_AH) (this : Nat) (p0 : Int32) : Option (Int32 × g_AH) :=
  g_gR h this 0 0 fun x2 => g_nn x2 fun a5 => g_gR h a5 1 1 fun x7 => g_nn x7 fun a10 => g_is h a10 15 <| g_b2 (ArrayList_iterator h a10) fun x13 h14 => Desk_entriesOf_13  gFU h14 p0 (0 : Int32) x13
set_option maxHeartbeats 4000000 in
set_option maxRecDepth 100000 in
theorem T_Desk_entriesOf {l : Launch} {B : g_B} (h : g_AH) (this : Nat) (p0 : Int32) (z : Int32 × g_AH) (hy : Desk_entriesOf h this p0 = some z) : g_CT l B y_Desk_entriesOf k_Desk_entriesOf [.ref this, .int p0] h (.inl (some (.int z.1))) z.2 := by
  refine g_start2 (Lc := [(0, .ref this), (1, .int p0)]) (by decide) rfl rfl (by exact Nat.le_of_ble_eq_true rfl) (by rfl) fun X => ?_
  unfold Desk_entriesOf at hy
  refine g_iconst (v := (0 : Int32)) (pc' := 1) d_Desk_entriesOf_0 (by decide) rfl ?_
  refine g_istore_n (i := 2) (pc' := 2) (Lc' := [(2, .int (0 : Int32)), (0, .ref this), (1, .int p0)]) d_Desk_entriesOf_1 rfl (by decide) rfl rfl ?_
  refine g_aload_n 1 (i := 0) (pc' := 3) d_Desk_entriesOf_2 rfl rfl rfl ?_
  replace hy := g_gR_inv hy
  obtain ⟨fs1, x2, hc3, hv4, hy⟩ := hy
  refine g_getf (pc' := 6) d_Desk_entriesOf_3 hc3 rfl (by decide) hv4 q642 (Or.inl rfl) rfl ?_
  replace hy := g_nn_inv hy
  obtain ⟨a5, rfl, hy⟩ := hy
  replace hy := g_gR_inv hy
  obtain ⟨fs6, x7, hc8, hv9, hy⟩ := hy
  refine g_getfN (pc' := 9) d_Desk_entriesOf_6 hc8 rfl (by decide) hv9 q549 rfl rfl ?_
  replace hy := g_nn_inv hy
  obtain ⟨a10, rfl, hy⟩ := hy
  replace hy := g_is_inv hy
  obtain ⟨fs11, hc12, hy⟩ := hy
  replace hy := g_b2_inv hy
  obtain ⟨x13, h14, hf15, hy⟩ := hy
  refine g_callV (rv := some (va_rf x13)) (h1 := h14) (pc' := 12) (As := []) (rest := []) 0 (T_ArrayList_iterator (hy := hf15)) d_Desk_entriesOf_9 hc12 rfl rfl q1459 q1460 q1461 q112 q1462 hd_ArrayList_iterator rfl ⟨by decide, by decide⟩ (by first | exact Nat.le_of_ble_eq_true rfl | (simp only [List.map, List.sum_cons, List.sum_nil, g_cat_rf]; exact Nat.le_of_ble_eq_true rfl) | (simp only [List.map, List.sum_cons, List.sum_nil, g_cat_rf, Value.category]; decide)) rfl ?_
  refine g_astoreO_n (i := 3) (pc' := 13) (Lc' := [(3, va_rf x13), (2, .int (0 : Int32)), (0, .ref this), (1, .int p0)]) d_Desk_entriesOf_12 rfl (by decide) rfl rfl ?_
  refine g_sub [3, 1, 0] rfl ?_
  exact W_Desk_entriesOf_13 _ _ _ _ _ _ hy
theorem hd_Desk_entriesOf : g_dsc y_Desk_entriesOf 1 := ⟨by decide +kernel, by decide +kernel, by decide +kernel⟩
/-! CircuitDesk$Net.degree(I)I -/
abbrev y_Net_degree : MethodName := ⟨"CircuitDesk$Net", "degree", "(I)I"⟩
abbrev k_Net_degree : g_M := (prog_7_method_5_code, 4, "CircuitDesk$Net", 15, (some FieldType.int), "degree", [], 0)
theorem d_Net_degree_0 : decode prog_7_method_5_code 0 = .ok (.iconst 0, 1) := by decide +kernel
theorem d_Net_degree_1 : decode prog_7_method_5_code 1 = .ok (.istore_n 2, 1) := by decide +kernel
theorem d_Net_degree_2 : decode prog_7_method_5_code 2 = .ok (.iconst 0, 1) := by decide +kernel
theorem d_Net_degree_3 : decode prog_7_method_5_code 3 = .ok (.istore_n 3, 1) := by decide +kernel
theorem d_Net_degree_4 : decode prog_7_method_5_code 4 = .ok (.iload_n 3, 1) := by decide +kernel
theorem d_Net_degree_5 : decode prog_7_method_5_code 5 = .ok (.aload_n 0, 1) := by decide +kernel
theorem d_Net_degree_6 : decode prog_7_method_5_code 6 = .ok (.getfield 24, 3) := by decide +kernel
theorem d_Net_degree_9 : decode prog_7_method_5_code 9 = .ok (.invokevirtual 112, 3) := by decide +kernel
theorem d_Net_degree_12 : decode prog_7_method_5_code 12 = .ok (.if_icmp .ge 53, 3) := by decide +kernel
theorem d_Net_degree_15 : decode prog_7_method_5_code 15 = .ok (.iload_n 2, 1) := by decide +kernel
theorem d_Net_degree_16 : decode prog_7_method_5_code 16 = .ok (.aload_n 0, 1) := by decide +kernel
theorem d_Net_degree_17 : decode prog_7_method_5_code 17 = .ok (.getfield 24, 3) := by decide +kernel
theorem d_Net_degree_20 : decode prog_7_method_5_code 20 = .ok (.iload_n 3, 1) := by decide +kernel
theorem d_Net_degree_21 : decode prog_7_method_5_code 21 = .ok (.invokevirtual 116, 3) := by decide +kernel
theorem d_Net_degree_24 : decode prog_7_method_5_code 24 = .ok (.checkcast 72, 3) := by decide +kernel
theorem d_Net_degree_27 : decode prog_7_method_5_code 27 = .ok (.getfield 128, 3) := by decide +kernel
theorem d_Net_degree_30 : decode prog_7_method_5_code 30 = .ok (.iload_n 1, 1) := by decide +kernel
theorem d_Net_degree_31 : decode prog_7_method_5_code 31 = .ok (.if_icmp .eq 21, 3) := by decide +kernel
theorem d_Net_degree_34 : decode prog_7_method_5_code 34 = .ok (.aload_n 0, 1) := by decide +kernel
theorem d_Net_degree_35 : decode prog_7_method_5_code 35 = .ok (.getfield 24, 3) := by decide +kernel
theorem d_Net_degree_38 : decode prog_7_method_5_code 38 = .ok (.iload_n 3, 1) := by decide +kernel
theorem d_Net_degree_39 : decode prog_7_method_5_code 39 = .ok (.invokevirtual 116, 3) := by decide +kernel
theorem d_Net_degree_42 : decode prog_7_method_5_code 42 = .ok (.checkcast 72, 3) := by decide +kernel
theorem d_Net_degree_45 : decode prog_7_method_5_code 45 = .ok (.getfield 131, 3) := by decide +kernel
theorem d_Net_degree_48 : decode prog_7_method_5_code 48 = .ok (.iload_n 1, 1) := by decide +kernel
theorem d_Net_degree_49 : decode prog_7_method_5_code 49 = .ok (.if_icmp .ne 7, 3) := by decide +kernel
theorem d_Net_degree_52 : decode prog_7_method_5_code 52 = .ok (.iconst 1, 1) := by decide +kernel
theorem d_Net_degree_53 : decode prog_7_method_5_code 53 = .ok (.goto 4, 3) := by decide +kernel
theorem d_Net_degree_56 : decode prog_7_method_5_code 56 = .ok (.iconst 0, 1) := by decide +kernel
theorem d_Net_degree_57 : decode prog_7_method_5_code 57 = .ok (.iadd, 1) := by decide +kernel
theorem d_Net_degree_58 : decode prog_7_method_5_code 58 = .ok (.istore_n 2, 1) := by decide +kernel
theorem d_Net_degree_59 : decode prog_7_method_5_code 59 = .ok (.iinc 3 1, 3) := by decide +kernel
theorem d_Net_degree_62 : decode prog_7_method_5_code 62 = .ok (.goto (-58), 3) := by decide +kernel
theorem d_Net_degree_65 : decode prog_7_method_5_code 65 = .ok (.iload_n 2, 1) := by decide +kernel
theorem d_Net_degree_66 : decode prog_7_method_5_code 66 = .ok (.ireturn, 1) := by decide +kernel
def Net_degree_57 (h : g_AH) (k4 : Nat → Int32 → Int32 → Int32 → Option (Int32)) (v0 : Nat) (v1 : Int32) (v3 : Int32) (s0 : Int32) (s1 : Int32) : Option (Int32) :=
  k4 v0 v1 (s1 + s0) (v3 + (1 : Int32))
set_option maxHeartbeats 4000000 in
set_option maxRecDepth 100000 in
theorem W_Net_degree_57 {X : g_X} (h : g_AH) (z : Int32) (k4 : Nat → Int32 → Int32 → Int32 → Option (Int32)) (hk4 : ∀ (v0 : Nat) (v1 : Int32) (v2 : Int32) (v3 : Int32), k4 v0 v1 v2 v3 = some z → G X k_Net_degree (.inl (some (.int z))) h h 4 [(0, .ref v0), (1, .int v1), (2, .int v2), (3, .int v3)] []) (v0 : Nat) (v1 : Int32) (v3 : Int32) (s0 : Int32) (s1 : Int32) (hy : Net_degree_57 h k4 v0 v1 v3 s0 s1 = some z) : G X k_Net_degree (.inl (some (.int z))) h h 57 [(0, .ref v0), (1, .int v1), (3, .int v3)] [.int s0, .int s1] := by
  unfold Net_degree_57 at hy
  refine g_iadd (pc' := 58) d_Net_degree_57 rfl ?_
  refine g_istore_n (i := 2) (pc' := 59) (Lc' := [(2, .int (s1 + s0)), (0, .ref v0), (1, .int v1), (3, .int v3)]) d_Net_degree_58 rfl (by decide) rfl rfl ?_
  refine g_iinc 3 (v := (v3 + (1 : Int32))) (pc' := 62) (Lc' := [(3, .int (v3 + (1 : Int32))), (2, .int (s1 + s0)), (0, .ref v0), (1, .int v1)]) d_Net_degree_59 rfl rfl (by decide) rfl rfl ?_
  refine g_goto (pc' := 4) d_Net_degree_62 (by decide) ?_
  refine g_sub [2, 3, 1, 0] rfl ?_
  exact hk4 _ _ _ _ hy
def Net_degree_52 (h : g_AH) (k4 : Nat → Int32 → Int32 → Int32 → Option (Int32)) (v0 : Nat) (v1 : Int32) (v3 : Int32) (s0 : Int32) : Option (Int32) :=
  Net_degree_57 h k4 v0 v1 v3 (1 : Int32) s0
set_option maxHeartbeats 4000000 in
set_option maxRecDepth 100000 in
theorem W_Net_degree_52 {X : g_X} (h : g_AH) (z : Int32) (k4 : Nat → Int32 → Int32 → Int32 → Option (Int32)) (hk4 : ∀ (v0 : Nat) (v1 : Int32) (v2 : Int32) (v3 : Int32), k4 v0 v1 v2 v3 = some z → G X k_Net_degree (.inl (some (.int z))) h h 4 [(0, .ref v0), (1, .int v1), (2, .int v2), (3, .int v3)] []) (v0 : Nat) (v1 : Int32) (v3 : Int32) (s0 : Int32) (hy : Net_degree_52 h k4 v0 v1 v3 s0 = some z) : G X k_Net_degree (.inl (some (.int z))) h h 52 [(0, .ref v0), (1, .int v1), (3, .int v3)] [.int s0] := by
  unfold Net_degree_52 at hy
  refine g_iconst (v := (1 : Int32)) (pc' := 53) d_Net_degree_52 (by decide) rfl ?_
  refine g_goto (pc' := 57) d_Net_degree_53 (by decide) ?_
  exact W_Net_degree_57 _ _ _ hk4 _ _ _ _ _ hy
def Net_degree_4 (h : g_AH)  : Nat → Nat → Int32 → Int32 → Int32 → Option (Int32)
  | 0, _, _, _, _ => none
  | n + 1, v0, v1, v2, v3 => g_gR h v0 1 2 fun x2 => g_nn x2 fun a5 => g_is h a5 15 <| g_b (ArrayList_size h a5) fun x8 => if x8 ≤ v3 then (some v2) else (g_gR h v0 1 2 fun x13 => g_nn x13 fun a16 => g_is h a16 15 <| g_b (ArrayList_get h a16 v3) fun x19 => g_ck h x19 11 <| g_nn x19 fun a23 => g_gI h a23 11 0 fun x25 => if x25 = v1 then (Net_degree_52 h (Net_degree_4 h  n) v0 v1 v3 v2) else (g_gR h v0 1 2 fun x30 => g_nn x30 fun a33 => g_is h a33 15 <| g_b (ArrayList_get h a33 v3) fun x36 => g_ck h x36 11 <| g_nn x36 fun a40 => g_gI h a40 11 1 fun x42 => if x42 = v1 then (Net_degree_52 h (Net_degree_4 h  n) v0 v1 v3 v2) else (Net_degree_57 h (Net_degree_4 h  n) v0 v1 v3 (0 : Int32) v2)))
set_option maxHeartbeats 4000000 in
set_option maxRecDepth 100000 in
theorem W_Net_degree_4 {X : g_X} (h : g_AH) (z : Int32)  : ∀ (n : Nat) (v0 : Nat) (v1 : Int32) (v2 : Int32) (v3 : Int32), Net_degree_4 h  n v0 v1 v2 v3 = some z → G X k_Net_degree (.inl (some (.int z))) h h 4 [(0, .ref v0), (1, .int v1), (2, .int v2), (3, .int v3)] [] := by
  intro n
  induction n with
  | zero => intro v0 v1 v2 v3 hy; exact absurd hy (by simp [Net_degree_4])
  | succ n ih =>
    intro v0 v1 v2 v3 hy
    rw [Net_degree_4] at hy
    refine g_iload_n 3 (i := 3) (pc' := 5) d_Net_degree_4 rfl rfl rfl ?_
    refine g_aload_n 0 (i := 0) (pc' := 6) d_Net_degree_5 rfl rfl rfl ?_
    replace hy := g_gR_inv hy
    obtain ⟨fs1, x2, hc3, hv4, hy⟩ := hy
    refine g_getf (pc' := 9) d_Net_degree_6 hc3 rfl (by decide) hv4 q552 (Or.inl rfl) rfl ?_
    replace hy := g_nn_inv hy
    obtain ⟨a5, rfl, hy⟩ := hy
    replace hy := g_is_inv hy
    obtain ⟨fs6, hc7, hy⟩ := hy
    replace hy := g_b_inv hy
    obtain ⟨x8, hf10, hy⟩ := hy
    refine g_callV (rv := some (.int x8)) (h1 := h) (pc' := 12) (As := []) (rest := [.int v3]) 0 (T_ArrayList_size (hy := hf10)) d_Net_degree_9 hc7 rfl rfl q681 q674 q675 q112 q676 hd_ArrayList_size rfl ⟨by decide, by decide⟩ (by first | exact Nat.le_of_ble_eq_true rfl | (simp only [List.map, List.sum_cons, List.sum_nil, g_cat_rf]; exact Nat.le_of_ble_eq_true rfl) | (simp only [List.map, List.sum_cons, List.sum_nil, g_cat_rf, Value.category]; decide)) rfl ?_
    by_cases c11 : x8 ≤ v3
    · rw [if_pos c11] at hy
      refine g_icmp_geT (pc' := 65) d_Net_degree_12 c11 (by decide) ?_
      refine g_iload_n 2 (i := 2) (pc' := 66) d_Net_degree_65 rfl rfl rfl ?_
      cases hy
      exact g_iret rfl rfl rfl d_Net_degree_66
    · rw [if_neg c11] at hy
      refine g_icmp_geF (pc' := 15) d_Net_degree_12 65 c11 (by decide) rfl ?_
      refine g_iload_n 2 (i := 2) (pc' := 16) d_Net_degree_15 rfl rfl rfl ?_
      refine g_aload_n 0 (i := 0) (pc' := 17) d_Net_degree_16 rfl rfl rfl ?_
      replace hy := g_gR_inv hy
      obtain ⟨fs12, x13, hc14, hv15, hy⟩ := hy
      refine g_getf (pc' := 20) d_Net_degree_17 hc14 rfl (by decide) hv15 q552 (Or.inl rfl) rfl ?_
      refine g_iload_n 3 (i := 3) (pc' := 21) d_Net_degree_20 rfl rfl rfl ?_
      replace hy := g_nn_inv hy
      obtain ⟨a16, rfl, hy⟩ := hy
      replace hy := g_is_inv hy
      obtain ⟨fs17, hc18, hy⟩ := hy
      replace hy := g_b_inv hy
      obtain ⟨x19, hf21, hy⟩ := hy
      refine g_callV (rv := some (va_rf x19)) (h1 := h) (pc' := 24) (As := [.int v3]) (rest := [.int v2]) 1 (T_ArrayList_get (hy := hf21)) d_Net_degree_21 hc18 rfl rfl q682 q683 q684 q112 q685 hd_ArrayList_get rfl ⟨by decide, by decide⟩ (by first | exact Nat.le_of_ble_eq_true rfl | (simp only [List.map, List.sum_cons, List.sum_nil, g_cat_rf]; exact Nat.le_of_ble_eq_true rfl) | (simp only [List.map, List.sum_cons, List.sum_nil, g_cat_rf, Value.category]; decide)) rfl ?_
      replace hy := g_ck_inv hy
      obtain ⟨hk22, hy⟩ := hy
      refine g_castO (pc' := 27) d_Net_degree_24 hk22 rfl q701 rfl ?_
      replace hy := g_nn_inv hy
      obtain ⟨a23, rfl, hy⟩ := hy
      replace hy := g_gI_inv hy
      obtain ⟨fs24, x25, hc26, hv27, hy⟩ := hy
      refine g_getfN (pc' := 30) d_Net_degree_27 hc26 rfl (by decide) hv27 q1108 rfl rfl ?_
      refine g_iload_n 1 (i := 1) (pc' := 31) d_Net_degree_30 rfl rfl rfl ?_
      by_cases c28 : x25 = v1
      · rw [if_pos c28] at hy
        refine g_icmp_eqT (pc' := 52) d_Net_degree_31 c28 (by decide) ?_
        refine g_sub [0, 1, 3] rfl ?_
        exact W_Net_degree_52 _ _ _ ih _ _ _ _ hy
      · rw [if_neg c28] at hy
        refine g_icmp_eqF (pc' := 34) d_Net_degree_31 52 c28 (by decide) rfl ?_
        refine g_aload_n 0 (i := 0) (pc' := 35) d_Net_degree_34 rfl rfl rfl ?_
        replace hy := g_gR_inv hy
        obtain ⟨fs29, x30, hc31, hv32, hy⟩ := hy
        refine g_getf (pc' := 38) d_Net_degree_35 hc31 rfl (by decide) hv32 q552 (Or.inl rfl) rfl ?_
        refine g_iload_n 3 (i := 3) (pc' := 39) d_Net_degree_38 rfl rfl rfl ?_
        replace hy := g_nn_inv hy
        obtain ⟨a33, rfl, hy⟩ := hy
        replace hy := g_is_inv hy
        obtain ⟨fs34, hc35, hy⟩ := hy
        replace hy := g_b_inv hy
        obtain ⟨x36, hf38, hy⟩ := hy
        refine g_callV (rv := some (va_rf x36)) (h1 := h) (pc' := 42) (As := [.int v3]) (rest := [.int v2]) 1 (T_ArrayList_get (hy := hf38)) d_Net_degree_39 hc35 rfl rfl q682 q683 q684 q112 q685 hd_ArrayList_get rfl ⟨by decide, by decide⟩ (by first | exact Nat.le_of_ble_eq_true rfl | (simp only [List.map, List.sum_cons, List.sum_nil, g_cat_rf]; exact Nat.le_of_ble_eq_true rfl) | (simp only [List.map, List.sum_cons, List.sum_nil, g_cat_rf, Value.category]; decide)) rfl ?_
        replace hy := g_ck_inv hy
        obtain ⟨hk39, hy⟩ := hy
        refine g_castO (pc' := 45) d_Net_degree_42 hk39 rfl q701 rfl ?_
        replace hy := g_nn_inv hy
        obtain ⟨a40, rfl, hy⟩ := hy
        replace hy := g_gI_inv hy
        obtain ⟨fs41, x42, hc43, hv44, hy⟩ := hy
        refine g_getfN (pc' := 48) d_Net_degree_45 hc43 rfl (by decide) hv44 q1111 rfl rfl ?_
        refine g_iload_n 1 (i := 1) (pc' := 49) d_Net_degree_48 rfl rfl rfl ?_
        by_cases c45 : x42 = v1
        · rw [if_pos c45] at hy
          refine g_icmp_neF (pc' := 52) d_Net_degree_49 56 c45 (by decide) rfl ?_
          refine g_sub [0, 1, 3] rfl ?_
          exact W_Net_degree_52 _ _ _ ih _ _ _ _ hy
        · rw [if_neg c45] at hy
          refine g_icmp_neT (pc' := 56) d_Net_degree_49 c45 (by decide) ?_
          refine g_iconst (v := (0 : Int32)) (pc' := 57) d_Net_degree_56 (by decide) rfl ?_
          refine g_sub [0, 1, 3] rfl ?_
          exact W_Net_degree_57 _ _ _ ih _ _ _ _ _ hy
def Net_degree (h : g_AH) (this : Nat) (p0 : Int32) : Option (Int32) :=
  Net_degree_4 h  gFU this p0 (0 : Int32) (0 : Int32)
set_option maxHeartbeats 4000000 in
set_option maxRecDepth 100000 in
theorem T_Net_degree {l : Launch} {B : g_B} (h : g_AH) (this : Nat) (p0 : Int32) (z : Int32) (hy : Net_degree h this p0 = some z) : g_CT l B y_Net_degree k_Net_degree [.ref this, .int p0] h (.inl (some (.int z))) h := by
  refine g_start2 (Lc := [(0, .ref this), (1, .int p0)]) (by decide) rfl rfl (by exact Nat.le_of_ble_eq_true rfl) (by rfl) fun X => ?_
  unfold Net_degree at hy
  refine g_iconst (v := (0 : Int32)) (pc' := 1) d_Net_degree_0 (by decide) rfl ?_
  refine g_istore_n (i := 2) (pc' := 2) (Lc' := [(2, .int (0 : Int32)), (0, .ref this), (1, .int p0)]) d_Net_degree_1 rfl (by decide) rfl rfl ?_
  refine g_iconst (v := (0 : Int32)) (pc' := 3) d_Net_degree_2 (by decide) rfl ?_
  refine g_istore_n (i := 3) (pc' := 4) (Lc' := [(3, .int (0 : Int32)), (2, .int (0 : Int32)), (0, .ref this), (1, .int p0)]) d_Net_degree_3 rfl (by decide) rfl rfl ?_
  refine g_sub [2, 3, 1, 0] rfl ?_
  exact W_Net_degree_4 _ _ _ _ _ _ _ hy
theorem hd_Net_degree : g_dsc y_Net_degree 1 := ⟨by decide +kernel, by decide +kernel, by decide +kernel⟩
/-! CircuitDesk.node(II)I -/
abbrev y_Desk_node : MethodName := ⟨"CircuitDesk", "node", "(II)I"⟩
abbrev k_Desk_node : g_M := (prog_1_method_19_code, 4, "CircuitDesk", 19, (some FieldType.int), "node", [], 0)
theorem d_Desk_node_0 : decode prog_1_method_19_code 0 = .ok (.aload_n 0, 1) := by decide +kernel
theorem d_Desk_node_1 : decode prog_1_method_19_code 1 = .ok (.iload_n 1, 1) := by decide +kernel
theorem d_Desk_node_2 : decode prog_1_method_19_code 2 = .ok (.invokevirtual 97, 3) := by decide +kernel
theorem d_Desk_node_5 : decode prog_1_method_19_code 5 = .ok (.astore_n 3, 1) := by decide +kernel
theorem d_Desk_node_6 : decode prog_1_method_19_code 6 = .ok (.iload_n 2, 1) := by decide +kernel
theorem d_Desk_node_7 : decode prog_1_method_19_code 7 = .ok (.i2l, 1) := by decide +kernel
theorem d_Desk_node_8 : decode prog_1_method_19_code 8 = .ok (.lconst 0, 1) := by decide +kernel
theorem d_Desk_node_9 : decode prog_1_method_19_code 9 = .ok (.ldc2_w 198, 3) := by decide +kernel
theorem d_Desk_node_12 : decode prog_1_method_19_code 12 = .ok (.invokestatic 54, 3) := by decide +kernel
theorem d_Desk_node_15 : decode prog_1_method_19_code 15 = .ok (.invokestatic 80, 3) := by decide +kernel
theorem d_Desk_node_18 : decode prog_1_method_19_code 18 = .ok (.iload_n 2, 1) := by decide +kernel
theorem d_Desk_node_19 : decode prog_1_method_19_code 19 = .ok (.tableswitch 96 0 5 #[37, 44, 51, 59, 77, 88], 37) := by decide +kernel
theorem d_Desk_node_56 : decode prog_1_method_19_code 56 = .ok (.aload_n 3, 1) := by decide +kernel
theorem d_Desk_node_57 : decode prog_1_method_19_code 57 = .ok (.getfield 188, 3) := by decide +kernel
theorem d_Desk_node_60 : decode prog_1_method_19_code 60 = .ok (.goto 63, 3) := by decide +kernel
theorem d_Desk_node_63 : decode prog_1_method_19_code 63 = .ok (.aload_n 3, 1) := by decide +kernel
theorem d_Desk_node_64 : decode prog_1_method_19_code 64 = .ok (.invokevirtual 200, 3) := by decide +kernel
theorem d_Desk_node_67 : decode prog_1_method_19_code 67 = .ok (.goto 56, 3) := by decide +kernel
theorem d_Desk_node_70 : decode prog_1_method_19_code 70 = .ok (.aload_n 3, 1) := by decide +kernel
theorem d_Desk_node_71 : decode prog_1_method_19_code 71 = .ok (.iload_n 1, 1) := by decide +kernel
theorem d_Desk_node_72 : decode prog_1_method_19_code 72 = .ok (.invokevirtual 203, 3) := by decide +kernel
theorem d_Desk_node_75 : decode prog_1_method_19_code 75 = .ok (.goto 48, 3) := by decide +kernel
theorem d_Desk_node_78 : decode prog_1_method_19_code 78 = .ok (.aload_n 3, 1) := by decide +kernel
theorem d_Desk_node_79 : decode prog_1_method_19_code 79 = .ok (.getfield 188, 3) := by decide +kernel
theorem d_Desk_node_82 : decode prog_1_method_19_code 82 = .ok (.aload_n 3, 1) := by decide +kernel
theorem d_Desk_node_83 : decode prog_1_method_19_code 83 = .ok (.invokevirtual 200, 3) := by decide +kernel
theorem d_Desk_node_86 : decode prog_1_method_19_code 86 = .ok (.isub, 1) := by decide +kernel
theorem d_Desk_node_87 : decode prog_1_method_19_code 87 = .ok (.aload_n 3, 1) := by decide +kernel
theorem d_Desk_node_88 : decode prog_1_method_19_code 88 = .ok (.iload_n 1, 1) := by decide +kernel
theorem d_Desk_node_89 : decode prog_1_method_19_code 89 = .ok (.invokevirtual 203, 3) := by decide +kernel
theorem d_Desk_node_92 : decode prog_1_method_19_code 92 = .ok (.isub, 1) := by decide +kernel
theorem d_Desk_node_93 : decode prog_1_method_19_code 93 = .ok (.goto 30, 3) := by decide +kernel
theorem d_Desk_node_96 : decode prog_1_method_19_code 96 = .ok (.aload_n 0, 1) := by decide +kernel
theorem d_Desk_node_97 : decode prog_1_method_19_code 97 = .ok (.getfield 19, 3) := by decide +kernel
theorem d_Desk_node_100 : decode prog_1_method_19_code 100 = .ok (.iload_n 1, 1) := by decide +kernel
theorem d_Desk_node_101 : decode prog_1_method_19_code 101 = .ok (.invokevirtual 130, 3) := by decide +kernel
theorem d_Desk_node_104 : decode prog_1_method_19_code 104 = .ok (.goto 19, 3) := by decide +kernel
theorem d_Desk_node_107 : decode prog_1_method_19_code 107 = .ok (.aload_n 0, 1) := by decide +kernel
theorem d_Desk_node_108 : decode prog_1_method_19_code 108 = .ok (.iload_n 1, 1) := by decide +kernel
theorem d_Desk_node_109 : decode prog_1_method_19_code 109 = .ok (.invokevirtual 206, 3) := by decide +kernel
theorem d_Desk_node_112 : decode prog_1_method_19_code 112 = .ok (.goto 11, 3) := by decide +kernel
theorem d_Desk_node_115 : decode prog_1_method_19_code 115 = .ok (.aload_n 0, 1) := by decide +kernel
theorem d_Desk_node_116 : decode prog_1_method_19_code 116 = .ok (.getfield 19, 3) := by decide +kernel
theorem d_Desk_node_119 : decode prog_1_method_19_code 119 = .ok (.iload_n 1, 1) := by decide +kernel
theorem d_Desk_node_120 : decode prog_1_method_19_code 120 = .ok (.invokevirtual 209, 3) := by decide +kernel
theorem d_Desk_node_123 : decode prog_1_method_19_code 123 = .ok (.ireturn, 1) := by decide +kernel
def Desk_node (h : g_AH) (this : Nat) (p0 : Int32) (p1 : Int32) : Option ((Int32 ⊕ g_EX) × g_AH) :=
  g_is h this 0 <| g_bx (Desk_nodeOf h this p0) fun x3 h4 => g_b (Desk_isBetween ((p1).toInt64) (0 : Int64) (6 : Int64)) fun x8 => g_bx (Desk_checkArgument h4 x8) fun x11 h12 => if p1 = (0 : Int32) then (g_nn x3 fun a17 => g_gI h12 a17 10 0 fun x19 => some (.inl x19, h12)) else (if p1 = (1 : Int32) then (g_nn x3 fun a23 => g_is h12 a23 10 <| g_b (Node_free h12 a23) fun x26 => some (.inl x26, h12)) else (if p1 = (2 : Int32) then (g_nn x3 fun a30 => g_is h12 a30 10 <| g_b (Node_heldBy h12 a30 p0) fun x33 => some (.inl x33, h12)) else (if p1 = (3 : Int32) then (g_nn x3 fun a37 => g_gI h12 a37 10 0 fun x39 => g_is h12 a37 10 <| g_b (Node_free h12 a37) fun x44 => g_is h12 a37 10 <| g_b (Node_heldBy h12 a37 p0) fun x49 => some (.inl ((x39 - x44) - x49), h12)) else (if p1 = (4 : Int32) then (g_gR h12 this 0 0 fun x54 => g_nn x54 fun a57 => g_is h12 a57 1 <| g_b (Net_borrowedBy h12 a57 p0) fun x60 => some (.inl x60, h12)) else (if p1 = (5 : Int32) then (g_is h12 this 0 <| g_b2 (Desk_entriesOf h12 this p0) fun x66 h67 => some (.inl x66, h67)) else (g_gR h12 this 0 0 fun x70 => g_nn x70 fun a73 => g_is h12 a73 1 <| g_b (Net_degree h12 a73 p0) fun x76 => some (.inl x76, h12)))))))
set_option maxHeartbeats 4000000 in
set_option maxRecDepth 100000 in
theorem T_Desk_node {l : Launch} {B : g_B} (h : g_AH) (this : Nat) (p0 : Int32) (p1 : Int32) (z : (Int32 ⊕ g_EX) × g_AH) (hy : Desk_node h this p0 p1 = some z) : g_CT l B y_Desk_node k_Desk_node [.ref this, .int p0, .int p1] h (g_rI z.1) z.2 := by
  refine g_start2 (Lc := [(0, .ref this), (1, .int p0), (2, .int p1)]) (by decide) rfl rfl (by exact Nat.le_of_ble_eq_true rfl) (by rfl) fun X => ?_
  unfold Desk_node at hy
  refine g_aload_n 0 (i := 0) (pc' := 1) d_Desk_node_0 rfl rfl rfl ?_
  refine g_iload_n 1 (i := 1) (pc' := 2) d_Desk_node_1 rfl rfl rfl ?_
  replace hy := g_is_inv hy
  obtain ⟨fs1, hc2, hy⟩ := hy
  replace hy := g_bx_inv hy
  rcases hy with ⟨x3, h4, hf5, hy⟩ | ⟨⟨E9, q9⟩, h4, hf5, ez7⟩
  rotate_left
  · subst ez7
    exact g_callVX (As := [.int p0]) (rest := []) 1 (T_Desk_nodeOf (hy := hf5)) d_Desk_node_2 hc2 rfl rfl q1376 q1378 qs15 q108 q1379 hd_Desk_nodeOf rfl ⟨by decide, by decide⟩ (by first | exact Nat.le_of_ble_eq_true rfl | (simp only [List.map, List.sum_cons, List.sum_nil, g_cat_rf]; exact Nat.le_of_ble_eq_true rfl) | (simp only [List.map, List.sum_cons, List.sum_nil, g_cat_rf, Value.category]; decide)) rfl rfl
  refine g_callV (rv := some (va_rf x3)) (h1 := h4) (pc' := 5) (As := [.int p0]) (rest := []) 1 (T_Desk_nodeOf (hy := hf5)) d_Desk_node_2 hc2 rfl rfl q1376 q1378 qs15 q108 q1379 hd_Desk_nodeOf rfl ⟨by decide, by decide⟩ (by first | exact Nat.le_of_ble_eq_true rfl | (simp only [List.map, List.sum_cons, List.sum_nil, g_cat_rf]; exact Nat.le_of_ble_eq_true rfl) | (simp only [List.map, List.sum_cons, List.sum_nil, g_cat_rf, Value.category]; decide)) rfl ?_
  refine g_astoreO_n (i := 3) (pc' := 6) (Lc' := [(3, va_rf x3), (0, .ref this), (1, .int p0), (2, .int p1)]) d_Desk_node_5 rfl (by decide) rfl rfl ?_
  refine g_iload_n 3 (i := 2) (pc' := 7) d_Desk_node_6 rfl rfl rfl ?_
  refine g_i2l (pc' := 8) d_Desk_node_7 rfl ?_
  refine g_lconst (v := 0) (pc' := 9) d_Desk_node_8 (by decide) rfl ?_
  refine g_ldc2 (pc' := 12) d_Desk_node_9 q1535 rfl ?_
  replace hy := g_b_inv hy
  obtain ⟨x8, hf10, hy⟩ := hy
  refine g_callS (rv := some (.int x8)) (h1 := h4) (pc' := 15) (As := [.long ((p1).toInt64), .long (0 : Int64), .long (6 : Int64)]) (rest := []) 3 (T_Desk_isBetween (hy := hf10)) d_Desk_node_12 q1330 q828 q108 q829 hd_Desk_isBetween rfl ⟨by decide, by decide⟩ (by first | exact Nat.le_of_ble_eq_true rfl | (simp only [List.map, List.sum_cons, List.sum_nil, g_cat_rf]; exact Nat.le_of_ble_eq_true rfl) | (simp only [List.map, List.sum_cons, List.sum_nil, g_cat_rf, Value.category]; decide)) rfl ?_
  replace hy := g_bx_inv hy
  rcases hy with ⟨x11, h12, hf13, hy⟩ | ⟨⟨E9, q9⟩, h12, hf13, ez15⟩
  rotate_left
  · subst ez15
    exact g_callSX (As := [.int x8]) (rest := []) 1 (T_Desk_checkArgument (hy := hf13)) d_Desk_node_15 q1331 q1332 q108 q1333 hd_Desk_checkArgument rfl ⟨by decide, by decide⟩ (by first | exact Nat.le_of_ble_eq_true rfl | (simp only [List.map, List.sum_cons, List.sum_nil, g_cat_rf]; exact Nat.le_of_ble_eq_true rfl) | (simp only [List.map, List.sum_cons, List.sum_nil, g_cat_rf, Value.category]; decide)) rfl rfl
  refine g_callS (rv := none) (h1 := h12) (pc' := 18) (As := [.int x8]) (rest := []) 1 (T_Desk_checkArgument (hy := hf13)) d_Desk_node_15 q1331 q1332 q108 q1333 hd_Desk_checkArgument rfl ⟨by decide, by decide⟩ (by first | exact Nat.le_of_ble_eq_true rfl | (simp only [List.map, List.sum_cons, List.sum_nil, g_cat_rf]; exact Nat.le_of_ble_eq_true rfl) | (simp only [List.map, List.sum_cons, List.sum_nil, g_cat_rf, Value.category]; decide)) rfl ?_
  refine g_iload_n 3 (i := 2) (pc' := 19) d_Desk_node_18 rfl rfl rfl ?_
  by_cases c16 : p1 = (0 : Int32)
  · rw [if_pos c16] at hy
    refine g_tableIn (pc' := 56) (0 : Int32) d_Desk_node_19 c16 (by decide) rfl (by decide) ?_
    refine g_aloadO_n 0 (i := 3) (pc' := 57) d_Desk_node_56 rfl rfl rfl ?_
    replace hy := g_nn_inv hy
    obtain ⟨a17, rfl, hy⟩ := hy
    replace hy := g_gI_inv hy
    obtain ⟨fs18, x19, hc20, hv21, hy⟩ := hy
    refine g_getfN (pc' := 60) d_Desk_node_57 hc20 rfl (by decide) hv21 q1011 rfl rfl ?_
    refine g_goto (pc' := 123) d_Desk_node_60 (by decide) ?_
    cases hy
    exact g_iret rfl rfl rfl d_Desk_node_123
  · rw [if_neg c16] at hy
    by_cases c22 : p1 = (1 : Int32)
    · rw [if_pos c22] at hy
      refine g_tableIn (pc' := 63) (1 : Int32) d_Desk_node_19 c22 (by decide) rfl (by decide) ?_
      refine g_aloadO_n 0 (i := 3) (pc' := 64) d_Desk_node_63 rfl rfl rfl ?_
      replace hy := g_nn_inv hy
      obtain ⟨a23, rfl, hy⟩ := hy
      replace hy := g_is_inv hy
      obtain ⟨fs24, hc25, hy⟩ := hy
      replace hy := g_b_inv hy
      obtain ⟨x26, hf28, hy⟩ := hy
      refine g_callV (rv := some (.int x26)) (h1 := h12) (pc' := 67) (As := []) (rest := []) 0 (T_Node_free (hy := hf28)) d_Desk_node_64 hc25 rfl rfl q1536 q1245 q1246 q139 q1247 hd_Node_free rfl ⟨by decide, by decide⟩ (by first | exact Nat.le_of_ble_eq_true rfl | (simp only [List.map, List.sum_cons, List.sum_nil, g_cat_rf]; exact Nat.le_of_ble_eq_true rfl) | (simp only [List.map, List.sum_cons, List.sum_nil, g_cat_rf, Value.category]; decide)) rfl ?_
      refine g_goto (pc' := 123) d_Desk_node_67 (by decide) ?_
      cases hy
      exact g_iret rfl rfl rfl d_Desk_node_123
    · rw [if_neg c22] at hy
      by_cases c29 : p1 = (2 : Int32)
      · rw [if_pos c29] at hy
        refine g_tableIn (pc' := 70) (2 : Int32) d_Desk_node_19 c29 (by decide) rfl (by decide) ?_
        refine g_aloadO_n 0 (i := 3) (pc' := 71) d_Desk_node_70 rfl rfl rfl ?_
        refine g_iload_n 2 (i := 1) (pc' := 72) d_Desk_node_71 rfl rfl rfl ?_
        replace hy := g_nn_inv hy
        obtain ⟨a30, rfl, hy⟩ := hy
        replace hy := g_is_inv hy
        obtain ⟨fs31, hc32, hy⟩ := hy
        replace hy := g_b_inv hy
        obtain ⟨x33, hf35, hy⟩ := hy
        refine g_callV (rv := some (.int x33)) (h1 := h12) (pc' := 75) (As := [.int p0]) (rest := []) 1 (T_Node_heldBy (hy := hf35)) d_Desk_node_72 hc32 rfl rfl q1537 q1249 q1250 q139 q1251 hd_Node_heldBy rfl ⟨by decide, by decide⟩ (by first | exact Nat.le_of_ble_eq_true rfl | (simp only [List.map, List.sum_cons, List.sum_nil, g_cat_rf]; exact Nat.le_of_ble_eq_true rfl) | (simp only [List.map, List.sum_cons, List.sum_nil, g_cat_rf, Value.category]; decide)) rfl ?_
        refine g_goto (pc' := 123) d_Desk_node_75 (by decide) ?_
        cases hy
        exact g_iret rfl rfl rfl d_Desk_node_123
      · rw [if_neg c29] at hy
        by_cases c36 : p1 = (3 : Int32)
        · rw [if_pos c36] at hy
          refine g_tableIn (pc' := 78) (3 : Int32) d_Desk_node_19 c36 (by decide) rfl (by decide) ?_
          refine g_aloadO_n 0 (i := 3) (pc' := 79) d_Desk_node_78 rfl rfl rfl ?_
          replace hy := g_nn_inv hy
          obtain ⟨a37, rfl, hy⟩ := hy
          replace hy := g_gI_inv hy
          obtain ⟨fs38, x39, hc40, hv41, hy⟩ := hy
          refine g_getfN (pc' := 82) d_Desk_node_79 hc40 rfl (by decide) hv41 q1011 rfl rfl ?_
          refine g_aload_n 0 (i := 3) (pc' := 83) d_Desk_node_82 rfl rfl rfl ?_
          replace hy := g_is_inv hy
          obtain ⟨fs42, hc43, hy⟩ := hy
          replace hy := g_b_inv hy
          obtain ⟨x44, hf46, hy⟩ := hy
          refine g_callV (rv := some (.int x44)) (h1 := h12) (pc' := 86) (As := []) (rest := [.int x39]) 0 (T_Node_free (hy := hf46)) d_Desk_node_83 hc43 rfl rfl q1536 q1245 q1246 q139 q1247 hd_Node_free rfl ⟨by decide, by decide⟩ (by first | exact Nat.le_of_ble_eq_true rfl | (simp only [List.map, List.sum_cons, List.sum_nil, g_cat_rf]; exact Nat.le_of_ble_eq_true rfl) | (simp only [List.map, List.sum_cons, List.sum_nil, g_cat_rf, Value.category]; decide)) rfl ?_
          refine g_isub (pc' := 87) d_Desk_node_86 rfl ?_
          refine g_aload_n 0 (i := 3) (pc' := 88) d_Desk_node_87 rfl rfl rfl ?_
          refine g_iload_n 2 (i := 1) (pc' := 89) d_Desk_node_88 rfl rfl rfl ?_
          replace hy := g_is_inv hy
          obtain ⟨fs47, hc48, hy⟩ := hy
          replace hy := g_b_inv hy
          obtain ⟨x49, hf51, hy⟩ := hy
          refine g_callV (rv := some (.int x49)) (h1 := h12) (pc' := 92) (As := [.int p0]) (rest := [.int (x39 - x44)]) 1 (T_Node_heldBy (hy := hf51)) d_Desk_node_89 hc48 rfl rfl q1537 q1249 q1250 q139 q1251 hd_Node_heldBy rfl ⟨by decide, by decide⟩ (by first | exact Nat.le_of_ble_eq_true rfl | (simp only [List.map, List.sum_cons, List.sum_nil, g_cat_rf]; exact Nat.le_of_ble_eq_true rfl) | (simp only [List.map, List.sum_cons, List.sum_nil, g_cat_rf, Value.category]; decide)) rfl ?_
          refine g_isub (pc' := 93) d_Desk_node_92 rfl ?_
          refine g_goto (pc' := 123) d_Desk_node_93 (by decide) ?_
          cases hy
          exact g_iret rfl rfl rfl d_Desk_node_123
        · rw [if_neg c36] at hy
          by_cases c52 : p1 = (4 : Int32)
          · rw [if_pos c52] at hy
            refine g_tableIn (pc' := 96) (4 : Int32) d_Desk_node_19 c52 (by decide) rfl (by decide) ?_
            refine g_aload_n 1 (i := 0) (pc' := 97) d_Desk_node_96 rfl rfl rfl ?_
            replace hy := g_gR_inv hy
            obtain ⟨fs53, x54, hc55, hv56, hy⟩ := hy
            refine g_getf (pc' := 100) d_Desk_node_97 hc55 rfl (by decide) hv56 q642 (Or.inl rfl) rfl ?_
            refine g_iload_n 2 (i := 1) (pc' := 101) d_Desk_node_100 rfl rfl rfl ?_
            replace hy := g_nn_inv hy
            obtain ⟨a57, rfl, hy⟩ := hy
            replace hy := g_is_inv hy
            obtain ⟨fs58, hc59, hy⟩ := hy
            replace hy := g_b_inv hy
            obtain ⟨x60, hf62, hy⟩ := hy
            refine g_callV (rv := some (.int x60)) (h1 := h12) (pc' := 104) (As := [.int p0]) (rest := []) 1 (T_Net_borrowedBy (hy := hf62)) d_Desk_node_101 hc59 rfl rfl q1454 q1253 q1254 q109 q1255 hd_Net_borrowedBy rfl ⟨by decide, by decide⟩ (by first | exact Nat.le_of_ble_eq_true rfl | (simp only [List.map, List.sum_cons, List.sum_nil, g_cat_rf]; exact Nat.le_of_ble_eq_true rfl) | (simp only [List.map, List.sum_cons, List.sum_nil, g_cat_rf, Value.category]; decide)) rfl ?_
            refine g_goto (pc' := 123) d_Desk_node_104 (by decide) ?_
            cases hy
            exact g_iret rfl rfl rfl d_Desk_node_123
          · rw [if_neg c52] at hy
            by_cases c63 : p1 = (5 : Int32)
            · rw [if_pos c63] at hy
              refine g_tableIn (pc' := 107) (5 : Int32) d_Desk_node_19 c63 (by decide) rfl (by decide) ?_
              refine g_aload_n 1 (i := 0) (pc' := 108) d_Desk_node_107 rfl rfl rfl ?_
              refine g_iload_n 2 (i := 1) (pc' := 109) d_Desk_node_108 rfl rfl rfl ?_
              replace hy := g_is_inv hy
              obtain ⟨fs64, hc65, hy⟩ := hy
              replace hy := g_b2_inv hy
              obtain ⟨x66, h67, hf68, hy⟩ := hy
              refine g_callV (rv := some (.int x66)) (h1 := h67) (pc' := 112) (As := [.int p0]) (rest := []) 1 (T_Desk_entriesOf (hy := hf68)) d_Desk_node_109 hc65 rfl rfl q1538 q1540 qs21 q108 q1541 hd_Desk_entriesOf rfl ⟨by decide, by decide⟩ (by first | exact Nat.le_of_ble_eq_true rfl | (simp only [List.map, List.sum_cons, List.sum_nil, g_cat_rf]; exact Nat.le_of_ble_eq_true rfl) | (simp only [List.map, List.sum_cons, List.sum_nil, g_cat_rf, Value.category]; decide)) rfl ?_
              refine g_goto (pc' := 123) d_Desk_node_112 (by decide) ?_
              cases hy
              exact g_iret rfl rfl rfl d_Desk_node_123
            · rw [if_neg c63] at hy
              have c16 := g_neI (n := 0) (by decide) c16
              have c22 := g_neI (n := 1) (by decide) c22
              have c29 := g_neI (n := 2) (by decide) c29
              have c36 := g_neI (n := 3) (by decide) c36
              have c52 := g_neI (n := 4) (by decide) c52
              have c63 := g_neI (n := 5) (by decide) c63
              refine g_tableOut (pc' := 115) d_Desk_node_19 (by omega) (by decide) ?_
              refine g_aload_n 1 (i := 0) (pc' := 116) d_Desk_node_115 rfl rfl rfl ?_
              replace hy := g_gR_inv hy
              obtain ⟨fs69, x70, hc71, hv72, hy⟩ := hy
              refine g_getf (pc' := 119) d_Desk_node_116 hc71 rfl (by decide) hv72 q642 (Or.inl rfl) rfl ?_
              refine g_iload_n 2 (i := 1) (pc' := 120) d_Desk_node_119 rfl rfl rfl ?_
              replace hy := g_nn_inv hy
              obtain ⟨a73, rfl, hy⟩ := hy
              replace hy := g_is_inv hy
              obtain ⟨fs74, hc75, hy⟩ := hy
              replace hy := g_b_inv hy
              obtain ⟨x76, hf78, hy⟩ := hy
              refine g_callV (rv := some (.int x76)) (h1 := h12) (pc' := 123) (As := [.int p0]) (rest := []) 1 (T_Net_degree (hy := hf78)) d_Desk_node_120 hc75 rfl rfl q1542 q1543 q1544 q109 q1545 hd_Net_degree rfl ⟨by decide, by decide⟩ (by first | exact Nat.le_of_ble_eq_true rfl | (simp only [List.map, List.sum_cons, List.sum_nil, g_cat_rf]; exact Nat.le_of_ble_eq_true rfl) | (simp only [List.map, List.sum_cons, List.sum_nil, g_cat_rf, Value.category]; decide)) rfl ?_
              cases hy
              exact g_iret rfl rfl rfl d_Desk_node_123
theorem hd_Desk_node : g_dsc y_Desk_node 2 := ⟨by decide +kernel, by decide +kernel, by decide +kernel⟩
/-! CircuitDesk.label(III)I -/
abbrev y_Desk_label : MethodName := ⟨"CircuitDesk", "label", "(III)I"⟩
abbrev k_Desk_label : g_M := (prog_1_method_20_code, 5, "CircuitDesk", 19, (some FieldType.int), "label", [], 0)
theorem d_Desk_label_0 : decode prog_1_method_20_code 0 = .ok (.aload_n 0, 1) := by decide +kernel
theorem d_Desk_label_1 : decode prog_1_method_20_code 1 = .ok (.iload_n 1, 1) := by decide +kernel
theorem d_Desk_label_2 : decode prog_1_method_20_code 2 = .ok (.invokevirtual 97, 3) := by decide +kernel
theorem d_Desk_label_5 : decode prog_1_method_20_code 5 = .ok (.astore 4, 2) := by decide +kernel
theorem d_Desk_label_7 : decode prog_1_method_20_code 7 = .ok (.iload_n 2, 1) := by decide +kernel
theorem d_Desk_label_8 : decode prog_1_method_20_code 8 = .ok (.i2l, 1) := by decide +kernel
theorem d_Desk_label_9 : decode prog_1_method_20_code 9 = .ok (.lconst 0, 1) := by decide +kernel
theorem d_Desk_label_10 : decode prog_1_method_20_code 10 = .ok (.aload 4, 2) := by decide +kernel
theorem d_Desk_label_12 : decode prog_1_method_20_code 12 = .ok (.getfield 188, 3) := by decide +kernel
theorem d_Desk_label_15 : decode prog_1_method_20_code 15 = .ok (.iconst 1, 1) := by decide +kernel
theorem d_Desk_label_16 : decode prog_1_method_20_code 16 = .ok (.isub, 1) := by decide +kernel
theorem d_Desk_label_17 : decode prog_1_method_20_code 17 = .ok (.i2l, 1) := by decide +kernel
theorem d_Desk_label_18 : decode prog_1_method_20_code 18 = .ok (.invokestatic 54, 3) := by decide +kernel
theorem d_Desk_label_21 : decode prog_1_method_20_code 21 = .ok (.invokestatic 58, 3) := by decide +kernel
theorem d_Desk_label_24 : decode prog_1_method_20_code 24 = .ok (.iload_n 3, 1) := by decide +kernel
theorem d_Desk_label_25 : decode prog_1_method_20_code 25 = .ok (.i2l, 1) := by decide +kernel
theorem d_Desk_label_26 : decode prog_1_method_20_code 26 = .ok (.lconst 0, 1) := by decide +kernel
theorem d_Desk_label_27 : decode prog_1_method_20_code 27 = .ok (.ldc2_w 212, 3) := by decide +kernel
theorem d_Desk_label_30 : decode prog_1_method_20_code 30 = .ok (.invokestatic 54, 3) := by decide +kernel
theorem d_Desk_label_33 : decode prog_1_method_20_code 33 = .ok (.invokestatic 80, 3) := by decide +kernel
theorem d_Desk_label_36 : decode prog_1_method_20_code 36 = .ok (.aload 4, 2) := by decide +kernel
theorem d_Desk_label_38 : decode prog_1_method_20_code 38 = .ok (.getfield 191, 3) := by decide +kernel
theorem d_Desk_label_41 : decode prog_1_method_20_code 41 = .ok (.iload_n 2, 1) := by decide +kernel
theorem d_Desk_label_42 : decode prog_1_method_20_code 42 = .ok (.iaload, 1) := by decide +kernel
theorem d_Desk_label_43 : decode prog_1_method_20_code 43 = .ok (.iconst (-1), 1) := by decide +kernel
theorem d_Desk_label_44 : decode prog_1_method_20_code 44 = .ok (.if_icmp .ne 5, 3) := by decide +kernel
theorem d_Desk_label_47 : decode prog_1_method_20_code 47 = .ok (.iconst (-1), 1) := by decide +kernel
theorem d_Desk_label_48 : decode prog_1_method_20_code 48 = .ok (.ireturn, 1) := by decide +kernel
theorem d_Desk_label_49 : decode prog_1_method_20_code 49 = .ok (.iload_n 3, 1) := by decide +kernel
theorem d_Desk_label_50 : decode prog_1_method_20_code 50 = .ok (.tableswitch 64 0 2 #[26, 36, 46], 26) := by decide +kernel
theorem d_Desk_label_76 : decode prog_1_method_20_code 76 = .ok (.aload 4, 2) := by decide +kernel
theorem d_Desk_label_78 : decode prog_1_method_20_code 78 = .ok (.getfield 191, 3) := by decide +kernel
theorem d_Desk_label_81 : decode prog_1_method_20_code 81 = .ok (.iload_n 2, 1) := by decide +kernel
theorem d_Desk_label_82 : decode prog_1_method_20_code 82 = .ok (.iaload, 1) := by decide +kernel
theorem d_Desk_label_83 : decode prog_1_method_20_code 83 = .ok (.goto 46, 3) := by decide +kernel
theorem d_Desk_label_86 : decode prog_1_method_20_code 86 = .ok (.aload 4, 2) := by decide +kernel
theorem d_Desk_label_88 : decode prog_1_method_20_code 88 = .ok (.getfield 214, 3) := by decide +kernel
theorem d_Desk_label_91 : decode prog_1_method_20_code 91 = .ok (.iload_n 2, 1) := by decide +kernel
theorem d_Desk_label_92 : decode prog_1_method_20_code 92 = .ok (.iaload, 1) := by decide +kernel
theorem d_Desk_label_93 : decode prog_1_method_20_code 93 = .ok (.goto 36, 3) := by decide +kernel
theorem d_Desk_label_96 : decode prog_1_method_20_code 96 = .ok (.aload 4, 2) := by decide +kernel
theorem d_Desk_label_98 : decode prog_1_method_20_code 98 = .ok (.getfield 217, 3) := by decide +kernel
theorem d_Desk_label_101 : decode prog_1_method_20_code 101 = .ok (.iload_n 2, 1) := by decide +kernel
theorem d_Desk_label_102 : decode prog_1_method_20_code 102 = .ok (.baload, 1) := by decide +kernel
theorem d_Desk_label_103 : decode prog_1_method_20_code 103 = .ok (.ifCond .eq 7, 3) := by decide +kernel
theorem d_Desk_label_106 : decode prog_1_method_20_code 106 = .ok (.iconst 1, 1) := by decide +kernel
theorem d_Desk_label_107 : decode prog_1_method_20_code 107 = .ok (.goto 22, 3) := by decide +kernel
theorem d_Desk_label_110 : decode prog_1_method_20_code 110 = .ok (.iconst 0, 1) := by decide +kernel
theorem d_Desk_label_111 : decode prog_1_method_20_code 111 = .ok (.goto 18, 3) := by decide +kernel
theorem d_Desk_label_114 : decode prog_1_method_20_code 114 = .ok (.aload 4, 2) := by decide +kernel
theorem d_Desk_label_116 : decode prog_1_method_20_code 116 = .ok (.getfield 194, 3) := by decide +kernel
theorem d_Desk_label_119 : decode prog_1_method_20_code 119 = .ok (.iload_n 2, 1) := by decide +kernel
theorem d_Desk_label_120 : decode prog_1_method_20_code 120 = .ok (.baload, 1) := by decide +kernel
theorem d_Desk_label_121 : decode prog_1_method_20_code 121 = .ok (.ifCond .eq 7, 3) := by decide +kernel
theorem d_Desk_label_124 : decode prog_1_method_20_code 124 = .ok (.iconst 1, 1) := by decide +kernel
theorem d_Desk_label_125 : decode prog_1_method_20_code 125 = .ok (.goto 4, 3) := by decide +kernel
theorem d_Desk_label_128 : decode prog_1_method_20_code 128 = .ok (.iconst 0, 1) := by decide +kernel
theorem d_Desk_label_129 : decode prog_1_method_20_code 129 = .ok (.ireturn, 1) := by decide +kernel
def Desk_label (h : g_AH) (this : Nat) (p0 : Int32) (p1 : Int32) (p2 : Int32) : Option ((Int32 ⊕ g_EX) × g_AH) :=
  g_is h this 0 <| g_bx (Desk_nodeOf h this p0) fun x3 h4 => g_nn x3 fun a8 => g_gI h4 a8 10 0 fun x10 => g_b (Desk_isBetween ((p1).toInt64) (0 : Int64) (((x10 - (1 : Int32))).toInt64)) fun x13 => g_bx (Desk_checkIndex h4 x13) fun x16 h17 => g_b (Desk_isBetween ((p2).toInt64) (0 : Int64) (3 : Int64)) fun x21 => g_bx (Desk_checkArgument h17 x21) fun x24 h25 => g_gR h25 a8 10 1 fun x30 => g_nn x30 fun a33 => g_aI h25 0 a33 p1 fun x34 => if x34 = (-1 : Int32) then (some (.inl (-1 : Int32), h25)) else (if p2 = (0 : Int32) then (g_gR h25 a8 10 1 fun x42 => g_nn x42 fun a45 => g_aI h25 0 a45 p1 fun x46 => some (.inl x46, h25)) else (if p2 = (1 : Int32) then (g_gR h25 a8 10 2 fun x53 => g_nn x53 fun a56 => g_aI h25 0 a56 p1 fun x57 => some (.inl x57, h25)) else (if p2 = (2 : Int32) then (g_gR h25 a8 10 3 fun x64 => g_nn x64 fun a67 => g_aI h25 1 a67 p1 fun x68 => if x68 = 0 then (some (.inl (0 : Int32), h25)) else (some (.inl (1 : Int32), h25))) else (g_gR h25 a8 10 4 fun x75 => g_nn x75 fun a78 => g_aI h25 1 a78 p1 fun x79 => if x79 = 0 then (some (.inl (0 : Int32), h25)) else (some (.inl (1 : Int32), h25))))))
set_option maxHeartbeats 4000000 in
set_option maxRecDepth 100000 in
theorem T_Desk_label {l : Launch} {B : g_B} (h : g_AH) (this : Nat) (p0 : Int32) (p1 : Int32) (p2 : Int32) (z : (Int32 ⊕ g_EX) × g_AH) (hy : Desk_label h this p0 p1 p2 = some z) : g_CT l B y_Desk_label k_Desk_label [.ref this, .int p0, .int p1, .int p2] h (g_rI z.1) z.2 := by
  refine g_start2 (Lc := [(0, .ref this), (1, .int p0), (2, .int p1), (3, .int p2)]) (by decide) rfl rfl (by exact Nat.le_of_ble_eq_true rfl) (by rfl) fun X => ?_
  unfold Desk_label at hy
  refine g_aload_n 0 (i := 0) (pc' := 1) d_Desk_label_0 rfl rfl rfl ?_
  refine g_iload_n 1 (i := 1) (pc' := 2) d_Desk_label_1 rfl rfl rfl ?_
  replace hy := g_is_inv hy
  obtain ⟨fs1, hc2, hy⟩ := hy
  replace hy := g_bx_inv hy
  rcases hy with ⟨x3, h4, hf5, hy⟩ | ⟨⟨E9, q9⟩, h4, hf5, ez7⟩
  rotate_left
  · subst ez7
    exact g_callVX (As := [.int p0]) (rest := []) 1 (T_Desk_nodeOf (hy := hf5)) d_Desk_label_2 hc2 rfl rfl q1376 q1378 qs15 q108 q1379 hd_Desk_nodeOf rfl ⟨by decide, by decide⟩ (by first | exact Nat.le_of_ble_eq_true rfl | (simp only [List.map, List.sum_cons, List.sum_nil, g_cat_rf]; exact Nat.le_of_ble_eq_true rfl) | (simp only [List.map, List.sum_cons, List.sum_nil, g_cat_rf, Value.category]; decide)) rfl rfl
  refine g_callV (rv := some (va_rf x3)) (h1 := h4) (pc' := 5) (As := [.int p0]) (rest := []) 1 (T_Desk_nodeOf (hy := hf5)) d_Desk_label_2 hc2 rfl rfl q1376 q1378 qs15 q108 q1379 hd_Desk_nodeOf rfl ⟨by decide, by decide⟩ (by first | exact Nat.le_of_ble_eq_true rfl | (simp only [List.map, List.sum_cons, List.sum_nil, g_cat_rf]; exact Nat.le_of_ble_eq_true rfl) | (simp only [List.map, List.sum_cons, List.sum_nil, g_cat_rf, Value.category]; decide)) rfl ?_
  refine g_astoreO (pc' := 7) (Lc' := [(4, va_rf x3), (0, .ref this), (1, .int p0), (2, .int p1), (3, .int p2)]) d_Desk_label_5 (by decide) rfl rfl ?_
  refine g_iload_n 3 (i := 2) (pc' := 8) d_Desk_label_7 rfl rfl rfl ?_
  refine g_i2l (pc' := 9) d_Desk_label_8 rfl ?_
  refine g_lconst (v := 0) (pc' := 10) d_Desk_label_9 (by decide) rfl ?_
  refine g_aloadO 0 (pc' := 12) d_Desk_label_10 rfl rfl ?_
  replace hy := g_nn_inv hy
  obtain ⟨a8, rfl, hy⟩ := hy
  replace hy := g_gI_inv hy
  obtain ⟨fs9, x10, hc11, hv12, hy⟩ := hy
  refine g_getfN (pc' := 15) d_Desk_label_12 hc11 rfl (by decide) hv12 q1011 rfl rfl ?_
  refine g_iconst (v := (1 : Int32)) (pc' := 16) d_Desk_label_15 (by decide) rfl ?_
  refine g_isub (pc' := 17) d_Desk_label_16 rfl ?_
  refine g_i2l (pc' := 18) d_Desk_label_17 rfl ?_
  replace hy := g_b_inv hy
  obtain ⟨x13, hf15, hy⟩ := hy
  refine g_callS (rv := some (.int x13)) (h1 := h4) (pc' := 21) (As := [.long ((p1).toInt64), .long (0 : Int64), .long (((x10 - (1 : Int32))).toInt64)]) (rest := []) 3 (T_Desk_isBetween (hy := hf15)) d_Desk_label_18 q1330 q828 q108 q829 hd_Desk_isBetween rfl ⟨by decide, by decide⟩ (by first | exact Nat.le_of_ble_eq_true rfl | (simp only [List.map, List.sum_cons, List.sum_nil, g_cat_rf]; exact Nat.le_of_ble_eq_true rfl) | (simp only [List.map, List.sum_cons, List.sum_nil, g_cat_rf, Value.category]; decide)) rfl ?_
  replace hy := g_bx_inv hy
  rcases hy with ⟨x16, h17, hf18, hy⟩ | ⟨⟨E9, q9⟩, h17, hf18, ez20⟩
  rotate_left
  · subst ez20
    exact g_callSX (As := [.int x13]) (rest := []) 1 (T_Desk_checkIndex (hy := hf18)) d_Desk_label_21 q1380 q1381 q108 q1382 hd_Desk_checkIndex rfl ⟨by decide, by decide⟩ (by first | exact Nat.le_of_ble_eq_true rfl | (simp only [List.map, List.sum_cons, List.sum_nil, g_cat_rf]; exact Nat.le_of_ble_eq_true rfl) | (simp only [List.map, List.sum_cons, List.sum_nil, g_cat_rf, Value.category]; decide)) rfl rfl
  refine g_callS (rv := none) (h1 := h17) (pc' := 24) (As := [.int x13]) (rest := []) 1 (T_Desk_checkIndex (hy := hf18)) d_Desk_label_21 q1380 q1381 q108 q1382 hd_Desk_checkIndex rfl ⟨by decide, by decide⟩ (by first | exact Nat.le_of_ble_eq_true rfl | (simp only [List.map, List.sum_cons, List.sum_nil, g_cat_rf]; exact Nat.le_of_ble_eq_true rfl) | (simp only [List.map, List.sum_cons, List.sum_nil, g_cat_rf, Value.category]; decide)) rfl ?_
  refine g_iload_n 4 (i := 3) (pc' := 25) d_Desk_label_24 rfl rfl rfl ?_
  refine g_i2l (pc' := 26) d_Desk_label_25 rfl ?_
  refine g_lconst (v := 0) (pc' := 27) d_Desk_label_26 (by decide) rfl ?_
  refine g_ldc2 (pc' := 30) d_Desk_label_27 q1553 rfl ?_
  replace hy := g_b_inv hy
  obtain ⟨x21, hf23, hy⟩ := hy
  refine g_callS (rv := some (.int x21)) (h1 := h17) (pc' := 33) (As := [.long ((p2).toInt64), .long (0 : Int64), .long (3 : Int64)]) (rest := []) 3 (T_Desk_isBetween (hy := hf23)) d_Desk_label_30 q1330 q828 q108 q829 hd_Desk_isBetween rfl ⟨by decide, by decide⟩ (by first | exact Nat.le_of_ble_eq_true rfl | (simp only [List.map, List.sum_cons, List.sum_nil, g_cat_rf]; exact Nat.le_of_ble_eq_true rfl) | (simp only [List.map, List.sum_cons, List.sum_nil, g_cat_rf, Value.category]; decide)) rfl ?_
  replace hy := g_bx_inv hy
  rcases hy with ⟨x24, h25, hf26, hy⟩ | ⟨⟨E9, q9⟩, h25, hf26, ez28⟩
  rotate_left
  · subst ez28
    exact g_callSX (As := [.int x21]) (rest := []) 1 (T_Desk_checkArgument (hy := hf26)) d_Desk_label_33 q1331 q1332 q108 q1333 hd_Desk_checkArgument rfl ⟨by decide, by decide⟩ (by first | exact Nat.le_of_ble_eq_true rfl | (simp only [List.map, List.sum_cons, List.sum_nil, g_cat_rf]; exact Nat.le_of_ble_eq_true rfl) | (simp only [List.map, List.sum_cons, List.sum_nil, g_cat_rf, Value.category]; decide)) rfl rfl
  refine g_callS (rv := none) (h1 := h25) (pc' := 36) (As := [.int x21]) (rest := []) 1 (T_Desk_checkArgument (hy := hf26)) d_Desk_label_33 q1331 q1332 q108 q1333 hd_Desk_checkArgument rfl ⟨by decide, by decide⟩ (by first | exact Nat.le_of_ble_eq_true rfl | (simp only [List.map, List.sum_cons, List.sum_nil, g_cat_rf]; exact Nat.le_of_ble_eq_true rfl) | (simp only [List.map, List.sum_cons, List.sum_nil, g_cat_rf, Value.category]; decide)) rfl ?_
  refine g_aload 0 (pc' := 38) d_Desk_label_36 rfl rfl ?_
  replace hy := g_gR_inv hy
  obtain ⟨fs29, x30, hc31, hv32, hy⟩ := hy
  refine g_getfN (pc' := 41) d_Desk_label_38 hc31 rfl (by decide) hv32 q1014 rfl rfl ?_
  refine g_iload_n 3 (i := 2) (pc' := 42) d_Desk_label_41 rfl rfl rfl ?_
  replace hy := g_nn_inv hy
  obtain ⟨a33, rfl, hy⟩ := hy
  replace hy := g_aI_inv hy
  obtain ⟨n35, f36, hc37, hi38, hy⟩ := hy
  refine g_iald (pc' := 43) d_Desk_label_42 hc37 hi38 rfl ?_
  generalize f36 (p1).toNatClampNeg = x34 at hy ⊢
  refine g_iconst (v := (-1 : Int32)) (pc' := 44) d_Desk_label_43 (by decide) rfl ?_
  by_cases c39 : x34 = (-1 : Int32)
  · rw [if_pos c39] at hy
    refine g_icmp_neF (pc' := 47) d_Desk_label_44 49 c39 (by decide) rfl ?_
    refine g_iconst (v := (-1 : Int32)) (pc' := 48) d_Desk_label_47 (by decide) rfl ?_
    cases hy
    exact g_iret rfl rfl rfl d_Desk_label_48
  · rw [if_neg c39] at hy
    refine g_icmp_neT (pc' := 49) d_Desk_label_44 c39 (by decide) ?_
    refine g_iload_n 4 (i := 3) (pc' := 50) d_Desk_label_49 rfl rfl rfl ?_
    by_cases c40 : p2 = (0 : Int32)
    · rw [if_pos c40] at hy
      refine g_tableIn (pc' := 76) (0 : Int32) d_Desk_label_50 c40 (by decide) rfl (by decide) ?_
      refine g_aload 0 (pc' := 78) d_Desk_label_76 rfl rfl ?_
      replace hy := g_gR_inv hy
      obtain ⟨fs41, x42, hc43, hv44, hy⟩ := hy
      refine g_getfN (pc' := 81) d_Desk_label_78 hc43 rfl (by decide) hv44 q1014 rfl rfl ?_
      refine g_iload_n 3 (i := 2) (pc' := 82) d_Desk_label_81 rfl rfl rfl ?_
      replace hy := g_nn_inv hy
      obtain ⟨a45, rfl, hy⟩ := hy
      replace hy := g_aI_inv hy
      obtain ⟨n47, f48, hc49, hi50, hy⟩ := hy
      refine g_iald (pc' := 83) d_Desk_label_82 hc49 hi50 rfl ?_
      generalize f48 (p1).toNatClampNeg = x46 at hy ⊢
      refine g_goto (pc' := 129) d_Desk_label_83 (by decide) ?_
      cases hy
      exact g_iret rfl rfl rfl d_Desk_label_129
    · rw [if_neg c40] at hy
      by_cases c51 : p2 = (1 : Int32)
      · rw [if_pos c51] at hy
        refine g_tableIn (pc' := 86) (1 : Int32) d_Desk_label_50 c51 (by decide) rfl (by decide) ?_
        refine g_aload 0 (pc' := 88) d_Desk_label_86 rfl rfl ?_
        replace hy := g_gR_inv hy
        obtain ⟨fs52, x53, hc54, hv55, hy⟩ := hy
        refine g_getfN (pc' := 91) d_Desk_label_88 hc54 rfl (by decide) hv55 q1017 rfl rfl ?_
        refine g_iload_n 3 (i := 2) (pc' := 92) d_Desk_label_91 rfl rfl rfl ?_
        replace hy := g_nn_inv hy
        obtain ⟨a56, rfl, hy⟩ := hy
        replace hy := g_aI_inv hy
        obtain ⟨n58, f59, hc60, hi61, hy⟩ := hy
        refine g_iald (pc' := 93) d_Desk_label_92 hc60 hi61 rfl ?_
        generalize f59 (p1).toNatClampNeg = x57 at hy ⊢
        refine g_goto (pc' := 129) d_Desk_label_93 (by decide) ?_
        cases hy
        exact g_iret rfl rfl rfl d_Desk_label_129
      · rw [if_neg c51] at hy
        by_cases c62 : p2 = (2 : Int32)
        · rw [if_pos c62] at hy
          refine g_tableIn (pc' := 96) (2 : Int32) d_Desk_label_50 c62 (by decide) rfl (by decide) ?_
          refine g_aload 0 (pc' := 98) d_Desk_label_96 rfl rfl ?_
          replace hy := g_gR_inv hy
          obtain ⟨fs63, x64, hc65, hv66, hy⟩ := hy
          refine g_getfN (pc' := 101) d_Desk_label_98 hc65 rfl (by decide) hv66 q1021 rfl rfl ?_
          refine g_iload_n 3 (i := 2) (pc' := 102) d_Desk_label_101 rfl rfl rfl ?_
          replace hy := g_nn_inv hy
          obtain ⟨a67, rfl, hy⟩ := hy
          replace hy := g_aI_inv hy
          obtain ⟨n69, f70, hc71, hi72, hy⟩ := hy
          refine g_zald (pc' := 103) d_Desk_label_102 hc71 hi72 rfl ?_
          generalize f70 (p1).toNatClampNeg = x68 at hy ⊢
          by_cases c73 : x68 = 0
          · rw [if_pos c73] at hy
            refine g_if_eqT (pc' := 110) d_Desk_label_103 c73 (by decide) ?_
            refine g_iconst (v := (0 : Int32)) (pc' := 111) d_Desk_label_110 (by decide) rfl ?_
            refine g_goto (pc' := 129) d_Desk_label_111 (by decide) ?_
            cases hy
            exact g_iret rfl rfl rfl d_Desk_label_129
          · rw [if_neg c73] at hy
            refine g_if_eqF (pc' := 106) d_Desk_label_103 110 c73 (by decide) rfl ?_
            refine g_iconst (v := (1 : Int32)) (pc' := 107) d_Desk_label_106 (by decide) rfl ?_
            refine g_goto (pc' := 129) d_Desk_label_107 (by decide) ?_
            cases hy
            exact g_iret rfl rfl rfl d_Desk_label_129
        · rw [if_neg c62] at hy
          have c40 := g_neI (n := 0) (by decide) c40
          have c51 := g_neI (n := 1) (by decide) c51
          have c62 := g_neI (n := 2) (by decide) c62
          refine g_tableOut (pc' := 114) d_Desk_label_50 (by omega) (by decide) ?_
          refine g_aload 0 (pc' := 116) d_Desk_label_114 rfl rfl ?_
          replace hy := g_gR_inv hy
          obtain ⟨fs74, x75, hc76, hv77, hy⟩ := hy
          refine g_getfN (pc' := 119) d_Desk_label_116 hc76 rfl (by decide) hv77 q1024 rfl rfl ?_
          refine g_iload_n 3 (i := 2) (pc' := 120) d_Desk_label_119 rfl rfl rfl ?_
          replace hy := g_nn_inv hy
          obtain ⟨a78, rfl, hy⟩ := hy
          replace hy := g_aI_inv hy
          obtain ⟨n80, f81, hc82, hi83, hy⟩ := hy
          refine g_zald (pc' := 121) d_Desk_label_120 hc82 hi83 rfl ?_
          generalize f81 (p1).toNatClampNeg = x79 at hy ⊢
          by_cases c84 : x79 = 0
          · rw [if_pos c84] at hy
            refine g_if_eqT (pc' := 128) d_Desk_label_121 c84 (by decide) ?_
            refine g_iconst (v := (0 : Int32)) (pc' := 129) d_Desk_label_128 (by decide) rfl ?_
            cases hy
            exact g_iret rfl rfl rfl d_Desk_label_129
          · rw [if_neg c84] at hy
            refine g_if_eqF (pc' := 124) d_Desk_label_121 128 c84 (by decide) rfl ?_
            refine g_iconst (v := (1 : Int32)) (pc' := 125) d_Desk_label_124 (by decide) rfl ?_
            refine g_goto (pc' := 129) d_Desk_label_125 (by decide) ?_
            cases hy
            exact g_iret rfl rfl rfl d_Desk_label_129
theorem hd_Desk_label : g_dsc y_Desk_label 3 := ⟨by decide +kernel, by decide +kernel, by decide +kernel⟩
/-! CircuitDesk$Net.uses(LCircuitDesk$Way;I)Z -/
abbrev y_Net_uses : MethodName := ⟨"CircuitDesk$Net", "uses", "(LCircuitDesk$Way;I)Z"⟩
abbrev k_Net_uses : g_M := (prog_7_method_7_code, 4, "CircuitDesk$Net", 15, (some FieldType.boolean), "uses", [], 0)
theorem d_Net_uses_0 : decode prog_7_method_7_code 0 = .ok (.iconst 1, 1) := by decide +kernel
theorem d_Net_uses_1 : decode prog_7_method_7_code 1 = .ok (.istore_n 3, 1) := by decide +kernel
theorem d_Net_uses_2 : decode prog_7_method_7_code 2 = .ok (.aload_n 1, 1) := by decide +kernel
theorem d_Net_uses_3 : decode prog_7_method_7_code 3 = .ok (.ifnull 50, 3) := by decide +kernel
theorem d_Net_uses_6 : decode prog_7_method_7_code 6 = .ok (.iload_n 3, 1) := by decide +kernel
theorem d_Net_uses_7 : decode prog_7_method_7_code 7 = .ok (.aload_n 1, 1) := by decide +kernel
theorem d_Net_uses_8 : decode prog_7_method_7_code 8 = .ok (.getfield 134, 3) := by decide +kernel
theorem d_Net_uses_11 : decode prog_7_method_7_code 11 = .ok (.if_icmp .ge 42, 3) := by decide +kernel
theorem d_Net_uses_14 : decode prog_7_method_7_code 14 = .ok (.aload_n 0, 1) := by decide +kernel
theorem d_Net_uses_15 : decode prog_7_method_7_code 15 = .ok (.getfield 24, 3) := by decide +kernel
theorem d_Net_uses_18 : decode prog_7_method_7_code 18 = .ok (.iload_n 2, 1) := by decide +kernel
theorem d_Net_uses_19 : decode prog_7_method_7_code 19 = .ok (.invokevirtual 116, 3) := by decide +kernel
theorem d_Net_uses_22 : decode prog_7_method_7_code 22 = .ok (.checkcast 72, 3) := by decide +kernel
theorem d_Net_uses_25 : decode prog_7_method_7_code 25 = .ok (.aload_n 1, 1) := by decide +kernel
theorem d_Net_uses_26 : decode prog_7_method_7_code 26 = .ok (.getfield 138, 3) := by decide +kernel
theorem d_Net_uses_29 : decode prog_7_method_7_code 29 = .ok (.iload_n 3, 1) := by decide +kernel
theorem d_Net_uses_30 : decode prog_7_method_7_code 30 = .ok (.iconst 1, 1) := by decide +kernel
theorem d_Net_uses_31 : decode prog_7_method_7_code 31 = .ok (.isub, 1) := by decide +kernel
theorem d_Net_uses_32 : decode prog_7_method_7_code 32 = .ok (.iaload, 1) := by decide +kernel
theorem d_Net_uses_33 : decode prog_7_method_7_code 33 = .ok (.aload_n 1, 1) := by decide +kernel
theorem d_Net_uses_34 : decode prog_7_method_7_code 34 = .ok (.getfield 138, 3) := by decide +kernel
theorem d_Net_uses_37 : decode prog_7_method_7_code 37 = .ok (.iload_n 3, 1) := by decide +kernel
theorem d_Net_uses_38 : decode prog_7_method_7_code 38 = .ok (.iaload, 1) := by decide +kernel
theorem d_Net_uses_39 : decode prog_7_method_7_code 39 = .ok (.invokevirtual 120, 3) := by decide +kernel
theorem d_Net_uses_42 : decode prog_7_method_7_code 42 = .ok (.ifCond .eq 5, 3) := by decide +kernel
theorem d_Net_uses_45 : decode prog_7_method_7_code 45 = .ok (.iconst 1, 1) := by decide +kernel
theorem d_Net_uses_46 : decode prog_7_method_7_code 46 = .ok (.ireturn, 1) := by decide +kernel
theorem d_Net_uses_47 : decode prog_7_method_7_code 47 = .ok (.iinc 3 1, 3) := by decide +kernel
theorem d_Net_uses_50 : decode prog_7_method_7_code 50 = .ok (.goto (-48), 3) := by decide +kernel
theorem d_Net_uses_53 : decode prog_7_method_7_code 53 = .ok (.iconst 0, 1) := by decide +kernel
theorem d_Net_uses_54 : decode prog_7_method_7_code 54 = .ok (.ireturn, 1) := by decide +kernel
def Net_uses_2 (h : g_AH)  : Nat → Nat → Option Nat → Int32 → Int32 → Option (Int32)
  | 0, _, _, _, _ => none
  | n + 1, v0, v1, v2, v3 => if v1 = none then (some (0 : Int32)) else (g_nn v1 fun a3 => g_gI h a3 6 3 fun x5 => if x5 ≤ v3 then (some (0 : Int32)) else (g_gR h v0 1 2 fun x11 => g_nn x11 fun a14 => g_is h a14 15 <| g_b (ArrayList_get h a14 v2) fun x17 => g_ck h x17 11 <| g_gR h a3 6 0 fun x22 => g_nn x22 fun a25 => g_aI h 0 a25 (v3 - (1 : Int32)) fun x26 => g_gR h a3 6 0 fun x32 => g_nn x32 fun a35 => g_aI h 0 a35 v3 fun x36 => g_nn x17 fun a41 => g_is h a41 11 <| g_b (Link_joins h a41 x26 x36) fun x44 => if x44 = 0 then ((Net_uses_2 h  n) v0 (some a3) v2 (v3 + (1 : Int32))) else (some (1 : Int32))))
set_option maxHeartbeats 4000000 in
set_option maxRecDepth 100000 in
theorem W_Net_uses_2 {X : g_X} (h : g_AH) (z : Int32)  : ∀ (n : Nat) (v0 : Nat) (v1 : Option Nat) (v2 : Int32) (v3 : Int32), Net_uses_2 h  n v0 v1 v2 v3 = some z → G X k_Net_uses (.inl (some (.int z))) h h 2 [(0, .ref v0), (1, va_rf v1), (2, .int v2), (3, .int v3)] [] := by
  intro n
  induction n with
  | zero => intro v0 v1 v2 v3 hy; exact absurd hy (by simp [Net_uses_2])
  | succ n ih =>
    intro v0 v1 v2 v3 hy
    rw [Net_uses_2] at hy
    refine g_aloadO_n 1 (i := 1) (pc' := 3) d_Net_uses_2 rfl rfl rfl ?_
    by_cases c1 : v1 = none
    · rw [if_pos c1] at hy
      refine g_ifnullT (pc' := 53) d_Net_uses_3 c1 (by decide) ?_
      refine g_iconst (v := (0 : Int32)) (pc' := 54) d_Net_uses_53 (by decide) rfl ?_
      cases hy
      exact g_zret rfl rfl rfl (g_nar_z (Or.inl rfl)).1 d_Net_uses_54
    · rw [if_neg c1] at hy
      refine g_ifnullF (pc' := 6) d_Net_uses_3 c1 rfl ?_
      refine g_iload_n 3 (i := 3) (pc' := 7) d_Net_uses_6 rfl rfl rfl ?_
      refine g_aloadO_n 1 (i := 1) (pc' := 8) d_Net_uses_7 rfl rfl rfl ?_
      replace hy := g_nn_inv hy
      obtain ⟨a3, rfl, hy⟩ := hy
      replace hy := g_gI_inv hy
      obtain ⟨fs4, x5, hc6, hv7, hy⟩ := hy
      refine g_getfN (pc' := 11) d_Net_uses_8 hc6 rfl (by decide) hv7 q629 rfl rfl ?_
      by_cases c8 : x5 ≤ v3
      · rw [if_pos c8] at hy
        refine g_icmp_geT (pc' := 53) d_Net_uses_11 c8 (by decide) ?_
        refine g_iconst (v := (0 : Int32)) (pc' := 54) d_Net_uses_53 (by decide) rfl ?_
        cases hy
        exact g_zret rfl rfl rfl (g_nar_z (Or.inl rfl)).1 d_Net_uses_54
      · rw [if_neg c8] at hy
        refine g_icmp_geF (pc' := 14) d_Net_uses_11 53 c8 (by decide) rfl ?_
        refine g_aload_n 0 (i := 0) (pc' := 15) d_Net_uses_14 rfl rfl rfl ?_
        replace hy := g_gR_inv hy
        obtain ⟨fs10, x11, hc12, hv13, hy⟩ := hy
        refine g_getf (pc' := 18) d_Net_uses_15 hc12 rfl (by decide) hv13 q552 (Or.inl rfl) rfl ?_
        refine g_iload_n 2 (i := 2) (pc' := 19) d_Net_uses_18 rfl rfl rfl ?_
        replace hy := g_nn_inv hy
        obtain ⟨a14, rfl, hy⟩ := hy
        replace hy := g_is_inv hy
        obtain ⟨fs15, hc16, hy⟩ := hy
        replace hy := g_b_inv hy
        obtain ⟨x17, hf19, hy⟩ := hy
        refine g_callV (rv := some (va_rf x17)) (h1 := h) (pc' := 22) (As := [.int v2]) (rest := []) 1 (T_ArrayList_get (hy := hf19)) d_Net_uses_19 hc16 rfl rfl q682 q683 q684 q112 q685 hd_ArrayList_get rfl ⟨by decide, by decide⟩ (by first | exact Nat.le_of_ble_eq_true rfl | (simp only [List.map, List.sum_cons, List.sum_nil, g_cat_rf]; exact Nat.le_of_ble_eq_true rfl) | (simp only [List.map, List.sum_cons, List.sum_nil, g_cat_rf, Value.category]; decide)) rfl ?_
        replace hy := g_ck_inv hy
        obtain ⟨hk20, hy⟩ := hy
        refine g_castO (pc' := 25) d_Net_uses_22 hk20 rfl q701 rfl ?_
        refine g_aload_n 1 (i := 1) (pc' := 26) d_Net_uses_25 rfl rfl rfl ?_
        replace hy := g_gR_inv hy
        obtain ⟨fs21, x22, hc23, hv24, hy⟩ := hy
        refine g_getfN (pc' := 29) d_Net_uses_26 hc23 rfl (by decide) hv24 q617 rfl rfl ?_
        refine g_iload_n 3 (i := 3) (pc' := 30) d_Net_uses_29 rfl rfl rfl ?_
        refine g_iconst (v := (1 : Int32)) (pc' := 31) d_Net_uses_30 (by decide) rfl ?_
        refine g_isub (pc' := 32) d_Net_uses_31 rfl ?_
        replace hy := g_nn_inv hy
        obtain ⟨a25, rfl, hy⟩ := hy
        replace hy := g_aI_inv hy
        obtain ⟨n27, f28, hc29, hi30, hy⟩ := hy
        refine g_iald (pc' := 33) d_Net_uses_32 hc29 hi30 rfl ?_
        generalize f28 ((v3 - (1 : Int32))).toNatClampNeg = x26 at hy ⊢
        refine g_aload_n 1 (i := 1) (pc' := 34) d_Net_uses_33 rfl rfl rfl ?_
        replace hy := g_gR_inv hy
        obtain ⟨fs31, x32, hc33, hv34, hy⟩ := hy
        refine g_getfN (pc' := 37) d_Net_uses_34 hc33 rfl (by decide) hv34 q617 rfl rfl ?_
        refine g_iload_n 3 (i := 3) (pc' := 38) d_Net_uses_37 rfl rfl rfl ?_
        replace hy := g_nn_inv hy
        obtain ⟨a35, rfl, hy⟩ := hy
        replace hy := g_aI_inv hy
        obtain ⟨n37, f38, hc39, hi40, hy⟩ := hy
        refine g_iald (pc' := 39) d_Net_uses_38 hc39 hi40 rfl ?_
        generalize f38 (v3).toNatClampNeg = x36 at hy ⊢
        replace hy := g_nn_inv hy
        obtain ⟨a41, rfl, hy⟩ := hy
        replace hy := g_is_inv hy
        obtain ⟨fs42, hc43, hy⟩ := hy
        replace hy := g_b_inv hy
        obtain ⟨x44, hf46, hy⟩ := hy
        refine g_callV (rv := some (.int x44)) (h1 := h) (pc' := 42) (As := [.int x26, .int x36]) (rest := []) 2 (T_Link_joins (hy := hf46)) d_Net_uses_39 hc43 rfl rfl q702 q703 q704 q141 q705 hd_Link_joins rfl ⟨by decide, by decide⟩ (by first | exact Nat.le_of_ble_eq_true rfl | (simp only [List.map, List.sum_cons, List.sum_nil, g_cat_rf]; exact Nat.le_of_ble_eq_true rfl) | (simp only [List.map, List.sum_cons, List.sum_nil, g_cat_rf, Value.category]; decide)) rfl ?_
        by_cases c47 : x44 = 0
        · rw [if_pos c47] at hy
          refine g_if_eqT (pc' := 47) d_Net_uses_42 c47 (by decide) ?_
          refine g_iinc 3 (v := (v3 + (1 : Int32))) (pc' := 50) (Lc' := [(3, .int (v3 + (1 : Int32))), (0, .ref v0), (1, .ref a3), (2, .int v2)]) d_Net_uses_47 rfl rfl (by decide) rfl rfl ?_
          refine g_goto (pc' := 2) d_Net_uses_50 (by decide) ?_
          refine g_sub [1, 2, 3, 0] rfl ?_
          exact ih _ _ _ _ hy
        · rw [if_neg c47] at hy
          refine g_if_eqF (pc' := 45) d_Net_uses_42 47 c47 (by decide) rfl ?_
          refine g_iconst (v := (1 : Int32)) (pc' := 46) d_Net_uses_45 (by decide) rfl ?_
          cases hy
          exact g_zret rfl rfl rfl (g_nar_z (Or.inr rfl)).1 d_Net_uses_46
def Net_uses (h : g_AH) (this : Nat) (p0 : Option Nat) (p1 : Int32) : Option (Int32) :=
  Net_uses_2 h  gFU this p0 p1 (1 : Int32)
set_option maxHeartbeats 4000000 in
set_option maxRecDepth 100000 in
theorem T_Net_uses {l : Launch} {B : g_B} (h : g_AH) (this : Nat) (p0 : Option Nat) (p1 : Int32) (z : Int32) (hy : Net_uses h this p0 p1 = some z) : g_CT l B y_Net_uses k_Net_uses [.ref this, va_rf p0, .int p1] h (.inl (some (.int z))) h := by
  refine g_start2 (Lc := [(0, .ref this), (1, va_rf p0), (2, .int p1)]) (by decide) rfl rfl (by rcases p0 with _ | p0 <;> exact Nat.le_of_ble_eq_true rfl) (by rcases p0 with _ | p0 <;> rfl) fun X => ?_
  unfold Net_uses at hy
  refine g_iconst (v := (1 : Int32)) (pc' := 1) d_Net_uses_0 (by decide) rfl ?_
  refine g_istore_n (i := 3) (pc' := 2) (Lc' := [(3, .int (1 : Int32)), (0, .ref this), (1, va_rf p0), (2, .int p1)]) d_Net_uses_1 rfl (by decide) rfl rfl ?_
  refine g_sub [1, 2, 3, 0] rfl ?_
  exact W_Net_uses_2 _ _ _ _ _ _ _ hy
theorem hd_Net_uses : g_dsc y_Net_uses 2 := ⟨by decide +kernel, by decide +kernel, by decide +kernel⟩
/-! CircuitDesk$Net.reserved(II)I -/
abbrev y_Net_reserved : MethodName := ⟨"CircuitDesk$Net", "reserved", "(II)I"⟩
abbrev k_Net_reserved : g_M := (prog_7_method_8_code, 6, "CircuitDesk$Net", 16, (some FieldType.int), "reserved", [], 0)
theorem d_Net_reserved_0 : decode prog_7_method_8_code 0 = .ok (.iconst 0, 1) := by decide +kernel
theorem d_Net_reserved_1 : decode prog_7_method_8_code 1 = .ok (.istore_n 3, 1) := by decide +kernel
theorem d_Net_reserved_2 : decode prog_7_method_8_code 2 = .ok (.iconst 0, 1) := by decide +kernel
theorem d_Net_reserved_3 : decode prog_7_method_8_code 3 = .ok (.istore 4, 2) := by decide +kernel
theorem d_Net_reserved_5 : decode prog_7_method_8_code 5 = .ok (.iload 4, 2) := by decide +kernel
theorem d_Net_reserved_7 : decode prog_7_method_8_code 7 = .ok (.aload_n 0, 1) := by decide +kernel
theorem d_Net_reserved_8 : decode prog_7_method_8_code 8 = .ok (.getfield 27, 3) := by decide +kernel
theorem d_Net_reserved_11 : decode prog_7_method_8_code 11 = .ok (.invokevirtual 112, 3) := by decide +kernel
theorem d_Net_reserved_14 : decode prog_7_method_8_code 14 = .ok (.if_icmp .ge 67, 3) := by decide +kernel
theorem d_Net_reserved_17 : decode prog_7_method_8_code 17 = .ok (.aload_n 0, 1) := by decide +kernel
theorem d_Net_reserved_18 : decode prog_7_method_8_code 18 = .ok (.getfield 27, 3) := by decide +kernel
theorem d_Net_reserved_21 : decode prog_7_method_8_code 21 = .ok (.iload 4, 2) := by decide +kernel
theorem d_Net_reserved_23 : decode prog_7_method_8_code 23 = .ok (.invokevirtual 116, 3) := by decide +kernel
theorem d_Net_reserved_26 : decode prog_7_method_8_code 26 = .ok (.checkcast 77, 3) := by decide +kernel
theorem d_Net_reserved_29 : decode prog_7_method_8_code 29 = .ok (.astore 5, 2) := by decide +kernel
theorem d_Net_reserved_31 : decode prog_7_method_8_code 31 = .ok (.iload_n 3, 1) := by decide +kernel
theorem d_Net_reserved_32 : decode prog_7_method_8_code 32 = .ok (.iload 4, 2) := by decide +kernel
theorem d_Net_reserved_34 : decode prog_7_method_8_code 34 = .ok (.iload_n 2, 1) := by decide +kernel
theorem d_Net_reserved_35 : decode prog_7_method_8_code 35 = .ok (.if_icmp .eq 37, 3) := by decide +kernel
theorem d_Net_reserved_38 : decode prog_7_method_8_code 38 = .ok (.aload_n 0, 1) := by decide +kernel
theorem d_Net_reserved_39 : decode prog_7_method_8_code 39 = .ok (.aload 5, 2) := by decide +kernel
theorem d_Net_reserved_41 : decode prog_7_method_8_code 41 = .ok (.getfield 143, 3) := by decide +kernel
theorem d_Net_reserved_44 : decode prog_7_method_8_code 44 = .ok (.iload_n 1, 1) := by decide +kernel
theorem d_Net_reserved_45 : decode prog_7_method_8_code 45 = .ok (.invokevirtual 147, 3) := by decide +kernel
theorem d_Net_reserved_48 : decode prog_7_method_8_code 48 = .ok (.ifCond .ne 16, 3) := by decide +kernel
theorem d_Net_reserved_51 : decode prog_7_method_8_code 51 = .ok (.aload_n 0, 1) := by decide +kernel
theorem d_Net_reserved_52 : decode prog_7_method_8_code 52 = .ok (.aload 5, 2) := by decide +kernel
theorem d_Net_reserved_54 : decode prog_7_method_8_code 54 = .ok (.getfield 151, 3) := by decide +kernel
theorem d_Net_reserved_57 : decode prog_7_method_8_code 57 = .ok (.iload_n 1, 1) := by decide +kernel
theorem d_Net_reserved_58 : decode prog_7_method_8_code 58 = .ok (.invokevirtual 147, 3) := by decide +kernel
theorem d_Net_reserved_61 : decode prog_7_method_8_code 61 = .ok (.ifCond .eq 11, 3) := by decide +kernel
theorem d_Net_reserved_64 : decode prog_7_method_8_code 64 = .ok (.aload 5, 2) := by decide +kernel
theorem d_Net_reserved_66 : decode prog_7_method_8_code 66 = .ok (.getfield 153, 3) := by decide +kernel
theorem d_Net_reserved_69 : decode prog_7_method_8_code 69 = .ok (.goto 4, 3) := by decide +kernel
theorem d_Net_reserved_72 : decode prog_7_method_8_code 72 = .ok (.iconst 0, 1) := by decide +kernel
theorem d_Net_reserved_73 : decode prog_7_method_8_code 73 = .ok (.iadd, 1) := by decide +kernel
theorem d_Net_reserved_74 : decode prog_7_method_8_code 74 = .ok (.istore_n 3, 1) := by decide +kernel
theorem d_Net_reserved_75 : decode prog_7_method_8_code 75 = .ok (.iinc 4 1, 3) := by decide +kernel
theorem d_Net_reserved_78 : decode prog_7_method_8_code 78 = .ok (.goto (-73), 3) := by decide +kernel
theorem d_Net_reserved_81 : decode prog_7_method_8_code 81 = .ok (.iload_n 3, 1) := by decide +kernel
theorem d_Net_reserved_82 : decode prog_7_method_8_code 82 = .ok (.ireturn, 1) := by decide +kernel
def Net_reserved_73 (h : g_AH) (k5 : Nat → Int32 → Int32 → Int32 → Int32 → Option (Int32)) (v0 : Nat) (v1 : Int32) (v2 : Int32) (v4 : Int32) (s0 : Int32) (s1 : Int32) : Option (Int32) :=
  k5 v0 v1 v2 (s1 + s0) (v4 + (1 : Int32))
set_option maxHeartbeats 4000000 in
set_option maxRecDepth 100000 in
theorem W_Net_reserved_73 {X : g_X} (h : g_AH) (z : Int32) (k5 : Nat → Int32 → Int32 → Int32 → Int32 → Option (Int32)) (hk5 : ∀ (v0 : Nat) (v1 : Int32) (v2 : Int32) (v3 : Int32) (v4 : Int32), k5 v0 v1 v2 v3 v4 = some z → G X k_Net_reserved (.inl (some (.int z))) h h 5 [(0, .ref v0), (1, .int v1), (2, .int v2), (3, .int v3), (4, .int v4)] []) (v0 : Nat) (v1 : Int32) (v2 : Int32) (v4 : Int32) (s0 : Int32) (s1 : Int32) (hy : Net_reserved_73 h k5 v0 v1 v2 v4 s0 s1 = some z) : G X k_Net_reserved (.inl (some (.int z))) h h 73 [(0, .ref v0), (1, .int v1), (2, .int v2), (4, .int v4)] [.int s0, .int s1] := by
  unfold Net_reserved_73 at hy
  refine g_iadd (pc' := 74) d_Net_reserved_73 rfl ?_
  refine g_istore_n (i := 3) (pc' := 75) (Lc' := [(3, .int (s1 + s0)), (0, .ref v0), (1, .int v1), (2, .int v2), (4, .int v4)]) d_Net_reserved_74 rfl (by decide) rfl rfl ?_
  refine g_iinc 4 (v := (v4 + (1 : Int32))) (pc' := 78) (Lc' := [(4, .int (v4 + (1 : Int32))), (3, .int (s1 + s0)), (0, .ref v0), (1, .int v1), (2, .int v2)]) d_Net_reserved_75 rfl rfl (by decide) rfl rfl ?_
  refine g_goto (pc' := 5) d_Net_reserved_78 (by decide) ?_
  refine g_sub [2, 3, 4, 1, 0] rfl ?_
  exact hk5 _ _ _ _ _ hy
def Net_reserved_72 (h : g_AH) (k5 : Nat → Int32 → Int32 → Int32 → Int32 → Option (Int32)) (v0 : Nat) (v1 : Int32) (v2 : Int32) (v4 : Int32) (s0 : Int32) : Option (Int32) :=
  Net_reserved_73 h k5 v0 v1 v2 v4 (0 : Int32) s0
set_option maxHeartbeats 4000000 in
set_option maxRecDepth 100000 in
theorem W_Net_reserved_72 {X : g_X} (h : g_AH) (z : Int32) (k5 : Nat → Int32 → Int32 → Int32 → Int32 → Option (Int32)) (hk5 : ∀ (v0 : Nat) (v1 : Int32) (v2 : Int32) (v3 : Int32) (v4 : Int32), k5 v0 v1 v2 v3 v4 = some z → G X k_Net_reserved (.inl (some (.int z))) h h 5 [(0, .ref v0), (1, .int v1), (2, .int v2), (3, .int v3), (4, .int v4)] []) (v0 : Nat) (v1 : Int32) (v2 : Int32) (v4 : Int32) (s0 : Int32) (hy : Net_reserved_72 h k5 v0 v1 v2 v4 s0 = some z) : G X k_Net_reserved (.inl (some (.int z))) h h 72 [(0, .ref v0), (1, .int v1), (2, .int v2), (4, .int v4)] [.int s0] := by
  unfold Net_reserved_72 at hy
  refine g_iconst (v := (0 : Int32)) (pc' := 73) d_Net_reserved_72 (by decide) rfl ?_
  exact W_Net_reserved_73 _ _ _ hk5 _ _ _ _ _ _ hy
def Net_reserved_64 (h : g_AH) (k5 : Nat → Int32 → Int32 → Int32 → Int32 → Option (Int32)) (v0 : Nat) (v1 : Int32) (v2 : Int32) (v4 : Int32) (v5 : Option Nat) (s0 : Int32) : Option (Int32) :=
  g_nn v5 fun a35 => g_gI h a35 12 0 fun x37 => Net_reserved_73 h k5 v0 v1 v2 v4 x37 s0
set_option maxHeartbeats 4000000 in
set_option maxRecDepth 100000 in
theorem W_Net_reserved_64 {X : g_X} (h : g_AH) (z : Int32) (k5 : Nat → Int32 → Int32 → Int32 → Int32 → Option (Int32)) (hk5 : ∀ (v0 : Nat) (v1 : Int32) (v2 : Int32) (v3 : Int32) (v4 : Int32), k5 v0 v1 v2 v3 v4 = some z → G X k_Net_reserved (.inl (some (.int z))) h h 5 [(0, .ref v0), (1, .int v1), (2, .int v2), (3, .int v3), (4, .int v4)] []) (v0 : Nat) (v1 : Int32) (v2 : Int32) (v4 : Int32) (v5 : Option Nat) (s0 : Int32) (hy : Net_reserved_64 h k5 v0 v1 v2 v4 v5 s0 = some z) : G X k_Net_reserved (.inl (some (.int z))) h h 64 [(0, .ref v0), (1, .int v1), (2, .int v2), (4, .int v4), (5, va_rf v5)] [.int s0] := by
  unfold Net_reserved_64 at hy
  refine g_aloadO 4 (pc' := 66) d_Net_reserved_64 rfl rfl ?_
  replace hy := g_nn_inv hy
  obtain ⟨a35, rfl, hy⟩ := hy
  replace hy := g_gI_inv hy
  obtain ⟨fs36, x37, hc38, hv39, hy⟩ := hy
  refine g_getfN (pc' := 69) d_Net_reserved_66 hc38 rfl (by decide) hv39 q1147 rfl rfl ?_
  refine g_goto (pc' := 73) d_Net_reserved_69 (by decide) ?_
  refine g_sub [0, 1, 2, 3] rfl ?_
  exact W_Net_reserved_73 _ _ _ hk5 _ _ _ _ _ _ hy
def Net_reserved_5 (h : g_AH)  : Nat → Nat → Int32 → Int32 → Int32 → Int32 → Option (Int32)
  | 0, _, _, _, _, _ => none
  | n + 1, v0, v1, v2, v3, v4 => g_gR h v0 1 3 fun x2 => g_nn x2 fun a5 => g_is h a5 15 <| g_b (ArrayList_size h a5) fun x8 => if x8 ≤ v4 then (some v3) else (g_gR h v0 1 3 fun x13 => g_nn x13 fun a16 => g_is h a16 15 <| g_b (ArrayList_get h a16 v4) fun x19 => g_ck h x19 12 <| if v4 = v2 then (Net_reserved_72 h (Net_reserved_5 h  n) v0 v1 v2 v4 v3) else (g_nn x19 fun a24 => g_gR h a24 12 2 fun x26 => g_is h v0 1 <| g_b (Net_uses h v0 x26 v1) fun x31 => if x31 = 0 then (g_gR h a24 12 3 fun x41 => g_is h v0 1 <| g_b (Net_uses h v0 x41 v1) fun x46 => if x46 = 0 then (Net_reserved_72 h (Net_reserved_5 h  n) v0 v1 v2 v4 v3) else (Net_reserved_64 h (Net_reserved_5 h  n) v0 v1 v2 v4 (some a24) v3)) else (Net_reserved_64 h (Net_reserved_5 h  n) v0 v1 v2 v4 (some a24) v3)))
set_option maxHeartbeats 4000000 in
set_option maxRecDepth 100000 in
theorem W_Net_reserved_5 {X : g_X} (h : g_AH) (z : Int32)  : ∀ (n : Nat) (v0 : Nat) (v1 : Int32) (v2 : Int32) (v3 : Int32) (v4 : Int32), Net_reserved_5 h  n v0 v1 v2 v3 v4 = some z → G X k_Net_reserved (.inl (some (.int z))) h h 5 [(0, .ref v0), (1, .int v1), (2, .int v2), (3, .int v3), (4, .int v4)] [] := by
  intro n
  induction n with
  | zero => intro v0 v1 v2 v3 v4 hy; exact absurd hy (by simp [Net_reserved_5])
  | succ n ih =>
    intro v0 v1 v2 v3 v4 hy
    rw [Net_reserved_5] at hy
    refine g_iload 4 (pc' := 7) d_Net_reserved_5 rfl rfl ?_
    refine g_aload_n 0 (i := 0) (pc' := 8) d_Net_reserved_7 rfl rfl rfl ?_
    replace hy := g_gR_inv hy
    obtain ⟨fs1, x2, hc3, hv4, hy⟩ := hy
    refine g_getf (pc' := 11) d_Net_reserved_8 hc3 rfl (by decide) hv4 q555 (Or.inl rfl) rfl ?_
    replace hy := g_nn_inv hy
    obtain ⟨a5, rfl, hy⟩ := hy
    replace hy := g_is_inv hy
    obtain ⟨fs6, hc7, hy⟩ := hy
    replace hy := g_b_inv hy
    obtain ⟨x8, hf10, hy⟩ := hy
    refine g_callV (rv := some (.int x8)) (h1 := h) (pc' := 14) (As := []) (rest := [.int v4]) 0 (T_ArrayList_size (hy := hf10)) d_Net_reserved_11 hc7 rfl rfl q681 q674 q675 q112 q676 hd_ArrayList_size rfl ⟨by decide, by decide⟩ (by first | exact Nat.le_of_ble_eq_true rfl | (simp only [List.map, List.sum_cons, List.sum_nil, g_cat_rf]; exact Nat.le_of_ble_eq_true rfl) | (simp only [List.map, List.sum_cons, List.sum_nil, g_cat_rf, Value.category]; decide)) rfl ?_
    by_cases c11 : x8 ≤ v4
    · rw [if_pos c11] at hy
      refine g_icmp_geT (pc' := 81) d_Net_reserved_14 c11 (by decide) ?_
      refine g_iload_n 3 (i := 3) (pc' := 82) d_Net_reserved_81 rfl rfl rfl ?_
      cases hy
      exact g_iret rfl rfl rfl d_Net_reserved_82
    · rw [if_neg c11] at hy
      refine g_icmp_geF (pc' := 17) d_Net_reserved_14 81 c11 (by decide) rfl ?_
      refine g_aload_n 0 (i := 0) (pc' := 18) d_Net_reserved_17 rfl rfl rfl ?_
      replace hy := g_gR_inv hy
      obtain ⟨fs12, x13, hc14, hv15, hy⟩ := hy
      refine g_getf (pc' := 21) d_Net_reserved_18 hc14 rfl (by decide) hv15 q555 (Or.inl rfl) rfl ?_
      refine g_iload 4 (pc' := 23) d_Net_reserved_21 rfl rfl ?_
      replace hy := g_nn_inv hy
      obtain ⟨a16, rfl, hy⟩ := hy
      replace hy := g_is_inv hy
      obtain ⟨fs17, hc18, hy⟩ := hy
      replace hy := g_b_inv hy
      obtain ⟨x19, hf21, hy⟩ := hy
      refine g_callV (rv := some (va_rf x19)) (h1 := h) (pc' := 26) (As := [.int v4]) (rest := []) 1 (T_ArrayList_get (hy := hf21)) d_Net_reserved_23 hc18 rfl rfl q682 q683 q684 q112 q685 hd_ArrayList_get rfl ⟨by decide, by decide⟩ (by first | exact Nat.le_of_ble_eq_true rfl | (simp only [List.map, List.sum_cons, List.sum_nil, g_cat_rf]; exact Nat.le_of_ble_eq_true rfl) | (simp only [List.map, List.sum_cons, List.sum_nil, g_cat_rf, Value.category]; decide)) rfl ?_
      replace hy := g_ck_inv hy
      obtain ⟨hk22, hy⟩ := hy
      refine g_castO (pc' := 29) d_Net_reserved_26 hk22 rfl q696 rfl ?_
      refine g_astoreO (pc' := 31) (Lc' := [(5, va_rf x19), (0, .ref v0), (1, .int v1), (2, .int v2), (3, .int v3), (4, .int v4)]) d_Net_reserved_29 (by decide) rfl rfl ?_
      refine g_iload_n 4 (i := 3) (pc' := 32) d_Net_reserved_31 rfl rfl rfl ?_
      refine g_iload 5 (pc' := 34) d_Net_reserved_32 rfl rfl ?_
      refine g_iload_n 3 (i := 2) (pc' := 35) d_Net_reserved_34 rfl rfl rfl ?_
      by_cases c23 : v4 = v2
      · rw [if_pos c23] at hy
        refine g_icmp_eqT (pc' := 72) d_Net_reserved_35 c23 (by decide) ?_
        refine g_sub [1, 2, 3, 5] rfl ?_
        exact W_Net_reserved_72 _ _ _ ih _ _ _ _ _ hy
      · rw [if_neg c23] at hy
        refine g_icmp_eqF (pc' := 38) d_Net_reserved_35 72 c23 (by decide) rfl ?_
        refine g_aload_n 1 (i := 0) (pc' := 39) d_Net_reserved_38 rfl rfl rfl ?_
        refine g_aloadO 0 (pc' := 41) d_Net_reserved_39 rfl rfl ?_
        replace hy := g_nn_inv hy
        obtain ⟨a24, rfl, hy⟩ := hy
        replace hy := g_gR_inv hy
        obtain ⟨fs25, x26, hc27, hv28, hy⟩ := hy
        refine g_getfN (pc' := 44) d_Net_reserved_41 hc27 rfl (by decide) hv28 q1155 rfl rfl ?_
        refine g_iload_n 2 (i := 1) (pc' := 45) d_Net_reserved_44 rfl rfl rfl ?_
        replace hy := g_is_inv hy
        obtain ⟨fs29, hc30, hy⟩ := hy
        replace hy := g_b_inv hy
        obtain ⟨x31, hf33, hy⟩ := hy
        refine g_callV (rv := some (.int x31)) (h1 := h) (pc' := 48) (As := [va_rf x26, .int v1]) (rest := [.int v3]) 2 (T_Net_uses (hy := hf33)) d_Net_reserved_45 hc30 rfl rfl q697 q698 q699 q109 q700 hd_Net_uses rfl ⟨by decide, by decide⟩ (by first | exact Nat.le_of_ble_eq_true rfl | (simp only [List.map, List.sum_cons, List.sum_nil, g_cat_rf]; exact Nat.le_of_ble_eq_true rfl) | (simp only [List.map, List.sum_cons, List.sum_nil, g_cat_rf, Value.category]; decide)) rfl ?_
        by_cases c34 : x31 = 0
        · rw [if_pos c34] at hy
          refine g_if_neF (pc' := 51) d_Net_reserved_48 64 c34 (by decide) rfl ?_
          refine g_aload_n 1 (i := 0) (pc' := 52) d_Net_reserved_51 rfl rfl rfl ?_
          refine g_aload 0 (pc' := 54) d_Net_reserved_52 rfl rfl ?_
          replace hy := g_gR_inv hy
          obtain ⟨fs40, x41, hc42, hv43, hy⟩ := hy
          refine g_getfN (pc' := 57) d_Net_reserved_54 hc42 rfl (by decide) hv43 q1161 rfl rfl ?_
          refine g_iload_n 2 (i := 1) (pc' := 58) d_Net_reserved_57 rfl rfl rfl ?_
          replace hy := g_is_inv hy
          obtain ⟨fs44, hc45, hy⟩ := hy
          replace hy := g_b_inv hy
          obtain ⟨x46, hf48, hy⟩ := hy
          refine g_callV (rv := some (.int x46)) (h1 := h) (pc' := 61) (As := [va_rf x41, .int v1]) (rest := [.int v3]) 2 (T_Net_uses (hy := hf48)) d_Net_reserved_58 hc45 rfl rfl q697 q698 q699 q109 q700 hd_Net_uses rfl ⟨by decide, by decide⟩ (by first | exact Nat.le_of_ble_eq_true rfl | (simp only [List.map, List.sum_cons, List.sum_nil, g_cat_rf]; exact Nat.le_of_ble_eq_true rfl) | (simp only [List.map, List.sum_cons, List.sum_nil, g_cat_rf, Value.category]; decide)) rfl ?_
          by_cases c49 : x46 = 0
          · rw [if_pos c49] at hy
            refine g_if_eqT (pc' := 72) d_Net_reserved_61 c49 (by decide) ?_
            refine g_sub [1, 2, 3, 5] rfl ?_
            exact W_Net_reserved_72 _ _ _ ih _ _ _ _ _ hy
          · rw [if_neg c49] at hy
            refine g_if_eqF (pc' := 64) d_Net_reserved_61 72 c49 (by decide) rfl ?_
            refine g_sub [1, 2, 3, 5, 0] rfl ?_
            exact W_Net_reserved_64 _ _ _ ih _ _ _ _ _ _ hy
        · rw [if_neg c34] at hy
          refine g_if_neT (pc' := 64) d_Net_reserved_48 c34 (by decide) ?_
          refine g_sub [1, 2, 3, 5, 0] rfl ?_
          exact W_Net_reserved_64 _ _ _ ih _ _ _ _ _ _ hy
def Net_reserved (h : g_AH) (this : Nat) (p0 : Int32) (p1 : Int32) : Option (Int32) :=
  Net_reserved_5 h  gFU this p0 p1 (0 : Int32) (0 : Int32)
set_option maxHeartbeats 4000000 in
set_option maxRecDepth 100000 in
theorem T_Net_reserved {l : Launch} {B : g_B} (h : g_AH) (this : Nat) (p0 : Int32) (p1 : Int32) (z : Int32) (hy : Net_reserved h this p0 p1 = some z) : g_CT l B y_Net_reserved k_Net_reserved [.ref this, .int p0, .int p1] h (.inl (some (.int z))) h := by
  refine g_start2 (Lc := [(0, .ref this), (1, .int p0), (2, .int p1)]) (by decide) rfl rfl (by exact Nat.le_of_ble_eq_true rfl) (by rfl) fun X => ?_
  unfold Net_reserved at hy
  refine g_iconst (v := (0 : Int32)) (pc' := 1) d_Net_reserved_0 (by decide) rfl ?_
  refine g_istore_n (i := 3) (pc' := 2) (Lc' := [(3, .int (0 : Int32)), (0, .ref this), (1, .int p0), (2, .int p1)]) d_Net_reserved_1 rfl (by decide) rfl rfl ?_
  refine g_iconst (v := (0 : Int32)) (pc' := 3) d_Net_reserved_2 (by decide) rfl ?_
  refine g_istore (pc' := 5) (Lc' := [(4, .int (0 : Int32)), (3, .int (0 : Int32)), (0, .ref this), (1, .int p0), (2, .int p1)]) d_Net_reserved_3 (by decide) rfl rfl ?_
  refine g_sub [2, 3, 4, 1, 0] rfl ?_
  exact W_Net_reserved_5 _ _ _ _ _ _ _ _ hy
theorem hd_Net_reserved : g_dsc y_Net_reserved 2 := ⟨by decide +kernel, by decide +kernel, by decide +kernel⟩
/-! CircuitDesk$Net.packetsOn(I)I -/
abbrev y_Net_packetsOn : MethodName := ⟨"CircuitDesk$Net", "packetsOn", "(I)I"⟩
abbrev k_Net_packetsOn : g_M := (prog_7_method_28_code, 4, "CircuitDesk$Net", 15, (some FieldType.int), "packetsOn", [], 0)
theorem d_Net_packetsOn_0 : decode prog_7_method_28_code 0 = .ok (.iconst 0, 1) := by decide +kernel
theorem d_Net_packetsOn_1 : decode prog_7_method_28_code 1 = .ok (.istore_n 2, 1) := by decide +kernel
theorem d_Net_packetsOn_2 : decode prog_7_method_28_code 2 = .ok (.iconst 0, 1) := by decide +kernel
theorem d_Net_packetsOn_3 : decode prog_7_method_28_code 3 = .ok (.istore_n 3, 1) := by decide +kernel
theorem d_Net_packetsOn_4 : decode prog_7_method_28_code 4 = .ok (.iload_n 3, 1) := by decide +kernel
theorem d_Net_packetsOn_5 : decode prog_7_method_28_code 5 = .ok (.aload_n 0, 1) := by decide +kernel
theorem d_Net_packetsOn_6 : decode prog_7_method_28_code 6 = .ok (.getfield 30, 3) := by decide +kernel
theorem d_Net_packetsOn_9 : decode prog_7_method_28_code 9 = .ok (.invokevirtual 112, 3) := by decide +kernel
theorem d_Net_packetsOn_12 : decode prog_7_method_28_code 12 = .ok (.if_icmp .ge 35, 3) := by decide +kernel
theorem d_Net_packetsOn_15 : decode prog_7_method_28_code 15 = .ok (.iload_n 2, 1) := by decide +kernel
theorem d_Net_packetsOn_16 : decode prog_7_method_28_code 16 = .ok (.aload_n 0, 1) := by decide +kernel
theorem d_Net_packetsOn_17 : decode prog_7_method_28_code 17 = .ok (.getfield 30, 3) := by decide +kernel
theorem d_Net_packetsOn_20 : decode prog_7_method_28_code 20 = .ok (.iload_n 3, 1) := by decide +kernel
theorem d_Net_packetsOn_21 : decode prog_7_method_28_code 21 = .ok (.invokevirtual 116, 3) := by decide +kernel
theorem d_Net_packetsOn_24 : decode prog_7_method_28_code 24 = .ok (.checkcast 82, 3) := by decide +kernel
theorem d_Net_packetsOn_27 : decode prog_7_method_28_code 27 = .ok (.getfield 222, 3) := by decide +kernel
theorem d_Net_packetsOn_30 : decode prog_7_method_28_code 30 = .ok (.iload_n 1, 1) := by decide +kernel
theorem d_Net_packetsOn_31 : decode prog_7_method_28_code 31 = .ok (.if_icmp .ne 7, 3) := by decide +kernel
theorem d_Net_packetsOn_34 : decode prog_7_method_28_code 34 = .ok (.iconst 1, 1) := by decide +kernel
theorem d_Net_packetsOn_35 : decode prog_7_method_28_code 35 = .ok (.goto 4, 3) := by decide +kernel
theorem d_Net_packetsOn_38 : decode prog_7_method_28_code 38 = .ok (.iconst 0, 1) := by decide +kernel
theorem d_Net_packetsOn_39 : decode prog_7_method_28_code 39 = .ok (.iadd, 1) := by decide +kernel
theorem d_Net_packetsOn_40 : decode prog_7_method_28_code 40 = .ok (.istore_n 2, 1) := by decide +kernel
theorem d_Net_packetsOn_41 : decode prog_7_method_28_code 41 = .ok (.iinc 3 1, 3) := by decide +kernel
theorem d_Net_packetsOn_44 : decode prog_7_method_28_code 44 = .ok (.goto (-40), 3) := by decide +kernel
theorem d_Net_packetsOn_47 : decode prog_7_method_28_code 47 = .ok (.iload_n 2, 1) := by decide +kernel
theorem d_Net_packetsOn_48 : decode prog_7_method_28_code 48 = .ok (.ireturn, 1) := by decide +kernel
def Net_packetsOn_39 (h : g_AH) (k4 : Nat → Int32 → Int32 → Int32 → Option (Int32)) (v0 : Nat) (v1 : Int32) (v3 : Int32) (s0 : Int32) (s1 : Int32) : Option (Int32) :=
  k4 v0 v1 (s1 + s0) (v3 + (1 : Int32))
set_option maxHeartbeats 4000000 in
set_option maxRecDepth 100000 in
theorem W_Net_packetsOn_39 {X : g_X} (h : g_AH) (z : Int32) (k4 : Nat → Int32 → Int32 → Int32 → Option (Int32)) (hk4 : ∀ (v0 : Nat) (v1 : Int32) (v2 : Int32) (v3 : Int32), k4 v0 v1 v2 v3 = some z → G X k_Net_packetsOn (.inl (some (.int z))) h h 4 [(0, .ref v0), (1, .int v1), (2, .int v2), (3, .int v3)] []) (v0 : Nat) (v1 : Int32) (v3 : Int32) (s0 : Int32) (s1 : Int32) (hy : Net_packetsOn_39 h k4 v0 v1 v3 s0 s1 = some z) : G X k_Net_packetsOn (.inl (some (.int z))) h h 39 [(0, .ref v0), (1, .int v1), (3, .int v3)] [.int s0, .int s1] := by
  unfold Net_packetsOn_39 at hy
  refine g_iadd (pc' := 40) d_Net_packetsOn_39 rfl ?_
  refine g_istore_n (i := 2) (pc' := 41) (Lc' := [(2, .int (s1 + s0)), (0, .ref v0), (1, .int v1), (3, .int v3)]) d_Net_packetsOn_40 rfl (by decide) rfl rfl ?_
  refine g_iinc 3 (v := (v3 + (1 : Int32))) (pc' := 44) (Lc' := [(3, .int (v3 + (1 : Int32))), (2, .int (s1 + s0)), (0, .ref v0), (1, .int v1)]) d_Net_packetsOn_41 rfl rfl (by decide) rfl rfl ?_
  refine g_goto (pc' := 4) d_Net_packetsOn_44 (by decide) ?_
  refine g_sub [2, 3, 1, 0] rfl ?_
  exact hk4 _ _ _ _ hy
def Net_packetsOn_4 (h : g_AH)  : Nat → Nat → Int32 → Int32 → Int32 → Option (Int32)
  | 0, _, _, _, _ => none
  | n + 1, v0, v1, v2, v3 => g_gR h v0 1 4 fun x2 => g_nn x2 fun a5 => g_is h a5 15 <| g_b (ArrayList_size h a5) fun x8 => if x8 ≤ v3 then (some v2) else (g_gR h v0 1 4 fun x13 => g_nn x13 fun a16 => g_is h a16 15 <| g_b (ArrayList_get h a16 v3) fun x19 => g_ck h x19 14 <| g_nn x19 fun a23 => g_gI h a23 14 3 fun x25 => if x25 = v1 then (Net_packetsOn_39 h (Net_packetsOn_4 h  n) v0 v1 v3 (1 : Int32) v2) else (Net_packetsOn_39 h (Net_packetsOn_4 h  n) v0 v1 v3 (0 : Int32) v2))
set_option maxHeartbeats 4000000 in
set_option maxRecDepth 100000 in
theorem W_Net_packetsOn_4 {X : g_X} (h : g_AH) (z : Int32)  : ∀ (n : Nat) (v0 : Nat) (v1 : Int32) (v2 : Int32) (v3 : Int32), Net_packetsOn_4 h  n v0 v1 v2 v3 = some z → G X k_Net_packetsOn (.inl (some (.int z))) h h 4 [(0, .ref v0), (1, .int v1), (2, .int v2), (3, .int v3)] [] := by
  intro n
  induction n with
  | zero => intro v0 v1 v2 v3 hy; exact absurd hy (by simp [Net_packetsOn_4])
  | succ n ih =>
    intro v0 v1 v2 v3 hy
    rw [Net_packetsOn_4] at hy
    refine g_iload_n 3 (i := 3) (pc' := 5) d_Net_packetsOn_4 rfl rfl rfl ?_
    refine g_aload_n 0 (i := 0) (pc' := 6) d_Net_packetsOn_5 rfl rfl rfl ?_
    replace hy := g_gR_inv hy
    obtain ⟨fs1, x2, hc3, hv4, hy⟩ := hy
    refine g_getf (pc' := 9) d_Net_packetsOn_6 hc3 rfl (by decide) hv4 q561 (Or.inl rfl) rfl ?_
    replace hy := g_nn_inv hy
    obtain ⟨a5, rfl, hy⟩ := hy
    replace hy := g_is_inv hy
    obtain ⟨fs6, hc7, hy⟩ := hy
    replace hy := g_b_inv hy
    obtain ⟨x8, hf10, hy⟩ := hy
    refine g_callV (rv := some (.int x8)) (h1 := h) (pc' := 12) (As := []) (rest := [.int v3]) 0 (T_ArrayList_size (hy := hf10)) d_Net_packetsOn_9 hc7 rfl rfl q681 q674 q675 q112 q676 hd_ArrayList_size rfl ⟨by decide, by decide⟩ (by first | exact Nat.le_of_ble_eq_true rfl | (simp only [List.map, List.sum_cons, List.sum_nil, g_cat_rf]; exact Nat.le_of_ble_eq_true rfl) | (simp only [List.map, List.sum_cons, List.sum_nil, g_cat_rf, Value.category]; decide)) rfl ?_
    by_cases c11 : x8 ≤ v3
    · rw [if_pos c11] at hy
      refine g_icmp_geT (pc' := 47) d_Net_packetsOn_12 c11 (by decide) ?_
      refine g_iload_n 2 (i := 2) (pc' := 48) d_Net_packetsOn_47 rfl rfl rfl ?_
      cases hy
      exact g_iret rfl rfl rfl d_Net_packetsOn_48
    · rw [if_neg c11] at hy
      refine g_icmp_geF (pc' := 15) d_Net_packetsOn_12 47 c11 (by decide) rfl ?_
      refine g_iload_n 2 (i := 2) (pc' := 16) d_Net_packetsOn_15 rfl rfl rfl ?_
      refine g_aload_n 0 (i := 0) (pc' := 17) d_Net_packetsOn_16 rfl rfl rfl ?_
      replace hy := g_gR_inv hy
      obtain ⟨fs12, x13, hc14, hv15, hy⟩ := hy
      refine g_getf (pc' := 20) d_Net_packetsOn_17 hc14 rfl (by decide) hv15 q561 (Or.inl rfl) rfl ?_
      refine g_iload_n 3 (i := 3) (pc' := 21) d_Net_packetsOn_20 rfl rfl rfl ?_
      replace hy := g_nn_inv hy
      obtain ⟨a16, rfl, hy⟩ := hy
      replace hy := g_is_inv hy
      obtain ⟨fs17, hc18, hy⟩ := hy
      replace hy := g_b_inv hy
      obtain ⟨x19, hf21, hy⟩ := hy
      refine g_callV (rv := some (va_rf x19)) (h1 := h) (pc' := 24) (As := [.int v3]) (rest := [.int v2]) 1 (T_ArrayList_get (hy := hf21)) d_Net_packetsOn_21 hc18 rfl rfl q682 q683 q684 q112 q685 hd_ArrayList_get rfl ⟨by decide, by decide⟩ (by first | exact Nat.le_of_ble_eq_true rfl | (simp only [List.map, List.sum_cons, List.sum_nil, g_cat_rf]; exact Nat.le_of_ble_eq_true rfl) | (simp only [List.map, List.sum_cons, List.sum_nil, g_cat_rf, Value.category]; decide)) rfl ?_
      replace hy := g_ck_inv hy
      obtain ⟨hk22, hy⟩ := hy
      refine g_castO (pc' := 27) d_Net_packetsOn_24 hk22 rfl q1420 rfl ?_
      replace hy := g_nn_inv hy
      obtain ⟨a23, rfl, hy⟩ := hy
      replace hy := g_gI_inv hy
      obtain ⟨fs24, x25, hc26, hv27, hy⟩ := hy
      refine g_getfN (pc' := 30) d_Net_packetsOn_27 hc26 rfl (by decide) hv27 q1812 rfl rfl ?_
      refine g_iload_n 1 (i := 1) (pc' := 31) d_Net_packetsOn_30 rfl rfl rfl ?_
      by_cases c28 : x25 = v1
      · rw [if_pos c28] at hy
        refine g_icmp_neF (pc' := 34) d_Net_packetsOn_31 38 c28 (by decide) rfl ?_
        refine g_iconst (v := (1 : Int32)) (pc' := 35) d_Net_packetsOn_34 (by decide) rfl ?_
        refine g_goto (pc' := 39) d_Net_packetsOn_35 (by decide) ?_
        refine g_sub [0, 1, 3] rfl ?_
        exact W_Net_packetsOn_39 _ _ _ ih _ _ _ _ _ hy
      · rw [if_neg c28] at hy
        refine g_icmp_neT (pc' := 38) d_Net_packetsOn_31 c28 (by decide) ?_
        refine g_iconst (v := (0 : Int32)) (pc' := 39) d_Net_packetsOn_38 (by decide) rfl ?_
        refine g_sub [0, 1, 3] rfl ?_
        exact W_Net_packetsOn_39 _ _ _ ih _ _ _ _ _ hy
def Net_packetsOn (h : g_AH) (this : Nat) (p0 : Int32) : Option (Int32) :=
  Net_packetsOn_4 h  gFU this p0 (0 : Int32) (0 : Int32)
set_option maxHeartbeats 4000000 in
set_option maxRecDepth 100000 in
theorem T_Net_packetsOn {l : Launch} {B : g_B} (h : g_AH) (this : Nat) (p0 : Int32) (z : Int32) (hy : Net_packetsOn h this p0 = some z) : g_CT l B y_Net_packetsOn k_Net_packetsOn [.ref this, .int p0] h (.inl (some (.int z))) h := by
  refine g_start2 (Lc := [(0, .ref this), (1, .int p0)]) (by decide) rfl rfl (by exact Nat.le_of_ble_eq_true rfl) (by rfl) fun X => ?_
  unfold Net_packetsOn at hy
  refine g_iconst (v := (0 : Int32)) (pc' := 1) d_Net_packetsOn_0 (by decide) rfl ?_
  refine g_istore_n (i := 2) (pc' := 2) (Lc' := [(2, .int (0 : Int32)), (0, .ref this), (1, .int p0)]) d_Net_packetsOn_1 rfl (by decide) rfl rfl ?_
  refine g_iconst (v := (0 : Int32)) (pc' := 3) d_Net_packetsOn_2 (by decide) rfl ?_
  refine g_istore_n (i := 3) (pc' := 4) (Lc' := [(3, .int (0 : Int32)), (2, .int (0 : Int32)), (0, .ref this), (1, .int p0)]) d_Net_packetsOn_3 rfl (by decide) rfl rfl ?_
  refine g_sub [2, 3, 1, 0] rfl ?_
  exact W_Net_packetsOn_4 _ _ _ _ _ _ _ hy
theorem hd_Net_packetsOn : g_dsc y_Net_packetsOn 1 := ⟨by decide +kernel, by decide +kernel, by decide +kernel⟩
/-! CircuitDesk.link(II)I -/
abbrev y_Desk_link : MethodName := ⟨"CircuitDesk", "link", "(II)I"⟩
abbrev k_Desk_link : g_M := (prog_1_method_21_code, 4, "CircuitDesk", 19, (some FieldType.int), "link", [], 0)
theorem d_Desk_link_0 : decode prog_1_method_21_code 0 = .ok (.aload_n 0, 1) := by decide +kernel
theorem d_Desk_link_1 : decode prog_1_method_21_code 1 = .ok (.iload_n 1, 1) := by decide +kernel
theorem d_Desk_link_2 : decode prog_1_method_21_code 2 = .ok (.invokevirtual 111, 3) := by decide +kernel
theorem d_Desk_link_5 : decode prog_1_method_21_code 5 = .ok (.astore_n 3, 1) := by decide +kernel
theorem d_Desk_link_6 : decode prog_1_method_21_code 6 = .ok (.iload_n 2, 1) := by decide +kernel
theorem d_Desk_link_7 : decode prog_1_method_21_code 7 = .ok (.i2l, 1) := by decide +kernel
theorem d_Desk_link_8 : decode prog_1_method_21_code 8 = .ok (.lconst 0, 1) := by decide +kernel
theorem d_Desk_link_9 : decode prog_1_method_21_code 9 = .ok (.ldc2_w 198, 3) := by decide +kernel
theorem d_Desk_link_12 : decode prog_1_method_21_code 12 = .ok (.invokestatic 54, 3) := by decide +kernel
theorem d_Desk_link_15 : decode prog_1_method_21_code 15 = .ok (.invokestatic 80, 3) := by decide +kernel
theorem d_Desk_link_18 : decode prog_1_method_21_code 18 = .ok (.iload_n 2, 1) := by decide +kernel
theorem d_Desk_link_19 : decode prog_1_method_21_code 19 = .ok (.tableswitch 92 0 5 #[37, 44, 51, 58, 65, 80], 37) := by decide +kernel
theorem d_Desk_link_56 : decode prog_1_method_21_code 56 = .ok (.aload_n 3, 1) := by decide +kernel
theorem d_Desk_link_57 : decode prog_1_method_21_code 57 = .ok (.getfield 220, 3) := by decide +kernel
theorem d_Desk_link_60 : decode prog_1_method_21_code 60 = .ok (.goto 59, 3) := by decide +kernel
theorem d_Desk_link_63 : decode prog_1_method_21_code 63 = .ok (.aload_n 3, 1) := by decide +kernel
theorem d_Desk_link_64 : decode prog_1_method_21_code 64 = .ok (.getfield 223, 3) := by decide +kernel
theorem d_Desk_link_67 : decode prog_1_method_21_code 67 = .ok (.goto 52, 3) := by decide +kernel
theorem d_Desk_link_70 : decode prog_1_method_21_code 70 = .ok (.aload_n 3, 1) := by decide +kernel
theorem d_Desk_link_71 : decode prog_1_method_21_code 71 = .ok (.getfield 226, 3) := by decide +kernel
theorem d_Desk_link_74 : decode prog_1_method_21_code 74 = .ok (.goto 45, 3) := by decide +kernel
theorem d_Desk_link_77 : decode prog_1_method_21_code 77 = .ok (.aload_n 3, 1) := by decide +kernel
theorem d_Desk_link_78 : decode prog_1_method_21_code 78 = .ok (.getfield 229, 3) := by decide +kernel
theorem d_Desk_link_81 : decode prog_1_method_21_code 81 = .ok (.goto 38, 3) := by decide +kernel
theorem d_Desk_link_84 : decode prog_1_method_21_code 84 = .ok (.aload_n 3, 1) := by decide +kernel
theorem d_Desk_link_85 : decode prog_1_method_21_code 85 = .ok (.getfield 115, 3) := by decide +kernel
theorem d_Desk_link_88 : decode prog_1_method_21_code 88 = .ok (.ifCond .eq 7, 3) := by decide +kernel
theorem d_Desk_link_91 : decode prog_1_method_21_code 91 = .ok (.iconst 1, 1) := by decide +kernel
theorem d_Desk_link_92 : decode prog_1_method_21_code 92 = .ok (.goto 27, 3) := by decide +kernel
theorem d_Desk_link_95 : decode prog_1_method_21_code 95 = .ok (.iconst 0, 1) := by decide +kernel
theorem d_Desk_link_96 : decode prog_1_method_21_code 96 = .ok (.goto 23, 3) := by decide +kernel
theorem d_Desk_link_99 : decode prog_1_method_21_code 99 = .ok (.aload_n 0, 1) := by decide +kernel
theorem d_Desk_link_100 : decode prog_1_method_21_code 100 = .ok (.getfield 19, 3) := by decide +kernel
theorem d_Desk_link_103 : decode prog_1_method_21_code 103 = .ok (.iload_n 1, 1) := by decide +kernel
theorem d_Desk_link_104 : decode prog_1_method_21_code 104 = .ok (.iconst (-1), 1) := by decide +kernel
theorem d_Desk_link_105 : decode prog_1_method_21_code 105 = .ok (.invokevirtual 232, 3) := by decide +kernel
theorem d_Desk_link_108 : decode prog_1_method_21_code 108 = .ok (.goto 11, 3) := by decide +kernel
theorem d_Desk_link_111 : decode prog_1_method_21_code 111 = .ok (.aload_n 0, 1) := by decide +kernel
theorem d_Desk_link_112 : decode prog_1_method_21_code 112 = .ok (.getfield 19, 3) := by decide +kernel
theorem d_Desk_link_115 : decode prog_1_method_21_code 115 = .ok (.iload_n 1, 1) := by decide +kernel
theorem d_Desk_link_116 : decode prog_1_method_21_code 116 = .ok (.invokevirtual 236, 3) := by decide +kernel
theorem d_Desk_link_119 : decode prog_1_method_21_code 119 = .ok (.ireturn, 1) := by decide +kernel
def Desk_link (h : g_AH) (this : Nat) (p0 : Int32) (p1 : Int32) : Option ((Int32 ⊕ g_EX) × g_AH) :=
  g_is h this 0 <| g_bx (Desk_linkOf h this p0) fun x3 h4 => g_b (Desk_isBetween ((p1).toInt64) (0 : Int64) (6 : Int64)) fun x8 => g_bx (Desk_checkArgument h4 x8) fun x11 h12 => if p1 = (0 : Int32) then (g_nn x3 fun a17 => g_gI h12 a17 11 0 fun x19 => some (.inl x19, h12)) else (if p1 = (1 : Int32) then (g_nn x3 fun a23 => g_gI h12 a23 11 1 fun x25 => some (.inl x25, h12)) else (if p1 = (2 : Int32) then (g_nn x3 fun a29 => g_gI h12 a29 11 2 fun x31 => some (.inl x31, h12)) else (if p1 = (3 : Int32) then (g_nn x3 fun a35 => g_gI h12 a35 11 3 fun x37 => some (.inl x37, h12)) else (if p1 = (4 : Int32) then (g_nn x3 fun a41 => g_gI h12 a41 11 4 fun x43 => if x43 = 0 then (some (.inl (0 : Int32), h12)) else (some (.inl (1 : Int32), h12))) else (if p1 = (5 : Int32) then (g_gR h12 this 0 0 fun x49 => g_nn x49 fun a52 => g_is h12 a52 1 <| g_b (Net_reserved h12 a52 p0 (-1 : Int32)) fun x55 => some (.inl x55, h12)) else (g_gR h12 this 0 0 fun x59 => g_nn x59 fun a62 => g_is h12 a62 1 <| g_b (Net_packetsOn h12 a62 p0) fun x65 => some (.inl x65, h12)))))))
set_option maxHeartbeats 4000000 in
set_option maxRecDepth 100000 in
theorem T_Desk_link {l : Launch} {B : g_B} (h : g_AH) (this : Nat) (p0 : Int32) (p1 : Int32) (z : (Int32 ⊕ g_EX) × g_AH) (hy : Desk_link h this p0 p1 = some z) : g_CT l B y_Desk_link k_Desk_link [.ref this, .int p0, .int p1] h (g_rI z.1) z.2 := by
  refine g_start2 (Lc := [(0, .ref this), (1, .int p0), (2, .int p1)]) (by decide) rfl rfl (by exact Nat.le_of_ble_eq_true rfl) (by rfl) fun X => ?_
  unfold Desk_link at hy
  refine g_aload_n 0 (i := 0) (pc' := 1) d_Desk_link_0 rfl rfl rfl ?_
  refine g_iload_n 1 (i := 1) (pc' := 2) d_Desk_link_1 rfl rfl rfl ?_
  replace hy := g_is_inv hy
  obtain ⟨fs1, hc2, hy⟩ := hy
  replace hy := g_bx_inv hy
  rcases hy with ⟨x3, h4, hf5, hy⟩ | ⟨⟨E9, q9⟩, h4, hf5, ez7⟩
  rotate_left
  · subst ez7
    exact g_callVX (As := [.int p0]) (rest := []) 1 (T_Desk_linkOf (hy := hf5)) d_Desk_link_2 hc2 rfl rfl q1412 q1414 qs16 q108 q1415 hd_Desk_linkOf rfl ⟨by decide, by decide⟩ (by first | exact Nat.le_of_ble_eq_true rfl | (simp only [List.map, List.sum_cons, List.sum_nil, g_cat_rf]; exact Nat.le_of_ble_eq_true rfl) | (simp only [List.map, List.sum_cons, List.sum_nil, g_cat_rf, Value.category]; decide)) rfl rfl
  refine g_callV (rv := some (va_rf x3)) (h1 := h4) (pc' := 5) (As := [.int p0]) (rest := []) 1 (T_Desk_linkOf (hy := hf5)) d_Desk_link_2 hc2 rfl rfl q1412 q1414 qs16 q108 q1415 hd_Desk_linkOf rfl ⟨by decide, by decide⟩ (by first | exact Nat.le_of_ble_eq_true rfl | (simp only [List.map, List.sum_cons, List.sum_nil, g_cat_rf]; exact Nat.le_of_ble_eq_true rfl) | (simp only [List.map, List.sum_cons, List.sum_nil, g_cat_rf, Value.category]; decide)) rfl ?_
  refine g_astoreO_n (i := 3) (pc' := 6) (Lc' := [(3, va_rf x3), (0, .ref this), (1, .int p0), (2, .int p1)]) d_Desk_link_5 rfl (by decide) rfl rfl ?_
  refine g_iload_n 3 (i := 2) (pc' := 7) d_Desk_link_6 rfl rfl rfl ?_
  refine g_i2l (pc' := 8) d_Desk_link_7 rfl ?_
  refine g_lconst (v := 0) (pc' := 9) d_Desk_link_8 (by decide) rfl ?_
  refine g_ldc2 (pc' := 12) d_Desk_link_9 q1535 rfl ?_
  replace hy := g_b_inv hy
  obtain ⟨x8, hf10, hy⟩ := hy
  refine g_callS (rv := some (.int x8)) (h1 := h4) (pc' := 15) (As := [.long ((p1).toInt64), .long (0 : Int64), .long (6 : Int64)]) (rest := []) 3 (T_Desk_isBetween (hy := hf10)) d_Desk_link_12 q1330 q828 q108 q829 hd_Desk_isBetween rfl ⟨by decide, by decide⟩ (by first | exact Nat.le_of_ble_eq_true rfl | (simp only [List.map, List.sum_cons, List.sum_nil, g_cat_rf]; exact Nat.le_of_ble_eq_true rfl) | (simp only [List.map, List.sum_cons, List.sum_nil, g_cat_rf, Value.category]; decide)) rfl ?_
  replace hy := g_bx_inv hy
  rcases hy with ⟨x11, h12, hf13, hy⟩ | ⟨⟨E9, q9⟩, h12, hf13, ez15⟩
  rotate_left
  · subst ez15
    exact g_callSX (As := [.int x8]) (rest := []) 1 (T_Desk_checkArgument (hy := hf13)) d_Desk_link_15 q1331 q1332 q108 q1333 hd_Desk_checkArgument rfl ⟨by decide, by decide⟩ (by first | exact Nat.le_of_ble_eq_true rfl | (simp only [List.map, List.sum_cons, List.sum_nil, g_cat_rf]; exact Nat.le_of_ble_eq_true rfl) | (simp only [List.map, List.sum_cons, List.sum_nil, g_cat_rf, Value.category]; decide)) rfl rfl
  refine g_callS (rv := none) (h1 := h12) (pc' := 18) (As := [.int x8]) (rest := []) 1 (T_Desk_checkArgument (hy := hf13)) d_Desk_link_15 q1331 q1332 q108 q1333 hd_Desk_checkArgument rfl ⟨by decide, by decide⟩ (by first | exact Nat.le_of_ble_eq_true rfl | (simp only [List.map, List.sum_cons, List.sum_nil, g_cat_rf]; exact Nat.le_of_ble_eq_true rfl) | (simp only [List.map, List.sum_cons, List.sum_nil, g_cat_rf, Value.category]; decide)) rfl ?_
  refine g_iload_n 3 (i := 2) (pc' := 19) d_Desk_link_18 rfl rfl rfl ?_
  by_cases c16 : p1 = (0 : Int32)
  · rw [if_pos c16] at hy
    refine g_tableIn (pc' := 56) (0 : Int32) d_Desk_link_19 c16 (by decide) rfl (by decide) ?_
    refine g_aloadO_n 0 (i := 3) (pc' := 57) d_Desk_link_56 rfl rfl rfl ?_
    replace hy := g_nn_inv hy
    obtain ⟨a17, rfl, hy⟩ := hy
    replace hy := g_gI_inv hy
    obtain ⟨fs18, x19, hc20, hv21, hy⟩ := hy
    refine g_getfN (pc' := 60) d_Desk_link_57 hc20 rfl (by decide) hv21 q1109 rfl rfl ?_
    refine g_goto (pc' := 119) d_Desk_link_60 (by decide) ?_
    cases hy
    exact g_iret rfl rfl rfl d_Desk_link_119
  · rw [if_neg c16] at hy
    by_cases c22 : p1 = (1 : Int32)
    · rw [if_pos c22] at hy
      refine g_tableIn (pc' := 63) (1 : Int32) d_Desk_link_19 c22 (by decide) rfl (by decide) ?_
      refine g_aloadO_n 0 (i := 3) (pc' := 64) d_Desk_link_63 rfl rfl rfl ?_
      replace hy := g_nn_inv hy
      obtain ⟨a23, rfl, hy⟩ := hy
      replace hy := g_gI_inv hy
      obtain ⟨fs24, x25, hc26, hv27, hy⟩ := hy
      refine g_getfN (pc' := 67) d_Desk_link_64 hc26 rfl (by decide) hv27 q1112 rfl rfl ?_
      refine g_goto (pc' := 119) d_Desk_link_67 (by decide) ?_
      cases hy
      exact g_iret rfl rfl rfl d_Desk_link_119
    · rw [if_neg c22] at hy
      by_cases c28 : p1 = (2 : Int32)
      · rw [if_pos c28] at hy
        refine g_tableIn (pc' := 70) (2 : Int32) d_Desk_link_19 c28 (by decide) rfl (by decide) ?_
        refine g_aloadO_n 0 (i := 3) (pc' := 71) d_Desk_link_70 rfl rfl rfl ?_
        replace hy := g_nn_inv hy
        obtain ⟨a29, rfl, hy⟩ := hy
        replace hy := g_gI_inv hy
        obtain ⟨fs30, x31, hc32, hv33, hy⟩ := hy
        refine g_getfN (pc' := 74) d_Desk_link_71 hc32 rfl (by decide) hv33 q1115 rfl rfl ?_
        refine g_goto (pc' := 119) d_Desk_link_74 (by decide) ?_
        cases hy
        exact g_iret rfl rfl rfl d_Desk_link_119
      · rw [if_neg c28] at hy
        by_cases c34 : p1 = (3 : Int32)
        · rw [if_pos c34] at hy
          refine g_tableIn (pc' := 77) (3 : Int32) d_Desk_link_19 c34 (by decide) rfl (by decide) ?_
          refine g_aloadO_n 0 (i := 3) (pc' := 78) d_Desk_link_77 rfl rfl rfl ?_
          replace hy := g_nn_inv hy
          obtain ⟨a35, rfl, hy⟩ := hy
          replace hy := g_gI_inv hy
          obtain ⟨fs36, x37, hc38, hv39, hy⟩ := hy
          refine g_getfN (pc' := 81) d_Desk_link_78 hc38 rfl (by decide) hv39 q1119 rfl rfl ?_
          refine g_goto (pc' := 119) d_Desk_link_81 (by decide) ?_
          cases hy
          exact g_iret rfl rfl rfl d_Desk_link_119
        · rw [if_neg c34] at hy
          by_cases c40 : p1 = (4 : Int32)
          · rw [if_pos c40] at hy
            refine g_tableIn (pc' := 84) (4 : Int32) d_Desk_link_19 c40 (by decide) rfl (by decide) ?_
            refine g_aloadO_n 0 (i := 3) (pc' := 85) d_Desk_link_84 rfl rfl rfl ?_
            replace hy := g_nn_inv hy
            obtain ⟨a41, rfl, hy⟩ := hy
            replace hy := g_gI_inv hy
            obtain ⟨fs42, x43, hc44, hv45, hy⟩ := hy
            refine g_getfN (pc' := 88) d_Desk_link_85 hc44 rfl (by decide) hv45 q1122 rfl rfl ?_
            by_cases c46 : x43 = 0
            · rw [if_pos c46] at hy
              refine g_if_eqT (pc' := 95) d_Desk_link_88 c46 (by decide) ?_
              refine g_iconst (v := (0 : Int32)) (pc' := 96) d_Desk_link_95 (by decide) rfl ?_
              refine g_goto (pc' := 119) d_Desk_link_96 (by decide) ?_
              cases hy
              exact g_iret rfl rfl rfl d_Desk_link_119
            · rw [if_neg c46] at hy
              refine g_if_eqF (pc' := 91) d_Desk_link_88 95 c46 (by decide) rfl ?_
              refine g_iconst (v := (1 : Int32)) (pc' := 92) d_Desk_link_91 (by decide) rfl ?_
              refine g_goto (pc' := 119) d_Desk_link_92 (by decide) ?_
              cases hy
              exact g_iret rfl rfl rfl d_Desk_link_119
          · rw [if_neg c40] at hy
            by_cases c47 : p1 = (5 : Int32)
            · rw [if_pos c47] at hy
              refine g_tableIn (pc' := 99) (5 : Int32) d_Desk_link_19 c47 (by decide) rfl (by decide) ?_
              refine g_aload_n 1 (i := 0) (pc' := 100) d_Desk_link_99 rfl rfl rfl ?_
              replace hy := g_gR_inv hy
              obtain ⟨fs48, x49, hc50, hv51, hy⟩ := hy
              refine g_getf (pc' := 103) d_Desk_link_100 hc50 rfl (by decide) hv51 q642 (Or.inl rfl) rfl ?_
              refine g_iload_n 2 (i := 1) (pc' := 104) d_Desk_link_103 rfl rfl rfl ?_
              refine g_iconst (v := (-1 : Int32)) (pc' := 105) d_Desk_link_104 (by decide) rfl ?_
              replace hy := g_nn_inv hy
              obtain ⟨a52, rfl, hy⟩ := hy
              replace hy := g_is_inv hy
              obtain ⟨fs53, hc54, hy⟩ := hy
              replace hy := g_b_inv hy
              obtain ⟨x55, hf57, hy⟩ := hy
              refine g_callV (rv := some (.int x55)) (h1 := h12) (pc' := 108) (As := [.int p0, .int (-1 : Int32)]) (rest := []) 2 (T_Net_reserved (hy := hf57)) d_Desk_link_105 hc54 rfl rfl q677 q678 q679 q109 q680 hd_Net_reserved rfl ⟨by decide, by decide⟩ (by first | exact Nat.le_of_ble_eq_true rfl | (simp only [List.map, List.sum_cons, List.sum_nil, g_cat_rf]; exact Nat.le_of_ble_eq_true rfl) | (simp only [List.map, List.sum_cons, List.sum_nil, g_cat_rf, Value.category]; decide)) rfl ?_
              refine g_goto (pc' := 119) d_Desk_link_108 (by decide) ?_
              cases hy
              exact g_iret rfl rfl rfl d_Desk_link_119
            · rw [if_neg c47] at hy
              have c16 := g_neI (n := 0) (by decide) c16
              have c22 := g_neI (n := 1) (by decide) c22
              have c28 := g_neI (n := 2) (by decide) c28
              have c34 := g_neI (n := 3) (by decide) c34
              have c40 := g_neI (n := 4) (by decide) c40
              have c47 := g_neI (n := 5) (by decide) c47
              refine g_tableOut (pc' := 111) d_Desk_link_19 (by omega) (by decide) ?_
              refine g_aload_n 1 (i := 0) (pc' := 112) d_Desk_link_111 rfl rfl rfl ?_
              replace hy := g_gR_inv hy
              obtain ⟨fs58, x59, hc60, hv61, hy⟩ := hy
              refine g_getf (pc' := 115) d_Desk_link_112 hc60 rfl (by decide) hv61 q642 (Or.inl rfl) rfl ?_
              refine g_iload_n 2 (i := 1) (pc' := 116) d_Desk_link_115 rfl rfl rfl ?_
              replace hy := g_nn_inv hy
              obtain ⟨a62, rfl, hy⟩ := hy
              replace hy := g_is_inv hy
              obtain ⟨fs63, hc64, hy⟩ := hy
              replace hy := g_b_inv hy
              obtain ⟨x65, hf67, hy⟩ := hy
              refine g_callV (rv := some (.int x65)) (h1 := h12) (pc' := 119) (As := [.int p0]) (rest := []) 1 (T_Net_packetsOn (hy := hf67)) d_Desk_link_116 hc64 rfl rfl q1561 q1562 q1563 q109 q1564 hd_Net_packetsOn rfl ⟨by decide, by decide⟩ (by first | exact Nat.le_of_ble_eq_true rfl | (simp only [List.map, List.sum_cons, List.sum_nil, g_cat_rf]; exact Nat.le_of_ble_eq_true rfl) | (simp only [List.map, List.sum_cons, List.sum_nil, g_cat_rf, Value.category]; decide)) rfl ?_
              cases hy
              exact g_iret rfl rfl rfl d_Desk_link_119
theorem hd_Desk_link : g_dsc y_Desk_link 2 := ⟨by decide +kernel, by decide +kernel, by decide +kernel⟩
