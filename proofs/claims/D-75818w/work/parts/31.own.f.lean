/-! CircuitDesk$Net.runPackets()V -/
abbrev y_Net_runPackets : MethodName := ⟨"CircuitDesk$Net", "runPackets", "()V"⟩
abbrev k_Net_runPackets : g_M := (prog_7_method_23_code, 4, "CircuitDesk$Net", 18, none, "runPackets", [], 0)
theorem d_Net_runPackets_0 : decode prog_7_method_23_code 0 = .ok (.iconst 0, 1) := by decide +kernel
theorem d_Net_runPackets_1 : decode prog_7_method_23_code 1 = .ok (.istore_n 1, 1) := by decide +kernel
theorem d_Net_runPackets_2 : decode prog_7_method_23_code 2 = .ok (.iload_n 1, 1) := by decide +kernel
theorem d_Net_runPackets_3 : decode prog_7_method_23_code 3 = .ok (.aload_n 0, 1) := by decide +kernel
theorem d_Net_runPackets_4 : decode prog_7_method_23_code 4 = .ok (.getfield 30, 3) := by decide +kernel
theorem d_Net_runPackets_7 : decode prog_7_method_23_code 7 = .ok (.invokevirtual 112, 3) := by decide +kernel
theorem d_Net_runPackets_10 : decode prog_7_method_23_code 10 = .ok (.if_icmp .ge 61, 3) := by decide +kernel
theorem d_Net_runPackets_13 : decode prog_7_method_23_code 13 = .ok (.aload_n 0, 1) := by decide +kernel
theorem d_Net_runPackets_14 : decode prog_7_method_23_code 14 = .ok (.getfield 30, 3) := by decide +kernel
theorem d_Net_runPackets_17 : decode prog_7_method_23_code 17 = .ok (.iload_n 1, 1) := by decide +kernel
theorem d_Net_runPackets_18 : decode prog_7_method_23_code 18 = .ok (.invokevirtual 116, 3) := by decide +kernel
theorem d_Net_runPackets_21 : decode prog_7_method_23_code 21 = .ok (.checkcast 82, 3) := by decide +kernel
theorem d_Net_runPackets_24 : decode prog_7_method_23_code 24 = .ok (.astore_n 2, 1) := by decide +kernel
theorem d_Net_runPackets_25 : decode prog_7_method_23_code 25 = .ok (.aload_n 2, 1) := by decide +kernel
theorem d_Net_runPackets_26 : decode prog_7_method_23_code 26 = .ok (.dup, 1) := by decide +kernel
theorem d_Net_runPackets_27 : decode prog_7_method_23_code 27 = .ok (.getfield 233, 3) := by decide +kernel
theorem d_Net_runPackets_30 : decode prog_7_method_23_code 30 = .ok (.iconst 1, 1) := by decide +kernel
theorem d_Net_runPackets_31 : decode prog_7_method_23_code 31 = .ok (.isub, 1) := by decide +kernel
theorem d_Net_runPackets_32 : decode prog_7_method_23_code 32 = .ok (.putfield 233, 3) := by decide +kernel
theorem d_Net_runPackets_35 : decode prog_7_method_23_code 35 = .ok (.aload_n 2, 1) := by decide +kernel
theorem d_Net_runPackets_36 : decode prog_7_method_23_code 36 = .ok (.getfield 233, 3) := by decide +kernel
theorem d_Net_runPackets_39 : decode prog_7_method_23_code 39 = .ok (.ifCond .gt 11, 3) := by decide +kernel
theorem d_Net_runPackets_42 : decode prog_7_method_23_code 42 = .ok (.aload_n 0, 1) := by decide +kernel
theorem d_Net_runPackets_43 : decode prog_7_method_23_code 43 = .ok (.aload_n 2, 1) := by decide +kernel
theorem d_Net_runPackets_44 : decode prog_7_method_23_code 44 = .ok (.invokevirtual 282, 3) := by decide +kernel
theorem d_Net_runPackets_47 : decode prog_7_method_23_code 47 = .ok (.ifCond .eq 9, 3) := by decide +kernel
theorem d_Net_runPackets_50 : decode prog_7_method_23_code 50 = .ok (.iinc 1 1, 3) := by decide +kernel
theorem d_Net_runPackets_53 : decode prog_7_method_23_code 53 = .ok (.goto 15, 3) := by decide +kernel
theorem d_Net_runPackets_56 : decode prog_7_method_23_code 56 = .ok (.aload_n 0, 1) := by decide +kernel
theorem d_Net_runPackets_57 : decode prog_7_method_23_code 57 = .ok (.getfield 30, 3) := by decide +kernel
theorem d_Net_runPackets_60 : decode prog_7_method_23_code 60 = .ok (.iload_n 1, 1) := by decide +kernel
theorem d_Net_runPackets_61 : decode prog_7_method_23_code 61 = .ok (.invokevirtual 286, 3) := by decide +kernel
theorem d_Net_runPackets_64 : decode prog_7_method_23_code 64 = .ok (.checkcast 82, 3) := by decide +kernel
theorem d_Net_runPackets_67 : decode prog_7_method_23_code 67 = .ok (.astore_n 3, 1) := by decide +kernel
theorem d_Net_runPackets_68 : decode prog_7_method_23_code 68 = .ok (.goto (-66), 3) := by decide +kernel
theorem d_Net_runPackets_71 : decode prog_7_method_23_code 71 = .ok (.return_, 1) := by decide +kernel
def Net_runPackets_68 (k2 : g_AH → Nat → Int32 → Option g_AH) (h : g_AH) (v0 : Nat) (v1 : Int32) : Option g_AH :=
  k2 h v0 v1
set_option maxHeartbeats 4000000 in
set_option maxRecDepth 100000 in
theorem W_Net_runPackets_68 {X : g_X} (z : g_AH) (k2 : g_AH → Nat → Int32 → Option g_AH) (hk2 : ∀ (h : g_AH) (v0 : Nat) (v1 : Int32), k2 h v0 v1 = some z → G X k_Net_runPackets (.inl none) z h 2 [(0, .ref v0), (1, .int v1)] []) (h : g_AH) (v0 : Nat) (v1 : Int32) (hy : Net_runPackets_68 k2 h v0 v1 = some z) : G X k_Net_runPackets (.inl none) z h 68 [(0, .ref v0), (1, .int v1)] [] := by
  unfold Net_runPackets_68 at hy
  refine g_goto (pc' := 2) d_Net_runPackets_68 (by decide) ?_
  exact hk2 _ _ _ hy
def Net_runPackets_50 (k2 : g_AH → Nat → Int32 → Option g_AH) (h : g_AH) (v0 : Nat) (v1 : Int32) : Option g_AH :=
  Net_runPackets_68 k2 h v0 (v1 + (1 : Int32))
set_option maxHeartbeats 4000000 in
set_option maxRecDepth 100000 in
theorem W_Net_runPackets_50 {X : g_X} (z : g_AH) (k2 : g_AH → Nat → Int32 → Option g_AH) (hk2 : ∀ (h : g_AH) (v0 : Nat) (v1 : Int32), k2 h v0 v1 = some z → G X k_Net_runPackets (.inl none) z h 2 [(0, .ref v0), (1, .int v1)] []) (h : g_AH) (v0 : Nat) (v1 : Int32) (hy : Net_runPackets_50 k2 h v0 v1 = some z) : G X k_Net_runPackets (.inl none) z h 50 [(0, .ref v0), (1, .int v1)] [] := by
  unfold Net_runPackets_50 at hy
  refine g_iinc 1 (v := (v1 + (1 : Int32))) (pc' := 53) (Lc' := [(1, .int (v1 + (1 : Int32))), (0, .ref v0)]) d_Net_runPackets_50 rfl rfl (by decide) rfl rfl ?_
  refine g_goto (pc' := 68) d_Net_runPackets_53 (by decide) ?_
  refine g_sub [1, 0] rfl ?_
  exact W_Net_runPackets_68 _ _ hk2 _ _ _ hy
def Net_runPackets_2  : Nat → g_AH → Nat → Int32 → Option g_AH
  | 0, _, _, _ => none
  | n + 1, h, v0, v1 => g_gR h v0 1 4 fun x2 => g_nn x2 fun a5 => g_is h a5 15 <| g_b (ArrayList_size h a5) fun x8 => if x8 ≤ v1 then (some h) else (g_gR h v0 1 4 fun x13 => g_nn x13 fun a16 => g_is h a16 15 <| g_b (ArrayList_get h a16 v1) fun x19 => g_ck h x19 14 <| g_nn x19 fun a23 => g_gI h a23 14 7 fun x25 => g_pF h a23 14 7 (.int (x25 - (1 : Int32))) fun h31 => g_gI h31 a23 14 7 fun x33 => if 0 < x33 then (Net_runPackets_50 (Net_runPackets_2  n) h31 v0 v1) else (g_is h31 v0 1 <| g_b2 (Net_arrive h31 v0 (some a23)) fun x39 h40 => if x39 = 0 then (g_gR h40 v0 1 4 fun x44 => g_nn x44 fun a47 => g_is h40 a47 15 <| g_b2 (ArrayList_remove h40 a47 v1) fun x50 h51 => g_ck h51 x50 14 <| Net_runPackets_68 (Net_runPackets_2  n) h51 v0 v1) else (Net_runPackets_50 (Net_runPackets_2  n) h40 v0 v1)))
set_option maxHeartbeats 4000000 in
set_option maxRecDepth 100000 in
theorem W_Net_runPackets_2 {X : g_X} (z : g_AH)  : ∀ (n : Nat) (h : g_AH) (v0 : Nat) (v1 : Int32), Net_runPackets_2  n h v0 v1 = some z → G X k_Net_runPackets (.inl none) z h 2 [(0, .ref v0), (1, .int v1)] [] := by
  intro n
  induction n with
  | zero => intro h v0 v1 hy; exact absurd hy (by simp [Net_runPackets_2])
  | succ n ih =>
    intro h v0 v1 hy
    rw [Net_runPackets_2] at hy
    refine g_iload_n 1 (i := 1) (pc' := 3) d_Net_runPackets_2 rfl rfl rfl ?_
    refine g_aload_n 0 (i := 0) (pc' := 4) d_Net_runPackets_3 rfl rfl rfl ?_
    replace hy := g_gR_inv hy
    obtain ⟨fs1, x2, hc3, hv4, hy⟩ := hy
    refine g_getf (pc' := 7) d_Net_runPackets_4 hc3 rfl (by decide) hv4 q561 (Or.inl rfl) rfl ?_
    replace hy := g_nn_inv hy
    obtain ⟨a5, rfl, hy⟩ := hy
    replace hy := g_is_inv hy
    obtain ⟨fs6, hc7, hy⟩ := hy
    replace hy := g_b_inv hy
    obtain ⟨x8, hf10, hy⟩ := hy
    refine g_callV (rv := some (.int x8)) (h1 := h) (pc' := 10) (As := []) (rest := [.int v1]) 0 (T_ArrayList_size (hy := hf10)) d_Net_runPackets_7 hc7 rfl rfl q681 q674 q675 q112 q676 hd_ArrayList_size rfl ⟨by decide, by decide⟩ (by first | exact Nat.le_of_ble_eq_true rfl | (simp only [List.map, List.sum_cons, List.sum_nil, g_cat_rf]; exact Nat.le_of_ble_eq_true rfl) | (simp only [List.map, List.sum_cons, List.sum_nil, g_cat_rf, Value.category]; decide)) rfl ?_
    by_cases c11 : x8 ≤ v1
    · rw [if_pos c11] at hy
      refine g_icmp_geT (pc' := 71) d_Net_runPackets_10 c11 (by decide) ?_
      cases hy
      exact g_vret rfl rfl rfl d_Net_runPackets_71
    · rw [if_neg c11] at hy
      refine g_icmp_geF (pc' := 13) d_Net_runPackets_10 71 c11 (by decide) rfl ?_
      refine g_aload_n 0 (i := 0) (pc' := 14) d_Net_runPackets_13 rfl rfl rfl ?_
      replace hy := g_gR_inv hy
      obtain ⟨fs12, x13, hc14, hv15, hy⟩ := hy
      refine g_getf (pc' := 17) d_Net_runPackets_14 hc14 rfl (by decide) hv15 q561 (Or.inl rfl) rfl ?_
      refine g_iload_n 1 (i := 1) (pc' := 18) d_Net_runPackets_17 rfl rfl rfl ?_
      replace hy := g_nn_inv hy
      obtain ⟨a16, rfl, hy⟩ := hy
      replace hy := g_is_inv hy
      obtain ⟨fs17, hc18, hy⟩ := hy
      replace hy := g_b_inv hy
      obtain ⟨x19, hf21, hy⟩ := hy
      refine g_callV (rv := some (va_rf x19)) (h1 := h) (pc' := 21) (As := [.int v1]) (rest := []) 1 (T_ArrayList_get (hy := hf21)) d_Net_runPackets_18 hc18 rfl rfl q682 q683 q684 q112 q685 hd_ArrayList_get rfl ⟨by decide, by decide⟩ (by first | exact Nat.le_of_ble_eq_true rfl | (simp only [List.map, List.sum_cons, List.sum_nil, g_cat_rf]; exact Nat.le_of_ble_eq_true rfl) | (simp only [List.map, List.sum_cons, List.sum_nil, g_cat_rf, Value.category]; decide)) rfl ?_
      replace hy := g_ck_inv hy
      obtain ⟨hk22, hy⟩ := hy
      refine g_castO (pc' := 24) d_Net_runPackets_21 hk22 rfl q1420 rfl ?_
      refine g_astoreO_n (i := 2) (pc' := 25) (Lc' := [(2, va_rf x19), (0, .ref v0), (1, .int v1)]) d_Net_runPackets_24 rfl (by decide) rfl rfl ?_
      refine g_aloadO_n 0 (i := 2) (pc' := 26) d_Net_runPackets_25 rfl rfl rfl ?_
      refine g_dup (pc' := 27) d_Net_runPackets_26 g_cat_rf rfl ?_
      replace hy := g_nn_inv hy
      obtain ⟨a23, rfl, hy⟩ := hy
      replace hy := g_gI_inv hy
      obtain ⟨fs24, x25, hc26, hv27, hy⟩ := hy
      refine g_getfN (pc' := 30) d_Net_runPackets_27 hc26 rfl (by decide) hv27 q1824 rfl rfl ?_
      refine g_iconst (v := (1 : Int32)) (pc' := 31) d_Net_runPackets_30 (by decide) rfl ?_
      refine g_isub (pc' := 32) d_Net_runPackets_31 rfl ?_
      replace hy := g_pF_inv hy
      obtain ⟨fs28, hc29, hl30, hy⟩ := hy
      refine g_putfN (pc' := 35) d_Net_runPackets_32 hc29 rfl (by decide) hl30 rfl rfl rfl q1824 rfl rfl ?_
      generalize g_up h a23 (.inr (14, fs28.set 7 (.int (x25 - (1 : Int32))))) = h31 at hy ⊢
      refine g_aload_n 0 (i := 2) (pc' := 36) d_Net_runPackets_35 rfl rfl rfl ?_
      replace hy := g_gI_inv hy
      obtain ⟨fs32, x33, hc34, hv35, hy⟩ := hy
      refine g_getfN (pc' := 39) d_Net_runPackets_36 hc34 rfl (by decide) hv35 q1824 rfl rfl ?_
      by_cases c36 : 0 < x33
      · rw [if_pos c36] at hy
        refine g_if_gtT (pc' := 50) d_Net_runPackets_39 c36 (by decide) ?_
        refine g_sub [1, 2] rfl ?_
        exact W_Net_runPackets_50 _ _ ih _ _ _ hy
      · rw [if_neg c36] at hy
        refine g_if_gtF (pc' := 42) d_Net_runPackets_39 50 c36 (by decide) rfl ?_
        refine g_aload_n 1 (i := 0) (pc' := 43) d_Net_runPackets_42 rfl rfl rfl ?_
        refine g_aload_n 0 (i := 2) (pc' := 44) d_Net_runPackets_43 rfl rfl rfl ?_
        replace hy := g_is_inv hy
        obtain ⟨fs37, hc38, hy⟩ := hy
        replace hy := g_b2_inv hy
        obtain ⟨x39, h40, hf41, hy⟩ := hy
        refine g_callV (rv := some (.int x39)) (h1 := h40) (pc' := 47) (As := [va_rf (some a23)]) (rest := []) 1 (T_Net_arrive (hy := hf41)) d_Net_runPackets_44 hc38 rfl rfl q1730 q1732 qs25 q109 q1733 hd_Net_arrive rfl ⟨by decide, by decide⟩ (by first | exact Nat.le_of_ble_eq_true rfl | (simp only [List.map, List.sum_cons, List.sum_nil, g_cat_rf]; exact Nat.le_of_ble_eq_true rfl) | (simp only [List.map, List.sum_cons, List.sum_nil, g_cat_rf, Value.category]; decide)) rfl ?_
        by_cases c42 : x39 = 0
        · rw [if_pos c42] at hy
          refine g_if_eqT (pc' := 56) d_Net_runPackets_47 c42 (by decide) ?_
          refine g_aload_n 1 (i := 0) (pc' := 57) d_Net_runPackets_56 rfl rfl rfl ?_
          replace hy := g_gR_inv hy
          obtain ⟨fs43, x44, hc45, hv46, hy⟩ := hy
          refine g_getf (pc' := 60) d_Net_runPackets_57 hc45 rfl (by decide) hv46 q561 (Or.inl rfl) rfl ?_
          refine g_iload_n 2 (i := 1) (pc' := 61) d_Net_runPackets_60 rfl rfl rfl ?_
          replace hy := g_nn_inv hy
          obtain ⟨a47, rfl, hy⟩ := hy
          replace hy := g_is_inv hy
          obtain ⟨fs48, hc49, hy⟩ := hy
          replace hy := g_b2_inv hy
          obtain ⟨x50, h51, hf52, hy⟩ := hy
          refine g_callV (rv := some (va_rf x50)) (h1 := h51) (pc' := 64) (As := [.int v1]) (rest := []) 1 (T_ArrayList_remove (hy := hf52)) d_Net_runPackets_61 hc49 rfl rfl q1421 q1422 q1423 q112 q1424 hd_ArrayList_remove rfl ⟨by decide, by decide⟩ (by first | exact Nat.le_of_ble_eq_true rfl | (simp only [List.map, List.sum_cons, List.sum_nil, g_cat_rf]; exact Nat.le_of_ble_eq_true rfl) | (simp only [List.map, List.sum_cons, List.sum_nil, g_cat_rf, Value.category]; decide)) rfl ?_
          replace hy := g_ck_inv hy
          obtain ⟨hk53, hy⟩ := hy
          refine g_castO (pc' := 67) d_Net_runPackets_64 hk53 rfl q1420 rfl ?_
          refine g_astoreO_n (i := 3) (pc' := 68) (Lc' := [(3, va_rf x50), (2, .ref a23), (0, .ref v0), (1, .int v1)]) d_Net_runPackets_67 rfl (by decide) rfl rfl ?_
          refine g_sub [2, 3] rfl ?_
          exact W_Net_runPackets_68 _ _ ih _ _ _ hy
        · rw [if_neg c42] at hy
          refine g_if_eqF (pc' := 50) d_Net_runPackets_47 56 c42 (by decide) rfl ?_
          refine g_sub [1, 2] rfl ?_
          exact W_Net_runPackets_50 _ _ ih _ _ _ hy
def Net_runPackets (h : g_AH) (this : Nat) : Option g_AH :=
  Net_runPackets_2  gFU h this (0 : Int32)
set_option maxHeartbeats 4000000 in
set_option maxRecDepth 100000 in
theorem T_Net_runPackets {l : Launch} {B : g_B} (h : g_AH) (this : Nat) (z : g_AH) (hy : Net_runPackets h this = some z) : g_CT l B y_Net_runPackets k_Net_runPackets [.ref this] h (.inl none) z := by
  refine g_start2 (Lc := [(0, .ref this)]) (by decide) rfl rfl (by exact Nat.le_of_ble_eq_true rfl) (by rfl) fun X => ?_
  unfold Net_runPackets at hy
  refine g_iconst (v := (0 : Int32)) (pc' := 1) d_Net_runPackets_0 (by decide) rfl ?_
  refine g_istore_n (i := 1) (pc' := 2) (Lc' := [(1, .int (0 : Int32)), (0, .ref this)]) d_Net_runPackets_1 rfl (by decide) rfl rfl ?_
  refine g_sub [1, 0] rfl ?_
  exact W_Net_runPackets_2 _ _ _ _ _ hy
theorem hd_Net_runPackets : g_dsc y_Net_runPackets 0 := ⟨by decide +kernel, by decide +kernel, by decide +kernel⟩
/-! CircuitDesk$Resting.tick(LCircuitDesk$Net;I)V -/
abbrev y_Resting_tick : MethodName := ⟨"CircuitDesk$Resting", "tick", "(LCircuitDesk$Net;I)V"⟩
abbrev k_Resting_tick : g_M := (prog_12_method_2_code, 3, "CircuitDesk$Resting", 12, none, "tick", [], 0)
theorem d_Resting_tick_0 : decode prog_12_method_2_code 0 = .ok (.return_, 1) := by decide +kernel
def Resting_tick (this : Nat) (p0 : Option Nat) (p1 : Int32) : Option (Unit) :=
  some ()
set_option maxHeartbeats 4000000 in
set_option maxRecDepth 100000 in
theorem T_Resting_tick {l : Launch} {B : g_B} {h : g_AH} (this : Nat) (p0 : Option Nat) (p1 : Int32) (z : Unit) (hy : Resting_tick this p0 p1 = some z) : g_CT l B y_Resting_tick k_Resting_tick [.ref this, va_rf p0, .int p1] h (.inl none) h := by
  refine g_start2 (Lc := [(0, .ref this), (1, va_rf p0), (2, .int p1)]) (by decide) rfl rfl (by rcases p0 with _ | p0 <;> exact Nat.le_of_ble_eq_true rfl) (by rcases p0 with _ | p0 <;> rfl) fun X => ?_
  unfold Resting_tick at hy
  cases hy
  exact g_vret rfl rfl rfl d_Resting_tick_0
theorem hd_Resting_tick : g_dsc y_Resting_tick 2 := ⟨by decide +kernel, by decide +kernel, by decide +kernel⟩
/-! CircuitDesk$Net.delayOf(LCircuitDesk$Way;)I -/
abbrev y_Net_delayOf : MethodName := ⟨"CircuitDesk$Net", "delayOf", "(LCircuitDesk$Way;)I"⟩
abbrev k_Net_delayOf : g_M := (prog_7_method_6_code, 4, "CircuitDesk$Net", 16, (some FieldType.int), "delayOf", [], 0)
theorem d_Net_delayOf_0 : decode prog_7_method_6_code 0 = .ok (.iconst 0, 1) := by decide +kernel
theorem d_Net_delayOf_1 : decode prog_7_method_6_code 1 = .ok (.istore_n 2, 1) := by decide +kernel
theorem d_Net_delayOf_2 : decode prog_7_method_6_code 2 = .ok (.iconst 1, 1) := by decide +kernel
theorem d_Net_delayOf_3 : decode prog_7_method_6_code 3 = .ok (.istore_n 3, 1) := by decide +kernel
theorem d_Net_delayOf_4 : decode prog_7_method_6_code 4 = .ok (.iload_n 3, 1) := by decide +kernel
theorem d_Net_delayOf_5 : decode prog_7_method_6_code 5 = .ok (.aload_n 1, 1) := by decide +kernel
theorem d_Net_delayOf_6 : decode prog_7_method_6_code 6 = .ok (.getfield 134, 3) := by decide +kernel
theorem d_Net_delayOf_9 : decode prog_7_method_6_code 9 = .ok (.if_icmp .ge 43, 3) := by decide +kernel
theorem d_Net_delayOf_12 : decode prog_7_method_6_code 12 = .ok (.iload_n 2, 1) := by decide +kernel
theorem d_Net_delayOf_13 : decode prog_7_method_6_code 13 = .ok (.aload_n 0, 1) := by decide +kernel
theorem d_Net_delayOf_14 : decode prog_7_method_6_code 14 = .ok (.getfield 24, 3) := by decide +kernel
theorem d_Net_delayOf_17 : decode prog_7_method_6_code 17 = .ok (.aload_n 0, 1) := by decide +kernel
theorem d_Net_delayOf_18 : decode prog_7_method_6_code 18 = .ok (.aload_n 1, 1) := by decide +kernel
theorem d_Net_delayOf_19 : decode prog_7_method_6_code 19 = .ok (.getfield 138, 3) := by decide +kernel
theorem d_Net_delayOf_22 : decode prog_7_method_6_code 22 = .ok (.iload_n 3, 1) := by decide +kernel
theorem d_Net_delayOf_23 : decode prog_7_method_6_code 23 = .ok (.iconst 1, 1) := by decide +kernel
theorem d_Net_delayOf_24 : decode prog_7_method_6_code 24 = .ok (.isub, 1) := by decide +kernel
theorem d_Net_delayOf_25 : decode prog_7_method_6_code 25 = .ok (.iaload, 1) := by decide +kernel
theorem d_Net_delayOf_26 : decode prog_7_method_6_code 26 = .ok (.aload_n 1, 1) := by decide +kernel
theorem d_Net_delayOf_27 : decode prog_7_method_6_code 27 = .ok (.getfield 138, 3) := by decide +kernel
theorem d_Net_delayOf_30 : decode prog_7_method_6_code 30 = .ok (.iload_n 3, 1) := by decide +kernel
theorem d_Net_delayOf_31 : decode prog_7_method_6_code 31 = .ok (.iaload, 1) := by decide +kernel
theorem d_Net_delayOf_32 : decode prog_7_method_6_code 32 = .ok (.invokevirtual 124, 3) := by decide +kernel
theorem d_Net_delayOf_35 : decode prog_7_method_6_code 35 = .ok (.invokevirtual 116, 3) := by decide +kernel
theorem d_Net_delayOf_38 : decode prog_7_method_6_code 38 = .ok (.checkcast 72, 3) := by decide +kernel
theorem d_Net_delayOf_41 : decode prog_7_method_6_code 41 = .ok (.getfield 140, 3) := by decide +kernel
theorem d_Net_delayOf_44 : decode prog_7_method_6_code 44 = .ok (.iadd, 1) := by decide +kernel
theorem d_Net_delayOf_45 : decode prog_7_method_6_code 45 = .ok (.istore_n 2, 1) := by decide +kernel
theorem d_Net_delayOf_46 : decode prog_7_method_6_code 46 = .ok (.iinc 3 1, 3) := by decide +kernel
theorem d_Net_delayOf_49 : decode prog_7_method_6_code 49 = .ok (.goto (-45), 3) := by decide +kernel
theorem d_Net_delayOf_52 : decode prog_7_method_6_code 52 = .ok (.iload_n 2, 1) := by decide +kernel
theorem d_Net_delayOf_53 : decode prog_7_method_6_code 53 = .ok (.ireturn, 1) := by decide +kernel
def Net_delayOf_4 (h : g_AH)  : Nat → Nat → Option Nat → Int32 → Int32 → Option (Int32)
  | 0, _, _, _, _ => none
  | n + 1, v0, v1, v2, v3 => g_nn v1 fun a1 => g_gI h a1 6 3 fun x3 => if x3 ≤ v3 then (some v2) else (g_gR h v0 1 2 fun x8 => g_gR h a1 6 0 fun x12 => g_nn x12 fun a15 => g_aI h 0 a15 (v3 - (1 : Int32)) fun x16 => g_gR h a1 6 0 fun x22 => g_nn x22 fun a25 => g_aI h 0 a25 v3 fun x26 => g_is h v0 1 <| g_b (Net_linkOf h v0 x16 x26) fun x33 => g_nn x8 fun a36 => g_is h a36 15 <| g_b (ArrayList_get h a36 x33) fun x39 => g_ck h x39 11 <| g_nn x39 fun a43 => g_gI h a43 11 3 fun x45 => (Net_delayOf_4 h  n) v0 (some a1) (v2 + x45) (v3 + (1 : Int32)))
set_option maxHeartbeats 4000000 in
set_option maxRecDepth 100000 in
theorem W_Net_delayOf_4 {X : g_X} (h : g_AH) (z : Int32)  : ∀ (n : Nat) (v0 : Nat) (v1 : Option Nat) (v2 : Int32) (v3 : Int32), Net_delayOf_4 h  n v0 v1 v2 v3 = some z → G X k_Net_delayOf (.inl (some (.int z))) h h 4 [(0, .ref v0), (1, va_rf v1), (2, .int v2), (3, .int v3)] [] := by
  intro n
  induction n with
  | zero => intro v0 v1 v2 v3 hy; exact absurd hy (by simp [Net_delayOf_4])
  | succ n ih =>
    intro v0 v1 v2 v3 hy
    rw [Net_delayOf_4] at hy
    refine g_iload_n 3 (i := 3) (pc' := 5) d_Net_delayOf_4 rfl rfl rfl ?_
    refine g_aloadO_n 1 (i := 1) (pc' := 6) d_Net_delayOf_5 rfl rfl rfl ?_
    replace hy := g_nn_inv hy
    obtain ⟨a1, rfl, hy⟩ := hy
    replace hy := g_gI_inv hy
    obtain ⟨fs2, x3, hc4, hv5, hy⟩ := hy
    refine g_getfN (pc' := 9) d_Net_delayOf_6 hc4 rfl (by decide) hv5 q629 rfl rfl ?_
    by_cases c6 : x3 ≤ v3
    · rw [if_pos c6] at hy
      refine g_icmp_geT (pc' := 52) d_Net_delayOf_9 c6 (by decide) ?_
      refine g_iload_n 2 (i := 2) (pc' := 53) d_Net_delayOf_52 rfl rfl rfl ?_
      cases hy
      exact g_iret rfl rfl rfl d_Net_delayOf_53
    · rw [if_neg c6] at hy
      refine g_icmp_geF (pc' := 12) d_Net_delayOf_9 52 c6 (by decide) rfl ?_
      refine g_iload_n 2 (i := 2) (pc' := 13) d_Net_delayOf_12 rfl rfl rfl ?_
      refine g_aload_n 0 (i := 0) (pc' := 14) d_Net_delayOf_13 rfl rfl rfl ?_
      replace hy := g_gR_inv hy
      obtain ⟨fs7, x8, hc9, hv10, hy⟩ := hy
      refine g_getf (pc' := 17) d_Net_delayOf_14 hc9 rfl (by decide) hv10 q552 (Or.inl rfl) rfl ?_
      refine g_aload_n 0 (i := 0) (pc' := 18) d_Net_delayOf_17 rfl rfl rfl ?_
      refine g_aload_n 1 (i := 1) (pc' := 19) d_Net_delayOf_18 rfl rfl rfl ?_
      replace hy := g_gR_inv hy
      obtain ⟨fs11, x12, hc13, hv14, hy⟩ := hy
      refine g_getfN (pc' := 22) d_Net_delayOf_19 hc13 rfl (by decide) hv14 q617 rfl rfl ?_
      refine g_iload_n 3 (i := 3) (pc' := 23) d_Net_delayOf_22 rfl rfl rfl ?_
      refine g_iconst (v := (1 : Int32)) (pc' := 24) d_Net_delayOf_23 (by decide) rfl ?_
      refine g_isub (pc' := 25) d_Net_delayOf_24 rfl ?_
      replace hy := g_nn_inv hy
      obtain ⟨a15, rfl, hy⟩ := hy
      replace hy := g_aI_inv hy
      obtain ⟨n17, f18, hc19, hi20, hy⟩ := hy
      refine g_iald (pc' := 26) d_Net_delayOf_25 hc19 hi20 rfl ?_
      generalize f18 ((v3 - (1 : Int32))).toNatClampNeg = x16 at hy ⊢
      refine g_aload_n 1 (i := 1) (pc' := 27) d_Net_delayOf_26 rfl rfl rfl ?_
      replace hy := g_gR_inv hy
      obtain ⟨fs21, x22, hc23, hv24, hy⟩ := hy
      refine g_getfN (pc' := 30) d_Net_delayOf_27 hc23 rfl (by decide) hv24 q617 rfl rfl ?_
      refine g_iload_n 3 (i := 3) (pc' := 31) d_Net_delayOf_30 rfl rfl rfl ?_
      replace hy := g_nn_inv hy
      obtain ⟨a25, rfl, hy⟩ := hy
      replace hy := g_aI_inv hy
      obtain ⟨n27, f28, hc29, hi30, hy⟩ := hy
      refine g_iald (pc' := 32) d_Net_delayOf_31 hc29 hi30 rfl ?_
      generalize f28 (v3).toNatClampNeg = x26 at hy ⊢
      replace hy := g_is_inv hy
      obtain ⟨fs31, hc32, hy⟩ := hy
      replace hy := g_b_inv hy
      obtain ⟨x33, hf35, hy⟩ := hy
      refine g_callV (rv := some (.int x33)) (h1 := h) (pc' := 35) (As := [.int x16, .int x26]) (rest := [va_rf x8, .int v2]) 2 (T_Net_linkOf (hy := hf35)) d_Net_delayOf_32 hc32 rfl rfl q1100 q795 q796 q109 q797 hd_Net_linkOf rfl ⟨by decide, by decide⟩ (by first | exact Nat.le_of_ble_eq_true rfl | (simp only [List.map, List.sum_cons, List.sum_nil, g_cat_rf]; exact Nat.le_of_ble_eq_true rfl) | (simp only [List.map, List.sum_cons, List.sum_nil, g_cat_rf, Value.category]; decide)) rfl ?_
      replace hy := g_nn_inv hy
      obtain ⟨a36, rfl, hy⟩ := hy
      replace hy := g_is_inv hy
      obtain ⟨fs37, hc38, hy⟩ := hy
      replace hy := g_b_inv hy
      obtain ⟨x39, hf41, hy⟩ := hy
      refine g_callV (rv := some (va_rf x39)) (h1 := h) (pc' := 38) (As := [.int x33]) (rest := [.int v2]) 1 (T_ArrayList_get (hy := hf41)) d_Net_delayOf_35 hc38 rfl rfl q682 q683 q684 q112 q685 hd_ArrayList_get rfl ⟨by decide, by decide⟩ (by first | exact Nat.le_of_ble_eq_true rfl | (simp only [List.map, List.sum_cons, List.sum_nil, g_cat_rf]; exact Nat.le_of_ble_eq_true rfl) | (simp only [List.map, List.sum_cons, List.sum_nil, g_cat_rf, Value.category]; decide)) rfl ?_
      replace hy := g_ck_inv hy
      obtain ⟨hk42, hy⟩ := hy
      refine g_castO (pc' := 41) d_Net_delayOf_38 hk42 rfl q701 rfl ?_
      replace hy := g_nn_inv hy
      obtain ⟨a43, rfl, hy⟩ := hy
      replace hy := g_gI_inv hy
      obtain ⟨fs44, x45, hc46, hv47, hy⟩ := hy
      refine g_getfN (pc' := 44) d_Net_delayOf_41 hc46 rfl (by decide) hv47 q1118 rfl rfl ?_
      refine g_iadd (pc' := 45) d_Net_delayOf_44 rfl ?_
      refine g_istore_n (i := 2) (pc' := 46) (Lc' := [(2, .int (v2 + x45)), (0, .ref v0), (1, .ref a1), (3, .int v3)]) d_Net_delayOf_45 rfl (by decide) rfl rfl ?_
      refine g_iinc 3 (v := (v3 + (1 : Int32))) (pc' := 49) (Lc' := [(3, .int (v3 + (1 : Int32))), (2, .int (v2 + x45)), (0, .ref v0), (1, .ref a1)]) d_Net_delayOf_46 rfl rfl (by decide) rfl rfl ?_
      refine g_goto (pc' := 4) d_Net_delayOf_49 (by decide) ?_
      refine g_sub [2, 3, 1, 0] rfl ?_
      exact ih _ _ _ _ hy
def Net_delayOf (h : g_AH) (this : Nat) (p0 : Option Nat) : Option (Int32) :=
  Net_delayOf_4 h  gFU this p0 (0 : Int32) (1 : Int32)
set_option maxHeartbeats 4000000 in
set_option maxRecDepth 100000 in
theorem T_Net_delayOf {l : Launch} {B : g_B} (h : g_AH) (this : Nat) (p0 : Option Nat) (z : Int32) (hy : Net_delayOf h this p0 = some z) : g_CT l B y_Net_delayOf k_Net_delayOf [.ref this, va_rf p0] h (.inl (some (.int z))) h := by
  refine g_start2 (Lc := [(0, .ref this), (1, va_rf p0)]) (by decide) rfl rfl (by rcases p0 with _ | p0 <;> exact Nat.le_of_ble_eq_true rfl) (by rcases p0 with _ | p0 <;> rfl) fun X => ?_
  unfold Net_delayOf at hy
  refine g_iconst (v := (0 : Int32)) (pc' := 1) d_Net_delayOf_0 (by decide) rfl ?_
  refine g_istore_n (i := 2) (pc' := 2) (Lc' := [(2, .int (0 : Int32)), (0, .ref this), (1, va_rf p0)]) d_Net_delayOf_1 rfl (by decide) (by cases p0 <;> rfl) rfl ?_
  refine g_iconst (v := (1 : Int32)) (pc' := 3) d_Net_delayOf_2 (by decide) rfl ?_
  refine g_istore_n (i := 3) (pc' := 4) (Lc' := [(3, .int (1 : Int32)), (2, .int (0 : Int32)), (0, .ref this), (1, va_rf p0)]) d_Net_delayOf_3 rfl (by decide) rfl rfl ?_
  refine g_sub [2, 3, 1, 0] rfl ?_
  exact W_Net_delayOf_4 _ _ _ _ _ _ _ hy
theorem hd_Net_delayOf : g_dsc y_Net_delayOf 1 := ⟨by decide +kernel, by decide +kernel, by decide +kernel⟩
/-! CircuitDesk$Building.tick(LCircuitDesk$Net;I)V -/
abbrev y_Building_tick : MethodName := ⟨"CircuitDesk$Building", "tick", "(LCircuitDesk$Net;I)V"⟩
abbrev k_Building_tick : g_M := (prog_2_method_2_code, 5, "CircuitDesk$Building", 17, none, "tick", [], 0)
theorem d_Building_tick_0 : decode prog_2_method_2_code 0 = .ok (.aload_n 1, 1) := by decide +kernel
theorem d_Building_tick_1 : decode prog_2_method_2_code 1 = .ok (.getfield 9, 3) := by decide +kernel
theorem d_Building_tick_4 : decode prog_2_method_2_code 4 = .ok (.iload_n 2, 1) := by decide +kernel
theorem d_Building_tick_5 : decode prog_2_method_2_code 5 = .ok (.invokevirtual 15, 3) := by decide +kernel
theorem d_Building_tick_8 : decode prog_2_method_2_code 8 = .ok (.checkcast 21, 3) := by decide +kernel
theorem d_Building_tick_11 : decode prog_2_method_2_code 11 = .ok (.astore_n 3, 1) := by decide +kernel
theorem d_Building_tick_12 : decode prog_2_method_2_code 12 = .ok (.aload_n 3, 1) := by decide +kernel
theorem d_Building_tick_13 : decode prog_2_method_2_code 13 = .ok (.getfield 23, 3) := by decide +kernel
theorem d_Building_tick_16 : decode prog_2_method_2_code 16 = .ok (.aload_n 3, 1) := by decide +kernel
theorem d_Building_tick_17 : decode prog_2_method_2_code 17 = .ok (.getfield 27, 3) := by decide +kernel
theorem d_Building_tick_20 : decode prog_2_method_2_code 20 = .ok (.getfield 31, 3) := by decide +kernel
theorem d_Building_tick_23 : decode prog_2_method_2_code 23 = .ok (.iconst 1, 1) := by decide +kernel
theorem d_Building_tick_24 : decode prog_2_method_2_code 24 = .ok (.isub, 1) := by decide +kernel
theorem d_Building_tick_25 : decode prog_2_method_2_code 25 = .ok (.if_icmp .ne 58, 3) := by decide +kernel
theorem d_Building_tick_28 : decode prog_2_method_2_code 28 = .ok (.aload_n 1, 1) := by decide +kernel
theorem d_Building_tick_29 : decode prog_2_method_2_code 29 = .ok (.aload_n 3, 1) := by decide +kernel
theorem d_Building_tick_30 : decode prog_2_method_2_code 30 = .ok (.getfield 36, 3) := by decide +kernel
theorem d_Building_tick_33 : decode prog_2_method_2_code 33 = .ok (.invokevirtual 39, 3) := by decide +kernel
theorem d_Building_tick_36 : decode prog_2_method_2_code 36 = .ok (.istore 4, 2) := by decide +kernel
theorem d_Building_tick_38 : decode prog_2_method_2_code 38 = .ok (.aload_n 3, 1) := by decide +kernel
theorem d_Building_tick_39 : decode prog_2_method_2_code 39 = .ok (.iconst 2, 1) := by decide +kernel
theorem d_Building_tick_40 : decode prog_2_method_2_code 40 = .ok (.putfield 43, 3) := by decide +kernel
theorem d_Building_tick_43 : decode prog_2_method_2_code 43 = .ok (.aload_n 3, 1) := by decide +kernel
theorem d_Building_tick_44 : decode prog_2_method_2_code 44 = .ok (.iload 4, 2) := by decide +kernel
theorem d_Building_tick_46 : decode prog_2_method_2_code 46 = .ok (.putfield 46, 3) := by decide +kernel
theorem d_Building_tick_49 : decode prog_2_method_2_code 49 = .ok (.aload_n 3, 1) := by decide +kernel
theorem d_Building_tick_50 : decode prog_2_method_2_code 50 = .ok (.aload_n 1, 1) := by decide +kernel
theorem d_Building_tick_51 : decode prog_2_method_2_code 51 = .ok (.getfield 49, 3) := by decide +kernel
theorem d_Building_tick_54 : decode prog_2_method_2_code 54 = .ok (.iconst 1, 1) := by decide +kernel
theorem d_Building_tick_55 : decode prog_2_method_2_code 55 = .ok (.iaload, 1) := by decide +kernel
theorem d_Building_tick_56 : decode prog_2_method_2_code 56 = .ok (.iconst 1, 1) := by decide +kernel
theorem d_Building_tick_57 : decode prog_2_method_2_code 57 = .ok (.if_icmp .ne 21, 3) := by decide +kernel
theorem d_Building_tick_60 : decode prog_2_method_2_code 60 = .ok (.iconst 0, 1) := by decide +kernel
theorem d_Building_tick_61 : decode prog_2_method_2_code 61 = .ok (.iload 4, 2) := by decide +kernel
theorem d_Building_tick_63 : decode prog_2_method_2_code 63 = .ok (.aload_n 1, 1) := by decide +kernel
theorem d_Building_tick_64 : decode prog_2_method_2_code 64 = .ok (.aload_n 3, 1) := by decide +kernel
theorem d_Building_tick_65 : decode prog_2_method_2_code 65 = .ok (.getfield 27, 3) := by decide +kernel
theorem d_Building_tick_68 : decode prog_2_method_2_code 68 = .ok (.invokevirtual 39, 3) := by decide +kernel
theorem d_Building_tick_71 : decode prog_2_method_2_code 71 = .ok (.isub, 1) := by decide +kernel
theorem d_Building_tick_72 : decode prog_2_method_2_code 72 = .ok (.invokestatic 53, 3) := by decide +kernel
theorem d_Building_tick_75 : decode prog_2_method_2_code 75 = .ok (.goto 4, 3) := by decide +kernel
theorem d_Building_tick_78 : decode prog_2_method_2_code 78 = .ok (.iconst 0, 1) := by decide +kernel
theorem d_Building_tick_79 : decode prog_2_method_2_code 79 = .ok (.putfield 59, 3) := by decide +kernel
theorem d_Building_tick_82 : decode prog_2_method_2_code 82 = .ok (.return_, 1) := by decide +kernel
theorem d_Building_tick_83 : decode prog_2_method_2_code 83 = .ok (.aload_n 3, 1) := by decide +kernel
theorem d_Building_tick_84 : decode prog_2_method_2_code 84 = .ok (.dup, 1) := by decide +kernel
theorem d_Building_tick_85 : decode prog_2_method_2_code 85 = .ok (.getfield 23, 3) := by decide +kernel
theorem d_Building_tick_88 : decode prog_2_method_2_code 88 = .ok (.iconst 1, 1) := by decide +kernel
theorem d_Building_tick_89 : decode prog_2_method_2_code 89 = .ok (.iadd, 1) := by decide +kernel
theorem d_Building_tick_90 : decode prog_2_method_2_code 90 = .ok (.putfield 23, 3) := by decide +kernel
theorem d_Building_tick_93 : decode prog_2_method_2_code 93 = .ok (.aload_n 1, 1) := by decide +kernel
theorem d_Building_tick_94 : decode prog_2_method_2_code 94 = .ok (.aload_n 3, 1) := by decide +kernel
theorem d_Building_tick_95 : decode prog_2_method_2_code 95 = .ok (.getfield 27, 3) := by decide +kernel
theorem d_Building_tick_98 : decode prog_2_method_2_code 98 = .ok (.aload_n 3, 1) := by decide +kernel
theorem d_Building_tick_99 : decode prog_2_method_2_code 99 = .ok (.getfield 27, 3) := by decide +kernel
theorem d_Building_tick_102 : decode prog_2_method_2_code 102 = .ok (.getfield 31, 3) := by decide +kernel
theorem d_Building_tick_105 : decode prog_2_method_2_code 105 = .ok (.aload_n 3, 1) := by decide +kernel
theorem d_Building_tick_106 : decode prog_2_method_2_code 106 = .ok (.getfield 23, 3) := by decide +kernel
theorem d_Building_tick_109 : decode prog_2_method_2_code 109 = .ok (.isub, 1) := by decide +kernel
theorem d_Building_tick_110 : decode prog_2_method_2_code 110 = .ok (.invokevirtual 62, 3) := by decide +kernel
theorem d_Building_tick_113 : decode prog_2_method_2_code 113 = .ok (.return_, 1) := by decide +kernel
def Building_tick_79 (h : g_AH) (s0 : Int32) (s1 : Nat) : Option g_AH :=
  g_pF h s1 12 7 (.int s0) fun h89 => some h89
set_option maxHeartbeats 4000000 in
set_option maxRecDepth 100000 in
theorem W_Building_tick_79 {X : g_X} (z : g_AH) (h : g_AH) (s0 : Int32) (s1 : Nat) (hy : Building_tick_79  h s0 s1 = some z) : G X k_Building_tick (.inl none) z h 79 [] [.int s0, .ref s1] := by
  unfold Building_tick_79 at hy
  replace hy := g_pF_inv hy
  obtain ⟨fs86, hc87, hl88, hy⟩ := hy
  refine g_putfN (pc' := 82) d_Building_tick_79 hc87 rfl (by decide) hl88 rfl rfl rfl q1180 rfl rfl ?_
  generalize g_up h s1 (.inr (12, fs86.set 7 (.int s0))) = h89 at hy ⊢
  cases hy
  exact g_vret rfl rfl rfl d_Building_tick_82
def Building_tick (h : g_AH) (this : Nat) (p0 : Option Nat) (p1 : Int32) : Option g_AH :=
  g_nn p0 fun a1 => g_gR h a1 1 3 fun x3 => g_nn x3 fun a6 => g_is h a6 15 <| g_b (ArrayList_get h a6 p1) fun x9 => g_ck h x9 12 <| g_nn x9 fun a13 => g_gI h a13 12 5 fun x15 => g_gR h a13 12 3 fun x19 => g_nn x19 fun a22 => g_gI h a22 6 3 fun x24 => if x15 = (x24 - (1 : Int32)) then (g_gR h a13 12 2 fun x59 => g_is h a1 1 <| g_b (Net_delayOf h a1 x59) fun x64 => g_pF h a13 12 4 (.int (2 : Int32)) fun h70 => g_pF h70 a13 12 6 (.int x64) fun h74 => g_gR h74 a1 1 0 fun x76 => g_nn x76 fun a79 => g_aI h74 0 a79 (1 : Int32) fun x80 => if x80 = (1 : Int32) then (g_gR h74 a13 12 3 fun x91 => g_is h74 a1 1 <| g_b (Net_delayOf h74 a1 x91) fun x96 => Building_tick_79  h74 (if (0 : Int32) < (x64 - x96) then (x64 - x96) else (0 : Int32)) a13) else (Building_tick_79  h74 (0 : Int32) a13)) else (g_gI h a13 12 5 fun x29 => g_pF h a13 12 5 (.int (x29 + (1 : Int32))) fun h35 => g_gR h35 a13 12 3 fun x37 => g_gR h35 a13 12 3 fun x41 => g_nn x41 fun a44 => g_gI h35 a44 6 3 fun x46 => g_gI h35 a13 12 5 fun x50 => g_is h35 a1 1 <| g_b (Net_make h35 a1 x37 (x46 - x50)) fun h56 => some h56)
set_option maxHeartbeats 4000000 in
set_option maxRecDepth 100000 in
theorem T_Building_tick {l : Launch} {B : g_B} (h : g_AH) (this : Nat) (p0 : Option Nat) (p1 : Int32) (z : g_AH) (hy : Building_tick h this p0 p1 = some z) : g_CT l B y_Building_tick k_Building_tick [.ref this, va_rf p0, .int p1] h (.inl none) z := by
  refine g_start2 (Lc := [(0, .ref this), (1, va_rf p0), (2, .int p1)]) (by decide) rfl rfl (by rcases p0 with _ | p0 <;> exact Nat.le_of_ble_eq_true rfl) (by rcases p0 with _ | p0 <;> rfl) fun X => ?_
  unfold Building_tick at hy
  refine g_aloadO_n 1 (i := 1) (pc' := 1) d_Building_tick_0 rfl rfl rfl ?_
  replace hy := g_nn_inv hy
  obtain ⟨a1, rfl, hy⟩ := hy
  replace hy := g_gR_inv hy
  obtain ⟨fs2, x3, hc4, hv5, hy⟩ := hy
  refine g_getfN (pc' := 4) d_Building_tick_1 hc4 rfl (by decide) hv5 q556 rfl rfl ?_
  refine g_iload_n 2 (i := 2) (pc' := 5) d_Building_tick_4 rfl rfl rfl ?_
  replace hy := g_nn_inv hy
  obtain ⟨a6, rfl, hy⟩ := hy
  replace hy := g_is_inv hy
  obtain ⟨fs7, hc8, hy⟩ := hy
  replace hy := g_b_inv hy
  obtain ⟨x9, hf11, hy⟩ := hy
  refine g_callV (rv := some (va_rf x9)) (h1 := h) (pc' := 8) (As := [.int p1]) (rest := []) 1 (T_ArrayList_get (hy := hf11)) d_Building_tick_5 hc8 rfl rfl q1757 q683 q684 q112 q685 hd_ArrayList_get rfl ⟨by decide, by decide⟩ (by first | exact Nat.le_of_ble_eq_true rfl | (simp only [List.map, List.sum_cons, List.sum_nil, g_cat_rf]; exact Nat.le_of_ble_eq_true rfl) | (simp only [List.map, List.sum_cons, List.sum_nil, g_cat_rf, Value.category]; decide)) rfl ?_
  replace hy := g_ck_inv hy
  obtain ⟨hk12, hy⟩ := hy
  refine g_castO (pc' := 11) d_Building_tick_8 hk12 rfl q1758 rfl ?_
  refine g_astoreO_n (i := 3) (pc' := 12) (Lc' := [(3, va_rf x9), (0, .ref this), (1, .ref a1), (2, .int p1)]) d_Building_tick_11 rfl (by decide) rfl rfl ?_
  refine g_aloadO_n 0 (i := 3) (pc' := 13) d_Building_tick_12 rfl rfl rfl ?_
  replace hy := g_nn_inv hy
  obtain ⟨a13, rfl, hy⟩ := hy
  replace hy := g_gI_inv hy
  obtain ⟨fs14, x15, hc16, hv17, hy⟩ := hy
  refine g_getfN (pc' := 16) d_Building_tick_13 hc16 rfl (by decide) hv17 q1169 rfl rfl ?_
  refine g_aload_n 0 (i := 3) (pc' := 17) d_Building_tick_16 rfl rfl rfl ?_
  replace hy := g_gR_inv hy
  obtain ⟨fs18, x19, hc20, hv21, hy⟩ := hy
  refine g_getfN (pc' := 20) d_Building_tick_17 hc20 rfl (by decide) hv21 q1158 rfl rfl ?_
  replace hy := g_nn_inv hy
  obtain ⟨a22, rfl, hy⟩ := hy
  replace hy := g_gI_inv hy
  obtain ⟨fs23, x24, hc25, hv26, hy⟩ := hy
  refine g_getfN (pc' := 23) d_Building_tick_20 hc25 rfl (by decide) hv26 q625 rfl rfl ?_
  refine g_iconst (v := (1 : Int32)) (pc' := 24) d_Building_tick_23 (by decide) rfl ?_
  refine g_isub (pc' := 25) d_Building_tick_24 rfl ?_
  by_cases c27 : x15 = (x24 - (1 : Int32))
  · rw [if_pos c27] at hy
    refine g_icmp_neF (pc' := 28) d_Building_tick_25 83 c27 (by decide) rfl ?_
    refine g_aload_n 2 (i := 1) (pc' := 29) d_Building_tick_28 rfl rfl rfl ?_
    refine g_aload_n 0 (i := 3) (pc' := 30) d_Building_tick_29 rfl rfl rfl ?_
    replace hy := g_gR_inv hy
    obtain ⟨fs58, x59, hc60, hv61, hy⟩ := hy
    refine g_getfN (pc' := 33) d_Building_tick_30 hc60 rfl (by decide) hv61 q1154 rfl rfl ?_
    replace hy := g_is_inv hy
    obtain ⟨fs62, hc63, hy⟩ := hy
    replace hy := g_b_inv hy
    obtain ⟨x64, hf66, hy⟩ := hy
    refine g_callV (rv := some (.int x64)) (h1 := h) (pc' := 36) (As := [va_rf x59]) (rest := []) 1 (T_Net_delayOf (hy := hf66)) d_Building_tick_33 hc63 rfl rfl q1759 q1760 q1761 q109 q1762 hd_Net_delayOf rfl ⟨by decide, by decide⟩ (by first | exact Nat.le_of_ble_eq_true rfl | (simp only [List.map, List.sum_cons, List.sum_nil, g_cat_rf]; exact Nat.le_of_ble_eq_true rfl) | (simp only [List.map, List.sum_cons, List.sum_nil, g_cat_rf, Value.category]; decide)) rfl ?_
    refine g_istore (pc' := 38) (Lc' := [(4, .int x64), (3, .ref a13), (0, .ref this), (1, .ref a1), (2, .int p1)]) d_Building_tick_36 (by decide) rfl rfl ?_
    refine g_aload_n 1 (i := 3) (pc' := 39) d_Building_tick_38 rfl rfl rfl ?_
    refine g_iconst (v := (2 : Int32)) (pc' := 40) d_Building_tick_39 (by decide) rfl ?_
    replace hy := g_pF_inv hy
    obtain ⟨fs67, hc68, hl69, hy⟩ := hy
    refine g_putfN (pc' := 43) d_Building_tick_40 hc68 rfl (by decide) hl69 rfl rfl rfl q1164 rfl rfl ?_
    generalize g_up h a13 (.inr (12, fs67.set 4 (.int (2 : Int32)))) = h70 at hy ⊢
    refine g_aload_n 1 (i := 3) (pc' := 44) d_Building_tick_43 rfl rfl rfl ?_
    refine g_iload 0 (pc' := 46) d_Building_tick_44 rfl rfl ?_
    replace hy := g_pF_inv hy
    obtain ⟨fs71, hc72, hl73, hy⟩ := hy
    refine g_putfN (pc' := 49) d_Building_tick_46 hc72 rfl (by decide) hl73 rfl rfl rfl q1176 rfl rfl ?_
    generalize g_up h70 a13 (.inr (12, fs71.set 6 (.int x64))) = h74 at hy ⊢
    refine g_aload_n 1 (i := 3) (pc' := 50) d_Building_tick_49 rfl rfl rfl ?_
    refine g_aload_n 3 (i := 1) (pc' := 51) d_Building_tick_50 rfl rfl rfl ?_
    replace hy := g_gR_inv hy
    obtain ⟨fs75, x76, hc77, hv78, hy⟩ := hy
    refine g_getfN (pc' := 54) d_Building_tick_51 hc77 rfl (by decide) hv78 q544 rfl rfl ?_
    refine g_iconst (v := (1 : Int32)) (pc' := 55) d_Building_tick_54 (by decide) rfl ?_
    replace hy := g_nn_inv hy
    obtain ⟨a79, rfl, hy⟩ := hy
    replace hy := g_aI_inv hy
    obtain ⟨n81, f82, hc83, hi84, hy⟩ := hy
    refine g_iald (pc' := 56) d_Building_tick_55 hc83 hi84 rfl ?_
    generalize f82 ((1 : Int32)).toNatClampNeg = x80 at hy ⊢
    refine g_iconst (v := (1 : Int32)) (pc' := 57) d_Building_tick_56 (by decide) rfl ?_
    by_cases c85 : x80 = (1 : Int32)
    · rw [if_pos c85] at hy
      refine g_icmp_neF (pc' := 60) d_Building_tick_57 78 c85 (by decide) rfl ?_
      refine g_iconst (v := (0 : Int32)) (pc' := 61) d_Building_tick_60 (by decide) rfl ?_
      refine g_iload 0 (pc' := 63) d_Building_tick_61 rfl rfl ?_
      refine g_aload_n 3 (i := 1) (pc' := 64) d_Building_tick_63 rfl rfl rfl ?_
      refine g_aload_n 1 (i := 3) (pc' := 65) d_Building_tick_64 rfl rfl rfl ?_
      replace hy := g_gR_inv hy
      obtain ⟨fs90, x91, hc92, hv93, hy⟩ := hy
      refine g_getfN (pc' := 68) d_Building_tick_65 hc92 rfl (by decide) hv93 q1158 rfl rfl ?_
      replace hy := g_is_inv hy
      obtain ⟨fs94, hc95, hy⟩ := hy
      replace hy := g_b_inv hy
      obtain ⟨x96, hf98, hy⟩ := hy
      refine g_callV (rv := some (.int x96)) (h1 := h74) (pc' := 71) (As := [va_rf x91]) (rest := [.int x64, .int (0 : Int32), .ref a13]) 1 (T_Net_delayOf (hy := hf98)) d_Building_tick_68 hc95 rfl rfl q1759 q1760 q1761 q109 q1762 hd_Net_delayOf rfl ⟨by decide, by decide⟩ (by first | exact Nat.le_of_ble_eq_true rfl | (simp only [List.map, List.sum_cons, List.sum_nil, g_cat_rf]; exact Nat.le_of_ble_eq_true rfl) | (simp only [List.map, List.sum_cons, List.sum_nil, g_cat_rf, Value.category]; decide)) rfl ?_
      refine g_isub (pc' := 72) d_Building_tick_71 rfl ?_
      refine g_mmax (pc' := 75) d_Building_tick_72 q1763 q278 q122 q279 (by first | exact Nat.le_of_ble_eq_true rfl | (simp only [List.map, List.sum_cons, List.sum_nil, g_cat_rf]; exact Nat.le_of_ble_eq_true rfl) | (simp only [List.map, List.sum_cons, List.sum_nil, g_cat_rf, Value.category]; decide)) (by decide) rfl ?_
      refine g_goto (pc' := 79) d_Building_tick_75 (by decide) ?_
      refine g_sub [] rfl ?_
      exact W_Building_tick_79 _ _ _ _ hy
    · rw [if_neg c85] at hy
      refine g_icmp_neT (pc' := 78) d_Building_tick_57 c85 (by decide) ?_
      refine g_iconst (v := (0 : Int32)) (pc' := 79) d_Building_tick_78 (by decide) rfl ?_
      refine g_sub [] rfl ?_
      exact W_Building_tick_79 _ _ _ _ hy
  · rw [if_neg c27] at hy
    refine g_icmp_neT (pc' := 83) d_Building_tick_25 c27 (by decide) ?_
    refine g_aload_n 0 (i := 3) (pc' := 84) d_Building_tick_83 rfl rfl rfl ?_
    refine g_dup (pc' := 85) d_Building_tick_84 rfl rfl ?_
    replace hy := g_gI_inv hy
    obtain ⟨fs28, x29, hc30, hv31, hy⟩ := hy
    refine g_getfN (pc' := 88) d_Building_tick_85 hc30 rfl (by decide) hv31 q1169 rfl rfl ?_
    refine g_iconst (v := (1 : Int32)) (pc' := 89) d_Building_tick_88 (by decide) rfl ?_
    refine g_iadd (pc' := 90) d_Building_tick_89 rfl ?_
    replace hy := g_pF_inv hy
    obtain ⟨fs32, hc33, hl34, hy⟩ := hy
    refine g_putfN (pc' := 93) d_Building_tick_90 hc33 rfl (by decide) hl34 rfl rfl rfl q1169 rfl rfl ?_
    generalize g_up h a13 (.inr (12, fs32.set 5 (.int (x29 + (1 : Int32))))) = h35 at hy ⊢
    refine g_aload_n 2 (i := 1) (pc' := 94) d_Building_tick_93 rfl rfl rfl ?_
    refine g_aload_n 0 (i := 3) (pc' := 95) d_Building_tick_94 rfl rfl rfl ?_
    replace hy := g_gR_inv hy
    obtain ⟨fs36, x37, hc38, hv39, hy⟩ := hy
    refine g_getfN (pc' := 98) d_Building_tick_95 hc38 rfl (by decide) hv39 q1158 rfl rfl ?_
    refine g_aload_n 0 (i := 3) (pc' := 99) d_Building_tick_98 rfl rfl rfl ?_
    replace hy := g_gR_inv hy
    obtain ⟨fs40, x41, hc42, hv43, hy⟩ := hy
    refine g_getfN (pc' := 102) d_Building_tick_99 hc42 rfl (by decide) hv43 q1158 rfl rfl ?_
    replace hy := g_nn_inv hy
    obtain ⟨a44, rfl, hy⟩ := hy
    replace hy := g_gI_inv hy
    obtain ⟨fs45, x46, hc47, hv48, hy⟩ := hy
    refine g_getfN (pc' := 105) d_Building_tick_102 hc47 rfl (by decide) hv48 q625 rfl rfl ?_
    refine g_aload_n 0 (i := 3) (pc' := 106) d_Building_tick_105 rfl rfl rfl ?_
    replace hy := g_gI_inv hy
    obtain ⟨fs49, x50, hc51, hv52, hy⟩ := hy
    refine g_getfN (pc' := 109) d_Building_tick_106 hc51 rfl (by decide) hv52 q1169 rfl rfl ?_
    refine g_isub (pc' := 110) d_Building_tick_109 rfl ?_
    replace hy := g_is_inv hy
    obtain ⟨fs53, hc54, hy⟩ := hy
    replace hy := g_b_inv hy
    obtain ⟨h56, hf57, hy⟩ := hy
    refine g_callV (rv := none) (h1 := h56) (pc' := 113) (As := [va_rf x37, .int (x46 - x50)]) (rest := []) 2 (T_Net_make (hy := hf57)) d_Building_tick_110 hc54 rfl rfl q1764 q1275 q1276 q109 q1277 hd_Net_make rfl ⟨by decide, by decide⟩ (by first | exact Nat.le_of_ble_eq_true rfl | (simp only [List.map, List.sum_cons, List.sum_nil, g_cat_rf]; exact Nat.le_of_ble_eq_true rfl) | (simp only [List.map, List.sum_cons, List.sum_nil, g_cat_rf, Value.category]; decide)) rfl ?_
    cases hy
    exact g_vret rfl rfl rfl d_Building_tick_113
theorem hd_Building_tick : g_dsc y_Building_tick 2 := ⟨by decide +kernel, by decide +kernel, by decide +kernel⟩
/-! CircuitDesk$Draining.tick(LCircuitDesk$Net;I)V -/
abbrev y_Draining_tick : MethodName := ⟨"CircuitDesk$Draining", "tick", "(LCircuitDesk$Net;I)V"⟩
abbrev k_Draining_tick : g_M := (prog_5_method_2_code, 4, "CircuitDesk$Draining", 15, none, "tick", [], 0)
theorem d_Draining_tick_0 : decode prog_5_method_2_code 0 = .ok (.aload_n 1, 1) := by decide +kernel
theorem d_Draining_tick_1 : decode prog_5_method_2_code 1 = .ok (.getfield 9, 3) := by decide +kernel
theorem d_Draining_tick_4 : decode prog_5_method_2_code 4 = .ok (.iload_n 2, 1) := by decide +kernel
theorem d_Draining_tick_5 : decode prog_5_method_2_code 5 = .ok (.invokevirtual 15, 3) := by decide +kernel
theorem d_Draining_tick_8 : decode prog_5_method_2_code 8 = .ok (.checkcast 21, 3) := by decide +kernel
theorem d_Draining_tick_11 : decode prog_5_method_2_code 11 = .ok (.astore_n 3, 1) := by decide +kernel
theorem d_Draining_tick_12 : decode prog_5_method_2_code 12 = .ok (.aload_n 3, 1) := by decide +kernel
theorem d_Draining_tick_13 : decode prog_5_method_2_code 13 = .ok (.dup, 1) := by decide +kernel
theorem d_Draining_tick_14 : decode prog_5_method_2_code 14 = .ok (.getfield 23, 3) := by decide +kernel
theorem d_Draining_tick_17 : decode prog_5_method_2_code 17 = .ok (.iconst 1, 1) := by decide +kernel
theorem d_Draining_tick_18 : decode prog_5_method_2_code 18 = .ok (.isub, 1) := by decide +kernel
theorem d_Draining_tick_19 : decode prog_5_method_2_code 19 = .ok (.putfield 23, 3) := by decide +kernel
theorem d_Draining_tick_22 : decode prog_5_method_2_code 22 = .ok (.aload_n 3, 1) := by decide +kernel
theorem d_Draining_tick_23 : decode prog_5_method_2_code 23 = .ok (.getfield 23, 3) := by decide +kernel
theorem d_Draining_tick_26 : decode prog_5_method_2_code 26 = .ok (.ifCond .ne 13, 3) := by decide +kernel
theorem d_Draining_tick_29 : decode prog_5_method_2_code 29 = .ok (.aload_n 3, 1) := by decide +kernel
theorem d_Draining_tick_30 : decode prog_5_method_2_code 30 = .ok (.iconst 3, 1) := by decide +kernel
theorem d_Draining_tick_31 : decode prog_5_method_2_code 31 = .ok (.putfield 27, 3) := by decide +kernel
theorem d_Draining_tick_34 : decode prog_5_method_2_code 34 = .ok (.aload_n 3, 1) := by decide +kernel
theorem d_Draining_tick_35 : decode prog_5_method_2_code 35 = .ok (.iconst 0, 1) := by decide +kernel
theorem d_Draining_tick_36 : decode prog_5_method_2_code 36 = .ok (.putfield 30, 3) := by decide +kernel
theorem d_Draining_tick_39 : decode prog_5_method_2_code 39 = .ok (.return_, 1) := by decide +kernel
def Draining_tick (h : g_AH) (this : Nat) (p0 : Option Nat) (p1 : Int32) : Option g_AH :=
  g_nn p0 fun a1 => g_gR h a1 1 3 fun x3 => g_nn x3 fun a6 => g_is h a6 15 <| g_b (ArrayList_get h a6 p1) fun x9 => g_ck h x9 12 <| g_nn x9 fun a13 => g_gI h a13 12 6 fun x15 => g_pF h a13 12 6 (.int (x15 - (1 : Int32))) fun h21 => g_gI h21 a13 12 6 fun x23 => if x23 = 0 then (g_pF h21 a13 12 4 (.int (3 : Int32)) fun h30 => g_pF h30 a13 12 5 (.int (0 : Int32)) fun h34 => some h34) else (some h21)
set_option maxHeartbeats 4000000 in
set_option maxRecDepth 100000 in
theorem T_Draining_tick {l : Launch} {B : g_B} (h : g_AH) (this : Nat) (p0 : Option Nat) (p1 : Int32) (z : g_AH) (hy : Draining_tick h this p0 p1 = some z) : g_CT l B y_Draining_tick k_Draining_tick [.ref this, va_rf p0, .int p1] h (.inl none) z := by
  refine g_start2 (Lc := [(0, .ref this), (1, va_rf p0), (2, .int p1)]) (by decide) rfl rfl (by rcases p0 with _ | p0 <;> exact Nat.le_of_ble_eq_true rfl) (by rcases p0 with _ | p0 <;> rfl) fun X => ?_
  unfold Draining_tick at hy
  refine g_aloadO_n 1 (i := 1) (pc' := 1) d_Draining_tick_0 rfl rfl rfl ?_
  replace hy := g_nn_inv hy
  obtain ⟨a1, rfl, hy⟩ := hy
  replace hy := g_gR_inv hy
  obtain ⟨fs2, x3, hc4, hv5, hy⟩ := hy
  refine g_getfN (pc' := 4) d_Draining_tick_1 hc4 rfl (by decide) hv5 q558 rfl rfl ?_
  refine g_iload_n 2 (i := 2) (pc' := 5) d_Draining_tick_4 rfl rfl rfl ?_
  replace hy := g_nn_inv hy
  obtain ⟨a6, rfl, hy⟩ := hy
  replace hy := g_is_inv hy
  obtain ⟨fs7, hc8, hy⟩ := hy
  replace hy := g_b_inv hy
  obtain ⟨x9, hf11, hy⟩ := hy
  refine g_callV (rv := some (va_rf x9)) (h1 := h) (pc' := 8) (As := [.int p1]) (rest := []) 1 (T_ArrayList_get (hy := hf11)) d_Draining_tick_5 hc8 rfl rfl q1782 q683 q684 q112 q685 hd_ArrayList_get rfl ⟨by decide, by decide⟩ (by first | exact Nat.le_of_ble_eq_true rfl | (simp only [List.map, List.sum_cons, List.sum_nil, g_cat_rf]; exact Nat.le_of_ble_eq_true rfl) | (simp only [List.map, List.sum_cons, List.sum_nil, g_cat_rf, Value.category]; decide)) rfl ?_
  replace hy := g_ck_inv hy
  obtain ⟨hk12, hy⟩ := hy
  refine g_castO (pc' := 11) d_Draining_tick_8 hk12 rfl q1783 rfl ?_
  refine g_astoreO_n (i := 3) (pc' := 12) (Lc' := [(3, va_rf x9), (0, .ref this), (1, .ref a1), (2, .int p1)]) d_Draining_tick_11 rfl (by decide) rfl rfl ?_
  refine g_aloadO_n 0 (i := 3) (pc' := 13) d_Draining_tick_12 rfl rfl rfl ?_
  refine g_dup (pc' := 14) d_Draining_tick_13 g_cat_rf rfl ?_
  replace hy := g_nn_inv hy
  obtain ⟨a13, rfl, hy⟩ := hy
  replace hy := g_gI_inv hy
  obtain ⟨fs14, x15, hc16, hv17, hy⟩ := hy
  refine g_getfN (pc' := 17) d_Draining_tick_14 hc16 rfl (by decide) hv17 q1175 rfl rfl ?_
  refine g_iconst (v := (1 : Int32)) (pc' := 18) d_Draining_tick_17 (by decide) rfl ?_
  refine g_isub (pc' := 19) d_Draining_tick_18 rfl ?_
  replace hy := g_pF_inv hy
  obtain ⟨fs18, hc19, hl20, hy⟩ := hy
  refine g_putfN (pc' := 22) d_Draining_tick_19 hc19 rfl (by decide) hl20 rfl rfl rfl q1175 rfl rfl ?_
  generalize g_up h a13 (.inr (12, fs18.set 6 (.int (x15 - (1 : Int32))))) = h21 at hy ⊢
  refine g_aload_n 0 (i := 3) (pc' := 23) d_Draining_tick_22 rfl rfl rfl ?_
  replace hy := g_gI_inv hy
  obtain ⟨fs22, x23, hc24, hv25, hy⟩ := hy
  refine g_getfN (pc' := 26) d_Draining_tick_23 hc24 rfl (by decide) hv25 q1175 rfl rfl ?_
  by_cases c26 : x23 = 0
  · rw [if_pos c26] at hy
    refine g_if_neF (pc' := 29) d_Draining_tick_26 39 c26 (by decide) rfl ?_
    refine g_aload_n 0 (i := 3) (pc' := 30) d_Draining_tick_29 rfl rfl rfl ?_
    refine g_iconst (v := (3 : Int32)) (pc' := 31) d_Draining_tick_30 (by decide) rfl ?_
    replace hy := g_pF_inv hy
    obtain ⟨fs27, hc28, hl29, hy⟩ := hy
    refine g_putfN (pc' := 34) d_Draining_tick_31 hc28 rfl (by decide) hl29 rfl rfl rfl q1163 rfl rfl ?_
    generalize g_up h21 a13 (.inr (12, fs27.set 4 (.int (3 : Int32)))) = h30 at hy ⊢
    refine g_aload_n 0 (i := 3) (pc' := 35) d_Draining_tick_34 rfl rfl rfl ?_
    refine g_iconst (v := (0 : Int32)) (pc' := 36) d_Draining_tick_35 (by decide) rfl ?_
    replace hy := g_pF_inv hy
    obtain ⟨fs31, hc32, hl33, hy⟩ := hy
    refine g_putfN (pc' := 39) d_Draining_tick_36 hc32 rfl (by decide) hl33 rfl rfl rfl q1171 rfl rfl ?_
    generalize g_up h30 a13 (.inr (12, fs31.set 5 (.int (0 : Int32)))) = h34 at hy ⊢
    cases hy
    exact g_vret rfl rfl rfl d_Draining_tick_39
  · rw [if_neg c26] at hy
    refine g_if_neT (pc' := 39) d_Draining_tick_26 c26 (by decide) ?_
    cases hy
    exact g_vret rfl rfl rfl d_Draining_tick_39
theorem hd_Draining_tick : g_dsc y_Draining_tick 2 := ⟨by decide +kernel, by decide +kernel, by decide +kernel⟩
/-! CircuitDesk$Net.markOld(LCircuitDesk$Way;)V -/
abbrev y_Net_markOld : MethodName := ⟨"CircuitDesk$Net", "markOld", "(LCircuitDesk$Way;)V"⟩
abbrev k_Net_markOld : g_M := (prog_7_method_17_code, 3, "CircuitDesk$Net", 15, none, "markOld", [], 0)
theorem d_Net_markOld_0 : decode prog_7_method_17_code 0 = .ok (.iconst 1, 1) := by decide +kernel
theorem d_Net_markOld_1 : decode prog_7_method_17_code 1 = .ok (.istore_n 2, 1) := by decide +kernel
theorem d_Net_markOld_2 : decode prog_7_method_17_code 2 = .ok (.iload_n 2, 1) := by decide +kernel
theorem d_Net_markOld_3 : decode prog_7_method_17_code 3 = .ok (.aload_n 1, 1) := by decide +kernel
theorem d_Net_markOld_4 : decode prog_7_method_17_code 4 = .ok (.getfield 134, 3) := by decide +kernel
theorem d_Net_markOld_7 : decode prog_7_method_17_code 7 = .ok (.if_icmp .ge 36, 3) := by decide +kernel
theorem d_Net_markOld_10 : decode prog_7_method_17_code 10 = .ok (.aload_n 0, 1) := by decide +kernel
theorem d_Net_markOld_11 : decode prog_7_method_17_code 11 = .ok (.getfield 20, 3) := by decide +kernel
theorem d_Net_markOld_14 : decode prog_7_method_17_code 14 = .ok (.aload_n 1, 1) := by decide +kernel
theorem d_Net_markOld_15 : decode prog_7_method_17_code 15 = .ok (.getfield 196, 3) := by decide +kernel
theorem d_Net_markOld_18 : decode prog_7_method_17_code 18 = .ok (.iload_n 2, 1) := by decide +kernel
theorem d_Net_markOld_19 : decode prog_7_method_17_code 19 = .ok (.iaload, 1) := by decide +kernel
theorem d_Net_markOld_20 : decode prog_7_method_17_code 20 = .ok (.invokevirtual 116, 3) := by decide +kernel
theorem d_Net_markOld_23 : decode prog_7_method_17_code 23 = .ok (.checkcast 62, 3) := by decide +kernel
theorem d_Net_markOld_26 : decode prog_7_method_17_code 26 = .ok (.getfield 210, 3) := by decide +kernel
theorem d_Net_markOld_29 : decode prog_7_method_17_code 29 = .ok (.aload_n 1, 1) := by decide +kernel
theorem d_Net_markOld_30 : decode prog_7_method_17_code 30 = .ok (.getfield 199, 3) := by decide +kernel
theorem d_Net_markOld_33 : decode prog_7_method_17_code 33 = .ok (.iload_n 2, 1) := by decide +kernel
theorem d_Net_markOld_34 : decode prog_7_method_17_code 34 = .ok (.iaload, 1) := by decide +kernel
theorem d_Net_markOld_35 : decode prog_7_method_17_code 35 = .ok (.iconst 0, 1) := by decide +kernel
theorem d_Net_markOld_36 : decode prog_7_method_17_code 36 = .ok (.bastore, 1) := by decide +kernel
theorem d_Net_markOld_37 : decode prog_7_method_17_code 37 = .ok (.iinc 2 1, 3) := by decide +kernel
theorem d_Net_markOld_40 : decode prog_7_method_17_code 40 = .ok (.goto (-38), 3) := by decide +kernel
theorem d_Net_markOld_43 : decode prog_7_method_17_code 43 = .ok (.return_, 1) := by decide +kernel
def Net_markOld_2  : Nat → g_AH → Nat → Option Nat → Int32 → Option g_AH
  | 0, _, _, _, _ => none
  | n + 1, h, v0, v1, v2 => g_nn v1 fun a1 => g_gI h a1 6 3 fun x3 => if x3 ≤ v2 then (some h) else (g_gR h v0 1 1 fun x8 => g_gR h a1 6 1 fun x12 => g_nn x12 fun a15 => g_aI h 0 a15 v2 fun x16 => g_nn x8 fun a21 => g_is h a21 15 <| g_b (ArrayList_get h a21 x16) fun x24 => g_ck h x24 10 <| g_nn x24 fun a28 => g_gR h a28 10 3 fun x30 => g_gR h a1 6 2 fun x34 => g_nn x34 fun a37 => g_aI h 0 a37 v2 fun x38 => g_nn x30 fun a43 => g_sI h 1 a43 x38 (vp_nar .boolean (0 : Int32)) fun h48 => (Net_markOld_2  n) h48 v0 (some a1) (v2 + (1 : Int32)))
set_option maxHeartbeats 4000000 in
set_option maxRecDepth 100000 in
theorem W_Net_markOld_2 {X : g_X} (z : g_AH)  : ∀ (n : Nat) (h : g_AH) (v0 : Nat) (v1 : Option Nat) (v2 : Int32), Net_markOld_2  n h v0 v1 v2 = some z → G X k_Net_markOld (.inl none) z h 2 [(0, .ref v0), (1, va_rf v1), (2, .int v2)] [] := by
  intro n
  induction n with
  | zero => intro h v0 v1 v2 hy; exact absurd hy (by simp [Net_markOld_2])
  | succ n ih =>
    intro h v0 v1 v2 hy
    rw [Net_markOld_2] at hy
    refine g_iload_n 2 (i := 2) (pc' := 3) d_Net_markOld_2 rfl rfl rfl ?_
    refine g_aloadO_n 1 (i := 1) (pc' := 4) d_Net_markOld_3 rfl rfl rfl ?_
    replace hy := g_nn_inv hy
    obtain ⟨a1, rfl, hy⟩ := hy
    replace hy := g_gI_inv hy
    obtain ⟨fs2, x3, hc4, hv5, hy⟩ := hy
    refine g_getfN (pc' := 7) d_Net_markOld_4 hc4 rfl (by decide) hv5 q629 rfl rfl ?_
    by_cases c6 : x3 ≤ v2
    · rw [if_pos c6] at hy
      refine g_icmp_geT (pc' := 43) d_Net_markOld_7 c6 (by decide) ?_
      cases hy
      exact g_vret rfl rfl rfl d_Net_markOld_43
    · rw [if_neg c6] at hy
      refine g_icmp_geF (pc' := 10) d_Net_markOld_7 43 c6 (by decide) rfl ?_
      refine g_aload_n 0 (i := 0) (pc' := 11) d_Net_markOld_10 rfl rfl rfl ?_
      replace hy := g_gR_inv hy
      obtain ⟨fs7, x8, hc9, hv10, hy⟩ := hy
      refine g_getf (pc' := 14) d_Net_markOld_11 hc9 rfl (by decide) hv10 q547 (Or.inl rfl) rfl ?_
      refine g_aload_n 1 (i := 1) (pc' := 15) d_Net_markOld_14 rfl rfl rfl ?_
      replace hy := g_gR_inv hy
      obtain ⟨fs11, x12, hc13, hv14, hy⟩ := hy
      refine g_getfN (pc' := 18) d_Net_markOld_15 hc13 rfl (by decide) hv14 q620 rfl rfl ?_
      refine g_iload_n 2 (i := 2) (pc' := 19) d_Net_markOld_18 rfl rfl rfl ?_
      replace hy := g_nn_inv hy
      obtain ⟨a15, rfl, hy⟩ := hy
      replace hy := g_aI_inv hy
      obtain ⟨n17, f18, hc19, hi20, hy⟩ := hy
      refine g_iald (pc' := 20) d_Net_markOld_19 hc19 hi20 rfl ?_
      generalize f18 (v2).toNatClampNeg = x16 at hy ⊢
      replace hy := g_nn_inv hy
      obtain ⟨a21, rfl, hy⟩ := hy
      replace hy := g_is_inv hy
      obtain ⟨fs22, hc23, hy⟩ := hy
      replace hy := g_b_inv hy
      obtain ⟨x24, hf26, hy⟩ := hy
      refine g_callV (rv := some (va_rf x24)) (h1 := h) (pc' := 23) (As := [.int x16]) (rest := []) 1 (T_ArrayList_get (hy := hf26)) d_Net_markOld_20 hc23 rfl rfl q682 q683 q684 q112 q685 hd_ArrayList_get rfl ⟨by decide, by decide⟩ (by first | exact Nat.le_of_ble_eq_true rfl | (simp only [List.map, List.sum_cons, List.sum_nil, g_cat_rf]; exact Nat.le_of_ble_eq_true rfl) | (simp only [List.map, List.sum_cons, List.sum_nil, g_cat_rf, Value.category]; decide)) rfl ?_
      replace hy := g_ck_inv hy
      obtain ⟨hk27, hy⟩ := hy
      refine g_castO (pc' := 26) d_Net_markOld_23 hk27 rfl q1243 rfl ?_
      replace hy := g_nn_inv hy
      obtain ⟨a28, rfl, hy⟩ := hy
      replace hy := g_gR_inv hy
      obtain ⟨fs29, x30, hc31, hv32, hy⟩ := hy
      refine g_getfN (pc' := 29) d_Net_markOld_26 hc31 rfl (by decide) hv32 q1020 rfl rfl ?_
      refine g_aload_n 1 (i := 1) (pc' := 30) d_Net_markOld_29 rfl rfl rfl ?_
      replace hy := g_gR_inv hy
      obtain ⟨fs33, x34, hc35, hv36, hy⟩ := hy
      refine g_getfN (pc' := 33) d_Net_markOld_30 hc35 rfl (by decide) hv36 q623 rfl rfl ?_
      refine g_iload_n 2 (i := 2) (pc' := 34) d_Net_markOld_33 rfl rfl rfl ?_
      replace hy := g_nn_inv hy
      obtain ⟨a37, rfl, hy⟩ := hy
      replace hy := g_aI_inv hy
      obtain ⟨n39, f40, hc41, hi42, hy⟩ := hy
      refine g_iald (pc' := 35) d_Net_markOld_34 hc41 hi42 rfl ?_
      generalize f40 (v2).toNatClampNeg = x38 at hy ⊢
      refine g_iconst (v := (0 : Int32)) (pc' := 36) d_Net_markOld_35 (by decide) rfl ?_
      replace hy := g_nn_inv hy
      obtain ⟨a43, rfl, hy⟩ := hy
      replace hy := g_sI_inv hy
      obtain ⟨n44, f45, hc46, hi47, hy⟩ := hy
      refine g_zast (pc' := 37) d_Net_markOld_36 hc46 hi47 rfl ?_
      generalize g_up h a43 (.inl (1, n44, .inl (upd f45 (x38).toNatClampNeg (vp_nar .boolean (0 : Int32))))) = h48 at hy ⊢
      refine g_iinc 2 (v := (v2 + (1 : Int32))) (pc' := 40) (Lc' := [(2, .int (v2 + (1 : Int32))), (0, .ref v0), (1, .ref a1)]) d_Net_markOld_37 rfl rfl (by decide) rfl rfl ?_
      refine g_goto (pc' := 2) d_Net_markOld_40 (by decide) ?_
      refine g_sub [1, 2, 0] rfl ?_
      exact ih _ _ _ _ hy
def Net_markOld (h : g_AH) (this : Nat) (p0 : Option Nat) : Option g_AH :=
  Net_markOld_2  gFU h this p0 (1 : Int32)
set_option maxHeartbeats 4000000 in
set_option maxRecDepth 100000 in
theorem T_Net_markOld {l : Launch} {B : g_B} (h : g_AH) (this : Nat) (p0 : Option Nat) (z : g_AH) (hy : Net_markOld h this p0 = some z) : g_CT l B y_Net_markOld k_Net_markOld [.ref this, va_rf p0] h (.inl none) z := by
  refine g_start2 (Lc := [(0, .ref this), (1, va_rf p0)]) (by decide) rfl rfl (by rcases p0 with _ | p0 <;> exact Nat.le_of_ble_eq_true rfl) (by rcases p0 with _ | p0 <;> rfl) fun X => ?_
  unfold Net_markOld at hy
  refine g_iconst (v := (1 : Int32)) (pc' := 1) d_Net_markOld_0 (by decide) rfl ?_
  refine g_istore_n (i := 2) (pc' := 2) (Lc' := [(2, .int (1 : Int32)), (0, .ref this), (1, va_rf p0)]) d_Net_markOld_1 rfl (by decide) (by cases p0 <;> rfl) rfl ?_
  refine g_sub [1, 2, 0] rfl ?_
  exact W_Net_markOld_2 _ _ _ _ _ _ hy
theorem hd_Net_markOld : g_dsc y_Net_markOld 1 := ⟨by decide +kernel, by decide +kernel, by decide +kernel⟩
/-! CircuitDesk$Clearing.tick(LCircuitDesk$Net;I)V -/
abbrev y_Clearing_tick : MethodName := ⟨"CircuitDesk$Clearing", "tick", "(LCircuitDesk$Net;I)V"⟩
abbrev k_Clearing_tick : g_M := (prog_4_method_2_code, 4, "CircuitDesk$Clearing", 16, none, "tick", [], 0)
theorem d_Clearing_tick_0 : decode prog_4_method_2_code 0 = .ok (.aload_n 1, 1) := by decide +kernel
theorem d_Clearing_tick_1 : decode prog_4_method_2_code 1 = .ok (.getfield 9, 3) := by decide +kernel
theorem d_Clearing_tick_4 : decode prog_4_method_2_code 4 = .ok (.iload_n 2, 1) := by decide +kernel
theorem d_Clearing_tick_5 : decode prog_4_method_2_code 5 = .ok (.invokevirtual 15, 3) := by decide +kernel
theorem d_Clearing_tick_8 : decode prog_4_method_2_code 8 = .ok (.checkcast 21, 3) := by decide +kernel
theorem d_Clearing_tick_11 : decode prog_4_method_2_code 11 = .ok (.astore_n 3, 1) := by decide +kernel
theorem d_Clearing_tick_12 : decode prog_4_method_2_code 12 = .ok (.aload_n 3, 1) := by decide +kernel
theorem d_Clearing_tick_13 : decode prog_4_method_2_code 13 = .ok (.dup, 1) := by decide +kernel
theorem d_Clearing_tick_14 : decode prog_4_method_2_code 14 = .ok (.getfield 23, 3) := by decide +kernel
theorem d_Clearing_tick_17 : decode prog_4_method_2_code 17 = .ok (.iconst 1, 1) := by decide +kernel
theorem d_Clearing_tick_18 : decode prog_4_method_2_code 18 = .ok (.iadd, 1) := by decide +kernel
theorem d_Clearing_tick_19 : decode prog_4_method_2_code 19 = .ok (.putfield 23, 3) := by decide +kernel
theorem d_Clearing_tick_22 : decode prog_4_method_2_code 22 = .ok (.aload_n 1, 1) := by decide +kernel
theorem d_Clearing_tick_23 : decode prog_4_method_2_code 23 = .ok (.aload_n 3, 1) := by decide +kernel
theorem d_Clearing_tick_24 : decode prog_4_method_2_code 24 = .ok (.getfield 27, 3) := by decide +kernel
theorem d_Clearing_tick_27 : decode prog_4_method_2_code 27 = .ok (.aload_n 3, 1) := by decide +kernel
theorem d_Clearing_tick_28 : decode prog_4_method_2_code 28 = .ok (.getfield 23, 3) := by decide +kernel
theorem d_Clearing_tick_31 : decode prog_4_method_2_code 31 = .ok (.invokevirtual 31, 3) := by decide +kernel
theorem d_Clearing_tick_34 : decode prog_4_method_2_code 34 = .ok (.aload_n 3, 1) := by decide +kernel
theorem d_Clearing_tick_35 : decode prog_4_method_2_code 35 = .ok (.getfield 23, 3) := by decide +kernel
theorem d_Clearing_tick_38 : decode prog_4_method_2_code 38 = .ok (.aload_n 3, 1) := by decide +kernel
theorem d_Clearing_tick_39 : decode prog_4_method_2_code 39 = .ok (.getfield 27, 3) := by decide +kernel
theorem d_Clearing_tick_42 : decode prog_4_method_2_code 42 = .ok (.getfield 35, 3) := by decide +kernel
theorem d_Clearing_tick_45 : decode prog_4_method_2_code 45 = .ok (.iconst 1, 1) := by decide +kernel
theorem d_Clearing_tick_46 : decode prog_4_method_2_code 46 = .ok (.isub, 1) := by decide +kernel
theorem d_Clearing_tick_47 : decode prog_4_method_2_code 47 = .ok (.if_icmp .ne 39, 3) := by decide +kernel
theorem d_Clearing_tick_50 : decode prog_4_method_2_code 50 = .ok (.aload_n 3, 1) := by decide +kernel
theorem d_Clearing_tick_51 : decode prog_4_method_2_code 51 = .ok (.aload_n 3, 1) := by decide +kernel
theorem d_Clearing_tick_52 : decode prog_4_method_2_code 52 = .ok (.getfield 40, 3) := by decide +kernel
theorem d_Clearing_tick_55 : decode prog_4_method_2_code 55 = .ok (.putfield 27, 3) := by decide +kernel
theorem d_Clearing_tick_58 : decode prog_4_method_2_code 58 = .ok (.aload_n 1, 1) := by decide +kernel
theorem d_Clearing_tick_59 : decode prog_4_method_2_code 59 = .ok (.aload_n 3, 1) := by decide +kernel
theorem d_Clearing_tick_60 : decode prog_4_method_2_code 60 = .ok (.getfield 27, 3) := by decide +kernel
theorem d_Clearing_tick_63 : decode prog_4_method_2_code 63 = .ok (.invokevirtual 43, 3) := by decide +kernel
theorem d_Clearing_tick_66 : decode prog_4_method_2_code 66 = .ok (.aload_n 3, 1) := by decide +kernel
theorem d_Clearing_tick_67 : decode prog_4_method_2_code 67 = .ok (.aconst_null, 1) := by decide +kernel
theorem d_Clearing_tick_68 : decode prog_4_method_2_code 68 = .ok (.putfield 40, 3) := by decide +kernel
theorem d_Clearing_tick_71 : decode prog_4_method_2_code 71 = .ok (.aload_n 3, 1) := by decide +kernel
theorem d_Clearing_tick_72 : decode prog_4_method_2_code 72 = .ok (.iconst 0, 1) := by decide +kernel
theorem d_Clearing_tick_73 : decode prog_4_method_2_code 73 = .ok (.putfield 47, 3) := by decide +kernel
theorem d_Clearing_tick_76 : decode prog_4_method_2_code 76 = .ok (.aload_n 1, 1) := by decide +kernel
theorem d_Clearing_tick_77 : decode prog_4_method_2_code 77 = .ok (.dup, 1) := by decide +kernel
theorem d_Clearing_tick_78 : decode prog_4_method_2_code 78 = .ok (.getfield 50, 3) := by decide +kernel
theorem d_Clearing_tick_81 : decode prog_4_method_2_code 81 = .ok (.iconst 1, 1) := by decide +kernel
theorem d_Clearing_tick_82 : decode prog_4_method_2_code 82 = .ok (.iadd, 1) := by decide +kernel
theorem d_Clearing_tick_83 : decode prog_4_method_2_code 83 = .ok (.putfield 50, 3) := by decide +kernel
theorem d_Clearing_tick_86 : decode prog_4_method_2_code 86 = .ok (.return_, 1) := by decide +kernel
def Clearing_tick (h : g_AH) (this : Nat) (p0 : Option Nat) (p1 : Int32) : Option g_AH :=
  g_nn p0 fun a1 => g_gR h a1 1 3 fun x3 => g_nn x3 fun a6 => g_is h a6 15 <| g_b (ArrayList_get h a6 p1) fun x9 => g_ck h x9 12 <| g_nn x9 fun a13 => g_gI h a13 12 5 fun x15 => g_pF h a13 12 5 (.int (x15 + (1 : Int32))) fun h21 => g_gR h21 a13 12 2 fun x23 => g_gI h21 a13 12 5 fun x27 => g_is h21 a1 1 <| g_b (Net_giveUp h21 a1 x23 x27) fun h33 => g_gI h33 a13 12 5 fun x36 => g_gR h33 a13 12 2 fun x40 => g_nn x40 fun a43 => g_gI h33 a43 6 3 fun x45 => if x36 = (x45 - (1 : Int32)) then (g_gR h33 a13 12 3 fun x50 => g_pF h33 a13 12 2 (va_rf x50) fun h56 => g_gR h56 a13 12 2 fun x58 => g_is h56 a1 1 <| g_b (Net_markOld h56 a1 x58) fun h64 => g_pF h64 a13 12 3 (va_rf none) fun h69 => g_pF h69 a13 12 4 (.int (0 : Int32)) fun h73 => g_gI h73 a1 1 12 fun x75 => g_pF h73 a1 1 12 (.int (x75 + (1 : Int32))) fun h81 => some h81) else (some h33)
set_option maxHeartbeats 4000000 in
set_option maxRecDepth 100000 in
theorem T_Clearing_tick {l : Launch} {B : g_B} (h : g_AH) (this : Nat) (p0 : Option Nat) (p1 : Int32) (z : g_AH) (hy : Clearing_tick h this p0 p1 = some z) : g_CT l B y_Clearing_tick k_Clearing_tick [.ref this, va_rf p0, .int p1] h (.inl none) z := by
  refine g_start2 (Lc := [(0, .ref this), (1, va_rf p0), (2, .int p1)]) (by decide) rfl rfl (by rcases p0 with _ | p0 <;> exact Nat.le_of_ble_eq_true rfl) (by rcases p0 with _ | p0 <;> rfl) fun X => ?_
  unfold Clearing_tick at hy
  refine g_aloadO_n 1 (i := 1) (pc' := 1) d_Clearing_tick_0 rfl rfl rfl ?_
  replace hy := g_nn_inv hy
  obtain ⟨a1, rfl, hy⟩ := hy
  replace hy := g_gR_inv hy
  obtain ⟨fs2, x3, hc4, hv5, hy⟩ := hy
  refine g_getfN (pc' := 4) d_Clearing_tick_1 hc4 rfl (by decide) hv5 q557 rfl rfl ?_
  refine g_iload_n 2 (i := 2) (pc' := 5) d_Clearing_tick_4 rfl rfl rfl ?_
  replace hy := g_nn_inv hy
  obtain ⟨a6, rfl, hy⟩ := hy
  replace hy := g_is_inv hy
  obtain ⟨fs7, hc8, hy⟩ := hy
  replace hy := g_b_inv hy
  obtain ⟨x9, hf11, hy⟩ := hy
  refine g_callV (rv := some (va_rf x9)) (h1 := h) (pc' := 8) (As := [.int p1]) (rest := []) 1 (T_ArrayList_get (hy := hf11)) d_Clearing_tick_5 hc8 rfl rfl q1770 q683 q684 q112 q685 hd_ArrayList_get rfl ⟨by decide, by decide⟩ (by first | exact Nat.le_of_ble_eq_true rfl | (simp only [List.map, List.sum_cons, List.sum_nil, g_cat_rf]; exact Nat.le_of_ble_eq_true rfl) | (simp only [List.map, List.sum_cons, List.sum_nil, g_cat_rf, Value.category]; decide)) rfl ?_
  replace hy := g_ck_inv hy
  obtain ⟨hk12, hy⟩ := hy
  refine g_castO (pc' := 11) d_Clearing_tick_8 hk12 rfl q1771 rfl ?_
  refine g_astoreO_n (i := 3) (pc' := 12) (Lc' := [(3, va_rf x9), (0, .ref this), (1, .ref a1), (2, .int p1)]) d_Clearing_tick_11 rfl (by decide) rfl rfl ?_
  refine g_aloadO_n 0 (i := 3) (pc' := 13) d_Clearing_tick_12 rfl rfl rfl ?_
  refine g_dup (pc' := 14) d_Clearing_tick_13 g_cat_rf rfl ?_
  replace hy := g_nn_inv hy
  obtain ⟨a13, rfl, hy⟩ := hy
  replace hy := g_gI_inv hy
  obtain ⟨fs14, x15, hc16, hv17, hy⟩ := hy
  refine g_getfN (pc' := 17) d_Clearing_tick_14 hc16 rfl (by decide) hv17 q1170 rfl rfl ?_
  refine g_iconst (v := (1 : Int32)) (pc' := 18) d_Clearing_tick_17 (by decide) rfl ?_
  refine g_iadd (pc' := 19) d_Clearing_tick_18 rfl ?_
  replace hy := g_pF_inv hy
  obtain ⟨fs18, hc19, hl20, hy⟩ := hy
  refine g_putfN (pc' := 22) d_Clearing_tick_19 hc19 rfl (by decide) hl20 rfl rfl rfl q1170 rfl rfl ?_
  generalize g_up h a13 (.inr (12, fs18.set 5 (.int (x15 + (1 : Int32))))) = h21 at hy ⊢
  refine g_aload_n 2 (i := 1) (pc' := 23) d_Clearing_tick_22 rfl rfl rfl ?_
  refine g_aload_n 0 (i := 3) (pc' := 24) d_Clearing_tick_23 rfl rfl rfl ?_
  replace hy := g_gR_inv hy
  obtain ⟨fs22, x23, hc24, hv25, hy⟩ := hy
  refine g_getfN (pc' := 27) d_Clearing_tick_24 hc24 rfl (by decide) hv25 q1153 rfl rfl ?_
  refine g_aload_n 0 (i := 3) (pc' := 28) d_Clearing_tick_27 rfl rfl rfl ?_
  replace hy := g_gI_inv hy
  obtain ⟨fs26, x27, hc28, hv29, hy⟩ := hy
  refine g_getfN (pc' := 31) d_Clearing_tick_28 hc28 rfl (by decide) hv29 q1170 rfl rfl ?_
  replace hy := g_is_inv hy
  obtain ⟨fs30, hc31, hy⟩ := hy
  replace hy := g_b_inv hy
  obtain ⟨h33, hf34, hy⟩ := hy
  refine g_callV (rv := none) (h1 := h33) (pc' := 34) (As := [va_rf x23, .int x27]) (rest := []) 2 (T_Net_giveUp (hy := hf34)) d_Clearing_tick_31 hc31 rfl rfl q1772 q1618 q1619 q109 q1620 hd_Net_giveUp rfl ⟨by decide, by decide⟩ (by first | exact Nat.le_of_ble_eq_true rfl | (simp only [List.map, List.sum_cons, List.sum_nil, g_cat_rf]; exact Nat.le_of_ble_eq_true rfl) | (simp only [List.map, List.sum_cons, List.sum_nil, g_cat_rf, Value.category]; decide)) rfl ?_
  refine g_aload_n 0 (i := 3) (pc' := 35) d_Clearing_tick_34 rfl rfl rfl ?_
  replace hy := g_gI_inv hy
  obtain ⟨fs35, x36, hc37, hv38, hy⟩ := hy
  refine g_getfN (pc' := 38) d_Clearing_tick_35 hc37 rfl (by decide) hv38 q1170 rfl rfl ?_
  refine g_aload_n 0 (i := 3) (pc' := 39) d_Clearing_tick_38 rfl rfl rfl ?_
  replace hy := g_gR_inv hy
  obtain ⟨fs39, x40, hc41, hv42, hy⟩ := hy
  refine g_getfN (pc' := 42) d_Clearing_tick_39 hc41 rfl (by decide) hv42 q1153 rfl rfl ?_
  replace hy := g_nn_inv hy
  obtain ⟨a43, rfl, hy⟩ := hy
  replace hy := g_gI_inv hy
  obtain ⟨fs44, x45, hc46, hv47, hy⟩ := hy
  refine g_getfN (pc' := 45) d_Clearing_tick_42 hc46 rfl (by decide) hv47 q627 rfl rfl ?_
  refine g_iconst (v := (1 : Int32)) (pc' := 46) d_Clearing_tick_45 (by decide) rfl ?_
  refine g_isub (pc' := 47) d_Clearing_tick_46 rfl ?_
  by_cases c48 : x36 = (x45 - (1 : Int32))
  · rw [if_pos c48] at hy
    refine g_icmp_neF (pc' := 50) d_Clearing_tick_47 86 c48 (by decide) rfl ?_
    refine g_aload_n 0 (i := 3) (pc' := 51) d_Clearing_tick_50 rfl rfl rfl ?_
    refine g_aload_n 0 (i := 3) (pc' := 52) d_Clearing_tick_51 rfl rfl rfl ?_
    replace hy := g_gR_inv hy
    obtain ⟨fs49, x50, hc51, hv52, hy⟩ := hy
    refine g_getfN (pc' := 55) d_Clearing_tick_52 hc51 rfl (by decide) hv52 q1160 rfl rfl ?_
    replace hy := g_pF_inv hy
    obtain ⟨fs53, hc54, hl55, hy⟩ := hy
    refine g_putfN (pc' := 58) d_Clearing_tick_55 hc54 rfl (by decide) hl55 rfl g_nar_rf g_fit_o q1153 rfl rfl ?_
    generalize g_up h33 a13 (.inr (12, fs53.set 2 (va_rf x50))) = h56 at hy ⊢
    refine g_aload_n 2 (i := 1) (pc' := 59) d_Clearing_tick_58 rfl rfl rfl ?_
    refine g_aload_n 0 (i := 3) (pc' := 60) d_Clearing_tick_59 rfl rfl rfl ?_
    replace hy := g_gR_inv hy
    obtain ⟨fs57, x58, hc59, hv60, hy⟩ := hy
    refine g_getfN (pc' := 63) d_Clearing_tick_60 hc59 rfl (by decide) hv60 q1153 rfl rfl ?_
    replace hy := g_is_inv hy
    obtain ⟨fs61, hc62, hy⟩ := hy
    replace hy := g_b_inv hy
    obtain ⟨h64, hf65, hy⟩ := hy
    refine g_callV (rv := none) (h1 := h64) (pc' := 66) (As := [va_rf x58]) (rest := []) 1 (T_Net_markOld (hy := hf65)) d_Clearing_tick_63 hc62 rfl rfl q1773 q1774 q1775 q109 q1776 hd_Net_markOld rfl ⟨by decide, by decide⟩ (by first | exact Nat.le_of_ble_eq_true rfl | (simp only [List.map, List.sum_cons, List.sum_nil, g_cat_rf]; exact Nat.le_of_ble_eq_true rfl) | (simp only [List.map, List.sum_cons, List.sum_nil, g_cat_rf, Value.category]; decide)) rfl ?_
    refine g_aload_n 0 (i := 3) (pc' := 67) d_Clearing_tick_66 rfl rfl rfl ?_
    refine g_null (pc' := 68) d_Clearing_tick_67 rfl ?_
    replace hy := g_pF_inv hy
    obtain ⟨fs66, hc67, hl68, hy⟩ := hy
    refine g_putfN (pc' := 71) d_Clearing_tick_68 hc67 rfl (by decide) hl68 rfl g_nar_rf g_fit_o q1160 rfl rfl ?_
    generalize g_up h64 a13 (.inr (12, fs66.set 3 (va_rf none))) = h69 at hy ⊢
    refine g_aload_n 0 (i := 3) (pc' := 72) d_Clearing_tick_71 rfl rfl rfl ?_
    refine g_iconst (v := (0 : Int32)) (pc' := 73) d_Clearing_tick_72 (by decide) rfl ?_
    replace hy := g_pF_inv hy
    obtain ⟨fs70, hc71, hl72, hy⟩ := hy
    refine g_putfN (pc' := 76) d_Clearing_tick_73 hc71 rfl (by decide) hl72 rfl rfl rfl q1166 rfl rfl ?_
    generalize g_up h69 a13 (.inr (12, fs70.set 4 (.int (0 : Int32)))) = h73 at hy ⊢
    refine g_aload_n 2 (i := 1) (pc' := 77) d_Clearing_tick_76 rfl rfl rfl ?_
    refine g_dup (pc' := 78) d_Clearing_tick_77 rfl rfl ?_
    replace hy := g_gI_inv hy
    obtain ⟨fs74, x75, hc76, hv77, hy⟩ := hy
    refine g_getfN (pc' := 81) d_Clearing_tick_78 hc76 rfl (by decide) hv77 q576 rfl rfl ?_
    refine g_iconst (v := (1 : Int32)) (pc' := 82) d_Clearing_tick_81 (by decide) rfl ?_
    refine g_iadd (pc' := 83) d_Clearing_tick_82 rfl ?_
    replace hy := g_pF_inv hy
    obtain ⟨fs78, hc79, hl80, hy⟩ := hy
    refine g_putfN (pc' := 86) d_Clearing_tick_83 hc79 rfl (by decide) hl80 rfl rfl rfl q576 rfl rfl ?_
    generalize g_up h73 a1 (.inr (1, fs78.set 12 (.int (x75 + (1 : Int32))))) = h81 at hy ⊢
    cases hy
    exact g_vret rfl rfl rfl d_Clearing_tick_86
  · rw [if_neg c48] at hy
    refine g_icmp_neT (pc' := 86) d_Clearing_tick_47 c48 (by decide) ?_
    cases hy
    exact g_vret rfl rfl rfl d_Clearing_tick_86
theorem hd_Clearing_tick : g_dsc y_Clearing_tick 2 := ⟨by decide +kernel, by decide +kernel, by decide +kernel⟩
/-! CircuitDesk$Packet.<init>(III)V -/
abbrev y_Packet_init : MethodName := ⟨"CircuitDesk$Packet", "<init>", "(III)V"⟩
abbrev k_Packet_init : g_M := (prog_9_method_1_code, 4, "CircuitDesk$Packet", 13, none, "<init>", [], 0)
theorem d_Packet_init_0 : decode prog_9_method_1_code 0 = .ok (.aload_n 0, 1) := by decide +kernel
theorem d_Packet_init_1 : decode prog_9_method_1_code 1 = .ok (.invokespecial 1, 3) := by decide +kernel
theorem d_Packet_init_4 : decode prog_9_method_1_code 4 = .ok (.aload_n 0, 1) := by decide +kernel
theorem d_Packet_init_5 : decode prog_9_method_1_code 5 = .ok (.iload_n 1, 1) := by decide +kernel
theorem d_Packet_init_6 : decode prog_9_method_1_code 6 = .ok (.putfield 7, 3) := by decide +kernel
theorem d_Packet_init_9 : decode prog_9_method_1_code 9 = .ok (.aload_n 0, 1) := by decide +kernel
theorem d_Packet_init_10 : decode prog_9_method_1_code 10 = .ok (.iload_n 2, 1) := by decide +kernel
theorem d_Packet_init_11 : decode prog_9_method_1_code 11 = .ok (.putfield 13, 3) := by decide +kernel
theorem d_Packet_init_14 : decode prog_9_method_1_code 14 = .ok (.aload_n 0, 1) := by decide +kernel
theorem d_Packet_init_15 : decode prog_9_method_1_code 15 = .ok (.iload_n 3, 1) := by decide +kernel
theorem d_Packet_init_16 : decode prog_9_method_1_code 16 = .ok (.putfield 16, 3) := by decide +kernel
theorem d_Packet_init_19 : decode prog_9_method_1_code 19 = .ok (.return_, 1) := by decide +kernel
def Packet_init (h : g_AH) (this : Nat) (p0 : Int32) (p1 : Int32) (p2 : Int32) : Option g_AH :=
  g_pF h this 14 0 (.int p0) fun h4 => g_pF h4 this 14 1 (.int p1) fun h8 => g_pF h8 this 14 2 (.int p2) fun h12 => some h12
set_option maxHeartbeats 4000000 in
set_option maxRecDepth 100000 in
theorem T_Packet_init {l : Launch} {B : g_B} (h : g_AH) (this : Nat) (p0 : Int32) (p1 : Int32) (p2 : Int32) (z : g_AH) (hy : Packet_init h this p0 p1 p2 = some z) : g_CT l B y_Packet_init k_Packet_init [.ref this, .int p0, .int p1, .int p2] h (.inl none) z := by
  refine g_start2 (Lc := [(0, .ref this), (1, .int p0), (2, .int p1), (3, .int p2)]) (by decide) rfl rfl (by exact Nat.le_of_ble_eq_true rfl) (by rfl) fun X => ?_
  unfold Packet_init at hy
  refine g_aload_n 0 (i := 0) (pc' := 1) d_Packet_init_0 rfl rfl rfl ?_
  refine g_objInit (pc' := 4) d_Packet_init_1 q1802 (by first | exact Nat.le_of_ble_eq_true rfl | (simp only [List.map, List.sum_cons, List.sum_nil, g_cat_rf]; exact Nat.le_of_ble_eq_true rfl) | (simp only [List.map, List.sum_cons, List.sum_nil, g_cat_rf, Value.category]; decide)) (by decide) rfl ?_
  refine g_aload_n 0 (i := 0) (pc' := 5) d_Packet_init_4 rfl rfl rfl ?_
  refine g_iload_n 1 (i := 1) (pc' := 6) d_Packet_init_5 rfl rfl rfl ?_
  replace hy := g_pF_inv hy
  obtain ⟨fs1, hc2, hl3, hy⟩ := hy
  refine g_putf (pc' := 9) d_Packet_init_6 hc2 rfl (by decide) hl3 rfl rfl rfl q1803 (Or.inl rfl) rfl ?_
  generalize g_up h this (.inr (14, fs1.set 0 (.int p0))) = h4 at hy ⊢
  refine g_aload_n 0 (i := 0) (pc' := 10) d_Packet_init_9 rfl rfl rfl ?_
  refine g_iload_n 2 (i := 2) (pc' := 11) d_Packet_init_10 rfl rfl rfl ?_
  replace hy := g_pF_inv hy
  obtain ⟨fs5, hc6, hl7, hy⟩ := hy
  refine g_putfF (pc' := 14) d_Packet_init_11 rfl hc6 rfl (by decide) hl7 rfl rfl rfl rfl q1806 rfl rfl ?_
  generalize g_up h4 this (.inr (14, fs5.set 1 (.int p1))) = h8 at hy ⊢
  refine g_aload_n 0 (i := 0) (pc' := 15) d_Packet_init_14 rfl rfl rfl ?_
  refine g_iload_n 3 (i := 3) (pc' := 16) d_Packet_init_15 rfl rfl rfl ?_
  replace hy := g_pF_inv hy
  obtain ⟨fs9, hc10, hl11, hy⟩ := hy
  refine g_putfF (pc' := 19) d_Packet_init_16 rfl hc10 rfl (by decide) hl11 rfl rfl rfl rfl q1809 rfl rfl ?_
  generalize g_up h8 this (.inr (14, fs9.set 2 (.int p2))) = h12 at hy ⊢
  cases hy
  exact g_vret rfl rfl rfl d_Packet_init_19
theorem hd_Packet_init : g_dsc y_Packet_init 3 := ⟨by decide +kernel, by decide +kernel, by decide +kernel⟩
/-! CircuitDesk$Circuit.active()LCircuitDesk$Way; -/
abbrev y_Circuit_active : MethodName := ⟨"CircuitDesk$Circuit", "active", "()LCircuitDesk$Way;"⟩
abbrev k_Circuit_active : g_M := (prog_3_method_3_code, 1, "CircuitDesk$Circuit", 12, (some (FieldType.object "CircuitDesk$Way")), "active", [], 0)
theorem d_Circuit_active_0 : decode prog_3_method_3_code 0 = .ok (.aload_n 0, 1) := by decide +kernel
theorem d_Circuit_active_1 : decode prog_3_method_3_code 1 = .ok (.getfield 38, 3) := by decide +kernel
theorem d_Circuit_active_4 : decode prog_3_method_3_code 4 = .ok (.iconst 2, 1) := by decide +kernel
theorem d_Circuit_active_5 : decode prog_3_method_3_code 5 = .ok (.if_icmp .lt 10, 3) := by decide +kernel
theorem d_Circuit_active_8 : decode prog_3_method_3_code 8 = .ok (.aload_n 0, 1) := by decide +kernel
theorem d_Circuit_active_9 : decode prog_3_method_3_code 9 = .ok (.getfield 35, 3) := by decide +kernel
theorem d_Circuit_active_12 : decode prog_3_method_3_code 12 = .ok (.goto 7, 3) := by decide +kernel
theorem d_Circuit_active_15 : decode prog_3_method_3_code 15 = .ok (.aload_n 0, 1) := by decide +kernel
theorem d_Circuit_active_16 : decode prog_3_method_3_code 16 = .ok (.getfield 12, 3) := by decide +kernel
theorem d_Circuit_active_19 : decode prog_3_method_3_code 19 = .ok (.areturn, 1) := by decide +kernel
def Circuit_active (h : g_AH) (this : Nat) : Option (Option Nat) :=
  g_gI h this 12 4 fun x2 => if x2 < (2 : Int32) then (g_gR h this 12 2 fun x7 => some x7) else (g_gR h this 12 3 fun x11 => some x11)
set_option maxHeartbeats 4000000 in
set_option maxRecDepth 100000 in
theorem T_Circuit_active {l : Launch} {B : g_B} (h : g_AH) (this : Nat) (z : Option Nat) (hy : Circuit_active h this = some z) : g_CT l B y_Circuit_active k_Circuit_active [.ref this] h (.inl (some (va_rf z))) h := by
  refine g_start2 (Lc := [(0, .ref this)]) (by decide) rfl rfl (by exact Nat.le_of_ble_eq_true rfl) (by rfl) fun X => ?_
  unfold Circuit_active at hy
  refine g_aload_n 0 (i := 0) (pc' := 1) d_Circuit_active_0 rfl rfl rfl ?_
  replace hy := g_gI_inv hy
  obtain ⟨fs1, x2, hc3, hv4, hy⟩ := hy
  refine g_getf (pc' := 4) d_Circuit_active_1 hc3 rfl (by decide) hv4 q1165 (Or.inl rfl) rfl ?_
  refine g_iconst (v := (2 : Int32)) (pc' := 5) d_Circuit_active_4 (by decide) rfl ?_
  by_cases c5 : x2 < (2 : Int32)
  · rw [if_pos c5] at hy
    refine g_icmp_ltT (pc' := 15) d_Circuit_active_5 c5 (by decide) ?_
    refine g_aload_n 0 (i := 0) (pc' := 16) d_Circuit_active_15 rfl rfl rfl ?_
    replace hy := g_gR_inv hy
    obtain ⟨fs6, x7, hc8, hv9, hy⟩ := hy
    refine g_getf (pc' := 19) d_Circuit_active_16 hc8 rfl (by decide) hv9 q1152 (Or.inl rfl) rfl ?_
    cases hy
    exact g_aret rfl rfl rfl (Or.inl ⟨_, rfl⟩) d_Circuit_active_19
  · rw [if_neg c5] at hy
    refine g_icmp_ltF (pc' := 8) d_Circuit_active_5 15 c5 (by decide) rfl ?_
    refine g_aload_n 0 (i := 0) (pc' := 9) d_Circuit_active_8 rfl rfl rfl ?_
    replace hy := g_gR_inv hy
    obtain ⟨fs10, x11, hc12, hv13, hy⟩ := hy
    refine g_getf (pc' := 12) d_Circuit_active_9 hc12 rfl (by decide) hv13 q1159 (Or.inl rfl) rfl ?_
    refine g_goto (pc' := 19) d_Circuit_active_12 (by decide) ?_
    cases hy
    exact g_aret rfl rfl rfl (Or.inl ⟨_, rfl⟩) d_Circuit_active_19
theorem hd_Circuit_active : g_dsc y_Circuit_active 0 := ⟨by decide +kernel, by decide +kernel, by decide +kernel⟩
/-! CircuitDesk$Net.send(I)V -/
abbrev y_Net_send : MethodName := ⟨"CircuitDesk$Net", "send", "(I)V"⟩
abbrev k_Net_send : g_M := (prog_7_method_24_code, 4, "CircuitDesk$Net", 19, none, "send", [], 0)
theorem d_Net_send_0 : decode prog_7_method_24_code 0 = .ok (.aload_n 0, 1) := by decide +kernel
theorem d_Net_send_1 : decode prog_7_method_24_code 1 = .ok (.getfield 27, 3) := by decide +kernel
theorem d_Net_send_4 : decode prog_7_method_24_code 4 = .ok (.iload_n 1, 1) := by decide +kernel
theorem d_Net_send_5 : decode prog_7_method_24_code 5 = .ok (.invokevirtual 116, 3) := by decide +kernel
theorem d_Net_send_8 : decode prog_7_method_24_code 8 = .ok (.checkcast 77, 3) := by decide +kernel
theorem d_Net_send_11 : decode prog_7_method_24_code 11 = .ok (.astore_n 2, 1) := by decide +kernel
theorem d_Net_send_12 : decode prog_7_method_24_code 12 = .ok (.aload_n 2, 1) := by decide +kernel
theorem d_Net_send_13 : decode prog_7_method_24_code 13 = .ok (.dup, 1) := by decide +kernel
theorem d_Net_send_14 : decode prog_7_method_24_code 14 = .ok (.getfield 289, 3) := by decide +kernel
theorem d_Net_send_17 : decode prog_7_method_24_code 17 = .ok (.iconst 1, 1) := by decide +kernel
theorem d_Net_send_18 : decode prog_7_method_24_code 18 = .ok (.isub, 1) := by decide +kernel
theorem d_Net_send_19 : decode prog_7_method_24_code 19 = .ok (.putfield 289, 3) := by decide +kernel
theorem d_Net_send_22 : decode prog_7_method_24_code 22 = .ok (.new 82, 3) := by decide +kernel
theorem d_Net_send_25 : decode prog_7_method_24_code 25 = .ok (.dup, 1) := by decide +kernel
theorem d_Net_send_26 : decode prog_7_method_24_code 26 = .ok (.iload_n 1, 1) := by decide +kernel
theorem d_Net_send_27 : decode prog_7_method_24_code 27 = .ok (.aload_n 2, 1) := by decide +kernel
theorem d_Net_send_28 : decode prog_7_method_24_code 28 = .ok (.getfield 292, 3) := by decide +kernel
theorem d_Net_send_31 : decode prog_7_method_24_code 31 = .ok (.aload_n 0, 1) := by decide +kernel
theorem d_Net_send_32 : decode prog_7_method_24_code 32 = .ok (.getfield 87, 3) := by decide +kernel
theorem d_Net_send_35 : decode prog_7_method_24_code 35 = .ok (.iconst 1, 1) := by decide +kernel
theorem d_Net_send_36 : decode prog_7_method_24_code 36 = .ok (.iadd, 1) := by decide +kernel
theorem d_Net_send_37 : decode prog_7_method_24_code 37 = .ok (.invokespecial 293, 3) := by decide +kernel
theorem d_Net_send_40 : decode prog_7_method_24_code 40 = .ok (.astore_n 3, 1) := by decide +kernel
theorem d_Net_send_41 : decode prog_7_method_24_code 41 = .ok (.aload_n 2, 1) := by decide +kernel
theorem d_Net_send_42 : decode prog_7_method_24_code 42 = .ok (.dup, 1) := by decide +kernel
theorem d_Net_send_43 : decode prog_7_method_24_code 43 = .ok (.getfield 292, 3) := by decide +kernel
theorem d_Net_send_46 : decode prog_7_method_24_code 46 = .ok (.iconst 1, 1) := by decide +kernel
theorem d_Net_send_47 : decode prog_7_method_24_code 47 = .ok (.iadd, 1) := by decide +kernel
theorem d_Net_send_48 : decode prog_7_method_24_code 48 = .ok (.putfield 292, 3) := by decide +kernel
theorem d_Net_send_51 : decode prog_7_method_24_code 51 = .ok (.aload_n 0, 1) := by decide +kernel
theorem d_Net_send_52 : decode prog_7_method_24_code 52 = .ok (.dup, 1) := by decide +kernel
theorem d_Net_send_53 : decode prog_7_method_24_code 53 = .ok (.getfield 91, 3) := by decide +kernel
theorem d_Net_send_56 : decode prog_7_method_24_code 56 = .ok (.iconst 1, 1) := by decide +kernel
theorem d_Net_send_57 : decode prog_7_method_24_code 57 = .ok (.iadd, 1) := by decide +kernel
theorem d_Net_send_58 : decode prog_7_method_24_code 58 = .ok (.putfield 91, 3) := by decide +kernel
theorem d_Net_send_61 : decode prog_7_method_24_code 61 = .ok (.aload_n 0, 1) := by decide +kernel
theorem d_Net_send_62 : decode prog_7_method_24_code 62 = .ok (.aload_n 3, 1) := by decide +kernel
theorem d_Net_send_63 : decode prog_7_method_24_code 63 = .ok (.aload_n 2, 1) := by decide +kernel
theorem d_Net_send_64 : decode prog_7_method_24_code 64 = .ok (.invokevirtual 296, 3) := by decide +kernel
theorem d_Net_send_67 : decode prog_7_method_24_code 67 = .ok (.iconst 1, 1) := by decide +kernel
theorem d_Net_send_68 : decode prog_7_method_24_code 68 = .ok (.invokevirtual 278, 3) := by decide +kernel
theorem d_Net_send_71 : decode prog_7_method_24_code 71 = .ok (.ifCond .eq 12, 3) := by decide +kernel
theorem d_Net_send_74 : decode prog_7_method_24_code 74 = .ok (.aload_n 0, 1) := by decide +kernel
theorem d_Net_send_75 : decode prog_7_method_24_code 75 = .ok (.getfield 30, 3) := by decide +kernel
theorem d_Net_send_78 : decode prog_7_method_24_code 78 = .ok (.aload_n 3, 1) := by decide +kernel
theorem d_Net_send_79 : decode prog_7_method_24_code 79 = .ok (.invokevirtual 68, 3) := by decide +kernel
theorem d_Net_send_82 : decode prog_7_method_24_code 82 = .ok (.pop, 1) := by decide +kernel
theorem d_Net_send_83 : decode prog_7_method_24_code 83 = .ok (.return_, 1) := by decide +kernel
def Net_send (h : g_AH) (this : Nat) (p0 : Int32) : Option g_AH :=
  g_gR h this 1 3 fun x2 => g_nn x2 fun a5 => g_is h a5 15 <| g_b (ArrayList_get h a5 p0) fun x8 => g_ck h x8 12 <| g_nn x8 fun a12 => g_gI h a12 12 8 fun x14 => g_pF h a12 12 8 (.int (x14 - (1 : Int32))) fun h20 => g_mk h20 (.inr (14, [.int 0, .int 0, .int 0, .int 0, .int 0, .int 0, .int 0, .int 0])) 8 fun a21 h22 => g_gI h22 a12 12 9 fun x24 => g_gI h22 this 1 6 fun x28 => g_b (Packet_init h22 a21 p0 x24 (x28 + (1 : Int32))) fun h32 => g_gI h32 a12 12 9 fun x35 => g_pF h32 a12 12 9 (.int (x35 + (1 : Int32))) fun h41 => g_gI h41 this 1 7 fun x43 => g_pF h41 this 1 7 (.int (x43 + (1 : Int32))) fun h49 => g_is h49 a12 12 <| g_b (Circuit_active h49 a12) fun x52 => g_is h49 this 1 <| g_b2 (Net_goesOn h49 this (some a21) x52 (1 : Int32)) fun x57 h58 => if x57 = 0 then (some h58) else (g_gR h58 this 1 4 fun x62 => g_nn x62 fun a65 => g_is h58 a65 15 <| g_b2 (ArrayList_add0 h58 a65 (some a21)) fun x68 h69 => some h69)
set_option maxHeartbeats 4000000 in
set_option maxRecDepth 100000 in
theorem T_Net_send {l : Launch} {B : g_B} (h : g_AH) (this : Nat) (p0 : Int32) (z : g_AH) (hy : Net_send h this p0 = some z) : g_CT l B y_Net_send k_Net_send [.ref this, .int p0] h (.inl none) z := by
  refine g_start2 (Lc := [(0, .ref this), (1, .int p0)]) (by decide) rfl rfl (by exact Nat.le_of_ble_eq_true rfl) (by rfl) fun X => ?_
  unfold Net_send at hy
  refine g_aload_n 0 (i := 0) (pc' := 1) d_Net_send_0 rfl rfl rfl ?_
  replace hy := g_gR_inv hy
  obtain ⟨fs1, x2, hc3, hv4, hy⟩ := hy
  refine g_getf (pc' := 4) d_Net_send_1 hc3 rfl (by decide) hv4 q555 (Or.inl rfl) rfl ?_
  refine g_iload_n 1 (i := 1) (pc' := 5) d_Net_send_4 rfl rfl rfl ?_
  replace hy := g_nn_inv hy
  obtain ⟨a5, rfl, hy⟩ := hy
  replace hy := g_is_inv hy
  obtain ⟨fs6, hc7, hy⟩ := hy
  replace hy := g_b_inv hy
  obtain ⟨x8, hf10, hy⟩ := hy
  refine g_callV (rv := some (va_rf x8)) (h1 := h) (pc' := 8) (As := [.int p0]) (rest := []) 1 (T_ArrayList_get (hy := hf10)) d_Net_send_5 hc7 rfl rfl q682 q683 q684 q112 q685 hd_ArrayList_get rfl ⟨by decide, by decide⟩ (by first | exact Nat.le_of_ble_eq_true rfl | (simp only [List.map, List.sum_cons, List.sum_nil, g_cat_rf]; exact Nat.le_of_ble_eq_true rfl) | (simp only [List.map, List.sum_cons, List.sum_nil, g_cat_rf, Value.category]; decide)) rfl ?_
  replace hy := g_ck_inv hy
  obtain ⟨hk11, hy⟩ := hy
  refine g_castO (pc' := 11) d_Net_send_8 hk11 rfl q696 rfl ?_
  refine g_astoreO_n (i := 2) (pc' := 12) (Lc' := [(2, va_rf x8), (0, .ref this), (1, .int p0)]) d_Net_send_11 rfl (by decide) rfl rfl ?_
  refine g_aloadO_n 0 (i := 2) (pc' := 13) d_Net_send_12 rfl rfl rfl ?_
  refine g_dup (pc' := 14) d_Net_send_13 g_cat_rf rfl ?_
  replace hy := g_nn_inv hy
  obtain ⟨a12, rfl, hy⟩ := hy
  replace hy := g_gI_inv hy
  obtain ⟨fs13, x14, hc15, hv16, hy⟩ := hy
  refine g_getfN (pc' := 17) d_Net_send_14 hc15 rfl (by decide) hv16 q1184 rfl rfl ?_
  refine g_iconst (v := (1 : Int32)) (pc' := 18) d_Net_send_17 (by decide) rfl ?_
  refine g_isub (pc' := 19) d_Net_send_18 rfl ?_
  replace hy := g_pF_inv hy
  obtain ⟨fs17, hc18, hl19, hy⟩ := hy
  refine g_putfN (pc' := 22) d_Net_send_19 hc18 rfl (by decide) hl19 rfl rfl rfl q1184 rfl rfl ?_
  generalize g_up h a12 (.inr (12, fs17.set 8 (.int (x14 - (1 : Int32))))) = h20 at hy ⊢
  replace hy := g_mk_inv hy
  refine g_new (ci := 14) (fs := [.int 0, .int 0, .int 0, .int 0, .int 0, .int 0, .int 0, .int 0]) (pc' := 25) d_Net_send_22 rfl q1420 q1798 q147 gdf_14 rfl ?_
  generalize g_al h20 (.inr (14, [.int 0, .int 0, .int 0, .int 0, .int 0, .int 0, .int 0, .int 0])) 8 = h22 at hy ⊢
  generalize g_n h20 = a21 at hy ⊢
  refine g_dup (pc' := 26) d_Net_send_25 rfl rfl ?_
  refine g_iload_n 2 (i := 1) (pc' := 27) d_Net_send_26 rfl rfl rfl ?_
  refine g_aload_n 0 (i := 2) (pc' := 28) d_Net_send_27 rfl rfl rfl ?_
  replace hy := g_gI_inv hy
  obtain ⟨fs23, x24, hc25, hv26, hy⟩ := hy
  refine g_getfN (pc' := 31) d_Net_send_28 hc25 rfl (by decide) hv26 q1187 rfl rfl ?_
  refine g_aload_n 1 (i := 0) (pc' := 32) d_Net_send_31 rfl rfl rfl ?_
  replace hy := g_gI_inv hy
  obtain ⟨fs27, x28, hc29, hv30, hy⟩ := hy
  refine g_getf (pc' := 35) d_Net_send_32 hc29 rfl (by decide) hv30 q564 (Or.inl rfl) rfl ?_
  refine g_iconst (v := (1 : Int32)) (pc' := 36) d_Net_send_35 (by decide) rfl ?_
  refine g_iadd (pc' := 37) d_Net_send_36 rfl ?_
  replace hy := g_b_inv hy
  obtain ⟨h32, hf33, hy⟩ := hy
  refine g_callI (h1 := h32) (pc' := 40) (As := [.int p0, .int x24, .int (x28 + (1 : Int32))]) (rest := [.ref a21]) 3 (T_Packet_init (hy := hf33)) d_Net_send_37 rfl rfl q1799 q1800 q147 q1801 hd_Packet_init rfl ⟨by decide, by decide⟩ (by first | exact Nat.le_of_ble_eq_true rfl | (simp only [List.map, List.sum_cons, List.sum_nil, g_cat_rf]; exact Nat.le_of_ble_eq_true rfl) | (simp only [List.map, List.sum_cons, List.sum_nil, g_cat_rf, Value.category]; decide)) rfl ?_
  refine g_astore_n (i := 3) (pc' := 41) (Lc' := [(3, .ref a21), (2, .ref a12), (0, .ref this), (1, .int p0)]) d_Net_send_40 rfl (by decide) rfl rfl ?_
  refine g_aload_n 1 (i := 2) (pc' := 42) d_Net_send_41 rfl rfl rfl ?_
  refine g_dup (pc' := 43) d_Net_send_42 rfl rfl ?_
  replace hy := g_gI_inv hy
  obtain ⟨fs34, x35, hc36, hv37, hy⟩ := hy
  refine g_getfN (pc' := 46) d_Net_send_43 hc36 rfl (by decide) hv37 q1187 rfl rfl ?_
  refine g_iconst (v := (1 : Int32)) (pc' := 47) d_Net_send_46 (by decide) rfl ?_
  refine g_iadd (pc' := 48) d_Net_send_47 rfl ?_
  replace hy := g_pF_inv hy
  obtain ⟨fs38, hc39, hl40, hy⟩ := hy
  refine g_putfN (pc' := 51) d_Net_send_48 hc39 rfl (by decide) hl40 rfl rfl rfl q1187 rfl rfl ?_
  generalize g_up h32 a12 (.inr (12, fs38.set 9 (.int (x35 + (1 : Int32))))) = h41 at hy ⊢
  refine g_aload_n 2 (i := 0) (pc' := 52) d_Net_send_51 rfl rfl rfl ?_
  refine g_dup (pc' := 53) d_Net_send_52 rfl rfl ?_
  replace hy := g_gI_inv hy
  obtain ⟨fs42, x43, hc44, hv45, hy⟩ := hy
  refine g_getf (pc' := 56) d_Net_send_53 hc44 rfl (by decide) hv45 q566 (Or.inl rfl) rfl ?_
  refine g_iconst (v := (1 : Int32)) (pc' := 57) d_Net_send_56 (by decide) rfl ?_
  refine g_iadd (pc' := 58) d_Net_send_57 rfl ?_
  replace hy := g_pF_inv hy
  obtain ⟨fs46, hc47, hl48, hy⟩ := hy
  refine g_putf (pc' := 61) d_Net_send_58 hc47 rfl (by decide) hl48 rfl rfl rfl q566 (Or.inl rfl) rfl ?_
  generalize g_up h41 this (.inr (1, fs46.set 7 (.int (x43 + (1 : Int32))))) = h49 at hy ⊢
  refine g_aload_n 2 (i := 0) (pc' := 62) d_Net_send_61 rfl rfl rfl ?_
  refine g_aload_n 0 (i := 3) (pc' := 63) d_Net_send_62 rfl rfl rfl ?_
  refine g_aload_n 1 (i := 2) (pc' := 64) d_Net_send_63 rfl rfl rfl ?_
  replace hy := g_is_inv hy
  obtain ⟨fs50, hc51, hy⟩ := hy
  replace hy := g_b_inv hy
  obtain ⟨x52, hf54, hy⟩ := hy
  refine g_callV (rv := some (va_rf x52)) (h1 := h49) (pc' := 67) (As := []) (rest := [.ref a21, .ref this]) 0 (T_Circuit_active (hy := hf54)) d_Net_send_64 hc51 rfl rfl q1843 q718 q719 q142 q720 hd_Circuit_active rfl ⟨by decide, by decide⟩ (by first | exact Nat.le_of_ble_eq_true rfl | (simp only [List.map, List.sum_cons, List.sum_nil, g_cat_rf]; exact Nat.le_of_ble_eq_true rfl) | (simp only [List.map, List.sum_cons, List.sum_nil, g_cat_rf, Value.category]; decide)) rfl ?_
  refine g_iconst (v := (1 : Int32)) (pc' := 68) d_Net_send_67 (by decide) rfl ?_
  replace hy := g_is_inv hy
  obtain ⟨fs55, hc56, hy⟩ := hy
  replace hy := g_b2_inv hy
  obtain ⟨x57, h58, hf59, hy⟩ := hy
  refine g_callV (rv := some (.int x57)) (h1 := h58) (pc' := 71) (As := [va_rf (some a21), va_rf x52, .int (1 : Int32)]) (rest := []) 3 (T_Net_goesOn (hy := hf59)) d_Net_send_68 hc56 rfl rfl q1744 q1746 qs27 q109 q1747 hd_Net_goesOn rfl ⟨by decide, by decide⟩ (by first | exact Nat.le_of_ble_eq_true rfl | (simp only [List.map, List.sum_cons, List.sum_nil, g_cat_rf]; exact Nat.le_of_ble_eq_true rfl) | (simp only [List.map, List.sum_cons, List.sum_nil, g_cat_rf, Value.category]; decide)) rfl ?_
  by_cases c60 : x57 = 0
  · rw [if_pos c60] at hy
    refine g_if_eqT (pc' := 83) d_Net_send_71 c60 (by decide) ?_
    cases hy
    exact g_vret rfl rfl rfl d_Net_send_83
  · rw [if_neg c60] at hy
    refine g_if_eqF (pc' := 74) d_Net_send_71 83 c60 (by decide) rfl ?_
    refine g_aload_n 2 (i := 0) (pc' := 75) d_Net_send_74 rfl rfl rfl ?_
    replace hy := g_gR_inv hy
    obtain ⟨fs61, x62, hc63, hv64, hy⟩ := hy
    refine g_getf (pc' := 78) d_Net_send_75 hc63 rfl (by decide) hv64 q561 (Or.inl rfl) rfl ?_
    refine g_aload_n 0 (i := 3) (pc' := 79) d_Net_send_78 rfl rfl rfl ?_
    replace hy := g_nn_inv hy
    obtain ⟨a65, rfl, hy⟩ := hy
    replace hy := g_is_inv hy
    obtain ⟨fs66, hc67, hy⟩ := hy
    replace hy := g_b2_inv hy
    obtain ⟨x68, h69, hf70, hy⟩ := hy
    refine g_callV (rv := some (.int x68)) (h1 := h69) (pc' := 82) (As := [va_rf (some a21)]) (rest := []) 1 (T_ArrayList_add0 (hy := hf70)) d_Net_send_79 hc67 rfl rfl q1623 q1037 q1038 q112 q1039 hd_ArrayList_add0 rfl ⟨by decide, by decide⟩ (by first | exact Nat.le_of_ble_eq_true rfl | (simp only [List.map, List.sum_cons, List.sum_nil, g_cat_rf]; exact Nat.le_of_ble_eq_true rfl) | (simp only [List.map, List.sum_cons, List.sum_nil, g_cat_rf, Value.category]; decide)) rfl ?_
    refine g_pop (pc' := 83) d_Net_send_82 rfl rfl ?_
    cases hy
    exact g_vret rfl rfl rfl d_Net_send_83
theorem hd_Net_send : g_dsc y_Net_send 1 := ⟨by decide +kernel, by decide +kernel, by decide +kernel⟩
/-! CircuitDesk$Net.sendAll()V -/
abbrev y_Net_sendAll : MethodName := ⟨"CircuitDesk$Net", "sendAll", "()V"⟩
abbrev k_Net_sendAll : g_M := (prog_7_method_25_code, 3, "CircuitDesk$Net", 20, none, "sendAll", [], 0)
theorem d_Net_sendAll_0 : decode prog_7_method_25_code 0 = .ok (.iconst 0, 1) := by decide +kernel
theorem d_Net_sendAll_1 : decode prog_7_method_25_code 1 = .ok (.istore_n 1, 1) := by decide +kernel
theorem d_Net_sendAll_2 : decode prog_7_method_25_code 2 = .ok (.iload_n 1, 1) := by decide +kernel
theorem d_Net_sendAll_3 : decode prog_7_method_25_code 3 = .ok (.aload_n 0, 1) := by decide +kernel
theorem d_Net_sendAll_4 : decode prog_7_method_25_code 4 = .ok (.getfield 27, 3) := by decide +kernel
theorem d_Net_sendAll_7 : decode prog_7_method_25_code 7 = .ok (.invokevirtual 112, 3) := by decide +kernel
theorem d_Net_sendAll_10 : decode prog_7_method_25_code 10 = .ok (.if_icmp .ge 100, 3) := by decide +kernel
theorem d_Net_sendAll_13 : decode prog_7_method_25_code 13 = .ok (.aload_n 0, 1) := by decide +kernel
theorem d_Net_sendAll_14 : decode prog_7_method_25_code 14 = .ok (.getfield 27, 3) := by decide +kernel
theorem d_Net_sendAll_17 : decode prog_7_method_25_code 17 = .ok (.iload_n 1, 1) := by decide +kernel
theorem d_Net_sendAll_18 : decode prog_7_method_25_code 18 = .ok (.invokevirtual 116, 3) := by decide +kernel
theorem d_Net_sendAll_21 : decode prog_7_method_25_code 21 = .ok (.checkcast 77, 3) := by decide +kernel
theorem d_Net_sendAll_24 : decode prog_7_method_25_code 24 = .ok (.astore_n 2, 1) := by decide +kernel
theorem d_Net_sendAll_25 : decode prog_7_method_25_code 25 = .ok (.aload_n 2, 1) := by decide +kernel
theorem d_Net_sendAll_26 : decode prog_7_method_25_code 26 = .ok (.getfield 300, 3) := by decide +kernel
theorem d_Net_sendAll_29 : decode prog_7_method_25_code 29 = .ok (.ifCond .le 31, 3) := by decide +kernel
theorem d_Net_sendAll_32 : decode prog_7_method_25_code 32 = .ok (.aload_n 0, 1) := by decide +kernel
theorem d_Net_sendAll_33 : decode prog_7_method_25_code 33 = .ok (.getfield 87, 3) := by decide +kernel
theorem d_Net_sendAll_36 : decode prog_7_method_25_code 36 = .ok (.iconst 1, 1) := by decide +kernel
theorem d_Net_sendAll_37 : decode prog_7_method_25_code 37 = .ok (.iadd, 1) := by decide +kernel
theorem d_Net_sendAll_38 : decode prog_7_method_25_code 38 = .ok (.aload_n 2, 1) := by decide +kernel
theorem d_Net_sendAll_39 : decode prog_7_method_25_code 39 = .ok (.getfield 300, 3) := by decide +kernel
theorem d_Net_sendAll_42 : decode prog_7_method_25_code 42 = .ok (.irem, 1) := by decide +kernel
theorem d_Net_sendAll_43 : decode prog_7_method_25_code 43 = .ok (.ifCond .ne 17, 3) := by decide +kernel
theorem d_Net_sendAll_46 : decode prog_7_method_25_code 46 = .ok (.aload_n 0, 1) := by decide +kernel
theorem d_Net_sendAll_47 : decode prog_7_method_25_code 47 = .ok (.dup, 1) := by decide +kernel
theorem d_Net_sendAll_48 : decode prog_7_method_25_code 48 = .ok (.getfield 100, 3) := by decide +kernel
theorem d_Net_sendAll_51 : decode prog_7_method_25_code 51 = .ok (.aload_n 2, 1) := by decide +kernel
theorem d_Net_sendAll_52 : decode prog_7_method_25_code 52 = .ok (.iconst 1, 1) := by decide +kernel
theorem d_Net_sendAll_53 : decode prog_7_method_25_code 53 = .ok (.invokevirtual 303, 3) := by decide +kernel
theorem d_Net_sendAll_56 : decode prog_7_method_25_code 56 = .ok (.iadd, 1) := by decide +kernel
theorem d_Net_sendAll_57 : decode prog_7_method_25_code 57 = .ok (.putfield 100, 3) := by decide +kernel
theorem d_Net_sendAll_60 : decode prog_7_method_25_code 60 = .ok (.aload_n 2, 1) := by decide +kernel
theorem d_Net_sendAll_61 : decode prog_7_method_25_code 61 = .ok (.getfield 306, 3) := by decide +kernel
theorem d_Net_sendAll_64 : decode prog_7_method_25_code 64 = .ok (.ifCond .le 16, 3) := by decide +kernel
theorem d_Net_sendAll_67 : decode prog_7_method_25_code 67 = .ok (.aload_n 2, 1) := by decide +kernel
theorem d_Net_sendAll_68 : decode prog_7_method_25_code 68 = .ok (.dup, 1) := by decide +kernel
theorem d_Net_sendAll_69 : decode prog_7_method_25_code 69 = .ok (.getfield 306, 3) := by decide +kernel
theorem d_Net_sendAll_72 : decode prog_7_method_25_code 72 = .ok (.iconst 1, 1) := by decide +kernel
theorem d_Net_sendAll_73 : decode prog_7_method_25_code 73 = .ok (.isub, 1) := by decide +kernel
theorem d_Net_sendAll_74 : decode prog_7_method_25_code 74 = .ok (.putfield 306, 3) := by decide +kernel
theorem d_Net_sendAll_77 : decode prog_7_method_25_code 77 = .ok (.goto 27, 3) := by decide +kernel
theorem d_Net_sendAll_80 : decode prog_7_method_25_code 80 = .ok (.aload_n 2, 1) := by decide +kernel
theorem d_Net_sendAll_81 : decode prog_7_method_25_code 81 = .ok (.getfield 289, 3) := by decide +kernel
theorem d_Net_sendAll_84 : decode prog_7_method_25_code 84 = .ok (.ifCond .le 20, 3) := by decide +kernel
theorem d_Net_sendAll_87 : decode prog_7_method_25_code 87 = .ok (.aload_n 0, 1) := by decide +kernel
theorem d_Net_sendAll_88 : decode prog_7_method_25_code 88 = .ok (.getfield 30, 3) := by decide +kernel
theorem d_Net_sendAll_91 : decode prog_7_method_25_code 91 = .ok (.invokevirtual 112, 3) := by decide +kernel
theorem d_Net_sendAll_94 : decode prog_7_method_25_code 94 = .ok (.bipush 60, 2) := by decide +kernel
theorem d_Net_sendAll_96 : decode prog_7_method_25_code 96 = .ok (.if_icmp .ge 8, 3) := by decide +kernel
theorem d_Net_sendAll_99 : decode prog_7_method_25_code 99 = .ok (.aload_n 0, 1) := by decide +kernel
theorem d_Net_sendAll_100 : decode prog_7_method_25_code 100 = .ok (.iload_n 1, 1) := by decide +kernel
theorem d_Net_sendAll_101 : decode prog_7_method_25_code 101 = .ok (.invokevirtual 309, 3) := by decide +kernel
theorem d_Net_sendAll_104 : decode prog_7_method_25_code 104 = .ok (.iinc 1 1, 3) := by decide +kernel
theorem d_Net_sendAll_107 : decode prog_7_method_25_code 107 = .ok (.goto (-105), 3) := by decide +kernel
theorem d_Net_sendAll_110 : decode prog_7_method_25_code 110 = .ok (.return_, 1) := by decide +kernel
def Net_sendAll_104 (k2 : g_AH → Nat → Int32 → Option g_AH) (h : g_AH) (v0 : Nat) (v1 : Int32) : Option g_AH :=
  k2 h v0 (v1 + (1 : Int32))
set_option maxHeartbeats 4000000 in
set_option maxRecDepth 100000 in
theorem W_Net_sendAll_104 {X : g_X} (z : g_AH) (k2 : g_AH → Nat → Int32 → Option g_AH) (hk2 : ∀ (h : g_AH) (v0 : Nat) (v1 : Int32), k2 h v0 v1 = some z → G X k_Net_sendAll (.inl none) z h 2 [(0, .ref v0), (1, .int v1)] []) (h : g_AH) (v0 : Nat) (v1 : Int32) (hy : Net_sendAll_104 k2 h v0 v1 = some z) : G X k_Net_sendAll (.inl none) z h 104 [(0, .ref v0), (1, .int v1)] [] := by
  unfold Net_sendAll_104 at hy
  refine g_iinc 1 (v := (v1 + (1 : Int32))) (pc' := 107) (Lc' := [(1, .int (v1 + (1 : Int32))), (0, .ref v0)]) d_Net_sendAll_104 rfl rfl (by decide) rfl rfl ?_
  refine g_goto (pc' := 2) d_Net_sendAll_107 (by decide) ?_
  refine g_sub [1, 0] rfl ?_
  exact hk2 _ _ _ hy
def Net_sendAll_60 (k2 : g_AH → Nat → Int32 → Option g_AH) (h : g_AH) (v0 : Nat) (v1 : Int32) (v2 : Option Nat) : Option g_AH :=
  g_nn v2 fun a29 => g_gI h a29 12 7 fun x31 => if x31 ≤ 0 then (g_gI h a29 12 8 fun x36 => if x36 ≤ 0 then (Net_sendAll_104 k2 h v0 v1) else (g_gR h v0 1 4 fun x41 => g_nn x41 fun a44 => g_is h a44 15 <| g_b (ArrayList_size h a44) fun x47 => if (60 : Int32) ≤ x47 then (Net_sendAll_104 k2 h v0 v1) else (g_is h v0 1 <| g_b (Net_send h v0 v1) fun h54 => Net_sendAll_104 k2 h54 v0 v1))) else (g_gI h a29 12 7 fun x57 => g_pF h a29 12 7 (.int (x57 - (1 : Int32))) fun h63 => Net_sendAll_104 k2 h63 v0 v1)
set_option maxHeartbeats 4000000 in
set_option maxRecDepth 100000 in
theorem W_Net_sendAll_60 {X : g_X} (z : g_AH) (k2 : g_AH → Nat → Int32 → Option g_AH) (hk2 : ∀ (h : g_AH) (v0 : Nat) (v1 : Int32), k2 h v0 v1 = some z → G X k_Net_sendAll (.inl none) z h 2 [(0, .ref v0), (1, .int v1)] []) (h : g_AH) (v0 : Nat) (v1 : Int32) (v2 : Option Nat) (hy : Net_sendAll_60 k2 h v0 v1 v2 = some z) : G X k_Net_sendAll (.inl none) z h 60 [(0, .ref v0), (1, .int v1), (2, va_rf v2)] [] := by
  unfold Net_sendAll_60 at hy
  refine g_aloadO_n 2 (i := 2) (pc' := 61) d_Net_sendAll_60 rfl rfl rfl ?_
  replace hy := g_nn_inv hy
  obtain ⟨a29, rfl, hy⟩ := hy
  replace hy := g_gI_inv hy
  obtain ⟨fs30, x31, hc32, hv33, hy⟩ := hy
  refine g_getfN (pc' := 64) d_Net_sendAll_61 hc32 rfl (by decide) hv33 q1181 rfl rfl ?_
  by_cases c34 : x31 ≤ 0
  · rw [if_pos c34] at hy
    refine g_if_leT (pc' := 80) d_Net_sendAll_64 c34 (by decide) ?_
    refine g_aload_n 2 (i := 2) (pc' := 81) d_Net_sendAll_80 rfl rfl rfl ?_
    replace hy := g_gI_inv hy
    obtain ⟨fs35, x36, hc37, hv38, hy⟩ := hy
    refine g_getfN (pc' := 84) d_Net_sendAll_81 hc37 rfl (by decide) hv38 q1184 rfl rfl ?_
    by_cases c39 : x36 ≤ 0
    · rw [if_pos c39] at hy
      refine g_if_leT (pc' := 104) d_Net_sendAll_84 c39 (by decide) ?_
      refine g_sub [0, 1] rfl ?_
      exact W_Net_sendAll_104 _ _ hk2 _ _ _ hy
    · rw [if_neg c39] at hy
      refine g_if_leF (pc' := 87) d_Net_sendAll_84 104 c39 (by decide) rfl ?_
      refine g_aload_n 0 (i := 0) (pc' := 88) d_Net_sendAll_87 rfl rfl rfl ?_
      replace hy := g_gR_inv hy
      obtain ⟨fs40, x41, hc42, hv43, hy⟩ := hy
      refine g_getf (pc' := 91) d_Net_sendAll_88 hc42 rfl (by decide) hv43 q561 (Or.inl rfl) rfl ?_
      replace hy := g_nn_inv hy
      obtain ⟨a44, rfl, hy⟩ := hy
      replace hy := g_is_inv hy
      obtain ⟨fs45, hc46, hy⟩ := hy
      replace hy := g_b_inv hy
      obtain ⟨x47, hf49, hy⟩ := hy
      refine g_callV (rv := some (.int x47)) (h1 := h) (pc' := 94) (As := []) (rest := []) 0 (T_ArrayList_size (hy := hf49)) d_Net_sendAll_91 hc46 rfl rfl q681 q674 q675 q112 q676 hd_ArrayList_size rfl ⟨by decide, by decide⟩ (by first | exact Nat.le_of_ble_eq_true rfl | (simp only [List.map, List.sum_cons, List.sum_nil, g_cat_rf]; exact Nat.le_of_ble_eq_true rfl) | (simp only [List.map, List.sum_cons, List.sum_nil, g_cat_rf, Value.category]; decide)) rfl ?_
      refine g_bipush (v := (60 : Int32)) (pc' := 96) d_Net_sendAll_94 (by decide) rfl ?_
      by_cases c50 : (60 : Int32) ≤ x47
      · rw [if_pos c50] at hy
        refine g_icmp_geT (pc' := 104) d_Net_sendAll_96 c50 (by decide) ?_
        refine g_sub [0, 1] rfl ?_
        exact W_Net_sendAll_104 _ _ hk2 _ _ _ hy
      · rw [if_neg c50] at hy
        refine g_icmp_geF (pc' := 99) d_Net_sendAll_96 104 c50 (by decide) rfl ?_
        refine g_aload_n 0 (i := 0) (pc' := 100) d_Net_sendAll_99 rfl rfl rfl ?_
        refine g_iload_n 1 (i := 1) (pc' := 101) d_Net_sendAll_100 rfl rfl rfl ?_
        replace hy := g_is_inv hy
        obtain ⟨fs51, hc52, hy⟩ := hy
        replace hy := g_b_inv hy
        obtain ⟨h54, hf55, hy⟩ := hy
        refine g_callV (rv := none) (h1 := h54) (pc' := 104) (As := [.int v1]) (rest := []) 1 (T_Net_send (hy := hf55)) d_Net_sendAll_101 hc52 rfl rfl q1794 q1796 qs29 q109 q1797 hd_Net_send rfl ⟨by decide, by decide⟩ (by first | exact Nat.le_of_ble_eq_true rfl | (simp only [List.map, List.sum_cons, List.sum_nil, g_cat_rf]; exact Nat.le_of_ble_eq_true rfl) | (simp only [List.map, List.sum_cons, List.sum_nil, g_cat_rf, Value.category]; decide)) rfl ?_
        refine g_sub [0, 1] rfl ?_
        exact W_Net_sendAll_104 _ _ hk2 _ _ _ hy
  · rw [if_neg c34] at hy
    refine g_if_leF (pc' := 67) d_Net_sendAll_64 80 c34 (by decide) rfl ?_
    refine g_aload_n 2 (i := 2) (pc' := 68) d_Net_sendAll_67 rfl rfl rfl ?_
    refine g_dup (pc' := 69) d_Net_sendAll_68 rfl rfl ?_
    replace hy := g_gI_inv hy
    obtain ⟨fs56, x57, hc58, hv59, hy⟩ := hy
    refine g_getfN (pc' := 72) d_Net_sendAll_69 hc58 rfl (by decide) hv59 q1181 rfl rfl ?_
    refine g_iconst (v := (1 : Int32)) (pc' := 73) d_Net_sendAll_72 (by decide) rfl ?_
    refine g_isub (pc' := 74) d_Net_sendAll_73 rfl ?_
    replace hy := g_pF_inv hy
    obtain ⟨fs60, hc61, hl62, hy⟩ := hy
    refine g_putfN (pc' := 77) d_Net_sendAll_74 hc61 rfl (by decide) hl62 rfl rfl rfl q1181 rfl rfl ?_
    generalize g_up h a29 (.inr (12, fs60.set 7 (.int (x57 - (1 : Int32))))) = h63 at hy ⊢
    refine g_goto (pc' := 104) d_Net_sendAll_77 (by decide) ?_
    refine g_sub [0, 1] rfl ?_
    exact W_Net_sendAll_104 _ _ hk2 _ _ _ hy
def Net_sendAll_2  : Nat → g_AH → Nat → Int32 → Option g_AH
  | 0, _, _, _ => none
  | n + 1, h, v0, v1 => g_gR h v0 1 3 fun x2 => g_nn x2 fun a5 => g_is h a5 15 <| g_b (ArrayList_size h a5) fun x8 => if x8 ≤ v1 then (some h) else (g_gR h v0 1 3 fun x13 => g_nn x13 fun a16 => g_is h a16 15 <| g_b (ArrayList_get h a16 v1) fun x19 => g_ck h x19 12 <| g_nn x19 fun a23 => g_gI h a23 12 1 fun x25 => if x25 ≤ 0 then (Net_sendAll_60 (Net_sendAll_2  n) h v0 v1 (some a23)) else (g_gI h v0 1 6 fun x65 => g_gI h a23 12 1 fun x69 => g_rq (¬ x69 = 0) <| if ((x65 + (1 : Int32)) - (x65 + (1 : Int32)) / x69 * x69) = 0 then (g_gI h v0 1 10 fun x75 => g_is h a23 12 <| g_b2 (Circuit_offer h a23 (1 : Int32)) fun x80 h81 => g_pF h81 v0 1 10 (.int (x75 + x80)) fun h86 => Net_sendAll_60 (Net_sendAll_2  n) h86 v0 v1 (some a23)) else (Net_sendAll_60 (Net_sendAll_2  n) h v0 v1 (some a23))))
set_option maxHeartbeats 4000000 in
set_option maxRecDepth 100000 in
theorem W_Net_sendAll_2 {X : g_X} (z : g_AH)  : ∀ (n : Nat) (h : g_AH) (v0 : Nat) (v1 : Int32), Net_sendAll_2  n h v0 v1 = some z → G X k_Net_sendAll (.inl none) z h 2 [(0, .ref v0), (1, .int v1)] [] := by
  intro n
  induction n with
  | zero => intro h v0 v1 hy; exact absurd hy (by simp [Net_sendAll_2])
  | succ n ih =>
    intro h v0 v1 hy
    rw [Net_sendAll_2] at hy
    refine g_iload_n 1 (i := 1) (pc' := 3) d_Net_sendAll_2 rfl rfl rfl ?_
    refine g_aload_n 0 (i := 0) (pc' := 4) d_Net_sendAll_3 rfl rfl rfl ?_
    replace hy := g_gR_inv hy
    obtain ⟨fs1, x2, hc3, hv4, hy⟩ := hy
    refine g_getf (pc' := 7) d_Net_sendAll_4 hc3 rfl (by decide) hv4 q555 (Or.inl rfl) rfl ?_
    replace hy := g_nn_inv hy
    obtain ⟨a5, rfl, hy⟩ := hy
    replace hy := g_is_inv hy
    obtain ⟨fs6, hc7, hy⟩ := hy
    replace hy := g_b_inv hy
    obtain ⟨x8, hf10, hy⟩ := hy
    refine g_callV (rv := some (.int x8)) (h1 := h) (pc' := 10) (As := []) (rest := [.int v1]) 0 (T_ArrayList_size (hy := hf10)) d_Net_sendAll_7 hc7 rfl rfl q681 q674 q675 q112 q676 hd_ArrayList_size rfl ⟨by decide, by decide⟩ (by first | exact Nat.le_of_ble_eq_true rfl | (simp only [List.map, List.sum_cons, List.sum_nil, g_cat_rf]; exact Nat.le_of_ble_eq_true rfl) | (simp only [List.map, List.sum_cons, List.sum_nil, g_cat_rf, Value.category]; decide)) rfl ?_
    by_cases c11 : x8 ≤ v1
    · rw [if_pos c11] at hy
      refine g_icmp_geT (pc' := 110) d_Net_sendAll_10 c11 (by decide) ?_
      cases hy
      exact g_vret rfl rfl rfl d_Net_sendAll_110
    · rw [if_neg c11] at hy
      refine g_icmp_geF (pc' := 13) d_Net_sendAll_10 110 c11 (by decide) rfl ?_
      refine g_aload_n 0 (i := 0) (pc' := 14) d_Net_sendAll_13 rfl rfl rfl ?_
      replace hy := g_gR_inv hy
      obtain ⟨fs12, x13, hc14, hv15, hy⟩ := hy
      refine g_getf (pc' := 17) d_Net_sendAll_14 hc14 rfl (by decide) hv15 q555 (Or.inl rfl) rfl ?_
      refine g_iload_n 1 (i := 1) (pc' := 18) d_Net_sendAll_17 rfl rfl rfl ?_
      replace hy := g_nn_inv hy
      obtain ⟨a16, rfl, hy⟩ := hy
      replace hy := g_is_inv hy
      obtain ⟨fs17, hc18, hy⟩ := hy
      replace hy := g_b_inv hy
      obtain ⟨x19, hf21, hy⟩ := hy
      refine g_callV (rv := some (va_rf x19)) (h1 := h) (pc' := 21) (As := [.int v1]) (rest := []) 1 (T_ArrayList_get (hy := hf21)) d_Net_sendAll_18 hc18 rfl rfl q682 q683 q684 q112 q685 hd_ArrayList_get rfl ⟨by decide, by decide⟩ (by first | exact Nat.le_of_ble_eq_true rfl | (simp only [List.map, List.sum_cons, List.sum_nil, g_cat_rf]; exact Nat.le_of_ble_eq_true rfl) | (simp only [List.map, List.sum_cons, List.sum_nil, g_cat_rf, Value.category]; decide)) rfl ?_
      replace hy := g_ck_inv hy
      obtain ⟨hk22, hy⟩ := hy
      refine g_castO (pc' := 24) d_Net_sendAll_21 hk22 rfl q696 rfl ?_
      refine g_astoreO_n (i := 2) (pc' := 25) (Lc' := [(2, va_rf x19), (0, .ref v0), (1, .int v1)]) d_Net_sendAll_24 rfl (by decide) rfl rfl ?_
      refine g_aloadO_n 0 (i := 2) (pc' := 26) d_Net_sendAll_25 rfl rfl rfl ?_
      replace hy := g_nn_inv hy
      obtain ⟨a23, rfl, hy⟩ := hy
      replace hy := g_gI_inv hy
      obtain ⟨fs24, x25, hc26, hv27, hy⟩ := hy
      refine g_getfN (pc' := 29) d_Net_sendAll_26 hc26 rfl (by decide) hv27 q1150 rfl rfl ?_
      by_cases c28 : x25 ≤ 0
      · rw [if_pos c28] at hy
        refine g_if_leT (pc' := 60) d_Net_sendAll_29 c28 (by decide) ?_
        refine g_sub [1, 2, 0] rfl ?_
        exact W_Net_sendAll_60 _ _ ih _ _ _ _ hy
      · rw [if_neg c28] at hy
        refine g_if_leF (pc' := 32) d_Net_sendAll_29 60 c28 (by decide) rfl ?_
        refine g_aload_n 1 (i := 0) (pc' := 33) d_Net_sendAll_32 rfl rfl rfl ?_
        replace hy := g_gI_inv hy
        obtain ⟨fs64, x65, hc66, hv67, hy⟩ := hy
        refine g_getf (pc' := 36) d_Net_sendAll_33 hc66 rfl (by decide) hv67 q564 (Or.inl rfl) rfl ?_
        refine g_iconst (v := (1 : Int32)) (pc' := 37) d_Net_sendAll_36 (by decide) rfl ?_
        refine g_iadd (pc' := 38) d_Net_sendAll_37 rfl ?_
        refine g_aload_n 0 (i := 2) (pc' := 39) d_Net_sendAll_38 rfl rfl rfl ?_
        replace hy := g_gI_inv hy
        obtain ⟨fs68, x69, hc70, hv71, hy⟩ := hy
        refine g_getfN (pc' := 42) d_Net_sendAll_39 hc70 rfl (by decide) hv71 q1150 rfl rfl ?_
        replace hy := g_rq_inv hy
        obtain ⟨c72, hy⟩ := hy
        refine g_irem (pc' := 43) d_Net_sendAll_42 c72 rfl ?_
        by_cases c73 : ((x65 + (1 : Int32)) - (x65 + (1 : Int32)) / x69 * x69) = 0
        · rw [if_pos c73] at hy
          refine g_if_neF (pc' := 46) d_Net_sendAll_43 60 c73 (by decide) rfl ?_
          refine g_aload_n 1 (i := 0) (pc' := 47) d_Net_sendAll_46 rfl rfl rfl ?_
          refine g_dup (pc' := 48) d_Net_sendAll_47 rfl rfl ?_
          replace hy := g_gI_inv hy
          obtain ⟨fs74, x75, hc76, hv77, hy⟩ := hy
          refine g_getf (pc' := 51) d_Net_sendAll_48 hc76 rfl (by decide) hv77 q572 (Or.inl rfl) rfl ?_
          refine g_aload_n 0 (i := 2) (pc' := 52) d_Net_sendAll_51 rfl rfl rfl ?_
          refine g_iconst (v := (1 : Int32)) (pc' := 53) d_Net_sendAll_52 (by decide) rfl ?_
          replace hy := g_is_inv hy
          obtain ⟨fs78, hc79, hy⟩ := hy
          replace hy := g_b2_inv hy
          obtain ⟨x80, h81, hf82, hy⟩ := hy
          refine g_callV (rv := some (.int x80)) (h1 := h81) (pc' := 56) (As := [.int (1 : Int32)]) (rest := [.int x75, .ref v0]) 1 (T_Circuit_offer (hy := hf82)) d_Net_sendAll_53 hc79 rfl rfl q1793 q1703 q1704 q142 q1705 hd_Circuit_offer rfl ⟨by decide, by decide⟩ (by first | exact Nat.le_of_ble_eq_true rfl | (simp only [List.map, List.sum_cons, List.sum_nil, g_cat_rf]; exact Nat.le_of_ble_eq_true rfl) | (simp only [List.map, List.sum_cons, List.sum_nil, g_cat_rf, Value.category]; decide)) rfl ?_
          refine g_iadd (pc' := 57) d_Net_sendAll_56 rfl ?_
          replace hy := g_pF_inv hy
          obtain ⟨fs83, hc84, hl85, hy⟩ := hy
          refine g_putf (pc' := 60) d_Net_sendAll_57 hc84 rfl (by decide) hl85 rfl rfl rfl q572 (Or.inl rfl) rfl ?_
          generalize g_up h81 v0 (.inr (1, fs83.set 10 (.int (x75 + x80)))) = h86 at hy ⊢
          refine g_sub [1, 2, 0] rfl ?_
          exact W_Net_sendAll_60 _ _ ih _ _ _ _ hy
        · rw [if_neg c73] at hy
          refine g_if_neT (pc' := 60) d_Net_sendAll_43 c73 (by decide) ?_
          refine g_sub [1, 2, 0] rfl ?_
          exact W_Net_sendAll_60 _ _ ih _ _ _ _ hy
def Net_sendAll (h : g_AH) (this : Nat) : Option g_AH :=
  Net_sendAll_2  gFU h this (0 : Int32)
set_option maxHeartbeats 4000000 in
set_option maxRecDepth 100000 in
theorem T_Net_sendAll {l : Launch} {B : g_B} (h : g_AH) (this : Nat) (z : g_AH) (hy : Net_sendAll h this = some z) : g_CT l B y_Net_sendAll k_Net_sendAll [.ref this] h (.inl none) z := by
  refine g_start2 (Lc := [(0, .ref this)]) (by decide) rfl rfl (by exact Nat.le_of_ble_eq_true rfl) (by rfl) fun X => ?_
  unfold Net_sendAll at hy
  refine g_iconst (v := (0 : Int32)) (pc' := 1) d_Net_sendAll_0 (by decide) rfl ?_
  refine g_istore_n (i := 1) (pc' := 2) (Lc' := [(1, .int (0 : Int32)), (0, .ref this)]) d_Net_sendAll_1 rfl (by decide) rfl rfl ?_
  refine g_sub [1, 0] rfl ?_
  exact W_Net_sendAll_2 _ _ _ _ _ hy
theorem hd_Net_sendAll : g_dsc y_Net_sendAll 0 := ⟨by decide +kernel, by decide +kernel, by decide +kernel⟩
/-! CircuitDesk$Net.tick()V -/
abbrev y_Net_tick : MethodName := ⟨"CircuitDesk$Net", "tick", "()V"⟩
abbrev k_Net_tick : g_M := (prog_7_method_26_code, 3, "CircuitDesk$Net", 21, none, "tick", [], 0)
theorem d_Net_tick_0 : decode prog_7_method_26_code 0 = .ok (.aload_n 0, 1) := by decide +kernel
theorem d_Net_tick_1 : decode prog_7_method_26_code 1 = .ok (.invokevirtual 312, 3) := by decide +kernel
theorem d_Net_tick_4 : decode prog_7_method_26_code 4 = .ok (.iconst 0, 1) := by decide +kernel
theorem d_Net_tick_5 : decode prog_7_method_26_code 5 = .ok (.istore_n 1, 1) := by decide +kernel
theorem d_Net_tick_6 : decode prog_7_method_26_code 6 = .ok (.iload_n 1, 1) := by decide +kernel
theorem d_Net_tick_7 : decode prog_7_method_26_code 7 = .ok (.aload_n 0, 1) := by decide +kernel
theorem d_Net_tick_8 : decode prog_7_method_26_code 8 = .ok (.getfield 27, 3) := by decide +kernel
theorem d_Net_tick_11 : decode prog_7_method_26_code 11 = .ok (.invokevirtual 112, 3) := by decide +kernel
theorem d_Net_tick_14 : decode prog_7_method_26_code 14 = .ok (.if_icmp .ge 37, 3) := by decide +kernel
theorem d_Net_tick_17 : decode prog_7_method_26_code 17 = .ok (.aload_n 0, 1) := by decide +kernel
theorem d_Net_tick_18 : decode prog_7_method_26_code 18 = .ok (.getfield 39, 3) := by decide +kernel
theorem d_Net_tick_21 : decode prog_7_method_26_code 21 = .ok (.aload_n 0, 1) := by decide +kernel
theorem d_Net_tick_22 : decode prog_7_method_26_code 22 = .ok (.getfield 27, 3) := by decide +kernel
theorem d_Net_tick_25 : decode prog_7_method_26_code 25 = .ok (.iload_n 1, 1) := by decide +kernel
theorem d_Net_tick_26 : decode prog_7_method_26_code 26 = .ok (.invokevirtual 116, 3) := by decide +kernel
theorem d_Net_tick_29 : decode prog_7_method_26_code 29 = .ok (.checkcast 77, 3) := by decide +kernel
theorem d_Net_tick_32 : decode prog_7_method_26_code 32 = .ok (.getfield 315, 3) := by decide +kernel
theorem d_Net_tick_35 : decode prog_7_method_26_code 35 = .ok (.aaload, 1) := by decide +kernel
theorem d_Net_tick_36 : decode prog_7_method_26_code 36 = .ok (.astore_n 2, 1) := by decide +kernel
theorem d_Net_tick_37 : decode prog_7_method_26_code 37 = .ok (.aload_n 2, 1) := by decide +kernel
theorem d_Net_tick_38 : decode prog_7_method_26_code 38 = .ok (.aload_n 0, 1) := by decide +kernel
theorem d_Net_tick_39 : decode prog_7_method_26_code 39 = .ok (.iload_n 1, 1) := by decide +kernel
theorem d_Net_tick_40 : decode prog_7_method_26_code 40 = .ok (.invokeinterface 318 3, 5) := by decide +kernel
theorem d_Net_tick_45 : decode prog_7_method_26_code 45 = .ok (.iinc 1 1, 3) := by decide +kernel
theorem d_Net_tick_48 : decode prog_7_method_26_code 48 = .ok (.goto (-42), 3) := by decide +kernel
theorem d_Net_tick_51 : decode prog_7_method_26_code 51 = .ok (.aload_n 0, 1) := by decide +kernel
theorem d_Net_tick_52 : decode prog_7_method_26_code 52 = .ok (.invokevirtual 322, 3) := by decide +kernel
theorem d_Net_tick_55 : decode prog_7_method_26_code 55 = .ok (.aload_n 0, 1) := by decide +kernel
theorem d_Net_tick_56 : decode prog_7_method_26_code 56 = .ok (.dup, 1) := by decide +kernel
theorem d_Net_tick_57 : decode prog_7_method_26_code 57 = .ok (.getfield 87, 3) := by decide +kernel
theorem d_Net_tick_60 : decode prog_7_method_26_code 60 = .ok (.iconst 1, 1) := by decide +kernel
theorem d_Net_tick_61 : decode prog_7_method_26_code 61 = .ok (.iadd, 1) := by decide +kernel
theorem d_Net_tick_62 : decode prog_7_method_26_code 62 = .ok (.putfield 87, 3) := by decide +kernel
theorem d_Net_tick_65 : decode prog_7_method_26_code 65 = .ok (.return_, 1) := by decide +kernel
def Net_tick_45 (k6 : g_AH → Nat → Int32 → Option g_AH) (h : g_AH) (v0 : Nat) (v1 : Int32) : Option g_AH :=
  k6 h v0 (v1 + (1 : Int32))
set_option maxHeartbeats 4000000 in
set_option maxRecDepth 100000 in
theorem W_Net_tick_45 {X : g_X} (z : g_AH) (k6 : g_AH → Nat → Int32 → Option g_AH) (hk6 : ∀ (h : g_AH) (v0 : Nat) (v1 : Int32), k6 h v0 v1 = some z → G X k_Net_tick (.inl none) z h 6 [(0, .ref v0), (1, .int v1)] []) (h : g_AH) (v0 : Nat) (v1 : Int32) (hy : Net_tick_45 k6 h v0 v1 = some z) : G X k_Net_tick (.inl none) z h 45 [(0, .ref v0), (1, .int v1)] [] := by
  unfold Net_tick_45 at hy
  refine g_iinc 1 (v := (v1 + (1 : Int32))) (pc' := 48) (Lc' := [(1, .int (v1 + (1 : Int32))), (0, .ref v0)]) d_Net_tick_45 rfl rfl (by decide) rfl rfl ?_
  refine g_goto (pc' := 6) d_Net_tick_48 (by decide) ?_
  refine g_sub [1, 0] rfl ?_
  exact hk6 _ _ _ hy
def Net_tick_6  : Nat → g_AH → Nat → Int32 → Option g_AH
  | 0, _, _, _ => none
  | n + 1, h, v0, v1 => g_gR h v0 1 3 fun x7 => g_nn x7 fun a10 => g_is h a10 15 <| g_b (ArrayList_size h a10) fun x13 => if x13 ≤ v1 then (g_is h v0 1 <| g_b (Net_sendAll h v0) fun h20 => g_gI h20 v0 1 6 fun x23 => g_pF h20 v0 1 6 (.int (x23 + (1 : Int32))) fun h29 => some h29) else (g_gR h v0 1 5 fun x31 => g_gR h v0 1 3 fun x35 => g_nn x35 fun a38 => g_is h a38 15 <| g_b (ArrayList_get h a38 v1) fun x41 => g_ck h x41 12 <| g_nn x41 fun a45 => g_gI h a45 12 4 fun x47 => g_nn x31 fun a50 => g_aA h 6 a50 x47 fun x51 => g_nn x51 fun a56 => g_cls h a56 fun ci57 => if ci57 = 2 then (g_b (Resting_tick a56 (some v0) v1) fun x61 => Net_tick_45 (Net_tick_6  n) h v0 v1) else (if ci57 = 3 then (g_b (Building_tick h a56 (some v0) v1) fun h66 => Net_tick_45 (Net_tick_6  n) h66 v0 v1) else (if ci57 = 4 then (g_b (Draining_tick h a56 (some v0) v1) fun h70 => Net_tick_45 (Net_tick_6  n) h70 v0 v1) else (if ci57 = 5 then (g_b (Clearing_tick h a56 (some v0) v1) fun h74 => Net_tick_45 (Net_tick_6  n) h74 v0 v1) else (none)))))
set_option maxHeartbeats 4000000 in
set_option maxRecDepth 100000 in
theorem W_Net_tick_6 {X : g_X} (z : g_AH)  : ∀ (n : Nat) (h : g_AH) (v0 : Nat) (v1 : Int32), Net_tick_6  n h v0 v1 = some z → G X k_Net_tick (.inl none) z h 6 [(0, .ref v0), (1, .int v1)] [] := by
  intro n
  induction n with
  | zero => intro h v0 v1 hy; exact absurd hy (by simp [Net_tick_6])
  | succ n ih =>
    intro h v0 v1 hy
    rw [Net_tick_6] at hy
    refine g_iload_n 1 (i := 1) (pc' := 7) d_Net_tick_6 rfl rfl rfl ?_
    refine g_aload_n 0 (i := 0) (pc' := 8) d_Net_tick_7 rfl rfl rfl ?_
    replace hy := g_gR_inv hy
    obtain ⟨fs6, x7, hc8, hv9, hy⟩ := hy
    refine g_getf (pc' := 11) d_Net_tick_8 hc8 rfl (by decide) hv9 q555 (Or.inl rfl) rfl ?_
    replace hy := g_nn_inv hy
    obtain ⟨a10, rfl, hy⟩ := hy
    replace hy := g_is_inv hy
    obtain ⟨fs11, hc12, hy⟩ := hy
    replace hy := g_b_inv hy
    obtain ⟨x13, hf15, hy⟩ := hy
    refine g_callV (rv := some (.int x13)) (h1 := h) (pc' := 14) (As := []) (rest := [.int v1]) 0 (T_ArrayList_size (hy := hf15)) d_Net_tick_11 hc12 rfl rfl q681 q674 q675 q112 q676 hd_ArrayList_size rfl ⟨by decide, by decide⟩ (by first | exact Nat.le_of_ble_eq_true rfl | (simp only [List.map, List.sum_cons, List.sum_nil, g_cat_rf]; exact Nat.le_of_ble_eq_true rfl) | (simp only [List.map, List.sum_cons, List.sum_nil, g_cat_rf, Value.category]; decide)) rfl ?_
    by_cases c16 : x13 ≤ v1
    · rw [if_pos c16] at hy
      refine g_icmp_geT (pc' := 51) d_Net_tick_14 c16 (by decide) ?_
      refine g_aload_n 0 (i := 0) (pc' := 52) d_Net_tick_51 rfl rfl rfl ?_
      replace hy := g_is_inv hy
      obtain ⟨fs17, hc18, hy⟩ := hy
      replace hy := g_b_inv hy
      obtain ⟨h20, hf21, hy⟩ := hy
      refine g_callV (rv := none) (h1 := h20) (pc' := 55) (As := []) (rest := []) 0 (T_Net_sendAll (hy := hf21)) d_Net_tick_52 hc18 rfl rfl q1789 q1791 qs28 q109 q1792 hd_Net_sendAll rfl ⟨by decide, by decide⟩ (by first | exact Nat.le_of_ble_eq_true rfl | (simp only [List.map, List.sum_cons, List.sum_nil, g_cat_rf]; exact Nat.le_of_ble_eq_true rfl) | (simp only [List.map, List.sum_cons, List.sum_nil, g_cat_rf, Value.category]; decide)) rfl ?_
      refine g_aload_n 0 (i := 0) (pc' := 56) d_Net_tick_55 rfl rfl rfl ?_
      refine g_dup (pc' := 57) d_Net_tick_56 rfl rfl ?_
      replace hy := g_gI_inv hy
      obtain ⟨fs22, x23, hc24, hv25, hy⟩ := hy
      refine g_getf (pc' := 60) d_Net_tick_57 hc24 rfl (by decide) hv25 q564 (Or.inl rfl) rfl ?_
      refine g_iconst (v := (1 : Int32)) (pc' := 61) d_Net_tick_60 (by decide) rfl ?_
      refine g_iadd (pc' := 62) d_Net_tick_61 rfl ?_
      replace hy := g_pF_inv hy
      obtain ⟨fs26, hc27, hl28, hy⟩ := hy
      refine g_putf (pc' := 65) d_Net_tick_62 hc27 rfl (by decide) hl28 rfl rfl rfl q564 (Or.inl rfl) rfl ?_
      generalize g_up h20 v0 (.inr (1, fs26.set 6 (.int (x23 + (1 : Int32))))) = h29 at hy ⊢
      cases hy
      exact g_vret rfl rfl rfl d_Net_tick_65
    · rw [if_neg c16] at hy
      refine g_icmp_geF (pc' := 17) d_Net_tick_14 51 c16 (by decide) rfl ?_
      refine g_aload_n 0 (i := 0) (pc' := 18) d_Net_tick_17 rfl rfl rfl ?_
      replace hy := g_gR_inv hy
      obtain ⟨fs30, x31, hc32, hv33, hy⟩ := hy
      refine g_getf (pc' := 21) d_Net_tick_18 hc32 rfl (by decide) hv33 q563 (Or.inl rfl) rfl ?_
      refine g_aload_n 0 (i := 0) (pc' := 22) d_Net_tick_21 rfl rfl rfl ?_
      replace hy := g_gR_inv hy
      obtain ⟨fs34, x35, hc36, hv37, hy⟩ := hy
      refine g_getf (pc' := 25) d_Net_tick_22 hc36 rfl (by decide) hv37 q555 (Or.inl rfl) rfl ?_
      refine g_iload_n 1 (i := 1) (pc' := 26) d_Net_tick_25 rfl rfl rfl ?_
      replace hy := g_nn_inv hy
      obtain ⟨a38, rfl, hy⟩ := hy
      replace hy := g_is_inv hy
      obtain ⟨fs39, hc40, hy⟩ := hy
      replace hy := g_b_inv hy
      obtain ⟨x41, hf43, hy⟩ := hy
      refine g_callV (rv := some (va_rf x41)) (h1 := h) (pc' := 29) (As := [.int v1]) (rest := [va_rf x31]) 1 (T_ArrayList_get (hy := hf43)) d_Net_tick_26 hc40 rfl rfl q682 q683 q684 q112 q685 hd_ArrayList_get rfl ⟨by decide, by decide⟩ (by first | exact Nat.le_of_ble_eq_true rfl | (simp only [List.map, List.sum_cons, List.sum_nil, g_cat_rf]; exact Nat.le_of_ble_eq_true rfl) | (simp only [List.map, List.sum_cons, List.sum_nil, g_cat_rf, Value.category]; decide)) rfl ?_
      replace hy := g_ck_inv hy
      obtain ⟨hk44, hy⟩ := hy
      refine g_castO (pc' := 32) d_Net_tick_29 hk44 rfl q696 rfl ?_
      replace hy := g_nn_inv hy
      obtain ⟨a45, rfl, hy⟩ := hy
      replace hy := g_gI_inv hy
      obtain ⟨fs46, x47, hc48, hv49, hy⟩ := hy
      refine g_getfN (pc' := 35) d_Net_tick_32 hc48 rfl (by decide) hv49 q1167 rfl rfl ?_
      replace hy := g_nn_inv hy
      obtain ⟨a50, rfl, hy⟩ := hy
      replace hy := g_aA_inv hy
      obtain ⟨n52, f53, hc54, hi55, hy⟩ := hy
      refine g_aald (pc' := 36) d_Net_tick_35 hc54 (by decide) hi55 rfl ?_
      generalize f53 (x47).toNatClampNeg = x51 at hy ⊢
      refine g_astoreO_n (i := 2) (pc' := 37) (Lc' := [(2, va_rf x51), (0, .ref v0), (1, .int v1)]) d_Net_tick_36 rfl (by decide) rfl rfl ?_
      refine g_aloadO_n 0 (i := 2) (pc' := 38) d_Net_tick_37 rfl rfl rfl ?_
      refine g_aload_n 1 (i := 0) (pc' := 39) d_Net_tick_38 rfl rfl rfl ?_
      refine g_iload_n 2 (i := 1) (pc' := 40) d_Net_tick_39 rfl rfl rfl ?_
      replace hy := g_nn_inv hy
      obtain ⟨a56, rfl, hy⟩ := hy
      replace hy := g_cls_inv hy
      obtain ⟨ci57, fs58, hc59, hy⟩ := hy
      by_cases c60 : ci57 = 2
      · rw [if_pos c60] at hy
        rw [c60] at hc59
        replace hy := g_b_inv hy
        obtain ⟨x61, hf63, hy⟩ := hy
        refine g_callF (x := ⟨"CircuitDesk$Phase", "tick", "(LCircuitDesk$Net;I)V"⟩) (rv := none) (h1 := h) (pc' := 45) (As := [va_rf (some v0), .int v1]) (rest := []) 2 (T_Resting_tick (hy := hf63)) d_Net_tick_40 hc59 rfl (by decide) (g_wsF q1749 q1784 q1786 q130 q1788) ⟨by decide, by decide, by decide +kernel⟩ rfl ⟨by decide, by decide⟩ (by first | exact Nat.le_of_ble_eq_true rfl | (simp only [List.map, List.sum_cons, List.sum_nil, g_cat_rf]; exact Nat.le_of_ble_eq_true rfl) | (simp only [List.map, List.sum_cons, List.sum_nil, g_cat_rf, Value.category]; decide)) rfl ?_
        refine g_sub [1, 2] rfl ?_
        exact W_Net_tick_45 _ _ ih _ _ _ hy
      · rw [if_neg c60] at hy
        by_cases c64 : ci57 = 3
        · rw [if_pos c64] at hy
          rw [c64] at hc59
          replace hy := g_b_inv hy
          obtain ⟨h66, hf67, hy⟩ := hy
          refine g_callF (x := ⟨"CircuitDesk$Phase", "tick", "(LCircuitDesk$Net;I)V"⟩) (rv := none) (h1 := h66) (pc' := 45) (As := [va_rf (some v0), .int v1]) (rest := []) 2 (T_Building_tick (hy := hf67)) d_Net_tick_40 hc59 rfl (by decide) (g_wsF q1749 q1752 q1754 q131 q1756) ⟨by decide, by decide, by decide +kernel⟩ rfl ⟨by decide, by decide⟩ (by first | exact Nat.le_of_ble_eq_true rfl | (simp only [List.map, List.sum_cons, List.sum_nil, g_cat_rf]; exact Nat.le_of_ble_eq_true rfl) | (simp only [List.map, List.sum_cons, List.sum_nil, g_cat_rf, Value.category]; decide)) rfl ?_
          refine g_sub [1, 2] rfl ?_
          exact W_Net_tick_45 _ _ ih _ _ _ hy
        · rw [if_neg c64] at hy
          by_cases c68 : ci57 = 4
          · rw [if_pos c68] at hy
            rw [c68] at hc59
            replace hy := g_b_inv hy
            obtain ⟨h70, hf71, hy⟩ := hy
            refine g_callF (x := ⟨"CircuitDesk$Phase", "tick", "(LCircuitDesk$Net;I)V"⟩) (rv := none) (h1 := h70) (pc' := 45) (As := [va_rf (some v0), .int v1]) (rest := []) 2 (T_Draining_tick (hy := hf71)) d_Net_tick_40 hc59 rfl (by decide) (g_wsF q1749 q1777 q1779 q132 q1781) ⟨by decide, by decide, by decide +kernel⟩ rfl ⟨by decide, by decide⟩ (by first | exact Nat.le_of_ble_eq_true rfl | (simp only [List.map, List.sum_cons, List.sum_nil, g_cat_rf]; exact Nat.le_of_ble_eq_true rfl) | (simp only [List.map, List.sum_cons, List.sum_nil, g_cat_rf, Value.category]; decide)) rfl ?_
            refine g_sub [1, 2] rfl ?_
            exact W_Net_tick_45 _ _ ih _ _ _ hy
          · rw [if_neg c68] at hy
            by_cases c72 : ci57 = 5
            · rw [if_pos c72] at hy
              rw [c72] at hc59
              replace hy := g_b_inv hy
              obtain ⟨h74, hf75, hy⟩ := hy
              refine g_callF (x := ⟨"CircuitDesk$Phase", "tick", "(LCircuitDesk$Net;I)V"⟩) (rv := none) (h1 := h74) (pc' := 45) (As := [va_rf (some v0), .int v1]) (rest := []) 2 (T_Clearing_tick (hy := hf75)) d_Net_tick_40 hc59 rfl (by decide) (g_wsF q1749 q1765 q1767 q133 q1769) ⟨by decide, by decide, by decide +kernel⟩ rfl ⟨by decide, by decide⟩ (by first | exact Nat.le_of_ble_eq_true rfl | (simp only [List.map, List.sum_cons, List.sum_nil, g_cat_rf]; exact Nat.le_of_ble_eq_true rfl) | (simp only [List.map, List.sum_cons, List.sum_nil, g_cat_rf, Value.category]; decide)) rfl ?_
              refine g_sub [1, 2] rfl ?_
              exact W_Net_tick_45 _ _ ih _ _ _ hy
            · rw [if_neg c72] at hy
              cases hy
def Net_tick (h : g_AH) (this : Nat) : Option g_AH :=
  g_is h this 1 <| g_b (Net_runPackets h this) fun h4 => Net_tick_6  gFU h4 this (0 : Int32)
set_option maxHeartbeats 4000000 in
set_option maxRecDepth 100000 in
theorem T_Net_tick {l : Launch} {B : g_B} (h : g_AH) (this : Nat) (z : g_AH) (hy : Net_tick h this = some z) : g_CT l B y_Net_tick k_Net_tick [.ref this] h (.inl none) z := by
  refine g_start2 (Lc := [(0, .ref this)]) (by decide) rfl rfl (by exact Nat.le_of_ble_eq_true rfl) (by rfl) fun X => ?_
  unfold Net_tick at hy
  refine g_aload_n 0 (i := 0) (pc' := 1) d_Net_tick_0 rfl rfl rfl ?_
  replace hy := g_is_inv hy
  obtain ⟨fs1, hc2, hy⟩ := hy
  replace hy := g_b_inv hy
  obtain ⟨h4, hf5, hy⟩ := hy
  refine g_callV (rv := none) (h1 := h4) (pc' := 4) (As := []) (rest := []) 0 (T_Net_runPackets (hy := hf5)) d_Net_tick_1 hc2 rfl rfl q1726 q1728 qs24 q109 q1729 hd_Net_runPackets rfl ⟨by decide, by decide⟩ (by first | exact Nat.le_of_ble_eq_true rfl | (simp only [List.map, List.sum_cons, List.sum_nil, g_cat_rf]; exact Nat.le_of_ble_eq_true rfl) | (simp only [List.map, List.sum_cons, List.sum_nil, g_cat_rf, Value.category]; decide)) rfl ?_
  refine g_iconst (v := (0 : Int32)) (pc' := 5) d_Net_tick_4 (by decide) rfl ?_
  refine g_istore_n (i := 1) (pc' := 6) (Lc' := [(1, .int (0 : Int32)), (0, .ref this)]) d_Net_tick_5 rfl (by decide) rfl rfl ?_
  refine g_sub [1, 0] rfl ?_
  exact W_Net_tick_6 _ _ _ _ _ hy
theorem hd_Net_tick : g_dsc y_Net_tick 0 := ⟨by decide +kernel, by decide +kernel, by decide +kernel⟩
/-! CircuitDesk$Net.run(I)V -/
abbrev y_Net_run : MethodName := ⟨"CircuitDesk$Net", "run", "(I)V"⟩
abbrev k_Net_run : g_M := (prog_7_method_27_code, 3, "CircuitDesk$Net", 22, none, "run", [], 0)
theorem d_Net_run_0 : decode prog_7_method_27_code 0 = .ok (.iconst 0, 1) := by decide +kernel
theorem d_Net_run_1 : decode prog_7_method_27_code 1 = .ok (.istore_n 2, 1) := by decide +kernel
theorem d_Net_run_2 : decode prog_7_method_27_code 2 = .ok (.iload_n 2, 1) := by decide +kernel
theorem d_Net_run_3 : decode prog_7_method_27_code 3 = .ok (.iload_n 1, 1) := by decide +kernel
theorem d_Net_run_4 : decode prog_7_method_27_code 4 = .ok (.if_icmp .ge 13, 3) := by decide +kernel
theorem d_Net_run_7 : decode prog_7_method_27_code 7 = .ok (.aload_n 0, 1) := by decide +kernel
theorem d_Net_run_8 : decode prog_7_method_27_code 8 = .ok (.invokevirtual 325, 3) := by decide +kernel
theorem d_Net_run_11 : decode prog_7_method_27_code 11 = .ok (.iinc 2 1, 3) := by decide +kernel
theorem d_Net_run_14 : decode prog_7_method_27_code 14 = .ok (.goto (-12), 3) := by decide +kernel
theorem d_Net_run_17 : decode prog_7_method_27_code 17 = .ok (.return_, 1) := by decide +kernel
def Net_run_2  : Nat → g_AH → Nat → Int32 → Int32 → Option g_AH
  | 0, _, _, _, _ => none
  | n + 1, h, v0, v1, v2 => if v1 ≤ v2 then (some h) else (g_is h v0 1 <| g_b (Net_tick h v0) fun h5 => (Net_run_2  n) h5 v0 v1 (v2 + (1 : Int32)))
set_option maxHeartbeats 4000000 in
set_option maxRecDepth 100000 in
theorem W_Net_run_2 {X : g_X} (z : g_AH)  : ∀ (n : Nat) (h : g_AH) (v0 : Nat) (v1 : Int32) (v2 : Int32), Net_run_2  n h v0 v1 v2 = some z → G X k_Net_run (.inl none) z h 2 [(0, .ref v0), (1, .int v1), (2, .int v2)] [] := by
  intro n
  induction n with
  | zero => intro h v0 v1 v2 hy; exact absurd hy (by simp [Net_run_2])
  | succ n ih =>
    intro h v0 v1 v2 hy
    rw [Net_run_2] at hy
    refine g_iload_n 2 (i := 2) (pc' := 3) d_Net_run_2 rfl rfl rfl ?_
    refine g_iload_n 1 (i := 1) (pc' := 4) d_Net_run_3 rfl rfl rfl ?_
    by_cases c1 : v1 ≤ v2
    · rw [if_pos c1] at hy
      refine g_icmp_geT (pc' := 17) d_Net_run_4 c1 (by decide) ?_
      cases hy
      exact g_vret rfl rfl rfl d_Net_run_17
    · rw [if_neg c1] at hy
      refine g_icmp_geF (pc' := 7) d_Net_run_4 17 c1 (by decide) rfl ?_
      refine g_aload_n 0 (i := 0) (pc' := 8) d_Net_run_7 rfl rfl rfl ?_
      replace hy := g_is_inv hy
      obtain ⟨fs2, hc3, hy⟩ := hy
      replace hy := g_b_inv hy
      obtain ⟨h5, hf6, hy⟩ := hy
      refine g_callV (rv := none) (h1 := h5) (pc' := 11) (As := []) (rest := []) 0 (T_Net_tick (hy := hf6)) d_Net_run_8 hc3 rfl rfl q1722 q1723 q1724 q109 q1725 hd_Net_tick rfl ⟨by decide, by decide⟩ (by first | exact Nat.le_of_ble_eq_true rfl | (simp only [List.map, List.sum_cons, List.sum_nil, g_cat_rf]; exact Nat.le_of_ble_eq_true rfl) | (simp only [List.map, List.sum_cons, List.sum_nil, g_cat_rf, Value.category]; decide)) rfl ?_
      refine g_iinc 2 (v := (v2 + (1 : Int32))) (pc' := 14) (Lc' := [(2, .int (v2 + (1 : Int32))), (0, .ref v0), (1, .int v1)]) d_Net_run_11 rfl rfl (by decide) rfl rfl ?_
      refine g_goto (pc' := 2) d_Net_run_14 (by decide) ?_
      refine g_sub [1, 2, 0] rfl ?_
      exact ih _ _ _ _ hy
def Net_run (h : g_AH) (this : Nat) (p0 : Int32) : Option g_AH :=
  Net_run_2  gFU h this p0 (0 : Int32)
set_option maxHeartbeats 4000000 in
set_option maxRecDepth 100000 in
theorem T_Net_run {l : Launch} {B : g_B} (h : g_AH) (this : Nat) (p0 : Int32) (z : g_AH) (hy : Net_run h this p0 = some z) : g_CT l B y_Net_run k_Net_run [.ref this, .int p0] h (.inl none) z := by
  refine g_start2 (Lc := [(0, .ref this), (1, .int p0)]) (by decide) rfl rfl (by exact Nat.le_of_ble_eq_true rfl) (by rfl) fun X => ?_
  unfold Net_run at hy
  refine g_iconst (v := (0 : Int32)) (pc' := 1) d_Net_run_0 (by decide) rfl ?_
  refine g_istore_n (i := 2) (pc' := 2) (Lc' := [(2, .int (0 : Int32)), (0, .ref this), (1, .int p0)]) d_Net_run_1 rfl (by decide) rfl rfl ?_
  refine g_sub [1, 2, 0] rfl ?_
  exact W_Net_run_2 _ _ _ _ _ _ hy
theorem hd_Net_run : g_dsc y_Net_run 1 := ⟨by decide +kernel, by decide +kernel, by decide +kernel⟩
/-! CircuitDesk.run(I)I -/
abbrev y_Desk_run : MethodName := ⟨"CircuitDesk", "run", "(I)I"⟩
abbrev k_Desk_run : g_M := (prog_1_method_36_code, 3, "CircuitDesk", 23, (some FieldType.int), "run", [], 0)
theorem d_Desk_run_0 : decode prog_1_method_36_code 0 = .ok (.iload_n 1, 1) := by decide +kernel
theorem d_Desk_run_1 : decode prog_1_method_36_code 1 = .ok (.invokestatic 301, 3) := by decide +kernel
theorem d_Desk_run_4 : decode prog_1_method_36_code 4 = .ok (.aload_n 0, 1) := by decide +kernel
theorem d_Desk_run_5 : decode prog_1_method_36_code 5 = .ok (.getfield 19, 3) := by decide +kernel
theorem d_Desk_run_8 : decode prog_1_method_36_code 8 = .ok (.getfield 162, 3) := by decide +kernel
theorem d_Desk_run_11 : decode prog_1_method_36_code 11 = .ok (.istore_n 2, 1) := by decide +kernel
theorem d_Desk_run_12 : decode prog_1_method_36_code 12 = .ok (.aload_n 0, 1) := by decide +kernel
theorem d_Desk_run_13 : decode prog_1_method_36_code 13 = .ok (.getfield 19, 3) := by decide +kernel
theorem d_Desk_run_16 : decode prog_1_method_36_code 16 = .ok (.iload_n 1, 1) := by decide +kernel
theorem d_Desk_run_17 : decode prog_1_method_36_code 17 = .ok (.invokevirtual 304, 3) := by decide +kernel
theorem d_Desk_run_20 : decode prog_1_method_36_code 20 = .ok (.aload_n 0, 1) := by decide +kernel
theorem d_Desk_run_21 : decode prog_1_method_36_code 21 = .ok (.getfield 19, 3) := by decide +kernel
theorem d_Desk_run_24 : decode prog_1_method_36_code 24 = .ok (.getfield 162, 3) := by decide +kernel
theorem d_Desk_run_27 : decode prog_1_method_36_code 27 = .ok (.iload_n 2, 1) := by decide +kernel
theorem d_Desk_run_28 : decode prog_1_method_36_code 28 = .ok (.isub, 1) := by decide +kernel
theorem d_Desk_run_29 : decode prog_1_method_36_code 29 = .ok (.ireturn, 1) := by decide +kernel
def Desk_run (h : g_AH) (this : Nat) (p0 : Int32) : Option ((Int32 ⊕ g_EX) × g_AH) :=
  g_bx (Desk_checkTicks h p0) fun x1 h2 => g_gR h2 this 0 0 fun x7 => g_nn x7 fun a10 => g_gI h2 a10 1 8 fun x12 => g_gR h2 this 0 0 fun x16 => g_nn x16 fun a19 => g_is h2 a19 1 <| g_b (Net_run h2 a19 p0) fun h23 => g_gR h23 this 0 0 fun x26 => g_nn x26 fun a29 => g_gI h23 a29 1 8 fun x31 => some (.inl (x31 - x12), h23)
set_option maxHeartbeats 4000000 in
set_option maxRecDepth 100000 in
theorem T_Desk_run {l : Launch} {B : g_B} (h : g_AH) (this : Nat) (p0 : Int32) (z : (Int32 ⊕ g_EX) × g_AH) (hy : Desk_run h this p0 = some z) : g_CT l B y_Desk_run k_Desk_run [.ref this, .int p0] h (g_rI z.1) z.2 := by
  refine g_start2 (Lc := [(0, .ref this), (1, .int p0)]) (by decide) rfl rfl (by exact Nat.le_of_ble_eq_true rfl) (by rfl) fun X => ?_
  unfold Desk_run at hy
  refine g_iload_n 1 (i := 1) (pc' := 1) d_Desk_run_0 rfl rfl rfl ?_
  replace hy := g_bx_inv hy
  rcases hy with ⟨x1, h2, hf3, hy⟩ | ⟨⟨E9, q9⟩, h2, hf3, ez5⟩
  rotate_left
  · subst ez5
    exact g_callSX (As := [.int p0]) (rest := []) 1 (T_Desk_checkTicks (hy := hf3)) d_Desk_run_1 q1714 q1715 q108 q1716 hd_Desk_checkTicks rfl ⟨by decide, by decide⟩ (by first | exact Nat.le_of_ble_eq_true rfl | (simp only [List.map, List.sum_cons, List.sum_nil, g_cat_rf]; exact Nat.le_of_ble_eq_true rfl) | (simp only [List.map, List.sum_cons, List.sum_nil, g_cat_rf, Value.category]; decide)) rfl rfl
  refine g_callS (rv := none) (h1 := h2) (pc' := 4) (As := [.int p0]) (rest := []) 1 (T_Desk_checkTicks (hy := hf3)) d_Desk_run_1 q1714 q1715 q108 q1716 hd_Desk_checkTicks rfl ⟨by decide, by decide⟩ (by first | exact Nat.le_of_ble_eq_true rfl | (simp only [List.map, List.sum_cons, List.sum_nil, g_cat_rf]; exact Nat.le_of_ble_eq_true rfl) | (simp only [List.map, List.sum_cons, List.sum_nil, g_cat_rf, Value.category]; decide)) rfl ?_
  refine g_aload_n 0 (i := 0) (pc' := 5) d_Desk_run_4 rfl rfl rfl ?_
  replace hy := g_gR_inv hy
  obtain ⟨fs6, x7, hc8, hv9, hy⟩ := hy
  refine g_getf (pc' := 8) d_Desk_run_5 hc8 rfl (by decide) hv9 q642 (Or.inl rfl) rfl ?_
  replace hy := g_nn_inv hy
  obtain ⟨a10, rfl, hy⟩ := hy
  replace hy := g_gI_inv hy
  obtain ⟨fs11, x12, hc13, hv14, hy⟩ := hy
  refine g_getfN (pc' := 11) d_Desk_run_8 hc13 rfl (by decide) hv14 q569 rfl rfl ?_
  refine g_istore_n (i := 2) (pc' := 12) (Lc' := [(2, .int x12), (0, .ref this), (1, .int p0)]) d_Desk_run_11 rfl (by decide) rfl rfl ?_
  refine g_aload_n 1 (i := 0) (pc' := 13) d_Desk_run_12 rfl rfl rfl ?_
  replace hy := g_gR_inv hy
  obtain ⟨fs15, x16, hc17, hv18, hy⟩ := hy
  refine g_getf (pc' := 16) d_Desk_run_13 hc17 rfl (by decide) hv18 q642 (Or.inl rfl) rfl ?_
  refine g_iload_n 2 (i := 1) (pc' := 17) d_Desk_run_16 rfl rfl rfl ?_
  replace hy := g_nn_inv hy
  obtain ⟨a19, rfl, hy⟩ := hy
  replace hy := g_is_inv hy
  obtain ⟨fs20, hc21, hy⟩ := hy
  replace hy := g_b_inv hy
  obtain ⟨h23, hf24, hy⟩ := hy
  refine g_callV (rv := none) (h1 := h23) (pc' := 20) (As := [.int p0]) (rest := []) 1 (T_Net_run (hy := hf24)) d_Desk_run_17 hc21 rfl rfl q1718 q1719 q1720 q109 q1721 hd_Net_run rfl ⟨by decide, by decide⟩ (by first | exact Nat.le_of_ble_eq_true rfl | (simp only [List.map, List.sum_cons, List.sum_nil, g_cat_rf]; exact Nat.le_of_ble_eq_true rfl) | (simp only [List.map, List.sum_cons, List.sum_nil, g_cat_rf, Value.category]; decide)) rfl ?_
  refine g_aload_n 1 (i := 0) (pc' := 21) d_Desk_run_20 rfl rfl rfl ?_
  replace hy := g_gR_inv hy
  obtain ⟨fs25, x26, hc27, hv28, hy⟩ := hy
  refine g_getf (pc' := 24) d_Desk_run_21 hc27 rfl (by decide) hv28 q642 (Or.inl rfl) rfl ?_
  replace hy := g_nn_inv hy
  obtain ⟨a29, rfl, hy⟩ := hy
  replace hy := g_gI_inv hy
  obtain ⟨fs30, x31, hc32, hv33, hy⟩ := hy
  refine g_getfN (pc' := 27) d_Desk_run_24 hc32 rfl (by decide) hv33 q569 rfl rfl ?_
  refine g_iload_n 0 (i := 2) (pc' := 28) d_Desk_run_27 rfl rfl rfl ?_
  refine g_isub (pc' := 29) d_Desk_run_28 rfl ?_
  cases hy
  exact g_iret rfl rfl rfl d_Desk_run_29
theorem hd_Desk_run : g_dsc y_Desk_run 1 := ⟨by decide +kernel, by decide +kernel, by decide +kernel⟩
/-! CircuitDesk.circuit(II)I -/
abbrev y_Desk_circuit : MethodName := ⟨"CircuitDesk", "circuit", "(II)I"⟩
abbrev k_Desk_circuit : g_M := (prog_1_method_37_code, 4, "CircuitDesk", 19, (some FieldType.int), "circuit", [], 0)
theorem d_Desk_circuit_0 : decode prog_1_method_37_code 0 = .ok (.aload_n 0, 1) := by decide +kernel
theorem d_Desk_circuit_1 : decode prog_1_method_37_code 1 = .ok (.iload_n 1, 1) := by decide +kernel
theorem d_Desk_circuit_2 : decode prog_1_method_37_code 2 = .ok (.invokevirtual 263, 3) := by decide +kernel
theorem d_Desk_circuit_5 : decode prog_1_method_37_code 5 = .ok (.astore_n 3, 1) := by decide +kernel
theorem d_Desk_circuit_6 : decode prog_1_method_37_code 6 = .ok (.iload_n 2, 1) := by decide +kernel
theorem d_Desk_circuit_7 : decode prog_1_method_37_code 7 = .ok (.i2l, 1) := by decide +kernel
theorem d_Desk_circuit_8 : decode prog_1_method_37_code 8 = .ok (.lconst 0, 1) := by decide +kernel
theorem d_Desk_circuit_9 : decode prog_1_method_37_code 9 = .ok (.ldc2_w 307, 3) := by decide +kernel
theorem d_Desk_circuit_12 : decode prog_1_method_37_code 12 = .ok (.invokestatic 54, 3) := by decide +kernel
theorem d_Desk_circuit_15 : decode prog_1_method_37_code 15 = .ok (.invokestatic 80, 3) := by decide +kernel
theorem d_Desk_circuit_18 : decode prog_1_method_37_code 18 = .ok (.iload_n 2, 1) := by decide +kernel
theorem d_Desk_circuit_19 : decode prog_1_method_37_code 19 = .ok (.tableswitch 198 0 13 #[69, 81, 91, 98, 105, 112, 126, 133, 140, 147, 154, 161, 168, 187], 69) := by decide +kernel
theorem d_Desk_circuit_88 : decode prog_1_method_37_code 88 = .ok (.aload_n 3, 1) := by decide +kernel
theorem d_Desk_circuit_89 : decode prog_1_method_37_code 89 = .ok (.getfield 274, 3) := by decide +kernel
theorem d_Desk_circuit_92 : decode prog_1_method_37_code 92 = .ok (.getfield 257, 3) := by decide +kernel
theorem d_Desk_circuit_95 : decode prog_1_method_37_code 95 = .ok (.iconst 0, 1) := by decide +kernel
theorem d_Desk_circuit_96 : decode prog_1_method_37_code 96 = .ok (.iaload, 1) := by decide +kernel
theorem d_Desk_circuit_97 : decode prog_1_method_37_code 97 = .ok (.goto 146, 3) := by decide +kernel
theorem d_Desk_circuit_100 : decode prog_1_method_37_code 100 = .ok (.aload_n 3, 1) := by decide +kernel
theorem d_Desk_circuit_101 : decode prog_1_method_37_code 101 = .ok (.getfield 274, 3) := by decide +kernel
theorem d_Desk_circuit_104 : decode prog_1_method_37_code 104 = .ok (.invokevirtual 243, 3) := by decide +kernel
theorem d_Desk_circuit_107 : decode prog_1_method_37_code 107 = .ok (.goto 136, 3) := by decide +kernel
theorem d_Desk_circuit_110 : decode prog_1_method_37_code 110 = .ok (.aload_n 3, 1) := by decide +kernel
theorem d_Desk_circuit_111 : decode prog_1_method_37_code 111 = .ok (.getfield 277, 3) := by decide +kernel
theorem d_Desk_circuit_114 : decode prog_1_method_37_code 114 = .ok (.goto 129, 3) := by decide +kernel
theorem d_Desk_circuit_117 : decode prog_1_method_37_code 117 = .ok (.aload_n 3, 1) := by decide +kernel
theorem d_Desk_circuit_118 : decode prog_1_method_37_code 118 = .ok (.getfield 309, 3) := by decide +kernel
theorem d_Desk_circuit_121 : decode prog_1_method_37_code 121 = .ok (.goto 122, 3) := by decide +kernel
theorem d_Desk_circuit_124 : decode prog_1_method_37_code 124 = .ok (.aload_n 3, 1) := by decide +kernel
theorem d_Desk_circuit_125 : decode prog_1_method_37_code 125 = .ok (.getfield 312, 3) := by decide +kernel
theorem d_Desk_circuit_128 : decode prog_1_method_37_code 128 = .ok (.goto 115, 3) := by decide +kernel
theorem d_Desk_circuit_131 : decode prog_1_method_37_code 131 = .ok (.aload_n 0, 1) := by decide +kernel
theorem d_Desk_circuit_132 : decode prog_1_method_37_code 132 = .ok (.getfield 19, 3) := by decide +kernel
theorem d_Desk_circuit_135 : decode prog_1_method_37_code 135 = .ok (.aload_n 3, 1) := by decide +kernel
theorem d_Desk_circuit_136 : decode prog_1_method_37_code 136 = .ok (.invokevirtual 315, 3) := by decide +kernel
theorem d_Desk_circuit_139 : decode prog_1_method_37_code 139 = .ok (.invokevirtual 319, 3) := by decide +kernel
theorem d_Desk_circuit_142 : decode prog_1_method_37_code 142 = .ok (.goto 101, 3) := by decide +kernel
theorem d_Desk_circuit_145 : decode prog_1_method_37_code 145 = .ok (.aload_n 3, 1) := by decide +kernel
theorem d_Desk_circuit_146 : decode prog_1_method_37_code 146 = .ok (.getfield 296, 3) := by decide +kernel
theorem d_Desk_circuit_149 : decode prog_1_method_37_code 149 = .ok (.goto 94, 3) := by decide +kernel
theorem d_Desk_circuit_152 : decode prog_1_method_37_code 152 = .ok (.aload_n 3, 1) := by decide +kernel
theorem d_Desk_circuit_153 : decode prog_1_method_37_code 153 = .ok (.getfield 323, 3) := by decide +kernel
theorem d_Desk_circuit_156 : decode prog_1_method_37_code 156 = .ok (.goto 87, 3) := by decide +kernel
theorem d_Desk_circuit_159 : decode prog_1_method_37_code 159 = .ok (.aload_n 3, 1) := by decide +kernel
theorem d_Desk_circuit_160 : decode prog_1_method_37_code 160 = .ok (.getfield 324, 3) := by decide +kernel
theorem d_Desk_circuit_163 : decode prog_1_method_37_code 163 = .ok (.goto 80, 3) := by decide +kernel
theorem d_Desk_circuit_166 : decode prog_1_method_37_code 166 = .ok (.aload_n 3, 1) := by decide +kernel
theorem d_Desk_circuit_167 : decode prog_1_method_37_code 167 = .ok (.getfield 325, 3) := by decide +kernel
theorem d_Desk_circuit_170 : decode prog_1_method_37_code 170 = .ok (.goto 73, 3) := by decide +kernel
theorem d_Desk_circuit_173 : decode prog_1_method_37_code 173 = .ok (.aload_n 3, 1) := by decide +kernel
theorem d_Desk_circuit_174 : decode prog_1_method_37_code 174 = .ok (.getfield 326, 3) := by decide +kernel
theorem d_Desk_circuit_177 : decode prog_1_method_37_code 177 = .ok (.goto 66, 3) := by decide +kernel
theorem d_Desk_circuit_180 : decode prog_1_method_37_code 180 = .ok (.aload_n 3, 1) := by decide +kernel
theorem d_Desk_circuit_181 : decode prog_1_method_37_code 181 = .ok (.getfield 327, 3) := by decide +kernel
theorem d_Desk_circuit_184 : decode prog_1_method_37_code 184 = .ok (.goto 59, 3) := by decide +kernel
theorem d_Desk_circuit_187 : decode prog_1_method_37_code 187 = .ok (.aload_n 3, 1) := by decide +kernel
theorem d_Desk_circuit_188 : decode prog_1_method_37_code 188 = .ok (.getfield 312, 3) := by decide +kernel
theorem d_Desk_circuit_191 : decode prog_1_method_37_code 191 = .ok (.iconst 2, 1) := by decide +kernel
theorem d_Desk_circuit_192 : decode prog_1_method_37_code 192 = .ok (.if_icmp .ne 10, 3) := by decide +kernel
theorem d_Desk_circuit_195 : decode prog_1_method_37_code 195 = .ok (.aload_n 3, 1) := by decide +kernel
theorem d_Desk_circuit_196 : decode prog_1_method_37_code 196 = .ok (.getfield 330, 3) := by decide +kernel
theorem d_Desk_circuit_199 : decode prog_1_method_37_code 199 = .ok (.goto 44, 3) := by decide +kernel
theorem d_Desk_circuit_202 : decode prog_1_method_37_code 202 = .ok (.iconst 0, 1) := by decide +kernel
theorem d_Desk_circuit_203 : decode prog_1_method_37_code 203 = .ok (.goto 40, 3) := by decide +kernel
theorem d_Desk_circuit_206 : decode prog_1_method_37_code 206 = .ok (.aload_n 0, 1) := by decide +kernel
theorem d_Desk_circuit_207 : decode prog_1_method_37_code 207 = .ok (.getfield 19, 3) := by decide +kernel
theorem d_Desk_circuit_210 : decode prog_1_method_37_code 210 = .ok (.iload_n 1, 1) := by decide +kernel
theorem d_Desk_circuit_211 : decode prog_1_method_37_code 211 = .ok (.invokevirtual 333, 3) := by decide +kernel
theorem d_Desk_circuit_214 : decode prog_1_method_37_code 214 = .ok (.goto 29, 3) := by decide +kernel
theorem d_Desk_circuit_217 : decode prog_1_method_37_code 217 = .ok (.aload_n 3, 1) := by decide +kernel
theorem d_Desk_circuit_218 : decode prog_1_method_37_code 218 = .ok (.getfield 312, 3) := by decide +kernel
theorem d_Desk_circuit_221 : decode prog_1_method_37_code 221 = .ok (.iconst 1, 1) := by decide +kernel
theorem d_Desk_circuit_222 : decode prog_1_method_37_code 222 = .ok (.if_icmp .ne 20, 3) := by decide +kernel
theorem d_Desk_circuit_225 : decode prog_1_method_37_code 225 = .ok (.aload_n 3, 1) := by decide +kernel
theorem d_Desk_circuit_226 : decode prog_1_method_37_code 226 = .ok (.getfield 336, 3) := by decide +kernel
theorem d_Desk_circuit_229 : decode prog_1_method_37_code 229 = .ok (.getfield 186, 3) := by decide +kernel
theorem d_Desk_circuit_232 : decode prog_1_method_37_code 232 = .ok (.iconst 1, 1) := by decide +kernel
theorem d_Desk_circuit_233 : decode prog_1_method_37_code 233 = .ok (.isub, 1) := by decide +kernel
theorem d_Desk_circuit_234 : decode prog_1_method_37_code 234 = .ok (.aload_n 3, 1) := by decide +kernel
theorem d_Desk_circuit_235 : decode prog_1_method_37_code 235 = .ok (.getfield 338, 3) := by decide +kernel
theorem d_Desk_circuit_238 : decode prog_1_method_37_code 238 = .ok (.isub, 1) := by decide +kernel
theorem d_Desk_circuit_239 : decode prog_1_method_37_code 239 = .ok (.goto 4, 3) := by decide +kernel
theorem d_Desk_circuit_242 : decode prog_1_method_37_code 242 = .ok (.iconst 0, 1) := by decide +kernel
theorem d_Desk_circuit_243 : decode prog_1_method_37_code 243 = .ok (.ireturn, 1) := by decide +kernel
def Desk_circuit (h : g_AH) (this : Nat) (p0 : Int32) (p1 : Int32) : Option ((Int32 ⊕ g_EX) × g_AH) :=
  g_is h this 0 <| g_bx (Desk_circuitOf h this p0) fun x3 h4 => g_b (Desk_isBetween ((p1).toInt64) (0 : Int64) (14 : Int64)) fun x8 => g_bx (Desk_checkArgument h4 x8) fun x11 h12 => if p1 = (0 : Int32) then (g_nn x3 fun a17 => g_gR h12 a17 12 2 fun x19 => g_nn x19 fun a22 => g_gR h12 a22 6 0 fun x24 => g_nn x24 fun a27 => g_aI h12 0 a27 (0 : Int32) fun x28 => some (.inl x28, h12)) else (if p1 = (1 : Int32) then (g_nn x3 fun a34 => g_gR h12 a34 12 2 fun x36 => g_nn x36 fun a39 => g_is h12 a39 6 <| g_b (Way_last h12 a39) fun x42 => some (.inl x42, h12)) else (if p1 = (2 : Int32) then (g_nn x3 fun a46 => g_gI h12 a46 12 0 fun x48 => some (.inl x48, h12)) else (if p1 = (3 : Int32) then (g_nn x3 fun a52 => g_gI h12 a52 12 1 fun x54 => some (.inl x54, h12)) else (if p1 = (4 : Int32) then (g_nn x3 fun a58 => g_gI h12 a58 12 4 fun x60 => some (.inl x60, h12)) else (if p1 = (5 : Int32) then (g_gR h12 this 0 0 fun x65 => g_nn x3 fun a68 => g_is h12 a68 12 <| g_b (Circuit_active h12 a68) fun x71 => g_nn x65 fun a74 => g_is h12 a74 1 <| g_b (Net_delayOf h12 a74 x71) fun x77 => some (.inl x77, h12)) else (if p1 = (6 : Int32) then (g_nn x3 fun a81 => g_gI h12 a81 12 8 fun x83 => some (.inl x83, h12)) else (if p1 = (7 : Int32) then (g_nn x3 fun a87 => g_gI h12 a87 12 9 fun x89 => some (.inl x89, h12)) else (if p1 = (8 : Int32) then (g_nn x3 fun a93 => g_gI h12 a93 12 10 fun x95 => some (.inl x95, h12)) else (if p1 = (9 : Int32) then (g_nn x3 fun a99 => g_gI h12 a99 12 11 fun x101 => some (.inl x101, h12)) else (if p1 = (10 : Int32) then (g_nn x3 fun a105 => g_gI h12 a105 12 12 fun x107 => some (.inl x107, h12)) else (if p1 = (11 : Int32) then (g_nn x3 fun a111 => g_gI h12 a111 12 7 fun x113 => some (.inl x113, h12)) else (if p1 = (12 : Int32) then (g_nn x3 fun a117 => g_gI h12 a117 12 4 fun x119 => if x119 = (2 : Int32) then (g_gI h12 a117 12 6 fun x124 => some (.inl x124, h12)) else (some (.inl (0 : Int32), h12))) else (if p1 = (13 : Int32) then (g_gR h12 this 0 0 fun x129 => g_nn x129 fun a132 => g_is h12 a132 1 <| g_b (Net_packetsOf h12 a132 p0) fun x135 => some (.inl x135, h12)) else (g_nn x3 fun a138 => g_gI h12 a138 12 4 fun x140 => if x140 = (1 : Int32) then (g_gR h12 a138 12 3 fun x145 => g_nn x145 fun a148 => g_gI h12 a148 6 3 fun x150 => g_gI h12 a138 12 5 fun x154 => some (.inl ((x150 - (1 : Int32)) - x154), h12)) else (some (.inl (0 : Int32), h12))))))))))))))))
set_option maxHeartbeats 4000000 in
set_option maxRecDepth 100000 in
theorem T_Desk_circuit {l : Launch} {B : g_B} (h : g_AH) (this : Nat) (p0 : Int32) (p1 : Int32) (z : (Int32 ⊕ g_EX) × g_AH) (hy : Desk_circuit h this p0 p1 = some z) : g_CT l B y_Desk_circuit k_Desk_circuit [.ref this, .int p0, .int p1] h (g_rI z.1) z.2 := by
  refine g_start2 (Lc := [(0, .ref this), (1, .int p0), (2, .int p1)]) (by decide) rfl rfl (by exact Nat.le_of_ble_eq_true rfl) (by rfl) fun X => ?_
  unfold Desk_circuit at hy
  refine g_aload_n 0 (i := 0) (pc' := 1) d_Desk_circuit_0 rfl rfl rfl ?_
  refine g_iload_n 1 (i := 1) (pc' := 2) d_Desk_circuit_1 rfl rfl rfl ?_
  replace hy := g_is_inv hy
  obtain ⟨fs1, hc2, hy⟩ := hy
  replace hy := g_bx_inv hy
  rcases hy with ⟨x3, h4, hf5, hy⟩ | ⟨⟨E9, q9⟩, h4, hf5, ez7⟩
  rotate_left
  · subst ez7
    exact g_callVX (As := [.int p0]) (rest := []) 1 (T_Desk_circuitOf (hy := hf5)) d_Desk_circuit_2 hc2 rfl rfl q1631 q1633 qs22 q108 q1634 hd_Desk_circuitOf rfl ⟨by decide, by decide⟩ (by first | exact Nat.le_of_ble_eq_true rfl | (simp only [List.map, List.sum_cons, List.sum_nil, g_cat_rf]; exact Nat.le_of_ble_eq_true rfl) | (simp only [List.map, List.sum_cons, List.sum_nil, g_cat_rf, Value.category]; decide)) rfl rfl
  refine g_callV (rv := some (va_rf x3)) (h1 := h4) (pc' := 5) (As := [.int p0]) (rest := []) 1 (T_Desk_circuitOf (hy := hf5)) d_Desk_circuit_2 hc2 rfl rfl q1631 q1633 qs22 q108 q1634 hd_Desk_circuitOf rfl ⟨by decide, by decide⟩ (by first | exact Nat.le_of_ble_eq_true rfl | (simp only [List.map, List.sum_cons, List.sum_nil, g_cat_rf]; exact Nat.le_of_ble_eq_true rfl) | (simp only [List.map, List.sum_cons, List.sum_nil, g_cat_rf, Value.category]; decide)) rfl ?_
  refine g_astoreO_n (i := 3) (pc' := 6) (Lc' := [(3, va_rf x3), (0, .ref this), (1, .int p0), (2, .int p1)]) d_Desk_circuit_5 rfl (by decide) rfl rfl ?_
  refine g_iload_n 3 (i := 2) (pc' := 7) d_Desk_circuit_6 rfl rfl rfl ?_
  refine g_i2l (pc' := 8) d_Desk_circuit_7 rfl ?_
  refine g_lconst (v := 0) (pc' := 9) d_Desk_circuit_8 (by decide) rfl ?_
  refine g_ldc2 (pc' := 12) d_Desk_circuit_9 q1851 rfl ?_
  replace hy := g_b_inv hy
  obtain ⟨x8, hf10, hy⟩ := hy
  refine g_callS (rv := some (.int x8)) (h1 := h4) (pc' := 15) (As := [.long ((p1).toInt64), .long (0 : Int64), .long (14 : Int64)]) (rest := []) 3 (T_Desk_isBetween (hy := hf10)) d_Desk_circuit_12 q1330 q828 q108 q829 hd_Desk_isBetween rfl ⟨by decide, by decide⟩ (by first | exact Nat.le_of_ble_eq_true rfl | (simp only [List.map, List.sum_cons, List.sum_nil, g_cat_rf]; exact Nat.le_of_ble_eq_true rfl) | (simp only [List.map, List.sum_cons, List.sum_nil, g_cat_rf, Value.category]; decide)) rfl ?_
  replace hy := g_bx_inv hy
  rcases hy with ⟨x11, h12, hf13, hy⟩ | ⟨⟨E9, q9⟩, h12, hf13, ez15⟩
  rotate_left
  · subst ez15
    exact g_callSX (As := [.int x8]) (rest := []) 1 (T_Desk_checkArgument (hy := hf13)) d_Desk_circuit_15 q1331 q1332 q108 q1333 hd_Desk_checkArgument rfl ⟨by decide, by decide⟩ (by first | exact Nat.le_of_ble_eq_true rfl | (simp only [List.map, List.sum_cons, List.sum_nil, g_cat_rf]; exact Nat.le_of_ble_eq_true rfl) | (simp only [List.map, List.sum_cons, List.sum_nil, g_cat_rf, Value.category]; decide)) rfl rfl
  refine g_callS (rv := none) (h1 := h12) (pc' := 18) (As := [.int x8]) (rest := []) 1 (T_Desk_checkArgument (hy := hf13)) d_Desk_circuit_15 q1331 q1332 q108 q1333 hd_Desk_checkArgument rfl ⟨by decide, by decide⟩ (by first | exact Nat.le_of_ble_eq_true rfl | (simp only [List.map, List.sum_cons, List.sum_nil, g_cat_rf]; exact Nat.le_of_ble_eq_true rfl) | (simp only [List.map, List.sum_cons, List.sum_nil, g_cat_rf, Value.category]; decide)) rfl ?_
  refine g_iload_n 3 (i := 2) (pc' := 19) d_Desk_circuit_18 rfl rfl rfl ?_
  by_cases c16 : p1 = (0 : Int32)
  · rw [if_pos c16] at hy
    refine g_tableIn (pc' := 88) (0 : Int32) d_Desk_circuit_19 c16 (by decide) rfl (by decide) ?_
    refine g_aloadO_n 0 (i := 3) (pc' := 89) d_Desk_circuit_88 rfl rfl rfl ?_
    replace hy := g_nn_inv hy
    obtain ⟨a17, rfl, hy⟩ := hy
    replace hy := g_gR_inv hy
    obtain ⟨fs18, x19, hc20, hv21, hy⟩ := hy
    refine g_getfN (pc' := 92) d_Desk_circuit_89 hc20 rfl (by decide) hv21 q1157 rfl rfl ?_
    replace hy := g_nn_inv hy
    obtain ⟨a22, rfl, hy⟩ := hy
    replace hy := g_gR_inv hy
    obtain ⟨fs23, x24, hc25, hv26, hy⟩ := hy
    refine g_getfN (pc' := 95) d_Desk_circuit_92 hc25 rfl (by decide) hv26 q618 rfl rfl ?_
    refine g_iconst (v := (0 : Int32)) (pc' := 96) d_Desk_circuit_95 (by decide) rfl ?_
    replace hy := g_nn_inv hy
    obtain ⟨a27, rfl, hy⟩ := hy
    replace hy := g_aI_inv hy
    obtain ⟨n29, f30, hc31, hi32, hy⟩ := hy
    refine g_iald (pc' := 97) d_Desk_circuit_96 hc31 hi32 rfl ?_
    generalize f30 ((0 : Int32)).toNatClampNeg = x28 at hy ⊢
    refine g_goto (pc' := 243) d_Desk_circuit_97 (by decide) ?_
    cases hy
    exact g_iret rfl rfl rfl d_Desk_circuit_243
  · rw [if_neg c16] at hy
    by_cases c33 : p1 = (1 : Int32)
    · rw [if_pos c33] at hy
      refine g_tableIn (pc' := 100) (1 : Int32) d_Desk_circuit_19 c33 (by decide) rfl (by decide) ?_
      refine g_aloadO_n 0 (i := 3) (pc' := 101) d_Desk_circuit_100 rfl rfl rfl ?_
      replace hy := g_nn_inv hy
      obtain ⟨a34, rfl, hy⟩ := hy
      replace hy := g_gR_inv hy
      obtain ⟨fs35, x36, hc37, hv38, hy⟩ := hy
      refine g_getfN (pc' := 104) d_Desk_circuit_101 hc37 rfl (by decide) hv38 q1157 rfl rfl ?_
      replace hy := g_nn_inv hy
      obtain ⟨a39, rfl, hy⟩ := hy
      replace hy := g_is_inv hy
      obtain ⟨fs40, hc41, hy⟩ := hy
      replace hy := g_b_inv hy
      obtain ⟨x42, hf44, hy⟩ := hy
      refine g_callV (rv := some (.int x42)) (h1 := h12) (pc' := 107) (As := []) (rest := []) 0 (T_Way_last (hy := hf44)) d_Desk_circuit_104 hc41 rfl rfl q722 q723 q724 q134 q725 hd_Way_last rfl ⟨by decide, by decide⟩ (by first | exact Nat.le_of_ble_eq_true rfl | (simp only [List.map, List.sum_cons, List.sum_nil, g_cat_rf]; exact Nat.le_of_ble_eq_true rfl) | (simp only [List.map, List.sum_cons, List.sum_nil, g_cat_rf, Value.category]; decide)) rfl ?_
      refine g_goto (pc' := 243) d_Desk_circuit_107 (by decide) ?_
      cases hy
      exact g_iret rfl rfl rfl d_Desk_circuit_243
    · rw [if_neg c33] at hy
      by_cases c45 : p1 = (2 : Int32)
      · rw [if_pos c45] at hy
        refine g_tableIn (pc' := 110) (2 : Int32) d_Desk_circuit_19 c45 (by decide) rfl (by decide) ?_
        refine g_aloadO_n 0 (i := 3) (pc' := 111) d_Desk_circuit_110 rfl rfl rfl ?_
        replace hy := g_nn_inv hy
        obtain ⟨a46, rfl, hy⟩ := hy
        replace hy := g_gI_inv hy
        obtain ⟨fs47, x48, hc49, hv50, hy⟩ := hy
        refine g_getfN (pc' := 114) d_Desk_circuit_111 hc49 rfl (by decide) hv50 q1148 rfl rfl ?_
        refine g_goto (pc' := 243) d_Desk_circuit_114 (by decide) ?_
        cases hy
        exact g_iret rfl rfl rfl d_Desk_circuit_243
      · rw [if_neg c45] at hy
        by_cases c51 : p1 = (3 : Int32)
        · rw [if_pos c51] at hy
          refine g_tableIn (pc' := 117) (3 : Int32) d_Desk_circuit_19 c51 (by decide) rfl (by decide) ?_
          refine g_aloadO_n 0 (i := 3) (pc' := 118) d_Desk_circuit_117 rfl rfl rfl ?_
          replace hy := g_nn_inv hy
          obtain ⟨a52, rfl, hy⟩ := hy
          replace hy := g_gI_inv hy
          obtain ⟨fs53, x54, hc55, hv56, hy⟩ := hy
          refine g_getfN (pc' := 121) d_Desk_circuit_118 hc55 rfl (by decide) hv56 q1151 rfl rfl ?_
          refine g_goto (pc' := 243) d_Desk_circuit_121 (by decide) ?_
          cases hy
          exact g_iret rfl rfl rfl d_Desk_circuit_243
        · rw [if_neg c51] at hy
          by_cases c57 : p1 = (4 : Int32)
          · rw [if_pos c57] at hy
            refine g_tableIn (pc' := 124) (4 : Int32) d_Desk_circuit_19 c57 (by decide) rfl (by decide) ?_
            refine g_aloadO_n 0 (i := 3) (pc' := 125) d_Desk_circuit_124 rfl rfl rfl ?_
            replace hy := g_nn_inv hy
            obtain ⟨a58, rfl, hy⟩ := hy
            replace hy := g_gI_inv hy
            obtain ⟨fs59, x60, hc61, hv62, hy⟩ := hy
            refine g_getfN (pc' := 128) d_Desk_circuit_125 hc61 rfl (by decide) hv62 q1168 rfl rfl ?_
            refine g_goto (pc' := 243) d_Desk_circuit_128 (by decide) ?_
            cases hy
            exact g_iret rfl rfl rfl d_Desk_circuit_243
          · rw [if_neg c57] at hy
            by_cases c63 : p1 = (5 : Int32)
            · rw [if_pos c63] at hy
              refine g_tableIn (pc' := 131) (5 : Int32) d_Desk_circuit_19 c63 (by decide) rfl (by decide) ?_
              refine g_aload_n 1 (i := 0) (pc' := 132) d_Desk_circuit_131 rfl rfl rfl ?_
              replace hy := g_gR_inv hy
              obtain ⟨fs64, x65, hc66, hv67, hy⟩ := hy
              refine g_getf (pc' := 135) d_Desk_circuit_132 hc66 rfl (by decide) hv67 q642 (Or.inl rfl) rfl ?_
              refine g_aloadO_n 0 (i := 3) (pc' := 136) d_Desk_circuit_135 rfl rfl rfl ?_
              replace hy := g_nn_inv hy
              obtain ⟨a68, rfl, hy⟩ := hy
              replace hy := g_is_inv hy
              obtain ⟨fs69, hc70, hy⟩ := hy
              replace hy := g_b_inv hy
              obtain ⟨x71, hf73, hy⟩ := hy
              refine g_callV (rv := some (va_rf x71)) (h1 := h12) (pc' := 139) (As := []) (rest := [va_rf x65]) 0 (T_Circuit_active (hy := hf73)) d_Desk_circuit_136 hc70 rfl rfl q717 q718 q719 q142 q720 hd_Circuit_active rfl ⟨by decide, by decide⟩ (by first | exact Nat.le_of_ble_eq_true rfl | (simp only [List.map, List.sum_cons, List.sum_nil, g_cat_rf]; exact Nat.le_of_ble_eq_true rfl) | (simp only [List.map, List.sum_cons, List.sum_nil, g_cat_rf, Value.category]; decide)) rfl ?_
              replace hy := g_nn_inv hy
              obtain ⟨a74, rfl, hy⟩ := hy
              replace hy := g_is_inv hy
              obtain ⟨fs75, hc76, hy⟩ := hy
              replace hy := g_b_inv hy
              obtain ⟨x77, hf79, hy⟩ := hy
              refine g_callV (rv := some (.int x77)) (h1 := h12) (pc' := 142) (As := [va_rf x71]) (rest := []) 1 (T_Net_delayOf (hy := hf79)) d_Desk_circuit_139 hc76 rfl rfl q1852 q1760 q1761 q109 q1762 hd_Net_delayOf rfl ⟨by decide, by decide⟩ (by first | exact Nat.le_of_ble_eq_true rfl | (simp only [List.map, List.sum_cons, List.sum_nil, g_cat_rf]; exact Nat.le_of_ble_eq_true rfl) | (simp only [List.map, List.sum_cons, List.sum_nil, g_cat_rf, Value.category]; decide)) rfl ?_
              refine g_goto (pc' := 243) d_Desk_circuit_142 (by decide) ?_
              cases hy
              exact g_iret rfl rfl rfl d_Desk_circuit_243
            · rw [if_neg c63] at hy
              by_cases c80 : p1 = (6 : Int32)
              · rw [if_pos c80] at hy
                refine g_tableIn (pc' := 145) (6 : Int32) d_Desk_circuit_19 c80 (by decide) rfl (by decide) ?_
                refine g_aloadO_n 0 (i := 3) (pc' := 146) d_Desk_circuit_145 rfl rfl rfl ?_
                replace hy := g_nn_inv hy
                obtain ⟨a81, rfl, hy⟩ := hy
                replace hy := g_gI_inv hy
                obtain ⟨fs82, x83, hc84, hv85, hy⟩ := hy
                refine g_getfN (pc' := 149) d_Desk_circuit_146 hc84 rfl (by decide) hv85 q1185 rfl rfl ?_
                refine g_goto (pc' := 243) d_Desk_circuit_149 (by decide) ?_
                cases hy
                exact g_iret rfl rfl rfl d_Desk_circuit_243
              · rw [if_neg c80] at hy
                by_cases c86 : p1 = (7 : Int32)
                · rw [if_pos c86] at hy
                  refine g_tableIn (pc' := 152) (7 : Int32) d_Desk_circuit_19 c86 (by decide) rfl (by decide) ?_
                  refine g_aloadO_n 0 (i := 3) (pc' := 153) d_Desk_circuit_152 rfl rfl rfl ?_
                  replace hy := g_nn_inv hy
                  obtain ⟨a87, rfl, hy⟩ := hy
                  replace hy := g_gI_inv hy
                  obtain ⟨fs88, x89, hc90, hv91, hy⟩ := hy
                  refine g_getfN (pc' := 156) d_Desk_circuit_153 hc90 rfl (by decide) hv91 q1188 rfl rfl ?_
                  refine g_goto (pc' := 243) d_Desk_circuit_156 (by decide) ?_
                  cases hy
                  exact g_iret rfl rfl rfl d_Desk_circuit_243
                · rw [if_neg c86] at hy
                  by_cases c92 : p1 = (8 : Int32)
                  · rw [if_pos c92] at hy
                    refine g_tableIn (pc' := 159) (8 : Int32) d_Desk_circuit_19 c92 (by decide) rfl (by decide) ?_
                    refine g_aloadO_n 0 (i := 3) (pc' := 160) d_Desk_circuit_159 rfl rfl rfl ?_
                    replace hy := g_nn_inv hy
                    obtain ⟨a93, rfl, hy⟩ := hy
                    replace hy := g_gI_inv hy
                    obtain ⟨fs94, x95, hc96, hv97, hy⟩ := hy
                    refine g_getfN (pc' := 163) d_Desk_circuit_160 hc96 rfl (by decide) hv97 q1191 rfl rfl ?_
                    refine g_goto (pc' := 243) d_Desk_circuit_163 (by decide) ?_
                    cases hy
                    exact g_iret rfl rfl rfl d_Desk_circuit_243
                  · rw [if_neg c92] at hy
                    by_cases c98 : p1 = (9 : Int32)
                    · rw [if_pos c98] at hy
                      refine g_tableIn (pc' := 166) (9 : Int32) d_Desk_circuit_19 c98 (by decide) rfl (by decide) ?_
                      refine g_aloadO_n 0 (i := 3) (pc' := 167) d_Desk_circuit_166 rfl rfl rfl ?_
                      replace hy := g_nn_inv hy
                      obtain ⟨a99, rfl, hy⟩ := hy
                      replace hy := g_gI_inv hy
                      obtain ⟨fs100, x101, hc102, hv103, hy⟩ := hy
                      refine g_getfN (pc' := 170) d_Desk_circuit_167 hc102 rfl (by decide) hv103 q1194 rfl rfl ?_
                      refine g_goto (pc' := 243) d_Desk_circuit_170 (by decide) ?_
                      cases hy
                      exact g_iret rfl rfl rfl d_Desk_circuit_243
                    · rw [if_neg c98] at hy
                      by_cases c104 : p1 = (10 : Int32)
                      · rw [if_pos c104] at hy
                        refine g_tableIn (pc' := 173) (10 : Int32) d_Desk_circuit_19 c104 (by decide) rfl (by decide) ?_
                        refine g_aloadO_n 0 (i := 3) (pc' := 174) d_Desk_circuit_173 rfl rfl rfl ?_
                        replace hy := g_nn_inv hy
                        obtain ⟨a105, rfl, hy⟩ := hy
                        replace hy := g_gI_inv hy
                        obtain ⟨fs106, x107, hc108, hv109, hy⟩ := hy
                        refine g_getfN (pc' := 177) d_Desk_circuit_174 hc108 rfl (by decide) hv109 q1197 rfl rfl ?_
                        refine g_goto (pc' := 243) d_Desk_circuit_177 (by decide) ?_
                        cases hy
                        exact g_iret rfl rfl rfl d_Desk_circuit_243
                      · rw [if_neg c104] at hy
                        by_cases c110 : p1 = (11 : Int32)
                        · rw [if_pos c110] at hy
                          refine g_tableIn (pc' := 180) (11 : Int32) d_Desk_circuit_19 c110 (by decide) rfl (by decide) ?_
                          refine g_aloadO_n 0 (i := 3) (pc' := 181) d_Desk_circuit_180 rfl rfl rfl ?_
                          replace hy := g_nn_inv hy
                          obtain ⟨a111, rfl, hy⟩ := hy
                          replace hy := g_gI_inv hy
                          obtain ⟨fs112, x113, hc114, hv115, hy⟩ := hy
                          refine g_getfN (pc' := 184) d_Desk_circuit_181 hc114 rfl (by decide) hv115 q1182 rfl rfl ?_
                          refine g_goto (pc' := 243) d_Desk_circuit_184 (by decide) ?_
                          cases hy
                          exact g_iret rfl rfl rfl d_Desk_circuit_243
                        · rw [if_neg c110] at hy
                          by_cases c116 : p1 = (12 : Int32)
                          · rw [if_pos c116] at hy
                            refine g_tableIn (pc' := 187) (12 : Int32) d_Desk_circuit_19 c116 (by decide) rfl (by decide) ?_
                            refine g_aloadO_n 0 (i := 3) (pc' := 188) d_Desk_circuit_187 rfl rfl rfl ?_
                            replace hy := g_nn_inv hy
                            obtain ⟨a117, rfl, hy⟩ := hy
                            replace hy := g_gI_inv hy
                            obtain ⟨fs118, x119, hc120, hv121, hy⟩ := hy
                            refine g_getfN (pc' := 191) d_Desk_circuit_188 hc120 rfl (by decide) hv121 q1168 rfl rfl ?_
                            refine g_iconst (v := (2 : Int32)) (pc' := 192) d_Desk_circuit_191 (by decide) rfl ?_
                            by_cases c122 : x119 = (2 : Int32)
                            · rw [if_pos c122] at hy
                              refine g_icmp_neF (pc' := 195) d_Desk_circuit_192 202 c122 (by decide) rfl ?_
                              refine g_aload_n 0 (i := 3) (pc' := 196) d_Desk_circuit_195 rfl rfl rfl ?_
                              replace hy := g_gI_inv hy
                              obtain ⟨fs123, x124, hc125, hv126, hy⟩ := hy
                              refine g_getfN (pc' := 199) d_Desk_circuit_196 hc125 rfl (by decide) hv126 q1178 rfl rfl ?_
                              refine g_goto (pc' := 243) d_Desk_circuit_199 (by decide) ?_
                              cases hy
                              exact g_iret rfl rfl rfl d_Desk_circuit_243
                            · rw [if_neg c122] at hy
                              refine g_icmp_neT (pc' := 202) d_Desk_circuit_192 c122 (by decide) ?_
                              refine g_iconst (v := (0 : Int32)) (pc' := 203) d_Desk_circuit_202 (by decide) rfl ?_
                              refine g_goto (pc' := 243) d_Desk_circuit_203 (by decide) ?_
                              cases hy
                              exact g_iret rfl rfl rfl d_Desk_circuit_243
                          · rw [if_neg c116] at hy
                            by_cases c127 : p1 = (13 : Int32)
                            · rw [if_pos c127] at hy
                              refine g_tableIn (pc' := 206) (13 : Int32) d_Desk_circuit_19 c127 (by decide) rfl (by decide) ?_
                              refine g_aload_n 1 (i := 0) (pc' := 207) d_Desk_circuit_206 rfl rfl rfl ?_
                              replace hy := g_gR_inv hy
                              obtain ⟨fs128, x129, hc130, hv131, hy⟩ := hy
                              refine g_getf (pc' := 210) d_Desk_circuit_207 hc130 rfl (by decide) hv131 q642 (Or.inl rfl) rfl ?_
                              refine g_iload_n 2 (i := 1) (pc' := 211) d_Desk_circuit_210 rfl rfl rfl ?_
                              replace hy := g_nn_inv hy
                              obtain ⟨a132, rfl, hy⟩ := hy
                              replace hy := g_is_inv hy
                              obtain ⟨fs133, hc134, hy⟩ := hy
                              replace hy := g_b_inv hy
                              obtain ⟨x135, hf137, hy⟩ := hy
                              refine g_callV (rv := some (.int x135)) (h1 := h12) (pc' := 214) (As := [.int p0]) (rest := []) 1 (T_Net_packetsOf (hy := hf137)) d_Desk_circuit_211 hc134 rfl rfl q1853 q1641 q1642 q109 q1643 hd_Net_packetsOf rfl ⟨by decide, by decide⟩ (by first | exact Nat.le_of_ble_eq_true rfl | (simp only [List.map, List.sum_cons, List.sum_nil, g_cat_rf]; exact Nat.le_of_ble_eq_true rfl) | (simp only [List.map, List.sum_cons, List.sum_nil, g_cat_rf, Value.category]; decide)) rfl ?_
                              refine g_goto (pc' := 243) d_Desk_circuit_214 (by decide) ?_
                              cases hy
                              exact g_iret rfl rfl rfl d_Desk_circuit_243
                            · rw [if_neg c127] at hy
                              have c16 := g_neI (n := 0) (by decide) c16
                              have c33 := g_neI (n := 1) (by decide) c33
                              have c45 := g_neI (n := 2) (by decide) c45
                              have c51 := g_neI (n := 3) (by decide) c51
                              have c57 := g_neI (n := 4) (by decide) c57
                              have c63 := g_neI (n := 5) (by decide) c63
                              have c80 := g_neI (n := 6) (by decide) c80
                              have c86 := g_neI (n := 7) (by decide) c86
                              have c92 := g_neI (n := 8) (by decide) c92
                              have c98 := g_neI (n := 9) (by decide) c98
                              have c104 := g_neI (n := 10) (by decide) c104
                              have c110 := g_neI (n := 11) (by decide) c110
                              have c116 := g_neI (n := 12) (by decide) c116
                              have c127 := g_neI (n := 13) (by decide) c127
                              refine g_tableOut (pc' := 217) d_Desk_circuit_19 (by omega) (by decide) ?_
                              refine g_aloadO_n 0 (i := 3) (pc' := 218) d_Desk_circuit_217 rfl rfl rfl ?_
                              replace hy := g_nn_inv hy
                              obtain ⟨a138, rfl, hy⟩ := hy
                              replace hy := g_gI_inv hy
                              obtain ⟨fs139, x140, hc141, hv142, hy⟩ := hy
                              refine g_getfN (pc' := 221) d_Desk_circuit_218 hc141 rfl (by decide) hv142 q1168 rfl rfl ?_
                              refine g_iconst (v := (1 : Int32)) (pc' := 222) d_Desk_circuit_221 (by decide) rfl ?_
                              by_cases c143 : x140 = (1 : Int32)
                              · rw [if_pos c143] at hy
                                refine g_icmp_neF (pc' := 225) d_Desk_circuit_222 242 c143 (by decide) rfl ?_
                                refine g_aload_n 0 (i := 3) (pc' := 226) d_Desk_circuit_225 rfl rfl rfl ?_
                                replace hy := g_gR_inv hy
                                obtain ⟨fs144, x145, hc146, hv147, hy⟩ := hy
                                refine g_getfN (pc' := 229) d_Desk_circuit_226 hc146 rfl (by decide) hv147 q1162 rfl rfl ?_
                                replace hy := g_nn_inv hy
                                obtain ⟨a148, rfl, hy⟩ := hy
                                replace hy := g_gI_inv hy
                                obtain ⟨fs149, x150, hc151, hv152, hy⟩ := hy
                                refine g_getfN (pc' := 232) d_Desk_circuit_229 hc151 rfl (by decide) hv152 q631 rfl rfl ?_
                                refine g_iconst (v := (1 : Int32)) (pc' := 233) d_Desk_circuit_232 (by decide) rfl ?_
                                refine g_isub (pc' := 234) d_Desk_circuit_233 rfl ?_
                                refine g_aload_n 0 (i := 3) (pc' := 235) d_Desk_circuit_234 rfl rfl rfl ?_
                                replace hy := g_gI_inv hy
                                obtain ⟨fs153, x154, hc155, hv156, hy⟩ := hy
                                refine g_getfN (pc' := 238) d_Desk_circuit_235 hc155 rfl (by decide) hv156 q1174 rfl rfl ?_
                                refine g_isub (pc' := 239) d_Desk_circuit_238 rfl ?_
                                refine g_goto (pc' := 243) d_Desk_circuit_239 (by decide) ?_
                                cases hy
                                exact g_iret rfl rfl rfl d_Desk_circuit_243
                              · rw [if_neg c143] at hy
                                refine g_icmp_neT (pc' := 242) d_Desk_circuit_222 c143 (by decide) ?_
                                refine g_iconst (v := (0 : Int32)) (pc' := 243) d_Desk_circuit_242 (by decide) rfl ?_
                                cases hy
                                exact g_iret rfl rfl rfl d_Desk_circuit_243
theorem hd_Desk_circuit : g_dsc y_Desk_circuit 2 := ⟨by decide +kernel, by decide +kernel, by decide +kernel⟩
