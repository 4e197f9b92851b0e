/-! CircuitDesk$Node.lowestFree()I -/
abbrev y_Node_lowestFree : MethodName := ⟨"CircuitDesk$Node", "lowestFree", "()I"⟩
abbrev k_Node_lowestFree : g_M := (prog_8_method_5_code, 2, "CircuitDesk$Node", 12, (some FieldType.int), "lowestFree", [], 0)
theorem d_Node_lowestFree_0 : decode prog_8_method_5_code 0 = .ok (.iconst 0, 1) := by decide +kernel
theorem d_Node_lowestFree_1 : decode prog_8_method_5_code 1 = .ok (.istore_n 1, 1) := by decide +kernel
theorem d_Node_lowestFree_2 : decode prog_8_method_5_code 2 = .ok (.aload_n 0, 1) := by decide +kernel
theorem d_Node_lowestFree_3 : decode prog_8_method_5_code 3 = .ok (.getfield 15, 3) := by decide +kernel
theorem d_Node_lowestFree_6 : decode prog_8_method_5_code 6 = .ok (.iload_n 1, 1) := by decide +kernel
theorem d_Node_lowestFree_7 : decode prog_8_method_5_code 7 = .ok (.iaload, 1) := by decide +kernel
theorem d_Node_lowestFree_8 : decode prog_8_method_5_code 8 = .ok (.iconst (-1), 1) := by decide +kernel
theorem d_Node_lowestFree_9 : decode prog_8_method_5_code 9 = .ok (.if_icmp .eq 9, 3) := by decide +kernel
theorem d_Node_lowestFree_12 : decode prog_8_method_5_code 12 = .ok (.iinc 1 1, 3) := by decide +kernel
theorem d_Node_lowestFree_15 : decode prog_8_method_5_code 15 = .ok (.goto (-13), 3) := by decide +kernel
theorem d_Node_lowestFree_18 : decode prog_8_method_5_code 18 = .ok (.iload_n 1, 1) := by decide +kernel
theorem d_Node_lowestFree_19 : decode prog_8_method_5_code 19 = .ok (.ireturn, 1) := by decide +kernel
def Node_lowestFree_2 (h : g_AH)  : Nat → Nat → Int32 → Option (Int32)
  | 0, _, _ => none
  | n + 1, v0, v1 => g_gR h v0 10 1 fun x2 => g_nn x2 fun a5 => g_aI h 0 a5 v1 fun x6 => if x6 = (-1 : Int32) then (some v1) else ((Node_lowestFree_2 h  n) v0 (v1 + (1 : Int32)))
set_option maxHeartbeats 4000000 in
set_option maxRecDepth 100000 in
theorem W_Node_lowestFree_2 {X : g_X} (h : g_AH) (z : Int32)  : ∀ (n : Nat) (v0 : Nat) (v1 : Int32), Node_lowestFree_2 h  n v0 v1 = some z → G X k_Node_lowestFree (.inl (some (.int z))) h h 2 [(0, .ref v0), (1, .int v1)] [] := by
  intro n
  induction n with
  | zero => intro v0 v1 hy; exact absurd hy (by simp [Node_lowestFree_2])
  | succ n ih =>
    intro v0 v1 hy
    rw [Node_lowestFree_2] at hy
    refine g_aload_n 0 (i := 0) (pc' := 3) d_Node_lowestFree_2 rfl rfl rfl ?_
    replace hy := g_gR_inv hy
    obtain ⟨fs1, x2, hc3, hv4, hy⟩ := hy
    refine g_getf (pc' := 6) d_Node_lowestFree_3 hc3 rfl (by decide) hv4 q1013 (Or.inl rfl) rfl ?_
    refine g_iload_n 1 (i := 1) (pc' := 7) d_Node_lowestFree_6 rfl rfl rfl ?_
    replace hy := g_nn_inv hy
    obtain ⟨a5, rfl, hy⟩ := hy
    replace hy := g_aI_inv hy
    obtain ⟨n7, f8, hc9, hi10, hy⟩ := hy
    refine g_iald (pc' := 8) d_Node_lowestFree_7 hc9 hi10 rfl ?_
    generalize f8 (v1).toNatClampNeg = x6 at hy ⊢
    refine g_iconst (v := (-1 : Int32)) (pc' := 9) d_Node_lowestFree_8 (by decide) rfl ?_
    by_cases c11 : x6 = (-1 : Int32)
    · rw [if_pos c11] at hy
      refine g_icmp_eqT (pc' := 18) d_Node_lowestFree_9 c11 (by decide) ?_
      refine g_iload_n 1 (i := 1) (pc' := 19) d_Node_lowestFree_18 rfl rfl rfl ?_
      cases hy
      exact g_iret rfl rfl rfl d_Node_lowestFree_19
    · rw [if_neg c11] at hy
      refine g_icmp_eqF (pc' := 12) d_Node_lowestFree_9 18 c11 (by decide) rfl ?_
      refine g_iinc 1 (v := (v1 + (1 : Int32))) (pc' := 15) (Lc' := [(1, .int (v1 + (1 : Int32))), (0, .ref v0)]) d_Node_lowestFree_12 rfl rfl (by decide) rfl rfl ?_
      refine g_goto (pc' := 2) d_Node_lowestFree_15 (by decide) ?_
      refine g_sub [1, 0] rfl ?_
      exact ih _ _ hy
def Node_lowestFree (h : g_AH) (this : Nat) : Option (Int32) :=
  Node_lowestFree_2 h  gFU this (0 : Int32)
set_option maxHeartbeats 4000000 in
set_option maxRecDepth 100000 in
theorem T_Node_lowestFree {l : Launch} {B : g_B} (h : g_AH) (this : Nat) (z : Int32) (hy : Node_lowestFree h this = some z) : g_CT l B y_Node_lowestFree k_Node_lowestFree [.ref this] h (.inl (some (.int z))) h := by
  refine g_start2 (Lc := [(0, .ref this)]) (by decide) rfl rfl (by exact Nat.le_of_ble_eq_true rfl) (by rfl) fun X => ?_
  unfold Node_lowestFree at hy
  refine g_iconst (v := (0 : Int32)) (pc' := 1) d_Node_lowestFree_0 (by decide) rfl ?_
  refine g_istore_n (i := 1) (pc' := 2) (Lc' := [(1, .int (0 : Int32)), (0, .ref this)]) d_Node_lowestFree_1 rfl (by decide) rfl rfl ?_
  refine g_sub [1, 0] rfl ?_
  exact W_Node_lowestFree_2 _ _ _ _ _ hy
theorem hd_Node_lowestFree : g_dsc y_Node_lowestFree 0 := ⟨by decide +kernel, by decide +kernel, by decide +kernel⟩
/-! CircuitDesk$Node.highestFree()I -/
abbrev y_Node_highestFree : MethodName := ⟨"CircuitDesk$Node", "highestFree", "()I"⟩
abbrev k_Node_highestFree : g_M := (prog_8_method_6_code, 2, "CircuitDesk$Node", 12, (some FieldType.int), "highestFree", [], 0)
theorem d_Node_highestFree_0 : decode prog_8_method_6_code 0 = .ok (.aload_n 0, 1) := by decide +kernel
theorem d_Node_highestFree_1 : decode prog_8_method_6_code 1 = .ok (.getfield 9, 3) := by decide +kernel
theorem d_Node_highestFree_4 : decode prog_8_method_6_code 4 = .ok (.iconst 1, 1) := by decide +kernel
theorem d_Node_highestFree_5 : decode prog_8_method_6_code 5 = .ok (.isub, 1) := by decide +kernel
theorem d_Node_highestFree_6 : decode prog_8_method_6_code 6 = .ok (.istore_n 1, 1) := by decide +kernel
theorem d_Node_highestFree_7 : decode prog_8_method_6_code 7 = .ok (.aload_n 0, 1) := by decide +kernel
theorem d_Node_highestFree_8 : decode prog_8_method_6_code 8 = .ok (.getfield 15, 3) := by decide +kernel
theorem d_Node_highestFree_11 : decode prog_8_method_6_code 11 = .ok (.iload_n 1, 1) := by decide +kernel
theorem d_Node_highestFree_12 : decode prog_8_method_6_code 12 = .ok (.iaload, 1) := by decide +kernel
theorem d_Node_highestFree_13 : decode prog_8_method_6_code 13 = .ok (.iconst (-1), 1) := by decide +kernel
theorem d_Node_highestFree_14 : decode prog_8_method_6_code 14 = .ok (.if_icmp .eq 9, 3) := by decide +kernel
theorem d_Node_highestFree_17 : decode prog_8_method_6_code 17 = .ok (.iinc 1 (-1), 3) := by decide +kernel
theorem d_Node_highestFree_20 : decode prog_8_method_6_code 20 = .ok (.goto (-13), 3) := by decide +kernel
theorem d_Node_highestFree_23 : decode prog_8_method_6_code 23 = .ok (.iload_n 1, 1) := by decide +kernel
theorem d_Node_highestFree_24 : decode prog_8_method_6_code 24 = .ok (.ireturn, 1) := by decide +kernel
def Node_highestFree_7 (h : g_AH)  : Nat → Nat → Int32 → Option (Int32)
  | 0, _, _ => none
  | n + 1, v0, v1 => g_gR h v0 10 1 fun x6 => g_nn x6 fun a9 => g_aI h 0 a9 v1 fun x10 => if x10 = (-1 : Int32) then (some v1) else ((Node_highestFree_7 h  n) v0 (v1 + (-1 : Int32)))
set_option maxHeartbeats 4000000 in
set_option maxRecDepth 100000 in
theorem W_Node_highestFree_7 {X : g_X} (h : g_AH) (z : Int32)  : ∀ (n : Nat) (v0 : Nat) (v1 : Int32), Node_highestFree_7 h  n v0 v1 = some z → G X k_Node_highestFree (.inl (some (.int z))) h h 7 [(0, .ref v0), (1, .int v1)] [] := by
  intro n
  induction n with
  | zero => intro v0 v1 hy; exact absurd hy (by simp [Node_highestFree_7])
  | succ n ih =>
    intro v0 v1 hy
    rw [Node_highestFree_7] at hy
    refine g_aload_n 0 (i := 0) (pc' := 8) d_Node_highestFree_7 rfl rfl rfl ?_
    replace hy := g_gR_inv hy
    obtain ⟨fs5, x6, hc7, hv8, hy⟩ := hy
    refine g_getf (pc' := 11) d_Node_highestFree_8 hc7 rfl (by decide) hv8 q1013 (Or.inl rfl) rfl ?_
    refine g_iload_n 1 (i := 1) (pc' := 12) d_Node_highestFree_11 rfl rfl rfl ?_
    replace hy := g_nn_inv hy
    obtain ⟨a9, rfl, hy⟩ := hy
    replace hy := g_aI_inv hy
    obtain ⟨n11, f12, hc13, hi14, hy⟩ := hy
    refine g_iald (pc' := 13) d_Node_highestFree_12 hc13 hi14 rfl ?_
    generalize f12 (v1).toNatClampNeg = x10 at hy ⊢
    refine g_iconst (v := (-1 : Int32)) (pc' := 14) d_Node_highestFree_13 (by decide) rfl ?_
    by_cases c15 : x10 = (-1 : Int32)
    · rw [if_pos c15] at hy
      refine g_icmp_eqT (pc' := 23) d_Node_highestFree_14 c15 (by decide) ?_
      refine g_iload_n 1 (i := 1) (pc' := 24) d_Node_highestFree_23 rfl rfl rfl ?_
      cases hy
      exact g_iret rfl rfl rfl d_Node_highestFree_24
    · rw [if_neg c15] at hy
      refine g_icmp_eqF (pc' := 17) d_Node_highestFree_14 23 c15 (by decide) rfl ?_
      refine g_iinc 1 (v := (v1 + (-1 : Int32))) (pc' := 20) (Lc' := [(1, .int (v1 + (-1 : Int32))), (0, .ref v0)]) d_Node_highestFree_17 rfl rfl (by decide) rfl rfl ?_
      refine g_goto (pc' := 7) d_Node_highestFree_20 (by decide) ?_
      refine g_sub [1, 0] rfl ?_
      exact ih _ _ hy
def Node_highestFree (h : g_AH) (this : Nat) : Option (Int32) :=
  g_gI h this 10 0 fun x2 => Node_highestFree_7 h  gFU this (x2 - (1 : Int32))
set_option maxHeartbeats 4000000 in
set_option maxRecDepth 100000 in
theorem T_Node_highestFree {l : Launch} {B : g_B} (h : g_AH) (this : Nat) (z : Int32) (hy : Node_highestFree h this = some z) : g_CT l B y_Node_highestFree k_Node_highestFree [.ref this] h (.inl (some (.int z))) h := by
  refine g_start2 (Lc := [(0, .ref this)]) (by decide) rfl rfl (by exact Nat.le_of_ble_eq_true rfl) (by rfl) fun X => ?_
  unfold Node_highestFree at hy
  refine g_aload_n 0 (i := 0) (pc' := 1) d_Node_highestFree_0 rfl rfl rfl ?_
  replace hy := g_gI_inv hy
  obtain ⟨fs1, x2, hc3, hv4, hy⟩ := hy
  refine g_getf (pc' := 4) d_Node_highestFree_1 hc3 rfl (by decide) hv4 q1010 (Or.inl rfl) rfl ?_
  refine g_iconst (v := (1 : Int32)) (pc' := 5) d_Node_highestFree_4 (by decide) rfl ?_
  refine g_isub (pc' := 6) d_Node_highestFree_5 rfl ?_
  refine g_istore_n (i := 1) (pc' := 7) (Lc' := [(1, .int (x2 - (1 : Int32))), (0, .ref this)]) d_Node_highestFree_6 rfl (by decide) rfl rfl ?_
  refine g_sub [1, 0] rfl ?_
  exact W_Node_highestFree_7 _ _ _ _ _ hy
theorem hd_Node_highestFree : g_dsc y_Node_highestFree 0 := ⟨by decide +kernel, by decide +kernel, by decide +kernel⟩
/-! CircuitDesk$Node.give(IIIZ)V -/
abbrev y_Node_give : MethodName := ⟨"CircuitDesk$Node", "give", "(IIIZ)V"⟩
abbrev k_Node_give : g_M := (prog_8_method_7_code, 5, "CircuitDesk$Node", 12, none, "give", [], 0)
theorem d_Node_give_0 : decode prog_8_method_7_code 0 = .ok (.aload_n 0, 1) := by decide +kernel
theorem d_Node_give_1 : decode prog_8_method_7_code 1 = .ok (.getfield 15, 3) := by decide +kernel
theorem d_Node_give_4 : decode prog_8_method_7_code 4 = .ok (.iload_n 1, 1) := by decide +kernel
theorem d_Node_give_5 : decode prog_8_method_7_code 5 = .ok (.iload_n 2, 1) := by decide +kernel
theorem d_Node_give_6 : decode prog_8_method_7_code 6 = .ok (.iastore, 1) := by decide +kernel
theorem d_Node_give_7 : decode prog_8_method_7_code 7 = .ok (.aload_n 0, 1) := by decide +kernel
theorem d_Node_give_8 : decode prog_8_method_7_code 8 = .ok (.getfield 19, 3) := by decide +kernel
theorem d_Node_give_11 : decode prog_8_method_7_code 11 = .ok (.iload_n 1, 1) := by decide +kernel
theorem d_Node_give_12 : decode prog_8_method_7_code 12 = .ok (.iload_n 3, 1) := by decide +kernel
theorem d_Node_give_13 : decode prog_8_method_7_code 13 = .ok (.iastore, 1) := by decide +kernel
theorem d_Node_give_14 : decode prog_8_method_7_code 14 = .ok (.aload_n 0, 1) := by decide +kernel
theorem d_Node_give_15 : decode prog_8_method_7_code 15 = .ok (.getfield 22, 3) := by decide +kernel
theorem d_Node_give_18 : decode prog_8_method_7_code 18 = .ok (.iload_n 1, 1) := by decide +kernel
theorem d_Node_give_19 : decode prog_8_method_7_code 19 = .ok (.iload 4, 2) := by decide +kernel
theorem d_Node_give_21 : decode prog_8_method_7_code 21 = .ok (.bastore, 1) := by decide +kernel
theorem d_Node_give_22 : decode prog_8_method_7_code 22 = .ok (.aload_n 0, 1) := by decide +kernel
theorem d_Node_give_23 : decode prog_8_method_7_code 23 = .ok (.getfield 26, 3) := by decide +kernel
theorem d_Node_give_26 : decode prog_8_method_7_code 26 = .ok (.iload_n 1, 1) := by decide +kernel
theorem d_Node_give_27 : decode prog_8_method_7_code 27 = .ok (.iconst 0, 1) := by decide +kernel
theorem d_Node_give_28 : decode prog_8_method_7_code 28 = .ok (.bastore, 1) := by decide +kernel
theorem d_Node_give_29 : decode prog_8_method_7_code 29 = .ok (.return_, 1) := by decide +kernel
def Node_give (h : g_AH) (this : Nat) (p0 : Int32) (p1 : Int32) (p2 : Int32) (p3 : Int32) : Option g_AH :=
  g_gR h this 10 1 fun x2 => g_nn x2 fun a5 => g_sI h 0 a5 p0 p1 fun h10 => g_gR h10 this 10 2 fun x12 => g_nn x12 fun a15 => g_sI h10 0 a15 p0 p2 fun h20 => g_gR h20 this 10 3 fun x22 => g_nn x22 fun a25 => g_sI h20 1 a25 p0 (vp_nar .boolean p3) fun h30 => g_gR h30 this 10 4 fun x32 => g_nn x32 fun a35 => g_sI h30 1 a35 p0 (vp_nar .boolean (0 : Int32)) fun h40 => some h40
set_option maxHeartbeats 4000000 in
set_option maxRecDepth 100000 in
theorem T_Node_give {l : Launch} {B : g_B} (h : g_AH) (this : Nat) (p0 : Int32) (p1 : Int32) (p2 : Int32) (p3 : Int32) (z : g_AH) (hy : Node_give h this p0 p1 p2 p3 = some z) : g_CT l B y_Node_give k_Node_give [.ref this, .int p0, .int p1, .int p2, .int p3] h (.inl none) z := by
  refine g_start2 (Lc := [(0, .ref this), (1, .int p0), (2, .int p1), (3, .int p2), (4, .int p3)]) (by decide) rfl rfl (by exact Nat.le_of_ble_eq_true rfl) (by rfl) fun X => ?_
  unfold Node_give at hy
  refine g_aload_n 0 (i := 0) (pc' := 1) d_Node_give_0 rfl rfl rfl ?_
  replace hy := g_gR_inv hy
  obtain ⟨fs1, x2, hc3, hv4, hy⟩ := hy
  refine g_getf (pc' := 4) d_Node_give_1 hc3 rfl (by decide) hv4 q1013 (Or.inl rfl) rfl ?_
  refine g_iload_n 1 (i := 1) (pc' := 5) d_Node_give_4 rfl rfl rfl ?_
  refine g_iload_n 2 (i := 2) (pc' := 6) d_Node_give_5 rfl rfl rfl ?_
  replace hy := g_nn_inv hy
  obtain ⟨a5, rfl, hy⟩ := hy
  replace hy := g_sI_inv hy
  obtain ⟨n6, f7, hc8, hi9, hy⟩ := hy
  refine g_iast (pc' := 7) d_Node_give_6 hc8 hi9 rfl ?_
  generalize g_up h a5 (.inl (0, n6, .inl (upd f7 (p0).toNatClampNeg p1))) = h10 at hy ⊢
  refine g_aload_n 0 (i := 0) (pc' := 8) d_Node_give_7 rfl rfl rfl ?_
  replace hy := g_gR_inv hy
  obtain ⟨fs11, x12, hc13, hv14, hy⟩ := hy
  refine g_getf (pc' := 11) d_Node_give_8 hc13 rfl (by decide) hv14 q1016 (Or.inl rfl) rfl ?_
  refine g_iload_n 1 (i := 1) (pc' := 12) d_Node_give_11 rfl rfl rfl ?_
  refine g_iload_n 3 (i := 3) (pc' := 13) d_Node_give_12 rfl rfl rfl ?_
  replace hy := g_nn_inv hy
  obtain ⟨a15, rfl, hy⟩ := hy
  replace hy := g_sI_inv hy
  obtain ⟨n16, f17, hc18, hi19, hy⟩ := hy
  refine g_iast (pc' := 14) d_Node_give_13 hc18 hi19 rfl ?_
  generalize g_up h10 a15 (.inl (0, n16, .inl (upd f17 (p0).toNatClampNeg p2))) = h20 at hy ⊢
  refine g_aload_n 0 (i := 0) (pc' := 15) d_Node_give_14 rfl rfl rfl ?_
  replace hy := g_gR_inv hy
  obtain ⟨fs21, x22, hc23, hv24, hy⟩ := hy
  refine g_getf (pc' := 18) d_Node_give_15 hc23 rfl (by decide) hv24 q1019 (Or.inl rfl) rfl ?_
  refine g_iload_n 1 (i := 1) (pc' := 19) d_Node_give_18 rfl rfl rfl ?_
  refine g_iload 4 (pc' := 21) d_Node_give_19 rfl rfl ?_
  replace hy := g_nn_inv hy
  obtain ⟨a25, rfl, hy⟩ := hy
  replace hy := g_sI_inv hy
  obtain ⟨n26, f27, hc28, hi29, hy⟩ := hy
  refine g_zast (pc' := 22) d_Node_give_21 hc28 hi29 rfl ?_
  generalize g_up h20 a25 (.inl (1, n26, .inl (upd f27 (p0).toNatClampNeg (vp_nar .boolean p3)))) = h30 at hy ⊢
  refine g_aload_n 0 (i := 0) (pc' := 23) d_Node_give_22 rfl rfl rfl ?_
  replace hy := g_gR_inv hy
  obtain ⟨fs31, x32, hc33, hv34, hy⟩ := hy
  refine g_getf (pc' := 26) d_Node_give_23 hc33 rfl (by decide) hv34 q1022 (Or.inl rfl) rfl ?_
  refine g_iload_n 1 (i := 1) (pc' := 27) d_Node_give_26 rfl rfl rfl ?_
  refine g_iconst (v := (0 : Int32)) (pc' := 28) d_Node_give_27 (by decide) rfl ?_
  replace hy := g_nn_inv hy
  obtain ⟨a35, rfl, hy⟩ := hy
  replace hy := g_sI_inv hy
  obtain ⟨n36, f37, hc38, hi39, hy⟩ := hy
  refine g_zast (pc' := 29) d_Node_give_28 hc38 hi39 rfl ?_
  generalize g_up h30 a35 (.inl (1, n36, .inl (upd f37 (p0).toNatClampNeg (vp_nar .boolean (0 : Int32))))) = h40 at hy ⊢
  cases hy
  exact g_vret rfl rfl rfl d_Node_give_29
theorem hd_Node_give : g_dsc y_Node_give 4 := ⟨by decide +kernel, by decide +kernel, by decide +kernel⟩
/-! CircuitDesk$Net.label(LCircuitDesk$Way;IIZ)Z -/
abbrev y_Net_label : MethodName := ⟨"CircuitDesk$Net", "label", "(LCircuitDesk$Way;IIZ)Z"⟩
abbrev k_Net_label : g_M := (prog_7_method_13_code, 10, "CircuitDesk$Net", 18, (some FieldType.boolean), "label", [], 0)
theorem d_Net_label_0 : decode prog_7_method_13_code 0 = .ok (.aload_n 1, 1) := by decide +kernel
theorem d_Net_label_1 : decode prog_7_method_13_code 1 = .ok (.getfield 138, 3) := by decide +kernel
theorem d_Net_label_4 : decode prog_7_method_13_code 4 = .ok (.iload_n 2, 1) := by decide +kernel
theorem d_Net_label_5 : decode prog_7_method_13_code 5 = .ok (.iaload, 1) := by decide +kernel
theorem d_Net_label_6 : decode prog_7_method_13_code 6 = .ok (.istore 5, 2) := by decide +kernel
theorem d_Net_label_8 : decode prog_7_method_13_code 8 = .ok (.aload_n 0, 1) := by decide +kernel
theorem d_Net_label_9 : decode prog_7_method_13_code 9 = .ok (.getfield 20, 3) := by decide +kernel
theorem d_Net_label_12 : decode prog_7_method_13_code 12 = .ok (.iload 5, 2) := by decide +kernel
theorem d_Net_label_14 : decode prog_7_method_13_code 14 = .ok (.invokevirtual 116, 3) := by decide +kernel
theorem d_Net_label_17 : decode prog_7_method_13_code 17 = .ok (.checkcast 62, 3) := by decide +kernel
theorem d_Net_label_20 : decode prog_7_method_13_code 20 = .ok (.invokevirtual 177, 3) := by decide +kernel
theorem d_Net_label_23 : decode prog_7_method_13_code 23 = .ok (.ifCond .le 7, 3) := by decide +kernel
theorem d_Net_label_26 : decode prog_7_method_13_code 26 = .ok (.iconst 1, 1) := by decide +kernel
theorem d_Net_label_27 : decode prog_7_method_13_code 27 = .ok (.goto 4, 3) := by decide +kernel
theorem d_Net_label_30 : decode prog_7_method_13_code 30 = .ok (.iconst 0, 1) := by decide +kernel
theorem d_Net_label_31 : decode prog_7_method_13_code 31 = .ok (.istore 6, 2) := by decide +kernel
theorem d_Net_label_33 : decode prog_7_method_13_code 33 = .ok (.iload 6, 2) := by decide +kernel
theorem d_Net_label_35 : decode prog_7_method_13_code 35 = .ok (.ifCond .eq 8, 3) := by decide +kernel
theorem d_Net_label_38 : decode prog_7_method_13_code 38 = .ok (.iload 5, 2) := by decide +kernel
theorem d_Net_label_40 : decode prog_7_method_13_code 40 = .ok (.goto 28, 3) := by decide +kernel
theorem d_Net_label_43 : decode prog_7_method_13_code 43 = .ok (.aload_n 0, 1) := by decide +kernel
theorem d_Net_label_44 : decode prog_7_method_13_code 44 = .ok (.iload 5, 2) := by decide +kernel
theorem d_Net_label_46 : decode prog_7_method_13_code 46 = .ok (.invokevirtual 180, 3) := by decide +kernel
theorem d_Net_label_49 : decode prog_7_method_13_code 49 = .ok (.aload_n 0, 1) := by decide +kernel
theorem d_Net_label_50 : decode prog_7_method_13_code 50 = .ok (.getfield 9, 3) := by decide +kernel
theorem d_Net_label_53 : decode prog_7_method_13_code 53 = .ok (.iconst 0, 1) := by decide +kernel
theorem d_Net_label_54 : decode prog_7_method_13_code 54 = .ok (.iaload, 1) := by decide +kernel
theorem d_Net_label_55 : decode prog_7_method_13_code 55 = .ok (.if_icmp .ge 12, 3) := by decide +kernel
theorem d_Net_label_58 : decode prog_7_method_13_code 58 = .ok (.aload_n 0, 1) := by decide +kernel
theorem d_Net_label_59 : decode prog_7_method_13_code 59 = .ok (.iload 5, 2) := by decide +kernel
theorem d_Net_label_61 : decode prog_7_method_13_code 61 = .ok (.invokevirtual 183, 3) := by decide +kernel
theorem d_Net_label_64 : decode prog_7_method_13_code 64 = .ok (.goto 4, 3) := by decide +kernel
theorem d_Net_label_67 : decode prog_7_method_13_code 67 = .ok (.iconst (-1), 1) := by decide +kernel
theorem d_Net_label_68 : decode prog_7_method_13_code 68 = .ok (.istore 7, 2) := by decide +kernel
theorem d_Net_label_70 : decode prog_7_method_13_code 70 = .ok (.iload 7, 2) := by decide +kernel
theorem d_Net_label_72 : decode prog_7_method_13_code 72 = .ok (.iconst (-1), 1) := by decide +kernel
theorem d_Net_label_73 : decode prog_7_method_13_code 73 = .ok (.if_icmp .ne 5, 3) := by decide +kernel
theorem d_Net_label_76 : decode prog_7_method_13_code 76 = .ok (.iconst 0, 1) := by decide +kernel
theorem d_Net_label_77 : decode prog_7_method_13_code 77 = .ok (.ireturn, 1) := by decide +kernel
theorem d_Net_label_78 : decode prog_7_method_13_code 78 = .ok (.aload_n 0, 1) := by decide +kernel
theorem d_Net_label_79 : decode prog_7_method_13_code 79 = .ok (.getfield 20, 3) := by decide +kernel
theorem d_Net_label_82 : decode prog_7_method_13_code 82 = .ok (.iload 7, 2) := by decide +kernel
theorem d_Net_label_84 : decode prog_7_method_13_code 84 = .ok (.invokevirtual 116, 3) := by decide +kernel
theorem d_Net_label_87 : decode prog_7_method_13_code 87 = .ok (.checkcast 62, 3) := by decide +kernel
theorem d_Net_label_90 : decode prog_7_method_13_code 90 = .ok (.astore 8, 2) := by decide +kernel
theorem d_Net_label_92 : decode prog_7_method_13_code 92 = .ok (.iload 6, 2) := by decide +kernel
theorem d_Net_label_94 : decode prog_7_method_13_code 94 = .ok (.ifCond .eq 11, 3) := by decide +kernel
theorem d_Net_label_97 : decode prog_7_method_13_code 97 = .ok (.aload 8, 2) := by decide +kernel
theorem d_Net_label_99 : decode prog_7_method_13_code 99 = .ok (.invokevirtual 186, 3) := by decide +kernel
theorem d_Net_label_102 : decode prog_7_method_13_code 102 = .ok (.goto 8, 3) := by decide +kernel
theorem d_Net_label_105 : decode prog_7_method_13_code 105 = .ok (.aload 8, 2) := by decide +kernel
theorem d_Net_label_107 : decode prog_7_method_13_code 107 = .ok (.invokevirtual 189, 3) := by decide +kernel
theorem d_Net_label_110 : decode prog_7_method_13_code 110 = .ok (.istore 9, 2) := by decide +kernel
theorem d_Net_label_112 : decode prog_7_method_13_code 112 = .ok (.aload 8, 2) := by decide +kernel
theorem d_Net_label_114 : decode prog_7_method_13_code 114 = .ok (.iload 9, 2) := by decide +kernel
theorem d_Net_label_116 : decode prog_7_method_13_code 116 = .ok (.iload 5, 2) := by decide +kernel
theorem d_Net_label_118 : decode prog_7_method_13_code 118 = .ok (.iload_n 3, 1) := by decide +kernel
theorem d_Net_label_119 : decode prog_7_method_13_code 119 = .ok (.iload 4, 2) := by decide +kernel
theorem d_Net_label_121 : decode prog_7_method_13_code 121 = .ok (.invokevirtual 192, 3) := by decide +kernel
theorem d_Net_label_124 : decode prog_7_method_13_code 124 = .ok (.aload_n 1, 1) := by decide +kernel
theorem d_Net_label_125 : decode prog_7_method_13_code 125 = .ok (.getfield 196, 3) := by decide +kernel
theorem d_Net_label_128 : decode prog_7_method_13_code 128 = .ok (.iload_n 2, 1) := by decide +kernel
theorem d_Net_label_129 : decode prog_7_method_13_code 129 = .ok (.iload 7, 2) := by decide +kernel
theorem d_Net_label_131 : decode prog_7_method_13_code 131 = .ok (.iastore, 1) := by decide +kernel
theorem d_Net_label_132 : decode prog_7_method_13_code 132 = .ok (.aload_n 1, 1) := by decide +kernel
theorem d_Net_label_133 : decode prog_7_method_13_code 133 = .ok (.getfield 199, 3) := by decide +kernel
theorem d_Net_label_136 : decode prog_7_method_13_code 136 = .ok (.iload_n 2, 1) := by decide +kernel
theorem d_Net_label_137 : decode prog_7_method_13_code 137 = .ok (.iload 9, 2) := by decide +kernel
theorem d_Net_label_139 : decode prog_7_method_13_code 139 = .ok (.iastore, 1) := by decide +kernel
theorem d_Net_label_140 : decode prog_7_method_13_code 140 = .ok (.iconst 1, 1) := by decide +kernel
theorem d_Net_label_141 : decode prog_7_method_13_code 141 = .ok (.ireturn, 1) := by decide +kernel
def Net_label_110 (h : g_AH) (v1 : Option Nat) (v2 : Int32) (v3 : Int32) (v4 : Int32) (v5 : Int32) (v7 : Int32) (v8 : Option Nat) (s0 : Int32) : Option (Int32 × g_AH) :=
  g_nn v8 fun a66 => g_is h a66 10 <| g_b (Node_give h a66 s0 v5 v3 v4) fun h70 => g_nn v1 fun a72 => g_gR h70 a72 6 1 fun x74 => g_nn x74 fun a77 => g_sI h70 0 a77 v2 v7 fun h82 => g_gR h82 a72 6 2 fun x84 => g_nn x84 fun a87 => g_sI h82 0 a87 v2 s0 fun h92 => some ((1 : Int32), h92)
set_option maxHeartbeats 4000000 in
set_option maxRecDepth 100000 in
theorem W_Net_label_110 {X : g_X} (z : Int32 × g_AH) (h : g_AH) (v1 : Option Nat) (v2 : Int32) (v3 : Int32) (v4 : Int32) (v5 : Int32) (v7 : Int32) (v8 : Option Nat) (s0 : Int32) (hy : Net_label_110  h v1 v2 v3 v4 v5 v7 v8 s0 = some z) : G X k_Net_label (.inl (some (.int z.1))) z.2 h 110 [(1, va_rf v1), (2, .int v2), (3, .int v3), (4, .int v4), (5, .int v5), (7, .int v7), (8, va_rf v8)] [.int s0] := by
  unfold Net_label_110 at hy
  refine g_istore (pc' := 112) (Lc' := [(9, .int s0), (1, va_rf v1), (2, .int v2), (3, .int v3), (4, .int v4), (5, .int v5), (7, .int v7), (8, va_rf v8)]) d_Net_label_110 (by decide) (by cases v8 <;> rfl) rfl ?_
  refine g_aloadO 7 (pc' := 114) d_Net_label_112 rfl rfl ?_
  refine g_iload 0 (pc' := 116) d_Net_label_114 rfl rfl ?_
  refine g_iload 5 (pc' := 118) d_Net_label_116 rfl rfl ?_
  refine g_iload_n 3 (i := 3) (pc' := 119) d_Net_label_118 rfl rfl rfl ?_
  refine g_iload 4 (pc' := 121) d_Net_label_119 rfl rfl ?_
  replace hy := g_nn_inv hy
  obtain ⟨a66, rfl, hy⟩ := hy
  replace hy := g_is_inv hy
  obtain ⟨fs67, hc68, hy⟩ := hy
  replace hy := g_b_inv hy
  obtain ⟨h70, hf71, hy⟩ := hy
  refine g_callV (rv := none) (h1 := h70) (pc' := 124) (As := [.int s0, .int v5, .int v3, .int v4]) (rest := []) 4 (T_Node_give (hy := hf71)) d_Net_label_121 hc68 rfl rfl q1270 q1271 q1272 q139 q1273 hd_Node_give rfl ⟨by decide, by decide⟩ (by first | exact Nat.le_of_ble_eq_true rfl | (simp only [List.map, List.sum_cons, List.sum_nil, g_cat_rf]; exact Nat.le_of_ble_eq_true rfl) | (simp only [List.map, List.sum_cons, List.sum_nil, g_cat_rf, Value.category]; decide)) rfl ?_
  refine g_aloadO_n 1 (i := 1) (pc' := 125) d_Net_label_124 rfl rfl rfl ?_
  replace hy := g_nn_inv hy
  obtain ⟨a72, rfl, hy⟩ := hy
  replace hy := g_gR_inv hy
  obtain ⟨fs73, x74, hc75, hv76, hy⟩ := hy
  refine g_getfN (pc' := 128) d_Net_label_125 hc75 rfl (by decide) hv76 q620 rfl rfl ?_
  refine g_iload_n 2 (i := 2) (pc' := 129) d_Net_label_128 rfl rfl rfl ?_
  refine g_iload 6 (pc' := 131) d_Net_label_129 rfl rfl ?_
  replace hy := g_nn_inv hy
  obtain ⟨a77, rfl, hy⟩ := hy
  replace hy := g_sI_inv hy
  obtain ⟨n78, f79, hc80, hi81, hy⟩ := hy
  refine g_iast (pc' := 132) d_Net_label_131 hc80 hi81 rfl ?_
  generalize g_up h70 a77 (.inl (0, n78, .inl (upd f79 (v2).toNatClampNeg v7))) = h82 at hy ⊢
  refine g_aload_n 1 (i := 1) (pc' := 133) d_Net_label_132 rfl rfl rfl ?_
  replace hy := g_gR_inv hy
  obtain ⟨fs83, x84, hc85, hv86, hy⟩ := hy
  refine g_getfN (pc' := 136) d_Net_label_133 hc85 rfl (by decide) hv86 q623 rfl rfl ?_
  refine g_iload_n 2 (i := 2) (pc' := 137) d_Net_label_136 rfl rfl rfl ?_
  refine g_iload 0 (pc' := 139) d_Net_label_137 rfl rfl ?_
  replace hy := g_nn_inv hy
  obtain ⟨a87, rfl, hy⟩ := hy
  replace hy := g_sI_inv hy
  obtain ⟨n88, f89, hc90, hi91, hy⟩ := hy
  refine g_iast (pc' := 140) d_Net_label_139 hc90 hi91 rfl ?_
  generalize g_up h82 a87 (.inl (0, n88, .inl (upd f89 (v2).toNatClampNeg s0))) = h92 at hy ⊢
  refine g_iconst (v := (1 : Int32)) (pc' := 141) d_Net_label_140 (by decide) rfl ?_
  cases hy
  exact g_zret rfl rfl rfl (g_nar_z (Or.inr rfl)).1 d_Net_label_141
def Net_label_68 (h : g_AH) (v0 : Nat) (v1 : Option Nat) (v2 : Int32) (v3 : Int32) (v4 : Int32) (v5 : Int32) (v6 : Int32) (s0 : Int32) : Option (Int32 × g_AH) :=
  if s0 = (-1 : Int32) then (some ((0 : Int32), h)) else (g_gR h v0 1 1 fun x49 => g_nn x49 fun a52 => g_is h a52 15 <| g_b (ArrayList_get h a52 s0) fun x55 => g_ck h x55 10 <| if v6 = 0 then (g_nn x55 fun a60 => g_is h a60 10 <| g_b (Node_highestFree h a60) fun x63 => Net_label_110  h v1 v2 v3 v4 v5 s0 (some a60) x63) else (g_nn x55 fun a94 => g_is h a94 10 <| g_b (Node_lowestFree h a94) fun x97 => Net_label_110  h v1 v2 v3 v4 v5 s0 (some a94) x97))
set_option maxHeartbeats 4000000 in
set_option maxRecDepth 100000 in
theorem W_Net_label_68 {X : g_X} (z : Int32 × g_AH) (h : g_AH) (v0 : Nat) (v1 : Option Nat) (v2 : Int32) (v3 : Int32) (v4 : Int32) (v5 : Int32) (v6 : Int32) (s0 : Int32) (hy : Net_label_68  h v0 v1 v2 v3 v4 v5 v6 s0 = some z) : G X k_Net_label (.inl (some (.int z.1))) z.2 h 68 [(0, .ref v0), (1, va_rf v1), (2, .int v2), (3, .int v3), (4, .int v4), (5, .int v5), (6, .int v6)] [.int s0] := by
  unfold Net_label_68 at hy
  refine g_istore (pc' := 70) (Lc' := [(7, .int s0), (0, .ref v0), (1, va_rf v1), (2, .int v2), (3, .int v3), (4, .int v4), (5, .int v5), (6, .int v6)]) d_Net_label_68 (by decide) rfl rfl ?_
  refine g_iload 0 (pc' := 72) d_Net_label_70 rfl rfl ?_
  refine g_iconst (v := (-1 : Int32)) (pc' := 73) d_Net_label_72 (by decide) rfl ?_
  by_cases c47 : s0 = (-1 : Int32)
  · rw [if_pos c47] at hy
    refine g_icmp_neF (pc' := 76) d_Net_label_73 78 c47 (by decide) rfl ?_
    refine g_iconst (v := (0 : Int32)) (pc' := 77) d_Net_label_76 (by decide) rfl ?_
    cases hy
    exact g_zret rfl rfl rfl (g_nar_z (Or.inl rfl)).1 d_Net_label_77
  · rw [if_neg c47] at hy
    refine g_icmp_neT (pc' := 78) d_Net_label_73 c47 (by decide) ?_
    refine g_aload_n 1 (i := 0) (pc' := 79) d_Net_label_78 rfl rfl rfl ?_
    replace hy := g_gR_inv hy
    obtain ⟨fs48, x49, hc50, hv51, hy⟩ := hy
    refine g_getf (pc' := 82) d_Net_label_79 hc50 rfl (by decide) hv51 q547 (Or.inl rfl) rfl ?_
    refine g_iload 0 (pc' := 84) d_Net_label_82 rfl rfl ?_
    replace hy := g_nn_inv hy
    obtain ⟨a52, rfl, hy⟩ := hy
    replace hy := g_is_inv hy
    obtain ⟨fs53, hc54, hy⟩ := hy
    replace hy := g_b_inv hy
    obtain ⟨x55, hf57, hy⟩ := hy
    refine g_callV (rv := some (va_rf x55)) (h1 := h) (pc' := 87) (As := [.int s0]) (rest := []) 1 (T_ArrayList_get (hy := hf57)) d_Net_label_84 hc54 rfl rfl q682 q683 q684 q112 q685 hd_ArrayList_get rfl ⟨by decide, by decide⟩ (by first | exact Nat.le_of_ble_eq_true rfl | (simp only [List.map, List.sum_cons, List.sum_nil, g_cat_rf]; exact Nat.le_of_ble_eq_true rfl) | (simp only [List.map, List.sum_cons, List.sum_nil, g_cat_rf, Value.category]; decide)) rfl ?_
    replace hy := g_ck_inv hy
    obtain ⟨hk58, hy⟩ := hy
    refine g_castO (pc' := 90) d_Net_label_87 hk58 rfl q1243 rfl ?_
    refine g_astoreO (pc' := 92) (Lc' := [(8, va_rf x55), (7, .int s0), (0, .ref v0), (1, va_rf v1), (2, .int v2), (3, .int v3), (4, .int v4), (5, .int v5), (6, .int v6)]) d_Net_label_90 (by decide) rfl rfl ?_
    refine g_iload 8 (pc' := 94) d_Net_label_92 rfl rfl ?_
    by_cases c59 : v6 = 0
    · rw [if_pos c59] at hy
      refine g_if_eqT (pc' := 105) d_Net_label_94 c59 (by decide) ?_
      refine g_aloadO 0 (pc' := 107) d_Net_label_105 rfl rfl ?_
      replace hy := g_nn_inv hy
      obtain ⟨a60, rfl, hy⟩ := hy
      replace hy := g_is_inv hy
      obtain ⟨fs61, hc62, hy⟩ := hy
      replace hy := g_b_inv hy
      obtain ⟨x63, hf65, hy⟩ := hy
      refine g_callV (rv := some (.int x63)) (h1 := h) (pc' := 110) (As := []) (rest := []) 0 (T_Node_highestFree (hy := hf65)) d_Net_label_107 hc62 rfl rfl q1266 q1267 q1268 q139 q1269 hd_Node_highestFree rfl ⟨by decide, by decide⟩ (by first | exact Nat.le_of_ble_eq_true rfl | (simp only [List.map, List.sum_cons, List.sum_nil, g_cat_rf]; exact Nat.le_of_ble_eq_true rfl) | (simp only [List.map, List.sum_cons, List.sum_nil, g_cat_rf, Value.category]; decide)) rfl ?_
      refine g_sub [3, 4, 5, 6, 7, 1, 0] rfl ?_
      exact W_Net_label_110 _ _ _ _ _ _ _ _ _ _ hy
    · rw [if_neg c59] at hy
      refine g_if_eqF (pc' := 97) d_Net_label_94 105 c59 (by decide) rfl ?_
      refine g_aloadO 0 (pc' := 99) d_Net_label_97 rfl rfl ?_
      replace hy := g_nn_inv hy
      obtain ⟨a94, rfl, hy⟩ := hy
      replace hy := g_is_inv hy
      obtain ⟨fs95, hc96, hy⟩ := hy
      replace hy := g_b_inv hy
      obtain ⟨x97, hf99, hy⟩ := hy
      refine g_callV (rv := some (.int x97)) (h1 := h) (pc' := 102) (As := []) (rest := []) 0 (T_Node_lowestFree (hy := hf99)) d_Net_label_99 hc96 rfl rfl q1262 q1263 q1264 q139 q1265 hd_Node_lowestFree rfl ⟨by decide, by decide⟩ (by first | exact Nat.le_of_ble_eq_true rfl | (simp only [List.map, List.sum_cons, List.sum_nil, g_cat_rf]; exact Nat.le_of_ble_eq_true rfl) | (simp only [List.map, List.sum_cons, List.sum_nil, g_cat_rf, Value.category]; decide)) rfl ?_
      refine g_goto (pc' := 110) d_Net_label_102 (by decide) ?_
      refine g_sub [3, 4, 5, 6, 7, 1, 0] rfl ?_
      exact W_Net_label_110 _ _ _ _ _ _ _ _ _ _ hy
def Net_label_31 (h : g_AH) (v0 : Nat) (v1 : Option Nat) (v2 : Int32) (v3 : Int32) (v4 : Int32) (v5 : Int32) (s0 : Int32) : Option (Int32 × g_AH) :=
  if s0 = 0 then (g_is h v0 1 <| g_b (Net_borrowedBy h v0 v5) fun x33 => g_gR h v0 1 0 fun x37 => g_nn x37 fun a40 => g_aI h 0 a40 (0 : Int32) fun x41 => if x41 ≤ x33 then (Net_label_68  h v0 v1 v2 v3 v4 v5 s0 (-1 : Int32)) else (g_is h v0 1 <| g_b (Net_lenderTo h v0 v5) fun x103 => Net_label_68  h v0 v1 v2 v3 v4 v5 s0 x103)) else (Net_label_68  h v0 v1 v2 v3 v4 v5 s0 v5)
set_option maxHeartbeats 4000000 in
set_option maxRecDepth 100000 in
theorem W_Net_label_31 {X : g_X} (z : Int32 × g_AH) (h : g_AH) (v0 : Nat) (v1 : Option Nat) (v2 : Int32) (v3 : Int32) (v4 : Int32) (v5 : Int32) (s0 : Int32) (hy : Net_label_31  h v0 v1 v2 v3 v4 v5 s0 = some z) : G X k_Net_label (.inl (some (.int z.1))) z.2 h 31 [(0, .ref v0), (1, va_rf v1), (2, .int v2), (3, .int v3), (4, .int v4), (5, .int v5)] [.int s0] := by
  unfold Net_label_31 at hy
  refine g_istore (pc' := 33) (Lc' := [(6, .int s0), (0, .ref v0), (1, va_rf v1), (2, .int v2), (3, .int v3), (4, .int v4), (5, .int v5)]) d_Net_label_31 (by decide) rfl rfl ?_
  refine g_iload 0 (pc' := 35) d_Net_label_33 rfl rfl ?_
  by_cases c30 : s0 = 0
  · rw [if_pos c30] at hy
    refine g_if_eqT (pc' := 43) d_Net_label_35 c30 (by decide) ?_
    refine g_aload_n 1 (i := 0) (pc' := 44) d_Net_label_43 rfl rfl rfl ?_
    refine g_iload 6 (pc' := 46) d_Net_label_44 rfl rfl ?_
    replace hy := g_is_inv hy
    obtain ⟨fs31, hc32, hy⟩ := hy
    replace hy := g_b_inv hy
    obtain ⟨x33, hf35, hy⟩ := hy
    refine g_callV (rv := some (.int x33)) (h1 := h) (pc' := 49) (As := [.int v5]) (rest := []) 1 (T_Net_borrowedBy (hy := hf35)) d_Net_label_46 hc32 rfl rfl q1252 q1253 q1254 q109 q1255 hd_Net_borrowedBy rfl ⟨by decide, by decide⟩ (by first | exact Nat.le_of_ble_eq_true rfl | (simp only [List.map, List.sum_cons, List.sum_nil, g_cat_rf]; exact Nat.le_of_ble_eq_true rfl) | (simp only [List.map, List.sum_cons, List.sum_nil, g_cat_rf, Value.category]; decide)) rfl ?_
    refine g_aload_n 1 (i := 0) (pc' := 50) d_Net_label_49 rfl rfl rfl ?_
    replace hy := g_gR_inv hy
    obtain ⟨fs36, x37, hc38, hv39, hy⟩ := hy
    refine g_getf (pc' := 53) d_Net_label_50 hc38 rfl (by decide) hv39 q543 (Or.inl rfl) rfl ?_
    refine g_iconst (v := (0 : Int32)) (pc' := 54) d_Net_label_53 (by decide) rfl ?_
    replace hy := g_nn_inv hy
    obtain ⟨a40, rfl, hy⟩ := hy
    replace hy := g_aI_inv hy
    obtain ⟨n42, f43, hc44, hi45, hy⟩ := hy
    refine g_iald (pc' := 55) d_Net_label_54 hc44 hi45 rfl ?_
    generalize f43 ((0 : Int32)).toNatClampNeg = x41 at hy ⊢
    by_cases c46 : x41 ≤ x33
    · rw [if_pos c46] at hy
      refine g_icmp_geT (pc' := 67) d_Net_label_55 c46 (by decide) ?_
      refine g_iconst (v := (-1 : Int32)) (pc' := 68) d_Net_label_67 (by decide) rfl ?_
      refine g_sub [1, 2, 3, 4, 5, 6, 0] rfl ?_
      exact W_Net_label_68 _ _ _ _ _ _ _ _ _ _ hy
    · rw [if_neg c46] at hy
      refine g_icmp_geF (pc' := 58) d_Net_label_55 67 c46 (by decide) rfl ?_
      refine g_aload_n 1 (i := 0) (pc' := 59) d_Net_label_58 rfl rfl rfl ?_
      refine g_iload 6 (pc' := 61) d_Net_label_59 rfl rfl ?_
      replace hy := g_is_inv hy
      obtain ⟨fs101, hc102, hy⟩ := hy
      replace hy := g_b_inv hy
      obtain ⟨x103, hf105, hy⟩ := hy
      refine g_callV (rv := some (.int x103)) (h1 := h) (pc' := 64) (As := [.int v5]) (rest := []) 1 (T_Net_lenderTo (hy := hf105)) d_Net_label_61 hc102 rfl rfl q1257 q1259 qs14 q109 q1260 hd_Net_lenderTo rfl ⟨by decide, by decide⟩ (by first | exact Nat.le_of_ble_eq_true rfl | (simp only [List.map, List.sum_cons, List.sum_nil, g_cat_rf]; exact Nat.le_of_ble_eq_true rfl) | (simp only [List.map, List.sum_cons, List.sum_nil, g_cat_rf, Value.category]; decide)) rfl ?_
      refine g_goto (pc' := 68) d_Net_label_64 (by decide) ?_
      refine g_sub [1, 2, 3, 4, 5, 6, 0] rfl ?_
      exact W_Net_label_68 _ _ _ _ _ _ _ _ _ _ hy
  · rw [if_neg c30] at hy
    refine g_if_eqF (pc' := 38) d_Net_label_35 43 c30 (by decide) rfl ?_
    refine g_iload 6 (pc' := 40) d_Net_label_38 rfl rfl ?_
    refine g_goto (pc' := 68) d_Net_label_40 (by decide) ?_
    refine g_sub [1, 2, 3, 4, 5, 6, 0] rfl ?_
    exact W_Net_label_68 _ _ _ _ _ _ _ _ _ _ hy
def Net_label (h : g_AH) (this : Nat) (p0 : Option Nat) (p1 : Int32) (p2 : Int32) (p3 : Int32) : Option (Int32 × g_AH) :=
  g_nn p0 fun a1 => g_gR h a1 6 0 fun x3 => g_nn x3 fun a6 => g_aI h 0 a6 p1 fun x7 => g_gR h this 1 1 fun x13 => g_nn x13 fun a16 => g_is h a16 15 <| g_b (ArrayList_get h a16 x7) fun x19 => g_ck h x19 10 <| g_nn x19 fun a23 => g_is h a23 10 <| g_b (Node_free h a23) fun x26 => if x26 ≤ 0 then (Net_label_31  h this (some a1) p1 p2 p3 x7 (0 : Int32)) else (Net_label_31  h this (some a1) p1 p2 p3 x7 (1 : Int32))
set_option maxHeartbeats 4000000 in
set_option maxRecDepth 100000 in
theorem T_Net_label {l : Launch} {B : g_B} (h : g_AH) (this : Nat) (p0 : Option Nat) (p1 : Int32) (p2 : Int32) (p3 : Int32) (z : Int32 × g_AH) (hy : Net_label h this p0 p1 p2 p3 = some z) : g_CT l B y_Net_label k_Net_label [.ref this, va_rf p0, .int p1, .int p2, .int p3] h (.inl (some (.int z.1))) z.2 := by
  refine g_start2 (Lc := [(0, .ref this), (1, va_rf p0), (2, .int p1), (3, .int p2), (4, .int p3)]) (by decide) rfl rfl (by rcases p0 with _ | p0 <;> exact Nat.le_of_ble_eq_true rfl) (by rcases p0 with _ | p0 <;> rfl) fun X => ?_
  unfold Net_label at hy
  refine g_aloadO_n 1 (i := 1) (pc' := 1) d_Net_label_0 rfl rfl rfl ?_
  replace hy := g_nn_inv hy
  obtain ⟨a1, rfl, hy⟩ := hy
  replace hy := g_gR_inv hy
  obtain ⟨fs2, x3, hc4, hv5, hy⟩ := hy
  refine g_getfN (pc' := 4) d_Net_label_1 hc4 rfl (by decide) hv5 q617 rfl rfl ?_
  refine g_iload_n 2 (i := 2) (pc' := 5) d_Net_label_4 rfl rfl rfl ?_
  replace hy := g_nn_inv hy
  obtain ⟨a6, rfl, hy⟩ := hy
  replace hy := g_aI_inv hy
  obtain ⟨n8, f9, hc10, hi11, hy⟩ := hy
  refine g_iald (pc' := 6) d_Net_label_5 hc10 hi11 rfl ?_
  generalize f9 (p1).toNatClampNeg = x7 at hy ⊢
  refine g_istore (pc' := 8) (Lc' := [(5, .int x7), (0, .ref this), (1, .ref a1), (2, .int p1), (3, .int p2), (4, .int p3)]) d_Net_label_6 (by decide) rfl rfl ?_
  refine g_aload_n 1 (i := 0) (pc' := 9) d_Net_label_8 rfl rfl rfl ?_
  replace hy := g_gR_inv hy
  obtain ⟨fs12, x13, hc14, hv15, hy⟩ := hy
  refine g_getf (pc' := 12) d_Net_label_9 hc14 rfl (by decide) hv15 q547 (Or.inl rfl) rfl ?_
  refine g_iload 0 (pc' := 14) d_Net_label_12 rfl rfl ?_
  replace hy := g_nn_inv hy
  obtain ⟨a16, rfl, hy⟩ := hy
  replace hy := g_is_inv hy
  obtain ⟨fs17, hc18, hy⟩ := hy
  replace hy := g_b_inv hy
  obtain ⟨x19, hf21, hy⟩ := hy
  refine g_callV (rv := some (va_rf x19)) (h1 := h) (pc' := 17) (As := [.int x7]) (rest := []) 1 (T_ArrayList_get (hy := hf21)) d_Net_label_14 hc18 rfl rfl q682 q683 q684 q112 q685 hd_ArrayList_get rfl ⟨by decide, by decide⟩ (by first | exact Nat.le_of_ble_eq_true rfl | (simp only [List.map, List.sum_cons, List.sum_nil, g_cat_rf]; exact Nat.le_of_ble_eq_true rfl) | (simp only [List.map, List.sum_cons, List.sum_nil, g_cat_rf, Value.category]; decide)) rfl ?_
  replace hy := g_ck_inv hy
  obtain ⟨hk22, hy⟩ := hy
  refine g_castO (pc' := 20) d_Net_label_17 hk22 rfl q1243 rfl ?_
  replace hy := g_nn_inv hy
  obtain ⟨a23, rfl, hy⟩ := hy
  replace hy := g_is_inv hy
  obtain ⟨fs24, hc25, hy⟩ := hy
  replace hy := g_b_inv hy
  obtain ⟨x26, hf28, hy⟩ := hy
  refine g_callV (rv := some (.int x26)) (h1 := h) (pc' := 23) (As := []) (rest := []) 0 (T_Node_free (hy := hf28)) d_Net_label_20 hc25 rfl rfl q1244 q1245 q1246 q139 q1247 hd_Node_free rfl ⟨by decide, by decide⟩ (by first | exact Nat.le_of_ble_eq_true rfl | (simp only [List.map, List.sum_cons, List.sum_nil, g_cat_rf]; exact Nat.le_of_ble_eq_true rfl) | (simp only [List.map, List.sum_cons, List.sum_nil, g_cat_rf, Value.category]; decide)) rfl ?_
  by_cases c29 : x26 ≤ 0
  · rw [if_pos c29] at hy
    refine g_if_leT (pc' := 30) d_Net_label_23 c29 (by decide) ?_
    refine g_iconst (v := (0 : Int32)) (pc' := 31) d_Net_label_30 (by decide) rfl ?_
    refine g_sub [1, 2, 3, 4, 5, 0] rfl ?_
    exact W_Net_label_31 _ _ _ _ _ _ _ _ _ hy
  · rw [if_neg c29] at hy
    refine g_if_leF (pc' := 26) d_Net_label_23 30 c29 (by decide) rfl ?_
    refine g_iconst (v := (1 : Int32)) (pc' := 27) d_Net_label_26 (by decide) rfl ?_
    refine g_goto (pc' := 31) d_Net_label_27 (by decide) ?_
    refine g_sub [1, 2, 3, 4, 5, 0] rfl ?_
    exact W_Net_label_31 _ _ _ _ _ _ _ _ _ hy
theorem hd_Net_label : g_dsc y_Net_label 4 := ⟨by decide +kernel, by decide +kernel, by decide +kernel⟩
/-! CircuitDesk$Net.giveUp(LCircuitDesk$Way;I)V -/
abbrev y_Net_giveUp : MethodName := ⟨"CircuitDesk$Net", "giveUp", "(LCircuitDesk$Way;I)V"⟩
abbrev k_Net_giveUp : g_M := (prog_7_method_15_code, 3, "CircuitDesk$Net", 15, none, "giveUp", [], 0)
theorem d_Net_giveUp_0 : decode prog_7_method_15_code 0 = .ok (.aload_n 1, 1) := by decide +kernel
theorem d_Net_giveUp_1 : decode prog_7_method_15_code 1 = .ok (.getfield 196, 3) := by decide +kernel
theorem d_Net_giveUp_4 : decode prog_7_method_15_code 4 = .ok (.iload_n 2, 1) := by decide +kernel
theorem d_Net_giveUp_5 : decode prog_7_method_15_code 5 = .ok (.iaload, 1) := by decide +kernel
theorem d_Net_giveUp_6 : decode prog_7_method_15_code 6 = .ok (.iconst (-1), 1) := by decide +kernel
theorem d_Net_giveUp_7 : decode prog_7_method_15_code 7 = .ok (.if_icmp .eq 31, 3) := by decide +kernel
theorem d_Net_giveUp_10 : decode prog_7_method_15_code 10 = .ok (.aload_n 0, 1) := by decide +kernel
theorem d_Net_giveUp_11 : decode prog_7_method_15_code 11 = .ok (.getfield 20, 3) := by decide +kernel
theorem d_Net_giveUp_14 : decode prog_7_method_15_code 14 = .ok (.aload_n 1, 1) := by decide +kernel
theorem d_Net_giveUp_15 : decode prog_7_method_15_code 15 = .ok (.getfield 196, 3) := by decide +kernel
theorem d_Net_giveUp_18 : decode prog_7_method_15_code 18 = .ok (.iload_n 2, 1) := by decide +kernel
theorem d_Net_giveUp_19 : decode prog_7_method_15_code 19 = .ok (.iaload, 1) := by decide +kernel
theorem d_Net_giveUp_20 : decode prog_7_method_15_code 20 = .ok (.invokevirtual 116, 3) := by decide +kernel
theorem d_Net_giveUp_23 : decode prog_7_method_15_code 23 = .ok (.checkcast 62, 3) := by decide +kernel
theorem d_Net_giveUp_26 : decode prog_7_method_15_code 26 = .ok (.aload_n 1, 1) := by decide +kernel
theorem d_Net_giveUp_27 : decode prog_7_method_15_code 27 = .ok (.getfield 199, 3) := by decide +kernel
theorem d_Net_giveUp_30 : decode prog_7_method_15_code 30 = .ok (.iload_n 2, 1) := by decide +kernel
theorem d_Net_giveUp_31 : decode prog_7_method_15_code 31 = .ok (.iaload, 1) := by decide +kernel
theorem d_Net_giveUp_32 : decode prog_7_method_15_code 32 = .ok (.iconst (-1), 1) := by decide +kernel
theorem d_Net_giveUp_33 : decode prog_7_method_15_code 33 = .ok (.iconst (-1), 1) := by decide +kernel
theorem d_Net_giveUp_34 : decode prog_7_method_15_code 34 = .ok (.iconst 0, 1) := by decide +kernel
theorem d_Net_giveUp_35 : decode prog_7_method_15_code 35 = .ok (.invokevirtual 192, 3) := by decide +kernel
theorem d_Net_giveUp_38 : decode prog_7_method_15_code 38 = .ok (.aload_n 1, 1) := by decide +kernel
theorem d_Net_giveUp_39 : decode prog_7_method_15_code 39 = .ok (.getfield 196, 3) := by decide +kernel
theorem d_Net_giveUp_42 : decode prog_7_method_15_code 42 = .ok (.iload_n 2, 1) := by decide +kernel
theorem d_Net_giveUp_43 : decode prog_7_method_15_code 43 = .ok (.iconst (-1), 1) := by decide +kernel
theorem d_Net_giveUp_44 : decode prog_7_method_15_code 44 = .ok (.iastore, 1) := by decide +kernel
theorem d_Net_giveUp_45 : decode prog_7_method_15_code 45 = .ok (.aload_n 1, 1) := by decide +kernel
theorem d_Net_giveUp_46 : decode prog_7_method_15_code 46 = .ok (.getfield 199, 3) := by decide +kernel
theorem d_Net_giveUp_49 : decode prog_7_method_15_code 49 = .ok (.iload_n 2, 1) := by decide +kernel
theorem d_Net_giveUp_50 : decode prog_7_method_15_code 50 = .ok (.iconst (-1), 1) := by decide +kernel
theorem d_Net_giveUp_51 : decode prog_7_method_15_code 51 = .ok (.iastore, 1) := by decide +kernel
theorem d_Net_giveUp_52 : decode prog_7_method_15_code 52 = .ok (.return_, 1) := by decide +kernel
def Net_giveUp_38 (h : g_AH) (v1 : Option Nat) (v2 : Int32) : Option g_AH :=
  g_nn v1 fun a13 => g_gR h a13 6 1 fun x15 => g_nn x15 fun a18 => g_sI h 0 a18 v2 (-1 : Int32) fun h23 => g_gR h23 a13 6 2 fun x25 => g_nn x25 fun a28 => g_sI h23 0 a28 v2 (-1 : Int32) fun h33 => some h33
set_option maxHeartbeats 4000000 in
set_option maxRecDepth 100000 in
theorem W_Net_giveUp_38 {X : g_X} (z : g_AH) (h : g_AH) (v1 : Option Nat) (v2 : Int32) (hy : Net_giveUp_38  h v1 v2 = some z) : G X k_Net_giveUp (.inl none) z h 38 [(1, va_rf v1), (2, .int v2)] [] := by
  unfold Net_giveUp_38 at hy
  refine g_aloadO_n 0 (i := 1) (pc' := 39) d_Net_giveUp_38 rfl rfl rfl ?_
  replace hy := g_nn_inv hy
  obtain ⟨a13, rfl, hy⟩ := hy
  replace hy := g_gR_inv hy
  obtain ⟨fs14, x15, hc16, hv17, hy⟩ := hy
  refine g_getfN (pc' := 42) d_Net_giveUp_39 hc16 rfl (by decide) hv17 q620 rfl rfl ?_
  refine g_iload_n 1 (i := 2) (pc' := 43) d_Net_giveUp_42 rfl rfl rfl ?_
  refine g_iconst (v := (-1 : Int32)) (pc' := 44) d_Net_giveUp_43 (by decide) rfl ?_
  replace hy := g_nn_inv hy
  obtain ⟨a18, rfl, hy⟩ := hy
  replace hy := g_sI_inv hy
  obtain ⟨n19, f20, hc21, hi22, hy⟩ := hy
  refine g_iast (pc' := 45) d_Net_giveUp_44 hc21 hi22 rfl ?_
  generalize g_up h a18 (.inl (0, n19, .inl (upd f20 (v2).toNatClampNeg (-1 : Int32)))) = h23 at hy ⊢
  refine g_aload_n 0 (i := 1) (pc' := 46) d_Net_giveUp_45 rfl rfl rfl ?_
  replace hy := g_gR_inv hy
  obtain ⟨fs24, x25, hc26, hv27, hy⟩ := hy
  refine g_getfN (pc' := 49) d_Net_giveUp_46 hc26 rfl (by decide) hv27 q623 rfl rfl ?_
  refine g_iload_n 1 (i := 2) (pc' := 50) d_Net_giveUp_49 rfl rfl rfl ?_
  refine g_iconst (v := (-1 : Int32)) (pc' := 51) d_Net_giveUp_50 (by decide) rfl ?_
  replace hy := g_nn_inv hy
  obtain ⟨a28, rfl, hy⟩ := hy
  replace hy := g_sI_inv hy
  obtain ⟨n29, f30, hc31, hi32, hy⟩ := hy
  refine g_iast (pc' := 52) d_Net_giveUp_51 hc31 hi32 rfl ?_
  generalize g_up h23 a28 (.inl (0, n29, .inl (upd f30 (v2).toNatClampNeg (-1 : Int32)))) = h33 at hy ⊢
  cases hy
  exact g_vret rfl rfl rfl d_Net_giveUp_52
def Net_giveUp (h : g_AH) (this : Nat) (p0 : Option Nat) (p1 : Int32) : Option g_AH :=
  g_nn p0 fun a1 => g_gR h a1 6 1 fun x3 => g_nn x3 fun a6 => g_aI h 0 a6 p1 fun x7 => if x7 = (-1 : Int32) then (Net_giveUp_38  h (some a1) p1) else (g_gR h this 1 1 fun x35 => g_gR h a1 6 1 fun x39 => g_nn x39 fun a42 => g_aI h 0 a42 p1 fun x43 => g_nn x35 fun a48 => g_is h a48 15 <| g_b (ArrayList_get h a48 x43) fun x51 => g_ck h x51 10 <| g_gR h a1 6 2 fun x56 => g_nn x56 fun a59 => g_aI h 0 a59 p1 fun x60 => g_nn x51 fun a65 => g_is h a65 10 <| g_b (Node_give h a65 x60 (-1 : Int32) (-1 : Int32) (0 : Int32)) fun h69 => Net_giveUp_38  h69 (some a1) p1)
set_option maxHeartbeats 4000000 in
set_option maxRecDepth 100000 in
theorem T_Net_giveUp {l : Launch} {B : g_B} (h : g_AH) (this : Nat) (p0 : Option Nat) (p1 : Int32) (z : g_AH) (hy : Net_giveUp h this p0 p1 = some z) : g_CT l B y_Net_giveUp k_Net_giveUp [.ref this, va_rf p0, .int p1] h (.inl none) z := by
  refine g_start2 (Lc := [(0, .ref this), (1, va_rf p0), (2, .int p1)]) (by decide) rfl rfl (by rcases p0 with _ | p0 <;> exact Nat.le_of_ble_eq_true rfl) (by rcases p0 with _ | p0 <;> rfl) fun X => ?_
  unfold Net_giveUp at hy
  refine g_aloadO_n 1 (i := 1) (pc' := 1) d_Net_giveUp_0 rfl rfl rfl ?_
  replace hy := g_nn_inv hy
  obtain ⟨a1, rfl, hy⟩ := hy
  replace hy := g_gR_inv hy
  obtain ⟨fs2, x3, hc4, hv5, hy⟩ := hy
  refine g_getfN (pc' := 4) d_Net_giveUp_1 hc4 rfl (by decide) hv5 q620 rfl rfl ?_
  refine g_iload_n 2 (i := 2) (pc' := 5) d_Net_giveUp_4 rfl rfl rfl ?_
  replace hy := g_nn_inv hy
  obtain ⟨a6, rfl, hy⟩ := hy
  replace hy := g_aI_inv hy
  obtain ⟨n8, f9, hc10, hi11, hy⟩ := hy
  refine g_iald (pc' := 6) d_Net_giveUp_5 hc10 hi11 rfl ?_
  generalize f9 (p1).toNatClampNeg = x7 at hy ⊢
  refine g_iconst (v := (-1 : Int32)) (pc' := 7) d_Net_giveUp_6 (by decide) rfl ?_
  by_cases c12 : x7 = (-1 : Int32)
  · rw [if_pos c12] at hy
    refine g_icmp_eqT (pc' := 38) d_Net_giveUp_7 c12 (by decide) ?_
    refine g_sub [1, 2] rfl ?_
    exact W_Net_giveUp_38 _ _ _ _ hy
  · rw [if_neg c12] at hy
    refine g_icmp_eqF (pc' := 10) d_Net_giveUp_7 38 c12 (by decide) rfl ?_
    refine g_aload_n 0 (i := 0) (pc' := 11) d_Net_giveUp_10 rfl rfl rfl ?_
    replace hy := g_gR_inv hy
    obtain ⟨fs34, x35, hc36, hv37, hy⟩ := hy
    refine g_getf (pc' := 14) d_Net_giveUp_11 hc36 rfl (by decide) hv37 q547 (Or.inl rfl) rfl ?_
    refine g_aload_n 1 (i := 1) (pc' := 15) d_Net_giveUp_14 rfl rfl rfl ?_
    replace hy := g_gR_inv hy
    obtain ⟨fs38, x39, hc40, hv41, hy⟩ := hy
    refine g_getfN (pc' := 18) d_Net_giveUp_15 hc40 rfl (by decide) hv41 q620 rfl rfl ?_
    refine g_iload_n 2 (i := 2) (pc' := 19) d_Net_giveUp_18 rfl rfl rfl ?_
    replace hy := g_nn_inv hy
    obtain ⟨a42, rfl, hy⟩ := hy
    replace hy := g_aI_inv hy
    obtain ⟨n44, f45, hc46, hi47, hy⟩ := hy
    refine g_iald (pc' := 20) d_Net_giveUp_19 hc46 hi47 rfl ?_
    generalize f45 (p1).toNatClampNeg = x43 at hy ⊢
    replace hy := g_nn_inv hy
    obtain ⟨a48, rfl, hy⟩ := hy
    replace hy := g_is_inv hy
    obtain ⟨fs49, hc50, hy⟩ := hy
    replace hy := g_b_inv hy
    obtain ⟨x51, hf53, hy⟩ := hy
    refine g_callV (rv := some (va_rf x51)) (h1 := h) (pc' := 23) (As := [.int x43]) (rest := []) 1 (T_ArrayList_get (hy := hf53)) d_Net_giveUp_20 hc50 rfl rfl q682 q683 q684 q112 q685 hd_ArrayList_get rfl ⟨by decide, by decide⟩ (by first | exact Nat.le_of_ble_eq_true rfl | (simp only [List.map, List.sum_cons, List.sum_nil, g_cat_rf]; exact Nat.le_of_ble_eq_true rfl) | (simp only [List.map, List.sum_cons, List.sum_nil, g_cat_rf, Value.category]; decide)) rfl ?_
    replace hy := g_ck_inv hy
    obtain ⟨hk54, hy⟩ := hy
    refine g_castO (pc' := 26) d_Net_giveUp_23 hk54 rfl q1243 rfl ?_
    refine g_aload_n 1 (i := 1) (pc' := 27) d_Net_giveUp_26 rfl rfl rfl ?_
    replace hy := g_gR_inv hy
    obtain ⟨fs55, x56, hc57, hv58, hy⟩ := hy
    refine g_getfN (pc' := 30) d_Net_giveUp_27 hc57 rfl (by decide) hv58 q623 rfl rfl ?_
    refine g_iload_n 2 (i := 2) (pc' := 31) d_Net_giveUp_30 rfl rfl rfl ?_
    replace hy := g_nn_inv hy
    obtain ⟨a59, rfl, hy⟩ := hy
    replace hy := g_aI_inv hy
    obtain ⟨n61, f62, hc63, hi64, hy⟩ := hy
    refine g_iald (pc' := 32) d_Net_giveUp_31 hc63 hi64 rfl ?_
    generalize f62 (p1).toNatClampNeg = x60 at hy ⊢
    refine g_iconst (v := (-1 : Int32)) (pc' := 33) d_Net_giveUp_32 (by decide) rfl ?_
    refine g_iconst (v := (-1 : Int32)) (pc' := 34) d_Net_giveUp_33 (by decide) rfl ?_
    refine g_iconst (v := (0 : Int32)) (pc' := 35) d_Net_giveUp_34 (by decide) rfl ?_
    replace hy := g_nn_inv hy
    obtain ⟨a65, rfl, hy⟩ := hy
    replace hy := g_is_inv hy
    obtain ⟨fs66, hc67, hy⟩ := hy
    replace hy := g_b_inv hy
    obtain ⟨h69, hf70, hy⟩ := hy
    refine g_callV (rv := none) (h1 := h69) (pc' := 38) (As := [.int x60, .int (-1 : Int32), .int (-1 : Int32), .int (0 : Int32)]) (rest := []) 4 (T_Node_give (hy := hf70)) d_Net_giveUp_35 hc67 rfl rfl q1270 q1271 q1272 q139 q1273 hd_Node_give rfl ⟨by decide, by decide⟩ (by first | exact Nat.le_of_ble_eq_true rfl | (simp only [List.map, List.sum_cons, List.sum_nil, g_cat_rf]; exact Nat.le_of_ble_eq_true rfl) | (simp only [List.map, List.sum_cons, List.sum_nil, g_cat_rf, Value.category]; decide)) rfl ?_
    refine g_sub [1, 2] rfl ?_
    exact W_Net_giveUp_38 _ _ _ _ hy
theorem hd_Net_giveUp : g_dsc y_Net_giveUp 2 := ⟨by decide +kernel, by decide +kernel, by decide +kernel⟩
/-! CircuitDesk$Net.giveUpAll(LCircuitDesk$Way;)V -/
abbrev y_Net_giveUpAll : MethodName := ⟨"CircuitDesk$Net", "giveUpAll", "(LCircuitDesk$Way;)V"⟩
abbrev k_Net_giveUpAll : g_M := (prog_7_method_16_code, 3, "CircuitDesk$Net", 16, none, "giveUpAll", [], 0)
theorem d_Net_giveUpAll_0 : decode prog_7_method_16_code 0 = .ok (.iconst 1, 1) := by decide +kernel
theorem d_Net_giveUpAll_1 : decode prog_7_method_16_code 1 = .ok (.istore_n 2, 1) := by decide +kernel
theorem d_Net_giveUpAll_2 : decode prog_7_method_16_code 2 = .ok (.iload_n 2, 1) := by decide +kernel
theorem d_Net_giveUpAll_3 : decode prog_7_method_16_code 3 = .ok (.aload_n 1, 1) := by decide +kernel
theorem d_Net_giveUpAll_4 : decode prog_7_method_16_code 4 = .ok (.getfield 134, 3) := by decide +kernel
theorem d_Net_giveUpAll_7 : decode prog_7_method_16_code 7 = .ok (.if_icmp .ge 15, 3) := by decide +kernel
theorem d_Net_giveUpAll_10 : decode prog_7_method_16_code 10 = .ok (.aload_n 0, 1) := by decide +kernel
theorem d_Net_giveUpAll_11 : decode prog_7_method_16_code 11 = .ok (.aload_n 1, 1) := by decide +kernel
theorem d_Net_giveUpAll_12 : decode prog_7_method_16_code 12 = .ok (.iload_n 2, 1) := by decide +kernel
theorem d_Net_giveUpAll_13 : decode prog_7_method_16_code 13 = .ok (.invokevirtual 206, 3) := by decide +kernel
theorem d_Net_giveUpAll_16 : decode prog_7_method_16_code 16 = .ok (.iinc 2 1, 3) := by decide +kernel
theorem d_Net_giveUpAll_19 : decode prog_7_method_16_code 19 = .ok (.goto (-17), 3) := by decide +kernel
theorem d_Net_giveUpAll_22 : decode prog_7_method_16_code 22 = .ok (.return_, 1) := by decide +kernel
def Net_giveUpAll_2  : Nat → g_AH → Nat → Option Nat → Int32 → Option g_AH
  | 0, _, _, _, _ => none
  | n + 1, h, v0, v1, v2 => g_nn v1 fun a1 => g_gI h a1 6 3 fun x3 => if x3 ≤ v2 then (some h) else (g_is h v0 1 <| g_b (Net_giveUp h v0 (some a1) v2) fun h10 => (Net_giveUpAll_2  n) h10 v0 (some a1) (v2 + (1 : Int32)))
set_option maxHeartbeats 4000000 in
set_option maxRecDepth 100000 in
theorem W_Net_giveUpAll_2 {X : g_X} (z : g_AH)  : ∀ (n : Nat) (h : g_AH) (v0 : Nat) (v1 : Option Nat) (v2 : Int32), Net_giveUpAll_2  n h v0 v1 v2 = some z → G X k_Net_giveUpAll (.inl none) z h 2 [(0, .ref v0), (1, va_rf v1), (2, .int v2)] [] := by
  intro n
  induction n with
  | zero => intro h v0 v1 v2 hy; exact absurd hy (by simp [Net_giveUpAll_2])
  | succ n ih =>
    intro h v0 v1 v2 hy
    rw [Net_giveUpAll_2] at hy
    refine g_iload_n 2 (i := 2) (pc' := 3) d_Net_giveUpAll_2 rfl rfl rfl ?_
    refine g_aloadO_n 1 (i := 1) (pc' := 4) d_Net_giveUpAll_3 rfl rfl rfl ?_
    replace hy := g_nn_inv hy
    obtain ⟨a1, rfl, hy⟩ := hy
    replace hy := g_gI_inv hy
    obtain ⟨fs2, x3, hc4, hv5, hy⟩ := hy
    refine g_getfN (pc' := 7) d_Net_giveUpAll_4 hc4 rfl (by decide) hv5 q629 rfl rfl ?_
    by_cases c6 : x3 ≤ v2
    · rw [if_pos c6] at hy
      refine g_icmp_geT (pc' := 22) d_Net_giveUpAll_7 c6 (by decide) ?_
      cases hy
      exact g_vret rfl rfl rfl d_Net_giveUpAll_22
    · rw [if_neg c6] at hy
      refine g_icmp_geF (pc' := 10) d_Net_giveUpAll_7 22 c6 (by decide) rfl ?_
      refine g_aload_n 0 (i := 0) (pc' := 11) d_Net_giveUpAll_10 rfl rfl rfl ?_
      refine g_aload_n 1 (i := 1) (pc' := 12) d_Net_giveUpAll_11 rfl rfl rfl ?_
      refine g_iload_n 2 (i := 2) (pc' := 13) d_Net_giveUpAll_12 rfl rfl rfl ?_
      replace hy := g_is_inv hy
      obtain ⟨fs7, hc8, hy⟩ := hy
      replace hy := g_b_inv hy
      obtain ⟨h10, hf11, hy⟩ := hy
      refine g_callV (rv := none) (h1 := h10) (pc' := 16) (As := [va_rf (some a1), .int v2]) (rest := []) 2 (T_Net_giveUp (hy := hf11)) d_Net_giveUpAll_13 hc8 rfl rfl q1617 q1618 q1619 q109 q1620 hd_Net_giveUp rfl ⟨by decide, by decide⟩ (by first | exact Nat.le_of_ble_eq_true rfl | (simp only [List.map, List.sum_cons, List.sum_nil, g_cat_rf]; exact Nat.le_of_ble_eq_true rfl) | (simp only [List.map, List.sum_cons, List.sum_nil, g_cat_rf, Value.category]; decide)) rfl ?_
      refine g_iinc 2 (v := (v2 + (1 : Int32))) (pc' := 19) (Lc' := [(2, .int (v2 + (1 : Int32))), (0, .ref v0), (1, .ref a1)]) d_Net_giveUpAll_16 rfl rfl (by decide) rfl rfl ?_
      refine g_goto (pc' := 2) d_Net_giveUpAll_19 (by decide) ?_
      refine g_sub [1, 2, 0] rfl ?_
      exact ih _ _ _ _ hy
def Net_giveUpAll (h : g_AH) (this : Nat) (p0 : Option Nat) : Option g_AH :=
  Net_giveUpAll_2  gFU h this p0 (1 : Int32)
set_option maxHeartbeats 4000000 in
set_option maxRecDepth 100000 in
theorem T_Net_giveUpAll {l : Launch} {B : g_B} (h : g_AH) (this : Nat) (p0 : Option Nat) (z : g_AH) (hy : Net_giveUpAll h this p0 = some z) : g_CT l B y_Net_giveUpAll k_Net_giveUpAll [.ref this, va_rf p0] h (.inl none) z := by
  refine g_start2 (Lc := [(0, .ref this), (1, va_rf p0)]) (by decide) rfl rfl (by rcases p0 with _ | p0 <;> exact Nat.le_of_ble_eq_true rfl) (by rcases p0 with _ | p0 <;> rfl) fun X => ?_
  unfold Net_giveUpAll at hy
  refine g_iconst (v := (1 : Int32)) (pc' := 1) d_Net_giveUpAll_0 (by decide) rfl ?_
  refine g_istore_n (i := 2) (pc' := 2) (Lc' := [(2, .int (1 : Int32)), (0, .ref this), (1, va_rf p0)]) d_Net_giveUpAll_1 rfl (by decide) (by cases p0 <;> rfl) rfl ?_
  refine g_sub [1, 2, 0] rfl ?_
  exact W_Net_giveUpAll_2 _ _ _ _ _ _ hy
theorem hd_Net_giveUpAll : g_dsc y_Net_giveUpAll 1 := ⟨by decide +kernel, by decide +kernel, by decide +kernel⟩
/-! CircuitDesk$Net.labelAll(LCircuitDesk$Way;IZ)Z -/
abbrev y_Net_labelAll : MethodName := ⟨"CircuitDesk$Net", "labelAll", "(LCircuitDesk$Way;IZ)Z"⟩
abbrev k_Net_labelAll : g_M := (prog_7_method_18_code, 5, "CircuitDesk$Net", 19, (some FieldType.boolean), "labelAll", [], 0)
theorem d_Net_labelAll_0 : decode prog_7_method_18_code 0 = .ok (.iconst 1, 1) := by decide +kernel
theorem d_Net_labelAll_1 : decode prog_7_method_18_code 1 = .ok (.istore 4, 2) := by decide +kernel
theorem d_Net_labelAll_3 : decode prog_7_method_18_code 3 = .ok (.iload 4, 2) := by decide +kernel
theorem d_Net_labelAll_5 : decode prog_7_method_18_code 5 = .ok (.aload_n 1, 1) := by decide +kernel
theorem d_Net_labelAll_6 : decode prog_7_method_18_code 6 = .ok (.getfield 134, 3) := by decide +kernel
theorem d_Net_labelAll_9 : decode prog_7_method_18_code 9 = .ok (.if_icmp .ge 28, 3) := by decide +kernel
theorem d_Net_labelAll_12 : decode prog_7_method_18_code 12 = .ok (.aload_n 0, 1) := by decide +kernel
theorem d_Net_labelAll_13 : decode prog_7_method_18_code 13 = .ok (.aload_n 1, 1) := by decide +kernel
theorem d_Net_labelAll_14 : decode prog_7_method_18_code 14 = .ok (.iload 4, 2) := by decide +kernel
theorem d_Net_labelAll_16 : decode prog_7_method_18_code 16 = .ok (.iload_n 2, 1) := by decide +kernel
theorem d_Net_labelAll_17 : decode prog_7_method_18_code 17 = .ok (.iload_n 3, 1) := by decide +kernel
theorem d_Net_labelAll_18 : decode prog_7_method_18_code 18 = .ok (.invokevirtual 213, 3) := by decide +kernel
theorem d_Net_labelAll_21 : decode prog_7_method_18_code 21 = .ok (.ifCond .ne 10, 3) := by decide +kernel
theorem d_Net_labelAll_24 : decode prog_7_method_18_code 24 = .ok (.aload_n 0, 1) := by decide +kernel
theorem d_Net_labelAll_25 : decode prog_7_method_18_code 25 = .ok (.aload_n 1, 1) := by decide +kernel
theorem d_Net_labelAll_26 : decode prog_7_method_18_code 26 = .ok (.invokevirtual 217, 3) := by decide +kernel
theorem d_Net_labelAll_29 : decode prog_7_method_18_code 29 = .ok (.iconst 0, 1) := by decide +kernel
theorem d_Net_labelAll_30 : decode prog_7_method_18_code 30 = .ok (.ireturn, 1) := by decide +kernel
theorem d_Net_labelAll_31 : decode prog_7_method_18_code 31 = .ok (.iinc 4 1, 3) := by decide +kernel
theorem d_Net_labelAll_34 : decode prog_7_method_18_code 34 = .ok (.goto (-31), 3) := by decide +kernel
theorem d_Net_labelAll_37 : decode prog_7_method_18_code 37 = .ok (.iconst 1, 1) := by decide +kernel
theorem d_Net_labelAll_38 : decode prog_7_method_18_code 38 = .ok (.ireturn, 1) := by decide +kernel
def Net_labelAll_3  : Nat → g_AH → Nat → Option Nat → Int32 → Int32 → Int32 → Option (Int32 × g_AH)
  | 0, _, _, _, _, _, _ => none
  | n + 1, h, v0, v1, v2, v3, v4 => g_nn v1 fun a1 => g_gI h a1 6 3 fun x3 => if x3 ≤ v4 then (some ((1 : Int32), h)) else (g_is h v0 1 <| g_b2 (Net_label h v0 (some a1) v4 v2 v3) fun x10 h11 => if x10 = 0 then (g_is h11 v0 1 <| g_b (Net_giveUpAll h11 v0 (some a1)) fun h17 => some ((0 : Int32), h17)) else ((Net_labelAll_3  n) h11 v0 (some a1) v2 v3 (v4 + (1 : Int32))))
set_option maxHeartbeats 4000000 in
set_option maxRecDepth 100000 in
theorem W_Net_labelAll_3 {X : g_X} (z : Int32 × g_AH)  : ∀ (n : Nat) (h : g_AH) (v0 : Nat) (v1 : Option Nat) (v2 : Int32) (v3 : Int32) (v4 : Int32), Net_labelAll_3  n h v0 v1 v2 v3 v4 = some z → G X k_Net_labelAll (.inl (some (.int z.1))) z.2 h 3 [(0, .ref v0), (1, va_rf v1), (2, .int v2), (3, .int v3), (4, .int v4)] [] := by
  intro n
  induction n with
  | zero => intro h v0 v1 v2 v3 v4 hy; exact absurd hy (by simp [Net_labelAll_3])
  | succ n ih =>
    intro h v0 v1 v2 v3 v4 hy
    rw [Net_labelAll_3] at hy
    refine g_iload 4 (pc' := 5) d_Net_labelAll_3 rfl rfl ?_
    refine g_aloadO_n 1 (i := 1) (pc' := 6) d_Net_labelAll_5 rfl rfl rfl ?_
    replace hy := g_nn_inv hy
    obtain ⟨a1, rfl, hy⟩ := hy
    replace hy := g_gI_inv hy
    obtain ⟨fs2, x3, hc4, hv5, hy⟩ := hy
    refine g_getfN (pc' := 9) d_Net_labelAll_6 hc4 rfl (by decide) hv5 q629 rfl rfl ?_
    by_cases c6 : x3 ≤ v4
    · rw [if_pos c6] at hy
      refine g_icmp_geT (pc' := 37) d_Net_labelAll_9 c6 (by decide) ?_
      refine g_iconst (v := (1 : Int32)) (pc' := 38) d_Net_labelAll_37 (by decide) rfl ?_
      cases hy
      exact g_zret rfl rfl rfl (g_nar_z (Or.inr rfl)).1 d_Net_labelAll_38
    · rw [if_neg c6] at hy
      refine g_icmp_geF (pc' := 12) d_Net_labelAll_9 37 c6 (by decide) rfl ?_
      refine g_aload_n 0 (i := 0) (pc' := 13) d_Net_labelAll_12 rfl rfl rfl ?_
      refine g_aload_n 1 (i := 1) (pc' := 14) d_Net_labelAll_13 rfl rfl rfl ?_
      refine g_iload 4 (pc' := 16) d_Net_labelAll_14 rfl rfl ?_
      refine g_iload_n 2 (i := 2) (pc' := 17) d_Net_labelAll_16 rfl rfl rfl ?_
      refine g_iload_n 3 (i := 3) (pc' := 18) d_Net_labelAll_17 rfl rfl rfl ?_
      replace hy := g_is_inv hy
      obtain ⟨fs8, hc9, hy⟩ := hy
      replace hy := g_b2_inv hy
      obtain ⟨x10, h11, hf12, hy⟩ := hy
      refine g_callV (rv := some (.int x10)) (h1 := h11) (pc' := 21) (As := [va_rf (some a1), .int v4, .int v2, .int v3]) (rest := []) 4 (T_Net_label (hy := hf12)) d_Net_labelAll_18 hc9 rfl rfl q1612 q1240 q1241 q109 q1242 hd_Net_label rfl ⟨by decide, by decide⟩ (by first | exact Nat.le_of_ble_eq_true rfl | (simp only [List.map, List.sum_cons, List.sum_nil, g_cat_rf]; exact Nat.le_of_ble_eq_true rfl) | (simp only [List.map, List.sum_cons, List.sum_nil, g_cat_rf, Value.category]; decide)) rfl ?_
      by_cases c13 : x10 = 0
      · rw [if_pos c13] at hy
        refine g_if_neF (pc' := 24) d_Net_labelAll_21 31 c13 (by decide) rfl ?_
        refine g_aload_n 0 (i := 0) (pc' := 25) d_Net_labelAll_24 rfl rfl rfl ?_
        refine g_aload_n 1 (i := 1) (pc' := 26) d_Net_labelAll_25 rfl rfl rfl ?_
        replace hy := g_is_inv hy
        obtain ⟨fs14, hc15, hy⟩ := hy
        replace hy := g_b_inv hy
        obtain ⟨h17, hf18, hy⟩ := hy
        refine g_callV (rv := none) (h1 := h17) (pc' := 29) (As := [va_rf (some a1)]) (rest := []) 1 (T_Net_giveUpAll (hy := hf18)) d_Net_labelAll_26 hc15 rfl rfl q1613 q1614 q1615 q109 q1616 hd_Net_giveUpAll rfl ⟨by decide, by decide⟩ (by first | exact Nat.le_of_ble_eq_true rfl | (simp only [List.map, List.sum_cons, List.sum_nil, g_cat_rf]; exact Nat.le_of_ble_eq_true rfl) | (simp only [List.map, List.sum_cons, List.sum_nil, g_cat_rf, Value.category]; decide)) rfl ?_
        refine g_iconst (v := (0 : Int32)) (pc' := 30) d_Net_labelAll_29 (by decide) rfl ?_
        cases hy
        exact g_zret rfl rfl rfl (g_nar_z (Or.inl rfl)).1 d_Net_labelAll_30
      · rw [if_neg c13] at hy
        refine g_if_neT (pc' := 31) d_Net_labelAll_21 c13 (by decide) ?_
        refine g_iinc 4 (v := (v4 + (1 : Int32))) (pc' := 34) (Lc' := [(4, .int (v4 + (1 : Int32))), (0, .ref v0), (1, .ref a1), (2, .int v2), (3, .int v3)]) d_Net_labelAll_31 rfl rfl (by decide) rfl rfl ?_
        refine g_goto (pc' := 3) d_Net_labelAll_34 (by decide) ?_
        refine g_sub [1, 2, 3, 4, 0] rfl ?_
        exact ih _ _ _ _ _ _ hy
def Net_labelAll (h : g_AH) (this : Nat) (p0 : Option Nat) (p1 : Int32) (p2 : Int32) : Option (Int32 × g_AH) :=
  Net_labelAll_3  gFU h this p0 p1 p2 (1 : Int32)
set_option maxHeartbeats 4000000 in
set_option maxRecDepth 100000 in
theorem T_Net_labelAll {l : Launch} {B : g_B} (h : g_AH) (this : Nat) (p0 : Option Nat) (p1 : Int32) (p2 : Int32) (z : Int32 × g_AH) (hy : Net_labelAll h this p0 p1 p2 = some z) : g_CT l B y_Net_labelAll k_Net_labelAll [.ref this, va_rf p0, .int p1, .int p2] h (.inl (some (.int z.1))) z.2 := by
  refine g_start2 (Lc := [(0, .ref this), (1, va_rf p0), (2, .int p1), (3, .int p2)]) (by decide) rfl rfl (by rcases p0 with _ | p0 <;> exact Nat.le_of_ble_eq_true rfl) (by rcases p0 with _ | p0 <;> rfl) fun X => ?_
  unfold Net_labelAll at hy
  refine g_iconst (v := (1 : Int32)) (pc' := 1) d_Net_labelAll_0 (by decide) rfl ?_
  refine g_istore (pc' := 3) (Lc' := [(4, .int (1 : Int32)), (0, .ref this), (1, va_rf p0), (2, .int p1), (3, .int p2)]) d_Net_labelAll_1 (by decide) rfl rfl ?_
  refine g_sub [1, 2, 3, 4, 0] rfl ?_
  exact W_Net_labelAll_3 _ _ _ _ _ _ _ _ hy
theorem hd_Net_labelAll : g_dsc y_Net_labelAll 3 := ⟨by decide +kernel, by decide +kernel, by decide +kernel⟩
/-! CircuitDesk$Net.make(LCircuitDesk$Way;I)V -/
abbrev y_Net_make : MethodName := ⟨"CircuitDesk$Net", "make", "(LCircuitDesk$Way;I)V"⟩
abbrev k_Net_make : g_M := (prog_7_method_14_code, 3, "CircuitDesk$Net", 15, none, "make", [], 0)
theorem d_Net_make_0 : decode prog_7_method_14_code 0 = .ok (.aload_n 0, 1) := by decide +kernel
theorem d_Net_make_1 : decode prog_7_method_14_code 1 = .ok (.getfield 20, 3) := by decide +kernel
theorem d_Net_make_4 : decode prog_7_method_14_code 4 = .ok (.aload_n 1, 1) := by decide +kernel
theorem d_Net_make_5 : decode prog_7_method_14_code 5 = .ok (.getfield 196, 3) := by decide +kernel
theorem d_Net_make_8 : decode prog_7_method_14_code 8 = .ok (.iload_n 2, 1) := by decide +kernel
theorem d_Net_make_9 : decode prog_7_method_14_code 9 = .ok (.iaload, 1) := by decide +kernel
theorem d_Net_make_10 : decode prog_7_method_14_code 10 = .ok (.invokevirtual 116, 3) := by decide +kernel
theorem d_Net_make_13 : decode prog_7_method_14_code 13 = .ok (.checkcast 62, 3) := by decide +kernel
theorem d_Net_make_16 : decode prog_7_method_14_code 16 = .ok (.getfield 202, 3) := by decide +kernel
theorem d_Net_make_19 : decode prog_7_method_14_code 19 = .ok (.aload_n 1, 1) := by decide +kernel
theorem d_Net_make_20 : decode prog_7_method_14_code 20 = .ok (.getfield 199, 3) := by decide +kernel
theorem d_Net_make_23 : decode prog_7_method_14_code 23 = .ok (.iload_n 2, 1) := by decide +kernel
theorem d_Net_make_24 : decode prog_7_method_14_code 24 = .ok (.iaload, 1) := by decide +kernel
theorem d_Net_make_25 : decode prog_7_method_14_code 25 = .ok (.iconst 1, 1) := by decide +kernel
theorem d_Net_make_26 : decode prog_7_method_14_code 26 = .ok (.bastore, 1) := by decide +kernel
theorem d_Net_make_27 : decode prog_7_method_14_code 27 = .ok (.return_, 1) := by decide +kernel
def Net_make (h : g_AH) (this : Nat) (p0 : Option Nat) (p1 : Int32) : Option g_AH :=
  g_gR h this 1 1 fun x2 => g_nn p0 fun a5 => g_gR h a5 6 1 fun x7 => g_nn x7 fun a10 => g_aI h 0 a10 p1 fun x11 => g_nn x2 fun a16 => g_is h a16 15 <| g_b (ArrayList_get h a16 x11) fun x19 => g_ck h x19 10 <| g_nn x19 fun a23 => g_gR h a23 10 4 fun x25 => g_gR h a5 6 2 fun x29 => g_nn x29 fun a32 => g_aI h 0 a32 p1 fun x33 => g_nn x25 fun a38 => g_sI h 1 a38 x33 (vp_nar .boolean (1 : Int32)) fun h43 => some h43
set_option maxHeartbeats 4000000 in
set_option maxRecDepth 100000 in
theorem T_Net_make {l : Launch} {B : g_B} (h : g_AH) (this : Nat) (p0 : Option Nat) (p1 : Int32) (z : g_AH) (hy : Net_make h this p0 p1 = some z) : g_CT l B y_Net_make k_Net_make [.ref this, va_rf p0, .int p1] h (.inl none) z := by
  refine g_start2 (Lc := [(0, .ref this), (1, va_rf p0), (2, .int p1)]) (by decide) rfl rfl (by rcases p0 with _ | p0 <;> exact Nat.le_of_ble_eq_true rfl) (by rcases p0 with _ | p0 <;> rfl) fun X => ?_
  unfold Net_make at hy
  refine g_aload_n 0 (i := 0) (pc' := 1) d_Net_make_0 rfl rfl rfl ?_
  replace hy := g_gR_inv hy
  obtain ⟨fs1, x2, hc3, hv4, hy⟩ := hy
  refine g_getf (pc' := 4) d_Net_make_1 hc3 rfl (by decide) hv4 q547 (Or.inl rfl) rfl ?_
  refine g_aloadO_n 1 (i := 1) (pc' := 5) d_Net_make_4 rfl rfl rfl ?_
  replace hy := g_nn_inv hy
  obtain ⟨a5, rfl, hy⟩ := hy
  replace hy := g_gR_inv hy
  obtain ⟨fs6, x7, hc8, hv9, hy⟩ := hy
  refine g_getfN (pc' := 8) d_Net_make_5 hc8 rfl (by decide) hv9 q620 rfl rfl ?_
  refine g_iload_n 2 (i := 2) (pc' := 9) d_Net_make_8 rfl rfl rfl ?_
  replace hy := g_nn_inv hy
  obtain ⟨a10, rfl, hy⟩ := hy
  replace hy := g_aI_inv hy
  obtain ⟨n12, f13, hc14, hi15, hy⟩ := hy
  refine g_iald (pc' := 10) d_Net_make_9 hc14 hi15 rfl ?_
  generalize f13 (p1).toNatClampNeg = x11 at hy ⊢
  replace hy := g_nn_inv hy
  obtain ⟨a16, rfl, hy⟩ := hy
  replace hy := g_is_inv hy
  obtain ⟨fs17, hc18, hy⟩ := hy
  replace hy := g_b_inv hy
  obtain ⟨x19, hf21, hy⟩ := hy
  refine g_callV (rv := some (va_rf x19)) (h1 := h) (pc' := 13) (As := [.int x11]) (rest := []) 1 (T_ArrayList_get (hy := hf21)) d_Net_make_10 hc18 rfl rfl q682 q683 q684 q112 q685 hd_ArrayList_get rfl ⟨by decide, by decide⟩ (by first | exact Nat.le_of_ble_eq_true rfl | (simp only [List.map, List.sum_cons, List.sum_nil, g_cat_rf]; exact Nat.le_of_ble_eq_true rfl) | (simp only [List.map, List.sum_cons, List.sum_nil, g_cat_rf, Value.category]; decide)) rfl ?_
  replace hy := g_ck_inv hy
  obtain ⟨hk22, hy⟩ := hy
  refine g_castO (pc' := 16) d_Net_make_13 hk22 rfl q1243 rfl ?_
  replace hy := g_nn_inv hy
  obtain ⟨a23, rfl, hy⟩ := hy
  replace hy := g_gR_inv hy
  obtain ⟨fs24, x25, hc26, hv27, hy⟩ := hy
  refine g_getfN (pc' := 19) d_Net_make_16 hc26 rfl (by decide) hv27 q1023 rfl rfl ?_
  refine g_aload_n 1 (i := 1) (pc' := 20) d_Net_make_19 rfl rfl rfl ?_
  replace hy := g_gR_inv hy
  obtain ⟨fs28, x29, hc30, hv31, hy⟩ := hy
  refine g_getfN (pc' := 23) d_Net_make_20 hc30 rfl (by decide) hv31 q623 rfl rfl ?_
  refine g_iload_n 2 (i := 2) (pc' := 24) d_Net_make_23 rfl rfl rfl ?_
  replace hy := g_nn_inv hy
  obtain ⟨a32, rfl, hy⟩ := hy
  replace hy := g_aI_inv hy
  obtain ⟨n34, f35, hc36, hi37, hy⟩ := hy
  refine g_iald (pc' := 25) d_Net_make_24 hc36 hi37 rfl ?_
  generalize f35 (p1).toNatClampNeg = x33 at hy ⊢
  refine g_iconst (v := (1 : Int32)) (pc' := 26) d_Net_make_25 (by decide) rfl ?_
  replace hy := g_nn_inv hy
  obtain ⟨a38, rfl, hy⟩ := hy
  replace hy := g_sI_inv hy
  obtain ⟨n39, f40, hc41, hi42, hy⟩ := hy
  refine g_zast (pc' := 27) d_Net_make_26 hc41 hi42 rfl ?_
  generalize g_up h a38 (.inl (1, n39, .inl (upd f40 (x33).toNatClampNeg (vp_nar .boolean (1 : Int32))))) = h43 at hy ⊢
  cases hy
  exact g_vret rfl rfl rfl d_Net_make_27
theorem hd_Net_make : g_dsc y_Net_make 2 := ⟨by decide +kernel, by decide +kernel, by decide +kernel⟩
/-! CircuitDesk$Circuit.<init>(II)V -/
abbrev y_Circuit_init : MethodName := ⟨"CircuitDesk$Circuit", "<init>", "(II)V"⟩
abbrev k_Circuit_init : g_M := (prog_3_method_1_code, 3, "CircuitDesk$Circuit", 14, none, "<init>", [], 0)
theorem d_Circuit_init_0 : decode prog_3_method_1_code 0 = .ok (.aload_n 0, 1) := by decide +kernel
theorem d_Circuit_init_1 : decode prog_3_method_1_code 1 = .ok (.invokespecial 3, 3) := by decide +kernel
theorem d_Circuit_init_4 : decode prog_3_method_1_code 4 = .ok (.aload_n 0, 1) := by decide +kernel
theorem d_Circuit_init_5 : decode prog_3_method_1_code 5 = .ok (.new 9, 3) := by decide +kernel
theorem d_Circuit_init_8 : decode prog_3_method_1_code 8 = .ok (.dup, 1) := by decide +kernel
theorem d_Circuit_init_9 : decode prog_3_method_1_code 9 = .ok (.invokespecial 11, 3) := by decide +kernel
theorem d_Circuit_init_12 : decode prog_3_method_1_code 12 = .ok (.putfield 12, 3) := by decide +kernel
theorem d_Circuit_init_15 : decode prog_3_method_1_code 15 = .ok (.aload_n 0, 1) := by decide +kernel
theorem d_Circuit_init_16 : decode prog_3_method_1_code 16 = .ok (.iconst (-1), 1) := by decide +kernel
theorem d_Circuit_init_17 : decode prog_3_method_1_code 17 = .ok (.putfield 18, 3) := by decide +kernel
theorem d_Circuit_init_20 : decode prog_3_method_1_code 20 = .ok (.aload_n 0, 1) := by decide +kernel
theorem d_Circuit_init_21 : decode prog_3_method_1_code 21 = .ok (.iload_n 1, 1) := by decide +kernel
theorem d_Circuit_init_22 : decode prog_3_method_1_code 22 = .ok (.putfield 22, 3) := by decide +kernel
theorem d_Circuit_init_25 : decode prog_3_method_1_code 25 = .ok (.aload_n 0, 1) := by decide +kernel
theorem d_Circuit_init_26 : decode prog_3_method_1_code 26 = .ok (.iload_n 2, 1) := by decide +kernel
theorem d_Circuit_init_27 : decode prog_3_method_1_code 27 = .ok (.putfield 25, 3) := by decide +kernel
theorem d_Circuit_init_30 : decode prog_3_method_1_code 30 = .ok (.return_, 1) := by decide +kernel
def Circuit_init (h : g_AH) (this : Nat) (p0 : Int32) (p1 : Int32) : Option g_AH :=
  g_mk h (.inr (6, [.null, .null, .null, .int 0])) 4 fun a1 h2 => g_b (Way_init h2 a1) fun h4 => g_pF h4 this 12 2 (.ref a1) fun h9 => g_pF h9 this 12 13 (.int (-1 : Int32)) fun h13 => g_pF h13 this 12 0 (.int p0) fun h17 => g_pF h17 this 12 1 (.int p1) fun h21 => some h21
set_option maxHeartbeats 4000000 in
set_option maxRecDepth 100000 in
theorem T_Circuit_init {l : Launch} {B : g_B} (h : g_AH) (this : Nat) (p0 : Int32) (p1 : Int32) (z : g_AH) (hy : Circuit_init h this p0 p1 = some z) : g_CT l B y_Circuit_init k_Circuit_init [.ref this, .int p0, .int p1] h (.inl none) z := by
  refine g_start2 (Lc := [(0, .ref this), (1, .int p0), (2, .int p1)]) (by decide) rfl rfl (by exact Nat.le_of_ble_eq_true rfl) (by rfl) fun X => ?_
  unfold Circuit_init at hy
  refine g_aload_n 0 (i := 0) (pc' := 1) d_Circuit_init_0 rfl rfl rfl ?_
  refine g_objInit (pc' := 4) d_Circuit_init_1 q1143 (by first | exact Nat.le_of_ble_eq_true rfl | (simp only [List.map, List.sum_cons, List.sum_nil, g_cat_rf]; exact Nat.le_of_ble_eq_true rfl) | (simp only [List.map, List.sum_cons, List.sum_nil, g_cat_rf, Value.category]; decide)) (by decide) rfl ?_
  refine g_aload_n 0 (i := 0) (pc' := 5) d_Circuit_init_4 rfl rfl rfl ?_
  replace hy := g_mk_inv hy
  refine g_new (ci := 6) (fs := [.null, .null, .null, .int 0]) (pc' := 8) d_Circuit_init_5 rfl q1144 q611 q134 gdf_6 rfl ?_
  generalize g_al h (.inr (6, [.null, .null, .null, .int 0])) 4 = h2 at hy ⊢
  generalize g_n h = a1 at hy ⊢
  refine g_dup (pc' := 9) d_Circuit_init_8 rfl rfl ?_
  replace hy := g_b_inv hy
  obtain ⟨h4, hf5, hy⟩ := hy
  refine g_callIN (h1 := h4) (pc' := 12) (As := []) (rest := [.ref a1, .ref this]) 0 (T_Way_init (hy := hf5)) d_Circuit_init_9 rfl rfl q1145 q613 q134 q614 hd_Way_init rfl ⟨by decide, by decide⟩ (by first | exact Nat.le_of_ble_eq_true rfl | (simp only [List.map, List.sum_cons, List.sum_nil, g_cat_rf]; exact Nat.le_of_ble_eq_true rfl) | (simp only [List.map, List.sum_cons, List.sum_nil, g_cat_rf, Value.category]; decide)) rfl ?_
  replace hy := g_pF_inv hy
  obtain ⟨fs6, hc7, hl8, hy⟩ := hy
  refine g_putf (pc' := 15) d_Circuit_init_12 hc7 rfl (by decide) hl8 rfl rfl rfl q1152 (Or.inl rfl) rfl ?_
  generalize g_up h4 this (.inr (12, fs6.set 2 (.ref a1))) = h9 at hy ⊢
  refine g_aload_n 0 (i := 0) (pc' := 16) d_Circuit_init_15 rfl rfl rfl ?_
  refine g_iconst (v := (-1 : Int32)) (pc' := 17) d_Circuit_init_16 (by decide) rfl ?_
  replace hy := g_pF_inv hy
  obtain ⟨fs10, hc11, hl12, hy⟩ := hy
  refine g_putf (pc' := 20) d_Circuit_init_17 hc11 rfl (by decide) hl12 rfl rfl rfl q1198 (Or.inl rfl) rfl ?_
  generalize g_up h9 this (.inr (12, fs10.set 13 (.int (-1 : Int32)))) = h13 at hy ⊢
  refine g_aload_n 0 (i := 0) (pc' := 21) d_Circuit_init_20 rfl rfl rfl ?_
  refine g_iload_n 1 (i := 1) (pc' := 22) d_Circuit_init_21 rfl rfl rfl ?_
  replace hy := g_pF_inv hy
  obtain ⟨fs14, hc15, hl16, hy⟩ := hy
  refine g_putfF (pc' := 25) d_Circuit_init_22 rfl hc15 rfl (by decide) hl16 rfl rfl rfl rfl q1146 rfl rfl ?_
  generalize g_up h13 this (.inr (12, fs14.set 0 (.int p0))) = h17 at hy ⊢
  refine g_aload_n 0 (i := 0) (pc' := 26) d_Circuit_init_25 rfl rfl rfl ?_
  refine g_iload_n 2 (i := 2) (pc' := 27) d_Circuit_init_26 rfl rfl rfl ?_
  replace hy := g_pF_inv hy
  obtain ⟨fs18, hc19, hl20, hy⟩ := hy
  refine g_putfF (pc' := 30) d_Circuit_init_27 rfl hc19 rfl (by decide) hl20 rfl rfl rfl rfl q1149 rfl rfl ?_
  generalize g_up h17 this (.inr (12, fs18.set 1 (.int p1))) = h21 at hy ⊢
  cases hy
  exact g_vret rfl rfl rfl d_Circuit_init_30
theorem hd_Circuit_init : g_dsc y_Circuit_init 2 := ⟨by decide +kernel, by decide +kernel, by decide +kernel⟩
/-! CircuitDesk$Net.open(LCircuitDesk$Way;II)I -/
abbrev y_Net_open : MethodName := ⟨"CircuitDesk$Net", "open", "(LCircuitDesk$Way;II)I"⟩
abbrev k_Net_open : g_M := (prog_7_method_31_code, 5, "CircuitDesk$Net", 20, (some FieldType.int), "open", [], 0)
theorem d_Net_open_0 : decode prog_7_method_31_code 0 = .ok (.aload_n 0, 1) := by decide +kernel
theorem d_Net_open_1 : decode prog_7_method_31_code 1 = .ok (.getfield 27, 3) := by decide +kernel
theorem d_Net_open_4 : decode prog_7_method_31_code 4 = .ok (.invokevirtual 112, 3) := by decide +kernel
theorem d_Net_open_7 : decode prog_7_method_31_code 7 = .ok (.bipush 8, 2) := by decide +kernel
theorem d_Net_open_9 : decode prog_7_method_31_code 9 = .ok (.if_icmp .ne 5, 3) := by decide +kernel
theorem d_Net_open_12 : decode prog_7_method_31_code 12 = .ok (.iconst 1, 1) := by decide +kernel
theorem d_Net_open_13 : decode prog_7_method_31_code 13 = .ok (.ireturn, 1) := by decide +kernel
theorem d_Net_open_14 : decode prog_7_method_31_code 14 = .ok (.aload_n 1, 1) := by decide +kernel
theorem d_Net_open_15 : decode prog_7_method_31_code 15 = .ok (.getfield 134, 3) := by decide +kernel
theorem d_Net_open_18 : decode prog_7_method_31_code 18 = .ok (.iconst 2, 1) := by decide +kernel
theorem d_Net_open_19 : decode prog_7_method_31_code 19 = .ok (.if_icmp .ge 5, 3) := by decide +kernel
theorem d_Net_open_22 : decode prog_7_method_31_code 22 = .ok (.iconst 3, 1) := by decide +kernel
theorem d_Net_open_23 : decode prog_7_method_31_code 23 = .ok (.ireturn, 1) := by decide +kernel
theorem d_Net_open_24 : decode prog_7_method_31_code 24 = .ok (.aload_n 0, 1) := by decide +kernel
theorem d_Net_open_25 : decode prog_7_method_31_code 25 = .ok (.aload_n 1, 1) := by decide +kernel
theorem d_Net_open_26 : decode prog_7_method_31_code 26 = .ok (.iload_n 2, 1) := by decide +kernel
theorem d_Net_open_27 : decode prog_7_method_31_code 27 = .ok (.iconst (-1), 1) := by decide +kernel
theorem d_Net_open_28 : decode prog_7_method_31_code 28 = .ok (.invokevirtual 327, 3) := by decide +kernel
theorem d_Net_open_31 : decode prog_7_method_31_code 31 = .ok (.ifCond .ne 5, 3) := by decide +kernel
theorem d_Net_open_34 : decode prog_7_method_31_code 34 = .ok (.iconst 5, 1) := by decide +kernel
theorem d_Net_open_35 : decode prog_7_method_31_code 35 = .ok (.ireturn, 1) := by decide +kernel
theorem d_Net_open_36 : decode prog_7_method_31_code 36 = .ok (.aload_n 0, 1) := by decide +kernel
theorem d_Net_open_37 : decode prog_7_method_31_code 37 = .ok (.aload_n 1, 1) := by decide +kernel
theorem d_Net_open_38 : decode prog_7_method_31_code 38 = .ok (.aload_n 0, 1) := by decide +kernel
theorem d_Net_open_39 : decode prog_7_method_31_code 39 = .ok (.getfield 27, 3) := by decide +kernel
theorem d_Net_open_42 : decode prog_7_method_31_code 42 = .ok (.invokevirtual 112, 3) := by decide +kernel
theorem d_Net_open_45 : decode prog_7_method_31_code 45 = .ok (.iconst 0, 1) := by decide +kernel
theorem d_Net_open_46 : decode prog_7_method_31_code 46 = .ok (.invokevirtual 330, 3) := by decide +kernel
theorem d_Net_open_49 : decode prog_7_method_31_code 49 = .ok (.ifCond .ne 6, 3) := by decide +kernel
theorem d_Net_open_52 : decode prog_7_method_31_code 52 = .ok (.bipush 6, 2) := by decide +kernel
theorem d_Net_open_54 : decode prog_7_method_31_code 54 = .ok (.ireturn, 1) := by decide +kernel
theorem d_Net_open_55 : decode prog_7_method_31_code 55 = .ok (.iconst 1, 1) := by decide +kernel
theorem d_Net_open_56 : decode prog_7_method_31_code 56 = .ok (.istore 4, 2) := by decide +kernel
theorem d_Net_open_58 : decode prog_7_method_31_code 58 = .ok (.iload 4, 2) := by decide +kernel
theorem d_Net_open_60 : decode prog_7_method_31_code 60 = .ok (.aload_n 1, 1) := by decide +kernel
theorem d_Net_open_61 : decode prog_7_method_31_code 61 = .ok (.getfield 134, 3) := by decide +kernel
theorem d_Net_open_64 : decode prog_7_method_31_code 64 = .ok (.if_icmp .ge 16, 3) := by decide +kernel
theorem d_Net_open_67 : decode prog_7_method_31_code 67 = .ok (.aload_n 0, 1) := by decide +kernel
theorem d_Net_open_68 : decode prog_7_method_31_code 68 = .ok (.aload_n 1, 1) := by decide +kernel
theorem d_Net_open_69 : decode prog_7_method_31_code 69 = .ok (.iload 4, 2) := by decide +kernel
theorem d_Net_open_71 : decode prog_7_method_31_code 71 = .ok (.invokevirtual 334, 3) := by decide +kernel
theorem d_Net_open_74 : decode prog_7_method_31_code 74 = .ok (.iinc 4 1, 3) := by decide +kernel
theorem d_Net_open_77 : decode prog_7_method_31_code 77 = .ok (.goto (-19), 3) := by decide +kernel
theorem d_Net_open_80 : decode prog_7_method_31_code 80 = .ok (.new 77, 3) := by decide +kernel
theorem d_Net_open_83 : decode prog_7_method_31_code 83 = .ok (.dup, 1) := by decide +kernel
theorem d_Net_open_84 : decode prog_7_method_31_code 84 = .ok (.iload_n 2, 1) := by decide +kernel
theorem d_Net_open_85 : decode prog_7_method_31_code 85 = .ok (.iload_n 3, 1) := by decide +kernel
theorem d_Net_open_86 : decode prog_7_method_31_code 86 = .ok (.invokespecial 337, 3) := by decide +kernel
theorem d_Net_open_89 : decode prog_7_method_31_code 89 = .ok (.astore 4, 2) := by decide +kernel
theorem d_Net_open_91 : decode prog_7_method_31_code 91 = .ok (.aload 4, 2) := by decide +kernel
theorem d_Net_open_93 : decode prog_7_method_31_code 93 = .ok (.aload_n 1, 1) := by decide +kernel
theorem d_Net_open_94 : decode prog_7_method_31_code 94 = .ok (.putfield 143, 3) := by decide +kernel
theorem d_Net_open_97 : decode prog_7_method_31_code 97 = .ok (.aload_n 0, 1) := by decide +kernel
theorem d_Net_open_98 : decode prog_7_method_31_code 98 = .ok (.getfield 27, 3) := by decide +kernel
theorem d_Net_open_101 : decode prog_7_method_31_code 101 = .ok (.aload 4, 2) := by decide +kernel
theorem d_Net_open_103 : decode prog_7_method_31_code 103 = .ok (.invokevirtual 68, 3) := by decide +kernel
theorem d_Net_open_106 : decode prog_7_method_31_code 106 = .ok (.pop, 1) := by decide +kernel
theorem d_Net_open_107 : decode prog_7_method_31_code 107 = .ok (.iconst 0, 1) := by decide +kernel
theorem d_Net_open_108 : decode prog_7_method_31_code 108 = .ok (.ireturn, 1) := by decide +kernel
def Net_open_58  : Nat → g_AH → Nat → Option Nat → Int32 → Int32 → Int32 → Option (Int32 × g_AH)
  | 0, _, _, _, _, _, _ => none
  | n + 1, h, v0, v1, v2, v3, v4 => g_nn v1 fun a40 => g_gI h a40 6 3 fun x42 => if x42 ≤ v4 then (g_mk h (.inr (12, [.int 0, .int 0, .null, .null, .int 0, .int 0, .int 0, .int 0, .int 0, .int 0, .int 0, .int 0, .int 0, .int 0, .int 0])) 15 fun a46 h47 => g_b (Circuit_init h47 a46 v2 v3) fun h49 => g_pF h49 a46 12 2 (.ref a40) fun h54 => g_gR h54 v0 1 3 fun x56 => g_nn x56 fun a59 => g_is h54 a59 15 <| g_b2 (ArrayList_add0 h54 a59 (some a46)) fun x62 h63 => some ((0 : Int32), h63)) else (g_is h v0 1 <| g_b (Net_make h v0 (some a40) v4) fun h68 => (Net_open_58  n) h68 v0 (some a40) v2 v3 (v4 + (1 : Int32)))
set_option maxHeartbeats 4000000 in
set_option maxRecDepth 100000 in
theorem W_Net_open_58 {X : g_X} (z : Int32 × g_AH)  : ∀ (n : Nat) (h : g_AH) (v0 : Nat) (v1 : Option Nat) (v2 : Int32) (v3 : Int32) (v4 : Int32), Net_open_58  n h v0 v1 v2 v3 v4 = some z → G X k_Net_open (.inl (some (.int z.1))) z.2 h 58 [(0, .ref v0), (1, va_rf v1), (2, .int v2), (3, .int v3), (4, .int v4)] [] := by
  intro n
  induction n with
  | zero => intro h v0 v1 v2 v3 v4 hy; exact absurd hy (by simp [Net_open_58])
  | succ n ih =>
    intro h v0 v1 v2 v3 v4 hy
    rw [Net_open_58] at hy
    refine g_iload 4 (pc' := 60) d_Net_open_58 rfl rfl ?_
    refine g_aloadO_n 1 (i := 1) (pc' := 61) d_Net_open_60 rfl rfl rfl ?_
    replace hy := g_nn_inv hy
    obtain ⟨a40, rfl, hy⟩ := hy
    replace hy := g_gI_inv hy
    obtain ⟨fs41, x42, hc43, hv44, hy⟩ := hy
    refine g_getfN (pc' := 64) d_Net_open_61 hc43 rfl (by decide) hv44 q629 rfl rfl ?_
    by_cases c45 : x42 ≤ v4
    · rw [if_pos c45] at hy
      refine g_icmp_geT (pc' := 80) d_Net_open_64 c45 (by decide) ?_
      replace hy := g_mk_inv hy
      refine g_new (ci := 12) (fs := [.int 0, .int 0, .null, .null, .int 0, .int 0, .int 0, .int 0, .int 0, .int 0, .int 0, .int 0, .int 0, .int 0, .int 0]) (pc' := 83) d_Net_open_80 rfl q696 q1139 q142 gdf_12 rfl ?_
      generalize g_al h (.inr (12, [.int 0, .int 0, .null, .null, .int 0, .int 0, .int 0, .int 0, .int 0, .int 0, .int 0, .int 0, .int 0, .int 0, .int 0])) 15 = h47 at hy ⊢
      generalize g_n h = a46 at hy ⊢
      refine g_dup (pc' := 84) d_Net_open_83 rfl rfl ?_
      refine g_iload_n 2 (i := 2) (pc' := 85) d_Net_open_84 rfl rfl rfl ?_
      refine g_iload_n 3 (i := 3) (pc' := 86) d_Net_open_85 rfl rfl rfl ?_
      replace hy := g_b_inv hy
      obtain ⟨h49, hf50, hy⟩ := hy
      refine g_callI (h1 := h49) (pc' := 89) (As := [.int v2, .int v3]) (rest := [.ref a46]) 2 (T_Circuit_init (hy := hf50)) d_Net_open_86 rfl rfl q1622 q1141 q142 q1142 hd_Circuit_init rfl ⟨by decide, by decide⟩ (by first | exact Nat.le_of_ble_eq_true rfl | (simp only [List.map, List.sum_cons, List.sum_nil, g_cat_rf]; exact Nat.le_of_ble_eq_true rfl) | (simp only [List.map, List.sum_cons, List.sum_nil, g_cat_rf, Value.category]; decide)) rfl ?_
      refine g_astore (pc' := 91) (Lc' := [(4, .ref a46), (0, .ref v0), (1, .ref a40), (2, .int v2), (3, .int v3)]) d_Net_open_89 (by decide) rfl rfl ?_
      refine g_aload 0 (pc' := 93) d_Net_open_91 rfl rfl ?_
      refine g_aload_n 2 (i := 1) (pc' := 94) d_Net_open_93 rfl rfl rfl ?_
      replace hy := g_pF_inv hy
      obtain ⟨fs51, hc52, hl53, hy⟩ := hy
      refine g_putfN (pc' := 97) d_Net_open_94 hc52 rfl (by decide) hl53 rfl rfl rfl q1155 rfl rfl ?_
      generalize g_up h49 a46 (.inr (12, fs51.set 2 (.ref a40))) = h54 at hy ⊢
      refine g_aload_n 1 (i := 0) (pc' := 98) d_Net_open_97 rfl rfl rfl ?_
      replace hy := g_gR_inv hy
      obtain ⟨fs55, x56, hc57, hv58, hy⟩ := hy
      refine g_getf (pc' := 101) d_Net_open_98 hc57 rfl (by decide) hv58 q555 (Or.inl rfl) rfl ?_
      refine g_aload 0 (pc' := 103) d_Net_open_101 rfl rfl ?_
      replace hy := g_nn_inv hy
      obtain ⟨a59, rfl, hy⟩ := hy
      replace hy := g_is_inv hy
      obtain ⟨fs60, hc61, hy⟩ := hy
      replace hy := g_b2_inv hy
      obtain ⟨x62, h63, hf64, hy⟩ := hy
      refine g_callV (rv := some (.int x62)) (h1 := h63) (pc' := 106) (As := [va_rf (some a46)]) (rest := []) 1 (T_ArrayList_add0 (hy := hf64)) d_Net_open_103 hc61 rfl rfl q1623 q1037 q1038 q112 q1039 hd_ArrayList_add0 rfl ⟨by decide, by decide⟩ (by first | exact Nat.le_of_ble_eq_true rfl | (simp only [List.map, List.sum_cons, List.sum_nil, g_cat_rf]; exact Nat.le_of_ble_eq_true rfl) | (simp only [List.map, List.sum_cons, List.sum_nil, g_cat_rf, Value.category]; decide)) rfl ?_
      refine g_pop (pc' := 107) d_Net_open_106 rfl rfl ?_
      refine g_iconst (v := (0 : Int32)) (pc' := 108) d_Net_open_107 (by decide) rfl ?_
      cases hy
      exact g_iret rfl rfl rfl d_Net_open_108
    · rw [if_neg c45] at hy
      refine g_icmp_geF (pc' := 67) d_Net_open_64 80 c45 (by decide) rfl ?_
      refine g_aload_n 0 (i := 0) (pc' := 68) d_Net_open_67 rfl rfl rfl ?_
      refine g_aload_n 1 (i := 1) (pc' := 69) d_Net_open_68 rfl rfl rfl ?_
      refine g_iload 4 (pc' := 71) d_Net_open_69 rfl rfl ?_
      replace hy := g_is_inv hy
      obtain ⟨fs65, hc66, hy⟩ := hy
      replace hy := g_b_inv hy
      obtain ⟨h68, hf69, hy⟩ := hy
      refine g_callV (rv := none) (h1 := h68) (pc' := 74) (As := [va_rf (some a40), .int v4]) (rest := []) 2 (T_Net_make (hy := hf69)) d_Net_open_71 hc66 rfl rfl q1621 q1275 q1276 q109 q1277 hd_Net_make rfl ⟨by decide, by decide⟩ (by first | exact Nat.le_of_ble_eq_true rfl | (simp only [List.map, List.sum_cons, List.sum_nil, g_cat_rf]; exact Nat.le_of_ble_eq_true rfl) | (simp only [List.map, List.sum_cons, List.sum_nil, g_cat_rf, Value.category]; decide)) rfl ?_
      refine g_iinc 4 (v := (v4 + (1 : Int32))) (pc' := 77) (Lc' := [(4, .int (v4 + (1 : Int32))), (0, .ref v0), (1, .ref a40), (2, .int v2), (3, .int v3)]) d_Net_open_74 rfl rfl (by decide) rfl rfl ?_
      refine g_goto (pc' := 58) d_Net_open_77 (by decide) ?_
      refine g_sub [1, 2, 3, 4, 0] rfl ?_
      exact ih _ _ _ _ _ _ hy
def Net_open (h : g_AH) (this : Nat) (p0 : Option Nat) (p1 : Int32) (p2 : Int32) : Option (Int32 × g_AH) :=
  g_gR h this 1 3 fun x2 => g_nn x2 fun a5 => g_is h a5 15 <| g_b (ArrayList_size h a5) fun x8 => if x8 = (8 : Int32) then (some ((1 : Int32), h)) else (g_nn p0 fun a12 => g_gI h a12 6 3 fun x14 => if (2 : Int32) ≤ x14 then (g_is h this 1 <| g_b (Net_hasRoom1 h this (some a12) p1 (-1 : Int32)) fun x20 => if x20 = 0 then (some ((5 : Int32), h)) else (g_gR h this 1 3 fun x25 => g_nn x25 fun a28 => g_is h a28 15 <| g_b (ArrayList_size h a28) fun x31 => g_is h this 1 <| g_b2 (Net_labelAll h this (some a12) x31 (0 : Int32)) fun x36 h37 => if x36 = 0 then (some ((6 : Int32), h37)) else (Net_open_58  gFU h37 this (some a12) p1 p2 (1 : Int32)))) else (some ((3 : Int32), h)))
set_option maxHeartbeats 4000000 in
set_option maxRecDepth 100000 in
theorem T_Net_open {l : Launch} {B : g_B} (h : g_AH) (this : Nat) (p0 : Option Nat) (p1 : Int32) (p2 : Int32) (z : Int32 × g_AH) (hy : Net_open h this p0 p1 p2 = some z) : g_CT l B y_Net_open k_Net_open [.ref this, va_rf p0, .int p1, .int p2] h (.inl (some (.int z.1))) z.2 := by
  refine g_start2 (Lc := [(0, .ref this), (1, va_rf p0), (2, .int p1), (3, .int p2)]) (by decide) rfl rfl (by rcases p0 with _ | p0 <;> exact Nat.le_of_ble_eq_true rfl) (by rcases p0 with _ | p0 <;> rfl) fun X => ?_
  unfold Net_open at hy
  refine g_aload_n 0 (i := 0) (pc' := 1) d_Net_open_0 rfl rfl rfl ?_
  replace hy := g_gR_inv hy
  obtain ⟨fs1, x2, hc3, hv4, hy⟩ := hy
  refine g_getf (pc' := 4) d_Net_open_1 hc3 rfl (by decide) hv4 q555 (Or.inl rfl) rfl ?_
  replace hy := g_nn_inv hy
  obtain ⟨a5, rfl, hy⟩ := hy
  replace hy := g_is_inv hy
  obtain ⟨fs6, hc7, hy⟩ := hy
  replace hy := g_b_inv hy
  obtain ⟨x8, hf10, hy⟩ := hy
  refine g_callV (rv := some (.int x8)) (h1 := h) (pc' := 7) (As := []) (rest := []) 0 (T_ArrayList_size (hy := hf10)) d_Net_open_4 hc7 rfl rfl q681 q674 q675 q112 q676 hd_ArrayList_size rfl ⟨by decide, by decide⟩ (by first | exact Nat.le_of_ble_eq_true rfl | (simp only [List.map, List.sum_cons, List.sum_nil, g_cat_rf]; exact Nat.le_of_ble_eq_true rfl) | (simp only [List.map, List.sum_cons, List.sum_nil, g_cat_rf, Value.category]; decide)) rfl ?_
  refine g_bipush (v := (8 : Int32)) (pc' := 9) d_Net_open_7 (by decide) rfl ?_
  by_cases c11 : x8 = (8 : Int32)
  · rw [if_pos c11] at hy
    refine g_icmp_neF (pc' := 12) d_Net_open_9 14 c11 (by decide) rfl ?_
    refine g_iconst (v := (1 : Int32)) (pc' := 13) d_Net_open_12 (by decide) rfl ?_
    cases hy
    exact g_iret rfl rfl rfl d_Net_open_13
  · rw [if_neg c11] at hy
    refine g_icmp_neT (pc' := 14) d_Net_open_9 c11 (by decide) ?_
    refine g_aloadO_n 1 (i := 1) (pc' := 15) d_Net_open_14 rfl rfl rfl ?_
    replace hy := g_nn_inv hy
    obtain ⟨a12, rfl, hy⟩ := hy
    replace hy := g_gI_inv hy
    obtain ⟨fs13, x14, hc15, hv16, hy⟩ := hy
    refine g_getfN (pc' := 18) d_Net_open_15 hc15 rfl (by decide) hv16 q629 rfl rfl ?_
    refine g_iconst (v := (2 : Int32)) (pc' := 19) d_Net_open_18 (by decide) rfl ?_
    by_cases c17 : (2 : Int32) ≤ x14
    · rw [if_pos c17] at hy
      refine g_icmp_geT (pc' := 24) d_Net_open_19 c17 (by decide) ?_
      refine g_aload_n 0 (i := 0) (pc' := 25) d_Net_open_24 rfl rfl rfl ?_
      refine g_aload_n 1 (i := 1) (pc' := 26) d_Net_open_25 rfl rfl rfl ?_
      refine g_iload_n 2 (i := 2) (pc' := 27) d_Net_open_26 rfl rfl rfl ?_
      refine g_iconst (v := (-1 : Int32)) (pc' := 28) d_Net_open_27 (by decide) rfl ?_
      replace hy := g_is_inv hy
      obtain ⟨fs18, hc19, hy⟩ := hy
      replace hy := g_b_inv hy
      obtain ⟨x20, hf22, hy⟩ := hy
      refine g_callV (rv := some (.int x20)) (h1 := h) (pc' := 31) (As := [va_rf (some a12), .int p1, .int (-1 : Int32)]) (rest := []) 3 (T_Net_hasRoom1 (hy := hf22)) d_Net_open_28 hc19 rfl rfl q1603 q1604 q1605 q109 q1606 hd_Net_hasRoom1 rfl ⟨by decide, by decide⟩ (by first | exact Nat.le_of_ble_eq_true rfl | (simp only [List.map, List.sum_cons, List.sum_nil, g_cat_rf]; exact Nat.le_of_ble_eq_true rfl) | (simp only [List.map, List.sum_cons, List.sum_nil, g_cat_rf, Value.category]; decide)) rfl ?_
      by_cases c23 : x20 = 0
      · rw [if_pos c23] at hy
        refine g_if_neF (pc' := 34) d_Net_open_31 36 c23 (by decide) rfl ?_
        refine g_iconst (v := (5 : Int32)) (pc' := 35) d_Net_open_34 (by decide) rfl ?_
        cases hy
        exact g_iret rfl rfl rfl d_Net_open_35
      · rw [if_neg c23] at hy
        refine g_if_neT (pc' := 36) d_Net_open_31 c23 (by decide) ?_
        refine g_aload_n 0 (i := 0) (pc' := 37) d_Net_open_36 rfl rfl rfl ?_
        refine g_aload_n 1 (i := 1) (pc' := 38) d_Net_open_37 rfl rfl rfl ?_
        refine g_aload_n 0 (i := 0) (pc' := 39) d_Net_open_38 rfl rfl rfl ?_
        replace hy := g_gR_inv hy
        obtain ⟨fs24, x25, hc26, hv27, hy⟩ := hy
        refine g_getf (pc' := 42) d_Net_open_39 hc26 rfl (by decide) hv27 q555 (Or.inl rfl) rfl ?_
        replace hy := g_nn_inv hy
        obtain ⟨a28, rfl, hy⟩ := hy
        replace hy := g_is_inv hy
        obtain ⟨fs29, hc30, hy⟩ := hy
        replace hy := g_b_inv hy
        obtain ⟨x31, hf33, hy⟩ := hy
        refine g_callV (rv := some (.int x31)) (h1 := h) (pc' := 45) (As := []) (rest := [.ref a12, .ref this]) 0 (T_ArrayList_size (hy := hf33)) d_Net_open_42 hc30 rfl rfl q681 q674 q675 q112 q676 hd_ArrayList_size rfl ⟨by decide, by decide⟩ (by first | exact Nat.le_of_ble_eq_true rfl | (simp only [List.map, List.sum_cons, List.sum_nil, g_cat_rf]; exact Nat.le_of_ble_eq_true rfl) | (simp only [List.map, List.sum_cons, List.sum_nil, g_cat_rf, Value.category]; decide)) rfl ?_
        refine g_iconst (v := (0 : Int32)) (pc' := 46) d_Net_open_45 (by decide) rfl ?_
        replace hy := g_is_inv hy
        obtain ⟨fs34, hc35, hy⟩ := hy
        replace hy := g_b2_inv hy
        obtain ⟨x36, h37, hf38, hy⟩ := hy
        refine g_callV (rv := some (.int x36)) (h1 := h37) (pc' := 49) (As := [va_rf (some a12), .int x31, .int (0 : Int32)]) (rest := []) 3 (T_Net_labelAll (hy := hf38)) d_Net_open_46 hc35 rfl rfl q1608 q1609 q1610 q109 q1611 hd_Net_labelAll rfl ⟨by decide, by decide⟩ (by first | exact Nat.le_of_ble_eq_true rfl | (simp only [List.map, List.sum_cons, List.sum_nil, g_cat_rf]; exact Nat.le_of_ble_eq_true rfl) | (simp only [List.map, List.sum_cons, List.sum_nil, g_cat_rf, Value.category]; decide)) rfl ?_
        by_cases c39 : x36 = 0
        · rw [if_pos c39] at hy
          refine g_if_neF (pc' := 52) d_Net_open_49 55 c39 (by decide) rfl ?_
          refine g_bipush (v := (6 : Int32)) (pc' := 54) d_Net_open_52 (by decide) rfl ?_
          cases hy
          exact g_iret rfl rfl rfl d_Net_open_54
        · rw [if_neg c39] at hy
          refine g_if_neT (pc' := 55) d_Net_open_49 c39 (by decide) ?_
          refine g_iconst (v := (1 : Int32)) (pc' := 56) d_Net_open_55 (by decide) rfl ?_
          refine g_istore (pc' := 58) (Lc' := [(4, .int (1 : Int32)), (0, .ref this), (1, .ref a12), (2, .int p1), (3, .int p2)]) d_Net_open_56 (by decide) rfl rfl ?_
          refine g_sub [1, 2, 3, 4, 0] rfl ?_
          exact W_Net_open_58 _ _ _ _ _ _ _ _ hy
    · rw [if_neg c17] at hy
      refine g_icmp_geF (pc' := 22) d_Net_open_19 24 c17 (by decide) rfl ?_
      refine g_iconst (v := (3 : Int32)) (pc' := 23) d_Net_open_22 (by decide) rfl ?_
      cases hy
      exact g_iret rfl rfl rfl d_Net_open_23
theorem hd_Net_open : g_dsc y_Net_open 3 := ⟨by decide +kernel, by decide +kernel, by decide +kernel⟩
/-! CircuitDesk.open(II)I -/
abbrev y_Desk_open : MethodName := ⟨"CircuitDesk", "open", "(II)I"⟩
abbrev k_Desk_open : g_M := (prog_1_method_27_code, 4, "CircuitDesk", 21, (some FieldType.int), "open", [], 0)
theorem d_Desk_open_0 : decode prog_1_method_27_code 0 = .ok (.iload_n 1, 1) := by decide +kernel
theorem d_Desk_open_1 : decode prog_1_method_27_code 1 = .ok (.invokestatic 250, 3) := by decide +kernel
theorem d_Desk_open_4 : decode prog_1_method_27_code 4 = .ok (.ifCond .eq 19, 3) := by decide +kernel
theorem d_Desk_open_7 : decode prog_1_method_27_code 7 = .ok (.iload_n 2, 1) := by decide +kernel
theorem d_Desk_open_8 : decode prog_1_method_27_code 8 = .ok (.i2l, 1) := by decide +kernel
theorem d_Desk_open_9 : decode prog_1_method_27_code 9 = .ok (.lconst 0, 1) := by decide +kernel
theorem d_Desk_open_10 : decode prog_1_method_27_code 10 = .ok (.ldc2_w 95, 3) := by decide +kernel
theorem d_Desk_open_13 : decode prog_1_method_27_code 13 = .ok (.invokestatic 54, 3) := by decide +kernel
theorem d_Desk_open_16 : decode prog_1_method_27_code 16 = .ok (.ifCond .eq 7, 3) := by decide +kernel
theorem d_Desk_open_19 : decode prog_1_method_27_code 19 = .ok (.iconst 1, 1) := by decide +kernel
theorem d_Desk_open_20 : decode prog_1_method_27_code 20 = .ok (.goto 4, 3) := by decide +kernel
theorem d_Desk_open_23 : decode prog_1_method_27_code 23 = .ok (.iconst 0, 1) := by decide +kernel
theorem d_Desk_open_24 : decode prog_1_method_27_code 24 = .ok (.invokestatic 80, 3) := by decide +kernel
theorem d_Desk_open_27 : decode prog_1_method_27_code 27 = .ok (.aload_n 0, 1) := by decide +kernel
theorem d_Desk_open_28 : decode prog_1_method_27_code 28 = .ok (.getfield 19, 3) := by decide +kernel
theorem d_Desk_open_31 : decode prog_1_method_27_code 31 = .ok (.aload_n 0, 1) := by decide +kernel
theorem d_Desk_open_32 : decode prog_1_method_27_code 32 = .ok (.getfield 28, 3) := by decide +kernel
theorem d_Desk_open_35 : decode prog_1_method_27_code 35 = .ok (.iload_n 1, 1) := by decide +kernel
theorem d_Desk_open_36 : decode prog_1_method_27_code 36 = .ok (.iload_n 2, 1) := by decide +kernel
theorem d_Desk_open_37 : decode prog_1_method_27_code 37 = .ok (.invokevirtual 259, 3) := by decide +kernel
theorem d_Desk_open_40 : decode prog_1_method_27_code 40 = .ok (.istore_n 3, 1) := by decide +kernel
theorem d_Desk_open_41 : decode prog_1_method_27_code 41 = .ok (.iload_n 3, 1) := by decide +kernel
theorem d_Desk_open_42 : decode prog_1_method_27_code 42 = .ok (.ifCond .ne 14, 3) := by decide +kernel
theorem d_Desk_open_45 : decode prog_1_method_27_code 45 = .ok (.aload_n 0, 1) := by decide +kernel
theorem d_Desk_open_46 : decode prog_1_method_27_code 46 = .ok (.new 25, 3) := by decide +kernel
theorem d_Desk_open_49 : decode prog_1_method_27_code 49 = .ok (.dup, 1) := by decide +kernel
theorem d_Desk_open_50 : decode prog_1_method_27_code 50 = .ok (.invokespecial 27, 3) := by decide +kernel
theorem d_Desk_open_53 : decode prog_1_method_27_code 53 = .ok (.putfield 28, 3) := by decide +kernel
theorem d_Desk_open_56 : decode prog_1_method_27_code 56 = .ok (.iload_n 3, 1) := by decide +kernel
theorem d_Desk_open_57 : decode prog_1_method_27_code 57 = .ok (.ireturn, 1) := by decide +kernel
def Desk_open_24 (h : g_AH) (v0 : Nat) (v1 : Int32) (v2 : Int32) (s0 : Int32) : Option ((Int32 ⊕ g_EX) × g_AH) :=
  g_bx (Desk_checkArgument h s0) fun x5 h6 => g_gR h6 v0 0 0 fun x11 => g_gR h6 v0 0 1 fun x15 => g_nn x11 fun a18 => g_is h6 a18 1 <| g_b2 (Net_open h6 a18 x15 v1 v2) fun x21 h22 => if x21 = 0 then (g_mk h22 (.inr (6, [.null, .null, .null, .int 0])) 4 fun a25 h26 => g_b (Way_init h26 a25) fun h28 => g_pF h28 v0 0 1 (.ref a25) fun h33 => some (.inl x21, h33)) else (some (.inl x21, h22))
set_option maxHeartbeats 4000000 in
set_option maxRecDepth 100000 in
theorem W_Desk_open_24 {X : g_X} (z : (Int32 ⊕ g_EX) × g_AH) (h : g_AH) (v0 : Nat) (v1 : Int32) (v2 : Int32) (s0 : Int32) (hy : Desk_open_24  h v0 v1 v2 s0 = some z) : G X k_Desk_open (g_rI z.1) z.2 h 24 [(0, .ref v0), (1, .int v1), (2, .int v2)] [.int s0] := by
  unfold Desk_open_24 at hy
  replace hy := g_bx_inv hy
  rcases hy with ⟨x5, h6, hf7, hy⟩ | ⟨⟨E9, q9⟩, h6, hf7, ez9⟩
  rotate_left
  · subst ez9
    exact g_callSX (As := [.int s0]) (rest := []) 1 (T_Desk_checkArgument (hy := hf7)) d_Desk_open_24 q1331 q1332 q108 q1333 hd_Desk_checkArgument rfl ⟨by decide, by decide⟩ (by first | exact Nat.le_of_ble_eq_true rfl | (simp only [List.map, List.sum_cons, List.sum_nil, g_cat_rf]; exact Nat.le_of_ble_eq_true rfl) | (simp only [List.map, List.sum_cons, List.sum_nil, g_cat_rf, Value.category]; decide)) rfl rfl
  refine g_callS (rv := none) (h1 := h6) (pc' := 27) (As := [.int s0]) (rest := []) 1 (T_Desk_checkArgument (hy := hf7)) d_Desk_open_24 q1331 q1332 q108 q1333 hd_Desk_checkArgument rfl ⟨by decide, by decide⟩ (by first | exact Nat.le_of_ble_eq_true rfl | (simp only [List.map, List.sum_cons, List.sum_nil, g_cat_rf]; exact Nat.le_of_ble_eq_true rfl) | (simp only [List.map, List.sum_cons, List.sum_nil, g_cat_rf, Value.category]; decide)) rfl ?_
  refine g_aload_n 0 (i := 0) (pc' := 28) d_Desk_open_27 rfl rfl rfl ?_
  replace hy := g_gR_inv hy
  obtain ⟨fs10, x11, hc12, hv13, hy⟩ := hy
  refine g_getf (pc' := 31) d_Desk_open_28 hc12 rfl (by decide) hv13 q642 (Or.inl rfl) rfl ?_
  refine g_aload_n 0 (i := 0) (pc' := 32) d_Desk_open_31 rfl rfl rfl ?_
  replace hy := g_gR_inv hy
  obtain ⟨fs14, x15, hc16, hv17, hy⟩ := hy
  refine g_getf (pc' := 35) d_Desk_open_32 hc16 rfl (by decide) hv17 q643 (Or.inl rfl) rfl ?_
  refine g_iload_n 1 (i := 1) (pc' := 36) d_Desk_open_35 rfl rfl rfl ?_
  refine g_iload_n 2 (i := 2) (pc' := 37) d_Desk_open_36 rfl rfl rfl ?_
  replace hy := g_nn_inv hy
  obtain ⟨a18, rfl, hy⟩ := hy
  replace hy := g_is_inv hy
  obtain ⟨fs19, hc20, hy⟩ := hy
  replace hy := g_b2_inv hy
  obtain ⟨x21, h22, hf23, hy⟩ := hy
  refine g_callV (rv := some (.int x21)) (h1 := h22) (pc' := 40) (As := [va_rf x15, .int v1, .int v2]) (rest := []) 3 (T_Net_open (hy := hf23)) d_Desk_open_37 hc20 rfl rfl q1599 q1600 q1601 q109 q1602 hd_Net_open rfl ⟨by decide, by decide⟩ (by first | exact Nat.le_of_ble_eq_true rfl | (simp only [List.map, List.sum_cons, List.sum_nil, g_cat_rf]; exact Nat.le_of_ble_eq_true rfl) | (simp only [List.map, List.sum_cons, List.sum_nil, g_cat_rf, Value.category]; decide)) rfl ?_
  refine g_istore_n (i := 3) (pc' := 41) (Lc' := [(3, .int x21), (0, .ref v0), (1, .int v1), (2, .int v2)]) d_Desk_open_40 rfl (by decide) rfl rfl ?_
  refine g_iload_n 0 (i := 3) (pc' := 42) d_Desk_open_41 rfl rfl rfl ?_
  by_cases c24 : x21 = 0
  · rw [if_pos c24] at hy
    refine g_if_neF (pc' := 45) d_Desk_open_42 56 c24 (by decide) rfl ?_
    refine g_aload_n 1 (i := 0) (pc' := 46) d_Desk_open_45 rfl rfl rfl ?_
    replace hy := g_mk_inv hy
    refine g_new (ci := 6) (fs := [.null, .null, .null, .int 0]) (pc' := 49) d_Desk_open_46 rfl q610 q611 q134 gdf_6 rfl ?_
    generalize g_al h22 (.inr (6, [.null, .null, .null, .int 0])) 4 = h26 at hy ⊢
    generalize g_n h22 = a25 at hy ⊢
    refine g_dup (pc' := 50) d_Desk_open_49 rfl rfl ?_
    replace hy := g_b_inv hy
    obtain ⟨h28, hf29, hy⟩ := hy
    refine g_callIN (h1 := h28) (pc' := 53) (As := []) (rest := [.ref a25, .ref v0]) 0 (T_Way_init (hy := hf29)) d_Desk_open_50 rfl rfl q612 q613 q134 q614 hd_Way_init rfl ⟨by decide, by decide⟩ (by first | exact Nat.le_of_ble_eq_true rfl | (simp only [List.map, List.sum_cons, List.sum_nil, g_cat_rf]; exact Nat.le_of_ble_eq_true rfl) | (simp only [List.map, List.sum_cons, List.sum_nil, g_cat_rf, Value.category]; decide)) rfl ?_
    replace hy := g_pF_inv hy
    obtain ⟨fs30, hc31, hl32, hy⟩ := hy
    refine g_putf (pc' := 56) d_Desk_open_53 hc31 rfl (by decide) hl32 rfl rfl rfl q643 (Or.inl rfl) rfl ?_
    generalize g_up h28 v0 (.inr (0, fs30.set 1 (.ref a25))) = h33 at hy ⊢
    refine g_iload_n 0 (i := 3) (pc' := 57) d_Desk_open_56 rfl rfl rfl ?_
    cases hy
    exact g_iret rfl rfl rfl d_Desk_open_57
  · rw [if_neg c24] at hy
    refine g_if_neT (pc' := 56) d_Desk_open_42 c24 (by decide) ?_
    refine g_iload_n 0 (i := 3) (pc' := 57) d_Desk_open_56 rfl rfl rfl ?_
    cases hy
    exact g_iret rfl rfl rfl d_Desk_open_57
def Desk_open_23 (h : g_AH) (v0 : Nat) (v1 : Int32) (v2 : Int32) : Option ((Int32 ⊕ g_EX) × g_AH) :=
  Desk_open_24  h v0 v1 v2 (0 : Int32)
set_option maxHeartbeats 4000000 in
set_option maxRecDepth 100000 in
theorem W_Desk_open_23 {X : g_X} (z : (Int32 ⊕ g_EX) × g_AH) (h : g_AH) (v0 : Nat) (v1 : Int32) (v2 : Int32) (hy : Desk_open_23  h v0 v1 v2 = some z) : G X k_Desk_open (g_rI z.1) z.2 h 23 [(0, .ref v0), (1, .int v1), (2, .int v2)] [] := by
  unfold Desk_open_23 at hy
  refine g_iconst (v := (0 : Int32)) (pc' := 24) d_Desk_open_23 (by decide) rfl ?_
  exact W_Desk_open_24 _ _ _ _ _ _ hy
def Desk_open (h : g_AH) (this : Nat) (p0 : Int32) (p1 : Int32) : Option ((Int32 ⊕ g_EX) × g_AH) :=
  g_b (Desk_isBand p0) fun x1 => if x1 = 0 then (Desk_open_23  h this p0 p1) else (g_b (Desk_isBetween ((p1).toInt64) (0 : Int64) (9 : Int64)) fun x34 => if x34 = 0 then (Desk_open_23  h this p0 p1) else (Desk_open_24  h this p0 p1 (1 : Int32)))
set_option maxHeartbeats 4000000 in
set_option maxRecDepth 100000 in
theorem T_Desk_open {l : Launch} {B : g_B} (h : g_AH) (this : Nat) (p0 : Int32) (p1 : Int32) (z : (Int32 ⊕ g_EX) × g_AH) (hy : Desk_open h this p0 p1 = some z) : g_CT l B y_Desk_open k_Desk_open [.ref this, .int p0, .int p1] h (g_rI z.1) z.2 := by
  refine g_start2 (Lc := [(0, .ref this), (1, .int p0), (2, .int p1)]) (by decide) rfl rfl (by exact Nat.le_of_ble_eq_true rfl) (by rfl) fun X => ?_
  unfold Desk_open at hy
  refine g_iload_n 1 (i := 1) (pc' := 1) d_Desk_open_0 rfl rfl rfl ?_
  replace hy := g_b_inv hy
  obtain ⟨x1, hf3, hy⟩ := hy
  refine g_callS (rv := some (.int x1)) (h1 := h) (pc' := 4) (As := [.int p0]) (rest := []) 1 (T_Desk_isBand (hy := hf3)) d_Desk_open_1 q1581 q1582 q108 q1583 hd_Desk_isBand rfl ⟨by decide, by decide⟩ (by first | exact Nat.le_of_ble_eq_true rfl | (simp only [List.map, List.sum_cons, List.sum_nil, g_cat_rf]; exact Nat.le_of_ble_eq_true rfl) | (simp only [List.map, List.sum_cons, List.sum_nil, g_cat_rf, Value.category]; decide)) rfl ?_
  by_cases c4 : x1 = 0
  · rw [if_pos c4] at hy
    refine g_if_eqT (pc' := 23) d_Desk_open_4 c4 (by decide) ?_
    exact W_Desk_open_23 _ _ _ _ _ hy
  · rw [if_neg c4] at hy
    refine g_if_eqF (pc' := 7) d_Desk_open_4 23 c4 (by decide) rfl ?_
    refine g_iload_n 2 (i := 2) (pc' := 8) d_Desk_open_7 rfl rfl rfl ?_
    refine g_i2l (pc' := 9) d_Desk_open_8 rfl ?_
    refine g_lconst (v := 0) (pc' := 10) d_Desk_open_9 (by decide) rfl ?_
    refine g_ldc2 (pc' := 13) d_Desk_open_10 q1402 rfl ?_
    replace hy := g_b_inv hy
    obtain ⟨x34, hf36, hy⟩ := hy
    refine g_callS (rv := some (.int x34)) (h1 := h) (pc' := 16) (As := [.long ((p1).toInt64), .long (0 : Int64), .long (9 : Int64)]) (rest := []) 3 (T_Desk_isBetween (hy := hf36)) d_Desk_open_13 q1330 q828 q108 q829 hd_Desk_isBetween rfl ⟨by decide, by decide⟩ (by first | exact Nat.le_of_ble_eq_true rfl | (simp only [List.map, List.sum_cons, List.sum_nil, g_cat_rf]; exact Nat.le_of_ble_eq_true rfl) | (simp only [List.map, List.sum_cons, List.sum_nil, g_cat_rf, Value.category]; decide)) rfl ?_
    by_cases c37 : x34 = 0
    · rw [if_pos c37] at hy
      refine g_if_eqT (pc' := 23) d_Desk_open_16 c37 (by decide) ?_
      exact W_Desk_open_23 _ _ _ _ _ hy
    · rw [if_neg c37] at hy
      refine g_if_eqF (pc' := 19) d_Desk_open_16 23 c37 (by decide) rfl ?_
      refine g_iconst (v := (1 : Int32)) (pc' := 20) d_Desk_open_19 (by decide) rfl ?_
      refine g_goto (pc' := 24) d_Desk_open_20 (by decide) ?_
      exact W_Desk_open_24 _ _ _ _ _ _ hy
theorem hd_Desk_open : g_dsc y_Desk_open 2 := ⟨by decide +kernel, by decide +kernel, by decide +kernel⟩
/-! CircuitDesk.circuitOf(I)LCircuitDesk$Circuit; -/
abbrev y_Desk_circuitOf : MethodName := ⟨"CircuitDesk", "circuitOf", "(I)LCircuitDesk$Circuit;"⟩
abbrev k_Desk_circuitOf : g_M := (prog_1_method_8_code, 2, "CircuitDesk", 18, (some (FieldType.object "CircuitDesk$Circuit")), "circuitOf", [], 0)
theorem d_Desk_circuitOf_0 : decode prog_1_method_8_code 0 = .ok (.iload_n 1, 1) := by decide +kernel
theorem d_Desk_circuitOf_1 : decode prog_1_method_8_code 1 = .ok (.i2l, 1) := by decide +kernel
theorem d_Desk_circuitOf_2 : decode prog_1_method_8_code 2 = .ok (.lconst 0, 1) := by decide +kernel
theorem d_Desk_circuitOf_3 : decode prog_1_method_8_code 3 = .ok (.aload_n 0, 1) := by decide +kernel
theorem d_Desk_circuitOf_4 : decode prog_1_method_8_code 4 = .ok (.getfield 19, 3) := by decide +kernel
theorem d_Desk_circuitOf_7 : decode prog_1_method_8_code 7 = .ok (.getfield 73, 3) := by decide +kernel
theorem d_Desk_circuitOf_10 : decode prog_1_method_8_code 10 = .ok (.invokevirtual 48, 3) := by decide +kernel
theorem d_Desk_circuitOf_13 : decode prog_1_method_8_code 13 = .ok (.iconst 1, 1) := by decide +kernel
theorem d_Desk_circuitOf_14 : decode prog_1_method_8_code 14 = .ok (.isub, 1) := by decide +kernel
theorem d_Desk_circuitOf_15 : decode prog_1_method_8_code 15 = .ok (.i2l, 1) := by decide +kernel
theorem d_Desk_circuitOf_16 : decode prog_1_method_8_code 16 = .ok (.invokestatic 54, 3) := by decide +kernel
theorem d_Desk_circuitOf_19 : decode prog_1_method_8_code 19 = .ok (.invokestatic 58, 3) := by decide +kernel
theorem d_Desk_circuitOf_22 : decode prog_1_method_8_code 22 = .ok (.aload_n 0, 1) := by decide +kernel
theorem d_Desk_circuitOf_23 : decode prog_1_method_8_code 23 = .ok (.getfield 19, 3) := by decide +kernel
theorem d_Desk_circuitOf_26 : decode prog_1_method_8_code 26 = .ok (.getfield 73, 3) := by decide +kernel
theorem d_Desk_circuitOf_29 : decode prog_1_method_8_code 29 = .ok (.iload_n 1, 1) := by decide +kernel
theorem d_Desk_circuitOf_30 : decode prog_1_method_8_code 30 = .ok (.invokevirtual 62, 3) := by decide +kernel
theorem d_Desk_circuitOf_33 : decode prog_1_method_8_code 33 = .ok (.checkcast 76, 3) := by decide +kernel
theorem d_Desk_circuitOf_36 : decode prog_1_method_8_code 36 = .ok (.areturn, 1) := by decide +kernel
def Desk_circuitOf (h : g_AH) (this : Nat) (p0 : Int32) : Option ((Option Nat ⊕ g_EX) × g_AH) :=
  g_gR h this 0 0 fun x2 => g_nn x2 fun a5 => g_gR h a5 1 3 fun x7 => g_nn x7 fun a10 => g_is h a10 15 <| g_b (ArrayList_size h a10) fun x13 => g_b (Desk_isBetween ((p0).toInt64) (0 : Int64) (((x13 - (1 : Int32))).toInt64)) fun x16 => g_bx (Desk_checkIndex h x16) fun x19 h20 => g_gR h20 this 0 0 fun x25 => g_nn x25 fun a28 => g_gR h20 a28 1 3 fun x30 => g_nn x30 fun a33 => g_is h20 a33 15 <| g_b (ArrayList_get h20 a33 p0) fun x36 => g_ck h20 x36 12 <| some (.inl x36, h20)
set_option maxHeartbeats 4000000 in
set_option maxRecDepth 100000 in
theorem T_Desk_circuitOf {l : Launch} {B : g_B} (h : g_AH) (this : Nat) (p0 : Int32) (z : (Option Nat ⊕ g_EX) × g_AH) (hy : Desk_circuitOf h this p0 = some z) : g_CT l B y_Desk_circuitOf k_Desk_circuitOf [.ref this, .int p0] h (g_rR z.1) z.2 := by
  refine g_start2 (Lc := [(0, .ref this), (1, .int p0)]) (by decide) rfl rfl (by exact Nat.le_of_ble_eq_true rfl) (by rfl) fun X => ?_
  unfold Desk_circuitOf at hy
  refine g_iload_n 1 (i := 1) (pc' := 1) d_Desk_circuitOf_0 rfl rfl rfl ?_
  refine g_i2l (pc' := 2) d_Desk_circuitOf_1 rfl ?_
  refine g_lconst (v := 0) (pc' := 3) d_Desk_circuitOf_2 (by decide) rfl ?_
  refine g_aload_n 0 (i := 0) (pc' := 4) d_Desk_circuitOf_3 rfl rfl rfl ?_
  replace hy := g_gR_inv hy
  obtain ⟨fs1, x2, hc3, hv4, hy⟩ := hy
  refine g_getf (pc' := 7) d_Desk_circuitOf_4 hc3 rfl (by decide) hv4 q642 (Or.inl rfl) rfl ?_
  replace hy := g_nn_inv hy
  obtain ⟨a5, rfl, hy⟩ := hy
  replace hy := g_gR_inv hy
  obtain ⟨fs6, x7, hc8, hv9, hy⟩ := hy
  refine g_getfN (pc' := 10) d_Desk_circuitOf_7 hc8 rfl (by decide) hv9 q559 rfl rfl ?_
  replace hy := g_nn_inv hy
  obtain ⟨a10, rfl, hy⟩ := hy
  replace hy := g_is_inv hy
  obtain ⟨fs11, hc12, hy⟩ := hy
  replace hy := g_b_inv hy
  obtain ⟨x13, hf15, hy⟩ := hy
  refine g_callV (rv := some (.int x13)) (h1 := h) (pc' := 13) (As := []) (rest := [.long (0 : Int64), .long ((p0).toInt64)]) 0 (T_ArrayList_size (hy := hf15)) d_Desk_circuitOf_10 hc12 rfl rfl q673 q674 q675 q112 q676 hd_ArrayList_size rfl ⟨by decide, by decide⟩ (by first | exact Nat.le_of_ble_eq_true rfl | (simp only [List.map, List.sum_cons, List.sum_nil, g_cat_rf]; exact Nat.le_of_ble_eq_true rfl) | (simp only [List.map, List.sum_cons, List.sum_nil, g_cat_rf, Value.category]; decide)) rfl ?_
  refine g_iconst (v := (1 : Int32)) (pc' := 14) d_Desk_circuitOf_13 (by decide) rfl ?_
  refine g_isub (pc' := 15) d_Desk_circuitOf_14 rfl ?_
  refine g_i2l (pc' := 16) d_Desk_circuitOf_15 rfl ?_
  replace hy := g_b_inv hy
  obtain ⟨x16, hf18, hy⟩ := hy
  refine g_callS (rv := some (.int x16)) (h1 := h) (pc' := 19) (As := [.long ((p0).toInt64), .long (0 : Int64), .long (((x13 - (1 : Int32))).toInt64)]) (rest := []) 3 (T_Desk_isBetween (hy := hf18)) d_Desk_circuitOf_16 q1330 q828 q108 q829 hd_Desk_isBetween rfl ⟨by decide, by decide⟩ (by first | exact Nat.le_of_ble_eq_true rfl | (simp only [List.map, List.sum_cons, List.sum_nil, g_cat_rf]; exact Nat.le_of_ble_eq_true rfl) | (simp only [List.map, List.sum_cons, List.sum_nil, g_cat_rf, Value.category]; decide)) rfl ?_
  replace hy := g_bx_inv hy
  rcases hy with ⟨x19, h20, hf21, hy⟩ | ⟨⟨E9, q9⟩, h20, hf21, ez23⟩
  rotate_left
  · subst ez23
    exact g_callSX (As := [.int x16]) (rest := []) 1 (T_Desk_checkIndex (hy := hf21)) d_Desk_circuitOf_19 q1380 q1381 q108 q1382 hd_Desk_checkIndex rfl ⟨by decide, by decide⟩ (by first | exact Nat.le_of_ble_eq_true rfl | (simp only [List.map, List.sum_cons, List.sum_nil, g_cat_rf]; exact Nat.le_of_ble_eq_true rfl) | (simp only [List.map, List.sum_cons, List.sum_nil, g_cat_rf, Value.category]; decide)) rfl rfl
  refine g_callS (rv := none) (h1 := h20) (pc' := 22) (As := [.int x16]) (rest := []) 1 (T_Desk_checkIndex (hy := hf21)) d_Desk_circuitOf_19 q1380 q1381 q108 q1382 hd_Desk_checkIndex rfl ⟨by decide, by decide⟩ (by first | exact Nat.le_of_ble_eq_true rfl | (simp only [List.map, List.sum_cons, List.sum_nil, g_cat_rf]; exact Nat.le_of_ble_eq_true rfl) | (simp only [List.map, List.sum_cons, List.sum_nil, g_cat_rf, Value.category]; decide)) rfl ?_
  refine g_aload_n 0 (i := 0) (pc' := 23) d_Desk_circuitOf_22 rfl rfl rfl ?_
  replace hy := g_gR_inv hy
  obtain ⟨fs24, x25, hc26, hv27, hy⟩ := hy
  refine g_getf (pc' := 26) d_Desk_circuitOf_23 hc26 rfl (by decide) hv27 q642 (Or.inl rfl) rfl ?_
  replace hy := g_nn_inv hy
  obtain ⟨a28, rfl, hy⟩ := hy
  replace hy := g_gR_inv hy
  obtain ⟨fs29, x30, hc31, hv32, hy⟩ := hy
  refine g_getfN (pc' := 29) d_Desk_circuitOf_26 hc31 rfl (by decide) hv32 q559 rfl rfl ?_
  refine g_iload_n 1 (i := 1) (pc' := 30) d_Desk_circuitOf_29 rfl rfl rfl ?_
  replace hy := g_nn_inv hy
  obtain ⟨a33, rfl, hy⟩ := hy
  replace hy := g_is_inv hy
  obtain ⟨fs34, hc35, hy⟩ := hy
  replace hy := g_b_inv hy
  obtain ⟨x36, hf38, hy⟩ := hy
  refine g_callV (rv := some (va_rf x36)) (h1 := h20) (pc' := 33) (As := [.int p0]) (rest := []) 1 (T_ArrayList_get (hy := hf38)) d_Desk_circuitOf_30 hc35 rfl rfl q706 q683 q684 q112 q685 hd_ArrayList_get rfl ⟨by decide, by decide⟩ (by first | exact Nat.le_of_ble_eq_true rfl | (simp only [List.map, List.sum_cons, List.sum_nil, g_cat_rf]; exact Nat.le_of_ble_eq_true rfl) | (simp only [List.map, List.sum_cons, List.sum_nil, g_cat_rf, Value.category]; decide)) rfl ?_
  replace hy := g_ck_inv hy
  obtain ⟨hk39, hy⟩ := hy
  refine g_castO (pc' := 36) d_Desk_circuitOf_33 hk39 rfl q716 rfl ?_
  cases hy
  exact g_aret rfl rfl rfl (Or.inl ⟨_, rfl⟩) d_Desk_circuitOf_36
theorem hd_Desk_circuitOf : g_dsc y_Desk_circuitOf 1 := ⟨by decide +kernel, by decide +kernel, by decide +kernel⟩
/-! CircuitDesk$Net.packetsOf(I)I -/
abbrev y_Net_packetsOf : MethodName := ⟨"CircuitDesk$Net", "packetsOf", "(I)I"⟩
abbrev k_Net_packetsOf : g_M := (prog_7_method_29_code, 4, "CircuitDesk$Net", 15, (some FieldType.int), "packetsOf", [], 0)
theorem d_Net_packetsOf_0 : decode prog_7_method_29_code 0 = .ok (.iconst 0, 1) := by decide +kernel
theorem d_Net_packetsOf_1 : decode prog_7_method_29_code 1 = .ok (.istore_n 2, 1) := by decide +kernel
theorem d_Net_packetsOf_2 : decode prog_7_method_29_code 2 = .ok (.iconst 0, 1) := by decide +kernel
theorem d_Net_packetsOf_3 : decode prog_7_method_29_code 3 = .ok (.istore_n 3, 1) := by decide +kernel
theorem d_Net_packetsOf_4 : decode prog_7_method_29_code 4 = .ok (.iload_n 3, 1) := by decide +kernel
theorem d_Net_packetsOf_5 : decode prog_7_method_29_code 5 = .ok (.aload_n 0, 1) := by decide +kernel
theorem d_Net_packetsOf_6 : decode prog_7_method_29_code 6 = .ok (.getfield 30, 3) := by decide +kernel
theorem d_Net_packetsOf_9 : decode prog_7_method_29_code 9 = .ok (.invokevirtual 112, 3) := by decide +kernel
theorem d_Net_packetsOf_12 : decode prog_7_method_29_code 12 = .ok (.if_icmp .ge 35, 3) := by decide +kernel
theorem d_Net_packetsOf_15 : decode prog_7_method_29_code 15 = .ok (.iload_n 2, 1) := by decide +kernel
theorem d_Net_packetsOf_16 : decode prog_7_method_29_code 16 = .ok (.aload_n 0, 1) := by decide +kernel
theorem d_Net_packetsOf_17 : decode prog_7_method_29_code 17 = .ok (.getfield 30, 3) := by decide +kernel
theorem d_Net_packetsOf_20 : decode prog_7_method_29_code 20 = .ok (.iload_n 3, 1) := by decide +kernel
theorem d_Net_packetsOf_21 : decode prog_7_method_29_code 21 = .ok (.invokevirtual 116, 3) := by decide +kernel
theorem d_Net_packetsOf_24 : decode prog_7_method_29_code 24 = .ok (.checkcast 82, 3) := by decide +kernel
theorem d_Net_packetsOf_27 : decode prog_7_method_29_code 27 = .ok (.getfield 236, 3) := by decide +kernel
theorem d_Net_packetsOf_30 : decode prog_7_method_29_code 30 = .ok (.iload_n 1, 1) := by decide +kernel
theorem d_Net_packetsOf_31 : decode prog_7_method_29_code 31 = .ok (.if_icmp .ne 7, 3) := by decide +kernel
theorem d_Net_packetsOf_34 : decode prog_7_method_29_code 34 = .ok (.iconst 1, 1) := by decide +kernel
theorem d_Net_packetsOf_35 : decode prog_7_method_29_code 35 = .ok (.goto 4, 3) := by decide +kernel
theorem d_Net_packetsOf_38 : decode prog_7_method_29_code 38 = .ok (.iconst 0, 1) := by decide +kernel
theorem d_Net_packetsOf_39 : decode prog_7_method_29_code 39 = .ok (.iadd, 1) := by decide +kernel
theorem d_Net_packetsOf_40 : decode prog_7_method_29_code 40 = .ok (.istore_n 2, 1) := by decide +kernel
theorem d_Net_packetsOf_41 : decode prog_7_method_29_code 41 = .ok (.iinc 3 1, 3) := by decide +kernel
theorem d_Net_packetsOf_44 : decode prog_7_method_29_code 44 = .ok (.goto (-40), 3) := by decide +kernel
theorem d_Net_packetsOf_47 : decode prog_7_method_29_code 47 = .ok (.iload_n 2, 1) := by decide +kernel
theorem d_Net_packetsOf_48 : decode prog_7_method_29_code 48 = .ok (.ireturn, 1) := by decide +kernel
def Net_packetsOf_39 (h : g_AH) (k4 : Nat → Int32 → Int32 → Int32 → Option (Int32)) (v0 : Nat) (v1 : Int32) (v3 : Int32) (s0 : Int32) (s1 : Int32) : Option (Int32) :=
  k4 v0 v1 (s1 + s0) (v3 + (1 : Int32))
set_option maxHeartbeats 4000000 in
set_option maxRecDepth 100000 in
theorem W_Net_packetsOf_39 {X : g_X} (h : g_AH) (z : Int32) (k4 : Nat → Int32 → Int32 → Int32 → Option (Int32)) (hk4 : ∀ (v0 : Nat) (v1 : Int32) (v2 : Int32) (v3 : Int32), k4 v0 v1 v2 v3 = some z → G X k_Net_packetsOf (.inl (some (.int z))) h h 4 [(0, .ref v0), (1, .int v1), (2, .int v2), (3, .int v3)] []) (v0 : Nat) (v1 : Int32) (v3 : Int32) (s0 : Int32) (s1 : Int32) (hy : Net_packetsOf_39 h k4 v0 v1 v3 s0 s1 = some z) : G X k_Net_packetsOf (.inl (some (.int z))) h h 39 [(0, .ref v0), (1, .int v1), (3, .int v3)] [.int s0, .int s1] := by
  unfold Net_packetsOf_39 at hy
  refine g_iadd (pc' := 40) d_Net_packetsOf_39 rfl ?_
  refine g_istore_n (i := 2) (pc' := 41) (Lc' := [(2, .int (s1 + s0)), (0, .ref v0), (1, .int v1), (3, .int v3)]) d_Net_packetsOf_40 rfl (by decide) rfl rfl ?_
  refine g_iinc 3 (v := (v3 + (1 : Int32))) (pc' := 44) (Lc' := [(3, .int (v3 + (1 : Int32))), (2, .int (s1 + s0)), (0, .ref v0), (1, .int v1)]) d_Net_packetsOf_41 rfl rfl (by decide) rfl rfl ?_
  refine g_goto (pc' := 4) d_Net_packetsOf_44 (by decide) ?_
  refine g_sub [2, 3, 1, 0] rfl ?_
  exact hk4 _ _ _ _ hy
def Net_packetsOf_4 (h : g_AH)  : Nat → Nat → Int32 → Int32 → Int32 → Option (Int32)
  | 0, _, _, _, _ => none
  | n + 1, v0, v1, v2, v3 => g_gR h v0 1 4 fun x2 => g_nn x2 fun a5 => g_is h a5 15 <| g_b (ArrayList_size h a5) fun x8 => if x8 ≤ v3 then (some v2) else (g_gR h v0 1 4 fun x13 => g_nn x13 fun a16 => g_is h a16 15 <| g_b (ArrayList_get h a16 v3) fun x19 => g_ck h x19 14 <| g_nn x19 fun a23 => g_gI h a23 14 0 fun x25 => if x25 = v1 then (Net_packetsOf_39 h (Net_packetsOf_4 h  n) v0 v1 v3 (1 : Int32) v2) else (Net_packetsOf_39 h (Net_packetsOf_4 h  n) v0 v1 v3 (0 : Int32) v2))
set_option maxHeartbeats 4000000 in
set_option maxRecDepth 100000 in
theorem W_Net_packetsOf_4 {X : g_X} (h : g_AH) (z : Int32)  : ∀ (n : Nat) (v0 : Nat) (v1 : Int32) (v2 : Int32) (v3 : Int32), Net_packetsOf_4 h  n v0 v1 v2 v3 = some z → G X k_Net_packetsOf (.inl (some (.int z))) h h 4 [(0, .ref v0), (1, .int v1), (2, .int v2), (3, .int v3)] [] := by
  intro n
  induction n with
  | zero => intro v0 v1 v2 v3 hy; exact absurd hy (by simp [Net_packetsOf_4])
  | succ n ih =>
    intro v0 v1 v2 v3 hy
    rw [Net_packetsOf_4] at hy
    refine g_iload_n 3 (i := 3) (pc' := 5) d_Net_packetsOf_4 rfl rfl rfl ?_
    refine g_aload_n 0 (i := 0) (pc' := 6) d_Net_packetsOf_5 rfl rfl rfl ?_
    replace hy := g_gR_inv hy
    obtain ⟨fs1, x2, hc3, hv4, hy⟩ := hy
    refine g_getf (pc' := 9) d_Net_packetsOf_6 hc3 rfl (by decide) hv4 q561 (Or.inl rfl) rfl ?_
    replace hy := g_nn_inv hy
    obtain ⟨a5, rfl, hy⟩ := hy
    replace hy := g_is_inv hy
    obtain ⟨fs6, hc7, hy⟩ := hy
    replace hy := g_b_inv hy
    obtain ⟨x8, hf10, hy⟩ := hy
    refine g_callV (rv := some (.int x8)) (h1 := h) (pc' := 12) (As := []) (rest := [.int v3]) 0 (T_ArrayList_size (hy := hf10)) d_Net_packetsOf_9 hc7 rfl rfl q681 q674 q675 q112 q676 hd_ArrayList_size rfl ⟨by decide, by decide⟩ (by first | exact Nat.le_of_ble_eq_true rfl | (simp only [List.map, List.sum_cons, List.sum_nil, g_cat_rf]; exact Nat.le_of_ble_eq_true rfl) | (simp only [List.map, List.sum_cons, List.sum_nil, g_cat_rf, Value.category]; decide)) rfl ?_
    by_cases c11 : x8 ≤ v3
    · rw [if_pos c11] at hy
      refine g_icmp_geT (pc' := 47) d_Net_packetsOf_12 c11 (by decide) ?_
      refine g_iload_n 2 (i := 2) (pc' := 48) d_Net_packetsOf_47 rfl rfl rfl ?_
      cases hy
      exact g_iret rfl rfl rfl d_Net_packetsOf_48
    · rw [if_neg c11] at hy
      refine g_icmp_geF (pc' := 15) d_Net_packetsOf_12 47 c11 (by decide) rfl ?_
      refine g_iload_n 2 (i := 2) (pc' := 16) d_Net_packetsOf_15 rfl rfl rfl ?_
      refine g_aload_n 0 (i := 0) (pc' := 17) d_Net_packetsOf_16 rfl rfl rfl ?_
      replace hy := g_gR_inv hy
      obtain ⟨fs12, x13, hc14, hv15, hy⟩ := hy
      refine g_getf (pc' := 20) d_Net_packetsOf_17 hc14 rfl (by decide) hv15 q561 (Or.inl rfl) rfl ?_
      refine g_iload_n 3 (i := 3) (pc' := 21) d_Net_packetsOf_20 rfl rfl rfl ?_
      replace hy := g_nn_inv hy
      obtain ⟨a16, rfl, hy⟩ := hy
      replace hy := g_is_inv hy
      obtain ⟨fs17, hc18, hy⟩ := hy
      replace hy := g_b_inv hy
      obtain ⟨x19, hf21, hy⟩ := hy
      refine g_callV (rv := some (va_rf x19)) (h1 := h) (pc' := 24) (As := [.int v3]) (rest := [.int v2]) 1 (T_ArrayList_get (hy := hf21)) d_Net_packetsOf_21 hc18 rfl rfl q682 q683 q684 q112 q685 hd_ArrayList_get rfl ⟨by decide, by decide⟩ (by first | exact Nat.le_of_ble_eq_true rfl | (simp only [List.map, List.sum_cons, List.sum_nil, g_cat_rf]; exact Nat.le_of_ble_eq_true rfl) | (simp only [List.map, List.sum_cons, List.sum_nil, g_cat_rf, Value.category]; decide)) rfl ?_
      replace hy := g_ck_inv hy
      obtain ⟨hk22, hy⟩ := hy
      refine g_castO (pc' := 27) d_Net_packetsOf_24 hk22 rfl q1420 rfl ?_
      replace hy := g_nn_inv hy
      obtain ⟨a23, rfl, hy⟩ := hy
      replace hy := g_gI_inv hy
      obtain ⟨fs24, x25, hc26, hv27, hy⟩ := hy
      refine g_getfN (pc' := 30) d_Net_packetsOf_27 hc26 rfl (by decide) hv27 q1804 rfl rfl ?_
      refine g_iload_n 1 (i := 1) (pc' := 31) d_Net_packetsOf_30 rfl rfl rfl ?_
      by_cases c28 : x25 = v1
      · rw [if_pos c28] at hy
        refine g_icmp_neF (pc' := 34) d_Net_packetsOf_31 38 c28 (by decide) rfl ?_
        refine g_iconst (v := (1 : Int32)) (pc' := 35) d_Net_packetsOf_34 (by decide) rfl ?_
        refine g_goto (pc' := 39) d_Net_packetsOf_35 (by decide) ?_
        refine g_sub [0, 1, 3] rfl ?_
        exact W_Net_packetsOf_39 _ _ _ ih _ _ _ _ _ hy
      · rw [if_neg c28] at hy
        refine g_icmp_neT (pc' := 38) d_Net_packetsOf_31 c28 (by decide) ?_
        refine g_iconst (v := (0 : Int32)) (pc' := 39) d_Net_packetsOf_38 (by decide) rfl ?_
        refine g_sub [0, 1, 3] rfl ?_
        exact W_Net_packetsOf_39 _ _ _ ih _ _ _ _ _ hy
def Net_packetsOf (h : g_AH) (this : Nat) (p0 : Int32) : Option (Int32) :=
  Net_packetsOf_4 h  gFU this p0 (0 : Int32) (0 : Int32)
set_option maxHeartbeats 4000000 in
set_option maxRecDepth 100000 in
theorem T_Net_packetsOf {l : Launch} {B : g_B} (h : g_AH) (this : Nat) (p0 : Int32) (z : Int32) (hy : Net_packetsOf h this p0 = some z) : g_CT l B y_Net_packetsOf k_Net_packetsOf [.ref this, .int p0] h (.inl (some (.int z))) h := by
  refine g_start2 (Lc := [(0, .ref this), (1, .int p0)]) (by decide) rfl rfl (by exact Nat.le_of_ble_eq_true rfl) (by rfl) fun X => ?_
  unfold Net_packetsOf at hy
  refine g_iconst (v := (0 : Int32)) (pc' := 1) d_Net_packetsOf_0 (by decide) rfl ?_
  refine g_istore_n (i := 2) (pc' := 2) (Lc' := [(2, .int (0 : Int32)), (0, .ref this), (1, .int p0)]) d_Net_packetsOf_1 rfl (by decide) rfl rfl ?_
  refine g_iconst (v := (0 : Int32)) (pc' := 3) d_Net_packetsOf_2 (by decide) rfl ?_
  refine g_istore_n (i := 3) (pc' := 4) (Lc' := [(3, .int (0 : Int32)), (2, .int (0 : Int32)), (0, .ref this), (1, .int p0)]) d_Net_packetsOf_3 rfl (by decide) rfl rfl ?_
  refine g_sub [2, 3, 1, 0] rfl ?_
  exact W_Net_packetsOf_4 _ _ _ _ _ _ _ hy
theorem hd_Net_packetsOf : g_dsc y_Net_packetsOf 1 := ⟨by decide +kernel, by decide +kernel, by decide +kernel⟩
/-! CircuitDesk$Net.close(I)I -/
abbrev y_Net_close : MethodName := ⟨"CircuitDesk$Net", "close", "(I)I"⟩
abbrev k_Net_close : g_M := (prog_7_method_35_code, 7, "CircuitDesk$Net", 17, (some FieldType.int), "close", [], 0)
theorem d_Net_close_0 : decode prog_7_method_35_code 0 = .ok (.aload_n 0, 1) := by decide +kernel
theorem d_Net_close_1 : decode prog_7_method_35_code 1 = .ok (.getfield 27, 3) := by decide +kernel
theorem d_Net_close_4 : decode prog_7_method_35_code 4 = .ok (.iload_n 1, 1) := by decide +kernel
theorem d_Net_close_5 : decode prog_7_method_35_code 5 = .ok (.invokevirtual 116, 3) := by decide +kernel
theorem d_Net_close_8 : decode prog_7_method_35_code 8 = .ok (.checkcast 77, 3) := by decide +kernel
theorem d_Net_close_11 : decode prog_7_method_35_code 11 = .ok (.astore_n 2, 1) := by decide +kernel
theorem d_Net_close_12 : decode prog_7_method_35_code 12 = .ok (.aload_n 0, 1) := by decide +kernel
theorem d_Net_close_13 : decode prog_7_method_35_code 13 = .ok (.aload_n 2, 1) := by decide +kernel
theorem d_Net_close_14 : decode prog_7_method_35_code 14 = .ok (.invokevirtual 343, 3) := by decide +kernel
theorem d_Net_close_17 : decode prog_7_method_35_code 17 = .ok (.ifCond .eq 5, 3) := by decide +kernel
theorem d_Net_close_20 : decode prog_7_method_35_code 20 = .ok (.iconst 2, 1) := by decide +kernel
theorem d_Net_close_21 : decode prog_7_method_35_code 21 = .ok (.ireturn, 1) := by decide +kernel
theorem d_Net_close_22 : decode prog_7_method_35_code 22 = .ok (.aload_n 2, 1) := by decide +kernel
theorem d_Net_close_23 : decode prog_7_method_35_code 23 = .ok (.getfield 289, 3) := by decide +kernel
theorem d_Net_close_26 : decode prog_7_method_35_code 26 = .ok (.ifCond .gt 11, 3) := by decide +kernel
theorem d_Net_close_29 : decode prog_7_method_35_code 29 = .ok (.aload_n 0, 1) := by decide +kernel
theorem d_Net_close_30 : decode prog_7_method_35_code 30 = .ok (.iload_n 1, 1) := by decide +kernel
theorem d_Net_close_31 : decode prog_7_method_35_code 31 = .ok (.invokevirtual 359, 3) := by decide +kernel
theorem d_Net_close_34 : decode prog_7_method_35_code 34 = .ok (.ifCond .le 6, 3) := by decide +kernel
theorem d_Net_close_37 : decode prog_7_method_35_code 37 = .ok (.bipush 8, 2) := by decide +kernel
theorem d_Net_close_39 : decode prog_7_method_35_code 39 = .ok (.ireturn, 1) := by decide +kernel
theorem d_Net_close_40 : decode prog_7_method_35_code 40 = .ok (.aload_n 0, 1) := by decide +kernel
theorem d_Net_close_41 : decode prog_7_method_35_code 41 = .ok (.aload_n 2, 1) := by decide +kernel
theorem d_Net_close_42 : decode prog_7_method_35_code 42 = .ok (.getfield 143, 3) := by decide +kernel
theorem d_Net_close_45 : decode prog_7_method_35_code 45 = .ok (.invokevirtual 217, 3) := by decide +kernel
theorem d_Net_close_48 : decode prog_7_method_35_code 48 = .ok (.aload_n 0, 1) := by decide +kernel
theorem d_Net_close_49 : decode prog_7_method_35_code 49 = .ok (.getfield 27, 3) := by decide +kernel
theorem d_Net_close_52 : decode prog_7_method_35_code 52 = .ok (.iload_n 1, 1) := by decide +kernel
theorem d_Net_close_53 : decode prog_7_method_35_code 53 = .ok (.invokevirtual 286, 3) := by decide +kernel
theorem d_Net_close_56 : decode prog_7_method_35_code 56 = .ok (.checkcast 77, 3) := by decide +kernel
theorem d_Net_close_59 : decode prog_7_method_35_code 59 = .ok (.astore_n 3, 1) := by decide +kernel
theorem d_Net_close_60 : decode prog_7_method_35_code 60 = .ok (.aload_n 0, 1) := by decide +kernel
theorem d_Net_close_61 : decode prog_7_method_35_code 61 = .ok (.getfield 20, 3) := by decide +kernel
theorem d_Net_close_64 : decode prog_7_method_35_code 64 = .ok (.invokevirtual 49, 3) := by decide +kernel
theorem d_Net_close_67 : decode prog_7_method_35_code 67 = .ok (.astore 4, 2) := by decide +kernel
theorem d_Net_close_69 : decode prog_7_method_35_code 69 = .ok (.aload 4, 2) := by decide +kernel
theorem d_Net_close_71 : decode prog_7_method_35_code 71 = .ok (.invokeinterface 53 1, 5) := by decide +kernel
theorem d_Net_close_76 : decode prog_7_method_35_code 76 = .ok (.ifCond .eq 65, 3) := by decide +kernel
theorem d_Net_close_79 : decode prog_7_method_35_code 79 = .ok (.aload 4, 2) := by decide +kernel
theorem d_Net_close_81 : decode prog_7_method_35_code 81 = .ok (.invokeinterface 59 1, 5) := by decide +kernel
theorem d_Net_close_86 : decode prog_7_method_35_code 86 = .ok (.checkcast 62, 3) := by decide +kernel
theorem d_Net_close_89 : decode prog_7_method_35_code 89 = .ok (.astore 5, 2) := by decide +kernel
theorem d_Net_close_91 : decode prog_7_method_35_code 91 = .ok (.iconst 0, 1) := by decide +kernel
theorem d_Net_close_92 : decode prog_7_method_35_code 92 = .ok (.istore 6, 2) := by decide +kernel
theorem d_Net_close_94 : decode prog_7_method_35_code 94 = .ok (.iload 6, 2) := by decide +kernel
theorem d_Net_close_96 : decode prog_7_method_35_code 96 = .ok (.aload 5, 2) := by decide +kernel
theorem d_Net_close_98 : decode prog_7_method_35_code 98 = .ok (.getfield 362, 3) := by decide +kernel
theorem d_Net_close_101 : decode prog_7_method_35_code 101 = .ok (.if_icmp .ge 37, 3) := by decide +kernel
theorem d_Net_close_104 : decode prog_7_method_35_code 104 = .ok (.aload 5, 2) := by decide +kernel
theorem d_Net_close_106 : decode prog_7_method_35_code 106 = .ok (.getfield 265, 3) := by decide +kernel
theorem d_Net_close_109 : decode prog_7_method_35_code 109 = .ok (.iload 6, 2) := by decide +kernel
theorem d_Net_close_111 : decode prog_7_method_35_code 111 = .ok (.dup2, 1) := by decide +kernel
theorem d_Net_close_112 : decode prog_7_method_35_code 112 = .ok (.iaload, 1) := by decide +kernel
theorem d_Net_close_113 : decode prog_7_method_35_code 113 = .ok (.aload 5, 2) := by decide +kernel
theorem d_Net_close_115 : decode prog_7_method_35_code 115 = .ok (.getfield 265, 3) := by decide +kernel
theorem d_Net_close_118 : decode prog_7_method_35_code 118 = .ok (.iload 6, 2) := by decide +kernel
theorem d_Net_close_120 : decode prog_7_method_35_code 120 = .ok (.iaload, 1) := by decide +kernel
theorem d_Net_close_121 : decode prog_7_method_35_code 121 = .ok (.iload_n 1, 1) := by decide +kernel
theorem d_Net_close_122 : decode prog_7_method_35_code 122 = .ok (.if_icmp .le 7, 3) := by decide +kernel
theorem d_Net_close_125 : decode prog_7_method_35_code 125 = .ok (.iconst 1, 1) := by decide +kernel
theorem d_Net_close_126 : decode prog_7_method_35_code 126 = .ok (.goto 4, 3) := by decide +kernel
theorem d_Net_close_129 : decode prog_7_method_35_code 129 = .ok (.iconst 0, 1) := by decide +kernel
theorem d_Net_close_130 : decode prog_7_method_35_code 130 = .ok (.isub, 1) := by decide +kernel
theorem d_Net_close_131 : decode prog_7_method_35_code 131 = .ok (.iastore, 1) := by decide +kernel
theorem d_Net_close_132 : decode prog_7_method_35_code 132 = .ok (.iinc 6 1, 3) := by decide +kernel
theorem d_Net_close_135 : decode prog_7_method_35_code 135 = .ok (.goto (-41), 3) := by decide +kernel
theorem d_Net_close_138 : decode prog_7_method_35_code 138 = .ok (.goto (-69), 3) := by decide +kernel
theorem d_Net_close_141 : decode prog_7_method_35_code 141 = .ok (.aload_n 0, 1) := by decide +kernel
theorem d_Net_close_142 : decode prog_7_method_35_code 142 = .ok (.getfield 30, 3) := by decide +kernel
theorem d_Net_close_145 : decode prog_7_method_35_code 145 = .ok (.invokevirtual 49, 3) := by decide +kernel
theorem d_Net_close_148 : decode prog_7_method_35_code 148 = .ok (.astore 4, 2) := by decide +kernel
theorem d_Net_close_150 : decode prog_7_method_35_code 150 = .ok (.aload 4, 2) := by decide +kernel
theorem d_Net_close_152 : decode prog_7_method_35_code 152 = .ok (.invokeinterface 53 1, 5) := by decide +kernel
theorem d_Net_close_157 : decode prog_7_method_35_code 157 = .ok (.ifCond .eq 42, 3) := by decide +kernel
theorem d_Net_close_160 : decode prog_7_method_35_code 160 = .ok (.aload 4, 2) := by decide +kernel
theorem d_Net_close_162 : decode prog_7_method_35_code 162 = .ok (.invokeinterface 59 1, 5) := by decide +kernel
theorem d_Net_close_167 : decode prog_7_method_35_code 167 = .ok (.checkcast 82, 3) := by decide +kernel
theorem d_Net_close_170 : decode prog_7_method_35_code 170 = .ok (.astore 5, 2) := by decide +kernel
theorem d_Net_close_172 : decode prog_7_method_35_code 172 = .ok (.aload 5, 2) := by decide +kernel
theorem d_Net_close_174 : decode prog_7_method_35_code 174 = .ok (.dup, 1) := by decide +kernel
theorem d_Net_close_175 : decode prog_7_method_35_code 175 = .ok (.getfield 236, 3) := by decide +kernel
theorem d_Net_close_178 : decode prog_7_method_35_code 178 = .ok (.aload 5, 2) := by decide +kernel
theorem d_Net_close_180 : decode prog_7_method_35_code 180 = .ok (.getfield 236, 3) := by decide +kernel
theorem d_Net_close_183 : decode prog_7_method_35_code 183 = .ok (.iload_n 1, 1) := by decide +kernel
theorem d_Net_close_184 : decode prog_7_method_35_code 184 = .ok (.if_icmp .le 7, 3) := by decide +kernel
theorem d_Net_close_187 : decode prog_7_method_35_code 187 = .ok (.iconst 1, 1) := by decide +kernel
theorem d_Net_close_188 : decode prog_7_method_35_code 188 = .ok (.goto 4, 3) := by decide +kernel
theorem d_Net_close_191 : decode prog_7_method_35_code 191 = .ok (.iconst 0, 1) := by decide +kernel
theorem d_Net_close_192 : decode prog_7_method_35_code 192 = .ok (.isub, 1) := by decide +kernel
theorem d_Net_close_193 : decode prog_7_method_35_code 193 = .ok (.putfield 236, 3) := by decide +kernel
theorem d_Net_close_196 : decode prog_7_method_35_code 196 = .ok (.goto (-46), 3) := by decide +kernel
theorem d_Net_close_199 : decode prog_7_method_35_code 199 = .ok (.iconst 0, 1) := by decide +kernel
theorem d_Net_close_200 : decode prog_7_method_35_code 200 = .ok (.ireturn, 1) := by decide +kernel
def Net_close_192 (k150 : g_AH → Int32 → Option Nat → Option (Int32 × g_AH)) (h : g_AH) (v1 : Int32) (v4 : Option Nat) (s0 : Int32) (s1 : Int32) (s2 : Nat) : Option (Int32 × g_AH) :=
  g_pF h s2 14 0 (.int (s1 - s0)) fun h103 => k150 h103 v1 v4
set_option maxHeartbeats 4000000 in
set_option maxRecDepth 100000 in
theorem W_Net_close_192 {X : g_X} (z : Int32 × g_AH) (k150 : g_AH → Int32 → Option Nat → Option (Int32 × g_AH)) (hk150 : ∀ (h : g_AH) (v1 : Int32) (v4 : Option Nat), k150 h v1 v4 = some z → G X k_Net_close (.inl (some (.int z.1))) z.2 h 150 [(1, .int v1), (4, va_rf v4)] []) (h : g_AH) (v1 : Int32) (v4 : Option Nat) (s0 : Int32) (s1 : Int32) (s2 : Nat) (hy : Net_close_192 k150 h v1 v4 s0 s1 s2 = some z) : G X k_Net_close (.inl (some (.int z.1))) z.2 h 192 [(1, .int v1), (4, va_rf v4)] [.int s0, .int s1, .ref s2] := by
  unfold Net_close_192 at hy
  refine g_isub (pc' := 193) d_Net_close_192 rfl ?_
  replace hy := g_pF_inv hy
  obtain ⟨fs100, hc101, hl102, hy⟩ := hy
  refine g_putfN (pc' := 196) d_Net_close_193 hc101 rfl (by decide) hl102 rfl rfl rfl q1804 rfl rfl ?_
  generalize g_up h s2 (.inr (14, fs100.set 0 (.int (s1 - s0)))) = h103 at hy ⊢
  refine g_goto (pc' := 150) d_Net_close_196 (by decide) ?_
  exact hk150 _ _ _ hy
def Net_close_150  : Nat → g_AH → Int32 → Option Nat → Option (Int32 × g_AH)
  | 0, _, _, _ => none
  | n + 1, h, v1, v4 => g_nn v4 fun a77 => g_is h a77 16 <| g_b (ArrayListItr_hasNext h a77) fun x80 => if x80 = 0 then (some ((0 : Int32), h)) else (g_is h a77 16 <| g_b2 (ArrayListItr_next h a77) fun x86 h87 => g_ck h87 x86 14 <| g_nn x86 fun a90 => g_gI h87 a90 14 0 fun x92 => g_gI h87 a90 14 0 fun x96 => if x96 ≤ v1 then (Net_close_192 (Net_close_150  n) h87 v1 (some a77) (0 : Int32) x92 a90) else (Net_close_192 (Net_close_150  n) h87 v1 (some a77) (1 : Int32) x92 a90))
set_option maxHeartbeats 4000000 in
set_option maxRecDepth 100000 in
theorem W_Net_close_150 {X : g_X} (z : Int32 × g_AH)  : ∀ (n : Nat) (h : g_AH) (v1 : Int32) (v4 : Option Nat), Net_close_150  n h v1 v4 = some z → G X k_Net_close (.inl (some (.int z.1))) z.2 h 150 [(1, .int v1), (4, va_rf v4)] [] := by
  intro n
  induction n with
  | zero => intro h v1 v4 hy; exact absurd hy (by simp [Net_close_150])
  | succ n ih =>
    intro h v1 v4 hy
    rw [Net_close_150] at hy
    refine g_aloadO 1 (pc' := 152) d_Net_close_150 rfl rfl ?_
    replace hy := g_nn_inv hy
    obtain ⟨a77, rfl, hy⟩ := hy
    replace hy := g_is_inv hy
    obtain ⟨fs78, hc79, hy⟩ := hy
    replace hy := g_b_inv hy
    obtain ⟨x80, hf82, hy⟩ := hy
    refine g_callF (x := ⟨"java/util/Iterator", "hasNext", "()Z"⟩) (rv := some (.int x80)) (h1 := h) (pc' := 157) (As := []) (rest := []) 0 (T_ArrayListItr_hasNext (hy := hf82)) d_Net_close_152 hc79 rfl (by decide) (g_wsF q1646 q1487 q1489 q145 q1491) ⟨by decide, by decide, by decide +kernel⟩ rfl ⟨by decide, by decide⟩ (by first | exact Nat.le_of_ble_eq_true rfl | (simp only [List.map, List.sum_cons, List.sum_nil, g_cat_rf]; exact Nat.le_of_ble_eq_true rfl) | (simp only [List.map, List.sum_cons, List.sum_nil, g_cat_rf, Value.category]; decide)) rfl ?_
    by_cases c83 : x80 = 0
    · rw [if_pos c83] at hy
      refine g_if_eqT (pc' := 199) d_Net_close_157 c83 (by decide) ?_
      refine g_iconst (v := (0 : Int32)) (pc' := 200) d_Net_close_199 (by decide) rfl ?_
      cases hy
      exact g_iret rfl rfl rfl d_Net_close_200
    · rw [if_neg c83] at hy
      refine g_if_eqF (pc' := 160) d_Net_close_157 199 c83 (by decide) rfl ?_
      refine g_aload 1 (pc' := 162) d_Net_close_160 rfl rfl ?_
      replace hy := g_is_inv hy
      obtain ⟨fs84, hc85, hy⟩ := hy
      replace hy := g_b2_inv hy
      obtain ⟨x86, h87, hf88, hy⟩ := hy
      refine g_callF (x := ⟨"java/util/Iterator", "next", "()Ljava/lang/Object;"⟩) (rv := some (va_rf x86)) (h1 := h87) (pc' := 167) (As := []) (rest := []) 0 (T_ArrayListItr_next (hy := hf88)) d_Net_close_162 hc85 rfl (by decide) (g_wsF q1648 q1496 q1498 q145 q1500) ⟨by decide, by decide, by decide +kernel⟩ rfl ⟨by decide, by decide⟩ (by first | exact Nat.le_of_ble_eq_true rfl | (simp only [List.map, List.sum_cons, List.sum_nil, g_cat_rf]; exact Nat.le_of_ble_eq_true rfl) | (simp only [List.map, List.sum_cons, List.sum_nil, g_cat_rf, Value.category]; decide)) rfl ?_
      replace hy := g_ck_inv hy
      obtain ⟨hk89, hy⟩ := hy
      refine g_castO (pc' := 170) d_Net_close_167 hk89 rfl q1420 rfl ?_
      refine g_astoreO (pc' := 172) (Lc' := [(5, va_rf x86), (1, .int v1), (4, .ref a77)]) d_Net_close_170 (by decide) rfl rfl ?_
      refine g_aloadO 0 (pc' := 174) d_Net_close_172 rfl rfl ?_
      refine g_dup (pc' := 175) d_Net_close_174 g_cat_rf rfl ?_
      replace hy := g_nn_inv hy
      obtain ⟨a90, rfl, hy⟩ := hy
      replace hy := g_gI_inv hy
      obtain ⟨fs91, x92, hc93, hv94, hy⟩ := hy
      refine g_getfN (pc' := 178) d_Net_close_175 hc93 rfl (by decide) hv94 q1804 rfl rfl ?_
      refine g_aload 0 (pc' := 180) d_Net_close_178 rfl rfl ?_
      replace hy := g_gI_inv hy
      obtain ⟨fs95, x96, hc97, hv98, hy⟩ := hy
      refine g_getfN (pc' := 183) d_Net_close_180 hc97 rfl (by decide) hv98 q1804 rfl rfl ?_
      refine g_iload_n 1 (i := 1) (pc' := 184) d_Net_close_183 rfl rfl rfl ?_
      by_cases c99 : x96 ≤ v1
      · rw [if_pos c99] at hy
        refine g_icmp_leT (pc' := 191) d_Net_close_184 c99 (by decide) ?_
        refine g_iconst (v := (0 : Int32)) (pc' := 192) d_Net_close_191 (by decide) rfl ?_
        refine g_sub [1, 2] rfl ?_
        exact W_Net_close_192 _ _ ih _ _ _ _ _ _ hy
      · rw [if_neg c99] at hy
        refine g_icmp_leF (pc' := 187) d_Net_close_184 191 c99 (by decide) rfl ?_
        refine g_iconst (v := (1 : Int32)) (pc' := 188) d_Net_close_187 (by decide) rfl ?_
        refine g_goto (pc' := 192) d_Net_close_188 (by decide) ?_
        refine g_sub [1, 2] rfl ?_
        exact W_Net_close_192 _ _ ih _ _ _ _ _ _ hy
def Net_close_130 (k69 : g_AH → Nat → Int32 → Option Nat → Option (Int32 × g_AH)) (k94 : g_AH → Nat → Int32 → Option Nat → Option Nat → Int32 → Option (Int32 × g_AH)) (h : g_AH) (v0 : Nat) (v1 : Int32) (v4 : Option Nat) (v5 : Option Nat) (v6 : Int32) (s0 : Int32) (s1 : Int32) (s2 : Int32) (s3 : Nat) : Option (Int32 × g_AH) :=
  g_sI h 0 s3 s2 (s1 - s0) fun h141 => k94 h141 v0 v1 v4 v5 (v6 + (1 : Int32))
set_option maxHeartbeats 4000000 in
set_option maxRecDepth 100000 in
theorem W_Net_close_130 {X : g_X} (z : Int32 × g_AH) (k69 : g_AH → Nat → Int32 → Option Nat → Option (Int32 × g_AH)) (hk69 : ∀ (h : g_AH) (v0 : Nat) (v1 : Int32) (v4 : Option Nat), k69 h v0 v1 v4 = some z → G X k_Net_close (.inl (some (.int z.1))) z.2 h 69 [(0, .ref v0), (1, .int v1), (4, va_rf v4)] []) (k94 : g_AH → Nat → Int32 → Option Nat → Option Nat → Int32 → Option (Int32 × g_AH)) (hk94 : ∀ (h : g_AH) (v0 : Nat) (v1 : Int32) (v4 : Option Nat) (v5 : Option Nat) (v6 : Int32), k94 h v0 v1 v4 v5 v6 = some z → G X k_Net_close (.inl (some (.int z.1))) z.2 h 94 [(0, .ref v0), (1, .int v1), (4, va_rf v4), (5, va_rf v5), (6, .int v6)] []) (h : g_AH) (v0 : Nat) (v1 : Int32) (v4 : Option Nat) (v5 : Option Nat) (v6 : Int32) (s0 : Int32) (s1 : Int32) (s2 : Int32) (s3 : Nat) (hy : Net_close_130 k69 k94 h v0 v1 v4 v5 v6 s0 s1 s2 s3 = some z) : G X k_Net_close (.inl (some (.int z.1))) z.2 h 130 [(0, .ref v0), (1, .int v1), (4, va_rf v4), (5, va_rf v5), (6, .int v6)] [.int s0, .int s1, .int s2, .ref s3] := by
  unfold Net_close_130 at hy
  refine g_isub (pc' := 131) d_Net_close_130 rfl ?_
  replace hy := g_sI_inv hy
  obtain ⟨n137, f138, hc139, hi140, hy⟩ := hy
  refine g_iast (pc' := 132) d_Net_close_131 hc139 hi140 rfl ?_
  generalize g_up h s3 (.inl (0, n137, .inl (upd f138 (s2).toNatClampNeg (s1 - s0)))) = h141 at hy ⊢
  refine g_iinc 4 (v := (v6 + (1 : Int32))) (pc' := 135) (Lc' := [(6, .int (v6 + (1 : Int32))), (0, .ref v0), (1, .int v1), (4, va_rf v4), (5, va_rf v5)]) d_Net_close_132 rfl rfl (by decide) (by cases v5 <;> rfl) rfl ?_
  refine g_goto (pc' := 94) d_Net_close_135 (by decide) ?_
  refine g_sub [1, 2, 3, 4, 0] rfl ?_
  exact hk94 _ _ _ _ _ _ hy
def Net_close_94 (k69 : g_AH → Nat → Int32 → Option Nat → Option (Int32 × g_AH))  : Nat → g_AH → Nat → Int32 → Option Nat → Option Nat → Int32 → Option (Int32 × g_AH)
  | 0, _, _, _, _, _, _ => none
  | n + 1, h, v0, v1, v4, v5, v6 => g_nn v5 fun a110 => g_gI h a110 10 0 fun x112 => if x112 ≤ v6 then (k69 h v0 v1 v4) else (g_gR h a110 10 2 fun x117 => g_nn x117 fun a120 => g_aI h 0 a120 v6 fun x121 => g_gR h a110 10 2 fun x127 => g_nn x127 fun a130 => g_aI h 0 a130 v6 fun x131 => if x131 ≤ v1 then (Net_close_130 k69 (Net_close_94 k69 n) h v0 v1 v4 (some a110) v6 (0 : Int32) x121 v6 a120) else (Net_close_130 k69 (Net_close_94 k69 n) h v0 v1 v4 (some a110) v6 (1 : Int32) x121 v6 a120))
set_option maxHeartbeats 4000000 in
set_option maxRecDepth 100000 in
theorem W_Net_close_94 {X : g_X} (z : Int32 × g_AH) (k69 : g_AH → Nat → Int32 → Option Nat → Option (Int32 × g_AH)) (hk69 : ∀ (h : g_AH) (v0 : Nat) (v1 : Int32) (v4 : Option Nat), k69 h v0 v1 v4 = some z → G X k_Net_close (.inl (some (.int z.1))) z.2 h 69 [(0, .ref v0), (1, .int v1), (4, va_rf v4)] [])  : ∀ (n : Nat) (h : g_AH) (v0 : Nat) (v1 : Int32) (v4 : Option Nat) (v5 : Option Nat) (v6 : Int32), Net_close_94 k69 n h v0 v1 v4 v5 v6 = some z → G X k_Net_close (.inl (some (.int z.1))) z.2 h 94 [(0, .ref v0), (1, .int v1), (4, va_rf v4), (5, va_rf v5), (6, .int v6)] [] := by
  intro n
  induction n with
  | zero => intro h v0 v1 v4 v5 v6 hy; exact absurd hy (by simp [Net_close_94])
  | succ n ih =>
    intro h v0 v1 v4 v5 v6 hy
    rw [Net_close_94] at hy
    refine g_iload 4 (pc' := 96) d_Net_close_94 rfl rfl ?_
    refine g_aloadO 3 (pc' := 98) d_Net_close_96 rfl rfl ?_
    replace hy := g_nn_inv hy
    obtain ⟨a110, rfl, hy⟩ := hy
    replace hy := g_gI_inv hy
    obtain ⟨fs111, x112, hc113, hv114, hy⟩ := hy
    refine g_getfN (pc' := 101) d_Net_close_98 hc113 rfl (by decide) hv114 q1012 rfl rfl ?_
    by_cases c115 : x112 ≤ v6
    · rw [if_pos c115] at hy
      refine g_icmp_geT (pc' := 138) d_Net_close_101 c115 (by decide) ?_
      refine g_goto (pc' := 69) d_Net_close_138 (by decide) ?_
      refine g_sub [0, 1, 2] rfl ?_
      exact hk69 _ _ _ _ hy
    · rw [if_neg c115] at hy
      refine g_icmp_geF (pc' := 104) d_Net_close_101 138 c115 (by decide) rfl ?_
      refine g_aload 3 (pc' := 106) d_Net_close_104 rfl rfl ?_
      replace hy := g_gR_inv hy
      obtain ⟨fs116, x117, hc118, hv119, hy⟩ := hy
      refine g_getfN (pc' := 109) d_Net_close_106 hc118 rfl (by decide) hv119 q1018 rfl rfl ?_
      refine g_iload 4 (pc' := 111) d_Net_close_109 rfl rfl ?_
      refine g_dup2 (pc' := 112) d_Net_close_111 rfl g_cat_rf rfl ?_
      replace hy := g_nn_inv hy
      obtain ⟨a120, rfl, hy⟩ := hy
      replace hy := g_aI_inv hy
      obtain ⟨n122, f123, hc124, hi125, hy⟩ := hy
      refine g_iald (pc' := 113) d_Net_close_112 hc124 hi125 rfl ?_
      generalize f123 (v6).toNatClampNeg = x121 at hy ⊢
      refine g_aload 3 (pc' := 115) d_Net_close_113 rfl rfl ?_
      replace hy := g_gR_inv hy
      obtain ⟨fs126, x127, hc128, hv129, hy⟩ := hy
      refine g_getfN (pc' := 118) d_Net_close_115 hc128 rfl (by decide) hv129 q1018 rfl rfl ?_
      refine g_iload 4 (pc' := 120) d_Net_close_118 rfl rfl ?_
      replace hy := g_nn_inv hy
      obtain ⟨a130, rfl, hy⟩ := hy
      replace hy := g_aI_inv hy
      obtain ⟨n132, f133, hc134, hi135, hy⟩ := hy
      refine g_iald (pc' := 121) d_Net_close_120 hc134 hi135 rfl ?_
      generalize f133 (v6).toNatClampNeg = x131 at hy ⊢
      refine g_iload_n 1 (i := 1) (pc' := 122) d_Net_close_121 rfl rfl rfl ?_
      by_cases c136 : x131 ≤ v1
      · rw [if_pos c136] at hy
        refine g_icmp_leT (pc' := 129) d_Net_close_122 c136 (by decide) ?_
        refine g_iconst (v := (0 : Int32)) (pc' := 130) d_Net_close_129 (by decide) rfl ?_
        exact W_Net_close_130 _ _ hk69 _ ih _ _ _ _ _ _ _ _ _ _ hy
      · rw [if_neg c136] at hy
        refine g_icmp_leF (pc' := 125) d_Net_close_122 129 c136 (by decide) rfl ?_
        refine g_iconst (v := (1 : Int32)) (pc' := 126) d_Net_close_125 (by decide) rfl ?_
        refine g_goto (pc' := 130) d_Net_close_126 (by decide) ?_
        exact W_Net_close_130 _ _ hk69 _ ih _ _ _ _ _ _ _ _ _ _ hy
def Net_close_69  : Nat → g_AH → Nat → Int32 → Option Nat → Option (Int32 × g_AH)
  | 0, _, _, _, _ => none
  | n + 1, h, v0, v1, v4 => g_nn v4 fun a60 => g_is h a60 16 <| g_b (ArrayListItr_hasNext h a60) fun x63 => if x63 = 0 then (g_gR h v0 1 4 fun x68 => g_nn x68 fun a71 => g_is h a71 15 <| g_b2 (ArrayList_iterator h a71) fun x74 h75 => Net_close_150  gFU h75 v1 x74) else (g_is h a60 16 <| g_b2 (ArrayListItr_next h a60) fun x106 h107 => g_ck h107 x106 10 <| Net_close_94 (Net_close_69  n) gFU h107 v0 v1 (some a60) x106 (0 : Int32))
set_option maxHeartbeats 4000000 in
set_option maxRecDepth 100000 in
theorem W_Net_close_69 {X : g_X} (z : Int32 × g_AH)  : ∀ (n : Nat) (h : g_AH) (v0 : Nat) (v1 : Int32) (v4 : Option Nat), Net_close_69  n h v0 v1 v4 = some z → G X k_Net_close (.inl (some (.int z.1))) z.2 h 69 [(0, .ref v0), (1, .int v1), (4, va_rf v4)] [] := by
  intro n
  induction n with
  | zero => intro h v0 v1 v4 hy; exact absurd hy (by simp [Net_close_69])
  | succ n ih =>
    intro h v0 v1 v4 hy
    rw [Net_close_69] at hy
    refine g_aloadO 2 (pc' := 71) d_Net_close_69 rfl rfl ?_
    replace hy := g_nn_inv hy
    obtain ⟨a60, rfl, hy⟩ := hy
    replace hy := g_is_inv hy
    obtain ⟨fs61, hc62, hy⟩ := hy
    replace hy := g_b_inv hy
    obtain ⟨x63, hf65, hy⟩ := hy
    refine g_callF (x := ⟨"java/util/Iterator", "hasNext", "()Z"⟩) (rv := some (.int x63)) (h1 := h) (pc' := 76) (As := []) (rest := []) 0 (T_ArrayListItr_hasNext (hy := hf65)) d_Net_close_71 hc62 rfl (by decide) (g_wsF q1646 q1487 q1489 q145 q1491) ⟨by decide, by decide, by decide +kernel⟩ rfl ⟨by decide, by decide⟩ (by first | exact Nat.le_of_ble_eq_true rfl | (simp only [List.map, List.sum_cons, List.sum_nil, g_cat_rf]; exact Nat.le_of_ble_eq_true rfl) | (simp only [List.map, List.sum_cons, List.sum_nil, g_cat_rf, Value.category]; decide)) rfl ?_
    by_cases c66 : x63 = 0
    · rw [if_pos c66] at hy
      refine g_if_eqT (pc' := 141) d_Net_close_76 c66 (by decide) ?_
      refine g_aload_n 0 (i := 0) (pc' := 142) d_Net_close_141 rfl rfl rfl ?_
      replace hy := g_gR_inv hy
      obtain ⟨fs67, x68, hc69, hv70, hy⟩ := hy
      refine g_getf (pc' := 145) d_Net_close_142 hc69 rfl (by decide) hv70 q561 (Or.inl rfl) rfl ?_
      replace hy := g_nn_inv hy
      obtain ⟨a71, rfl, hy⟩ := hy
      replace hy := g_is_inv hy
      obtain ⟨fs72, hc73, hy⟩ := hy
      replace hy := g_b2_inv hy
      obtain ⟨x74, h75, hf76, hy⟩ := hy
      refine g_callV (rv := some (va_rf x74)) (h1 := h75) (pc' := 148) (As := []) (rest := []) 0 (T_ArrayList_iterator (hy := hf76)) d_Net_close_145 hc73 rfl rfl q1644 q1460 q1461 q112 q1462 hd_ArrayList_iterator rfl ⟨by decide, by decide⟩ (by first | exact Nat.le_of_ble_eq_true rfl | (simp only [List.map, List.sum_cons, List.sum_nil, g_cat_rf]; exact Nat.le_of_ble_eq_true rfl) | (simp only [List.map, List.sum_cons, List.sum_nil, g_cat_rf, Value.category]; decide)) rfl ?_
      refine g_astoreO (pc' := 150) (Lc' := [(4, va_rf x74), (0, .ref v0), (1, .int v1)]) d_Net_close_148 (by decide) rfl rfl ?_
      refine g_sub [2, 0] rfl ?_
      exact W_Net_close_150 _ _ _ _ _ hy
    · rw [if_neg c66] at hy
      refine g_if_eqF (pc' := 79) d_Net_close_76 141 c66 (by decide) rfl ?_
      refine g_aload 2 (pc' := 81) d_Net_close_79 rfl rfl ?_
      replace hy := g_is_inv hy
      obtain ⟨fs104, hc105, hy⟩ := hy
      replace hy := g_b2_inv hy
      obtain ⟨x106, h107, hf108, hy⟩ := hy
      refine g_callF (x := ⟨"java/util/Iterator", "next", "()Ljava/lang/Object;"⟩) (rv := some (va_rf x106)) (h1 := h107) (pc' := 86) (As := []) (rest := []) 0 (T_ArrayListItr_next (hy := hf108)) d_Net_close_81 hc105 rfl (by decide) (g_wsF q1648 q1496 q1498 q145 q1500) ⟨by decide, by decide, by decide +kernel⟩ rfl ⟨by decide, by decide⟩ (by first | exact Nat.le_of_ble_eq_true rfl | (simp only [List.map, List.sum_cons, List.sum_nil, g_cat_rf]; exact Nat.le_of_ble_eq_true rfl) | (simp only [List.map, List.sum_cons, List.sum_nil, g_cat_rf, Value.category]; decide)) rfl ?_
      replace hy := g_ck_inv hy
      obtain ⟨hk109, hy⟩ := hy
      refine g_castO (pc' := 89) d_Net_close_86 hk109 rfl q1243 rfl ?_
      refine g_astoreO (pc' := 91) (Lc' := [(5, va_rf x106), (0, .ref v0), (1, .int v1), (4, .ref a60)]) d_Net_close_89 (by decide) rfl rfl ?_
      refine g_iconst (v := (0 : Int32)) (pc' := 92) d_Net_close_91 (by decide) rfl ?_
      refine g_istore (pc' := 94) (Lc' := [(6, .int (0 : Int32)), (5, va_rf x106), (0, .ref v0), (1, .int v1), (4, .ref a60)]) d_Net_close_92 (by decide) (by cases x106 <;> rfl) rfl ?_
      refine g_sub [2, 3, 4, 1, 0] rfl ?_
      exact W_Net_close_94 _ _ ih _ _ _ _ _ _ _ hy
def Net_close (h : g_AH) (this : Nat) (p0 : Int32) : Option (Int32 × g_AH) :=
  g_gR h this 1 3 fun x2 => g_nn x2 fun a5 => g_is h a5 15 <| g_b (ArrayList_get h a5 p0) fun x8 => g_ck h x8 12 <| g_is h this 1 <| g_b (Net_isMoving h this x8) fun x14 => if x14 = 0 then (g_nn x8 fun a18 => g_gI h a18 12 8 fun x20 => if 0 < x20 then (some ((8 : Int32), h)) else (g_is h this 1 <| g_b (Net_packetsOf h this p0) fun x26 => if x26 ≤ 0 then (g_gR h a18 12 2 fun x31 => g_is h this 1 <| g_b (Net_giveUpAll h this x31) fun h37 => g_gR h37 this 1 3 fun x40 => g_nn x40 fun a43 => g_is h37 a43 15 <| g_b2 (ArrayList_remove h37 a43 p0) fun x46 h47 => g_ck h47 x46 12 <| g_gR h47 this 1 1 fun x51 => g_nn x51 fun a54 => g_is h47 a54 15 <| g_b2 (ArrayList_iterator h47 a54) fun x57 h58 => Net_close_69  gFU h58 this p0 x57) else (some ((8 : Int32), h)))) else (some ((2 : Int32), h))
set_option maxHeartbeats 4000000 in
set_option maxRecDepth 100000 in
theorem T_Net_close {l : Launch} {B : g_B} (h : g_AH) (this : Nat) (p0 : Int32) (z : Int32 × g_AH) (hy : Net_close h this p0 = some z) : g_CT l B y_Net_close k_Net_close [.ref this, .int p0] h (.inl (some (.int z.1))) z.2 := by
  refine g_start2 (Lc := [(0, .ref this), (1, .int p0)]) (by decide) rfl rfl (by exact Nat.le_of_ble_eq_true rfl) (by rfl) fun X => ?_
  unfold Net_close at hy
  refine g_aload_n 0 (i := 0) (pc' := 1) d_Net_close_0 rfl rfl rfl ?_
  replace hy := g_gR_inv hy
  obtain ⟨fs1, x2, hc3, hv4, hy⟩ := hy
  refine g_getf (pc' := 4) d_Net_close_1 hc3 rfl (by decide) hv4 q555 (Or.inl rfl) rfl ?_
  refine g_iload_n 1 (i := 1) (pc' := 5) d_Net_close_4 rfl rfl rfl ?_
  replace hy := g_nn_inv hy
  obtain ⟨a5, rfl, hy⟩ := hy
  replace hy := g_is_inv hy
  obtain ⟨fs6, hc7, hy⟩ := hy
  replace hy := g_b_inv hy
  obtain ⟨x8, hf10, hy⟩ := hy
  refine g_callV (rv := some (va_rf x8)) (h1 := h) (pc' := 8) (As := [.int p0]) (rest := []) 1 (T_ArrayList_get (hy := hf10)) d_Net_close_5 hc7 rfl rfl q682 q683 q684 q112 q685 hd_ArrayList_get rfl ⟨by decide, by decide⟩ (by first | exact Nat.le_of_ble_eq_true rfl | (simp only [List.map, List.sum_cons, List.sum_nil, g_cat_rf]; exact Nat.le_of_ble_eq_true rfl) | (simp only [List.map, List.sum_cons, List.sum_nil, g_cat_rf, Value.category]; decide)) rfl ?_
  replace hy := g_ck_inv hy
  obtain ⟨hk11, hy⟩ := hy
  refine g_castO (pc' := 11) d_Net_close_8 hk11 rfl q696 rfl ?_
  refine g_astoreO_n (i := 2) (pc' := 12) (Lc' := [(2, va_rf x8), (0, .ref this), (1, .int p0)]) d_Net_close_11 rfl (by decide) rfl rfl ?_
  refine g_aload_n 1 (i := 0) (pc' := 13) d_Net_close_12 rfl rfl rfl ?_
  refine g_aloadO_n 0 (i := 2) (pc' := 14) d_Net_close_13 rfl rfl rfl ?_
  replace hy := g_is_inv hy
  obtain ⟨fs12, hc13, hy⟩ := hy
  replace hy := g_b_inv hy
  obtain ⟨x14, hf16, hy⟩ := hy
  refine g_callV (rv := some (.int x14)) (h1 := h) (pc' := 17) (As := [va_rf x8]) (rest := []) 1 (T_Net_isMoving (hy := hf16)) d_Net_close_14 hc13 rfl rfl q1639 q1506 q1507 q109 q1508 hd_Net_isMoving rfl ⟨by decide, by decide⟩ (by first | exact Nat.le_of_ble_eq_true rfl | (simp only [List.map, List.sum_cons, List.sum_nil, g_cat_rf]; exact Nat.le_of_ble_eq_true rfl) | (simp only [List.map, List.sum_cons, List.sum_nil, g_cat_rf, Value.category]; decide)) rfl ?_
  by_cases c17 : x14 = 0
  · rw [if_pos c17] at hy
    refine g_if_eqT (pc' := 22) d_Net_close_17 c17 (by decide) ?_
    refine g_aloadO_n 0 (i := 2) (pc' := 23) d_Net_close_22 rfl rfl rfl ?_
    replace hy := g_nn_inv hy
    obtain ⟨a18, rfl, hy⟩ := hy
    replace hy := g_gI_inv hy
    obtain ⟨fs19, x20, hc21, hv22, hy⟩ := hy
    refine g_getfN (pc' := 26) d_Net_close_23 hc21 rfl (by decide) hv22 q1184 rfl rfl ?_
    by_cases c23 : 0 < x20
    · rw [if_pos c23] at hy
      refine g_if_gtT (pc' := 37) d_Net_close_26 c23 (by decide) ?_
      refine g_bipush (v := (8 : Int32)) (pc' := 39) d_Net_close_37 (by decide) rfl ?_
      cases hy
      exact g_iret rfl rfl rfl d_Net_close_39
    · rw [if_neg c23] at hy
      refine g_if_gtF (pc' := 29) d_Net_close_26 37 c23 (by decide) rfl ?_
      refine g_aload_n 1 (i := 0) (pc' := 30) d_Net_close_29 rfl rfl rfl ?_
      refine g_iload_n 2 (i := 1) (pc' := 31) d_Net_close_30 rfl rfl rfl ?_
      replace hy := g_is_inv hy
      obtain ⟨fs24, hc25, hy⟩ := hy
      replace hy := g_b_inv hy
      obtain ⟨x26, hf28, hy⟩ := hy
      refine g_callV (rv := some (.int x26)) (h1 := h) (pc' := 34) (As := [.int p0]) (rest := []) 1 (T_Net_packetsOf (hy := hf28)) d_Net_close_31 hc25 rfl rfl q1640 q1641 q1642 q109 q1643 hd_Net_packetsOf rfl ⟨by decide, by decide⟩ (by first | exact Nat.le_of_ble_eq_true rfl | (simp only [List.map, List.sum_cons, List.sum_nil, g_cat_rf]; exact Nat.le_of_ble_eq_true rfl) | (simp only [List.map, List.sum_cons, List.sum_nil, g_cat_rf, Value.category]; decide)) rfl ?_
      by_cases c29 : x26 ≤ 0
      · rw [if_pos c29] at hy
        refine g_if_leT (pc' := 40) d_Net_close_34 c29 (by decide) ?_
        refine g_aload_n 1 (i := 0) (pc' := 41) d_Net_close_40 rfl rfl rfl ?_
        refine g_aload_n 0 (i := 2) (pc' := 42) d_Net_close_41 rfl rfl rfl ?_
        replace hy := g_gR_inv hy
        obtain ⟨fs30, x31, hc32, hv33, hy⟩ := hy
        refine g_getfN (pc' := 45) d_Net_close_42 hc32 rfl (by decide) hv33 q1155 rfl rfl ?_
        replace hy := g_is_inv hy
        obtain ⟨fs34, hc35, hy⟩ := hy
        replace hy := g_b_inv hy
        obtain ⟨h37, hf38, hy⟩ := hy
        refine g_callV (rv := none) (h1 := h37) (pc' := 48) (As := [va_rf x31]) (rest := []) 1 (T_Net_giveUpAll (hy := hf38)) d_Net_close_45 hc35 rfl rfl q1613 q1614 q1615 q109 q1616 hd_Net_giveUpAll rfl ⟨by decide, by decide⟩ (by first | exact Nat.le_of_ble_eq_true rfl | (simp only [List.map, List.sum_cons, List.sum_nil, g_cat_rf]; exact Nat.le_of_ble_eq_true rfl) | (simp only [List.map, List.sum_cons, List.sum_nil, g_cat_rf, Value.category]; decide)) rfl ?_
        refine g_aload_n 1 (i := 0) (pc' := 49) d_Net_close_48 rfl rfl rfl ?_
        replace hy := g_gR_inv hy
        obtain ⟨fs39, x40, hc41, hv42, hy⟩ := hy
        refine g_getf (pc' := 52) d_Net_close_49 hc41 rfl (by decide) hv42 q555 (Or.inl rfl) rfl ?_
        refine g_iload_n 2 (i := 1) (pc' := 53) d_Net_close_52 rfl rfl rfl ?_
        replace hy := g_nn_inv hy
        obtain ⟨a43, rfl, hy⟩ := hy
        replace hy := g_is_inv hy
        obtain ⟨fs44, hc45, hy⟩ := hy
        replace hy := g_b2_inv hy
        obtain ⟨x46, h47, hf48, hy⟩ := hy
        refine g_callV (rv := some (va_rf x46)) (h1 := h47) (pc' := 56) (As := [.int p0]) (rest := []) 1 (T_ArrayList_remove (hy := hf48)) d_Net_close_53 hc45 rfl rfl q1421 q1422 q1423 q112 q1424 hd_ArrayList_remove rfl ⟨by decide, by decide⟩ (by first | exact Nat.le_of_ble_eq_true rfl | (simp only [List.map, List.sum_cons, List.sum_nil, g_cat_rf]; exact Nat.le_of_ble_eq_true rfl) | (simp only [List.map, List.sum_cons, List.sum_nil, g_cat_rf, Value.category]; decide)) rfl ?_
        replace hy := g_ck_inv hy
        obtain ⟨hk49, hy⟩ := hy
        refine g_castO (pc' := 59) d_Net_close_56 hk49 rfl q696 rfl ?_
        refine g_astoreO_n (i := 3) (pc' := 60) (Lc' := [(3, va_rf x46), (2, .ref a18), (0, .ref this), (1, .int p0)]) d_Net_close_59 rfl (by decide) rfl rfl ?_
        refine g_aload_n 2 (i := 0) (pc' := 61) d_Net_close_60 rfl rfl rfl ?_
        replace hy := g_gR_inv hy
        obtain ⟨fs50, x51, hc52, hv53, hy⟩ := hy
        refine g_getf (pc' := 64) d_Net_close_61 hc52 rfl (by decide) hv53 q547 (Or.inl rfl) rfl ?_
        replace hy := g_nn_inv hy
        obtain ⟨a54, rfl, hy⟩ := hy
        replace hy := g_is_inv hy
        obtain ⟨fs55, hc56, hy⟩ := hy
        replace hy := g_b2_inv hy
        obtain ⟨x57, h58, hf59, hy⟩ := hy
        refine g_callV (rv := some (va_rf x57)) (h1 := h58) (pc' := 67) (As := []) (rest := []) 0 (T_ArrayList_iterator (hy := hf59)) d_Net_close_64 hc56 rfl rfl q1644 q1460 q1461 q112 q1462 hd_ArrayList_iterator rfl ⟨by decide, by decide⟩ (by first | exact Nat.le_of_ble_eq_true rfl | (simp only [List.map, List.sum_cons, List.sum_nil, g_cat_rf]; exact Nat.le_of_ble_eq_true rfl) | (simp only [List.map, List.sum_cons, List.sum_nil, g_cat_rf, Value.category]; decide)) rfl ?_
        refine g_astoreO (pc' := 69) (Lc' := [(4, va_rf x57), (3, va_rf x46), (2, .ref a18), (0, .ref this), (1, .int p0)]) d_Net_close_67 (by decide) (by cases x46 <;> rfl) rfl ?_
        refine g_sub [3, 4, 0] rfl ?_
        exact W_Net_close_69 _ _ _ _ _ _ hy
      · rw [if_neg c29] at hy
        refine g_if_leF (pc' := 37) d_Net_close_34 40 c29 (by decide) rfl ?_
        refine g_bipush (v := (8 : Int32)) (pc' := 39) d_Net_close_37 (by decide) rfl ?_
        cases hy
        exact g_iret rfl rfl rfl d_Net_close_39
  · rw [if_neg c17] at hy
    refine g_if_eqF (pc' := 20) d_Net_close_17 22 c17 (by decide) rfl ?_
    refine g_iconst (v := (2 : Int32)) (pc' := 21) d_Net_close_20 (by decide) rfl ?_
    cases hy
    exact g_iret rfl rfl rfl d_Net_close_21
theorem hd_Net_close : g_dsc y_Net_close 1 := ⟨by decide +kernel, by decide +kernel, by decide +kernel⟩
/-! CircuitDesk.close(I)I -/
abbrev y_Desk_close : MethodName := ⟨"CircuitDesk", "close", "(I)I"⟩
abbrev k_Desk_close : g_M := (prog_1_method_28_code, 3, "CircuitDesk", 19, (some FieldType.int), "close", [], 0)
theorem d_Desk_close_0 : decode prog_1_method_28_code 0 = .ok (.aload_n 0, 1) := by decide +kernel
theorem d_Desk_close_1 : decode prog_1_method_28_code 1 = .ok (.iload_n 1, 1) := by decide +kernel
theorem d_Desk_close_2 : decode prog_1_method_28_code 2 = .ok (.invokevirtual 263, 3) := by decide +kernel
theorem d_Desk_close_5 : decode prog_1_method_28_code 5 = .ok (.astore_n 2, 1) := by decide +kernel
theorem d_Desk_close_6 : decode prog_1_method_28_code 6 = .ok (.aload_n 0, 1) := by decide +kernel
theorem d_Desk_close_7 : decode prog_1_method_28_code 7 = .ok (.getfield 19, 3) := by decide +kernel
theorem d_Desk_close_10 : decode prog_1_method_28_code 10 = .ok (.iload_n 1, 1) := by decide +kernel
theorem d_Desk_close_11 : decode prog_1_method_28_code 11 = .ok (.invokevirtual 267, 3) := by decide +kernel
theorem d_Desk_close_14 : decode prog_1_method_28_code 14 = .ok (.ireturn, 1) := by decide +kernel
def Desk_close (h : g_AH) (this : Nat) (p0 : Int32) : Option ((Int32 ⊕ g_EX) × g_AH) :=
  g_is h this 0 <| g_bx (Desk_circuitOf h this p0) fun x3 h4 => g_gR h4 this 0 0 fun x9 => g_nn x9 fun a12 => g_is h4 a12 1 <| g_b2 (Net_close h4 a12 p0) fun x15 h16 => some (.inl x15, h16)
set_option maxHeartbeats 4000000 in
set_option maxRecDepth 100000 in
theorem T_Desk_close {l : Launch} {B : g_B} (h : g_AH) (this : Nat) (p0 : Int32) (z : (Int32 ⊕ g_EX) × g_AH) (hy : Desk_close h this p0 = some z) : g_CT l B y_Desk_close k_Desk_close [.ref this, .int p0] h (g_rI z.1) z.2 := by
  refine g_start2 (Lc := [(0, .ref this), (1, .int p0)]) (by decide) rfl rfl (by exact Nat.le_of_ble_eq_true rfl) (by rfl) fun X => ?_
  unfold Desk_close at hy
  refine g_aload_n 0 (i := 0) (pc' := 1) d_Desk_close_0 rfl rfl rfl ?_
  refine g_iload_n 1 (i := 1) (pc' := 2) d_Desk_close_1 rfl rfl rfl ?_
  replace hy := g_is_inv hy
  obtain ⟨fs1, hc2, hy⟩ := hy
  replace hy := g_bx_inv hy
  rcases hy with ⟨x3, h4, hf5, hy⟩ | ⟨⟨E9, q9⟩, h4, hf5, ez7⟩
  rotate_left
  · subst ez7
    exact g_callVX (As := [.int p0]) (rest := []) 1 (T_Desk_circuitOf (hy := hf5)) d_Desk_close_2 hc2 rfl rfl q1631 q1633 qs22 q108 q1634 hd_Desk_circuitOf rfl ⟨by decide, by decide⟩ (by first | exact Nat.le_of_ble_eq_true rfl | (simp only [List.map, List.sum_cons, List.sum_nil, g_cat_rf]; exact Nat.le_of_ble_eq_true rfl) | (simp only [List.map, List.sum_cons, List.sum_nil, g_cat_rf, Value.category]; decide)) rfl rfl
  refine g_callV (rv := some (va_rf x3)) (h1 := h4) (pc' := 5) (As := [.int p0]) (rest := []) 1 (T_Desk_circuitOf (hy := hf5)) d_Desk_close_2 hc2 rfl rfl q1631 q1633 qs22 q108 q1634 hd_Desk_circuitOf rfl ⟨by decide, by decide⟩ (by first | exact Nat.le_of_ble_eq_true rfl | (simp only [List.map, List.sum_cons, List.sum_nil, g_cat_rf]; exact Nat.le_of_ble_eq_true rfl) | (simp only [List.map, List.sum_cons, List.sum_nil, g_cat_rf, Value.category]; decide)) rfl ?_
  refine g_astoreO_n (i := 2) (pc' := 6) (Lc' := [(2, va_rf x3), (0, .ref this), (1, .int p0)]) d_Desk_close_5 rfl (by decide) rfl rfl ?_
  refine g_aload_n 1 (i := 0) (pc' := 7) d_Desk_close_6 rfl rfl rfl ?_
  replace hy := g_gR_inv hy
  obtain ⟨fs8, x9, hc10, hv11, hy⟩ := hy
  refine g_getf (pc' := 10) d_Desk_close_7 hc10 rfl (by decide) hv11 q642 (Or.inl rfl) rfl ?_
  refine g_iload_n 2 (i := 1) (pc' := 11) d_Desk_close_10 rfl rfl rfl ?_
  replace hy := g_nn_inv hy
  obtain ⟨a12, rfl, hy⟩ := hy
  replace hy := g_is_inv hy
  obtain ⟨fs13, hc14, hy⟩ := hy
  replace hy := g_b2_inv hy
  obtain ⟨x15, h16, hf17, hy⟩ := hy
  refine g_callV (rv := some (.int x15)) (h1 := h16) (pc' := 14) (As := [.int p0]) (rest := []) 1 (T_Net_close (hy := hf17)) d_Desk_close_11 hc14 rfl rfl q1635 q1636 q1637 q109 q1638 hd_Net_close rfl ⟨by decide, by decide⟩ (by first | exact Nat.le_of_ble_eq_true rfl | (simp only [List.map, List.sum_cons, List.sum_nil, g_cat_rf]; exact Nat.le_of_ble_eq_true rfl) | (simp only [List.map, List.sum_cons, List.sum_nil, g_cat_rf, Value.category]; decide)) rfl ?_
  cases hy
  exact g_iret rfl rfl rfl d_Desk_close_14
theorem hd_Desk_close : g_dsc y_Desk_close 1 := ⟨by decide +kernel, by decide +kernel, by decide +kernel⟩
