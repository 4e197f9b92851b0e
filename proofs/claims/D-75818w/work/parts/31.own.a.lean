/-! CircuitDesk.checkState(Z)V -/
abbrev y_Desk_checkState : MethodName := ⟨"CircuitDesk", "checkState", "(Z)V"⟩
abbrev k_Desk_checkState : g_M := (prog_1_method_4_code, 1, "CircuitDesk", 17, none, "checkState", [], 0)
theorem d_Desk_checkState_0 : decode prog_1_method_4_code 0 = .ok (.iload_n 0, 1) := by decide +kernel
theorem d_Desk_checkState_1 : decode prog_1_method_4_code 1 = .ok (.ifCond .ne 11, 3) := by decide +kernel
theorem d_Desk_checkState_4 : decode prog_1_method_4_code 4 = .ok (.new 10, 3) := by decide +kernel
theorem d_Desk_checkState_7 : decode prog_1_method_4_code 7 = .ok (.dup, 1) := by decide +kernel
theorem d_Desk_checkState_8 : decode prog_1_method_4_code 8 = .ok (.invokespecial 12, 3) := by decide +kernel
theorem d_Desk_checkState_11 : decode prog_1_method_4_code 11 = .ok (.athrow, 1) := by decide +kernel
theorem d_Desk_checkState_12 : decode prog_1_method_4_code 12 = .ok (.return_, 1) := by decide +kernel
def Desk_checkState (h : g_AH) (p0 : Int32) : Option ((Unit ⊕ g_EX) × g_AH) :=
  if p0 = 0 then (some (.inr ("java/lang/IllegalStateException", none), g_th h)) else (some (.inl (), h))
set_option maxHeartbeats 4000000 in
set_option maxRecDepth 100000 in
theorem T_Desk_checkState {l : Launch} {B : g_B} (h : g_AH) (p0 : Int32) (z : (Unit ⊕ g_EX) × g_AH) (hy : Desk_checkState h p0 = some z) : g_CT l B y_Desk_checkState k_Desk_checkState [.int p0] h (g_rV z.1) z.2 := by
  refine g_start2 (Lc := [(0, .int p0)]) (by decide) rfl rfl (by exact Nat.le_of_ble_eq_true rfl) (by rfl) fun X => ?_
  unfold Desk_checkState at hy
  refine g_iload_n 0 (i := 0) (pc' := 1) d_Desk_checkState_0 rfl rfl rfl ?_
  by_cases c1 : p0 = 0
  · rw [if_pos c1] at hy
    refine g_if_neF (pc' := 4) d_Desk_checkState_1 12 c1 (by decide) rfl ?_
    cases hy
    exact g_throw_IllegalStateException (pc := 4) rfl d_Desk_checkState_4 d_Desk_checkState_7 d_Desk_checkState_8 d_Desk_checkState_11 rfl rfl (by decide) (by decide)
  · rw [if_neg c1] at hy
    refine g_if_neT (pc' := 12) d_Desk_checkState_1 c1 (by decide) ?_
    cases hy
    exact g_vret rfl rfl rfl d_Desk_checkState_12
theorem hd_Desk_checkState : g_dsc y_Desk_checkState 1 := ⟨by decide +kernel, by decide +kernel, by decide +kernel⟩
/-! CircuitDesk.appendText(I)I -/
abbrev y_Desk_appendText : MethodName := ⟨"CircuitDesk", "appendText", "(I)I"⟩
abbrev k_Desk_appendText : g_M := (prog_1_method_47_code, 3, "CircuitDesk", 18, (some FieldType.int), "appendText", [], 0)
theorem d_Desk_appendText_0 : decode prog_1_method_47_code 0 = .ok (.aload_n 0, 1) := by decide +kernel
theorem d_Desk_appendText_1 : decode prog_1_method_47_code 1 = .ok (.getfield 395, 3) := by decide +kernel
theorem d_Desk_appendText_4 : decode prog_1_method_47_code 4 = .ok (.iconst 4, 1) := by decide +kernel
theorem d_Desk_appendText_5 : decode prog_1_method_47_code 5 = .ok (.iadd, 1) := by decide +kernel
theorem d_Desk_appendText_6 : decode prog_1_method_47_code 6 = .ok (.sipush 800, 3) := by decide +kernel
theorem d_Desk_appendText_9 : decode prog_1_method_47_code 9 = .ok (.if_icmp .gt 7, 3) := by decide +kernel
theorem d_Desk_appendText_12 : decode prog_1_method_47_code 12 = .ok (.iconst 1, 1) := by decide +kernel
theorem d_Desk_appendText_13 : decode prog_1_method_47_code 13 = .ok (.goto 4, 3) := by decide +kernel
theorem d_Desk_appendText_16 : decode prog_1_method_47_code 16 = .ok (.iconst 0, 1) := by decide +kernel
theorem d_Desk_appendText_17 : decode prog_1_method_47_code 17 = .ok (.invokestatic 83, 3) := by decide +kernel
theorem d_Desk_appendText_20 : decode prog_1_method_47_code 20 = .ok (.bipush 24, 2) := by decide +kernel
theorem d_Desk_appendText_22 : decode prog_1_method_47_code 22 = .ok (.istore_n 2, 1) := by decide +kernel
theorem d_Desk_appendText_23 : decode prog_1_method_47_code 23 = .ok (.iload_n 2, 1) := by decide +kernel
theorem d_Desk_appendText_24 : decode prog_1_method_47_code 24 = .ok (.ifCond .lt 32, 3) := by decide +kernel
theorem d_Desk_appendText_27 : decode prog_1_method_47_code 27 = .ok (.aload_n 0, 1) := by decide +kernel
theorem d_Desk_appendText_28 : decode prog_1_method_47_code 28 = .ok (.getfield 36, 3) := by decide +kernel
theorem d_Desk_appendText_31 : decode prog_1_method_47_code 31 = .ok (.aload_n 0, 1) := by decide +kernel
theorem d_Desk_appendText_32 : decode prog_1_method_47_code 32 = .ok (.getfield 395, 3) := by decide +kernel
theorem d_Desk_appendText_35 : decode prog_1_method_47_code 35 = .ok (.iload_n 1, 1) := by decide +kernel
theorem d_Desk_appendText_36 : decode prog_1_method_47_code 36 = .ok (.iload_n 2, 1) := by decide +kernel
theorem d_Desk_appendText_37 : decode prog_1_method_47_code 37 = .ok (.ishr, 1) := by decide +kernel
theorem d_Desk_appendText_38 : decode prog_1_method_47_code 38 = .ok (.i2b, 1) := by decide +kernel
theorem d_Desk_appendText_39 : decode prog_1_method_47_code 39 = .ok (.bastore, 1) := by decide +kernel
theorem d_Desk_appendText_40 : decode prog_1_method_47_code 40 = .ok (.aload_n 0, 1) := by decide +kernel
theorem d_Desk_appendText_41 : decode prog_1_method_47_code 41 = .ok (.dup, 1) := by decide +kernel
theorem d_Desk_appendText_42 : decode prog_1_method_47_code 42 = .ok (.getfield 395, 3) := by decide +kernel
theorem d_Desk_appendText_45 : decode prog_1_method_47_code 45 = .ok (.iconst 1, 1) := by decide +kernel
theorem d_Desk_appendText_46 : decode prog_1_method_47_code 46 = .ok (.iadd, 1) := by decide +kernel
theorem d_Desk_appendText_47 : decode prog_1_method_47_code 47 = .ok (.putfield 395, 3) := by decide +kernel
theorem d_Desk_appendText_50 : decode prog_1_method_47_code 50 = .ok (.iinc 2 (-8), 3) := by decide +kernel
theorem d_Desk_appendText_53 : decode prog_1_method_47_code 53 = .ok (.goto (-30), 3) := by decide +kernel
theorem d_Desk_appendText_56 : decode prog_1_method_47_code 56 = .ok (.aload_n 0, 1) := by decide +kernel
theorem d_Desk_appendText_57 : decode prog_1_method_47_code 57 = .ok (.getfield 395, 3) := by decide +kernel
theorem d_Desk_appendText_60 : decode prog_1_method_47_code 60 = .ok (.ireturn, 1) := by decide +kernel
def Desk_appendText_23  : Nat → g_AH → Nat → Int32 → Int32 → Option ((Int32 ⊕ g_EX) × g_AH)
  | 0, _, _, _, _ => none
  | n + 1, h, v0, v1, v2 => if v2 < 0 then (g_gI h v0 0 4 fun x13 => some (.inl x13, h)) else (g_gR h v0 0 3 fun x17 => g_gI h v0 0 4 fun x21 => g_nn x17 fun a24 => g_sI h 2 a24 x21 (vp_nar .byte (((v1 >>> (v2 &&& 31))).toInt8.toInt32)) fun h29 => g_gI h29 v0 0 4 fun x31 => g_pF h29 v0 0 4 (.int (x31 + (1 : Int32))) fun h37 => (Desk_appendText_23  n) h37 v0 v1 (v2 + (-8 : Int32)))
set_option maxHeartbeats 4000000 in
set_option maxRecDepth 100000 in
theorem W_Desk_appendText_23 {X : g_X} (z : (Int32 ⊕ g_EX) × g_AH)  : ∀ (n : Nat) (h : g_AH) (v0 : Nat) (v1 : Int32) (v2 : Int32), Desk_appendText_23  n h v0 v1 v2 = some z → G X k_Desk_appendText (g_rI z.1) z.2 h 23 [(0, .ref v0), (1, .int v1), (2, .int v2)] [] := by
  intro n
  induction n with
  | zero => intro h v0 v1 v2 hy; exact absurd hy (by simp [Desk_appendText_23])
  | succ n ih =>
    intro h v0 v1 v2 hy
    rw [Desk_appendText_23] at hy
    refine g_iload_n 2 (i := 2) (pc' := 24) d_Desk_appendText_23 rfl rfl rfl ?_
    by_cases c11 : v2 < 0
    · rw [if_pos c11] at hy
      refine g_if_ltT (pc' := 56) d_Desk_appendText_24 c11 (by decide) ?_
      refine g_aload_n 0 (i := 0) (pc' := 57) d_Desk_appendText_56 rfl rfl rfl ?_
      replace hy := g_gI_inv hy
      obtain ⟨fs12, x13, hc14, hv15, hy⟩ := hy
      refine g_getf (pc' := 60) d_Desk_appendText_57 hc14 rfl (by decide) hv15 q647 (Or.inl rfl) rfl ?_
      cases hy
      exact g_iret rfl rfl rfl d_Desk_appendText_60
    · rw [if_neg c11] at hy
      refine g_if_ltF (pc' := 27) d_Desk_appendText_24 56 c11 (by decide) rfl ?_
      refine g_aload_n 0 (i := 0) (pc' := 28) d_Desk_appendText_27 rfl rfl rfl ?_
      replace hy := g_gR_inv hy
      obtain ⟨fs16, x17, hc18, hv19, hy⟩ := hy
      refine g_getf (pc' := 31) d_Desk_appendText_28 hc18 rfl (by decide) hv19 q646 (Or.inl rfl) rfl ?_
      refine g_aload_n 0 (i := 0) (pc' := 32) d_Desk_appendText_31 rfl rfl rfl ?_
      replace hy := g_gI_inv hy
      obtain ⟨fs20, x21, hc22, hv23, hy⟩ := hy
      refine g_getf (pc' := 35) d_Desk_appendText_32 hc22 rfl (by decide) hv23 q647 (Or.inl rfl) rfl ?_
      refine g_iload_n 1 (i := 1) (pc' := 36) d_Desk_appendText_35 rfl rfl rfl ?_
      refine g_iload_n 2 (i := 2) (pc' := 37) d_Desk_appendText_36 rfl rfl rfl ?_
      refine g_ishr (pc' := 38) d_Desk_appendText_37 rfl ?_
      refine g_i2b (pc' := 39) d_Desk_appendText_38 rfl ?_
      replace hy := g_nn_inv hy
      obtain ⟨a24, rfl, hy⟩ := hy
      replace hy := g_sI_inv hy
      obtain ⟨n25, f26, hc27, hi28, hy⟩ := hy
      refine g_bast (pc' := 40) d_Desk_appendText_39 hc27 hi28 rfl ?_
      generalize g_up h a24 (.inl (2, n25, .inl (upd f26 (x21).toNatClampNeg (vp_nar .byte (((v1 >>> (v2 &&& 31))).toInt8.toInt32))))) = h29 at hy ⊢
      refine g_aload_n 0 (i := 0) (pc' := 41) d_Desk_appendText_40 rfl rfl rfl ?_
      refine g_dup (pc' := 42) d_Desk_appendText_41 rfl rfl ?_
      replace hy := g_gI_inv hy
      obtain ⟨fs30, x31, hc32, hv33, hy⟩ := hy
      refine g_getf (pc' := 45) d_Desk_appendText_42 hc32 rfl (by decide) hv33 q647 (Or.inl rfl) rfl ?_
      refine g_iconst (v := (1 : Int32)) (pc' := 46) d_Desk_appendText_45 (by decide) rfl ?_
      refine g_iadd (pc' := 47) d_Desk_appendText_46 rfl ?_
      replace hy := g_pF_inv hy
      obtain ⟨fs34, hc35, hl36, hy⟩ := hy
      refine g_putf (pc' := 50) d_Desk_appendText_47 hc35 rfl (by decide) hl36 rfl rfl rfl q647 (Or.inl rfl) rfl ?_
      generalize g_up h29 v0 (.inr (0, fs34.set 4 (.int (x31 + (1 : Int32))))) = h37 at hy ⊢
      refine g_iinc 2 (v := (v2 + (-8 : Int32))) (pc' := 53) (Lc' := [(2, .int (v2 + (-8 : Int32))), (0, .ref v0), (1, .int v1)]) d_Desk_appendText_50 rfl rfl (by decide) rfl rfl ?_
      refine g_goto (pc' := 23) d_Desk_appendText_53 (by decide) ?_
      refine g_sub [1, 2, 0] rfl ?_
      exact ih _ _ _ _ hy
def Desk_appendText_17 (h : g_AH) (v0 : Nat) (v1 : Int32) (s0 : Int32) : Option ((Int32 ⊕ g_EX) × g_AH) :=
  g_bx (Desk_checkState h s0) fun x6 h7 => Desk_appendText_23  gFU h7 v0 v1 (24 : Int32)
set_option maxHeartbeats 4000000 in
set_option maxRecDepth 100000 in
theorem W_Desk_appendText_17 {X : g_X} (z : (Int32 ⊕ g_EX) × g_AH) (h : g_AH) (v0 : Nat) (v1 : Int32) (s0 : Int32) (hy : Desk_appendText_17  h v0 v1 s0 = some z) : G X k_Desk_appendText (g_rI z.1) z.2 h 17 [(0, .ref v0), (1, .int v1)] [.int s0] := by
  unfold Desk_appendText_17 at hy
  replace hy := g_bx_inv hy
  rcases hy with ⟨x6, h7, hf8, hy⟩ | ⟨⟨E9, q9⟩, h7, hf8, ez10⟩
  rotate_left
  · subst ez10
    exact g_callSX (As := [.int s0]) (rest := []) 1 (T_Desk_checkState (hy := hf8)) d_Desk_appendText_17 q1298 q1299 q108 q1300 hd_Desk_checkState rfl ⟨by decide, by decide⟩ (by first | exact Nat.le_of_ble_eq_true rfl | (simp only [List.map, List.sum_cons, List.sum_nil, g_cat_rf]; exact Nat.le_of_ble_eq_true rfl) | (simp only [List.map, List.sum_cons, List.sum_nil, g_cat_rf, Value.category]; decide)) rfl rfl
  refine g_callS (rv := none) (h1 := h7) (pc' := 20) (As := [.int s0]) (rest := []) 1 (T_Desk_checkState (hy := hf8)) d_Desk_appendText_17 q1298 q1299 q108 q1300 hd_Desk_checkState rfl ⟨by decide, by decide⟩ (by first | exact Nat.le_of_ble_eq_true rfl | (simp only [List.map, List.sum_cons, List.sum_nil, g_cat_rf]; exact Nat.le_of_ble_eq_true rfl) | (simp only [List.map, List.sum_cons, List.sum_nil, g_cat_rf, Value.category]; decide)) rfl ?_
  refine g_bipush (v := (24 : Int32)) (pc' := 22) d_Desk_appendText_20 (by decide) rfl ?_
  refine g_istore_n (i := 2) (pc' := 23) (Lc' := [(2, .int (24 : Int32)), (0, .ref v0), (1, .int v1)]) d_Desk_appendText_22 rfl (by decide) rfl rfl ?_
  refine g_sub [1, 2, 0] rfl ?_
  exact W_Desk_appendText_23 _ _ _ _ _ _ hy
def Desk_appendText (h : g_AH) (this : Nat) (p0 : Int32) : Option ((Int32 ⊕ g_EX) × g_AH) :=
  g_gI h this 0 4 fun x2 => if (800 : Int32) < (x2 + (4 : Int32)) then (Desk_appendText_17  h this p0 (0 : Int32)) else (Desk_appendText_17  h this p0 (1 : Int32))
set_option maxHeartbeats 4000000 in
set_option maxRecDepth 100000 in
theorem T_Desk_appendText {l : Launch} {B : g_B} (h : g_AH) (this : Nat) (p0 : Int32) (z : (Int32 ⊕ g_EX) × g_AH) (hy : Desk_appendText h this p0 = some z) : g_CT l B y_Desk_appendText k_Desk_appendText [.ref this, .int p0] h (g_rI z.1) z.2 := by
  refine g_start2 (Lc := [(0, .ref this), (1, .int p0)]) (by decide) rfl rfl (by exact Nat.le_of_ble_eq_true rfl) (by rfl) fun X => ?_
  unfold Desk_appendText at hy
  refine g_aload_n 0 (i := 0) (pc' := 1) d_Desk_appendText_0 rfl rfl rfl ?_
  replace hy := g_gI_inv hy
  obtain ⟨fs1, x2, hc3, hv4, hy⟩ := hy
  refine g_getf (pc' := 4) d_Desk_appendText_1 hc3 rfl (by decide) hv4 q647 (Or.inl rfl) rfl ?_
  refine g_iconst (v := (4 : Int32)) (pc' := 5) d_Desk_appendText_4 (by decide) rfl ?_
  refine g_iadd (pc' := 6) d_Desk_appendText_5 rfl ?_
  refine g_sipush (v := (800 : Int32)) (pc' := 9) d_Desk_appendText_6 (by decide) rfl ?_
  by_cases c5 : (800 : Int32) < (x2 + (4 : Int32))
  · rw [if_pos c5] at hy
    refine g_icmp_gtT (pc' := 16) d_Desk_appendText_9 c5 (by decide) ?_
    refine g_iconst (v := (0 : Int32)) (pc' := 17) d_Desk_appendText_16 (by decide) rfl ?_
    exact W_Desk_appendText_17 _ _ _ _ _ hy
  · rw [if_neg c5] at hy
    refine g_icmp_gtF (pc' := 12) d_Desk_appendText_9 16 c5 (by decide) rfl ?_
    refine g_iconst (v := (1 : Int32)) (pc' := 13) d_Desk_appendText_12 (by decide) rfl ?_
    refine g_goto (pc' := 17) d_Desk_appendText_13 (by decide) ?_
    exact W_Desk_appendText_17 _ _ _ _ _ hy
theorem hd_Desk_appendText : g_dsc y_Desk_appendText 1 := ⟨by decide +kernel, by decide +kernel, by decide +kernel⟩
/-! CircuitDesk.isBetween(JJJ)Z -/
abbrev y_Desk_isBetween : MethodName := ⟨"CircuitDesk", "isBetween", "(JJJ)Z"⟩
abbrev k_Desk_isBetween : g_M := (prog_1_method_1_code, 6, "CircuitDesk", 12, (some FieldType.boolean), "isBetween", [], 0)
theorem d_Desk_isBetween_0 : decode prog_1_method_1_code 0 = .ok (.lload_n 0, 1) := by decide +kernel
theorem d_Desk_isBetween_1 : decode prog_1_method_1_code 1 = .ok (.lload_n 2, 1) := by decide +kernel
theorem d_Desk_isBetween_2 : decode prog_1_method_1_code 2 = .ok (.lcmp, 1) := by decide +kernel
theorem d_Desk_isBetween_3 : decode prog_1_method_1_code 3 = .ok (.ifCond .lt 14, 3) := by decide +kernel
theorem d_Desk_isBetween_6 : decode prog_1_method_1_code 6 = .ok (.lload_n 0, 1) := by decide +kernel
theorem d_Desk_isBetween_7 : decode prog_1_method_1_code 7 = .ok (.lload 4, 2) := by decide +kernel
theorem d_Desk_isBetween_9 : decode prog_1_method_1_code 9 = .ok (.lcmp, 1) := by decide +kernel
theorem d_Desk_isBetween_10 : decode prog_1_method_1_code 10 = .ok (.ifCond .gt 7, 3) := by decide +kernel
theorem d_Desk_isBetween_13 : decode prog_1_method_1_code 13 = .ok (.iconst 1, 1) := by decide +kernel
theorem d_Desk_isBetween_14 : decode prog_1_method_1_code 14 = .ok (.goto 4, 3) := by decide +kernel
theorem d_Desk_isBetween_17 : decode prog_1_method_1_code 17 = .ok (.iconst 0, 1) := by decide +kernel
theorem d_Desk_isBetween_18 : decode prog_1_method_1_code 18 = .ok (.ireturn, 1) := by decide +kernel
def Desk_isBetween (p0 : Int64) (p1 : Int64) (p2 : Int64) : Option (Int32) :=
  if (lg_cmp p0 p1) < 0 then (some (0 : Int32)) else (if 0 < (lg_cmp p0 p2) then (some (0 : Int32)) else (some (1 : Int32)))
set_option maxHeartbeats 4000000 in
set_option maxRecDepth 100000 in
theorem T_Desk_isBetween {l : Launch} {B : g_B} {h : g_AH} (p0 : Int64) (p1 : Int64) (p2 : Int64) (z : Int32) (hy : Desk_isBetween p0 p1 p2 = some z) : g_CT l B y_Desk_isBetween k_Desk_isBetween [.long p0, .long p1, .long p2] h (.inl (some (.int z))) h := by
  refine g_start2 (Lc := [(0, .long p0), (2, .long p1), (4, .long p2)]) (by decide) rfl rfl (by exact Nat.le_of_ble_eq_true rfl) (by rfl) fun X => ?_
  unfold Desk_isBetween at hy
  refine g_lload_n 0 (i := 0) (pc' := 1) d_Desk_isBetween_0 rfl rfl rfl ?_
  refine g_lload_n 1 (i := 2) (pc' := 2) d_Desk_isBetween_1 rfl rfl rfl ?_
  refine g_lcmp (pc' := 3) d_Desk_isBetween_2 rfl ?_
  by_cases c1 : (lg_cmp p0 p1) < 0
  · rw [if_pos c1] at hy
    refine g_if_ltT (pc' := 17) d_Desk_isBetween_3 c1 (by decide) ?_
    refine g_iconst (v := (0 : Int32)) (pc' := 18) d_Desk_isBetween_17 (by decide) rfl ?_
    cases hy
    exact g_zret rfl rfl rfl (g_nar_z (Or.inl rfl)).1 d_Desk_isBetween_18
  · rw [if_neg c1] at hy
    refine g_if_ltF (pc' := 6) d_Desk_isBetween_3 17 c1 (by decide) rfl ?_
    refine g_lload_n 0 (i := 0) (pc' := 7) d_Desk_isBetween_6 rfl rfl rfl ?_
    refine g_lload 2 (pc' := 9) d_Desk_isBetween_7 rfl rfl ?_
    refine g_lcmp (pc' := 10) d_Desk_isBetween_9 rfl ?_
    by_cases c3 : 0 < (lg_cmp p0 p2)
    · rw [if_pos c3] at hy
      refine g_if_gtT (pc' := 17) d_Desk_isBetween_10 c3 (by decide) ?_
      refine g_iconst (v := (0 : Int32)) (pc' := 18) d_Desk_isBetween_17 (by decide) rfl ?_
      cases hy
      exact g_zret rfl rfl rfl (g_nar_z (Or.inl rfl)).1 d_Desk_isBetween_18
    · rw [if_neg c3] at hy
      refine g_if_gtF (pc' := 13) d_Desk_isBetween_10 17 c3 (by decide) rfl ?_
      refine g_iconst (v := (1 : Int32)) (pc' := 14) d_Desk_isBetween_13 (by decide) rfl ?_
      refine g_goto (pc' := 18) d_Desk_isBetween_14 (by decide) ?_
      cases hy
      exact g_zret rfl rfl rfl (g_nar_z (Or.inr rfl)).1 d_Desk_isBetween_18
theorem hd_Desk_isBetween : g_dsc y_Desk_isBetween 3 := ⟨by decide +kernel, by decide +kernel, by decide +kernel⟩
/-! CircuitDesk.checkArgument(Z)V -/
abbrev y_Desk_checkArgument : MethodName := ⟨"CircuitDesk", "checkArgument", "(Z)V"⟩
abbrev k_Desk_checkArgument : g_M := (prog_1_method_3_code, 1, "CircuitDesk", 17, none, "checkArgument", [], 0)
theorem d_Desk_checkArgument_0 : decode prog_1_method_3_code 0 = .ok (.iload_n 0, 1) := by decide +kernel
theorem d_Desk_checkArgument_1 : decode prog_1_method_3_code 1 = .ok (.ifCond .ne 11, 3) := by decide +kernel
theorem d_Desk_checkArgument_4 : decode prog_1_method_3_code 4 = .ok (.new 7, 3) := by decide +kernel
theorem d_Desk_checkArgument_7 : decode prog_1_method_3_code 7 = .ok (.dup, 1) := by decide +kernel
theorem d_Desk_checkArgument_8 : decode prog_1_method_3_code 8 = .ok (.invokespecial 9, 3) := by decide +kernel
theorem d_Desk_checkArgument_11 : decode prog_1_method_3_code 11 = .ok (.athrow, 1) := by decide +kernel
theorem d_Desk_checkArgument_12 : decode prog_1_method_3_code 12 = .ok (.return_, 1) := by decide +kernel
def Desk_checkArgument (h : g_AH) (p0 : Int32) : Option ((Unit ⊕ g_EX) × g_AH) :=
  if p0 = 0 then (some (.inr ("java/lang/IllegalArgumentException", none), g_th h)) else (some (.inl (), h))
set_option maxHeartbeats 4000000 in
set_option maxRecDepth 100000 in
theorem T_Desk_checkArgument {l : Launch} {B : g_B} (h : g_AH) (p0 : Int32) (z : (Unit ⊕ g_EX) × g_AH) (hy : Desk_checkArgument h p0 = some z) : g_CT l B y_Desk_checkArgument k_Desk_checkArgument [.int p0] h (g_rV z.1) z.2 := by
  refine g_start2 (Lc := [(0, .int p0)]) (by decide) rfl rfl (by exact Nat.le_of_ble_eq_true rfl) (by rfl) fun X => ?_
  unfold Desk_checkArgument at hy
  refine g_iload_n 0 (i := 0) (pc' := 1) d_Desk_checkArgument_0 rfl rfl rfl ?_
  by_cases c1 : p0 = 0
  · rw [if_pos c1] at hy
    refine g_if_neF (pc' := 4) d_Desk_checkArgument_1 12 c1 (by decide) rfl ?_
    cases hy
    exact g_throw_IllegalArgumentException (pc := 4) rfl d_Desk_checkArgument_4 d_Desk_checkArgument_7 d_Desk_checkArgument_8 d_Desk_checkArgument_11 rfl rfl (by decide) (by decide)
  · rw [if_neg c1] at hy
    refine g_if_neT (pc' := 12) d_Desk_checkArgument_1 c1 (by decide) ?_
    cases hy
    exact g_vret rfl rfl rfl d_Desk_checkArgument_12
theorem hd_Desk_checkArgument : g_dsc y_Desk_checkArgument 1 := ⟨by decide +kernel, by decide +kernel, by decide +kernel⟩
/-! CircuitDesk.truncateText(I)I -/
abbrev y_Desk_truncateText : MethodName := ⟨"CircuitDesk", "truncateText", "(I)I"⟩
abbrev k_Desk_truncateText : g_M := (prog_1_method_48_code, 2, "CircuitDesk", 18, (some FieldType.int), "truncateText", [], 0)
theorem d_Desk_truncateText_0 : decode prog_1_method_48_code 0 = .ok (.iload_n 1, 1) := by decide +kernel
theorem d_Desk_truncateText_1 : decode prog_1_method_48_code 1 = .ok (.i2l, 1) := by decide +kernel
theorem d_Desk_truncateText_2 : decode prog_1_method_48_code 2 = .ok (.lconst 0, 1) := by decide +kernel
theorem d_Desk_truncateText_3 : decode prog_1_method_48_code 3 = .ok (.aload_n 0, 1) := by decide +kernel
theorem d_Desk_truncateText_4 : decode prog_1_method_48_code 4 = .ok (.getfield 395, 3) := by decide +kernel
theorem d_Desk_truncateText_7 : decode prog_1_method_48_code 7 = .ok (.i2l, 1) := by decide +kernel
theorem d_Desk_truncateText_8 : decode prog_1_method_48_code 8 = .ok (.invokestatic 54, 3) := by decide +kernel
theorem d_Desk_truncateText_11 : decode prog_1_method_48_code 11 = .ok (.invokestatic 80, 3) := by decide +kernel
theorem d_Desk_truncateText_14 : decode prog_1_method_48_code 14 = .ok (.aload_n 0, 1) := by decide +kernel
theorem d_Desk_truncateText_15 : decode prog_1_method_48_code 15 = .ok (.iload_n 1, 1) := by decide +kernel
theorem d_Desk_truncateText_16 : decode prog_1_method_48_code 16 = .ok (.putfield 395, 3) := by decide +kernel
theorem d_Desk_truncateText_19 : decode prog_1_method_48_code 19 = .ok (.iload_n 1, 1) := by decide +kernel
theorem d_Desk_truncateText_20 : decode prog_1_method_48_code 20 = .ok (.ireturn, 1) := by decide +kernel
def Desk_truncateText (h : g_AH) (this : Nat) (p0 : Int32) : Option ((Int32 ⊕ g_EX) × g_AH) :=
  g_gI h this 0 4 fun x2 => g_b (Desk_isBetween ((p0).toInt64) (0 : Int64) ((x2).toInt64)) fun x5 => g_bx (Desk_checkArgument h x5) fun x8 h9 => g_pF h9 this 0 4 (.int p0) fun h16 => some (.inl p0, h16)
set_option maxHeartbeats 4000000 in
set_option maxRecDepth 100000 in
theorem T_Desk_truncateText {l : Launch} {B : g_B} (h : g_AH) (this : Nat) (p0 : Int32) (z : (Int32 ⊕ g_EX) × g_AH) (hy : Desk_truncateText h this p0 = some z) : g_CT l B y_Desk_truncateText k_Desk_truncateText [.ref this, .int p0] h (g_rI z.1) z.2 := by
  refine g_start2 (Lc := [(0, .ref this), (1, .int p0)]) (by decide) rfl rfl (by exact Nat.le_of_ble_eq_true rfl) (by rfl) fun X => ?_
  unfold Desk_truncateText at hy
  refine g_iload_n 1 (i := 1) (pc' := 1) d_Desk_truncateText_0 rfl rfl rfl ?_
  refine g_i2l (pc' := 2) d_Desk_truncateText_1 rfl ?_
  refine g_lconst (v := 0) (pc' := 3) d_Desk_truncateText_2 (by decide) rfl ?_
  refine g_aload_n 0 (i := 0) (pc' := 4) d_Desk_truncateText_3 rfl rfl rfl ?_
  replace hy := g_gI_inv hy
  obtain ⟨fs1, x2, hc3, hv4, hy⟩ := hy
  refine g_getf (pc' := 7) d_Desk_truncateText_4 hc3 rfl (by decide) hv4 q647 (Or.inl rfl) rfl ?_
  refine g_i2l (pc' := 8) d_Desk_truncateText_7 rfl ?_
  replace hy := g_b_inv hy
  obtain ⟨x5, hf7, hy⟩ := hy
  refine g_callS (rv := some (.int x5)) (h1 := h) (pc' := 11) (As := [.long ((p0).toInt64), .long (0 : Int64), .long ((x2).toInt64)]) (rest := []) 3 (T_Desk_isBetween (hy := hf7)) d_Desk_truncateText_8 q1330 q828 q108 q829 hd_Desk_isBetween rfl ⟨by decide, by decide⟩ (by first | exact Nat.le_of_ble_eq_true rfl | (simp only [List.map, List.sum_cons, List.sum_nil, g_cat_rf]; exact Nat.le_of_ble_eq_true rfl) | (simp only [List.map, List.sum_cons, List.sum_nil, g_cat_rf, Value.category]; decide)) rfl ?_
  replace hy := g_bx_inv hy
  rcases hy with ⟨x8, h9, hf10, hy⟩ | ⟨⟨E9, q9⟩, h9, hf10, ez12⟩
  rotate_left
  · subst ez12
    exact g_callSX (As := [.int x5]) (rest := []) 1 (T_Desk_checkArgument (hy := hf10)) d_Desk_truncateText_11 q1331 q1332 q108 q1333 hd_Desk_checkArgument rfl ⟨by decide, by decide⟩ (by first | exact Nat.le_of_ble_eq_true rfl | (simp only [List.map, List.sum_cons, List.sum_nil, g_cat_rf]; exact Nat.le_of_ble_eq_true rfl) | (simp only [List.map, List.sum_cons, List.sum_nil, g_cat_rf, Value.category]; decide)) rfl rfl
  refine g_callS (rv := none) (h1 := h9) (pc' := 14) (As := [.int x5]) (rest := []) 1 (T_Desk_checkArgument (hy := hf10)) d_Desk_truncateText_11 q1331 q1332 q108 q1333 hd_Desk_checkArgument rfl ⟨by decide, by decide⟩ (by first | exact Nat.le_of_ble_eq_true rfl | (simp only [List.map, List.sum_cons, List.sum_nil, g_cat_rf]; exact Nat.le_of_ble_eq_true rfl) | (simp only [List.map, List.sum_cons, List.sum_nil, g_cat_rf, Value.category]; decide)) rfl ?_
  refine g_aload_n 0 (i := 0) (pc' := 15) d_Desk_truncateText_14 rfl rfl rfl ?_
  refine g_iload_n 1 (i := 1) (pc' := 16) d_Desk_truncateText_15 rfl rfl rfl ?_
  replace hy := g_pF_inv hy
  obtain ⟨fs13, hc14, hl15, hy⟩ := hy
  refine g_putf (pc' := 19) d_Desk_truncateText_16 hc14 rfl (by decide) hl15 rfl rfl rfl q647 (Or.inl rfl) rfl ?_
  generalize g_up h9 this (.inr (0, fs13.set 4 (.int p0))) = h16 at hy ⊢
  refine g_iload_n 1 (i := 1) (pc' := 20) d_Desk_truncateText_19 rfl rfl rfl ?_
  cases hy
  exact g_iret rfl rfl rfl d_Desk_truncateText_20
theorem hd_Desk_truncateText : g_dsc y_Desk_truncateText 1 := ⟨by decide +kernel, by decide +kernel, by decide +kernel⟩
/-! CircuitDesk$Node.<init>(I)V -/
abbrev y_Node_init : MethodName := ⟨"CircuitDesk$Node", "<init>", "(I)V"⟩
abbrev k_Node_init : g_M := (prog_8_method_1_code, 3, "CircuitDesk$Node", 13, none, "<init>", [], 0)
theorem d_Node_init_0 : decode prog_8_method_1_code 0 = .ok (.aload_n 0, 1) := by decide +kernel
theorem d_Node_init_1 : decode prog_8_method_1_code 1 = .ok (.invokespecial 3, 3) := by decide +kernel
theorem d_Node_init_4 : decode prog_8_method_1_code 4 = .ok (.aload_n 0, 1) := by decide +kernel
theorem d_Node_init_5 : decode prog_8_method_1_code 5 = .ok (.iload_n 1, 1) := by decide +kernel
theorem d_Node_init_6 : decode prog_8_method_1_code 6 = .ok (.putfield 9, 3) := by decide +kernel
theorem d_Node_init_9 : decode prog_8_method_1_code 9 = .ok (.aload_n 0, 1) := by decide +kernel
theorem d_Node_init_10 : decode prog_8_method_1_code 10 = .ok (.iload_n 1, 1) := by decide +kernel
theorem d_Node_init_11 : decode prog_8_method_1_code 11 = .ok (.newarray .int, 2) := by decide +kernel
theorem d_Node_init_13 : decode prog_8_method_1_code 13 = .ok (.putfield 15, 3) := by decide +kernel
theorem d_Node_init_16 : decode prog_8_method_1_code 16 = .ok (.aload_n 0, 1) := by decide +kernel
theorem d_Node_init_17 : decode prog_8_method_1_code 17 = .ok (.iload_n 1, 1) := by decide +kernel
theorem d_Node_init_18 : decode prog_8_method_1_code 18 = .ok (.newarray .int, 2) := by decide +kernel
theorem d_Node_init_20 : decode prog_8_method_1_code 20 = .ok (.putfield 19, 3) := by decide +kernel
theorem d_Node_init_23 : decode prog_8_method_1_code 23 = .ok (.aload_n 0, 1) := by decide +kernel
theorem d_Node_init_24 : decode prog_8_method_1_code 24 = .ok (.iload_n 1, 1) := by decide +kernel
theorem d_Node_init_25 : decode prog_8_method_1_code 25 = .ok (.newarray .boolean, 2) := by decide +kernel
theorem d_Node_init_27 : decode prog_8_method_1_code 27 = .ok (.putfield 22, 3) := by decide +kernel
theorem d_Node_init_30 : decode prog_8_method_1_code 30 = .ok (.aload_n 0, 1) := by decide +kernel
theorem d_Node_init_31 : decode prog_8_method_1_code 31 = .ok (.iload_n 1, 1) := by decide +kernel
theorem d_Node_init_32 : decode prog_8_method_1_code 32 = .ok (.newarray .boolean, 2) := by decide +kernel
theorem d_Node_init_34 : decode prog_8_method_1_code 34 = .ok (.putfield 26, 3) := by decide +kernel
theorem d_Node_init_37 : decode prog_8_method_1_code 37 = .ok (.iconst 0, 1) := by decide +kernel
theorem d_Node_init_38 : decode prog_8_method_1_code 38 = .ok (.istore_n 2, 1) := by decide +kernel
theorem d_Node_init_39 : decode prog_8_method_1_code 39 = .ok (.iload_n 2, 1) := by decide +kernel
theorem d_Node_init_40 : decode prog_8_method_1_code 40 = .ok (.iload_n 1, 1) := by decide +kernel
theorem d_Node_init_41 : decode prog_8_method_1_code 41 = .ok (.if_icmp .ge 16, 3) := by decide +kernel
theorem d_Node_init_44 : decode prog_8_method_1_code 44 = .ok (.aload_n 0, 1) := by decide +kernel
theorem d_Node_init_45 : decode prog_8_method_1_code 45 = .ok (.getfield 15, 3) := by decide +kernel
theorem d_Node_init_48 : decode prog_8_method_1_code 48 = .ok (.iload_n 2, 1) := by decide +kernel
theorem d_Node_init_49 : decode prog_8_method_1_code 49 = .ok (.iconst (-1), 1) := by decide +kernel
theorem d_Node_init_50 : decode prog_8_method_1_code 50 = .ok (.iastore, 1) := by decide +kernel
theorem d_Node_init_51 : decode prog_8_method_1_code 51 = .ok (.iinc 2 1, 3) := by decide +kernel
theorem d_Node_init_54 : decode prog_8_method_1_code 54 = .ok (.goto (-15), 3) := by decide +kernel
theorem d_Node_init_57 : decode prog_8_method_1_code 57 = .ok (.return_, 1) := by decide +kernel
def Node_init_39  : Nat → g_AH → Nat → Int32 → Int32 → Option g_AH
  | 0, _, _, _, _ => none
  | n + 1, h, v0, v1, v2 => if v1 ≤ v2 then (some h) else (g_gR h v0 10 1 fun x39 => g_nn x39 fun a42 => g_sI h 0 a42 v2 (-1 : Int32) fun h47 => (Node_init_39  n) h47 v0 v1 (v2 + (1 : Int32)))
set_option maxHeartbeats 4000000 in
set_option maxRecDepth 100000 in
theorem W_Node_init_39 {X : g_X} (z : g_AH)  : ∀ (n : Nat) (h : g_AH) (v0 : Nat) (v1 : Int32) (v2 : Int32), Node_init_39  n h v0 v1 v2 = some z → G X k_Node_init (.inl none) z h 39 [(0, .ref v0), (1, .int v1), (2, .int v2)] [] := by
  intro n
  induction n with
  | zero => intro h v0 v1 v2 hy; exact absurd hy (by simp [Node_init_39])
  | succ n ih =>
    intro h v0 v1 v2 hy
    rw [Node_init_39] at hy
    refine g_iload_n 2 (i := 2) (pc' := 40) d_Node_init_39 rfl rfl rfl ?_
    refine g_iload_n 1 (i := 1) (pc' := 41) d_Node_init_40 rfl rfl rfl ?_
    by_cases c37 : v1 ≤ v2
    · rw [if_pos c37] at hy
      refine g_icmp_geT (pc' := 57) d_Node_init_41 c37 (by decide) ?_
      cases hy
      exact g_vret rfl rfl rfl d_Node_init_57
    · rw [if_neg c37] at hy
      refine g_icmp_geF (pc' := 44) d_Node_init_41 57 c37 (by decide) rfl ?_
      refine g_aload_n 0 (i := 0) (pc' := 45) d_Node_init_44 rfl rfl rfl ?_
      replace hy := g_gR_inv hy
      obtain ⟨fs38, x39, hc40, hv41, hy⟩ := hy
      refine g_getf (pc' := 48) d_Node_init_45 hc40 rfl (by decide) hv41 q1013 (Or.inl rfl) rfl ?_
      refine g_iload_n 2 (i := 2) (pc' := 49) d_Node_init_48 rfl rfl rfl ?_
      refine g_iconst (v := (-1 : Int32)) (pc' := 50) d_Node_init_49 (by decide) rfl ?_
      replace hy := g_nn_inv hy
      obtain ⟨a42, rfl, hy⟩ := hy
      replace hy := g_sI_inv hy
      obtain ⟨n43, f44, hc45, hi46, hy⟩ := hy
      refine g_iast (pc' := 51) d_Node_init_50 hc45 hi46 rfl ?_
      generalize g_up h a42 (.inl (0, n43, .inl (upd f44 (v2).toNatClampNeg (-1 : Int32)))) = h47 at hy ⊢
      refine g_iinc 2 (v := (v2 + (1 : Int32))) (pc' := 54) (Lc' := [(2, .int (v2 + (1 : Int32))), (0, .ref v0), (1, .int v1)]) d_Node_init_51 rfl rfl (by decide) rfl rfl ?_
      refine g_goto (pc' := 39) d_Node_init_54 (by decide) ?_
      refine g_sub [1, 2, 0] rfl ?_
      exact ih _ _ _ _ hy
def Node_init (h : g_AH) (this : Nat) (p0 : Int32) : Option g_AH :=
  g_pF h this 10 0 (.int p0) fun h4 => g_mkA h4 0 p0 fun a5 h6 => g_pF h6 this 10 1 (.ref a5) fun h12 => g_mkA h12 0 p0 fun a13 h14 => g_pF h14 this 10 2 (.ref a13) fun h20 => g_mkA h20 1 p0 fun a21 h22 => g_pF h22 this 10 3 (.ref a21) fun h28 => g_mkA h28 1 p0 fun a29 h30 => g_pF h30 this 10 4 (.ref a29) fun h36 => Node_init_39  gFU h36 this p0 (0 : Int32)
set_option maxHeartbeats 4000000 in
set_option maxRecDepth 100000 in
theorem T_Node_init {l : Launch} {B : g_B} (h : g_AH) (this : Nat) (p0 : Int32) (z : g_AH) (hy : Node_init h this p0 = some z) : g_CT l B y_Node_init k_Node_init [.ref this, .int p0] h (.inl none) z := by
  refine g_start2 (Lc := [(0, .ref this), (1, .int p0)]) (by decide) rfl rfl (by exact Nat.le_of_ble_eq_true rfl) (by rfl) fun X => ?_
  unfold Node_init at hy
  refine g_aload_n 0 (i := 0) (pc' := 1) d_Node_init_0 rfl rfl rfl ?_
  refine g_objInit (pc' := 4) d_Node_init_1 q1009 (by first | exact Nat.le_of_ble_eq_true rfl | (simp only [List.map, List.sum_cons, List.sum_nil, g_cat_rf]; exact Nat.le_of_ble_eq_true rfl) | (simp only [List.map, List.sum_cons, List.sum_nil, g_cat_rf, Value.category]; decide)) (by decide) rfl ?_
  refine g_aload_n 0 (i := 0) (pc' := 5) d_Node_init_4 rfl rfl rfl ?_
  refine g_iload_n 1 (i := 1) (pc' := 6) d_Node_init_5 rfl rfl rfl ?_
  replace hy := g_pF_inv hy
  obtain ⟨fs1, hc2, hl3, hy⟩ := hy
  refine g_putfF (pc' := 9) d_Node_init_6 rfl hc2 rfl (by decide) hl3 rfl rfl rfl rfl q1010 rfl rfl ?_
  generalize g_up h this (.inr (10, fs1.set 0 (.int p0))) = h4 at hy ⊢
  refine g_aload_n 0 (i := 0) (pc' := 10) d_Node_init_9 rfl rfl rfl ?_
  refine g_iload_n 1 (i := 1) (pc' := 11) d_Node_init_10 rfl rfl rfl ?_
  replace hy := g_mkA_inv hy
  obtain ⟨hn7, hb8, hy⟩ := hy
  refine g_newa0 (pc' := 13) d_Node_init_11 hn7 hb8 rfl ?_
  generalize g_al h4 (.inl (0, (p0).toNatClampNeg, .inl (fun _ => 0))) (p0).toNatClampNeg = h6 at hy ⊢
  generalize g_n h4 = a5 at hy ⊢
  replace hy := g_pF_inv hy
  obtain ⟨fs9, hc10, hl11, hy⟩ := hy
  refine g_putf (pc' := 16) d_Node_init_13 hc10 rfl (by decide) hl11 rfl rfl rfl q1013 (Or.inl rfl) rfl ?_
  generalize g_up h6 this (.inr (10, fs9.set 1 (.ref a5))) = h12 at hy ⊢
  refine g_aload_n 0 (i := 0) (pc' := 17) d_Node_init_16 rfl rfl rfl ?_
  refine g_iload_n 1 (i := 1) (pc' := 18) d_Node_init_17 rfl rfl rfl ?_
  replace hy := g_mkA_inv hy
  obtain ⟨hn15, hb16, hy⟩ := hy
  refine g_newa0 (pc' := 20) d_Node_init_18 hn15 hb16 rfl ?_
  generalize g_al h12 (.inl (0, (p0).toNatClampNeg, .inl (fun _ => 0))) (p0).toNatClampNeg = h14 at hy ⊢
  generalize g_n h12 = a13 at hy ⊢
  replace hy := g_pF_inv hy
  obtain ⟨fs17, hc18, hl19, hy⟩ := hy
  refine g_putf (pc' := 23) d_Node_init_20 hc18 rfl (by decide) hl19 rfl rfl rfl q1016 (Or.inl rfl) rfl ?_
  generalize g_up h14 this (.inr (10, fs17.set 2 (.ref a13))) = h20 at hy ⊢
  refine g_aload_n 0 (i := 0) (pc' := 24) d_Node_init_23 rfl rfl rfl ?_
  refine g_iload_n 1 (i := 1) (pc' := 25) d_Node_init_24 rfl rfl rfl ?_
  replace hy := g_mkA_inv hy
  obtain ⟨hn23, hb24, hy⟩ := hy
  refine g_newa1 (pc' := 27) d_Node_init_25 hn23 hb24 rfl ?_
  generalize g_al h20 (.inl (1, (p0).toNatClampNeg, .inl (fun _ => 0))) (p0).toNatClampNeg = h22 at hy ⊢
  generalize g_n h20 = a21 at hy ⊢
  replace hy := g_pF_inv hy
  obtain ⟨fs25, hc26, hl27, hy⟩ := hy
  refine g_putf (pc' := 30) d_Node_init_27 hc26 rfl (by decide) hl27 rfl rfl rfl q1019 (Or.inl rfl) rfl ?_
  generalize g_up h22 this (.inr (10, fs25.set 3 (.ref a21))) = h28 at hy ⊢
  refine g_aload_n 0 (i := 0) (pc' := 31) d_Node_init_30 rfl rfl rfl ?_
  refine g_iload_n 1 (i := 1) (pc' := 32) d_Node_init_31 rfl rfl rfl ?_
  replace hy := g_mkA_inv hy
  obtain ⟨hn31, hb32, hy⟩ := hy
  refine g_newa1 (pc' := 34) d_Node_init_32 hn31 hb32 rfl ?_
  generalize g_al h28 (.inl (1, (p0).toNatClampNeg, .inl (fun _ => 0))) (p0).toNatClampNeg = h30 at hy ⊢
  generalize g_n h28 = a29 at hy ⊢
  replace hy := g_pF_inv hy
  obtain ⟨fs33, hc34, hl35, hy⟩ := hy
  refine g_putf (pc' := 37) d_Node_init_34 hc34 rfl (by decide) hl35 rfl rfl rfl q1022 (Or.inl rfl) rfl ?_
  generalize g_up h30 this (.inr (10, fs33.set 4 (.ref a29))) = h36 at hy ⊢
  refine g_iconst (v := (0 : Int32)) (pc' := 38) d_Node_init_37 (by decide) rfl ?_
  refine g_istore_n (i := 2) (pc' := 39) (Lc' := [(2, .int (0 : Int32)), (0, .ref this), (1, .int p0)]) d_Node_init_38 rfl (by decide) rfl rfl ?_
  refine g_sub [1, 2, 0] rfl ?_
  exact W_Node_init_39 _ _ _ _ _ _ hy
theorem hd_Node_init : g_dsc y_Node_init 1 := ⟨by decide +kernel, by decide +kernel, by decide +kernel⟩
/-! CircuitDesk.addNode(I)I -/
abbrev y_Desk_addNode : MethodName := ⟨"CircuitDesk", "addNode", "(I)I"⟩
abbrev k_Desk_addNode : g_M := (prog_1_method_9_code, 2, "CircuitDesk", 19, (some FieldType.int), "addNode", [], 0)
theorem d_Desk_addNode_0 : decode prog_1_method_9_code 0 = .ok (.iload_n 1, 1) := by decide +kernel
theorem d_Desk_addNode_1 : decode prog_1_method_9_code 1 = .ok (.i2l, 1) := by decide +kernel
theorem d_Desk_addNode_2 : decode prog_1_method_9_code 2 = .ok (.lconst 1, 1) := by decide +kernel
theorem d_Desk_addNode_3 : decode prog_1_method_9_code 3 = .ok (.ldc2_w 78, 3) := by decide +kernel
theorem d_Desk_addNode_6 : decode prog_1_method_9_code 6 = .ok (.invokestatic 54, 3) := by decide +kernel
theorem d_Desk_addNode_9 : decode prog_1_method_9_code 9 = .ok (.invokestatic 80, 3) := by decide +kernel
theorem d_Desk_addNode_12 : decode prog_1_method_9_code 12 = .ok (.aload_n 0, 1) := by decide +kernel
theorem d_Desk_addNode_13 : decode prog_1_method_9_code 13 = .ok (.getfield 19, 3) := by decide +kernel
theorem d_Desk_addNode_16 : decode prog_1_method_9_code 16 = .ok (.getfield 44, 3) := by decide +kernel
theorem d_Desk_addNode_19 : decode prog_1_method_9_code 19 = .ok (.invokevirtual 48, 3) := by decide +kernel
theorem d_Desk_addNode_22 : decode prog_1_method_9_code 22 = .ok (.bipush 10, 2) := by decide +kernel
theorem d_Desk_addNode_24 : decode prog_1_method_9_code 24 = .ok (.if_icmp .ge 7, 3) := by decide +kernel
theorem d_Desk_addNode_27 : decode prog_1_method_9_code 27 = .ok (.iconst 1, 1) := by decide +kernel
theorem d_Desk_addNode_28 : decode prog_1_method_9_code 28 = .ok (.goto 4, 3) := by decide +kernel
theorem d_Desk_addNode_31 : decode prog_1_method_9_code 31 = .ok (.iconst 0, 1) := by decide +kernel
theorem d_Desk_addNode_32 : decode prog_1_method_9_code 32 = .ok (.invokestatic 83, 3) := by decide +kernel
theorem d_Desk_addNode_35 : decode prog_1_method_9_code 35 = .ok (.aload_n 0, 1) := by decide +kernel
theorem d_Desk_addNode_36 : decode prog_1_method_9_code 36 = .ok (.getfield 19, 3) := by decide +kernel
theorem d_Desk_addNode_39 : decode prog_1_method_9_code 39 = .ok (.getfield 44, 3) := by decide +kernel
theorem d_Desk_addNode_42 : decode prog_1_method_9_code 42 = .ok (.new 66, 3) := by decide +kernel
theorem d_Desk_addNode_45 : decode prog_1_method_9_code 45 = .ok (.dup, 1) := by decide +kernel
theorem d_Desk_addNode_46 : decode prog_1_method_9_code 46 = .ok (.iload_n 1, 1) := by decide +kernel
theorem d_Desk_addNode_47 : decode prog_1_method_9_code 47 = .ok (.invokespecial 86, 3) := by decide +kernel
theorem d_Desk_addNode_50 : decode prog_1_method_9_code 50 = .ok (.invokevirtual 89, 3) := by decide +kernel
theorem d_Desk_addNode_53 : decode prog_1_method_9_code 53 = .ok (.pop, 1) := by decide +kernel
theorem d_Desk_addNode_54 : decode prog_1_method_9_code 54 = .ok (.aload_n 0, 1) := by decide +kernel
theorem d_Desk_addNode_55 : decode prog_1_method_9_code 55 = .ok (.getfield 19, 3) := by decide +kernel
theorem d_Desk_addNode_58 : decode prog_1_method_9_code 58 = .ok (.getfield 44, 3) := by decide +kernel
theorem d_Desk_addNode_61 : decode prog_1_method_9_code 61 = .ok (.invokevirtual 48, 3) := by decide +kernel
theorem d_Desk_addNode_64 : decode prog_1_method_9_code 64 = .ok (.iconst 1, 1) := by decide +kernel
theorem d_Desk_addNode_65 : decode prog_1_method_9_code 65 = .ok (.isub, 1) := by decide +kernel
theorem d_Desk_addNode_66 : decode prog_1_method_9_code 66 = .ok (.ireturn, 1) := by decide +kernel
def Desk_addNode_32 (h : g_AH) (v0 : Nat) (v1 : Int32) (s0 : Int32) : Option ((Int32 ⊕ g_EX) × g_AH) :=
  g_bx (Desk_checkState h s0) fun x25 h26 => g_gR h26 v0 0 0 fun x31 => g_nn x31 fun a34 => g_gR h26 a34 1 1 fun x36 => g_mk h26 (.inr (10, [.int 0, .null, .null, .null, .null])) 5 fun a39 h40 => g_b (Node_init h40 a39 v1) fun h42 => g_nn x36 fun a44 => g_is h42 a44 15 <| g_b2 (ArrayList_add0 h42 a44 (some a39)) fun x47 h48 => g_gR h48 v0 0 0 fun x51 => g_nn x51 fun a54 => g_gR h48 a54 1 1 fun x56 => g_nn x56 fun a59 => g_is h48 a59 15 <| g_b (ArrayList_size h48 a59) fun x62 => some (.inl (x62 - (1 : Int32)), h48)
set_option maxHeartbeats 4000000 in
set_option maxRecDepth 100000 in
theorem W_Desk_addNode_32 {X : g_X} (z : (Int32 ⊕ g_EX) × g_AH) (h : g_AH) (v0 : Nat) (v1 : Int32) (s0 : Int32) (hy : Desk_addNode_32  h v0 v1 s0 = some z) : G X k_Desk_addNode (g_rI z.1) z.2 h 32 [(0, .ref v0), (1, .int v1)] [.int s0] := by
  unfold Desk_addNode_32 at hy
  replace hy := g_bx_inv hy
  rcases hy with ⟨x25, h26, hf27, hy⟩ | ⟨⟨E9, q9⟩, h26, hf27, ez29⟩
  rotate_left
  · subst ez29
    exact g_callSX (As := [.int s0]) (rest := []) 1 (T_Desk_checkState (hy := hf27)) d_Desk_addNode_32 q1298 q1299 q108 q1300 hd_Desk_checkState rfl ⟨by decide, by decide⟩ (by first | exact Nat.le_of_ble_eq_true rfl | (simp only [List.map, List.sum_cons, List.sum_nil, g_cat_rf]; exact Nat.le_of_ble_eq_true rfl) | (simp only [List.map, List.sum_cons, List.sum_nil, g_cat_rf, Value.category]; decide)) rfl rfl
  refine g_callS (rv := none) (h1 := h26) (pc' := 35) (As := [.int s0]) (rest := []) 1 (T_Desk_checkState (hy := hf27)) d_Desk_addNode_32 q1298 q1299 q108 q1300 hd_Desk_checkState rfl ⟨by decide, by decide⟩ (by first | exact Nat.le_of_ble_eq_true rfl | (simp only [List.map, List.sum_cons, List.sum_nil, g_cat_rf]; exact Nat.le_of_ble_eq_true rfl) | (simp only [List.map, List.sum_cons, List.sum_nil, g_cat_rf, Value.category]; decide)) rfl ?_
  refine g_aload_n 0 (i := 0) (pc' := 36) d_Desk_addNode_35 rfl rfl rfl ?_
  replace hy := g_gR_inv hy
  obtain ⟨fs30, x31, hc32, hv33, hy⟩ := hy
  refine g_getf (pc' := 39) d_Desk_addNode_36 hc32 rfl (by decide) hv33 q642 (Or.inl rfl) rfl ?_
  replace hy := g_nn_inv hy
  obtain ⟨a34, rfl, hy⟩ := hy
  replace hy := g_gR_inv hy
  obtain ⟨fs35, x36, hc37, hv38, hy⟩ := hy
  refine g_getfN (pc' := 42) d_Desk_addNode_39 hc37 rfl (by decide) hv38 q549 rfl rfl ?_
  replace hy := g_mk_inv hy
  refine g_new (ci := 10) (fs := [.int 0, .null, .null, .null, .null]) (pc' := 45) d_Desk_addNode_42 rfl q1347 q997 q139 gdf_10 rfl ?_
  generalize g_al h26 (.inr (10, [.int 0, .null, .null, .null, .null])) 5 = h40 at hy ⊢
  generalize g_n h26 = a39 at hy ⊢
  refine g_dup (pc' := 46) d_Desk_addNode_45 rfl rfl ?_
  refine g_iload_n 1 (i := 1) (pc' := 47) d_Desk_addNode_46 rfl rfl rfl ?_
  replace hy := g_b_inv hy
  obtain ⟨h42, hf43, hy⟩ := hy
  refine g_callI (h1 := h42) (pc' := 50) (As := [.int v1]) (rest := [.ref a39, va_rf x36]) 1 (T_Node_init (hy := hf43)) d_Desk_addNode_47 rfl rfl q1348 q1007 q139 q1008 hd_Node_init rfl ⟨by decide, by decide⟩ (by first | exact Nat.le_of_ble_eq_true rfl | (simp only [List.map, List.sum_cons, List.sum_nil, g_cat_rf]; exact Nat.le_of_ble_eq_true rfl) | (simp only [List.map, List.sum_cons, List.sum_nil, g_cat_rf, Value.category]; decide)) rfl ?_
  replace hy := g_nn_inv hy
  obtain ⟨a44, rfl, hy⟩ := hy
  replace hy := g_is_inv hy
  obtain ⟨fs45, hc46, hy⟩ := hy
  replace hy := g_b2_inv hy
  obtain ⟨x47, h48, hf49, hy⟩ := hy
  refine g_callV (rv := some (.int x47)) (h1 := h48) (pc' := 53) (As := [va_rf (some a39)]) (rest := []) 1 (T_ArrayList_add0 (hy := hf49)) d_Desk_addNode_50 hc46 rfl rfl q1349 q1037 q1038 q112 q1039 hd_ArrayList_add0 rfl ⟨by decide, by decide⟩ (by first | exact Nat.le_of_ble_eq_true rfl | (simp only [List.map, List.sum_cons, List.sum_nil, g_cat_rf]; exact Nat.le_of_ble_eq_true rfl) | (simp only [List.map, List.sum_cons, List.sum_nil, g_cat_rf, Value.category]; decide)) rfl ?_
  refine g_pop (pc' := 54) d_Desk_addNode_53 rfl rfl ?_
  refine g_aload_n 0 (i := 0) (pc' := 55) d_Desk_addNode_54 rfl rfl rfl ?_
  replace hy := g_gR_inv hy
  obtain ⟨fs50, x51, hc52, hv53, hy⟩ := hy
  refine g_getf (pc' := 58) d_Desk_addNode_55 hc52 rfl (by decide) hv53 q642 (Or.inl rfl) rfl ?_
  replace hy := g_nn_inv hy
  obtain ⟨a54, rfl, hy⟩ := hy
  replace hy := g_gR_inv hy
  obtain ⟨fs55, x56, hc57, hv58, hy⟩ := hy
  refine g_getfN (pc' := 61) d_Desk_addNode_58 hc57 rfl (by decide) hv58 q549 rfl rfl ?_
  replace hy := g_nn_inv hy
  obtain ⟨a59, rfl, hy⟩ := hy
  replace hy := g_is_inv hy
  obtain ⟨fs60, hc61, hy⟩ := hy
  replace hy := g_b_inv hy
  obtain ⟨x62, hf64, hy⟩ := hy
  refine g_callV (rv := some (.int x62)) (h1 := h48) (pc' := 64) (As := []) (rest := []) 0 (T_ArrayList_size (hy := hf64)) d_Desk_addNode_61 hc61 rfl rfl q673 q674 q675 q112 q676 hd_ArrayList_size rfl ⟨by decide, by decide⟩ (by first | exact Nat.le_of_ble_eq_true rfl | (simp only [List.map, List.sum_cons, List.sum_nil, g_cat_rf]; exact Nat.le_of_ble_eq_true rfl) | (simp only [List.map, List.sum_cons, List.sum_nil, g_cat_rf, Value.category]; decide)) rfl ?_
  refine g_iconst (v := (1 : Int32)) (pc' := 65) d_Desk_addNode_64 (by decide) rfl ?_
  refine g_isub (pc' := 66) d_Desk_addNode_65 rfl ?_
  cases hy
  exact g_iret rfl rfl rfl d_Desk_addNode_66
def Desk_addNode (h : g_AH) (this : Nat) (p0 : Int32) : Option ((Int32 ⊕ g_EX) × g_AH) :=
  g_b (Desk_isBetween ((p0).toInt64) (1 : Int64) (12 : Int64)) fun x1 => g_bx (Desk_checkArgument h x1) fun x4 h5 => g_gR h5 this 0 0 fun x10 => g_nn x10 fun a13 => g_gR h5 a13 1 1 fun x15 => g_nn x15 fun a18 => g_is h5 a18 15 <| g_b (ArrayList_size h5 a18) fun x21 => if (10 : Int32) ≤ x21 then (Desk_addNode_32  h5 this p0 (0 : Int32)) else (Desk_addNode_32  h5 this p0 (1 : Int32))
set_option maxHeartbeats 4000000 in
set_option maxRecDepth 100000 in
theorem T_Desk_addNode {l : Launch} {B : g_B} (h : g_AH) (this : Nat) (p0 : Int32) (z : (Int32 ⊕ g_EX) × g_AH) (hy : Desk_addNode h this p0 = some z) : g_CT l B y_Desk_addNode k_Desk_addNode [.ref this, .int p0] h (g_rI z.1) z.2 := by
  refine g_start2 (Lc := [(0, .ref this), (1, .int p0)]) (by decide) rfl rfl (by exact Nat.le_of_ble_eq_true rfl) (by rfl) fun X => ?_
  unfold Desk_addNode at hy
  refine g_iload_n 1 (i := 1) (pc' := 1) d_Desk_addNode_0 rfl rfl rfl ?_
  refine g_i2l (pc' := 2) d_Desk_addNode_1 rfl ?_
  refine g_lconst (v := 1) (pc' := 3) d_Desk_addNode_2 (by decide) rfl ?_
  refine g_ldc2 (pc' := 6) d_Desk_addNode_3 q1346 rfl ?_
  replace hy := g_b_inv hy
  obtain ⟨x1, hf3, hy⟩ := hy
  refine g_callS (rv := some (.int x1)) (h1 := h) (pc' := 9) (As := [.long ((p0).toInt64), .long (1 : Int64), .long (12 : Int64)]) (rest := []) 3 (T_Desk_isBetween (hy := hf3)) d_Desk_addNode_6 q1330 q828 q108 q829 hd_Desk_isBetween rfl ⟨by decide, by decide⟩ (by first | exact Nat.le_of_ble_eq_true rfl | (simp only [List.map, List.sum_cons, List.sum_nil, g_cat_rf]; exact Nat.le_of_ble_eq_true rfl) | (simp only [List.map, List.sum_cons, List.sum_nil, g_cat_rf, Value.category]; decide)) rfl ?_
  replace hy := g_bx_inv hy
  rcases hy with ⟨x4, h5, hf6, hy⟩ | ⟨⟨E9, q9⟩, h5, hf6, ez8⟩
  rotate_left
  · subst ez8
    exact g_callSX (As := [.int x1]) (rest := []) 1 (T_Desk_checkArgument (hy := hf6)) d_Desk_addNode_9 q1331 q1332 q108 q1333 hd_Desk_checkArgument rfl ⟨by decide, by decide⟩ (by first | exact Nat.le_of_ble_eq_true rfl | (simp only [List.map, List.sum_cons, List.sum_nil, g_cat_rf]; exact Nat.le_of_ble_eq_true rfl) | (simp only [List.map, List.sum_cons, List.sum_nil, g_cat_rf, Value.category]; decide)) rfl rfl
  refine g_callS (rv := none) (h1 := h5) (pc' := 12) (As := [.int x1]) (rest := []) 1 (T_Desk_checkArgument (hy := hf6)) d_Desk_addNode_9 q1331 q1332 q108 q1333 hd_Desk_checkArgument rfl ⟨by decide, by decide⟩ (by first | exact Nat.le_of_ble_eq_true rfl | (simp only [List.map, List.sum_cons, List.sum_nil, g_cat_rf]; exact Nat.le_of_ble_eq_true rfl) | (simp only [List.map, List.sum_cons, List.sum_nil, g_cat_rf, Value.category]; decide)) rfl ?_
  refine g_aload_n 0 (i := 0) (pc' := 13) d_Desk_addNode_12 rfl rfl rfl ?_
  replace hy := g_gR_inv hy
  obtain ⟨fs9, x10, hc11, hv12, hy⟩ := hy
  refine g_getf (pc' := 16) d_Desk_addNode_13 hc11 rfl (by decide) hv12 q642 (Or.inl rfl) rfl ?_
  replace hy := g_nn_inv hy
  obtain ⟨a13, rfl, hy⟩ := hy
  replace hy := g_gR_inv hy
  obtain ⟨fs14, x15, hc16, hv17, hy⟩ := hy
  refine g_getfN (pc' := 19) d_Desk_addNode_16 hc16 rfl (by decide) hv17 q549 rfl rfl ?_
  replace hy := g_nn_inv hy
  obtain ⟨a18, rfl, hy⟩ := hy
  replace hy := g_is_inv hy
  obtain ⟨fs19, hc20, hy⟩ := hy
  replace hy := g_b_inv hy
  obtain ⟨x21, hf23, hy⟩ := hy
  refine g_callV (rv := some (.int x21)) (h1 := h5) (pc' := 22) (As := []) (rest := []) 0 (T_ArrayList_size (hy := hf23)) d_Desk_addNode_19 hc20 rfl rfl q673 q674 q675 q112 q676 hd_ArrayList_size rfl ⟨by decide, by decide⟩ (by first | exact Nat.le_of_ble_eq_true rfl | (simp only [List.map, List.sum_cons, List.sum_nil, g_cat_rf]; exact Nat.le_of_ble_eq_true rfl) | (simp only [List.map, List.sum_cons, List.sum_nil, g_cat_rf, Value.category]; decide)) rfl ?_
  refine g_bipush (v := (10 : Int32)) (pc' := 24) d_Desk_addNode_22 (by decide) rfl ?_
  by_cases c24 : (10 : Int32) ≤ x21
  · rw [if_pos c24] at hy
    refine g_icmp_geT (pc' := 31) d_Desk_addNode_24 c24 (by decide) ?_
    refine g_iconst (v := (0 : Int32)) (pc' := 32) d_Desk_addNode_31 (by decide) rfl ?_
    exact W_Desk_addNode_32 _ _ _ _ _ hy
  · rw [if_neg c24] at hy
    refine g_icmp_geF (pc' := 27) d_Desk_addNode_24 31 c24 (by decide) rfl ?_
    refine g_iconst (v := (1 : Int32)) (pc' := 28) d_Desk_addNode_27 (by decide) rfl ?_
    refine g_goto (pc' := 32) d_Desk_addNode_28 (by decide) ?_
    exact W_Desk_addNode_32 _ _ _ _ _ hy
theorem hd_Desk_addNode : g_dsc y_Desk_addNode 1 := ⟨by decide +kernel, by decide +kernel, by decide +kernel⟩
/-! CircuitDesk.checkIndex(Z)V -/
abbrev y_Desk_checkIndex : MethodName := ⟨"CircuitDesk", "checkIndex", "(Z)V"⟩
abbrev k_Desk_checkIndex : g_M := (prog_1_method_2_code, 1, "CircuitDesk", 17, none, "checkIndex", [], 0)
theorem d_Desk_checkIndex_0 : decode prog_1_method_2_code 0 = .ok (.iload_n 0, 1) := by decide +kernel
theorem d_Desk_checkIndex_1 : decode prog_1_method_2_code 1 = .ok (.ifCond .ne 11, 3) := by decide +kernel
theorem d_Desk_checkIndex_4 : decode prog_1_method_2_code 4 = .ok (.new 1, 3) := by decide +kernel
theorem d_Desk_checkIndex_7 : decode prog_1_method_2_code 7 = .ok (.dup, 1) := by decide +kernel
theorem d_Desk_checkIndex_8 : decode prog_1_method_2_code 8 = .ok (.invokespecial 3, 3) := by decide +kernel
theorem d_Desk_checkIndex_11 : decode prog_1_method_2_code 11 = .ok (.athrow, 1) := by decide +kernel
theorem d_Desk_checkIndex_12 : decode prog_1_method_2_code 12 = .ok (.return_, 1) := by decide +kernel
def Desk_checkIndex (h : g_AH) (p0 : Int32) : Option ((Unit ⊕ g_EX) × g_AH) :=
  if p0 = 0 then (some (.inr ("java/lang/IndexOutOfBoundsException", none), g_th h)) else (some (.inl (), h))
set_option maxHeartbeats 4000000 in
set_option maxRecDepth 100000 in
theorem T_Desk_checkIndex {l : Launch} {B : g_B} (h : g_AH) (p0 : Int32) (z : (Unit ⊕ g_EX) × g_AH) (hy : Desk_checkIndex h p0 = some z) : g_CT l B y_Desk_checkIndex k_Desk_checkIndex [.int p0] h (g_rV z.1) z.2 := by
  refine g_start2 (Lc := [(0, .int p0)]) (by decide) rfl rfl (by exact Nat.le_of_ble_eq_true rfl) (by rfl) fun X => ?_
  unfold Desk_checkIndex at hy
  refine g_iload_n 0 (i := 0) (pc' := 1) d_Desk_checkIndex_0 rfl rfl rfl ?_
  by_cases c1 : p0 = 0
  · rw [if_pos c1] at hy
    refine g_if_neF (pc' := 4) d_Desk_checkIndex_1 12 c1 (by decide) rfl ?_
    cases hy
    exact g_throw_IndexOutOfBoundsException (pc := 4) rfl d_Desk_checkIndex_4 d_Desk_checkIndex_7 d_Desk_checkIndex_8 d_Desk_checkIndex_11 rfl rfl (by decide) (by decide)
  · rw [if_neg c1] at hy
    refine g_if_neT (pc' := 12) d_Desk_checkIndex_1 c1 (by decide) ?_
    cases hy
    exact g_vret rfl rfl rfl d_Desk_checkIndex_12
theorem hd_Desk_checkIndex : g_dsc y_Desk_checkIndex 1 := ⟨by decide +kernel, by decide +kernel, by decide +kernel⟩
/-! CircuitDesk.nodeOf(I)LCircuitDesk$Node; -/
abbrev y_Desk_nodeOf : MethodName := ⟨"CircuitDesk", "nodeOf", "(I)LCircuitDesk$Node;"⟩
abbrev k_Desk_nodeOf : g_M := (prog_1_method_6_code, 2, "CircuitDesk", 18, (some (FieldType.object "CircuitDesk$Node")), "nodeOf", [], 0)
theorem d_Desk_nodeOf_0 : decode prog_1_method_6_code 0 = .ok (.iload_n 1, 1) := by decide +kernel
theorem d_Desk_nodeOf_1 : decode prog_1_method_6_code 1 = .ok (.i2l, 1) := by decide +kernel
theorem d_Desk_nodeOf_2 : decode prog_1_method_6_code 2 = .ok (.lconst 0, 1) := by decide +kernel
theorem d_Desk_nodeOf_3 : decode prog_1_method_6_code 3 = .ok (.aload_n 0, 1) := by decide +kernel
theorem d_Desk_nodeOf_4 : decode prog_1_method_6_code 4 = .ok (.getfield 19, 3) := by decide +kernel
theorem d_Desk_nodeOf_7 : decode prog_1_method_6_code 7 = .ok (.getfield 44, 3) := by decide +kernel
theorem d_Desk_nodeOf_10 : decode prog_1_method_6_code 10 = .ok (.invokevirtual 48, 3) := by decide +kernel
theorem d_Desk_nodeOf_13 : decode prog_1_method_6_code 13 = .ok (.iconst 1, 1) := by decide +kernel
theorem d_Desk_nodeOf_14 : decode prog_1_method_6_code 14 = .ok (.isub, 1) := by decide +kernel
theorem d_Desk_nodeOf_15 : decode prog_1_method_6_code 15 = .ok (.i2l, 1) := by decide +kernel
theorem d_Desk_nodeOf_16 : decode prog_1_method_6_code 16 = .ok (.invokestatic 54, 3) := by decide +kernel
theorem d_Desk_nodeOf_19 : decode prog_1_method_6_code 19 = .ok (.invokestatic 58, 3) := by decide +kernel
theorem d_Desk_nodeOf_22 : decode prog_1_method_6_code 22 = .ok (.aload_n 0, 1) := by decide +kernel
theorem d_Desk_nodeOf_23 : decode prog_1_method_6_code 23 = .ok (.getfield 19, 3) := by decide +kernel
theorem d_Desk_nodeOf_26 : decode prog_1_method_6_code 26 = .ok (.getfield 44, 3) := by decide +kernel
theorem d_Desk_nodeOf_29 : decode prog_1_method_6_code 29 = .ok (.iload_n 1, 1) := by decide +kernel
theorem d_Desk_nodeOf_30 : decode prog_1_method_6_code 30 = .ok (.invokevirtual 62, 3) := by decide +kernel
theorem d_Desk_nodeOf_33 : decode prog_1_method_6_code 33 = .ok (.checkcast 66, 3) := by decide +kernel
theorem d_Desk_nodeOf_36 : decode prog_1_method_6_code 36 = .ok (.areturn, 1) := by decide +kernel
def Desk_nodeOf (h : g_AH) (this : Nat) (p0 : Int32) : Option ((Option Nat ⊕ g_EX) × g_AH) :=
  g_gR h this 0 0 fun x2 => g_nn x2 fun a5 => g_gR h a5 1 1 fun x7 => g_nn x7 fun a10 => g_is h a10 15 <| g_b (ArrayList_size h a10) fun x13 => g_b (Desk_isBetween ((p0).toInt64) (0 : Int64) (((x13 - (1 : Int32))).toInt64)) fun x16 => g_bx (Desk_checkIndex h x16) fun x19 h20 => g_gR h20 this 0 0 fun x25 => g_nn x25 fun a28 => g_gR h20 a28 1 1 fun x30 => g_nn x30 fun a33 => g_is h20 a33 15 <| g_b (ArrayList_get h20 a33 p0) fun x36 => g_ck h20 x36 10 <| some (.inl x36, h20)
set_option maxHeartbeats 4000000 in
set_option maxRecDepth 100000 in
theorem T_Desk_nodeOf {l : Launch} {B : g_B} (h : g_AH) (this : Nat) (p0 : Int32) (z : (Option Nat ⊕ g_EX) × g_AH) (hy : Desk_nodeOf h this p0 = some z) : g_CT l B y_Desk_nodeOf k_Desk_nodeOf [.ref this, .int p0] h (g_rR z.1) z.2 := by
  refine g_start2 (Lc := [(0, .ref this), (1, .int p0)]) (by decide) rfl rfl (by exact Nat.le_of_ble_eq_true rfl) (by rfl) fun X => ?_
  unfold Desk_nodeOf at hy
  refine g_iload_n 1 (i := 1) (pc' := 1) d_Desk_nodeOf_0 rfl rfl rfl ?_
  refine g_i2l (pc' := 2) d_Desk_nodeOf_1 rfl ?_
  refine g_lconst (v := 0) (pc' := 3) d_Desk_nodeOf_2 (by decide) rfl ?_
  refine g_aload_n 0 (i := 0) (pc' := 4) d_Desk_nodeOf_3 rfl rfl rfl ?_
  replace hy := g_gR_inv hy
  obtain ⟨fs1, x2, hc3, hv4, hy⟩ := hy
  refine g_getf (pc' := 7) d_Desk_nodeOf_4 hc3 rfl (by decide) hv4 q642 (Or.inl rfl) rfl ?_
  replace hy := g_nn_inv hy
  obtain ⟨a5, rfl, hy⟩ := hy
  replace hy := g_gR_inv hy
  obtain ⟨fs6, x7, hc8, hv9, hy⟩ := hy
  refine g_getfN (pc' := 10) d_Desk_nodeOf_7 hc8 rfl (by decide) hv9 q549 rfl rfl ?_
  replace hy := g_nn_inv hy
  obtain ⟨a10, rfl, hy⟩ := hy
  replace hy := g_is_inv hy
  obtain ⟨fs11, hc12, hy⟩ := hy
  replace hy := g_b_inv hy
  obtain ⟨x13, hf15, hy⟩ := hy
  refine g_callV (rv := some (.int x13)) (h1 := h) (pc' := 13) (As := []) (rest := [.long (0 : Int64), .long ((p0).toInt64)]) 0 (T_ArrayList_size (hy := hf15)) d_Desk_nodeOf_10 hc12 rfl rfl q673 q674 q675 q112 q676 hd_ArrayList_size rfl ⟨by decide, by decide⟩ (by first | exact Nat.le_of_ble_eq_true rfl | (simp only [List.map, List.sum_cons, List.sum_nil, g_cat_rf]; exact Nat.le_of_ble_eq_true rfl) | (simp only [List.map, List.sum_cons, List.sum_nil, g_cat_rf, Value.category]; decide)) rfl ?_
  refine g_iconst (v := (1 : Int32)) (pc' := 14) d_Desk_nodeOf_13 (by decide) rfl ?_
  refine g_isub (pc' := 15) d_Desk_nodeOf_14 rfl ?_
  refine g_i2l (pc' := 16) d_Desk_nodeOf_15 rfl ?_
  replace hy := g_b_inv hy
  obtain ⟨x16, hf18, hy⟩ := hy
  refine g_callS (rv := some (.int x16)) (h1 := h) (pc' := 19) (As := [.long ((p0).toInt64), .long (0 : Int64), .long (((x13 - (1 : Int32))).toInt64)]) (rest := []) 3 (T_Desk_isBetween (hy := hf18)) d_Desk_nodeOf_16 q1330 q828 q108 q829 hd_Desk_isBetween rfl ⟨by decide, by decide⟩ (by first | exact Nat.le_of_ble_eq_true rfl | (simp only [List.map, List.sum_cons, List.sum_nil, g_cat_rf]; exact Nat.le_of_ble_eq_true rfl) | (simp only [List.map, List.sum_cons, List.sum_nil, g_cat_rf, Value.category]; decide)) rfl ?_
  replace hy := g_bx_inv hy
  rcases hy with ⟨x19, h20, hf21, hy⟩ | ⟨⟨E9, q9⟩, h20, hf21, ez23⟩
  rotate_left
  · subst ez23
    exact g_callSX (As := [.int x16]) (rest := []) 1 (T_Desk_checkIndex (hy := hf21)) d_Desk_nodeOf_19 q1380 q1381 q108 q1382 hd_Desk_checkIndex rfl ⟨by decide, by decide⟩ (by first | exact Nat.le_of_ble_eq_true rfl | (simp only [List.map, List.sum_cons, List.sum_nil, g_cat_rf]; exact Nat.le_of_ble_eq_true rfl) | (simp only [List.map, List.sum_cons, List.sum_nil, g_cat_rf, Value.category]; decide)) rfl rfl
  refine g_callS (rv := none) (h1 := h20) (pc' := 22) (As := [.int x16]) (rest := []) 1 (T_Desk_checkIndex (hy := hf21)) d_Desk_nodeOf_19 q1380 q1381 q108 q1382 hd_Desk_checkIndex rfl ⟨by decide, by decide⟩ (by first | exact Nat.le_of_ble_eq_true rfl | (simp only [List.map, List.sum_cons, List.sum_nil, g_cat_rf]; exact Nat.le_of_ble_eq_true rfl) | (simp only [List.map, List.sum_cons, List.sum_nil, g_cat_rf, Value.category]; decide)) rfl ?_
  refine g_aload_n 0 (i := 0) (pc' := 23) d_Desk_nodeOf_22 rfl rfl rfl ?_
  replace hy := g_gR_inv hy
  obtain ⟨fs24, x25, hc26, hv27, hy⟩ := hy
  refine g_getf (pc' := 26) d_Desk_nodeOf_23 hc26 rfl (by decide) hv27 q642 (Or.inl rfl) rfl ?_
  replace hy := g_nn_inv hy
  obtain ⟨a28, rfl, hy⟩ := hy
  replace hy := g_gR_inv hy
  obtain ⟨fs29, x30, hc31, hv32, hy⟩ := hy
  refine g_getfN (pc' := 29) d_Desk_nodeOf_26 hc31 rfl (by decide) hv32 q549 rfl rfl ?_
  refine g_iload_n 1 (i := 1) (pc' := 30) d_Desk_nodeOf_29 rfl rfl rfl ?_
  replace hy := g_nn_inv hy
  obtain ⟨a33, rfl, hy⟩ := hy
  replace hy := g_is_inv hy
  obtain ⟨fs34, hc35, hy⟩ := hy
  replace hy := g_b_inv hy
  obtain ⟨x36, hf38, hy⟩ := hy
  refine g_callV (rv := some (va_rf x36)) (h1 := h20) (pc' := 33) (As := [.int p0]) (rest := []) 1 (T_ArrayList_get (hy := hf38)) d_Desk_nodeOf_30 hc35 rfl rfl q706 q683 q684 q112 q685 hd_ArrayList_get rfl ⟨by decide, by decide⟩ (by first | exact Nat.le_of_ble_eq_true rfl | (simp only [List.map, List.sum_cons, List.sum_nil, g_cat_rf]; exact Nat.le_of_ble_eq_true rfl) | (simp only [List.map, List.sum_cons, List.sum_nil, g_cat_rf, Value.category]; decide)) rfl ?_
  replace hy := g_ck_inv hy
  obtain ⟨hk39, hy⟩ := hy
  refine g_castO (pc' := 36) d_Desk_nodeOf_33 hk39 rfl q1347 rfl ?_
  cases hy
  exact g_aret rfl rfl rfl (Or.inl ⟨_, rfl⟩) d_Desk_nodeOf_36
theorem hd_Desk_nodeOf : g_dsc y_Desk_nodeOf 1 := ⟨by decide +kernel, by decide +kernel, by decide +kernel⟩
/-! CircuitDesk.isLink(II)Z -/
abbrev y_Desk_isLink : MethodName := ⟨"CircuitDesk", "isLink", "(II)Z"⟩
abbrev k_Desk_isLink : g_M := (prog_1_method_10_code, 2, "CircuitDesk", 13, (some FieldType.boolean), "isLink", [], 0)
theorem d_Desk_isLink_0 : decode prog_1_method_10_code 0 = .ok (.iload_n 0, 1) := by decide +kernel
theorem d_Desk_isLink_1 : decode prog_1_method_10_code 1 = .ok (.i2l, 1) := by decide +kernel
theorem d_Desk_isLink_2 : decode prog_1_method_10_code 2 = .ok (.lconst 1, 1) := by decide +kernel
theorem d_Desk_isLink_3 : decode prog_1_method_10_code 3 = .ok (.ldc2_w 93, 3) := by decide +kernel
theorem d_Desk_isLink_6 : decode prog_1_method_10_code 6 = .ok (.invokestatic 54, 3) := by decide +kernel
theorem d_Desk_isLink_9 : decode prog_1_method_10_code 9 = .ok (.ifCond .eq 19, 3) := by decide +kernel
theorem d_Desk_isLink_12 : decode prog_1_method_10_code 12 = .ok (.iload_n 1, 1) := by decide +kernel
theorem d_Desk_isLink_13 : decode prog_1_method_10_code 13 = .ok (.i2l, 1) := by decide +kernel
theorem d_Desk_isLink_14 : decode prog_1_method_10_code 14 = .ok (.lconst 1, 1) := by decide +kernel
theorem d_Desk_isLink_15 : decode prog_1_method_10_code 15 = .ok (.ldc2_w 95, 3) := by decide +kernel
theorem d_Desk_isLink_18 : decode prog_1_method_10_code 18 = .ok (.invokestatic 54, 3) := by decide +kernel
theorem d_Desk_isLink_21 : decode prog_1_method_10_code 21 = .ok (.ifCond .eq 7, 3) := by decide +kernel
theorem d_Desk_isLink_24 : decode prog_1_method_10_code 24 = .ok (.iconst 1, 1) := by decide +kernel
theorem d_Desk_isLink_25 : decode prog_1_method_10_code 25 = .ok (.goto 4, 3) := by decide +kernel
theorem d_Desk_isLink_28 : decode prog_1_method_10_code 28 = .ok (.iconst 0, 1) := by decide +kernel
theorem d_Desk_isLink_29 : decode prog_1_method_10_code 29 = .ok (.ireturn, 1) := by decide +kernel
def Desk_isLink (p0 : Int32) (p1 : Int32) : Option (Int32) :=
  g_b (Desk_isBetween ((p0).toInt64) (1 : Int64) (99 : Int64)) fun x1 => if x1 = 0 then (some (0 : Int32)) else (g_b (Desk_isBetween ((p1).toInt64) (1 : Int64) (9 : Int64)) fun x6 => if x6 = 0 then (some (0 : Int32)) else (some (1 : Int32)))
set_option maxHeartbeats 4000000 in
set_option maxRecDepth 100000 in
theorem T_Desk_isLink {l : Launch} {B : g_B} {h : g_AH} (p0 : Int32) (p1 : Int32) (z : Int32) (hy : Desk_isLink p0 p1 = some z) : g_CT l B y_Desk_isLink k_Desk_isLink [.int p0, .int p1] h (.inl (some (.int z))) h := by
  refine g_start2 (Lc := [(0, .int p0), (1, .int p1)]) (by decide) rfl rfl (by exact Nat.le_of_ble_eq_true rfl) (by rfl) fun X => ?_
  unfold Desk_isLink at hy
  refine g_iload_n 0 (i := 0) (pc' := 1) d_Desk_isLink_0 rfl rfl rfl ?_
  refine g_i2l (pc' := 2) d_Desk_isLink_1 rfl ?_
  refine g_lconst (v := 1) (pc' := 3) d_Desk_isLink_2 (by decide) rfl ?_
  refine g_ldc2 (pc' := 6) d_Desk_isLink_3 q1401 rfl ?_
  replace hy := g_b_inv hy
  obtain ⟨x1, hf3, hy⟩ := hy
  refine g_callS (rv := some (.int x1)) (h1 := h) (pc' := 9) (As := [.long ((p0).toInt64), .long (1 : Int64), .long (99 : Int64)]) (rest := []) 3 (T_Desk_isBetween (hy := hf3)) d_Desk_isLink_6 q1330 q828 q108 q829 hd_Desk_isBetween rfl ⟨by decide, by decide⟩ (by first | exact Nat.le_of_ble_eq_true rfl | (simp only [List.map, List.sum_cons, List.sum_nil, g_cat_rf]; exact Nat.le_of_ble_eq_true rfl) | (simp only [List.map, List.sum_cons, List.sum_nil, g_cat_rf, Value.category]; decide)) rfl ?_
  by_cases c4 : x1 = 0
  · rw [if_pos c4] at hy
    refine g_if_eqT (pc' := 28) d_Desk_isLink_9 c4 (by decide) ?_
    refine g_iconst (v := (0 : Int32)) (pc' := 29) d_Desk_isLink_28 (by decide) rfl ?_
    cases hy
    exact g_zret rfl rfl rfl (g_nar_z (Or.inl rfl)).1 d_Desk_isLink_29
  · rw [if_neg c4] at hy
    refine g_if_eqF (pc' := 12) d_Desk_isLink_9 28 c4 (by decide) rfl ?_
    refine g_iload_n 1 (i := 1) (pc' := 13) d_Desk_isLink_12 rfl rfl rfl ?_
    refine g_i2l (pc' := 14) d_Desk_isLink_13 rfl ?_
    refine g_lconst (v := 1) (pc' := 15) d_Desk_isLink_14 (by decide) rfl ?_
    refine g_ldc2 (pc' := 18) d_Desk_isLink_15 q1402 rfl ?_
    replace hy := g_b_inv hy
    obtain ⟨x6, hf8, hy⟩ := hy
    refine g_callS (rv := some (.int x6)) (h1 := h) (pc' := 21) (As := [.long ((p1).toInt64), .long (1 : Int64), .long (9 : Int64)]) (rest := []) 3 (T_Desk_isBetween (hy := hf8)) d_Desk_isLink_18 q1330 q828 q108 q829 hd_Desk_isBetween rfl ⟨by decide, by decide⟩ (by first | exact Nat.le_of_ble_eq_true rfl | (simp only [List.map, List.sum_cons, List.sum_nil, g_cat_rf]; exact Nat.le_of_ble_eq_true rfl) | (simp only [List.map, List.sum_cons, List.sum_nil, g_cat_rf, Value.category]; decide)) rfl ?_
    by_cases c9 : x6 = 0
    · rw [if_pos c9] at hy
      refine g_if_eqT (pc' := 28) d_Desk_isLink_21 c9 (by decide) ?_
      refine g_iconst (v := (0 : Int32)) (pc' := 29) d_Desk_isLink_28 (by decide) rfl ?_
      cases hy
      exact g_zret rfl rfl rfl (g_nar_z (Or.inl rfl)).1 d_Desk_isLink_29
    · rw [if_neg c9] at hy
      refine g_if_eqF (pc' := 24) d_Desk_isLink_21 28 c9 (by decide) rfl ?_
      refine g_iconst (v := (1 : Int32)) (pc' := 25) d_Desk_isLink_24 (by decide) rfl ?_
      refine g_goto (pc' := 29) d_Desk_isLink_25 (by decide) ?_
      cases hy
      exact g_zret rfl rfl rfl (g_nar_z (Or.inr rfl)).1 d_Desk_isLink_29
theorem hd_Desk_isLink : g_dsc y_Desk_isLink 2 := ⟨by decide +kernel, by decide +kernel, by decide +kernel⟩
/-! CircuitDesk$Link.joins(II)Z -/
abbrev y_Link_joins : MethodName := ⟨"CircuitDesk$Link", "joins", "(II)Z"⟩
abbrev k_Link_joins : g_M := (prog_6_method_3_code, 3, "CircuitDesk$Link", 12, (some FieldType.boolean), "joins", [], 0)
theorem d_Link_joins_0 : decode prog_6_method_3_code 0 = .ok (.aload_n 0, 1) := by decide +kernel
theorem d_Link_joins_1 : decode prog_6_method_3_code 1 = .ok (.getfield 13, 3) := by decide +kernel
theorem d_Link_joins_4 : decode prog_6_method_3_code 4 = .ok (.iload_n 1, 1) := by decide +kernel
theorem d_Link_joins_5 : decode prog_6_method_3_code 5 = .ok (.if_icmp .ne 11, 3) := by decide +kernel
theorem d_Link_joins_8 : decode prog_6_method_3_code 8 = .ok (.aload_n 0, 1) := by decide +kernel
theorem d_Link_joins_9 : decode prog_6_method_3_code 9 = .ok (.getfield 17, 3) := by decide +kernel
theorem d_Link_joins_12 : decode prog_6_method_3_code 12 = .ok (.iload_n 2, 1) := by decide +kernel
theorem d_Link_joins_13 : decode prog_6_method_3_code 13 = .ok (.if_icmp .eq 19, 3) := by decide +kernel
theorem d_Link_joins_16 : decode prog_6_method_3_code 16 = .ok (.aload_n 0, 1) := by decide +kernel
theorem d_Link_joins_17 : decode prog_6_method_3_code 17 = .ok (.getfield 13, 3) := by decide +kernel
theorem d_Link_joins_20 : decode prog_6_method_3_code 20 = .ok (.iload_n 2, 1) := by decide +kernel
theorem d_Link_joins_21 : decode prog_6_method_3_code 21 = .ok (.if_icmp .ne 15, 3) := by decide +kernel
theorem d_Link_joins_24 : decode prog_6_method_3_code 24 = .ok (.aload_n 0, 1) := by decide +kernel
theorem d_Link_joins_25 : decode prog_6_method_3_code 25 = .ok (.getfield 17, 3) := by decide +kernel
theorem d_Link_joins_28 : decode prog_6_method_3_code 28 = .ok (.iload_n 1, 1) := by decide +kernel
theorem d_Link_joins_29 : decode prog_6_method_3_code 29 = .ok (.if_icmp .ne 7, 3) := by decide +kernel
theorem d_Link_joins_32 : decode prog_6_method_3_code 32 = .ok (.iconst 1, 1) := by decide +kernel
theorem d_Link_joins_33 : decode prog_6_method_3_code 33 = .ok (.goto 4, 3) := by decide +kernel
theorem d_Link_joins_36 : decode prog_6_method_3_code 36 = .ok (.iconst 0, 1) := by decide +kernel
theorem d_Link_joins_37 : decode prog_6_method_3_code 37 = .ok (.ireturn, 1) := by decide +kernel
def Link_joins_16 (h : g_AH) (v0 : Nat) (v1 : Int32) (v2 : Int32) : Option (Int32) :=
  g_gI h v0 11 0 fun x7 => if x7 = v2 then (g_gI h v0 11 1 fun x13 => if x13 = v1 then (some (1 : Int32)) else (some (0 : Int32))) else (some (0 : Int32))
set_option maxHeartbeats 4000000 in
set_option maxRecDepth 100000 in
theorem W_Link_joins_16 {X : g_X} (h : g_AH) (z : Int32) (v0 : Nat) (v1 : Int32) (v2 : Int32) (hy : Link_joins_16 h  v0 v1 v2 = some z) : G X k_Link_joins (.inl (some (.int z))) h h 16 [(0, .ref v0), (1, .int v1), (2, .int v2)] [] := by
  unfold Link_joins_16 at hy
  refine g_aload_n 0 (i := 0) (pc' := 17) d_Link_joins_16 rfl rfl rfl ?_
  replace hy := g_gI_inv hy
  obtain ⟨fs6, x7, hc8, hv9, hy⟩ := hy
  refine g_getf (pc' := 20) d_Link_joins_17 hc8 rfl (by decide) hv9 q1107 (Or.inl rfl) rfl ?_
  refine g_iload_n 2 (i := 2) (pc' := 21) d_Link_joins_20 rfl rfl rfl ?_
  by_cases c10 : x7 = v2
  · rw [if_pos c10] at hy
    refine g_icmp_neF (pc' := 24) d_Link_joins_21 36 c10 (by decide) rfl ?_
    refine g_aload_n 0 (i := 0) (pc' := 25) d_Link_joins_24 rfl rfl rfl ?_
    replace hy := g_gI_inv hy
    obtain ⟨fs12, x13, hc14, hv15, hy⟩ := hy
    refine g_getf (pc' := 28) d_Link_joins_25 hc14 rfl (by decide) hv15 q1110 (Or.inl rfl) rfl ?_
    refine g_iload_n 1 (i := 1) (pc' := 29) d_Link_joins_28 rfl rfl rfl ?_
    by_cases c16 : x13 = v1
    · rw [if_pos c16] at hy
      refine g_icmp_neF (pc' := 32) d_Link_joins_29 36 c16 (by decide) rfl ?_
      refine g_iconst (v := (1 : Int32)) (pc' := 33) d_Link_joins_32 (by decide) rfl ?_
      refine g_goto (pc' := 37) d_Link_joins_33 (by decide) ?_
      cases hy
      exact g_zret rfl rfl rfl (g_nar_z (Or.inr rfl)).1 d_Link_joins_37
    · rw [if_neg c16] at hy
      refine g_icmp_neT (pc' := 36) d_Link_joins_29 c16 (by decide) ?_
      refine g_iconst (v := (0 : Int32)) (pc' := 37) d_Link_joins_36 (by decide) rfl ?_
      cases hy
      exact g_zret rfl rfl rfl (g_nar_z (Or.inl rfl)).1 d_Link_joins_37
  · rw [if_neg c10] at hy
    refine g_icmp_neT (pc' := 36) d_Link_joins_21 c10 (by decide) ?_
    refine g_iconst (v := (0 : Int32)) (pc' := 37) d_Link_joins_36 (by decide) rfl ?_
    cases hy
    exact g_zret rfl rfl rfl (g_nar_z (Or.inl rfl)).1 d_Link_joins_37
def Link_joins (h : g_AH) (this : Nat) (p0 : Int32) (p1 : Int32) : Option (Int32) :=
  g_gI h this 11 0 fun x2 => if x2 = p0 then (g_gI h this 11 1 fun x20 => if x20 = p1 then (some (1 : Int32)) else (Link_joins_16 h  this p0 p1)) else (Link_joins_16 h  this p0 p1)
set_option maxHeartbeats 4000000 in
set_option maxRecDepth 100000 in
theorem T_Link_joins {l : Launch} {B : g_B} (h : g_AH) (this : Nat) (p0 : Int32) (p1 : Int32) (z : Int32) (hy : Link_joins h this p0 p1 = some z) : g_CT l B y_Link_joins k_Link_joins [.ref this, .int p0, .int p1] h (.inl (some (.int z))) h := by
  refine g_start2 (Lc := [(0, .ref this), (1, .int p0), (2, .int p1)]) (by decide) rfl rfl (by exact Nat.le_of_ble_eq_true rfl) (by rfl) fun X => ?_
  unfold Link_joins at hy
  refine g_aload_n 0 (i := 0) (pc' := 1) d_Link_joins_0 rfl rfl rfl ?_
  replace hy := g_gI_inv hy
  obtain ⟨fs1, x2, hc3, hv4, hy⟩ := hy
  refine g_getf (pc' := 4) d_Link_joins_1 hc3 rfl (by decide) hv4 q1107 (Or.inl rfl) rfl ?_
  refine g_iload_n 1 (i := 1) (pc' := 5) d_Link_joins_4 rfl rfl rfl ?_
  by_cases c5 : x2 = p0
  · rw [if_pos c5] at hy
    refine g_icmp_neF (pc' := 8) d_Link_joins_5 16 c5 (by decide) rfl ?_
    refine g_aload_n 0 (i := 0) (pc' := 9) d_Link_joins_8 rfl rfl rfl ?_
    replace hy := g_gI_inv hy
    obtain ⟨fs19, x20, hc21, hv22, hy⟩ := hy
    refine g_getf (pc' := 12) d_Link_joins_9 hc21 rfl (by decide) hv22 q1110 (Or.inl rfl) rfl ?_
    refine g_iload_n 2 (i := 2) (pc' := 13) d_Link_joins_12 rfl rfl rfl ?_
    by_cases c23 : x20 = p1
    · rw [if_pos c23] at hy
      refine g_icmp_eqT (pc' := 32) d_Link_joins_13 c23 (by decide) ?_
      refine g_iconst (v := (1 : Int32)) (pc' := 33) d_Link_joins_32 (by decide) rfl ?_
      refine g_goto (pc' := 37) d_Link_joins_33 (by decide) ?_
      cases hy
      exact g_zret rfl rfl rfl (g_nar_z (Or.inr rfl)).1 d_Link_joins_37
    · rw [if_neg c23] at hy
      refine g_icmp_eqF (pc' := 16) d_Link_joins_13 32 c23 (by decide) rfl ?_
      exact W_Link_joins_16 _ _ _ _ _ hy
  · rw [if_neg c5] at hy
    refine g_icmp_neT (pc' := 16) d_Link_joins_5 c5 (by decide) ?_
    exact W_Link_joins_16 _ _ _ _ _ hy
theorem hd_Link_joins : g_dsc y_Link_joins 2 := ⟨by decide +kernel, by decide +kernel, by decide +kernel⟩
/-! CircuitDesk$Net.linkOf(II)I -/
abbrev y_Net_linkOf : MethodName := ⟨"CircuitDesk$Net", "linkOf", "(II)I"⟩
abbrev k_Net_linkOf : g_M := (prog_7_method_3_code, 4, "CircuitDesk$Net", 15, (some FieldType.int), "linkOf", [], 0)
theorem d_Net_linkOf_0 : decode prog_7_method_3_code 0 = .ok (.iconst 0, 1) := by decide +kernel
theorem d_Net_linkOf_1 : decode prog_7_method_3_code 1 = .ok (.istore_n 3, 1) := by decide +kernel
theorem d_Net_linkOf_2 : decode prog_7_method_3_code 2 = .ok (.iload_n 3, 1) := by decide +kernel
theorem d_Net_linkOf_3 : decode prog_7_method_3_code 3 = .ok (.aload_n 0, 1) := by decide +kernel
theorem d_Net_linkOf_4 : decode prog_7_method_3_code 4 = .ok (.getfield 24, 3) := by decide +kernel
theorem d_Net_linkOf_7 : decode prog_7_method_3_code 7 = .ok (.invokevirtual 112, 3) := by decide +kernel
theorem d_Net_linkOf_10 : decode prog_7_method_3_code 10 = .ok (.if_icmp .ge 30, 3) := by decide +kernel
theorem d_Net_linkOf_13 : decode prog_7_method_3_code 13 = .ok (.aload_n 0, 1) := by decide +kernel
theorem d_Net_linkOf_14 : decode prog_7_method_3_code 14 = .ok (.getfield 24, 3) := by decide +kernel
theorem d_Net_linkOf_17 : decode prog_7_method_3_code 17 = .ok (.iload_n 3, 1) := by decide +kernel
theorem d_Net_linkOf_18 : decode prog_7_method_3_code 18 = .ok (.invokevirtual 116, 3) := by decide +kernel
theorem d_Net_linkOf_21 : decode prog_7_method_3_code 21 = .ok (.checkcast 72, 3) := by decide +kernel
theorem d_Net_linkOf_24 : decode prog_7_method_3_code 24 = .ok (.iload_n 1, 1) := by decide +kernel
theorem d_Net_linkOf_25 : decode prog_7_method_3_code 25 = .ok (.iload_n 2, 1) := by decide +kernel
theorem d_Net_linkOf_26 : decode prog_7_method_3_code 26 = .ok (.invokevirtual 120, 3) := by decide +kernel
theorem d_Net_linkOf_29 : decode prog_7_method_3_code 29 = .ok (.ifCond .eq 5, 3) := by decide +kernel
theorem d_Net_linkOf_32 : decode prog_7_method_3_code 32 = .ok (.iload_n 3, 1) := by decide +kernel
theorem d_Net_linkOf_33 : decode prog_7_method_3_code 33 = .ok (.ireturn, 1) := by decide +kernel
theorem d_Net_linkOf_34 : decode prog_7_method_3_code 34 = .ok (.iinc 3 1, 3) := by decide +kernel
theorem d_Net_linkOf_37 : decode prog_7_method_3_code 37 = .ok (.goto (-35), 3) := by decide +kernel
theorem d_Net_linkOf_40 : decode prog_7_method_3_code 40 = .ok (.iconst (-1), 1) := by decide +kernel
theorem d_Net_linkOf_41 : decode prog_7_method_3_code 41 = .ok (.ireturn, 1) := by decide +kernel
def Net_linkOf_2 (h : g_AH)  : Nat → Nat → Int32 → Int32 → Int32 → Option (Int32)
  | 0, _, _, _, _ => none
  | n + 1, v0, v1, v2, v3 => g_gR h v0 1 2 fun x2 => g_nn x2 fun a5 => g_is h a5 15 <| g_b (ArrayList_size h a5) fun x8 => if x8 ≤ v3 then (some (-1 : Int32)) else (g_gR h v0 1 2 fun x13 => g_nn x13 fun a16 => g_is h a16 15 <| g_b (ArrayList_get h a16 v3) fun x19 => g_ck h x19 11 <| g_nn x19 fun a23 => g_is h a23 11 <| g_b (Link_joins h a23 v1 v2) fun x26 => if x26 = 0 then ((Net_linkOf_2 h  n) v0 v1 v2 (v3 + (1 : Int32))) else (some v3))
set_option maxHeartbeats 4000000 in
set_option maxRecDepth 100000 in
theorem W_Net_linkOf_2 {X : g_X} (h : g_AH) (z : Int32)  : ∀ (n : Nat) (v0 : Nat) (v1 : Int32) (v2 : Int32) (v3 : Int32), Net_linkOf_2 h  n v0 v1 v2 v3 = some z → G X k_Net_linkOf (.inl (some (.int z))) h h 2 [(0, .ref v0), (1, .int v1), (2, .int v2), (3, .int v3)] [] := by
  intro n
  induction n with
  | zero => intro v0 v1 v2 v3 hy; exact absurd hy (by simp [Net_linkOf_2])
  | succ n ih =>
    intro v0 v1 v2 v3 hy
    rw [Net_linkOf_2] at hy
    refine g_iload_n 3 (i := 3) (pc' := 3) d_Net_linkOf_2 rfl rfl rfl ?_
    refine g_aload_n 0 (i := 0) (pc' := 4) d_Net_linkOf_3 rfl rfl rfl ?_
    replace hy := g_gR_inv hy
    obtain ⟨fs1, x2, hc3, hv4, hy⟩ := hy
    refine g_getf (pc' := 7) d_Net_linkOf_4 hc3 rfl (by decide) hv4 q552 (Or.inl rfl) rfl ?_
    replace hy := g_nn_inv hy
    obtain ⟨a5, rfl, hy⟩ := hy
    replace hy := g_is_inv hy
    obtain ⟨fs6, hc7, hy⟩ := hy
    replace hy := g_b_inv hy
    obtain ⟨x8, hf10, hy⟩ := hy
    refine g_callV (rv := some (.int x8)) (h1 := h) (pc' := 10) (As := []) (rest := [.int v3]) 0 (T_ArrayList_size (hy := hf10)) d_Net_linkOf_7 hc7 rfl rfl q681 q674 q675 q112 q676 hd_ArrayList_size rfl ⟨by decide, by decide⟩ (by first | exact Nat.le_of_ble_eq_true rfl | (simp only [List.map, List.sum_cons, List.sum_nil, g_cat_rf]; exact Nat.le_of_ble_eq_true rfl) | (simp only [List.map, List.sum_cons, List.sum_nil, g_cat_rf, Value.category]; decide)) rfl ?_
    by_cases c11 : x8 ≤ v3
    · rw [if_pos c11] at hy
      refine g_icmp_geT (pc' := 40) d_Net_linkOf_10 c11 (by decide) ?_
      refine g_iconst (v := (-1 : Int32)) (pc' := 41) d_Net_linkOf_40 (by decide) rfl ?_
      cases hy
      exact g_iret rfl rfl rfl d_Net_linkOf_41
    · rw [if_neg c11] at hy
      refine g_icmp_geF (pc' := 13) d_Net_linkOf_10 40 c11 (by decide) rfl ?_
      refine g_aload_n 0 (i := 0) (pc' := 14) d_Net_linkOf_13 rfl rfl rfl ?_
      replace hy := g_gR_inv hy
      obtain ⟨fs12, x13, hc14, hv15, hy⟩ := hy
      refine g_getf (pc' := 17) d_Net_linkOf_14 hc14 rfl (by decide) hv15 q552 (Or.inl rfl) rfl ?_
      refine g_iload_n 3 (i := 3) (pc' := 18) d_Net_linkOf_17 rfl rfl rfl ?_
      replace hy := g_nn_inv hy
      obtain ⟨a16, rfl, hy⟩ := hy
      replace hy := g_is_inv hy
      obtain ⟨fs17, hc18, hy⟩ := hy
      replace hy := g_b_inv hy
      obtain ⟨x19, hf21, hy⟩ := hy
      refine g_callV (rv := some (va_rf x19)) (h1 := h) (pc' := 21) (As := [.int v3]) (rest := []) 1 (T_ArrayList_get (hy := hf21)) d_Net_linkOf_18 hc18 rfl rfl q682 q683 q684 q112 q685 hd_ArrayList_get rfl ⟨by decide, by decide⟩ (by first | exact Nat.le_of_ble_eq_true rfl | (simp only [List.map, List.sum_cons, List.sum_nil, g_cat_rf]; exact Nat.le_of_ble_eq_true rfl) | (simp only [List.map, List.sum_cons, List.sum_nil, g_cat_rf, Value.category]; decide)) rfl ?_
      replace hy := g_ck_inv hy
      obtain ⟨hk22, hy⟩ := hy
      refine g_castO (pc' := 24) d_Net_linkOf_21 hk22 rfl q701 rfl ?_
      refine g_iload_n 1 (i := 1) (pc' := 25) d_Net_linkOf_24 rfl rfl rfl ?_
      refine g_iload_n 2 (i := 2) (pc' := 26) d_Net_linkOf_25 rfl rfl rfl ?_
      replace hy := g_nn_inv hy
      obtain ⟨a23, rfl, hy⟩ := hy
      replace hy := g_is_inv hy
      obtain ⟨fs24, hc25, hy⟩ := hy
      replace hy := g_b_inv hy
      obtain ⟨x26, hf28, hy⟩ := hy
      refine g_callV (rv := some (.int x26)) (h1 := h) (pc' := 29) (As := [.int v1, .int v2]) (rest := []) 2 (T_Link_joins (hy := hf28)) d_Net_linkOf_26 hc25 rfl rfl q702 q703 q704 q141 q705 hd_Link_joins rfl ⟨by decide, by decide⟩ (by first | exact Nat.le_of_ble_eq_true rfl | (simp only [List.map, List.sum_cons, List.sum_nil, g_cat_rf]; exact Nat.le_of_ble_eq_true rfl) | (simp only [List.map, List.sum_cons, List.sum_nil, g_cat_rf, Value.category]; decide)) rfl ?_
      by_cases c29 : x26 = 0
      · rw [if_pos c29] at hy
        refine g_if_eqT (pc' := 34) d_Net_linkOf_29 c29 (by decide) ?_
        refine g_iinc 3 (v := (v3 + (1 : Int32))) (pc' := 37) (Lc' := [(3, .int (v3 + (1 : Int32))), (0, .ref v0), (1, .int v1), (2, .int v2)]) d_Net_linkOf_34 rfl rfl (by decide) rfl rfl ?_
        refine g_goto (pc' := 2) d_Net_linkOf_37 (by decide) ?_
        refine g_sub [1, 2, 3, 0] rfl ?_
        exact ih _ _ _ _ hy
      · rw [if_neg c29] at hy
        refine g_if_eqF (pc' := 32) d_Net_linkOf_29 34 c29 (by decide) rfl ?_
        refine g_iload_n 3 (i := 3) (pc' := 33) d_Net_linkOf_32 rfl rfl rfl ?_
        cases hy
        exact g_iret rfl rfl rfl d_Net_linkOf_33
def Net_linkOf (h : g_AH) (this : Nat) (p0 : Int32) (p1 : Int32) : Option (Int32) :=
  Net_linkOf_2 h  gFU this p0 p1 (0 : Int32)
set_option maxHeartbeats 4000000 in
set_option maxRecDepth 100000 in
theorem T_Net_linkOf {l : Launch} {B : g_B} (h : g_AH) (this : Nat) (p0 : Int32) (p1 : Int32) (z : Int32) (hy : Net_linkOf h this p0 p1 = some z) : g_CT l B y_Net_linkOf k_Net_linkOf [.ref this, .int p0, .int p1] h (.inl (some (.int z))) h := by
  refine g_start2 (Lc := [(0, .ref this), (1, .int p0), (2, .int p1)]) (by decide) rfl rfl (by exact Nat.le_of_ble_eq_true rfl) (by rfl) fun X => ?_
  unfold Net_linkOf at hy
  refine g_iconst (v := (0 : Int32)) (pc' := 1) d_Net_linkOf_0 (by decide) rfl ?_
  refine g_istore_n (i := 3) (pc' := 2) (Lc' := [(3, .int (0 : Int32)), (0, .ref this), (1, .int p0), (2, .int p1)]) d_Net_linkOf_1 rfl (by decide) rfl rfl ?_
  refine g_sub [1, 2, 3, 0] rfl ?_
  exact W_Net_linkOf_2 _ _ _ _ _ _ _ hy
theorem hd_Net_linkOf : g_dsc y_Net_linkOf 2 := ⟨by decide +kernel, by decide +kernel, by decide +kernel⟩
/-! CircuitDesk$Net.areJoined(II)Z -/
abbrev y_Net_areJoined : MethodName := ⟨"CircuitDesk$Net", "areJoined", "(II)Z"⟩
abbrev k_Net_areJoined : g_M := (prog_7_method_4_code, 3, "CircuitDesk$Net", 16, (some FieldType.boolean), "areJoined", [], 0)
theorem d_Net_areJoined_0 : decode prog_7_method_4_code 0 = .ok (.aload_n 0, 1) := by decide +kernel
theorem d_Net_areJoined_1 : decode prog_7_method_4_code 1 = .ok (.iload_n 1, 1) := by decide +kernel
theorem d_Net_areJoined_2 : decode prog_7_method_4_code 2 = .ok (.iload_n 2, 1) := by decide +kernel
theorem d_Net_areJoined_3 : decode prog_7_method_4_code 3 = .ok (.invokevirtual 124, 3) := by decide +kernel
theorem d_Net_areJoined_6 : decode prog_7_method_4_code 6 = .ok (.iconst (-1), 1) := by decide +kernel
theorem d_Net_areJoined_7 : decode prog_7_method_4_code 7 = .ok (.if_icmp .eq 7, 3) := by decide +kernel
theorem d_Net_areJoined_10 : decode prog_7_method_4_code 10 = .ok (.iconst 1, 1) := by decide +kernel
theorem d_Net_areJoined_11 : decode prog_7_method_4_code 11 = .ok (.goto 4, 3) := by decide +kernel
theorem d_Net_areJoined_14 : decode prog_7_method_4_code 14 = .ok (.iconst 0, 1) := by decide +kernel
theorem d_Net_areJoined_15 : decode prog_7_method_4_code 15 = .ok (.ireturn, 1) := by decide +kernel
def Net_areJoined (h : g_AH) (this : Nat) (p0 : Int32) (p1 : Int32) : Option (Int32) :=
  g_is h this 1 <| g_b (Net_linkOf h this p0 p1) fun x3 => if x3 = (-1 : Int32) then (some (0 : Int32)) else (some (1 : Int32))
set_option maxHeartbeats 4000000 in
set_option maxRecDepth 100000 in
theorem T_Net_areJoined {l : Launch} {B : g_B} (h : g_AH) (this : Nat) (p0 : Int32) (p1 : Int32) (z : Int32) (hy : Net_areJoined h this p0 p1 = some z) : g_CT l B y_Net_areJoined k_Net_areJoined [.ref this, .int p0, .int p1] h (.inl (some (.int z))) h := by
  refine g_start2 (Lc := [(0, .ref this), (1, .int p0), (2, .int p1)]) (by decide) rfl rfl (by exact Nat.le_of_ble_eq_true rfl) (by rfl) fun X => ?_
  unfold Net_areJoined at hy
  refine g_aload_n 0 (i := 0) (pc' := 1) d_Net_areJoined_0 rfl rfl rfl ?_
  refine g_iload_n 1 (i := 1) (pc' := 2) d_Net_areJoined_1 rfl rfl rfl ?_
  refine g_iload_n 2 (i := 2) (pc' := 3) d_Net_areJoined_2 rfl rfl rfl ?_
  replace hy := g_is_inv hy
  obtain ⟨fs1, hc2, hy⟩ := hy
  replace hy := g_b_inv hy
  obtain ⟨x3, hf5, hy⟩ := hy
  refine g_callV (rv := some (.int x3)) (h1 := h) (pc' := 6) (As := [.int p0, .int p1]) (rest := []) 2 (T_Net_linkOf (hy := hf5)) d_Net_areJoined_3 hc2 rfl rfl q1100 q795 q796 q109 q797 hd_Net_linkOf rfl ⟨by decide, by decide⟩ (by first | exact Nat.le_of_ble_eq_true rfl | (simp only [List.map, List.sum_cons, List.sum_nil, g_cat_rf]; exact Nat.le_of_ble_eq_true rfl) | (simp only [List.map, List.sum_cons, List.sum_nil, g_cat_rf, Value.category]; decide)) rfl ?_
  refine g_iconst (v := (-1 : Int32)) (pc' := 7) d_Net_areJoined_6 (by decide) rfl ?_
  by_cases c6 : x3 = (-1 : Int32)
  · rw [if_pos c6] at hy
    refine g_icmp_eqT (pc' := 14) d_Net_areJoined_7 c6 (by decide) ?_
    refine g_iconst (v := (0 : Int32)) (pc' := 15) d_Net_areJoined_14 (by decide) rfl ?_
    cases hy
    exact g_zret rfl rfl rfl (g_nar_z (Or.inl rfl)).1 d_Net_areJoined_15
  · rw [if_neg c6] at hy
    refine g_icmp_eqF (pc' := 10) d_Net_areJoined_7 14 c6 (by decide) rfl ?_
    refine g_iconst (v := (1 : Int32)) (pc' := 11) d_Net_areJoined_10 (by decide) rfl ?_
    refine g_goto (pc' := 15) d_Net_areJoined_11 (by decide) ?_
    cases hy
    exact g_zret rfl rfl rfl (g_nar_z (Or.inr rfl)).1 d_Net_areJoined_15
theorem hd_Net_areJoined : g_dsc y_Net_areJoined 2 := ⟨by decide +kernel, by decide +kernel, by decide +kernel⟩
/-! CircuitDesk$Link.<init>(IIII)V -/
abbrev y_Link_init : MethodName := ⟨"CircuitDesk$Link", "<init>", "(IIII)V"⟩
abbrev k_Link_init : g_M := (prog_6_method_1_code, 5, "CircuitDesk$Link", 13, none, "<init>", [], 0)
theorem d_Link_init_0 : decode prog_6_method_1_code 0 = .ok (.aload_n 0, 1) := by decide +kernel
theorem d_Link_init_1 : decode prog_6_method_1_code 1 = .ok (.invokespecial 1, 3) := by decide +kernel
theorem d_Link_init_4 : decode prog_6_method_1_code 4 = .ok (.aload_n 0, 1) := by decide +kernel
theorem d_Link_init_5 : decode prog_6_method_1_code 5 = .ok (.iconst 1, 1) := by decide +kernel
theorem d_Link_init_6 : decode prog_6_method_1_code 6 = .ok (.putfield 7, 3) := by decide +kernel
theorem d_Link_init_9 : decode prog_6_method_1_code 9 = .ok (.aload_n 0, 1) := by decide +kernel
theorem d_Link_init_10 : decode prog_6_method_1_code 10 = .ok (.iload_n 1, 1) := by decide +kernel
theorem d_Link_init_11 : decode prog_6_method_1_code 11 = .ok (.putfield 13, 3) := by decide +kernel
theorem d_Link_init_14 : decode prog_6_method_1_code 14 = .ok (.aload_n 0, 1) := by decide +kernel
theorem d_Link_init_15 : decode prog_6_method_1_code 15 = .ok (.iload_n 2, 1) := by decide +kernel
theorem d_Link_init_16 : decode prog_6_method_1_code 16 = .ok (.putfield 17, 3) := by decide +kernel
theorem d_Link_init_19 : decode prog_6_method_1_code 19 = .ok (.aload_n 0, 1) := by decide +kernel
theorem d_Link_init_20 : decode prog_6_method_1_code 20 = .ok (.iload_n 3, 1) := by decide +kernel
theorem d_Link_init_21 : decode prog_6_method_1_code 21 = .ok (.putfield 20, 3) := by decide +kernel
theorem d_Link_init_24 : decode prog_6_method_1_code 24 = .ok (.aload_n 0, 1) := by decide +kernel
theorem d_Link_init_25 : decode prog_6_method_1_code 25 = .ok (.iload 4, 2) := by decide +kernel
theorem d_Link_init_27 : decode prog_6_method_1_code 27 = .ok (.putfield 23, 3) := by decide +kernel
theorem d_Link_init_30 : decode prog_6_method_1_code 30 = .ok (.return_, 1) := by decide +kernel
def Link_init (h : g_AH) (this : Nat) (p0 : Int32) (p1 : Int32) (p2 : Int32) (p3 : Int32) : Option g_AH :=
  g_pF h this 11 4 (.int (1 : Int32)) fun h4 => g_pF h4 this 11 0 (.int p0) fun h8 => g_pF h8 this 11 1 (.int p1) fun h12 => g_pF h12 this 11 2 (.int p2) fun h16 => g_pF h16 this 11 3 (.int p3) fun h20 => some h20
set_option maxHeartbeats 4000000 in
set_option maxRecDepth 100000 in
theorem T_Link_init {l : Launch} {B : g_B} (h : g_AH) (this : Nat) (p0 : Int32) (p1 : Int32) (p2 : Int32) (p3 : Int32) (z : g_AH) (hy : Link_init h this p0 p1 p2 p3 = some z) : g_CT l B y_Link_init k_Link_init [.ref this, .int p0, .int p1, .int p2, .int p3] h (.inl none) z := by
  refine g_start2 (Lc := [(0, .ref this), (1, .int p0), (2, .int p1), (3, .int p2), (4, .int p3)]) (by decide) rfl rfl (by exact Nat.le_of_ble_eq_true rfl) (by rfl) fun X => ?_
  unfold Link_init at hy
  refine g_aload_n 0 (i := 0) (pc' := 1) d_Link_init_0 rfl rfl rfl ?_
  refine g_objInit (pc' := 4) d_Link_init_1 q1106 (by first | exact Nat.le_of_ble_eq_true rfl | (simp only [List.map, List.sum_cons, List.sum_nil, g_cat_rf]; exact Nat.le_of_ble_eq_true rfl) | (simp only [List.map, List.sum_cons, List.sum_nil, g_cat_rf, Value.category]; decide)) (by decide) rfl ?_
  refine g_aload_n 0 (i := 0) (pc' := 5) d_Link_init_4 rfl rfl rfl ?_
  refine g_iconst (v := (1 : Int32)) (pc' := 6) d_Link_init_5 (by decide) rfl ?_
  replace hy := g_pF_inv hy
  obtain ⟨fs1, hc2, hl3, hy⟩ := hy
  refine g_putf (pc' := 9) d_Link_init_6 hc2 rfl (by decide) hl3 rfl (g_nar_z (Or.inr rfl)).1 (g_nar_z (Or.inr rfl)).2 q1120 (Or.inl rfl) rfl ?_
  generalize g_up h this (.inr (11, fs1.set 4 (.int (1 : Int32)))) = h4 at hy ⊢
  refine g_aload_n 0 (i := 0) (pc' := 10) d_Link_init_9 rfl rfl rfl ?_
  refine g_iload_n 1 (i := 1) (pc' := 11) d_Link_init_10 rfl rfl rfl ?_
  replace hy := g_pF_inv hy
  obtain ⟨fs5, hc6, hl7, hy⟩ := hy
  refine g_putfF (pc' := 14) d_Link_init_11 rfl hc6 rfl (by decide) hl7 rfl rfl rfl rfl q1107 rfl rfl ?_
  generalize g_up h4 this (.inr (11, fs5.set 0 (.int p0))) = h8 at hy ⊢
  refine g_aload_n 0 (i := 0) (pc' := 15) d_Link_init_14 rfl rfl rfl ?_
  refine g_iload_n 2 (i := 2) (pc' := 16) d_Link_init_15 rfl rfl rfl ?_
  replace hy := g_pF_inv hy
  obtain ⟨fs9, hc10, hl11, hy⟩ := hy
  refine g_putfF (pc' := 19) d_Link_init_16 rfl hc10 rfl (by decide) hl11 rfl rfl rfl rfl q1110 rfl rfl ?_
  generalize g_up h8 this (.inr (11, fs9.set 1 (.int p1))) = h12 at hy ⊢
  refine g_aload_n 0 (i := 0) (pc' := 20) d_Link_init_19 rfl rfl rfl ?_
  refine g_iload_n 3 (i := 3) (pc' := 21) d_Link_init_20 rfl rfl rfl ?_
  replace hy := g_pF_inv hy
  obtain ⟨fs13, hc14, hl15, hy⟩ := hy
  refine g_putfF (pc' := 24) d_Link_init_21 rfl hc14 rfl (by decide) hl15 rfl rfl rfl rfl q1113 rfl rfl ?_
  generalize g_up h12 this (.inr (11, fs13.set 2 (.int p2))) = h16 at hy ⊢
  refine g_aload_n 0 (i := 0) (pc' := 25) d_Link_init_24 rfl rfl rfl ?_
  refine g_iload 4 (pc' := 27) d_Link_init_25 rfl rfl ?_
  replace hy := g_pF_inv hy
  obtain ⟨fs17, hc18, hl19, hy⟩ := hy
  refine g_putfF (pc' := 30) d_Link_init_27 rfl hc18 rfl (by decide) hl19 rfl rfl rfl rfl q1116 rfl rfl ?_
  generalize g_up h16 this (.inr (11, fs17.set 3 (.int p3))) = h20 at hy ⊢
  cases hy
  exact g_vret rfl rfl rfl d_Link_init_30
theorem hd_Link_init : g_dsc y_Link_init 4 := ⟨by decide +kernel, by decide +kernel, by decide +kernel⟩
/-! CircuitDesk.addLink(IIII)I -/
abbrev y_Desk_addLink : MethodName := ⟨"CircuitDesk", "addLink", "(IIII)I"⟩
abbrev k_Desk_addLink : g_M := (prog_1_method_11_code, 7, "CircuitDesk", 19, (some FieldType.int), "addLink", [], 0)
theorem d_Desk_addLink_0 : decode prog_1_method_11_code 0 = .ok (.aload_n 0, 1) := by decide +kernel
theorem d_Desk_addLink_1 : decode prog_1_method_11_code 1 = .ok (.iload_n 1, 1) := by decide +kernel
theorem d_Desk_addLink_2 : decode prog_1_method_11_code 2 = .ok (.invokevirtual 97, 3) := by decide +kernel
theorem d_Desk_addLink_5 : decode prog_1_method_11_code 5 = .ok (.astore 5, 2) := by decide +kernel
theorem d_Desk_addLink_7 : decode prog_1_method_11_code 7 = .ok (.aload_n 0, 1) := by decide +kernel
theorem d_Desk_addLink_8 : decode prog_1_method_11_code 8 = .ok (.iload_n 2, 1) := by decide +kernel
theorem d_Desk_addLink_9 : decode prog_1_method_11_code 9 = .ok (.invokevirtual 97, 3) := by decide +kernel
theorem d_Desk_addLink_12 : decode prog_1_method_11_code 12 = .ok (.astore 6, 2) := by decide +kernel
theorem d_Desk_addLink_14 : decode prog_1_method_11_code 14 = .ok (.aload 5, 2) := by decide +kernel
theorem d_Desk_addLink_16 : decode prog_1_method_11_code 16 = .ok (.aload 6, 2) := by decide +kernel
theorem d_Desk_addLink_18 : decode prog_1_method_11_code 18 = .ok (.if_acmp .eq 16, 3) := by decide +kernel
theorem d_Desk_addLink_21 : decode prog_1_method_11_code 21 = .ok (.iload_n 3, 1) := by decide +kernel
theorem d_Desk_addLink_22 : decode prog_1_method_11_code 22 = .ok (.iload 4, 2) := by decide +kernel
theorem d_Desk_addLink_24 : decode prog_1_method_11_code 24 = .ok (.invokestatic 101, 3) := by decide +kernel
theorem d_Desk_addLink_27 : decode prog_1_method_11_code 27 = .ok (.ifCond .eq 7, 3) := by decide +kernel
theorem d_Desk_addLink_30 : decode prog_1_method_11_code 30 = .ok (.iconst 1, 1) := by decide +kernel
theorem d_Desk_addLink_31 : decode prog_1_method_11_code 31 = .ok (.goto 4, 3) := by decide +kernel
theorem d_Desk_addLink_34 : decode prog_1_method_11_code 34 = .ok (.iconst 0, 1) := by decide +kernel
theorem d_Desk_addLink_35 : decode prog_1_method_11_code 35 = .ok (.invokestatic 80, 3) := by decide +kernel
theorem d_Desk_addLink_38 : decode prog_1_method_11_code 38 = .ok (.aload_n 0, 1) := by decide +kernel
theorem d_Desk_addLink_39 : decode prog_1_method_11_code 39 = .ok (.getfield 19, 3) := by decide +kernel
theorem d_Desk_addLink_42 : decode prog_1_method_11_code 42 = .ok (.iload_n 1, 1) := by decide +kernel
theorem d_Desk_addLink_43 : decode prog_1_method_11_code 43 = .ok (.iload_n 2, 1) := by decide +kernel
theorem d_Desk_addLink_44 : decode prog_1_method_11_code 44 = .ok (.invokevirtual 105, 3) := by decide +kernel
theorem d_Desk_addLink_47 : decode prog_1_method_11_code 47 = .ok (.ifCond .ne 22, 3) := by decide +kernel
theorem d_Desk_addLink_50 : decode prog_1_method_11_code 50 = .ok (.aload_n 0, 1) := by decide +kernel
theorem d_Desk_addLink_51 : decode prog_1_method_11_code 51 = .ok (.getfield 19, 3) := by decide +kernel
theorem d_Desk_addLink_54 : decode prog_1_method_11_code 54 = .ok (.getfield 68, 3) := by decide +kernel
theorem d_Desk_addLink_57 : decode prog_1_method_11_code 57 = .ok (.invokevirtual 48, 3) := by decide +kernel
theorem d_Desk_addLink_60 : decode prog_1_method_11_code 60 = .ok (.bipush 16, 2) := by decide +kernel
theorem d_Desk_addLink_62 : decode prog_1_method_11_code 62 = .ok (.if_icmp .ge 7, 3) := by decide +kernel
theorem d_Desk_addLink_65 : decode prog_1_method_11_code 65 = .ok (.iconst 1, 1) := by decide +kernel
theorem d_Desk_addLink_66 : decode prog_1_method_11_code 66 = .ok (.goto 4, 3) := by decide +kernel
theorem d_Desk_addLink_69 : decode prog_1_method_11_code 69 = .ok (.iconst 0, 1) := by decide +kernel
theorem d_Desk_addLink_70 : decode prog_1_method_11_code 70 = .ok (.invokestatic 83, 3) := by decide +kernel
theorem d_Desk_addLink_73 : decode prog_1_method_11_code 73 = .ok (.aload_n 0, 1) := by decide +kernel
theorem d_Desk_addLink_74 : decode prog_1_method_11_code 74 = .ok (.getfield 19, 3) := by decide +kernel
theorem d_Desk_addLink_77 : decode prog_1_method_11_code 77 = .ok (.getfield 68, 3) := by decide +kernel
theorem d_Desk_addLink_80 : decode prog_1_method_11_code 80 = .ok (.new 71, 3) := by decide +kernel
theorem d_Desk_addLink_83 : decode prog_1_method_11_code 83 = .ok (.dup, 1) := by decide +kernel
theorem d_Desk_addLink_84 : decode prog_1_method_11_code 84 = .ok (.iload_n 1, 1) := by decide +kernel
theorem d_Desk_addLink_85 : decode prog_1_method_11_code 85 = .ok (.iload_n 2, 1) := by decide +kernel
theorem d_Desk_addLink_86 : decode prog_1_method_11_code 86 = .ok (.iload_n 3, 1) := by decide +kernel
theorem d_Desk_addLink_87 : decode prog_1_method_11_code 87 = .ok (.iload 4, 2) := by decide +kernel
theorem d_Desk_addLink_89 : decode prog_1_method_11_code 89 = .ok (.invokespecial 108, 3) := by decide +kernel
theorem d_Desk_addLink_92 : decode prog_1_method_11_code 92 = .ok (.invokevirtual 89, 3) := by decide +kernel
theorem d_Desk_addLink_95 : decode prog_1_method_11_code 95 = .ok (.pop, 1) := by decide +kernel
theorem d_Desk_addLink_96 : decode prog_1_method_11_code 96 = .ok (.aload_n 0, 1) := by decide +kernel
theorem d_Desk_addLink_97 : decode prog_1_method_11_code 97 = .ok (.getfield 19, 3) := by decide +kernel
theorem d_Desk_addLink_100 : decode prog_1_method_11_code 100 = .ok (.getfield 68, 3) := by decide +kernel
theorem d_Desk_addLink_103 : decode prog_1_method_11_code 103 = .ok (.invokevirtual 48, 3) := by decide +kernel
theorem d_Desk_addLink_106 : decode prog_1_method_11_code 106 = .ok (.iconst 1, 1) := by decide +kernel
theorem d_Desk_addLink_107 : decode prog_1_method_11_code 107 = .ok (.isub, 1) := by decide +kernel
theorem d_Desk_addLink_108 : decode prog_1_method_11_code 108 = .ok (.ireturn, 1) := by decide +kernel
def Desk_addLink_70 (h : g_AH) (v0 : Nat) (v1 : Int32) (v2 : Int32) (v3 : Int32) (v4 : Int32) (s0 : Int32) : Option ((Int32 ⊕ g_EX) × g_AH) :=
  g_bx (Desk_checkState h s0) fun x32 h33 => g_gR h33 v0 0 0 fun x38 => g_nn x38 fun a41 => g_gR h33 a41 1 2 fun x43 => g_mk h33 (.inr (11, [.int 0, .int 0, .int 0, .int 0, .int 0])) 5 fun a46 h47 => g_b (Link_init h47 a46 v1 v2 v3 v4) fun h49 => g_nn x43 fun a51 => g_is h49 a51 15 <| g_b2 (ArrayList_add0 h49 a51 (some a46)) fun x54 h55 => g_gR h55 v0 0 0 fun x58 => g_nn x58 fun a61 => g_gR h55 a61 1 2 fun x63 => g_nn x63 fun a66 => g_is h55 a66 15 <| g_b (ArrayList_size h55 a66) fun x69 => some (.inl (x69 - (1 : Int32)), h55)
set_option maxHeartbeats 4000000 in
set_option maxRecDepth 100000 in
theorem W_Desk_addLink_70 {X : g_X} (z : (Int32 ⊕ g_EX) × g_AH) (h : g_AH) (v0 : Nat) (v1 : Int32) (v2 : Int32) (v3 : Int32) (v4 : Int32) (s0 : Int32) (hy : Desk_addLink_70  h v0 v1 v2 v3 v4 s0 = some z) : G X k_Desk_addLink (g_rI z.1) z.2 h 70 [(0, .ref v0), (1, .int v1), (2, .int v2), (3, .int v3), (4, .int v4)] [.int s0] := by
  unfold Desk_addLink_70 at hy
  replace hy := g_bx_inv hy
  rcases hy with ⟨x32, h33, hf34, hy⟩ | ⟨⟨E9, q9⟩, h33, hf34, ez36⟩
  rotate_left
  · subst ez36
    exact g_callSX (As := [.int s0]) (rest := []) 1 (T_Desk_checkState (hy := hf34)) d_Desk_addLink_70 q1298 q1299 q108 q1300 hd_Desk_checkState rfl ⟨by decide, by decide⟩ (by first | exact Nat.le_of_ble_eq_true rfl | (simp only [List.map, List.sum_cons, List.sum_nil, g_cat_rf]; exact Nat.le_of_ble_eq_true rfl) | (simp only [List.map, List.sum_cons, List.sum_nil, g_cat_rf, Value.category]; decide)) rfl rfl
  refine g_callS (rv := none) (h1 := h33) (pc' := 73) (As := [.int s0]) (rest := []) 1 (T_Desk_checkState (hy := hf34)) d_Desk_addLink_70 q1298 q1299 q108 q1300 hd_Desk_checkState rfl ⟨by decide, by decide⟩ (by first | exact Nat.le_of_ble_eq_true rfl | (simp only [List.map, List.sum_cons, List.sum_nil, g_cat_rf]; exact Nat.le_of_ble_eq_true rfl) | (simp only [List.map, List.sum_cons, List.sum_nil, g_cat_rf, Value.category]; decide)) rfl ?_
  refine g_aload_n 0 (i := 0) (pc' := 74) d_Desk_addLink_73 rfl rfl rfl ?_
  replace hy := g_gR_inv hy
  obtain ⟨fs37, x38, hc39, hv40, hy⟩ := hy
  refine g_getf (pc' := 77) d_Desk_addLink_74 hc39 rfl (by decide) hv40 q642 (Or.inl rfl) rfl ?_
  replace hy := g_nn_inv hy
  obtain ⟨a41, rfl, hy⟩ := hy
  replace hy := g_gR_inv hy
  obtain ⟨fs42, x43, hc44, hv45, hy⟩ := hy
  refine g_getfN (pc' := 80) d_Desk_addLink_77 hc44 rfl (by decide) hv45 q553 rfl rfl ?_
  replace hy := g_mk_inv hy
  refine g_new (ci := 11) (fs := [.int 0, .int 0, .int 0, .int 0, .int 0]) (pc' := 83) d_Desk_addLink_80 rfl q707 q1102 q141 gdf_11 rfl ?_
  generalize g_al h33 (.inr (11, [.int 0, .int 0, .int 0, .int 0, .int 0])) 5 = h47 at hy ⊢
  generalize g_n h33 = a46 at hy ⊢
  refine g_dup (pc' := 84) d_Desk_addLink_83 rfl rfl ?_
  refine g_iload_n 1 (i := 1) (pc' := 85) d_Desk_addLink_84 rfl rfl rfl ?_
  refine g_iload_n 2 (i := 2) (pc' := 86) d_Desk_addLink_85 rfl rfl rfl ?_
  refine g_iload_n 3 (i := 3) (pc' := 87) d_Desk_addLink_86 rfl rfl rfl ?_
  refine g_iload 4 (pc' := 89) d_Desk_addLink_87 rfl rfl ?_
  replace hy := g_b_inv hy
  obtain ⟨h49, hf50, hy⟩ := hy
  refine g_callI (h1 := h49) (pc' := 92) (As := [.int v1, .int v2, .int v3, .int v4]) (rest := [.ref a46, va_rf x43]) 4 (T_Link_init (hy := hf50)) d_Desk_addLink_89 rfl rfl q1404 q1104 q141 q1105 hd_Link_init rfl ⟨by decide, by decide⟩ (by first | exact Nat.le_of_ble_eq_true rfl | (simp only [List.map, List.sum_cons, List.sum_nil, g_cat_rf]; exact Nat.le_of_ble_eq_true rfl) | (simp only [List.map, List.sum_cons, List.sum_nil, g_cat_rf, Value.category]; decide)) rfl ?_
  replace hy := g_nn_inv hy
  obtain ⟨a51, rfl, hy⟩ := hy
  replace hy := g_is_inv hy
  obtain ⟨fs52, hc53, hy⟩ := hy
  replace hy := g_b2_inv hy
  obtain ⟨x54, h55, hf56, hy⟩ := hy
  refine g_callV (rv := some (.int x54)) (h1 := h55) (pc' := 95) (As := [va_rf (some a46)]) (rest := []) 1 (T_ArrayList_add0 (hy := hf56)) d_Desk_addLink_92 hc53 rfl rfl q1349 q1037 q1038 q112 q1039 hd_ArrayList_add0 rfl ⟨by decide, by decide⟩ (by first | exact Nat.le_of_ble_eq_true rfl | (simp only [List.map, List.sum_cons, List.sum_nil, g_cat_rf]; exact Nat.le_of_ble_eq_true rfl) | (simp only [List.map, List.sum_cons, List.sum_nil, g_cat_rf, Value.category]; decide)) rfl ?_
  refine g_pop (pc' := 96) d_Desk_addLink_95 rfl rfl ?_
  refine g_aload_n 0 (i := 0) (pc' := 97) d_Desk_addLink_96 rfl rfl rfl ?_
  replace hy := g_gR_inv hy
  obtain ⟨fs57, x58, hc59, hv60, hy⟩ := hy
  refine g_getf (pc' := 100) d_Desk_addLink_97 hc59 rfl (by decide) hv60 q642 (Or.inl rfl) rfl ?_
  replace hy := g_nn_inv hy
  obtain ⟨a61, rfl, hy⟩ := hy
  replace hy := g_gR_inv hy
  obtain ⟨fs62, x63, hc64, hv65, hy⟩ := hy
  refine g_getfN (pc' := 103) d_Desk_addLink_100 hc64 rfl (by decide) hv65 q553 rfl rfl ?_
  replace hy := g_nn_inv hy
  obtain ⟨a66, rfl, hy⟩ := hy
  replace hy := g_is_inv hy
  obtain ⟨fs67, hc68, hy⟩ := hy
  replace hy := g_b_inv hy
  obtain ⟨x69, hf71, hy⟩ := hy
  refine g_callV (rv := some (.int x69)) (h1 := h55) (pc' := 106) (As := []) (rest := []) 0 (T_ArrayList_size (hy := hf71)) d_Desk_addLink_103 hc68 rfl rfl q673 q674 q675 q112 q676 hd_ArrayList_size rfl ⟨by decide, by decide⟩ (by first | exact Nat.le_of_ble_eq_true rfl | (simp only [List.map, List.sum_cons, List.sum_nil, g_cat_rf]; exact Nat.le_of_ble_eq_true rfl) | (simp only [List.map, List.sum_cons, List.sum_nil, g_cat_rf, Value.category]; decide)) rfl ?_
  refine g_iconst (v := (1 : Int32)) (pc' := 107) d_Desk_addLink_106 (by decide) rfl ?_
  refine g_isub (pc' := 108) d_Desk_addLink_107 rfl ?_
  cases hy
  exact g_iret rfl rfl rfl d_Desk_addLink_108
def Desk_addLink_69 (h : g_AH) (v0 : Nat) (v1 : Int32) (v2 : Int32) (v3 : Int32) (v4 : Int32) : Option ((Int32 ⊕ g_EX) × g_AH) :=
  Desk_addLink_70  h v0 v1 v2 v3 v4 (0 : Int32)
set_option maxHeartbeats 4000000 in
set_option maxRecDepth 100000 in
theorem W_Desk_addLink_69 {X : g_X} (z : (Int32 ⊕ g_EX) × g_AH) (h : g_AH) (v0 : Nat) (v1 : Int32) (v2 : Int32) (v3 : Int32) (v4 : Int32) (hy : Desk_addLink_69  h v0 v1 v2 v3 v4 = some z) : G X k_Desk_addLink (g_rI z.1) z.2 h 69 [(0, .ref v0), (1, .int v1), (2, .int v2), (3, .int v3), (4, .int v4)] [] := by
  unfold Desk_addLink_69 at hy
  refine g_iconst (v := (0 : Int32)) (pc' := 70) d_Desk_addLink_69 (by decide) rfl ?_
  exact W_Desk_addLink_70 _ _ _ _ _ _ _ _ hy
def Desk_addLink_35 (h : g_AH) (v0 : Nat) (v1 : Int32) (v2 : Int32) (v3 : Int32) (v4 : Int32) (s0 : Int32) : Option ((Int32 ⊕ g_EX) × g_AH) :=
  g_bx (Desk_checkArgument h s0) fun x16 h17 => g_gR h17 v0 0 0 fun x22 => g_nn x22 fun a25 => g_is h17 a25 1 <| g_b (Net_areJoined h17 a25 v1 v2) fun x28 => if x28 = 0 then (g_gR h17 v0 0 0 fun x73 => g_nn x73 fun a76 => g_gR h17 a76 1 2 fun x78 => g_nn x78 fun a81 => g_is h17 a81 15 <| g_b (ArrayList_size h17 a81) fun x84 => if (16 : Int32) ≤ x84 then (Desk_addLink_69  h17 v0 v1 v2 v3 v4) else (Desk_addLink_70  h17 v0 v1 v2 v3 v4 (1 : Int32))) else (Desk_addLink_69  h17 v0 v1 v2 v3 v4)
set_option maxHeartbeats 4000000 in
set_option maxRecDepth 100000 in
theorem W_Desk_addLink_35 {X : g_X} (z : (Int32 ⊕ g_EX) × g_AH) (h : g_AH) (v0 : Nat) (v1 : Int32) (v2 : Int32) (v3 : Int32) (v4 : Int32) (s0 : Int32) (hy : Desk_addLink_35  h v0 v1 v2 v3 v4 s0 = some z) : G X k_Desk_addLink (g_rI z.1) z.2 h 35 [(0, .ref v0), (1, .int v1), (2, .int v2), (3, .int v3), (4, .int v4)] [.int s0] := by
  unfold Desk_addLink_35 at hy
  replace hy := g_bx_inv hy
  rcases hy with ⟨x16, h17, hf18, hy⟩ | ⟨⟨E9, q9⟩, h17, hf18, ez20⟩
  rotate_left
  · subst ez20
    exact g_callSX (As := [.int s0]) (rest := []) 1 (T_Desk_checkArgument (hy := hf18)) d_Desk_addLink_35 q1331 q1332 q108 q1333 hd_Desk_checkArgument rfl ⟨by decide, by decide⟩ (by first | exact Nat.le_of_ble_eq_true rfl | (simp only [List.map, List.sum_cons, List.sum_nil, g_cat_rf]; exact Nat.le_of_ble_eq_true rfl) | (simp only [List.map, List.sum_cons, List.sum_nil, g_cat_rf, Value.category]; decide)) rfl rfl
  refine g_callS (rv := none) (h1 := h17) (pc' := 38) (As := [.int s0]) (rest := []) 1 (T_Desk_checkArgument (hy := hf18)) d_Desk_addLink_35 q1331 q1332 q108 q1333 hd_Desk_checkArgument rfl ⟨by decide, by decide⟩ (by first | exact Nat.le_of_ble_eq_true rfl | (simp only [List.map, List.sum_cons, List.sum_nil, g_cat_rf]; exact Nat.le_of_ble_eq_true rfl) | (simp only [List.map, List.sum_cons, List.sum_nil, g_cat_rf, Value.category]; decide)) rfl ?_
  refine g_aload_n 0 (i := 0) (pc' := 39) d_Desk_addLink_38 rfl rfl rfl ?_
  replace hy := g_gR_inv hy
  obtain ⟨fs21, x22, hc23, hv24, hy⟩ := hy
  refine g_getf (pc' := 42) d_Desk_addLink_39 hc23 rfl (by decide) hv24 q642 (Or.inl rfl) rfl ?_
  refine g_iload_n 1 (i := 1) (pc' := 43) d_Desk_addLink_42 rfl rfl rfl ?_
  refine g_iload_n 2 (i := 2) (pc' := 44) d_Desk_addLink_43 rfl rfl rfl ?_
  replace hy := g_nn_inv hy
  obtain ⟨a25, rfl, hy⟩ := hy
  replace hy := g_is_inv hy
  obtain ⟨fs26, hc27, hy⟩ := hy
  replace hy := g_b_inv hy
  obtain ⟨x28, hf30, hy⟩ := hy
  refine g_callV (rv := some (.int x28)) (h1 := h17) (pc' := 47) (As := [.int v1, .int v2]) (rest := []) 2 (T_Net_areJoined (hy := hf30)) d_Desk_addLink_44 hc27 rfl rfl q1403 q1097 q1098 q109 q1099 hd_Net_areJoined rfl ⟨by decide, by decide⟩ (by first | exact Nat.le_of_ble_eq_true rfl | (simp only [List.map, List.sum_cons, List.sum_nil, g_cat_rf]; exact Nat.le_of_ble_eq_true rfl) | (simp only [List.map, List.sum_cons, List.sum_nil, g_cat_rf, Value.category]; decide)) rfl ?_
  by_cases c31 : x28 = 0
  · rw [if_pos c31] at hy
    refine g_if_neF (pc' := 50) d_Desk_addLink_47 69 c31 (by decide) rfl ?_
    refine g_aload_n 0 (i := 0) (pc' := 51) d_Desk_addLink_50 rfl rfl rfl ?_
    replace hy := g_gR_inv hy
    obtain ⟨fs72, x73, hc74, hv75, hy⟩ := hy
    refine g_getf (pc' := 54) d_Desk_addLink_51 hc74 rfl (by decide) hv75 q642 (Or.inl rfl) rfl ?_
    replace hy := g_nn_inv hy
    obtain ⟨a76, rfl, hy⟩ := hy
    replace hy := g_gR_inv hy
    obtain ⟨fs77, x78, hc79, hv80, hy⟩ := hy
    refine g_getfN (pc' := 57) d_Desk_addLink_54 hc79 rfl (by decide) hv80 q553 rfl rfl ?_
    replace hy := g_nn_inv hy
    obtain ⟨a81, rfl, hy⟩ := hy
    replace hy := g_is_inv hy
    obtain ⟨fs82, hc83, hy⟩ := hy
    replace hy := g_b_inv hy
    obtain ⟨x84, hf86, hy⟩ := hy
    refine g_callV (rv := some (.int x84)) (h1 := h17) (pc' := 60) (As := []) (rest := []) 0 (T_ArrayList_size (hy := hf86)) d_Desk_addLink_57 hc83 rfl rfl q673 q674 q675 q112 q676 hd_ArrayList_size rfl ⟨by decide, by decide⟩ (by first | exact Nat.le_of_ble_eq_true rfl | (simp only [List.map, List.sum_cons, List.sum_nil, g_cat_rf]; exact Nat.le_of_ble_eq_true rfl) | (simp only [List.map, List.sum_cons, List.sum_nil, g_cat_rf, Value.category]; decide)) rfl ?_
    refine g_bipush (v := (16 : Int32)) (pc' := 62) d_Desk_addLink_60 (by decide) rfl ?_
    by_cases c87 : (16 : Int32) ≤ x84
    · rw [if_pos c87] at hy
      refine g_icmp_geT (pc' := 69) d_Desk_addLink_62 c87 (by decide) ?_
      exact W_Desk_addLink_69 _ _ _ _ _ _ _ hy
    · rw [if_neg c87] at hy
      refine g_icmp_geF (pc' := 65) d_Desk_addLink_62 69 c87 (by decide) rfl ?_
      refine g_iconst (v := (1 : Int32)) (pc' := 66) d_Desk_addLink_65 (by decide) rfl ?_
      refine g_goto (pc' := 70) d_Desk_addLink_66 (by decide) ?_
      exact W_Desk_addLink_70 _ _ _ _ _ _ _ _ hy
  · rw [if_neg c31] at hy
    refine g_if_neT (pc' := 69) d_Desk_addLink_47 c31 (by decide) ?_
    exact W_Desk_addLink_69 _ _ _ _ _ _ _ hy
def Desk_addLink_34 (h : g_AH) (v0 : Nat) (v1 : Int32) (v2 : Int32) (v3 : Int32) (v4 : Int32) : Option ((Int32 ⊕ g_EX) × g_AH) :=
  Desk_addLink_35  h v0 v1 v2 v3 v4 (0 : Int32)
set_option maxHeartbeats 4000000 in
set_option maxRecDepth 100000 in
theorem W_Desk_addLink_34 {X : g_X} (z : (Int32 ⊕ g_EX) × g_AH) (h : g_AH) (v0 : Nat) (v1 : Int32) (v2 : Int32) (v3 : Int32) (v4 : Int32) (hy : Desk_addLink_34  h v0 v1 v2 v3 v4 = some z) : G X k_Desk_addLink (g_rI z.1) z.2 h 34 [(0, .ref v0), (1, .int v1), (2, .int v2), (3, .int v3), (4, .int v4)] [] := by
  unfold Desk_addLink_34 at hy
  refine g_iconst (v := (0 : Int32)) (pc' := 35) d_Desk_addLink_34 (by decide) rfl ?_
  exact W_Desk_addLink_35 _ _ _ _ _ _ _ _ hy
def Desk_addLink (h : g_AH) (this : Nat) (p0 : Int32) (p1 : Int32) (p2 : Int32) (p3 : Int32) : Option ((Int32 ⊕ g_EX) × g_AH) :=
  g_is h this 0 <| g_bx (Desk_nodeOf h this p0) fun x3 h4 => g_is h4 this 0 <| g_bx (Desk_nodeOf h4 this p1) fun x10 h11 => if x3 = x10 then (Desk_addLink_34  h11 this p0 p1 p2 p3) else (g_b (Desk_isLink p2 p3) fun x88 => if x88 = 0 then (Desk_addLink_34  h11 this p0 p1 p2 p3) else (Desk_addLink_35  h11 this p0 p1 p2 p3 (1 : Int32)))
set_option maxHeartbeats 4000000 in
set_option maxRecDepth 100000 in
theorem T_Desk_addLink {l : Launch} {B : g_B} (h : g_AH) (this : Nat) (p0 : Int32) (p1 : Int32) (p2 : Int32) (p3 : Int32) (z : (Int32 ⊕ g_EX) × g_AH) (hy : Desk_addLink h this p0 p1 p2 p3 = some z) : g_CT l B y_Desk_addLink k_Desk_addLink [.ref this, .int p0, .int p1, .int p2, .int p3] h (g_rI z.1) z.2 := by
  refine g_start2 (Lc := [(0, .ref this), (1, .int p0), (2, .int p1), (3, .int p2), (4, .int p3)]) (by decide) rfl rfl (by exact Nat.le_of_ble_eq_true rfl) (by rfl) fun X => ?_
  unfold Desk_addLink at hy
  refine g_aload_n 0 (i := 0) (pc' := 1) d_Desk_addLink_0 rfl rfl rfl ?_
  refine g_iload_n 1 (i := 1) (pc' := 2) d_Desk_addLink_1 rfl rfl rfl ?_
  replace hy := g_is_inv hy
  obtain ⟨fs1, hc2, hy⟩ := hy
  replace hy := g_bx_inv hy
  rcases hy with ⟨x3, h4, hf5, hy⟩ | ⟨⟨E9, q9⟩, h4, hf5, ez7⟩
  rotate_left
  · subst ez7
    exact g_callVX (As := [.int p0]) (rest := []) 1 (T_Desk_nodeOf (hy := hf5)) d_Desk_addLink_2 hc2 rfl rfl q1376 q1378 qs15 q108 q1379 hd_Desk_nodeOf rfl ⟨by decide, by decide⟩ (by first | exact Nat.le_of_ble_eq_true rfl | (simp only [List.map, List.sum_cons, List.sum_nil, g_cat_rf]; exact Nat.le_of_ble_eq_true rfl) | (simp only [List.map, List.sum_cons, List.sum_nil, g_cat_rf, Value.category]; decide)) rfl rfl
  refine g_callV (rv := some (va_rf x3)) (h1 := h4) (pc' := 5) (As := [.int p0]) (rest := []) 1 (T_Desk_nodeOf (hy := hf5)) d_Desk_addLink_2 hc2 rfl rfl q1376 q1378 qs15 q108 q1379 hd_Desk_nodeOf rfl ⟨by decide, by decide⟩ (by first | exact Nat.le_of_ble_eq_true rfl | (simp only [List.map, List.sum_cons, List.sum_nil, g_cat_rf]; exact Nat.le_of_ble_eq_true rfl) | (simp only [List.map, List.sum_cons, List.sum_nil, g_cat_rf, Value.category]; decide)) rfl ?_
  refine g_astoreO (pc' := 7) (Lc' := [(5, va_rf x3), (0, .ref this), (1, .int p0), (2, .int p1), (3, .int p2), (4, .int p3)]) d_Desk_addLink_5 (by decide) rfl rfl ?_
  refine g_aload_n 1 (i := 0) (pc' := 8) d_Desk_addLink_7 rfl rfl rfl ?_
  refine g_iload_n 3 (i := 2) (pc' := 9) d_Desk_addLink_8 rfl rfl rfl ?_
  replace hy := g_is_inv hy
  obtain ⟨fs8, hc9, hy⟩ := hy
  replace hy := g_bx_inv hy
  rcases hy with ⟨x10, h11, hf12, hy⟩ | ⟨⟨E9, q9⟩, h11, hf12, ez14⟩
  rotate_left
  · subst ez14
    exact g_callVX (As := [.int p1]) (rest := []) 1 (T_Desk_nodeOf (hy := hf12)) d_Desk_addLink_9 hc9 rfl rfl q1376 q1378 qs15 q108 q1379 hd_Desk_nodeOf rfl ⟨by decide, by decide⟩ (by first | exact Nat.le_of_ble_eq_true rfl | (simp only [List.map, List.sum_cons, List.sum_nil, g_cat_rf]; exact Nat.le_of_ble_eq_true rfl) | (simp only [List.map, List.sum_cons, List.sum_nil, g_cat_rf, Value.category]; decide)) rfl rfl
  refine g_callV (rv := some (va_rf x10)) (h1 := h11) (pc' := 12) (As := [.int p1]) (rest := []) 1 (T_Desk_nodeOf (hy := hf12)) d_Desk_addLink_9 hc9 rfl rfl q1376 q1378 qs15 q108 q1379 hd_Desk_nodeOf rfl ⟨by decide, by decide⟩ (by first | exact Nat.le_of_ble_eq_true rfl | (simp only [List.map, List.sum_cons, List.sum_nil, g_cat_rf]; exact Nat.le_of_ble_eq_true rfl) | (simp only [List.map, List.sum_cons, List.sum_nil, g_cat_rf, Value.category]; decide)) rfl ?_
  refine g_astoreO (pc' := 14) (Lc' := [(6, va_rf x10), (5, va_rf x3), (0, .ref this), (1, .int p0), (2, .int p1), (3, .int p2), (4, .int p3)]) d_Desk_addLink_12 (by decide) (by cases x3 <;> rfl) rfl ?_
  refine g_aloadO 1 (pc' := 16) d_Desk_addLink_14 rfl rfl ?_
  refine g_aloadO 0 (pc' := 18) d_Desk_addLink_16 rfl rfl ?_
  by_cases c15 : x3 = x10
  · rw [if_pos c15] at hy
    refine g_stk (st' := va_rf x10 :: va_rf x3 :: []) rfl ?_
    refine g_acmp_eqT (pc' := 34) d_Desk_addLink_18 c15 (by decide) ?_
    refine g_sub [2, 3, 4, 5, 6] rfl ?_
    exact W_Desk_addLink_34 _ _ _ _ _ _ _ hy
  · rw [if_neg c15] at hy
    refine g_stk (st' := va_rf x10 :: va_rf x3 :: []) rfl ?_
    refine g_acmp_eqF (pc' := 21) d_Desk_addLink_18 34 c15 (by decide) rfl ?_
    refine g_iload_n 5 (i := 3) (pc' := 22) d_Desk_addLink_21 rfl rfl rfl ?_
    refine g_iload 6 (pc' := 24) d_Desk_addLink_22 rfl rfl ?_
    replace hy := g_b_inv hy
    obtain ⟨x88, hf90, hy⟩ := hy
    refine g_callS (rv := some (.int x88)) (h1 := h11) (pc' := 27) (As := [.int p2, .int p3]) (rest := []) 2 (T_Desk_isLink (hy := hf90)) d_Desk_addLink_24 q1398 q1399 q108 q1400 hd_Desk_isLink rfl ⟨by decide, by decide⟩ (by first | exact Nat.le_of_ble_eq_true rfl | (simp only [List.map, List.sum_cons, List.sum_nil, g_cat_rf]; exact Nat.le_of_ble_eq_true rfl) | (simp only [List.map, List.sum_cons, List.sum_nil, g_cat_rf, Value.category]; decide)) rfl ?_
    by_cases c91 : x88 = 0
    · rw [if_pos c91] at hy
      refine g_if_eqT (pc' := 34) d_Desk_addLink_27 c91 (by decide) ?_
      refine g_sub [2, 3, 4, 5, 6] rfl ?_
      exact W_Desk_addLink_34 _ _ _ _ _ _ _ hy
    · rw [if_neg c91] at hy
      refine g_if_eqF (pc' := 30) d_Desk_addLink_27 34 c91 (by decide) rfl ?_
      refine g_iconst (v := (1 : Int32)) (pc' := 31) d_Desk_addLink_30 (by decide) rfl ?_
      refine g_goto (pc' := 35) d_Desk_addLink_31 (by decide) ?_
      refine g_sub [2, 3, 4, 5, 6] rfl ?_
      exact W_Desk_addLink_35 _ _ _ _ _ _ _ _ hy
theorem hd_Desk_addLink : g_dsc y_Desk_addLink 4 := ⟨by decide +kernel, by decide +kernel, by decide +kernel⟩
/-! CircuitDesk.linkOf(I)LCircuitDesk$Link; -/
abbrev y_Desk_linkOf : MethodName := ⟨"CircuitDesk", "linkOf", "(I)LCircuitDesk$Link;"⟩
abbrev k_Desk_linkOf : g_M := (prog_1_method_7_code, 2, "CircuitDesk", 18, (some (FieldType.object "CircuitDesk$Link")), "linkOf", [], 0)
theorem d_Desk_linkOf_0 : decode prog_1_method_7_code 0 = .ok (.iload_n 1, 1) := by decide +kernel
theorem d_Desk_linkOf_1 : decode prog_1_method_7_code 1 = .ok (.i2l, 1) := by decide +kernel
theorem d_Desk_linkOf_2 : decode prog_1_method_7_code 2 = .ok (.lconst 0, 1) := by decide +kernel
theorem d_Desk_linkOf_3 : decode prog_1_method_7_code 3 = .ok (.aload_n 0, 1) := by decide +kernel
theorem d_Desk_linkOf_4 : decode prog_1_method_7_code 4 = .ok (.getfield 19, 3) := by decide +kernel
theorem d_Desk_linkOf_7 : decode prog_1_method_7_code 7 = .ok (.getfield 68, 3) := by decide +kernel
theorem d_Desk_linkOf_10 : decode prog_1_method_7_code 10 = .ok (.invokevirtual 48, 3) := by decide +kernel
theorem d_Desk_linkOf_13 : decode prog_1_method_7_code 13 = .ok (.iconst 1, 1) := by decide +kernel
theorem d_Desk_linkOf_14 : decode prog_1_method_7_code 14 = .ok (.isub, 1) := by decide +kernel
theorem d_Desk_linkOf_15 : decode prog_1_method_7_code 15 = .ok (.i2l, 1) := by decide +kernel
theorem d_Desk_linkOf_16 : decode prog_1_method_7_code 16 = .ok (.invokestatic 54, 3) := by decide +kernel
theorem d_Desk_linkOf_19 : decode prog_1_method_7_code 19 = .ok (.invokestatic 58, 3) := by decide +kernel
theorem d_Desk_linkOf_22 : decode prog_1_method_7_code 22 = .ok (.aload_n 0, 1) := by decide +kernel
theorem d_Desk_linkOf_23 : decode prog_1_method_7_code 23 = .ok (.getfield 19, 3) := by decide +kernel
theorem d_Desk_linkOf_26 : decode prog_1_method_7_code 26 = .ok (.getfield 68, 3) := by decide +kernel
theorem d_Desk_linkOf_29 : decode prog_1_method_7_code 29 = .ok (.iload_n 1, 1) := by decide +kernel
theorem d_Desk_linkOf_30 : decode prog_1_method_7_code 30 = .ok (.invokevirtual 62, 3) := by decide +kernel
theorem d_Desk_linkOf_33 : decode prog_1_method_7_code 33 = .ok (.checkcast 71, 3) := by decide +kernel
theorem d_Desk_linkOf_36 : decode prog_1_method_7_code 36 = .ok (.areturn, 1) := by decide +kernel
def Desk_linkOf (h : g_AH) (this : Nat) (p0 : Int32) : Option ((Option Nat ⊕ g_EX) × g_AH) :=
  g_gR h this 0 0 fun x2 => g_nn x2 fun a5 => g_gR h a5 1 2 fun x7 => g_nn x7 fun a10 => g_is h a10 15 <| g_b (ArrayList_size h a10) fun x13 => g_b (Desk_isBetween ((p0).toInt64) (0 : Int64) (((x13 - (1 : Int32))).toInt64)) fun x16 => g_bx (Desk_checkIndex h x16) fun x19 h20 => g_gR h20 this 0 0 fun x25 => g_nn x25 fun a28 => g_gR h20 a28 1 2 fun x30 => g_nn x30 fun a33 => g_is h20 a33 15 <| g_b (ArrayList_get h20 a33 p0) fun x36 => g_ck h20 x36 11 <| some (.inl x36, h20)
set_option maxHeartbeats 4000000 in
set_option maxRecDepth 100000 in
theorem T_Desk_linkOf {l : Launch} {B : g_B} (h : g_AH) (this : Nat) (p0 : Int32) (z : (Option Nat ⊕ g_EX) × g_AH) (hy : Desk_linkOf h this p0 = some z) : g_CT l B y_Desk_linkOf k_Desk_linkOf [.ref this, .int p0] h (g_rR z.1) z.2 := by
  refine g_start2 (Lc := [(0, .ref this), (1, .int p0)]) (by decide) rfl rfl (by exact Nat.le_of_ble_eq_true rfl) (by rfl) fun X => ?_
  unfold Desk_linkOf at hy
  refine g_iload_n 1 (i := 1) (pc' := 1) d_Desk_linkOf_0 rfl rfl rfl ?_
  refine g_i2l (pc' := 2) d_Desk_linkOf_1 rfl ?_
  refine g_lconst (v := 0) (pc' := 3) d_Desk_linkOf_2 (by decide) rfl ?_
  refine g_aload_n 0 (i := 0) (pc' := 4) d_Desk_linkOf_3 rfl rfl rfl ?_
  replace hy := g_gR_inv hy
  obtain ⟨fs1, x2, hc3, hv4, hy⟩ := hy
  refine g_getf (pc' := 7) d_Desk_linkOf_4 hc3 rfl (by decide) hv4 q642 (Or.inl rfl) rfl ?_
  replace hy := g_nn_inv hy
  obtain ⟨a5, rfl, hy⟩ := hy
  replace hy := g_gR_inv hy
  obtain ⟨fs6, x7, hc8, hv9, hy⟩ := hy
  refine g_getfN (pc' := 10) d_Desk_linkOf_7 hc8 rfl (by decide) hv9 q553 rfl rfl ?_
  replace hy := g_nn_inv hy
  obtain ⟨a10, rfl, hy⟩ := hy
  replace hy := g_is_inv hy
  obtain ⟨fs11, hc12, hy⟩ := hy
  replace hy := g_b_inv hy
  obtain ⟨x13, hf15, hy⟩ := hy
  refine g_callV (rv := some (.int x13)) (h1 := h) (pc' := 13) (As := []) (rest := [.long (0 : Int64), .long ((p0).toInt64)]) 0 (T_ArrayList_size (hy := hf15)) d_Desk_linkOf_10 hc12 rfl rfl q673 q674 q675 q112 q676 hd_ArrayList_size rfl ⟨by decide, by decide⟩ (by first | exact Nat.le_of_ble_eq_true rfl | (simp only [List.map, List.sum_cons, List.sum_nil, g_cat_rf]; exact Nat.le_of_ble_eq_true rfl) | (simp only [List.map, List.sum_cons, List.sum_nil, g_cat_rf, Value.category]; decide)) rfl ?_
  refine g_iconst (v := (1 : Int32)) (pc' := 14) d_Desk_linkOf_13 (by decide) rfl ?_
  refine g_isub (pc' := 15) d_Desk_linkOf_14 rfl ?_
  refine g_i2l (pc' := 16) d_Desk_linkOf_15 rfl ?_
  replace hy := g_b_inv hy
  obtain ⟨x16, hf18, hy⟩ := hy
  refine g_callS (rv := some (.int x16)) (h1 := h) (pc' := 19) (As := [.long ((p0).toInt64), .long (0 : Int64), .long (((x13 - (1 : Int32))).toInt64)]) (rest := []) 3 (T_Desk_isBetween (hy := hf18)) d_Desk_linkOf_16 q1330 q828 q108 q829 hd_Desk_isBetween rfl ⟨by decide, by decide⟩ (by first | exact Nat.le_of_ble_eq_true rfl | (simp only [List.map, List.sum_cons, List.sum_nil, g_cat_rf]; exact Nat.le_of_ble_eq_true rfl) | (simp only [List.map, List.sum_cons, List.sum_nil, g_cat_rf, Value.category]; decide)) rfl ?_
  replace hy := g_bx_inv hy
  rcases hy with ⟨x19, h20, hf21, hy⟩ | ⟨⟨E9, q9⟩, h20, hf21, ez23⟩
  rotate_left
  · subst ez23
    exact g_callSX (As := [.int x16]) (rest := []) 1 (T_Desk_checkIndex (hy := hf21)) d_Desk_linkOf_19 q1380 q1381 q108 q1382 hd_Desk_checkIndex rfl ⟨by decide, by decide⟩ (by first | exact Nat.le_of_ble_eq_true rfl | (simp only [List.map, List.sum_cons, List.sum_nil, g_cat_rf]; exact Nat.le_of_ble_eq_true rfl) | (simp only [List.map, List.sum_cons, List.sum_nil, g_cat_rf, Value.category]; decide)) rfl rfl
  refine g_callS (rv := none) (h1 := h20) (pc' := 22) (As := [.int x16]) (rest := []) 1 (T_Desk_checkIndex (hy := hf21)) d_Desk_linkOf_19 q1380 q1381 q108 q1382 hd_Desk_checkIndex rfl ⟨by decide, by decide⟩ (by first | exact Nat.le_of_ble_eq_true rfl | (simp only [List.map, List.sum_cons, List.sum_nil, g_cat_rf]; exact Nat.le_of_ble_eq_true rfl) | (simp only [List.map, List.sum_cons, List.sum_nil, g_cat_rf, Value.category]; decide)) rfl ?_
  refine g_aload_n 0 (i := 0) (pc' := 23) d_Desk_linkOf_22 rfl rfl rfl ?_
  replace hy := g_gR_inv hy
  obtain ⟨fs24, x25, hc26, hv27, hy⟩ := hy
  refine g_getf (pc' := 26) d_Desk_linkOf_23 hc26 rfl (by decide) hv27 q642 (Or.inl rfl) rfl ?_
  replace hy := g_nn_inv hy
  obtain ⟨a28, rfl, hy⟩ := hy
  replace hy := g_gR_inv hy
  obtain ⟨fs29, x30, hc31, hv32, hy⟩ := hy
  refine g_getfN (pc' := 29) d_Desk_linkOf_26 hc31 rfl (by decide) hv32 q553 rfl rfl ?_
  refine g_iload_n 1 (i := 1) (pc' := 30) d_Desk_linkOf_29 rfl rfl rfl ?_
  replace hy := g_nn_inv hy
  obtain ⟨a33, rfl, hy⟩ := hy
  replace hy := g_is_inv hy
  obtain ⟨fs34, hc35, hy⟩ := hy
  replace hy := g_b_inv hy
  obtain ⟨x36, hf38, hy⟩ := hy
  refine g_callV (rv := some (va_rf x36)) (h1 := h20) (pc' := 33) (As := [.int p0]) (rest := []) 1 (T_ArrayList_get (hy := hf38)) d_Desk_linkOf_30 hc35 rfl rfl q706 q683 q684 q112 q685 hd_ArrayList_get rfl ⟨by decide, by decide⟩ (by first | exact Nat.le_of_ble_eq_true rfl | (simp only [List.map, List.sum_cons, List.sum_nil, g_cat_rf]; exact Nat.le_of_ble_eq_true rfl) | (simp only [List.map, List.sum_cons, List.sum_nil, g_cat_rf, Value.category]; decide)) rfl ?_
  replace hy := g_ck_inv hy
  obtain ⟨hk39, hy⟩ := hy
  refine g_castO (pc' := 36) d_Desk_linkOf_33 hk39 rfl q707 rfl ?_
  cases hy
  exact g_aret rfl rfl rfl (Or.inl ⟨_, rfl⟩) d_Desk_linkOf_36
theorem hd_Desk_linkOf : g_dsc y_Desk_linkOf 1 := ⟨by decide +kernel, by decide +kernel, by decide +kernel⟩
/-! CircuitDesk$Net.lose(LCircuitDesk$Circuit;)V -/
abbrev y_Net_lose : MethodName := ⟨"CircuitDesk$Net", "lose", "(LCircuitDesk$Circuit;)V"⟩
abbrev k_Net_lose : g_M := (prog_7_method_19_code, 2, "CircuitDesk$Net", 12, none, "lose", [], 0)
theorem d_Net_lose_0 : decode prog_7_method_19_code 0 = .ok (.aload_n 1, 1) := by decide +kernel
theorem d_Net_lose_1 : decode prog_7_method_19_code 1 = .ok (.dup, 1) := by decide +kernel
theorem d_Net_lose_2 : decode prog_7_method_19_code 2 = .ok (.getfield 221, 3) := by decide +kernel
theorem d_Net_lose_5 : decode prog_7_method_19_code 5 = .ok (.iconst 1, 1) := by decide +kernel
theorem d_Net_lose_6 : decode prog_7_method_19_code 6 = .ok (.iadd, 1) := by decide +kernel
theorem d_Net_lose_7 : decode prog_7_method_19_code 7 = .ok (.putfield 221, 3) := by decide +kernel
theorem d_Net_lose_10 : decode prog_7_method_19_code 10 = .ok (.aload_n 0, 1) := by decide +kernel
theorem d_Net_lose_11 : decode prog_7_method_19_code 11 = .ok (.dup, 1) := by decide +kernel
theorem d_Net_lose_12 : decode prog_7_method_19_code 12 = .ok (.getfield 97, 3) := by decide +kernel
theorem d_Net_lose_15 : decode prog_7_method_19_code 15 = .ok (.iconst 1, 1) := by decide +kernel
theorem d_Net_lose_16 : decode prog_7_method_19_code 16 = .ok (.iadd, 1) := by decide +kernel
theorem d_Net_lose_17 : decode prog_7_method_19_code 17 = .ok (.putfield 97, 3) := by decide +kernel
theorem d_Net_lose_20 : decode prog_7_method_19_code 20 = .ok (.return_, 1) := by decide +kernel
def Net_lose (h : g_AH) (this : Nat) (p0 : Option Nat) : Option g_AH :=
  g_nn p0 fun a1 => g_gI h a1 12 11 fun x3 => g_pF h a1 12 11 (.int (x3 + (1 : Int32))) fun h9 => g_gI h9 this 1 9 fun x11 => g_pF h9 this 1 9 (.int (x11 + (1 : Int32))) fun h17 => some h17
set_option maxHeartbeats 4000000 in
set_option maxRecDepth 100000 in
theorem T_Net_lose {l : Launch} {B : g_B} (h : g_AH) (this : Nat) (p0 : Option Nat) (z : g_AH) (hy : Net_lose h this p0 = some z) : g_CT l B y_Net_lose k_Net_lose [.ref this, va_rf p0] h (.inl none) z := by
  refine g_start2 (Lc := [(0, .ref this), (1, va_rf p0)]) (by decide) rfl rfl (by rcases p0 with _ | p0 <;> exact Nat.le_of_ble_eq_true rfl) (by rcases p0 with _ | p0 <;> rfl) fun X => ?_
  unfold Net_lose at hy
  refine g_aloadO_n 1 (i := 1) (pc' := 1) d_Net_lose_0 rfl rfl rfl ?_
  refine g_dup (pc' := 2) d_Net_lose_1 g_cat_rf rfl ?_
  replace hy := g_nn_inv hy
  obtain ⟨a1, rfl, hy⟩ := hy
  replace hy := g_gI_inv hy
  obtain ⟨fs2, x3, hc4, hv5, hy⟩ := hy
  refine g_getfN (pc' := 5) d_Net_lose_2 hc4 rfl (by decide) hv5 q1193 rfl rfl ?_
  refine g_iconst (v := (1 : Int32)) (pc' := 6) d_Net_lose_5 (by decide) rfl ?_
  refine g_iadd (pc' := 7) d_Net_lose_6 rfl ?_
  replace hy := g_pF_inv hy
  obtain ⟨fs6, hc7, hl8, hy⟩ := hy
  refine g_putfN (pc' := 10) d_Net_lose_7 hc7 rfl (by decide) hl8 rfl rfl rfl q1193 rfl rfl ?_
  generalize g_up h a1 (.inr (12, fs6.set 11 (.int (x3 + (1 : Int32))))) = h9 at hy ⊢
  refine g_aload_n 0 (i := 0) (pc' := 11) d_Net_lose_10 rfl rfl rfl ?_
  refine g_dup (pc' := 12) d_Net_lose_11 rfl rfl ?_
  replace hy := g_gI_inv hy
  obtain ⟨fs10, x11, hc12, hv13, hy⟩ := hy
  refine g_getf (pc' := 15) d_Net_lose_12 hc12 rfl (by decide) hv13 q570 (Or.inl rfl) rfl ?_
  refine g_iconst (v := (1 : Int32)) (pc' := 16) d_Net_lose_15 (by decide) rfl ?_
  refine g_iadd (pc' := 17) d_Net_lose_16 rfl ?_
  replace hy := g_pF_inv hy
  obtain ⟨fs14, hc15, hl16, hy⟩ := hy
  refine g_putf (pc' := 20) d_Net_lose_17 hc15 rfl (by decide) hl16 rfl rfl rfl q570 (Or.inl rfl) rfl ?_
  generalize g_up h9 this (.inr (1, fs14.set 9 (.int (x11 + (1 : Int32))))) = h17 at hy ⊢
  cases hy
  exact g_vret rfl rfl rfl d_Net_lose_20
theorem hd_Net_lose : g_dsc y_Net_lose 1 := ⟨by decide +kernel, by decide +kernel, by decide +kernel⟩
/-! CircuitDesk$Net.fail(I)V -/
abbrev y_Net_fail : MethodName := ⟨"CircuitDesk$Net", "fail", "(I)V"⟩
abbrev k_Net_fail : g_M := (prog_7_method_30_code, 3, "CircuitDesk$Net", 15, none, "fail", [], 0)
theorem d_Net_fail_0 : decode prog_7_method_30_code 0 = .ok (.iconst 0, 1) := by decide +kernel
theorem d_Net_fail_1 : decode prog_7_method_30_code 1 = .ok (.istore_n 2, 1) := by decide +kernel
theorem d_Net_fail_2 : decode prog_7_method_30_code 2 = .ok (.iload_n 2, 1) := by decide +kernel
theorem d_Net_fail_3 : decode prog_7_method_30_code 3 = .ok (.aload_n 0, 1) := by decide +kernel
theorem d_Net_fail_4 : decode prog_7_method_30_code 4 = .ok (.getfield 30, 3) := by decide +kernel
theorem d_Net_fail_7 : decode prog_7_method_30_code 7 = .ok (.invokevirtual 112, 3) := by decide +kernel
theorem d_Net_fail_10 : decode prog_7_method_30_code 10 = .ok (.if_icmp .ge 58, 3) := by decide +kernel
theorem d_Net_fail_13 : decode prog_7_method_30_code 13 = .ok (.aload_n 0, 1) := by decide +kernel
theorem d_Net_fail_14 : decode prog_7_method_30_code 14 = .ok (.getfield 30, 3) := by decide +kernel
theorem d_Net_fail_17 : decode prog_7_method_30_code 17 = .ok (.iload_n 2, 1) := by decide +kernel
theorem d_Net_fail_18 : decode prog_7_method_30_code 18 = .ok (.invokevirtual 116, 3) := by decide +kernel
theorem d_Net_fail_21 : decode prog_7_method_30_code 21 = .ok (.checkcast 82, 3) := by decide +kernel
theorem d_Net_fail_24 : decode prog_7_method_30_code 24 = .ok (.getfield 222, 3) := by decide +kernel
theorem d_Net_fail_27 : decode prog_7_method_30_code 27 = .ok (.iload_n 1, 1) := by decide +kernel
theorem d_Net_fail_28 : decode prog_7_method_30_code 28 = .ok (.if_icmp .ne 34, 3) := by decide +kernel
theorem d_Net_fail_31 : decode prog_7_method_30_code 31 = .ok (.aload_n 0, 1) := by decide +kernel
theorem d_Net_fail_32 : decode prog_7_method_30_code 32 = .ok (.aload_n 0, 1) := by decide +kernel
theorem d_Net_fail_33 : decode prog_7_method_30_code 33 = .ok (.getfield 27, 3) := by decide +kernel
theorem d_Net_fail_36 : decode prog_7_method_30_code 36 = .ok (.aload_n 0, 1) := by decide +kernel
theorem d_Net_fail_37 : decode prog_7_method_30_code 37 = .ok (.getfield 30, 3) := by decide +kernel
theorem d_Net_fail_40 : decode prog_7_method_30_code 40 = .ok (.iload_n 2, 1) := by decide +kernel
theorem d_Net_fail_41 : decode prog_7_method_30_code 41 = .ok (.invokevirtual 286, 3) := by decide +kernel
theorem d_Net_fail_44 : decode prog_7_method_30_code 44 = .ok (.checkcast 82, 3) := by decide +kernel
theorem d_Net_fail_47 : decode prog_7_method_30_code 47 = .ok (.getfield 236, 3) := by decide +kernel
theorem d_Net_fail_50 : decode prog_7_method_30_code 50 = .ok (.invokevirtual 116, 3) := by decide +kernel
theorem d_Net_fail_53 : decode prog_7_method_30_code 53 = .ok (.checkcast 77, 3) := by decide +kernel
theorem d_Net_fail_56 : decode prog_7_method_30_code 56 = .ok (.invokevirtual 239, 3) := by decide +kernel
theorem d_Net_fail_59 : decode prog_7_method_30_code 59 = .ok (.goto (-57), 3) := by decide +kernel
theorem d_Net_fail_62 : decode prog_7_method_30_code 62 = .ok (.iinc 2 1, 3) := by decide +kernel
theorem d_Net_fail_65 : decode prog_7_method_30_code 65 = .ok (.goto (-63), 3) := by decide +kernel
theorem d_Net_fail_68 : decode prog_7_method_30_code 68 = .ok (.return_, 1) := by decide +kernel
def Net_fail_2  : Nat → g_AH → Nat → Int32 → Int32 → Option g_AH
  | 0, _, _, _, _ => none
  | n + 1, h, v0, v1, v2 => g_gR h v0 1 4 fun x2 => g_nn x2 fun a5 => g_is h a5 15 <| g_b (ArrayList_size h a5) fun x8 => if x8 ≤ v2 then (some h) else (g_gR h v0 1 4 fun x13 => g_nn x13 fun a16 => g_is h a16 15 <| g_b (ArrayList_get h a16 v2) fun x19 => g_ck h x19 14 <| g_nn x19 fun a23 => g_gI h a23 14 3 fun x25 => if x25 = v1 then (g_gR h v0 1 3 fun x30 => g_gR h v0 1 4 fun x34 => g_nn x34 fun a37 => g_is h a37 15 <| g_b2 (ArrayList_remove h a37 v2) fun x40 h41 => g_ck h41 x40 14 <| g_nn x40 fun a44 => g_gI h41 a44 14 0 fun x46 => g_nn x30 fun a49 => g_is h41 a49 15 <| g_b (ArrayList_get h41 a49 x46) fun x52 => g_ck h41 x52 12 <| g_is h41 v0 1 <| g_b (Net_lose h41 v0 x52) fun h59 => (Net_fail_2  n) h59 v0 v1 v2) else ((Net_fail_2  n) h v0 v1 (v2 + (1 : Int32))))
set_option maxHeartbeats 4000000 in
set_option maxRecDepth 100000 in
theorem W_Net_fail_2 {X : g_X} (z : g_AH)  : ∀ (n : Nat) (h : g_AH) (v0 : Nat) (v1 : Int32) (v2 : Int32), Net_fail_2  n h v0 v1 v2 = some z → G X k_Net_fail (.inl none) z h 2 [(0, .ref v0), (1, .int v1), (2, .int v2)] [] := by
  intro n
  induction n with
  | zero => intro h v0 v1 v2 hy; exact absurd hy (by simp [Net_fail_2])
  | succ n ih =>
    intro h v0 v1 v2 hy
    rw [Net_fail_2] at hy
    refine g_iload_n 2 (i := 2) (pc' := 3) d_Net_fail_2 rfl rfl rfl ?_
    refine g_aload_n 0 (i := 0) (pc' := 4) d_Net_fail_3 rfl rfl rfl ?_
    replace hy := g_gR_inv hy
    obtain ⟨fs1, x2, hc3, hv4, hy⟩ := hy
    refine g_getf (pc' := 7) d_Net_fail_4 hc3 rfl (by decide) hv4 q561 (Or.inl rfl) rfl ?_
    replace hy := g_nn_inv hy
    obtain ⟨a5, rfl, hy⟩ := hy
    replace hy := g_is_inv hy
    obtain ⟨fs6, hc7, hy⟩ := hy
    replace hy := g_b_inv hy
    obtain ⟨x8, hf10, hy⟩ := hy
    refine g_callV (rv := some (.int x8)) (h1 := h) (pc' := 10) (As := []) (rest := [.int v2]) 0 (T_ArrayList_size (hy := hf10)) d_Net_fail_7 hc7 rfl rfl q681 q674 q675 q112 q676 hd_ArrayList_size rfl ⟨by decide, by decide⟩ (by first | exact Nat.le_of_ble_eq_true rfl | (simp only [List.map, List.sum_cons, List.sum_nil, g_cat_rf]; exact Nat.le_of_ble_eq_true rfl) | (simp only [List.map, List.sum_cons, List.sum_nil, g_cat_rf, Value.category]; decide)) rfl ?_
    by_cases c11 : x8 ≤ v2
    · rw [if_pos c11] at hy
      refine g_icmp_geT (pc' := 68) d_Net_fail_10 c11 (by decide) ?_
      cases hy
      exact g_vret rfl rfl rfl d_Net_fail_68
    · rw [if_neg c11] at hy
      refine g_icmp_geF (pc' := 13) d_Net_fail_10 68 c11 (by decide) rfl ?_
      refine g_aload_n 0 (i := 0) (pc' := 14) d_Net_fail_13 rfl rfl rfl ?_
      replace hy := g_gR_inv hy
      obtain ⟨fs12, x13, hc14, hv15, hy⟩ := hy
      refine g_getf (pc' := 17) d_Net_fail_14 hc14 rfl (by decide) hv15 q561 (Or.inl rfl) rfl ?_
      refine g_iload_n 2 (i := 2) (pc' := 18) d_Net_fail_17 rfl rfl rfl ?_
      replace hy := g_nn_inv hy
      obtain ⟨a16, rfl, hy⟩ := hy
      replace hy := g_is_inv hy
      obtain ⟨fs17, hc18, hy⟩ := hy
      replace hy := g_b_inv hy
      obtain ⟨x19, hf21, hy⟩ := hy
      refine g_callV (rv := some (va_rf x19)) (h1 := h) (pc' := 21) (As := [.int v2]) (rest := []) 1 (T_ArrayList_get (hy := hf21)) d_Net_fail_18 hc18 rfl rfl q682 q683 q684 q112 q685 hd_ArrayList_get rfl ⟨by decide, by decide⟩ (by first | exact Nat.le_of_ble_eq_true rfl | (simp only [List.map, List.sum_cons, List.sum_nil, g_cat_rf]; exact Nat.le_of_ble_eq_true rfl) | (simp only [List.map, List.sum_cons, List.sum_nil, g_cat_rf, Value.category]; decide)) rfl ?_
      replace hy := g_ck_inv hy
      obtain ⟨hk22, hy⟩ := hy
      refine g_castO (pc' := 24) d_Net_fail_21 hk22 rfl q1420 rfl ?_
      replace hy := g_nn_inv hy
      obtain ⟨a23, rfl, hy⟩ := hy
      replace hy := g_gI_inv hy
      obtain ⟨fs24, x25, hc26, hv27, hy⟩ := hy
      refine g_getfN (pc' := 27) d_Net_fail_24 hc26 rfl (by decide) hv27 q1812 rfl rfl ?_
      refine g_iload_n 1 (i := 1) (pc' := 28) d_Net_fail_27 rfl rfl rfl ?_
      by_cases c28 : x25 = v1
      · rw [if_pos c28] at hy
        refine g_icmp_neF (pc' := 31) d_Net_fail_28 62 c28 (by decide) rfl ?_
        refine g_aload_n 0 (i := 0) (pc' := 32) d_Net_fail_31 rfl rfl rfl ?_
        refine g_aload_n 0 (i := 0) (pc' := 33) d_Net_fail_32 rfl rfl rfl ?_
        replace hy := g_gR_inv hy
        obtain ⟨fs29, x30, hc31, hv32, hy⟩ := hy
        refine g_getf (pc' := 36) d_Net_fail_33 hc31 rfl (by decide) hv32 q555 (Or.inl rfl) rfl ?_
        refine g_aload_n 0 (i := 0) (pc' := 37) d_Net_fail_36 rfl rfl rfl ?_
        replace hy := g_gR_inv hy
        obtain ⟨fs33, x34, hc35, hv36, hy⟩ := hy
        refine g_getf (pc' := 40) d_Net_fail_37 hc35 rfl (by decide) hv36 q561 (Or.inl rfl) rfl ?_
        refine g_iload_n 2 (i := 2) (pc' := 41) d_Net_fail_40 rfl rfl rfl ?_
        replace hy := g_nn_inv hy
        obtain ⟨a37, rfl, hy⟩ := hy
        replace hy := g_is_inv hy
        obtain ⟨fs38, hc39, hy⟩ := hy
        replace hy := g_b2_inv hy
        obtain ⟨x40, h41, hf42, hy⟩ := hy
        refine g_callV (rv := some (va_rf x40)) (h1 := h41) (pc' := 44) (As := [.int v2]) (rest := [va_rf x30, .ref v0]) 1 (T_ArrayList_remove (hy := hf42)) d_Net_fail_41 hc39 rfl rfl q1421 q1422 q1423 q112 q1424 hd_ArrayList_remove rfl ⟨by decide, by decide⟩ (by first | exact Nat.le_of_ble_eq_true rfl | (simp only [List.map, List.sum_cons, List.sum_nil, g_cat_rf]; exact Nat.le_of_ble_eq_true rfl) | (simp only [List.map, List.sum_cons, List.sum_nil, g_cat_rf, Value.category]; decide)) rfl ?_
        replace hy := g_ck_inv hy
        obtain ⟨hk43, hy⟩ := hy
        refine g_castO (pc' := 47) d_Net_fail_44 hk43 rfl q1420 rfl ?_
        replace hy := g_nn_inv hy
        obtain ⟨a44, rfl, hy⟩ := hy
        replace hy := g_gI_inv hy
        obtain ⟨fs45, x46, hc47, hv48, hy⟩ := hy
        refine g_getfN (pc' := 50) d_Net_fail_47 hc47 rfl (by decide) hv48 q1804 rfl rfl ?_
        replace hy := g_nn_inv hy
        obtain ⟨a49, rfl, hy⟩ := hy
        replace hy := g_is_inv hy
        obtain ⟨fs50, hc51, hy⟩ := hy
        replace hy := g_b_inv hy
        obtain ⟨x52, hf54, hy⟩ := hy
        refine g_callV (rv := some (va_rf x52)) (h1 := h41) (pc' := 53) (As := [.int x46]) (rest := [.ref v0]) 1 (T_ArrayList_get (hy := hf54)) d_Net_fail_50 hc51 rfl rfl q682 q683 q684 q112 q685 hd_ArrayList_get rfl ⟨by decide, by decide⟩ (by first | exact Nat.le_of_ble_eq_true rfl | (simp only [List.map, List.sum_cons, List.sum_nil, g_cat_rf]; exact Nat.le_of_ble_eq_true rfl) | (simp only [List.map, List.sum_cons, List.sum_nil, g_cat_rf, Value.category]; decide)) rfl ?_
        replace hy := g_ck_inv hy
        obtain ⟨hk55, hy⟩ := hy
        refine g_castO (pc' := 56) d_Net_fail_53 hk55 rfl q696 rfl ?_
        replace hy := g_is_inv hy
        obtain ⟨fs56, hc57, hy⟩ := hy
        replace hy := g_b_inv hy
        obtain ⟨h59, hf60, hy⟩ := hy
        refine g_callV (rv := none) (h1 := h59) (pc' := 59) (As := [va_rf x52]) (rest := []) 1 (T_Net_lose (hy := hf60)) d_Net_fail_56 hc57 rfl rfl q1430 q1432 qs18 q109 q1433 hd_Net_lose rfl ⟨by decide, by decide⟩ (by first | exact Nat.le_of_ble_eq_true rfl | (simp only [List.map, List.sum_cons, List.sum_nil, g_cat_rf]; exact Nat.le_of_ble_eq_true rfl) | (simp only [List.map, List.sum_cons, List.sum_nil, g_cat_rf, Value.category]; decide)) rfl ?_
        refine g_goto (pc' := 2) d_Net_fail_59 (by decide) ?_
        exact ih _ _ _ _ hy
      · rw [if_neg c28] at hy
        refine g_icmp_neT (pc' := 62) d_Net_fail_28 c28 (by decide) ?_
        refine g_iinc 2 (v := (v2 + (1 : Int32))) (pc' := 65) (Lc' := [(2, .int (v2 + (1 : Int32))), (0, .ref v0), (1, .int v1)]) d_Net_fail_62 rfl rfl (by decide) rfl rfl ?_
        refine g_goto (pc' := 2) d_Net_fail_65 (by decide) ?_
        refine g_sub [1, 2, 0] rfl ?_
        exact ih _ _ _ _ hy
def Net_fail (h : g_AH) (this : Nat) (p0 : Int32) : Option g_AH :=
  Net_fail_2  gFU h this p0 (0 : Int32)
set_option maxHeartbeats 4000000 in
set_option maxRecDepth 100000 in
theorem T_Net_fail {l : Launch} {B : g_B} (h : g_AH) (this : Nat) (p0 : Int32) (z : g_AH) (hy : Net_fail h this p0 = some z) : g_CT l B y_Net_fail k_Net_fail [.ref this, .int p0] h (.inl none) z := by
  refine g_start2 (Lc := [(0, .ref this), (1, .int p0)]) (by decide) rfl rfl (by exact Nat.le_of_ble_eq_true rfl) (by rfl) fun X => ?_
  unfold Net_fail at hy
  refine g_iconst (v := (0 : Int32)) (pc' := 1) d_Net_fail_0 (by decide) rfl ?_
  refine g_istore_n (i := 2) (pc' := 2) (Lc' := [(2, .int (0 : Int32)), (0, .ref this), (1, .int p0)]) d_Net_fail_1 rfl (by decide) rfl rfl ?_
  refine g_sub [1, 2, 0] rfl ?_
  exact W_Net_fail_2 _ _ _ _ _ _ hy
theorem hd_Net_fail : g_dsc y_Net_fail 1 := ⟨by decide +kernel, by decide +kernel, by decide +kernel⟩
/-! CircuitDesk.setUp(IZ)Z -/
abbrev y_Desk_setUp : MethodName := ⟨"CircuitDesk", "setUp", "(IZ)Z"⟩
abbrev k_Desk_setUp : g_M := (prog_1_method_12_code, 5, "CircuitDesk", 19, (some FieldType.boolean), "setUp", [], 0)
theorem d_Desk_setUp_0 : decode prog_1_method_12_code 0 = .ok (.aload_n 0, 1) := by decide +kernel
theorem d_Desk_setUp_1 : decode prog_1_method_12_code 1 = .ok (.iload_n 1, 1) := by decide +kernel
theorem d_Desk_setUp_2 : decode prog_1_method_12_code 2 = .ok (.invokevirtual 111, 3) := by decide +kernel
theorem d_Desk_setUp_5 : decode prog_1_method_12_code 5 = .ok (.astore_n 3, 1) := by decide +kernel
theorem d_Desk_setUp_6 : decode prog_1_method_12_code 6 = .ok (.aload_n 3, 1) := by decide +kernel
theorem d_Desk_setUp_7 : decode prog_1_method_12_code 7 = .ok (.getfield 115, 3) := by decide +kernel
theorem d_Desk_setUp_10 : decode prog_1_method_12_code 10 = .ok (.istore 4, 2) := by decide +kernel
theorem d_Desk_setUp_12 : decode prog_1_method_12_code 12 = .ok (.aload_n 3, 1) := by decide +kernel
theorem d_Desk_setUp_13 : decode prog_1_method_12_code 13 = .ok (.iload_n 2, 1) := by decide +kernel
theorem d_Desk_setUp_14 : decode prog_1_method_12_code 14 = .ok (.putfield 115, 3) := by decide +kernel
theorem d_Desk_setUp_17 : decode prog_1_method_12_code 17 = .ok (.iload_n 2, 1) := by decide +kernel
theorem d_Desk_setUp_18 : decode prog_1_method_12_code 18 = .ok (.ifCond .ne 11, 3) := by decide +kernel
theorem d_Desk_setUp_21 : decode prog_1_method_12_code 21 = .ok (.aload_n 0, 1) := by decide +kernel
theorem d_Desk_setUp_22 : decode prog_1_method_12_code 22 = .ok (.getfield 19, 3) := by decide +kernel
theorem d_Desk_setUp_25 : decode prog_1_method_12_code 25 = .ok (.iload_n 1, 1) := by decide +kernel
theorem d_Desk_setUp_26 : decode prog_1_method_12_code 26 = .ok (.invokevirtual 119, 3) := by decide +kernel
theorem d_Desk_setUp_29 : decode prog_1_method_12_code 29 = .ok (.iload 4, 2) := by decide +kernel
theorem d_Desk_setUp_31 : decode prog_1_method_12_code 31 = .ok (.ireturn, 1) := by decide +kernel
def Desk_setUp (h : g_AH) (this : Nat) (p0 : Int32) (p1 : Int32) : Option ((Int32 ⊕ g_EX) × g_AH) :=
  g_is h this 0 <| g_bx (Desk_linkOf h this p0) fun x3 h4 => g_nn x3 fun a8 => g_gI h4 a8 11 4 fun x10 => g_rq (p1 = 0 ∨ p1 = 1) <| g_pF h4 a8 11 4 (.int p1) fun h17 => if p1 = 0 then (g_gR h17 this 0 0 fun x21 => g_nn x21 fun a24 => g_is h17 a24 1 <| g_b (Net_fail h17 a24 p0) fun h28 => g_rq (x10 = 0 ∨ x10 = 1) <| some (.inl x10, h28)) else (g_rq (x10 = 0 ∨ x10 = 1) <| some (.inl x10, h17))
set_option maxHeartbeats 4000000 in
set_option maxRecDepth 100000 in
theorem T_Desk_setUp {l : Launch} {B : g_B} (h : g_AH) (this : Nat) (p0 : Int32) (p1 : Int32) (z : (Int32 ⊕ g_EX) × g_AH) (hy : Desk_setUp h this p0 p1 = some z) : g_CT l B y_Desk_setUp k_Desk_setUp [.ref this, .int p0, .int p1] h (g_rI z.1) z.2 := by
  refine g_start2 (Lc := [(0, .ref this), (1, .int p0), (2, .int p1)]) (by decide) rfl rfl (by exact Nat.le_of_ble_eq_true rfl) (by rfl) fun X => ?_
  unfold Desk_setUp at hy
  refine g_aload_n 0 (i := 0) (pc' := 1) d_Desk_setUp_0 rfl rfl rfl ?_
  refine g_iload_n 1 (i := 1) (pc' := 2) d_Desk_setUp_1 rfl rfl rfl ?_
  replace hy := g_is_inv hy
  obtain ⟨fs1, hc2, hy⟩ := hy
  replace hy := g_bx_inv hy
  rcases hy with ⟨x3, h4, hf5, hy⟩ | ⟨⟨E9, q9⟩, h4, hf5, ez7⟩
  rotate_left
  · subst ez7
    exact g_callVX (As := [.int p0]) (rest := []) 1 (T_Desk_linkOf (hy := hf5)) d_Desk_setUp_2 hc2 rfl rfl q1412 q1414 qs16 q108 q1415 hd_Desk_linkOf rfl ⟨by decide, by decide⟩ (by first | exact Nat.le_of_ble_eq_true rfl | (simp only [List.map, List.sum_cons, List.sum_nil, g_cat_rf]; exact Nat.le_of_ble_eq_true rfl) | (simp only [List.map, List.sum_cons, List.sum_nil, g_cat_rf, Value.category]; decide)) rfl rfl
  refine g_callV (rv := some (va_rf x3)) (h1 := h4) (pc' := 5) (As := [.int p0]) (rest := []) 1 (T_Desk_linkOf (hy := hf5)) d_Desk_setUp_2 hc2 rfl rfl q1412 q1414 qs16 q108 q1415 hd_Desk_linkOf rfl ⟨by decide, by decide⟩ (by first | exact Nat.le_of_ble_eq_true rfl | (simp only [List.map, List.sum_cons, List.sum_nil, g_cat_rf]; exact Nat.le_of_ble_eq_true rfl) | (simp only [List.map, List.sum_cons, List.sum_nil, g_cat_rf, Value.category]; decide)) rfl ?_
  refine g_astoreO_n (i := 3) (pc' := 6) (Lc' := [(3, va_rf x3), (0, .ref this), (1, .int p0), (2, .int p1)]) d_Desk_setUp_5 rfl (by decide) rfl rfl ?_
  refine g_aloadO_n 0 (i := 3) (pc' := 7) d_Desk_setUp_6 rfl rfl rfl ?_
  replace hy := g_nn_inv hy
  obtain ⟨a8, rfl, hy⟩ := hy
  replace hy := g_gI_inv hy
  obtain ⟨fs9, x10, hc11, hv12, hy⟩ := hy
  refine g_getfN (pc' := 10) d_Desk_setUp_7 hc11 rfl (by decide) hv12 q1122 rfl rfl ?_
  refine g_istore (pc' := 12) (Lc' := [(4, .int x10), (3, .ref a8), (0, .ref this), (1, .int p0), (2, .int p1)]) d_Desk_setUp_10 (by decide) rfl rfl ?_
  refine g_aload_n 1 (i := 3) (pc' := 13) d_Desk_setUp_12 rfl rfl rfl ?_
  refine g_iload_n 4 (i := 2) (pc' := 14) d_Desk_setUp_13 rfl rfl rfl ?_
  replace hy := g_rq_inv hy
  obtain ⟨c13, hy⟩ := hy
  replace hy := g_pF_inv hy
  obtain ⟨fs14, hc15, hl16, hy⟩ := hy
  refine g_putfN (pc' := 17) d_Desk_setUp_14 hc15 rfl (by decide) hl16 rfl (g_nar_z c13).1 (g_nar_z c13).2 q1122 rfl rfl ?_
  generalize g_up h4 a8 (.inr (11, fs14.set 4 (.int p1))) = h17 at hy ⊢
  refine g_iload_n 4 (i := 2) (pc' := 18) d_Desk_setUp_17 rfl rfl rfl ?_
  by_cases c18 : p1 = 0
  · rw [if_pos c18] at hy
    refine g_if_neF (pc' := 21) d_Desk_setUp_18 29 c18 (by decide) rfl ?_
    refine g_aload_n 2 (i := 0) (pc' := 22) d_Desk_setUp_21 rfl rfl rfl ?_
    replace hy := g_gR_inv hy
    obtain ⟨fs20, x21, hc22, hv23, hy⟩ := hy
    refine g_getf (pc' := 25) d_Desk_setUp_22 hc22 rfl (by decide) hv23 q642 (Or.inl rfl) rfl ?_
    refine g_iload_n 3 (i := 1) (pc' := 26) d_Desk_setUp_25 rfl rfl rfl ?_
    replace hy := g_nn_inv hy
    obtain ⟨a24, rfl, hy⟩ := hy
    replace hy := g_is_inv hy
    obtain ⟨fs25, hc26, hy⟩ := hy
    replace hy := g_b_inv hy
    obtain ⟨h28, hf29, hy⟩ := hy
    refine g_callV (rv := none) (h1 := h28) (pc' := 29) (As := [.int p0]) (rest := []) 1 (T_Net_fail (hy := hf29)) d_Desk_setUp_26 hc26 rfl rfl q1416 q1417 q1418 q109 q1419 hd_Net_fail rfl ⟨by decide, by decide⟩ (by first | exact Nat.le_of_ble_eq_true rfl | (simp only [List.map, List.sum_cons, List.sum_nil, g_cat_rf]; exact Nat.le_of_ble_eq_true rfl) | (simp only [List.map, List.sum_cons, List.sum_nil, g_cat_rf, Value.category]; decide)) rfl ?_
    refine g_iload 0 (pc' := 31) d_Desk_setUp_29 rfl rfl ?_
    replace hy := g_rq_inv hy
    obtain ⟨c30, hy⟩ := hy
    cases hy
    exact g_zret rfl rfl rfl (g_nar_z c30).1 d_Desk_setUp_31
  · rw [if_neg c18] at hy
    refine g_if_neT (pc' := 29) d_Desk_setUp_18 c18 (by decide) ?_
    refine g_iload 0 (pc' := 31) d_Desk_setUp_29 rfl rfl ?_
    replace hy := g_rq_inv hy
    obtain ⟨c19, hy⟩ := hy
    cases hy
    exact g_zret rfl rfl rfl (g_nar_z c19).1 d_Desk_setUp_31
theorem hd_Desk_setUp : g_dsc y_Desk_setUp 2 := ⟨by decide +kernel, by decide +kernel, by decide +kernel⟩
/-! CircuitDesk.mostOf(I)I -/
abbrev y_Desk_mostOf : MethodName := ⟨"CircuitDesk", "mostOf", "(I)I"⟩
abbrev k_Desk_mostOf : g_M := (prog_1_method_13_code, 1, "CircuitDesk", 12, (some FieldType.int), "mostOf", [], 0)
theorem d_Desk_mostOf_0 : decode prog_1_method_13_code 0 = .ok (.iload_n 0, 1) := by decide +kernel
theorem d_Desk_mostOf_1 : decode prog_1_method_13_code 1 = .ok (.ifCond .ne 7, 3) := by decide +kernel
theorem d_Desk_mostOf_4 : decode prog_1_method_13_code 4 = .ok (.iconst 4, 1) := by decide +kernel
theorem d_Desk_mostOf_5 : decode prog_1_method_13_code 5 = .ok (.goto 4, 3) := by decide +kernel
theorem d_Desk_mostOf_8 : decode prog_1_method_13_code 8 = .ok (.iconst 1, 1) := by decide +kernel
theorem d_Desk_mostOf_9 : decode prog_1_method_13_code 9 = .ok (.ireturn, 1) := by decide +kernel
def Desk_mostOf (p0 : Int32) : Option (Int32) :=
  if p0 = 0 then (some (4 : Int32)) else (some (1 : Int32))
set_option maxHeartbeats 4000000 in
set_option maxRecDepth 100000 in
theorem T_Desk_mostOf {l : Launch} {B : g_B} {h : g_AH} (p0 : Int32) (z : Int32) (hy : Desk_mostOf p0 = some z) : g_CT l B y_Desk_mostOf k_Desk_mostOf [.int p0] h (.inl (some (.int z))) h := by
  refine g_start2 (Lc := [(0, .int p0)]) (by decide) rfl rfl (by exact Nat.le_of_ble_eq_true rfl) (by rfl) fun X => ?_
  unfold Desk_mostOf at hy
  refine g_iload_n 0 (i := 0) (pc' := 1) d_Desk_mostOf_0 rfl rfl rfl ?_
  by_cases c1 : p0 = 0
  · rw [if_pos c1] at hy
    refine g_if_neF (pc' := 4) d_Desk_mostOf_1 8 c1 (by decide) rfl ?_
    refine g_iconst (v := (4 : Int32)) (pc' := 5) d_Desk_mostOf_4 (by decide) rfl ?_
    refine g_goto (pc' := 9) d_Desk_mostOf_5 (by decide) ?_
    cases hy
    exact g_iret rfl rfl rfl d_Desk_mostOf_9
  · rw [if_neg c1] at hy
    refine g_if_neT (pc' := 8) d_Desk_mostOf_1 c1 (by decide) ?_
    refine g_iconst (v := (1 : Int32)) (pc' := 9) d_Desk_mostOf_8 (by decide) rfl ?_
    cases hy
    exact g_iret rfl rfl rfl d_Desk_mostOf_9
theorem hd_Desk_mostOf : g_dsc y_Desk_mostOf 1 := ⟨by decide +kernel, by decide +kernel, by decide +kernel⟩
/-! CircuitDesk.set(II)I -/
abbrev y_Desk_set : MethodName := ⟨"CircuitDesk", "set", "(II)I"⟩
abbrev k_Desk_set : g_M := (prog_1_method_14_code, 4, "CircuitDesk", 18, (some FieldType.int), "set", [], 0)
theorem d_Desk_set_0 : decode prog_1_method_14_code 0 = .ok (.iload_n 1, 1) := by decide +kernel
theorem d_Desk_set_1 : decode prog_1_method_14_code 1 = .ok (.i2l, 1) := by decide +kernel
theorem d_Desk_set_2 : decode prog_1_method_14_code 2 = .ok (.lconst 0, 1) := by decide +kernel
theorem d_Desk_set_3 : decode prog_1_method_14_code 3 = .ok (.lconst 1, 1) := by decide +kernel
theorem d_Desk_set_4 : decode prog_1_method_14_code 4 = .ok (.invokestatic 54, 3) := by decide +kernel
theorem d_Desk_set_7 : decode prog_1_method_14_code 7 = .ok (.invokestatic 80, 3) := by decide +kernel
theorem d_Desk_set_10 : decode prog_1_method_14_code 10 = .ok (.iload_n 2, 1) := by decide +kernel
theorem d_Desk_set_11 : decode prog_1_method_14_code 11 = .ok (.i2l, 1) := by decide +kernel
theorem d_Desk_set_12 : decode prog_1_method_14_code 12 = .ok (.lconst 0, 1) := by decide +kernel
theorem d_Desk_set_13 : decode prog_1_method_14_code 13 = .ok (.iload_n 1, 1) := by decide +kernel
theorem d_Desk_set_14 : decode prog_1_method_14_code 14 = .ok (.invokestatic 122, 3) := by decide +kernel
theorem d_Desk_set_17 : decode prog_1_method_14_code 17 = .ok (.i2l, 1) := by decide +kernel
theorem d_Desk_set_18 : decode prog_1_method_14_code 18 = .ok (.invokestatic 54, 3) := by decide +kernel
theorem d_Desk_set_21 : decode prog_1_method_14_code 21 = .ok (.invokestatic 80, 3) := by decide +kernel
theorem d_Desk_set_24 : decode prog_1_method_14_code 24 = .ok (.aload_n 0, 1) := by decide +kernel
theorem d_Desk_set_25 : decode prog_1_method_14_code 25 = .ok (.getfield 19, 3) := by decide +kernel
theorem d_Desk_set_28 : decode prog_1_method_14_code 28 = .ok (.getfield 126, 3) := by decide +kernel
theorem d_Desk_set_31 : decode prog_1_method_14_code 31 = .ok (.iload_n 1, 1) := by decide +kernel
theorem d_Desk_set_32 : decode prog_1_method_14_code 32 = .ok (.iaload, 1) := by decide +kernel
theorem d_Desk_set_33 : decode prog_1_method_14_code 33 = .ok (.istore_n 3, 1) := by decide +kernel
theorem d_Desk_set_34 : decode prog_1_method_14_code 34 = .ok (.aload_n 0, 1) := by decide +kernel
theorem d_Desk_set_35 : decode prog_1_method_14_code 35 = .ok (.getfield 19, 3) := by decide +kernel
theorem d_Desk_set_38 : decode prog_1_method_14_code 38 = .ok (.getfield 126, 3) := by decide +kernel
theorem d_Desk_set_41 : decode prog_1_method_14_code 41 = .ok (.iload_n 1, 1) := by decide +kernel
theorem d_Desk_set_42 : decode prog_1_method_14_code 42 = .ok (.iload_n 2, 1) := by decide +kernel
theorem d_Desk_set_43 : decode prog_1_method_14_code 43 = .ok (.iastore, 1) := by decide +kernel
theorem d_Desk_set_44 : decode prog_1_method_14_code 44 = .ok (.iload_n 3, 1) := by decide +kernel
theorem d_Desk_set_45 : decode prog_1_method_14_code 45 = .ok (.ireturn, 1) := by decide +kernel
def Desk_set (h : g_AH) (this : Nat) (p0 : Int32) (p1 : Int32) : Option ((Int32 ⊕ g_EX) × g_AH) :=
  g_b (Desk_isBetween ((p0).toInt64) (0 : Int64) (1 : Int64)) fun x1 => g_bx (Desk_checkArgument h x1) fun x4 h5 => g_b (Desk_mostOf p0) fun x9 => g_b (Desk_isBetween ((p1).toInt64) (0 : Int64) ((x9).toInt64)) fun x12 => g_bx (Desk_checkArgument h5 x12) fun x15 h16 => g_gR h16 this 0 0 fun x21 => g_nn x21 fun a24 => g_gR h16 a24 1 0 fun x26 => g_nn x26 fun a29 => g_aI h16 0 a29 p0 fun x30 => g_gR h16 this 0 0 fun x36 => g_nn x36 fun a39 => g_gR h16 a39 1 0 fun x41 => g_nn x41 fun a44 => g_sI h16 0 a44 p0 p1 fun h49 => some (.inl x30, h49)
set_option maxHeartbeats 4000000 in
set_option maxRecDepth 100000 in
theorem T_Desk_set {l : Launch} {B : g_B} (h : g_AH) (this : Nat) (p0 : Int32) (p1 : Int32) (z : (Int32 ⊕ g_EX) × g_AH) (hy : Desk_set h this p0 p1 = some z) : g_CT l B y_Desk_set k_Desk_set [.ref this, .int p0, .int p1] h (g_rI z.1) z.2 := by
  refine g_start2 (Lc := [(0, .ref this), (1, .int p0), (2, .int p1)]) (by decide) rfl rfl (by exact Nat.le_of_ble_eq_true rfl) (by rfl) fun X => ?_
  unfold Desk_set at hy
  refine g_iload_n 1 (i := 1) (pc' := 1) d_Desk_set_0 rfl rfl rfl ?_
  refine g_i2l (pc' := 2) d_Desk_set_1 rfl ?_
  refine g_lconst (v := 0) (pc' := 3) d_Desk_set_2 (by decide) rfl ?_
  refine g_lconst (v := 1) (pc' := 4) d_Desk_set_3 (by decide) rfl ?_
  replace hy := g_b_inv hy
  obtain ⟨x1, hf3, hy⟩ := hy
  refine g_callS (rv := some (.int x1)) (h1 := h) (pc' := 7) (As := [.long ((p0).toInt64), .long (0 : Int64), .long (1 : Int64)]) (rest := []) 3 (T_Desk_isBetween (hy := hf3)) d_Desk_set_4 q1330 q828 q108 q829 hd_Desk_isBetween rfl ⟨by decide, by decide⟩ (by first | exact Nat.le_of_ble_eq_true rfl | (simp only [List.map, List.sum_cons, List.sum_nil, g_cat_rf]; exact Nat.le_of_ble_eq_true rfl) | (simp only [List.map, List.sum_cons, List.sum_nil, g_cat_rf, Value.category]; decide)) rfl ?_
  replace hy := g_bx_inv hy
  rcases hy with ⟨x4, h5, hf6, hy⟩ | ⟨⟨E9, q9⟩, h5, hf6, ez8⟩
  rotate_left
  · subst ez8
    exact g_callSX (As := [.int x1]) (rest := []) 1 (T_Desk_checkArgument (hy := hf6)) d_Desk_set_7 q1331 q1332 q108 q1333 hd_Desk_checkArgument rfl ⟨by decide, by decide⟩ (by first | exact Nat.le_of_ble_eq_true rfl | (simp only [List.map, List.sum_cons, List.sum_nil, g_cat_rf]; exact Nat.le_of_ble_eq_true rfl) | (simp only [List.map, List.sum_cons, List.sum_nil, g_cat_rf, Value.category]; decide)) rfl rfl
  refine g_callS (rv := none) (h1 := h5) (pc' := 10) (As := [.int x1]) (rest := []) 1 (T_Desk_checkArgument (hy := hf6)) d_Desk_set_7 q1331 q1332 q108 q1333 hd_Desk_checkArgument rfl ⟨by decide, by decide⟩ (by first | exact Nat.le_of_ble_eq_true rfl | (simp only [List.map, List.sum_cons, List.sum_nil, g_cat_rf]; exact Nat.le_of_ble_eq_true rfl) | (simp only [List.map, List.sum_cons, List.sum_nil, g_cat_rf, Value.category]; decide)) rfl ?_
  refine g_iload_n 2 (i := 2) (pc' := 11) d_Desk_set_10 rfl rfl rfl ?_
  refine g_i2l (pc' := 12) d_Desk_set_11 rfl ?_
  refine g_lconst (v := 0) (pc' := 13) d_Desk_set_12 (by decide) rfl ?_
  refine g_iload_n 1 (i := 1) (pc' := 14) d_Desk_set_13 rfl rfl rfl ?_
  replace hy := g_b_inv hy
  obtain ⟨x9, hf11, hy⟩ := hy
  refine g_callS (rv := some (.int x9)) (h1 := h5) (pc' := 17) (As := [.int p0]) (rest := [.long (0 : Int64), .long ((p1).toInt64)]) 1 (T_Desk_mostOf (hy := hf11)) d_Desk_set_14 q1441 q1279 q108 q1280 hd_Desk_mostOf rfl ⟨by decide, by decide⟩ (by first | exact Nat.le_of_ble_eq_true rfl | (simp only [List.map, List.sum_cons, List.sum_nil, g_cat_rf]; exact Nat.le_of_ble_eq_true rfl) | (simp only [List.map, List.sum_cons, List.sum_nil, g_cat_rf, Value.category]; decide)) rfl ?_
  refine g_i2l (pc' := 18) d_Desk_set_17 rfl ?_
  replace hy := g_b_inv hy
  obtain ⟨x12, hf14, hy⟩ := hy
  refine g_callS (rv := some (.int x12)) (h1 := h5) (pc' := 21) (As := [.long ((p1).toInt64), .long (0 : Int64), .long ((x9).toInt64)]) (rest := []) 3 (T_Desk_isBetween (hy := hf14)) d_Desk_set_18 q1330 q828 q108 q829 hd_Desk_isBetween rfl ⟨by decide, by decide⟩ (by first | exact Nat.le_of_ble_eq_true rfl | (simp only [List.map, List.sum_cons, List.sum_nil, g_cat_rf]; exact Nat.le_of_ble_eq_true rfl) | (simp only [List.map, List.sum_cons, List.sum_nil, g_cat_rf, Value.category]; decide)) rfl ?_
  replace hy := g_bx_inv hy
  rcases hy with ⟨x15, h16, hf17, hy⟩ | ⟨⟨E9, q9⟩, h16, hf17, ez19⟩
  rotate_left
  · subst ez19
    exact g_callSX (As := [.int x12]) (rest := []) 1 (T_Desk_checkArgument (hy := hf17)) d_Desk_set_21 q1331 q1332 q108 q1333 hd_Desk_checkArgument rfl ⟨by decide, by decide⟩ (by first | exact Nat.le_of_ble_eq_true rfl | (simp only [List.map, List.sum_cons, List.sum_nil, g_cat_rf]; exact Nat.le_of_ble_eq_true rfl) | (simp only [List.map, List.sum_cons, List.sum_nil, g_cat_rf, Value.category]; decide)) rfl rfl
  refine g_callS (rv := none) (h1 := h16) (pc' := 24) (As := [.int x12]) (rest := []) 1 (T_Desk_checkArgument (hy := hf17)) d_Desk_set_21 q1331 q1332 q108 q1333 hd_Desk_checkArgument rfl ⟨by decide, by decide⟩ (by first | exact Nat.le_of_ble_eq_true rfl | (simp only [List.map, List.sum_cons, List.sum_nil, g_cat_rf]; exact Nat.le_of_ble_eq_true rfl) | (simp only [List.map, List.sum_cons, List.sum_nil, g_cat_rf, Value.category]; decide)) rfl ?_
  refine g_aload_n 0 (i := 0) (pc' := 25) d_Desk_set_24 rfl rfl rfl ?_
  replace hy := g_gR_inv hy
  obtain ⟨fs20, x21, hc22, hv23, hy⟩ := hy
  refine g_getf (pc' := 28) d_Desk_set_25 hc22 rfl (by decide) hv23 q642 (Or.inl rfl) rfl ?_
  replace hy := g_nn_inv hy
  obtain ⟨a24, rfl, hy⟩ := hy
  replace hy := g_gR_inv hy
  obtain ⟨fs25, x26, hc27, hv28, hy⟩ := hy
  refine g_getfN (pc' := 31) d_Desk_set_28 hc27 rfl (by decide) hv28 q546 rfl rfl ?_
  refine g_iload_n 1 (i := 1) (pc' := 32) d_Desk_set_31 rfl rfl rfl ?_
  replace hy := g_nn_inv hy
  obtain ⟨a29, rfl, hy⟩ := hy
  replace hy := g_aI_inv hy
  obtain ⟨n31, f32, hc33, hi34, hy⟩ := hy
  refine g_iald (pc' := 33) d_Desk_set_32 hc33 hi34 rfl ?_
  generalize f32 (p0).toNatClampNeg = x30 at hy ⊢
  refine g_istore_n (i := 3) (pc' := 34) (Lc' := [(3, .int x30), (0, .ref this), (1, .int p0), (2, .int p1)]) d_Desk_set_33 rfl (by decide) rfl rfl ?_
  refine g_aload_n 1 (i := 0) (pc' := 35) d_Desk_set_34 rfl rfl rfl ?_
  replace hy := g_gR_inv hy
  obtain ⟨fs35, x36, hc37, hv38, hy⟩ := hy
  refine g_getf (pc' := 38) d_Desk_set_35 hc37 rfl (by decide) hv38 q642 (Or.inl rfl) rfl ?_
  replace hy := g_nn_inv hy
  obtain ⟨a39, rfl, hy⟩ := hy
  replace hy := g_gR_inv hy
  obtain ⟨fs40, x41, hc42, hv43, hy⟩ := hy
  refine g_getfN (pc' := 41) d_Desk_set_38 hc42 rfl (by decide) hv43 q546 rfl rfl ?_
  refine g_iload_n 2 (i := 1) (pc' := 42) d_Desk_set_41 rfl rfl rfl ?_
  refine g_iload_n 3 (i := 2) (pc' := 43) d_Desk_set_42 rfl rfl rfl ?_
  replace hy := g_nn_inv hy
  obtain ⟨a44, rfl, hy⟩ := hy
  replace hy := g_sI_inv hy
  obtain ⟨n45, f46, hc47, hi48, hy⟩ := hy
  refine g_iast (pc' := 44) d_Desk_set_43 hc47 hi48 rfl ?_
  generalize g_up h16 a44 (.inl (0, n45, .inl (upd f46 (p0).toNatClampNeg p1))) = h49 at hy ⊢
  refine g_iload_n 0 (i := 3) (pc' := 45) d_Desk_set_44 rfl rfl rfl ?_
  cases hy
  exact g_iret rfl rfl rfl d_Desk_set_45
theorem hd_Desk_set : g_dsc y_Desk_set 2 := ⟨by decide +kernel, by decide +kernel, by decide +kernel⟩
/-! CircuitDesk$Node.heldBy(I)I -/
abbrev y_Node_heldBy : MethodName := ⟨"CircuitDesk$Node", "heldBy", "(I)I"⟩
abbrev k_Node_heldBy : g_M := (prog_8_method_3_code, 4, "CircuitDesk$Node", 12, (some FieldType.int), "heldBy", [], 0)
theorem d_Node_heldBy_0 : decode prog_8_method_3_code 0 = .ok (.iconst 0, 1) := by decide +kernel
theorem d_Node_heldBy_1 : decode prog_8_method_3_code 1 = .ok (.istore_n 2, 1) := by decide +kernel
theorem d_Node_heldBy_2 : decode prog_8_method_3_code 2 = .ok (.iconst 0, 1) := by decide +kernel
theorem d_Node_heldBy_3 : decode prog_8_method_3_code 3 = .ok (.istore_n 3, 1) := by decide +kernel
theorem d_Node_heldBy_4 : decode prog_8_method_3_code 4 = .ok (.iload_n 3, 1) := by decide +kernel
theorem d_Node_heldBy_5 : decode prog_8_method_3_code 5 = .ok (.aload_n 0, 1) := by decide +kernel
theorem d_Node_heldBy_6 : decode prog_8_method_3_code 6 = .ok (.getfield 9, 3) := by decide +kernel
theorem d_Node_heldBy_9 : decode prog_8_method_3_code 9 = .ok (.if_icmp .ge 27, 3) := by decide +kernel
theorem d_Node_heldBy_12 : decode prog_8_method_3_code 12 = .ok (.iload_n 2, 1) := by decide +kernel
theorem d_Node_heldBy_13 : decode prog_8_method_3_code 13 = .ok (.aload_n 0, 1) := by decide +kernel
theorem d_Node_heldBy_14 : decode prog_8_method_3_code 14 = .ok (.getfield 15, 3) := by decide +kernel
theorem d_Node_heldBy_17 : decode prog_8_method_3_code 17 = .ok (.iload_n 3, 1) := by decide +kernel
theorem d_Node_heldBy_18 : decode prog_8_method_3_code 18 = .ok (.iaload, 1) := by decide +kernel
theorem d_Node_heldBy_19 : decode prog_8_method_3_code 19 = .ok (.iload_n 1, 1) := by decide +kernel
theorem d_Node_heldBy_20 : decode prog_8_method_3_code 20 = .ok (.if_icmp .ne 7, 3) := by decide +kernel
theorem d_Node_heldBy_23 : decode prog_8_method_3_code 23 = .ok (.iconst 1, 1) := by decide +kernel
theorem d_Node_heldBy_24 : decode prog_8_method_3_code 24 = .ok (.goto 4, 3) := by decide +kernel
theorem d_Node_heldBy_27 : decode prog_8_method_3_code 27 = .ok (.iconst 0, 1) := by decide +kernel
theorem d_Node_heldBy_28 : decode prog_8_method_3_code 28 = .ok (.iadd, 1) := by decide +kernel
theorem d_Node_heldBy_29 : decode prog_8_method_3_code 29 = .ok (.istore_n 2, 1) := by decide +kernel
theorem d_Node_heldBy_30 : decode prog_8_method_3_code 30 = .ok (.iinc 3 1, 3) := by decide +kernel
theorem d_Node_heldBy_33 : decode prog_8_method_3_code 33 = .ok (.goto (-29), 3) := by decide +kernel
theorem d_Node_heldBy_36 : decode prog_8_method_3_code 36 = .ok (.iload_n 2, 1) := by decide +kernel
theorem d_Node_heldBy_37 : decode prog_8_method_3_code 37 = .ok (.ireturn, 1) := by decide +kernel
def Node_heldBy_28 (h : g_AH) (k4 : Nat → Int32 → Int32 → Int32 → Option (Int32)) (v0 : Nat) (v1 : Int32) (v3 : Int32) (s0 : Int32) (s1 : Int32) : Option (Int32) :=
  k4 v0 v1 (s1 + s0) (v3 + (1 : Int32))
set_option maxHeartbeats 4000000 in
set_option maxRecDepth 100000 in
theorem W_Node_heldBy_28 {X : g_X} (h : g_AH) (z : Int32) (k4 : Nat → Int32 → Int32 → Int32 → Option (Int32)) (hk4 : ∀ (v0 : Nat) (v1 : Int32) (v2 : Int32) (v3 : Int32), k4 v0 v1 v2 v3 = some z → G X k_Node_heldBy (.inl (some (.int z))) h h 4 [(0, .ref v0), (1, .int v1), (2, .int v2), (3, .int v3)] []) (v0 : Nat) (v1 : Int32) (v3 : Int32) (s0 : Int32) (s1 : Int32) (hy : Node_heldBy_28 h k4 v0 v1 v3 s0 s1 = some z) : G X k_Node_heldBy (.inl (some (.int z))) h h 28 [(0, .ref v0), (1, .int v1), (3, .int v3)] [.int s0, .int s1] := by
  unfold Node_heldBy_28 at hy
  refine g_iadd (pc' := 29) d_Node_heldBy_28 rfl ?_
  refine g_istore_n (i := 2) (pc' := 30) (Lc' := [(2, .int (s1 + s0)), (0, .ref v0), (1, .int v1), (3, .int v3)]) d_Node_heldBy_29 rfl (by decide) rfl rfl ?_
  refine g_iinc 3 (v := (v3 + (1 : Int32))) (pc' := 33) (Lc' := [(3, .int (v3 + (1 : Int32))), (2, .int (s1 + s0)), (0, .ref v0), (1, .int v1)]) d_Node_heldBy_30 rfl rfl (by decide) rfl rfl ?_
  refine g_goto (pc' := 4) d_Node_heldBy_33 (by decide) ?_
  refine g_sub [2, 3, 1, 0] rfl ?_
  exact hk4 _ _ _ _ hy
def Node_heldBy_4 (h : g_AH)  : Nat → Nat → Int32 → Int32 → Int32 → Option (Int32)
  | 0, _, _, _, _ => none
  | n + 1, v0, v1, v2, v3 => g_gI h v0 10 0 fun x2 => if x2 ≤ v3 then (some v2) else (g_gR h v0 10 1 fun x7 => g_nn x7 fun a10 => g_aI h 0 a10 v3 fun x11 => if x11 = v1 then (Node_heldBy_28 h (Node_heldBy_4 h  n) v0 v1 v3 (1 : Int32) v2) else (Node_heldBy_28 h (Node_heldBy_4 h  n) v0 v1 v3 (0 : Int32) v2))
set_option maxHeartbeats 4000000 in
set_option maxRecDepth 100000 in
theorem W_Node_heldBy_4 {X : g_X} (h : g_AH) (z : Int32)  : ∀ (n : Nat) (v0 : Nat) (v1 : Int32) (v2 : Int32) (v3 : Int32), Node_heldBy_4 h  n v0 v1 v2 v3 = some z → G X k_Node_heldBy (.inl (some (.int z))) h h 4 [(0, .ref v0), (1, .int v1), (2, .int v2), (3, .int v3)] [] := by
  intro n
  induction n with
  | zero => intro v0 v1 v2 v3 hy; exact absurd hy (by simp [Node_heldBy_4])
  | succ n ih =>
    intro v0 v1 v2 v3 hy
    rw [Node_heldBy_4] at hy
    refine g_iload_n 3 (i := 3) (pc' := 5) d_Node_heldBy_4 rfl rfl rfl ?_
    refine g_aload_n 0 (i := 0) (pc' := 6) d_Node_heldBy_5 rfl rfl rfl ?_
    replace hy := g_gI_inv hy
    obtain ⟨fs1, x2, hc3, hv4, hy⟩ := hy
    refine g_getf (pc' := 9) d_Node_heldBy_6 hc3 rfl (by decide) hv4 q1010 (Or.inl rfl) rfl ?_
    by_cases c5 : x2 ≤ v3
    · rw [if_pos c5] at hy
      refine g_icmp_geT (pc' := 36) d_Node_heldBy_9 c5 (by decide) ?_
      refine g_iload_n 2 (i := 2) (pc' := 37) d_Node_heldBy_36 rfl rfl rfl ?_
      cases hy
      exact g_iret rfl rfl rfl d_Node_heldBy_37
    · rw [if_neg c5] at hy
      refine g_icmp_geF (pc' := 12) d_Node_heldBy_9 36 c5 (by decide) rfl ?_
      refine g_iload_n 2 (i := 2) (pc' := 13) d_Node_heldBy_12 rfl rfl rfl ?_
      refine g_aload_n 0 (i := 0) (pc' := 14) d_Node_heldBy_13 rfl rfl rfl ?_
      replace hy := g_gR_inv hy
      obtain ⟨fs6, x7, hc8, hv9, hy⟩ := hy
      refine g_getf (pc' := 17) d_Node_heldBy_14 hc8 rfl (by decide) hv9 q1013 (Or.inl rfl) rfl ?_
      refine g_iload_n 3 (i := 3) (pc' := 18) d_Node_heldBy_17 rfl rfl rfl ?_
      replace hy := g_nn_inv hy
      obtain ⟨a10, rfl, hy⟩ := hy
      replace hy := g_aI_inv hy
      obtain ⟨n12, f13, hc14, hi15, hy⟩ := hy
      refine g_iald (pc' := 19) d_Node_heldBy_18 hc14 hi15 rfl ?_
      generalize f13 (v3).toNatClampNeg = x11 at hy ⊢
      refine g_iload_n 1 (i := 1) (pc' := 20) d_Node_heldBy_19 rfl rfl rfl ?_
      by_cases c16 : x11 = v1
      · rw [if_pos c16] at hy
        refine g_icmp_neF (pc' := 23) d_Node_heldBy_20 27 c16 (by decide) rfl ?_
        refine g_iconst (v := (1 : Int32)) (pc' := 24) d_Node_heldBy_23 (by decide) rfl ?_
        refine g_goto (pc' := 28) d_Node_heldBy_24 (by decide) ?_
        refine g_sub [0, 1, 3] rfl ?_
        exact W_Node_heldBy_28 _ _ _ ih _ _ _ _ _ hy
      · rw [if_neg c16] at hy
        refine g_icmp_neT (pc' := 27) d_Node_heldBy_20 c16 (by decide) ?_
        refine g_iconst (v := (0 : Int32)) (pc' := 28) d_Node_heldBy_27 (by decide) rfl ?_
        refine g_sub [0, 1, 3] rfl ?_
        exact W_Node_heldBy_28 _ _ _ ih _ _ _ _ _ hy
def Node_heldBy (h : g_AH) (this : Nat) (p0 : Int32) : Option (Int32) :=
  Node_heldBy_4 h  gFU this p0 (0 : Int32) (0 : Int32)
set_option maxHeartbeats 4000000 in
set_option maxRecDepth 100000 in
theorem T_Node_heldBy {l : Launch} {B : g_B} (h : g_AH) (this : Nat) (p0 : Int32) (z : Int32) (hy : Node_heldBy h this p0 = some z) : g_CT l B y_Node_heldBy k_Node_heldBy [.ref this, .int p0] h (.inl (some (.int z))) h := by
  refine g_start2 (Lc := [(0, .ref this), (1, .int p0)]) (by decide) rfl rfl (by exact Nat.le_of_ble_eq_true rfl) (by rfl) fun X => ?_
  unfold Node_heldBy at hy
  refine g_iconst (v := (0 : Int32)) (pc' := 1) d_Node_heldBy_0 (by decide) rfl ?_
  refine g_istore_n (i := 2) (pc' := 2) (Lc' := [(2, .int (0 : Int32)), (0, .ref this), (1, .int p0)]) d_Node_heldBy_1 rfl (by decide) rfl rfl ?_
  refine g_iconst (v := (0 : Int32)) (pc' := 3) d_Node_heldBy_2 (by decide) rfl ?_
  refine g_istore_n (i := 3) (pc' := 4) (Lc' := [(3, .int (0 : Int32)), (2, .int (0 : Int32)), (0, .ref this), (1, .int p0)]) d_Node_heldBy_3 rfl (by decide) rfl rfl ?_
  refine g_sub [2, 3, 1, 0] rfl ?_
  exact W_Node_heldBy_4 _ _ _ _ _ _ _ hy
theorem hd_Node_heldBy : g_dsc y_Node_heldBy 1 := ⟨by decide +kernel, by decide +kernel, by decide +kernel⟩
/-! CircuitDesk$Net.borrowedBy(I)I -/
abbrev y_Net_borrowedBy : MethodName := ⟨"CircuitDesk$Net", "borrowedBy", "(I)I"⟩
abbrev k_Net_borrowedBy : g_M := (prog_7_method_11_code, 4, "CircuitDesk$Net", 15, (some FieldType.int), "borrowedBy", [], 0)
theorem d_Net_borrowedBy_0 : decode prog_7_method_11_code 0 = .ok (.iconst 0, 1) := by decide +kernel
theorem d_Net_borrowedBy_1 : decode prog_7_method_11_code 1 = .ok (.istore_n 2, 1) := by decide +kernel
theorem d_Net_borrowedBy_2 : decode prog_7_method_11_code 2 = .ok (.iconst 0, 1) := by decide +kernel
theorem d_Net_borrowedBy_3 : decode prog_7_method_11_code 3 = .ok (.istore_n 3, 1) := by decide +kernel
theorem d_Net_borrowedBy_4 : decode prog_7_method_11_code 4 = .ok (.iload_n 3, 1) := by decide +kernel
theorem d_Net_borrowedBy_5 : decode prog_7_method_11_code 5 = .ok (.aload_n 0, 1) := by decide +kernel
theorem d_Net_borrowedBy_6 : decode prog_7_method_11_code 6 = .ok (.getfield 20, 3) := by decide +kernel
theorem d_Net_borrowedBy_9 : decode prog_7_method_11_code 9 = .ok (.invokevirtual 112, 3) := by decide +kernel
theorem d_Net_borrowedBy_12 : decode prog_7_method_11_code 12 = .ok (.if_icmp .ge 36, 3) := by decide +kernel
theorem d_Net_borrowedBy_15 : decode prog_7_method_11_code 15 = .ok (.iload_n 2, 1) := by decide +kernel
theorem d_Net_borrowedBy_16 : decode prog_7_method_11_code 16 = .ok (.iload_n 3, 1) := by decide +kernel
theorem d_Net_borrowedBy_17 : decode prog_7_method_11_code 17 = .ok (.iload_n 1, 1) := by decide +kernel
theorem d_Net_borrowedBy_18 : decode prog_7_method_11_code 18 = .ok (.if_icmp .ne 7, 3) := by decide +kernel
theorem d_Net_borrowedBy_21 : decode prog_7_method_11_code 21 = .ok (.iconst 0, 1) := by decide +kernel
theorem d_Net_borrowedBy_22 : decode prog_7_method_11_code 22 = .ok (.goto 18, 3) := by decide +kernel
theorem d_Net_borrowedBy_25 : decode prog_7_method_11_code 25 = .ok (.aload_n 0, 1) := by decide +kernel
theorem d_Net_borrowedBy_26 : decode prog_7_method_11_code 26 = .ok (.getfield 20, 3) := by decide +kernel
theorem d_Net_borrowedBy_29 : decode prog_7_method_11_code 29 = .ok (.iload_n 3, 1) := by decide +kernel
theorem d_Net_borrowedBy_30 : decode prog_7_method_11_code 30 = .ok (.invokevirtual 116, 3) := by decide +kernel
theorem d_Net_borrowedBy_33 : decode prog_7_method_11_code 33 = .ok (.checkcast 62, 3) := by decide +kernel
theorem d_Net_borrowedBy_36 : decode prog_7_method_11_code 36 = .ok (.iload_n 1, 1) := by decide +kernel
theorem d_Net_borrowedBy_37 : decode prog_7_method_11_code 37 = .ok (.invokevirtual 170, 3) := by decide +kernel
theorem d_Net_borrowedBy_40 : decode prog_7_method_11_code 40 = .ok (.iadd, 1) := by decide +kernel
theorem d_Net_borrowedBy_41 : decode prog_7_method_11_code 41 = .ok (.istore_n 2, 1) := by decide +kernel
theorem d_Net_borrowedBy_42 : decode prog_7_method_11_code 42 = .ok (.iinc 3 1, 3) := by decide +kernel
theorem d_Net_borrowedBy_45 : decode prog_7_method_11_code 45 = .ok (.goto (-41), 3) := by decide +kernel
theorem d_Net_borrowedBy_48 : decode prog_7_method_11_code 48 = .ok (.iload_n 2, 1) := by decide +kernel
theorem d_Net_borrowedBy_49 : decode prog_7_method_11_code 49 = .ok (.ireturn, 1) := by decide +kernel
def Net_borrowedBy_40 (h : g_AH) (k4 : Nat → Int32 → Int32 → Int32 → Option (Int32)) (v0 : Nat) (v1 : Int32) (v3 : Int32) (s0 : Int32) (s1 : Int32) : Option (Int32) :=
  k4 v0 v1 (s1 + s0) (v3 + (1 : Int32))
set_option maxHeartbeats 4000000 in
set_option maxRecDepth 100000 in
theorem W_Net_borrowedBy_40 {X : g_X} (h : g_AH) (z : Int32) (k4 : Nat → Int32 → Int32 → Int32 → Option (Int32)) (hk4 : ∀ (v0 : Nat) (v1 : Int32) (v2 : Int32) (v3 : Int32), k4 v0 v1 v2 v3 = some z → G X k_Net_borrowedBy (.inl (some (.int z))) h h 4 [(0, .ref v0), (1, .int v1), (2, .int v2), (3, .int v3)] []) (v0 : Nat) (v1 : Int32) (v3 : Int32) (s0 : Int32) (s1 : Int32) (hy : Net_borrowedBy_40 h k4 v0 v1 v3 s0 s1 = some z) : G X k_Net_borrowedBy (.inl (some (.int z))) h h 40 [(0, .ref v0), (1, .int v1), (3, .int v3)] [.int s0, .int s1] := by
  unfold Net_borrowedBy_40 at hy
  refine g_iadd (pc' := 41) d_Net_borrowedBy_40 rfl ?_
  refine g_istore_n (i := 2) (pc' := 42) (Lc' := [(2, .int (s1 + s0)), (0, .ref v0), (1, .int v1), (3, .int v3)]) d_Net_borrowedBy_41 rfl (by decide) rfl rfl ?_
  refine g_iinc 3 (v := (v3 + (1 : Int32))) (pc' := 45) (Lc' := [(3, .int (v3 + (1 : Int32))), (2, .int (s1 + s0)), (0, .ref v0), (1, .int v1)]) d_Net_borrowedBy_42 rfl rfl (by decide) rfl rfl ?_
  refine g_goto (pc' := 4) d_Net_borrowedBy_45 (by decide) ?_
  refine g_sub [2, 3, 1, 0] rfl ?_
  exact hk4 _ _ _ _ hy
def Net_borrowedBy_4 (h : g_AH)  : Nat → Nat → Int32 → Int32 → Int32 → Option (Int32)
  | 0, _, _, _, _ => none
  | n + 1, v0, v1, v2, v3 => g_gR h v0 1 1 fun x2 => g_nn x2 fun a5 => g_is h a5 15 <| g_b (ArrayList_size h a5) fun x8 => if x8 ≤ v3 then (some v2) else (if v3 = v1 then (Net_borrowedBy_40 h (Net_borrowedBy_4 h  n) v0 v1 v3 (0 : Int32) v2) else (g_gR h v0 1 1 fun x14 => g_nn x14 fun a17 => g_is h a17 15 <| g_b (ArrayList_get h a17 v3) fun x20 => g_ck h x20 10 <| g_nn x20 fun a24 => g_is h a24 10 <| g_b (Node_heldBy h a24 v1) fun x27 => Net_borrowedBy_40 h (Net_borrowedBy_4 h  n) v0 v1 v3 x27 v2))
set_option maxHeartbeats 4000000 in
set_option maxRecDepth 100000 in
theorem W_Net_borrowedBy_4 {X : g_X} (h : g_AH) (z : Int32)  : ∀ (n : Nat) (v0 : Nat) (v1 : Int32) (v2 : Int32) (v3 : Int32), Net_borrowedBy_4 h  n v0 v1 v2 v3 = some z → G X k_Net_borrowedBy (.inl (some (.int z))) h h 4 [(0, .ref v0), (1, .int v1), (2, .int v2), (3, .int v3)] [] := by
  intro n
  induction n with
  | zero => intro v0 v1 v2 v3 hy; exact absurd hy (by simp [Net_borrowedBy_4])
  | succ n ih =>
    intro v0 v1 v2 v3 hy
    rw [Net_borrowedBy_4] at hy
    refine g_iload_n 3 (i := 3) (pc' := 5) d_Net_borrowedBy_4 rfl rfl rfl ?_
    refine g_aload_n 0 (i := 0) (pc' := 6) d_Net_borrowedBy_5 rfl rfl rfl ?_
    replace hy := g_gR_inv hy
    obtain ⟨fs1, x2, hc3, hv4, hy⟩ := hy
    refine g_getf (pc' := 9) d_Net_borrowedBy_6 hc3 rfl (by decide) hv4 q547 (Or.inl rfl) rfl ?_
    replace hy := g_nn_inv hy
    obtain ⟨a5, rfl, hy⟩ := hy
    replace hy := g_is_inv hy
    obtain ⟨fs6, hc7, hy⟩ := hy
    replace hy := g_b_inv hy
    obtain ⟨x8, hf10, hy⟩ := hy
    refine g_callV (rv := some (.int x8)) (h1 := h) (pc' := 12) (As := []) (rest := [.int v3]) 0 (T_ArrayList_size (hy := hf10)) d_Net_borrowedBy_9 hc7 rfl rfl q681 q674 q675 q112 q676 hd_ArrayList_size rfl ⟨by decide, by decide⟩ (by first | exact Nat.le_of_ble_eq_true rfl | (simp only [List.map, List.sum_cons, List.sum_nil, g_cat_rf]; exact Nat.le_of_ble_eq_true rfl) | (simp only [List.map, List.sum_cons, List.sum_nil, g_cat_rf, Value.category]; decide)) rfl ?_
    by_cases c11 : x8 ≤ v3
    · rw [if_pos c11] at hy
      refine g_icmp_geT (pc' := 48) d_Net_borrowedBy_12 c11 (by decide) ?_
      refine g_iload_n 2 (i := 2) (pc' := 49) d_Net_borrowedBy_48 rfl rfl rfl ?_
      cases hy
      exact g_iret rfl rfl rfl d_Net_borrowedBy_49
    · rw [if_neg c11] at hy
      refine g_icmp_geF (pc' := 15) d_Net_borrowedBy_12 48 c11 (by decide) rfl ?_
      refine g_iload_n 2 (i := 2) (pc' := 16) d_Net_borrowedBy_15 rfl rfl rfl ?_
      refine g_iload_n 3 (i := 3) (pc' := 17) d_Net_borrowedBy_16 rfl rfl rfl ?_
      refine g_iload_n 1 (i := 1) (pc' := 18) d_Net_borrowedBy_17 rfl rfl rfl ?_
      by_cases c12 : v3 = v1
      · rw [if_pos c12] at hy
        refine g_icmp_neF (pc' := 21) d_Net_borrowedBy_18 25 c12 (by decide) rfl ?_
        refine g_iconst (v := (0 : Int32)) (pc' := 22) d_Net_borrowedBy_21 (by decide) rfl ?_
        refine g_goto (pc' := 40) d_Net_borrowedBy_22 (by decide) ?_
        refine g_sub [0, 1, 3] rfl ?_
        exact W_Net_borrowedBy_40 _ _ _ ih _ _ _ _ _ hy
      · rw [if_neg c12] at hy
        refine g_icmp_neT (pc' := 25) d_Net_borrowedBy_18 c12 (by decide) ?_
        refine g_aload_n 0 (i := 0) (pc' := 26) d_Net_borrowedBy_25 rfl rfl rfl ?_
        replace hy := g_gR_inv hy
        obtain ⟨fs13, x14, hc15, hv16, hy⟩ := hy
        refine g_getf (pc' := 29) d_Net_borrowedBy_26 hc15 rfl (by decide) hv16 q547 (Or.inl rfl) rfl ?_
        refine g_iload_n 3 (i := 3) (pc' := 30) d_Net_borrowedBy_29 rfl rfl rfl ?_
        replace hy := g_nn_inv hy
        obtain ⟨a17, rfl, hy⟩ := hy
        replace hy := g_is_inv hy
        obtain ⟨fs18, hc19, hy⟩ := hy
        replace hy := g_b_inv hy
        obtain ⟨x20, hf22, hy⟩ := hy
        refine g_callV (rv := some (va_rf x20)) (h1 := h) (pc' := 33) (As := [.int v3]) (rest := [.int v2]) 1 (T_ArrayList_get (hy := hf22)) d_Net_borrowedBy_30 hc19 rfl rfl q682 q683 q684 q112 q685 hd_ArrayList_get rfl ⟨by decide, by decide⟩ (by first | exact Nat.le_of_ble_eq_true rfl | (simp only [List.map, List.sum_cons, List.sum_nil, g_cat_rf]; exact Nat.le_of_ble_eq_true rfl) | (simp only [List.map, List.sum_cons, List.sum_nil, g_cat_rf, Value.category]; decide)) rfl ?_
        replace hy := g_ck_inv hy
        obtain ⟨hk23, hy⟩ := hy
        refine g_castO (pc' := 36) d_Net_borrowedBy_33 hk23 rfl q1243 rfl ?_
        refine g_iload_n 1 (i := 1) (pc' := 37) d_Net_borrowedBy_36 rfl rfl rfl ?_
        replace hy := g_nn_inv hy
        obtain ⟨a24, rfl, hy⟩ := hy
        replace hy := g_is_inv hy
        obtain ⟨fs25, hc26, hy⟩ := hy
        replace hy := g_b_inv hy
        obtain ⟨x27, hf29, hy⟩ := hy
        refine g_callV (rv := some (.int x27)) (h1 := h) (pc' := 40) (As := [.int v1]) (rest := [.int v2]) 1 (T_Node_heldBy (hy := hf29)) d_Net_borrowedBy_37 hc26 rfl rfl q1256 q1249 q1250 q139 q1251 hd_Node_heldBy rfl ⟨by decide, by decide⟩ (by first | exact Nat.le_of_ble_eq_true rfl | (simp only [List.map, List.sum_cons, List.sum_nil, g_cat_rf]; exact Nat.le_of_ble_eq_true rfl) | (simp only [List.map, List.sum_cons, List.sum_nil, g_cat_rf, Value.category]; decide)) rfl ?_
        refine g_sub [0, 1, 3] rfl ?_
        exact W_Net_borrowedBy_40 _ _ _ ih _ _ _ _ _ hy
def Net_borrowedBy (h : g_AH) (this : Nat) (p0 : Int32) : Option (Int32) :=
  Net_borrowedBy_4 h  gFU this p0 (0 : Int32) (0 : Int32)
set_option maxHeartbeats 4000000 in
set_option maxRecDepth 100000 in
theorem T_Net_borrowedBy {l : Launch} {B : g_B} (h : g_AH) (this : Nat) (p0 : Int32) (z : Int32) (hy : Net_borrowedBy h this p0 = some z) : g_CT l B y_Net_borrowedBy k_Net_borrowedBy [.ref this, .int p0] h (.inl (some (.int z))) h := by
  refine g_start2 (Lc := [(0, .ref this), (1, .int p0)]) (by decide) rfl rfl (by exact Nat.le_of_ble_eq_true rfl) (by rfl) fun X => ?_
  unfold Net_borrowedBy at hy
  refine g_iconst (v := (0 : Int32)) (pc' := 1) d_Net_borrowedBy_0 (by decide) rfl ?_
  refine g_istore_n (i := 2) (pc' := 2) (Lc' := [(2, .int (0 : Int32)), (0, .ref this), (1, .int p0)]) d_Net_borrowedBy_1 rfl (by decide) rfl rfl ?_
  refine g_iconst (v := (0 : Int32)) (pc' := 3) d_Net_borrowedBy_2 (by decide) rfl ?_
  refine g_istore_n (i := 3) (pc' := 4) (Lc' := [(3, .int (0 : Int32)), (2, .int (0 : Int32)), (0, .ref this), (1, .int p0)]) d_Net_borrowedBy_3 rfl (by decide) rfl rfl ?_
  refine g_sub [2, 3, 1, 0] rfl ?_
  exact W_Net_borrowedBy_4 _ _ _ _ _ _ _ hy
theorem hd_Net_borrowedBy : g_dsc y_Net_borrowedBy 1 := ⟨by decide +kernel, by decide +kernel, by decide +kernel⟩
