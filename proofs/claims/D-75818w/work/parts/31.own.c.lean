/-! CircuitDesk$Way.indexOf(I)I -/
abbrev y_Way_indexOf : MethodName := ⟨"CircuitDesk$Way", "indexOf", "(I)I"⟩
abbrev k_Way_indexOf : g_M := (prog_15_method_4_code, 3, "CircuitDesk$Way", 12, (some FieldType.int), "indexOf", [], 0)
theorem d_Way_indexOf_0 : decode prog_15_method_4_code 0 = .ok (.iconst 0, 1) := by decide +kernel
theorem d_Way_indexOf_1 : decode prog_15_method_4_code 1 = .ok (.istore_n 2, 1) := by decide +kernel
theorem d_Way_indexOf_2 : decode prog_15_method_4_code 2 = .ok (.iload_n 2, 1) := by decide +kernel
theorem d_Way_indexOf_3 : decode prog_15_method_4_code 3 = .ok (.aload_n 0, 1) := by decide +kernel
theorem d_Way_indexOf_4 : decode prog_15_method_4_code 4 = .ok (.getfield 27, 3) := by decide +kernel
theorem d_Way_indexOf_7 : decode prog_15_method_4_code 7 = .ok (.if_icmp .ge 21, 3) := by decide +kernel
theorem d_Way_indexOf_10 : decode prog_15_method_4_code 10 = .ok (.aload_n 0, 1) := by decide +kernel
theorem d_Way_indexOf_11 : decode prog_15_method_4_code 11 = .ok (.getfield 9, 3) := by decide +kernel
theorem d_Way_indexOf_14 : decode prog_15_method_4_code 14 = .ok (.iload_n 2, 1) := by decide +kernel
theorem d_Way_indexOf_15 : decode prog_15_method_4_code 15 = .ok (.iaload, 1) := by decide +kernel
theorem d_Way_indexOf_16 : decode prog_15_method_4_code 16 = .ok (.iload_n 1, 1) := by decide +kernel
theorem d_Way_indexOf_17 : decode prog_15_method_4_code 17 = .ok (.if_icmp .ne 5, 3) := by decide +kernel
theorem d_Way_indexOf_20 : decode prog_15_method_4_code 20 = .ok (.iload_n 2, 1) := by decide +kernel
theorem d_Way_indexOf_21 : decode prog_15_method_4_code 21 = .ok (.ireturn, 1) := by decide +kernel
theorem d_Way_indexOf_22 : decode prog_15_method_4_code 22 = .ok (.iinc 2 1, 3) := by decide +kernel
theorem d_Way_indexOf_25 : decode prog_15_method_4_code 25 = .ok (.goto (-23), 3) := by decide +kernel
theorem d_Way_indexOf_28 : decode prog_15_method_4_code 28 = .ok (.iconst (-1), 1) := by decide +kernel
theorem d_Way_indexOf_29 : decode prog_15_method_4_code 29 = .ok (.ireturn, 1) := by decide +kernel
def Way_indexOf_2 (h : g_AH)  : Nat → Nat → Int32 → Int32 → Option (Int32)
  | 0, _, _, _ => none
  | n + 1, v0, v1, v2 => g_gI h v0 6 3 fun x2 => if x2 ≤ v2 then (some (-1 : Int32)) else (g_gR h v0 6 0 fun x7 => g_nn x7 fun a10 => g_aI h 0 a10 v2 fun x11 => if x11 = v1 then (some v2) else ((Way_indexOf_2 h  n) v0 v1 (v2 + (1 : Int32))))
set_option maxHeartbeats 4000000 in
set_option maxRecDepth 100000 in
theorem W_Way_indexOf_2 {X : g_X} (h : g_AH) (z : Int32)  : ∀ (n : Nat) (v0 : Nat) (v1 : Int32) (v2 : Int32), Way_indexOf_2 h  n v0 v1 v2 = some z → G X k_Way_indexOf (.inl (some (.int z))) h h 2 [(0, .ref v0), (1, .int v1), (2, .int v2)] [] := by
  intro n
  induction n with
  | zero => intro v0 v1 v2 hy; exact absurd hy (by simp [Way_indexOf_2])
  | succ n ih =>
    intro v0 v1 v2 hy
    rw [Way_indexOf_2] at hy
    refine g_iload_n 2 (i := 2) (pc' := 3) d_Way_indexOf_2 rfl rfl rfl ?_
    refine g_aload_n 0 (i := 0) (pc' := 4) d_Way_indexOf_3 rfl rfl rfl ?_
    replace hy := g_gI_inv hy
    obtain ⟨fs1, x2, hc3, hv4, hy⟩ := hy
    refine g_getf (pc' := 7) d_Way_indexOf_4 hc3 rfl (by decide) hv4 q628 (Or.inl rfl) rfl ?_
    by_cases c5 : x2 ≤ v2
    · rw [if_pos c5] at hy
      refine g_icmp_geT (pc' := 28) d_Way_indexOf_7 c5 (by decide) ?_
      refine g_iconst (v := (-1 : Int32)) (pc' := 29) d_Way_indexOf_28 (by decide) rfl ?_
      cases hy
      exact g_iret rfl rfl rfl d_Way_indexOf_29
    · rw [if_neg c5] at hy
      refine g_icmp_geF (pc' := 10) d_Way_indexOf_7 28 c5 (by decide) rfl ?_
      refine g_aload_n 0 (i := 0) (pc' := 11) d_Way_indexOf_10 rfl rfl rfl ?_
      replace hy := g_gR_inv hy
      obtain ⟨fs6, x7, hc8, hv9, hy⟩ := hy
      refine g_getf (pc' := 14) d_Way_indexOf_11 hc8 rfl (by decide) hv9 q616 (Or.inl rfl) rfl ?_
      refine g_iload_n 2 (i := 2) (pc' := 15) d_Way_indexOf_14 rfl rfl rfl ?_
      replace hy := g_nn_inv hy
      obtain ⟨a10, rfl, hy⟩ := hy
      replace hy := g_aI_inv hy
      obtain ⟨n12, f13, hc14, hi15, hy⟩ := hy
      refine g_iald (pc' := 16) d_Way_indexOf_15 hc14 hi15 rfl ?_
      generalize f13 (v2).toNatClampNeg = x11 at hy ⊢
      refine g_iload_n 1 (i := 1) (pc' := 17) d_Way_indexOf_16 rfl rfl rfl ?_
      by_cases c16 : x11 = v1
      · rw [if_pos c16] at hy
        refine g_icmp_neF (pc' := 20) d_Way_indexOf_17 22 c16 (by decide) rfl ?_
        refine g_iload_n 2 (i := 2) (pc' := 21) d_Way_indexOf_20 rfl rfl rfl ?_
        cases hy
        exact g_iret rfl rfl rfl d_Way_indexOf_21
      · rw [if_neg c16] at hy
        refine g_icmp_neT (pc' := 22) d_Way_indexOf_17 c16 (by decide) ?_
        refine g_iinc 2 (v := (v2 + (1 : Int32))) (pc' := 25) (Lc' := [(2, .int (v2 + (1 : Int32))), (0, .ref v0), (1, .int v1)]) d_Way_indexOf_22 rfl rfl (by decide) rfl rfl ?_
        refine g_goto (pc' := 2) d_Way_indexOf_25 (by decide) ?_
        refine g_sub [1, 2, 0] rfl ?_
        exact ih _ _ _ hy
def Way_indexOf (h : g_AH) (this : Nat) (p0 : Int32) : Option (Int32) :=
  Way_indexOf_2 h  gFU this p0 (0 : Int32)
set_option maxHeartbeats 4000000 in
set_option maxRecDepth 100000 in
theorem T_Way_indexOf {l : Launch} {B : g_B} (h : g_AH) (this : Nat) (p0 : Int32) (z : Int32) (hy : Way_indexOf h this p0 = some z) : g_CT l B y_Way_indexOf k_Way_indexOf [.ref this, .int p0] h (.inl (some (.int z))) h := by
  refine g_start2 (Lc := [(0, .ref this), (1, .int p0)]) (by decide) rfl rfl (by exact Nat.le_of_ble_eq_true rfl) (by rfl) fun X => ?_
  unfold Way_indexOf at hy
  refine g_iconst (v := (0 : Int32)) (pc' := 1) d_Way_indexOf_0 (by decide) rfl ?_
  refine g_istore_n (i := 2) (pc' := 2) (Lc' := [(2, .int (0 : Int32)), (0, .ref this), (1, .int p0)]) d_Way_indexOf_1 rfl (by decide) rfl rfl ?_
  refine g_sub [1, 2, 0] rfl ?_
  exact W_Way_indexOf_2 _ _ _ _ _ _ hy
theorem hd_Way_indexOf : g_dsc y_Way_indexOf 1 := ⟨by decide +kernel, by decide +kernel, by decide +kernel⟩
/-! CircuitDesk$Way.has(I)Z -/
abbrev y_Way_has : MethodName := ⟨"CircuitDesk$Way", "has", "(I)Z"⟩
abbrev k_Way_has : g_M := (prog_15_method_5_code, 2, "CircuitDesk$Way", 13, (some FieldType.boolean), "has", [], 0)
theorem d_Way_has_0 : decode prog_15_method_5_code 0 = .ok (.aload_n 0, 1) := by decide +kernel
theorem d_Way_has_1 : decode prog_15_method_5_code 1 = .ok (.iload_n 1, 1) := by decide +kernel
theorem d_Way_has_2 : decode prog_15_method_5_code 2 = .ok (.invokevirtual 31, 3) := by decide +kernel
theorem d_Way_has_5 : decode prog_15_method_5_code 5 = .ok (.iconst (-1), 1) := by decide +kernel
theorem d_Way_has_6 : decode prog_15_method_5_code 6 = .ok (.if_icmp .eq 7, 3) := by decide +kernel
theorem d_Way_has_9 : decode prog_15_method_5_code 9 = .ok (.iconst 1, 1) := by decide +kernel
theorem d_Way_has_10 : decode prog_15_method_5_code 10 = .ok (.goto 4, 3) := by decide +kernel
theorem d_Way_has_13 : decode prog_15_method_5_code 13 = .ok (.iconst 0, 1) := by decide +kernel
theorem d_Way_has_14 : decode prog_15_method_5_code 14 = .ok (.ireturn, 1) := by decide +kernel
def Way_has (h : g_AH) (this : Nat) (p0 : Int32) : Option (Int32) :=
  g_is h this 6 <| g_b (Way_indexOf h this p0) fun x3 => if x3 = (-1 : Int32) then (some (0 : Int32)) else (some (1 : Int32))
set_option maxHeartbeats 4000000 in
set_option maxRecDepth 100000 in
theorem T_Way_has {l : Launch} {B : g_B} (h : g_AH) (this : Nat) (p0 : Int32) (z : Int32) (hy : Way_has h this p0 = some z) : g_CT l B y_Way_has k_Way_has [.ref this, .int p0] h (.inl (some (.int z))) h := by
  refine g_start2 (Lc := [(0, .ref this), (1, .int p0)]) (by decide) rfl rfl (by exact Nat.le_of_ble_eq_true rfl) (by rfl) fun X => ?_
  unfold Way_has at hy
  refine g_aload_n 0 (i := 0) (pc' := 1) d_Way_has_0 rfl rfl rfl ?_
  refine g_iload_n 1 (i := 1) (pc' := 2) d_Way_has_1 rfl rfl rfl ?_
  replace hy := g_is_inv hy
  obtain ⟨fs1, hc2, hy⟩ := hy
  replace hy := g_b_inv hy
  obtain ⟨x3, hf5, hy⟩ := hy
  refine g_callV (rv := some (.int x3)) (h1 := h) (pc' := 5) (As := [.int p0]) (rest := []) 1 (T_Way_indexOf (hy := hf5)) d_Way_has_2 hc2 rfl rfl q790 q791 q792 q134 q793 hd_Way_indexOf rfl ⟨by decide, by decide⟩ (by first | exact Nat.le_of_ble_eq_true rfl | (simp only [List.map, List.sum_cons, List.sum_nil, g_cat_rf]; exact Nat.le_of_ble_eq_true rfl) | (simp only [List.map, List.sum_cons, List.sum_nil, g_cat_rf, Value.category]; decide)) rfl ?_
  refine g_iconst (v := (-1 : Int32)) (pc' := 6) d_Way_has_5 (by decide) rfl ?_
  by_cases c6 : x3 = (-1 : Int32)
  · rw [if_pos c6] at hy
    refine g_icmp_eqT (pc' := 13) d_Way_has_6 c6 (by decide) ?_
    refine g_iconst (v := (0 : Int32)) (pc' := 14) d_Way_has_13 (by decide) rfl ?_
    cases hy
    exact g_zret rfl rfl rfl (g_nar_z (Or.inl rfl)).1 d_Way_has_14
  · rw [if_neg c6] at hy
    refine g_icmp_eqF (pc' := 9) d_Way_has_6 13 c6 (by decide) rfl ?_
    refine g_iconst (v := (1 : Int32)) (pc' := 10) d_Way_has_9 (by decide) rfl ?_
    refine g_goto (pc' := 14) d_Way_has_10 (by decide) ?_
    cases hy
    exact g_zret rfl rfl rfl (g_nar_z (Or.inr rfl)).1 d_Way_has_14
theorem hd_Way_has : g_dsc y_Way_has 1 := ⟨by decide +kernel, by decide +kernel, by decide +kernel⟩
/-! CircuitDesk$Way.last()I -/
abbrev y_Way_last : MethodName := ⟨"CircuitDesk$Way", "last", "()I"⟩
abbrev k_Way_last : g_M := (prog_15_method_7_code, 1, "CircuitDesk$Way", 12, (some FieldType.int), "last", [], 0)
theorem d_Way_last_0 : decode prog_15_method_7_code 0 = .ok (.aload_n 0, 1) := by decide +kernel
theorem d_Way_last_1 : decode prog_15_method_7_code 1 = .ok (.getfield 9, 3) := by decide +kernel
theorem d_Way_last_4 : decode prog_15_method_7_code 4 = .ok (.aload_n 0, 1) := by decide +kernel
theorem d_Way_last_5 : decode prog_15_method_7_code 5 = .ok (.getfield 27, 3) := by decide +kernel
theorem d_Way_last_8 : decode prog_15_method_7_code 8 = .ok (.iconst 1, 1) := by decide +kernel
theorem d_Way_last_9 : decode prog_15_method_7_code 9 = .ok (.isub, 1) := by decide +kernel
theorem d_Way_last_10 : decode prog_15_method_7_code 10 = .ok (.iaload, 1) := by decide +kernel
theorem d_Way_last_11 : decode prog_15_method_7_code 11 = .ok (.ireturn, 1) := by decide +kernel
def Way_last (h : g_AH) (this : Nat) : Option (Int32) :=
  g_gR h this 6 0 fun x2 => g_gI h this 6 3 fun x6 => g_nn x2 fun a9 => g_aI h 0 a9 (x6 - (1 : Int32)) fun x10 => some x10
set_option maxHeartbeats 4000000 in
set_option maxRecDepth 100000 in
theorem T_Way_last {l : Launch} {B : g_B} (h : g_AH) (this : Nat) (z : Int32) (hy : Way_last h this = some z) : g_CT l B y_Way_last k_Way_last [.ref this] h (.inl (some (.int z))) h := by
  refine g_start2 (Lc := [(0, .ref this)]) (by decide) rfl rfl (by exact Nat.le_of_ble_eq_true rfl) (by rfl) fun X => ?_
  unfold Way_last at hy
  refine g_aload_n 0 (i := 0) (pc' := 1) d_Way_last_0 rfl rfl rfl ?_
  replace hy := g_gR_inv hy
  obtain ⟨fs1, x2, hc3, hv4, hy⟩ := hy
  refine g_getf (pc' := 4) d_Way_last_1 hc3 rfl (by decide) hv4 q616 (Or.inl rfl) rfl ?_
  refine g_aload_n 0 (i := 0) (pc' := 5) d_Way_last_4 rfl rfl rfl ?_
  replace hy := g_gI_inv hy
  obtain ⟨fs5, x6, hc7, hv8, hy⟩ := hy
  refine g_getf (pc' := 8) d_Way_last_5 hc7 rfl (by decide) hv8 q628 (Or.inl rfl) rfl ?_
  refine g_iconst (v := (1 : Int32)) (pc' := 9) d_Way_last_8 (by decide) rfl ?_
  refine g_isub (pc' := 10) d_Way_last_9 rfl ?_
  replace hy := g_nn_inv hy
  obtain ⟨a9, rfl, hy⟩ := hy
  replace hy := g_aI_inv hy
  obtain ⟨n11, f12, hc13, hi14, hy⟩ := hy
  refine g_iald (pc' := 11) d_Way_last_10 hc13 hi14 rfl ?_
  generalize f12 ((x6 - (1 : Int32))).toNatClampNeg = x10 at hy ⊢
  cases hy
  exact g_iret rfl rfl rfl d_Way_last_11
theorem hd_Way_last : g_dsc y_Way_last 0 := ⟨by decide +kernel, by decide +kernel, by decide +kernel⟩
/-! CircuitDesk$Way.add(I)V -/
abbrev y_Way_add : MethodName := ⟨"CircuitDesk$Way", "add", "(I)V"⟩
abbrev k_Way_add : g_M := (prog_15_method_3_code, 2, "CircuitDesk$Way", 12, none, "add", [], 0)
theorem d_Way_add_0 : decode prog_15_method_3_code 0 = .ok (.aload_n 0, 1) := by decide +kernel
theorem d_Way_add_1 : decode prog_15_method_3_code 1 = .ok (.getfield 9, 3) := by decide +kernel
theorem d_Way_add_4 : decode prog_15_method_3_code 4 = .ok (.aload_n 0, 1) := by decide +kernel
theorem d_Way_add_5 : decode prog_15_method_3_code 5 = .ok (.getfield 27, 3) := by decide +kernel
theorem d_Way_add_8 : decode prog_15_method_3_code 8 = .ok (.iload_n 1, 1) := by decide +kernel
theorem d_Way_add_9 : decode prog_15_method_3_code 9 = .ok (.iastore, 1) := by decide +kernel
theorem d_Way_add_10 : decode prog_15_method_3_code 10 = .ok (.aload_n 0, 1) := by decide +kernel
theorem d_Way_add_11 : decode prog_15_method_3_code 11 = .ok (.getfield 15, 3) := by decide +kernel
theorem d_Way_add_14 : decode prog_15_method_3_code 14 = .ok (.aload_n 0, 1) := by decide +kernel
theorem d_Way_add_15 : decode prog_15_method_3_code 15 = .ok (.getfield 27, 3) := by decide +kernel
theorem d_Way_add_18 : decode prog_15_method_3_code 18 = .ok (.iconst (-1), 1) := by decide +kernel
theorem d_Way_add_19 : decode prog_15_method_3_code 19 = .ok (.iastore, 1) := by decide +kernel
theorem d_Way_add_20 : decode prog_15_method_3_code 20 = .ok (.aload_n 0, 1) := by decide +kernel
theorem d_Way_add_21 : decode prog_15_method_3_code 21 = .ok (.getfield 18, 3) := by decide +kernel
theorem d_Way_add_24 : decode prog_15_method_3_code 24 = .ok (.aload_n 0, 1) := by decide +kernel
theorem d_Way_add_25 : decode prog_15_method_3_code 25 = .ok (.getfield 27, 3) := by decide +kernel
theorem d_Way_add_28 : decode prog_15_method_3_code 28 = .ok (.iconst (-1), 1) := by decide +kernel
theorem d_Way_add_29 : decode prog_15_method_3_code 29 = .ok (.iastore, 1) := by decide +kernel
theorem d_Way_add_30 : decode prog_15_method_3_code 30 = .ok (.aload_n 0, 1) := by decide +kernel
theorem d_Way_add_31 : decode prog_15_method_3_code 31 = .ok (.dup, 1) := by decide +kernel
theorem d_Way_add_32 : decode prog_15_method_3_code 32 = .ok (.getfield 27, 3) := by decide +kernel
theorem d_Way_add_35 : decode prog_15_method_3_code 35 = .ok (.iconst 1, 1) := by decide +kernel
theorem d_Way_add_36 : decode prog_15_method_3_code 36 = .ok (.iadd, 1) := by decide +kernel
theorem d_Way_add_37 : decode prog_15_method_3_code 37 = .ok (.putfield 27, 3) := by decide +kernel
theorem d_Way_add_40 : decode prog_15_method_3_code 40 = .ok (.return_, 1) := by decide +kernel
def Way_add (h : g_AH) (this : Nat) (p0 : Int32) : Option g_AH :=
  g_gR h this 6 0 fun x2 => g_gI h this 6 3 fun x6 => g_nn x2 fun a9 => g_sI h 0 a9 x6 p0 fun h14 => g_gR h14 this 6 1 fun x16 => g_gI h14 this 6 3 fun x20 => g_nn x16 fun a23 => g_sI h14 0 a23 x20 (-1 : Int32) fun h28 => g_gR h28 this 6 2 fun x30 => g_gI h28 this 6 3 fun x34 => g_nn x30 fun a37 => g_sI h28 0 a37 x34 (-1 : Int32) fun h42 => g_gI h42 this 6 3 fun x44 => g_pF h42 this 6 3 (.int (x44 + (1 : Int32))) fun h50 => some h50
set_option maxHeartbeats 4000000 in
set_option maxRecDepth 100000 in
theorem T_Way_add {l : Launch} {B : g_B} (h : g_AH) (this : Nat) (p0 : Int32) (z : g_AH) (hy : Way_add h this p0 = some z) : g_CT l B y_Way_add k_Way_add [.ref this, .int p0] h (.inl none) z := by
  refine g_start2 (Lc := [(0, .ref this), (1, .int p0)]) (by decide) rfl rfl (by exact Nat.le_of_ble_eq_true rfl) (by rfl) fun X => ?_
  unfold Way_add at hy
  refine g_aload_n 0 (i := 0) (pc' := 1) d_Way_add_0 rfl rfl rfl ?_
  replace hy := g_gR_inv hy
  obtain ⟨fs1, x2, hc3, hv4, hy⟩ := hy
  refine g_getf (pc' := 4) d_Way_add_1 hc3 rfl (by decide) hv4 q616 (Or.inl rfl) rfl ?_
  refine g_aload_n 0 (i := 0) (pc' := 5) d_Way_add_4 rfl rfl rfl ?_
  replace hy := g_gI_inv hy
  obtain ⟨fs5, x6, hc7, hv8, hy⟩ := hy
  refine g_getf (pc' := 8) d_Way_add_5 hc7 rfl (by decide) hv8 q628 (Or.inl rfl) rfl ?_
  refine g_iload_n 1 (i := 1) (pc' := 9) d_Way_add_8 rfl rfl rfl ?_
  replace hy := g_nn_inv hy
  obtain ⟨a9, rfl, hy⟩ := hy
  replace hy := g_sI_inv hy
  obtain ⟨n10, f11, hc12, hi13, hy⟩ := hy
  refine g_iast (pc' := 10) d_Way_add_9 hc12 hi13 rfl ?_
  generalize g_up h a9 (.inl (0, n10, .inl (upd f11 (x6).toNatClampNeg p0))) = h14 at hy ⊢
  refine g_aload_n 0 (i := 0) (pc' := 11) d_Way_add_10 rfl rfl rfl ?_
  replace hy := g_gR_inv hy
  obtain ⟨fs15, x16, hc17, hv18, hy⟩ := hy
  refine g_getf (pc' := 14) d_Way_add_11 hc17 rfl (by decide) hv18 q619 (Or.inl rfl) rfl ?_
  refine g_aload_n 0 (i := 0) (pc' := 15) d_Way_add_14 rfl rfl rfl ?_
  replace hy := g_gI_inv hy
  obtain ⟨fs19, x20, hc21, hv22, hy⟩ := hy
  refine g_getf (pc' := 18) d_Way_add_15 hc21 rfl (by decide) hv22 q628 (Or.inl rfl) rfl ?_
  refine g_iconst (v := (-1 : Int32)) (pc' := 19) d_Way_add_18 (by decide) rfl ?_
  replace hy := g_nn_inv hy
  obtain ⟨a23, rfl, hy⟩ := hy
  replace hy := g_sI_inv hy
  obtain ⟨n24, f25, hc26, hi27, hy⟩ := hy
  refine g_iast (pc' := 20) d_Way_add_19 hc26 hi27 rfl ?_
  generalize g_up h14 a23 (.inl (0, n24, .inl (upd f25 (x20).toNatClampNeg (-1 : Int32)))) = h28 at hy ⊢
  refine g_aload_n 0 (i := 0) (pc' := 21) d_Way_add_20 rfl rfl rfl ?_
  replace hy := g_gR_inv hy
  obtain ⟨fs29, x30, hc31, hv32, hy⟩ := hy
  refine g_getf (pc' := 24) d_Way_add_21 hc31 rfl (by decide) hv32 q622 (Or.inl rfl) rfl ?_
  refine g_aload_n 0 (i := 0) (pc' := 25) d_Way_add_24 rfl rfl rfl ?_
  replace hy := g_gI_inv hy
  obtain ⟨fs33, x34, hc35, hv36, hy⟩ := hy
  refine g_getf (pc' := 28) d_Way_add_25 hc35 rfl (by decide) hv36 q628 (Or.inl rfl) rfl ?_
  refine g_iconst (v := (-1 : Int32)) (pc' := 29) d_Way_add_28 (by decide) rfl ?_
  replace hy := g_nn_inv hy
  obtain ⟨a37, rfl, hy⟩ := hy
  replace hy := g_sI_inv hy
  obtain ⟨n38, f39, hc40, hi41, hy⟩ := hy
  refine g_iast (pc' := 30) d_Way_add_29 hc40 hi41 rfl ?_
  generalize g_up h28 a37 (.inl (0, n38, .inl (upd f39 (x34).toNatClampNeg (-1 : Int32)))) = h42 at hy ⊢
  refine g_aload_n 0 (i := 0) (pc' := 31) d_Way_add_30 rfl rfl rfl ?_
  refine g_dup (pc' := 32) d_Way_add_31 rfl rfl ?_
  replace hy := g_gI_inv hy
  obtain ⟨fs43, x44, hc45, hv46, hy⟩ := hy
  refine g_getf (pc' := 35) d_Way_add_32 hc45 rfl (by decide) hv46 q628 (Or.inl rfl) rfl ?_
  refine g_iconst (v := (1 : Int32)) (pc' := 36) d_Way_add_35 (by decide) rfl ?_
  refine g_iadd (pc' := 37) d_Way_add_36 rfl ?_
  replace hy := g_pF_inv hy
  obtain ⟨fs47, hc48, hl49, hy⟩ := hy
  refine g_putf (pc' := 40) d_Way_add_37 hc48 rfl (by decide) hl49 rfl rfl rfl q628 (Or.inl rfl) rfl ?_
  generalize g_up h42 this (.inr (6, fs47.set 3 (.int (x44 + (1 : Int32))))) = h50 at hy ⊢
  cases hy
  exact g_vret rfl rfl rfl d_Way_add_40
theorem hd_Way_add : g_dsc y_Way_add 1 := ⟨by decide +kernel, by decide +kernel, by decide +kernel⟩
/-! CircuitDesk.draft(I)I -/
abbrev y_Desk_draft : MethodName := ⟨"CircuitDesk", "draft", "(I)I"⟩
abbrev k_Desk_draft : g_M := (prog_1_method_22_code, 3, "CircuitDesk", 19, (some FieldType.int), "draft", [], 0)
theorem d_Desk_draft_0 : decode prog_1_method_22_code 0 = .ok (.aload_n 0, 1) := by decide +kernel
theorem d_Desk_draft_1 : decode prog_1_method_22_code 1 = .ok (.iload_n 1, 1) := by decide +kernel
theorem d_Desk_draft_2 : decode prog_1_method_22_code 2 = .ok (.invokevirtual 97, 3) := by decide +kernel
theorem d_Desk_draft_5 : decode prog_1_method_22_code 5 = .ok (.astore_n 2, 1) := by decide +kernel
theorem d_Desk_draft_6 : decode prog_1_method_22_code 6 = .ok (.aload_n 0, 1) := by decide +kernel
theorem d_Desk_draft_7 : decode prog_1_method_22_code 7 = .ok (.getfield 28, 3) := by decide +kernel
theorem d_Desk_draft_10 : decode prog_1_method_22_code 10 = .ok (.getfield 186, 3) := by decide +kernel
theorem d_Desk_draft_13 : decode prog_1_method_22_code 13 = .ok (.bipush 6, 2) := by decide +kernel
theorem d_Desk_draft_15 : decode prog_1_method_22_code 15 = .ok (.if_icmp .ge 46, 3) := by decide +kernel
theorem d_Desk_draft_18 : decode prog_1_method_22_code 18 = .ok (.aload_n 0, 1) := by decide +kernel
theorem d_Desk_draft_19 : decode prog_1_method_22_code 19 = .ok (.getfield 28, 3) := by decide +kernel
theorem d_Desk_draft_22 : decode prog_1_method_22_code 22 = .ok (.iload_n 1, 1) := by decide +kernel
theorem d_Desk_draft_23 : decode prog_1_method_22_code 23 = .ok (.invokevirtual 239, 3) := by decide +kernel
theorem d_Desk_draft_26 : decode prog_1_method_22_code 26 = .ok (.ifCond .ne 35, 3) := by decide +kernel
theorem d_Desk_draft_29 : decode prog_1_method_22_code 29 = .ok (.aload_n 0, 1) := by decide +kernel
theorem d_Desk_draft_30 : decode prog_1_method_22_code 30 = .ok (.getfield 28, 3) := by decide +kernel
theorem d_Desk_draft_33 : decode prog_1_method_22_code 33 = .ok (.getfield 186, 3) := by decide +kernel
theorem d_Desk_draft_36 : decode prog_1_method_22_code 36 = .ok (.ifCond .eq 21, 3) := by decide +kernel
theorem d_Desk_draft_39 : decode prog_1_method_22_code 39 = .ok (.aload_n 0, 1) := by decide +kernel
theorem d_Desk_draft_40 : decode prog_1_method_22_code 40 = .ok (.getfield 19, 3) := by decide +kernel
theorem d_Desk_draft_43 : decode prog_1_method_22_code 43 = .ok (.aload_n 0, 1) := by decide +kernel
theorem d_Desk_draft_44 : decode prog_1_method_22_code 44 = .ok (.getfield 28, 3) := by decide +kernel
theorem d_Desk_draft_47 : decode prog_1_method_22_code 47 = .ok (.invokevirtual 243, 3) := by decide +kernel
theorem d_Desk_draft_50 : decode prog_1_method_22_code 50 = .ok (.iload_n 1, 1) := by decide +kernel
theorem d_Desk_draft_51 : decode prog_1_method_22_code 51 = .ok (.invokevirtual 105, 3) := by decide +kernel
theorem d_Desk_draft_54 : decode prog_1_method_22_code 54 = .ok (.ifCond .eq 7, 3) := by decide +kernel
theorem d_Desk_draft_57 : decode prog_1_method_22_code 57 = .ok (.iconst 1, 1) := by decide +kernel
theorem d_Desk_draft_58 : decode prog_1_method_22_code 58 = .ok (.goto 4, 3) := by decide +kernel
theorem d_Desk_draft_61 : decode prog_1_method_22_code 61 = .ok (.iconst 0, 1) := by decide +kernel
theorem d_Desk_draft_62 : decode prog_1_method_22_code 62 = .ok (.invokestatic 83, 3) := by decide +kernel
theorem d_Desk_draft_65 : decode prog_1_method_22_code 65 = .ok (.aload_n 0, 1) := by decide +kernel
theorem d_Desk_draft_66 : decode prog_1_method_22_code 66 = .ok (.getfield 28, 3) := by decide +kernel
theorem d_Desk_draft_69 : decode prog_1_method_22_code 69 = .ok (.iload_n 1, 1) := by decide +kernel
theorem d_Desk_draft_70 : decode prog_1_method_22_code 70 = .ok (.invokevirtual 246, 3) := by decide +kernel
theorem d_Desk_draft_73 : decode prog_1_method_22_code 73 = .ok (.aload_n 0, 1) := by decide +kernel
theorem d_Desk_draft_74 : decode prog_1_method_22_code 74 = .ok (.getfield 28, 3) := by decide +kernel
theorem d_Desk_draft_77 : decode prog_1_method_22_code 77 = .ok (.getfield 186, 3) := by decide +kernel
theorem d_Desk_draft_80 : decode prog_1_method_22_code 80 = .ok (.ireturn, 1) := by decide +kernel
def Desk_draft_62 (h : g_AH) (v0 : Nat) (v1 : Int32) (s0 : Int32) : Option ((Int32 ⊕ g_EX) × g_AH) :=
  g_bx (Desk_checkState h s0) fun x18 h19 => g_gR h19 v0 0 1 fun x24 => g_nn x24 fun a27 => g_is h19 a27 6 <| g_b (Way_add h19 a27 v1) fun h31 => g_gR h31 v0 0 1 fun x34 => g_nn x34 fun a37 => g_gI h31 a37 6 3 fun x39 => some (.inl x39, h31)
set_option maxHeartbeats 4000000 in
set_option maxRecDepth 100000 in
theorem W_Desk_draft_62 {X : g_X} (z : (Int32 ⊕ g_EX) × g_AH) (h : g_AH) (v0 : Nat) (v1 : Int32) (s0 : Int32) (hy : Desk_draft_62  h v0 v1 s0 = some z) : G X k_Desk_draft (g_rI z.1) z.2 h 62 [(0, .ref v0), (1, .int v1)] [.int s0] := by
  unfold Desk_draft_62 at hy
  replace hy := g_bx_inv hy
  rcases hy with ⟨x18, h19, hf20, hy⟩ | ⟨⟨E9, q9⟩, h19, hf20, ez22⟩
  rotate_left
  · subst ez22
    exact g_callSX (As := [.int s0]) (rest := []) 1 (T_Desk_checkState (hy := hf20)) d_Desk_draft_62 q1298 q1299 q108 q1300 hd_Desk_checkState rfl ⟨by decide, by decide⟩ (by first | exact Nat.le_of_ble_eq_true rfl | (simp only [List.map, List.sum_cons, List.sum_nil, g_cat_rf]; exact Nat.le_of_ble_eq_true rfl) | (simp only [List.map, List.sum_cons, List.sum_nil, g_cat_rf, Value.category]; decide)) rfl rfl
  refine g_callS (rv := none) (h1 := h19) (pc' := 65) (As := [.int s0]) (rest := []) 1 (T_Desk_checkState (hy := hf20)) d_Desk_draft_62 q1298 q1299 q108 q1300 hd_Desk_checkState rfl ⟨by decide, by decide⟩ (by first | exact Nat.le_of_ble_eq_true rfl | (simp only [List.map, List.sum_cons, List.sum_nil, g_cat_rf]; exact Nat.le_of_ble_eq_true rfl) | (simp only [List.map, List.sum_cons, List.sum_nil, g_cat_rf, Value.category]; decide)) rfl ?_
  refine g_aload_n 0 (i := 0) (pc' := 66) d_Desk_draft_65 rfl rfl rfl ?_
  replace hy := g_gR_inv hy
  obtain ⟨fs23, x24, hc25, hv26, hy⟩ := hy
  refine g_getf (pc' := 69) d_Desk_draft_66 hc25 rfl (by decide) hv26 q643 (Or.inl rfl) rfl ?_
  refine g_iload_n 1 (i := 1) (pc' := 70) d_Desk_draft_69 rfl rfl rfl ?_
  replace hy := g_nn_inv hy
  obtain ⟨a27, rfl, hy⟩ := hy
  replace hy := g_is_inv hy
  obtain ⟨fs28, hc29, hy⟩ := hy
  replace hy := g_b_inv hy
  obtain ⟨h31, hf32, hy⟩ := hy
  refine g_callV (rv := none) (h1 := h31) (pc' := 73) (As := [.int v1]) (rest := []) 1 (T_Way_add (hy := hf32)) d_Desk_draft_70 hc29 rfl rfl q1573 q763 q764 q134 q765 hd_Way_add rfl ⟨by decide, by decide⟩ (by first | exact Nat.le_of_ble_eq_true rfl | (simp only [List.map, List.sum_cons, List.sum_nil, g_cat_rf]; exact Nat.le_of_ble_eq_true rfl) | (simp only [List.map, List.sum_cons, List.sum_nil, g_cat_rf, Value.category]; decide)) rfl ?_
  refine g_aload_n 0 (i := 0) (pc' := 74) d_Desk_draft_73 rfl rfl rfl ?_
  replace hy := g_gR_inv hy
  obtain ⟨fs33, x34, hc35, hv36, hy⟩ := hy
  refine g_getf (pc' := 77) d_Desk_draft_74 hc35 rfl (by decide) hv36 q643 (Or.inl rfl) rfl ?_
  replace hy := g_nn_inv hy
  obtain ⟨a37, rfl, hy⟩ := hy
  replace hy := g_gI_inv hy
  obtain ⟨fs38, x39, hc40, hv41, hy⟩ := hy
  refine g_getfN (pc' := 80) d_Desk_draft_77 hc40 rfl (by decide) hv41 q631 rfl rfl ?_
  cases hy
  exact g_iret rfl rfl rfl d_Desk_draft_80
def Desk_draft_61 (h : g_AH) (v0 : Nat) (v1 : Int32) : Option ((Int32 ⊕ g_EX) × g_AH) :=
  Desk_draft_62  h v0 v1 (0 : Int32)
set_option maxHeartbeats 4000000 in
set_option maxRecDepth 100000 in
theorem W_Desk_draft_61 {X : g_X} (z : (Int32 ⊕ g_EX) × g_AH) (h : g_AH) (v0 : Nat) (v1 : Int32) (hy : Desk_draft_61  h v0 v1 = some z) : G X k_Desk_draft (g_rI z.1) z.2 h 61 [(0, .ref v0), (1, .int v1)] [] := by
  unfold Desk_draft_61 at hy
  refine g_iconst (v := (0 : Int32)) (pc' := 62) d_Desk_draft_61 (by decide) rfl ?_
  exact W_Desk_draft_62 _ _ _ _ _ hy
def Desk_draft_57 (h : g_AH) (v0 : Nat) (v1 : Int32) : Option ((Int32 ⊕ g_EX) × g_AH) :=
  Desk_draft_62  h v0 v1 (1 : Int32)
set_option maxHeartbeats 4000000 in
set_option maxRecDepth 100000 in
theorem W_Desk_draft_57 {X : g_X} (z : (Int32 ⊕ g_EX) × g_AH) (h : g_AH) (v0 : Nat) (v1 : Int32) (hy : Desk_draft_57  h v0 v1 = some z) : G X k_Desk_draft (g_rI z.1) z.2 h 57 [(0, .ref v0), (1, .int v1)] [] := by
  unfold Desk_draft_57 at hy
  refine g_iconst (v := (1 : Int32)) (pc' := 58) d_Desk_draft_57 (by decide) rfl ?_
  refine g_goto (pc' := 62) d_Desk_draft_58 (by decide) ?_
  exact W_Desk_draft_62 _ _ _ _ _ hy
def Desk_draft (h : g_AH) (this : Nat) (p0 : Int32) : Option ((Int32 ⊕ g_EX) × g_AH) :=
  g_is h this 0 <| g_bx (Desk_nodeOf h this p0) fun x3 h4 => g_gR h4 this 0 1 fun x9 => g_nn x9 fun a12 => g_gI h4 a12 6 3 fun x14 => if (6 : Int32) ≤ x14 then (Desk_draft_61  h4 this p0) else (g_gR h4 this 0 1 fun x43 => g_nn x43 fun a46 => g_is h4 a46 6 <| g_b (Way_has h4 a46 p0) fun x49 => if x49 = 0 then (g_gR h4 this 0 1 fun x54 => g_nn x54 fun a57 => g_gI h4 a57 6 3 fun x59 => if x59 = 0 then (Desk_draft_57  h4 this p0) else (g_gR h4 this 0 0 fun x64 => g_gR h4 this 0 1 fun x68 => g_nn x68 fun a71 => g_is h4 a71 6 <| g_b (Way_last h4 a71) fun x74 => g_nn x64 fun a77 => g_is h4 a77 1 <| g_b (Net_areJoined h4 a77 x74 p0) fun x80 => if x80 = 0 then (Desk_draft_61  h4 this p0) else (Desk_draft_57  h4 this p0))) else (Desk_draft_61  h4 this p0))
set_option maxHeartbeats 4000000 in
set_option maxRecDepth 100000 in
theorem T_Desk_draft {l : Launch} {B : g_B} (h : g_AH) (this : Nat) (p0 : Int32) (z : (Int32 ⊕ g_EX) × g_AH) (hy : Desk_draft h this p0 = some z) : g_CT l B y_Desk_draft k_Desk_draft [.ref this, .int p0] h (g_rI z.1) z.2 := by
  refine g_start2 (Lc := [(0, .ref this), (1, .int p0)]) (by decide) rfl rfl (by exact Nat.le_of_ble_eq_true rfl) (by rfl) fun X => ?_
  unfold Desk_draft at hy
  refine g_aload_n 0 (i := 0) (pc' := 1) d_Desk_draft_0 rfl rfl rfl ?_
  refine g_iload_n 1 (i := 1) (pc' := 2) d_Desk_draft_1 rfl rfl rfl ?_
  replace hy := g_is_inv hy
  obtain ⟨fs1, hc2, hy⟩ := hy
  replace hy := g_bx_inv hy
  rcases hy with ⟨x3, h4, hf5, hy⟩ | ⟨⟨E9, q9⟩, h4, hf5, ez7⟩
  rotate_left
  · subst ez7
    exact g_callVX (As := [.int p0]) (rest := []) 1 (T_Desk_nodeOf (hy := hf5)) d_Desk_draft_2 hc2 rfl rfl q1376 q1378 qs15 q108 q1379 hd_Desk_nodeOf rfl ⟨by decide, by decide⟩ (by first | exact Nat.le_of_ble_eq_true rfl | (simp only [List.map, List.sum_cons, List.sum_nil, g_cat_rf]; exact Nat.le_of_ble_eq_true rfl) | (simp only [List.map, List.sum_cons, List.sum_nil, g_cat_rf, Value.category]; decide)) rfl rfl
  refine g_callV (rv := some (va_rf x3)) (h1 := h4) (pc' := 5) (As := [.int p0]) (rest := []) 1 (T_Desk_nodeOf (hy := hf5)) d_Desk_draft_2 hc2 rfl rfl q1376 q1378 qs15 q108 q1379 hd_Desk_nodeOf rfl ⟨by decide, by decide⟩ (by first | exact Nat.le_of_ble_eq_true rfl | (simp only [List.map, List.sum_cons, List.sum_nil, g_cat_rf]; exact Nat.le_of_ble_eq_true rfl) | (simp only [List.map, List.sum_cons, List.sum_nil, g_cat_rf, Value.category]; decide)) rfl ?_
  refine g_astoreO_n (i := 2) (pc' := 6) (Lc' := [(2, va_rf x3), (0, .ref this), (1, .int p0)]) d_Desk_draft_5 rfl (by decide) rfl rfl ?_
  refine g_aload_n 1 (i := 0) (pc' := 7) d_Desk_draft_6 rfl rfl rfl ?_
  replace hy := g_gR_inv hy
  obtain ⟨fs8, x9, hc10, hv11, hy⟩ := hy
  refine g_getf (pc' := 10) d_Desk_draft_7 hc10 rfl (by decide) hv11 q643 (Or.inl rfl) rfl ?_
  replace hy := g_nn_inv hy
  obtain ⟨a12, rfl, hy⟩ := hy
  replace hy := g_gI_inv hy
  obtain ⟨fs13, x14, hc15, hv16, hy⟩ := hy
  refine g_getfN (pc' := 13) d_Desk_draft_10 hc15 rfl (by decide) hv16 q631 rfl rfl ?_
  refine g_bipush (v := (6 : Int32)) (pc' := 15) d_Desk_draft_13 (by decide) rfl ?_
  by_cases c17 : (6 : Int32) ≤ x14
  · rw [if_pos c17] at hy
    refine g_icmp_geT (pc' := 61) d_Desk_draft_15 c17 (by decide) ?_
    refine g_sub [1, 2] rfl ?_
    exact W_Desk_draft_61 _ _ _ _ hy
  · rw [if_neg c17] at hy
    refine g_icmp_geF (pc' := 18) d_Desk_draft_15 61 c17 (by decide) rfl ?_
    refine g_aload_n 1 (i := 0) (pc' := 19) d_Desk_draft_18 rfl rfl rfl ?_
    replace hy := g_gR_inv hy
    obtain ⟨fs42, x43, hc44, hv45, hy⟩ := hy
    refine g_getf (pc' := 22) d_Desk_draft_19 hc44 rfl (by decide) hv45 q643 (Or.inl rfl) rfl ?_
    refine g_iload_n 2 (i := 1) (pc' := 23) d_Desk_draft_22 rfl rfl rfl ?_
    replace hy := g_nn_inv hy
    obtain ⟨a46, rfl, hy⟩ := hy
    replace hy := g_is_inv hy
    obtain ⟨fs47, hc48, hy⟩ := hy
    replace hy := g_b_inv hy
    obtain ⟨x49, hf51, hy⟩ := hy
    refine g_callV (rv := some (.int x49)) (h1 := h4) (pc' := 26) (As := [.int p0]) (rest := []) 1 (T_Way_has (hy := hf51)) d_Desk_draft_23 hc48 rfl rfl q1572 q787 q788 q134 q789 hd_Way_has rfl ⟨by decide, by decide⟩ (by first | exact Nat.le_of_ble_eq_true rfl | (simp only [List.map, List.sum_cons, List.sum_nil, g_cat_rf]; exact Nat.le_of_ble_eq_true rfl) | (simp only [List.map, List.sum_cons, List.sum_nil, g_cat_rf, Value.category]; decide)) rfl ?_
    by_cases c52 : x49 = 0
    · rw [if_pos c52] at hy
      refine g_if_neF (pc' := 29) d_Desk_draft_26 61 c52 (by decide) rfl ?_
      refine g_aload_n 1 (i := 0) (pc' := 30) d_Desk_draft_29 rfl rfl rfl ?_
      replace hy := g_gR_inv hy
      obtain ⟨fs53, x54, hc55, hv56, hy⟩ := hy
      refine g_getf (pc' := 33) d_Desk_draft_30 hc55 rfl (by decide) hv56 q643 (Or.inl rfl) rfl ?_
      replace hy := g_nn_inv hy
      obtain ⟨a57, rfl, hy⟩ := hy
      replace hy := g_gI_inv hy
      obtain ⟨fs58, x59, hc60, hv61, hy⟩ := hy
      refine g_getfN (pc' := 36) d_Desk_draft_33 hc60 rfl (by decide) hv61 q631 rfl rfl ?_
      by_cases c62 : x59 = 0
      · rw [if_pos c62] at hy
        refine g_if_eqT (pc' := 57) d_Desk_draft_36 c62 (by decide) ?_
        refine g_sub [1, 2] rfl ?_
        exact W_Desk_draft_57 _ _ _ _ hy
      · rw [if_neg c62] at hy
        refine g_if_eqF (pc' := 39) d_Desk_draft_36 57 c62 (by decide) rfl ?_
        refine g_aload_n 1 (i := 0) (pc' := 40) d_Desk_draft_39 rfl rfl rfl ?_
        replace hy := g_gR_inv hy
        obtain ⟨fs63, x64, hc65, hv66, hy⟩ := hy
        refine g_getf (pc' := 43) d_Desk_draft_40 hc65 rfl (by decide) hv66 q642 (Or.inl rfl) rfl ?_
        refine g_aload_n 1 (i := 0) (pc' := 44) d_Desk_draft_43 rfl rfl rfl ?_
        replace hy := g_gR_inv hy
        obtain ⟨fs67, x68, hc69, hv70, hy⟩ := hy
        refine g_getf (pc' := 47) d_Desk_draft_44 hc69 rfl (by decide) hv70 q643 (Or.inl rfl) rfl ?_
        replace hy := g_nn_inv hy
        obtain ⟨a71, rfl, hy⟩ := hy
        replace hy := g_is_inv hy
        obtain ⟨fs72, hc73, hy⟩ := hy
        replace hy := g_b_inv hy
        obtain ⟨x74, hf76, hy⟩ := hy
        refine g_callV (rv := some (.int x74)) (h1 := h4) (pc' := 50) (As := []) (rest := [va_rf x64]) 0 (T_Way_last (hy := hf76)) d_Desk_draft_47 hc73 rfl rfl q722 q723 q724 q134 q725 hd_Way_last rfl ⟨by decide, by decide⟩ (by first | exact Nat.le_of_ble_eq_true rfl | (simp only [List.map, List.sum_cons, List.sum_nil, g_cat_rf]; exact Nat.le_of_ble_eq_true rfl) | (simp only [List.map, List.sum_cons, List.sum_nil, g_cat_rf, Value.category]; decide)) rfl ?_
        refine g_iload_n 2 (i := 1) (pc' := 51) d_Desk_draft_50 rfl rfl rfl ?_
        replace hy := g_nn_inv hy
        obtain ⟨a77, rfl, hy⟩ := hy
        replace hy := g_is_inv hy
        obtain ⟨fs78, hc79, hy⟩ := hy
        replace hy := g_b_inv hy
        obtain ⟨x80, hf82, hy⟩ := hy
        refine g_callV (rv := some (.int x80)) (h1 := h4) (pc' := 54) (As := [.int x74, .int p0]) (rest := []) 2 (T_Net_areJoined (hy := hf82)) d_Desk_draft_51 hc79 rfl rfl q1403 q1097 q1098 q109 q1099 hd_Net_areJoined rfl ⟨by decide, by decide⟩ (by first | exact Nat.le_of_ble_eq_true rfl | (simp only [List.map, List.sum_cons, List.sum_nil, g_cat_rf]; exact Nat.le_of_ble_eq_true rfl) | (simp only [List.map, List.sum_cons, List.sum_nil, g_cat_rf, Value.category]; decide)) rfl ?_
        by_cases c83 : x80 = 0
        · rw [if_pos c83] at hy
          refine g_if_eqT (pc' := 61) d_Desk_draft_54 c83 (by decide) ?_
          refine g_sub [1, 2] rfl ?_
          exact W_Desk_draft_61 _ _ _ _ hy
        · rw [if_neg c83] at hy
          refine g_if_eqF (pc' := 57) d_Desk_draft_54 61 c83 (by decide) rfl ?_
          refine g_sub [1, 2] rfl ?_
          exact W_Desk_draft_57 _ _ _ _ hy
    · rw [if_neg c52] at hy
      refine g_if_neT (pc' := 61) d_Desk_draft_26 c52 (by decide) ?_
      refine g_sub [1, 2] rfl ?_
      exact W_Desk_draft_61 _ _ _ _ hy
theorem hd_Desk_draft : g_dsc y_Desk_draft 1 := ⟨by decide +kernel, by decide +kernel, by decide +kernel⟩
/-! CircuitDesk.isBand(I)Z -/
abbrev y_Desk_isBand : MethodName := ⟨"CircuitDesk", "isBand", "(I)Z"⟩
abbrev k_Desk_isBand : g_M := (prog_1_method_24_code, 1, "CircuitDesk", 13, (some FieldType.boolean), "isBand", [], 0)
theorem d_Desk_isBand_0 : decode prog_1_method_24_code 0 = .ok (.iload_n 0, 1) := by decide +kernel
theorem d_Desk_isBand_1 : decode prog_1_method_24_code 1 = .ok (.i2l, 1) := by decide +kernel
theorem d_Desk_isBand_2 : decode prog_1_method_24_code 2 = .ok (.lconst 1, 1) := by decide +kernel
theorem d_Desk_isBand_3 : decode prog_1_method_24_code 3 = .ok (.ldc2_w 248, 3) := by decide +kernel
theorem d_Desk_isBand_6 : decode prog_1_method_24_code 6 = .ok (.invokestatic 54, 3) := by decide +kernel
theorem d_Desk_isBand_9 : decode prog_1_method_24_code 9 = .ok (.ireturn, 1) := by decide +kernel
def Desk_isBand (p0 : Int32) : Option (Int32) :=
  g_b (Desk_isBetween ((p0).toInt64) (1 : Int64) (20 : Int64)) fun x1 => g_rq (x1 = 0 ∨ x1 = 1) <| some x1
set_option maxHeartbeats 4000000 in
set_option maxRecDepth 100000 in
theorem T_Desk_isBand {l : Launch} {B : g_B} {h : g_AH} (p0 : Int32) (z : Int32) (hy : Desk_isBand p0 = some z) : g_CT l B y_Desk_isBand k_Desk_isBand [.int p0] h (.inl (some (.int z))) h := by
  refine g_start2 (Lc := [(0, .int p0)]) (by decide) rfl rfl (by exact Nat.le_of_ble_eq_true rfl) (by rfl) fun X => ?_
  unfold Desk_isBand at hy
  refine g_iload_n 0 (i := 0) (pc' := 1) d_Desk_isBand_0 rfl rfl rfl ?_
  refine g_i2l (pc' := 2) d_Desk_isBand_1 rfl ?_
  refine g_lconst (v := 1) (pc' := 3) d_Desk_isBand_2 (by decide) rfl ?_
  refine g_ldc2 (pc' := 6) d_Desk_isBand_3 q1584 rfl ?_
  replace hy := g_b_inv hy
  obtain ⟨x1, hf3, hy⟩ := hy
  refine g_callS (rv := some (.int x1)) (h1 := h) (pc' := 9) (As := [.long ((p0).toInt64), .long (1 : Int64), .long (20 : Int64)]) (rest := []) 3 (T_Desk_isBetween (hy := hf3)) d_Desk_isBand_6 q1330 q828 q108 q829 hd_Desk_isBetween rfl ⟨by decide, by decide⟩ (by first | exact Nat.le_of_ble_eq_true rfl | (simp only [List.map, List.sum_cons, List.sum_nil, g_cat_rf]; exact Nat.le_of_ble_eq_true rfl) | (simp only [List.map, List.sum_cons, List.sum_nil, g_cat_rf, Value.category]; decide)) rfl ?_
  replace hy := g_rq_inv hy
  obtain ⟨c4, hy⟩ := hy
  cases hy
  exact g_zret rfl rfl rfl (g_nar_z c4).1 d_Desk_isBand_9
theorem hd_Desk_isBand : g_dsc y_Desk_isBand 1 := ⟨by decide +kernel, by decide +kernel, by decide +kernel⟩
/-! CircuitDesk$Net.hasRoom(III)Z -/
abbrev y_Net_hasRoom0 : MethodName := ⟨"CircuitDesk$Net", "hasRoom", "(III)Z"⟩
abbrev k_Net_hasRoom0 : g_M := (prog_7_method_9_code, 5, "CircuitDesk$Net", 17, (some FieldType.boolean), "hasRoom", [], 0)
theorem d_Net_hasRoom0_0 : decode prog_7_method_9_code 0 = .ok (.aload_n 0, 1) := by decide +kernel
theorem d_Net_hasRoom0_1 : decode prog_7_method_9_code 1 = .ok (.getfield 24, 3) := by decide +kernel
theorem d_Net_hasRoom0_4 : decode prog_7_method_9_code 4 = .ok (.iload_n 1, 1) := by decide +kernel
theorem d_Net_hasRoom0_5 : decode prog_7_method_9_code 5 = .ok (.invokevirtual 116, 3) := by decide +kernel
theorem d_Net_hasRoom0_8 : decode prog_7_method_9_code 8 = .ok (.checkcast 72, 3) := by decide +kernel
theorem d_Net_hasRoom0_11 : decode prog_7_method_9_code 11 = .ok (.astore 4, 2) := by decide +kernel
theorem d_Net_hasRoom0_13 : decode prog_7_method_9_code 13 = .ok (.aload 4, 2) := by decide +kernel
theorem d_Net_hasRoom0_15 : decode prog_7_method_9_code 15 = .ok (.getfield 156, 3) := by decide +kernel
theorem d_Net_hasRoom0_18 : decode prog_7_method_9_code 18 = .ok (.ifCond .eq 23, 3) := by decide +kernel
theorem d_Net_hasRoom0_21 : decode prog_7_method_9_code 21 = .ok (.aload_n 0, 1) := by decide +kernel
theorem d_Net_hasRoom0_22 : decode prog_7_method_9_code 22 = .ok (.iload_n 1, 1) := by decide +kernel
theorem d_Net_hasRoom0_23 : decode prog_7_method_9_code 23 = .ok (.iload_n 3, 1) := by decide +kernel
theorem d_Net_hasRoom0_24 : decode prog_7_method_9_code 24 = .ok (.invokevirtual 160, 3) := by decide +kernel
theorem d_Net_hasRoom0_27 : decode prog_7_method_9_code 27 = .ok (.iload_n 2, 1) := by decide +kernel
theorem d_Net_hasRoom0_28 : decode prog_7_method_9_code 28 = .ok (.iadd, 1) := by decide +kernel
theorem d_Net_hasRoom0_29 : decode prog_7_method_9_code 29 = .ok (.aload 4, 2) := by decide +kernel
theorem d_Net_hasRoom0_31 : decode prog_7_method_9_code 31 = .ok (.getfield 163, 3) := by decide +kernel
theorem d_Net_hasRoom0_34 : decode prog_7_method_9_code 34 = .ok (.if_icmp .gt 7, 3) := by decide +kernel
theorem d_Net_hasRoom0_37 : decode prog_7_method_9_code 37 = .ok (.iconst 1, 1) := by decide +kernel
theorem d_Net_hasRoom0_38 : decode prog_7_method_9_code 38 = .ok (.goto 4, 3) := by decide +kernel
theorem d_Net_hasRoom0_41 : decode prog_7_method_9_code 41 = .ok (.iconst 0, 1) := by decide +kernel
theorem d_Net_hasRoom0_42 : decode prog_7_method_9_code 42 = .ok (.ireturn, 1) := by decide +kernel
def Net_hasRoom0 (h : g_AH) (this : Nat) (p0 : Int32) (p1 : Int32) (p2 : Int32) : Option (Int32) :=
  g_gR h this 1 2 fun x2 => g_nn x2 fun a5 => g_is h a5 15 <| g_b (ArrayList_get h a5 p0) fun x8 => g_ck h x8 11 <| g_nn x8 fun a12 => g_gI h a12 11 4 fun x14 => if x14 = 0 then (some (0 : Int32)) else (g_is h this 1 <| g_b (Net_reserved h this p0 p2) fun x21 => g_gI h a12 11 2 fun x25 => if x25 < (x21 + p1) then (some (0 : Int32)) else (some (1 : Int32)))
set_option maxHeartbeats 4000000 in
set_option maxRecDepth 100000 in
theorem T_Net_hasRoom0 {l : Launch} {B : g_B} (h : g_AH) (this : Nat) (p0 : Int32) (p1 : Int32) (p2 : Int32) (z : Int32) (hy : Net_hasRoom0 h this p0 p1 p2 = some z) : g_CT l B y_Net_hasRoom0 k_Net_hasRoom0 [.ref this, .int p0, .int p1, .int p2] h (.inl (some (.int z))) h := by
  refine g_start2 (Lc := [(0, .ref this), (1, .int p0), (2, .int p1), (3, .int p2)]) (by decide) rfl rfl (by exact Nat.le_of_ble_eq_true rfl) (by rfl) fun X => ?_
  unfold Net_hasRoom0 at hy
  refine g_aload_n 0 (i := 0) (pc' := 1) d_Net_hasRoom0_0 rfl rfl rfl ?_
  replace hy := g_gR_inv hy
  obtain ⟨fs1, x2, hc3, hv4, hy⟩ := hy
  refine g_getf (pc' := 4) d_Net_hasRoom0_1 hc3 rfl (by decide) hv4 q552 (Or.inl rfl) rfl ?_
  refine g_iload_n 1 (i := 1) (pc' := 5) d_Net_hasRoom0_4 rfl rfl rfl ?_
  replace hy := g_nn_inv hy
  obtain ⟨a5, rfl, hy⟩ := hy
  replace hy := g_is_inv hy
  obtain ⟨fs6, hc7, hy⟩ := hy
  replace hy := g_b_inv hy
  obtain ⟨x8, hf10, hy⟩ := hy
  refine g_callV (rv := some (va_rf x8)) (h1 := h) (pc' := 8) (As := [.int p0]) (rest := []) 1 (T_ArrayList_get (hy := hf10)) d_Net_hasRoom0_5 hc7 rfl rfl q682 q683 q684 q112 q685 hd_ArrayList_get rfl ⟨by decide, by decide⟩ (by first | exact Nat.le_of_ble_eq_true rfl | (simp only [List.map, List.sum_cons, List.sum_nil, g_cat_rf]; exact Nat.le_of_ble_eq_true rfl) | (simp only [List.map, List.sum_cons, List.sum_nil, g_cat_rf, Value.category]; decide)) rfl ?_
  replace hy := g_ck_inv hy
  obtain ⟨hk11, hy⟩ := hy
  refine g_castO (pc' := 11) d_Net_hasRoom0_8 hk11 rfl q701 rfl ?_
  refine g_astoreO (pc' := 13) (Lc' := [(4, va_rf x8), (0, .ref this), (1, .int p0), (2, .int p1), (3, .int p2)]) d_Net_hasRoom0_11 (by decide) rfl rfl ?_
  refine g_aloadO 0 (pc' := 15) d_Net_hasRoom0_13 rfl rfl ?_
  replace hy := g_nn_inv hy
  obtain ⟨a12, rfl, hy⟩ := hy
  replace hy := g_gI_inv hy
  obtain ⟨fs13, x14, hc15, hv16, hy⟩ := hy
  refine g_getfN (pc' := 18) d_Net_hasRoom0_15 hc15 rfl (by decide) hv16 q1121 rfl rfl ?_
  by_cases c17 : x14 = 0
  · rw [if_pos c17] at hy
    refine g_if_eqT (pc' := 41) d_Net_hasRoom0_18 c17 (by decide) ?_
    refine g_iconst (v := (0 : Int32)) (pc' := 42) d_Net_hasRoom0_41 (by decide) rfl ?_
    cases hy
    exact g_zret rfl rfl rfl (g_nar_z (Or.inl rfl)).1 d_Net_hasRoom0_42
  · rw [if_neg c17] at hy
    refine g_if_eqF (pc' := 21) d_Net_hasRoom0_18 41 c17 (by decide) rfl ?_
    refine g_aload_n 1 (i := 0) (pc' := 22) d_Net_hasRoom0_21 rfl rfl rfl ?_
    refine g_iload_n 2 (i := 1) (pc' := 23) d_Net_hasRoom0_22 rfl rfl rfl ?_
    refine g_iload_n 4 (i := 3) (pc' := 24) d_Net_hasRoom0_23 rfl rfl rfl ?_
    replace hy := g_is_inv hy
    obtain ⟨fs19, hc20, hy⟩ := hy
    replace hy := g_b_inv hy
    obtain ⟨x21, hf23, hy⟩ := hy
    refine g_callV (rv := some (.int x21)) (h1 := h) (pc' := 27) (As := [.int p0, .int p2]) (rest := []) 2 (T_Net_reserved (hy := hf23)) d_Net_hasRoom0_24 hc20 rfl rfl q741 q678 q679 q109 q680 hd_Net_reserved rfl ⟨by decide, by decide⟩ (by first | exact Nat.le_of_ble_eq_true rfl | (simp only [List.map, List.sum_cons, List.sum_nil, g_cat_rf]; exact Nat.le_of_ble_eq_true rfl) | (simp only [List.map, List.sum_cons, List.sum_nil, g_cat_rf, Value.category]; decide)) rfl ?_
    refine g_iload_n 3 (i := 2) (pc' := 28) d_Net_hasRoom0_27 rfl rfl rfl ?_
    refine g_iadd (pc' := 29) d_Net_hasRoom0_28 rfl ?_
    refine g_aload 0 (pc' := 31) d_Net_hasRoom0_29 rfl rfl ?_
    replace hy := g_gI_inv hy
    obtain ⟨fs24, x25, hc26, hv27, hy⟩ := hy
    refine g_getfN (pc' := 34) d_Net_hasRoom0_31 hc26 rfl (by decide) hv27 q1114 rfl rfl ?_
    by_cases c28 : x25 < (x21 + p1)
    · rw [if_pos c28] at hy
      refine g_icmp_gtT (pc' := 41) d_Net_hasRoom0_34 c28 (by decide) ?_
      refine g_iconst (v := (0 : Int32)) (pc' := 42) d_Net_hasRoom0_41 (by decide) rfl ?_
      cases hy
      exact g_zret rfl rfl rfl (g_nar_z (Or.inl rfl)).1 d_Net_hasRoom0_42
    · rw [if_neg c28] at hy
      refine g_icmp_gtF (pc' := 37) d_Net_hasRoom0_34 41 c28 (by decide) rfl ?_
      refine g_iconst (v := (1 : Int32)) (pc' := 38) d_Net_hasRoom0_37 (by decide) rfl ?_
      refine g_goto (pc' := 42) d_Net_hasRoom0_38 (by decide) ?_
      cases hy
      exact g_zret rfl rfl rfl (g_nar_z (Or.inr rfl)).1 d_Net_hasRoom0_42
theorem hd_Net_hasRoom0 : g_dsc y_Net_hasRoom0 3 := ⟨by decide +kernel, by decide +kernel, by decide +kernel⟩
/-! CircuitDesk$Search.<init>(LCircuitDesk$Net;IIII)V -/
abbrev y_Search_init : MethodName := ⟨"CircuitDesk$Search", "<init>", "(LCircuitDesk$Net;IIII)V"⟩
abbrev k_Search_init : g_M := (prog_13_method_1_code, 7, "CircuitDesk$Search", 18, none, "<init>", [], 0)
theorem d_Search_init_0 : decode prog_13_method_1_code 0 = .ok (.aload_n 0, 1) := by decide +kernel
theorem d_Search_init_1 : decode prog_13_method_1_code 1 = .ok (.invokespecial 3, 3) := by decide +kernel
theorem d_Search_init_4 : decode prog_13_method_1_code 4 = .ok (.aload_n 0, 1) := by decide +kernel
theorem d_Search_init_5 : decode prog_13_method_1_code 5 = .ok (.bipush 16, 2) := by decide +kernel
theorem d_Search_init_7 : decode prog_13_method_1_code 7 = .ok (.newarray .boolean, 2) := by decide +kernel
theorem d_Search_init_9 : decode prog_13_method_1_code 9 = .ok (.putfield 9, 3) := by decide +kernel
theorem d_Search_init_12 : decode prog_13_method_1_code 12 = .ok (.aload_n 0, 1) := by decide +kernel
theorem d_Search_init_13 : decode prog_13_method_1_code 13 = .ok (.aload_n 1, 1) := by decide +kernel
theorem d_Search_init_14 : decode prog_13_method_1_code 14 = .ok (.putfield 15, 3) := by decide +kernel
theorem d_Search_init_17 : decode prog_13_method_1_code 17 = .ok (.aload_n 0, 1) := by decide +kernel
theorem d_Search_init_18 : decode prog_13_method_1_code 18 = .ok (.iload_n 2, 1) := by decide +kernel
theorem d_Search_init_19 : decode prog_13_method_1_code 19 = .ok (.putfield 19, 3) := by decide +kernel
theorem d_Search_init_22 : decode prog_13_method_1_code 22 = .ok (.iconst 0, 1) := by decide +kernel
theorem d_Search_init_23 : decode prog_13_method_1_code 23 = .ok (.istore 6, 2) := by decide +kernel
theorem d_Search_init_25 : decode prog_13_method_1_code 25 = .ok (.iload 6, 2) := by decide +kernel
theorem d_Search_init_27 : decode prog_13_method_1_code 27 = .ok (.aload_n 1, 1) := by decide +kernel
theorem d_Search_init_28 : decode prog_13_method_1_code 28 = .ok (.getfield 23, 3) := by decide +kernel
theorem d_Search_init_31 : decode prog_13_method_1_code 31 = .ok (.invokevirtual 29, 3) := by decide +kernel
theorem d_Search_init_34 : decode prog_13_method_1_code 34 = .ok (.if_icmp .ge 40, 3) := by decide +kernel
theorem d_Search_init_37 : decode prog_13_method_1_code 37 = .ok (.aload_n 0, 1) := by decide +kernel
theorem d_Search_init_38 : decode prog_13_method_1_code 38 = .ok (.getfield 9, 3) := by decide +kernel
theorem d_Search_init_41 : decode prog_13_method_1_code 41 = .ok (.iload 6, 2) := by decide +kernel
theorem d_Search_init_43 : decode prog_13_method_1_code 43 = .ok (.iload 6, 2) := by decide +kernel
theorem d_Search_init_45 : decode prog_13_method_1_code 45 = .ok (.iload 5, 2) := by decide +kernel
theorem d_Search_init_47 : decode prog_13_method_1_code 47 = .ok (.if_icmp .eq 19, 3) := by decide +kernel
theorem d_Search_init_50 : decode prog_13_method_1_code 50 = .ok (.aload_n 1, 1) := by decide +kernel
theorem d_Search_init_51 : decode prog_13_method_1_code 51 = .ok (.iload 6, 2) := by decide +kernel
theorem d_Search_init_53 : decode prog_13_method_1_code 53 = .ok (.iload_n 3, 1) := by decide +kernel
theorem d_Search_init_54 : decode prog_13_method_1_code 54 = .ok (.iload 4, 2) := by decide +kernel
theorem d_Search_init_56 : decode prog_13_method_1_code 56 = .ok (.invokevirtual 35, 3) := by decide +kernel
theorem d_Search_init_59 : decode prog_13_method_1_code 59 = .ok (.ifCond .eq 7, 3) := by decide +kernel
theorem d_Search_init_62 : decode prog_13_method_1_code 62 = .ok (.iconst 1, 1) := by decide +kernel
theorem d_Search_init_63 : decode prog_13_method_1_code 63 = .ok (.goto 4, 3) := by decide +kernel
theorem d_Search_init_66 : decode prog_13_method_1_code 66 = .ok (.iconst 0, 1) := by decide +kernel
theorem d_Search_init_67 : decode prog_13_method_1_code 67 = .ok (.bastore, 1) := by decide +kernel
theorem d_Search_init_68 : decode prog_13_method_1_code 68 = .ok (.iinc 6 1, 3) := by decide +kernel
theorem d_Search_init_71 : decode prog_13_method_1_code 71 = .ok (.goto (-46), 3) := by decide +kernel
theorem d_Search_init_74 : decode prog_13_method_1_code 74 = .ok (.return_, 1) := by decide +kernel
def Search_init_67 (k25 : g_AH → Nat → Option Nat → Int32 → Int32 → Int32 → Int32 → Option g_AH) (h : g_AH) (v0 : Nat) (v1 : Option Nat) (v3 : Int32) (v4 : Int32) (v5 : Int32) (v6 : Int32) (s0 : Int32) (s1 : Int32) (s2 : Option Nat) : Option g_AH :=
  g_nn s2 fun a34 => g_sI h 1 a34 s1 (vp_nar .boolean s0) fun h39 => k25 h39 v0 v1 v3 v4 v5 (v6 + (1 : Int32))
set_option maxHeartbeats 4000000 in
set_option maxRecDepth 100000 in
theorem W_Search_init_67 {X : g_X} (z : g_AH) (k25 : g_AH → Nat → Option Nat → Int32 → Int32 → Int32 → Int32 → Option g_AH) (hk25 : ∀ (h : g_AH) (v0 : Nat) (v1 : Option Nat) (v3 : Int32) (v4 : Int32) (v5 : Int32) (v6 : Int32), k25 h v0 v1 v3 v4 v5 v6 = some z → G X k_Search_init (.inl none) z h 25 [(0, .ref v0), (1, va_rf v1), (3, .int v3), (4, .int v4), (5, .int v5), (6, .int v6)] []) (h : g_AH) (v0 : Nat) (v1 : Option Nat) (v3 : Int32) (v4 : Int32) (v5 : Int32) (v6 : Int32) (s0 : Int32) (s1 : Int32) (s2 : Option Nat) (hy : Search_init_67 k25 h v0 v1 v3 v4 v5 v6 s0 s1 s2 = some z) : G X k_Search_init (.inl none) z h 67 [(0, .ref v0), (1, va_rf v1), (3, .int v3), (4, .int v4), (5, .int v5), (6, .int v6)] [.int s0, .int s1, va_rf s2] := by
  unfold Search_init_67 at hy
  replace hy := g_nn_inv hy
  obtain ⟨a34, rfl, hy⟩ := hy
  replace hy := g_sI_inv hy
  obtain ⟨n35, f36, hc37, hi38, hy⟩ := hy
  refine g_zast (pc' := 68) d_Search_init_67 hc37 hi38 rfl ?_
  generalize g_up h a34 (.inl (1, n35, .inl (upd f36 (s1).toNatClampNeg (vp_nar .boolean s0)))) = h39 at hy ⊢
  refine g_iinc 5 (v := (v6 + (1 : Int32))) (pc' := 71) (Lc' := [(6, .int (v6 + (1 : Int32))), (0, .ref v0), (1, va_rf v1), (3, .int v3), (4, .int v4), (5, .int v5)]) d_Search_init_68 rfl rfl (by decide) rfl rfl ?_
  refine g_goto (pc' := 25) d_Search_init_71 (by decide) ?_
  refine g_sub [1, 2, 3, 4, 5, 0] rfl ?_
  exact hk25 _ _ _ _ _ _ _ hy
def Search_init_66 (k25 : g_AH → Nat → Option Nat → Int32 → Int32 → Int32 → Int32 → Option g_AH) (h : g_AH) (v0 : Nat) (v1 : Option Nat) (v3 : Int32) (v4 : Int32) (v5 : Int32) (v6 : Int32) (s0 : Int32) (s1 : Option Nat) : Option g_AH :=
  Search_init_67 k25 h v0 v1 v3 v4 v5 v6 (0 : Int32) s0 s1
set_option maxHeartbeats 4000000 in
set_option maxRecDepth 100000 in
theorem W_Search_init_66 {X : g_X} (z : g_AH) (k25 : g_AH → Nat → Option Nat → Int32 → Int32 → Int32 → Int32 → Option g_AH) (hk25 : ∀ (h : g_AH) (v0 : Nat) (v1 : Option Nat) (v3 : Int32) (v4 : Int32) (v5 : Int32) (v6 : Int32), k25 h v0 v1 v3 v4 v5 v6 = some z → G X k_Search_init (.inl none) z h 25 [(0, .ref v0), (1, va_rf v1), (3, .int v3), (4, .int v4), (5, .int v5), (6, .int v6)] []) (h : g_AH) (v0 : Nat) (v1 : Option Nat) (v3 : Int32) (v4 : Int32) (v5 : Int32) (v6 : Int32) (s0 : Int32) (s1 : Option Nat) (hy : Search_init_66 k25 h v0 v1 v3 v4 v5 v6 s0 s1 = some z) : G X k_Search_init (.inl none) z h 66 [(0, .ref v0), (1, va_rf v1), (3, .int v3), (4, .int v4), (5, .int v5), (6, .int v6)] [.int s0, va_rf s1] := by
  unfold Search_init_66 at hy
  refine g_iconst (v := (0 : Int32)) (pc' := 67) d_Search_init_66 (by decide) rfl ?_
  exact W_Search_init_67 _ _ hk25 _ _ _ _ _ _ _ _ _ _ hy
def Search_init_25  : Nat → g_AH → Nat → Option Nat → Int32 → Int32 → Int32 → Int32 → Option g_AH
  | 0, _, _, _, _, _, _, _ => none
  | n + 1, h, v0, v1, v3, v4, v5, v6 => g_nn v1 fun a17 => g_gR h a17 1 2 fun x19 => g_nn x19 fun a22 => g_is h a22 15 <| g_b (ArrayList_size h a22) fun x25 => if x25 ≤ v6 then (some h) else (g_gR h v0 13 2 fun x30 => if v6 = v5 then (Search_init_66 (Search_init_25  n) h v0 (some a17) v3 v4 v5 v6 v6 x30) else (g_is h a17 1 <| g_b (Net_hasRoom0 h a17 v6 v3 v4) fun x42 => if x42 = 0 then (Search_init_66 (Search_init_25  n) h v0 (some a17) v3 v4 v5 v6 v6 x30) else (Search_init_67 (Search_init_25  n) h v0 (some a17) v3 v4 v5 v6 (1 : Int32) v6 x30)))
set_option maxHeartbeats 4000000 in
set_option maxRecDepth 100000 in
theorem W_Search_init_25 {X : g_X} (z : g_AH)  : ∀ (n : Nat) (h : g_AH) (v0 : Nat) (v1 : Option Nat) (v3 : Int32) (v4 : Int32) (v5 : Int32) (v6 : Int32), Search_init_25  n h v0 v1 v3 v4 v5 v6 = some z → G X k_Search_init (.inl none) z h 25 [(0, .ref v0), (1, va_rf v1), (3, .int v3), (4, .int v4), (5, .int v5), (6, .int v6)] [] := by
  intro n
  induction n with
  | zero => intro h v0 v1 v3 v4 v5 v6 hy; exact absurd hy (by simp [Search_init_25])
  | succ n ih =>
    intro h v0 v1 v3 v4 v5 v6 hy
    rw [Search_init_25] at hy
    refine g_iload 5 (pc' := 27) d_Search_init_25 rfl rfl ?_
    refine g_aloadO_n 1 (i := 1) (pc' := 28) d_Search_init_27 rfl rfl rfl ?_
    replace hy := g_nn_inv hy
    obtain ⟨a17, rfl, hy⟩ := hy
    replace hy := g_gR_inv hy
    obtain ⟨fs18, x19, hc20, hv21, hy⟩ := hy
    refine g_getfN (pc' := 31) d_Search_init_28 hc20 rfl (by decide) hv21 q551 rfl rfl ?_
    replace hy := g_nn_inv hy
    obtain ⟨a22, rfl, hy⟩ := hy
    replace hy := g_is_inv hy
    obtain ⟨fs23, hc24, hy⟩ := hy
    replace hy := g_b_inv hy
    obtain ⟨x25, hf27, hy⟩ := hy
    refine g_callV (rv := some (.int x25)) (h1 := h) (pc' := 34) (As := []) (rest := [.int v6]) 0 (T_ArrayList_size (hy := hf27)) d_Search_init_31 hc24 rfl rfl q736 q674 q675 q112 q676 hd_ArrayList_size rfl ⟨by decide, by decide⟩ (by first | exact Nat.le_of_ble_eq_true rfl | (simp only [List.map, List.sum_cons, List.sum_nil, g_cat_rf]; exact Nat.le_of_ble_eq_true rfl) | (simp only [List.map, List.sum_cons, List.sum_nil, g_cat_rf, Value.category]; decide)) rfl ?_
    by_cases c28 : x25 ≤ v6
    · rw [if_pos c28] at hy
      refine g_icmp_geT (pc' := 74) d_Search_init_34 c28 (by decide) ?_
      cases hy
      exact g_vret rfl rfl rfl d_Search_init_74
    · rw [if_neg c28] at hy
      refine g_icmp_geF (pc' := 37) d_Search_init_34 74 c28 (by decide) rfl ?_
      refine g_aload_n 0 (i := 0) (pc' := 38) d_Search_init_37 rfl rfl rfl ?_
      replace hy := g_gR_inv hy
      obtain ⟨fs29, x30, hc31, hv32, hy⟩ := hy
      refine g_getf (pc' := 41) d_Search_init_38 hc31 rfl (by decide) hv32 q744 (Or.inl rfl) rfl ?_
      refine g_iload 5 (pc' := 43) d_Search_init_41 rfl rfl ?_
      refine g_iload 5 (pc' := 45) d_Search_init_43 rfl rfl ?_
      refine g_iload 4 (pc' := 47) d_Search_init_45 rfl rfl ?_
      by_cases c33 : v6 = v5
      · rw [if_pos c33] at hy
        refine g_icmp_eqT (pc' := 66) d_Search_init_47 c33 (by decide) ?_
        exact W_Search_init_66 _ _ ih _ _ _ _ _ _ _ _ _ hy
      · rw [if_neg c33] at hy
        refine g_icmp_eqF (pc' := 50) d_Search_init_47 66 c33 (by decide) rfl ?_
        refine g_aload_n 1 (i := 1) (pc' := 51) d_Search_init_50 rfl rfl rfl ?_
        refine g_iload 5 (pc' := 53) d_Search_init_51 rfl rfl ?_
        refine g_iload_n 2 (i := 3) (pc' := 54) d_Search_init_53 rfl rfl rfl ?_
        refine g_iload 3 (pc' := 56) d_Search_init_54 rfl rfl ?_
        replace hy := g_is_inv hy
        obtain ⟨fs40, hc41, hy⟩ := hy
        replace hy := g_b_inv hy
        obtain ⟨x42, hf44, hy⟩ := hy
        refine g_callV (rv := some (.int x42)) (h1 := h) (pc' := 59) (As := [.int v6, .int v3, .int v4]) (rest := [.int v6, va_rf x30]) 3 (T_Net_hasRoom0 (hy := hf44)) d_Search_init_56 hc41 rfl rfl q737 q738 q739 q109 q740 hd_Net_hasRoom0 rfl ⟨by decide, by decide⟩ (by first | exact Nat.le_of_ble_eq_true rfl | (simp only [List.map, List.sum_cons, List.sum_nil, g_cat_rf]; exact Nat.le_of_ble_eq_true rfl) | (simp only [List.map, List.sum_cons, List.sum_nil, g_cat_rf, Value.category]; decide)) rfl ?_
        by_cases c45 : x42 = 0
        · rw [if_pos c45] at hy
          refine g_if_eqT (pc' := 66) d_Search_init_59 c45 (by decide) ?_
          exact W_Search_init_66 _ _ ih _ _ _ _ _ _ _ _ _ hy
        · rw [if_neg c45] at hy
          refine g_if_eqF (pc' := 62) d_Search_init_59 66 c45 (by decide) rfl ?_
          refine g_iconst (v := (1 : Int32)) (pc' := 63) d_Search_init_62 (by decide) rfl ?_
          refine g_goto (pc' := 67) d_Search_init_63 (by decide) ?_
          exact W_Search_init_67 _ _ ih _ _ _ _ _ _ _ _ _ _ hy
def Search_init (h : g_AH) (this : Nat) (p0 : Option Nat) (p1 : Int32) (p2 : Int32) (p3 : Int32) (p4 : Int32) : Option g_AH :=
  g_mkA h 1 (16 : Int32) fun a1 h2 => g_pF h2 this 13 2 (.ref a1) fun h8 => g_pF h8 this 13 0 (va_rf p0) fun h12 => g_pF h12 this 13 1 (.int p1) fun h16 => Search_init_25  gFU h16 this p0 p2 p3 p4 (0 : Int32)
set_option maxHeartbeats 4000000 in
set_option maxRecDepth 100000 in
theorem T_Search_init {l : Launch} {B : g_B} (h : g_AH) (this : Nat) (p0 : Option Nat) (p1 : Int32) (p2 : Int32) (p3 : Int32) (p4 : Int32) (z : g_AH) (hy : Search_init h this p0 p1 p2 p3 p4 = some z) : g_CT l B y_Search_init k_Search_init [.ref this, va_rf p0, .int p1, .int p2, .int p3, .int p4] h (.inl none) z := by
  refine g_start2 (Lc := [(0, .ref this), (1, va_rf p0), (2, .int p1), (3, .int p2), (4, .int p3), (5, .int p4)]) (by decide) rfl rfl (by rcases p0 with _ | p0 <;> exact Nat.le_of_ble_eq_true rfl) (by rcases p0 with _ | p0 <;> rfl) fun X => ?_
  unfold Search_init at hy
  refine g_aload_n 0 (i := 0) (pc' := 1) d_Search_init_0 rfl rfl rfl ?_
  refine g_objInit (pc' := 4) d_Search_init_1 q735 (by first | exact Nat.le_of_ble_eq_true rfl | (simp only [List.map, List.sum_cons, List.sum_nil, g_cat_rf]; exact Nat.le_of_ble_eq_true rfl) | (simp only [List.map, List.sum_cons, List.sum_nil, g_cat_rf, Value.category]; decide)) (by decide) rfl ?_
  refine g_aload_n 0 (i := 0) (pc' := 5) d_Search_init_4 rfl rfl rfl ?_
  refine g_bipush (v := (16 : Int32)) (pc' := 7) d_Search_init_5 (by decide) rfl ?_
  replace hy := g_mkA_inv hy
  obtain ⟨hn3, hb4, hy⟩ := hy
  refine g_newa1 (pc' := 9) d_Search_init_7 hn3 hb4 rfl ?_
  generalize g_al h (.inl (1, ((16 : Int32)).toNatClampNeg, .inl (fun _ => 0))) ((16 : Int32)).toNatClampNeg = h2 at hy ⊢
  generalize g_n h = a1 at hy ⊢
  replace hy := g_pF_inv hy
  obtain ⟨fs5, hc6, hl7, hy⟩ := hy
  refine g_putfF (pc' := 12) d_Search_init_9 rfl hc6 rfl (by decide) hl7 rfl rfl rfl rfl q744 rfl rfl ?_
  generalize g_up h2 this (.inr (13, fs5.set 2 (.ref a1))) = h8 at hy ⊢
  refine g_aload_n 0 (i := 0) (pc' := 13) d_Search_init_12 rfl rfl rfl ?_
  refine g_aloadO_n 1 (i := 1) (pc' := 14) d_Search_init_13 rfl rfl rfl ?_
  replace hy := g_pF_inv hy
  obtain ⟨fs9, hc10, hl11, hy⟩ := hy
  refine g_putfF (pc' := 17) d_Search_init_14 rfl hc10 rfl (by decide) hl11 rfl rfl g_nar_rf g_fit_o q742 rfl rfl ?_
  generalize g_up h8 this (.inr (13, fs9.set 0 (va_rf p0))) = h12 at hy ⊢
  refine g_aload_n 0 (i := 0) (pc' := 18) d_Search_init_17 rfl rfl rfl ?_
  refine g_iload_n 2 (i := 2) (pc' := 19) d_Search_init_18 rfl rfl rfl ?_
  replace hy := g_pF_inv hy
  obtain ⟨fs13, hc14, hl15, hy⟩ := hy
  refine g_putfF (pc' := 22) d_Search_init_19 rfl hc14 rfl (by decide) hl15 rfl rfl rfl rfl q743 rfl rfl ?_
  generalize g_up h12 this (.inr (13, fs13.set 1 (.int p1))) = h16 at hy ⊢
  refine g_iconst (v := (0 : Int32)) (pc' := 23) d_Search_init_22 (by decide) rfl ?_
  refine g_istore (pc' := 25) (Lc' := [(6, .int (0 : Int32)), (0, .ref this), (1, va_rf p0), (2, .int p1), (3, .int p2), (4, .int p3), (5, .int p4)]) d_Search_init_23 (by decide) rfl rfl ?_
  refine g_sub [1, 2, 4, 5, 6, 0] rfl ?_
  exact W_Search_init_25 _ _ _ _ _ _ _ _ _ hy
theorem hd_Search_init : g_dsc y_Search_init 5 := ⟨by decide +kernel, by decide +kernel, by decide +kernel⟩
/-! CircuitDesk$Way.<init>()V -/
abbrev y_Way_init : MethodName := ⟨"CircuitDesk$Way", "<init>", "()V"⟩
abbrev k_Way_init : g_M := (prog_15_method_1_code, 1, "CircuitDesk$Way", 13, none, "<init>", [], 0)
theorem d_Way_init_0 : decode prog_15_method_1_code 0 = .ok (.aload_n 0, 1) := by decide +kernel
theorem d_Way_init_1 : decode prog_15_method_1_code 1 = .ok (.invokespecial 3, 3) := by decide +kernel
theorem d_Way_init_4 : decode prog_15_method_1_code 4 = .ok (.aload_n 0, 1) := by decide +kernel
theorem d_Way_init_5 : decode prog_15_method_1_code 5 = .ok (.bipush 6, 2) := by decide +kernel
theorem d_Way_init_7 : decode prog_15_method_1_code 7 = .ok (.newarray .int, 2) := by decide +kernel
theorem d_Way_init_9 : decode prog_15_method_1_code 9 = .ok (.putfield 9, 3) := by decide +kernel
theorem d_Way_init_12 : decode prog_15_method_1_code 12 = .ok (.aload_n 0, 1) := by decide +kernel
theorem d_Way_init_13 : decode prog_15_method_1_code 13 = .ok (.bipush 6, 2) := by decide +kernel
theorem d_Way_init_15 : decode prog_15_method_1_code 15 = .ok (.newarray .int, 2) := by decide +kernel
theorem d_Way_init_17 : decode prog_15_method_1_code 17 = .ok (.putfield 15, 3) := by decide +kernel
theorem d_Way_init_20 : decode prog_15_method_1_code 20 = .ok (.aload_n 0, 1) := by decide +kernel
theorem d_Way_init_21 : decode prog_15_method_1_code 21 = .ok (.bipush 6, 2) := by decide +kernel
theorem d_Way_init_23 : decode prog_15_method_1_code 23 = .ok (.newarray .int, 2) := by decide +kernel
theorem d_Way_init_25 : decode prog_15_method_1_code 25 = .ok (.putfield 18, 3) := by decide +kernel
theorem d_Way_init_28 : decode prog_15_method_1_code 28 = .ok (.return_, 1) := by decide +kernel
def Way_init (h : g_AH) (this : Nat) : Option g_AH :=
  g_mkA h 0 (6 : Int32) fun a1 h2 => g_pF h2 this 6 0 (.ref a1) fun h8 => g_mkA h8 0 (6 : Int32) fun a9 h10 => g_pF h10 this 6 1 (.ref a9) fun h16 => g_mkA h16 0 (6 : Int32) fun a17 h18 => g_pF h18 this 6 2 (.ref a17) fun h24 => some h24
set_option maxHeartbeats 4000000 in
set_option maxRecDepth 100000 in
theorem T_Way_init {l : Launch} {B : g_B} (h : g_AH) (this : Nat) (z : g_AH) (hy : Way_init h this = some z) : g_CT l B y_Way_init k_Way_init [.ref this] h (.inl none) z := by
  refine g_start2 (Lc := [(0, .ref this)]) (by decide) rfl rfl (by exact Nat.le_of_ble_eq_true rfl) (by rfl) fun X => ?_
  unfold Way_init at hy
  refine g_aload_n 0 (i := 0) (pc' := 1) d_Way_init_0 rfl rfl rfl ?_
  refine g_objInit (pc' := 4) d_Way_init_1 q615 (by first | exact Nat.le_of_ble_eq_true rfl | (simp only [List.map, List.sum_cons, List.sum_nil, g_cat_rf]; exact Nat.le_of_ble_eq_true rfl) | (simp only [List.map, List.sum_cons, List.sum_nil, g_cat_rf, Value.category]; decide)) (by decide) rfl ?_
  refine g_aload_n 0 (i := 0) (pc' := 5) d_Way_init_4 rfl rfl rfl ?_
  refine g_bipush (v := (6 : Int32)) (pc' := 7) d_Way_init_5 (by decide) rfl ?_
  replace hy := g_mkA_inv hy
  obtain ⟨hn3, hb4, hy⟩ := hy
  refine g_newa0 (pc' := 9) d_Way_init_7 hn3 hb4 rfl ?_
  generalize g_al h (.inl (0, ((6 : Int32)).toNatClampNeg, .inl (fun _ => 0))) ((6 : Int32)).toNatClampNeg = h2 at hy ⊢
  generalize g_n h = a1 at hy ⊢
  replace hy := g_pF_inv hy
  obtain ⟨fs5, hc6, hl7, hy⟩ := hy
  refine g_putf (pc' := 12) d_Way_init_9 hc6 rfl (by decide) hl7 rfl rfl rfl q616 (Or.inl rfl) rfl ?_
  generalize g_up h2 this (.inr (6, fs5.set 0 (.ref a1))) = h8 at hy ⊢
  refine g_aload_n 0 (i := 0) (pc' := 13) d_Way_init_12 rfl rfl rfl ?_
  refine g_bipush (v := (6 : Int32)) (pc' := 15) d_Way_init_13 (by decide) rfl ?_
  replace hy := g_mkA_inv hy
  obtain ⟨hn11, hb12, hy⟩ := hy
  refine g_newa0 (pc' := 17) d_Way_init_15 hn11 hb12 rfl ?_
  generalize g_al h8 (.inl (0, ((6 : Int32)).toNatClampNeg, .inl (fun _ => 0))) ((6 : Int32)).toNatClampNeg = h10 at hy ⊢
  generalize g_n h8 = a9 at hy ⊢
  replace hy := g_pF_inv hy
  obtain ⟨fs13, hc14, hl15, hy⟩ := hy
  refine g_putf (pc' := 20) d_Way_init_17 hc14 rfl (by decide) hl15 rfl rfl rfl q619 (Or.inl rfl) rfl ?_
  generalize g_up h10 this (.inr (6, fs13.set 1 (.ref a9))) = h16 at hy ⊢
  refine g_aload_n 0 (i := 0) (pc' := 21) d_Way_init_20 rfl rfl rfl ?_
  refine g_bipush (v := (6 : Int32)) (pc' := 23) d_Way_init_21 (by decide) rfl ?_
  replace hy := g_mkA_inv hy
  obtain ⟨hn19, hb20, hy⟩ := hy
  refine g_newa0 (pc' := 25) d_Way_init_23 hn19 hb20 rfl ?_
  generalize g_al h16 (.inl (0, ((6 : Int32)).toNatClampNeg, .inl (fun _ => 0))) ((6 : Int32)).toNatClampNeg = h18 at hy ⊢
  generalize g_n h16 = a17 at hy ⊢
  replace hy := g_pF_inv hy
  obtain ⟨fs21, hc22, hl23, hy⟩ := hy
  refine g_putf (pc' := 28) d_Way_init_25 hc22 rfl (by decide) hl23 rfl rfl rfl q622 (Or.inl rfl) rfl ?_
  generalize g_up h18 this (.inr (6, fs21.set 2 (.ref a17))) = h24 at hy ⊢
  cases hy
  exact g_vret rfl rfl rfl d_Way_init_28
theorem hd_Way_init : g_dsc y_Way_init 0 := ⟨by decide +kernel, by decide +kernel, by decide +kernel⟩
/-! CircuitDesk$Search.isBetter(LCircuitDesk$Way;I)Z -/
abbrev y_Search_isBetter : MethodName := ⟨"CircuitDesk$Search", "isBetter", "(LCircuitDesk$Way;I)Z"⟩
abbrev k_Search_isBetter : g_M := (prog_13_method_2_code, 3, "CircuitDesk$Search", 12, (some FieldType.boolean), "isBetter", [], 0)
theorem d_Search_isBetter_0 : decode prog_13_method_2_code 0 = .ok (.aload_n 0, 1) := by decide +kernel
theorem d_Search_isBetter_1 : decode prog_13_method_2_code 1 = .ok (.getfield 39, 3) := by decide +kernel
theorem d_Search_isBetter_4 : decode prog_13_method_2_code 4 = .ok (.ifnull 33, 3) := by decide +kernel
theorem d_Search_isBetter_7 : decode prog_13_method_2_code 7 = .ok (.iload_n 2, 1) := by decide +kernel
theorem d_Search_isBetter_8 : decode prog_13_method_2_code 8 = .ok (.aload_n 0, 1) := by decide +kernel
theorem d_Search_isBetter_9 : decode prog_13_method_2_code 9 = .ok (.getfield 43, 3) := by decide +kernel
theorem d_Search_isBetter_12 : decode prog_13_method_2_code 12 = .ok (.if_icmp .lt 25, 3) := by decide +kernel
theorem d_Search_isBetter_15 : decode prog_13_method_2_code 15 = .ok (.iload_n 2, 1) := by decide +kernel
theorem d_Search_isBetter_16 : decode prog_13_method_2_code 16 = .ok (.aload_n 0, 1) := by decide +kernel
theorem d_Search_isBetter_17 : decode prog_13_method_2_code 17 = .ok (.getfield 43, 3) := by decide +kernel
theorem d_Search_isBetter_20 : decode prog_13_method_2_code 20 = .ok (.if_icmp .ne 21, 3) := by decide +kernel
theorem d_Search_isBetter_23 : decode prog_13_method_2_code 23 = .ok (.aload_n 1, 1) := by decide +kernel
theorem d_Search_isBetter_24 : decode prog_13_method_2_code 24 = .ok (.getfield 46, 3) := by decide +kernel
theorem d_Search_isBetter_27 : decode prog_13_method_2_code 27 = .ok (.aload_n 0, 1) := by decide +kernel
theorem d_Search_isBetter_28 : decode prog_13_method_2_code 28 = .ok (.getfield 39, 3) := by decide +kernel
theorem d_Search_isBetter_31 : decode prog_13_method_2_code 31 = .ok (.getfield 46, 3) := by decide +kernel
theorem d_Search_isBetter_34 : decode prog_13_method_2_code 34 = .ok (.if_icmp .ge 7, 3) := by decide +kernel
theorem d_Search_isBetter_37 : decode prog_13_method_2_code 37 = .ok (.iconst 1, 1) := by decide +kernel
theorem d_Search_isBetter_38 : decode prog_13_method_2_code 38 = .ok (.goto 4, 3) := by decide +kernel
theorem d_Search_isBetter_41 : decode prog_13_method_2_code 41 = .ok (.iconst 0, 1) := by decide +kernel
theorem d_Search_isBetter_42 : decode prog_13_method_2_code 42 = .ok (.ireturn, 1) := by decide +kernel
def Search_isBetter (h : g_AH) (this : Nat) (p0 : Option Nat) (p1 : Int32) : Option (Int32) :=
  g_gR h this 13 3 fun x2 => if x2 = none then (some (1 : Int32)) else (g_gI h this 13 4 fun x8 => if p1 < x8 then (some (1 : Int32)) else (g_gI h this 13 4 fun x14 => if p1 = x14 then (g_nn p0 fun a19 => g_gI h a19 6 3 fun x21 => g_gR h this 13 3 fun x25 => g_nn x25 fun a28 => g_gI h a28 6 3 fun x30 => if x30 ≤ x21 then (some (0 : Int32)) else (some (1 : Int32))) else (some (0 : Int32))))
set_option maxHeartbeats 4000000 in
set_option maxRecDepth 100000 in
theorem T_Search_isBetter {l : Launch} {B : g_B} (h : g_AH) (this : Nat) (p0 : Option Nat) (p1 : Int32) (z : Int32) (hy : Search_isBetter h this p0 p1 = some z) : g_CT l B y_Search_isBetter k_Search_isBetter [.ref this, va_rf p0, .int p1] h (.inl (some (.int z))) h := by
  refine g_start2 (Lc := [(0, .ref this), (1, va_rf p0), (2, .int p1)]) (by decide) rfl rfl (by rcases p0 with _ | p0 <;> exact Nat.le_of_ble_eq_true rfl) (by rcases p0 with _ | p0 <;> rfl) fun X => ?_
  unfold Search_isBetter at hy
  refine g_aload_n 0 (i := 0) (pc' := 1) d_Search_isBetter_0 rfl rfl rfl ?_
  replace hy := g_gR_inv hy
  obtain ⟨fs1, x2, hc3, hv4, hy⟩ := hy
  refine g_getf (pc' := 4) d_Search_isBetter_1 hc3 rfl (by decide) hv4 q745 (Or.inl rfl) rfl ?_
  by_cases c5 : x2 = none
  · rw [if_pos c5] at hy
    refine g_ifnullT (pc' := 37) d_Search_isBetter_4 c5 (by decide) ?_
    refine g_iconst (v := (1 : Int32)) (pc' := 38) d_Search_isBetter_37 (by decide) rfl ?_
    refine g_goto (pc' := 42) d_Search_isBetter_38 (by decide) ?_
    cases hy
    exact g_zret rfl rfl rfl (g_nar_z (Or.inr rfl)).1 d_Search_isBetter_42
  · rw [if_neg c5] at hy
    refine g_ifnullF (pc' := 7) d_Search_isBetter_4 c5 rfl ?_
    refine g_iload_n 2 (i := 2) (pc' := 8) d_Search_isBetter_7 rfl rfl rfl ?_
    refine g_aload_n 0 (i := 0) (pc' := 9) d_Search_isBetter_8 rfl rfl rfl ?_
    replace hy := g_gI_inv hy
    obtain ⟨fs7, x8, hc9, hv10, hy⟩ := hy
    refine g_getf (pc' := 12) d_Search_isBetter_9 hc9 rfl (by decide) hv10 q747 (Or.inl rfl) rfl ?_
    by_cases c11 : p1 < x8
    · rw [if_pos c11] at hy
      refine g_icmp_ltT (pc' := 37) d_Search_isBetter_12 c11 (by decide) ?_
      refine g_iconst (v := (1 : Int32)) (pc' := 38) d_Search_isBetter_37 (by decide) rfl ?_
      refine g_goto (pc' := 42) d_Search_isBetter_38 (by decide) ?_
      cases hy
      exact g_zret rfl rfl rfl (g_nar_z (Or.inr rfl)).1 d_Search_isBetter_42
    · rw [if_neg c11] at hy
      refine g_icmp_ltF (pc' := 15) d_Search_isBetter_12 37 c11 (by decide) rfl ?_
      refine g_iload_n 2 (i := 2) (pc' := 16) d_Search_isBetter_15 rfl rfl rfl ?_
      refine g_aload_n 0 (i := 0) (pc' := 17) d_Search_isBetter_16 rfl rfl rfl ?_
      replace hy := g_gI_inv hy
      obtain ⟨fs13, x14, hc15, hv16, hy⟩ := hy
      refine g_getf (pc' := 20) d_Search_isBetter_17 hc15 rfl (by decide) hv16 q747 (Or.inl rfl) rfl ?_
      by_cases c17 : p1 = x14
      · rw [if_pos c17] at hy
        refine g_icmp_neF (pc' := 23) d_Search_isBetter_20 41 c17 (by decide) rfl ?_
        refine g_aloadO_n 1 (i := 1) (pc' := 24) d_Search_isBetter_23 rfl rfl rfl ?_
        replace hy := g_nn_inv hy
        obtain ⟨a19, rfl, hy⟩ := hy
        replace hy := g_gI_inv hy
        obtain ⟨fs20, x21, hc22, hv23, hy⟩ := hy
        refine g_getfN (pc' := 27) d_Search_isBetter_24 hc22 rfl (by decide) hv23 q626 rfl rfl ?_
        refine g_aload_n 0 (i := 0) (pc' := 28) d_Search_isBetter_27 rfl rfl rfl ?_
        replace hy := g_gR_inv hy
        obtain ⟨fs24, x25, hc26, hv27, hy⟩ := hy
        refine g_getf (pc' := 31) d_Search_isBetter_28 hc26 rfl (by decide) hv27 q745 (Or.inl rfl) rfl ?_
        replace hy := g_nn_inv hy
        obtain ⟨a28, rfl, hy⟩ := hy
        replace hy := g_gI_inv hy
        obtain ⟨fs29, x30, hc31, hv32, hy⟩ := hy
        refine g_getfN (pc' := 34) d_Search_isBetter_31 hc31 rfl (by decide) hv32 q626 rfl rfl ?_
        by_cases c33 : x30 ≤ x21
        · rw [if_pos c33] at hy
          refine g_icmp_geT (pc' := 41) d_Search_isBetter_34 c33 (by decide) ?_
          refine g_iconst (v := (0 : Int32)) (pc' := 42) d_Search_isBetter_41 (by decide) rfl ?_
          cases hy
          exact g_zret rfl rfl rfl (g_nar_z (Or.inl rfl)).1 d_Search_isBetter_42
        · rw [if_neg c33] at hy
          refine g_icmp_geF (pc' := 37) d_Search_isBetter_34 41 c33 (by decide) rfl ?_
          refine g_iconst (v := (1 : Int32)) (pc' := 38) d_Search_isBetter_37 (by decide) rfl ?_
          refine g_goto (pc' := 42) d_Search_isBetter_38 (by decide) ?_
          cases hy
          exact g_zret rfl rfl rfl (g_nar_z (Or.inr rfl)).1 d_Search_isBetter_42
      · rw [if_neg c17] at hy
        refine g_icmp_neT (pc' := 41) d_Search_isBetter_20 c17 (by decide) ?_
        refine g_iconst (v := (0 : Int32)) (pc' := 42) d_Search_isBetter_41 (by decide) rfl ?_
        cases hy
        exact g_zret rfl rfl rfl (g_nar_z (Or.inl rfl)).1 d_Search_isBetter_42
theorem hd_Search_isBetter : g_dsc y_Search_isBetter 2 := ⟨by decide +kernel, by decide +kernel, by decide +kernel⟩
/-! CircuitDesk$Way.copy()LCircuitDesk$Way; -/
abbrev y_Way_copy : MethodName := ⟨"CircuitDesk$Way", "copy", "()LCircuitDesk$Way;"⟩
abbrev k_Way_copy : g_M := (prog_15_method_2_code, 2, "CircuitDesk$Way", 14, (some (FieldType.object "CircuitDesk$Way")), "copy", [], 0)
theorem d_Way_copy_0 : decode prog_15_method_2_code 0 = .ok (.new 10, 3) := by decide +kernel
theorem d_Way_copy_3 : decode prog_15_method_2_code 3 = .ok (.dup, 1) := by decide +kernel
theorem d_Way_copy_4 : decode prog_15_method_2_code 4 = .ok (.invokespecial 21, 3) := by decide +kernel
theorem d_Way_copy_7 : decode prog_15_method_2_code 7 = .ok (.astore_n 1, 1) := by decide +kernel
theorem d_Way_copy_8 : decode prog_15_method_2_code 8 = .ok (.aload_n 1, 1) := by decide +kernel
theorem d_Way_copy_9 : decode prog_15_method_2_code 9 = .ok (.aload_n 0, 1) := by decide +kernel
theorem d_Way_copy_10 : decode prog_15_method_2_code 10 = .ok (.getfield 9, 3) := by decide +kernel
theorem d_Way_copy_13 : decode prog_15_method_2_code 13 = .ok (.invokevirtual 22, 3) := by decide +kernel
theorem d_Way_copy_16 : decode prog_15_method_2_code 16 = .ok (.checkcast 23, 3) := by decide +kernel
theorem d_Way_copy_19 : decode prog_15_method_2_code 19 = .ok (.putfield 9, 3) := by decide +kernel
theorem d_Way_copy_22 : decode prog_15_method_2_code 22 = .ok (.aload_n 1, 1) := by decide +kernel
theorem d_Way_copy_23 : decode prog_15_method_2_code 23 = .ok (.aload_n 0, 1) := by decide +kernel
theorem d_Way_copy_24 : decode prog_15_method_2_code 24 = .ok (.getfield 15, 3) := by decide +kernel
theorem d_Way_copy_27 : decode prog_15_method_2_code 27 = .ok (.invokevirtual 22, 3) := by decide +kernel
theorem d_Way_copy_30 : decode prog_15_method_2_code 30 = .ok (.checkcast 23, 3) := by decide +kernel
theorem d_Way_copy_33 : decode prog_15_method_2_code 33 = .ok (.putfield 15, 3) := by decide +kernel
theorem d_Way_copy_36 : decode prog_15_method_2_code 36 = .ok (.aload_n 1, 1) := by decide +kernel
theorem d_Way_copy_37 : decode prog_15_method_2_code 37 = .ok (.aload_n 0, 1) := by decide +kernel
theorem d_Way_copy_38 : decode prog_15_method_2_code 38 = .ok (.getfield 18, 3) := by decide +kernel
theorem d_Way_copy_41 : decode prog_15_method_2_code 41 = .ok (.invokevirtual 22, 3) := by decide +kernel
theorem d_Way_copy_44 : decode prog_15_method_2_code 44 = .ok (.checkcast 23, 3) := by decide +kernel
theorem d_Way_copy_47 : decode prog_15_method_2_code 47 = .ok (.putfield 18, 3) := by decide +kernel
theorem d_Way_copy_50 : decode prog_15_method_2_code 50 = .ok (.aload_n 1, 1) := by decide +kernel
theorem d_Way_copy_51 : decode prog_15_method_2_code 51 = .ok (.aload_n 0, 1) := by decide +kernel
theorem d_Way_copy_52 : decode prog_15_method_2_code 52 = .ok (.getfield 27, 3) := by decide +kernel
theorem d_Way_copy_55 : decode prog_15_method_2_code 55 = .ok (.putfield 27, 3) := by decide +kernel
theorem d_Way_copy_58 : decode prog_15_method_2_code 58 = .ok (.aload_n 1, 1) := by decide +kernel
theorem d_Way_copy_59 : decode prog_15_method_2_code 59 = .ok (.areturn, 1) := by decide +kernel
def Way_copy (h : g_AH) (this : Nat) : Option (Option Nat × g_AH) :=
  g_mk h (.inr (6, [.null, .null, .null, .int 0])) 4 fun a1 h2 => g_b (Way_init h2 a1) fun h4 => g_gR h4 this 6 0 fun x7 => g_nn x7 fun a10 => g_cl h4 0 a10 fun a15 h16 => g_isA h16 0 a15 <| g_pF h16 a1 6 0 (.ref a15) fun h22 => g_gR h22 this 6 1 fun x24 => g_nn x24 fun a27 => g_cl h22 0 a27 fun a32 h33 => g_isA h33 0 a32 <| g_pF h33 a1 6 1 (.ref a32) fun h39 => g_gR h39 this 6 2 fun x41 => g_nn x41 fun a44 => g_cl h39 0 a44 fun a49 h50 => g_isA h50 0 a49 <| g_pF h50 a1 6 2 (.ref a49) fun h56 => g_gI h56 this 6 3 fun x58 => g_pF h56 a1 6 3 (.int x58) fun h64 => some ((some a1), h64)
set_option maxHeartbeats 4000000 in
set_option maxRecDepth 100000 in
theorem T_Way_copy {l : Launch} {B : g_B} (h : g_AH) (this : Nat) (z : Option Nat × g_AH) (hy : Way_copy h this = some z) : g_CT l B y_Way_copy k_Way_copy [.ref this] h (.inl (some (va_rf z.1))) z.2 := by
  refine g_start2 (Lc := [(0, .ref this)]) (by decide) rfl rfl (by exact Nat.le_of_ble_eq_true rfl) (by rfl) fun X => ?_
  unfold Way_copy at hy
  replace hy := g_mk_inv hy
  refine g_new (ci := 6) (fs := [.null, .null, .null, .int 0]) (pc' := 3) d_Way_copy_0 rfl q779 q611 q134 gdf_6 rfl ?_
  generalize g_al h (.inr (6, [.null, .null, .null, .int 0])) 4 = h2 at hy ⊢
  generalize g_n h = a1 at hy ⊢
  refine g_dup (pc' := 4) d_Way_copy_3 rfl rfl ?_
  replace hy := g_b_inv hy
  obtain ⟨h4, hf5, hy⟩ := hy
  refine g_callI (h1 := h4) (pc' := 7) (As := []) (rest := [.ref a1]) 0 (T_Way_init (hy := hf5)) d_Way_copy_4 rfl rfl q780 q613 q134 q614 hd_Way_init rfl ⟨by decide, by decide⟩ (by first | exact Nat.le_of_ble_eq_true rfl | (simp only [List.map, List.sum_cons, List.sum_nil, g_cat_rf]; exact Nat.le_of_ble_eq_true rfl) | (simp only [List.map, List.sum_cons, List.sum_nil, g_cat_rf, Value.category]; decide)) rfl ?_
  refine g_astore_n (i := 1) (pc' := 8) (Lc' := [(1, .ref a1), (0, .ref this)]) d_Way_copy_7 rfl (by decide) rfl rfl ?_
  refine g_aload_n 0 (i := 1) (pc' := 9) d_Way_copy_8 rfl rfl rfl ?_
  refine g_aload_n 1 (i := 0) (pc' := 10) d_Way_copy_9 rfl rfl rfl ?_
  replace hy := g_gR_inv hy
  obtain ⟨fs6, x7, hc8, hv9, hy⟩ := hy
  refine g_getf (pc' := 13) d_Way_copy_10 hc8 rfl (by decide) hv9 q616 (Or.inl rfl) rfl ?_
  replace hy := g_nn_inv hy
  obtain ⟨a10, rfl, hy⟩ := hy
  replace hy := g_cl_inv hy
  obtain ⟨n11, f12, hc13, hf14, hy⟩ := hy
  refine g_clone (ty := .int) (pc' := 16) d_Way_copy_13 hc13 hf14 (List.mem_of_getElem? (i := 0) rfl) (fun _ => rfl) (by decide) (fun C e => by cases e) q781 q782 q783 q784 (by first | exact Nat.le_of_ble_eq_true rfl | (simp only [List.map, List.sum_cons, List.sum_nil, g_cat_rf]; exact Nat.le_of_ble_eq_true rfl) | (simp only [List.map, List.sum_cons, List.sum_nil, g_cat_rf, Value.category]; decide)) (by decide) rfl ?_
  generalize g_al h4 (.inl (0, n11, .inl f12)) n11 = h16 at hy ⊢
  generalize g_n h4 = a15 at hy ⊢
  replace hy := g_isA_inv hy
  obtain ⟨y17, hc18, hy⟩ := hy
  refine g_castA (ty := .int) (pc' := 19) d_Way_copy_16 hc18 q785 (fun _ => rfl) (by decide) rfl ?_
  replace hy := g_pF_inv hy
  obtain ⟨fs19, hc20, hl21, hy⟩ := hy
  refine g_putf (pc' := 22) d_Way_copy_19 hc20 rfl (by decide) hl21 rfl rfl rfl q616 (Or.inl rfl) rfl ?_
  generalize g_up h16 a1 (.inr (6, fs19.set 0 (.ref a15))) = h22 at hy ⊢
  refine g_aload_n 0 (i := 1) (pc' := 23) d_Way_copy_22 rfl rfl rfl ?_
  refine g_aload_n 1 (i := 0) (pc' := 24) d_Way_copy_23 rfl rfl rfl ?_
  replace hy := g_gR_inv hy
  obtain ⟨fs23, x24, hc25, hv26, hy⟩ := hy
  refine g_getf (pc' := 27) d_Way_copy_24 hc25 rfl (by decide) hv26 q619 (Or.inl rfl) rfl ?_
  replace hy := g_nn_inv hy
  obtain ⟨a27, rfl, hy⟩ := hy
  replace hy := g_cl_inv hy
  obtain ⟨n28, f29, hc30, hf31, hy⟩ := hy
  refine g_clone (ty := .int) (pc' := 30) d_Way_copy_27 hc30 hf31 (List.mem_of_getElem? (i := 0) rfl) (fun _ => rfl) (by decide) (fun C e => by cases e) q781 q782 q783 q784 (by first | exact Nat.le_of_ble_eq_true rfl | (simp only [List.map, List.sum_cons, List.sum_nil, g_cat_rf]; exact Nat.le_of_ble_eq_true rfl) | (simp only [List.map, List.sum_cons, List.sum_nil, g_cat_rf, Value.category]; decide)) (by decide) rfl ?_
  generalize g_al h22 (.inl (0, n28, .inl f29)) n28 = h33 at hy ⊢
  generalize g_n h22 = a32 at hy ⊢
  replace hy := g_isA_inv hy
  obtain ⟨y34, hc35, hy⟩ := hy
  refine g_castA (ty := .int) (pc' := 33) d_Way_copy_30 hc35 q785 (fun _ => rfl) (by decide) rfl ?_
  replace hy := g_pF_inv hy
  obtain ⟨fs36, hc37, hl38, hy⟩ := hy
  refine g_putf (pc' := 36) d_Way_copy_33 hc37 rfl (by decide) hl38 rfl rfl rfl q619 (Or.inl rfl) rfl ?_
  generalize g_up h33 a1 (.inr (6, fs36.set 1 (.ref a32))) = h39 at hy ⊢
  refine g_aload_n 0 (i := 1) (pc' := 37) d_Way_copy_36 rfl rfl rfl ?_
  refine g_aload_n 1 (i := 0) (pc' := 38) d_Way_copy_37 rfl rfl rfl ?_
  replace hy := g_gR_inv hy
  obtain ⟨fs40, x41, hc42, hv43, hy⟩ := hy
  refine g_getf (pc' := 41) d_Way_copy_38 hc42 rfl (by decide) hv43 q622 (Or.inl rfl) rfl ?_
  replace hy := g_nn_inv hy
  obtain ⟨a44, rfl, hy⟩ := hy
  replace hy := g_cl_inv hy
  obtain ⟨n45, f46, hc47, hf48, hy⟩ := hy
  refine g_clone (ty := .int) (pc' := 44) d_Way_copy_41 hc47 hf48 (List.mem_of_getElem? (i := 0) rfl) (fun _ => rfl) (by decide) (fun C e => by cases e) q781 q782 q783 q784 (by first | exact Nat.le_of_ble_eq_true rfl | (simp only [List.map, List.sum_cons, List.sum_nil, g_cat_rf]; exact Nat.le_of_ble_eq_true rfl) | (simp only [List.map, List.sum_cons, List.sum_nil, g_cat_rf, Value.category]; decide)) (by decide) rfl ?_
  generalize g_al h39 (.inl (0, n45, .inl f46)) n45 = h50 at hy ⊢
  generalize g_n h39 = a49 at hy ⊢
  replace hy := g_isA_inv hy
  obtain ⟨y51, hc52, hy⟩ := hy
  refine g_castA (ty := .int) (pc' := 47) d_Way_copy_44 hc52 q785 (fun _ => rfl) (by decide) rfl ?_
  replace hy := g_pF_inv hy
  obtain ⟨fs53, hc54, hl55, hy⟩ := hy
  refine g_putf (pc' := 50) d_Way_copy_47 hc54 rfl (by decide) hl55 rfl rfl rfl q622 (Or.inl rfl) rfl ?_
  generalize g_up h50 a1 (.inr (6, fs53.set 2 (.ref a49))) = h56 at hy ⊢
  refine g_aload_n 0 (i := 1) (pc' := 51) d_Way_copy_50 rfl rfl rfl ?_
  refine g_aload_n 1 (i := 0) (pc' := 52) d_Way_copy_51 rfl rfl rfl ?_
  replace hy := g_gI_inv hy
  obtain ⟨fs57, x58, hc59, hv60, hy⟩ := hy
  refine g_getf (pc' := 55) d_Way_copy_52 hc59 rfl (by decide) hv60 q628 (Or.inl rfl) rfl ?_
  replace hy := g_pF_inv hy
  obtain ⟨fs61, hc62, hl63, hy⟩ := hy
  refine g_putf (pc' := 58) d_Way_copy_55 hc62 rfl (by decide) hl63 rfl rfl rfl q628 (Or.inl rfl) rfl ?_
  generalize g_up h56 a1 (.inr (6, fs61.set 3 (.int x58))) = h64 at hy ⊢
  refine g_aload_n 0 (i := 1) (pc' := 59) d_Way_copy_58 rfl rfl rfl ?_
  cases hy
  refine g_stk (st' := [va_rf (some a1)]) rfl ?_
  exact g_aret rfl rfl rfl (Or.inl ⟨_, rfl⟩) d_Way_copy_59
theorem hd_Way_copy : g_dsc y_Way_copy 0 := ⟨by decide +kernel, by decide +kernel, by decide +kernel⟩
/-! CircuitDesk$Search.go(LCircuitDesk$Way;I)V -/
abbrev y_Search_go : MethodName := ⟨"CircuitDesk$Search", "go", "(LCircuitDesk$Way;I)V"⟩
abbrev k_Search_go (n9 : Nat) : g_M := (prog_13_method_3_code, 5, "CircuitDesk$Search", n9 + 16, none, "go", [], 0)
theorem hd_Search_go : g_dsc y_Search_go 2 := ⟨by decide +kernel, by decide +kernel, by decide +kernel⟩
theorem d_Search_go_0 : decode prog_13_method_3_code 0 = .ok (.aload_n 1, 1) := by decide +kernel
theorem d_Search_go_1 : decode prog_13_method_3_code 1 = .ok (.invokevirtual 50, 3) := by decide +kernel
theorem d_Search_go_4 : decode prog_13_method_3_code 4 = .ok (.aload_n 0, 1) := by decide +kernel
theorem d_Search_go_5 : decode prog_13_method_3_code 5 = .ok (.getfield 19, 3) := by decide +kernel
theorem d_Search_go_8 : decode prog_13_method_3_code 8 = .ok (.if_icmp .ne 26, 3) := by decide +kernel
theorem d_Search_go_11 : decode prog_13_method_3_code 11 = .ok (.aload_n 0, 1) := by decide +kernel
theorem d_Search_go_12 : decode prog_13_method_3_code 12 = .ok (.aload_n 1, 1) := by decide +kernel
theorem d_Search_go_13 : decode prog_13_method_3_code 13 = .ok (.iload_n 2, 1) := by decide +kernel
theorem d_Search_go_14 : decode prog_13_method_3_code 14 = .ok (.invokevirtual 53, 3) := by decide +kernel
theorem d_Search_go_17 : decode prog_13_method_3_code 17 = .ok (.ifCond .eq 16, 3) := by decide +kernel
theorem d_Search_go_20 : decode prog_13_method_3_code 20 = .ok (.aload_n 0, 1) := by decide +kernel
theorem d_Search_go_21 : decode prog_13_method_3_code 21 = .ok (.aload_n 1, 1) := by decide +kernel
theorem d_Search_go_22 : decode prog_13_method_3_code 22 = .ok (.invokevirtual 57, 3) := by decide +kernel
theorem d_Search_go_25 : decode prog_13_method_3_code 25 = .ok (.putfield 39, 3) := by decide +kernel
theorem d_Search_go_28 : decode prog_13_method_3_code 28 = .ok (.aload_n 0, 1) := by decide +kernel
theorem d_Search_go_29 : decode prog_13_method_3_code 29 = .ok (.iload_n 2, 1) := by decide +kernel
theorem d_Search_go_30 : decode prog_13_method_3_code 30 = .ok (.putfield 43, 3) := by decide +kernel
theorem d_Search_go_33 : decode prog_13_method_3_code 33 = .ok (.return_, 1) := by decide +kernel
theorem d_Search_go_34 : decode prog_13_method_3_code 34 = .ok (.aload_n 1, 1) := by decide +kernel
theorem d_Search_go_35 : decode prog_13_method_3_code 35 = .ok (.getfield 46, 3) := by decide +kernel
theorem d_Search_go_38 : decode prog_13_method_3_code 38 = .ok (.bipush 6, 2) := by decide +kernel
theorem d_Search_go_40 : decode prog_13_method_3_code 40 = .ok (.if_icmp .eq 18, 3) := by decide +kernel
theorem d_Search_go_43 : decode prog_13_method_3_code 43 = .ok (.aload_n 0, 1) := by decide +kernel
theorem d_Search_go_44 : decode prog_13_method_3_code 44 = .ok (.getfield 39, 3) := by decide +kernel
theorem d_Search_go_47 : decode prog_13_method_3_code 47 = .ok (.ifnull 12, 3) := by decide +kernel
theorem d_Search_go_50 : decode prog_13_method_3_code 50 = .ok (.iload_n 2, 1) := by decide +kernel
theorem d_Search_go_51 : decode prog_13_method_3_code 51 = .ok (.aload_n 0, 1) := by decide +kernel
theorem d_Search_go_52 : decode prog_13_method_3_code 52 = .ok (.getfield 43, 3) := by decide +kernel
theorem d_Search_go_55 : decode prog_13_method_3_code 55 = .ok (.if_icmp .le 4, 3) := by decide +kernel
theorem d_Search_go_58 : decode prog_13_method_3_code 58 = .ok (.return_, 1) := by decide +kernel
theorem d_Search_go_59 : decode prog_13_method_3_code 59 = .ok (.iconst 0, 1) := by decide +kernel
theorem d_Search_go_60 : decode prog_13_method_3_code 60 = .ok (.istore_n 3, 1) := by decide +kernel
theorem d_Search_go_61 : decode prog_13_method_3_code 61 = .ok (.iload_n 3, 1) := by decide +kernel
theorem d_Search_go_62 : decode prog_13_method_3_code 62 = .ok (.aload_n 0, 1) := by decide +kernel
theorem d_Search_go_63 : decode prog_13_method_3_code 63 = .ok (.getfield 15, 3) := by decide +kernel
theorem d_Search_go_66 : decode prog_13_method_3_code 66 = .ok (.getfield 61, 3) := by decide +kernel
theorem d_Search_go_69 : decode prog_13_method_3_code 69 = .ok (.invokevirtual 29, 3) := by decide +kernel
theorem d_Search_go_72 : decode prog_13_method_3_code 72 = .ok (.if_icmp .ge 91, 3) := by decide +kernel
theorem d_Search_go_75 : decode prog_13_method_3_code 75 = .ok (.aload_n 1, 1) := by decide +kernel
theorem d_Search_go_76 : decode prog_13_method_3_code 76 = .ok (.iload_n 3, 1) := by decide +kernel
theorem d_Search_go_77 : decode prog_13_method_3_code 77 = .ok (.invokevirtual 64, 3) := by decide +kernel
theorem d_Search_go_80 : decode prog_13_method_3_code 80 = .ok (.ifCond .eq 7, 3) := by decide +kernel
theorem d_Search_go_83 : decode prog_13_method_3_code 83 = .ok (.iconst (-1), 1) := by decide +kernel
theorem d_Search_go_84 : decode prog_13_method_3_code 84 = .ok (.goto 15, 3) := by decide +kernel
theorem d_Search_go_87 : decode prog_13_method_3_code 87 = .ok (.aload_n 0, 1) := by decide +kernel
theorem d_Search_go_88 : decode prog_13_method_3_code 88 = .ok (.getfield 15, 3) := by decide +kernel
theorem d_Search_go_91 : decode prog_13_method_3_code 91 = .ok (.aload_n 1, 1) := by decide +kernel
theorem d_Search_go_92 : decode prog_13_method_3_code 92 = .ok (.invokevirtual 50, 3) := by decide +kernel
theorem d_Search_go_95 : decode prog_13_method_3_code 95 = .ok (.iload_n 3, 1) := by decide +kernel
theorem d_Search_go_96 : decode prog_13_method_3_code 96 = .ok (.invokevirtual 68, 3) := by decide +kernel
theorem d_Search_go_99 : decode prog_13_method_3_code 99 = .ok (.istore 4, 2) := by decide +kernel
theorem d_Search_go_101 : decode prog_13_method_3_code 101 = .ok (.iload 4, 2) := by decide +kernel
theorem d_Search_go_103 : decode prog_13_method_3_code 103 = .ok (.iconst (-1), 1) := by decide +kernel
theorem d_Search_go_104 : decode prog_13_method_3_code 104 = .ok (.if_icmp .eq 53, 3) := by decide +kernel
theorem d_Search_go_107 : decode prog_13_method_3_code 107 = .ok (.aload_n 0, 1) := by decide +kernel
theorem d_Search_go_108 : decode prog_13_method_3_code 108 = .ok (.getfield 9, 3) := by decide +kernel
theorem d_Search_go_111 : decode prog_13_method_3_code 111 = .ok (.iload 4, 2) := by decide +kernel
theorem d_Search_go_113 : decode prog_13_method_3_code 113 = .ok (.baload, 1) := by decide +kernel
theorem d_Search_go_114 : decode prog_13_method_3_code 114 = .ok (.ifCond .eq 43, 3) := by decide +kernel
theorem d_Search_go_117 : decode prog_13_method_3_code 117 = .ok (.aload_n 1, 1) := by decide +kernel
theorem d_Search_go_118 : decode prog_13_method_3_code 118 = .ok (.iload_n 3, 1) := by decide +kernel
theorem d_Search_go_119 : decode prog_13_method_3_code 119 = .ok (.invokevirtual 72, 3) := by decide +kernel
theorem d_Search_go_122 : decode prog_13_method_3_code 122 = .ok (.aload_n 0, 1) := by decide +kernel
theorem d_Search_go_123 : decode prog_13_method_3_code 123 = .ok (.aload_n 1, 1) := by decide +kernel
theorem d_Search_go_124 : decode prog_13_method_3_code 124 = .ok (.iload_n 2, 1) := by decide +kernel
theorem d_Search_go_125 : decode prog_13_method_3_code 125 = .ok (.aload_n 0, 1) := by decide +kernel
theorem d_Search_go_126 : decode prog_13_method_3_code 126 = .ok (.getfield 15, 3) := by decide +kernel
theorem d_Search_go_129 : decode prog_13_method_3_code 129 = .ok (.getfield 23, 3) := by decide +kernel
theorem d_Search_go_132 : decode prog_13_method_3_code 132 = .ok (.iload 4, 2) := by decide +kernel
theorem d_Search_go_134 : decode prog_13_method_3_code 134 = .ok (.invokevirtual 76, 3) := by decide +kernel
theorem d_Search_go_137 : decode prog_13_method_3_code 137 = .ok (.checkcast 80, 3) := by decide +kernel
theorem d_Search_go_140 : decode prog_13_method_3_code 140 = .ok (.getfield 82, 3) := by decide +kernel
theorem d_Search_go_143 : decode prog_13_method_3_code 143 = .ok (.iadd, 1) := by decide +kernel
theorem d_Search_go_144 : decode prog_13_method_3_code 144 = .ok (.invokevirtual 85, 3) := by decide +kernel
theorem d_Search_go_147 : decode prog_13_method_3_code 147 = .ok (.aload_n 1, 1) := by decide +kernel
theorem d_Search_go_148 : decode prog_13_method_3_code 148 = .ok (.dup, 1) := by decide +kernel
theorem d_Search_go_149 : decode prog_13_method_3_code 149 = .ok (.getfield 46, 3) := by decide +kernel
theorem d_Search_go_152 : decode prog_13_method_3_code 152 = .ok (.iconst 1, 1) := by decide +kernel
theorem d_Search_go_153 : decode prog_13_method_3_code 153 = .ok (.isub, 1) := by decide +kernel
theorem d_Search_go_154 : decode prog_13_method_3_code 154 = .ok (.putfield 46, 3) := by decide +kernel
theorem d_Search_go_157 : decode prog_13_method_3_code 157 = .ok (.iinc 3 1, 3) := by decide +kernel
theorem d_Search_go_160 : decode prog_13_method_3_code 160 = .ok (.goto (-99), 3) := by decide +kernel
theorem d_Search_go_163 : decode prog_13_method_3_code 163 = .ok (.return_, 1) := by decide +kernel
def Search_go_157 (rec : g_AH → Nat → Option Nat → Int32 → Option g_AH) (k61 : g_AH → Nat → Option Nat → Int32 → Int32 → Option g_AH) (h : g_AH) (v0 : Nat) (v1 : Option Nat) (v2 : Int32) (v3 : Int32) : Option g_AH :=
  k61 h v0 v1 v2 (v3 + (1 : Int32))
set_option maxHeartbeats 4000000 in
set_option maxRecDepth 100000 in
theorem W_Search_go_157 {n9 : Nat} {rec : g_AH → Nat → Option Nat → Int32 → Option g_AH} (hrec : ∀ {l : Launch} {B : g_B} (h : g_AH) (this : Nat) (p0 : Option Nat) (p1 : Int32) (z : g_AH), rec h this p0 p1 = some z → g_CT l B y_Search_go (k_Search_go n9) [.ref this, va_rf p0, .int p1] h (.inl none) z) {X : g_X} (z : g_AH) (k61 : g_AH → Nat → Option Nat → Int32 → Int32 → Option g_AH) (hk61 : ∀ (h : g_AH) (v0 : Nat) (v1 : Option Nat) (v2 : Int32) (v3 : Int32), k61 h v0 v1 v2 v3 = some z → G X (k_Search_go (n9 + 1)) (.inl none) z h 61 [(0, .ref v0), (1, va_rf v1), (2, .int v2), (3, .int v3)] []) (h : g_AH) (v0 : Nat) (v1 : Option Nat) (v2 : Int32) (v3 : Int32) (hy : Search_go_157 rec k61 h v0 v1 v2 v3 = some z) : G X (k_Search_go (n9 + 1)) (.inl none) z h 157 [(0, .ref v0), (1, va_rf v1), (2, .int v2), (3, .int v3)] [] := by
  unfold Search_go_157 at hy
  refine g_iinc 3 (v := (v3 + (1 : Int32))) (pc' := 160) (Lc' := [(3, .int (v3 + (1 : Int32))), (0, .ref v0), (1, va_rf v1), (2, .int v2)]) d_Search_go_157 rfl rfl (by first | decide | exact Nat.le_of_ble_eq_true rfl) rfl rfl ?_
  refine g_goto (pc' := 61) d_Search_go_160 (by first | decide | exact Nat.le_of_ble_eq_true rfl) ?_
  refine g_sub [1, 2, 3, 0] rfl ?_
  exact hk61 _ _ _ _ _ hy
def Search_go_99 (rec : g_AH → Nat → Option Nat → Int32 → Option g_AH) (k61 : g_AH → Nat → Option Nat → Int32 → Int32 → Option g_AH) (h : g_AH) (v0 : Nat) (v1 : Option Nat) (v2 : Int32) (v3 : Int32) (s0 : Int32) : Option g_AH :=
  if s0 = (-1 : Int32) then (Search_go_157 rec k61 h v0 v1 v2 v3) else (g_gR h v0 13 2 fun x62 => g_nn x62 fun a65 => g_aI h 1 a65 s0 fun x66 => if x66 = 0 then (Search_go_157 rec k61 h v0 v1 v2 v3) else (g_nn v1 fun a72 => g_is h a72 6 <| g_b (Way_add h a72 v3) fun h76 => g_gR h76 v0 13 0 fun x79 => g_nn x79 fun a82 => g_gR h76 a82 1 2 fun x84 => g_nn x84 fun a87 => g_is h76 a87 15 <| g_b (ArrayList_get h76 a87 s0) fun x90 => g_ck h76 x90 11 <| g_nn x90 fun a94 => g_gI h76 a94 11 3 fun x96 => g_is h76 v0 13 <| g_b (rec h76 v0 (some a72) (v2 + x96)) fun h102 => g_gI h102 a72 6 3 fun x105 => g_pF h102 a72 6 3 (.int (x105 - (1 : Int32))) fun h111 => Search_go_157 rec k61 h111 v0 (some a72) v2 v3))
set_option maxHeartbeats 4000000 in
set_option maxRecDepth 100000 in
theorem W_Search_go_99 {n9 : Nat} {rec : g_AH → Nat → Option Nat → Int32 → Option g_AH} (hrec : ∀ {l : Launch} {B : g_B} (h : g_AH) (this : Nat) (p0 : Option Nat) (p1 : Int32) (z : g_AH), rec h this p0 p1 = some z → g_CT l B y_Search_go (k_Search_go n9) [.ref this, va_rf p0, .int p1] h (.inl none) z) {X : g_X} (z : g_AH) (k61 : g_AH → Nat → Option Nat → Int32 → Int32 → Option g_AH) (hk61 : ∀ (h : g_AH) (v0 : Nat) (v1 : Option Nat) (v2 : Int32) (v3 : Int32), k61 h v0 v1 v2 v3 = some z → G X (k_Search_go (n9 + 1)) (.inl none) z h 61 [(0, .ref v0), (1, va_rf v1), (2, .int v2), (3, .int v3)] []) (h : g_AH) (v0 : Nat) (v1 : Option Nat) (v2 : Int32) (v3 : Int32) (s0 : Int32) (hy : Search_go_99 rec k61 h v0 v1 v2 v3 s0 = some z) : G X (k_Search_go (n9 + 1)) (.inl none) z h 99 [(0, .ref v0), (1, va_rf v1), (2, .int v2), (3, .int v3)] [.int s0] := by
  unfold Search_go_99 at hy
  refine g_istore (pc' := 101) (Lc' := [(4, .int s0), (0, .ref v0), (1, va_rf v1), (2, .int v2), (3, .int v3)]) d_Search_go_99 (by first | decide | exact Nat.le_of_ble_eq_true rfl) rfl rfl ?_
  refine g_iload 0 (pc' := 103) d_Search_go_101 rfl rfl ?_
  refine g_iconst (v := (-1 : Int32)) (pc' := 104) d_Search_go_103 (by first | decide | exact Nat.le_of_ble_eq_true rfl) rfl ?_
  by_cases c60 : s0 = (-1 : Int32)
  · rw [if_pos c60] at hy
    refine g_icmp_eqT (pc' := 157) d_Search_go_104 c60 (by first | decide | exact Nat.le_of_ble_eq_true rfl) ?_
    refine g_sub [1, 2, 3, 4] rfl ?_
    exact W_Search_go_157 hrec _ _ hk61 _ _ _ _ _ hy
  · rw [if_neg c60] at hy
    refine g_icmp_eqF (pc' := 107) d_Search_go_104 157 c60 (by first | decide | exact Nat.le_of_ble_eq_true rfl) rfl ?_
    refine g_aload_n 1 (i := 0) (pc' := 108) d_Search_go_107 rfl rfl rfl ?_
    replace hy := g_gR_inv hy
    obtain ⟨fs61, x62, hc63, hv64, hy⟩ := hy
    refine g_getf (pc' := 111) d_Search_go_108 hc63 rfl (by first | decide | exact Nat.le_of_ble_eq_true rfl) hv64 q744 (Or.inl rfl) rfl ?_
    refine g_iload 0 (pc' := 113) d_Search_go_111 rfl rfl ?_
    replace hy := g_nn_inv hy
    obtain ⟨a65, rfl, hy⟩ := hy
    replace hy := g_aI_inv hy
    obtain ⟨n67, f68, hc69, hi70, hy⟩ := hy
    refine g_zald (pc' := 114) d_Search_go_113 hc69 hi70 rfl ?_
    generalize f68 (s0).toNatClampNeg = x66 at hy ⊢
    by_cases c71 : x66 = 0
    · rw [if_pos c71] at hy
      refine g_if_eqT (pc' := 157) d_Search_go_114 c71 (by first | decide | exact Nat.le_of_ble_eq_true rfl) ?_
      refine g_sub [1, 2, 3, 4] rfl ?_
      exact W_Search_go_157 hrec _ _ hk61 _ _ _ _ _ hy
    · rw [if_neg c71] at hy
      refine g_if_eqF (pc' := 117) d_Search_go_114 157 c71 (by first | decide | exact Nat.le_of_ble_eq_true rfl) rfl ?_
      refine g_aloadO_n 2 (i := 1) (pc' := 118) d_Search_go_117 rfl rfl rfl ?_
      refine g_iload_n 4 (i := 3) (pc' := 119) d_Search_go_118 rfl rfl rfl ?_
      replace hy := g_nn_inv hy
      obtain ⟨a72, rfl, hy⟩ := hy
      replace hy := g_is_inv hy
      obtain ⟨fs73, hc74, hy⟩ := hy
      replace hy := g_b_inv hy
      obtain ⟨h76, hf77, hy⟩ := hy
      refine g_callV (rv := none) (h1 := h76) (pc' := 122) (As := [.int v3]) (rest := []) 1 (T_Way_add (hy := hf77)) d_Search_go_119 hc74 rfl rfl q798 q763 q764 q134 q765 hd_Way_add rfl ⟨Nat.le_trans (show _ ≤ 16 from Nat.le_of_ble_eq_true rfl) (Nat.le_add_left 16 (n9 + 1)), Nat.le_of_ble_eq_true rfl⟩ (by first | exact Nat.le_of_ble_eq_true rfl | (simp only [List.map, List.sum_cons, List.sum_nil, g_cat_rf]; exact Nat.le_of_ble_eq_true rfl) | (simp only [List.map, List.sum_cons, List.sum_nil, g_cat_rf, Value.category]; decide)) rfl ?_
      refine g_aload_n 1 (i := 0) (pc' := 123) d_Search_go_122 rfl rfl rfl ?_
      refine g_aload_n 2 (i := 1) (pc' := 124) d_Search_go_123 rfl rfl rfl ?_
      refine g_iload_n 3 (i := 2) (pc' := 125) d_Search_go_124 rfl rfl rfl ?_
      refine g_aload_n 1 (i := 0) (pc' := 126) d_Search_go_125 rfl rfl rfl ?_
      replace hy := g_gR_inv hy
      obtain ⟨fs78, x79, hc80, hv81, hy⟩ := hy
      refine g_getf (pc' := 129) d_Search_go_126 hc80 rfl (by first | decide | exact Nat.le_of_ble_eq_true rfl) hv81 q742 (Or.inl rfl) rfl ?_
      replace hy := g_nn_inv hy
      obtain ⟨a82, rfl, hy⟩ := hy
      replace hy := g_gR_inv hy
      obtain ⟨fs83, x84, hc85, hv86, hy⟩ := hy
      refine g_getfN (pc' := 132) d_Search_go_129 hc85 rfl (by first | decide | exact Nat.le_of_ble_eq_true rfl) hv86 q551 rfl rfl ?_
      refine g_iload 0 (pc' := 134) d_Search_go_132 rfl rfl ?_
      replace hy := g_nn_inv hy
      obtain ⟨a87, rfl, hy⟩ := hy
      replace hy := g_is_inv hy
      obtain ⟨fs88, hc89, hy⟩ := hy
      replace hy := g_b_inv hy
      obtain ⟨x90, hf92, hy⟩ := hy
      refine g_callV (rv := some (va_rf x90)) (h1 := h76) (pc' := 137) (As := [.int s0]) (rest := [.int v2, .ref a72, .ref v0]) 1 (T_ArrayList_get (hy := hf92)) d_Search_go_134 hc89 rfl rfl q799 q683 q684 q112 q685 hd_ArrayList_get rfl ⟨Nat.le_trans (show _ ≤ 16 from Nat.le_of_ble_eq_true rfl) (Nat.le_add_left 16 (n9 + 1)), Nat.le_of_ble_eq_true rfl⟩ (by first | exact Nat.le_of_ble_eq_true rfl | (simp only [List.map, List.sum_cons, List.sum_nil, g_cat_rf]; exact Nat.le_of_ble_eq_true rfl) | (simp only [List.map, List.sum_cons, List.sum_nil, g_cat_rf, Value.category]; decide)) rfl ?_
      replace hy := g_ck_inv hy
      obtain ⟨hk93, hy⟩ := hy
      refine g_castO (pc' := 140) d_Search_go_137 hk93 rfl q800 rfl ?_
      replace hy := g_nn_inv hy
      obtain ⟨a94, rfl, hy⟩ := hy
      replace hy := g_gI_inv hy
      obtain ⟨fs95, x96, hc97, hv98, hy⟩ := hy
      refine g_getfN (pc' := 143) d_Search_go_140 hc97 rfl (by first | decide | exact Nat.le_of_ble_eq_true rfl) hv98 q1117 rfl rfl ?_
      refine g_iadd (pc' := 144) d_Search_go_143 rfl ?_
      replace hy := g_is_inv hy
      obtain ⟨fs99, hc100, hy⟩ := hy
      replace hy := g_b_inv hy
      obtain ⟨h102, hf103, hy⟩ := hy
      refine g_callV (rv := none) (h1 := h102) (pc' := 147) (As := [va_rf (some a72), .int (v2 + x96)]) (rest := []) 2 (hrec _ _ _ _ _ (hf103)) d_Search_go_144 hc100 rfl rfl q801 q767 q768 q146 q769 hd_Search_go rfl ⟨Nat.le_of_eq (by show n9 + 16 + 1 = n9 + 1 + 16; omega), Nat.le_of_ble_eq_true rfl⟩ (by first | exact Nat.le_of_ble_eq_true rfl | (simp only [List.map, List.sum_cons, List.sum_nil, g_cat_rf]; exact Nat.le_of_ble_eq_true rfl) | (simp only [List.map, List.sum_cons, List.sum_nil, g_cat_rf, Value.category]; decide)) rfl ?_
      refine g_aload_n 2 (i := 1) (pc' := 148) d_Search_go_147 rfl rfl rfl ?_
      refine g_dup (pc' := 149) d_Search_go_148 rfl rfl ?_
      replace hy := g_gI_inv hy
      obtain ⟨fs104, x105, hc106, hv107, hy⟩ := hy
      refine g_getfN (pc' := 152) d_Search_go_149 hc106 rfl (by first | decide | exact Nat.le_of_ble_eq_true rfl) hv107 q626 rfl rfl ?_
      refine g_iconst (v := (1 : Int32)) (pc' := 153) d_Search_go_152 (by first | decide | exact Nat.le_of_ble_eq_true rfl) rfl ?_
      refine g_isub (pc' := 154) d_Search_go_153 rfl ?_
      replace hy := g_pF_inv hy
      obtain ⟨fs108, hc109, hl110, hy⟩ := hy
      refine g_putfN (pc' := 157) d_Search_go_154 hc109 rfl (by first | decide | exact Nat.le_of_ble_eq_true rfl) hl110 rfl rfl rfl q626 rfl rfl ?_
      generalize g_up h102 a72 (.inr (6, fs108.set 3 (.int (x105 - (1 : Int32))))) = h111 at hy ⊢
      refine g_sub [1, 2, 3, 4] rfl ?_
      exact W_Search_go_157 hrec _ _ hk61 _ _ _ _ _ hy
def Search_go_61 (rec : g_AH → Nat → Option Nat → Int32 → Option g_AH)  : Nat → g_AH → Nat → Option Nat → Int32 → Int32 → Option g_AH
  | 0, _, _, _, _, _ => none
  | n + 1, h, v0, v1, v2, v3 => g_gR h v0 13 0 fun x23 => g_nn x23 fun a26 => g_gR h a26 1 1 fun x28 => g_nn x28 fun a31 => g_is h a31 15 <| g_b (ArrayList_size h a31) fun x34 => if x34 ≤ v3 then (some h) else (g_nn v1 fun a38 => g_is h a38 6 <| g_b (Way_has h a38 v3) fun x41 => if x41 = 0 then (g_gR h v0 13 0 fun x46 => g_is h a38 6 <| g_b (Way_last h a38) fun x51 => g_nn x46 fun a54 => g_is h a54 1 <| g_b (Net_linkOf h a54 x51 v3) fun x57 => Search_go_99 rec (Search_go_61 rec  n) h v0 (some a38) v2 v3 x57) else (Search_go_99 rec (Search_go_61 rec  n) h v0 (some a38) v2 v3 (-1 : Int32)))
set_option maxHeartbeats 4000000 in
set_option maxRecDepth 100000 in
theorem W_Search_go_61 {n9 : Nat} {rec : g_AH → Nat → Option Nat → Int32 → Option g_AH} (hrec : ∀ {l : Launch} {B : g_B} (h : g_AH) (this : Nat) (p0 : Option Nat) (p1 : Int32) (z : g_AH), rec h this p0 p1 = some z → g_CT l B y_Search_go (k_Search_go n9) [.ref this, va_rf p0, .int p1] h (.inl none) z) {X : g_X} (z : g_AH)  : ∀ (n : Nat) (h : g_AH) (v0 : Nat) (v1 : Option Nat) (v2 : Int32) (v3 : Int32), Search_go_61 rec  n h v0 v1 v2 v3 = some z → G X (k_Search_go (n9 + 1)) (.inl none) z h 61 [(0, .ref v0), (1, va_rf v1), (2, .int v2), (3, .int v3)] [] := by
  intro n
  induction n with
  | zero => intro h v0 v1 v2 v3 hy; exact absurd hy (by simp [Search_go_61])
  | succ n ih =>
    intro h v0 v1 v2 v3 hy
    rw [Search_go_61] at hy
    refine g_iload_n 3 (i := 3) (pc' := 62) d_Search_go_61 rfl rfl rfl ?_
    refine g_aload_n 0 (i := 0) (pc' := 63) d_Search_go_62 rfl rfl rfl ?_
    replace hy := g_gR_inv hy
    obtain ⟨fs22, x23, hc24, hv25, hy⟩ := hy
    refine g_getf (pc' := 66) d_Search_go_63 hc24 rfl (by first | decide | exact Nat.le_of_ble_eq_true rfl) hv25 q742 (Or.inl rfl) rfl ?_
    replace hy := g_nn_inv hy
    obtain ⟨a26, rfl, hy⟩ := hy
    replace hy := g_gR_inv hy
    obtain ⟨fs27, x28, hc29, hv30, hy⟩ := hy
    refine g_getfN (pc' := 69) d_Search_go_66 hc29 rfl (by first | decide | exact Nat.le_of_ble_eq_true rfl) hv30 q548 rfl rfl ?_
    replace hy := g_nn_inv hy
    obtain ⟨a31, rfl, hy⟩ := hy
    replace hy := g_is_inv hy
    obtain ⟨fs32, hc33, hy⟩ := hy
    replace hy := g_b_inv hy
    obtain ⟨x34, hf36, hy⟩ := hy
    refine g_callV (rv := some (.int x34)) (h1 := h) (pc' := 72) (As := []) (rest := [.int v3]) 0 (T_ArrayList_size (hy := hf36)) d_Search_go_69 hc33 rfl rfl q736 q674 q675 q112 q676 hd_ArrayList_size rfl ⟨Nat.le_trans (show _ ≤ 16 from Nat.le_of_ble_eq_true rfl) (Nat.le_add_left 16 (n9 + 1)), Nat.le_of_ble_eq_true rfl⟩ (by first | exact Nat.le_of_ble_eq_true rfl | (simp only [List.map, List.sum_cons, List.sum_nil, g_cat_rf]; exact Nat.le_of_ble_eq_true rfl) | (simp only [List.map, List.sum_cons, List.sum_nil, g_cat_rf, Value.category]; decide)) rfl ?_
    by_cases c37 : x34 ≤ v3
    · rw [if_pos c37] at hy
      refine g_icmp_geT (pc' := 163) d_Search_go_72 c37 (by first | decide | exact Nat.le_of_ble_eq_true rfl) ?_
      cases hy
      exact g_vret rfl rfl rfl d_Search_go_163
    · rw [if_neg c37] at hy
      refine g_icmp_geF (pc' := 75) d_Search_go_72 163 c37 (by first | decide | exact Nat.le_of_ble_eq_true rfl) rfl ?_
      refine g_aloadO_n 1 (i := 1) (pc' := 76) d_Search_go_75 rfl rfl rfl ?_
      refine g_iload_n 3 (i := 3) (pc' := 77) d_Search_go_76 rfl rfl rfl ?_
      replace hy := g_nn_inv hy
      obtain ⟨a38, rfl, hy⟩ := hy
      replace hy := g_is_inv hy
      obtain ⟨fs39, hc40, hy⟩ := hy
      replace hy := g_b_inv hy
      obtain ⟨x41, hf43, hy⟩ := hy
      refine g_callV (rv := some (.int x41)) (h1 := h) (pc' := 80) (As := [.int v3]) (rest := []) 1 (T_Way_has (hy := hf43)) d_Search_go_77 hc40 rfl rfl q786 q787 q788 q134 q789 hd_Way_has rfl ⟨Nat.le_trans (show _ ≤ 16 from Nat.le_of_ble_eq_true rfl) (Nat.le_add_left 16 (n9 + 1)), Nat.le_of_ble_eq_true rfl⟩ (by first | exact Nat.le_of_ble_eq_true rfl | (simp only [List.map, List.sum_cons, List.sum_nil, g_cat_rf]; exact Nat.le_of_ble_eq_true rfl) | (simp only [List.map, List.sum_cons, List.sum_nil, g_cat_rf, Value.category]; decide)) rfl ?_
      by_cases c44 : x41 = 0
      · rw [if_pos c44] at hy
        refine g_if_eqT (pc' := 87) d_Search_go_80 c44 (by first | decide | exact Nat.le_of_ble_eq_true rfl) ?_
        refine g_aload_n 0 (i := 0) (pc' := 88) d_Search_go_87 rfl rfl rfl ?_
        replace hy := g_gR_inv hy
        obtain ⟨fs45, x46, hc47, hv48, hy⟩ := hy
        refine g_getf (pc' := 91) d_Search_go_88 hc47 rfl (by first | decide | exact Nat.le_of_ble_eq_true rfl) hv48 q742 (Or.inl rfl) rfl ?_
        refine g_aload_n 1 (i := 1) (pc' := 92) d_Search_go_91 rfl rfl rfl ?_
        replace hy := g_is_inv hy
        obtain ⟨fs49, hc50, hy⟩ := hy
        replace hy := g_b_inv hy
        obtain ⟨x51, hf53, hy⟩ := hy
        refine g_callV (rv := some (.int x51)) (h1 := h) (pc' := 95) (As := []) (rest := [va_rf x46]) 0 (T_Way_last (hy := hf53)) d_Search_go_92 hc50 rfl rfl q770 q723 q724 q134 q725 hd_Way_last rfl ⟨Nat.le_trans (show _ ≤ 16 from Nat.le_of_ble_eq_true rfl) (Nat.le_add_left 16 (n9 + 1)), Nat.le_of_ble_eq_true rfl⟩ (by first | exact Nat.le_of_ble_eq_true rfl | (simp only [List.map, List.sum_cons, List.sum_nil, g_cat_rf]; exact Nat.le_of_ble_eq_true rfl) | (simp only [List.map, List.sum_cons, List.sum_nil, g_cat_rf, Value.category]; decide)) rfl ?_
        refine g_iload_n 3 (i := 3) (pc' := 96) d_Search_go_95 rfl rfl rfl ?_
        replace hy := g_nn_inv hy
        obtain ⟨a54, rfl, hy⟩ := hy
        replace hy := g_is_inv hy
        obtain ⟨fs55, hc56, hy⟩ := hy
        replace hy := g_b_inv hy
        obtain ⟨x57, hf59, hy⟩ := hy
        refine g_callV (rv := some (.int x57)) (h1 := h) (pc' := 99) (As := [.int x51, .int v3]) (rest := []) 2 (T_Net_linkOf (hy := hf59)) d_Search_go_96 hc56 rfl rfl q794 q795 q796 q109 q797 hd_Net_linkOf rfl ⟨Nat.le_trans (show _ ≤ 16 from Nat.le_of_ble_eq_true rfl) (Nat.le_add_left 16 (n9 + 1)), Nat.le_of_ble_eq_true rfl⟩ (by first | exact Nat.le_of_ble_eq_true rfl | (simp only [List.map, List.sum_cons, List.sum_nil, g_cat_rf]; exact Nat.le_of_ble_eq_true rfl) | (simp only [List.map, List.sum_cons, List.sum_nil, g_cat_rf, Value.category]; decide)) rfl ?_
        exact W_Search_go_99 hrec _ _ ih _ _ _ _ _ _ hy
      · rw [if_neg c44] at hy
        refine g_if_eqF (pc' := 83) d_Search_go_80 87 c44 (by first | decide | exact Nat.le_of_ble_eq_true rfl) rfl ?_
        refine g_iconst (v := (-1 : Int32)) (pc' := 84) d_Search_go_83 (by first | decide | exact Nat.le_of_ble_eq_true rfl) rfl ?_
        refine g_goto (pc' := 99) d_Search_go_84 (by first | decide | exact Nat.le_of_ble_eq_true rfl) ?_
        exact W_Search_go_99 hrec _ _ ih _ _ _ _ _ _ hy
def Search_go_59 (rec : g_AH → Nat → Option Nat → Int32 → Option g_AH) (h : g_AH) (v0 : Nat) (v1 : Option Nat) (v2 : Int32) : Option g_AH :=
  Search_go_61 rec  gFU h v0 v1 v2 (0 : Int32)
set_option maxHeartbeats 4000000 in
set_option maxRecDepth 100000 in
theorem W_Search_go_59 {n9 : Nat} {rec : g_AH → Nat → Option Nat → Int32 → Option g_AH} (hrec : ∀ {l : Launch} {B : g_B} (h : g_AH) (this : Nat) (p0 : Option Nat) (p1 : Int32) (z : g_AH), rec h this p0 p1 = some z → g_CT l B y_Search_go (k_Search_go n9) [.ref this, va_rf p0, .int p1] h (.inl none) z) {X : g_X} (z : g_AH) (h : g_AH) (v0 : Nat) (v1 : Option Nat) (v2 : Int32) (hy : Search_go_59 rec  h v0 v1 v2 = some z) : G X (k_Search_go (n9 + 1)) (.inl none) z h 59 [(0, .ref v0), (1, va_rf v1), (2, .int v2)] [] := by
  unfold Search_go_59 at hy
  refine g_iconst (v := (0 : Int32)) (pc' := 60) d_Search_go_59 (by first | decide | exact Nat.le_of_ble_eq_true rfl) rfl ?_
  refine g_istore_n (i := 3) (pc' := 61) (Lc' := [(3, .int (0 : Int32)), (0, .ref v0), (1, va_rf v1), (2, .int v2)]) d_Search_go_60 rfl (by first | decide | exact Nat.le_of_ble_eq_true rfl) rfl rfl ?_
  refine g_sub [1, 2, 3, 0] rfl ?_
  exact W_Search_go_61 hrec _ _ _ _ _ _ _ hy
def Search_goF (rec : g_AH → Nat → Option Nat → Int32 → Option g_AH) (h : g_AH) (this : Nat) (p0 : Option Nat) (p1 : Int32) : Option g_AH :=
  g_nn p0 fun a1 => g_is h a1 6 <| g_b (Way_last h a1) fun x4 => g_gI h this 13 1 fun x8 => if x4 = x8 then (g_is h this 13 <| g_b (Search_isBetter h this (some a1) p1) fun x119 => if x119 = 0 then (some h) else (g_is h a1 6 <| g_b2 (Way_copy h a1) fun x125 h126 => g_pF h126 this 13 3 (va_rf x125) fun h131 => g_pF h131 this 13 4 (.int p1) fun h135 => some h135)) else (g_gI h a1 6 3 fun x13 => if x13 = (6 : Int32) then (some h) else (g_gR h this 13 3 fun x18 => if x18 = none then (Search_go_59 rec  h this (some a1) p1) else (g_gI h this 13 4 fun x113 => if p1 ≤ x113 then (Search_go_59 rec  h this (some a1) p1) else (some h))))
set_option maxHeartbeats 4000000 in
set_option maxRecDepth 100000 in
theorem T_Search_goF {n9 : Nat} {rec : g_AH → Nat → Option Nat → Int32 → Option g_AH} (hrec : ∀ {l : Launch} {B : g_B} (h : g_AH) (this : Nat) (p0 : Option Nat) (p1 : Int32) (z : g_AH), rec h this p0 p1 = some z → g_CT l B y_Search_go (k_Search_go n9) [.ref this, va_rf p0, .int p1] h (.inl none) z) {l : Launch} {B : g_B} (h : g_AH) (this : Nat) (p0 : Option Nat) (p1 : Int32) (z : g_AH) (hy : Search_goF rec h this p0 p1 = some z) : g_CT l B y_Search_go (k_Search_go (n9 + 1)) [.ref this, va_rf p0, .int p1] h (.inl none) z := by
  refine g_start2 (Lc := [(0, .ref this), (1, va_rf p0), (2, .int p1)]) (by first | decide | exact Nat.le_of_ble_eq_true rfl) rfl rfl (by rcases p0 with _ | p0 <;> exact Nat.le_of_ble_eq_true rfl) (by rcases p0 with _ | p0 <;> rfl) fun X => ?_
  unfold Search_goF at hy
  refine g_aloadO_n 1 (i := 1) (pc' := 1) d_Search_go_0 rfl rfl rfl ?_
  replace hy := g_nn_inv hy
  obtain ⟨a1, rfl, hy⟩ := hy
  replace hy := g_is_inv hy
  obtain ⟨fs2, hc3, hy⟩ := hy
  replace hy := g_b_inv hy
  obtain ⟨x4, hf6, hy⟩ := hy
  refine g_callV (rv := some (.int x4)) (h1 := h) (pc' := 4) (As := []) (rest := []) 0 (T_Way_last (hy := hf6)) d_Search_go_1 hc3 rfl rfl q770 q723 q724 q134 q725 hd_Way_last rfl ⟨Nat.le_trans (show _ ≤ 16 from Nat.le_of_ble_eq_true rfl) (Nat.le_add_left 16 (n9 + 1)), Nat.le_of_ble_eq_true rfl⟩ (by first | exact Nat.le_of_ble_eq_true rfl | (simp only [List.map, List.sum_cons, List.sum_nil, g_cat_rf]; exact Nat.le_of_ble_eq_true rfl) | (simp only [List.map, List.sum_cons, List.sum_nil, g_cat_rf, Value.category]; decide)) rfl ?_
  refine g_aload_n 0 (i := 0) (pc' := 5) d_Search_go_4 rfl rfl rfl ?_
  replace hy := g_gI_inv hy
  obtain ⟨fs7, x8, hc9, hv10, hy⟩ := hy
  refine g_getf (pc' := 8) d_Search_go_5 hc9 rfl (by first | decide | exact Nat.le_of_ble_eq_true rfl) hv10 q743 (Or.inl rfl) rfl ?_
  by_cases c11 : x4 = x8
  · rw [if_pos c11] at hy
    refine g_icmp_neF (pc' := 11) d_Search_go_8 34 c11 (by first | decide | exact Nat.le_of_ble_eq_true rfl) rfl ?_
    refine g_aload_n 0 (i := 0) (pc' := 12) d_Search_go_11 rfl rfl rfl ?_
    refine g_aload_n 1 (i := 1) (pc' := 13) d_Search_go_12 rfl rfl rfl ?_
    refine g_iload_n 2 (i := 2) (pc' := 14) d_Search_go_13 rfl rfl rfl ?_
    replace hy := g_is_inv hy
    obtain ⟨fs117, hc118, hy⟩ := hy
    replace hy := g_b_inv hy
    obtain ⟨x119, hf121, hy⟩ := hy
    refine g_callV (rv := some (.int x119)) (h1 := h) (pc' := 17) (As := [va_rf (some a1), .int p1]) (rest := []) 2 (T_Search_isBetter (hy := hf121)) d_Search_go_14 hc118 rfl rfl q771 q773 qs2 q146 q774 hd_Search_isBetter rfl ⟨Nat.le_trans (show _ ≤ 16 from Nat.le_of_ble_eq_true rfl) (Nat.le_add_left 16 (n9 + 1)), Nat.le_of_ble_eq_true rfl⟩ (by first | exact Nat.le_of_ble_eq_true rfl | (simp only [List.map, List.sum_cons, List.sum_nil, g_cat_rf]; exact Nat.le_of_ble_eq_true rfl) | (simp only [List.map, List.sum_cons, List.sum_nil, g_cat_rf, Value.category]; decide)) rfl ?_
    by_cases c122 : x119 = 0
    · rw [if_pos c122] at hy
      refine g_if_eqT (pc' := 33) d_Search_go_17 c122 (by first | decide | exact Nat.le_of_ble_eq_true rfl) ?_
      cases hy
      exact g_vret rfl rfl rfl d_Search_go_33
    · rw [if_neg c122] at hy
      refine g_if_eqF (pc' := 20) d_Search_go_17 33 c122 (by first | decide | exact Nat.le_of_ble_eq_true rfl) rfl ?_
      refine g_aload_n 0 (i := 0) (pc' := 21) d_Search_go_20 rfl rfl rfl ?_
      refine g_aload_n 1 (i := 1) (pc' := 22) d_Search_go_21 rfl rfl rfl ?_
      replace hy := g_is_inv hy
      obtain ⟨fs123, hc124, hy⟩ := hy
      replace hy := g_b2_inv hy
      obtain ⟨x125, h126, hf127, hy⟩ := hy
      refine g_callV (rv := some (va_rf x125)) (h1 := h126) (pc' := 25) (As := []) (rest := [.ref this]) 0 (T_Way_copy (hy := hf127)) d_Search_go_22 hc124 rfl rfl q775 q776 q777 q134 q778 hd_Way_copy rfl ⟨Nat.le_trans (show _ ≤ 16 from Nat.le_of_ble_eq_true rfl) (Nat.le_add_left 16 (n9 + 1)), Nat.le_of_ble_eq_true rfl⟩ (by first | exact Nat.le_of_ble_eq_true rfl | (simp only [List.map, List.sum_cons, List.sum_nil, g_cat_rf]; exact Nat.le_of_ble_eq_true rfl) | (simp only [List.map, List.sum_cons, List.sum_nil, g_cat_rf, Value.category]; decide)) rfl ?_
      replace hy := g_pF_inv hy
      obtain ⟨fs128, hc129, hl130, hy⟩ := hy
      refine g_putf (pc' := 28) d_Search_go_25 hc129 rfl (by first | decide | exact Nat.le_of_ble_eq_true rfl) hl130 rfl g_nar_rf g_fit_o q745 (Or.inl rfl) rfl ?_
      generalize g_up h126 this (.inr (13, fs128.set 3 (va_rf x125))) = h131 at hy ⊢
      refine g_aload_n 0 (i := 0) (pc' := 29) d_Search_go_28 rfl rfl rfl ?_
      refine g_iload_n 2 (i := 2) (pc' := 30) d_Search_go_29 rfl rfl rfl ?_
      replace hy := g_pF_inv hy
      obtain ⟨fs132, hc133, hl134, hy⟩ := hy
      refine g_putf (pc' := 33) d_Search_go_30 hc133 rfl (by first | decide | exact Nat.le_of_ble_eq_true rfl) hl134 rfl rfl rfl q747 (Or.inl rfl) rfl ?_
      generalize g_up h131 this (.inr (13, fs132.set 4 (.int p1))) = h135 at hy ⊢
      cases hy
      exact g_vret rfl rfl rfl d_Search_go_33
  · rw [if_neg c11] at hy
    refine g_icmp_neT (pc' := 34) d_Search_go_8 c11 (by first | decide | exact Nat.le_of_ble_eq_true rfl) ?_
    refine g_aload_n 1 (i := 1) (pc' := 35) d_Search_go_34 rfl rfl rfl ?_
    replace hy := g_gI_inv hy
    obtain ⟨fs12, x13, hc14, hv15, hy⟩ := hy
    refine g_getfN (pc' := 38) d_Search_go_35 hc14 rfl (by first | decide | exact Nat.le_of_ble_eq_true rfl) hv15 q626 rfl rfl ?_
    refine g_bipush (v := (6 : Int32)) (pc' := 40) d_Search_go_38 (by first | decide | exact Nat.le_of_ble_eq_true rfl) rfl ?_
    by_cases c16 : x13 = (6 : Int32)
    · rw [if_pos c16] at hy
      refine g_icmp_eqT (pc' := 58) d_Search_go_40 c16 (by first | decide | exact Nat.le_of_ble_eq_true rfl) ?_
      cases hy
      exact g_vret rfl rfl rfl d_Search_go_58
    · rw [if_neg c16] at hy
      refine g_icmp_eqF (pc' := 43) d_Search_go_40 58 c16 (by first | decide | exact Nat.le_of_ble_eq_true rfl) rfl ?_
      refine g_aload_n 0 (i := 0) (pc' := 44) d_Search_go_43 rfl rfl rfl ?_
      replace hy := g_gR_inv hy
      obtain ⟨fs17, x18, hc19, hv20, hy⟩ := hy
      refine g_getf (pc' := 47) d_Search_go_44 hc19 rfl (by first | decide | exact Nat.le_of_ble_eq_true rfl) hv20 q745 (Or.inl rfl) rfl ?_
      by_cases c21 : x18 = none
      · rw [if_pos c21] at hy
        refine g_ifnullT (pc' := 59) d_Search_go_47 c21 (by first | decide | exact Nat.le_of_ble_eq_true rfl) ?_
        exact W_Search_go_59 hrec _ _ _ _ _ hy
      · rw [if_neg c21] at hy
        refine g_ifnullF (pc' := 50) d_Search_go_47 c21 rfl ?_
        refine g_iload_n 2 (i := 2) (pc' := 51) d_Search_go_50 rfl rfl rfl ?_
        refine g_aload_n 0 (i := 0) (pc' := 52) d_Search_go_51 rfl rfl rfl ?_
        replace hy := g_gI_inv hy
        obtain ⟨fs112, x113, hc114, hv115, hy⟩ := hy
        refine g_getf (pc' := 55) d_Search_go_52 hc114 rfl (by first | decide | exact Nat.le_of_ble_eq_true rfl) hv115 q747 (Or.inl rfl) rfl ?_
        by_cases c116 : p1 ≤ x113
        · rw [if_pos c116] at hy
          refine g_icmp_leT (pc' := 59) d_Search_go_55 c116 (by first | decide | exact Nat.le_of_ble_eq_true rfl) ?_
          exact W_Search_go_59 hrec _ _ _ _ _ hy
        · rw [if_neg c116] at hy
          refine g_icmp_leF (pc' := 58) d_Search_go_55 59 c116 (by first | decide | exact Nat.le_of_ble_eq_true rfl) rfl ?_
          cases hy
          exact g_vret rfl rfl rfl d_Search_go_58
def Search_go : Nat → g_AH → Nat → Option Nat → Int32 → Option g_AH
  | 0, _, _, _, _ => none
  | n + 1, h, this, p0, p1 => Search_goF (Search_go n) h this p0 p1
theorem T_Search_go : ∀ (n : Nat) {l : Launch} {B : g_B} (h : g_AH) (this : Nat) (p0 : Option Nat) (p1 : Int32) (z : g_AH) (hy : Search_go n h this p0 p1 = some z), g_CT l B y_Search_go (k_Search_go n) [.ref this, va_rf p0, .int p1] h (.inl none) z := by
  intro n
  induction n with
  | zero => intro l B h this p0 p1 z hy; exact absurd hy (by simp [Search_go])
  | succ n ih => intro l B h this p0 p1 z hy; exact T_Search_goF (n9 := n) (rec := Search_go n) (fun h this p0 p1 z hy => ih h this p0 p1 z hy) h this p0 p1 z hy
/-! CircuitDesk$Net.best(IIIII)LCircuitDesk$Way; -/
abbrev y_Net_best : MethodName := ⟨"CircuitDesk$Net", "best", "(IIIII)LCircuitDesk$Way;"⟩
abbrev k_Net_best : g_M := (prog_7_method_36_code, 8, "CircuitDesk$Net", 25, (some (FieldType.object "CircuitDesk$Way")), "best", [], 0)
theorem d_Net_best_0 : decode prog_7_method_36_code 0 = .ok (.new 363, 3) := by decide +kernel
theorem d_Net_best_3 : decode prog_7_method_36_code 3 = .ok (.dup, 1) := by decide +kernel
theorem d_Net_best_4 : decode prog_7_method_36_code 4 = .ok (.aload_n 0, 1) := by decide +kernel
theorem d_Net_best_5 : decode prog_7_method_36_code 5 = .ok (.iload_n 2, 1) := by decide +kernel
theorem d_Net_best_6 : decode prog_7_method_36_code 6 = .ok (.iload_n 3, 1) := by decide +kernel
theorem d_Net_best_7 : decode prog_7_method_36_code 7 = .ok (.iload 4, 2) := by decide +kernel
theorem d_Net_best_9 : decode prog_7_method_36_code 9 = .ok (.iload 5, 2) := by decide +kernel
theorem d_Net_best_11 : decode prog_7_method_36_code 11 = .ok (.invokespecial 365, 3) := by decide +kernel
theorem d_Net_best_14 : decode prog_7_method_36_code 14 = .ok (.astore 6, 2) := by decide +kernel
theorem d_Net_best_16 : decode prog_7_method_36_code 16 = .ok (.new 135, 3) := by decide +kernel
theorem d_Net_best_19 : decode prog_7_method_36_code 19 = .ok (.dup, 1) := by decide +kernel
theorem d_Net_best_20 : decode prog_7_method_36_code 20 = .ok (.invokespecial 368, 3) := by decide +kernel
theorem d_Net_best_23 : decode prog_7_method_36_code 23 = .ok (.astore 7, 2) := by decide +kernel
theorem d_Net_best_25 : decode prog_7_method_36_code 25 = .ok (.aload 7, 2) := by decide +kernel
theorem d_Net_best_27 : decode prog_7_method_36_code 27 = .ok (.iload_n 1, 1) := by decide +kernel
theorem d_Net_best_28 : decode prog_7_method_36_code 28 = .ok (.invokevirtual 369, 3) := by decide +kernel
theorem d_Net_best_31 : decode prog_7_method_36_code 31 = .ok (.aload 6, 2) := by decide +kernel
theorem d_Net_best_33 : decode prog_7_method_36_code 33 = .ok (.aload 7, 2) := by decide +kernel
theorem d_Net_best_35 : decode prog_7_method_36_code 35 = .ok (.iconst 0, 1) := by decide +kernel
theorem d_Net_best_36 : decode prog_7_method_36_code 36 = .ok (.invokevirtual 371, 3) := by decide +kernel
theorem d_Net_best_39 : decode prog_7_method_36_code 39 = .ok (.aload 6, 2) := by decide +kernel
theorem d_Net_best_41 : decode prog_7_method_36_code 41 = .ok (.getfield 374, 3) := by decide +kernel
theorem d_Net_best_44 : decode prog_7_method_36_code 44 = .ok (.areturn, 1) := by decide +kernel
def Net_best (h : g_AH) (this : Nat) (p0 : Int32) (p1 : Int32) (p2 : Int32) (p3 : Int32) (p4 : Int32) : Option (Option Nat × g_AH) :=
  g_mk h (.inr (13, [.null, .int 0, .null, .null, .int 0])) 5 fun a1 h2 => g_b (Search_init h2 a1 (some this) p1 p2 p3 p4) fun h4 => g_mk h4 (.inr (6, [.null, .null, .null, .int 0])) 4 fun a6 h7 => g_b (Way_init h7 a6) fun h9 => g_is h9 a6 6 <| g_b (Way_add h9 a6 p0) fun h14 => g_is h14 a1 13 <| g_b (Search_go 8 h14 a1 (some a6) (0 : Int32)) fun h19 => g_gR h19 a1 13 3 fun x22 => some (x22, h19)
set_option maxHeartbeats 4000000 in
set_option maxRecDepth 100000 in
theorem T_Net_best {l : Launch} {B : g_B} (h : g_AH) (this : Nat) (p0 : Int32) (p1 : Int32) (p2 : Int32) (p3 : Int32) (p4 : Int32) (z : Option Nat × g_AH) (hy : Net_best h this p0 p1 p2 p3 p4 = some z) : g_CT l B y_Net_best k_Net_best [.ref this, .int p0, .int p1, .int p2, .int p3, .int p4] h (.inl (some (va_rf z.1))) z.2 := by
  refine g_start2 (Lc := [(0, .ref this), (1, .int p0), (2, .int p1), (3, .int p2), (4, .int p3), (5, .int p4)]) (by decide) rfl rfl (by exact Nat.le_of_ble_eq_true rfl) (by rfl) fun X => ?_
  unfold Net_best at hy
  replace hy := g_mk_inv hy
  refine g_new (ci := 13) (fs := [.null, .int 0, .null, .null, .int 0]) (pc' := 3) d_Net_best_0 rfl q730 q731 q146 gdf_13 rfl ?_
  generalize g_al h (.inr (13, [.null, .int 0, .null, .null, .int 0])) 5 = h2 at hy ⊢
  generalize g_n h = a1 at hy ⊢
  refine g_dup (pc' := 4) d_Net_best_3 rfl rfl ?_
  refine g_aload_n 0 (i := 0) (pc' := 5) d_Net_best_4 rfl rfl rfl ?_
  refine g_iload_n 2 (i := 2) (pc' := 6) d_Net_best_5 rfl rfl rfl ?_
  refine g_iload_n 3 (i := 3) (pc' := 7) d_Net_best_6 rfl rfl rfl ?_
  refine g_iload 4 (pc' := 9) d_Net_best_7 rfl rfl ?_
  refine g_iload 5 (pc' := 11) d_Net_best_9 rfl rfl ?_
  replace hy := g_b_inv hy
  obtain ⟨h4, hf5, hy⟩ := hy
  refine g_callI (h1 := h4) (pc' := 14) (As := [va_rf (some this), .int p1, .int p2, .int p3, .int p4]) (rest := [.ref a1]) 5 (T_Search_init (hy := hf5)) d_Net_best_11 rfl rfl q732 q733 q146 q734 hd_Search_init rfl ⟨by decide, by decide⟩ (by first | exact Nat.le_of_ble_eq_true rfl | (simp only [List.map, List.sum_cons, List.sum_nil, g_cat_rf]; exact Nat.le_of_ble_eq_true rfl) | (simp only [List.map, List.sum_cons, List.sum_nil, g_cat_rf, Value.category]; decide)) rfl ?_
  refine g_astore (pc' := 16) (Lc' := [(6, .ref a1), (0, .ref this), (1, .int p0), (2, .int p1), (3, .int p2), (4, .int p3), (5, .int p4)]) d_Net_best_14 (by decide) rfl rfl ?_
  replace hy := g_mk_inv hy
  refine g_new (ci := 6) (fs := [.null, .null, .null, .int 0]) (pc' := 19) d_Net_best_16 rfl q760 q611 q134 gdf_6 rfl ?_
  generalize g_al h4 (.inr (6, [.null, .null, .null, .int 0])) 4 = h7 at hy ⊢
  generalize g_n h4 = a6 at hy ⊢
  refine g_dup (pc' := 20) d_Net_best_19 rfl rfl ?_
  replace hy := g_b_inv hy
  obtain ⟨h9, hf10, hy⟩ := hy
  refine g_callIN (h1 := h9) (pc' := 23) (As := []) (rest := [.ref a6]) 0 (T_Way_init (hy := hf10)) d_Net_best_20 rfl rfl q761 q613 q134 q614 hd_Way_init rfl ⟨by decide, by decide⟩ (by first | exact Nat.le_of_ble_eq_true rfl | (simp only [List.map, List.sum_cons, List.sum_nil, g_cat_rf]; exact Nat.le_of_ble_eq_true rfl) | (simp only [List.map, List.sum_cons, List.sum_nil, g_cat_rf, Value.category]; decide)) rfl ?_
  refine g_astore (pc' := 25) (Lc' := [(7, .ref a6), (6, .ref a1), (0, .ref this), (1, .int p0), (2, .int p1), (3, .int p2), (4, .int p3), (5, .int p4)]) d_Net_best_23 (by decide) rfl rfl ?_
  refine g_aload 0 (pc' := 27) d_Net_best_25 rfl rfl ?_
  refine g_iload_n 3 (i := 1) (pc' := 28) d_Net_best_27 rfl rfl rfl ?_
  replace hy := g_is_inv hy
  obtain ⟨fs11, hc12, hy⟩ := hy
  replace hy := g_b_inv hy
  obtain ⟨h14, hf15, hy⟩ := hy
  refine g_callV (rv := none) (h1 := h14) (pc' := 31) (As := [.int p0]) (rest := []) 1 (T_Way_add (hy := hf15)) d_Net_best_28 hc12 rfl rfl q762 q763 q764 q134 q765 hd_Way_add rfl ⟨by decide, by decide⟩ (by first | exact Nat.le_of_ble_eq_true rfl | (simp only [List.map, List.sum_cons, List.sum_nil, g_cat_rf]; exact Nat.le_of_ble_eq_true rfl) | (simp only [List.map, List.sum_cons, List.sum_nil, g_cat_rf, Value.category]; decide)) rfl ?_
  refine g_aload 1 (pc' := 33) d_Net_best_31 rfl rfl ?_
  refine g_aload 0 (pc' := 35) d_Net_best_33 rfl rfl ?_
  refine g_iconst (v := (0 : Int32)) (pc' := 36) d_Net_best_35 (by decide) rfl ?_
  replace hy := g_is_inv hy
  obtain ⟨fs16, hc17, hy⟩ := hy
  replace hy := g_b_inv hy
  obtain ⟨h19, hf20, hy⟩ := hy
  refine g_callV (rv := none) (h1 := h19) (pc' := 39) (As := [va_rf (some a6), .int (0 : Int32)]) (rest := []) 2 (T_Search_go 8 (hy := hf20)) d_Net_best_36 hc17 rfl rfl q766 q767 q768 q146 q769 hd_Search_go rfl ⟨by decide, by decide⟩ (by first | exact Nat.le_of_ble_eq_true rfl | (simp only [List.map, List.sum_cons, List.sum_nil, g_cat_rf]; exact Nat.le_of_ble_eq_true rfl) | (simp only [List.map, List.sum_cons, List.sum_nil, g_cat_rf, Value.category]; decide)) rfl ?_
  refine g_aload 1 (pc' := 41) d_Net_best_39 rfl rfl ?_
  replace hy := g_gR_inv hy
  obtain ⟨fs21, x22, hc23, hv24, hy⟩ := hy
  refine g_getfN (pc' := 44) d_Net_best_41 hc23 rfl (by decide) hv24 q746 rfl rfl ?_
  cases hy
  exact g_aret rfl rfl rfl (Or.inl ⟨_, rfl⟩) d_Net_best_44
theorem hd_Net_best : g_dsc y_Net_best 5 := ⟨by decide +kernel, by decide +kernel, by decide +kernel⟩
/-! CircuitDesk.draftBest(III)I -/
abbrev y_Desk_draftBest : MethodName := ⟨"CircuitDesk", "draftBest", "(III)I"⟩
abbrev k_Desk_draftBest : g_M := (prog_1_method_25_code, 7, "CircuitDesk", 26, (some FieldType.int), "draftBest", [], 0)
theorem d_Desk_draftBest_0 : decode prog_1_method_25_code 0 = .ok (.aload_n 0, 1) := by decide +kernel
theorem d_Desk_draftBest_1 : decode prog_1_method_25_code 1 = .ok (.iload_n 1, 1) := by decide +kernel
theorem d_Desk_draftBest_2 : decode prog_1_method_25_code 2 = .ok (.invokevirtual 97, 3) := by decide +kernel
theorem d_Desk_draftBest_5 : decode prog_1_method_25_code 5 = .ok (.astore 4, 2) := by decide +kernel
theorem d_Desk_draftBest_7 : decode prog_1_method_25_code 7 = .ok (.aload_n 0, 1) := by decide +kernel
theorem d_Desk_draftBest_8 : decode prog_1_method_25_code 8 = .ok (.iload_n 2, 1) := by decide +kernel
theorem d_Desk_draftBest_9 : decode prog_1_method_25_code 9 = .ok (.invokevirtual 97, 3) := by decide +kernel
theorem d_Desk_draftBest_12 : decode prog_1_method_25_code 12 = .ok (.astore 5, 2) := by decide +kernel
theorem d_Desk_draftBest_14 : decode prog_1_method_25_code 14 = .ok (.aload 4, 2) := by decide +kernel
theorem d_Desk_draftBest_16 : decode prog_1_method_25_code 16 = .ok (.aload 5, 2) := by decide +kernel
theorem d_Desk_draftBest_18 : decode prog_1_method_25_code 18 = .ok (.if_acmp .eq 14, 3) := by decide +kernel
theorem d_Desk_draftBest_21 : decode prog_1_method_25_code 21 = .ok (.iload_n 3, 1) := by decide +kernel
theorem d_Desk_draftBest_22 : decode prog_1_method_25_code 22 = .ok (.invokestatic 250, 3) := by decide +kernel
theorem d_Desk_draftBest_25 : decode prog_1_method_25_code 25 = .ok (.ifCond .eq 7, 3) := by decide +kernel
theorem d_Desk_draftBest_28 : decode prog_1_method_25_code 28 = .ok (.iconst 1, 1) := by decide +kernel
theorem d_Desk_draftBest_29 : decode prog_1_method_25_code 29 = .ok (.goto 4, 3) := by decide +kernel
theorem d_Desk_draftBest_32 : decode prog_1_method_25_code 32 = .ok (.iconst 0, 1) := by decide +kernel
theorem d_Desk_draftBest_33 : decode prog_1_method_25_code 33 = .ok (.invokestatic 80, 3) := by decide +kernel
theorem d_Desk_draftBest_36 : decode prog_1_method_25_code 36 = .ok (.aload_n 0, 1) := by decide +kernel
theorem d_Desk_draftBest_37 : decode prog_1_method_25_code 37 = .ok (.getfield 19, 3) := by decide +kernel
theorem d_Desk_draftBest_40 : decode prog_1_method_25_code 40 = .ok (.iload_n 1, 1) := by decide +kernel
theorem d_Desk_draftBest_41 : decode prog_1_method_25_code 41 = .ok (.iload_n 2, 1) := by decide +kernel
theorem d_Desk_draftBest_42 : decode prog_1_method_25_code 42 = .ok (.iload_n 3, 1) := by decide +kernel
theorem d_Desk_draftBest_43 : decode prog_1_method_25_code 43 = .ok (.iconst (-1), 1) := by decide +kernel
theorem d_Desk_draftBest_44 : decode prog_1_method_25_code 44 = .ok (.iconst (-1), 1) := by decide +kernel
theorem d_Desk_draftBest_45 : decode prog_1_method_25_code 45 = .ok (.invokevirtual 253, 3) := by decide +kernel
theorem d_Desk_draftBest_48 : decode prog_1_method_25_code 48 = .ok (.astore 6, 2) := by decide +kernel
theorem d_Desk_draftBest_50 : decode prog_1_method_25_code 50 = .ok (.aload 6, 2) := by decide +kernel
theorem d_Desk_draftBest_52 : decode prog_1_method_25_code 52 = .ok (.ifnonnull 5, 3) := by decide +kernel
theorem d_Desk_draftBest_55 : decode prog_1_method_25_code 55 = .ok (.iconst (-1), 1) := by decide +kernel
theorem d_Desk_draftBest_56 : decode prog_1_method_25_code 56 = .ok (.ireturn, 1) := by decide +kernel
theorem d_Desk_draftBest_57 : decode prog_1_method_25_code 57 = .ok (.aload_n 0, 1) := by decide +kernel
theorem d_Desk_draftBest_58 : decode prog_1_method_25_code 58 = .ok (.aload 6, 2) := by decide +kernel
theorem d_Desk_draftBest_60 : decode prog_1_method_25_code 60 = .ok (.putfield 28, 3) := by decide +kernel
theorem d_Desk_draftBest_63 : decode prog_1_method_25_code 63 = .ok (.aload 6, 2) := by decide +kernel
theorem d_Desk_draftBest_65 : decode prog_1_method_25_code 65 = .ok (.getfield 186, 3) := by decide +kernel
theorem d_Desk_draftBest_68 : decode prog_1_method_25_code 68 = .ok (.ireturn, 1) := by decide +kernel
def Desk_draftBest_33 (h : g_AH) (v0 : Nat) (v1 : Int32) (v2 : Int32) (v3 : Int32) (s0 : Int32) : Option ((Int32 ⊕ g_EX) × g_AH) :=
  g_bx (Desk_checkArgument h s0) fun x16 h17 => g_gR h17 v0 0 0 fun x22 => g_nn x22 fun a25 => g_is h17 a25 1 <| g_b2 (Net_best h17 a25 v1 v2 v3 (-1 : Int32) (-1 : Int32)) fun x28 h29 => if x28 = none then (some (.inl (-1 : Int32), h29)) else (g_pF h29 v0 0 1 (va_rf x28) fun h35 => g_nn x28 fun a36 => g_gI h35 a36 6 3 fun x38 => some (.inl x38, h35))
set_option maxHeartbeats 4000000 in
set_option maxRecDepth 100000 in
theorem W_Desk_draftBest_33 {X : g_X} (z : (Int32 ⊕ g_EX) × g_AH) (h : g_AH) (v0 : Nat) (v1 : Int32) (v2 : Int32) (v3 : Int32) (s0 : Int32) (hy : Desk_draftBest_33  h v0 v1 v2 v3 s0 = some z) : G X k_Desk_draftBest (g_rI z.1) z.2 h 33 [(0, .ref v0), (1, .int v1), (2, .int v2), (3, .int v3)] [.int s0] := by
  unfold Desk_draftBest_33 at hy
  replace hy := g_bx_inv hy
  rcases hy with ⟨x16, h17, hf18, hy⟩ | ⟨⟨E9, q9⟩, h17, hf18, ez20⟩
  rotate_left
  · subst ez20
    exact g_callSX (As := [.int s0]) (rest := []) 1 (T_Desk_checkArgument (hy := hf18)) d_Desk_draftBest_33 q1331 q1332 q108 q1333 hd_Desk_checkArgument rfl ⟨by decide, by decide⟩ (by first | exact Nat.le_of_ble_eq_true rfl | (simp only [List.map, List.sum_cons, List.sum_nil, g_cat_rf]; exact Nat.le_of_ble_eq_true rfl) | (simp only [List.map, List.sum_cons, List.sum_nil, g_cat_rf, Value.category]; decide)) rfl rfl
  refine g_callS (rv := none) (h1 := h17) (pc' := 36) (As := [.int s0]) (rest := []) 1 (T_Desk_checkArgument (hy := hf18)) d_Desk_draftBest_33 q1331 q1332 q108 q1333 hd_Desk_checkArgument rfl ⟨by decide, by decide⟩ (by first | exact Nat.le_of_ble_eq_true rfl | (simp only [List.map, List.sum_cons, List.sum_nil, g_cat_rf]; exact Nat.le_of_ble_eq_true rfl) | (simp only [List.map, List.sum_cons, List.sum_nil, g_cat_rf, Value.category]; decide)) rfl ?_
  refine g_aload_n 0 (i := 0) (pc' := 37) d_Desk_draftBest_36 rfl rfl rfl ?_
  replace hy := g_gR_inv hy
  obtain ⟨fs21, x22, hc23, hv24, hy⟩ := hy
  refine g_getf (pc' := 40) d_Desk_draftBest_37 hc23 rfl (by decide) hv24 q642 (Or.inl rfl) rfl ?_
  refine g_iload_n 1 (i := 1) (pc' := 41) d_Desk_draftBest_40 rfl rfl rfl ?_
  refine g_iload_n 2 (i := 2) (pc' := 42) d_Desk_draftBest_41 rfl rfl rfl ?_
  refine g_iload_n 3 (i := 3) (pc' := 43) d_Desk_draftBest_42 rfl rfl rfl ?_
  refine g_iconst (v := (-1 : Int32)) (pc' := 44) d_Desk_draftBest_43 (by decide) rfl ?_
  refine g_iconst (v := (-1 : Int32)) (pc' := 45) d_Desk_draftBest_44 (by decide) rfl ?_
  replace hy := g_nn_inv hy
  obtain ⟨a25, rfl, hy⟩ := hy
  replace hy := g_is_inv hy
  obtain ⟨fs26, hc27, hy⟩ := hy
  replace hy := g_b2_inv hy
  obtain ⟨x28, h29, hf30, hy⟩ := hy
  refine g_callV (rv := some (va_rf x28)) (h1 := h29) (pc' := 48) (As := [.int v1, .int v2, .int v3, .int (-1 : Int32), .int (-1 : Int32)]) (rest := []) 5 (T_Net_best (hy := hf30)) d_Desk_draftBest_45 hc27 rfl rfl q726 q727 q728 q109 q729 hd_Net_best rfl ⟨by decide, by decide⟩ (by first | exact Nat.le_of_ble_eq_true rfl | (simp only [List.map, List.sum_cons, List.sum_nil, g_cat_rf]; exact Nat.le_of_ble_eq_true rfl) | (simp only [List.map, List.sum_cons, List.sum_nil, g_cat_rf, Value.category]; decide)) rfl ?_
  refine g_astoreO (pc' := 50) (Lc' := [(6, va_rf x28), (0, .ref v0), (1, .int v1), (2, .int v2), (3, .int v3)]) d_Desk_draftBest_48 (by decide) rfl rfl ?_
  refine g_aloadO 0 (pc' := 52) d_Desk_draftBest_50 rfl rfl ?_
  by_cases c31 : x28 = none
  · rw [if_pos c31] at hy
    refine g_ifnonnullF (pc' := 55) d_Desk_draftBest_52 c31 rfl ?_
    refine g_iconst (v := (-1 : Int32)) (pc' := 56) d_Desk_draftBest_55 (by decide) rfl ?_
    cases hy
    exact g_iret rfl rfl rfl d_Desk_draftBest_56
  · rw [if_neg c31] at hy
    refine g_ifnonnullT (pc' := 57) d_Desk_draftBest_52 c31 (by decide) ?_
    refine g_aload_n 1 (i := 0) (pc' := 58) d_Desk_draftBest_57 rfl rfl rfl ?_
    refine g_aloadO 0 (pc' := 60) d_Desk_draftBest_58 rfl rfl ?_
    replace hy := g_pF_inv hy
    obtain ⟨fs32, hc33, hl34, hy⟩ := hy
    refine g_putf (pc' := 63) d_Desk_draftBest_60 hc33 rfl (by decide) hl34 rfl g_nar_rf g_fit_o q643 (Or.inl rfl) rfl ?_
    generalize g_up h29 v0 (.inr (0, fs32.set 1 (va_rf x28))) = h35 at hy ⊢
    refine g_aloadO 0 (pc' := 65) d_Desk_draftBest_63 rfl rfl ?_
    replace hy := g_nn_inv hy
    obtain ⟨a36, rfl, hy⟩ := hy
    replace hy := g_gI_inv hy
    obtain ⟨fs37, x38, hc39, hv40, hy⟩ := hy
    refine g_getfN (pc' := 68) d_Desk_draftBest_65 hc39 rfl (by decide) hv40 q631 rfl rfl ?_
    cases hy
    exact g_iret rfl rfl rfl d_Desk_draftBest_68
def Desk_draftBest_32 (h : g_AH) (v0 : Nat) (v1 : Int32) (v2 : Int32) (v3 : Int32) : Option ((Int32 ⊕ g_EX) × g_AH) :=
  Desk_draftBest_33  h v0 v1 v2 v3 (0 : Int32)
set_option maxHeartbeats 4000000 in
set_option maxRecDepth 100000 in
theorem W_Desk_draftBest_32 {X : g_X} (z : (Int32 ⊕ g_EX) × g_AH) (h : g_AH) (v0 : Nat) (v1 : Int32) (v2 : Int32) (v3 : Int32) (hy : Desk_draftBest_32  h v0 v1 v2 v3 = some z) : G X k_Desk_draftBest (g_rI z.1) z.2 h 32 [(0, .ref v0), (1, .int v1), (2, .int v2), (3, .int v3)] [] := by
  unfold Desk_draftBest_32 at hy
  refine g_iconst (v := (0 : Int32)) (pc' := 33) d_Desk_draftBest_32 (by decide) rfl ?_
  exact W_Desk_draftBest_33 _ _ _ _ _ _ _ hy
def Desk_draftBest (h : g_AH) (this : Nat) (p0 : Int32) (p1 : Int32) (p2 : Int32) : Option ((Int32 ⊕ g_EX) × g_AH) :=
  g_is h this 0 <| g_bx (Desk_nodeOf h this p0) fun x3 h4 => g_is h4 this 0 <| g_bx (Desk_nodeOf h4 this p1) fun x10 h11 => if x3 = x10 then (Desk_draftBest_32  h11 this p0 p1 p2) else (g_b (Desk_isBand p2) fun x41 => if x41 = 0 then (Desk_draftBest_32  h11 this p0 p1 p2) else (Desk_draftBest_33  h11 this p0 p1 p2 (1 : Int32)))
set_option maxHeartbeats 4000000 in
set_option maxRecDepth 100000 in
theorem T_Desk_draftBest {l : Launch} {B : g_B} (h : g_AH) (this : Nat) (p0 : Int32) (p1 : Int32) (p2 : Int32) (z : (Int32 ⊕ g_EX) × g_AH) (hy : Desk_draftBest h this p0 p1 p2 = some z) : g_CT l B y_Desk_draftBest k_Desk_draftBest [.ref this, .int p0, .int p1, .int p2] h (g_rI z.1) z.2 := by
  refine g_start2 (Lc := [(0, .ref this), (1, .int p0), (2, .int p1), (3, .int p2)]) (by decide) rfl rfl (by exact Nat.le_of_ble_eq_true rfl) (by rfl) fun X => ?_
  unfold Desk_draftBest at hy
  refine g_aload_n 0 (i := 0) (pc' := 1) d_Desk_draftBest_0 rfl rfl rfl ?_
  refine g_iload_n 1 (i := 1) (pc' := 2) d_Desk_draftBest_1 rfl rfl rfl ?_
  replace hy := g_is_inv hy
  obtain ⟨fs1, hc2, hy⟩ := hy
  replace hy := g_bx_inv hy
  rcases hy with ⟨x3, h4, hf5, hy⟩ | ⟨⟨E9, q9⟩, h4, hf5, ez7⟩
  rotate_left
  · subst ez7
    exact g_callVX (As := [.int p0]) (rest := []) 1 (T_Desk_nodeOf (hy := hf5)) d_Desk_draftBest_2 hc2 rfl rfl q1376 q1378 qs15 q108 q1379 hd_Desk_nodeOf rfl ⟨by decide, by decide⟩ (by first | exact Nat.le_of_ble_eq_true rfl | (simp only [List.map, List.sum_cons, List.sum_nil, g_cat_rf]; exact Nat.le_of_ble_eq_true rfl) | (simp only [List.map, List.sum_cons, List.sum_nil, g_cat_rf, Value.category]; decide)) rfl rfl
  refine g_callV (rv := some (va_rf x3)) (h1 := h4) (pc' := 5) (As := [.int p0]) (rest := []) 1 (T_Desk_nodeOf (hy := hf5)) d_Desk_draftBest_2 hc2 rfl rfl q1376 q1378 qs15 q108 q1379 hd_Desk_nodeOf rfl ⟨by decide, by decide⟩ (by first | exact Nat.le_of_ble_eq_true rfl | (simp only [List.map, List.sum_cons, List.sum_nil, g_cat_rf]; exact Nat.le_of_ble_eq_true rfl) | (simp only [List.map, List.sum_cons, List.sum_nil, g_cat_rf, Value.category]; decide)) rfl ?_
  refine g_astoreO (pc' := 7) (Lc' := [(4, va_rf x3), (0, .ref this), (1, .int p0), (2, .int p1), (3, .int p2)]) d_Desk_draftBest_5 (by decide) rfl rfl ?_
  refine g_aload_n 1 (i := 0) (pc' := 8) d_Desk_draftBest_7 rfl rfl rfl ?_
  refine g_iload_n 3 (i := 2) (pc' := 9) d_Desk_draftBest_8 rfl rfl rfl ?_
  replace hy := g_is_inv hy
  obtain ⟨fs8, hc9, hy⟩ := hy
  replace hy := g_bx_inv hy
  rcases hy with ⟨x10, h11, hf12, hy⟩ | ⟨⟨E9, q9⟩, h11, hf12, ez14⟩
  rotate_left
  · subst ez14
    exact g_callVX (As := [.int p1]) (rest := []) 1 (T_Desk_nodeOf (hy := hf12)) d_Desk_draftBest_9 hc9 rfl rfl q1376 q1378 qs15 q108 q1379 hd_Desk_nodeOf rfl ⟨by decide, by decide⟩ (by first | exact Nat.le_of_ble_eq_true rfl | (simp only [List.map, List.sum_cons, List.sum_nil, g_cat_rf]; exact Nat.le_of_ble_eq_true rfl) | (simp only [List.map, List.sum_cons, List.sum_nil, g_cat_rf, Value.category]; decide)) rfl rfl
  refine g_callV (rv := some (va_rf x10)) (h1 := h11) (pc' := 12) (As := [.int p1]) (rest := []) 1 (T_Desk_nodeOf (hy := hf12)) d_Desk_draftBest_9 hc9 rfl rfl q1376 q1378 qs15 q108 q1379 hd_Desk_nodeOf rfl ⟨by decide, by decide⟩ (by first | exact Nat.le_of_ble_eq_true rfl | (simp only [List.map, List.sum_cons, List.sum_nil, g_cat_rf]; exact Nat.le_of_ble_eq_true rfl) | (simp only [List.map, List.sum_cons, List.sum_nil, g_cat_rf, Value.category]; decide)) rfl ?_
  refine g_astoreO (pc' := 14) (Lc' := [(5, va_rf x10), (4, va_rf x3), (0, .ref this), (1, .int p0), (2, .int p1), (3, .int p2)]) d_Desk_draftBest_12 (by decide) (by cases x3 <;> rfl) rfl ?_
  refine g_aloadO 1 (pc' := 16) d_Desk_draftBest_14 rfl rfl ?_
  refine g_aloadO 0 (pc' := 18) d_Desk_draftBest_16 rfl rfl ?_
  by_cases c15 : x3 = x10
  · rw [if_pos c15] at hy
    refine g_stk (st' := va_rf x10 :: va_rf x3 :: []) rfl ?_
    refine g_acmp_eqT (pc' := 32) d_Desk_draftBest_18 c15 (by decide) ?_
    refine g_sub [2, 3, 4, 5] rfl ?_
    exact W_Desk_draftBest_32 _ _ _ _ _ _ hy
  · rw [if_neg c15] at hy
    refine g_stk (st' := va_rf x10 :: va_rf x3 :: []) rfl ?_
    refine g_acmp_eqF (pc' := 21) d_Desk_draftBest_18 32 c15 (by decide) rfl ?_
    refine g_iload_n 5 (i := 3) (pc' := 22) d_Desk_draftBest_21 rfl rfl rfl ?_
    replace hy := g_b_inv hy
    obtain ⟨x41, hf43, hy⟩ := hy
    refine g_callS (rv := some (.int x41)) (h1 := h11) (pc' := 25) (As := [.int p2]) (rest := []) 1 (T_Desk_isBand (hy := hf43)) d_Desk_draftBest_22 q1581 q1582 q108 q1583 hd_Desk_isBand rfl ⟨by decide, by decide⟩ (by first | exact Nat.le_of_ble_eq_true rfl | (simp only [List.map, List.sum_cons, List.sum_nil, g_cat_rf]; exact Nat.le_of_ble_eq_true rfl) | (simp only [List.map, List.sum_cons, List.sum_nil, g_cat_rf, Value.category]; decide)) rfl ?_
    by_cases c44 : x41 = 0
    · rw [if_pos c44] at hy
      refine g_if_eqT (pc' := 32) d_Desk_draftBest_25 c44 (by decide) ?_
      refine g_sub [2, 3, 4, 5] rfl ?_
      exact W_Desk_draftBest_32 _ _ _ _ _ _ hy
    · rw [if_neg c44] at hy
      refine g_if_eqF (pc' := 28) d_Desk_draftBest_25 32 c44 (by decide) rfl ?_
      refine g_iconst (v := (1 : Int32)) (pc' := 29) d_Desk_draftBest_28 (by decide) rfl ?_
      refine g_goto (pc' := 33) d_Desk_draftBest_29 (by decide) ?_
      refine g_sub [2, 3, 4, 5] rfl ?_
      exact W_Desk_draftBest_33 _ _ _ _ _ _ _ hy
theorem hd_Desk_draftBest : g_dsc y_Desk_draftBest 3 := ⟨by decide +kernel, by decide +kernel, by decide +kernel⟩
/-! CircuitDesk.draftNode(I)I -/
abbrev y_Desk_draftNode : MethodName := ⟨"CircuitDesk", "draftNode", "(I)I"⟩
abbrev k_Desk_draftNode : g_M := (prog_1_method_26_code, 2, "CircuitDesk", 18, (some FieldType.int), "draftNode", [], 0)
theorem d_Desk_draftNode_0 : decode prog_1_method_26_code 0 = .ok (.iload_n 1, 1) := by decide +kernel
theorem d_Desk_draftNode_1 : decode prog_1_method_26_code 1 = .ok (.ifCond .lt 7, 3) := by decide +kernel
theorem d_Desk_draftNode_4 : decode prog_1_method_26_code 4 = .ok (.iconst 1, 1) := by decide +kernel
theorem d_Desk_draftNode_5 : decode prog_1_method_26_code 5 = .ok (.goto 4, 3) := by decide +kernel
theorem d_Desk_draftNode_8 : decode prog_1_method_26_code 8 = .ok (.iconst 0, 1) := by decide +kernel
theorem d_Desk_draftNode_9 : decode prog_1_method_26_code 9 = .ok (.invokestatic 58, 3) := by decide +kernel
theorem d_Desk_draftNode_12 : decode prog_1_method_26_code 12 = .ok (.iload_n 1, 1) := by decide +kernel
theorem d_Desk_draftNode_13 : decode prog_1_method_26_code 13 = .ok (.aload_n 0, 1) := by decide +kernel
theorem d_Desk_draftNode_14 : decode prog_1_method_26_code 14 = .ok (.getfield 28, 3) := by decide +kernel
theorem d_Desk_draftNode_17 : decode prog_1_method_26_code 17 = .ok (.getfield 186, 3) := by decide +kernel
theorem d_Desk_draftNode_20 : decode prog_1_method_26_code 20 = .ok (.if_icmp .ge 15, 3) := by decide +kernel
theorem d_Desk_draftNode_23 : decode prog_1_method_26_code 23 = .ok (.aload_n 0, 1) := by decide +kernel
theorem d_Desk_draftNode_24 : decode prog_1_method_26_code 24 = .ok (.getfield 28, 3) := by decide +kernel
theorem d_Desk_draftNode_27 : decode prog_1_method_26_code 27 = .ok (.getfield 257, 3) := by decide +kernel
theorem d_Desk_draftNode_30 : decode prog_1_method_26_code 30 = .ok (.iload_n 1, 1) := by decide +kernel
theorem d_Desk_draftNode_31 : decode prog_1_method_26_code 31 = .ok (.iaload, 1) := by decide +kernel
theorem d_Desk_draftNode_32 : decode prog_1_method_26_code 32 = .ok (.goto 4, 3) := by decide +kernel
theorem d_Desk_draftNode_35 : decode prog_1_method_26_code 35 = .ok (.iconst (-1), 1) := by decide +kernel
theorem d_Desk_draftNode_36 : decode prog_1_method_26_code 36 = .ok (.ireturn, 1) := by decide +kernel
def Desk_draftNode_9 (h : g_AH) (v0 : Nat) (v1 : Int32) (s0 : Int32) : Option ((Int32 ⊕ g_EX) × g_AH) :=
  g_bx (Desk_checkIndex h s0) fun x2 h3 => g_gR h3 v0 0 1 fun x8 => g_nn x8 fun a11 => g_gI h3 a11 6 3 fun x13 => if x13 ≤ v1 then (some (.inl (-1 : Int32), h3)) else (g_gR h3 v0 0 1 fun x18 => g_nn x18 fun a21 => g_gR h3 a21 6 0 fun x23 => g_nn x23 fun a26 => g_aI h3 0 a26 v1 fun x27 => some (.inl x27, h3))
set_option maxHeartbeats 4000000 in
set_option maxRecDepth 100000 in
theorem W_Desk_draftNode_9 {X : g_X} (z : (Int32 ⊕ g_EX) × g_AH) (h : g_AH) (v0 : Nat) (v1 : Int32) (s0 : Int32) (hy : Desk_draftNode_9  h v0 v1 s0 = some z) : G X k_Desk_draftNode (g_rI z.1) z.2 h 9 [(0, .ref v0), (1, .int v1)] [.int s0] := by
  unfold Desk_draftNode_9 at hy
  replace hy := g_bx_inv hy
  rcases hy with ⟨x2, h3, hf4, hy⟩ | ⟨⟨E9, q9⟩, h3, hf4, ez6⟩
  rotate_left
  · subst ez6
    exact g_callSX (As := [.int s0]) (rest := []) 1 (T_Desk_checkIndex (hy := hf4)) d_Desk_draftNode_9 q1380 q1381 q108 q1382 hd_Desk_checkIndex rfl ⟨by decide, by decide⟩ (by first | exact Nat.le_of_ble_eq_true rfl | (simp only [List.map, List.sum_cons, List.sum_nil, g_cat_rf]; exact Nat.le_of_ble_eq_true rfl) | (simp only [List.map, List.sum_cons, List.sum_nil, g_cat_rf, Value.category]; decide)) rfl rfl
  refine g_callS (rv := none) (h1 := h3) (pc' := 12) (As := [.int s0]) (rest := []) 1 (T_Desk_checkIndex (hy := hf4)) d_Desk_draftNode_9 q1380 q1381 q108 q1382 hd_Desk_checkIndex rfl ⟨by decide, by decide⟩ (by first | exact Nat.le_of_ble_eq_true rfl | (simp only [List.map, List.sum_cons, List.sum_nil, g_cat_rf]; exact Nat.le_of_ble_eq_true rfl) | (simp only [List.map, List.sum_cons, List.sum_nil, g_cat_rf, Value.category]; decide)) rfl ?_
  refine g_iload_n 1 (i := 1) (pc' := 13) d_Desk_draftNode_12 rfl rfl rfl ?_
  refine g_aload_n 0 (i := 0) (pc' := 14) d_Desk_draftNode_13 rfl rfl rfl ?_
  replace hy := g_gR_inv hy
  obtain ⟨fs7, x8, hc9, hv10, hy⟩ := hy
  refine g_getf (pc' := 17) d_Desk_draftNode_14 hc9 rfl (by decide) hv10 q643 (Or.inl rfl) rfl ?_
  replace hy := g_nn_inv hy
  obtain ⟨a11, rfl, hy⟩ := hy
  replace hy := g_gI_inv hy
  obtain ⟨fs12, x13, hc14, hv15, hy⟩ := hy
  refine g_getfN (pc' := 20) d_Desk_draftNode_17 hc14 rfl (by decide) hv15 q631 rfl rfl ?_
  by_cases c16 : x13 ≤ v1
  · rw [if_pos c16] at hy
    refine g_icmp_geT (pc' := 35) d_Desk_draftNode_20 c16 (by decide) ?_
    refine g_iconst (v := (-1 : Int32)) (pc' := 36) d_Desk_draftNode_35 (by decide) rfl ?_
    cases hy
    exact g_iret rfl rfl rfl d_Desk_draftNode_36
  · rw [if_neg c16] at hy
    refine g_icmp_geF (pc' := 23) d_Desk_draftNode_20 35 c16 (by decide) rfl ?_
    refine g_aload_n 0 (i := 0) (pc' := 24) d_Desk_draftNode_23 rfl rfl rfl ?_
    replace hy := g_gR_inv hy
    obtain ⟨fs17, x18, hc19, hv20, hy⟩ := hy
    refine g_getf (pc' := 27) d_Desk_draftNode_24 hc19 rfl (by decide) hv20 q643 (Or.inl rfl) rfl ?_
    replace hy := g_nn_inv hy
    obtain ⟨a21, rfl, hy⟩ := hy
    replace hy := g_gR_inv hy
    obtain ⟨fs22, x23, hc24, hv25, hy⟩ := hy
    refine g_getfN (pc' := 30) d_Desk_draftNode_27 hc24 rfl (by decide) hv25 q618 rfl rfl ?_
    refine g_iload_n 1 (i := 1) (pc' := 31) d_Desk_draftNode_30 rfl rfl rfl ?_
    replace hy := g_nn_inv hy
    obtain ⟨a26, rfl, hy⟩ := hy
    replace hy := g_aI_inv hy
    obtain ⟨n28, f29, hc30, hi31, hy⟩ := hy
    refine g_iald (pc' := 32) d_Desk_draftNode_31 hc30 hi31 rfl ?_
    generalize f29 (v1).toNatClampNeg = x27 at hy ⊢
    refine g_goto (pc' := 36) d_Desk_draftNode_32 (by decide) ?_
    cases hy
    exact g_iret rfl rfl rfl d_Desk_draftNode_36
def Desk_draftNode (h : g_AH) (this : Nat) (p0 : Int32) : Option ((Int32 ⊕ g_EX) × g_AH) :=
  if p0 < 0 then (Desk_draftNode_9  h this p0 (0 : Int32)) else (Desk_draftNode_9  h this p0 (1 : Int32))
set_option maxHeartbeats 4000000 in
set_option maxRecDepth 100000 in
theorem T_Desk_draftNode {l : Launch} {B : g_B} (h : g_AH) (this : Nat) (p0 : Int32) (z : (Int32 ⊕ g_EX) × g_AH) (hy : Desk_draftNode h this p0 = some z) : g_CT l B y_Desk_draftNode k_Desk_draftNode [.ref this, .int p0] h (g_rI z.1) z.2 := by
  refine g_start2 (Lc := [(0, .ref this), (1, .int p0)]) (by decide) rfl rfl (by exact Nat.le_of_ble_eq_true rfl) (by rfl) fun X => ?_
  unfold Desk_draftNode at hy
  refine g_iload_n 1 (i := 1) (pc' := 1) d_Desk_draftNode_0 rfl rfl rfl ?_
  by_cases c1 : p0 < 0
  · rw [if_pos c1] at hy
    refine g_if_ltT (pc' := 8) d_Desk_draftNode_1 c1 (by decide) ?_
    refine g_iconst (v := (0 : Int32)) (pc' := 9) d_Desk_draftNode_8 (by decide) rfl ?_
    exact W_Desk_draftNode_9 _ _ _ _ _ hy
  · rw [if_neg c1] at hy
    refine g_if_ltF (pc' := 4) d_Desk_draftNode_1 8 c1 (by decide) rfl ?_
    refine g_iconst (v := (1 : Int32)) (pc' := 5) d_Desk_draftNode_4 (by decide) rfl ?_
    refine g_goto (pc' := 9) d_Desk_draftNode_5 (by decide) ?_
    exact W_Desk_draftNode_9 _ _ _ _ _ hy
theorem hd_Desk_draftNode : g_dsc y_Desk_draftNode 1 := ⟨by decide +kernel, by decide +kernel, by decide +kernel⟩
/-! CircuitDesk$Net.hasRoom(LCircuitDesk$Way;II)Z -/
abbrev y_Net_hasRoom1 : MethodName := ⟨"CircuitDesk$Net", "hasRoom", "(LCircuitDesk$Way;II)Z"⟩
abbrev k_Net_hasRoom1 : g_M := (prog_7_method_10_code, 6, "CircuitDesk$Net", 18, (some FieldType.boolean), "hasRoom", [], 0)
theorem d_Net_hasRoom1_0 : decode prog_7_method_10_code 0 = .ok (.iconst 1, 1) := by decide +kernel
theorem d_Net_hasRoom1_1 : decode prog_7_method_10_code 1 = .ok (.istore 4, 2) := by decide +kernel
theorem d_Net_hasRoom1_3 : decode prog_7_method_10_code 3 = .ok (.iconst 1, 1) := by decide +kernel
theorem d_Net_hasRoom1_4 : decode prog_7_method_10_code 4 = .ok (.istore 5, 2) := by decide +kernel
theorem d_Net_hasRoom1_6 : decode prog_7_method_10_code 6 = .ok (.iload 5, 2) := by decide +kernel
theorem d_Net_hasRoom1_8 : decode prog_7_method_10_code 8 = .ok (.aload_n 1, 1) := by decide +kernel
theorem d_Net_hasRoom1_9 : decode prog_7_method_10_code 9 = .ok (.getfield 134, 3) := by decide +kernel
theorem d_Net_hasRoom1_12 : decode prog_7_method_10_code 12 = .ok (.if_icmp .ge 40, 3) := by decide +kernel
theorem d_Net_hasRoom1_15 : decode prog_7_method_10_code 15 = .ok (.iload 4, 2) := by decide +kernel
theorem d_Net_hasRoom1_17 : decode prog_7_method_10_code 17 = .ok (.aload_n 0, 1) := by decide +kernel
theorem d_Net_hasRoom1_18 : decode prog_7_method_10_code 18 = .ok (.aload_n 0, 1) := by decide +kernel
theorem d_Net_hasRoom1_19 : decode prog_7_method_10_code 19 = .ok (.aload_n 1, 1) := by decide +kernel
theorem d_Net_hasRoom1_20 : decode prog_7_method_10_code 20 = .ok (.getfield 138, 3) := by decide +kernel
theorem d_Net_hasRoom1_23 : decode prog_7_method_10_code 23 = .ok (.iload 5, 2) := by decide +kernel
theorem d_Net_hasRoom1_25 : decode prog_7_method_10_code 25 = .ok (.iconst 1, 1) := by decide +kernel
theorem d_Net_hasRoom1_26 : decode prog_7_method_10_code 26 = .ok (.isub, 1) := by decide +kernel
theorem d_Net_hasRoom1_27 : decode prog_7_method_10_code 27 = .ok (.iaload, 1) := by decide +kernel
theorem d_Net_hasRoom1_28 : decode prog_7_method_10_code 28 = .ok (.aload_n 1, 1) := by decide +kernel
theorem d_Net_hasRoom1_29 : decode prog_7_method_10_code 29 = .ok (.getfield 138, 3) := by decide +kernel
theorem d_Net_hasRoom1_32 : decode prog_7_method_10_code 32 = .ok (.iload 5, 2) := by decide +kernel
theorem d_Net_hasRoom1_34 : decode prog_7_method_10_code 34 = .ok (.iaload, 1) := by decide +kernel
theorem d_Net_hasRoom1_35 : decode prog_7_method_10_code 35 = .ok (.invokevirtual 124, 3) := by decide +kernel
theorem d_Net_hasRoom1_38 : decode prog_7_method_10_code 38 = .ok (.iload_n 2, 1) := by decide +kernel
theorem d_Net_hasRoom1_39 : decode prog_7_method_10_code 39 = .ok (.iload_n 3, 1) := by decide +kernel
theorem d_Net_hasRoom1_40 : decode prog_7_method_10_code 40 = .ok (.invokevirtual 166, 3) := by decide +kernel
theorem d_Net_hasRoom1_43 : decode prog_7_method_10_code 43 = .ok (.iand, 1) := by decide +kernel
theorem d_Net_hasRoom1_44 : decode prog_7_method_10_code 44 = .ok (.istore 4, 2) := by decide +kernel
theorem d_Net_hasRoom1_46 : decode prog_7_method_10_code 46 = .ok (.iinc 5 1, 3) := by decide +kernel
theorem d_Net_hasRoom1_49 : decode prog_7_method_10_code 49 = .ok (.goto (-43), 3) := by decide +kernel
theorem d_Net_hasRoom1_52 : decode prog_7_method_10_code 52 = .ok (.iload 4, 2) := by decide +kernel
theorem d_Net_hasRoom1_54 : decode prog_7_method_10_code 54 = .ok (.ireturn, 1) := by decide +kernel
def Net_hasRoom1_6 (h : g_AH)  : Nat → Nat → Option Nat → Int32 → Int32 → Int32 → Int32 → Option (Int32)
  | 0, _, _, _, _, _, _ => none
  | n + 1, v0, v1, v2, v3, v4, v5 => g_nn v1 fun a1 => g_gI h a1 6 3 fun x3 => if x3 ≤ v5 then (g_rq (v4 = 0 ∨ v4 = 1) <| some v4) else (g_gR h a1 6 0 fun x9 => g_nn x9 fun a12 => g_aI h 0 a12 (v5 - (1 : Int32)) fun x13 => g_gR h a1 6 0 fun x19 => g_nn x19 fun a22 => g_aI h 0 a22 v5 fun x23 => g_is h v0 1 <| g_b (Net_linkOf h v0 x13 x23) fun x30 => g_is h v0 1 <| g_b (Net_hasRoom0 h v0 x30 v2 v3) fun x35 => (Net_hasRoom1_6 h  n) v0 (some a1) v2 v3 (v4 &&& x35) (v5 + (1 : Int32)))
set_option maxHeartbeats 4000000 in
set_option maxRecDepth 100000 in
theorem W_Net_hasRoom1_6 {X : g_X} (h : g_AH) (z : Int32)  : ∀ (n : Nat) (v0 : Nat) (v1 : Option Nat) (v2 : Int32) (v3 : Int32) (v4 : Int32) (v5 : Int32), Net_hasRoom1_6 h  n v0 v1 v2 v3 v4 v5 = some z → G X k_Net_hasRoom1 (.inl (some (.int z))) h h 6 [(0, .ref v0), (1, va_rf v1), (2, .int v2), (3, .int v3), (4, .int v4), (5, .int v5)] [] := by
  intro n
  induction n with
  | zero => intro v0 v1 v2 v3 v4 v5 hy; exact absurd hy (by simp [Net_hasRoom1_6])
  | succ n ih =>
    intro v0 v1 v2 v3 v4 v5 hy
    rw [Net_hasRoom1_6] at hy
    refine g_iload 5 (pc' := 8) d_Net_hasRoom1_6 rfl rfl ?_
    refine g_aloadO_n 1 (i := 1) (pc' := 9) d_Net_hasRoom1_8 rfl rfl rfl ?_
    replace hy := g_nn_inv hy
    obtain ⟨a1, rfl, hy⟩ := hy
    replace hy := g_gI_inv hy
    obtain ⟨fs2, x3, hc4, hv5, hy⟩ := hy
    refine g_getfN (pc' := 12) d_Net_hasRoom1_9 hc4 rfl (by decide) hv5 q629 rfl rfl ?_
    by_cases c6 : x3 ≤ v5
    · rw [if_pos c6] at hy
      refine g_icmp_geT (pc' := 52) d_Net_hasRoom1_12 c6 (by decide) ?_
      refine g_iload 4 (pc' := 54) d_Net_hasRoom1_52 rfl rfl ?_
      replace hy := g_rq_inv hy
      obtain ⟨c7, hy⟩ := hy
      cases hy
      exact g_zret rfl rfl rfl (g_nar_z c7).1 d_Net_hasRoom1_54
    · rw [if_neg c6] at hy
      refine g_icmp_geF (pc' := 15) d_Net_hasRoom1_12 52 c6 (by decide) rfl ?_
      refine g_iload 4 (pc' := 17) d_Net_hasRoom1_15 rfl rfl ?_
      refine g_aload_n 0 (i := 0) (pc' := 18) d_Net_hasRoom1_17 rfl rfl rfl ?_
      refine g_aload_n 0 (i := 0) (pc' := 19) d_Net_hasRoom1_18 rfl rfl rfl ?_
      refine g_aload_n 1 (i := 1) (pc' := 20) d_Net_hasRoom1_19 rfl rfl rfl ?_
      replace hy := g_gR_inv hy
      obtain ⟨fs8, x9, hc10, hv11, hy⟩ := hy
      refine g_getfN (pc' := 23) d_Net_hasRoom1_20 hc10 rfl (by decide) hv11 q617 rfl rfl ?_
      refine g_iload 5 (pc' := 25) d_Net_hasRoom1_23 rfl rfl ?_
      refine g_iconst (v := (1 : Int32)) (pc' := 26) d_Net_hasRoom1_25 (by decide) rfl ?_
      refine g_isub (pc' := 27) d_Net_hasRoom1_26 rfl ?_
      replace hy := g_nn_inv hy
      obtain ⟨a12, rfl, hy⟩ := hy
      replace hy := g_aI_inv hy
      obtain ⟨n14, f15, hc16, hi17, hy⟩ := hy
      refine g_iald (pc' := 28) d_Net_hasRoom1_27 hc16 hi17 rfl ?_
      generalize f15 ((v5 - (1 : Int32))).toNatClampNeg = x13 at hy ⊢
      refine g_aload_n 1 (i := 1) (pc' := 29) d_Net_hasRoom1_28 rfl rfl rfl ?_
      replace hy := g_gR_inv hy
      obtain ⟨fs18, x19, hc20, hv21, hy⟩ := hy
      refine g_getfN (pc' := 32) d_Net_hasRoom1_29 hc20 rfl (by decide) hv21 q617 rfl rfl ?_
      refine g_iload 5 (pc' := 34) d_Net_hasRoom1_32 rfl rfl ?_
      replace hy := g_nn_inv hy
      obtain ⟨a22, rfl, hy⟩ := hy
      replace hy := g_aI_inv hy
      obtain ⟨n24, f25, hc26, hi27, hy⟩ := hy
      refine g_iald (pc' := 35) d_Net_hasRoom1_34 hc26 hi27 rfl ?_
      generalize f25 (v5).toNatClampNeg = x23 at hy ⊢
      replace hy := g_is_inv hy
      obtain ⟨fs28, hc29, hy⟩ := hy
      replace hy := g_b_inv hy
      obtain ⟨x30, hf32, hy⟩ := hy
      refine g_callV (rv := some (.int x30)) (h1 := h) (pc' := 38) (As := [.int x13, .int x23]) (rest := [.ref v0, .int v4]) 2 (T_Net_linkOf (hy := hf32)) d_Net_hasRoom1_35 hc29 rfl rfl q1100 q795 q796 q109 q797 hd_Net_linkOf rfl ⟨by decide, by decide⟩ (by first | exact Nat.le_of_ble_eq_true rfl | (simp only [List.map, List.sum_cons, List.sum_nil, g_cat_rf]; exact Nat.le_of_ble_eq_true rfl) | (simp only [List.map, List.sum_cons, List.sum_nil, g_cat_rf, Value.category]; decide)) rfl ?_
      refine g_iload_n 2 (i := 2) (pc' := 39) d_Net_hasRoom1_38 rfl rfl rfl ?_
      refine g_iload_n 3 (i := 3) (pc' := 40) d_Net_hasRoom1_39 rfl rfl rfl ?_
      replace hy := g_is_inv hy
      obtain ⟨fs33, hc34, hy⟩ := hy
      replace hy := g_b_inv hy
      obtain ⟨x35, hf37, hy⟩ := hy
      refine g_callV (rv := some (.int x35)) (h1 := h) (pc' := 43) (As := [.int x30, .int v2, .int v3]) (rest := [.int v4]) 3 (T_Net_hasRoom0 (hy := hf37)) d_Net_hasRoom1_40 hc34 rfl rfl q1607 q738 q739 q109 q740 hd_Net_hasRoom0 rfl ⟨by decide, by decide⟩ (by first | exact Nat.le_of_ble_eq_true rfl | (simp only [List.map, List.sum_cons, List.sum_nil, g_cat_rf]; exact Nat.le_of_ble_eq_true rfl) | (simp only [List.map, List.sum_cons, List.sum_nil, g_cat_rf, Value.category]; decide)) rfl ?_
      refine g_iand (pc' := 44) d_Net_hasRoom1_43 rfl ?_
      refine g_istore (pc' := 46) (Lc' := [(4, .int (v4 &&& x35)), (0, .ref v0), (1, .ref a1), (2, .int v2), (3, .int v3), (5, .int v5)]) d_Net_hasRoom1_44 (by decide) rfl rfl ?_
      refine g_iinc 5 (v := (v5 + (1 : Int32))) (pc' := 49) (Lc' := [(5, .int (v5 + (1 : Int32))), (4, .int (v4 &&& x35)), (0, .ref v0), (1, .ref a1), (2, .int v2), (3, .int v3)]) d_Net_hasRoom1_46 rfl rfl (by decide) rfl rfl ?_
      refine g_goto (pc' := 6) d_Net_hasRoom1_49 (by decide) ?_
      refine g_sub [2, 3, 4, 5, 1, 0] rfl ?_
      exact ih _ _ _ _ _ _ hy
def Net_hasRoom1 (h : g_AH) (this : Nat) (p0 : Option Nat) (p1 : Int32) (p2 : Int32) : Option (Int32) :=
  Net_hasRoom1_6 h  gFU this p0 p1 p2 (1 : Int32) (1 : Int32)
set_option maxHeartbeats 4000000 in
set_option maxRecDepth 100000 in
theorem T_Net_hasRoom1 {l : Launch} {B : g_B} (h : g_AH) (this : Nat) (p0 : Option Nat) (p1 : Int32) (p2 : Int32) (z : Int32) (hy : Net_hasRoom1 h this p0 p1 p2 = some z) : g_CT l B y_Net_hasRoom1 k_Net_hasRoom1 [.ref this, va_rf p0, .int p1, .int p2] h (.inl (some (.int z))) h := by
  refine g_start2 (Lc := [(0, .ref this), (1, va_rf p0), (2, .int p1), (3, .int p2)]) (by decide) rfl rfl (by rcases p0 with _ | p0 <;> exact Nat.le_of_ble_eq_true rfl) (by rcases p0 with _ | p0 <;> rfl) fun X => ?_
  unfold Net_hasRoom1 at hy
  refine g_iconst (v := (1 : Int32)) (pc' := 1) d_Net_hasRoom1_0 (by decide) rfl ?_
  refine g_istore (pc' := 3) (Lc' := [(4, .int (1 : Int32)), (0, .ref this), (1, va_rf p0), (2, .int p1), (3, .int p2)]) d_Net_hasRoom1_1 (by decide) rfl rfl ?_
  refine g_iconst (v := (1 : Int32)) (pc' := 4) d_Net_hasRoom1_3 (by decide) rfl ?_
  refine g_istore (pc' := 6) (Lc' := [(5, .int (1 : Int32)), (4, .int (1 : Int32)), (0, .ref this), (1, va_rf p0), (2, .int p1), (3, .int p2)]) d_Net_hasRoom1_4 (by decide) rfl rfl ?_
  refine g_sub [2, 3, 4, 5, 1, 0] rfl ?_
  exact W_Net_hasRoom1_6 _ _ _ _ _ _ _ _ _ hy
theorem hd_Net_hasRoom1 : g_dsc y_Net_hasRoom1 3 := ⟨by decide +kernel, by decide +kernel, by decide +kernel⟩
/-! CircuitDesk$Net.lenderTo(I)I -/
abbrev y_Net_lenderTo : MethodName := ⟨"CircuitDesk$Net", "lenderTo", "(I)I"⟩
abbrev k_Net_lenderTo : g_M := (prog_7_method_12_code, 5, "CircuitDesk$Net", 17, (some FieldType.int), "lenderTo", [], 0)
theorem d_Net_lenderTo_0 : decode prog_7_method_12_code 0 = .ok (.iconst (-1), 1) := by decide +kernel
theorem d_Net_lenderTo_1 : decode prog_7_method_12_code 1 = .ok (.istore_n 2, 1) := by decide +kernel
theorem d_Net_lenderTo_2 : decode prog_7_method_12_code 2 = .ok (.iconst 0, 1) := by decide +kernel
theorem d_Net_lenderTo_3 : decode prog_7_method_12_code 3 = .ok (.istore_n 3, 1) := by decide +kernel
theorem d_Net_lenderTo_4 : decode prog_7_method_12_code 4 = .ok (.iload_n 3, 1) := by decide +kernel
theorem d_Net_lenderTo_5 : decode prog_7_method_12_code 5 = .ok (.aload_n 0, 1) := by decide +kernel
theorem d_Net_lenderTo_6 : decode prog_7_method_12_code 6 = .ok (.getfield 20, 3) := by decide +kernel
theorem d_Net_lenderTo_9 : decode prog_7_method_12_code 9 = .ok (.invokevirtual 112, 3) := by decide +kernel
theorem d_Net_lenderTo_12 : decode prog_7_method_12_code 12 = .ok (.if_icmp .ge 69, 3) := by decide +kernel
theorem d_Net_lenderTo_15 : decode prog_7_method_12_code 15 = .ok (.aload_n 0, 1) := by decide +kernel
theorem d_Net_lenderTo_16 : decode prog_7_method_12_code 16 = .ok (.iload_n 1, 1) := by decide +kernel
theorem d_Net_lenderTo_17 : decode prog_7_method_12_code 17 = .ok (.iload_n 3, 1) := by decide +kernel
theorem d_Net_lenderTo_18 : decode prog_7_method_12_code 18 = .ok (.invokevirtual 174, 3) := by decide +kernel
theorem d_Net_lenderTo_21 : decode prog_7_method_12_code 21 = .ok (.ifCond .eq 20, 3) := by decide +kernel
theorem d_Net_lenderTo_24 : decode prog_7_method_12_code 24 = .ok (.aload_n 0, 1) := by decide +kernel
theorem d_Net_lenderTo_25 : decode prog_7_method_12_code 25 = .ok (.getfield 20, 3) := by decide +kernel
theorem d_Net_lenderTo_28 : decode prog_7_method_12_code 28 = .ok (.iload_n 3, 1) := by decide +kernel
theorem d_Net_lenderTo_29 : decode prog_7_method_12_code 29 = .ok (.invokevirtual 116, 3) := by decide +kernel
theorem d_Net_lenderTo_32 : decode prog_7_method_12_code 32 = .ok (.checkcast 62, 3) := by decide +kernel
theorem d_Net_lenderTo_35 : decode prog_7_method_12_code 35 = .ok (.invokevirtual 177, 3) := by decide +kernel
theorem d_Net_lenderTo_38 : decode prog_7_method_12_code 38 = .ok (.goto 4, 3) := by decide +kernel
theorem d_Net_lenderTo_41 : decode prog_7_method_12_code 41 = .ok (.iconst 0, 1) := by decide +kernel
theorem d_Net_lenderTo_42 : decode prog_7_method_12_code 42 = .ok (.istore 4, 2) := by decide +kernel
theorem d_Net_lenderTo_44 : decode prog_7_method_12_code 44 = .ok (.iload 4, 2) := by decide +kernel
theorem d_Net_lenderTo_46 : decode prog_7_method_12_code 46 = .ok (.ifCond .le 29, 3) := by decide +kernel
theorem d_Net_lenderTo_49 : decode prog_7_method_12_code 49 = .ok (.iload_n 2, 1) := by decide +kernel
theorem d_Net_lenderTo_50 : decode prog_7_method_12_code 50 = .ok (.iconst (-1), 1) := by decide +kernel
theorem d_Net_lenderTo_51 : decode prog_7_method_12_code 51 = .ok (.if_icmp .eq 22, 3) := by decide +kernel
theorem d_Net_lenderTo_54 : decode prog_7_method_12_code 54 = .ok (.iload 4, 2) := by decide +kernel
theorem d_Net_lenderTo_56 : decode prog_7_method_12_code 56 = .ok (.aload_n 0, 1) := by decide +kernel
theorem d_Net_lenderTo_57 : decode prog_7_method_12_code 57 = .ok (.getfield 20, 3) := by decide +kernel
theorem d_Net_lenderTo_60 : decode prog_7_method_12_code 60 = .ok (.iload_n 2, 1) := by decide +kernel
theorem d_Net_lenderTo_61 : decode prog_7_method_12_code 61 = .ok (.invokevirtual 116, 3) := by decide +kernel
theorem d_Net_lenderTo_64 : decode prog_7_method_12_code 64 = .ok (.checkcast 62, 3) := by decide +kernel
theorem d_Net_lenderTo_67 : decode prog_7_method_12_code 67 = .ok (.invokevirtual 177, 3) := by decide +kernel
theorem d_Net_lenderTo_70 : decode prog_7_method_12_code 70 = .ok (.if_icmp .le 5, 3) := by decide +kernel
theorem d_Net_lenderTo_73 : decode prog_7_method_12_code 73 = .ok (.iload_n 3, 1) := by decide +kernel
theorem d_Net_lenderTo_74 : decode prog_7_method_12_code 74 = .ok (.istore_n 2, 1) := by decide +kernel
theorem d_Net_lenderTo_75 : decode prog_7_method_12_code 75 = .ok (.iinc 3 1, 3) := by decide +kernel
theorem d_Net_lenderTo_78 : decode prog_7_method_12_code 78 = .ok (.goto (-74), 3) := by decide +kernel
theorem d_Net_lenderTo_81 : decode prog_7_method_12_code 81 = .ok (.iload_n 2, 1) := by decide +kernel
theorem d_Net_lenderTo_82 : decode prog_7_method_12_code 82 = .ok (.ireturn, 1) := by decide +kernel
def Net_lenderTo_75 (h : g_AH) (k4 : Nat → Int32 → Int32 → Int32 → Option (Int32)) (v0 : Nat) (v1 : Int32) (v2 : Int32) (v3 : Int32) : Option (Int32) :=
  k4 v0 v1 v2 (v3 + (1 : Int32))
set_option maxHeartbeats 4000000 in
set_option maxRecDepth 100000 in
theorem W_Net_lenderTo_75 {X : g_X} (h : g_AH) (z : Int32) (k4 : Nat → Int32 → Int32 → Int32 → Option (Int32)) (hk4 : ∀ (v0 : Nat) (v1 : Int32) (v2 : Int32) (v3 : Int32), k4 v0 v1 v2 v3 = some z → G X k_Net_lenderTo (.inl (some (.int z))) h h 4 [(0, .ref v0), (1, .int v1), (2, .int v2), (3, .int v3)] []) (v0 : Nat) (v1 : Int32) (v2 : Int32) (v3 : Int32) (hy : Net_lenderTo_75 h k4 v0 v1 v2 v3 = some z) : G X k_Net_lenderTo (.inl (some (.int z))) h h 75 [(0, .ref v0), (1, .int v1), (2, .int v2), (3, .int v3)] [] := by
  unfold Net_lenderTo_75 at hy
  refine g_iinc 3 (v := (v3 + (1 : Int32))) (pc' := 78) (Lc' := [(3, .int (v3 + (1 : Int32))), (0, .ref v0), (1, .int v1), (2, .int v2)]) d_Net_lenderTo_75 rfl rfl (by decide) rfl rfl ?_
  refine g_goto (pc' := 4) d_Net_lenderTo_78 (by decide) ?_
  refine g_sub [1, 2, 3, 0] rfl ?_
  exact hk4 _ _ _ _ hy
def Net_lenderTo_73 (h : g_AH) (k4 : Nat → Int32 → Int32 → Int32 → Option (Int32)) (v0 : Nat) (v1 : Int32) (v3 : Int32) : Option (Int32) :=
  Net_lenderTo_75 h k4 v0 v1 v3 v3
set_option maxHeartbeats 4000000 in
set_option maxRecDepth 100000 in
theorem W_Net_lenderTo_73 {X : g_X} (h : g_AH) (z : Int32) (k4 : Nat → Int32 → Int32 → Int32 → Option (Int32)) (hk4 : ∀ (v0 : Nat) (v1 : Int32) (v2 : Int32) (v3 : Int32), k4 v0 v1 v2 v3 = some z → G X k_Net_lenderTo (.inl (some (.int z))) h h 4 [(0, .ref v0), (1, .int v1), (2, .int v2), (3, .int v3)] []) (v0 : Nat) (v1 : Int32) (v3 : Int32) (hy : Net_lenderTo_73 h k4 v0 v1 v3 = some z) : G X k_Net_lenderTo (.inl (some (.int z))) h h 73 [(0, .ref v0), (1, .int v1), (3, .int v3)] [] := by
  unfold Net_lenderTo_73 at hy
  refine g_iload_n 2 (i := 3) (pc' := 74) d_Net_lenderTo_73 rfl rfl rfl ?_
  refine g_istore_n (i := 2) (pc' := 75) (Lc' := [(2, .int v3), (0, .ref v0), (1, .int v1), (3, .int v3)]) d_Net_lenderTo_74 rfl (by decide) rfl rfl ?_
  refine g_sub [1, 2, 0, 3] rfl ?_
  exact W_Net_lenderTo_75 _ _ _ hk4 _ _ _ _ hy
def Net_lenderTo_42 (h : g_AH) (k4 : Nat → Int32 → Int32 → Int32 → Option (Int32)) (v0 : Nat) (v1 : Int32) (v2 : Int32) (v3 : Int32) (s0 : Int32) : Option (Int32) :=
  if s0 ≤ 0 then (Net_lenderTo_75 h k4 v0 v1 v2 v3) else (if v2 = (-1 : Int32) then (Net_lenderTo_73 h k4 v0 v1 v3) else (g_gR h v0 1 1 fun x21 => g_nn x21 fun a24 => g_is h a24 15 <| g_b (ArrayList_get h a24 v2) fun x27 => g_ck h x27 10 <| g_nn x27 fun a31 => g_is h a31 10 <| g_b (Node_free h a31) fun x34 => if s0 ≤ x34 then (Net_lenderTo_75 h k4 v0 v1 v2 v3) else (Net_lenderTo_73 h k4 v0 v1 v3)))
set_option maxHeartbeats 4000000 in
set_option maxRecDepth 100000 in
theorem W_Net_lenderTo_42 {X : g_X} (h : g_AH) (z : Int32) (k4 : Nat → Int32 → Int32 → Int32 → Option (Int32)) (hk4 : ∀ (v0 : Nat) (v1 : Int32) (v2 : Int32) (v3 : Int32), k4 v0 v1 v2 v3 = some z → G X k_Net_lenderTo (.inl (some (.int z))) h h 4 [(0, .ref v0), (1, .int v1), (2, .int v2), (3, .int v3)] []) (v0 : Nat) (v1 : Int32) (v2 : Int32) (v3 : Int32) (s0 : Int32) (hy : Net_lenderTo_42 h k4 v0 v1 v2 v3 s0 = some z) : G X k_Net_lenderTo (.inl (some (.int z))) h h 42 [(0, .ref v0), (1, .int v1), (2, .int v2), (3, .int v3)] [.int s0] := by
  unfold Net_lenderTo_42 at hy
  refine g_istore (pc' := 44) (Lc' := [(4, .int s0), (0, .ref v0), (1, .int v1), (2, .int v2), (3, .int v3)]) d_Net_lenderTo_42 (by decide) rfl rfl ?_
  refine g_iload 0 (pc' := 46) d_Net_lenderTo_44 rfl rfl ?_
  by_cases c18 : s0 ≤ 0
  · rw [if_pos c18] at hy
    refine g_if_leT (pc' := 75) d_Net_lenderTo_46 c18 (by decide) ?_
    refine g_sub [1, 2, 3, 4] rfl ?_
    exact W_Net_lenderTo_75 _ _ _ hk4 _ _ _ _ hy
  · rw [if_neg c18] at hy
    refine g_if_leF (pc' := 49) d_Net_lenderTo_46 75 c18 (by decide) rfl ?_
    refine g_iload_n 3 (i := 2) (pc' := 50) d_Net_lenderTo_49 rfl rfl rfl ?_
    refine g_iconst (v := (-1 : Int32)) (pc' := 51) d_Net_lenderTo_50 (by decide) rfl ?_
    by_cases c19 : v2 = (-1 : Int32)
    · rw [if_pos c19] at hy
      refine g_icmp_eqT (pc' := 73) d_Net_lenderTo_51 c19 (by decide) ?_
      refine g_sub [1, 2, 4] rfl ?_
      exact W_Net_lenderTo_73 _ _ _ hk4 _ _ _ hy
    · rw [if_neg c19] at hy
      refine g_icmp_eqF (pc' := 54) d_Net_lenderTo_51 73 c19 (by decide) rfl ?_
      refine g_iload 0 (pc' := 56) d_Net_lenderTo_54 rfl rfl ?_
      refine g_aload_n 1 (i := 0) (pc' := 57) d_Net_lenderTo_56 rfl rfl rfl ?_
      replace hy := g_gR_inv hy
      obtain ⟨fs20, x21, hc22, hv23, hy⟩ := hy
      refine g_getf (pc' := 60) d_Net_lenderTo_57 hc22 rfl (by decide) hv23 q547 (Or.inl rfl) rfl ?_
      refine g_iload_n 3 (i := 2) (pc' := 61) d_Net_lenderTo_60 rfl rfl rfl ?_
      replace hy := g_nn_inv hy
      obtain ⟨a24, rfl, hy⟩ := hy
      replace hy := g_is_inv hy
      obtain ⟨fs25, hc26, hy⟩ := hy
      replace hy := g_b_inv hy
      obtain ⟨x27, hf29, hy⟩ := hy
      refine g_callV (rv := some (va_rf x27)) (h1 := h) (pc' := 64) (As := [.int v2]) (rest := [.int s0]) 1 (T_ArrayList_get (hy := hf29)) d_Net_lenderTo_61 hc26 rfl rfl q682 q683 q684 q112 q685 hd_ArrayList_get rfl ⟨by decide, by decide⟩ (by first | exact Nat.le_of_ble_eq_true rfl | (simp only [List.map, List.sum_cons, List.sum_nil, g_cat_rf]; exact Nat.le_of_ble_eq_true rfl) | (simp only [List.map, List.sum_cons, List.sum_nil, g_cat_rf, Value.category]; decide)) rfl ?_
      replace hy := g_ck_inv hy
      obtain ⟨hk30, hy⟩ := hy
      refine g_castO (pc' := 67) d_Net_lenderTo_64 hk30 rfl q1243 rfl ?_
      replace hy := g_nn_inv hy
      obtain ⟨a31, rfl, hy⟩ := hy
      replace hy := g_is_inv hy
      obtain ⟨fs32, hc33, hy⟩ := hy
      replace hy := g_b_inv hy
      obtain ⟨x34, hf36, hy⟩ := hy
      refine g_callV (rv := some (.int x34)) (h1 := h) (pc' := 70) (As := []) (rest := [.int s0]) 0 (T_Node_free (hy := hf36)) d_Net_lenderTo_67 hc33 rfl rfl q1244 q1245 q1246 q139 q1247 hd_Node_free rfl ⟨by decide, by decide⟩ (by first | exact Nat.le_of_ble_eq_true rfl | (simp only [List.map, List.sum_cons, List.sum_nil, g_cat_rf]; exact Nat.le_of_ble_eq_true rfl) | (simp only [List.map, List.sum_cons, List.sum_nil, g_cat_rf, Value.category]; decide)) rfl ?_
      by_cases c37 : s0 ≤ x34
      · rw [if_pos c37] at hy
        refine g_icmp_leT (pc' := 75) d_Net_lenderTo_70 c37 (by decide) ?_
        refine g_sub [1, 2, 3, 4] rfl ?_
        exact W_Net_lenderTo_75 _ _ _ hk4 _ _ _ _ hy
      · rw [if_neg c37] at hy
        refine g_icmp_leF (pc' := 73) d_Net_lenderTo_70 75 c37 (by decide) rfl ?_
        refine g_sub [1, 2, 4] rfl ?_
        exact W_Net_lenderTo_73 _ _ _ hk4 _ _ _ hy
def Net_lenderTo_4 (h : g_AH)  : Nat → Nat → Int32 → Int32 → Int32 → Option (Int32)
  | 0, _, _, _, _ => none
  | n + 1, v0, v1, v2, v3 => g_gR h v0 1 1 fun x2 => g_nn x2 fun a5 => g_is h a5 15 <| g_b (ArrayList_size h a5) fun x8 => if x8 ≤ v3 then (some v2) else (g_is h v0 1 <| g_b (Net_areJoined h v0 v1 v3) fun x14 => if x14 = 0 then (Net_lenderTo_42 h (Net_lenderTo_4 h  n) v0 v1 v2 v3 (0 : Int32)) else (g_gR h v0 1 1 fun x39 => g_nn x39 fun a42 => g_is h a42 15 <| g_b (ArrayList_get h a42 v3) fun x45 => g_ck h x45 10 <| g_nn x45 fun a49 => g_is h a49 10 <| g_b (Node_free h a49) fun x52 => Net_lenderTo_42 h (Net_lenderTo_4 h  n) v0 v1 v2 v3 x52))
set_option maxHeartbeats 4000000 in
set_option maxRecDepth 100000 in
theorem W_Net_lenderTo_4 {X : g_X} (h : g_AH) (z : Int32)  : ∀ (n : Nat) (v0 : Nat) (v1 : Int32) (v2 : Int32) (v3 : Int32), Net_lenderTo_4 h  n v0 v1 v2 v3 = some z → G X k_Net_lenderTo (.inl (some (.int z))) h h 4 [(0, .ref v0), (1, .int v1), (2, .int v2), (3, .int v3)] [] := by
  intro n
  induction n with
  | zero => intro v0 v1 v2 v3 hy; exact absurd hy (by simp [Net_lenderTo_4])
  | succ n ih =>
    intro v0 v1 v2 v3 hy
    rw [Net_lenderTo_4] at hy
    refine g_iload_n 3 (i := 3) (pc' := 5) d_Net_lenderTo_4 rfl rfl rfl ?_
    refine g_aload_n 0 (i := 0) (pc' := 6) d_Net_lenderTo_5 rfl rfl rfl ?_
    replace hy := g_gR_inv hy
    obtain ⟨fs1, x2, hc3, hv4, hy⟩ := hy
    refine g_getf (pc' := 9) d_Net_lenderTo_6 hc3 rfl (by decide) hv4 q547 (Or.inl rfl) rfl ?_
    replace hy := g_nn_inv hy
    obtain ⟨a5, rfl, hy⟩ := hy
    replace hy := g_is_inv hy
    obtain ⟨fs6, hc7, hy⟩ := hy
    replace hy := g_b_inv hy
    obtain ⟨x8, hf10, hy⟩ := hy
    refine g_callV (rv := some (.int x8)) (h1 := h) (pc' := 12) (As := []) (rest := [.int v3]) 0 (T_ArrayList_size (hy := hf10)) d_Net_lenderTo_9 hc7 rfl rfl q681 q674 q675 q112 q676 hd_ArrayList_size rfl ⟨by decide, by decide⟩ (by first | exact Nat.le_of_ble_eq_true rfl | (simp only [List.map, List.sum_cons, List.sum_nil, g_cat_rf]; exact Nat.le_of_ble_eq_true rfl) | (simp only [List.map, List.sum_cons, List.sum_nil, g_cat_rf, Value.category]; decide)) rfl ?_
    by_cases c11 : x8 ≤ v3
    · rw [if_pos c11] at hy
      refine g_icmp_geT (pc' := 81) d_Net_lenderTo_12 c11 (by decide) ?_
      refine g_iload_n 2 (i := 2) (pc' := 82) d_Net_lenderTo_81 rfl rfl rfl ?_
      cases hy
      exact g_iret rfl rfl rfl d_Net_lenderTo_82
    · rw [if_neg c11] at hy
      refine g_icmp_geF (pc' := 15) d_Net_lenderTo_12 81 c11 (by decide) rfl ?_
      refine g_aload_n 0 (i := 0) (pc' := 16) d_Net_lenderTo_15 rfl rfl rfl ?_
      refine g_iload_n 1 (i := 1) (pc' := 17) d_Net_lenderTo_16 rfl rfl rfl ?_
      refine g_iload_n 3 (i := 3) (pc' := 18) d_Net_lenderTo_17 rfl rfl rfl ?_
      replace hy := g_is_inv hy
      obtain ⟨fs12, hc13, hy⟩ := hy
      replace hy := g_b_inv hy
      obtain ⟨x14, hf16, hy⟩ := hy
      refine g_callV (rv := some (.int x14)) (h1 := h) (pc' := 21) (As := [.int v1, .int v3]) (rest := []) 2 (T_Net_areJoined (hy := hf16)) d_Net_lenderTo_18 hc13 rfl rfl q1261 q1097 q1098 q109 q1099 hd_Net_areJoined rfl ⟨by decide, by decide⟩ (by first | exact Nat.le_of_ble_eq_true rfl | (simp only [List.map, List.sum_cons, List.sum_nil, g_cat_rf]; exact Nat.le_of_ble_eq_true rfl) | (simp only [List.map, List.sum_cons, List.sum_nil, g_cat_rf, Value.category]; decide)) rfl ?_
      by_cases c17 : x14 = 0
      · rw [if_pos c17] at hy
        refine g_if_eqT (pc' := 41) d_Net_lenderTo_21 c17 (by decide) ?_
        refine g_iconst (v := (0 : Int32)) (pc' := 42) d_Net_lenderTo_41 (by decide) rfl ?_
        exact W_Net_lenderTo_42 _ _ _ ih _ _ _ _ _ hy
      · rw [if_neg c17] at hy
        refine g_if_eqF (pc' := 24) d_Net_lenderTo_21 41 c17 (by decide) rfl ?_
        refine g_aload_n 0 (i := 0) (pc' := 25) d_Net_lenderTo_24 rfl rfl rfl ?_
        replace hy := g_gR_inv hy
        obtain ⟨fs38, x39, hc40, hv41, hy⟩ := hy
        refine g_getf (pc' := 28) d_Net_lenderTo_25 hc40 rfl (by decide) hv41 q547 (Or.inl rfl) rfl ?_
        refine g_iload_n 3 (i := 3) (pc' := 29) d_Net_lenderTo_28 rfl rfl rfl ?_
        replace hy := g_nn_inv hy
        obtain ⟨a42, rfl, hy⟩ := hy
        replace hy := g_is_inv hy
        obtain ⟨fs43, hc44, hy⟩ := hy
        replace hy := g_b_inv hy
        obtain ⟨x45, hf47, hy⟩ := hy
        refine g_callV (rv := some (va_rf x45)) (h1 := h) (pc' := 32) (As := [.int v3]) (rest := []) 1 (T_ArrayList_get (hy := hf47)) d_Net_lenderTo_29 hc44 rfl rfl q682 q683 q684 q112 q685 hd_ArrayList_get rfl ⟨by decide, by decide⟩ (by first | exact Nat.le_of_ble_eq_true rfl | (simp only [List.map, List.sum_cons, List.sum_nil, g_cat_rf]; exact Nat.le_of_ble_eq_true rfl) | (simp only [List.map, List.sum_cons, List.sum_nil, g_cat_rf, Value.category]; decide)) rfl ?_
        replace hy := g_ck_inv hy
        obtain ⟨hk48, hy⟩ := hy
        refine g_castO (pc' := 35) d_Net_lenderTo_32 hk48 rfl q1243 rfl ?_
        replace hy := g_nn_inv hy
        obtain ⟨a49, rfl, hy⟩ := hy
        replace hy := g_is_inv hy
        obtain ⟨fs50, hc51, hy⟩ := hy
        replace hy := g_b_inv hy
        obtain ⟨x52, hf54, hy⟩ := hy
        refine g_callV (rv := some (.int x52)) (h1 := h) (pc' := 38) (As := []) (rest := []) 0 (T_Node_free (hy := hf54)) d_Net_lenderTo_35 hc51 rfl rfl q1244 q1245 q1246 q139 q1247 hd_Node_free rfl ⟨by decide, by decide⟩ (by first | exact Nat.le_of_ble_eq_true rfl | (simp only [List.map, List.sum_cons, List.sum_nil, g_cat_rf]; exact Nat.le_of_ble_eq_true rfl) | (simp only [List.map, List.sum_cons, List.sum_nil, g_cat_rf, Value.category]; decide)) rfl ?_
        refine g_goto (pc' := 42) d_Net_lenderTo_38 (by decide) ?_
        exact W_Net_lenderTo_42 _ _ _ ih _ _ _ _ _ hy
def Net_lenderTo (h : g_AH) (this : Nat) (p0 : Int32) : Option (Int32) :=
  Net_lenderTo_4 h  gFU this p0 (-1 : Int32) (0 : Int32)
set_option maxHeartbeats 4000000 in
set_option maxRecDepth 100000 in
theorem T_Net_lenderTo {l : Launch} {B : g_B} (h : g_AH) (this : Nat) (p0 : Int32) (z : Int32) (hy : Net_lenderTo h this p0 = some z) : g_CT l B y_Net_lenderTo k_Net_lenderTo [.ref this, .int p0] h (.inl (some (.int z))) h := by
  refine g_start2 (Lc := [(0, .ref this), (1, .int p0)]) (by decide) rfl rfl (by exact Nat.le_of_ble_eq_true rfl) (by rfl) fun X => ?_
  unfold Net_lenderTo at hy
  refine g_iconst (v := (-1 : Int32)) (pc' := 1) d_Net_lenderTo_0 (by decide) rfl ?_
  refine g_istore_n (i := 2) (pc' := 2) (Lc' := [(2, .int (-1 : Int32)), (0, .ref this), (1, .int p0)]) d_Net_lenderTo_1 rfl (by decide) rfl rfl ?_
  refine g_iconst (v := (0 : Int32)) (pc' := 3) d_Net_lenderTo_2 (by decide) rfl ?_
  refine g_istore_n (i := 3) (pc' := 4) (Lc' := [(3, .int (0 : Int32)), (2, .int (-1 : Int32)), (0, .ref this), (1, .int p0)]) d_Net_lenderTo_3 rfl (by decide) rfl rfl ?_
  refine g_sub [2, 3, 1, 0] rfl ?_
  exact W_Net_lenderTo_4 _ _ _ _ _ _ _ hy
theorem hd_Net_lenderTo : g_dsc y_Net_lenderTo 1 := ⟨by decide +kernel, by decide +kernel, by decide +kernel⟩
