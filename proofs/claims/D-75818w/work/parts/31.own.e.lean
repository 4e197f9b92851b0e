/-! CircuitDesk$Way.goes(II)Z -/
abbrev y_Way_goes : MethodName := ⟨"CircuitDesk$Way", "goes", "(II)Z"⟩
abbrev k_Way_goes : g_M := (prog_15_method_6_code, 3, "CircuitDesk$Way", 12, (some FieldType.boolean), "goes", [], 0)
theorem d_Way_goes_0 : decode prog_15_method_6_code 0 = .ok (.aload_n 0, 1) := by decide +kernel
theorem d_Way_goes_1 : decode prog_15_method_6_code 1 = .ok (.getfield 27, 3) := by decide +kernel
theorem d_Way_goes_4 : decode prog_15_method_6_code 4 = .ok (.iconst 1, 1) := by decide +kernel
theorem d_Way_goes_5 : decode prog_15_method_6_code 5 = .ok (.if_icmp .le 32, 3) := by decide +kernel
theorem d_Way_goes_8 : decode prog_15_method_6_code 8 = .ok (.aload_n 0, 1) := by decide +kernel
theorem d_Way_goes_9 : decode prog_15_method_6_code 9 = .ok (.getfield 9, 3) := by decide +kernel
theorem d_Way_goes_12 : decode prog_15_method_6_code 12 = .ok (.iconst 0, 1) := by decide +kernel
theorem d_Way_goes_13 : decode prog_15_method_6_code 13 = .ok (.iaload, 1) := by decide +kernel
theorem d_Way_goes_14 : decode prog_15_method_6_code 14 = .ok (.iload_n 1, 1) := by decide +kernel
theorem d_Way_goes_15 : decode prog_15_method_6_code 15 = .ok (.if_icmp .ne 22, 3) := by decide +kernel
theorem d_Way_goes_18 : decode prog_15_method_6_code 18 = .ok (.aload_n 0, 1) := by decide +kernel
theorem d_Way_goes_19 : decode prog_15_method_6_code 19 = .ok (.getfield 9, 3) := by decide +kernel
theorem d_Way_goes_22 : decode prog_15_method_6_code 22 = .ok (.aload_n 0, 1) := by decide +kernel
theorem d_Way_goes_23 : decode prog_15_method_6_code 23 = .ok (.getfield 27, 3) := by decide +kernel
theorem d_Way_goes_26 : decode prog_15_method_6_code 26 = .ok (.iconst 1, 1) := by decide +kernel
theorem d_Way_goes_27 : decode prog_15_method_6_code 27 = .ok (.isub, 1) := by decide +kernel
theorem d_Way_goes_28 : decode prog_15_method_6_code 28 = .ok (.iaload, 1) := by decide +kernel
theorem d_Way_goes_29 : decode prog_15_method_6_code 29 = .ok (.iload_n 2, 1) := by decide +kernel
theorem d_Way_goes_30 : decode prog_15_method_6_code 30 = .ok (.if_icmp .ne 7, 3) := by decide +kernel
theorem d_Way_goes_33 : decode prog_15_method_6_code 33 = .ok (.iconst 1, 1) := by decide +kernel
theorem d_Way_goes_34 : decode prog_15_method_6_code 34 = .ok (.goto 4, 3) := by decide +kernel
theorem d_Way_goes_37 : decode prog_15_method_6_code 37 = .ok (.iconst 0, 1) := by decide +kernel
theorem d_Way_goes_38 : decode prog_15_method_6_code 38 = .ok (.ireturn, 1) := by decide +kernel
def Way_goes (h : g_AH) (this : Nat) (p0 : Int32) (p1 : Int32) : Option (Int32) :=
  g_gI h this 6 3 fun x2 => if x2 ≤ (1 : Int32) then (some (0 : Int32)) else (g_gR h this 6 0 fun x8 => g_nn x8 fun a11 => g_aI h 0 a11 (0 : Int32) fun x12 => if x12 = p0 then (g_gR h this 6 0 fun x20 => g_gI h this 6 3 fun x24 => g_nn x20 fun a27 => g_aI h 0 a27 (x24 - (1 : Int32)) fun x28 => if x28 = p1 then (some (1 : Int32)) else (some (0 : Int32))) else (some (0 : Int32)))
set_option maxHeartbeats 4000000 in
set_option maxRecDepth 100000 in
theorem T_Way_goes {l : Launch} {B : g_B} (h : g_AH) (this : Nat) (p0 : Int32) (p1 : Int32) (z : Int32) (hy : Way_goes h this p0 p1 = some z) : g_CT l B y_Way_goes k_Way_goes [.ref this, .int p0, .int p1] h (.inl (some (.int z))) h := by
  refine g_start2 (Lc := [(0, .ref this), (1, .int p0), (2, .int p1)]) (by decide) rfl rfl (by exact Nat.le_of_ble_eq_true rfl) (by rfl) fun X => ?_
  unfold Way_goes at hy
  refine g_aload_n 0 (i := 0) (pc' := 1) d_Way_goes_0 rfl rfl rfl ?_
  replace hy := g_gI_inv hy
  obtain ⟨fs1, x2, hc3, hv4, hy⟩ := hy
  refine g_getf (pc' := 4) d_Way_goes_1 hc3 rfl (by decide) hv4 q628 (Or.inl rfl) rfl ?_
  refine g_iconst (v := (1 : Int32)) (pc' := 5) d_Way_goes_4 (by decide) rfl ?_
  by_cases c5 : x2 ≤ (1 : Int32)
  · rw [if_pos c5] at hy
    refine g_icmp_leT (pc' := 37) d_Way_goes_5 c5 (by decide) ?_
    refine g_iconst (v := (0 : Int32)) (pc' := 38) d_Way_goes_37 (by decide) rfl ?_
    cases hy
    exact g_zret rfl rfl rfl (g_nar_z (Or.inl rfl)).1 d_Way_goes_38
  · rw [if_neg c5] at hy
    refine g_icmp_leF (pc' := 8) d_Way_goes_5 37 c5 (by decide) rfl ?_
    refine g_aload_n 0 (i := 0) (pc' := 9) d_Way_goes_8 rfl rfl rfl ?_
    replace hy := g_gR_inv hy
    obtain ⟨fs7, x8, hc9, hv10, hy⟩ := hy
    refine g_getf (pc' := 12) d_Way_goes_9 hc9 rfl (by decide) hv10 q616 (Or.inl rfl) rfl ?_
    refine g_iconst (v := (0 : Int32)) (pc' := 13) d_Way_goes_12 (by decide) rfl ?_
    replace hy := g_nn_inv hy
    obtain ⟨a11, rfl, hy⟩ := hy
    replace hy := g_aI_inv hy
    obtain ⟨n13, f14, hc15, hi16, hy⟩ := hy
    refine g_iald (pc' := 14) d_Way_goes_13 hc15 hi16 rfl ?_
    generalize f14 ((0 : Int32)).toNatClampNeg = x12 at hy ⊢
    refine g_iload_n 1 (i := 1) (pc' := 15) d_Way_goes_14 rfl rfl rfl ?_
    by_cases c17 : x12 = p0
    · rw [if_pos c17] at hy
      refine g_icmp_neF (pc' := 18) d_Way_goes_15 37 c17 (by decide) rfl ?_
      refine g_aload_n 0 (i := 0) (pc' := 19) d_Way_goes_18 rfl rfl rfl ?_
      replace hy := g_gR_inv hy
      obtain ⟨fs19, x20, hc21, hv22, hy⟩ := hy
      refine g_getf (pc' := 22) d_Way_goes_19 hc21 rfl (by decide) hv22 q616 (Or.inl rfl) rfl ?_
      refine g_aload_n 0 (i := 0) (pc' := 23) d_Way_goes_22 rfl rfl rfl ?_
      replace hy := g_gI_inv hy
      obtain ⟨fs23, x24, hc25, hv26, hy⟩ := hy
      refine g_getf (pc' := 26) d_Way_goes_23 hc25 rfl (by decide) hv26 q628 (Or.inl rfl) rfl ?_
      refine g_iconst (v := (1 : Int32)) (pc' := 27) d_Way_goes_26 (by decide) rfl ?_
      refine g_isub (pc' := 28) d_Way_goes_27 rfl ?_
      replace hy := g_nn_inv hy
      obtain ⟨a27, rfl, hy⟩ := hy
      replace hy := g_aI_inv hy
      obtain ⟨n29, f30, hc31, hi32, hy⟩ := hy
      refine g_iald (pc' := 29) d_Way_goes_28 hc31 hi32 rfl ?_
      generalize f30 ((x24 - (1 : Int32))).toNatClampNeg = x28 at hy ⊢
      refine g_iload_n 2 (i := 2) (pc' := 30) d_Way_goes_29 rfl rfl rfl ?_
      by_cases c33 : x28 = p1
      · rw [if_pos c33] at hy
        refine g_icmp_neF (pc' := 33) d_Way_goes_30 37 c33 (by decide) rfl ?_
        refine g_iconst (v := (1 : Int32)) (pc' := 34) d_Way_goes_33 (by decide) rfl ?_
        refine g_goto (pc' := 38) d_Way_goes_34 (by decide) ?_
        cases hy
        exact g_zret rfl rfl rfl (g_nar_z (Or.inr rfl)).1 d_Way_goes_38
      · rw [if_neg c33] at hy
        refine g_icmp_neT (pc' := 37) d_Way_goes_30 c33 (by decide) ?_
        refine g_iconst (v := (0 : Int32)) (pc' := 38) d_Way_goes_37 (by decide) rfl ?_
        cases hy
        exact g_zret rfl rfl rfl (g_nar_z (Or.inl rfl)).1 d_Way_goes_38
    · rw [if_neg c17] at hy
      refine g_icmp_neT (pc' := 37) d_Way_goes_15 c17 (by decide) ?_
      refine g_iconst (v := (0 : Int32)) (pc' := 38) d_Way_goes_37 (by decide) rfl ?_
      cases hy
      exact g_zret rfl rfl rfl (g_nar_z (Or.inl rfl)).1 d_Way_goes_38
theorem hd_Way_goes : g_dsc y_Way_goes 2 := ⟨by decide +kernel, by decide +kernel, by decide +kernel⟩
/-! CircuitDesk$Way.isLike(LCircuitDesk$Way;)Z -/
abbrev y_Way_isLike : MethodName := ⟨"CircuitDesk$Way", "isLike", "(LCircuitDesk$Way;)Z"⟩
abbrev k_Way_isLike : g_M := (prog_15_method_8_code, 4, "CircuitDesk$Way", 12, (some FieldType.boolean), "isLike", [], 0)
theorem d_Way_isLike_0 : decode prog_15_method_8_code 0 = .ok (.aload_n 0, 1) := by decide +kernel
theorem d_Way_isLike_1 : decode prog_15_method_8_code 1 = .ok (.getfield 27, 3) := by decide +kernel
theorem d_Way_isLike_4 : decode prog_15_method_8_code 4 = .ok (.aload_n 1, 1) := by decide +kernel
theorem d_Way_isLike_5 : decode prog_15_method_8_code 5 = .ok (.getfield 27, 3) := by decide +kernel
theorem d_Way_isLike_8 : decode prog_15_method_8_code 8 = .ok (.if_icmp .ne 7, 3) := by decide +kernel
theorem d_Way_isLike_11 : decode prog_15_method_8_code 11 = .ok (.iconst 1, 1) := by decide +kernel
theorem d_Way_isLike_12 : decode prog_15_method_8_code 12 = .ok (.goto 4, 3) := by decide +kernel
theorem d_Way_isLike_15 : decode prog_15_method_8_code 15 = .ok (.iconst 0, 1) := by decide +kernel
theorem d_Way_isLike_16 : decode prog_15_method_8_code 16 = .ok (.istore_n 2, 1) := by decide +kernel
theorem d_Way_isLike_17 : decode prog_15_method_8_code 17 = .ok (.iconst 0, 1) := by decide +kernel
theorem d_Way_isLike_18 : decode prog_15_method_8_code 18 = .ok (.istore_n 3, 1) := by decide +kernel
theorem d_Way_isLike_19 : decode prog_15_method_8_code 19 = .ok (.iload_n 3, 1) := by decide +kernel
theorem d_Way_isLike_20 : decode prog_15_method_8_code 20 = .ok (.aload_n 0, 1) := by decide +kernel
theorem d_Way_isLike_21 : decode prog_15_method_8_code 21 = .ok (.getfield 27, 3) := by decide +kernel
theorem d_Way_isLike_24 : decode prog_15_method_8_code 24 = .ok (.if_icmp .ge 34, 3) := by decide +kernel
theorem d_Way_isLike_27 : decode prog_15_method_8_code 27 = .ok (.iload_n 2, 1) := by decide +kernel
theorem d_Way_isLike_28 : decode prog_15_method_8_code 28 = .ok (.ifCond .eq 30, 3) := by decide +kernel
theorem d_Way_isLike_31 : decode prog_15_method_8_code 31 = .ok (.aload_n 0, 1) := by decide +kernel
theorem d_Way_isLike_32 : decode prog_15_method_8_code 32 = .ok (.getfield 9, 3) := by decide +kernel
theorem d_Way_isLike_35 : decode prog_15_method_8_code 35 = .ok (.iload_n 3, 1) := by decide +kernel
theorem d_Way_isLike_36 : decode prog_15_method_8_code 36 = .ok (.iaload, 1) := by decide +kernel
theorem d_Way_isLike_37 : decode prog_15_method_8_code 37 = .ok (.aload_n 1, 1) := by decide +kernel
theorem d_Way_isLike_38 : decode prog_15_method_8_code 38 = .ok (.getfield 9, 3) := by decide +kernel
theorem d_Way_isLike_41 : decode prog_15_method_8_code 41 = .ok (.iload_n 3, 1) := by decide +kernel
theorem d_Way_isLike_42 : decode prog_15_method_8_code 42 = .ok (.iaload, 1) := by decide +kernel
theorem d_Way_isLike_43 : decode prog_15_method_8_code 43 = .ok (.if_icmp .ne 7, 3) := by decide +kernel
theorem d_Way_isLike_46 : decode prog_15_method_8_code 46 = .ok (.iconst 1, 1) := by decide +kernel
theorem d_Way_isLike_47 : decode prog_15_method_8_code 47 = .ok (.goto 4, 3) := by decide +kernel
theorem d_Way_isLike_50 : decode prog_15_method_8_code 50 = .ok (.iconst 0, 1) := by decide +kernel
theorem d_Way_isLike_51 : decode prog_15_method_8_code 51 = .ok (.istore_n 2, 1) := by decide +kernel
theorem d_Way_isLike_52 : decode prog_15_method_8_code 52 = .ok (.iinc 3 1, 3) := by decide +kernel
theorem d_Way_isLike_55 : decode prog_15_method_8_code 55 = .ok (.goto (-36), 3) := by decide +kernel
theorem d_Way_isLike_58 : decode prog_15_method_8_code 58 = .ok (.iload_n 2, 1) := by decide +kernel
theorem d_Way_isLike_59 : decode prog_15_method_8_code 59 = .ok (.ireturn, 1) := by decide +kernel
def Way_isLike_51 (h : g_AH) (k19 : Nat → Option Nat → Int32 → Int32 → Option (Int32)) (v0 : Nat) (v1 : Option Nat) (v3 : Int32) (s0 : Int32) : Option (Int32) :=
  k19 v0 v1 s0 (v3 + (1 : Int32))
set_option maxHeartbeats 4000000 in
set_option maxRecDepth 100000 in
theorem W_Way_isLike_51 {X : g_X} (h : g_AH) (z : Int32) (k19 : Nat → Option Nat → Int32 → Int32 → Option (Int32)) (hk19 : ∀ (v0 : Nat) (v1 : Option Nat) (v2 : Int32) (v3 : Int32), k19 v0 v1 v2 v3 = some z → G X k_Way_isLike (.inl (some (.int z))) h h 19 [(0, .ref v0), (1, va_rf v1), (2, .int v2), (3, .int v3)] []) (v0 : Nat) (v1 : Option Nat) (v3 : Int32) (s0 : Int32) (hy : Way_isLike_51 h k19 v0 v1 v3 s0 = some z) : G X k_Way_isLike (.inl (some (.int z))) h h 51 [(0, .ref v0), (1, va_rf v1), (3, .int v3)] [.int s0] := by
  unfold Way_isLike_51 at hy
  refine g_istore_n (i := 2) (pc' := 52) (Lc' := [(2, .int s0), (0, .ref v0), (1, va_rf v1), (3, .int v3)]) d_Way_isLike_51 rfl (by decide) (by cases v1 <;> rfl) rfl ?_
  refine g_iinc 3 (v := (v3 + (1 : Int32))) (pc' := 55) (Lc' := [(3, .int (v3 + (1 : Int32))), (2, .int s0), (0, .ref v0), (1, va_rf v1)]) d_Way_isLike_52 rfl rfl (by decide) rfl rfl ?_
  refine g_goto (pc' := 19) d_Way_isLike_55 (by decide) ?_
  refine g_sub [2, 3, 1, 0] rfl ?_
  exact hk19 _ _ _ _ hy
def Way_isLike_19 (h : g_AH)  : Nat → Nat → Option Nat → Int32 → Int32 → Option (Int32)
  | 0, _, _, _, _ => none
  | n + 1, v0, v1, v2, v3 => g_gI h v0 6 3 fun x12 => if x12 ≤ v3 then (g_rq (v2 = 0 ∨ v2 = 1) <| some v2) else (if v2 = 0 then (g_rq (v2 = 0 ∨ v2 = 1) <| some v2) else (g_gR h v0 6 0 fun x20 => g_nn x20 fun a23 => g_aI h 0 a23 v3 fun x24 => g_nn v1 fun a29 => g_gR h a29 6 0 fun x31 => g_nn x31 fun a34 => g_aI h 0 a34 v3 fun x35 => if x24 = x35 then (Way_isLike_51 h (Way_isLike_19 h  n) v0 (some a29) v3 (1 : Int32)) else (Way_isLike_51 h (Way_isLike_19 h  n) v0 (some a29) v3 (0 : Int32))))
set_option maxHeartbeats 4000000 in
set_option maxRecDepth 100000 in
theorem W_Way_isLike_19 {X : g_X} (h : g_AH) (z : Int32)  : ∀ (n : Nat) (v0 : Nat) (v1 : Option Nat) (v2 : Int32) (v3 : Int32), Way_isLike_19 h  n v0 v1 v2 v3 = some z → G X k_Way_isLike (.inl (some (.int z))) h h 19 [(0, .ref v0), (1, va_rf v1), (2, .int v2), (3, .int v3)] [] := by
  intro n
  induction n with
  | zero => intro v0 v1 v2 v3 hy; exact absurd hy (by simp [Way_isLike_19])
  | succ n ih =>
    intro v0 v1 v2 v3 hy
    rw [Way_isLike_19] at hy
    refine g_iload_n 3 (i := 3) (pc' := 20) d_Way_isLike_19 rfl rfl rfl ?_
    refine g_aload_n 0 (i := 0) (pc' := 21) d_Way_isLike_20 rfl rfl rfl ?_
    replace hy := g_gI_inv hy
    obtain ⟨fs11, x12, hc13, hv14, hy⟩ := hy
    refine g_getf (pc' := 24) d_Way_isLike_21 hc13 rfl (by decide) hv14 q628 (Or.inl rfl) rfl ?_
    by_cases c15 : x12 ≤ v3
    · rw [if_pos c15] at hy
      refine g_icmp_geT (pc' := 58) d_Way_isLike_24 c15 (by decide) ?_
      refine g_iload_n 2 (i := 2) (pc' := 59) d_Way_isLike_58 rfl rfl rfl ?_
      replace hy := g_rq_inv hy
      obtain ⟨c16, hy⟩ := hy
      cases hy
      exact g_zret rfl rfl rfl (g_nar_z c16).1 d_Way_isLike_59
    · rw [if_neg c15] at hy
      refine g_icmp_geF (pc' := 27) d_Way_isLike_24 58 c15 (by decide) rfl ?_
      refine g_iload_n 2 (i := 2) (pc' := 28) d_Way_isLike_27 rfl rfl rfl ?_
      by_cases c17 : v2 = 0
      · rw [if_pos c17] at hy
        refine g_if_eqT (pc' := 58) d_Way_isLike_28 c17 (by decide) ?_
        refine g_iload_n 2 (i := 2) (pc' := 59) d_Way_isLike_58 rfl rfl rfl ?_
        replace hy := g_rq_inv hy
        obtain ⟨c18, hy⟩ := hy
        cases hy
        exact g_zret rfl rfl rfl (g_nar_z c18).1 d_Way_isLike_59
      · rw [if_neg c17] at hy
        refine g_if_eqF (pc' := 31) d_Way_isLike_28 58 c17 (by decide) rfl ?_
        refine g_aload_n 0 (i := 0) (pc' := 32) d_Way_isLike_31 rfl rfl rfl ?_
        replace hy := g_gR_inv hy
        obtain ⟨fs19, x20, hc21, hv22, hy⟩ := hy
        refine g_getf (pc' := 35) d_Way_isLike_32 hc21 rfl (by decide) hv22 q616 (Or.inl rfl) rfl ?_
        refine g_iload_n 3 (i := 3) (pc' := 36) d_Way_isLike_35 rfl rfl rfl ?_
        replace hy := g_nn_inv hy
        obtain ⟨a23, rfl, hy⟩ := hy
        replace hy := g_aI_inv hy
        obtain ⟨n25, f26, hc27, hi28, hy⟩ := hy
        refine g_iald (pc' := 37) d_Way_isLike_36 hc27 hi28 rfl ?_
        generalize f26 (v3).toNatClampNeg = x24 at hy ⊢
        refine g_aloadO_n 1 (i := 1) (pc' := 38) d_Way_isLike_37 rfl rfl rfl ?_
        replace hy := g_nn_inv hy
        obtain ⟨a29, rfl, hy⟩ := hy
        replace hy := g_gR_inv hy
        obtain ⟨fs30, x31, hc32, hv33, hy⟩ := hy
        refine g_getf (pc' := 41) d_Way_isLike_38 hc32 rfl (by decide) hv33 q616 (Or.inl rfl) rfl ?_
        refine g_iload_n 3 (i := 3) (pc' := 42) d_Way_isLike_41 rfl rfl rfl ?_
        replace hy := g_nn_inv hy
        obtain ⟨a34, rfl, hy⟩ := hy
        replace hy := g_aI_inv hy
        obtain ⟨n36, f37, hc38, hi39, hy⟩ := hy
        refine g_iald (pc' := 43) d_Way_isLike_42 hc38 hi39 rfl ?_
        generalize f37 (v3).toNatClampNeg = x35 at hy ⊢
        by_cases c40 : x24 = x35
        · rw [if_pos c40] at hy
          refine g_icmp_neF (pc' := 46) d_Way_isLike_43 50 c40 (by decide) rfl ?_
          refine g_iconst (v := (1 : Int32)) (pc' := 47) d_Way_isLike_46 (by decide) rfl ?_
          refine g_goto (pc' := 51) d_Way_isLike_47 (by decide) ?_
          refine g_sub [0, 1, 3] rfl ?_
          exact W_Way_isLike_51 _ _ _ ih _ _ _ _ hy
        · rw [if_neg c40] at hy
          refine g_icmp_neT (pc' := 50) d_Way_isLike_43 c40 (by decide) ?_
          refine g_iconst (v := (0 : Int32)) (pc' := 51) d_Way_isLike_50 (by decide) rfl ?_
          refine g_sub [0, 1, 3] rfl ?_
          exact W_Way_isLike_51 _ _ _ ih _ _ _ _ hy
def Way_isLike_16 (h : g_AH) (v0 : Nat) (v1 : Option Nat) (s0 : Int32) : Option (Int32) :=
  Way_isLike_19 h  gFU v0 v1 s0 (0 : Int32)
set_option maxHeartbeats 4000000 in
set_option maxRecDepth 100000 in
theorem W_Way_isLike_16 {X : g_X} (h : g_AH) (z : Int32) (v0 : Nat) (v1 : Option Nat) (s0 : Int32) (hy : Way_isLike_16 h  v0 v1 s0 = some z) : G X k_Way_isLike (.inl (some (.int z))) h h 16 [(0, .ref v0), (1, va_rf v1)] [.int s0] := by
  unfold Way_isLike_16 at hy
  refine g_istore_n (i := 2) (pc' := 17) (Lc' := [(2, .int s0), (0, .ref v0), (1, va_rf v1)]) d_Way_isLike_16 rfl (by decide) (by cases v1 <;> rfl) rfl ?_
  refine g_iconst (v := (0 : Int32)) (pc' := 18) d_Way_isLike_17 (by decide) rfl ?_
  refine g_istore_n (i := 3) (pc' := 19) (Lc' := [(3, .int (0 : Int32)), (2, .int s0), (0, .ref v0), (1, va_rf v1)]) d_Way_isLike_18 rfl (by decide) rfl rfl ?_
  refine g_sub [2, 3, 1, 0] rfl ?_
  exact W_Way_isLike_19 _ _ _ _ _ _ _ hy
def Way_isLike (h : g_AH) (this : Nat) (p0 : Option Nat) : Option (Int32) :=
  g_gI h this 6 3 fun x2 => g_nn p0 fun a5 => g_gI h a5 6 3 fun x7 => if x2 = x7 then (Way_isLike_16 h  this (some a5) (1 : Int32)) else (Way_isLike_16 h  this (some a5) (0 : Int32))
set_option maxHeartbeats 4000000 in
set_option maxRecDepth 100000 in
theorem T_Way_isLike {l : Launch} {B : g_B} (h : g_AH) (this : Nat) (p0 : Option Nat) (z : Int32) (hy : Way_isLike h this p0 = some z) : g_CT l B y_Way_isLike k_Way_isLike [.ref this, va_rf p0] h (.inl (some (.int z))) h := by
  refine g_start2 (Lc := [(0, .ref this), (1, va_rf p0)]) (by decide) rfl rfl (by rcases p0 with _ | p0 <;> exact Nat.le_of_ble_eq_true rfl) (by rcases p0 with _ | p0 <;> rfl) fun X => ?_
  unfold Way_isLike at hy
  refine g_aload_n 0 (i := 0) (pc' := 1) d_Way_isLike_0 rfl rfl rfl ?_
  replace hy := g_gI_inv hy
  obtain ⟨fs1, x2, hc3, hv4, hy⟩ := hy
  refine g_getf (pc' := 4) d_Way_isLike_1 hc3 rfl (by decide) hv4 q628 (Or.inl rfl) rfl ?_
  refine g_aloadO_n 1 (i := 1) (pc' := 5) d_Way_isLike_4 rfl rfl rfl ?_
  replace hy := g_nn_inv hy
  obtain ⟨a5, rfl, hy⟩ := hy
  replace hy := g_gI_inv hy
  obtain ⟨fs6, x7, hc8, hv9, hy⟩ := hy
  refine g_getf (pc' := 8) d_Way_isLike_5 hc8 rfl (by decide) hv9 q628 (Or.inl rfl) rfl ?_
  by_cases c10 : x2 = x7
  · rw [if_pos c10] at hy
    refine g_icmp_neF (pc' := 11) d_Way_isLike_8 15 c10 (by decide) rfl ?_
    refine g_iconst (v := (1 : Int32)) (pc' := 12) d_Way_isLike_11 (by decide) rfl ?_
    refine g_goto (pc' := 16) d_Way_isLike_12 (by decide) ?_
    exact W_Way_isLike_16 _ _ _ _ _ hy
  · rw [if_neg c10] at hy
    refine g_icmp_neT (pc' := 15) d_Way_isLike_8 c10 (by decide) ?_
    refine g_iconst (v := (0 : Int32)) (pc' := 16) d_Way_isLike_15 (by decide) rfl ?_
    exact W_Way_isLike_16 _ _ _ _ _ hy
theorem hd_Way_isLike : g_dsc y_Way_isLike 1 := ⟨by decide +kernel, by decide +kernel, by decide +kernel⟩
/-! CircuitDesk$Net.move(ILCircuitDesk$Way;)I -/
abbrev y_Net_move : MethodName := ⟨"CircuitDesk$Net", "move", "(ILCircuitDesk$Way;)I"⟩
abbrev k_Net_move : g_M := (prog_7_method_33_code, 4, "CircuitDesk$Net", 20, (some FieldType.int), "move", [], 0)
theorem d_Net_move_0 : decode prog_7_method_33_code 0 = .ok (.aload_n 0, 1) := by decide +kernel
theorem d_Net_move_1 : decode prog_7_method_33_code 1 = .ok (.getfield 27, 3) := by decide +kernel
theorem d_Net_move_4 : decode prog_7_method_33_code 4 = .ok (.iload_n 1, 1) := by decide +kernel
theorem d_Net_move_5 : decode prog_7_method_33_code 5 = .ok (.invokevirtual 116, 3) := by decide +kernel
theorem d_Net_move_8 : decode prog_7_method_33_code 8 = .ok (.checkcast 77, 3) := by decide +kernel
theorem d_Net_move_11 : decode prog_7_method_33_code 11 = .ok (.astore_n 3, 1) := by decide +kernel
theorem d_Net_move_12 : decode prog_7_method_33_code 12 = .ok (.aload_n 0, 1) := by decide +kernel
theorem d_Net_move_13 : decode prog_7_method_33_code 13 = .ok (.aload_n 3, 1) := by decide +kernel
theorem d_Net_move_14 : decode prog_7_method_33_code 14 = .ok (.invokevirtual 343, 3) := by decide +kernel
theorem d_Net_move_17 : decode prog_7_method_33_code 17 = .ok (.ifCond .eq 5, 3) := by decide +kernel
theorem d_Net_move_20 : decode prog_7_method_33_code 20 = .ok (.iconst 2, 1) := by decide +kernel
theorem d_Net_move_21 : decode prog_7_method_33_code 21 = .ok (.ireturn, 1) := by decide +kernel
theorem d_Net_move_22 : decode prog_7_method_33_code 22 = .ok (.aload_n 2, 1) := by decide +kernel
theorem d_Net_move_23 : decode prog_7_method_33_code 23 = .ok (.ifnull 26, 3) := by decide +kernel
theorem d_Net_move_26 : decode prog_7_method_33_code 26 = .ok (.aload_n 2, 1) := by decide +kernel
theorem d_Net_move_27 : decode prog_7_method_33_code 27 = .ok (.aload_n 3, 1) := by decide +kernel
theorem d_Net_move_28 : decode prog_7_method_33_code 28 = .ok (.getfield 143, 3) := by decide +kernel
theorem d_Net_move_31 : decode prog_7_method_33_code 31 = .ok (.getfield 138, 3) := by decide +kernel
theorem d_Net_move_34 : decode prog_7_method_33_code 34 = .ok (.iconst 0, 1) := by decide +kernel
theorem d_Net_move_35 : decode prog_7_method_33_code 35 = .ok (.iaload, 1) := by decide +kernel
theorem d_Net_move_36 : decode prog_7_method_33_code 36 = .ok (.aload_n 3, 1) := by decide +kernel
theorem d_Net_move_37 : decode prog_7_method_33_code 37 = .ok (.getfield 143, 3) := by decide +kernel
theorem d_Net_move_40 : decode prog_7_method_33_code 40 = .ok (.invokevirtual 346, 3) := by decide +kernel
theorem d_Net_move_43 : decode prog_7_method_33_code 43 = .ok (.invokevirtual 349, 3) := by decide +kernel
theorem d_Net_move_46 : decode prog_7_method_33_code 46 = .ok (.ifCond .ne 5, 3) := by decide +kernel
theorem d_Net_move_49 : decode prog_7_method_33_code 49 = .ok (.iconst 3, 1) := by decide +kernel
theorem d_Net_move_50 : decode prog_7_method_33_code 50 = .ok (.ireturn, 1) := by decide +kernel
theorem d_Net_move_51 : decode prog_7_method_33_code 51 = .ok (.aload_n 2, 1) := by decide +kernel
theorem d_Net_move_52 : decode prog_7_method_33_code 52 = .ok (.aload_n 3, 1) := by decide +kernel
theorem d_Net_move_53 : decode prog_7_method_33_code 53 = .ok (.getfield 143, 3) := by decide +kernel
theorem d_Net_move_56 : decode prog_7_method_33_code 56 = .ok (.invokevirtual 352, 3) := by decide +kernel
theorem d_Net_move_59 : decode prog_7_method_33_code 59 = .ok (.ifCond .eq 5, 3) := by decide +kernel
theorem d_Net_move_62 : decode prog_7_method_33_code 62 = .ok (.iconst 4, 1) := by decide +kernel
theorem d_Net_move_63 : decode prog_7_method_33_code 63 = .ok (.ireturn, 1) := by decide +kernel
theorem d_Net_move_64 : decode prog_7_method_33_code 64 = .ok (.aload_n 0, 1) := by decide +kernel
theorem d_Net_move_65 : decode prog_7_method_33_code 65 = .ok (.aload_n 2, 1) := by decide +kernel
theorem d_Net_move_66 : decode prog_7_method_33_code 66 = .ok (.aload_n 3, 1) := by decide +kernel
theorem d_Net_move_67 : decode prog_7_method_33_code 67 = .ok (.getfield 153, 3) := by decide +kernel
theorem d_Net_move_70 : decode prog_7_method_33_code 70 = .ok (.iload_n 1, 1) := by decide +kernel
theorem d_Net_move_71 : decode prog_7_method_33_code 71 = .ok (.invokevirtual 327, 3) := by decide +kernel
theorem d_Net_move_74 : decode prog_7_method_33_code 74 = .ok (.ifCond .ne 5, 3) := by decide +kernel
theorem d_Net_move_77 : decode prog_7_method_33_code 77 = .ok (.iconst 5, 1) := by decide +kernel
theorem d_Net_move_78 : decode prog_7_method_33_code 78 = .ok (.ireturn, 1) := by decide +kernel
theorem d_Net_move_79 : decode prog_7_method_33_code 79 = .ok (.aload_n 0, 1) := by decide +kernel
theorem d_Net_move_80 : decode prog_7_method_33_code 80 = .ok (.aload_n 2, 1) := by decide +kernel
theorem d_Net_move_81 : decode prog_7_method_33_code 81 = .ok (.iload_n 1, 1) := by decide +kernel
theorem d_Net_move_82 : decode prog_7_method_33_code 82 = .ok (.iconst 1, 1) := by decide +kernel
theorem d_Net_move_83 : decode prog_7_method_33_code 83 = .ok (.invokevirtual 330, 3) := by decide +kernel
theorem d_Net_move_86 : decode prog_7_method_33_code 86 = .ok (.ifCond .ne 6, 3) := by decide +kernel
theorem d_Net_move_89 : decode prog_7_method_33_code 89 = .ok (.bipush 6, 2) := by decide +kernel
theorem d_Net_move_91 : decode prog_7_method_33_code 91 = .ok (.ireturn, 1) := by decide +kernel
theorem d_Net_move_92 : decode prog_7_method_33_code 92 = .ok (.aload_n 3, 1) := by decide +kernel
theorem d_Net_move_93 : decode prog_7_method_33_code 93 = .ok (.aload_n 2, 1) := by decide +kernel
theorem d_Net_move_94 : decode prog_7_method_33_code 94 = .ok (.putfield 151, 3) := by decide +kernel
theorem d_Net_move_97 : decode prog_7_method_33_code 97 = .ok (.aload_n 3, 1) := by decide +kernel
theorem d_Net_move_98 : decode prog_7_method_33_code 98 = .ok (.iconst 1, 1) := by decide +kernel
theorem d_Net_move_99 : decode prog_7_method_33_code 99 = .ok (.putfield 315, 3) := by decide +kernel
theorem d_Net_move_102 : decode prog_7_method_33_code 102 = .ok (.aload_n 3, 1) := by decide +kernel
theorem d_Net_move_103 : decode prog_7_method_33_code 103 = .ok (.iconst 0, 1) := by decide +kernel
theorem d_Net_move_104 : decode prog_7_method_33_code 104 = .ok (.putfield 356, 3) := by decide +kernel
theorem d_Net_move_107 : decode prog_7_method_33_code 107 = .ok (.iconst 0, 1) := by decide +kernel
theorem d_Net_move_108 : decode prog_7_method_33_code 108 = .ok (.ireturn, 1) := by decide +kernel
def Net_move (h : g_AH) (this : Nat) (p0 : Int32) (p1 : Option Nat) : Option (Int32 × g_AH) :=
  g_gR h this 1 3 fun x2 => g_nn x2 fun a5 => g_is h a5 15 <| g_b (ArrayList_get h a5 p0) fun x8 => g_ck h x8 12 <| g_is h this 1 <| g_b (Net_isMoving h this x8) fun x14 => if x14 = 0 then (if p1 = none then (some ((3 : Int32), h)) else (g_nn x8 fun a19 => g_gR h a19 12 2 fun x21 => g_nn x21 fun a24 => g_gR h a24 6 0 fun x26 => g_nn x26 fun a29 => g_aI h 0 a29 (0 : Int32) fun x30 => g_gR h a19 12 2 fun x36 => g_nn x36 fun a39 => g_is h a39 6 <| g_b (Way_last h a39) fun x42 => g_nn p1 fun a45 => g_is h a45 6 <| g_b (Way_goes h a45 x30 x42) fun x48 => if x48 = 0 then (some ((3 : Int32), h)) else (g_gR h a19 12 2 fun x53 => g_is h a45 6 <| g_b (Way_isLike h a45 x53) fun x58 => if x58 = 0 then (g_gI h a19 12 0 fun x63 => g_is h this 1 <| g_b (Net_hasRoom1 h this (some a45) x63 p0) fun x68 => if x68 = 0 then (some ((5 : Int32), h)) else (g_is h this 1 <| g_b2 (Net_labelAll h this (some a45) p0 (1 : Int32)) fun x74 h75 => if x74 = 0 then (some ((6 : Int32), h75)) else (g_pF h75 a19 12 3 (.ref a45) fun h81 => g_pF h81 a19 12 4 (.int (1 : Int32)) fun h85 => g_pF h85 a19 12 5 (.int (0 : Int32)) fun h89 => some ((0 : Int32), h89)))) else (some ((4 : Int32), h))))) else (some ((2 : Int32), h))
set_option maxHeartbeats 4000000 in
set_option maxRecDepth 100000 in
theorem T_Net_move {l : Launch} {B : g_B} (h : g_AH) (this : Nat) (p0 : Int32) (p1 : Option Nat) (z : Int32 × g_AH) (hy : Net_move h this p0 p1 = some z) : g_CT l B y_Net_move k_Net_move [.ref this, .int p0, va_rf p1] h (.inl (some (.int z.1))) z.2 := by
  refine g_start2 (Lc := [(0, .ref this), (1, .int p0), (2, va_rf p1)]) (by decide) rfl rfl (by rcases p1 with _ | p1 <;> exact Nat.le_of_ble_eq_true rfl) (by rcases p1 with _ | p1 <;> rfl) fun X => ?_
  unfold Net_move at hy
  refine g_aload_n 0 (i := 0) (pc' := 1) d_Net_move_0 rfl rfl rfl ?_
  replace hy := g_gR_inv hy
  obtain ⟨fs1, x2, hc3, hv4, hy⟩ := hy
  refine g_getf (pc' := 4) d_Net_move_1 hc3 rfl (by decide) hv4 q555 (Or.inl rfl) rfl ?_
  refine g_iload_n 1 (i := 1) (pc' := 5) d_Net_move_4 rfl rfl rfl ?_
  replace hy := g_nn_inv hy
  obtain ⟨a5, rfl, hy⟩ := hy
  replace hy := g_is_inv hy
  obtain ⟨fs6, hc7, hy⟩ := hy
  replace hy := g_b_inv hy
  obtain ⟨x8, hf10, hy⟩ := hy
  refine g_callV (rv := some (va_rf x8)) (h1 := h) (pc' := 8) (As := [.int p0]) (rest := []) 1 (T_ArrayList_get (hy := hf10)) d_Net_move_5 hc7 rfl rfl q682 q683 q684 q112 q685 hd_ArrayList_get rfl ⟨by decide, by decide⟩ (by first | exact Nat.le_of_ble_eq_true rfl | (simp only [List.map, List.sum_cons, List.sum_nil, g_cat_rf]; exact Nat.le_of_ble_eq_true rfl) | (simp only [List.map, List.sum_cons, List.sum_nil, g_cat_rf, Value.category]; decide)) rfl ?_
  replace hy := g_ck_inv hy
  obtain ⟨hk11, hy⟩ := hy
  refine g_castO (pc' := 11) d_Net_move_8 hk11 rfl q696 rfl ?_
  refine g_astoreO_n (i := 3) (pc' := 12) (Lc' := [(3, va_rf x8), (0, .ref this), (1, .int p0), (2, va_rf p1)]) d_Net_move_11 rfl (by decide) (by cases p1 <;> rfl) rfl ?_
  refine g_aload_n 1 (i := 0) (pc' := 13) d_Net_move_12 rfl rfl rfl ?_
  refine g_aloadO_n 0 (i := 3) (pc' := 14) d_Net_move_13 rfl rfl rfl ?_
  replace hy := g_is_inv hy
  obtain ⟨fs12, hc13, hy⟩ := hy
  replace hy := g_b_inv hy
  obtain ⟨x14, hf16, hy⟩ := hy
  refine g_callV (rv := some (.int x14)) (h1 := h) (pc' := 17) (As := [va_rf x8]) (rest := []) 1 (T_Net_isMoving (hy := hf16)) d_Net_move_14 hc13 rfl rfl q1639 q1506 q1507 q109 q1508 hd_Net_isMoving rfl ⟨by decide, by decide⟩ (by first | exact Nat.le_of_ble_eq_true rfl | (simp only [List.map, List.sum_cons, List.sum_nil, g_cat_rf]; exact Nat.le_of_ble_eq_true rfl) | (simp only [List.map, List.sum_cons, List.sum_nil, g_cat_rf, Value.category]; decide)) rfl ?_
  by_cases c17 : x14 = 0
  · rw [if_pos c17] at hy
    refine g_if_eqT (pc' := 22) d_Net_move_17 c17 (by decide) ?_
    refine g_aloadO_n 3 (i := 2) (pc' := 23) d_Net_move_22 rfl rfl rfl ?_
    by_cases c18 : p1 = none
    · rw [if_pos c18] at hy
      refine g_ifnullT (pc' := 49) d_Net_move_23 c18 (by decide) ?_
      refine g_iconst (v := (3 : Int32)) (pc' := 50) d_Net_move_49 (by decide) rfl ?_
      cases hy
      exact g_iret rfl rfl rfl d_Net_move_50
    · rw [if_neg c18] at hy
      refine g_ifnullF (pc' := 26) d_Net_move_23 c18 rfl ?_
      refine g_aloadO_n 3 (i := 2) (pc' := 27) d_Net_move_26 rfl rfl rfl ?_
      refine g_aloadO_n 0 (i := 3) (pc' := 28) d_Net_move_27 rfl rfl rfl ?_
      replace hy := g_nn_inv hy
      obtain ⟨a19, rfl, hy⟩ := hy
      replace hy := g_gR_inv hy
      obtain ⟨fs20, x21, hc22, hv23, hy⟩ := hy
      refine g_getfN (pc' := 31) d_Net_move_28 hc22 rfl (by decide) hv23 q1155 rfl rfl ?_
      replace hy := g_nn_inv hy
      obtain ⟨a24, rfl, hy⟩ := hy
      replace hy := g_gR_inv hy
      obtain ⟨fs25, x26, hc27, hv28, hy⟩ := hy
      refine g_getfN (pc' := 34) d_Net_move_31 hc27 rfl (by decide) hv28 q617 rfl rfl ?_
      refine g_iconst (v := (0 : Int32)) (pc' := 35) d_Net_move_34 (by decide) rfl ?_
      replace hy := g_nn_inv hy
      obtain ⟨a29, rfl, hy⟩ := hy
      replace hy := g_aI_inv hy
      obtain ⟨n31, f32, hc33, hi34, hy⟩ := hy
      refine g_iald (pc' := 36) d_Net_move_35 hc33 hi34 rfl ?_
      generalize f32 ((0 : Int32)).toNatClampNeg = x30 at hy ⊢
      refine g_aload_n 0 (i := 3) (pc' := 37) d_Net_move_36 rfl rfl rfl ?_
      replace hy := g_gR_inv hy
      obtain ⟨fs35, x36, hc37, hv38, hy⟩ := hy
      refine g_getfN (pc' := 40) d_Net_move_37 hc37 rfl (by decide) hv38 q1155 rfl rfl ?_
      replace hy := g_nn_inv hy
      obtain ⟨a39, rfl, hy⟩ := hy
      replace hy := g_is_inv hy
      obtain ⟨fs40, hc41, hy⟩ := hy
      replace hy := g_b_inv hy
      obtain ⟨x42, hf44, hy⟩ := hy
      refine g_callV (rv := some (.int x42)) (h1 := h) (pc' := 43) (As := []) (rest := [.int x30, va_rf p1]) 0 (T_Way_last (hy := hf44)) d_Net_move_40 hc41 rfl rfl q1660 q723 q724 q134 q725 hd_Way_last rfl ⟨by decide, by decide⟩ (by first | exact Nat.le_of_ble_eq_true rfl | (simp only [List.map, List.sum_cons, List.sum_nil, g_cat_rf]; exact Nat.le_of_ble_eq_true rfl) | (simp only [List.map, List.sum_cons, List.sum_nil, g_cat_rf, Value.category]; decide)) rfl ?_
      replace hy := g_nn_inv hy
      obtain ⟨a45, rfl, hy⟩ := hy
      replace hy := g_is_inv hy
      obtain ⟨fs46, hc47, hy⟩ := hy
      replace hy := g_b_inv hy
      obtain ⟨x48, hf50, hy⟩ := hy
      refine g_callV (rv := some (.int x48)) (h1 := h) (pc' := 46) (As := [.int x30, .int x42]) (rest := []) 2 (T_Way_goes (hy := hf50)) d_Net_move_43 hc47 rfl rfl q1661 q1662 q1663 q134 q1664 hd_Way_goes rfl ⟨by decide, by decide⟩ (by first | exact Nat.le_of_ble_eq_true rfl | (simp only [List.map, List.sum_cons, List.sum_nil, g_cat_rf]; exact Nat.le_of_ble_eq_true rfl) | (simp only [List.map, List.sum_cons, List.sum_nil, g_cat_rf, Value.category]; decide)) rfl ?_
      by_cases c51 : x48 = 0
      · rw [if_pos c51] at hy
        refine g_if_neF (pc' := 49) d_Net_move_46 51 c51 (by decide) rfl ?_
        refine g_iconst (v := (3 : Int32)) (pc' := 50) d_Net_move_49 (by decide) rfl ?_
        cases hy
        exact g_iret rfl rfl rfl d_Net_move_50
      · rw [if_neg c51] at hy
        refine g_if_neT (pc' := 51) d_Net_move_46 c51 (by decide) ?_
        refine g_aload_n 3 (i := 2) (pc' := 52) d_Net_move_51 rfl rfl rfl ?_
        refine g_aload_n 0 (i := 3) (pc' := 53) d_Net_move_52 rfl rfl rfl ?_
        replace hy := g_gR_inv hy
        obtain ⟨fs52, x53, hc54, hv55, hy⟩ := hy
        refine g_getfN (pc' := 56) d_Net_move_53 hc54 rfl (by decide) hv55 q1155 rfl rfl ?_
        replace hy := g_is_inv hy
        obtain ⟨fs56, hc57, hy⟩ := hy
        replace hy := g_b_inv hy
        obtain ⟨x58, hf60, hy⟩ := hy
        refine g_callV (rv := some (.int x58)) (h1 := h) (pc' := 59) (As := [va_rf x53]) (rest := []) 1 (T_Way_isLike (hy := hf60)) d_Net_move_56 hc57 rfl rfl q1665 q1666 q1667 q134 q1668 hd_Way_isLike rfl ⟨by decide, by decide⟩ (by first | exact Nat.le_of_ble_eq_true rfl | (simp only [List.map, List.sum_cons, List.sum_nil, g_cat_rf]; exact Nat.le_of_ble_eq_true rfl) | (simp only [List.map, List.sum_cons, List.sum_nil, g_cat_rf, Value.category]; decide)) rfl ?_
        by_cases c61 : x58 = 0
        · rw [if_pos c61] at hy
          refine g_if_eqT (pc' := 64) d_Net_move_59 c61 (by decide) ?_
          refine g_aload_n 1 (i := 0) (pc' := 65) d_Net_move_64 rfl rfl rfl ?_
          refine g_aload_n 3 (i := 2) (pc' := 66) d_Net_move_65 rfl rfl rfl ?_
          refine g_aload_n 0 (i := 3) (pc' := 67) d_Net_move_66 rfl rfl rfl ?_
          replace hy := g_gI_inv hy
          obtain ⟨fs62, x63, hc64, hv65, hy⟩ := hy
          refine g_getfN (pc' := 70) d_Net_move_67 hc64 rfl (by decide) hv65 q1147 rfl rfl ?_
          refine g_iload_n 2 (i := 1) (pc' := 71) d_Net_move_70 rfl rfl rfl ?_
          replace hy := g_is_inv hy
          obtain ⟨fs66, hc67, hy⟩ := hy
          replace hy := g_b_inv hy
          obtain ⟨x68, hf70, hy⟩ := hy
          refine g_callV (rv := some (.int x68)) (h1 := h) (pc' := 74) (As := [va_rf (some a45), .int x63, .int p0]) (rest := []) 3 (T_Net_hasRoom1 (hy := hf70)) d_Net_move_71 hc67 rfl rfl q1603 q1604 q1605 q109 q1606 hd_Net_hasRoom1 rfl ⟨by decide, by decide⟩ (by first | exact Nat.le_of_ble_eq_true rfl | (simp only [List.map, List.sum_cons, List.sum_nil, g_cat_rf]; exact Nat.le_of_ble_eq_true rfl) | (simp only [List.map, List.sum_cons, List.sum_nil, g_cat_rf, Value.category]; decide)) rfl ?_
          by_cases c71 : x68 = 0
          · rw [if_pos c71] at hy
            refine g_if_neF (pc' := 77) d_Net_move_74 79 c71 (by decide) rfl ?_
            refine g_iconst (v := (5 : Int32)) (pc' := 78) d_Net_move_77 (by decide) rfl ?_
            cases hy
            exact g_iret rfl rfl rfl d_Net_move_78
          · rw [if_neg c71] at hy
            refine g_if_neT (pc' := 79) d_Net_move_74 c71 (by decide) ?_
            refine g_aload_n 1 (i := 0) (pc' := 80) d_Net_move_79 rfl rfl rfl ?_
            refine g_aload_n 3 (i := 2) (pc' := 81) d_Net_move_80 rfl rfl rfl ?_
            refine g_iload_n 2 (i := 1) (pc' := 82) d_Net_move_81 rfl rfl rfl ?_
            refine g_iconst (v := (1 : Int32)) (pc' := 83) d_Net_move_82 (by decide) rfl ?_
            replace hy := g_is_inv hy
            obtain ⟨fs72, hc73, hy⟩ := hy
            replace hy := g_b2_inv hy
            obtain ⟨x74, h75, hf76, hy⟩ := hy
            refine g_callV (rv := some (.int x74)) (h1 := h75) (pc' := 86) (As := [va_rf (some a45), .int p0, .int (1 : Int32)]) (rest := []) 3 (T_Net_labelAll (hy := hf76)) d_Net_move_83 hc73 rfl rfl q1608 q1609 q1610 q109 q1611 hd_Net_labelAll rfl ⟨by decide, by decide⟩ (by first | exact Nat.le_of_ble_eq_true rfl | (simp only [List.map, List.sum_cons, List.sum_nil, g_cat_rf]; exact Nat.le_of_ble_eq_true rfl) | (simp only [List.map, List.sum_cons, List.sum_nil, g_cat_rf, Value.category]; decide)) rfl ?_
            by_cases c77 : x74 = 0
            · rw [if_pos c77] at hy
              refine g_if_neF (pc' := 89) d_Net_move_86 92 c77 (by decide) rfl ?_
              refine g_bipush (v := (6 : Int32)) (pc' := 91) d_Net_move_89 (by decide) rfl ?_
              cases hy
              exact g_iret rfl rfl rfl d_Net_move_91
            · rw [if_neg c77] at hy
              refine g_if_neT (pc' := 92) d_Net_move_86 c77 (by decide) ?_
              refine g_aload_n 0 (i := 3) (pc' := 93) d_Net_move_92 rfl rfl rfl ?_
              refine g_aload_n 3 (i := 2) (pc' := 94) d_Net_move_93 rfl rfl rfl ?_
              replace hy := g_pF_inv hy
              obtain ⟨fs78, hc79, hl80, hy⟩ := hy
              refine g_putfN (pc' := 97) d_Net_move_94 hc79 rfl (by decide) hl80 rfl rfl rfl q1161 rfl rfl ?_
              generalize g_up h75 a19 (.inr (12, fs78.set 3 (.ref a45))) = h81 at hy ⊢
              refine g_aload_n 0 (i := 3) (pc' := 98) d_Net_move_97 rfl rfl rfl ?_
              refine g_iconst (v := (1 : Int32)) (pc' := 99) d_Net_move_98 (by decide) rfl ?_
              replace hy := g_pF_inv hy
              obtain ⟨fs82, hc83, hl84, hy⟩ := hy
              refine g_putfN (pc' := 102) d_Net_move_99 hc83 rfl (by decide) hl84 rfl rfl rfl q1167 rfl rfl ?_
              generalize g_up h81 a19 (.inr (12, fs82.set 4 (.int (1 : Int32)))) = h85 at hy ⊢
              refine g_aload_n 0 (i := 3) (pc' := 103) d_Net_move_102 rfl rfl rfl ?_
              refine g_iconst (v := (0 : Int32)) (pc' := 104) d_Net_move_103 (by decide) rfl ?_
              replace hy := g_pF_inv hy
              obtain ⟨fs86, hc87, hl88, hy⟩ := hy
              refine g_putfN (pc' := 107) d_Net_move_104 hc87 rfl (by decide) hl88 rfl rfl rfl q1173 rfl rfl ?_
              generalize g_up h85 a19 (.inr (12, fs86.set 5 (.int (0 : Int32)))) = h89 at hy ⊢
              refine g_iconst (v := (0 : Int32)) (pc' := 108) d_Net_move_107 (by decide) rfl ?_
              cases hy
              exact g_iret rfl rfl rfl d_Net_move_108
        · rw [if_neg c61] at hy
          refine g_if_eqF (pc' := 62) d_Net_move_59 64 c61 (by decide) rfl ?_
          refine g_iconst (v := (4 : Int32)) (pc' := 63) d_Net_move_62 (by decide) rfl ?_
          cases hy
          exact g_iret rfl rfl rfl d_Net_move_63
  · rw [if_neg c17] at hy
    refine g_if_eqF (pc' := 20) d_Net_move_17 22 c17 (by decide) rfl ?_
    refine g_iconst (v := (2 : Int32)) (pc' := 21) d_Net_move_20 (by decide) rfl ?_
    cases hy
    exact g_iret rfl rfl rfl d_Net_move_21
theorem hd_Net_move : g_dsc y_Net_move 2 := ⟨by decide +kernel, by decide +kernel, by decide +kernel⟩
/-! CircuitDesk.move(I)I -/
abbrev y_Desk_move : MethodName := ⟨"CircuitDesk", "move", "(I)I"⟩
abbrev k_Desk_move : g_M := (prog_1_method_29_code, 4, "CircuitDesk", 21, (some FieldType.int), "move", [], 0)
theorem d_Desk_move_0 : decode prog_1_method_29_code 0 = .ok (.aload_n 0, 1) := by decide +kernel
theorem d_Desk_move_1 : decode prog_1_method_29_code 1 = .ok (.iload_n 1, 1) := by decide +kernel
theorem d_Desk_move_2 : decode prog_1_method_29_code 2 = .ok (.invokevirtual 263, 3) := by decide +kernel
theorem d_Desk_move_5 : decode prog_1_method_29_code 5 = .ok (.astore_n 2, 1) := by decide +kernel
theorem d_Desk_move_6 : decode prog_1_method_29_code 6 = .ok (.aload_n 0, 1) := by decide +kernel
theorem d_Desk_move_7 : decode prog_1_method_29_code 7 = .ok (.getfield 19, 3) := by decide +kernel
theorem d_Desk_move_10 : decode prog_1_method_29_code 10 = .ok (.iload_n 1, 1) := by decide +kernel
theorem d_Desk_move_11 : decode prog_1_method_29_code 11 = .ok (.aload_n 0, 1) := by decide +kernel
theorem d_Desk_move_12 : decode prog_1_method_29_code 12 = .ok (.getfield 28, 3) := by decide +kernel
theorem d_Desk_move_15 : decode prog_1_method_29_code 15 = .ok (.invokevirtual 270, 3) := by decide +kernel
theorem d_Desk_move_18 : decode prog_1_method_29_code 18 = .ok (.istore_n 3, 1) := by decide +kernel
theorem d_Desk_move_19 : decode prog_1_method_29_code 19 = .ok (.iload_n 3, 1) := by decide +kernel
theorem d_Desk_move_20 : decode prog_1_method_29_code 20 = .ok (.ifCond .ne 14, 3) := by decide +kernel
theorem d_Desk_move_23 : decode prog_1_method_29_code 23 = .ok (.aload_n 0, 1) := by decide +kernel
theorem d_Desk_move_24 : decode prog_1_method_29_code 24 = .ok (.new 25, 3) := by decide +kernel
theorem d_Desk_move_27 : decode prog_1_method_29_code 27 = .ok (.dup, 1) := by decide +kernel
theorem d_Desk_move_28 : decode prog_1_method_29_code 28 = .ok (.invokespecial 27, 3) := by decide +kernel
theorem d_Desk_move_31 : decode prog_1_method_29_code 31 = .ok (.putfield 28, 3) := by decide +kernel
theorem d_Desk_move_34 : decode prog_1_method_29_code 34 = .ok (.iload_n 3, 1) := by decide +kernel
theorem d_Desk_move_35 : decode prog_1_method_29_code 35 = .ok (.ireturn, 1) := by decide +kernel
def Desk_move (h : g_AH) (this : Nat) (p0 : Int32) : Option ((Int32 ⊕ g_EX) × g_AH) :=
  g_is h this 0 <| g_bx (Desk_circuitOf h this p0) fun x3 h4 => g_gR h4 this 0 0 fun x9 => g_gR h4 this 0 1 fun x13 => g_nn x9 fun a16 => g_is h4 a16 1 <| g_b2 (Net_move h4 a16 p0 x13) fun x19 h20 => if x19 = 0 then (g_mk h20 (.inr (6, [.null, .null, .null, .int 0])) 4 fun a23 h24 => g_b (Way_init h24 a23) fun h26 => g_pF h26 this 0 1 (.ref a23) fun h31 => some (.inl x19, h31)) else (some (.inl x19, h20))
set_option maxHeartbeats 4000000 in
set_option maxRecDepth 100000 in
theorem T_Desk_move {l : Launch} {B : g_B} (h : g_AH) (this : Nat) (p0 : Int32) (z : (Int32 ⊕ g_EX) × g_AH) (hy : Desk_move h this p0 = some z) : g_CT l B y_Desk_move k_Desk_move [.ref this, .int p0] h (g_rI z.1) z.2 := by
  refine g_start2 (Lc := [(0, .ref this), (1, .int p0)]) (by decide) rfl rfl (by exact Nat.le_of_ble_eq_true rfl) (by rfl) fun X => ?_
  unfold Desk_move at hy
  refine g_aload_n 0 (i := 0) (pc' := 1) d_Desk_move_0 rfl rfl rfl ?_
  refine g_iload_n 1 (i := 1) (pc' := 2) d_Desk_move_1 rfl rfl rfl ?_
  replace hy := g_is_inv hy
  obtain ⟨fs1, hc2, hy⟩ := hy
  replace hy := g_bx_inv hy
  rcases hy with ⟨x3, h4, hf5, hy⟩ | ⟨⟨E9, q9⟩, h4, hf5, ez7⟩
  rotate_left
  · subst ez7
    exact g_callVX (As := [.int p0]) (rest := []) 1 (T_Desk_circuitOf (hy := hf5)) d_Desk_move_2 hc2 rfl rfl q1631 q1633 qs22 q108 q1634 hd_Desk_circuitOf rfl ⟨by decide, by decide⟩ (by first | exact Nat.le_of_ble_eq_true rfl | (simp only [List.map, List.sum_cons, List.sum_nil, g_cat_rf]; exact Nat.le_of_ble_eq_true rfl) | (simp only [List.map, List.sum_cons, List.sum_nil, g_cat_rf, Value.category]; decide)) rfl rfl
  refine g_callV (rv := some (va_rf x3)) (h1 := h4) (pc' := 5) (As := [.int p0]) (rest := []) 1 (T_Desk_circuitOf (hy := hf5)) d_Desk_move_2 hc2 rfl rfl q1631 q1633 qs22 q108 q1634 hd_Desk_circuitOf rfl ⟨by decide, by decide⟩ (by first | exact Nat.le_of_ble_eq_true rfl | (simp only [List.map, List.sum_cons, List.sum_nil, g_cat_rf]; exact Nat.le_of_ble_eq_true rfl) | (simp only [List.map, List.sum_cons, List.sum_nil, g_cat_rf, Value.category]; decide)) rfl ?_
  refine g_astoreO_n (i := 2) (pc' := 6) (Lc' := [(2, va_rf x3), (0, .ref this), (1, .int p0)]) d_Desk_move_5 rfl (by decide) rfl rfl ?_
  refine g_aload_n 1 (i := 0) (pc' := 7) d_Desk_move_6 rfl rfl rfl ?_
  replace hy := g_gR_inv hy
  obtain ⟨fs8, x9, hc10, hv11, hy⟩ := hy
  refine g_getf (pc' := 10) d_Desk_move_7 hc10 rfl (by decide) hv11 q642 (Or.inl rfl) rfl ?_
  refine g_iload_n 2 (i := 1) (pc' := 11) d_Desk_move_10 rfl rfl rfl ?_
  refine g_aload_n 1 (i := 0) (pc' := 12) d_Desk_move_11 rfl rfl rfl ?_
  replace hy := g_gR_inv hy
  obtain ⟨fs12, x13, hc14, hv15, hy⟩ := hy
  refine g_getf (pc' := 15) d_Desk_move_12 hc14 rfl (by decide) hv15 q643 (Or.inl rfl) rfl ?_
  replace hy := g_nn_inv hy
  obtain ⟨a16, rfl, hy⟩ := hy
  replace hy := g_is_inv hy
  obtain ⟨fs17, hc18, hy⟩ := hy
  replace hy := g_b2_inv hy
  obtain ⟨x19, h20, hf21, hy⟩ := hy
  refine g_callV (rv := some (.int x19)) (h1 := h20) (pc' := 18) (As := [.int p0, va_rf x13]) (rest := []) 2 (T_Net_move (hy := hf21)) d_Desk_move_15 hc18 rfl rfl q1656 q1657 q1658 q109 q1659 hd_Net_move rfl ⟨by decide, by decide⟩ (by first | exact Nat.le_of_ble_eq_true rfl | (simp only [List.map, List.sum_cons, List.sum_nil, g_cat_rf]; exact Nat.le_of_ble_eq_true rfl) | (simp only [List.map, List.sum_cons, List.sum_nil, g_cat_rf, Value.category]; decide)) rfl ?_
  refine g_istore_n (i := 3) (pc' := 19) (Lc' := [(3, .int x19), (2, va_rf x3), (0, .ref this), (1, .int p0)]) d_Desk_move_18 rfl (by decide) (by cases x3 <;> rfl) rfl ?_
  refine g_iload_n 0 (i := 3) (pc' := 20) d_Desk_move_19 rfl rfl rfl ?_
  by_cases c22 : x19 = 0
  · rw [if_pos c22] at hy
    refine g_if_neF (pc' := 23) d_Desk_move_20 34 c22 (by decide) rfl ?_
    refine g_aload_n 2 (i := 0) (pc' := 24) d_Desk_move_23 rfl rfl rfl ?_
    replace hy := g_mk_inv hy
    refine g_new (ci := 6) (fs := [.null, .null, .null, .int 0]) (pc' := 27) d_Desk_move_24 rfl q610 q611 q134 gdf_6 rfl ?_
    generalize g_al h20 (.inr (6, [.null, .null, .null, .int 0])) 4 = h24 at hy ⊢
    generalize g_n h20 = a23 at hy ⊢
    refine g_dup (pc' := 28) d_Desk_move_27 rfl rfl ?_
    replace hy := g_b_inv hy
    obtain ⟨h26, hf27, hy⟩ := hy
    refine g_callIN (h1 := h26) (pc' := 31) (As := []) (rest := [.ref a23, .ref this]) 0 (T_Way_init (hy := hf27)) d_Desk_move_28 rfl rfl q612 q613 q134 q614 hd_Way_init rfl ⟨by decide, by decide⟩ (by first | exact Nat.le_of_ble_eq_true rfl | (simp only [List.map, List.sum_cons, List.sum_nil, g_cat_rf]; exact Nat.le_of_ble_eq_true rfl) | (simp only [List.map, List.sum_cons, List.sum_nil, g_cat_rf, Value.category]; decide)) rfl ?_
    replace hy := g_pF_inv hy
    obtain ⟨fs28, hc29, hl30, hy⟩ := hy
    refine g_putf (pc' := 34) d_Desk_move_31 hc29 rfl (by decide) hl30 rfl rfl rfl q643 (Or.inl rfl) rfl ?_
    generalize g_up h26 this (.inr (0, fs28.set 1 (.ref a23))) = h31 at hy ⊢
    refine g_iload_n 0 (i := 3) (pc' := 35) d_Desk_move_34 rfl rfl rfl ?_
    cases hy
    exact g_iret rfl rfl rfl d_Desk_move_35
  · rw [if_neg c22] at hy
    refine g_if_neT (pc' := 34) d_Desk_move_20 c22 (by decide) ?_
    refine g_iload_n 0 (i := 3) (pc' := 35) d_Desk_move_34 rfl rfl rfl ?_
    cases hy
    exact g_iret rfl rfl rfl d_Desk_move_35
theorem hd_Desk_move : g_dsc y_Desk_move 1 := ⟨by decide +kernel, by decide +kernel, by decide +kernel⟩
/-! CircuitDesk.checkBest(II)V -/
abbrev y_Desk_checkBest : MethodName := ⟨"CircuitDesk", "checkBest", "(II)V"⟩
abbrev k_Desk_checkBest : g_M := (prog_1_method_31_code, 4, "CircuitDesk", 19, none, "checkBest", [], 0)
theorem d_Desk_checkBest_0 : decode prog_1_method_31_code 0 = .ok (.aload_n 0, 1) := by decide +kernel
theorem d_Desk_checkBest_1 : decode prog_1_method_31_code 1 = .ok (.iload_n 1, 1) := by decide +kernel
theorem d_Desk_checkBest_2 : decode prog_1_method_31_code 2 = .ok (.invokevirtual 263, 3) := by decide +kernel
theorem d_Desk_checkBest_5 : decode prog_1_method_31_code 5 = .ok (.astore_n 3, 1) := by decide +kernel
theorem d_Desk_checkBest_6 : decode prog_1_method_31_code 6 = .ok (.iload_n 2, 1) := by decide +kernel
theorem d_Desk_checkBest_7 : decode prog_1_method_31_code 7 = .ok (.i2l, 1) := by decide +kernel
theorem d_Desk_checkBest_8 : decode prog_1_method_31_code 8 = .ok (.ldc2_w 280, 3) := by decide +kernel
theorem d_Desk_checkBest_11 : decode prog_1_method_31_code 11 = .ok (.aload_n 0, 1) := by decide +kernel
theorem d_Desk_checkBest_12 : decode prog_1_method_31_code 12 = .ok (.getfield 19, 3) := by decide +kernel
theorem d_Desk_checkBest_15 : decode prog_1_method_31_code 15 = .ok (.getfield 68, 3) := by decide +kernel
theorem d_Desk_checkBest_18 : decode prog_1_method_31_code 18 = .ok (.invokevirtual 48, 3) := by decide +kernel
theorem d_Desk_checkBest_21 : decode prog_1_method_31_code 21 = .ok (.iconst 1, 1) := by decide +kernel
theorem d_Desk_checkBest_22 : decode prog_1_method_31_code 22 = .ok (.isub, 1) := by decide +kernel
theorem d_Desk_checkBest_23 : decode prog_1_method_31_code 23 = .ok (.i2l, 1) := by decide +kernel
theorem d_Desk_checkBest_24 : decode prog_1_method_31_code 24 = .ok (.invokestatic 54, 3) := by decide +kernel
theorem d_Desk_checkBest_27 : decode prog_1_method_31_code 27 = .ok (.invokestatic 58, 3) := by decide +kernel
theorem d_Desk_checkBest_30 : decode prog_1_method_31_code 30 = .ok (.return_, 1) := by decide +kernel
def Desk_checkBest (h : g_AH) (this : Nat) (p0 : Int32) (p1 : Int32) : Option ((Unit ⊕ g_EX) × g_AH) :=
  g_is h this 0 <| g_bx (Desk_circuitOf h this p0) fun x3 h4 => g_gR h4 this 0 0 fun x9 => g_nn x9 fun a12 => g_gR h4 a12 1 2 fun x14 => g_nn x14 fun a17 => g_is h4 a17 15 <| g_b (ArrayList_size h4 a17) fun x20 => g_b (Desk_isBetween ((p1).toInt64) (-1 : Int64) (((x20 - (1 : Int32))).toInt64)) fun x23 => g_bx (Desk_checkIndex h4 x23) fun x26 h27 => some (.inl (), h27)
set_option maxHeartbeats 4000000 in
set_option maxRecDepth 100000 in
theorem T_Desk_checkBest {l : Launch} {B : g_B} (h : g_AH) (this : Nat) (p0 : Int32) (p1 : Int32) (z : (Unit ⊕ g_EX) × g_AH) (hy : Desk_checkBest h this p0 p1 = some z) : g_CT l B y_Desk_checkBest k_Desk_checkBest [.ref this, .int p0, .int p1] h (g_rV z.1) z.2 := by
  refine g_start2 (Lc := [(0, .ref this), (1, .int p0), (2, .int p1)]) (by decide) rfl rfl (by exact Nat.le_of_ble_eq_true rfl) (by rfl) fun X => ?_
  unfold Desk_checkBest at hy
  refine g_aload_n 0 (i := 0) (pc' := 1) d_Desk_checkBest_0 rfl rfl rfl ?_
  refine g_iload_n 1 (i := 1) (pc' := 2) d_Desk_checkBest_1 rfl rfl rfl ?_
  replace hy := g_is_inv hy
  obtain ⟨fs1, hc2, hy⟩ := hy
  replace hy := g_bx_inv hy
  rcases hy with ⟨x3, h4, hf5, hy⟩ | ⟨⟨E9, q9⟩, h4, hf5, ez7⟩
  rotate_left
  · subst ez7
    exact g_callVX (As := [.int p0]) (rest := []) 1 (T_Desk_circuitOf (hy := hf5)) d_Desk_checkBest_2 hc2 rfl rfl q1631 q1633 qs22 q108 q1634 hd_Desk_circuitOf rfl ⟨by decide, by decide⟩ (by first | exact Nat.le_of_ble_eq_true rfl | (simp only [List.map, List.sum_cons, List.sum_nil, g_cat_rf]; exact Nat.le_of_ble_eq_true rfl) | (simp only [List.map, List.sum_cons, List.sum_nil, g_cat_rf, Value.category]; decide)) rfl rfl
  refine g_callV (rv := some (va_rf x3)) (h1 := h4) (pc' := 5) (As := [.int p0]) (rest := []) 1 (T_Desk_circuitOf (hy := hf5)) d_Desk_checkBest_2 hc2 rfl rfl q1631 q1633 qs22 q108 q1634 hd_Desk_circuitOf rfl ⟨by decide, by decide⟩ (by first | exact Nat.le_of_ble_eq_true rfl | (simp only [List.map, List.sum_cons, List.sum_nil, g_cat_rf]; exact Nat.le_of_ble_eq_true rfl) | (simp only [List.map, List.sum_cons, List.sum_nil, g_cat_rf, Value.category]; decide)) rfl ?_
  refine g_astoreO_n (i := 3) (pc' := 6) (Lc' := [(3, va_rf x3), (0, .ref this), (1, .int p0), (2, .int p1)]) d_Desk_checkBest_5 rfl (by decide) rfl rfl ?_
  refine g_iload_n 3 (i := 2) (pc' := 7) d_Desk_checkBest_6 rfl rfl rfl ?_
  refine g_i2l (pc' := 8) d_Desk_checkBest_7 rfl ?_
  refine g_ldc2 (pc' := 11) d_Desk_checkBest_8 q1680 rfl ?_
  refine g_aload_n 1 (i := 0) (pc' := 12) d_Desk_checkBest_11 rfl rfl rfl ?_
  replace hy := g_gR_inv hy
  obtain ⟨fs8, x9, hc10, hv11, hy⟩ := hy
  refine g_getf (pc' := 15) d_Desk_checkBest_12 hc10 rfl (by decide) hv11 q642 (Or.inl rfl) rfl ?_
  replace hy := g_nn_inv hy
  obtain ⟨a12, rfl, hy⟩ := hy
  replace hy := g_gR_inv hy
  obtain ⟨fs13, x14, hc15, hv16, hy⟩ := hy
  refine g_getfN (pc' := 18) d_Desk_checkBest_15 hc15 rfl (by decide) hv16 q553 rfl rfl ?_
  replace hy := g_nn_inv hy
  obtain ⟨a17, rfl, hy⟩ := hy
  replace hy := g_is_inv hy
  obtain ⟨fs18, hc19, hy⟩ := hy
  replace hy := g_b_inv hy
  obtain ⟨x20, hf22, hy⟩ := hy
  refine g_callV (rv := some (.int x20)) (h1 := h4) (pc' := 21) (As := []) (rest := [.long (-1 : Int64), .long ((p1).toInt64)]) 0 (T_ArrayList_size (hy := hf22)) d_Desk_checkBest_18 hc19 rfl rfl q673 q674 q675 q112 q676 hd_ArrayList_size rfl ⟨by decide, by decide⟩ (by first | exact Nat.le_of_ble_eq_true rfl | (simp only [List.map, List.sum_cons, List.sum_nil, g_cat_rf]; exact Nat.le_of_ble_eq_true rfl) | (simp only [List.map, List.sum_cons, List.sum_nil, g_cat_rf, Value.category]; decide)) rfl ?_
  refine g_iconst (v := (1 : Int32)) (pc' := 22) d_Desk_checkBest_21 (by decide) rfl ?_
  refine g_isub (pc' := 23) d_Desk_checkBest_22 rfl ?_
  refine g_i2l (pc' := 24) d_Desk_checkBest_23 rfl ?_
  replace hy := g_b_inv hy
  obtain ⟨x23, hf25, hy⟩ := hy
  refine g_callS (rv := some (.int x23)) (h1 := h4) (pc' := 27) (As := [.long ((p1).toInt64), .long (-1 : Int64), .long (((x20 - (1 : Int32))).toInt64)]) (rest := []) 3 (T_Desk_isBetween (hy := hf25)) d_Desk_checkBest_24 q1330 q828 q108 q829 hd_Desk_isBetween rfl ⟨by decide, by decide⟩ (by first | exact Nat.le_of_ble_eq_true rfl | (simp only [List.map, List.sum_cons, List.sum_nil, g_cat_rf]; exact Nat.le_of_ble_eq_true rfl) | (simp only [List.map, List.sum_cons, List.sum_nil, g_cat_rf, Value.category]; decide)) rfl ?_
  replace hy := g_bx_inv hy
  rcases hy with ⟨x26, h27, hf28, hy⟩ | ⟨⟨E9, q9⟩, h27, hf28, ez30⟩
  rotate_left
  · subst ez30
    exact g_callSX (As := [.int x23]) (rest := []) 1 (T_Desk_checkIndex (hy := hf28)) d_Desk_checkBest_27 q1380 q1381 q108 q1382 hd_Desk_checkIndex rfl ⟨by decide, by decide⟩ (by first | exact Nat.le_of_ble_eq_true rfl | (simp only [List.map, List.sum_cons, List.sum_nil, g_cat_rf]; exact Nat.le_of_ble_eq_true rfl) | (simp only [List.map, List.sum_cons, List.sum_nil, g_cat_rf, Value.category]; decide)) rfl rfl
  refine g_callS (rv := none) (h1 := h27) (pc' := 30) (As := [.int x23]) (rest := []) 1 (T_Desk_checkIndex (hy := hf28)) d_Desk_checkBest_27 q1380 q1381 q108 q1382 hd_Desk_checkIndex rfl ⟨by decide, by decide⟩ (by first | exact Nat.le_of_ble_eq_true rfl | (simp only [List.map, List.sum_cons, List.sum_nil, g_cat_rf]; exact Nat.le_of_ble_eq_true rfl) | (simp only [List.map, List.sum_cons, List.sum_nil, g_cat_rf, Value.category]; decide)) rfl ?_
  cases hy
  exact g_vret rfl rfl rfl d_Desk_checkBest_30
theorem hd_Desk_checkBest : g_dsc y_Desk_checkBest 2 := ⟨by decide +kernel, by decide +kernel, by decide +kernel⟩
/-! CircuitDesk.moveBest(LCircuitDesk$Net;II)I -/
abbrev y_Desk_moveBest1 : MethodName := ⟨"CircuitDesk", "moveBest", "(LCircuitDesk$Net;II)I"⟩
abbrev k_Desk_moveBest1 : g_M := (prog_1_method_30_code, 4, "CircuitDesk", 26, (some FieldType.int), "moveBest", [], 0)
theorem d_Desk_moveBest1_0 : decode prog_1_method_30_code 0 = .ok (.aload_n 0, 1) := by decide +kernel
theorem d_Desk_moveBest1_1 : decode prog_1_method_30_code 1 = .ok (.getfield 73, 3) := by decide +kernel
theorem d_Desk_moveBest1_4 : decode prog_1_method_30_code 4 = .ok (.iload_n 1, 1) := by decide +kernel
theorem d_Desk_moveBest1_5 : decode prog_1_method_30_code 5 = .ok (.invokevirtual 62, 3) := by decide +kernel
theorem d_Desk_moveBest1_8 : decode prog_1_method_30_code 8 = .ok (.checkcast 76, 3) := by decide +kernel
theorem d_Desk_moveBest1_11 : decode prog_1_method_30_code 11 = .ok (.astore_n 3, 1) := by decide +kernel
theorem d_Desk_moveBest1_12 : decode prog_1_method_30_code 12 = .ok (.aload_n 0, 1) := by decide +kernel
theorem d_Desk_moveBest1_13 : decode prog_1_method_30_code 13 = .ok (.iload_n 1, 1) := by decide +kernel
theorem d_Desk_moveBest1_14 : decode prog_1_method_30_code 14 = .ok (.aload_n 0, 1) := by decide +kernel
theorem d_Desk_moveBest1_15 : decode prog_1_method_30_code 15 = .ok (.aload_n 3, 1) := by decide +kernel
theorem d_Desk_moveBest1_16 : decode prog_1_method_30_code 16 = .ok (.getfield 274, 3) := by decide +kernel
theorem d_Desk_moveBest1_19 : decode prog_1_method_30_code 19 = .ok (.getfield 257, 3) := by decide +kernel
theorem d_Desk_moveBest1_22 : decode prog_1_method_30_code 22 = .ok (.iconst 0, 1) := by decide +kernel
theorem d_Desk_moveBest1_23 : decode prog_1_method_30_code 23 = .ok (.iaload, 1) := by decide +kernel
theorem d_Desk_moveBest1_24 : decode prog_1_method_30_code 24 = .ok (.aload_n 3, 1) := by decide +kernel
theorem d_Desk_moveBest1_25 : decode prog_1_method_30_code 25 = .ok (.getfield 274, 3) := by decide +kernel
theorem d_Desk_moveBest1_28 : decode prog_1_method_30_code 28 = .ok (.invokevirtual 243, 3) := by decide +kernel
theorem d_Desk_moveBest1_31 : decode prog_1_method_30_code 31 = .ok (.aload_n 3, 1) := by decide +kernel
theorem d_Desk_moveBest1_32 : decode prog_1_method_30_code 32 = .ok (.getfield 277, 3) := by decide +kernel
theorem d_Desk_moveBest1_35 : decode prog_1_method_30_code 35 = .ok (.iload_n 1, 1) := by decide +kernel
theorem d_Desk_moveBest1_36 : decode prog_1_method_30_code 36 = .ok (.iload_n 2, 1) := by decide +kernel
theorem d_Desk_moveBest1_37 : decode prog_1_method_30_code 37 = .ok (.invokevirtual 253, 3) := by decide +kernel
theorem d_Desk_moveBest1_40 : decode prog_1_method_30_code 40 = .ok (.invokevirtual 270, 3) := by decide +kernel
theorem d_Desk_moveBest1_43 : decode prog_1_method_30_code 43 = .ok (.ireturn, 1) := by decide +kernel
def Desk_moveBest1 (h : g_AH) (p0 : Option Nat) (p1 : Int32) (p2 : Int32) : Option (Int32 × g_AH) :=
  g_nn p0 fun a1 => g_gR h a1 1 3 fun x3 => g_nn x3 fun a6 => g_is h a6 15 <| g_b (ArrayList_get h a6 p1) fun x9 => g_ck h x9 12 <| g_nn x9 fun a13 => g_gR h a13 12 2 fun x15 => g_nn x15 fun a18 => g_gR h a18 6 0 fun x20 => g_nn x20 fun a23 => g_aI h 0 a23 (0 : Int32) fun x24 => g_gR h a13 12 2 fun x30 => g_nn x30 fun a33 => g_is h a33 6 <| g_b (Way_last h a33) fun x36 => g_gI h a13 12 0 fun x40 => g_is h a1 1 <| g_b2 (Net_best h a1 x24 x36 x40 p1 p2) fun x45 h46 => g_is h46 a1 1 <| g_b2 (Net_move h46 a1 p1 x45) fun x50 h51 => some (x50, h51)
set_option maxHeartbeats 4000000 in
set_option maxRecDepth 100000 in
theorem T_Desk_moveBest1 {l : Launch} {B : g_B} (h : g_AH) (p0 : Option Nat) (p1 : Int32) (p2 : Int32) (z : Int32 × g_AH) (hy : Desk_moveBest1 h p0 p1 p2 = some z) : g_CT l B y_Desk_moveBest1 k_Desk_moveBest1 [va_rf p0, .int p1, .int p2] h (.inl (some (.int z.1))) z.2 := by
  refine g_start2 (Lc := [(0, va_rf p0), (1, .int p1), (2, .int p2)]) (by decide) rfl rfl (by rcases p0 with _ | p0 <;> exact Nat.le_of_ble_eq_true rfl) (by rcases p0 with _ | p0 <;> rfl) fun X => ?_
  unfold Desk_moveBest1 at hy
  refine g_aloadO_n 0 (i := 0) (pc' := 1) d_Desk_moveBest1_0 rfl rfl rfl ?_
  replace hy := g_nn_inv hy
  obtain ⟨a1, rfl, hy⟩ := hy
  replace hy := g_gR_inv hy
  obtain ⟨fs2, x3, hc4, hv5, hy⟩ := hy
  refine g_getfN (pc' := 4) d_Desk_moveBest1_1 hc4 rfl (by decide) hv5 q559 rfl rfl ?_
  refine g_iload_n 1 (i := 1) (pc' := 5) d_Desk_moveBest1_4 rfl rfl rfl ?_
  replace hy := g_nn_inv hy
  obtain ⟨a6, rfl, hy⟩ := hy
  replace hy := g_is_inv hy
  obtain ⟨fs7, hc8, hy⟩ := hy
  replace hy := g_b_inv hy
  obtain ⟨x9, hf11, hy⟩ := hy
  refine g_callV (rv := some (va_rf x9)) (h1 := h) (pc' := 8) (As := [.int p1]) (rest := []) 1 (T_ArrayList_get (hy := hf11)) d_Desk_moveBest1_5 hc8 rfl rfl q706 q683 q684 q112 q685 hd_ArrayList_get rfl ⟨by decide, by decide⟩ (by first | exact Nat.le_of_ble_eq_true rfl | (simp only [List.map, List.sum_cons, List.sum_nil, g_cat_rf]; exact Nat.le_of_ble_eq_true rfl) | (simp only [List.map, List.sum_cons, List.sum_nil, g_cat_rf, Value.category]; decide)) rfl ?_
  replace hy := g_ck_inv hy
  obtain ⟨hk12, hy⟩ := hy
  refine g_castO (pc' := 11) d_Desk_moveBest1_8 hk12 rfl q716 rfl ?_
  refine g_astoreO_n (i := 3) (pc' := 12) (Lc' := [(3, va_rf x9), (0, .ref a1), (1, .int p1), (2, .int p2)]) d_Desk_moveBest1_11 rfl (by decide) rfl rfl ?_
  refine g_aload_n 1 (i := 0) (pc' := 13) d_Desk_moveBest1_12 rfl rfl rfl ?_
  refine g_iload_n 2 (i := 1) (pc' := 14) d_Desk_moveBest1_13 rfl rfl rfl ?_
  refine g_aload_n 1 (i := 0) (pc' := 15) d_Desk_moveBest1_14 rfl rfl rfl ?_
  refine g_aloadO_n 0 (i := 3) (pc' := 16) d_Desk_moveBest1_15 rfl rfl rfl ?_
  replace hy := g_nn_inv hy
  obtain ⟨a13, rfl, hy⟩ := hy
  replace hy := g_gR_inv hy
  obtain ⟨fs14, x15, hc16, hv17, hy⟩ := hy
  refine g_getfN (pc' := 19) d_Desk_moveBest1_16 hc16 rfl (by decide) hv17 q1157 rfl rfl ?_
  replace hy := g_nn_inv hy
  obtain ⟨a18, rfl, hy⟩ := hy
  replace hy := g_gR_inv hy
  obtain ⟨fs19, x20, hc21, hv22, hy⟩ := hy
  refine g_getfN (pc' := 22) d_Desk_moveBest1_19 hc21 rfl (by decide) hv22 q618 rfl rfl ?_
  refine g_iconst (v := (0 : Int32)) (pc' := 23) d_Desk_moveBest1_22 (by decide) rfl ?_
  replace hy := g_nn_inv hy
  obtain ⟨a23, rfl, hy⟩ := hy
  replace hy := g_aI_inv hy
  obtain ⟨n25, f26, hc27, hi28, hy⟩ := hy
  refine g_iald (pc' := 24) d_Desk_moveBest1_23 hc27 hi28 rfl ?_
  generalize f26 ((0 : Int32)).toNatClampNeg = x24 at hy ⊢
  refine g_aload_n 0 (i := 3) (pc' := 25) d_Desk_moveBest1_24 rfl rfl rfl ?_
  replace hy := g_gR_inv hy
  obtain ⟨fs29, x30, hc31, hv32, hy⟩ := hy
  refine g_getfN (pc' := 28) d_Desk_moveBest1_25 hc31 rfl (by decide) hv32 q1157 rfl rfl ?_
  replace hy := g_nn_inv hy
  obtain ⟨a33, rfl, hy⟩ := hy
  replace hy := g_is_inv hy
  obtain ⟨fs34, hc35, hy⟩ := hy
  replace hy := g_b_inv hy
  obtain ⟨x36, hf38, hy⟩ := hy
  refine g_callV (rv := some (.int x36)) (h1 := h) (pc' := 31) (As := []) (rest := [.int x24, .ref a1, .int p1, .ref a1]) 0 (T_Way_last (hy := hf38)) d_Desk_moveBest1_28 hc35 rfl rfl q722 q723 q724 q134 q725 hd_Way_last rfl ⟨by decide, by decide⟩ (by first | exact Nat.le_of_ble_eq_true rfl | (simp only [List.map, List.sum_cons, List.sum_nil, g_cat_rf]; exact Nat.le_of_ble_eq_true rfl) | (simp only [List.map, List.sum_cons, List.sum_nil, g_cat_rf, Value.category]; decide)) rfl ?_
  refine g_aload_n 0 (i := 3) (pc' := 32) d_Desk_moveBest1_31 rfl rfl rfl ?_
  replace hy := g_gI_inv hy
  obtain ⟨fs39, x40, hc41, hv42, hy⟩ := hy
  refine g_getfN (pc' := 35) d_Desk_moveBest1_32 hc41 rfl (by decide) hv42 q1148 rfl rfl ?_
  refine g_iload_n 2 (i := 1) (pc' := 36) d_Desk_moveBest1_35 rfl rfl rfl ?_
  refine g_iload_n 3 (i := 2) (pc' := 37) d_Desk_moveBest1_36 rfl rfl rfl ?_
  replace hy := g_is_inv hy
  obtain ⟨fs43, hc44, hy⟩ := hy
  replace hy := g_b2_inv hy
  obtain ⟨x45, h46, hf47, hy⟩ := hy
  refine g_callV (rv := some (va_rf x45)) (h1 := h46) (pc' := 40) (As := [.int x24, .int x36, .int x40, .int p1, .int p2]) (rest := [.int p1, .ref a1]) 5 (T_Net_best (hy := hf47)) d_Desk_moveBest1_37 hc44 rfl rfl q726 q727 q728 q109 q729 hd_Net_best rfl ⟨by decide, by decide⟩ (by first | exact Nat.le_of_ble_eq_true rfl | (simp only [List.map, List.sum_cons, List.sum_nil, g_cat_rf]; exact Nat.le_of_ble_eq_true rfl) | (simp only [List.map, List.sum_cons, List.sum_nil, g_cat_rf, Value.category]; decide)) rfl ?_
  replace hy := g_is_inv hy
  obtain ⟨fs48, hc49, hy⟩ := hy
  replace hy := g_b2_inv hy
  obtain ⟨x50, h51, hf52, hy⟩ := hy
  refine g_callV (rv := some (.int x50)) (h1 := h51) (pc' := 43) (As := [.int p1, va_rf x45]) (rest := []) 2 (T_Net_move (hy := hf52)) d_Desk_moveBest1_40 hc49 rfl rfl q1656 q1657 q1658 q109 q1659 hd_Net_move rfl ⟨by decide, by decide⟩ (by first | exact Nat.le_of_ble_eq_true rfl | (simp only [List.map, List.sum_cons, List.sum_nil, g_cat_rf]; exact Nat.le_of_ble_eq_true rfl) | (simp only [List.map, List.sum_cons, List.sum_nil, g_cat_rf, Value.category]; decide)) rfl ?_
  cases hy
  exact g_iret rfl rfl rfl d_Desk_moveBest1_43
theorem hd_Desk_moveBest1 : g_dsc y_Desk_moveBest1 3 := ⟨by decide +kernel, by decide +kernel, by decide +kernel⟩
/-! CircuitDesk.moveBest(II)I -/
abbrev y_Desk_moveBest0 : MethodName := ⟨"CircuitDesk", "moveBest", "(II)I"⟩
abbrev k_Desk_moveBest0 : g_M := (prog_1_method_32_code, 3, "CircuitDesk", 27, (some FieldType.int), "moveBest", [], 0)
theorem d_Desk_moveBest0_0 : decode prog_1_method_32_code 0 = .ok (.aload_n 0, 1) := by decide +kernel
theorem d_Desk_moveBest0_1 : decode prog_1_method_32_code 1 = .ok (.iload_n 1, 1) := by decide +kernel
theorem d_Desk_moveBest0_2 : decode prog_1_method_32_code 2 = .ok (.iload_n 2, 1) := by decide +kernel
theorem d_Desk_moveBest0_3 : decode prog_1_method_32_code 3 = .ok (.invokevirtual 282, 3) := by decide +kernel
theorem d_Desk_moveBest0_6 : decode prog_1_method_32_code 6 = .ok (.aload_n 0, 1) := by decide +kernel
theorem d_Desk_moveBest0_7 : decode prog_1_method_32_code 7 = .ok (.getfield 19, 3) := by decide +kernel
theorem d_Desk_moveBest0_10 : decode prog_1_method_32_code 10 = .ok (.iload_n 1, 1) := by decide +kernel
theorem d_Desk_moveBest0_11 : decode prog_1_method_32_code 11 = .ok (.iload_n 2, 1) := by decide +kernel
theorem d_Desk_moveBest0_12 : decode prog_1_method_32_code 12 = .ok (.invokestatic 286, 3) := by decide +kernel
theorem d_Desk_moveBest0_15 : decode prog_1_method_32_code 15 = .ok (.ireturn, 1) := by decide +kernel
def Desk_moveBest0 (h : g_AH) (this : Nat) (p0 : Int32) (p1 : Int32) : Option ((Int32 ⊕ g_EX) × g_AH) :=
  g_is h this 0 <| g_bx (Desk_checkBest h this p0 p1) fun x3 h4 => g_gR h4 this 0 0 fun x9 => g_b2 (Desk_moveBest1 h4 x9 p0 p1) fun x12 h13 => some (.inl x12, h13)
set_option maxHeartbeats 4000000 in
set_option maxRecDepth 100000 in
theorem T_Desk_moveBest0 {l : Launch} {B : g_B} (h : g_AH) (this : Nat) (p0 : Int32) (p1 : Int32) (z : (Int32 ⊕ g_EX) × g_AH) (hy : Desk_moveBest0 h this p0 p1 = some z) : g_CT l B y_Desk_moveBest0 k_Desk_moveBest0 [.ref this, .int p0, .int p1] h (g_rI z.1) z.2 := by
  refine g_start2 (Lc := [(0, .ref this), (1, .int p0), (2, .int p1)]) (by decide) rfl rfl (by exact Nat.le_of_ble_eq_true rfl) (by rfl) fun X => ?_
  unfold Desk_moveBest0 at hy
  refine g_aload_n 0 (i := 0) (pc' := 1) d_Desk_moveBest0_0 rfl rfl rfl ?_
  refine g_iload_n 1 (i := 1) (pc' := 2) d_Desk_moveBest0_1 rfl rfl rfl ?_
  refine g_iload_n 2 (i := 2) (pc' := 3) d_Desk_moveBest0_2 rfl rfl rfl ?_
  replace hy := g_is_inv hy
  obtain ⟨fs1, hc2, hy⟩ := hy
  replace hy := g_bx_inv hy
  rcases hy with ⟨x3, h4, hf5, hy⟩ | ⟨⟨E9, q9⟩, h4, hf5, ez7⟩
  rotate_left
  · subst ez7
    exact g_callVX (As := [.int p0, .int p1]) (rest := []) 2 (T_Desk_checkBest (hy := hf5)) d_Desk_moveBest0_3 hc2 rfl rfl q1676 q1678 qs23 q108 q1679 hd_Desk_checkBest rfl ⟨by decide, by decide⟩ (by first | exact Nat.le_of_ble_eq_true rfl | (simp only [List.map, List.sum_cons, List.sum_nil, g_cat_rf]; exact Nat.le_of_ble_eq_true rfl) | (simp only [List.map, List.sum_cons, List.sum_nil, g_cat_rf, Value.category]; decide)) rfl rfl
  refine g_callV (rv := none) (h1 := h4) (pc' := 6) (As := [.int p0, .int p1]) (rest := []) 2 (T_Desk_checkBest (hy := hf5)) d_Desk_moveBest0_3 hc2 rfl rfl q1676 q1678 qs23 q108 q1679 hd_Desk_checkBest rfl ⟨by decide, by decide⟩ (by first | exact Nat.le_of_ble_eq_true rfl | (simp only [List.map, List.sum_cons, List.sum_nil, g_cat_rf]; exact Nat.le_of_ble_eq_true rfl) | (simp only [List.map, List.sum_cons, List.sum_nil, g_cat_rf, Value.category]; decide)) rfl ?_
  refine g_aload_n 0 (i := 0) (pc' := 7) d_Desk_moveBest0_6 rfl rfl rfl ?_
  replace hy := g_gR_inv hy
  obtain ⟨fs8, x9, hc10, hv11, hy⟩ := hy
  refine g_getf (pc' := 10) d_Desk_moveBest0_7 hc10 rfl (by decide) hv11 q642 (Or.inl rfl) rfl ?_
  refine g_iload_n 1 (i := 1) (pc' := 11) d_Desk_moveBest0_10 rfl rfl rfl ?_
  refine g_iload_n 2 (i := 2) (pc' := 12) d_Desk_moveBest0_11 rfl rfl rfl ?_
  replace hy := g_b2_inv hy
  obtain ⟨x12, h13, hf14, hy⟩ := hy
  refine g_callS (rv := some (.int x12)) (h1 := h13) (pc' := 15) (As := [va_rf x9, .int p0, .int p1]) (rest := []) 3 (T_Desk_moveBest1 (hy := hf14)) d_Desk_moveBest0_12 q1681 q1682 q108 q1683 hd_Desk_moveBest1 rfl ⟨by decide, by decide⟩ (by first | exact Nat.le_of_ble_eq_true rfl | (simp only [List.map, List.sum_cons, List.sum_nil, g_cat_rf]; exact Nat.le_of_ble_eq_true rfl) | (simp only [List.map, List.sum_cons, List.sum_nil, g_cat_rf, Value.category]; decide)) rfl ?_
  cases hy
  exact g_iret rfl rfl rfl d_Desk_moveBest0_15
theorem hd_Desk_moveBest0 : g_dsc y_Desk_moveBest0 2 := ⟨by decide +kernel, by decide +kernel, by decide +kernel⟩
/-! CircuitDesk$Net.abort(I)I -/
abbrev y_Net_abort : MethodName := ⟨"CircuitDesk$Net", "abort", "(I)I"⟩
abbrev k_Net_abort : g_M := (prog_7_method_34_code, 3, "CircuitDesk$Net", 17, (some FieldType.int), "abort", [], 0)
theorem d_Net_abort_0 : decode prog_7_method_34_code 0 = .ok (.aload_n 0, 1) := by decide +kernel
theorem d_Net_abort_1 : decode prog_7_method_34_code 1 = .ok (.getfield 27, 3) := by decide +kernel
theorem d_Net_abort_4 : decode prog_7_method_34_code 4 = .ok (.iload_n 1, 1) := by decide +kernel
theorem d_Net_abort_5 : decode prog_7_method_34_code 5 = .ok (.invokevirtual 116, 3) := by decide +kernel
theorem d_Net_abort_8 : decode prog_7_method_34_code 8 = .ok (.checkcast 77, 3) := by decide +kernel
theorem d_Net_abort_11 : decode prog_7_method_34_code 11 = .ok (.astore_n 2, 1) := by decide +kernel
theorem d_Net_abort_12 : decode prog_7_method_34_code 12 = .ok (.aload_n 2, 1) := by decide +kernel
theorem d_Net_abort_13 : decode prog_7_method_34_code 13 = .ok (.getfield 315, 3) := by decide +kernel
theorem d_Net_abort_16 : decode prog_7_method_34_code 16 = .ok (.iconst 1, 1) := by decide +kernel
theorem d_Net_abort_17 : decode prog_7_method_34_code 17 = .ok (.if_icmp .eq 6, 3) := by decide +kernel
theorem d_Net_abort_20 : decode prog_7_method_34_code 20 = .ok (.bipush 7, 2) := by decide +kernel
theorem d_Net_abort_22 : decode prog_7_method_34_code 22 = .ok (.ireturn, 1) := by decide +kernel
theorem d_Net_abort_23 : decode prog_7_method_34_code 23 = .ok (.aload_n 0, 1) := by decide +kernel
theorem d_Net_abort_24 : decode prog_7_method_34_code 24 = .ok (.aload_n 2, 1) := by decide +kernel
theorem d_Net_abort_25 : decode prog_7_method_34_code 25 = .ok (.getfield 151, 3) := by decide +kernel
theorem d_Net_abort_28 : decode prog_7_method_34_code 28 = .ok (.invokevirtual 217, 3) := by decide +kernel
theorem d_Net_abort_31 : decode prog_7_method_34_code 31 = .ok (.aload_n 2, 1) := by decide +kernel
theorem d_Net_abort_32 : decode prog_7_method_34_code 32 = .ok (.aconst_null, 1) := by decide +kernel
theorem d_Net_abort_33 : decode prog_7_method_34_code 33 = .ok (.putfield 151, 3) := by decide +kernel
theorem d_Net_abort_36 : decode prog_7_method_34_code 36 = .ok (.aload_n 2, 1) := by decide +kernel
theorem d_Net_abort_37 : decode prog_7_method_34_code 37 = .ok (.iconst 0, 1) := by decide +kernel
theorem d_Net_abort_38 : decode prog_7_method_34_code 38 = .ok (.putfield 315, 3) := by decide +kernel
theorem d_Net_abort_41 : decode prog_7_method_34_code 41 = .ok (.aload_n 0, 1) := by decide +kernel
theorem d_Net_abort_42 : decode prog_7_method_34_code 42 = .ok (.dup, 1) := by decide +kernel
theorem d_Net_abort_43 : decode prog_7_method_34_code 43 = .ok (.getfield 109, 3) := by decide +kernel
theorem d_Net_abort_46 : decode prog_7_method_34_code 46 = .ok (.iconst 1, 1) := by decide +kernel
theorem d_Net_abort_47 : decode prog_7_method_34_code 47 = .ok (.iadd, 1) := by decide +kernel
theorem d_Net_abort_48 : decode prog_7_method_34_code 48 = .ok (.putfield 109, 3) := by decide +kernel
theorem d_Net_abort_51 : decode prog_7_method_34_code 51 = .ok (.iconst 0, 1) := by decide +kernel
theorem d_Net_abort_52 : decode prog_7_method_34_code 52 = .ok (.ireturn, 1) := by decide +kernel
def Net_abort (h : g_AH) (this : Nat) (p0 : Int32) : Option (Int32 × g_AH) :=
  g_gR h this 1 3 fun x2 => g_nn x2 fun a5 => g_is h a5 15 <| g_b (ArrayList_get h a5 p0) fun x8 => g_ck h x8 12 <| g_nn x8 fun a12 => g_gI h a12 12 4 fun x14 => if x14 = (1 : Int32) then (g_gR h a12 12 3 fun x19 => g_is h this 1 <| g_b (Net_giveUpAll h this x19) fun h25 => g_pF h25 a12 12 3 (va_rf none) fun h30 => g_pF h30 a12 12 4 (.int (0 : Int32)) fun h34 => g_gI h34 this 1 13 fun x36 => g_pF h34 this 1 13 (.int (x36 + (1 : Int32))) fun h42 => some ((0 : Int32), h42)) else (some ((7 : Int32), h))
set_option maxHeartbeats 4000000 in
set_option maxRecDepth 100000 in
theorem T_Net_abort {l : Launch} {B : g_B} (h : g_AH) (this : Nat) (p0 : Int32) (z : Int32 × g_AH) (hy : Net_abort h this p0 = some z) : g_CT l B y_Net_abort k_Net_abort [.ref this, .int p0] h (.inl (some (.int z.1))) z.2 := by
  refine g_start2 (Lc := [(0, .ref this), (1, .int p0)]) (by decide) rfl rfl (by exact Nat.le_of_ble_eq_true rfl) (by rfl) fun X => ?_
  unfold Net_abort at hy
  refine g_aload_n 0 (i := 0) (pc' := 1) d_Net_abort_0 rfl rfl rfl ?_
  replace hy := g_gR_inv hy
  obtain ⟨fs1, x2, hc3, hv4, hy⟩ := hy
  refine g_getf (pc' := 4) d_Net_abort_1 hc3 rfl (by decide) hv4 q555 (Or.inl rfl) rfl ?_
  refine g_iload_n 1 (i := 1) (pc' := 5) d_Net_abort_4 rfl rfl rfl ?_
  replace hy := g_nn_inv hy
  obtain ⟨a5, rfl, hy⟩ := hy
  replace hy := g_is_inv hy
  obtain ⟨fs6, hc7, hy⟩ := hy
  replace hy := g_b_inv hy
  obtain ⟨x8, hf10, hy⟩ := hy
  refine g_callV (rv := some (va_rf x8)) (h1 := h) (pc' := 8) (As := [.int p0]) (rest := []) 1 (T_ArrayList_get (hy := hf10)) d_Net_abort_5 hc7 rfl rfl q682 q683 q684 q112 q685 hd_ArrayList_get rfl ⟨by decide, by decide⟩ (by first | exact Nat.le_of_ble_eq_true rfl | (simp only [List.map, List.sum_cons, List.sum_nil, g_cat_rf]; exact Nat.le_of_ble_eq_true rfl) | (simp only [List.map, List.sum_cons, List.sum_nil, g_cat_rf, Value.category]; decide)) rfl ?_
  replace hy := g_ck_inv hy
  obtain ⟨hk11, hy⟩ := hy
  refine g_castO (pc' := 11) d_Net_abort_8 hk11 rfl q696 rfl ?_
  refine g_astoreO_n (i := 2) (pc' := 12) (Lc' := [(2, va_rf x8), (0, .ref this), (1, .int p0)]) d_Net_abort_11 rfl (by decide) rfl rfl ?_
  refine g_aloadO_n 0 (i := 2) (pc' := 13) d_Net_abort_12 rfl rfl rfl ?_
  replace hy := g_nn_inv hy
  obtain ⟨a12, rfl, hy⟩ := hy
  replace hy := g_gI_inv hy
  obtain ⟨fs13, x14, hc15, hv16, hy⟩ := hy
  refine g_getfN (pc' := 16) d_Net_abort_13 hc15 rfl (by decide) hv16 q1167 rfl rfl ?_
  refine g_iconst (v := (1 : Int32)) (pc' := 17) d_Net_abort_16 (by decide) rfl ?_
  by_cases c17 : x14 = (1 : Int32)
  · rw [if_pos c17] at hy
    refine g_icmp_eqT (pc' := 23) d_Net_abort_17 c17 (by decide) ?_
    refine g_aload_n 1 (i := 0) (pc' := 24) d_Net_abort_23 rfl rfl rfl ?_
    refine g_aload_n 0 (i := 2) (pc' := 25) d_Net_abort_24 rfl rfl rfl ?_
    replace hy := g_gR_inv hy
    obtain ⟨fs18, x19, hc20, hv21, hy⟩ := hy
    refine g_getfN (pc' := 28) d_Net_abort_25 hc20 rfl (by decide) hv21 q1161 rfl rfl ?_
    replace hy := g_is_inv hy
    obtain ⟨fs22, hc23, hy⟩ := hy
    replace hy := g_b_inv hy
    obtain ⟨h25, hf26, hy⟩ := hy
    refine g_callV (rv := none) (h1 := h25) (pc' := 31) (As := [va_rf x19]) (rest := []) 1 (T_Net_giveUpAll (hy := hf26)) d_Net_abort_28 hc23 rfl rfl q1613 q1614 q1615 q109 q1616 hd_Net_giveUpAll rfl ⟨by decide, by decide⟩ (by first | exact Nat.le_of_ble_eq_true rfl | (simp only [List.map, List.sum_cons, List.sum_nil, g_cat_rf]; exact Nat.le_of_ble_eq_true rfl) | (simp only [List.map, List.sum_cons, List.sum_nil, g_cat_rf, Value.category]; decide)) rfl ?_
    refine g_aload_n 0 (i := 2) (pc' := 32) d_Net_abort_31 rfl rfl rfl ?_
    refine g_null (pc' := 33) d_Net_abort_32 rfl ?_
    replace hy := g_pF_inv hy
    obtain ⟨fs27, hc28, hl29, hy⟩ := hy
    refine g_putfN (pc' := 36) d_Net_abort_33 hc28 rfl (by decide) hl29 rfl g_nar_rf g_fit_o q1161 rfl rfl ?_
    generalize g_up h25 a12 (.inr (12, fs27.set 3 (va_rf none))) = h30 at hy ⊢
    refine g_aload_n 0 (i := 2) (pc' := 37) d_Net_abort_36 rfl rfl rfl ?_
    refine g_iconst (v := (0 : Int32)) (pc' := 38) d_Net_abort_37 (by decide) rfl ?_
    replace hy := g_pF_inv hy
    obtain ⟨fs31, hc32, hl33, hy⟩ := hy
    refine g_putfN (pc' := 41) d_Net_abort_38 hc32 rfl (by decide) hl33 rfl rfl rfl q1167 rfl rfl ?_
    generalize g_up h30 a12 (.inr (12, fs31.set 4 (.int (0 : Int32)))) = h34 at hy ⊢
    refine g_aload_n 1 (i := 0) (pc' := 42) d_Net_abort_41 rfl rfl rfl ?_
    refine g_dup (pc' := 43) d_Net_abort_42 rfl rfl ?_
    replace hy := g_gI_inv hy
    obtain ⟨fs35, x36, hc37, hv38, hy⟩ := hy
    refine g_getf (pc' := 46) d_Net_abort_43 hc37 rfl (by decide) hv38 q579 (Or.inl rfl) rfl ?_
    refine g_iconst (v := (1 : Int32)) (pc' := 47) d_Net_abort_46 (by decide) rfl ?_
    refine g_iadd (pc' := 48) d_Net_abort_47 rfl ?_
    replace hy := g_pF_inv hy
    obtain ⟨fs39, hc40, hl41, hy⟩ := hy
    refine g_putf (pc' := 51) d_Net_abort_48 hc40 rfl (by decide) hl41 rfl rfl rfl q579 (Or.inl rfl) rfl ?_
    generalize g_up h34 this (.inr (1, fs39.set 13 (.int (x36 + (1 : Int32))))) = h42 at hy ⊢
    refine g_iconst (v := (0 : Int32)) (pc' := 52) d_Net_abort_51 (by decide) rfl ?_
    cases hy
    exact g_iret rfl rfl rfl d_Net_abort_52
  · rw [if_neg c17] at hy
    refine g_icmp_eqF (pc' := 20) d_Net_abort_17 23 c17 (by decide) rfl ?_
    refine g_bipush (v := (7 : Int32)) (pc' := 22) d_Net_abort_20 (by decide) rfl ?_
    cases hy
    exact g_iret rfl rfl rfl d_Net_abort_22
theorem hd_Net_abort : g_dsc y_Net_abort 1 := ⟨by decide +kernel, by decide +kernel, by decide +kernel⟩
/-! CircuitDesk.abort(I)I -/
abbrev y_Desk_abort : MethodName := ⟨"CircuitDesk", "abort", "(I)I"⟩
abbrev k_Desk_abort : g_M := (prog_1_method_33_code, 3, "CircuitDesk", 19, (some FieldType.int), "abort", [], 0)
theorem d_Desk_abort_0 : decode prog_1_method_33_code 0 = .ok (.aload_n 0, 1) := by decide +kernel
theorem d_Desk_abort_1 : decode prog_1_method_33_code 1 = .ok (.iload_n 1, 1) := by decide +kernel
theorem d_Desk_abort_2 : decode prog_1_method_33_code 2 = .ok (.invokevirtual 263, 3) := by decide +kernel
theorem d_Desk_abort_5 : decode prog_1_method_33_code 5 = .ok (.astore_n 2, 1) := by decide +kernel
theorem d_Desk_abort_6 : decode prog_1_method_33_code 6 = .ok (.aload_n 0, 1) := by decide +kernel
theorem d_Desk_abort_7 : decode prog_1_method_33_code 7 = .ok (.getfield 19, 3) := by decide +kernel
theorem d_Desk_abort_10 : decode prog_1_method_33_code 10 = .ok (.iload_n 1, 1) := by decide +kernel
theorem d_Desk_abort_11 : decode prog_1_method_33_code 11 = .ok (.invokevirtual 290, 3) := by decide +kernel
theorem d_Desk_abort_14 : decode prog_1_method_33_code 14 = .ok (.ireturn, 1) := by decide +kernel
def Desk_abort (h : g_AH) (this : Nat) (p0 : Int32) : Option ((Int32 ⊕ g_EX) × g_AH) :=
  g_is h this 0 <| g_bx (Desk_circuitOf h this p0) fun x3 h4 => g_gR h4 this 0 0 fun x9 => g_nn x9 fun a12 => g_is h4 a12 1 <| g_b2 (Net_abort h4 a12 p0) fun x15 h16 => some (.inl x15, h16)
set_option maxHeartbeats 4000000 in
set_option maxRecDepth 100000 in
theorem T_Desk_abort {l : Launch} {B : g_B} (h : g_AH) (this : Nat) (p0 : Int32) (z : (Int32 ⊕ g_EX) × g_AH) (hy : Desk_abort h this p0 = some z) : g_CT l B y_Desk_abort k_Desk_abort [.ref this, .int p0] h (g_rI z.1) z.2 := by
  refine g_start2 (Lc := [(0, .ref this), (1, .int p0)]) (by decide) rfl rfl (by exact Nat.le_of_ble_eq_true rfl) (by rfl) fun X => ?_
  unfold Desk_abort at hy
  refine g_aload_n 0 (i := 0) (pc' := 1) d_Desk_abort_0 rfl rfl rfl ?_
  refine g_iload_n 1 (i := 1) (pc' := 2) d_Desk_abort_1 rfl rfl rfl ?_
  replace hy := g_is_inv hy
  obtain ⟨fs1, hc2, hy⟩ := hy
  replace hy := g_bx_inv hy
  rcases hy with ⟨x3, h4, hf5, hy⟩ | ⟨⟨E9, q9⟩, h4, hf5, ez7⟩
  rotate_left
  · subst ez7
    exact g_callVX (As := [.int p0]) (rest := []) 1 (T_Desk_circuitOf (hy := hf5)) d_Desk_abort_2 hc2 rfl rfl q1631 q1633 qs22 q108 q1634 hd_Desk_circuitOf rfl ⟨by decide, by decide⟩ (by first | exact Nat.le_of_ble_eq_true rfl | (simp only [List.map, List.sum_cons, List.sum_nil, g_cat_rf]; exact Nat.le_of_ble_eq_true rfl) | (simp only [List.map, List.sum_cons, List.sum_nil, g_cat_rf, Value.category]; decide)) rfl rfl
  refine g_callV (rv := some (va_rf x3)) (h1 := h4) (pc' := 5) (As := [.int p0]) (rest := []) 1 (T_Desk_circuitOf (hy := hf5)) d_Desk_abort_2 hc2 rfl rfl q1631 q1633 qs22 q108 q1634 hd_Desk_circuitOf rfl ⟨by decide, by decide⟩ (by first | exact Nat.le_of_ble_eq_true rfl | (simp only [List.map, List.sum_cons, List.sum_nil, g_cat_rf]; exact Nat.le_of_ble_eq_true rfl) | (simp only [List.map, List.sum_cons, List.sum_nil, g_cat_rf, Value.category]; decide)) rfl ?_
  refine g_astoreO_n (i := 2) (pc' := 6) (Lc' := [(2, va_rf x3), (0, .ref this), (1, .int p0)]) d_Desk_abort_5 rfl (by decide) rfl rfl ?_
  refine g_aload_n 1 (i := 0) (pc' := 7) d_Desk_abort_6 rfl rfl rfl ?_
  replace hy := g_gR_inv hy
  obtain ⟨fs8, x9, hc10, hv11, hy⟩ := hy
  refine g_getf (pc' := 10) d_Desk_abort_7 hc10 rfl (by decide) hv11 q642 (Or.inl rfl) rfl ?_
  refine g_iload_n 2 (i := 1) (pc' := 11) d_Desk_abort_10 rfl rfl rfl ?_
  replace hy := g_nn_inv hy
  obtain ⟨a12, rfl, hy⟩ := hy
  replace hy := g_is_inv hy
  obtain ⟨fs13, hc14, hy⟩ := hy
  replace hy := g_b2_inv hy
  obtain ⟨x15, h16, hf17, hy⟩ := hy
  refine g_callV (rv := some (.int x15)) (h1 := h16) (pc' := 14) (As := [.int p0]) (rest := []) 1 (T_Net_abort (hy := hf17)) d_Desk_abort_11 hc14 rfl rfl q1691 q1692 q1693 q109 q1694 hd_Net_abort rfl ⟨by decide, by decide⟩ (by first | exact Nat.le_of_ble_eq_true rfl | (simp only [List.map, List.sum_cons, List.sum_nil, g_cat_rf]; exact Nat.le_of_ble_eq_true rfl) | (simp only [List.map, List.sum_cons, List.sum_nil, g_cat_rf, Value.category]; decide)) rfl ?_
  cases hy
  exact g_iret rfl rfl rfl d_Desk_abort_14
theorem hd_Desk_abort : g_dsc y_Desk_abort 1 := ⟨by decide +kernel, by decide +kernel, by decide +kernel⟩
/-! CircuitDesk$Circuit.offer(I)I -/
abbrev y_Circuit_offer : MethodName := ⟨"CircuitDesk$Circuit", "offer", "(I)I"⟩
abbrev k_Circuit_offer : g_M := (prog_3_method_5_code, 3, "CircuitDesk$Circuit", 13, (some FieldType.int), "offer", [], 0)
theorem d_Circuit_offer_0 : decode prog_3_method_5_code 0 = .ok (.aload_n 0, 1) := by decide +kernel
theorem d_Circuit_offer_1 : decode prog_3_method_5_code 1 = .ok (.getfield 50, 3) := by decide +kernel
theorem d_Circuit_offer_4 : decode prog_3_method_5_code 4 = .ok (.iload_n 1, 1) := by decide +kernel
theorem d_Circuit_offer_5 : decode prog_3_method_5_code 5 = .ok (.iadd, 1) := by decide +kernel
theorem d_Circuit_offer_6 : decode prog_3_method_5_code 6 = .ok (.istore_n 2, 1) := by decide +kernel
theorem d_Circuit_offer_7 : decode prog_3_method_5_code 7 = .ok (.aload_n 0, 1) := by decide +kernel
theorem d_Circuit_offer_8 : decode prog_3_method_5_code 8 = .ok (.bipush 9, 2) := by decide +kernel
theorem d_Circuit_offer_10 : decode prog_3_method_5_code 10 = .ok (.iload_n 2, 1) := by decide +kernel
theorem d_Circuit_offer_11 : decode prog_3_method_5_code 11 = .ok (.invokestatic 68, 3) := by decide +kernel
theorem d_Circuit_offer_14 : decode prog_3_method_5_code 14 = .ok (.putfield 50, 3) := by decide +kernel
theorem d_Circuit_offer_17 : decode prog_3_method_5_code 17 = .ok (.iload_n 2, 1) := by decide +kernel
theorem d_Circuit_offer_18 : decode prog_3_method_5_code 18 = .ok (.aload_n 0, 1) := by decide +kernel
theorem d_Circuit_offer_19 : decode prog_3_method_5_code 19 = .ok (.getfield 50, 3) := by decide +kernel
theorem d_Circuit_offer_22 : decode prog_3_method_5_code 22 = .ok (.isub, 1) := by decide +kernel
theorem d_Circuit_offer_23 : decode prog_3_method_5_code 23 = .ok (.ireturn, 1) := by decide +kernel
def Circuit_offer (h : g_AH) (this : Nat) (p0 : Int32) : Option (Int32 × g_AH) :=
  g_gI h this 12 8 fun x2 => g_pF h this 12 8 (.int (if (x2 + p0) < (9 : Int32) then (x2 + p0) else (9 : Int32))) fun h8 => g_gI h8 this 12 8 fun x10 => some (((x2 + p0) - x10), h8)
set_option maxHeartbeats 4000000 in
set_option maxRecDepth 100000 in
theorem T_Circuit_offer {l : Launch} {B : g_B} (h : g_AH) (this : Nat) (p0 : Int32) (z : Int32 × g_AH) (hy : Circuit_offer h this p0 = some z) : g_CT l B y_Circuit_offer k_Circuit_offer [.ref this, .int p0] h (.inl (some (.int z.1))) z.2 := by
  refine g_start2 (Lc := [(0, .ref this), (1, .int p0)]) (by decide) rfl rfl (by exact Nat.le_of_ble_eq_true rfl) (by rfl) fun X => ?_
  unfold Circuit_offer at hy
  refine g_aload_n 0 (i := 0) (pc' := 1) d_Circuit_offer_0 rfl rfl rfl ?_
  replace hy := g_gI_inv hy
  obtain ⟨fs1, x2, hc3, hv4, hy⟩ := hy
  refine g_getf (pc' := 4) d_Circuit_offer_1 hc3 rfl (by decide) hv4 q1183 (Or.inl rfl) rfl ?_
  refine g_iload_n 1 (i := 1) (pc' := 5) d_Circuit_offer_4 rfl rfl rfl ?_
  refine g_iadd (pc' := 6) d_Circuit_offer_5 rfl ?_
  refine g_istore_n (i := 2) (pc' := 7) (Lc' := [(2, .int (x2 + p0)), (0, .ref this), (1, .int p0)]) d_Circuit_offer_6 rfl (by decide) rfl rfl ?_
  refine g_aload_n 1 (i := 0) (pc' := 8) d_Circuit_offer_7 rfl rfl rfl ?_
  refine g_bipush (v := (9 : Int32)) (pc' := 10) d_Circuit_offer_8 (by decide) rfl ?_
  refine g_iload_n 0 (i := 2) (pc' := 11) d_Circuit_offer_10 rfl rfl rfl ?_
  refine g_mmin (pc' := 14) d_Circuit_offer_11 q1706 q296 q122 q297 (by first | exact Nat.le_of_ble_eq_true rfl | (simp only [List.map, List.sum_cons, List.sum_nil, g_cat_rf]; exact Nat.le_of_ble_eq_true rfl) | (simp only [List.map, List.sum_cons, List.sum_nil, g_cat_rf, Value.category]; decide)) (by decide) rfl ?_
  replace hy := g_pF_inv hy
  obtain ⟨fs5, hc6, hl7, hy⟩ := hy
  refine g_putf (pc' := 17) d_Circuit_offer_14 hc6 rfl (by decide) hl7 rfl rfl rfl q1183 (Or.inl rfl) rfl ?_
  generalize g_up h this (.inr (12, fs5.set 8 (.int (if (x2 + p0) < (9 : Int32) then (x2 + p0) else (9 : Int32))))) = h8 at hy ⊢
  refine g_iload_n 0 (i := 2) (pc' := 18) d_Circuit_offer_17 rfl rfl rfl ?_
  refine g_aload_n 1 (i := 0) (pc' := 19) d_Circuit_offer_18 rfl rfl rfl ?_
  replace hy := g_gI_inv hy
  obtain ⟨fs9, x10, hc11, hv12, hy⟩ := hy
  refine g_getf (pc' := 22) d_Circuit_offer_19 hc11 rfl (by decide) hv12 q1183 (Or.inl rfl) rfl ?_
  refine g_isub (pc' := 23) d_Circuit_offer_22 rfl ?_
  cases hy
  exact g_iret rfl rfl rfl d_Circuit_offer_23
theorem hd_Circuit_offer : g_dsc y_Circuit_offer 1 := ⟨by decide +kernel, by decide +kernel, by decide +kernel⟩
/-! CircuitDesk.offer(II)I -/
abbrev y_Desk_offer : MethodName := ⟨"CircuitDesk", "offer", "(II)I"⟩
abbrev k_Desk_offer : g_M := (prog_1_method_34_code, 4, "CircuitDesk", 19, (some FieldType.int), "offer", [], 0)
theorem d_Desk_offer_0 : decode prog_1_method_34_code 0 = .ok (.aload_n 0, 1) := by decide +kernel
theorem d_Desk_offer_1 : decode prog_1_method_34_code 1 = .ok (.iload_n 1, 1) := by decide +kernel
theorem d_Desk_offer_2 : decode prog_1_method_34_code 2 = .ok (.invokevirtual 263, 3) := by decide +kernel
theorem d_Desk_offer_5 : decode prog_1_method_34_code 5 = .ok (.astore_n 3, 1) := by decide +kernel
theorem d_Desk_offer_6 : decode prog_1_method_34_code 6 = .ok (.iload_n 2, 1) := by decide +kernel
theorem d_Desk_offer_7 : decode prog_1_method_34_code 7 = .ok (.i2l, 1) := by decide +kernel
theorem d_Desk_offer_8 : decode prog_1_method_34_code 8 = .ok (.lconst 1, 1) := by decide +kernel
theorem d_Desk_offer_9 : decode prog_1_method_34_code 9 = .ok (.ldc2_w 95, 3) := by decide +kernel
theorem d_Desk_offer_12 : decode prog_1_method_34_code 12 = .ok (.invokestatic 54, 3) := by decide +kernel
theorem d_Desk_offer_15 : decode prog_1_method_34_code 15 = .ok (.invokestatic 80, 3) := by decide +kernel
theorem d_Desk_offer_18 : decode prog_1_method_34_code 18 = .ok (.aload_n 0, 1) := by decide +kernel
theorem d_Desk_offer_19 : decode prog_1_method_34_code 19 = .ok (.getfield 19, 3) := by decide +kernel
theorem d_Desk_offer_22 : decode prog_1_method_34_code 22 = .ok (.dup, 1) := by decide +kernel
theorem d_Desk_offer_23 : decode prog_1_method_34_code 23 = .ok (.getfield 168, 3) := by decide +kernel
theorem d_Desk_offer_26 : decode prog_1_method_34_code 26 = .ok (.aload_n 3, 1) := by decide +kernel
theorem d_Desk_offer_27 : decode prog_1_method_34_code 27 = .ok (.iload_n 2, 1) := by decide +kernel
theorem d_Desk_offer_28 : decode prog_1_method_34_code 28 = .ok (.invokevirtual 293, 3) := by decide +kernel
theorem d_Desk_offer_31 : decode prog_1_method_34_code 31 = .ok (.iadd, 1) := by decide +kernel
theorem d_Desk_offer_32 : decode prog_1_method_34_code 32 = .ok (.putfield 168, 3) := by decide +kernel
theorem d_Desk_offer_35 : decode prog_1_method_34_code 35 = .ok (.aload_n 3, 1) := by decide +kernel
theorem d_Desk_offer_36 : decode prog_1_method_34_code 36 = .ok (.getfield 296, 3) := by decide +kernel
theorem d_Desk_offer_39 : decode prog_1_method_34_code 39 = .ok (.ireturn, 1) := by decide +kernel
def Desk_offer (h : g_AH) (this : Nat) (p0 : Int32) (p1 : Int32) : Option ((Int32 ⊕ g_EX) × g_AH) :=
  g_is h this 0 <| g_bx (Desk_circuitOf h this p0) fun x3 h4 => g_b (Desk_isBetween ((p1).toInt64) (1 : Int64) (9 : Int64)) fun x8 => g_bx (Desk_checkArgument h4 x8) fun x11 h12 => g_gR h12 this 0 0 fun x17 => g_nn x17 fun a20 => g_gI h12 a20 1 10 fun x22 => g_nn x3 fun a25 => g_is h12 a25 12 <| g_b2 (Circuit_offer h12 a25 p1) fun x28 h29 => g_pF h29 a20 1 10 (.int (x22 + x28)) fun h34 => g_gI h34 a25 12 8 fun x36 => some (.inl x36, h34)
set_option maxHeartbeats 4000000 in
set_option maxRecDepth 100000 in
theorem T_Desk_offer {l : Launch} {B : g_B} (h : g_AH) (this : Nat) (p0 : Int32) (p1 : Int32) (z : (Int32 ⊕ g_EX) × g_AH) (hy : Desk_offer h this p0 p1 = some z) : g_CT l B y_Desk_offer k_Desk_offer [.ref this, .int p0, .int p1] h (g_rI z.1) z.2 := by
  refine g_start2 (Lc := [(0, .ref this), (1, .int p0), (2, .int p1)]) (by decide) rfl rfl (by exact Nat.le_of_ble_eq_true rfl) (by rfl) fun X => ?_
  unfold Desk_offer at hy
  refine g_aload_n 0 (i := 0) (pc' := 1) d_Desk_offer_0 rfl rfl rfl ?_
  refine g_iload_n 1 (i := 1) (pc' := 2) d_Desk_offer_1 rfl rfl rfl ?_
  replace hy := g_is_inv hy
  obtain ⟨fs1, hc2, hy⟩ := hy
  replace hy := g_bx_inv hy
  rcases hy with ⟨x3, h4, hf5, hy⟩ | ⟨⟨E9, q9⟩, h4, hf5, ez7⟩
  rotate_left
  · subst ez7
    exact g_callVX (As := [.int p0]) (rest := []) 1 (T_Desk_circuitOf (hy := hf5)) d_Desk_offer_2 hc2 rfl rfl q1631 q1633 qs22 q108 q1634 hd_Desk_circuitOf rfl ⟨by decide, by decide⟩ (by first | exact Nat.le_of_ble_eq_true rfl | (simp only [List.map, List.sum_cons, List.sum_nil, g_cat_rf]; exact Nat.le_of_ble_eq_true rfl) | (simp only [List.map, List.sum_cons, List.sum_nil, g_cat_rf, Value.category]; decide)) rfl rfl
  refine g_callV (rv := some (va_rf x3)) (h1 := h4) (pc' := 5) (As := [.int p0]) (rest := []) 1 (T_Desk_circuitOf (hy := hf5)) d_Desk_offer_2 hc2 rfl rfl q1631 q1633 qs22 q108 q1634 hd_Desk_circuitOf rfl ⟨by decide, by decide⟩ (by first | exact Nat.le_of_ble_eq_true rfl | (simp only [List.map, List.sum_cons, List.sum_nil, g_cat_rf]; exact Nat.le_of_ble_eq_true rfl) | (simp only [List.map, List.sum_cons, List.sum_nil, g_cat_rf, Value.category]; decide)) rfl ?_
  refine g_astoreO_n (i := 3) (pc' := 6) (Lc' := [(3, va_rf x3), (0, .ref this), (1, .int p0), (2, .int p1)]) d_Desk_offer_5 rfl (by decide) rfl rfl ?_
  refine g_iload_n 3 (i := 2) (pc' := 7) d_Desk_offer_6 rfl rfl rfl ?_
  refine g_i2l (pc' := 8) d_Desk_offer_7 rfl ?_
  refine g_lconst (v := 1) (pc' := 9) d_Desk_offer_8 (by decide) rfl ?_
  refine g_ldc2 (pc' := 12) d_Desk_offer_9 q1402 rfl ?_
  replace hy := g_b_inv hy
  obtain ⟨x8, hf10, hy⟩ := hy
  refine g_callS (rv := some (.int x8)) (h1 := h4) (pc' := 15) (As := [.long ((p1).toInt64), .long (1 : Int64), .long (9 : Int64)]) (rest := []) 3 (T_Desk_isBetween (hy := hf10)) d_Desk_offer_12 q1330 q828 q108 q829 hd_Desk_isBetween rfl ⟨by decide, by decide⟩ (by first | exact Nat.le_of_ble_eq_true rfl | (simp only [List.map, List.sum_cons, List.sum_nil, g_cat_rf]; exact Nat.le_of_ble_eq_true rfl) | (simp only [List.map, List.sum_cons, List.sum_nil, g_cat_rf, Value.category]; decide)) rfl ?_
  replace hy := g_bx_inv hy
  rcases hy with ⟨x11, h12, hf13, hy⟩ | ⟨⟨E9, q9⟩, h12, hf13, ez15⟩
  rotate_left
  · subst ez15
    exact g_callSX (As := [.int x8]) (rest := []) 1 (T_Desk_checkArgument (hy := hf13)) d_Desk_offer_15 q1331 q1332 q108 q1333 hd_Desk_checkArgument rfl ⟨by decide, by decide⟩ (by first | exact Nat.le_of_ble_eq_true rfl | (simp only [List.map, List.sum_cons, List.sum_nil, g_cat_rf]; exact Nat.le_of_ble_eq_true rfl) | (simp only [List.map, List.sum_cons, List.sum_nil, g_cat_rf, Value.category]; decide)) rfl rfl
  refine g_callS (rv := none) (h1 := h12) (pc' := 18) (As := [.int x8]) (rest := []) 1 (T_Desk_checkArgument (hy := hf13)) d_Desk_offer_15 q1331 q1332 q108 q1333 hd_Desk_checkArgument rfl ⟨by decide, by decide⟩ (by first | exact Nat.le_of_ble_eq_true rfl | (simp only [List.map, List.sum_cons, List.sum_nil, g_cat_rf]; exact Nat.le_of_ble_eq_true rfl) | (simp only [List.map, List.sum_cons, List.sum_nil, g_cat_rf, Value.category]; decide)) rfl ?_
  refine g_aload_n 1 (i := 0) (pc' := 19) d_Desk_offer_18 rfl rfl rfl ?_
  replace hy := g_gR_inv hy
  obtain ⟨fs16, x17, hc18, hv19, hy⟩ := hy
  refine g_getf (pc' := 22) d_Desk_offer_19 hc18 rfl (by decide) hv19 q642 (Or.inl rfl) rfl ?_
  refine g_dup (pc' := 23) d_Desk_offer_22 g_cat_rf rfl ?_
  replace hy := g_nn_inv hy
  obtain ⟨a20, rfl, hy⟩ := hy
  replace hy := g_gI_inv hy
  obtain ⟨fs21, x22, hc23, hv24, hy⟩ := hy
  refine g_getfN (pc' := 26) d_Desk_offer_23 hc23 rfl (by decide) hv24 q573 rfl rfl ?_
  refine g_aloadO_n 0 (i := 3) (pc' := 27) d_Desk_offer_26 rfl rfl rfl ?_
  refine g_iload_n 3 (i := 2) (pc' := 28) d_Desk_offer_27 rfl rfl rfl ?_
  replace hy := g_nn_inv hy
  obtain ⟨a25, rfl, hy⟩ := hy
  replace hy := g_is_inv hy
  obtain ⟨fs26, hc27, hy⟩ := hy
  replace hy := g_b2_inv hy
  obtain ⟨x28, h29, hf30, hy⟩ := hy
  refine g_callV (rv := some (.int x28)) (h1 := h29) (pc' := 31) (As := [.int p1]) (rest := [.int x22, .ref a20]) 1 (T_Circuit_offer (hy := hf30)) d_Desk_offer_28 hc27 rfl rfl q1702 q1703 q1704 q142 q1705 hd_Circuit_offer rfl ⟨by decide, by decide⟩ (by first | exact Nat.le_of_ble_eq_true rfl | (simp only [List.map, List.sum_cons, List.sum_nil, g_cat_rf]; exact Nat.le_of_ble_eq_true rfl) | (simp only [List.map, List.sum_cons, List.sum_nil, g_cat_rf, Value.category]; decide)) rfl ?_
  refine g_iadd (pc' := 32) d_Desk_offer_31 rfl ?_
  replace hy := g_pF_inv hy
  obtain ⟨fs31, hc32, hl33, hy⟩ := hy
  refine g_putfN (pc' := 35) d_Desk_offer_32 hc32 rfl (by decide) hl33 rfl rfl rfl q573 rfl rfl ?_
  generalize g_up h29 a20 (.inr (1, fs31.set 10 (.int (x22 + x28)))) = h34 at hy ⊢
  refine g_aload_n 0 (i := 3) (pc' := 36) d_Desk_offer_35 rfl rfl rfl ?_
  replace hy := g_gI_inv hy
  obtain ⟨fs35, x36, hc37, hv38, hy⟩ := hy
  refine g_getfN (pc' := 39) d_Desk_offer_36 hc37 rfl (by decide) hv38 q1185 rfl rfl ?_
  cases hy
  exact g_iret rfl rfl rfl d_Desk_offer_39
theorem hd_Desk_offer : g_dsc y_Desk_offer 2 := ⟨by decide +kernel, by decide +kernel, by decide +kernel⟩
/-! CircuitDesk.checkTicks(I)V -/
abbrev y_Desk_checkTicks : MethodName := ⟨"CircuitDesk", "checkTicks", "(I)V"⟩
abbrev k_Desk_checkTicks : g_M := (prog_1_method_35_code, 1, "CircuitDesk", 18, none, "checkTicks", [], 0)
theorem d_Desk_checkTicks_0 : decode prog_1_method_35_code 0 = .ok (.iload_n 0, 1) := by decide +kernel
theorem d_Desk_checkTicks_1 : decode prog_1_method_35_code 1 = .ok (.i2l, 1) := by decide +kernel
theorem d_Desk_checkTicks_2 : decode prog_1_method_35_code 2 = .ok (.lconst 1, 1) := by decide +kernel
theorem d_Desk_checkTicks_3 : decode prog_1_method_35_code 3 = .ok (.ldc2_w 299, 3) := by decide +kernel
theorem d_Desk_checkTicks_6 : decode prog_1_method_35_code 6 = .ok (.invokestatic 54, 3) := by decide +kernel
theorem d_Desk_checkTicks_9 : decode prog_1_method_35_code 9 = .ok (.invokestatic 80, 3) := by decide +kernel
theorem d_Desk_checkTicks_12 : decode prog_1_method_35_code 12 = .ok (.return_, 1) := by decide +kernel
def Desk_checkTicks (h : g_AH) (p0 : Int32) : Option ((Unit ⊕ g_EX) × g_AH) :=
  g_b (Desk_isBetween ((p0).toInt64) (1 : Int64) (200 : Int64)) fun x1 => g_bx (Desk_checkArgument h x1) fun x4 h5 => some (.inl (), h5)
set_option maxHeartbeats 4000000 in
set_option maxRecDepth 100000 in
theorem T_Desk_checkTicks {l : Launch} {B : g_B} (h : g_AH) (p0 : Int32) (z : (Unit ⊕ g_EX) × g_AH) (hy : Desk_checkTicks h p0 = some z) : g_CT l B y_Desk_checkTicks k_Desk_checkTicks [.int p0] h (g_rV z.1) z.2 := by
  refine g_start2 (Lc := [(0, .int p0)]) (by decide) rfl rfl (by exact Nat.le_of_ble_eq_true rfl) (by rfl) fun X => ?_
  unfold Desk_checkTicks at hy
  refine g_iload_n 0 (i := 0) (pc' := 1) d_Desk_checkTicks_0 rfl rfl rfl ?_
  refine g_i2l (pc' := 2) d_Desk_checkTicks_1 rfl ?_
  refine g_lconst (v := 1) (pc' := 3) d_Desk_checkTicks_2 (by decide) rfl ?_
  refine g_ldc2 (pc' := 6) d_Desk_checkTicks_3 q1717 rfl ?_
  replace hy := g_b_inv hy
  obtain ⟨x1, hf3, hy⟩ := hy
  refine g_callS (rv := some (.int x1)) (h1 := h) (pc' := 9) (As := [.long ((p0).toInt64), .long (1 : Int64), .long (200 : Int64)]) (rest := []) 3 (T_Desk_isBetween (hy := hf3)) d_Desk_checkTicks_6 q1330 q828 q108 q829 hd_Desk_isBetween rfl ⟨by decide, by decide⟩ (by first | exact Nat.le_of_ble_eq_true rfl | (simp only [List.map, List.sum_cons, List.sum_nil, g_cat_rf]; exact Nat.le_of_ble_eq_true rfl) | (simp only [List.map, List.sum_cons, List.sum_nil, g_cat_rf, Value.category]; decide)) rfl ?_
  replace hy := g_bx_inv hy
  rcases hy with ⟨x4, h5, hf6, hy⟩ | ⟨⟨E9, q9⟩, h5, hf6, ez8⟩
  rotate_left
  · subst ez8
    exact g_callSX (As := [.int x1]) (rest := []) 1 (T_Desk_checkArgument (hy := hf6)) d_Desk_checkTicks_9 q1331 q1332 q108 q1333 hd_Desk_checkArgument rfl ⟨by decide, by decide⟩ (by first | exact Nat.le_of_ble_eq_true rfl | (simp only [List.map, List.sum_cons, List.sum_nil, g_cat_rf]; exact Nat.le_of_ble_eq_true rfl) | (simp only [List.map, List.sum_cons, List.sum_nil, g_cat_rf, Value.category]; decide)) rfl rfl
  refine g_callS (rv := none) (h1 := h5) (pc' := 12) (As := [.int x1]) (rest := []) 1 (T_Desk_checkArgument (hy := hf6)) d_Desk_checkTicks_9 q1331 q1332 q108 q1333 hd_Desk_checkArgument rfl ⟨by decide, by decide⟩ (by first | exact Nat.le_of_ble_eq_true rfl | (simp only [List.map, List.sum_cons, List.sum_nil, g_cat_rf]; exact Nat.le_of_ble_eq_true rfl) | (simp only [List.map, List.sum_cons, List.sum_nil, g_cat_rf, Value.category]; decide)) rfl ?_
  cases hy
  exact g_vret rfl rfl rfl d_Desk_checkTicks_12
theorem hd_Desk_checkTicks : g_dsc y_Desk_checkTicks 1 := ⟨by decide +kernel, by decide +kernel, by decide +kernel⟩
/-! CircuitDesk$Circuit.of(Z)LCircuitDesk$Way; -/
abbrev y_Circuit_of : MethodName := ⟨"CircuitDesk$Circuit", "of", "(Z)LCircuitDesk$Way;"⟩
abbrev k_Circuit_of : g_M := (prog_3_method_4_code, 2, "CircuitDesk$Circuit", 12, (some (FieldType.object "CircuitDesk$Way")), "of", [], 0)
theorem d_Circuit_of_0 : decode prog_3_method_4_code 0 = .ok (.iload_n 1, 1) := by decide +kernel
theorem d_Circuit_of_1 : decode prog_3_method_4_code 1 = .ok (.ifCond .eq 10, 3) := by decide +kernel
theorem d_Circuit_of_4 : decode prog_3_method_4_code 4 = .ok (.aload_n 0, 1) := by decide +kernel
theorem d_Circuit_of_5 : decode prog_3_method_4_code 5 = .ok (.getfield 35, 3) := by decide +kernel
theorem d_Circuit_of_8 : decode prog_3_method_4_code 8 = .ok (.goto 7, 3) := by decide +kernel
theorem d_Circuit_of_11 : decode prog_3_method_4_code 11 = .ok (.aload_n 0, 1) := by decide +kernel
theorem d_Circuit_of_12 : decode prog_3_method_4_code 12 = .ok (.getfield 12, 3) := by decide +kernel
theorem d_Circuit_of_15 : decode prog_3_method_4_code 15 = .ok (.areturn, 1) := by decide +kernel
def Circuit_of (h : g_AH) (this : Nat) (p0 : Int32) : Option (Option Nat) :=
  if p0 = 0 then (g_gR h this 12 2 fun x3 => some x3) else (g_gR h this 12 3 fun x7 => some x7)
set_option maxHeartbeats 4000000 in
set_option maxRecDepth 100000 in
theorem T_Circuit_of {l : Launch} {B : g_B} (h : g_AH) (this : Nat) (p0 : Int32) (z : Option Nat) (hy : Circuit_of h this p0 = some z) : g_CT l B y_Circuit_of k_Circuit_of [.ref this, .int p0] h (.inl (some (va_rf z))) h := by
  refine g_start2 (Lc := [(0, .ref this), (1, .int p0)]) (by decide) rfl rfl (by exact Nat.le_of_ble_eq_true rfl) (by rfl) fun X => ?_
  unfold Circuit_of at hy
  refine g_iload_n 1 (i := 1) (pc' := 1) d_Circuit_of_0 rfl rfl rfl ?_
  by_cases c1 : p0 = 0
  · rw [if_pos c1] at hy
    refine g_if_eqT (pc' := 11) d_Circuit_of_1 c1 (by decide) ?_
    refine g_aload_n 0 (i := 0) (pc' := 12) d_Circuit_of_11 rfl rfl rfl ?_
    replace hy := g_gR_inv hy
    obtain ⟨fs2, x3, hc4, hv5, hy⟩ := hy
    refine g_getf (pc' := 15) d_Circuit_of_12 hc4 rfl (by decide) hv5 q1152 (Or.inl rfl) rfl ?_
    cases hy
    exact g_aret rfl rfl rfl (Or.inl ⟨_, rfl⟩) d_Circuit_of_15
  · rw [if_neg c1] at hy
    refine g_if_eqF (pc' := 4) d_Circuit_of_1 11 c1 (by decide) rfl ?_
    refine g_aload_n 0 (i := 0) (pc' := 5) d_Circuit_of_4 rfl rfl rfl ?_
    replace hy := g_gR_inv hy
    obtain ⟨fs6, x7, hc8, hv9, hy⟩ := hy
    refine g_getf (pc' := 8) d_Circuit_of_5 hc8 rfl (by decide) hv9 q1159 (Or.inl rfl) rfl ?_
    refine g_goto (pc' := 15) d_Circuit_of_8 (by decide) ?_
    cases hy
    exact g_aret rfl rfl rfl (Or.inl ⟨_, rfl⟩) d_Circuit_of_15
theorem hd_Circuit_of : g_dsc y_Circuit_of 1 := ⟨by decide +kernel, by decide +kernel, by decide +kernel⟩
/-! CircuitDesk$Net.deliver(LCircuitDesk$Packet;LCircuitDesk$Circuit;)V -/
abbrev y_Net_deliver : MethodName := ⟨"CircuitDesk$Net", "deliver", "(LCircuitDesk$Packet;LCircuitDesk$Circuit;)V"⟩
abbrev k_Net_deliver : g_M := (prog_7_method_21_code, 4, "CircuitDesk$Net", 13, none, "deliver", [], 0)
theorem d_Net_deliver_0 : decode prog_7_method_21_code 0 = .ok (.aload_n 2, 1) := by decide +kernel
theorem d_Net_deliver_1 : decode prog_7_method_21_code 1 = .ok (.dup, 1) := by decide +kernel
theorem d_Net_deliver_2 : decode prog_7_method_21_code 2 = .ok (.getfield 243, 3) := by decide +kernel
theorem d_Net_deliver_5 : decode prog_7_method_21_code 5 = .ok (.iconst 1, 1) := by decide +kernel
theorem d_Net_deliver_6 : decode prog_7_method_21_code 6 = .ok (.iadd, 1) := by decide +kernel
theorem d_Net_deliver_7 : decode prog_7_method_21_code 7 = .ok (.putfield 243, 3) := by decide +kernel
theorem d_Net_deliver_10 : decode prog_7_method_21_code 10 = .ok (.aload_n 0, 1) := by decide +kernel
theorem d_Net_deliver_11 : decode prog_7_method_21_code 11 = .ok (.dup, 1) := by decide +kernel
theorem d_Net_deliver_12 : decode prog_7_method_21_code 12 = .ok (.getfield 94, 3) := by decide +kernel
theorem d_Net_deliver_15 : decode prog_7_method_21_code 15 = .ok (.iconst 1, 1) := by decide +kernel
theorem d_Net_deliver_16 : decode prog_7_method_21_code 16 = .ok (.iadd, 1) := by decide +kernel
theorem d_Net_deliver_17 : decode prog_7_method_21_code 17 = .ok (.putfield 94, 3) := by decide +kernel
theorem d_Net_deliver_20 : decode prog_7_method_21_code 20 = .ok (.aload_n 2, 1) := by decide +kernel
theorem d_Net_deliver_21 : decode prog_7_method_21_code 21 = .ok (.dup, 1) := by decide +kernel
theorem d_Net_deliver_22 : decode prog_7_method_21_code 22 = .ok (.getfield 244, 3) := by decide +kernel
theorem d_Net_deliver_25 : decode prog_7_method_21_code 25 = .ok (.aload_n 0, 1) := by decide +kernel
theorem d_Net_deliver_26 : decode prog_7_method_21_code 26 = .ok (.getfield 87, 3) := by decide +kernel
theorem d_Net_deliver_29 : decode prog_7_method_21_code 29 = .ok (.iconst 1, 1) := by decide +kernel
theorem d_Net_deliver_30 : decode prog_7_method_21_code 30 = .ok (.iadd, 1) := by decide +kernel
theorem d_Net_deliver_31 : decode prog_7_method_21_code 31 = .ok (.aload_n 1, 1) := by decide +kernel
theorem d_Net_deliver_32 : decode prog_7_method_21_code 32 = .ok (.getfield 247, 3) := by decide +kernel
theorem d_Net_deliver_35 : decode prog_7_method_21_code 35 = .ok (.isub, 1) := by decide +kernel
theorem d_Net_deliver_36 : decode prog_7_method_21_code 36 = .ok (.iadd, 1) := by decide +kernel
theorem d_Net_deliver_37 : decode prog_7_method_21_code 37 = .ok (.putfield 244, 3) := by decide +kernel
theorem d_Net_deliver_40 : decode prog_7_method_21_code 40 = .ok (.aload_n 1, 1) := by decide +kernel
theorem d_Net_deliver_41 : decode prog_7_method_21_code 41 = .ok (.getfield 250, 3) := by decide +kernel
theorem d_Net_deliver_44 : decode prog_7_method_21_code 44 = .ok (.aload_n 2, 1) := by decide +kernel
theorem d_Net_deliver_45 : decode prog_7_method_21_code 45 = .ok (.getfield 253, 3) := by decide +kernel
theorem d_Net_deliver_48 : decode prog_7_method_21_code 48 = .ok (.if_icmp .ge 7, 3) := by decide +kernel
theorem d_Net_deliver_51 : decode prog_7_method_21_code 51 = .ok (.iconst 1, 1) := by decide +kernel
theorem d_Net_deliver_52 : decode prog_7_method_21_code 52 = .ok (.goto 4, 3) := by decide +kernel
theorem d_Net_deliver_55 : decode prog_7_method_21_code 55 = .ok (.iconst 0, 1) := by decide +kernel
theorem d_Net_deliver_56 : decode prog_7_method_21_code 56 = .ok (.istore_n 3, 1) := by decide +kernel
theorem d_Net_deliver_57 : decode prog_7_method_21_code 57 = .ok (.aload_n 2, 1) := by decide +kernel
theorem d_Net_deliver_58 : decode prog_7_method_21_code 58 = .ok (.dup, 1) := by decide +kernel
theorem d_Net_deliver_59 : decode prog_7_method_21_code 59 = .ok (.getfield 256, 3) := by decide +kernel
theorem d_Net_deliver_62 : decode prog_7_method_21_code 62 = .ok (.iload_n 3, 1) := by decide +kernel
theorem d_Net_deliver_63 : decode prog_7_method_21_code 63 = .ok (.ifCond .eq 7, 3) := by decide +kernel
theorem d_Net_deliver_66 : decode prog_7_method_21_code 66 = .ok (.iconst 1, 1) := by decide +kernel
theorem d_Net_deliver_67 : decode prog_7_method_21_code 67 = .ok (.goto 4, 3) := by decide +kernel
theorem d_Net_deliver_70 : decode prog_7_method_21_code 70 = .ok (.iconst 0, 1) := by decide +kernel
theorem d_Net_deliver_71 : decode prog_7_method_21_code 71 = .ok (.iadd, 1) := by decide +kernel
theorem d_Net_deliver_72 : decode prog_7_method_21_code 72 = .ok (.putfield 256, 3) := by decide +kernel
theorem d_Net_deliver_75 : decode prog_7_method_21_code 75 = .ok (.aload_n 0, 1) := by decide +kernel
theorem d_Net_deliver_76 : decode prog_7_method_21_code 76 = .ok (.dup, 1) := by decide +kernel
theorem d_Net_deliver_77 : decode prog_7_method_21_code 77 = .ok (.getfield 103, 3) := by decide +kernel
theorem d_Net_deliver_80 : decode prog_7_method_21_code 80 = .ok (.iload_n 3, 1) := by decide +kernel
theorem d_Net_deliver_81 : decode prog_7_method_21_code 81 = .ok (.ifCond .eq 7, 3) := by decide +kernel
theorem d_Net_deliver_84 : decode prog_7_method_21_code 84 = .ok (.iconst 1, 1) := by decide +kernel
theorem d_Net_deliver_85 : decode prog_7_method_21_code 85 = .ok (.goto 4, 3) := by decide +kernel
theorem d_Net_deliver_88 : decode prog_7_method_21_code 88 = .ok (.iconst 0, 1) := by decide +kernel
theorem d_Net_deliver_89 : decode prog_7_method_21_code 89 = .ok (.iadd, 1) := by decide +kernel
theorem d_Net_deliver_90 : decode prog_7_method_21_code 90 = .ok (.putfield 103, 3) := by decide +kernel
theorem d_Net_deliver_93 : decode prog_7_method_21_code 93 = .ok (.aload_n 2, 1) := by decide +kernel
theorem d_Net_deliver_94 : decode prog_7_method_21_code 94 = .ok (.aload_n 2, 1) := by decide +kernel
theorem d_Net_deliver_95 : decode prog_7_method_21_code 95 = .ok (.getfield 253, 3) := by decide +kernel
theorem d_Net_deliver_98 : decode prog_7_method_21_code 98 = .ok (.aload_n 1, 1) := by decide +kernel
theorem d_Net_deliver_99 : decode prog_7_method_21_code 99 = .ok (.getfield 250, 3) := by decide +kernel
theorem d_Net_deliver_102 : decode prog_7_method_21_code 102 = .ok (.invokestatic 257, 3) := by decide +kernel
theorem d_Net_deliver_105 : decode prog_7_method_21_code 105 = .ok (.putfield 253, 3) := by decide +kernel
theorem d_Net_deliver_108 : decode prog_7_method_21_code 108 = .ok (.return_, 1) := by decide +kernel
def Net_deliver_89 (h : g_AH) (v1 : Option Nat) (v2 : Option Nat) (s0 : Int32) (s1 : Int32) (s2 : Nat) : Option g_AH :=
  g_pF h s2 1 11 (.int (s1 + s0)) fun h62 => g_nn v2 fun a63 => g_gI h62 a63 12 13 fun x65 => g_nn v1 fun a68 => g_gI h62 a68 14 1 fun x70 => g_pF h62 a63 12 13 (.int (if x65 < x70 then x70 else x65)) fun h76 => some h76
set_option maxHeartbeats 4000000 in
set_option maxRecDepth 100000 in
theorem W_Net_deliver_89 {X : g_X} (z : g_AH) (h : g_AH) (v1 : Option Nat) (v2 : Option Nat) (s0 : Int32) (s1 : Int32) (s2 : Nat) (hy : Net_deliver_89  h v1 v2 s0 s1 s2 = some z) : G X k_Net_deliver (.inl none) z h 89 [(1, va_rf v1), (2, va_rf v2)] [.int s0, .int s1, .ref s2] := by
  unfold Net_deliver_89 at hy
  refine g_iadd (pc' := 90) d_Net_deliver_89 rfl ?_
  replace hy := g_pF_inv hy
  obtain ⟨fs59, hc60, hl61, hy⟩ := hy
  refine g_putf (pc' := 93) d_Net_deliver_90 hc60 rfl (by decide) hl61 rfl rfl rfl q574 (Or.inl rfl) rfl ?_
  generalize g_up h s2 (.inr (1, fs59.set 11 (.int (s1 + s0)))) = h62 at hy ⊢
  refine g_aloadO_n 1 (i := 2) (pc' := 94) d_Net_deliver_93 rfl rfl rfl ?_
  refine g_aloadO_n 1 (i := 2) (pc' := 95) d_Net_deliver_94 rfl rfl rfl ?_
  replace hy := g_nn_inv hy
  obtain ⟨a63, rfl, hy⟩ := hy
  replace hy := g_gI_inv hy
  obtain ⟨fs64, x65, hc66, hv67, hy⟩ := hy
  refine g_getfN (pc' := 98) d_Net_deliver_95 hc66 rfl (by decide) hv67 q1199 rfl rfl ?_
  refine g_aloadO_n 0 (i := 1) (pc' := 99) d_Net_deliver_98 rfl rfl rfl ?_
  replace hy := g_nn_inv hy
  obtain ⟨a68, rfl, hy⟩ := hy
  replace hy := g_gI_inv hy
  obtain ⟨fs69, x70, hc71, hv72, hy⟩ := hy
  refine g_getfN (pc' := 102) d_Net_deliver_99 hc71 rfl (by decide) hv72 q1807 rfl rfl ?_
  refine g_mmax (pc' := 105) d_Net_deliver_102 q1743 q278 q122 q279 (by first | exact Nat.le_of_ble_eq_true rfl | (simp only [List.map, List.sum_cons, List.sum_nil, g_cat_rf]; exact Nat.le_of_ble_eq_true rfl) | (simp only [List.map, List.sum_cons, List.sum_nil, g_cat_rf, Value.category]; decide)) (by decide) rfl ?_
  replace hy := g_pF_inv hy
  obtain ⟨fs73, hc74, hl75, hy⟩ := hy
  refine g_putfN (pc' := 108) d_Net_deliver_105 hc74 rfl (by decide) hl75 rfl rfl rfl q1199 rfl rfl ?_
  generalize g_up h62 a63 (.inr (12, fs73.set 13 (.int (if x65 < x70 then x70 else x65)))) = h76 at hy ⊢
  cases hy
  exact g_vret rfl rfl rfl d_Net_deliver_108
def Net_deliver_71 (h : g_AH) (v0 : Nat) (v1 : Option Nat) (v2 : Option Nat) (v3 : Int32) (s0 : Int32) (s1 : Int32) (s2 : Nat) : Option g_AH :=
  g_pF h s2 12 12 (.int (s1 + s0)) fun h53 => g_gI h53 v0 1 11 fun x55 => if v3 = 0 then (Net_deliver_89  h53 v1 v2 (0 : Int32) x55 v0) else (Net_deliver_89  h53 v1 v2 (1 : Int32) x55 v0)
set_option maxHeartbeats 4000000 in
set_option maxRecDepth 100000 in
theorem W_Net_deliver_71 {X : g_X} (z : g_AH) (h : g_AH) (v0 : Nat) (v1 : Option Nat) (v2 : Option Nat) (v3 : Int32) (s0 : Int32) (s1 : Int32) (s2 : Nat) (hy : Net_deliver_71  h v0 v1 v2 v3 s0 s1 s2 = some z) : G X k_Net_deliver (.inl none) z h 71 [(0, .ref v0), (1, va_rf v1), (2, va_rf v2), (3, .int v3)] [.int s0, .int s1, .ref s2] := by
  unfold Net_deliver_71 at hy
  refine g_iadd (pc' := 72) d_Net_deliver_71 rfl ?_
  replace hy := g_pF_inv hy
  obtain ⟨fs50, hc51, hl52, hy⟩ := hy
  refine g_putfN (pc' := 75) d_Net_deliver_72 hc51 rfl (by decide) hl52 rfl rfl rfl q1196 rfl rfl ?_
  generalize g_up h s2 (.inr (12, fs50.set 12 (.int (s1 + s0)))) = h53 at hy ⊢
  refine g_aload_n 0 (i := 0) (pc' := 76) d_Net_deliver_75 rfl rfl rfl ?_
  refine g_dup (pc' := 77) d_Net_deliver_76 rfl rfl ?_
  replace hy := g_gI_inv hy
  obtain ⟨fs54, x55, hc56, hv57, hy⟩ := hy
  refine g_getf (pc' := 80) d_Net_deliver_77 hc56 rfl (by decide) hv57 q574 (Or.inl rfl) rfl ?_
  refine g_iload_n 3 (i := 3) (pc' := 81) d_Net_deliver_80 rfl rfl rfl ?_
  by_cases c58 : v3 = 0
  · rw [if_pos c58] at hy
    refine g_if_eqT (pc' := 88) d_Net_deliver_81 c58 (by decide) ?_
    refine g_iconst (v := (0 : Int32)) (pc' := 89) d_Net_deliver_88 (by decide) rfl ?_
    refine g_sub [1, 2] rfl ?_
    exact W_Net_deliver_89 _ _ _ _ _ _ _ hy
  · rw [if_neg c58] at hy
    refine g_if_eqF (pc' := 84) d_Net_deliver_81 88 c58 (by decide) rfl ?_
    refine g_iconst (v := (1 : Int32)) (pc' := 85) d_Net_deliver_84 (by decide) rfl ?_
    refine g_goto (pc' := 89) d_Net_deliver_85 (by decide) ?_
    refine g_sub [1, 2] rfl ?_
    exact W_Net_deliver_89 _ _ _ _ _ _ _ hy
def Net_deliver_56 (h : g_AH) (v0 : Nat) (v1 : Option Nat) (v2 : Option Nat) (s0 : Int32) : Option g_AH :=
  g_nn v2 fun a44 => g_gI h a44 12 12 fun x46 => if s0 = 0 then (Net_deliver_71  h v0 v1 (some a44) s0 (0 : Int32) x46 a44) else (Net_deliver_71  h v0 v1 (some a44) s0 (1 : Int32) x46 a44)
set_option maxHeartbeats 4000000 in
set_option maxRecDepth 100000 in
theorem W_Net_deliver_56 {X : g_X} (z : g_AH) (h : g_AH) (v0 : Nat) (v1 : Option Nat) (v2 : Option Nat) (s0 : Int32) (hy : Net_deliver_56  h v0 v1 v2 s0 = some z) : G X k_Net_deliver (.inl none) z h 56 [(0, .ref v0), (1, va_rf v1), (2, va_rf v2)] [.int s0] := by
  unfold Net_deliver_56 at hy
  refine g_istore_n (i := 3) (pc' := 57) (Lc' := [(3, .int s0), (0, .ref v0), (1, va_rf v1), (2, va_rf v2)]) d_Net_deliver_56 rfl (by decide) (by cases v2 <;> rfl) rfl ?_
  refine g_aloadO_n 3 (i := 2) (pc' := 58) d_Net_deliver_57 rfl rfl rfl ?_
  refine g_dup (pc' := 59) d_Net_deliver_58 g_cat_rf rfl ?_
  replace hy := g_nn_inv hy
  obtain ⟨a44, rfl, hy⟩ := hy
  replace hy := g_gI_inv hy
  obtain ⟨fs45, x46, hc47, hv48, hy⟩ := hy
  refine g_getfN (pc' := 62) d_Net_deliver_59 hc47 rfl (by decide) hv48 q1196 rfl rfl ?_
  refine g_iload_n 0 (i := 3) (pc' := 63) d_Net_deliver_62 rfl rfl rfl ?_
  by_cases c49 : s0 = 0
  · rw [if_pos c49] at hy
    refine g_if_eqT (pc' := 70) d_Net_deliver_63 c49 (by decide) ?_
    refine g_iconst (v := (0 : Int32)) (pc' := 71) d_Net_deliver_70 (by decide) rfl ?_
    refine g_sub [1, 2, 3, 0] rfl ?_
    exact W_Net_deliver_71 _ _ _ _ _ _ _ _ _ hy
  · rw [if_neg c49] at hy
    refine g_if_eqF (pc' := 66) d_Net_deliver_63 70 c49 (by decide) rfl ?_
    refine g_iconst (v := (1 : Int32)) (pc' := 67) d_Net_deliver_66 (by decide) rfl ?_
    refine g_goto (pc' := 71) d_Net_deliver_67 (by decide) ?_
    refine g_sub [1, 2, 3, 0] rfl ?_
    exact W_Net_deliver_71 _ _ _ _ _ _ _ _ _ hy
def Net_deliver (h : g_AH) (this : Nat) (p0 : Option Nat) (p1 : Option Nat) : Option g_AH :=
  g_nn p1 fun a1 => g_gI h a1 12 10 fun x3 => g_pF h a1 12 10 (.int (x3 + (1 : Int32))) fun h9 => g_gI h9 this 1 8 fun x11 => g_pF h9 this 1 8 (.int (x11 + (1 : Int32))) fun h17 => g_gI h17 a1 12 14 fun x19 => g_gI h17 this 1 6 fun x23 => g_nn p0 fun a26 => g_gI h17 a26 14 2 fun x28 => g_pF h17 a1 12 14 (.int (x19 + ((x23 + (1 : Int32)) - x28))) fun h34 => g_gI h34 a26 14 1 fun x36 => g_gI h34 a1 12 13 fun x40 => if x40 ≤ x36 then (Net_deliver_56  h34 this (some a26) (some a1) (0 : Int32)) else (Net_deliver_56  h34 this (some a26) (some a1) (1 : Int32))
set_option maxHeartbeats 4000000 in
set_option maxRecDepth 100000 in
theorem T_Net_deliver {l : Launch} {B : g_B} (h : g_AH) (this : Nat) (p0 : Option Nat) (p1 : Option Nat) (z : g_AH) (hy : Net_deliver h this p0 p1 = some z) : g_CT l B y_Net_deliver k_Net_deliver [.ref this, va_rf p0, va_rf p1] h (.inl none) z := by
  refine g_start2 (Lc := [(0, .ref this), (1, va_rf p0), (2, va_rf p1)]) (by decide) rfl rfl (by rcases p0 with _ | p0 <;> rcases p1 with _ | p1 <;> exact Nat.le_of_ble_eq_true rfl) (by rcases p0 with _ | p0 <;> rcases p1 with _ | p1 <;> rfl) fun X => ?_
  unfold Net_deliver at hy
  refine g_aloadO_n 2 (i := 2) (pc' := 1) d_Net_deliver_0 rfl rfl rfl ?_
  refine g_dup (pc' := 2) d_Net_deliver_1 g_cat_rf rfl ?_
  replace hy := g_nn_inv hy
  obtain ⟨a1, rfl, hy⟩ := hy
  replace hy := g_gI_inv hy
  obtain ⟨fs2, x3, hc4, hv5, hy⟩ := hy
  refine g_getfN (pc' := 5) d_Net_deliver_2 hc4 rfl (by decide) hv5 q1190 rfl rfl ?_
  refine g_iconst (v := (1 : Int32)) (pc' := 6) d_Net_deliver_5 (by decide) rfl ?_
  refine g_iadd (pc' := 7) d_Net_deliver_6 rfl ?_
  replace hy := g_pF_inv hy
  obtain ⟨fs6, hc7, hl8, hy⟩ := hy
  refine g_putfN (pc' := 10) d_Net_deliver_7 hc7 rfl (by decide) hl8 rfl rfl rfl q1190 rfl rfl ?_
  generalize g_up h a1 (.inr (12, fs6.set 10 (.int (x3 + (1 : Int32))))) = h9 at hy ⊢
  refine g_aload_n 0 (i := 0) (pc' := 11) d_Net_deliver_10 rfl rfl rfl ?_
  refine g_dup (pc' := 12) d_Net_deliver_11 rfl rfl ?_
  replace hy := g_gI_inv hy
  obtain ⟨fs10, x11, hc12, hv13, hy⟩ := hy
  refine g_getf (pc' := 15) d_Net_deliver_12 hc12 rfl (by decide) hv13 q568 (Or.inl rfl) rfl ?_
  refine g_iconst (v := (1 : Int32)) (pc' := 16) d_Net_deliver_15 (by decide) rfl ?_
  refine g_iadd (pc' := 17) d_Net_deliver_16 rfl ?_
  replace hy := g_pF_inv hy
  obtain ⟨fs14, hc15, hl16, hy⟩ := hy
  refine g_putf (pc' := 20) d_Net_deliver_17 hc15 rfl (by decide) hl16 rfl rfl rfl q568 (Or.inl rfl) rfl ?_
  generalize g_up h9 this (.inr (1, fs14.set 8 (.int (x11 + (1 : Int32))))) = h17 at hy ⊢
  refine g_aload_n 2 (i := 2) (pc' := 21) d_Net_deliver_20 rfl rfl rfl ?_
  refine g_dup (pc' := 22) d_Net_deliver_21 rfl rfl ?_
  replace hy := g_gI_inv hy
  obtain ⟨fs18, x19, hc20, hv21, hy⟩ := hy
  refine g_getfN (pc' := 25) d_Net_deliver_22 hc20 rfl (by decide) hv21 q1201 rfl rfl ?_
  refine g_aload_n 0 (i := 0) (pc' := 26) d_Net_deliver_25 rfl rfl rfl ?_
  replace hy := g_gI_inv hy
  obtain ⟨fs22, x23, hc24, hv25, hy⟩ := hy
  refine g_getf (pc' := 29) d_Net_deliver_26 hc24 rfl (by decide) hv25 q564 (Or.inl rfl) rfl ?_
  refine g_iconst (v := (1 : Int32)) (pc' := 30) d_Net_deliver_29 (by decide) rfl ?_
  refine g_iadd (pc' := 31) d_Net_deliver_30 rfl ?_
  refine g_aloadO_n 1 (i := 1) (pc' := 32) d_Net_deliver_31 rfl rfl rfl ?_
  replace hy := g_nn_inv hy
  obtain ⟨a26, rfl, hy⟩ := hy
  replace hy := g_gI_inv hy
  obtain ⟨fs27, x28, hc29, hv30, hy⟩ := hy
  refine g_getfN (pc' := 35) d_Net_deliver_32 hc29 rfl (by decide) hv30 q1810 rfl rfl ?_
  refine g_isub (pc' := 36) d_Net_deliver_35 rfl ?_
  refine g_iadd (pc' := 37) d_Net_deliver_36 rfl ?_
  replace hy := g_pF_inv hy
  obtain ⟨fs31, hc32, hl33, hy⟩ := hy
  refine g_putfN (pc' := 40) d_Net_deliver_37 hc32 rfl (by decide) hl33 rfl rfl rfl q1201 rfl rfl ?_
  generalize g_up h17 a1 (.inr (12, fs31.set 14 (.int (x19 + ((x23 + (1 : Int32)) - x28))))) = h34 at hy ⊢
  refine g_aload_n 1 (i := 1) (pc' := 41) d_Net_deliver_40 rfl rfl rfl ?_
  replace hy := g_gI_inv hy
  obtain ⟨fs35, x36, hc37, hv38, hy⟩ := hy
  refine g_getfN (pc' := 44) d_Net_deliver_41 hc37 rfl (by decide) hv38 q1807 rfl rfl ?_
  refine g_aload_n 2 (i := 2) (pc' := 45) d_Net_deliver_44 rfl rfl rfl ?_
  replace hy := g_gI_inv hy
  obtain ⟨fs39, x40, hc41, hv42, hy⟩ := hy
  refine g_getfN (pc' := 48) d_Net_deliver_45 hc41 rfl (by decide) hv42 q1199 rfl rfl ?_
  by_cases c43 : x40 ≤ x36
  · rw [if_pos c43] at hy
    refine g_icmp_geT (pc' := 55) d_Net_deliver_48 c43 (by decide) ?_
    refine g_iconst (v := (0 : Int32)) (pc' := 56) d_Net_deliver_55 (by decide) rfl ?_
    exact W_Net_deliver_56 _ _ _ _ _ _ hy
  · rw [if_neg c43] at hy
    refine g_icmp_geF (pc' := 51) d_Net_deliver_48 55 c43 (by decide) rfl ?_
    refine g_iconst (v := (1 : Int32)) (pc' := 52) d_Net_deliver_51 (by decide) rfl ?_
    refine g_goto (pc' := 56) d_Net_deliver_52 (by decide) ?_
    exact W_Net_deliver_56 _ _ _ _ _ _ hy
theorem hd_Net_deliver : g_dsc y_Net_deliver 2 := ⟨by decide +kernel, by decide +kernel, by decide +kernel⟩
/-! CircuitDesk$Net.goesOn(LCircuitDesk$Packet;LCircuitDesk$Way;I)Z -/
abbrev y_Net_goesOn : MethodName := ⟨"CircuitDesk$Net", "goesOn", "(LCircuitDesk$Packet;LCircuitDesk$Way;I)Z"⟩
abbrev k_Net_goesOn : g_M := (prog_7_method_20_code, 5, "CircuitDesk$Net", 16, (some FieldType.boolean), "goesOn", [], 0)
theorem d_Net_goesOn_0 : decode prog_7_method_20_code 0 = .ok (.aload_n 0, 1) := by decide +kernel
theorem d_Net_goesOn_1 : decode prog_7_method_20_code 1 = .ok (.aload_n 2, 1) := by decide +kernel
theorem d_Net_goesOn_2 : decode prog_7_method_20_code 2 = .ok (.getfield 138, 3) := by decide +kernel
theorem d_Net_goesOn_5 : decode prog_7_method_20_code 5 = .ok (.iload_n 3, 1) := by decide +kernel
theorem d_Net_goesOn_6 : decode prog_7_method_20_code 6 = .ok (.iconst 1, 1) := by decide +kernel
theorem d_Net_goesOn_7 : decode prog_7_method_20_code 7 = .ok (.isub, 1) := by decide +kernel
theorem d_Net_goesOn_8 : decode prog_7_method_20_code 8 = .ok (.iaload, 1) := by decide +kernel
theorem d_Net_goesOn_9 : decode prog_7_method_20_code 9 = .ok (.aload_n 2, 1) := by decide +kernel
theorem d_Net_goesOn_10 : decode prog_7_method_20_code 10 = .ok (.getfield 138, 3) := by decide +kernel
theorem d_Net_goesOn_13 : decode prog_7_method_20_code 13 = .ok (.iload_n 3, 1) := by decide +kernel
theorem d_Net_goesOn_14 : decode prog_7_method_20_code 14 = .ok (.iaload, 1) := by decide +kernel
theorem d_Net_goesOn_15 : decode prog_7_method_20_code 15 = .ok (.invokevirtual 124, 3) := by decide +kernel
theorem d_Net_goesOn_18 : decode prog_7_method_20_code 18 = .ok (.istore 4, 2) := by decide +kernel
theorem d_Net_goesOn_20 : decode prog_7_method_20_code 20 = .ok (.aload_n 1, 1) := by decide +kernel
theorem d_Net_goesOn_21 : decode prog_7_method_20_code 21 = .ok (.iload 4, 2) := by decide +kernel
theorem d_Net_goesOn_23 : decode prog_7_method_20_code 23 = .ok (.putfield 222, 3) := by decide +kernel
theorem d_Net_goesOn_26 : decode prog_7_method_20_code 26 = .ok (.aload_n 1, 1) := by decide +kernel
theorem d_Net_goesOn_27 : decode prog_7_method_20_code 27 = .ok (.aload_n 2, 1) := by decide +kernel
theorem d_Net_goesOn_28 : decode prog_7_method_20_code 28 = .ok (.getfield 138, 3) := by decide +kernel
theorem d_Net_goesOn_31 : decode prog_7_method_20_code 31 = .ok (.iload_n 3, 1) := by decide +kernel
theorem d_Net_goesOn_32 : decode prog_7_method_20_code 32 = .ok (.iaload, 1) := by decide +kernel
theorem d_Net_goesOn_33 : decode prog_7_method_20_code 33 = .ok (.putfield 225, 3) := by decide +kernel
theorem d_Net_goesOn_36 : decode prog_7_method_20_code 36 = .ok (.aload_n 1, 1) := by decide +kernel
theorem d_Net_goesOn_37 : decode prog_7_method_20_code 37 = .ok (.aload_n 2, 1) := by decide +kernel
theorem d_Net_goesOn_38 : decode prog_7_method_20_code 38 = .ok (.getfield 196, 3) := by decide +kernel
theorem d_Net_goesOn_41 : decode prog_7_method_20_code 41 = .ok (.iload_n 3, 1) := by decide +kernel
theorem d_Net_goesOn_42 : decode prog_7_method_20_code 42 = .ok (.iaload, 1) := by decide +kernel
theorem d_Net_goesOn_43 : decode prog_7_method_20_code 43 = .ok (.putfield 228, 3) := by decide +kernel
theorem d_Net_goesOn_46 : decode prog_7_method_20_code 46 = .ok (.aload_n 1, 1) := by decide +kernel
theorem d_Net_goesOn_47 : decode prog_7_method_20_code 47 = .ok (.aload_n 2, 1) := by decide +kernel
theorem d_Net_goesOn_48 : decode prog_7_method_20_code 48 = .ok (.getfield 199, 3) := by decide +kernel
theorem d_Net_goesOn_51 : decode prog_7_method_20_code 51 = .ok (.iload_n 3, 1) := by decide +kernel
theorem d_Net_goesOn_52 : decode prog_7_method_20_code 52 = .ok (.iaload, 1) := by decide +kernel
theorem d_Net_goesOn_53 : decode prog_7_method_20_code 53 = .ok (.putfield 231, 3) := by decide +kernel
theorem d_Net_goesOn_56 : decode prog_7_method_20_code 56 = .ok (.aload_n 1, 1) := by decide +kernel
theorem d_Net_goesOn_57 : decode prog_7_method_20_code 57 = .ok (.aload_n 0, 1) := by decide +kernel
theorem d_Net_goesOn_58 : decode prog_7_method_20_code 58 = .ok (.getfield 24, 3) := by decide +kernel
theorem d_Net_goesOn_61 : decode prog_7_method_20_code 61 = .ok (.iload 4, 2) := by decide +kernel
theorem d_Net_goesOn_63 : decode prog_7_method_20_code 63 = .ok (.invokevirtual 116, 3) := by decide +kernel
theorem d_Net_goesOn_66 : decode prog_7_method_20_code 66 = .ok (.checkcast 72, 3) := by decide +kernel
theorem d_Net_goesOn_69 : decode prog_7_method_20_code 69 = .ok (.getfield 140, 3) := by decide +kernel
theorem d_Net_goesOn_72 : decode prog_7_method_20_code 72 = .ok (.putfield 233, 3) := by decide +kernel
theorem d_Net_goesOn_75 : decode prog_7_method_20_code 75 = .ok (.aload_n 0, 1) := by decide +kernel
theorem d_Net_goesOn_76 : decode prog_7_method_20_code 76 = .ok (.getfield 24, 3) := by decide +kernel
theorem d_Net_goesOn_79 : decode prog_7_method_20_code 79 = .ok (.iload 4, 2) := by decide +kernel
theorem d_Net_goesOn_81 : decode prog_7_method_20_code 81 = .ok (.invokevirtual 116, 3) := by decide +kernel
theorem d_Net_goesOn_84 : decode prog_7_method_20_code 84 = .ok (.checkcast 72, 3) := by decide +kernel
theorem d_Net_goesOn_87 : decode prog_7_method_20_code 87 = .ok (.getfield 156, 3) := by decide +kernel
theorem d_Net_goesOn_90 : decode prog_7_method_20_code 90 = .ok (.ifCond .ne 21, 3) := by decide +kernel
theorem d_Net_goesOn_93 : decode prog_7_method_20_code 93 = .ok (.aload_n 0, 1) := by decide +kernel
theorem d_Net_goesOn_94 : decode prog_7_method_20_code 94 = .ok (.aload_n 0, 1) := by decide +kernel
theorem d_Net_goesOn_95 : decode prog_7_method_20_code 95 = .ok (.getfield 27, 3) := by decide +kernel
theorem d_Net_goesOn_98 : decode prog_7_method_20_code 98 = .ok (.aload_n 1, 1) := by decide +kernel
theorem d_Net_goesOn_99 : decode prog_7_method_20_code 99 = .ok (.getfield 236, 3) := by decide +kernel
theorem d_Net_goesOn_102 : decode prog_7_method_20_code 102 = .ok (.invokevirtual 116, 3) := by decide +kernel
theorem d_Net_goesOn_105 : decode prog_7_method_20_code 105 = .ok (.checkcast 77, 3) := by decide +kernel
theorem d_Net_goesOn_108 : decode prog_7_method_20_code 108 = .ok (.invokevirtual 239, 3) := by decide +kernel
theorem d_Net_goesOn_111 : decode prog_7_method_20_code 111 = .ok (.aload_n 0, 1) := by decide +kernel
theorem d_Net_goesOn_112 : decode prog_7_method_20_code 112 = .ok (.getfield 24, 3) := by decide +kernel
theorem d_Net_goesOn_115 : decode prog_7_method_20_code 115 = .ok (.iload 4, 2) := by decide +kernel
theorem d_Net_goesOn_117 : decode prog_7_method_20_code 117 = .ok (.invokevirtual 116, 3) := by decide +kernel
theorem d_Net_goesOn_120 : decode prog_7_method_20_code 120 = .ok (.checkcast 72, 3) := by decide +kernel
theorem d_Net_goesOn_123 : decode prog_7_method_20_code 123 = .ok (.getfield 156, 3) := by decide +kernel
theorem d_Net_goesOn_126 : decode prog_7_method_20_code 126 = .ok (.ireturn, 1) := by decide +kernel
def Net_goesOn_111 (h : g_AH) (v0 : Nat) (v4 : Int32) : Option (Int32 × g_AH) :=
  g_gR h v0 1 2 fun x112 => g_nn x112 fun a115 => g_is h a115 15 <| g_b (ArrayList_get h a115 v4) fun x118 => g_ck h x118 11 <| g_nn x118 fun a122 => g_gI h a122 11 4 fun x124 => g_rq (x124 = 0 ∨ x124 = 1) <| some (x124, h)
set_option maxHeartbeats 4000000 in
set_option maxRecDepth 100000 in
theorem W_Net_goesOn_111 {X : g_X} (z : Int32 × g_AH) (h : g_AH) (v0 : Nat) (v4 : Int32) (hy : Net_goesOn_111  h v0 v4 = some z) : G X k_Net_goesOn (.inl (some (.int z.1))) z.2 h 111 [(0, .ref v0), (4, .int v4)] [] := by
  unfold Net_goesOn_111 at hy
  refine g_aload_n 0 (i := 0) (pc' := 112) d_Net_goesOn_111 rfl rfl rfl ?_
  replace hy := g_gR_inv hy
  obtain ⟨fs111, x112, hc113, hv114, hy⟩ := hy
  refine g_getf (pc' := 115) d_Net_goesOn_112 hc113 rfl (by decide) hv114 q552 (Or.inl rfl) rfl ?_
  refine g_iload 1 (pc' := 117) d_Net_goesOn_115 rfl rfl ?_
  replace hy := g_nn_inv hy
  obtain ⟨a115, rfl, hy⟩ := hy
  replace hy := g_is_inv hy
  obtain ⟨fs116, hc117, hy⟩ := hy
  replace hy := g_b_inv hy
  obtain ⟨x118, hf120, hy⟩ := hy
  refine g_callV (rv := some (va_rf x118)) (h1 := h) (pc' := 120) (As := [.int v4]) (rest := []) 1 (T_ArrayList_get (hy := hf120)) d_Net_goesOn_117 hc117 rfl rfl q682 q683 q684 q112 q685 hd_ArrayList_get rfl ⟨by decide, by decide⟩ (by first | exact Nat.le_of_ble_eq_true rfl | (simp only [List.map, List.sum_cons, List.sum_nil, g_cat_rf]; exact Nat.le_of_ble_eq_true rfl) | (simp only [List.map, List.sum_cons, List.sum_nil, g_cat_rf, Value.category]; decide)) rfl ?_
  replace hy := g_ck_inv hy
  obtain ⟨hk121, hy⟩ := hy
  refine g_castO (pc' := 123) d_Net_goesOn_120 hk121 rfl q701 rfl ?_
  replace hy := g_nn_inv hy
  obtain ⟨a122, rfl, hy⟩ := hy
  replace hy := g_gI_inv hy
  obtain ⟨fs123, x124, hc125, hv126, hy⟩ := hy
  refine g_getfN (pc' := 126) d_Net_goesOn_123 hc125 rfl (by decide) hv126 q1121 rfl rfl ?_
  replace hy := g_rq_inv hy
  obtain ⟨c127, hy⟩ := hy
  cases hy
  exact g_zret rfl rfl rfl (g_nar_z c127).1 d_Net_goesOn_126
def Net_goesOn (h : g_AH) (this : Nat) (p0 : Option Nat) (p1 : Option Nat) (p2 : Int32) : Option (Int32 × g_AH) :=
  g_nn p1 fun a1 => g_gR h a1 6 0 fun x3 => g_nn x3 fun a6 => g_aI h 0 a6 (p2 - (1 : Int32)) fun x7 => g_gR h a1 6 0 fun x13 => g_nn x13 fun a16 => g_aI h 0 a16 p2 fun x17 => g_is h this 1 <| g_b (Net_linkOf h this x7 x17) fun x24 => g_nn p0 fun a27 => g_pF h a27 14 3 (.int x24) fun h31 => g_gR h31 a1 6 0 fun x33 => g_nn x33 fun a36 => g_aI h31 0 a36 p2 fun x37 => g_pF h31 a27 14 4 (.int x37) fun h45 => g_gR h45 a1 6 1 fun x47 => g_nn x47 fun a50 => g_aI h45 0 a50 p2 fun x51 => g_pF h45 a27 14 5 (.int x51) fun h59 => g_gR h59 a1 6 2 fun x61 => g_nn x61 fun a64 => g_aI h59 0 a64 p2 fun x65 => g_pF h59 a27 14 6 (.int x65) fun h73 => g_gR h73 this 1 2 fun x75 => g_nn x75 fun a78 => g_is h73 a78 15 <| g_b (ArrayList_get h73 a78 x24) fun x81 => g_ck h73 x81 11 <| g_nn x81 fun a85 => g_gI h73 a85 11 3 fun x87 => g_pF h73 a27 14 7 (.int x87) fun h93 => g_gR h93 this 1 2 fun x95 => g_nn x95 fun a98 => g_is h93 a98 15 <| g_b (ArrayList_get h93 a98 x24) fun x101 => g_ck h93 x101 11 <| g_nn x101 fun a105 => g_gI h93 a105 11 4 fun x107 => if x107 = 0 then (g_gR h93 this 1 3 fun x129 => g_gI h93 a27 14 0 fun x133 => g_nn x129 fun a136 => g_is h93 a136 15 <| g_b (ArrayList_get h93 a136 x133) fun x139 => g_ck h93 x139 12 <| g_is h93 this 1 <| g_b (Net_lose h93 this x139) fun h146 => Net_goesOn_111  h146 this x24) else (Net_goesOn_111  h93 this x24)
set_option maxHeartbeats 4000000 in
set_option maxRecDepth 100000 in
theorem T_Net_goesOn {l : Launch} {B : g_B} (h : g_AH) (this : Nat) (p0 : Option Nat) (p1 : Option Nat) (p2 : Int32) (z : Int32 × g_AH) (hy : Net_goesOn h this p0 p1 p2 = some z) : g_CT l B y_Net_goesOn k_Net_goesOn [.ref this, va_rf p0, va_rf p1, .int p2] h (.inl (some (.int z.1))) z.2 := by
  refine g_start2 (Lc := [(0, .ref this), (1, va_rf p0), (2, va_rf p1), (3, .int p2)]) (by decide) rfl rfl (by rcases p0 with _ | p0 <;> rcases p1 with _ | p1 <;> exact Nat.le_of_ble_eq_true rfl) (by rcases p0 with _ | p0 <;> rcases p1 with _ | p1 <;> rfl) fun X => ?_
  unfold Net_goesOn at hy
  refine g_aload_n 0 (i := 0) (pc' := 1) d_Net_goesOn_0 rfl rfl rfl ?_
  refine g_aloadO_n 2 (i := 2) (pc' := 2) d_Net_goesOn_1 rfl rfl rfl ?_
  replace hy := g_nn_inv hy
  obtain ⟨a1, rfl, hy⟩ := hy
  replace hy := g_gR_inv hy
  obtain ⟨fs2, x3, hc4, hv5, hy⟩ := hy
  refine g_getfN (pc' := 5) d_Net_goesOn_2 hc4 rfl (by decide) hv5 q617 rfl rfl ?_
  refine g_iload_n 3 (i := 3) (pc' := 6) d_Net_goesOn_5 rfl rfl rfl ?_
  refine g_iconst (v := (1 : Int32)) (pc' := 7) d_Net_goesOn_6 (by decide) rfl ?_
  refine g_isub (pc' := 8) d_Net_goesOn_7 rfl ?_
  replace hy := g_nn_inv hy
  obtain ⟨a6, rfl, hy⟩ := hy
  replace hy := g_aI_inv hy
  obtain ⟨n8, f9, hc10, hi11, hy⟩ := hy
  refine g_iald (pc' := 9) d_Net_goesOn_8 hc10 hi11 rfl ?_
  generalize f9 ((p2 - (1 : Int32))).toNatClampNeg = x7 at hy ⊢
  refine g_aload_n 2 (i := 2) (pc' := 10) d_Net_goesOn_9 rfl rfl rfl ?_
  replace hy := g_gR_inv hy
  obtain ⟨fs12, x13, hc14, hv15, hy⟩ := hy
  refine g_getfN (pc' := 13) d_Net_goesOn_10 hc14 rfl (by decide) hv15 q617 rfl rfl ?_
  refine g_iload_n 3 (i := 3) (pc' := 14) d_Net_goesOn_13 rfl rfl rfl ?_
  replace hy := g_nn_inv hy
  obtain ⟨a16, rfl, hy⟩ := hy
  replace hy := g_aI_inv hy
  obtain ⟨n18, f19, hc20, hi21, hy⟩ := hy
  refine g_iald (pc' := 15) d_Net_goesOn_14 hc20 hi21 rfl ?_
  generalize f19 (p2).toNatClampNeg = x17 at hy ⊢
  replace hy := g_is_inv hy
  obtain ⟨fs22, hc23, hy⟩ := hy
  replace hy := g_b_inv hy
  obtain ⟨x24, hf26, hy⟩ := hy
  refine g_callV (rv := some (.int x24)) (h1 := h) (pc' := 18) (As := [.int x7, .int x17]) (rest := []) 2 (T_Net_linkOf (hy := hf26)) d_Net_goesOn_15 hc23 rfl rfl q1100 q795 q796 q109 q797 hd_Net_linkOf rfl ⟨by decide, by decide⟩ (by first | exact Nat.le_of_ble_eq_true rfl | (simp only [List.map, List.sum_cons, List.sum_nil, g_cat_rf]; exact Nat.le_of_ble_eq_true rfl) | (simp only [List.map, List.sum_cons, List.sum_nil, g_cat_rf, Value.category]; decide)) rfl ?_
  refine g_istore (pc' := 20) (Lc' := [(4, .int x24), (0, .ref this), (1, va_rf p0), (2, .ref a1), (3, .int p2)]) d_Net_goesOn_18 (by decide) rfl rfl ?_
  refine g_aloadO_n 2 (i := 1) (pc' := 21) d_Net_goesOn_20 rfl rfl rfl ?_
  refine g_iload 0 (pc' := 23) d_Net_goesOn_21 rfl rfl ?_
  replace hy := g_nn_inv hy
  obtain ⟨a27, rfl, hy⟩ := hy
  replace hy := g_pF_inv hy
  obtain ⟨fs28, hc29, hl30, hy⟩ := hy
  refine g_putfN (pc' := 26) d_Net_goesOn_23 hc29 rfl (by decide) hl30 rfl rfl rfl q1812 rfl rfl ?_
  generalize g_up h a27 (.inr (14, fs28.set 3 (.int x24))) = h31 at hy ⊢
  refine g_aload_n 2 (i := 1) (pc' := 27) d_Net_goesOn_26 rfl rfl rfl ?_
  refine g_aload_n 3 (i := 2) (pc' := 28) d_Net_goesOn_27 rfl rfl rfl ?_
  replace hy := g_gR_inv hy
  obtain ⟨fs32, x33, hc34, hv35, hy⟩ := hy
  refine g_getfN (pc' := 31) d_Net_goesOn_28 hc34 rfl (by decide) hv35 q617 rfl rfl ?_
  refine g_iload_n 4 (i := 3) (pc' := 32) d_Net_goesOn_31 rfl rfl rfl ?_
  replace hy := g_nn_inv hy
  obtain ⟨a36, rfl, hy⟩ := hy
  replace hy := g_aI_inv hy
  obtain ⟨n38, f39, hc40, hi41, hy⟩ := hy
  refine g_iald (pc' := 33) d_Net_goesOn_32 hc40 hi41 rfl ?_
  generalize f39 (p2).toNatClampNeg = x37 at hy ⊢
  replace hy := g_pF_inv hy
  obtain ⟨fs42, hc43, hl44, hy⟩ := hy
  refine g_putfN (pc' := 36) d_Net_goesOn_33 hc43 rfl (by decide) hl44 rfl rfl rfl q1815 rfl rfl ?_
  generalize g_up h31 a27 (.inr (14, fs42.set 4 (.int x37))) = h45 at hy ⊢
  refine g_aload_n 2 (i := 1) (pc' := 37) d_Net_goesOn_36 rfl rfl rfl ?_
  refine g_aload_n 3 (i := 2) (pc' := 38) d_Net_goesOn_37 rfl rfl rfl ?_
  replace hy := g_gR_inv hy
  obtain ⟨fs46, x47, hc48, hv49, hy⟩ := hy
  refine g_getfN (pc' := 41) d_Net_goesOn_38 hc48 rfl (by decide) hv49 q620 rfl rfl ?_
  refine g_iload_n 4 (i := 3) (pc' := 42) d_Net_goesOn_41 rfl rfl rfl ?_
  replace hy := g_nn_inv hy
  obtain ⟨a50, rfl, hy⟩ := hy
  replace hy := g_aI_inv hy
  obtain ⟨n52, f53, hc54, hi55, hy⟩ := hy
  refine g_iald (pc' := 43) d_Net_goesOn_42 hc54 hi55 rfl ?_
  generalize f53 (p2).toNatClampNeg = x51 at hy ⊢
  replace hy := g_pF_inv hy
  obtain ⟨fs56, hc57, hl58, hy⟩ := hy
  refine g_putfN (pc' := 46) d_Net_goesOn_43 hc57 rfl (by decide) hl58 rfl rfl rfl q1818 rfl rfl ?_
  generalize g_up h45 a27 (.inr (14, fs56.set 5 (.int x51))) = h59 at hy ⊢
  refine g_aload_n 2 (i := 1) (pc' := 47) d_Net_goesOn_46 rfl rfl rfl ?_
  refine g_aload_n 3 (i := 2) (pc' := 48) d_Net_goesOn_47 rfl rfl rfl ?_
  replace hy := g_gR_inv hy
  obtain ⟨fs60, x61, hc62, hv63, hy⟩ := hy
  refine g_getfN (pc' := 51) d_Net_goesOn_48 hc62 rfl (by decide) hv63 q623 rfl rfl ?_
  refine g_iload_n 4 (i := 3) (pc' := 52) d_Net_goesOn_51 rfl rfl rfl ?_
  replace hy := g_nn_inv hy
  obtain ⟨a64, rfl, hy⟩ := hy
  replace hy := g_aI_inv hy
  obtain ⟨n66, f67, hc68, hi69, hy⟩ := hy
  refine g_iald (pc' := 53) d_Net_goesOn_52 hc68 hi69 rfl ?_
  generalize f67 (p2).toNatClampNeg = x65 at hy ⊢
  replace hy := g_pF_inv hy
  obtain ⟨fs70, hc71, hl72, hy⟩ := hy
  refine g_putfN (pc' := 56) d_Net_goesOn_53 hc71 rfl (by decide) hl72 rfl rfl rfl q1821 rfl rfl ?_
  generalize g_up h59 a27 (.inr (14, fs70.set 6 (.int x65))) = h73 at hy ⊢
  refine g_aload_n 2 (i := 1) (pc' := 57) d_Net_goesOn_56 rfl rfl rfl ?_
  refine g_aload_n 1 (i := 0) (pc' := 58) d_Net_goesOn_57 rfl rfl rfl ?_
  replace hy := g_gR_inv hy
  obtain ⟨fs74, x75, hc76, hv77, hy⟩ := hy
  refine g_getf (pc' := 61) d_Net_goesOn_58 hc76 rfl (by decide) hv77 q552 (Or.inl rfl) rfl ?_
  refine g_iload 0 (pc' := 63) d_Net_goesOn_61 rfl rfl ?_
  replace hy := g_nn_inv hy
  obtain ⟨a78, rfl, hy⟩ := hy
  replace hy := g_is_inv hy
  obtain ⟨fs79, hc80, hy⟩ := hy
  replace hy := g_b_inv hy
  obtain ⟨x81, hf83, hy⟩ := hy
  refine g_callV (rv := some (va_rf x81)) (h1 := h73) (pc' := 66) (As := [.int x24]) (rest := [.ref a27]) 1 (T_ArrayList_get (hy := hf83)) d_Net_goesOn_63 hc80 rfl rfl q682 q683 q684 q112 q685 hd_ArrayList_get rfl ⟨by decide, by decide⟩ (by first | exact Nat.le_of_ble_eq_true rfl | (simp only [List.map, List.sum_cons, List.sum_nil, g_cat_rf]; exact Nat.le_of_ble_eq_true rfl) | (simp only [List.map, List.sum_cons, List.sum_nil, g_cat_rf, Value.category]; decide)) rfl ?_
  replace hy := g_ck_inv hy
  obtain ⟨hk84, hy⟩ := hy
  refine g_castO (pc' := 69) d_Net_goesOn_66 hk84 rfl q701 rfl ?_
  replace hy := g_nn_inv hy
  obtain ⟨a85, rfl, hy⟩ := hy
  replace hy := g_gI_inv hy
  obtain ⟨fs86, x87, hc88, hv89, hy⟩ := hy
  refine g_getfN (pc' := 72) d_Net_goesOn_69 hc88 rfl (by decide) hv89 q1118 rfl rfl ?_
  replace hy := g_pF_inv hy
  obtain ⟨fs90, hc91, hl92, hy⟩ := hy
  refine g_putfN (pc' := 75) d_Net_goesOn_72 hc91 rfl (by decide) hl92 rfl rfl rfl q1824 rfl rfl ?_
  generalize g_up h73 a27 (.inr (14, fs90.set 7 (.int x87))) = h93 at hy ⊢
  refine g_aload_n 1 (i := 0) (pc' := 76) d_Net_goesOn_75 rfl rfl rfl ?_
  replace hy := g_gR_inv hy
  obtain ⟨fs94, x95, hc96, hv97, hy⟩ := hy
  refine g_getf (pc' := 79) d_Net_goesOn_76 hc96 rfl (by decide) hv97 q552 (Or.inl rfl) rfl ?_
  refine g_iload 0 (pc' := 81) d_Net_goesOn_79 rfl rfl ?_
  replace hy := g_nn_inv hy
  obtain ⟨a98, rfl, hy⟩ := hy
  replace hy := g_is_inv hy
  obtain ⟨fs99, hc100, hy⟩ := hy
  replace hy := g_b_inv hy
  obtain ⟨x101, hf103, hy⟩ := hy
  refine g_callV (rv := some (va_rf x101)) (h1 := h93) (pc' := 84) (As := [.int x24]) (rest := []) 1 (T_ArrayList_get (hy := hf103)) d_Net_goesOn_81 hc100 rfl rfl q682 q683 q684 q112 q685 hd_ArrayList_get rfl ⟨by decide, by decide⟩ (by first | exact Nat.le_of_ble_eq_true rfl | (simp only [List.map, List.sum_cons, List.sum_nil, g_cat_rf]; exact Nat.le_of_ble_eq_true rfl) | (simp only [List.map, List.sum_cons, List.sum_nil, g_cat_rf, Value.category]; decide)) rfl ?_
  replace hy := g_ck_inv hy
  obtain ⟨hk104, hy⟩ := hy
  refine g_castO (pc' := 87) d_Net_goesOn_84 hk104 rfl q701 rfl ?_
  replace hy := g_nn_inv hy
  obtain ⟨a105, rfl, hy⟩ := hy
  replace hy := g_gI_inv hy
  obtain ⟨fs106, x107, hc108, hv109, hy⟩ := hy
  refine g_getfN (pc' := 90) d_Net_goesOn_87 hc108 rfl (by decide) hv109 q1121 rfl rfl ?_
  by_cases c110 : x107 = 0
  · rw [if_pos c110] at hy
    refine g_if_neF (pc' := 93) d_Net_goesOn_90 111 c110 (by decide) rfl ?_
    refine g_aload_n 1 (i := 0) (pc' := 94) d_Net_goesOn_93 rfl rfl rfl ?_
    refine g_aload_n 1 (i := 0) (pc' := 95) d_Net_goesOn_94 rfl rfl rfl ?_
    replace hy := g_gR_inv hy
    obtain ⟨fs128, x129, hc130, hv131, hy⟩ := hy
    refine g_getf (pc' := 98) d_Net_goesOn_95 hc130 rfl (by decide) hv131 q555 (Or.inl rfl) rfl ?_
    refine g_aload_n 2 (i := 1) (pc' := 99) d_Net_goesOn_98 rfl rfl rfl ?_
    replace hy := g_gI_inv hy
    obtain ⟨fs132, x133, hc134, hv135, hy⟩ := hy
    refine g_getfN (pc' := 102) d_Net_goesOn_99 hc134 rfl (by decide) hv135 q1804 rfl rfl ?_
    replace hy := g_nn_inv hy
    obtain ⟨a136, rfl, hy⟩ := hy
    replace hy := g_is_inv hy
    obtain ⟨fs137, hc138, hy⟩ := hy
    replace hy := g_b_inv hy
    obtain ⟨x139, hf141, hy⟩ := hy
    refine g_callV (rv := some (va_rf x139)) (h1 := h93) (pc' := 105) (As := [.int x133]) (rest := [.ref this]) 1 (T_ArrayList_get (hy := hf141)) d_Net_goesOn_102 hc138 rfl rfl q682 q683 q684 q112 q685 hd_ArrayList_get rfl ⟨by decide, by decide⟩ (by first | exact Nat.le_of_ble_eq_true rfl | (simp only [List.map, List.sum_cons, List.sum_nil, g_cat_rf]; exact Nat.le_of_ble_eq_true rfl) | (simp only [List.map, List.sum_cons, List.sum_nil, g_cat_rf, Value.category]; decide)) rfl ?_
    replace hy := g_ck_inv hy
    obtain ⟨hk142, hy⟩ := hy
    refine g_castO (pc' := 108) d_Net_goesOn_105 hk142 rfl q696 rfl ?_
    replace hy := g_is_inv hy
    obtain ⟨fs143, hc144, hy⟩ := hy
    replace hy := g_b_inv hy
    obtain ⟨h146, hf147, hy⟩ := hy
    refine g_callV (rv := none) (h1 := h146) (pc' := 111) (As := [va_rf x139]) (rest := []) 1 (T_Net_lose (hy := hf147)) d_Net_goesOn_108 hc144 rfl rfl q1430 q1432 qs18 q109 q1433 hd_Net_lose rfl ⟨by decide, by decide⟩ (by first | exact Nat.le_of_ble_eq_true rfl | (simp only [List.map, List.sum_cons, List.sum_nil, g_cat_rf]; exact Nat.le_of_ble_eq_true rfl) | (simp only [List.map, List.sum_cons, List.sum_nil, g_cat_rf, Value.category]; decide)) rfl ?_
    refine g_sub [1, 0] rfl ?_
    exact W_Net_goesOn_111 _ _ _ _ hy
  · rw [if_neg c110] at hy
    refine g_if_neT (pc' := 111) d_Net_goesOn_90 c110 (by decide) ?_
    refine g_sub [1, 0] rfl ?_
    exact W_Net_goesOn_111 _ _ _ _ hy
theorem hd_Net_goesOn : g_dsc y_Net_goesOn 3 := ⟨by decide +kernel, by decide +kernel, by decide +kernel⟩
/-! CircuitDesk$Net.arrive(LCircuitDesk$Packet;)Z -/
abbrev y_Net_arrive : MethodName := ⟨"CircuitDesk$Net", "arrive", "(LCircuitDesk$Packet;)Z"⟩
abbrev k_Net_arrive : g_M := (prog_7_method_22_code, 6, "CircuitDesk$Net", 17, (some FieldType.boolean), "arrive", [], 0)
theorem d_Net_arrive_0 : decode prog_7_method_22_code 0 = .ok (.aload_n 0, 1) := by decide +kernel
theorem d_Net_arrive_1 : decode prog_7_method_22_code 1 = .ok (.getfield 27, 3) := by decide +kernel
theorem d_Net_arrive_4 : decode prog_7_method_22_code 4 = .ok (.aload_n 1, 1) := by decide +kernel
theorem d_Net_arrive_5 : decode prog_7_method_22_code 5 = .ok (.getfield 236, 3) := by decide +kernel
theorem d_Net_arrive_8 : decode prog_7_method_22_code 8 = .ok (.invokevirtual 116, 3) := by decide +kernel
theorem d_Net_arrive_11 : decode prog_7_method_22_code 11 = .ok (.checkcast 77, 3) := by decide +kernel
theorem d_Net_arrive_14 : decode prog_7_method_22_code 14 = .ok (.astore_n 2, 1) := by decide +kernel
theorem d_Net_arrive_15 : decode prog_7_method_22_code 15 = .ok (.aload_n 0, 1) := by decide +kernel
theorem d_Net_arrive_16 : decode prog_7_method_22_code 16 = .ok (.getfield 20, 3) := by decide +kernel
theorem d_Net_arrive_19 : decode prog_7_method_22_code 19 = .ok (.aload_n 1, 1) := by decide +kernel
theorem d_Net_arrive_20 : decode prog_7_method_22_code 20 = .ok (.getfield 228, 3) := by decide +kernel
theorem d_Net_arrive_23 : decode prog_7_method_22_code 23 = .ok (.invokevirtual 116, 3) := by decide +kernel
theorem d_Net_arrive_26 : decode prog_7_method_22_code 26 = .ok (.checkcast 62, 3) := by decide +kernel
theorem d_Net_arrive_29 : decode prog_7_method_22_code 29 = .ok (.astore_n 3, 1) := by decide +kernel
theorem d_Net_arrive_30 : decode prog_7_method_22_code 30 = .ok (.aload_n 3, 1) := by decide +kernel
theorem d_Net_arrive_31 : decode prog_7_method_22_code 31 = .ok (.getfield 262, 3) := by decide +kernel
theorem d_Net_arrive_34 : decode prog_7_method_22_code 34 = .ok (.aload_n 1, 1) := by decide +kernel
theorem d_Net_arrive_35 : decode prog_7_method_22_code 35 = .ok (.getfield 231, 3) := by decide +kernel
theorem d_Net_arrive_38 : decode prog_7_method_22_code 38 = .ok (.iaload, 1) := by decide +kernel
theorem d_Net_arrive_39 : decode prog_7_method_22_code 39 = .ok (.aload_n 1, 1) := by decide +kernel
theorem d_Net_arrive_40 : decode prog_7_method_22_code 40 = .ok (.getfield 225, 3) := by decide +kernel
theorem d_Net_arrive_43 : decode prog_7_method_22_code 43 = .ok (.if_icmp .ne 15, 3) := by decide +kernel
theorem d_Net_arrive_46 : decode prog_7_method_22_code 46 = .ok (.aload_n 3, 1) := by decide +kernel
theorem d_Net_arrive_47 : decode prog_7_method_22_code 47 = .ok (.getfield 202, 3) := by decide +kernel
theorem d_Net_arrive_50 : decode prog_7_method_22_code 50 = .ok (.aload_n 1, 1) := by decide +kernel
theorem d_Net_arrive_51 : decode prog_7_method_22_code 51 = .ok (.getfield 231, 3) := by decide +kernel
theorem d_Net_arrive_54 : decode prog_7_method_22_code 54 = .ok (.baload, 1) := by decide +kernel
theorem d_Net_arrive_55 : decode prog_7_method_22_code 55 = .ok (.ifCond .ne 10, 3) := by decide +kernel
theorem d_Net_arrive_58 : decode prog_7_method_22_code 58 = .ok (.aload_n 0, 1) := by decide +kernel
theorem d_Net_arrive_59 : decode prog_7_method_22_code 59 = .ok (.aload_n 2, 1) := by decide +kernel
theorem d_Net_arrive_60 : decode prog_7_method_22_code 60 = .ok (.invokevirtual 239, 3) := by decide +kernel
theorem d_Net_arrive_63 : decode prog_7_method_22_code 63 = .ok (.iconst 0, 1) := by decide +kernel
theorem d_Net_arrive_64 : decode prog_7_method_22_code 64 = .ok (.ireturn, 1) := by decide +kernel
theorem d_Net_arrive_65 : decode prog_7_method_22_code 65 = .ok (.aload_n 0, 1) := by decide +kernel
theorem d_Net_arrive_66 : decode prog_7_method_22_code 66 = .ok (.getfield 27, 3) := by decide +kernel
theorem d_Net_arrive_69 : decode prog_7_method_22_code 69 = .ok (.aload_n 3, 1) := by decide +kernel
theorem d_Net_arrive_70 : decode prog_7_method_22_code 70 = .ok (.getfield 265, 3) := by decide +kernel
theorem d_Net_arrive_73 : decode prog_7_method_22_code 73 = .ok (.aload_n 1, 1) := by decide +kernel
theorem d_Net_arrive_74 : decode prog_7_method_22_code 74 = .ok (.getfield 231, 3) := by decide +kernel
theorem d_Net_arrive_77 : decode prog_7_method_22_code 77 = .ok (.iaload, 1) := by decide +kernel
theorem d_Net_arrive_78 : decode prog_7_method_22_code 78 = .ok (.invokevirtual 116, 3) := by decide +kernel
theorem d_Net_arrive_81 : decode prog_7_method_22_code 81 = .ok (.checkcast 77, 3) := by decide +kernel
theorem d_Net_arrive_84 : decode prog_7_method_22_code 84 = .ok (.aload_n 3, 1) := by decide +kernel
theorem d_Net_arrive_85 : decode prog_7_method_22_code 85 = .ok (.getfield 210, 3) := by decide +kernel
theorem d_Net_arrive_88 : decode prog_7_method_22_code 88 = .ok (.aload_n 1, 1) := by decide +kernel
theorem d_Net_arrive_89 : decode prog_7_method_22_code 89 = .ok (.getfield 231, 3) := by decide +kernel
theorem d_Net_arrive_92 : decode prog_7_method_22_code 92 = .ok (.baload, 1) := by decide +kernel
theorem d_Net_arrive_93 : decode prog_7_method_22_code 93 = .ok (.invokevirtual 267, 3) := by decide +kernel
theorem d_Net_arrive_96 : decode prog_7_method_22_code 96 = .ok (.astore 4, 2) := by decide +kernel
theorem d_Net_arrive_98 : decode prog_7_method_22_code 98 = .ok (.aload 4, 2) := by decide +kernel
theorem d_Net_arrive_100 : decode prog_7_method_22_code 100 = .ok (.aload_n 1, 1) := by decide +kernel
theorem d_Net_arrive_101 : decode prog_7_method_22_code 101 = .ok (.getfield 225, 3) := by decide +kernel
theorem d_Net_arrive_104 : decode prog_7_method_22_code 104 = .ok (.invokevirtual 271, 3) := by decide +kernel
theorem d_Net_arrive_107 : decode prog_7_method_22_code 107 = .ok (.istore 5, 2) := by decide +kernel
theorem d_Net_arrive_109 : decode prog_7_method_22_code 109 = .ok (.iload 5, 2) := by decide +kernel
theorem d_Net_arrive_111 : decode prog_7_method_22_code 111 = .ok (.aload 4, 2) := by decide +kernel
theorem d_Net_arrive_113 : decode prog_7_method_22_code 113 = .ok (.getfield 134, 3) := by decide +kernel
theorem d_Net_arrive_116 : decode prog_7_method_22_code 116 = .ok (.iconst 1, 1) := by decide +kernel
theorem d_Net_arrive_117 : decode prog_7_method_22_code 117 = .ok (.isub, 1) := by decide +kernel
theorem d_Net_arrive_118 : decode prog_7_method_22_code 118 = .ok (.if_icmp .ne 11, 3) := by decide +kernel
theorem d_Net_arrive_121 : decode prog_7_method_22_code 121 = .ok (.aload_n 0, 1) := by decide +kernel
theorem d_Net_arrive_122 : decode prog_7_method_22_code 122 = .ok (.aload_n 1, 1) := by decide +kernel
theorem d_Net_arrive_123 : decode prog_7_method_22_code 123 = .ok (.aload_n 2, 1) := by decide +kernel
theorem d_Net_arrive_124 : decode prog_7_method_22_code 124 = .ok (.invokevirtual 274, 3) := by decide +kernel
theorem d_Net_arrive_127 : decode prog_7_method_22_code 127 = .ok (.iconst 0, 1) := by decide +kernel
theorem d_Net_arrive_128 : decode prog_7_method_22_code 128 = .ok (.ireturn, 1) := by decide +kernel
theorem d_Net_arrive_129 : decode prog_7_method_22_code 129 = .ok (.aload_n 0, 1) := by decide +kernel
theorem d_Net_arrive_130 : decode prog_7_method_22_code 130 = .ok (.aload_n 1, 1) := by decide +kernel
theorem d_Net_arrive_131 : decode prog_7_method_22_code 131 = .ok (.aload 4, 2) := by decide +kernel
theorem d_Net_arrive_133 : decode prog_7_method_22_code 133 = .ok (.iload 5, 2) := by decide +kernel
theorem d_Net_arrive_135 : decode prog_7_method_22_code 135 = .ok (.iconst 1, 1) := by decide +kernel
theorem d_Net_arrive_136 : decode prog_7_method_22_code 136 = .ok (.iadd, 1) := by decide +kernel
theorem d_Net_arrive_137 : decode prog_7_method_22_code 137 = .ok (.invokevirtual 278, 3) := by decide +kernel
theorem d_Net_arrive_140 : decode prog_7_method_22_code 140 = .ok (.ireturn, 1) := by decide +kernel
def Net_arrive_58 (h : g_AH) (v0 : Nat) (v2 : Option Nat) : Option (Int32 × g_AH) :=
  g_is h v0 1 <| g_b (Net_lose h v0 v2) fun h55 => some ((0 : Int32), h55)
set_option maxHeartbeats 4000000 in
set_option maxRecDepth 100000 in
theorem W_Net_arrive_58 {X : g_X} (z : Int32 × g_AH) (h : g_AH) (v0 : Nat) (v2 : Option Nat) (hy : Net_arrive_58  h v0 v2 = some z) : G X k_Net_arrive (.inl (some (.int z.1))) z.2 h 58 [(0, .ref v0), (2, va_rf v2)] [] := by
  unfold Net_arrive_58 at hy
  refine g_aload_n 0 (i := 0) (pc' := 59) d_Net_arrive_58 rfl rfl rfl ?_
  refine g_aloadO_n 1 (i := 2) (pc' := 60) d_Net_arrive_59 rfl rfl rfl ?_
  replace hy := g_is_inv hy
  obtain ⟨fs52, hc53, hy⟩ := hy
  replace hy := g_b_inv hy
  obtain ⟨h55, hf56, hy⟩ := hy
  refine g_callV (rv := none) (h1 := h55) (pc' := 63) (As := [va_rf v2]) (rest := []) 1 (T_Net_lose (hy := hf56)) d_Net_arrive_60 hc53 rfl rfl q1430 q1432 qs18 q109 q1433 hd_Net_lose rfl ⟨by decide, by decide⟩ (by first | exact Nat.le_of_ble_eq_true rfl | (simp only [List.map, List.sum_cons, List.sum_nil, g_cat_rf]; exact Nat.le_of_ble_eq_true rfl) | (simp only [List.map, List.sum_cons, List.sum_nil, g_cat_rf, Value.category]; decide)) rfl ?_
  refine g_iconst (v := (0 : Int32)) (pc' := 64) d_Net_arrive_63 (by decide) rfl ?_
  cases hy
  exact g_zret rfl rfl rfl (g_nar_z (Or.inl rfl)).1 d_Net_arrive_64
def Net_arrive (h : g_AH) (this : Nat) (p0 : Option Nat) : Option (Int32 × g_AH) :=
  g_gR h this 1 3 fun x2 => g_nn p0 fun a5 => g_gI h a5 14 0 fun x7 => g_nn x2 fun a10 => g_is h a10 15 <| g_b (ArrayList_get h a10 x7) fun x13 => g_ck h x13 12 <| g_gR h this 1 1 fun x18 => g_gI h a5 14 5 fun x22 => g_nn x18 fun a25 => g_is h a25 15 <| g_b (ArrayList_get h a25 x22) fun x28 => g_ck h x28 10 <| g_nn x28 fun a32 => g_gR h a32 10 1 fun x34 => g_gI h a5 14 6 fun x38 => g_nn x34 fun a41 => g_aI h 0 a41 x38 fun x42 => g_gI h a5 14 4 fun x48 => if x42 = x48 then (g_gR h a32 10 4 fun x59 => g_gI h a5 14 6 fun x63 => g_nn x59 fun a66 => g_aI h 1 a66 x63 fun x67 => if x67 = 0 then (Net_arrive_58  h this x13) else (g_gR h this 1 3 fun x74 => g_gR h a32 10 2 fun x78 => g_gI h a5 14 6 fun x82 => g_nn x78 fun a85 => g_aI h 0 a85 x82 fun x86 => g_nn x74 fun a91 => g_is h a91 15 <| g_b (ArrayList_get h a91 x86) fun x94 => g_ck h x94 12 <| g_gR h a32 10 3 fun x99 => g_gI h a5 14 6 fun x103 => g_nn x99 fun a106 => g_aI h 1 a106 x103 fun x107 => g_nn x94 fun a112 => g_is h a112 12 <| g_b (Circuit_of h a112 x107) fun x115 => g_gI h a5 14 4 fun x119 => g_nn x115 fun a122 => g_is h a122 6 <| g_b (Way_indexOf h a122 x119) fun x125 => g_gI h a122 6 3 fun x129 => if x125 = (x129 - (1 : Int32)) then (g_is h this 1 <| g_b (Net_deliver h this (some a5) x13) fun h142 => some ((0 : Int32), h142)) else (g_is h this 1 <| g_b2 (Net_goesOn h this (some a5) (some a122) (x125 + (1 : Int32))) fun x135 h136 => g_rq (x135 = 0 ∨ x135 = 1) <| some (x135, h136)))) else (Net_arrive_58  h this x13)
set_option maxHeartbeats 4000000 in
set_option maxRecDepth 100000 in
theorem T_Net_arrive {l : Launch} {B : g_B} (h : g_AH) (this : Nat) (p0 : Option Nat) (z : Int32 × g_AH) (hy : Net_arrive h this p0 = some z) : g_CT l B y_Net_arrive k_Net_arrive [.ref this, va_rf p0] h (.inl (some (.int z.1))) z.2 := by
  refine g_start2 (Lc := [(0, .ref this), (1, va_rf p0)]) (by decide) rfl rfl (by rcases p0 with _ | p0 <;> exact Nat.le_of_ble_eq_true rfl) (by rcases p0 with _ | p0 <;> rfl) fun X => ?_
  unfold Net_arrive at hy
  refine g_aload_n 0 (i := 0) (pc' := 1) d_Net_arrive_0 rfl rfl rfl ?_
  replace hy := g_gR_inv hy
  obtain ⟨fs1, x2, hc3, hv4, hy⟩ := hy
  refine g_getf (pc' := 4) d_Net_arrive_1 hc3 rfl (by decide) hv4 q555 (Or.inl rfl) rfl ?_
  refine g_aloadO_n 1 (i := 1) (pc' := 5) d_Net_arrive_4 rfl rfl rfl ?_
  replace hy := g_nn_inv hy
  obtain ⟨a5, rfl, hy⟩ := hy
  replace hy := g_gI_inv hy
  obtain ⟨fs6, x7, hc8, hv9, hy⟩ := hy
  refine g_getfN (pc' := 8) d_Net_arrive_5 hc8 rfl (by decide) hv9 q1804 rfl rfl ?_
  replace hy := g_nn_inv hy
  obtain ⟨a10, rfl, hy⟩ := hy
  replace hy := g_is_inv hy
  obtain ⟨fs11, hc12, hy⟩ := hy
  replace hy := g_b_inv hy
  obtain ⟨x13, hf15, hy⟩ := hy
  refine g_callV (rv := some (va_rf x13)) (h1 := h) (pc' := 11) (As := [.int x7]) (rest := []) 1 (T_ArrayList_get (hy := hf15)) d_Net_arrive_8 hc12 rfl rfl q682 q683 q684 q112 q685 hd_ArrayList_get rfl ⟨by decide, by decide⟩ (by first | exact Nat.le_of_ble_eq_true rfl | (simp only [List.map, List.sum_cons, List.sum_nil, g_cat_rf]; exact Nat.le_of_ble_eq_true rfl) | (simp only [List.map, List.sum_cons, List.sum_nil, g_cat_rf, Value.category]; decide)) rfl ?_
  replace hy := g_ck_inv hy
  obtain ⟨hk16, hy⟩ := hy
  refine g_castO (pc' := 14) d_Net_arrive_11 hk16 rfl q696 rfl ?_
  refine g_astoreO_n (i := 2) (pc' := 15) (Lc' := [(2, va_rf x13), (0, .ref this), (1, .ref a5)]) d_Net_arrive_14 rfl (by decide) rfl rfl ?_
  refine g_aload_n 1 (i := 0) (pc' := 16) d_Net_arrive_15 rfl rfl rfl ?_
  replace hy := g_gR_inv hy
  obtain ⟨fs17, x18, hc19, hv20, hy⟩ := hy
  refine g_getf (pc' := 19) d_Net_arrive_16 hc19 rfl (by decide) hv20 q547 (Or.inl rfl) rfl ?_
  refine g_aload_n 2 (i := 1) (pc' := 20) d_Net_arrive_19 rfl rfl rfl ?_
  replace hy := g_gI_inv hy
  obtain ⟨fs21, x22, hc23, hv24, hy⟩ := hy
  refine g_getfN (pc' := 23) d_Net_arrive_20 hc23 rfl (by decide) hv24 q1818 rfl rfl ?_
  replace hy := g_nn_inv hy
  obtain ⟨a25, rfl, hy⟩ := hy
  replace hy := g_is_inv hy
  obtain ⟨fs26, hc27, hy⟩ := hy
  replace hy := g_b_inv hy
  obtain ⟨x28, hf30, hy⟩ := hy
  refine g_callV (rv := some (va_rf x28)) (h1 := h) (pc' := 26) (As := [.int x22]) (rest := []) 1 (T_ArrayList_get (hy := hf30)) d_Net_arrive_23 hc27 rfl rfl q682 q683 q684 q112 q685 hd_ArrayList_get rfl ⟨by decide, by decide⟩ (by first | exact Nat.le_of_ble_eq_true rfl | (simp only [List.map, List.sum_cons, List.sum_nil, g_cat_rf]; exact Nat.le_of_ble_eq_true rfl) | (simp only [List.map, List.sum_cons, List.sum_nil, g_cat_rf, Value.category]; decide)) rfl ?_
  replace hy := g_ck_inv hy
  obtain ⟨hk31, hy⟩ := hy
  refine g_castO (pc' := 29) d_Net_arrive_26 hk31 rfl q1243 rfl ?_
  refine g_astoreO_n (i := 3) (pc' := 30) (Lc' := [(3, va_rf x28), (2, va_rf x13), (0, .ref this), (1, .ref a5)]) d_Net_arrive_29 rfl (by decide) (by cases x13 <;> rfl) rfl ?_
  refine g_aloadO_n 0 (i := 3) (pc' := 31) d_Net_arrive_30 rfl rfl rfl ?_
  replace hy := g_nn_inv hy
  obtain ⟨a32, rfl, hy⟩ := hy
  replace hy := g_gR_inv hy
  obtain ⟨fs33, x34, hc35, hv36, hy⟩ := hy
  refine g_getfN (pc' := 34) d_Net_arrive_31 hc35 rfl (by decide) hv36 q1015 rfl rfl ?_
  refine g_aload_n 3 (i := 1) (pc' := 35) d_Net_arrive_34 rfl rfl rfl ?_
  replace hy := g_gI_inv hy
  obtain ⟨fs37, x38, hc39, hv40, hy⟩ := hy
  refine g_getfN (pc' := 38) d_Net_arrive_35 hc39 rfl (by decide) hv40 q1821 rfl rfl ?_
  replace hy := g_nn_inv hy
  obtain ⟨a41, rfl, hy⟩ := hy
  replace hy := g_aI_inv hy
  obtain ⟨n43, f44, hc45, hi46, hy⟩ := hy
  refine g_iald (pc' := 39) d_Net_arrive_38 hc45 hi46 rfl ?_
  generalize f44 (x38).toNatClampNeg = x42 at hy ⊢
  refine g_aload_n 3 (i := 1) (pc' := 40) d_Net_arrive_39 rfl rfl rfl ?_
  replace hy := g_gI_inv hy
  obtain ⟨fs47, x48, hc49, hv50, hy⟩ := hy
  refine g_getfN (pc' := 43) d_Net_arrive_40 hc49 rfl (by decide) hv50 q1815 rfl rfl ?_
  by_cases c51 : x42 = x48
  · rw [if_pos c51] at hy
    refine g_icmp_neF (pc' := 46) d_Net_arrive_43 58 c51 (by decide) rfl ?_
    refine g_aload_n 0 (i := 3) (pc' := 47) d_Net_arrive_46 rfl rfl rfl ?_
    replace hy := g_gR_inv hy
    obtain ⟨fs58, x59, hc60, hv61, hy⟩ := hy
    refine g_getfN (pc' := 50) d_Net_arrive_47 hc60 rfl (by decide) hv61 q1023 rfl rfl ?_
    refine g_aload_n 3 (i := 1) (pc' := 51) d_Net_arrive_50 rfl rfl rfl ?_
    replace hy := g_gI_inv hy
    obtain ⟨fs62, x63, hc64, hv65, hy⟩ := hy
    refine g_getfN (pc' := 54) d_Net_arrive_51 hc64 rfl (by decide) hv65 q1821 rfl rfl ?_
    replace hy := g_nn_inv hy
    obtain ⟨a66, rfl, hy⟩ := hy
    replace hy := g_aI_inv hy
    obtain ⟨n68, f69, hc70, hi71, hy⟩ := hy
    refine g_zald (pc' := 55) d_Net_arrive_54 hc70 hi71 rfl ?_
    generalize f69 (x63).toNatClampNeg = x67 at hy ⊢
    by_cases c72 : x67 = 0
    · rw [if_pos c72] at hy
      refine g_if_neF (pc' := 58) d_Net_arrive_55 65 c72 (by decide) rfl ?_
      refine g_sub [2, 1] rfl ?_
      exact W_Net_arrive_58 _ _ _ _ hy
    · rw [if_neg c72] at hy
      refine g_if_neT (pc' := 65) d_Net_arrive_55 c72 (by decide) ?_
      refine g_aload_n 2 (i := 0) (pc' := 66) d_Net_arrive_65 rfl rfl rfl ?_
      replace hy := g_gR_inv hy
      obtain ⟨fs73, x74, hc75, hv76, hy⟩ := hy
      refine g_getf (pc' := 69) d_Net_arrive_66 hc75 rfl (by decide) hv76 q555 (Or.inl rfl) rfl ?_
      refine g_aload_n 0 (i := 3) (pc' := 70) d_Net_arrive_69 rfl rfl rfl ?_
      replace hy := g_gR_inv hy
      obtain ⟨fs77, x78, hc79, hv80, hy⟩ := hy
      refine g_getfN (pc' := 73) d_Net_arrive_70 hc79 rfl (by decide) hv80 q1018 rfl rfl ?_
      refine g_aload_n 3 (i := 1) (pc' := 74) d_Net_arrive_73 rfl rfl rfl ?_
      replace hy := g_gI_inv hy
      obtain ⟨fs81, x82, hc83, hv84, hy⟩ := hy
      refine g_getfN (pc' := 77) d_Net_arrive_74 hc83 rfl (by decide) hv84 q1821 rfl rfl ?_
      replace hy := g_nn_inv hy
      obtain ⟨a85, rfl, hy⟩ := hy
      replace hy := g_aI_inv hy
      obtain ⟨n87, f88, hc89, hi90, hy⟩ := hy
      refine g_iald (pc' := 78) d_Net_arrive_77 hc89 hi90 rfl ?_
      generalize f88 (x82).toNatClampNeg = x86 at hy ⊢
      replace hy := g_nn_inv hy
      obtain ⟨a91, rfl, hy⟩ := hy
      replace hy := g_is_inv hy
      obtain ⟨fs92, hc93, hy⟩ := hy
      replace hy := g_b_inv hy
      obtain ⟨x94, hf96, hy⟩ := hy
      refine g_callV (rv := some (va_rf x94)) (h1 := h) (pc' := 81) (As := [.int x86]) (rest := []) 1 (T_ArrayList_get (hy := hf96)) d_Net_arrive_78 hc93 rfl rfl q682 q683 q684 q112 q685 hd_ArrayList_get rfl ⟨by decide, by decide⟩ (by first | exact Nat.le_of_ble_eq_true rfl | (simp only [List.map, List.sum_cons, List.sum_nil, g_cat_rf]; exact Nat.le_of_ble_eq_true rfl) | (simp only [List.map, List.sum_cons, List.sum_nil, g_cat_rf, Value.category]; decide)) rfl ?_
      replace hy := g_ck_inv hy
      obtain ⟨hk97, hy⟩ := hy
      refine g_castO (pc' := 84) d_Net_arrive_81 hk97 rfl q696 rfl ?_
      refine g_aload_n 0 (i := 3) (pc' := 85) d_Net_arrive_84 rfl rfl rfl ?_
      replace hy := g_gR_inv hy
      obtain ⟨fs98, x99, hc100, hv101, hy⟩ := hy
      refine g_getfN (pc' := 88) d_Net_arrive_85 hc100 rfl (by decide) hv101 q1020 rfl rfl ?_
      refine g_aload_n 3 (i := 1) (pc' := 89) d_Net_arrive_88 rfl rfl rfl ?_
      replace hy := g_gI_inv hy
      obtain ⟨fs102, x103, hc104, hv105, hy⟩ := hy
      refine g_getfN (pc' := 92) d_Net_arrive_89 hc104 rfl (by decide) hv105 q1821 rfl rfl ?_
      replace hy := g_nn_inv hy
      obtain ⟨a106, rfl, hy⟩ := hy
      replace hy := g_aI_inv hy
      obtain ⟨n108, f109, hc110, hi111, hy⟩ := hy
      refine g_zald (pc' := 93) d_Net_arrive_92 hc110 hi111 rfl ?_
      generalize f109 (x103).toNatClampNeg = x107 at hy ⊢
      replace hy := g_nn_inv hy
      obtain ⟨a112, rfl, hy⟩ := hy
      replace hy := g_is_inv hy
      obtain ⟨fs113, hc114, hy⟩ := hy
      replace hy := g_b_inv hy
      obtain ⟨x115, hf117, hy⟩ := hy
      refine g_callV (rv := some (va_rf x115)) (h1 := h) (pc' := 96) (As := [.int x107]) (rest := []) 1 (T_Circuit_of (hy := hf117)) d_Net_arrive_93 hc114 rfl rfl q1734 q1735 q1736 q142 q1737 hd_Circuit_of rfl ⟨by decide, by decide⟩ (by first | exact Nat.le_of_ble_eq_true rfl | (simp only [List.map, List.sum_cons, List.sum_nil, g_cat_rf]; exact Nat.le_of_ble_eq_true rfl) | (simp only [List.map, List.sum_cons, List.sum_nil, g_cat_rf, Value.category]; decide)) rfl ?_
      refine g_astoreO (pc' := 98) (Lc' := [(4, va_rf x115), (3, .ref a32), (2, va_rf x13), (0, .ref this), (1, .ref a5)]) d_Net_arrive_96 (by decide) rfl rfl ?_
      refine g_aloadO 0 (pc' := 100) d_Net_arrive_98 rfl rfl ?_
      refine g_aload_n 4 (i := 1) (pc' := 101) d_Net_arrive_100 rfl rfl rfl ?_
      replace hy := g_gI_inv hy
      obtain ⟨fs118, x119, hc120, hv121, hy⟩ := hy
      refine g_getfN (pc' := 104) d_Net_arrive_101 hc120 rfl (by decide) hv121 q1815 rfl rfl ?_
      replace hy := g_nn_inv hy
      obtain ⟨a122, rfl, hy⟩ := hy
      replace hy := g_is_inv hy
      obtain ⟨fs123, hc124, hy⟩ := hy
      replace hy := g_b_inv hy
      obtain ⟨x125, hf127, hy⟩ := hy
      refine g_callV (rv := some (.int x125)) (h1 := h) (pc' := 107) (As := [.int x119]) (rest := []) 1 (T_Way_indexOf (hy := hf127)) d_Net_arrive_104 hc124 rfl rfl q1738 q791 q792 q134 q793 hd_Way_indexOf rfl ⟨by decide, by decide⟩ (by first | exact Nat.le_of_ble_eq_true rfl | (simp only [List.map, List.sum_cons, List.sum_nil, g_cat_rf]; exact Nat.le_of_ble_eq_true rfl) | (simp only [List.map, List.sum_cons, List.sum_nil, g_cat_rf, Value.category]; decide)) rfl ?_
      refine g_istore (pc' := 109) (Lc' := [(5, .int x125), (4, .ref a122), (3, .ref a32), (2, va_rf x13), (0, .ref this), (1, .ref a5)]) d_Net_arrive_107 (by decide) rfl rfl ?_
      refine g_iload 0 (pc' := 111) d_Net_arrive_109 rfl rfl ?_
      refine g_aload 1 (pc' := 113) d_Net_arrive_111 rfl rfl ?_
      replace hy := g_gI_inv hy
      obtain ⟨fs128, x129, hc130, hv131, hy⟩ := hy
      refine g_getfN (pc' := 116) d_Net_arrive_113 hc130 rfl (by decide) hv131 q629 rfl rfl ?_
      refine g_iconst (v := (1 : Int32)) (pc' := 117) d_Net_arrive_116 (by decide) rfl ?_
      refine g_isub (pc' := 118) d_Net_arrive_117 rfl ?_
      by_cases c132 : x125 = (x129 - (1 : Int32))
      · rw [if_pos c132] at hy
        refine g_icmp_neF (pc' := 121) d_Net_arrive_118 129 c132 (by decide) rfl ?_
        refine g_aload_n 4 (i := 0) (pc' := 122) d_Net_arrive_121 rfl rfl rfl ?_
        refine g_aload_n 5 (i := 1) (pc' := 123) d_Net_arrive_122 rfl rfl rfl ?_
        refine g_aloadO_n 3 (i := 2) (pc' := 124) d_Net_arrive_123 rfl rfl rfl ?_
        replace hy := g_is_inv hy
        obtain ⟨fs139, hc140, hy⟩ := hy
        replace hy := g_b_inv hy
        obtain ⟨h142, hf143, hy⟩ := hy
        refine g_callV (rv := none) (h1 := h142) (pc' := 127) (As := [va_rf (some a5), va_rf x13]) (rest := []) 2 (T_Net_deliver (hy := hf143)) d_Net_arrive_124 hc140 rfl rfl q1739 q1741 qs26 q109 q1742 hd_Net_deliver rfl ⟨by decide, by decide⟩ (by first | exact Nat.le_of_ble_eq_true rfl | (simp only [List.map, List.sum_cons, List.sum_nil, g_cat_rf]; exact Nat.le_of_ble_eq_true rfl) | (simp only [List.map, List.sum_cons, List.sum_nil, g_cat_rf, Value.category]; decide)) rfl ?_
        refine g_iconst (v := (0 : Int32)) (pc' := 128) d_Net_arrive_127 (by decide) rfl ?_
        cases hy
        exact g_zret rfl rfl rfl (g_nar_z (Or.inl rfl)).1 d_Net_arrive_128
      · rw [if_neg c132] at hy
        refine g_icmp_neT (pc' := 129) d_Net_arrive_118 c132 (by decide) ?_
        refine g_aload_n 4 (i := 0) (pc' := 130) d_Net_arrive_129 rfl rfl rfl ?_
        refine g_aload_n 5 (i := 1) (pc' := 131) d_Net_arrive_130 rfl rfl rfl ?_
        refine g_aload 1 (pc' := 133) d_Net_arrive_131 rfl rfl ?_
        refine g_iload 0 (pc' := 135) d_Net_arrive_133 rfl rfl ?_
        refine g_iconst (v := (1 : Int32)) (pc' := 136) d_Net_arrive_135 (by decide) rfl ?_
        refine g_iadd (pc' := 137) d_Net_arrive_136 rfl ?_
        replace hy := g_is_inv hy
        obtain ⟨fs133, hc134, hy⟩ := hy
        replace hy := g_b2_inv hy
        obtain ⟨x135, h136, hf137, hy⟩ := hy
        refine g_callV (rv := some (.int x135)) (h1 := h136) (pc' := 140) (As := [va_rf (some a5), va_rf (some a122), .int (x125 + (1 : Int32))]) (rest := []) 3 (T_Net_goesOn (hy := hf137)) d_Net_arrive_137 hc134 rfl rfl q1744 q1746 qs27 q109 q1747 hd_Net_goesOn rfl ⟨by decide, by decide⟩ (by first | exact Nat.le_of_ble_eq_true rfl | (simp only [List.map, List.sum_cons, List.sum_nil, g_cat_rf]; exact Nat.le_of_ble_eq_true rfl) | (simp only [List.map, List.sum_cons, List.sum_nil, g_cat_rf, Value.category]; decide)) rfl ?_
        replace hy := g_rq_inv hy
        obtain ⟨c138, hy⟩ := hy
        cases hy
        exact g_zret rfl rfl rfl (g_nar_z c138).1 d_Net_arrive_140
  · rw [if_neg c51] at hy
    refine g_icmp_neT (pc' := 58) d_Net_arrive_43 c51 (by decide) ?_
    refine g_sub [2, 1] rfl ?_
    exact W_Net_arrive_58 _ _ _ _ hy
theorem hd_Net_arrive : g_dsc y_Net_arrive 1 := ⟨by decide +kernel, by decide +kernel, by decide +kernel⟩
