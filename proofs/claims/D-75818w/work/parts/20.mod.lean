/-! CircuitDeskModel.clear()V -/
abbrev y_Mod_clear : MethodName := ⟨"CircuitDeskModel", "clear", "()V"⟩
abbrev k_Mod_clear : g_M := (prog_17_method_5_code, 2, "CircuitDeskModel", 12, none, "clear", [], 0)
theorem d_Mod_clear_0 : decode prog_17_method_5_code 0 = .ok (.iconst 0, 1) := by decide +kernel
theorem d_Mod_clear_1 : decode prog_17_method_5_code 1 = .ok (.istore_n 1, 1) := by decide +kernel
theorem d_Mod_clear_2 : decode prog_17_method_5_code 2 = .ok (.iload_n 1, 1) := by decide +kernel
theorem d_Mod_clear_3 : decode prog_17_method_5_code 3 = .ok (.sipush 1112, 3) := by decide +kernel
theorem d_Mod_clear_6 : decode prog_17_method_5_code 6 = .ok (.if_icmp .ge 16, 3) := by decide +kernel
theorem d_Mod_clear_9 : decode prog_17_method_5_code 9 = .ok (.aload_n 0, 1) := by decide +kernel
theorem d_Mod_clear_10 : decode prog_17_method_5_code 10 = .ok (.getfield 7, 3) := by decide +kernel
theorem d_Mod_clear_13 : decode prog_17_method_5_code 13 = .ok (.iload_n 1, 1) := by decide +kernel
theorem d_Mod_clear_14 : decode prog_17_method_5_code 14 = .ok (.iconst 0, 1) := by decide +kernel
theorem d_Mod_clear_15 : decode prog_17_method_5_code 15 = .ok (.iastore, 1) := by decide +kernel
theorem d_Mod_clear_16 : decode prog_17_method_5_code 16 = .ok (.iinc 1 1, 3) := by decide +kernel
theorem d_Mod_clear_19 : decode prog_17_method_5_code 19 = .ok (.goto (-17), 3) := by decide +kernel
theorem d_Mod_clear_22 : decode prog_17_method_5_code 22 = .ok (.aload_n 0, 1) := by decide +kernel
theorem d_Mod_clear_23 : decode prog_17_method_5_code 23 = .ok (.getfield 7, 3) := by decide +kernel
theorem d_Mod_clear_26 : decode prog_17_method_5_code 26 = .ok (.iconst 0, 1) := by decide +kernel
theorem d_Mod_clear_27 : decode prog_17_method_5_code 27 = .ok (.iconst 1, 1) := by decide +kernel
theorem d_Mod_clear_28 : decode prog_17_method_5_code 28 = .ok (.iastore, 1) := by decide +kernel
theorem d_Mod_clear_29 : decode prog_17_method_5_code 29 = .ok (.return_, 1) := by decide +kernel
def Mod_clear_2  : Nat → g_MD → Int32 → Option g_MD
  | 0, _, _ => none
  | n + 1, M, v1 => if (1112 : Int32) ≤ v1 then (g_mS M 0 0 (0 : Int32) (1 : Int32) fun M2 => some M2) else (g_mS M 0 0 v1 (0 : Int32) fun M4 => (Mod_clear_2  n) M4 (v1 + (1 : Int32)))
set_option maxHeartbeats 4000000 in
set_option maxRecDepth 100000 in
theorem W_Mod_clear_2 {X : g_X} {h0 : g_AH} {a0 : Nat} {ad : Nat → Nat} (ok : mOK a0 ad) (z : g_MD)  : ∀ (n : Nat) (M : g_MD) (v1 : Int32), Mod_clear_2  n M v1 = some z → G X k_Mod_clear (.inl none) (mH h0 a0 ad z) (mH h0 a0 ad M) 2 [(0, .ref a0), (1, .int v1)] [] := by
  intro n
  induction n with
  | zero => intro M v1 hy; exact absurd hy (by simp [Mod_clear_2])
  | succ n ih =>
    intro M v1 hy
    rw [Mod_clear_2] at hy
    refine g_iload_n 1 (i := 1) (pc' := 3) d_Mod_clear_2 rfl rfl rfl ?_
    refine g_sipush (v := (1112 : Int32)) (pc' := 6) d_Mod_clear_3 (by decide) rfl ?_
    by_cases c1 : (1112 : Int32) ≤ v1
    · rw [if_pos c1] at hy
      refine g_icmp_geT (pc' := 22) d_Mod_clear_6 c1 (by decide) ?_
      refine g_aload_n 0 (i := 0) (pc' := 23) d_Mod_clear_22 rfl rfl rfl ?_
      refine gm_getA ok 0 (pc' := 26) d_Mod_clear_23 rfl q1965 rfl rfl ?_
      refine g_iconst (v := (0 : Int32)) (pc' := 27) d_Mod_clear_26 (by decide) rfl ?_
      refine g_iconst (v := (1 : Int32)) (pc' := 28) d_Mod_clear_27 (by decide) rfl ?_
      replace hy := g_mS_inv hy
      obtain ⟨hc3, hy⟩ := hy
      refine gm_ast0 ok (pc' := 29) d_Mod_clear_28 hc3 rfl ?_
      generalize ms M 0 ((0 : Int32)).toNatClampNeg (1 : Int32) = M2 at hy ⊢
      cases hy
      exact g_vret rfl rfl rfl d_Mod_clear_29
    · rw [if_neg c1] at hy
      refine g_icmp_geF (pc' := 9) d_Mod_clear_6 22 c1 (by decide) rfl ?_
      refine g_aload_n 0 (i := 0) (pc' := 10) d_Mod_clear_9 rfl rfl rfl ?_
      refine gm_getA ok 0 (pc' := 13) d_Mod_clear_10 rfl q1965 rfl rfl ?_
      refine g_iload_n 1 (i := 1) (pc' := 14) d_Mod_clear_13 rfl rfl rfl ?_
      refine g_iconst (v := (0 : Int32)) (pc' := 15) d_Mod_clear_14 (by decide) rfl ?_
      replace hy := g_mS_inv hy
      obtain ⟨hc5, hy⟩ := hy
      refine gm_ast0 ok (pc' := 16) d_Mod_clear_15 hc5 rfl ?_
      generalize ms M 0 (v1).toNatClampNeg (0 : Int32) = M4 at hy ⊢
      refine g_iinc 1 (v := (v1 + (1 : Int32))) (pc' := 19) (Lc' := [(1, .int (v1 + (1 : Int32))), (0, .ref a0)]) d_Mod_clear_16 rfl rfl (by decide) rfl rfl ?_
      refine g_goto (pc' := 2) d_Mod_clear_19 (by decide) ?_
      refine g_sub [1, 0] rfl ?_
      exact ih _ _ hy
def Mod_clear (M : g_MD)  : Option g_MD :=
  Mod_clear_2  gFU M (0 : Int32)
set_option maxHeartbeats 4000000 in
set_option maxRecDepth 100000 in
theorem T_Mod_clear {l : Launch} {B : g_B} {h0 : g_AH} {a0 : Nat} {ad : Nat → Nat} (ok : mOK a0 ad) (M : g_MD)  (z : g_MD) (hy : Mod_clear M  = some z) : g_CT l B y_Mod_clear k_Mod_clear [.ref a0] (mH h0 a0 ad M) (.inl none) (mH h0 a0 ad z) := by
  refine g_start2 (Lc := [(0, .ref a0)]) (by decide) rfl rfl (by exact Nat.le_of_ble_eq_true rfl) (by rfl) fun X => ?_
  unfold Mod_clear at hy
  refine g_iconst (v := (0 : Int32)) (pc' := 1) d_Mod_clear_0 (by decide) rfl ?_
  refine g_istore_n (i := 1) (pc' := 2) (Lc' := [(1, .int (0 : Int32)), (0, .ref a0)]) d_Mod_clear_1 rfl (by decide) rfl rfl ?_
  refine g_sub [1, 0] rfl ?_
  exact W_Mod_clear_2 ok _ _ _ _ hy
theorem hd_Mod_clear : g_dsc y_Mod_clear 0 := ⟨by decide +kernel, by decide +kernel, by decide +kernel⟩
/-! CircuitDeskModel.thrown()I -/
abbrev y_Mod_thrown : MethodName := ⟨"CircuitDeskModel", "thrown", "()I"⟩
abbrev k_Mod_thrown : g_M := (prog_17_method_2_code, 1, "CircuitDeskModel", 12, (some FieldType.int), "thrown", [], 0)
theorem d_Mod_thrown_0 : decode prog_17_method_2_code 0 = .ok (.aload_n 0, 1) := by decide +kernel
theorem d_Mod_thrown_1 : decode prog_17_method_2_code 1 = .ok (.getfield 51, 3) := by decide +kernel
theorem d_Mod_thrown_4 : decode prog_17_method_2_code 4 = .ok (.ireturn, 1) := by decide +kernel
def Mod_thrown (M : g_MD)  : Option (Int32) :=
  some (M.2.1 7)
set_option maxHeartbeats 4000000 in
set_option maxRecDepth 100000 in
theorem T_Mod_thrown {l : Launch} {B : g_B} {h0 : g_AH} {a0 : Nat} {ad : Nat → Nat} (ok : mOK a0 ad) (M : g_MD)  (z : Int32) (hy : Mod_thrown M  = some z) : g_CT l B y_Mod_thrown k_Mod_thrown [.ref a0] (mH h0 a0 ad M) (.inl (some (.int z))) (mH h0 a0 ad M) := by
  refine g_start2 (Lc := [(0, .ref a0)]) (by decide) rfl rfl (by exact Nat.le_of_ble_eq_true rfl) (by rfl) fun X => ?_
  unfold Mod_thrown at hy
  refine g_aload_n 0 (i := 0) (pc' := 1) d_Mod_thrown_0 rfl rfl rfl ?_
  refine gm_getA ok 7 (pc' := 4) d_Mod_thrown_1 rfl q1972 rfl rfl ?_
  cases hy
  exact g_iret rfl rfl rfl d_Mod_thrown_4
theorem hd_Mod_thrown : g_dsc y_Mod_thrown 0 := ⟨by decide +kernel, by decide +kernel, by decide +kernel⟩
/-! CircuitDeskModel.fail(I)I -/
abbrev y_Mod_fail : MethodName := ⟨"CircuitDeskModel", "fail", "(I)I"⟩
abbrev k_Mod_fail : g_M := (prog_17_method_3_code, 2, "CircuitDeskModel", 12, (some FieldType.int), "fail", [], 0)
theorem d_Mod_fail_0 : decode prog_17_method_3_code 0 = .ok (.aload_n 0, 1) := by decide +kernel
theorem d_Mod_fail_1 : decode prog_17_method_3_code 1 = .ok (.iload_n 1, 1) := by decide +kernel
theorem d_Mod_fail_2 : decode prog_17_method_3_code 2 = .ok (.putfield 51, 3) := by decide +kernel
theorem d_Mod_fail_5 : decode prog_17_method_3_code 5 = .ok (.iconst 0, 1) := by decide +kernel
theorem d_Mod_fail_6 : decode prog_17_method_3_code 6 = .ok (.ireturn, 1) := by decide +kernel
def Mod_fail (M : g_MD) (p0 : Int32) : Option (Int32 × g_MD) :=
  g_let (mp M 7 p0) fun M1 => some ((0 : Int32), M1)
set_option maxHeartbeats 4000000 in
set_option maxRecDepth 100000 in
theorem T_Mod_fail {l : Launch} {B : g_B} {h0 : g_AH} {a0 : Nat} {ad : Nat → Nat} (ok : mOK a0 ad) (M : g_MD) (p0 : Int32) (z : Int32 × g_MD) (hy : Mod_fail M p0 = some z) : g_CT l B y_Mod_fail k_Mod_fail [.ref a0, .int p0] (mH h0 a0 ad M) (.inl (some (.int z.1))) (mH h0 a0 ad z.2) := by
  refine g_start2 (Lc := [(0, .ref a0), (1, .int p0)]) (by decide) rfl rfl (by exact Nat.le_of_ble_eq_true rfl) (by rfl) fun X => ?_
  unfold Mod_fail at hy
  refine g_aload_n 0 (i := 0) (pc' := 1) d_Mod_fail_0 rfl rfl rfl ?_
  refine g_iload_n 1 (i := 1) (pc' := 2) d_Mod_fail_1 rfl rfl rfl ?_
  replace hy := g_let_inv hy
  refine gm_put ok 7 (pc' := 5) d_Mod_fail_2 rfl (by decide) q1972 rfl ?_
  generalize (mp M 7 p0) = M1 at hy ⊢
  refine g_iconst (v := (0 : Int32)) (pc' := 6) d_Mod_fail_5 (by decide) rfl ?_
  cases hy
  exact g_iret rfl rfl rfl d_Mod_fail_6
theorem hd_Mod_fail : g_dsc y_Mod_fail 1 := ⟨by decide +kernel, by decide +kernel, by decide +kernel⟩
/-! CircuitDeskModel.appendText(I)I -/
abbrev y_Mod_appendText : MethodName := ⟨"CircuitDeskModel", "appendText", "(I)I"⟩
abbrev k_Mod_appendText : g_M := (prog_17_method_16_code, 3, "CircuitDeskModel", 13, (some FieldType.int), "appendText", [], 0)
theorem d_Mod_appendText_0 : decode prog_17_method_16_code 0 = .ok (.aload_n 0, 1) := by decide +kernel
theorem d_Mod_appendText_1 : decode prog_17_method_16_code 1 = .ok (.iconst 0, 1) := by decide +kernel
theorem d_Mod_appendText_2 : decode prog_17_method_16_code 2 = .ok (.putfield 51, 3) := by decide +kernel
theorem d_Mod_appendText_5 : decode prog_17_method_16_code 5 = .ok (.aload_n 0, 1) := by decide +kernel
theorem d_Mod_appendText_6 : decode prog_17_method_16_code 6 = .ok (.getfield 58, 3) := by decide +kernel
theorem d_Mod_appendText_9 : decode prog_17_method_16_code 9 = .ok (.iconst 4, 1) := by decide +kernel
theorem d_Mod_appendText_10 : decode prog_17_method_16_code 10 = .ok (.iadd, 1) := by decide +kernel
theorem d_Mod_appendText_11 : decode prog_17_method_16_code 11 = .ok (.sipush 800, 3) := by decide +kernel
theorem d_Mod_appendText_14 : decode prog_17_method_16_code 14 = .ok (.if_icmp .le 9, 3) := by decide +kernel
theorem d_Mod_appendText_17 : decode prog_17_method_16_code 17 = .ok (.aload_n 0, 1) := by decide +kernel
theorem d_Mod_appendText_18 : decode prog_17_method_16_code 18 = .ok (.iconst 1, 1) := by decide +kernel
theorem d_Mod_appendText_19 : decode prog_17_method_16_code 19 = .ok (.invokevirtual 61, 3) := by decide +kernel
theorem d_Mod_appendText_22 : decode prog_17_method_16_code 22 = .ok (.ireturn, 1) := by decide +kernel
theorem d_Mod_appendText_23 : decode prog_17_method_16_code 23 = .ok (.bipush 24, 2) := by decide +kernel
theorem d_Mod_appendText_25 : decode prog_17_method_16_code 25 = .ok (.istore_n 2, 1) := by decide +kernel
theorem d_Mod_appendText_26 : decode prog_17_method_16_code 26 = .ok (.iload_n 2, 1) := by decide +kernel
theorem d_Mod_appendText_27 : decode prog_17_method_16_code 27 = .ok (.ifCond .lt 35, 3) := by decide +kernel
theorem d_Mod_appendText_30 : decode prog_17_method_16_code 30 = .ok (.aload_n 0, 1) := by decide +kernel
theorem d_Mod_appendText_31 : decode prog_17_method_16_code 31 = .ok (.getfield 29, 3) := by decide +kernel
theorem d_Mod_appendText_34 : decode prog_17_method_16_code 34 = .ok (.aload_n 0, 1) := by decide +kernel
theorem d_Mod_appendText_35 : decode prog_17_method_16_code 35 = .ok (.getfield 58, 3) := by decide +kernel
theorem d_Mod_appendText_38 : decode prog_17_method_16_code 38 = .ok (.iload_n 1, 1) := by decide +kernel
theorem d_Mod_appendText_39 : decode prog_17_method_16_code 39 = .ok (.iload_n 2, 1) := by decide +kernel
theorem d_Mod_appendText_40 : decode prog_17_method_16_code 40 = .ok (.ishr, 1) := by decide +kernel
theorem d_Mod_appendText_41 : decode prog_17_method_16_code 41 = .ok (.sipush 255, 3) := by decide +kernel
theorem d_Mod_appendText_44 : decode prog_17_method_16_code 44 = .ok (.iand, 1) := by decide +kernel
theorem d_Mod_appendText_45 : decode prog_17_method_16_code 45 = .ok (.iastore, 1) := by decide +kernel
theorem d_Mod_appendText_46 : decode prog_17_method_16_code 46 = .ok (.aload_n 0, 1) := by decide +kernel
theorem d_Mod_appendText_47 : decode prog_17_method_16_code 47 = .ok (.dup, 1) := by decide +kernel
theorem d_Mod_appendText_48 : decode prog_17_method_16_code 48 = .ok (.getfield 58, 3) := by decide +kernel
theorem d_Mod_appendText_51 : decode prog_17_method_16_code 51 = .ok (.iconst 1, 1) := by decide +kernel
theorem d_Mod_appendText_52 : decode prog_17_method_16_code 52 = .ok (.iadd, 1) := by decide +kernel
theorem d_Mod_appendText_53 : decode prog_17_method_16_code 53 = .ok (.putfield 58, 3) := by decide +kernel
theorem d_Mod_appendText_56 : decode prog_17_method_16_code 56 = .ok (.iinc 2 (-8), 3) := by decide +kernel
theorem d_Mod_appendText_59 : decode prog_17_method_16_code 59 = .ok (.goto (-33), 3) := by decide +kernel
theorem d_Mod_appendText_62 : decode prog_17_method_16_code 62 = .ok (.aload_n 0, 1) := by decide +kernel
theorem d_Mod_appendText_63 : decode prog_17_method_16_code 63 = .ok (.getfield 58, 3) := by decide +kernel
theorem d_Mod_appendText_66 : decode prog_17_method_16_code 66 = .ok (.ireturn, 1) := by decide +kernel
def Mod_appendText_26  : Nat → g_MD → Int32 → Int32 → Option (Int32 × g_MD)
  | 0, _, _, _ => none
  | n + 1, M, v1, v2 => if v2 < 0 then (some ((M.2.1 9), M)) else (g_mS M 0 8 (M.2.1 9) ((v1 >>> (v2 &&& 31)) &&& (255 : Int32)) fun M4 => g_let (mp M4 9 ((M4.2.1 9) + (1 : Int32))) fun M6 => (Mod_appendText_26  n) M6 v1 (v2 + (-8 : Int32)))
set_option maxHeartbeats 4000000 in
set_option maxRecDepth 100000 in
theorem W_Mod_appendText_26 {X : g_X} {h0 : g_AH} {a0 : Nat} {ad : Nat → Nat} (ok : mOK a0 ad) (z : Int32 × g_MD)  : ∀ (n : Nat) (M : g_MD) (v1 : Int32) (v2 : Int32), Mod_appendText_26  n M v1 v2 = some z → G X k_Mod_appendText (.inl (some (.int z.1))) (mH h0 a0 ad z.2) (mH h0 a0 ad M) 26 [(0, .ref a0), (1, .int v1), (2, .int v2)] [] := by
  intro n
  induction n with
  | zero => intro M v1 v2 hy; exact absurd hy (by simp [Mod_appendText_26])
  | succ n ih =>
    intro M v1 v2 hy
    rw [Mod_appendText_26] at hy
    refine g_iload_n 2 (i := 2) (pc' := 27) d_Mod_appendText_26 rfl rfl rfl ?_
    by_cases c3 : v2 < 0
    · rw [if_pos c3] at hy
      refine g_if_ltT (pc' := 62) d_Mod_appendText_27 c3 (by decide) ?_
      refine g_aload_n 0 (i := 0) (pc' := 63) d_Mod_appendText_62 rfl rfl rfl ?_
      refine gm_getA ok 9 (pc' := 66) d_Mod_appendText_63 rfl q1974 rfl rfl ?_
      cases hy
      exact g_iret rfl rfl rfl d_Mod_appendText_66
    · rw [if_neg c3] at hy
      refine g_if_ltF (pc' := 30) d_Mod_appendText_27 62 c3 (by decide) rfl ?_
      refine g_aload_n 0 (i := 0) (pc' := 31) d_Mod_appendText_30 rfl rfl rfl ?_
      refine gm_getA ok 8 (pc' := 34) d_Mod_appendText_31 rfl q1973 rfl rfl ?_
      refine g_aload_n 0 (i := 0) (pc' := 35) d_Mod_appendText_34 rfl rfl rfl ?_
      refine gm_getA ok 9 (pc' := 38) d_Mod_appendText_35 rfl q1974 rfl rfl ?_
      refine g_iload_n 1 (i := 1) (pc' := 39) d_Mod_appendText_38 rfl rfl rfl ?_
      refine g_iload_n 2 (i := 2) (pc' := 40) d_Mod_appendText_39 rfl rfl rfl ?_
      refine g_ishr (pc' := 41) d_Mod_appendText_40 rfl ?_
      refine g_sipush (v := (255 : Int32)) (pc' := 44) d_Mod_appendText_41 (by decide) rfl ?_
      refine g_iand (pc' := 45) d_Mod_appendText_44 rfl ?_
      replace hy := g_mS_inv hy
      obtain ⟨hc5, hy⟩ := hy
      refine gm_ast0 ok (pc' := 46) d_Mod_appendText_45 hc5 rfl ?_
      generalize ms M 8 ((M.2.1 9)).toNatClampNeg ((v1 >>> (v2 &&& 31)) &&& (255 : Int32)) = M4 at hy ⊢
      refine g_aload_n 0 (i := 0) (pc' := 47) d_Mod_appendText_46 rfl rfl rfl ?_
      refine g_dup (pc' := 48) d_Mod_appendText_47 rfl rfl ?_
      refine gm_getA ok 9 (pc' := 51) d_Mod_appendText_48 rfl q1974 rfl rfl ?_
      refine g_iconst (v := (1 : Int32)) (pc' := 52) d_Mod_appendText_51 (by decide) rfl ?_
      refine g_iadd (pc' := 53) d_Mod_appendText_52 rfl ?_
      replace hy := g_let_inv hy
      refine gm_put ok 9 (pc' := 56) d_Mod_appendText_53 rfl (by decide) q1974 rfl ?_
      generalize (mp M4 9 ((M4.2.1 9) + (1 : Int32))) = M6 at hy ⊢
      refine g_iinc 2 (v := (v2 + (-8 : Int32))) (pc' := 59) (Lc' := [(2, .int (v2 + (-8 : Int32))), (0, .ref a0), (1, .int v1)]) d_Mod_appendText_56 rfl rfl (by decide) rfl rfl ?_
      refine g_goto (pc' := 26) d_Mod_appendText_59 (by decide) ?_
      refine g_sub [1, 2, 0] rfl ?_
      exact ih _ _ _ hy
def Mod_appendText (M : g_MD) (p0 : Int32) : Option (Int32 × g_MD) :=
  g_let (mp M 7 (0 : Int32)) fun M1 => if ((M1.2.1 9) + (4 : Int32)) ≤ (800 : Int32) then (Mod_appendText_26  gFU M1 p0 (24 : Int32)) else (g_bM (Mod_fail M1 (1 : Int32)) fun x7 M8 => some (x7, M8))
set_option maxHeartbeats 4000000 in
set_option maxRecDepth 100000 in
theorem T_Mod_appendText {l : Launch} {B : g_B} {h0 : g_AH} {a0 : Nat} {ad : Nat → Nat} (ok : mOK a0 ad) (M : g_MD) (p0 : Int32) (z : Int32 × g_MD) (hy : Mod_appendText M p0 = some z) : g_CT l B y_Mod_appendText k_Mod_appendText [.ref a0, .int p0] (mH h0 a0 ad M) (.inl (some (.int z.1))) (mH h0 a0 ad z.2) := by
  refine g_start2 (Lc := [(0, .ref a0), (1, .int p0)]) (by decide) rfl rfl (by exact Nat.le_of_ble_eq_true rfl) (by rfl) fun X => ?_
  unfold Mod_appendText at hy
  refine g_aload_n 0 (i := 0) (pc' := 1) d_Mod_appendText_0 rfl rfl rfl ?_
  refine g_iconst (v := (0 : Int32)) (pc' := 2) d_Mod_appendText_1 (by decide) rfl ?_
  replace hy := g_let_inv hy
  refine gm_put ok 7 (pc' := 5) d_Mod_appendText_2 rfl (by decide) q1972 rfl ?_
  generalize (mp M 7 (0 : Int32)) = M1 at hy ⊢
  refine g_aload_n 0 (i := 0) (pc' := 6) d_Mod_appendText_5 rfl rfl rfl ?_
  refine gm_getA ok 9 (pc' := 9) d_Mod_appendText_6 rfl q1974 rfl rfl ?_
  refine g_iconst (v := (4 : Int32)) (pc' := 10) d_Mod_appendText_9 (by decide) rfl ?_
  refine g_iadd (pc' := 11) d_Mod_appendText_10 rfl ?_
  refine g_sipush (v := (800 : Int32)) (pc' := 14) d_Mod_appendText_11 (by decide) rfl ?_
  by_cases c2 : ((M1.2.1 9) + (4 : Int32)) ≤ (800 : Int32)
  · rw [if_pos c2] at hy
    refine g_icmp_leT (pc' := 23) d_Mod_appendText_14 c2 (by decide) ?_
    refine g_bipush (v := (24 : Int32)) (pc' := 25) d_Mod_appendText_23 (by decide) rfl ?_
    refine g_istore_n (i := 2) (pc' := 26) (Lc' := [(2, .int (24 : Int32)), (0, .ref a0), (1, .int p0)]) d_Mod_appendText_25 rfl (by decide) rfl rfl ?_
    refine g_sub [1, 2, 0] rfl ?_
    exact W_Mod_appendText_26 ok _ _ _ _ _ hy
  · rw [if_neg c2] at hy
    refine g_icmp_leF (pc' := 17) d_Mod_appendText_14 23 c2 (by decide) rfl ?_
    refine g_aload_n 0 (i := 0) (pc' := 18) d_Mod_appendText_17 rfl rfl rfl ?_
    refine g_iconst (v := (1 : Int32)) (pc' := 19) d_Mod_appendText_18 (by decide) rfl ?_
    replace hy := g_bM_inv hy
    obtain ⟨x7, M8, hf9, hy⟩ := hy
    refine g_callV (rv := some (.int x7)) (h1 := (mH h0 a0 ad M8)) (pc' := 22) (As := [.int (1 : Int32)]) (rest := []) 1 (T_Mod_fail ok (hy := hf9)) d_Mod_appendText_19 (mH_look ok) rfl rfl q2061 q2063 qs31 q135 q2064 hd_Mod_fail rfl ⟨by decide, by decide⟩ (by first | exact Nat.le_of_ble_eq_true rfl | (simp only [List.map, List.sum_cons, List.sum_nil, g_cat_rf]; exact Nat.le_of_ble_eq_true rfl) | (simp only [List.map, List.sum_cons, List.sum_nil, g_cat_rf, Value.category]; decide)) rfl ?_
    cases hy
    exact g_iret rfl rfl rfl d_Mod_appendText_22
theorem hd_Mod_appendText : g_dsc y_Mod_appendText 1 := ⟨by decide +kernel, by decide +kernel, by decide +kernel⟩
/-! CircuitDeskModel.isBetween(III)Z -/
abbrev y_Mod_isBetween : MethodName := ⟨"CircuitDeskModel", "isBetween", "(III)Z"⟩
abbrev k_Mod_isBetween : g_M := (prog_17_method_4_code, 3, "CircuitDeskModel", 12, (some FieldType.boolean), "isBetween", [], 0)
theorem d_Mod_isBetween_0 : decode prog_17_method_4_code 0 = .ok (.iload_n 0, 1) := by decide +kernel
theorem d_Mod_isBetween_1 : decode prog_17_method_4_code 1 = .ok (.iload_n 1, 1) := by decide +kernel
theorem d_Mod_isBetween_2 : decode prog_17_method_4_code 2 = .ok (.if_icmp .lt 12, 3) := by decide +kernel
theorem d_Mod_isBetween_5 : decode prog_17_method_4_code 5 = .ok (.iload_n 0, 1) := by decide +kernel
theorem d_Mod_isBetween_6 : decode prog_17_method_4_code 6 = .ok (.iload_n 2, 1) := by decide +kernel
theorem d_Mod_isBetween_7 : decode prog_17_method_4_code 7 = .ok (.if_icmp .gt 7, 3) := by decide +kernel
theorem d_Mod_isBetween_10 : decode prog_17_method_4_code 10 = .ok (.iconst 1, 1) := by decide +kernel
theorem d_Mod_isBetween_11 : decode prog_17_method_4_code 11 = .ok (.goto 4, 3) := by decide +kernel
theorem d_Mod_isBetween_14 : decode prog_17_method_4_code 14 = .ok (.iconst 0, 1) := by decide +kernel
theorem d_Mod_isBetween_15 : decode prog_17_method_4_code 15 = .ok (.ireturn, 1) := by decide +kernel
def Mod_isBetween (p0 : Int32) (p1 : Int32) (p2 : Int32) : Option (Int32) :=
  if p0 < p1 then (some (0 : Int32)) else (if p2 < p0 then (some (0 : Int32)) else (some (1 : Int32)))
set_option maxHeartbeats 4000000 in
set_option maxRecDepth 100000 in
theorem T_Mod_isBetween {l : Launch} {B : g_B} {h : g_AH} (p0 : Int32) (p1 : Int32) (p2 : Int32) (z : Int32) (hy : Mod_isBetween p0 p1 p2 = some z) : g_CT l B y_Mod_isBetween k_Mod_isBetween [.int p0, .int p1, .int p2] h (.inl (some (.int z))) h := by
  refine g_start2 (Lc := [(0, .int p0), (1, .int p1), (2, .int p2)]) (by decide) rfl rfl (by exact Nat.le_of_ble_eq_true rfl) (by rfl) fun X => ?_
  unfold Mod_isBetween at hy
  refine g_iload_n 0 (i := 0) (pc' := 1) d_Mod_isBetween_0 rfl rfl rfl ?_
  refine g_iload_n 1 (i := 1) (pc' := 2) d_Mod_isBetween_1 rfl rfl rfl ?_
  by_cases c1 : p0 < p1
  · rw [if_pos c1] at hy
    refine g_icmp_ltT (pc' := 14) d_Mod_isBetween_2 c1 (by decide) ?_
    refine g_iconst (v := (0 : Int32)) (pc' := 15) d_Mod_isBetween_14 (by decide) rfl ?_
    cases hy
    exact g_zret rfl rfl rfl (g_nar_z (Or.inl rfl)).1 d_Mod_isBetween_15
  · rw [if_neg c1] at hy
    refine g_icmp_ltF (pc' := 5) d_Mod_isBetween_2 14 c1 (by decide) rfl ?_
    refine g_iload_n 0 (i := 0) (pc' := 6) d_Mod_isBetween_5 rfl rfl rfl ?_
    refine g_iload_n 2 (i := 2) (pc' := 7) d_Mod_isBetween_6 rfl rfl rfl ?_
    by_cases c3 : p2 < p0
    · rw [if_pos c3] at hy
      refine g_icmp_gtT (pc' := 14) d_Mod_isBetween_7 c3 (by decide) ?_
      refine g_iconst (v := (0 : Int32)) (pc' := 15) d_Mod_isBetween_14 (by decide) rfl ?_
      cases hy
      exact g_zret rfl rfl rfl (g_nar_z (Or.inl rfl)).1 d_Mod_isBetween_15
    · rw [if_neg c3] at hy
      refine g_icmp_gtF (pc' := 10) d_Mod_isBetween_7 14 c3 (by decide) rfl ?_
      refine g_iconst (v := (1 : Int32)) (pc' := 11) d_Mod_isBetween_10 (by decide) rfl ?_
      refine g_goto (pc' := 15) d_Mod_isBetween_11 (by decide) ?_
      cases hy
      exact g_zret rfl rfl rfl (g_nar_z (Or.inr rfl)).1 d_Mod_isBetween_15
theorem hd_Mod_isBetween : g_dsc y_Mod_isBetween 3 := ⟨by decide +kernel, by decide +kernel, by decide +kernel⟩
/-! CircuitDeskModel.truncateText(I)I -/
abbrev y_Mod_truncateText : MethodName := ⟨"CircuitDeskModel", "truncateText", "(I)I"⟩
abbrev k_Mod_truncateText : g_M := (prog_17_method_17_code, 2, "CircuitDeskModel", 13, (some FieldType.int), "truncateText", [], 0)
theorem d_Mod_truncateText_0 : decode prog_17_method_17_code 0 = .ok (.aload_n 0, 1) := by decide +kernel
theorem d_Mod_truncateText_1 : decode prog_17_method_17_code 1 = .ok (.iconst 0, 1) := by decide +kernel
theorem d_Mod_truncateText_2 : decode prog_17_method_17_code 2 = .ok (.putfield 51, 3) := by decide +kernel
theorem d_Mod_truncateText_5 : decode prog_17_method_17_code 5 = .ok (.iload_n 1, 1) := by decide +kernel
theorem d_Mod_truncateText_6 : decode prog_17_method_17_code 6 = .ok (.iconst 0, 1) := by decide +kernel
theorem d_Mod_truncateText_7 : decode prog_17_method_17_code 7 = .ok (.aload_n 0, 1) := by decide +kernel
theorem d_Mod_truncateText_8 : decode prog_17_method_17_code 8 = .ok (.getfield 58, 3) := by decide +kernel
theorem d_Mod_truncateText_11 : decode prog_17_method_17_code 11 = .ok (.invokestatic 54, 3) := by decide +kernel
theorem d_Mod_truncateText_14 : decode prog_17_method_17_code 14 = .ok (.ifCond .ne 9, 3) := by decide +kernel
theorem d_Mod_truncateText_17 : decode prog_17_method_17_code 17 = .ok (.aload_n 0, 1) := by decide +kernel
theorem d_Mod_truncateText_18 : decode prog_17_method_17_code 18 = .ok (.iconst 1, 1) := by decide +kernel
theorem d_Mod_truncateText_19 : decode prog_17_method_17_code 19 = .ok (.invokevirtual 61, 3) := by decide +kernel
theorem d_Mod_truncateText_22 : decode prog_17_method_17_code 22 = .ok (.ireturn, 1) := by decide +kernel
theorem d_Mod_truncateText_23 : decode prog_17_method_17_code 23 = .ok (.aload_n 0, 1) := by decide +kernel
theorem d_Mod_truncateText_24 : decode prog_17_method_17_code 24 = .ok (.iload_n 1, 1) := by decide +kernel
theorem d_Mod_truncateText_25 : decode prog_17_method_17_code 25 = .ok (.putfield 58, 3) := by decide +kernel
theorem d_Mod_truncateText_28 : decode prog_17_method_17_code 28 = .ok (.aload_n 0, 1) := by decide +kernel
theorem d_Mod_truncateText_29 : decode prog_17_method_17_code 29 = .ok (.getfield 58, 3) := by decide +kernel
theorem d_Mod_truncateText_32 : decode prog_17_method_17_code 32 = .ok (.ireturn, 1) := by decide +kernel
def Mod_truncateText (M : g_MD) (p0 : Int32) : Option (Int32 × g_MD) :=
  g_let (mp M 7 (0 : Int32)) fun M1 => g_b (Mod_isBetween p0 (0 : Int32) (M1.2.1 9)) fun x2 => if x2 = 0 then (g_bM (Mod_fail M1 (1 : Int32)) fun x7 M8 => some (x7, M8)) else (g_let (mp M1 9 p0) fun M6 => some ((M6.2.1 9), M6))
set_option maxHeartbeats 4000000 in
set_option maxRecDepth 100000 in
theorem T_Mod_truncateText {l : Launch} {B : g_B} {h0 : g_AH} {a0 : Nat} {ad : Nat → Nat} (ok : mOK a0 ad) (M : g_MD) (p0 : Int32) (z : Int32 × g_MD) (hy : Mod_truncateText M p0 = some z) : g_CT l B y_Mod_truncateText k_Mod_truncateText [.ref a0, .int p0] (mH h0 a0 ad M) (.inl (some (.int z.1))) (mH h0 a0 ad z.2) := by
  refine g_start2 (Lc := [(0, .ref a0), (1, .int p0)]) (by decide) rfl rfl (by exact Nat.le_of_ble_eq_true rfl) (by rfl) fun X => ?_
  unfold Mod_truncateText at hy
  refine g_aload_n 0 (i := 0) (pc' := 1) d_Mod_truncateText_0 rfl rfl rfl ?_
  refine g_iconst (v := (0 : Int32)) (pc' := 2) d_Mod_truncateText_1 (by decide) rfl ?_
  replace hy := g_let_inv hy
  refine gm_put ok 7 (pc' := 5) d_Mod_truncateText_2 rfl (by decide) q1972 rfl ?_
  generalize (mp M 7 (0 : Int32)) = M1 at hy ⊢
  refine g_iload_n 1 (i := 1) (pc' := 6) d_Mod_truncateText_5 rfl rfl rfl ?_
  refine g_iconst (v := (0 : Int32)) (pc' := 7) d_Mod_truncateText_6 (by decide) rfl ?_
  refine g_aload_n 0 (i := 0) (pc' := 8) d_Mod_truncateText_7 rfl rfl rfl ?_
  refine gm_getA ok 9 (pc' := 11) d_Mod_truncateText_8 rfl q1974 rfl rfl ?_
  replace hy := g_b_inv hy
  obtain ⟨x2, hf4, hy⟩ := hy
  refine g_callS (rv := some (.int x2)) (h1 := (mH h0 a0 ad M1)) (pc' := 14) (As := [.int p0, .int (0 : Int32), .int (M1.2.1 9)]) (rest := []) 3 (T_Mod_isBetween (hy := hf4)) d_Mod_truncateText_11 q2069 q2070 q135 q2071 hd_Mod_isBetween rfl ⟨by decide, by decide⟩ (by first | exact Nat.le_of_ble_eq_true rfl | (simp only [List.map, List.sum_cons, List.sum_nil, g_cat_rf]; exact Nat.le_of_ble_eq_true rfl) | (simp only [List.map, List.sum_cons, List.sum_nil, g_cat_rf, Value.category]; decide)) rfl ?_
  by_cases c5 : x2 = 0
  · rw [if_pos c5] at hy
    refine g_if_neF (pc' := 17) d_Mod_truncateText_14 23 c5 (by decide) rfl ?_
    refine g_aload_n 0 (i := 0) (pc' := 18) d_Mod_truncateText_17 rfl rfl rfl ?_
    refine g_iconst (v := (1 : Int32)) (pc' := 19) d_Mod_truncateText_18 (by decide) rfl ?_
    replace hy := g_bM_inv hy
    obtain ⟨x7, M8, hf9, hy⟩ := hy
    refine g_callV (rv := some (.int x7)) (h1 := (mH h0 a0 ad M8)) (pc' := 22) (As := [.int (1 : Int32)]) (rest := []) 1 (T_Mod_fail ok (hy := hf9)) d_Mod_truncateText_19 (mH_look ok) rfl rfl q2061 q2063 qs31 q135 q2064 hd_Mod_fail rfl ⟨by decide, by decide⟩ (by first | exact Nat.le_of_ble_eq_true rfl | (simp only [List.map, List.sum_cons, List.sum_nil, g_cat_rf]; exact Nat.le_of_ble_eq_true rfl) | (simp only [List.map, List.sum_cons, List.sum_nil, g_cat_rf, Value.category]; decide)) rfl ?_
    cases hy
    exact g_iret rfl rfl rfl d_Mod_truncateText_22
  · rw [if_neg c5] at hy
    refine g_if_neT (pc' := 23) d_Mod_truncateText_14 c5 (by decide) ?_
    refine g_aload_n 0 (i := 0) (pc' := 24) d_Mod_truncateText_23 rfl rfl rfl ?_
    refine g_iload_n 1 (i := 1) (pc' := 25) d_Mod_truncateText_24 rfl rfl rfl ?_
    replace hy := g_let_inv hy
    refine gm_put ok 9 (pc' := 28) d_Mod_truncateText_25 rfl (by decide) q1974 rfl ?_
    generalize (mp M1 9 p0) = M6 at hy ⊢
    refine g_aload_n 0 (i := 0) (pc' := 29) d_Mod_truncateText_28 rfl rfl rfl ?_
    refine gm_getA ok 9 (pc' := 32) d_Mod_truncateText_29 rfl q1974 rfl rfl ?_
    cases hy
    exact g_iret rfl rfl rfl d_Mod_truncateText_32
theorem hd_Mod_truncateText : g_dsc y_Mod_truncateText 1 := ⟨by decide +kernel, by decide +kernel, by decide +kernel⟩
/-! CircuitDeskModel.copy([II[II)V -/
abbrev y_Mod_copy : MethodName := ⟨"CircuitDeskModel", "copy", "([II[II)V"⟩
abbrev k_Mod_copy : g_M := (prog_17_method_6_code, 5, "CircuitDeskModel", 12, none, "copy", [], 0)
theorem d_Mod_copy_0 : decode prog_17_method_6_code 0 = .ok (.iconst 0, 1) := by decide +kernel
theorem d_Mod_copy_1 : decode prog_17_method_6_code 1 = .ok (.istore 4, 2) := by decide +kernel
theorem d_Mod_copy_3 : decode prog_17_method_6_code 3 = .ok (.iload 4, 2) := by decide +kernel
theorem d_Mod_copy_5 : decode prog_17_method_6_code 5 = .ok (.sipush 1112, 3) := by decide +kernel
theorem d_Mod_copy_8 : decode prog_17_method_6_code 8 = .ok (.if_icmp .ge 21, 3) := by decide +kernel
theorem d_Mod_copy_11 : decode prog_17_method_6_code 11 = .ok (.aload_n 2, 1) := by decide +kernel
theorem d_Mod_copy_12 : decode prog_17_method_6_code 12 = .ok (.iload_n 3, 1) := by decide +kernel
theorem d_Mod_copy_13 : decode prog_17_method_6_code 13 = .ok (.iload 4, 2) := by decide +kernel
theorem d_Mod_copy_15 : decode prog_17_method_6_code 15 = .ok (.iadd, 1) := by decide +kernel
theorem d_Mod_copy_16 : decode prog_17_method_6_code 16 = .ok (.aload_n 0, 1) := by decide +kernel
theorem d_Mod_copy_17 : decode prog_17_method_6_code 17 = .ok (.iload_n 1, 1) := by decide +kernel
theorem d_Mod_copy_18 : decode prog_17_method_6_code 18 = .ok (.iload 4, 2) := by decide +kernel
theorem d_Mod_copy_20 : decode prog_17_method_6_code 20 = .ok (.iadd, 1) := by decide +kernel
theorem d_Mod_copy_21 : decode prog_17_method_6_code 21 = .ok (.iaload, 1) := by decide +kernel
theorem d_Mod_copy_22 : decode prog_17_method_6_code 22 = .ok (.iastore, 1) := by decide +kernel
theorem d_Mod_copy_23 : decode prog_17_method_6_code 23 = .ok (.iinc 4 1, 3) := by decide +kernel
theorem d_Mod_copy_26 : decode prog_17_method_6_code 26 = .ok (.goto (-23), 3) := by decide +kernel
theorem d_Mod_copy_29 : decode prog_17_method_6_code 29 = .ok (.return_, 1) := by decide +kernel
def Mod_copy_3  : Nat → g_MD → Nat → Int32 → Nat → Int32 → Int32 → Option g_MD
  | 0, _, _, _, _, _, _ => none
  | n + 1, M, v0, v1, v2, v3, v4 => if (1112 : Int32) ≤ v4 then (some M) else (g_mA M 0 v0 (v1 + v4) fun x2 => g_mS M 0 v2 (v3 + v4) x2 fun M4 => (Mod_copy_3  n) M4 v0 v1 v2 v3 (v4 + (1 : Int32)))
set_option maxHeartbeats 4000000 in
set_option maxRecDepth 100000 in
theorem W_Mod_copy_3 {X : g_X} {h0 : g_AH} {a0 : Nat} {ad : Nat → Nat} (ok : mOK a0 ad) (z : g_MD)  : ∀ (n : Nat) (M : g_MD) (v0 : Nat) (v1 : Int32) (v2 : Nat) (v3 : Int32) (v4 : Int32), Mod_copy_3  n M v0 v1 v2 v3 v4 = some z → G X k_Mod_copy (.inl none) (mH h0 a0 ad z) (mH h0 a0 ad M) 3 [(0, .ref (ad v0)), (1, .int v1), (2, .ref (ad v2)), (3, .int v3), (4, .int v4)] [] := by
  intro n
  induction n with
  | zero => intro M v0 v1 v2 v3 v4 hy; exact absurd hy (by simp [Mod_copy_3])
  | succ n ih =>
    intro M v0 v1 v2 v3 v4 hy
    rw [Mod_copy_3] at hy
    refine g_iload 4 (pc' := 5) d_Mod_copy_3 rfl rfl ?_
    refine g_sipush (v := (1112 : Int32)) (pc' := 8) d_Mod_copy_5 (by decide) rfl ?_
    by_cases c1 : (1112 : Int32) ≤ v4
    · rw [if_pos c1] at hy
      refine g_icmp_geT (pc' := 29) d_Mod_copy_8 c1 (by decide) ?_
      cases hy
      exact g_vret rfl rfl rfl d_Mod_copy_29
    · rw [if_neg c1] at hy
      refine g_icmp_geF (pc' := 11) d_Mod_copy_8 29 c1 (by decide) rfl ?_
      refine g_aload_n 2 (i := 2) (pc' := 12) d_Mod_copy_11 rfl rfl rfl ?_
      refine g_iload_n 3 (i := 3) (pc' := 13) d_Mod_copy_12 rfl rfl rfl ?_
      refine g_iload 4 (pc' := 15) d_Mod_copy_13 rfl rfl ?_
      refine g_iadd (pc' := 16) d_Mod_copy_15 rfl ?_
      refine g_aload_n 0 (i := 0) (pc' := 17) d_Mod_copy_16 rfl rfl rfl ?_
      refine g_iload_n 1 (i := 1) (pc' := 18) d_Mod_copy_17 rfl rfl rfl ?_
      refine g_iload 4 (pc' := 20) d_Mod_copy_18 rfl rfl ?_
      refine g_iadd (pc' := 21) d_Mod_copy_20 rfl ?_
      replace hy := g_mA_inv hy
      obtain ⟨x2, hc3, hy⟩ := hy
      refine gm_ald0 ok (pc' := 22) d_Mod_copy_21 hc3 rfl ?_
      replace hy := g_mS_inv hy
      obtain ⟨hc5, hy⟩ := hy
      refine gm_ast0 ok (pc' := 23) d_Mod_copy_22 hc5 rfl ?_
      generalize ms M v2 ((v3 + v4)).toNatClampNeg x2 = M4 at hy ⊢
      refine g_iinc 4 (v := (v4 + (1 : Int32))) (pc' := 26) (Lc' := [(4, .int (v4 + (1 : Int32))), (0, .ref (ad v0)), (1, .int v1), (2, .ref (ad v2)), (3, .int v3)]) d_Mod_copy_23 rfl rfl (by decide) rfl rfl ?_
      refine g_goto (pc' := 3) d_Mod_copy_26 (by decide) ?_
      refine g_sub [1, 2, 3, 4, 0] rfl ?_
      exact ih _ _ _ _ _ _ hy
def Mod_copy (M : g_MD) (p0 : Nat) (p1 : Int32) (p2 : Nat) (p3 : Int32) : Option g_MD :=
  Mod_copy_3  gFU M p0 p1 p2 p3 (0 : Int32)
set_option maxHeartbeats 4000000 in
set_option maxRecDepth 100000 in
theorem T_Mod_copy {l : Launch} {B : g_B} {h0 : g_AH} {a0 : Nat} {ad : Nat → Nat} (ok : mOK a0 ad) (M : g_MD) (p0 : Nat) (p1 : Int32) (p2 : Nat) (p3 : Int32) (z : g_MD) (hy : Mod_copy M p0 p1 p2 p3 = some z) : g_CT l B y_Mod_copy k_Mod_copy [.ref (ad p0), .int p1, .ref (ad p2), .int p3] (mH h0 a0 ad M) (.inl none) (mH h0 a0 ad z) := by
  refine g_start2 (Lc := [(0, .ref (ad p0)), (1, .int p1), (2, .ref (ad p2)), (3, .int p3)]) (by decide) rfl rfl (by exact Nat.le_of_ble_eq_true rfl) (by rfl) fun X => ?_
  unfold Mod_copy at hy
  refine g_iconst (v := (0 : Int32)) (pc' := 1) d_Mod_copy_0 (by decide) rfl ?_
  refine g_istore (pc' := 3) (Lc' := [(4, .int (0 : Int32)), (0, .ref (ad p0)), (1, .int p1), (2, .ref (ad p2)), (3, .int p3)]) d_Mod_copy_1 (by decide) rfl rfl ?_
  refine g_sub [1, 2, 3, 4, 0] rfl ?_
  exact W_Mod_copy_3 ok _ _ _ _ _ _ _ _ hy
theorem hd_Mod_copy : g_dsc y_Mod_copy 4 := ⟨by decide +kernel, by decide +kernel, by decide +kernel⟩
/-! CircuitDeskModel.byteAt(I)I -/
abbrev y_Mod_byteAt : MethodName := ⟨"CircuitDeskModel", "byteAt", "(I)I"⟩
abbrev k_Mod_byteAt : g_M := (prog_17_method_18_code, 2, "CircuitDeskModel", 12, (some FieldType.int), "byteAt", [], 0)
theorem d_Mod_byteAt_0 : decode prog_17_method_18_code 0 = .ok (.iload_n 1, 1) := by decide +kernel
theorem d_Mod_byteAt_1 : decode prog_17_method_18_code 1 = .ok (.aload_n 0, 1) := by decide +kernel
theorem d_Mod_byteAt_2 : decode prog_17_method_18_code 2 = .ok (.getfield 58, 3) := by decide +kernel
theorem d_Mod_byteAt_5 : decode prog_17_method_18_code 5 = .ok (.if_icmp .ge 12, 3) := by decide +kernel
theorem d_Mod_byteAt_8 : decode prog_17_method_18_code 8 = .ok (.aload_n 0, 1) := by decide +kernel
theorem d_Mod_byteAt_9 : decode prog_17_method_18_code 9 = .ok (.getfield 29, 3) := by decide +kernel
theorem d_Mod_byteAt_12 : decode prog_17_method_18_code 12 = .ok (.iload_n 1, 1) := by decide +kernel
theorem d_Mod_byteAt_13 : decode prog_17_method_18_code 13 = .ok (.iaload, 1) := by decide +kernel
theorem d_Mod_byteAt_14 : decode prog_17_method_18_code 14 = .ok (.goto 4, 3) := by decide +kernel
theorem d_Mod_byteAt_17 : decode prog_17_method_18_code 17 = .ok (.iconst (-1), 1) := by decide +kernel
theorem d_Mod_byteAt_18 : decode prog_17_method_18_code 18 = .ok (.ireturn, 1) := by decide +kernel
def Mod_byteAt (M : g_MD) (p0 : Int32) : Option (Int32) :=
  if (M.2.1 9) ≤ p0 then (some (-1 : Int32)) else (g_mA M 0 8 p0 fun x2 => some x2)
set_option maxHeartbeats 4000000 in
set_option maxRecDepth 100000 in
theorem T_Mod_byteAt {l : Launch} {B : g_B} {h0 : g_AH} {a0 : Nat} {ad : Nat → Nat} (ok : mOK a0 ad) (M : g_MD) (p0 : Int32) (z : Int32) (hy : Mod_byteAt M p0 = some z) : g_CT l B y_Mod_byteAt k_Mod_byteAt [.ref a0, .int p0] (mH h0 a0 ad M) (.inl (some (.int z))) (mH h0 a0 ad M) := by
  refine g_start2 (Lc := [(0, .ref a0), (1, .int p0)]) (by decide) rfl rfl (by exact Nat.le_of_ble_eq_true rfl) (by rfl) fun X => ?_
  unfold Mod_byteAt at hy
  refine g_iload_n 1 (i := 1) (pc' := 1) d_Mod_byteAt_0 rfl rfl rfl ?_
  refine g_aload_n 0 (i := 0) (pc' := 2) d_Mod_byteAt_1 rfl rfl rfl ?_
  refine gm_getA ok 9 (pc' := 5) d_Mod_byteAt_2 rfl q1974 rfl rfl ?_
  by_cases c1 : (M.2.1 9) ≤ p0
  · rw [if_pos c1] at hy
    refine g_icmp_geT (pc' := 17) d_Mod_byteAt_5 c1 (by decide) ?_
    refine g_iconst (v := (-1 : Int32)) (pc' := 18) d_Mod_byteAt_17 (by decide) rfl ?_
    cases hy
    exact g_iret rfl rfl rfl d_Mod_byteAt_18
  · rw [if_neg c1] at hy
    refine g_icmp_geF (pc' := 8) d_Mod_byteAt_5 17 c1 (by decide) rfl ?_
    refine g_aload_n 0 (i := 0) (pc' := 9) d_Mod_byteAt_8 rfl rfl rfl ?_
    refine gm_getA ok 8 (pc' := 12) d_Mod_byteAt_9 rfl q1973 rfl rfl ?_
    refine g_iload_n 1 (i := 1) (pc' := 13) d_Mod_byteAt_12 rfl rfl rfl ?_
    replace hy := g_mA_inv hy
    obtain ⟨x2, hc3, hy⟩ := hy
    refine gm_ald0 ok (pc' := 14) d_Mod_byteAt_13 hc3 rfl ?_
    refine g_goto (pc' := 18) d_Mod_byteAt_14 (by decide) ?_
    cases hy
    exact g_iret rfl rfl rfl d_Mod_byteAt_18
theorem hd_Mod_byteAt : g_dsc y_Mod_byteAt 1 := ⟨by decide +kernel, by decide +kernel, by decide +kernel⟩
/-! CircuitDeskModel.isLetter(I)Z -/
abbrev y_Mod_isLetter : MethodName := ⟨"CircuitDeskModel", "isLetter", "(I)Z"⟩
abbrev k_Mod_isLetter : g_M := (prog_17_method_19_code, 1, "CircuitDeskModel", 13, (some FieldType.boolean), "isLetter", [], 0)
theorem d_Mod_isLetter_0 : decode prog_17_method_19_code 0 = .ok (.iload_n 0, 1) := by decide +kernel
theorem d_Mod_isLetter_1 : decode prog_17_method_19_code 1 = .ok (.bipush 97, 2) := by decide +kernel
theorem d_Mod_isLetter_3 : decode prog_17_method_19_code 3 = .ok (.bipush 122, 2) := by decide +kernel
theorem d_Mod_isLetter_5 : decode prog_17_method_19_code 5 = .ok (.invokestatic 54, 3) := by decide +kernel
theorem d_Mod_isLetter_8 : decode prog_17_method_19_code 8 = .ok (.ireturn, 1) := by decide +kernel
def Mod_isLetter (p0 : Int32) : Option (Int32) :=
  g_b (Mod_isBetween p0 (97 : Int32) (122 : Int32)) fun x1 => g_rq (x1 = 0 ∨ x1 = 1) <| some x1
set_option maxHeartbeats 4000000 in
set_option maxRecDepth 100000 in
theorem T_Mod_isLetter {l : Launch} {B : g_B} {h : g_AH} (p0 : Int32) (z : Int32) (hy : Mod_isLetter p0 = some z) : g_CT l B y_Mod_isLetter k_Mod_isLetter [.int p0] h (.inl (some (.int z))) h := by
  refine g_start2 (Lc := [(0, .int p0)]) (by decide) rfl rfl (by exact Nat.le_of_ble_eq_true rfl) (by rfl) fun X => ?_
  unfold Mod_isLetter at hy
  refine g_iload_n 0 (i := 0) (pc' := 1) d_Mod_isLetter_0 rfl rfl rfl ?_
  refine g_bipush (v := (97 : Int32)) (pc' := 3) d_Mod_isLetter_1 (by decide) rfl ?_
  refine g_bipush (v := (122 : Int32)) (pc' := 5) d_Mod_isLetter_3 (by decide) rfl ?_
  replace hy := g_b_inv hy
  obtain ⟨x1, hf3, hy⟩ := hy
  refine g_callS (rv := some (.int x1)) (h1 := h) (pc' := 8) (As := [.int p0, .int (97 : Int32), .int (122 : Int32)]) (rest := []) 3 (T_Mod_isBetween (hy := hf3)) d_Mod_isLetter_5 q2069 q2070 q135 q2071 hd_Mod_isBetween rfl ⟨by decide, by decide⟩ (by first | exact Nat.le_of_ble_eq_true rfl | (simp only [List.map, List.sum_cons, List.sum_nil, g_cat_rf]; exact Nat.le_of_ble_eq_true rfl) | (simp only [List.map, List.sum_cons, List.sum_nil, g_cat_rf, Value.category]; decide)) rfl ?_
  replace hy := g_rq_inv hy
  obtain ⟨c4, hy⟩ := hy
  cases hy
  exact g_zret rfl rfl rfl (g_nar_z c4).1 d_Mod_isLetter_8
theorem hd_Mod_isLetter : g_dsc y_Mod_isLetter 1 := ⟨by decide +kernel, by decide +kernel, by decide +kernel⟩
/-! CircuitDeskModel.isDigit(I)Z -/
abbrev y_Mod_isDigit : MethodName := ⟨"CircuitDeskModel", "isDigit", "(I)Z"⟩
abbrev k_Mod_isDigit : g_M := (prog_17_method_20_code, 1, "CircuitDeskModel", 13, (some FieldType.boolean), "isDigit", [], 0)
theorem d_Mod_isDigit_0 : decode prog_17_method_20_code 0 = .ok (.iload_n 0, 1) := by decide +kernel
theorem d_Mod_isDigit_1 : decode prog_17_method_20_code 1 = .ok (.bipush 48, 2) := by decide +kernel
theorem d_Mod_isDigit_3 : decode prog_17_method_20_code 3 = .ok (.bipush 57, 2) := by decide +kernel
theorem d_Mod_isDigit_5 : decode prog_17_method_20_code 5 = .ok (.invokestatic 54, 3) := by decide +kernel
theorem d_Mod_isDigit_8 : decode prog_17_method_20_code 8 = .ok (.ireturn, 1) := by decide +kernel
def Mod_isDigit (p0 : Int32) : Option (Int32) :=
  g_b (Mod_isBetween p0 (48 : Int32) (57 : Int32)) fun x1 => g_rq (x1 = 0 ∨ x1 = 1) <| some x1
set_option maxHeartbeats 4000000 in
set_option maxRecDepth 100000 in
theorem T_Mod_isDigit {l : Launch} {B : g_B} {h : g_AH} (p0 : Int32) (z : Int32) (hy : Mod_isDigit p0 = some z) : g_CT l B y_Mod_isDigit k_Mod_isDigit [.int p0] h (.inl (some (.int z))) h := by
  refine g_start2 (Lc := [(0, .int p0)]) (by decide) rfl rfl (by exact Nat.le_of_ble_eq_true rfl) (by rfl) fun X => ?_
  unfold Mod_isDigit at hy
  refine g_iload_n 0 (i := 0) (pc' := 1) d_Mod_isDigit_0 rfl rfl rfl ?_
  refine g_bipush (v := (48 : Int32)) (pc' := 3) d_Mod_isDigit_1 (by decide) rfl ?_
  refine g_bipush (v := (57 : Int32)) (pc' := 5) d_Mod_isDigit_3 (by decide) rfl ?_
  replace hy := g_b_inv hy
  obtain ⟨x1, hf3, hy⟩ := hy
  refine g_callS (rv := some (.int x1)) (h1 := h) (pc' := 8) (As := [.int p0, .int (48 : Int32), .int (57 : Int32)]) (rest := []) 3 (T_Mod_isBetween (hy := hf3)) d_Mod_isDigit_5 q2069 q2070 q135 q2071 hd_Mod_isBetween rfl ⟨by decide, by decide⟩ (by first | exact Nat.le_of_ble_eq_true rfl | (simp only [List.map, List.sum_cons, List.sum_nil, g_cat_rf]; exact Nat.le_of_ble_eq_true rfl) | (simp only [List.map, List.sum_cons, List.sum_nil, g_cat_rf, Value.category]; decide)) rfl ?_
  replace hy := g_rq_inv hy
  obtain ⟨c4, hy⟩ := hy
  cases hy
  exact g_zret rfl rfl rfl (g_nar_z c4).1 d_Mod_isDigit_8
theorem hd_Mod_isDigit : g_dsc y_Mod_isDigit 1 := ⟨by decide +kernel, by decide +kernel, by decide +kernel⟩
/-! CircuitDeskModel.nextToken()V -/
abbrev y_Mod_nextToken : MethodName := ⟨"CircuitDeskModel", "nextToken", "()V"⟩
abbrev k_Mod_nextToken : g_M := (prog_17_method_21_code, 2, "CircuitDeskModel", 14, none, "nextToken", [], 0)
theorem d_Mod_nextToken_0 : decode prog_17_method_21_code 0 = .ok (.aload_n 0, 1) := by decide +kernel
theorem d_Mod_nextToken_1 : decode prog_17_method_21_code 1 = .ok (.aload_n 0, 1) := by decide +kernel
theorem d_Mod_nextToken_2 : decode prog_17_method_21_code 2 = .ok (.getfield 65, 3) := by decide +kernel
theorem d_Mod_nextToken_5 : decode prog_17_method_21_code 5 = .ok (.invokevirtual 68, 3) := by decide +kernel
theorem d_Mod_nextToken_8 : decode prog_17_method_21_code 8 = .ok (.bipush 32, 2) := by decide +kernel
theorem d_Mod_nextToken_10 : decode prog_17_method_21_code 10 = .ok (.if_icmp .eq 16, 3) := by decide +kernel
theorem d_Mod_nextToken_13 : decode prog_17_method_21_code 13 = .ok (.aload_n 0, 1) := by decide +kernel
theorem d_Mod_nextToken_14 : decode prog_17_method_21_code 14 = .ok (.aload_n 0, 1) := by decide +kernel
theorem d_Mod_nextToken_15 : decode prog_17_method_21_code 15 = .ok (.getfield 65, 3) := by decide +kernel
theorem d_Mod_nextToken_18 : decode prog_17_method_21_code 18 = .ok (.invokevirtual 68, 3) := by decide +kernel
theorem d_Mod_nextToken_21 : decode prog_17_method_21_code 21 = .ok (.bipush 10, 2) := by decide +kernel
theorem d_Mod_nextToken_23 : decode prog_17_method_21_code 23 = .ok (.if_icmp .ne 16, 3) := by decide +kernel
theorem d_Mod_nextToken_26 : decode prog_17_method_21_code 26 = .ok (.aload_n 0, 1) := by decide +kernel
theorem d_Mod_nextToken_27 : decode prog_17_method_21_code 27 = .ok (.dup, 1) := by decide +kernel
theorem d_Mod_nextToken_28 : decode prog_17_method_21_code 28 = .ok (.getfield 65, 3) := by decide +kernel
theorem d_Mod_nextToken_31 : decode prog_17_method_21_code 31 = .ok (.iconst 1, 1) := by decide +kernel
theorem d_Mod_nextToken_32 : decode prog_17_method_21_code 32 = .ok (.iadd, 1) := by decide +kernel
theorem d_Mod_nextToken_33 : decode prog_17_method_21_code 33 = .ok (.putfield 65, 3) := by decide +kernel
theorem d_Mod_nextToken_36 : decode prog_17_method_21_code 36 = .ok (.goto (-36), 3) := by decide +kernel
theorem d_Mod_nextToken_39 : decode prog_17_method_21_code 39 = .ok (.aload_n 0, 1) := by decide +kernel
theorem d_Mod_nextToken_40 : decode prog_17_method_21_code 40 = .ok (.aload_n 0, 1) := by decide +kernel
theorem d_Mod_nextToken_41 : decode prog_17_method_21_code 41 = .ok (.getfield 65, 3) := by decide +kernel
theorem d_Mod_nextToken_44 : decode prog_17_method_21_code 44 = .ok (.putfield 71, 3) := by decide +kernel
theorem d_Mod_nextToken_47 : decode prog_17_method_21_code 47 = .ok (.aload_n 0, 1) := by decide +kernel
theorem d_Mod_nextToken_48 : decode prog_17_method_21_code 48 = .ok (.iconst 0, 1) := by decide +kernel
theorem d_Mod_nextToken_49 : decode prog_17_method_21_code 49 = .ok (.putfield 74, 3) := by decide +kernel
theorem d_Mod_nextToken_52 : decode prog_17_method_21_code 52 = .ok (.aload_n 0, 1) := by decide +kernel
theorem d_Mod_nextToken_53 : decode prog_17_method_21_code 53 = .ok (.lconst 0, 1) := by decide +kernel
theorem d_Mod_nextToken_54 : decode prog_17_method_21_code 54 = .ok (.putfield 77, 3) := by decide +kernel
theorem d_Mod_nextToken_57 : decode prog_17_method_21_code 57 = .ok (.aload_n 0, 1) := by decide +kernel
theorem d_Mod_nextToken_58 : decode prog_17_method_21_code 58 = .ok (.iconst 0, 1) := by decide +kernel
theorem d_Mod_nextToken_59 : decode prog_17_method_21_code 59 = .ok (.putfield 81, 3) := by decide +kernel
theorem d_Mod_nextToken_62 : decode prog_17_method_21_code 62 = .ok (.aload_n 0, 1) := by decide +kernel
theorem d_Mod_nextToken_63 : decode prog_17_method_21_code 63 = .ok (.aload_n 0, 1) := by decide +kernel
theorem d_Mod_nextToken_64 : decode prog_17_method_21_code 64 = .ok (.getfield 65, 3) := by decide +kernel
theorem d_Mod_nextToken_67 : decode prog_17_method_21_code 67 = .ok (.invokevirtual 68, 3) := by decide +kernel
theorem d_Mod_nextToken_70 : decode prog_17_method_21_code 70 = .ok (.istore_n 1, 1) := by decide +kernel
theorem d_Mod_nextToken_71 : decode prog_17_method_21_code 71 = .ok (.iload_n 1, 1) := by decide +kernel
theorem d_Mod_nextToken_72 : decode prog_17_method_21_code 72 = .ok (.iconst (-1), 1) := by decide +kernel
theorem d_Mod_nextToken_73 : decode prog_17_method_21_code 73 = .ok (.if_icmp .ne 11, 3) := by decide +kernel
theorem d_Mod_nextToken_76 : decode prog_17_method_21_code 76 = .ok (.aload_n 0, 1) := by decide +kernel
theorem d_Mod_nextToken_77 : decode prog_17_method_21_code 77 = .ok (.iconst 0, 1) := by decide +kernel
theorem d_Mod_nextToken_78 : decode prog_17_method_21_code 78 = .ok (.putfield 84, 3) := by decide +kernel
theorem d_Mod_nextToken_81 : decode prog_17_method_21_code 81 = .ok (.goto 197, 3) := by decide +kernel
theorem d_Mod_nextToken_84 : decode prog_17_method_21_code 84 = .ok (.iload_n 1, 1) := by decide +kernel
theorem d_Mod_nextToken_85 : decode prog_17_method_21_code 85 = .ok (.invokestatic 87, 3) := by decide +kernel
theorem d_Mod_nextToken_88 : decode prog_17_method_21_code 88 = .ok (.ifCond .eq 87, 3) := by decide +kernel
theorem d_Mod_nextToken_91 : decode prog_17_method_21_code 91 = .ok (.aload_n 0, 1) := by decide +kernel
theorem d_Mod_nextToken_92 : decode prog_17_method_21_code 92 = .ok (.iconst 2, 1) := by decide +kernel
theorem d_Mod_nextToken_93 : decode prog_17_method_21_code 93 = .ok (.putfield 84, 3) := by decide +kernel
theorem d_Mod_nextToken_96 : decode prog_17_method_21_code 96 = .ok (.aload_n 0, 1) := by decide +kernel
theorem d_Mod_nextToken_97 : decode prog_17_method_21_code 97 = .ok (.aload_n 0, 1) := by decide +kernel
theorem d_Mod_nextToken_98 : decode prog_17_method_21_code 98 = .ok (.getfield 65, 3) := by decide +kernel
theorem d_Mod_nextToken_101 : decode prog_17_method_21_code 101 = .ok (.invokevirtual 68, 3) := by decide +kernel
theorem d_Mod_nextToken_104 : decode prog_17_method_21_code 104 = .ok (.invokestatic 87, 3) := by decide +kernel
theorem d_Mod_nextToken_107 : decode prog_17_method_21_code 107 = .ok (.ifCond .eq 171, 3) := by decide +kernel
theorem d_Mod_nextToken_110 : decode prog_17_method_21_code 110 = .ok (.aload_n 0, 1) := by decide +kernel
theorem d_Mod_nextToken_111 : decode prog_17_method_21_code 111 = .ok (.aload_n 0, 1) := by decide +kernel
theorem d_Mod_nextToken_112 : decode prog_17_method_21_code 112 = .ok (.getfield 74, 3) := by decide +kernel
theorem d_Mod_nextToken_115 : decode prog_17_method_21_code 115 = .ok (.bipush 11, 2) := by decide +kernel
theorem d_Mod_nextToken_117 : decode prog_17_method_21_code 117 = .ok (.if_icmp .ge 28, 3) := by decide +kernel
theorem d_Mod_nextToken_120 : decode prog_17_method_21_code 120 = .ok (.ldc2_w 91, 3) := by decide +kernel
theorem d_Mod_nextToken_123 : decode prog_17_method_21_code 123 = .ok (.aload_n 0, 1) := by decide +kernel
theorem d_Mod_nextToken_124 : decode prog_17_method_21_code 124 = .ok (.getfield 77, 3) := by decide +kernel
theorem d_Mod_nextToken_127 : decode prog_17_method_21_code 127 = .ok (.lmul, 1) := by decide +kernel
theorem d_Mod_nextToken_128 : decode prog_17_method_21_code 128 = .ok (.aload_n 0, 1) := by decide +kernel
theorem d_Mod_nextToken_129 : decode prog_17_method_21_code 129 = .ok (.aload_n 0, 1) := by decide +kernel
theorem d_Mod_nextToken_130 : decode prog_17_method_21_code 130 = .ok (.getfield 65, 3) := by decide +kernel
theorem d_Mod_nextToken_133 : decode prog_17_method_21_code 133 = .ok (.invokevirtual 68, 3) := by decide +kernel
theorem d_Mod_nextToken_136 : decode prog_17_method_21_code 136 = .ok (.i2l, 1) := by decide +kernel
theorem d_Mod_nextToken_137 : decode prog_17_method_21_code 137 = .ok (.ladd, 1) := by decide +kernel
theorem d_Mod_nextToken_138 : decode prog_17_method_21_code 138 = .ok (.ldc2_w 93, 3) := by decide +kernel
theorem d_Mod_nextToken_141 : decode prog_17_method_21_code 141 = .ok (.lsub, 1) := by decide +kernel
theorem d_Mod_nextToken_142 : decode prog_17_method_21_code 142 = .ok (.goto 7, 3) := by decide +kernel
theorem d_Mod_nextToken_145 : decode prog_17_method_21_code 145 = .ok (.aload_n 0, 1) := by decide +kernel
theorem d_Mod_nextToken_146 : decode prog_17_method_21_code 146 = .ok (.getfield 77, 3) := by decide +kernel
theorem d_Mod_nextToken_149 : decode prog_17_method_21_code 149 = .ok (.putfield 77, 3) := by decide +kernel
theorem d_Mod_nextToken_152 : decode prog_17_method_21_code 152 = .ok (.aload_n 0, 1) := by decide +kernel
theorem d_Mod_nextToken_153 : decode prog_17_method_21_code 153 = .ok (.dup, 1) := by decide +kernel
theorem d_Mod_nextToken_154 : decode prog_17_method_21_code 154 = .ok (.getfield 74, 3) := by decide +kernel
theorem d_Mod_nextToken_157 : decode prog_17_method_21_code 157 = .ok (.iconst 1, 1) := by decide +kernel
theorem d_Mod_nextToken_158 : decode prog_17_method_21_code 158 = .ok (.iadd, 1) := by decide +kernel
theorem d_Mod_nextToken_159 : decode prog_17_method_21_code 159 = .ok (.putfield 74, 3) := by decide +kernel
theorem d_Mod_nextToken_162 : decode prog_17_method_21_code 162 = .ok (.aload_n 0, 1) := by decide +kernel
theorem d_Mod_nextToken_163 : decode prog_17_method_21_code 163 = .ok (.dup, 1) := by decide +kernel
theorem d_Mod_nextToken_164 : decode prog_17_method_21_code 164 = .ok (.getfield 65, 3) := by decide +kernel
theorem d_Mod_nextToken_167 : decode prog_17_method_21_code 167 = .ok (.iconst 1, 1) := by decide +kernel
theorem d_Mod_nextToken_168 : decode prog_17_method_21_code 168 = .ok (.iadd, 1) := by decide +kernel
theorem d_Mod_nextToken_169 : decode prog_17_method_21_code 169 = .ok (.putfield 65, 3) := by decide +kernel
theorem d_Mod_nextToken_172 : decode prog_17_method_21_code 172 = .ok (.goto (-76), 3) := by decide +kernel
theorem d_Mod_nextToken_175 : decode prog_17_method_21_code 175 = .ok (.iload_n 1, 1) := by decide +kernel
theorem d_Mod_nextToken_176 : decode prog_17_method_21_code 176 = .ok (.invokestatic 95, 3) := by decide +kernel
theorem d_Mod_nextToken_179 : decode prog_17_method_21_code 179 = .ok (.ifCond .eq 74, 3) := by decide +kernel
theorem d_Mod_nextToken_182 : decode prog_17_method_21_code 182 = .ok (.aload_n 0, 1) := by decide +kernel
theorem d_Mod_nextToken_183 : decode prog_17_method_21_code 183 = .ok (.iconst 3, 1) := by decide +kernel
theorem d_Mod_nextToken_184 : decode prog_17_method_21_code 184 = .ok (.putfield 84, 3) := by decide +kernel
theorem d_Mod_nextToken_187 : decode prog_17_method_21_code 187 = .ok (.aload_n 0, 1) := by decide +kernel
theorem d_Mod_nextToken_188 : decode prog_17_method_21_code 188 = .ok (.aload_n 0, 1) := by decide +kernel
theorem d_Mod_nextToken_189 : decode prog_17_method_21_code 189 = .ok (.getfield 65, 3) := by decide +kernel
theorem d_Mod_nextToken_192 : decode prog_17_method_21_code 192 = .ok (.invokevirtual 68, 3) := by decide +kernel
theorem d_Mod_nextToken_195 : decode prog_17_method_21_code 195 = .ok (.invokestatic 95, 3) := by decide +kernel
theorem d_Mod_nextToken_198 : decode prog_17_method_21_code 198 = .ok (.ifCond .eq 80, 3) := by decide +kernel
theorem d_Mod_nextToken_201 : decode prog_17_method_21_code 201 = .ok (.aload_n 0, 1) := by decide +kernel
theorem d_Mod_nextToken_202 : decode prog_17_method_21_code 202 = .ok (.aload_n 0, 1) := by decide +kernel
theorem d_Mod_nextToken_203 : decode prog_17_method_21_code 203 = .ok (.getfield 81, 3) := by decide +kernel
theorem d_Mod_nextToken_206 : decode prog_17_method_21_code 206 = .ok (.ldc 98, 2) := by decide +kernel
theorem d_Mod_nextToken_208 : decode prog_17_method_21_code 208 = .ok (.if_icmp .le 10, 3) := by decide +kernel
theorem d_Mod_nextToken_211 : decode prog_17_method_21_code 211 = .ok (.aload_n 0, 1) := by decide +kernel
theorem d_Mod_nextToken_212 : decode prog_17_method_21_code 212 = .ok (.getfield 81, 3) := by decide +kernel
theorem d_Mod_nextToken_215 : decode prog_17_method_21_code 215 = .ok (.goto 22, 3) := by decide +kernel
theorem d_Mod_nextToken_218 : decode prog_17_method_21_code 218 = .ok (.bipush 10, 2) := by decide +kernel
theorem d_Mod_nextToken_220 : decode prog_17_method_21_code 220 = .ok (.aload_n 0, 1) := by decide +kernel
theorem d_Mod_nextToken_221 : decode prog_17_method_21_code 221 = .ok (.getfield 81, 3) := by decide +kernel
theorem d_Mod_nextToken_224 : decode prog_17_method_21_code 224 = .ok (.imul, 1) := by decide +kernel
theorem d_Mod_nextToken_225 : decode prog_17_method_21_code 225 = .ok (.aload_n 0, 1) := by decide +kernel
theorem d_Mod_nextToken_226 : decode prog_17_method_21_code 226 = .ok (.aload_n 0, 1) := by decide +kernel
theorem d_Mod_nextToken_227 : decode prog_17_method_21_code 227 = .ok (.getfield 65, 3) := by decide +kernel
theorem d_Mod_nextToken_230 : decode prog_17_method_21_code 230 = .ok (.invokevirtual 68, 3) := by decide +kernel
theorem d_Mod_nextToken_233 : decode prog_17_method_21_code 233 = .ok (.iadd, 1) := by decide +kernel
theorem d_Mod_nextToken_234 : decode prog_17_method_21_code 234 = .ok (.bipush 48, 2) := by decide +kernel
theorem d_Mod_nextToken_236 : decode prog_17_method_21_code 236 = .ok (.isub, 1) := by decide +kernel
theorem d_Mod_nextToken_237 : decode prog_17_method_21_code 237 = .ok (.putfield 81, 3) := by decide +kernel
theorem d_Mod_nextToken_240 : decode prog_17_method_21_code 240 = .ok (.aload_n 0, 1) := by decide +kernel
theorem d_Mod_nextToken_241 : decode prog_17_method_21_code 241 = .ok (.dup, 1) := by decide +kernel
theorem d_Mod_nextToken_242 : decode prog_17_method_21_code 242 = .ok (.getfield 65, 3) := by decide +kernel
theorem d_Mod_nextToken_245 : decode prog_17_method_21_code 245 = .ok (.iconst 1, 1) := by decide +kernel
theorem d_Mod_nextToken_246 : decode prog_17_method_21_code 246 = .ok (.iadd, 1) := by decide +kernel
theorem d_Mod_nextToken_247 : decode prog_17_method_21_code 247 = .ok (.putfield 65, 3) := by decide +kernel
theorem d_Mod_nextToken_250 : decode prog_17_method_21_code 250 = .ok (.goto (-63), 3) := by decide +kernel
theorem d_Mod_nextToken_253 : decode prog_17_method_21_code 253 = .ok (.aload_n 0, 1) := by decide +kernel
theorem d_Mod_nextToken_254 : decode prog_17_method_21_code 254 = .ok (.iload_n 1, 1) := by decide +kernel
theorem d_Mod_nextToken_255 : decode prog_17_method_21_code 255 = .ok (.bipush 59, 2) := by decide +kernel
theorem d_Mod_nextToken_257 : decode prog_17_method_21_code 257 = .ok (.if_icmp .ne 7, 3) := by decide +kernel
theorem d_Mod_nextToken_260 : decode prog_17_method_21_code 260 = .ok (.iconst 4, 1) := by decide +kernel
theorem d_Mod_nextToken_261 : decode prog_17_method_21_code 261 = .ok (.goto 4, 3) := by decide +kernel
theorem d_Mod_nextToken_264 : decode prog_17_method_21_code 264 = .ok (.iconst 1, 1) := by decide +kernel
theorem d_Mod_nextToken_265 : decode prog_17_method_21_code 265 = .ok (.putfield 84, 3) := by decide +kernel
theorem d_Mod_nextToken_268 : decode prog_17_method_21_code 268 = .ok (.aload_n 0, 1) := by decide +kernel
theorem d_Mod_nextToken_269 : decode prog_17_method_21_code 269 = .ok (.dup, 1) := by decide +kernel
theorem d_Mod_nextToken_270 : decode prog_17_method_21_code 270 = .ok (.getfield 65, 3) := by decide +kernel
theorem d_Mod_nextToken_273 : decode prog_17_method_21_code 273 = .ok (.iconst 1, 1) := by decide +kernel
theorem d_Mod_nextToken_274 : decode prog_17_method_21_code 274 = .ok (.iadd, 1) := by decide +kernel
theorem d_Mod_nextToken_275 : decode prog_17_method_21_code 275 = .ok (.putfield 65, 3) := by decide +kernel
theorem d_Mod_nextToken_278 : decode prog_17_method_21_code 278 = .ok (.return_, 1) := by decide +kernel
def Mod_nextToken_26 (k0 : g_MD → Option g_MD) (M : g_MD) : Option g_MD :=
  g_let (mp M 10 ((M.2.1 10) + (1 : Int32))) fun M5 => k0 M5
set_option maxHeartbeats 4000000 in
set_option maxRecDepth 100000 in
theorem W_Mod_nextToken_26 {X : g_X} {h0 : g_AH} {a0 : Nat} {ad : Nat → Nat} (ok : mOK a0 ad) (z : g_MD) (k0 : g_MD → Option g_MD) (hk0 : ∀ (M : g_MD) , k0 M  = some z → G X k_Mod_nextToken (.inl none) (mH h0 a0 ad z) (mH h0 a0 ad M) 0 [(0, .ref a0)] []) (M : g_MD) (hy : Mod_nextToken_26 k0 M = some z) : G X k_Mod_nextToken (.inl none) (mH h0 a0 ad z) (mH h0 a0 ad M) 26 [(0, .ref a0)] [] := by
  unfold Mod_nextToken_26 at hy
  refine g_aload_n 0 (i := 0) (pc' := 27) d_Mod_nextToken_26 rfl rfl rfl ?_
  refine g_dup (pc' := 28) d_Mod_nextToken_27 rfl rfl ?_
  refine gm_getA ok 10 (pc' := 31) d_Mod_nextToken_28 rfl q1975 rfl rfl ?_
  refine g_iconst (v := (1 : Int32)) (pc' := 32) d_Mod_nextToken_31 (by decide) rfl ?_
  refine g_iadd (pc' := 33) d_Mod_nextToken_32 rfl ?_
  replace hy := g_let_inv hy
  refine gm_put ok 10 (pc' := 36) d_Mod_nextToken_33 rfl (by decide) q1975 rfl ?_
  generalize (mp M 10 ((M.2.1 10) + (1 : Int32))) = M5 at hy ⊢
  refine g_goto (pc' := 0) d_Mod_nextToken_36 (by decide) ?_
  exact hk0 _ hy
def Mod_nextToken_265 (M : g_MD) (s0 : Int32) : Option g_MD :=
  g_let (mp M 12 s0) fun M27 => g_let (mp M27 10 ((M27.2.1 10) + (1 : Int32))) fun M28 => some M28
set_option maxHeartbeats 4000000 in
set_option maxRecDepth 100000 in
theorem W_Mod_nextToken_265 {X : g_X} {h0 : g_AH} {a0 : Nat} {ad : Nat → Nat} (ok : mOK a0 ad) (z : g_MD) (M : g_MD) (s0 : Int32) (hy : Mod_nextToken_265  M s0 = some z) : G X k_Mod_nextToken (.inl none) (mH h0 a0 ad z) (mH h0 a0 ad M) 265 [(0, .ref a0)] [.int s0, .ref a0] := by
  unfold Mod_nextToken_265 at hy
  replace hy := g_let_inv hy
  refine gm_put ok 12 (pc' := 268) d_Mod_nextToken_265 rfl (by decide) q1977 rfl ?_
  generalize (mp M 12 s0) = M27 at hy ⊢
  refine g_aload_n 0 (i := 0) (pc' := 269) d_Mod_nextToken_268 rfl rfl rfl ?_
  refine g_dup (pc' := 270) d_Mod_nextToken_269 rfl rfl ?_
  refine gm_getA ok 10 (pc' := 273) d_Mod_nextToken_270 rfl q1975 rfl rfl ?_
  refine g_iconst (v := (1 : Int32)) (pc' := 274) d_Mod_nextToken_273 (by decide) rfl ?_
  refine g_iadd (pc' := 275) d_Mod_nextToken_274 rfl ?_
  replace hy := g_let_inv hy
  refine gm_put ok 10 (pc' := 278) d_Mod_nextToken_275 rfl (by decide) q1975 rfl ?_
  generalize (mp M27 10 ((M27.2.1 10) + (1 : Int32))) = M28 at hy ⊢
  cases hy
  exact g_vret rfl rfl rfl d_Mod_nextToken_278
def Mod_nextToken_237 (k187 : g_MD → Option g_MD) (M : g_MD) (s0 : Int32) : Option g_MD :=
  g_let (mp M 14 s0) fun M41 => g_let (mp M41 10 ((M41.2.1 10) + (1 : Int32))) fun M42 => k187 M42
set_option maxHeartbeats 4000000 in
set_option maxRecDepth 100000 in
theorem W_Mod_nextToken_237 {X : g_X} {h0 : g_AH} {a0 : Nat} {ad : Nat → Nat} (ok : mOK a0 ad) (z : g_MD) (k187 : g_MD → Option g_MD) (hk187 : ∀ (M : g_MD) , k187 M  = some z → G X k_Mod_nextToken (.inl none) (mH h0 a0 ad z) (mH h0 a0 ad M) 187 [(0, .ref a0)] []) (M : g_MD) (s0 : Int32) (hy : Mod_nextToken_237 k187 M s0 = some z) : G X k_Mod_nextToken (.inl none) (mH h0 a0 ad z) (mH h0 a0 ad M) 237 [(0, .ref a0)] [.int s0, .ref a0] := by
  unfold Mod_nextToken_237 at hy
  replace hy := g_let_inv hy
  refine gm_put ok 14 (pc' := 240) d_Mod_nextToken_237 rfl (by decide) q1979 rfl ?_
  generalize (mp M 14 s0) = M41 at hy ⊢
  refine g_aload_n 0 (i := 0) (pc' := 241) d_Mod_nextToken_240 rfl rfl rfl ?_
  refine g_dup (pc' := 242) d_Mod_nextToken_241 rfl rfl ?_
  refine gm_getA ok 10 (pc' := 245) d_Mod_nextToken_242 rfl q1975 rfl rfl ?_
  refine g_iconst (v := (1 : Int32)) (pc' := 246) d_Mod_nextToken_245 (by decide) rfl ?_
  refine g_iadd (pc' := 247) d_Mod_nextToken_246 rfl ?_
  replace hy := g_let_inv hy
  refine gm_put ok 10 (pc' := 250) d_Mod_nextToken_247 rfl (by decide) q1975 rfl ?_
  generalize (mp M41 10 ((M41.2.1 10) + (1 : Int32))) = M42 at hy ⊢
  refine g_goto (pc' := 187) d_Mod_nextToken_250 (by decide) ?_
  exact hk187 _ hy
def Mod_nextToken_187  : Nat → g_MD → Option g_MD
  | 0, _ => none
  | n + 1, M => g_b (Mod_byteAt M (M.2.1 10)) fun x30 => g_b (Mod_isDigit x30) fun x33 => if x33 = 0 then (some M) else (if (M.2.1 14) ≤ (10000000 : Int32) then (g_b (Mod_byteAt M (M.2.1 10)) fun x38 => Mod_nextToken_237 (Mod_nextToken_187  n) M ((((10 : Int32) * (M.2.1 14)) + x38) - (48 : Int32))) else (Mod_nextToken_237 (Mod_nextToken_187  n) M (M.2.1 14)))
set_option maxHeartbeats 4000000 in
set_option maxRecDepth 100000 in
theorem W_Mod_nextToken_187 {X : g_X} {h0 : g_AH} {a0 : Nat} {ad : Nat → Nat} (ok : mOK a0 ad) (z : g_MD)  : ∀ (n : Nat) (M : g_MD), Mod_nextToken_187  n M = some z → G X k_Mod_nextToken (.inl none) (mH h0 a0 ad z) (mH h0 a0 ad M) 187 [(0, .ref a0)] [] := by
  intro n
  induction n with
  | zero => intro M hy; exact absurd hy (by simp [Mod_nextToken_187])
  | succ n ih =>
    intro M hy
    rw [Mod_nextToken_187] at hy
    refine g_aload_n 0 (i := 0) (pc' := 188) d_Mod_nextToken_187 rfl rfl rfl ?_
    refine g_aload_n 0 (i := 0) (pc' := 189) d_Mod_nextToken_188 rfl rfl rfl ?_
    refine gm_getA ok 10 (pc' := 192) d_Mod_nextToken_189 rfl q1975 rfl rfl ?_
    replace hy := g_b_inv hy
    obtain ⟨x30, hf32, hy⟩ := hy
    refine g_callV (rv := some (.int x30)) (h1 := (mH h0 a0 ad M)) (pc' := 195) (As := [.int (M.2.1 10)]) (rest := []) 1 (T_Mod_byteAt ok (hy := hf32)) d_Mod_nextToken_192 (mH_look ok) rfl rfl q2083 q2085 qs33 q135 q2086 hd_Mod_byteAt rfl ⟨by decide, by decide⟩ (by first | exact Nat.le_of_ble_eq_true rfl | (simp only [List.map, List.sum_cons, List.sum_nil, g_cat_rf]; exact Nat.le_of_ble_eq_true rfl) | (simp only [List.map, List.sum_cons, List.sum_nil, g_cat_rf, Value.category]; decide)) rfl ?_
    replace hy := g_b_inv hy
    obtain ⟨x33, hf35, hy⟩ := hy
    refine g_callS (rv := some (.int x33)) (h1 := (mH h0 a0 ad M)) (pc' := 198) (As := [.int x30]) (rest := []) 1 (T_Mod_isDigit (hy := hf35)) d_Mod_nextToken_195 q2092 q2093 q135 q2094 hd_Mod_isDigit rfl ⟨by decide, by decide⟩ (by first | exact Nat.le_of_ble_eq_true rfl | (simp only [List.map, List.sum_cons, List.sum_nil, g_cat_rf]; exact Nat.le_of_ble_eq_true rfl) | (simp only [List.map, List.sum_cons, List.sum_nil, g_cat_rf, Value.category]; decide)) rfl ?_
    by_cases c36 : x33 = 0
    · rw [if_pos c36] at hy
      refine g_if_eqT (pc' := 278) d_Mod_nextToken_198 c36 (by decide) ?_
      cases hy
      exact g_vret rfl rfl rfl d_Mod_nextToken_278
    · rw [if_neg c36] at hy
      refine g_if_eqF (pc' := 201) d_Mod_nextToken_198 278 c36 (by decide) rfl ?_
      refine g_aload_n 0 (i := 0) (pc' := 202) d_Mod_nextToken_201 rfl rfl rfl ?_
      refine g_aload_n 0 (i := 0) (pc' := 203) d_Mod_nextToken_202 rfl rfl rfl ?_
      refine gm_getA ok 14 (pc' := 206) d_Mod_nextToken_203 rfl q1979 rfl rfl ?_
      refine g_ldcI (pc' := 208) d_Mod_nextToken_206 q2095 rfl ?_
      by_cases c37 : (M.2.1 14) ≤ (10000000 : Int32)
      · rw [if_pos c37] at hy
        refine g_icmp_leT (pc' := 218) d_Mod_nextToken_208 c37 (by decide) ?_
        refine g_bipush (v := (10 : Int32)) (pc' := 220) d_Mod_nextToken_218 (by decide) rfl ?_
        refine g_aload_n 0 (i := 0) (pc' := 221) d_Mod_nextToken_220 rfl rfl rfl ?_
        refine gm_getA ok 14 (pc' := 224) d_Mod_nextToken_221 rfl q1979 rfl rfl ?_
        refine g_imul (pc' := 225) d_Mod_nextToken_224 rfl ?_
        refine g_aload_n 0 (i := 0) (pc' := 226) d_Mod_nextToken_225 rfl rfl rfl ?_
        refine g_aload_n 0 (i := 0) (pc' := 227) d_Mod_nextToken_226 rfl rfl rfl ?_
        refine gm_getA ok 10 (pc' := 230) d_Mod_nextToken_227 rfl q1975 rfl rfl ?_
        replace hy := g_b_inv hy
        obtain ⟨x38, hf40, hy⟩ := hy
        refine g_callV (rv := some (.int x38)) (h1 := (mH h0 a0 ad M)) (pc' := 233) (As := [.int (M.2.1 10)]) (rest := [.int ((10 : Int32) * (M.2.1 14)), .ref a0]) 1 (T_Mod_byteAt ok (hy := hf40)) d_Mod_nextToken_230 (mH_look ok) rfl rfl q2083 q2085 qs33 q135 q2086 hd_Mod_byteAt rfl ⟨by decide, by decide⟩ (by first | exact Nat.le_of_ble_eq_true rfl | (simp only [List.map, List.sum_cons, List.sum_nil, g_cat_rf]; exact Nat.le_of_ble_eq_true rfl) | (simp only [List.map, List.sum_cons, List.sum_nil, g_cat_rf, Value.category]; decide)) rfl ?_
        refine g_iadd (pc' := 234) d_Mod_nextToken_233 rfl ?_
        refine g_bipush (v := (48 : Int32)) (pc' := 236) d_Mod_nextToken_234 (by decide) rfl ?_
        refine g_isub (pc' := 237) d_Mod_nextToken_236 rfl ?_
        exact W_Mod_nextToken_237 ok _ _ ih _ _ hy
      · rw [if_neg c37] at hy
        refine g_icmp_leF (pc' := 211) d_Mod_nextToken_208 218 c37 (by decide) rfl ?_
        refine g_aload_n 0 (i := 0) (pc' := 212) d_Mod_nextToken_211 rfl rfl rfl ?_
        refine gm_getA ok 14 (pc' := 215) d_Mod_nextToken_212 rfl q1979 rfl rfl ?_
        refine g_goto (pc' := 237) d_Mod_nextToken_215 (by decide) ?_
        exact W_Mod_nextToken_237 ok _ _ ih _ _ hy
def Mod_nextToken_149 (k96 : g_MD → Option g_MD) (M : g_MD) (s0 : Int64) : Option g_MD :=
  g_let (M.1, M.2.1, s0) fun M52 => g_let (mp M52 13 ((M52.2.1 13) + (1 : Int32))) fun M53 => g_let (mp M53 10 ((M53.2.1 10) + (1 : Int32))) fun M54 => k96 M54
set_option maxHeartbeats 4000000 in
set_option maxRecDepth 100000 in
theorem W_Mod_nextToken_149 {X : g_X} {h0 : g_AH} {a0 : Nat} {ad : Nat → Nat} (ok : mOK a0 ad) (z : g_MD) (k96 : g_MD → Option g_MD) (hk96 : ∀ (M : g_MD) , k96 M  = some z → G X k_Mod_nextToken (.inl none) (mH h0 a0 ad z) (mH h0 a0 ad M) 96 [(0, .ref a0)] []) (M : g_MD) (s0 : Int64) (hy : Mod_nextToken_149 k96 M s0 = some z) : G X k_Mod_nextToken (.inl none) (mH h0 a0 ad z) (mH h0 a0 ad M) 149 [(0, .ref a0)] [.long s0, .ref a0] := by
  unfold Mod_nextToken_149 at hy
  replace hy := g_let_inv hy
  refine gm_putW ok 17 (pc' := 152) d_Mod_nextToken_149 rfl (by decide) q1982 rfl ?_
  generalize (M.1, M.2.1, s0) = M52 at hy ⊢
  refine g_aload_n 0 (i := 0) (pc' := 153) d_Mod_nextToken_152 rfl rfl rfl ?_
  refine g_dup (pc' := 154) d_Mod_nextToken_153 rfl rfl ?_
  refine gm_getA ok 13 (pc' := 157) d_Mod_nextToken_154 rfl q1978 rfl rfl ?_
  refine g_iconst (v := (1 : Int32)) (pc' := 158) d_Mod_nextToken_157 (by decide) rfl ?_
  refine g_iadd (pc' := 159) d_Mod_nextToken_158 rfl ?_
  replace hy := g_let_inv hy
  refine gm_put ok 13 (pc' := 162) d_Mod_nextToken_159 rfl (by decide) q1978 rfl ?_
  generalize (mp M52 13 ((M52.2.1 13) + (1 : Int32))) = M53 at hy ⊢
  refine g_aload_n 0 (i := 0) (pc' := 163) d_Mod_nextToken_162 rfl rfl rfl ?_
  refine g_dup (pc' := 164) d_Mod_nextToken_163 rfl rfl ?_
  refine gm_getA ok 10 (pc' := 167) d_Mod_nextToken_164 rfl q1975 rfl rfl ?_
  refine g_iconst (v := (1 : Int32)) (pc' := 168) d_Mod_nextToken_167 (by decide) rfl ?_
  refine g_iadd (pc' := 169) d_Mod_nextToken_168 rfl ?_
  replace hy := g_let_inv hy
  refine gm_put ok 10 (pc' := 172) d_Mod_nextToken_169 rfl (by decide) q1975 rfl ?_
  generalize (mp M53 10 ((M53.2.1 10) + (1 : Int32))) = M54 at hy ⊢
  refine g_goto (pc' := 96) d_Mod_nextToken_172 (by decide) ?_
  exact hk96 _ hy
def Mod_nextToken_96  : Nat → g_MD → Option g_MD
  | 0, _ => none
  | n + 1, M => g_b (Mod_byteAt M (M.2.1 10)) fun x44 => g_b (Mod_isLetter x44) fun x47 => if x47 = 0 then (some M) else (if (11 : Int32) ≤ (M.2.1 13) then (Mod_nextToken_149 (Mod_nextToken_96  n) M M.2.2) else (g_b (Mod_byteAt M (M.2.1 10)) fun x55 => Mod_nextToken_149 (Mod_nextToken_96  n) M ((((27 : Int64) * M.2.2) + ((x55).toInt64)) - (96 : Int64))))
set_option maxHeartbeats 4000000 in
set_option maxRecDepth 100000 in
theorem W_Mod_nextToken_96 {X : g_X} {h0 : g_AH} {a0 : Nat} {ad : Nat → Nat} (ok : mOK a0 ad) (z : g_MD)  : ∀ (n : Nat) (M : g_MD), Mod_nextToken_96  n M = some z → G X k_Mod_nextToken (.inl none) (mH h0 a0 ad z) (mH h0 a0 ad M) 96 [(0, .ref a0)] [] := by
  intro n
  induction n with
  | zero => intro M hy; exact absurd hy (by simp [Mod_nextToken_96])
  | succ n ih =>
    intro M hy
    rw [Mod_nextToken_96] at hy
    refine g_aload_n 0 (i := 0) (pc' := 97) d_Mod_nextToken_96 rfl rfl rfl ?_
    refine g_aload_n 0 (i := 0) (pc' := 98) d_Mod_nextToken_97 rfl rfl rfl ?_
    refine gm_getA ok 10 (pc' := 101) d_Mod_nextToken_98 rfl q1975 rfl rfl ?_
    replace hy := g_b_inv hy
    obtain ⟨x44, hf46, hy⟩ := hy
    refine g_callV (rv := some (.int x44)) (h1 := (mH h0 a0 ad M)) (pc' := 104) (As := [.int (M.2.1 10)]) (rest := []) 1 (T_Mod_byteAt ok (hy := hf46)) d_Mod_nextToken_101 (mH_look ok) rfl rfl q2083 q2085 qs33 q135 q2086 hd_Mod_byteAt rfl ⟨by decide, by decide⟩ (by first | exact Nat.le_of_ble_eq_true rfl | (simp only [List.map, List.sum_cons, List.sum_nil, g_cat_rf]; exact Nat.le_of_ble_eq_true rfl) | (simp only [List.map, List.sum_cons, List.sum_nil, g_cat_rf, Value.category]; decide)) rfl ?_
    replace hy := g_b_inv hy
    obtain ⟨x47, hf49, hy⟩ := hy
    refine g_callS (rv := some (.int x47)) (h1 := (mH h0 a0 ad M)) (pc' := 107) (As := [.int x44]) (rest := []) 1 (T_Mod_isLetter (hy := hf49)) d_Mod_nextToken_104 q2087 q2088 q135 q2089 hd_Mod_isLetter rfl ⟨by decide, by decide⟩ (by first | exact Nat.le_of_ble_eq_true rfl | (simp only [List.map, List.sum_cons, List.sum_nil, g_cat_rf]; exact Nat.le_of_ble_eq_true rfl) | (simp only [List.map, List.sum_cons, List.sum_nil, g_cat_rf, Value.category]; decide)) rfl ?_
    by_cases c50 : x47 = 0
    · rw [if_pos c50] at hy
      refine g_if_eqT (pc' := 278) d_Mod_nextToken_107 c50 (by decide) ?_
      cases hy
      exact g_vret rfl rfl rfl d_Mod_nextToken_278
    · rw [if_neg c50] at hy
      refine g_if_eqF (pc' := 110) d_Mod_nextToken_107 278 c50 (by decide) rfl ?_
      refine g_aload_n 0 (i := 0) (pc' := 111) d_Mod_nextToken_110 rfl rfl rfl ?_
      refine g_aload_n 0 (i := 0) (pc' := 112) d_Mod_nextToken_111 rfl rfl rfl ?_
      refine gm_getA ok 13 (pc' := 115) d_Mod_nextToken_112 rfl q1978 rfl rfl ?_
      refine g_bipush (v := (11 : Int32)) (pc' := 117) d_Mod_nextToken_115 (by decide) rfl ?_
      by_cases c51 : (11 : Int32) ≤ (M.2.1 13)
      · rw [if_pos c51] at hy
        refine g_icmp_geT (pc' := 145) d_Mod_nextToken_117 c51 (by decide) ?_
        refine g_aload_n 0 (i := 0) (pc' := 146) d_Mod_nextToken_145 rfl rfl rfl ?_
        refine gm_getA ok 17 (pc' := 149) d_Mod_nextToken_146 rfl q1982 rfl rfl ?_
        exact W_Mod_nextToken_149 ok _ _ ih _ _ hy
      · rw [if_neg c51] at hy
        refine g_icmp_geF (pc' := 120) d_Mod_nextToken_117 145 c51 (by decide) rfl ?_
        refine g_ldc2 (pc' := 123) d_Mod_nextToken_120 q2090 rfl ?_
        refine g_aload_n 0 (i := 0) (pc' := 124) d_Mod_nextToken_123 rfl rfl rfl ?_
        refine gm_getA ok 17 (pc' := 127) d_Mod_nextToken_124 rfl q1982 rfl rfl ?_
        refine g_lmul (pc' := 128) d_Mod_nextToken_127 rfl ?_
        refine g_aload_n 0 (i := 0) (pc' := 129) d_Mod_nextToken_128 rfl rfl rfl ?_
        refine g_aload_n 0 (i := 0) (pc' := 130) d_Mod_nextToken_129 rfl rfl rfl ?_
        refine gm_getA ok 10 (pc' := 133) d_Mod_nextToken_130 rfl q1975 rfl rfl ?_
        replace hy := g_b_inv hy
        obtain ⟨x55, hf57, hy⟩ := hy
        refine g_callV (rv := some (.int x55)) (h1 := (mH h0 a0 ad M)) (pc' := 136) (As := [.int (M.2.1 10)]) (rest := [.long ((27 : Int64) * M.2.2), .ref a0]) 1 (T_Mod_byteAt ok (hy := hf57)) d_Mod_nextToken_133 (mH_look ok) rfl rfl q2083 q2085 qs33 q135 q2086 hd_Mod_byteAt rfl ⟨by decide, by decide⟩ (by first | exact Nat.le_of_ble_eq_true rfl | (simp only [List.map, List.sum_cons, List.sum_nil, g_cat_rf]; exact Nat.le_of_ble_eq_true rfl) | (simp only [List.map, List.sum_cons, List.sum_nil, g_cat_rf, Value.category]; decide)) rfl ?_
        refine g_i2l (pc' := 137) d_Mod_nextToken_136 rfl ?_
        refine g_ladd (pc' := 138) d_Mod_nextToken_137 rfl ?_
        refine g_ldc2 (pc' := 141) d_Mod_nextToken_138 q2091 rfl ?_
        refine g_lsub (pc' := 142) d_Mod_nextToken_141 rfl ?_
        refine g_goto (pc' := 149) d_Mod_nextToken_142 (by decide) ?_
        exact W_Mod_nextToken_149 ok _ _ ih _ _ hy
def Mod_nextToken_0  : Nat → g_MD → Option g_MD
  | 0, _ => none
  | n + 1, M => g_b (Mod_byteAt M (M.2.1 10)) fun x1 => if x1 = (32 : Int32) then (Mod_nextToken_26 (Mod_nextToken_0  n) M) else (g_b (Mod_byteAt M (M.2.1 10)) fun x6 => if x6 = (10 : Int32) then (Mod_nextToken_26 (Mod_nextToken_0  n) M) else (g_let (mp M 11 (M.2.1 10)) fun M10 => g_let (mp M10 13 (0 : Int32)) fun M11 => g_let (M11.1, M11.2.1, (0 : Int64)) fun M12 => g_let (mp M12 14 (0 : Int32)) fun M13 => g_b (Mod_byteAt M13 (M13.2.1 10)) fun x14 => if x14 = (-1 : Int32) then (g_let (mp M13 12 (0 : Int32)) fun M58 => some M58) else (g_b (Mod_isLetter x14) fun x18 => if x18 = 0 then (g_b (Mod_isDigit x14) fun x22 => if x22 = 0 then (if x14 = (59 : Int32) then (Mod_nextToken_265  M13 (4 : Int32)) else (Mod_nextToken_265  M13 (1 : Int32))) else (g_let (mp M13 12 (3 : Int32)) fun M29 => Mod_nextToken_187  gFU M29)) else (g_let (mp M13 12 (2 : Int32)) fun M43 => Mod_nextToken_96  gFU M43))))
set_option maxHeartbeats 4000000 in
set_option maxRecDepth 100000 in
theorem W_Mod_nextToken_0 {X : g_X} {h0 : g_AH} {a0 : Nat} {ad : Nat → Nat} (ok : mOK a0 ad) (z : g_MD)  : ∀ (n : Nat) (M : g_MD), Mod_nextToken_0  n M = some z → G X k_Mod_nextToken (.inl none) (mH h0 a0 ad z) (mH h0 a0 ad M) 0 [(0, .ref a0)] [] := by
  intro n
  induction n with
  | zero => intro M hy; exact absurd hy (by simp [Mod_nextToken_0])
  | succ n ih =>
    intro M hy
    rw [Mod_nextToken_0] at hy
    refine g_aload_n 0 (i := 0) (pc' := 1) d_Mod_nextToken_0 rfl rfl rfl ?_
    refine g_aload_n 0 (i := 0) (pc' := 2) d_Mod_nextToken_1 rfl rfl rfl ?_
    refine gm_getA ok 10 (pc' := 5) d_Mod_nextToken_2 rfl q1975 rfl rfl ?_
    replace hy := g_b_inv hy
    obtain ⟨x1, hf3, hy⟩ := hy
    refine g_callV (rv := some (.int x1)) (h1 := (mH h0 a0 ad M)) (pc' := 8) (As := [.int (M.2.1 10)]) (rest := []) 1 (T_Mod_byteAt ok (hy := hf3)) d_Mod_nextToken_5 (mH_look ok) rfl rfl q2083 q2085 qs33 q135 q2086 hd_Mod_byteAt rfl ⟨by decide, by decide⟩ (by first | exact Nat.le_of_ble_eq_true rfl | (simp only [List.map, List.sum_cons, List.sum_nil, g_cat_rf]; exact Nat.le_of_ble_eq_true rfl) | (simp only [List.map, List.sum_cons, List.sum_nil, g_cat_rf, Value.category]; decide)) rfl ?_
    refine g_bipush (v := (32 : Int32)) (pc' := 10) d_Mod_nextToken_8 (by decide) rfl ?_
    by_cases c4 : x1 = (32 : Int32)
    · rw [if_pos c4] at hy
      refine g_icmp_eqT (pc' := 26) d_Mod_nextToken_10 c4 (by decide) ?_
      exact W_Mod_nextToken_26 ok _ _ ih _ hy
    · rw [if_neg c4] at hy
      refine g_icmp_eqF (pc' := 13) d_Mod_nextToken_10 26 c4 (by decide) rfl ?_
      refine g_aload_n 0 (i := 0) (pc' := 14) d_Mod_nextToken_13 rfl rfl rfl ?_
      refine g_aload_n 0 (i := 0) (pc' := 15) d_Mod_nextToken_14 rfl rfl rfl ?_
      refine gm_getA ok 10 (pc' := 18) d_Mod_nextToken_15 rfl q1975 rfl rfl ?_
      replace hy := g_b_inv hy
      obtain ⟨x6, hf8, hy⟩ := hy
      refine g_callV (rv := some (.int x6)) (h1 := (mH h0 a0 ad M)) (pc' := 21) (As := [.int (M.2.1 10)]) (rest := []) 1 (T_Mod_byteAt ok (hy := hf8)) d_Mod_nextToken_18 (mH_look ok) rfl rfl q2083 q2085 qs33 q135 q2086 hd_Mod_byteAt rfl ⟨by decide, by decide⟩ (by first | exact Nat.le_of_ble_eq_true rfl | (simp only [List.map, List.sum_cons, List.sum_nil, g_cat_rf]; exact Nat.le_of_ble_eq_true rfl) | (simp only [List.map, List.sum_cons, List.sum_nil, g_cat_rf, Value.category]; decide)) rfl ?_
      refine g_bipush (v := (10 : Int32)) (pc' := 23) d_Mod_nextToken_21 (by decide) rfl ?_
      by_cases c9 : x6 = (10 : Int32)
      · rw [if_pos c9] at hy
        refine g_icmp_neF (pc' := 26) d_Mod_nextToken_23 39 c9 (by decide) rfl ?_
        exact W_Mod_nextToken_26 ok _ _ ih _ hy
      · rw [if_neg c9] at hy
        refine g_icmp_neT (pc' := 39) d_Mod_nextToken_23 c9 (by decide) ?_
        refine g_aload_n 0 (i := 0) (pc' := 40) d_Mod_nextToken_39 rfl rfl rfl ?_
        refine g_aload_n 0 (i := 0) (pc' := 41) d_Mod_nextToken_40 rfl rfl rfl ?_
        refine gm_getA ok 10 (pc' := 44) d_Mod_nextToken_41 rfl q1975 rfl rfl ?_
        replace hy := g_let_inv hy
        refine gm_put ok 11 (pc' := 47) d_Mod_nextToken_44 rfl (by decide) q1976 rfl ?_
        generalize (mp M 11 (M.2.1 10)) = M10 at hy ⊢
        refine g_aload_n 0 (i := 0) (pc' := 48) d_Mod_nextToken_47 rfl rfl rfl ?_
        refine g_iconst (v := (0 : Int32)) (pc' := 49) d_Mod_nextToken_48 (by decide) rfl ?_
        replace hy := g_let_inv hy
        refine gm_put ok 13 (pc' := 52) d_Mod_nextToken_49 rfl (by decide) q1978 rfl ?_
        generalize (mp M10 13 (0 : Int32)) = M11 at hy ⊢
        refine g_aload_n 0 (i := 0) (pc' := 53) d_Mod_nextToken_52 rfl rfl rfl ?_
        refine g_lconst (v := 0) (pc' := 54) d_Mod_nextToken_53 (by decide) rfl ?_
        replace hy := g_let_inv hy
        refine gm_putW ok 17 (pc' := 57) d_Mod_nextToken_54 rfl (by decide) q1982 rfl ?_
        generalize (M11.1, M11.2.1, (0 : Int64)) = M12 at hy ⊢
        refine g_aload_n 0 (i := 0) (pc' := 58) d_Mod_nextToken_57 rfl rfl rfl ?_
        refine g_iconst (v := (0 : Int32)) (pc' := 59) d_Mod_nextToken_58 (by decide) rfl ?_
        replace hy := g_let_inv hy
        refine gm_put ok 14 (pc' := 62) d_Mod_nextToken_59 rfl (by decide) q1979 rfl ?_
        generalize (mp M12 14 (0 : Int32)) = M13 at hy ⊢
        refine g_aload_n 0 (i := 0) (pc' := 63) d_Mod_nextToken_62 rfl rfl rfl ?_
        refine g_aload_n 0 (i := 0) (pc' := 64) d_Mod_nextToken_63 rfl rfl rfl ?_
        refine gm_getA ok 10 (pc' := 67) d_Mod_nextToken_64 rfl q1975 rfl rfl ?_
        replace hy := g_b_inv hy
        obtain ⟨x14, hf16, hy⟩ := hy
        refine g_callV (rv := some (.int x14)) (h1 := (mH h0 a0 ad M13)) (pc' := 70) (As := [.int (M13.2.1 10)]) (rest := []) 1 (T_Mod_byteAt ok (hy := hf16)) d_Mod_nextToken_67 (mH_look ok) rfl rfl q2083 q2085 qs33 q135 q2086 hd_Mod_byteAt rfl ⟨by decide, by decide⟩ (by first | exact Nat.le_of_ble_eq_true rfl | (simp only [List.map, List.sum_cons, List.sum_nil, g_cat_rf]; exact Nat.le_of_ble_eq_true rfl) | (simp only [List.map, List.sum_cons, List.sum_nil, g_cat_rf, Value.category]; decide)) rfl ?_
        refine g_istore_n (i := 1) (pc' := 71) (Lc' := [(1, .int x14), (0, .ref a0)]) d_Mod_nextToken_70 rfl (by decide) rfl rfl ?_
        refine g_iload_n 0 (i := 1) (pc' := 72) d_Mod_nextToken_71 rfl rfl rfl ?_
        refine g_iconst (v := (-1 : Int32)) (pc' := 73) d_Mod_nextToken_72 (by decide) rfl ?_
        by_cases c17 : x14 = (-1 : Int32)
        · rw [if_pos c17] at hy
          refine g_icmp_neF (pc' := 76) d_Mod_nextToken_73 84 c17 (by decide) rfl ?_
          refine g_aload_n 1 (i := 0) (pc' := 77) d_Mod_nextToken_76 rfl rfl rfl ?_
          refine g_iconst (v := (0 : Int32)) (pc' := 78) d_Mod_nextToken_77 (by decide) rfl ?_
          replace hy := g_let_inv hy
          refine gm_put ok 12 (pc' := 81) d_Mod_nextToken_78 rfl (by decide) q1977 rfl ?_
          generalize (mp M13 12 (0 : Int32)) = M58 at hy ⊢
          refine g_goto (pc' := 278) d_Mod_nextToken_81 (by decide) ?_
          cases hy
          exact g_vret rfl rfl rfl d_Mod_nextToken_278
        · rw [if_neg c17] at hy
          refine g_icmp_neT (pc' := 84) d_Mod_nextToken_73 c17 (by decide) ?_
          refine g_iload_n 0 (i := 1) (pc' := 85) d_Mod_nextToken_84 rfl rfl rfl ?_
          replace hy := g_b_inv hy
          obtain ⟨x18, hf20, hy⟩ := hy
          refine g_callS (rv := some (.int x18)) (h1 := (mH h0 a0 ad M13)) (pc' := 88) (As := [.int x14]) (rest := []) 1 (T_Mod_isLetter (hy := hf20)) d_Mod_nextToken_85 q2087 q2088 q135 q2089 hd_Mod_isLetter rfl ⟨by decide, by decide⟩ (by first | exact Nat.le_of_ble_eq_true rfl | (simp only [List.map, List.sum_cons, List.sum_nil, g_cat_rf]; exact Nat.le_of_ble_eq_true rfl) | (simp only [List.map, List.sum_cons, List.sum_nil, g_cat_rf, Value.category]; decide)) rfl ?_
          by_cases c21 : x18 = 0
          · rw [if_pos c21] at hy
            refine g_if_eqT (pc' := 175) d_Mod_nextToken_88 c21 (by decide) ?_
            refine g_iload_n 0 (i := 1) (pc' := 176) d_Mod_nextToken_175 rfl rfl rfl ?_
            replace hy := g_b_inv hy
            obtain ⟨x22, hf24, hy⟩ := hy
            refine g_callS (rv := some (.int x22)) (h1 := (mH h0 a0 ad M13)) (pc' := 179) (As := [.int x14]) (rest := []) 1 (T_Mod_isDigit (hy := hf24)) d_Mod_nextToken_176 q2092 q2093 q135 q2094 hd_Mod_isDigit rfl ⟨by decide, by decide⟩ (by first | exact Nat.le_of_ble_eq_true rfl | (simp only [List.map, List.sum_cons, List.sum_nil, g_cat_rf]; exact Nat.le_of_ble_eq_true rfl) | (simp only [List.map, List.sum_cons, List.sum_nil, g_cat_rf, Value.category]; decide)) rfl ?_
            by_cases c25 : x22 = 0
            · rw [if_pos c25] at hy
              refine g_if_eqT (pc' := 253) d_Mod_nextToken_179 c25 (by decide) ?_
              refine g_aload_n 1 (i := 0) (pc' := 254) d_Mod_nextToken_253 rfl rfl rfl ?_
              refine g_iload_n 0 (i := 1) (pc' := 255) d_Mod_nextToken_254 rfl rfl rfl ?_
              refine g_bipush (v := (59 : Int32)) (pc' := 257) d_Mod_nextToken_255 (by decide) rfl ?_
              by_cases c26 : x14 = (59 : Int32)
              · rw [if_pos c26] at hy
                refine g_icmp_neF (pc' := 260) d_Mod_nextToken_257 264 c26 (by decide) rfl ?_
                refine g_iconst (v := (4 : Int32)) (pc' := 261) d_Mod_nextToken_260 (by decide) rfl ?_
                refine g_goto (pc' := 265) d_Mod_nextToken_261 (by decide) ?_
                refine g_sub [1] rfl ?_
                exact W_Mod_nextToken_265 ok _ _ _ hy
              · rw [if_neg c26] at hy
                refine g_icmp_neT (pc' := 264) d_Mod_nextToken_257 c26 (by decide) ?_
                refine g_iconst (v := (1 : Int32)) (pc' := 265) d_Mod_nextToken_264 (by decide) rfl ?_
                refine g_sub [1] rfl ?_
                exact W_Mod_nextToken_265 ok _ _ _ hy
            · rw [if_neg c25] at hy
              refine g_if_eqF (pc' := 182) d_Mod_nextToken_179 253 c25 (by decide) rfl ?_
              refine g_aload_n 1 (i := 0) (pc' := 183) d_Mod_nextToken_182 rfl rfl rfl ?_
              refine g_iconst (v := (3 : Int32)) (pc' := 184) d_Mod_nextToken_183 (by decide) rfl ?_
              replace hy := g_let_inv hy
              refine gm_put ok 12 (pc' := 187) d_Mod_nextToken_184 rfl (by decide) q1977 rfl ?_
              generalize (mp M13 12 (3 : Int32)) = M29 at hy ⊢
              refine g_sub [1] rfl ?_
              exact W_Mod_nextToken_187 ok _ _ _ hy
          · rw [if_neg c21] at hy
            refine g_if_eqF (pc' := 91) d_Mod_nextToken_88 175 c21 (by decide) rfl ?_
            refine g_aload_n 1 (i := 0) (pc' := 92) d_Mod_nextToken_91 rfl rfl rfl ?_
            refine g_iconst (v := (2 : Int32)) (pc' := 93) d_Mod_nextToken_92 (by decide) rfl ?_
            replace hy := g_let_inv hy
            refine gm_put ok 12 (pc' := 96) d_Mod_nextToken_93 rfl (by decide) q1977 rfl ?_
            generalize (mp M13 12 (2 : Int32)) = M43 at hy ⊢
            refine g_sub [1] rfl ?_
            exact W_Mod_nextToken_96 ok _ _ _ hy
def Mod_nextToken (M : g_MD)  : Option g_MD :=
  Mod_nextToken_0  gFU M
set_option maxHeartbeats 4000000 in
set_option maxRecDepth 100000 in
theorem T_Mod_nextToken {l : Launch} {B : g_B} {h0 : g_AH} {a0 : Nat} {ad : Nat → Nat} (ok : mOK a0 ad) (M : g_MD)  (z : g_MD) (hy : Mod_nextToken M  = some z) : g_CT l B y_Mod_nextToken k_Mod_nextToken [.ref a0] (mH h0 a0 ad M) (.inl none) (mH h0 a0 ad z) := by
  refine g_start2 (Lc := [(0, .ref a0)]) (by decide) rfl rfl (by exact Nat.le_of_ble_eq_true rfl) (by rfl) fun X => ?_
  unfold Mod_nextToken at hy
  exact W_Mod_nextToken_0 ok _ _ _ hy
theorem hd_Mod_nextToken : g_dsc y_Mod_nextToken 0 := ⟨by decide +kernel, by decide +kernel, by decide +kernel⟩
/-! CircuitDeskModel.isFine()Z -/
abbrev y_Mod_isFine : MethodName := ⟨"CircuitDeskModel", "isFine", "()Z"⟩
abbrev k_Mod_isFine : g_M := (prog_17_method_24_code, 1, "CircuitDeskModel", 12, (some FieldType.boolean), "isFine", [], 0)
theorem d_Mod_isFine_0 : decode prog_17_method_24_code 0 = .ok (.aload_n 0, 1) := by decide +kernel
theorem d_Mod_isFine_1 : decode prog_17_method_24_code 1 = .ok (.getfield 109, 3) := by decide +kernel
theorem d_Mod_isFine_4 : decode prog_17_method_24_code 4 = .ok (.ifCond .ne 7, 3) := by decide +kernel
theorem d_Mod_isFine_7 : decode prog_17_method_24_code 7 = .ok (.iconst 1, 1) := by decide +kernel
theorem d_Mod_isFine_8 : decode prog_17_method_24_code 8 = .ok (.goto 4, 3) := by decide +kernel
theorem d_Mod_isFine_11 : decode prog_17_method_24_code 11 = .ok (.iconst 0, 1) := by decide +kernel
theorem d_Mod_isFine_12 : decode prog_17_method_24_code 12 = .ok (.ireturn, 1) := by decide +kernel
def Mod_isFine (M : g_MD)  : Option (Int32) :=
  if (M.2.1 15) = 0 then (some (1 : Int32)) else (some (0 : Int32))
set_option maxHeartbeats 4000000 in
set_option maxRecDepth 100000 in
theorem T_Mod_isFine {l : Launch} {B : g_B} {h0 : g_AH} {a0 : Nat} {ad : Nat → Nat} (ok : mOK a0 ad) (M : g_MD)  (z : Int32) (hy : Mod_isFine M  = some z) : g_CT l B y_Mod_isFine k_Mod_isFine [.ref a0] (mH h0 a0 ad M) (.inl (some (.int z))) (mH h0 a0 ad M) := by
  refine g_start2 (Lc := [(0, .ref a0)]) (by decide) rfl rfl (by exact Nat.le_of_ble_eq_true rfl) (by rfl) fun X => ?_
  unfold Mod_isFine at hy
  refine g_aload_n 0 (i := 0) (pc' := 1) d_Mod_isFine_0 rfl rfl rfl ?_
  refine gm_getA ok 15 (pc' := 4) d_Mod_isFine_1 rfl q1980 rfl rfl ?_
  by_cases c1 : (M.2.1 15) = 0
  · rw [if_pos c1] at hy
    refine g_if_neF (pc' := 7) d_Mod_isFine_4 11 c1 (by decide) rfl ?_
    refine g_iconst (v := (1 : Int32)) (pc' := 8) d_Mod_isFine_7 (by decide) rfl ?_
    refine g_goto (pc' := 12) d_Mod_isFine_8 (by decide) ?_
    cases hy
    exact g_zret rfl rfl rfl (g_nar_z (Or.inr rfl)).1 d_Mod_isFine_12
  · rw [if_neg c1] at hy
    refine g_if_neT (pc' := 11) d_Mod_isFine_4 c1 (by decide) ?_
    refine g_iconst (v := (0 : Int32)) (pc' := 12) d_Mod_isFine_11 (by decide) rfl ?_
    cases hy
    exact g_zret rfl rfl rfl (g_nar_z (Or.inl rfl)).1 d_Mod_isFine_12
theorem hd_Mod_isFine : g_dsc y_Mod_isFine 0 := ⟨by decide +kernel, by decide +kernel, by decide +kernel⟩
/-! CircuitDeskModel.require(ZI)V -/
abbrev y_Mod_require : MethodName := ⟨"CircuitDeskModel", "require", "(ZI)V"⟩
abbrev k_Mod_require : g_M := (prog_17_method_23_code, 3, "CircuitDeskModel", 12, none, "require", [], 0)
theorem d_Mod_require_0 : decode prog_17_method_23_code 0 = .ok (.iload_n 1, 1) := by decide +kernel
theorem d_Mod_require_1 : decode prog_17_method_23_code 1 = .ok (.ifCond .ne 23, 3) := by decide +kernel
theorem d_Mod_require_4 : decode prog_17_method_23_code 4 = .ok (.aload_n 0, 1) := by decide +kernel
theorem d_Mod_require_5 : decode prog_17_method_23_code 5 = .ok (.getfield 109, 3) := by decide +kernel
theorem d_Mod_require_8 : decode prog_17_method_23_code 8 = .ok (.ifCond .ne 16, 3) := by decide +kernel
theorem d_Mod_require_11 : decode prog_17_method_23_code 11 = .ok (.aload_n 0, 1) := by decide +kernel
theorem d_Mod_require_12 : decode prog_17_method_23_code 12 = .ok (.iload_n 2, 1) := by decide +kernel
theorem d_Mod_require_13 : decode prog_17_method_23_code 13 = .ok (.putfield 109, 3) := by decide +kernel
theorem d_Mod_require_16 : decode prog_17_method_23_code 16 = .ok (.aload_n 0, 1) := by decide +kernel
theorem d_Mod_require_17 : decode prog_17_method_23_code 17 = .ok (.aload_n 0, 1) := by decide +kernel
theorem d_Mod_require_18 : decode prog_17_method_23_code 18 = .ok (.getfield 71, 3) := by decide +kernel
theorem d_Mod_require_21 : decode prog_17_method_23_code 21 = .ok (.putfield 32, 3) := by decide +kernel
theorem d_Mod_require_24 : decode prog_17_method_23_code 24 = .ok (.return_, 1) := by decide +kernel
def Mod_require (M : g_MD) (p0 : Int32) (p1 : Int32) : Option g_MD :=
  if p0 = 0 then (if (M.2.1 15) = 0 then (g_let (mp M 15 p1) fun M3 => g_let (mp M3 16 (M3.2.1 11)) fun M4 => some M4) else (some M)) else (some M)
set_option maxHeartbeats 4000000 in
set_option maxRecDepth 100000 in
theorem T_Mod_require {l : Launch} {B : g_B} {h0 : g_AH} {a0 : Nat} {ad : Nat → Nat} (ok : mOK a0 ad) (M : g_MD) (p0 : Int32) (p1 : Int32) (z : g_MD) (hy : Mod_require M p0 p1 = some z) : g_CT l B y_Mod_require k_Mod_require [.ref a0, .int p0, .int p1] (mH h0 a0 ad M) (.inl none) (mH h0 a0 ad z) := by
  refine g_start2 (Lc := [(0, .ref a0), (1, .int p0), (2, .int p1)]) (by decide) rfl rfl (by exact Nat.le_of_ble_eq_true rfl) (by rfl) fun X => ?_
  unfold Mod_require at hy
  refine g_iload_n 1 (i := 1) (pc' := 1) d_Mod_require_0 rfl rfl rfl ?_
  by_cases c1 : p0 = 0
  · rw [if_pos c1] at hy
    refine g_if_neF (pc' := 4) d_Mod_require_1 24 c1 (by decide) rfl ?_
    refine g_aload_n 0 (i := 0) (pc' := 5) d_Mod_require_4 rfl rfl rfl ?_
    refine gm_getA ok 15 (pc' := 8) d_Mod_require_5 rfl q1980 rfl rfl ?_
    by_cases c2 : (M.2.1 15) = 0
    · rw [if_pos c2] at hy
      refine g_if_neF (pc' := 11) d_Mod_require_8 24 c2 (by decide) rfl ?_
      refine g_aload_n 0 (i := 0) (pc' := 12) d_Mod_require_11 rfl rfl rfl ?_
      refine g_iload_n 2 (i := 2) (pc' := 13) d_Mod_require_12 rfl rfl rfl ?_
      replace hy := g_let_inv hy
      refine gm_put ok 15 (pc' := 16) d_Mod_require_13 rfl (by decide) q1980 rfl ?_
      generalize (mp M 15 p1) = M3 at hy ⊢
      refine g_aload_n 0 (i := 0) (pc' := 17) d_Mod_require_16 rfl rfl rfl ?_
      refine g_aload_n 0 (i := 0) (pc' := 18) d_Mod_require_17 rfl rfl rfl ?_
      refine gm_getA ok 11 (pc' := 21) d_Mod_require_18 rfl q1976 rfl rfl ?_
      replace hy := g_let_inv hy
      refine gm_put ok 16 (pc' := 24) d_Mod_require_21 rfl (by decide) q1981 rfl ?_
      generalize (mp M3 16 (M3.2.1 11)) = M4 at hy ⊢
      cases hy
      exact g_vret rfl rfl rfl d_Mod_require_24
    · rw [if_neg c2] at hy
      refine g_if_neT (pc' := 24) d_Mod_require_8 c2 (by decide) ?_
      cases hy
      exact g_vret rfl rfl rfl d_Mod_require_24
  · rw [if_neg c1] at hy
    refine g_if_neT (pc' := 24) d_Mod_require_1 c1 (by decide) ?_
    cases hy
    exact g_vret rfl rfl rfl d_Mod_require_24
theorem hd_Mod_require : g_dsc y_Mod_require 2 := ⟨by decide +kernel, by decide +kernel, by decide +kernel⟩
/-! CircuitDeskModel.advance()V -/
abbrev y_Mod_advance : MethodName := ⟨"CircuitDeskModel", "advance", "()V"⟩
abbrev k_Mod_advance : g_M := (prog_17_method_25_code, 1, "CircuitDeskModel", 15, none, "advance", [], 0)
theorem d_Mod_advance_0 : decode prog_17_method_25_code 0 = .ok (.aload_n 0, 1) := by decide +kernel
theorem d_Mod_advance_1 : decode prog_17_method_25_code 1 = .ok (.invokevirtual 112, 3) := by decide +kernel
theorem d_Mod_advance_4 : decode prog_17_method_25_code 4 = .ok (.ifCond .eq 7, 3) := by decide +kernel
theorem d_Mod_advance_7 : decode prog_17_method_25_code 7 = .ok (.aload_n 0, 1) := by decide +kernel
theorem d_Mod_advance_8 : decode prog_17_method_25_code 8 = .ok (.invokevirtual 116, 3) := by decide +kernel
theorem d_Mod_advance_11 : decode prog_17_method_25_code 11 = .ok (.return_, 1) := by decide +kernel
def Mod_advance (M : g_MD)  : Option g_MD :=
  g_b (Mod_isFine M) fun x1 => if x1 = 0 then (some M) else (g_b (Mod_nextToken M) fun M6 => some M6)
set_option maxHeartbeats 4000000 in
set_option maxRecDepth 100000 in
theorem T_Mod_advance {l : Launch} {B : g_B} {h0 : g_AH} {a0 : Nat} {ad : Nat → Nat} (ok : mOK a0 ad) (M : g_MD)  (z : g_MD) (hy : Mod_advance M  = some z) : g_CT l B y_Mod_advance k_Mod_advance [.ref a0] (mH h0 a0 ad M) (.inl none) (mH h0 a0 ad z) := by
  refine g_start2 (Lc := [(0, .ref a0)]) (by decide) rfl rfl (by exact Nat.le_of_ble_eq_true rfl) (by rfl) fun X => ?_
  unfold Mod_advance at hy
  refine g_aload_n 0 (i := 0) (pc' := 1) d_Mod_advance_0 rfl rfl rfl ?_
  replace hy := g_b_inv hy
  obtain ⟨x1, hf3, hy⟩ := hy
  refine g_callV (rv := some (.int x1)) (h1 := (mH h0 a0 ad M)) (pc' := 4) (As := []) (rest := []) 0 (T_Mod_isFine ok (hy := hf3)) d_Mod_advance_1 (mH_look ok) rfl rfl q2096 q2098 qs34 q135 q2099 hd_Mod_isFine rfl ⟨by decide, by decide⟩ (by first | exact Nat.le_of_ble_eq_true rfl | (simp only [List.map, List.sum_cons, List.sum_nil, g_cat_rf]; exact Nat.le_of_ble_eq_true rfl) | (simp only [List.map, List.sum_cons, List.sum_nil, g_cat_rf, Value.category]; decide)) rfl ?_
  by_cases c4 : x1 = 0
  · rw [if_pos c4] at hy
    refine g_if_eqT (pc' := 11) d_Mod_advance_4 c4 (by decide) ?_
    cases hy
    exact g_vret rfl rfl rfl d_Mod_advance_11
  · rw [if_neg c4] at hy
    refine g_if_eqF (pc' := 7) d_Mod_advance_4 11 c4 (by decide) rfl ?_
    refine g_aload_n 0 (i := 0) (pc' := 8) d_Mod_advance_7 rfl rfl rfl ?_
    replace hy := g_b_inv hy
    obtain ⟨M6, hf7, hy⟩ := hy
    refine g_callV (rv := none) (h1 := (mH h0 a0 ad M6)) (pc' := 11) (As := []) (rest := []) 0 (T_Mod_nextToken ok (hy := hf7)) d_Mod_advance_8 (mH_look ok) rfl rfl q2079 q2081 qs32 q135 q2082 hd_Mod_nextToken rfl ⟨by decide, by decide⟩ (by first | exact Nat.le_of_ble_eq_true rfl | (simp only [List.map, List.sum_cons, List.sum_nil, g_cat_rf]; exact Nat.le_of_ble_eq_true rfl) | (simp only [List.map, List.sum_cons, List.sum_nil, g_cat_rf, Value.category]; decide)) rfl ?_
    cases hy
    exact g_vret rfl rfl rfl d_Mod_advance_11
theorem hd_Mod_advance : g_dsc y_Mod_advance 0 := ⟨by decide +kernel, by decide +kernel, by decide +kernel⟩
/-! CircuitDeskModel.look(II)V -/
abbrev y_Mod_look : MethodName := ⟨"CircuitDeskModel", "look", "(II)V"⟩
abbrev k_Mod_look : g_M := (prog_17_method_26_code, 3, "CircuitDeskModel", 13, none, "look", [], 0)
theorem d_Mod_look_0 : decode prog_17_method_26_code 0 = .ok (.aload_n 0, 1) := by decide +kernel
theorem d_Mod_look_1 : decode prog_17_method_26_code 1 = .ok (.aload_n 0, 1) := by decide +kernel
theorem d_Mod_look_2 : decode prog_17_method_26_code 2 = .ok (.getfield 84, 3) := by decide +kernel
theorem d_Mod_look_5 : decode prog_17_method_26_code 5 = .ok (.iconst 3, 1) := by decide +kernel
theorem d_Mod_look_6 : decode prog_17_method_26_code 6 = .ok (.if_icmp .ne 7, 3) := by decide +kernel
theorem d_Mod_look_9 : decode prog_17_method_26_code 9 = .ok (.iconst 1, 1) := by decide +kernel
theorem d_Mod_look_10 : decode prog_17_method_26_code 10 = .ok (.goto 4, 3) := by decide +kernel
theorem d_Mod_look_13 : decode prog_17_method_26_code 13 = .ok (.iconst 0, 1) := by decide +kernel
theorem d_Mod_look_14 : decode prog_17_method_26_code 14 = .ok (.iconst 1, 1) := by decide +kernel
theorem d_Mod_look_15 : decode prog_17_method_26_code 15 = .ok (.invokevirtual 119, 3) := by decide +kernel
theorem d_Mod_look_18 : decode prog_17_method_26_code 18 = .ok (.aload_n 0, 1) := by decide +kernel
theorem d_Mod_look_19 : decode prog_17_method_26_code 19 = .ok (.aload_n 0, 1) := by decide +kernel
theorem d_Mod_look_20 : decode prog_17_method_26_code 20 = .ok (.getfield 81, 3) := by decide +kernel
theorem d_Mod_look_23 : decode prog_17_method_26_code 23 = .ok (.iload_n 1, 1) := by decide +kernel
theorem d_Mod_look_24 : decode prog_17_method_26_code 24 = .ok (.iload_n 2, 1) := by decide +kernel
theorem d_Mod_look_25 : decode prog_17_method_26_code 25 = .ok (.invokestatic 54, 3) := by decide +kernel
theorem d_Mod_look_28 : decode prog_17_method_26_code 28 = .ok (.iconst 2, 1) := by decide +kernel
theorem d_Mod_look_29 : decode prog_17_method_26_code 29 = .ok (.invokevirtual 119, 3) := by decide +kernel
theorem d_Mod_look_32 : decode prog_17_method_26_code 32 = .ok (.return_, 1) := by decide +kernel
def Mod_look_14 (M : g_MD) (v1 : Int32) (v2 : Int32) (s0 : Int32) : Option g_MD :=
  g_b (Mod_require M s0 (1 : Int32)) fun M3 => g_b (Mod_isBetween (M3.2.1 14) v1 v2) fun x5 => g_b (Mod_require M3 x5 (2 : Int32)) fun M9 => some M9
set_option maxHeartbeats 4000000 in
set_option maxRecDepth 100000 in
theorem W_Mod_look_14 {X : g_X} {h0 : g_AH} {a0 : Nat} {ad : Nat → Nat} (ok : mOK a0 ad) (z : g_MD) (M : g_MD) (v1 : Int32) (v2 : Int32) (s0 : Int32) (hy : Mod_look_14  M v1 v2 s0 = some z) : G X k_Mod_look (.inl none) (mH h0 a0 ad z) (mH h0 a0 ad M) 14 [(0, .ref a0), (1, .int v1), (2, .int v2)] [.int s0, .ref a0] := by
  unfold Mod_look_14 at hy
  refine g_iconst (v := (1 : Int32)) (pc' := 15) d_Mod_look_14 (by decide) rfl ?_
  replace hy := g_b_inv hy
  obtain ⟨M3, hf4, hy⟩ := hy
  refine g_callV (rv := none) (h1 := (mH h0 a0 ad M3)) (pc' := 18) (As := [.int s0, .int (1 : Int32)]) (rest := []) 2 (T_Mod_require ok (hy := hf4)) d_Mod_look_15 (mH_look ok) rfl rfl q2125 q2127 qs38 q135 q2128 hd_Mod_require rfl ⟨by decide, by decide⟩ (by first | exact Nat.le_of_ble_eq_true rfl | (simp only [List.map, List.sum_cons, List.sum_nil, g_cat_rf]; exact Nat.le_of_ble_eq_true rfl) | (simp only [List.map, List.sum_cons, List.sum_nil, g_cat_rf, Value.category]; decide)) rfl ?_
  refine g_aload_n 0 (i := 0) (pc' := 19) d_Mod_look_18 rfl rfl rfl ?_
  refine g_aload_n 0 (i := 0) (pc' := 20) d_Mod_look_19 rfl rfl rfl ?_
  refine gm_getA ok 14 (pc' := 23) d_Mod_look_20 rfl q1979 rfl rfl ?_
  refine g_iload_n 1 (i := 1) (pc' := 24) d_Mod_look_23 rfl rfl rfl ?_
  refine g_iload_n 2 (i := 2) (pc' := 25) d_Mod_look_24 rfl rfl rfl ?_
  replace hy := g_b_inv hy
  obtain ⟨x5, hf7, hy⟩ := hy
  refine g_callS (rv := some (.int x5)) (h1 := (mH h0 a0 ad M3)) (pc' := 28) (As := [.int (M3.2.1 14), .int v1, .int v2]) (rest := [.ref a0]) 3 (T_Mod_isBetween (hy := hf7)) d_Mod_look_25 q2069 q2070 q135 q2071 hd_Mod_isBetween rfl ⟨by decide, by decide⟩ (by first | exact Nat.le_of_ble_eq_true rfl | (simp only [List.map, List.sum_cons, List.sum_nil, g_cat_rf]; exact Nat.le_of_ble_eq_true rfl) | (simp only [List.map, List.sum_cons, List.sum_nil, g_cat_rf, Value.category]; decide)) rfl ?_
  refine g_iconst (v := (2 : Int32)) (pc' := 29) d_Mod_look_28 (by decide) rfl ?_
  replace hy := g_b_inv hy
  obtain ⟨M9, hf10, hy⟩ := hy
  refine g_callV (rv := none) (h1 := (mH h0 a0 ad M9)) (pc' := 32) (As := [.int x5, .int (2 : Int32)]) (rest := []) 2 (T_Mod_require ok (hy := hf10)) d_Mod_look_29 (mH_look ok) rfl rfl q2125 q2127 qs38 q135 q2128 hd_Mod_require rfl ⟨by decide, by decide⟩ (by first | exact Nat.le_of_ble_eq_true rfl | (simp only [List.map, List.sum_cons, List.sum_nil, g_cat_rf]; exact Nat.le_of_ble_eq_true rfl) | (simp only [List.map, List.sum_cons, List.sum_nil, g_cat_rf, Value.category]; decide)) rfl ?_
  cases hy
  exact g_vret rfl rfl rfl d_Mod_look_32
def Mod_look (M : g_MD) (p0 : Int32) (p1 : Int32) : Option g_MD :=
  if (M.2.1 12) = (3 : Int32) then (Mod_look_14  M p0 p1 (1 : Int32)) else (Mod_look_14  M p0 p1 (0 : Int32))
set_option maxHeartbeats 4000000 in
set_option maxRecDepth 100000 in
theorem T_Mod_look {l : Launch} {B : g_B} {h0 : g_AH} {a0 : Nat} {ad : Nat → Nat} (ok : mOK a0 ad) (M : g_MD) (p0 : Int32) (p1 : Int32) (z : g_MD) (hy : Mod_look M p0 p1 = some z) : g_CT l B y_Mod_look k_Mod_look [.ref a0, .int p0, .int p1] (mH h0 a0 ad M) (.inl none) (mH h0 a0 ad z) := by
  refine g_start2 (Lc := [(0, .ref a0), (1, .int p0), (2, .int p1)]) (by decide) rfl rfl (by exact Nat.le_of_ble_eq_true rfl) (by rfl) fun X => ?_
  unfold Mod_look at hy
  refine g_aload_n 0 (i := 0) (pc' := 1) d_Mod_look_0 rfl rfl rfl ?_
  refine g_aload_n 0 (i := 0) (pc' := 2) d_Mod_look_1 rfl rfl rfl ?_
  refine gm_getA ok 12 (pc' := 5) d_Mod_look_2 rfl q1977 rfl rfl ?_
  refine g_iconst (v := (3 : Int32)) (pc' := 6) d_Mod_look_5 (by decide) rfl ?_
  by_cases c1 : (M.2.1 12) = (3 : Int32)
  · rw [if_pos c1] at hy
    refine g_icmp_neF (pc' := 9) d_Mod_look_6 13 c1 (by decide) rfl ?_
    refine g_iconst (v := (1 : Int32)) (pc' := 10) d_Mod_look_9 (by decide) rfl ?_
    refine g_goto (pc' := 14) d_Mod_look_10 (by decide) ?_
    exact W_Mod_look_14 ok _ _ _ _ _ hy
  · rw [if_neg c1] at hy
    refine g_icmp_neT (pc' := 13) d_Mod_look_6 c1 (by decide) ?_
    refine g_iconst (v := (0 : Int32)) (pc' := 14) d_Mod_look_13 (by decide) rfl ?_
    exact W_Mod_look_14 ok _ _ _ _ _ hy
theorem hd_Mod_look : g_dsc y_Mod_look 2 := ⟨by decide +kernel, by decide +kernel, by decide +kernel⟩
/-! CircuitDeskModel.parseNumber(II)I -/
abbrev y_Mod_parseNumber : MethodName := ⟨"CircuitDeskModel", "parseNumber", "(II)I"⟩
abbrev k_Mod_parseNumber : g_M := (prog_17_method_27_code, 4, "CircuitDeskModel", 16, (some FieldType.int), "parseNumber", [], 0)
theorem d_Mod_parseNumber_0 : decode prog_17_method_27_code 0 = .ok (.aload_n 0, 1) := by decide +kernel
theorem d_Mod_parseNumber_1 : decode prog_17_method_27_code 1 = .ok (.iload_n 1, 1) := by decide +kernel
theorem d_Mod_parseNumber_2 : decode prog_17_method_27_code 2 = .ok (.iload_n 2, 1) := by decide +kernel
theorem d_Mod_parseNumber_3 : decode prog_17_method_27_code 3 = .ok (.invokevirtual 123, 3) := by decide +kernel
theorem d_Mod_parseNumber_6 : decode prog_17_method_27_code 6 = .ok (.aload_n 0, 1) := by decide +kernel
theorem d_Mod_parseNumber_7 : decode prog_17_method_27_code 7 = .ok (.getfield 81, 3) := by decide +kernel
theorem d_Mod_parseNumber_10 : decode prog_17_method_27_code 10 = .ok (.istore_n 3, 1) := by decide +kernel
theorem d_Mod_parseNumber_11 : decode prog_17_method_27_code 11 = .ok (.aload_n 0, 1) := by decide +kernel
theorem d_Mod_parseNumber_12 : decode prog_17_method_27_code 12 = .ok (.invokevirtual 127, 3) := by decide +kernel
theorem d_Mod_parseNumber_15 : decode prog_17_method_27_code 15 = .ok (.iload_n 3, 1) := by decide +kernel
theorem d_Mod_parseNumber_16 : decode prog_17_method_27_code 16 = .ok (.ireturn, 1) := by decide +kernel
def Mod_parseNumber (M : g_MD) (p0 : Int32) (p1 : Int32) : Option (Int32 × g_MD) :=
  g_b (Mod_look M p0 p1) fun M2 => g_b (Mod_advance M2) fun M5 => some ((M2.2.1 14), M5)
set_option maxHeartbeats 4000000 in
set_option maxRecDepth 100000 in
theorem T_Mod_parseNumber {l : Launch} {B : g_B} {h0 : g_AH} {a0 : Nat} {ad : Nat → Nat} (ok : mOK a0 ad) (M : g_MD) (p0 : Int32) (p1 : Int32) (z : Int32 × g_MD) (hy : Mod_parseNumber M p0 p1 = some z) : g_CT l B y_Mod_parseNumber k_Mod_parseNumber [.ref a0, .int p0, .int p1] (mH h0 a0 ad M) (.inl (some (.int z.1))) (mH h0 a0 ad z.2) := by
  refine g_start2 (Lc := [(0, .ref a0), (1, .int p0), (2, .int p1)]) (by decide) rfl rfl (by exact Nat.le_of_ble_eq_true rfl) (by rfl) fun X => ?_
  unfold Mod_parseNumber at hy
  refine g_aload_n 0 (i := 0) (pc' := 1) d_Mod_parseNumber_0 rfl rfl rfl ?_
  refine g_iload_n 1 (i := 1) (pc' := 2) d_Mod_parseNumber_1 rfl rfl rfl ?_
  refine g_iload_n 2 (i := 2) (pc' := 3) d_Mod_parseNumber_2 rfl rfl rfl ?_
  replace hy := g_b_inv hy
  obtain ⟨M2, hf3, hy⟩ := hy
  refine g_callV (rv := none) (h1 := (mH h0 a0 ad M2)) (pc' := 6) (As := [.int p0, .int p1]) (rest := []) 2 (T_Mod_look ok (hy := hf3)) d_Mod_parseNumber_3 (mH_look ok) rfl rfl q2137 q2139 qs41 q135 q2140 hd_Mod_look rfl ⟨by decide, by decide⟩ (by first | exact Nat.le_of_ble_eq_true rfl | (simp only [List.map, List.sum_cons, List.sum_nil, g_cat_rf]; exact Nat.le_of_ble_eq_true rfl) | (simp only [List.map, List.sum_cons, List.sum_nil, g_cat_rf, Value.category]; decide)) rfl ?_
  refine g_aload_n 0 (i := 0) (pc' := 7) d_Mod_parseNumber_6 rfl rfl rfl ?_
  refine gm_getA ok 14 (pc' := 10) d_Mod_parseNumber_7 rfl q1979 rfl rfl ?_
  refine g_istore_n (i := 3) (pc' := 11) (Lc' := [(3, .int (M2.2.1 14)), (0, .ref a0), (1, .int p0), (2, .int p1)]) d_Mod_parseNumber_10 rfl (by decide) rfl rfl ?_
  refine g_aload_n 1 (i := 0) (pc' := 12) d_Mod_parseNumber_11 rfl rfl rfl ?_
  replace hy := g_b_inv hy
  obtain ⟨M5, hf6, hy⟩ := hy
  refine g_callV (rv := none) (h1 := (mH h0 a0 ad M5)) (pc' := 15) (As := []) (rest := []) 0 (T_Mod_advance ok (hy := hf6)) d_Mod_parseNumber_12 (mH_look ok) rfl rfl q2129 q2131 qs39 q135 q2132 hd_Mod_advance rfl ⟨by decide, by decide⟩ (by first | exact Nat.le_of_ble_eq_true rfl | (simp only [List.map, List.sum_cons, List.sum_nil, g_cat_rf]; exact Nat.le_of_ble_eq_true rfl) | (simp only [List.map, List.sum_cons, List.sum_nil, g_cat_rf, Value.category]; decide)) rfl ?_
  refine g_iload_n 0 (i := 3) (pc' := 16) d_Mod_parseNumber_15 rfl rfl rfl ?_
  cases hy
  exact g_iret rfl rfl rfl d_Mod_parseNumber_16
theorem hd_Mod_parseNumber : g_dsc y_Mod_parseNumber 2 := ⟨by decide +kernel, by decide +kernel, by decide +kernel⟩
/-! CircuitDeskModel.appendNode(I)I -/
abbrev y_Mod_appendNode : MethodName := ⟨"CircuitDeskModel", "appendNode", "(I)I"⟩
abbrev k_Mod_appendNode : g_M := (prog_17_method_38_code, 2, "CircuitDeskModel", 12, (some FieldType.int), "appendNode", [], 0)
theorem d_Mod_appendNode_0 : decode prog_17_method_38_code 0 = .ok (.aload_n 0, 1) := by decide +kernel
theorem d_Mod_appendNode_1 : decode prog_17_method_38_code 1 = .ok (.getfield 7, 3) := by decide +kernel
theorem d_Mod_appendNode_4 : decode prog_17_method_38_code 4 = .ok (.bipush 14, 2) := by decide +kernel
theorem d_Mod_appendNode_6 : decode prog_17_method_38_code 6 = .ok (.aload_n 0, 1) := by decide +kernel
theorem d_Mod_appendNode_7 : decode prog_17_method_38_code 7 = .ok (.getfield 7, 3) := by decide +kernel
theorem d_Mod_appendNode_10 : decode prog_17_method_38_code 10 = .ok (.iconst 2, 1) := by decide +kernel
theorem d_Mod_appendNode_11 : decode prog_17_method_38_code 11 = .ok (.iaload, 1) := by decide +kernel
theorem d_Mod_appendNode_12 : decode prog_17_method_38_code 12 = .ok (.iadd, 1) := by decide +kernel
theorem d_Mod_appendNode_13 : decode prog_17_method_38_code 13 = .ok (.iload_n 1, 1) := by decide +kernel
theorem d_Mod_appendNode_14 : decode prog_17_method_38_code 14 = .ok (.iastore, 1) := by decide +kernel
theorem d_Mod_appendNode_15 : decode prog_17_method_38_code 15 = .ok (.aload_n 0, 1) := by decide +kernel
theorem d_Mod_appendNode_16 : decode prog_17_method_38_code 16 = .ok (.getfield 7, 3) := by decide +kernel
theorem d_Mod_appendNode_19 : decode prog_17_method_38_code 19 = .ok (.iconst 2, 1) := by decide +kernel
theorem d_Mod_appendNode_20 : decode prog_17_method_38_code 20 = .ok (.dup2, 1) := by decide +kernel
theorem d_Mod_appendNode_21 : decode prog_17_method_38_code 21 = .ok (.iaload, 1) := by decide +kernel
theorem d_Mod_appendNode_22 : decode prog_17_method_38_code 22 = .ok (.iconst 1, 1) := by decide +kernel
theorem d_Mod_appendNode_23 : decode prog_17_method_38_code 23 = .ok (.iadd, 1) := by decide +kernel
theorem d_Mod_appendNode_24 : decode prog_17_method_38_code 24 = .ok (.iastore, 1) := by decide +kernel
theorem d_Mod_appendNode_25 : decode prog_17_method_38_code 25 = .ok (.aload_n 0, 1) := by decide +kernel
theorem d_Mod_appendNode_26 : decode prog_17_method_38_code 26 = .ok (.getfield 7, 3) := by decide +kernel
theorem d_Mod_appendNode_29 : decode prog_17_method_38_code 29 = .ok (.iconst 2, 1) := by decide +kernel
theorem d_Mod_appendNode_30 : decode prog_17_method_38_code 30 = .ok (.iaload, 1) := by decide +kernel
theorem d_Mod_appendNode_31 : decode prog_17_method_38_code 31 = .ok (.iconst 1, 1) := by decide +kernel
theorem d_Mod_appendNode_32 : decode prog_17_method_38_code 32 = .ok (.isub, 1) := by decide +kernel
theorem d_Mod_appendNode_33 : decode prog_17_method_38_code 33 = .ok (.ireturn, 1) := by decide +kernel
def Mod_appendNode (M : g_MD) (p0 : Int32) : Option (Int32 × g_MD) :=
  g_mA M 0 0 (2 : Int32) fun x1 => g_mS M 0 0 ((14 : Int32) + x1) p0 fun M3 => g_mA M3 0 0 (2 : Int32) fun x5 => g_mS M3 0 0 (2 : Int32) (x5 + (1 : Int32)) fun M7 => g_mA M7 0 0 (2 : Int32) fun x9 => some ((x9 - (1 : Int32)), M7)
set_option maxHeartbeats 4000000 in
set_option maxRecDepth 100000 in
theorem T_Mod_appendNode {l : Launch} {B : g_B} {h0 : g_AH} {a0 : Nat} {ad : Nat → Nat} (ok : mOK a0 ad) (M : g_MD) (p0 : Int32) (z : Int32 × g_MD) (hy : Mod_appendNode M p0 = some z) : g_CT l B y_Mod_appendNode k_Mod_appendNode [.ref a0, .int p0] (mH h0 a0 ad M) (.inl (some (.int z.1))) (mH h0 a0 ad z.2) := by
  refine g_start2 (Lc := [(0, .ref a0), (1, .int p0)]) (by decide) rfl rfl (by exact Nat.le_of_ble_eq_true rfl) (by rfl) fun X => ?_
  unfold Mod_appendNode at hy
  refine g_aload_n 0 (i := 0) (pc' := 1) d_Mod_appendNode_0 rfl rfl rfl ?_
  refine gm_getA ok 0 (pc' := 4) d_Mod_appendNode_1 rfl q1965 rfl rfl ?_
  refine g_bipush (v := (14 : Int32)) (pc' := 6) d_Mod_appendNode_4 (by decide) rfl ?_
  refine g_aload_n 0 (i := 0) (pc' := 7) d_Mod_appendNode_6 rfl rfl rfl ?_
  refine gm_getA ok 0 (pc' := 10) d_Mod_appendNode_7 rfl q1965 rfl rfl ?_
  refine g_iconst (v := (2 : Int32)) (pc' := 11) d_Mod_appendNode_10 (by decide) rfl ?_
  replace hy := g_mA_inv hy
  obtain ⟨x1, hc2, hy⟩ := hy
  refine gm_ald0 ok (pc' := 12) d_Mod_appendNode_11 hc2 rfl ?_
  refine g_iadd (pc' := 13) d_Mod_appendNode_12 rfl ?_
  refine g_iload_n 1 (i := 1) (pc' := 14) d_Mod_appendNode_13 rfl rfl rfl ?_
  replace hy := g_mS_inv hy
  obtain ⟨hc4, hy⟩ := hy
  refine gm_ast0 ok (pc' := 15) d_Mod_appendNode_14 hc4 rfl ?_
  generalize ms M 0 (((14 : Int32) + x1)).toNatClampNeg p0 = M3 at hy ⊢
  refine g_aload_n 0 (i := 0) (pc' := 16) d_Mod_appendNode_15 rfl rfl rfl ?_
  refine gm_getA ok 0 (pc' := 19) d_Mod_appendNode_16 rfl q1965 rfl rfl ?_
  refine g_iconst (v := (2 : Int32)) (pc' := 20) d_Mod_appendNode_19 (by decide) rfl ?_
  refine g_dup2 (pc' := 21) d_Mod_appendNode_20 rfl rfl rfl ?_
  replace hy := g_mA_inv hy
  obtain ⟨x5, hc6, hy⟩ := hy
  refine gm_ald0 ok (pc' := 22) d_Mod_appendNode_21 hc6 rfl ?_
  refine g_iconst (v := (1 : Int32)) (pc' := 23) d_Mod_appendNode_22 (by decide) rfl ?_
  refine g_iadd (pc' := 24) d_Mod_appendNode_23 rfl ?_
  replace hy := g_mS_inv hy
  obtain ⟨hc8, hy⟩ := hy
  refine gm_ast0 ok (pc' := 25) d_Mod_appendNode_24 hc8 rfl ?_
  generalize ms M3 0 ((2 : Int32)).toNatClampNeg (x5 + (1 : Int32)) = M7 at hy ⊢
  refine g_aload_n 0 (i := 0) (pc' := 26) d_Mod_appendNode_25 rfl rfl rfl ?_
  refine gm_getA ok 0 (pc' := 29) d_Mod_appendNode_26 rfl q1965 rfl rfl ?_
  refine g_iconst (v := (2 : Int32)) (pc' := 30) d_Mod_appendNode_29 (by decide) rfl ?_
  replace hy := g_mA_inv hy
  obtain ⟨x9, hc10, hy⟩ := hy
  refine gm_ald0 ok (pc' := 31) d_Mod_appendNode_30 hc10 rfl ?_
  refine g_iconst (v := (1 : Int32)) (pc' := 32) d_Mod_appendNode_31 (by decide) rfl ?_
  refine g_isub (pc' := 33) d_Mod_appendNode_32 rfl ?_
  cases hy
  exact g_iret rfl rfl rfl d_Mod_appendNode_33
theorem hd_Mod_appendNode : g_dsc y_Mod_appendNode 1 := ⟨by decide +kernel, by decide +kernel, by decide +kernel⟩
/-! CircuitDeskModel.parseNode()V -/
abbrev y_Mod_parseNode : MethodName := ⟨"CircuitDeskModel", "parseNode", "()V"⟩
abbrev k_Mod_parseNode : g_M := (prog_17_method_28_code, 3, "CircuitDeskModel", 17, none, "parseNode", [], 0)
theorem d_Mod_parseNode_0 : decode prog_17_method_28_code 0 = .ok (.aload_n 0, 1) := by decide +kernel
theorem d_Mod_parseNode_1 : decode prog_17_method_28_code 1 = .ok (.aload_n 0, 1) := by decide +kernel
theorem d_Mod_parseNode_2 : decode prog_17_method_28_code 2 = .ok (.getfield 7, 3) := by decide +kernel
theorem d_Mod_parseNode_5 : decode prog_17_method_28_code 5 = .ok (.iconst 2, 1) := by decide +kernel
theorem d_Mod_parseNode_6 : decode prog_17_method_28_code 6 = .ok (.iaload, 1) := by decide +kernel
theorem d_Mod_parseNode_7 : decode prog_17_method_28_code 7 = .ok (.bipush 10, 2) := by decide +kernel
theorem d_Mod_parseNode_9 : decode prog_17_method_28_code 9 = .ok (.if_icmp .ge 7, 3) := by decide +kernel
theorem d_Mod_parseNode_12 : decode prog_17_method_28_code 12 = .ok (.iconst 1, 1) := by decide +kernel
theorem d_Mod_parseNode_13 : decode prog_17_method_28_code 13 = .ok (.goto 4, 3) := by decide +kernel
theorem d_Mod_parseNode_16 : decode prog_17_method_28_code 16 = .ok (.iconst 0, 1) := by decide +kernel
theorem d_Mod_parseNode_17 : decode prog_17_method_28_code 17 = .ok (.iconst 3, 1) := by decide +kernel
theorem d_Mod_parseNode_18 : decode prog_17_method_28_code 18 = .ok (.invokevirtual 119, 3) := by decide +kernel
theorem d_Mod_parseNode_21 : decode prog_17_method_28_code 21 = .ok (.aload_n 0, 1) := by decide +kernel
theorem d_Mod_parseNode_22 : decode prog_17_method_28_code 22 = .ok (.invokevirtual 127, 3) := by decide +kernel
theorem d_Mod_parseNode_25 : decode prog_17_method_28_code 25 = .ok (.aload_n 0, 1) := by decide +kernel
theorem d_Mod_parseNode_26 : decode prog_17_method_28_code 26 = .ok (.iconst 1, 1) := by decide +kernel
theorem d_Mod_parseNode_27 : decode prog_17_method_28_code 27 = .ok (.bipush 12, 2) := by decide +kernel
theorem d_Mod_parseNode_29 : decode prog_17_method_28_code 29 = .ok (.invokevirtual 130, 3) := by decide +kernel
theorem d_Mod_parseNode_32 : decode prog_17_method_28_code 32 = .ok (.istore_n 1, 1) := by decide +kernel
theorem d_Mod_parseNode_33 : decode prog_17_method_28_code 33 = .ok (.aload_n 0, 1) := by decide +kernel
theorem d_Mod_parseNode_34 : decode prog_17_method_28_code 34 = .ok (.invokevirtual 112, 3) := by decide +kernel
theorem d_Mod_parseNode_37 : decode prog_17_method_28_code 37 = .ok (.ifCond .eq 9, 3) := by decide +kernel
theorem d_Mod_parseNode_40 : decode prog_17_method_28_code 40 = .ok (.aload_n 0, 1) := by decide +kernel
theorem d_Mod_parseNode_41 : decode prog_17_method_28_code 41 = .ok (.iload_n 1, 1) := by decide +kernel
theorem d_Mod_parseNode_42 : decode prog_17_method_28_code 42 = .ok (.invokevirtual 134, 3) := by decide +kernel
theorem d_Mod_parseNode_45 : decode prog_17_method_28_code 45 = .ok (.istore_n 2, 1) := by decide +kernel
theorem d_Mod_parseNode_46 : decode prog_17_method_28_code 46 = .ok (.return_, 1) := by decide +kernel
def Mod_parseNode_17 (M : g_MD) (s0 : Int32) : Option g_MD :=
  g_b (Mod_require M s0 (3 : Int32)) fun M5 => g_b (Mod_advance M5) fun M8 => g_bM (Mod_parseNumber M8 (1 : Int32) (12 : Int32)) fun x10 M11 => g_b (Mod_isFine M11) fun x13 => if x13 = 0 then (some M11) else (g_bM (Mod_appendNode M11 x10) fun x17 M18 => some M18)
set_option maxHeartbeats 4000000 in
set_option maxRecDepth 100000 in
theorem W_Mod_parseNode_17 {X : g_X} {h0 : g_AH} {a0 : Nat} {ad : Nat → Nat} (ok : mOK a0 ad) (z : g_MD) (M : g_MD) (s0 : Int32) (hy : Mod_parseNode_17  M s0 = some z) : G X k_Mod_parseNode (.inl none) (mH h0 a0 ad z) (mH h0 a0 ad M) 17 [(0, .ref a0)] [.int s0, .ref a0] := by
  unfold Mod_parseNode_17 at hy
  refine g_iconst (v := (3 : Int32)) (pc' := 18) d_Mod_parseNode_17 (by decide) rfl ?_
  replace hy := g_b_inv hy
  obtain ⟨M5, hf6, hy⟩ := hy
  refine g_callV (rv := none) (h1 := (mH h0 a0 ad M5)) (pc' := 21) (As := [.int s0, .int (3 : Int32)]) (rest := []) 2 (T_Mod_require ok (hy := hf6)) d_Mod_parseNode_18 (mH_look ok) rfl rfl q2125 q2127 qs38 q135 q2128 hd_Mod_require rfl ⟨by decide, by decide⟩ (by first | exact Nat.le_of_ble_eq_true rfl | (simp only [List.map, List.sum_cons, List.sum_nil, g_cat_rf]; exact Nat.le_of_ble_eq_true rfl) | (simp only [List.map, List.sum_cons, List.sum_nil, g_cat_rf, Value.category]; decide)) rfl ?_
  refine g_aload_n 0 (i := 0) (pc' := 22) d_Mod_parseNode_21 rfl rfl rfl ?_
  replace hy := g_b_inv hy
  obtain ⟨M8, hf9, hy⟩ := hy
  refine g_callV (rv := none) (h1 := (mH h0 a0 ad M8)) (pc' := 25) (As := []) (rest := []) 0 (T_Mod_advance ok (hy := hf9)) d_Mod_parseNode_22 (mH_look ok) rfl rfl q2129 q2131 qs39 q135 q2132 hd_Mod_advance rfl ⟨by decide, by decide⟩ (by first | exact Nat.le_of_ble_eq_true rfl | (simp only [List.map, List.sum_cons, List.sum_nil, g_cat_rf]; exact Nat.le_of_ble_eq_true rfl) | (simp only [List.map, List.sum_cons, List.sum_nil, g_cat_rf, Value.category]; decide)) rfl ?_
  refine g_aload_n 0 (i := 0) (pc' := 26) d_Mod_parseNode_25 rfl rfl rfl ?_
  refine g_iconst (v := (1 : Int32)) (pc' := 27) d_Mod_parseNode_26 (by decide) rfl ?_
  refine g_bipush (v := (12 : Int32)) (pc' := 29) d_Mod_parseNode_27 (by decide) rfl ?_
  replace hy := g_bM_inv hy
  obtain ⟨x10, M11, hf12, hy⟩ := hy
  refine g_callV (rv := some (.int x10)) (h1 := (mH h0 a0 ad M11)) (pc' := 32) (As := [.int (1 : Int32), .int (12 : Int32)]) (rest := []) 2 (T_Mod_parseNumber ok (hy := hf12)) d_Mod_parseNode_29 (mH_look ok) rfl rfl q2133 q2135 qs40 q135 q2136 hd_Mod_parseNumber rfl ⟨by decide, by decide⟩ (by first | exact Nat.le_of_ble_eq_true rfl | (simp only [List.map, List.sum_cons, List.sum_nil, g_cat_rf]; exact Nat.le_of_ble_eq_true rfl) | (simp only [List.map, List.sum_cons, List.sum_nil, g_cat_rf, Value.category]; decide)) rfl ?_
  refine g_istore_n (i := 1) (pc' := 33) (Lc' := [(1, .int x10), (0, .ref a0)]) d_Mod_parseNode_32 rfl (by decide) rfl rfl ?_
  refine g_aload_n 1 (i := 0) (pc' := 34) d_Mod_parseNode_33 rfl rfl rfl ?_
  replace hy := g_b_inv hy
  obtain ⟨x13, hf15, hy⟩ := hy
  refine g_callV (rv := some (.int x13)) (h1 := (mH h0 a0 ad M11)) (pc' := 37) (As := []) (rest := []) 0 (T_Mod_isFine ok (hy := hf15)) d_Mod_parseNode_34 (mH_look ok) rfl rfl q2096 q2098 qs34 q135 q2099 hd_Mod_isFine rfl ⟨by decide, by decide⟩ (by first | exact Nat.le_of_ble_eq_true rfl | (simp only [List.map, List.sum_cons, List.sum_nil, g_cat_rf]; exact Nat.le_of_ble_eq_true rfl) | (simp only [List.map, List.sum_cons, List.sum_nil, g_cat_rf, Value.category]; decide)) rfl ?_
  by_cases c16 : x13 = 0
  · rw [if_pos c16] at hy
    refine g_if_eqT (pc' := 46) d_Mod_parseNode_37 c16 (by decide) ?_
    cases hy
    exact g_vret rfl rfl rfl d_Mod_parseNode_46
  · rw [if_neg c16] at hy
    refine g_if_eqF (pc' := 40) d_Mod_parseNode_37 46 c16 (by decide) rfl ?_
    refine g_aload_n 1 (i := 0) (pc' := 41) d_Mod_parseNode_40 rfl rfl rfl ?_
    refine g_iload_n 0 (i := 1) (pc' := 42) d_Mod_parseNode_41 rfl rfl rfl ?_
    replace hy := g_bM_inv hy
    obtain ⟨x17, M18, hf19, hy⟩ := hy
    refine g_callV (rv := some (.int x17)) (h1 := (mH h0 a0 ad M18)) (pc' := 45) (As := [.int x10]) (rest := []) 1 (T_Mod_appendNode ok (hy := hf19)) d_Mod_parseNode_42 (mH_look ok) rfl rfl q2141 q2143 qs42 q135 q2144 hd_Mod_appendNode rfl ⟨by decide, by decide⟩ (by first | exact Nat.le_of_ble_eq_true rfl | (simp only [List.map, List.sum_cons, List.sum_nil, g_cat_rf]; exact Nat.le_of_ble_eq_true rfl) | (simp only [List.map, List.sum_cons, List.sum_nil, g_cat_rf, Value.category]; decide)) rfl ?_
    refine g_istore_n (i := 2) (pc' := 46) (Lc' := [(2, .int x17), (1, .int x10), (0, .ref a0)]) d_Mod_parseNode_45 rfl (by decide) rfl rfl ?_
    cases hy
    exact g_vret rfl rfl rfl d_Mod_parseNode_46
def Mod_parseNode (M : g_MD)  : Option g_MD :=
  g_mA M 0 0 (2 : Int32) fun x1 => if (10 : Int32) ≤ x1 then (Mod_parseNode_17  M (0 : Int32)) else (Mod_parseNode_17  M (1 : Int32))
set_option maxHeartbeats 4000000 in
set_option maxRecDepth 100000 in
theorem T_Mod_parseNode {l : Launch} {B : g_B} {h0 : g_AH} {a0 : Nat} {ad : Nat → Nat} (ok : mOK a0 ad) (M : g_MD)  (z : g_MD) (hy : Mod_parseNode M  = some z) : g_CT l B y_Mod_parseNode k_Mod_parseNode [.ref a0] (mH h0 a0 ad M) (.inl none) (mH h0 a0 ad z) := by
  refine g_start2 (Lc := [(0, .ref a0)]) (by decide) rfl rfl (by exact Nat.le_of_ble_eq_true rfl) (by rfl) fun X => ?_
  unfold Mod_parseNode at hy
  refine g_aload_n 0 (i := 0) (pc' := 1) d_Mod_parseNode_0 rfl rfl rfl ?_
  refine g_aload_n 0 (i := 0) (pc' := 2) d_Mod_parseNode_1 rfl rfl rfl ?_
  refine gm_getA ok 0 (pc' := 5) d_Mod_parseNode_2 rfl q1965 rfl rfl ?_
  refine g_iconst (v := (2 : Int32)) (pc' := 6) d_Mod_parseNode_5 (by decide) rfl ?_
  replace hy := g_mA_inv hy
  obtain ⟨x1, hc2, hy⟩ := hy
  refine gm_ald0 ok (pc' := 7) d_Mod_parseNode_6 hc2 rfl ?_
  refine g_bipush (v := (10 : Int32)) (pc' := 9) d_Mod_parseNode_7 (by decide) rfl ?_
  by_cases c3 : (10 : Int32) ≤ x1
  · rw [if_pos c3] at hy
    refine g_icmp_geT (pc' := 16) d_Mod_parseNode_9 c3 (by decide) ?_
    refine g_iconst (v := (0 : Int32)) (pc' := 17) d_Mod_parseNode_16 (by decide) rfl ?_
    exact W_Mod_parseNode_17 ok _ _ _ hy
  · rw [if_neg c3] at hy
    refine g_icmp_geF (pc' := 12) d_Mod_parseNode_9 16 c3 (by decide) rfl ?_
    refine g_iconst (v := (1 : Int32)) (pc' := 13) d_Mod_parseNode_12 (by decide) rfl ?_
    refine g_goto (pc' := 17) d_Mod_parseNode_13 (by decide) ?_
    exact W_Mod_parseNode_17 ok _ _ _ hy
theorem hd_Mod_parseNode : g_dsc y_Mod_parseNode 0 := ⟨by decide +kernel, by decide +kernel, by decide +kernel⟩
/-! CircuitDeskModel.ofLink(II)I -/
abbrev y_Mod_ofLink : MethodName := ⟨"CircuitDeskModel", "ofLink", "(II)I"⟩
abbrev k_Mod_ofLink : g_M := (prog_17_method_10_code, 3, "CircuitDeskModel", 12, (some FieldType.int), "ofLink", [], 0)
theorem d_Mod_ofLink_0 : decode prog_17_method_10_code 0 = .ok (.aload_n 0, 1) := by decide +kernel
theorem d_Mod_ofLink_1 : decode prog_17_method_10_code 1 = .ok (.getfield 7, 3) := by decide +kernel
theorem d_Mod_ofLink_4 : decode prog_17_method_10_code 4 = .ok (.bipush 24, 2) := by decide +kernel
theorem d_Mod_ofLink_6 : decode prog_17_method_10_code 6 = .ok (.iconst 5, 1) := by decide +kernel
theorem d_Mod_ofLink_7 : decode prog_17_method_10_code 7 = .ok (.iload_n 1, 1) := by decide +kernel
theorem d_Mod_ofLink_8 : decode prog_17_method_10_code 8 = .ok (.imul, 1) := by decide +kernel
theorem d_Mod_ofLink_9 : decode prog_17_method_10_code 9 = .ok (.iadd, 1) := by decide +kernel
theorem d_Mod_ofLink_10 : decode prog_17_method_10_code 10 = .ok (.iload_n 2, 1) := by decide +kernel
theorem d_Mod_ofLink_11 : decode prog_17_method_10_code 11 = .ok (.iadd, 1) := by decide +kernel
theorem d_Mod_ofLink_12 : decode prog_17_method_10_code 12 = .ok (.iaload, 1) := by decide +kernel
theorem d_Mod_ofLink_13 : decode prog_17_method_10_code 13 = .ok (.ireturn, 1) := by decide +kernel
def Mod_ofLink (M : g_MD) (p0 : Int32) (p1 : Int32) : Option (Int32) :=
  g_mA M 0 0 (((24 : Int32) + ((5 : Int32) * p0)) + p1) fun x1 => some x1
set_option maxHeartbeats 4000000 in
set_option maxRecDepth 100000 in
theorem T_Mod_ofLink {l : Launch} {B : g_B} {h0 : g_AH} {a0 : Nat} {ad : Nat → Nat} (ok : mOK a0 ad) (M : g_MD) (p0 : Int32) (p1 : Int32) (z : Int32) (hy : Mod_ofLink M p0 p1 = some z) : g_CT l B y_Mod_ofLink k_Mod_ofLink [.ref a0, .int p0, .int p1] (mH h0 a0 ad M) (.inl (some (.int z))) (mH h0 a0 ad M) := by
  refine g_start2 (Lc := [(0, .ref a0), (1, .int p0), (2, .int p1)]) (by decide) rfl rfl (by exact Nat.le_of_ble_eq_true rfl) (by rfl) fun X => ?_
  unfold Mod_ofLink at hy
  refine g_aload_n 0 (i := 0) (pc' := 1) d_Mod_ofLink_0 rfl rfl rfl ?_
  refine gm_getA ok 0 (pc' := 4) d_Mod_ofLink_1 rfl q1965 rfl rfl ?_
  refine g_bipush (v := (24 : Int32)) (pc' := 6) d_Mod_ofLink_4 (by decide) rfl ?_
  refine g_iconst (v := (5 : Int32)) (pc' := 7) d_Mod_ofLink_6 (by decide) rfl ?_
  refine g_iload_n 1 (i := 1) (pc' := 8) d_Mod_ofLink_7 rfl rfl rfl ?_
  refine g_imul (pc' := 9) d_Mod_ofLink_8 rfl ?_
  refine g_iadd (pc' := 10) d_Mod_ofLink_9 rfl ?_
  refine g_iload_n 2 (i := 2) (pc' := 11) d_Mod_ofLink_10 rfl rfl rfl ?_
  refine g_iadd (pc' := 12) d_Mod_ofLink_11 rfl ?_
  replace hy := g_mA_inv hy
  obtain ⟨x1, hc2, hy⟩ := hy
  refine gm_ald0 ok (pc' := 13) d_Mod_ofLink_12 hc2 rfl ?_
  cases hy
  exact g_iret rfl rfl rfl d_Mod_ofLink_13
theorem hd_Mod_ofLink : g_dsc y_Mod_ofLink 2 := ⟨by decide +kernel, by decide +kernel, by decide +kernel⟩
/-! CircuitDeskModel.linkOf(II)I -/
abbrev y_Mod_linkOf : MethodName := ⟨"CircuitDeskModel", "linkOf", "(II)I"⟩
abbrev k_Mod_linkOf : g_M := (prog_17_method_40_code, 6, "CircuitDeskModel", 13, (some FieldType.int), "linkOf", [], 0)
theorem d_Mod_linkOf_0 : decode prog_17_method_40_code 0 = .ok (.iconst 0, 1) := by decide +kernel
theorem d_Mod_linkOf_1 : decode prog_17_method_40_code 1 = .ok (.istore_n 3, 1) := by decide +kernel
theorem d_Mod_linkOf_2 : decode prog_17_method_40_code 2 = .ok (.iload_n 3, 1) := by decide +kernel
theorem d_Mod_linkOf_3 : decode prog_17_method_40_code 3 = .ok (.aload_n 0, 1) := by decide +kernel
theorem d_Mod_linkOf_4 : decode prog_17_method_40_code 4 = .ok (.getfield 7, 3) := by decide +kernel
theorem d_Mod_linkOf_7 : decode prog_17_method_40_code 7 = .ok (.iconst 3, 1) := by decide +kernel
theorem d_Mod_linkOf_8 : decode prog_17_method_40_code 8 = .ok (.iaload, 1) := by decide +kernel
theorem d_Mod_linkOf_9 : decode prog_17_method_40_code 9 = .ok (.if_icmp .ge 51, 3) := by decide +kernel
theorem d_Mod_linkOf_12 : decode prog_17_method_40_code 12 = .ok (.aload_n 0, 1) := by decide +kernel
theorem d_Mod_linkOf_13 : decode prog_17_method_40_code 13 = .ok (.iload_n 3, 1) := by decide +kernel
theorem d_Mod_linkOf_14 : decode prog_17_method_40_code 14 = .ok (.iconst 0, 1) := by decide +kernel
theorem d_Mod_linkOf_15 : decode prog_17_method_40_code 15 = .ok (.invokevirtual 201, 3) := by decide +kernel
theorem d_Mod_linkOf_18 : decode prog_17_method_40_code 18 = .ok (.istore 4, 2) := by decide +kernel
theorem d_Mod_linkOf_20 : decode prog_17_method_40_code 20 = .ok (.aload_n 0, 1) := by decide +kernel
theorem d_Mod_linkOf_21 : decode prog_17_method_40_code 21 = .ok (.iload_n 3, 1) := by decide +kernel
theorem d_Mod_linkOf_22 : decode prog_17_method_40_code 22 = .ok (.iconst 1, 1) := by decide +kernel
theorem d_Mod_linkOf_23 : decode prog_17_method_40_code 23 = .ok (.invokevirtual 201, 3) := by decide +kernel
theorem d_Mod_linkOf_26 : decode prog_17_method_40_code 26 = .ok (.istore 5, 2) := by decide +kernel
theorem d_Mod_linkOf_28 : decode prog_17_method_40_code 28 = .ok (.iload 4, 2) := by decide +kernel
theorem d_Mod_linkOf_30 : decode prog_17_method_40_code 30 = .ok (.iload_n 1, 1) := by decide +kernel
theorem d_Mod_linkOf_31 : decode prog_17_method_40_code 31 = .ok (.if_icmp .ne 9, 3) := by decide +kernel
theorem d_Mod_linkOf_34 : decode prog_17_method_40_code 34 = .ok (.iload 5, 2) := by decide +kernel
theorem d_Mod_linkOf_36 : decode prog_17_method_40_code 36 = .ok (.iload_n 2, 1) := by decide +kernel
theorem d_Mod_linkOf_37 : decode prog_17_method_40_code 37 = .ok (.if_icmp .eq 15, 3) := by decide +kernel
theorem d_Mod_linkOf_40 : decode prog_17_method_40_code 40 = .ok (.iload 4, 2) := by decide +kernel
theorem d_Mod_linkOf_42 : decode prog_17_method_40_code 42 = .ok (.iload_n 2, 1) := by decide +kernel
theorem d_Mod_linkOf_43 : decode prog_17_method_40_code 43 = .ok (.if_icmp .ne 11, 3) := by decide +kernel
theorem d_Mod_linkOf_46 : decode prog_17_method_40_code 46 = .ok (.iload 5, 2) := by decide +kernel
theorem d_Mod_linkOf_48 : decode prog_17_method_40_code 48 = .ok (.iload_n 1, 1) := by decide +kernel
theorem d_Mod_linkOf_49 : decode prog_17_method_40_code 49 = .ok (.if_icmp .ne 5, 3) := by decide +kernel
theorem d_Mod_linkOf_52 : decode prog_17_method_40_code 52 = .ok (.iload_n 3, 1) := by decide +kernel
theorem d_Mod_linkOf_53 : decode prog_17_method_40_code 53 = .ok (.ireturn, 1) := by decide +kernel
theorem d_Mod_linkOf_54 : decode prog_17_method_40_code 54 = .ok (.iinc 3 1, 3) := by decide +kernel
theorem d_Mod_linkOf_57 : decode prog_17_method_40_code 57 = .ok (.goto (-55), 3) := by decide +kernel
theorem d_Mod_linkOf_60 : decode prog_17_method_40_code 60 = .ok (.iconst (-1), 1) := by decide +kernel
theorem d_Mod_linkOf_61 : decode prog_17_method_40_code 61 = .ok (.ireturn, 1) := by decide +kernel
def Mod_linkOf_54 (M : g_MD) (k2 : Int32 → Int32 → Int32 → Option (Int32)) (v1 : Int32) (v2 : Int32) (v3 : Int32) : Option (Int32) :=
  k2 v1 v2 (v3 + (1 : Int32))
set_option maxHeartbeats 4000000 in
set_option maxRecDepth 100000 in
theorem W_Mod_linkOf_54 {X : g_X} {h0 : g_AH} {a0 : Nat} {ad : Nat → Nat} (ok : mOK a0 ad) (M : g_MD) (z : Int32) (k2 : Int32 → Int32 → Int32 → Option (Int32)) (hk2 : ∀ (v1 : Int32) (v2 : Int32) (v3 : Int32), k2 v1 v2 v3 = some z → G X k_Mod_linkOf (.inl (some (.int z))) (mH h0 a0 ad M) (mH h0 a0 ad M) 2 [(0, .ref a0), (1, .int v1), (2, .int v2), (3, .int v3)] []) (v1 : Int32) (v2 : Int32) (v3 : Int32) (hy : Mod_linkOf_54 M k2 v1 v2 v3 = some z) : G X k_Mod_linkOf (.inl (some (.int z))) (mH h0 a0 ad M) (mH h0 a0 ad M) 54 [(0, .ref a0), (1, .int v1), (2, .int v2), (3, .int v3)] [] := by
  unfold Mod_linkOf_54 at hy
  refine g_iinc 3 (v := (v3 + (1 : Int32))) (pc' := 57) (Lc' := [(3, .int (v3 + (1 : Int32))), (0, .ref a0), (1, .int v1), (2, .int v2)]) d_Mod_linkOf_54 rfl rfl (by decide) rfl rfl ?_
  refine g_goto (pc' := 2) d_Mod_linkOf_57 (by decide) ?_
  refine g_sub [1, 2, 3, 0] rfl ?_
  exact hk2 _ _ _ hy
def Mod_linkOf_40 (M : g_MD) (k2 : Int32 → Int32 → Int32 → Option (Int32)) (v1 : Int32) (v2 : Int32) (v3 : Int32) (v4 : Int32) (v5 : Int32) : Option (Int32) :=
  if v4 = v2 then (if v5 = v1 then (some v3) else (Mod_linkOf_54 M k2 v1 v2 v3)) else (Mod_linkOf_54 M k2 v1 v2 v3)
set_option maxHeartbeats 4000000 in
set_option maxRecDepth 100000 in
theorem W_Mod_linkOf_40 {X : g_X} {h0 : g_AH} {a0 : Nat} {ad : Nat → Nat} (ok : mOK a0 ad) (M : g_MD) (z : Int32) (k2 : Int32 → Int32 → Int32 → Option (Int32)) (hk2 : ∀ (v1 : Int32) (v2 : Int32) (v3 : Int32), k2 v1 v2 v3 = some z → G X k_Mod_linkOf (.inl (some (.int z))) (mH h0 a0 ad M) (mH h0 a0 ad M) 2 [(0, .ref a0), (1, .int v1), (2, .int v2), (3, .int v3)] []) (v1 : Int32) (v2 : Int32) (v3 : Int32) (v4 : Int32) (v5 : Int32) (hy : Mod_linkOf_40 M k2 v1 v2 v3 v4 v5 = some z) : G X k_Mod_linkOf (.inl (some (.int z))) (mH h0 a0 ad M) (mH h0 a0 ad M) 40 [(0, .ref a0), (1, .int v1), (2, .int v2), (3, .int v3), (4, .int v4), (5, .int v5)] [] := by
  unfold Mod_linkOf_40 at hy
  refine g_iload 4 (pc' := 42) d_Mod_linkOf_40 rfl rfl ?_
  refine g_iload_n 2 (i := 2) (pc' := 43) d_Mod_linkOf_42 rfl rfl rfl ?_
  by_cases c11 : v4 = v2
  · rw [if_pos c11] at hy
    refine g_icmp_neF (pc' := 46) d_Mod_linkOf_43 54 c11 (by decide) rfl ?_
    refine g_iload 5 (pc' := 48) d_Mod_linkOf_46 rfl rfl ?_
    refine g_iload_n 1 (i := 1) (pc' := 49) d_Mod_linkOf_48 rfl rfl rfl ?_
    by_cases c12 : v5 = v1
    · rw [if_pos c12] at hy
      refine g_icmp_neF (pc' := 52) d_Mod_linkOf_49 54 c12 (by decide) rfl ?_
      refine g_iload_n 3 (i := 3) (pc' := 53) d_Mod_linkOf_52 rfl rfl rfl ?_
      cases hy
      exact g_iret rfl rfl rfl d_Mod_linkOf_53
    · rw [if_neg c12] at hy
      refine g_icmp_neT (pc' := 54) d_Mod_linkOf_49 c12 (by decide) ?_
      refine g_sub [0, 1, 2, 3] rfl ?_
      exact W_Mod_linkOf_54 ok _ _ _ hk2 _ _ _ hy
  · rw [if_neg c11] at hy
    refine g_icmp_neT (pc' := 54) d_Mod_linkOf_43 c11 (by decide) ?_
    refine g_sub [0, 1, 2, 3] rfl ?_
    exact W_Mod_linkOf_54 ok _ _ _ hk2 _ _ _ hy
def Mod_linkOf_2 (M : g_MD)  : Nat → Int32 → Int32 → Int32 → Option (Int32)
  | 0, _, _, _ => none
  | n + 1, v1, v2, v3 => g_mA M 0 0 (3 : Int32) fun x1 => if x1 ≤ v3 then (some (-1 : Int32)) else (g_b (Mod_ofLink M v3 (0 : Int32)) fun x4 => g_b (Mod_ofLink M v3 (1 : Int32)) fun x7 => if x4 = v1 then (if x7 = v2 then (some v3) else (Mod_linkOf_40 M (Mod_linkOf_2 M  n) v1 v2 v3 x4 x7)) else (Mod_linkOf_40 M (Mod_linkOf_2 M  n) v1 v2 v3 x4 x7))
set_option maxHeartbeats 4000000 in
set_option maxRecDepth 100000 in
theorem W_Mod_linkOf_2 {X : g_X} {h0 : g_AH} {a0 : Nat} {ad : Nat → Nat} (ok : mOK a0 ad) (M : g_MD) (z : Int32)  : ∀ (n : Nat) (v1 : Int32) (v2 : Int32) (v3 : Int32), Mod_linkOf_2 M  n v1 v2 v3 = some z → G X k_Mod_linkOf (.inl (some (.int z))) (mH h0 a0 ad M) (mH h0 a0 ad M) 2 [(0, .ref a0), (1, .int v1), (2, .int v2), (3, .int v3)] [] := by
  intro n
  induction n with
  | zero => intro v1 v2 v3 hy; exact absurd hy (by simp [Mod_linkOf_2])
  | succ n ih =>
    intro v1 v2 v3 hy
    rw [Mod_linkOf_2] at hy
    refine g_iload_n 3 (i := 3) (pc' := 3) d_Mod_linkOf_2 rfl rfl rfl ?_
    refine g_aload_n 0 (i := 0) (pc' := 4) d_Mod_linkOf_3 rfl rfl rfl ?_
    refine gm_getA ok 0 (pc' := 7) d_Mod_linkOf_4 rfl q1965 rfl rfl ?_
    refine g_iconst (v := (3 : Int32)) (pc' := 8) d_Mod_linkOf_7 (by decide) rfl ?_
    replace hy := g_mA_inv hy
    obtain ⟨x1, hc2, hy⟩ := hy
    refine gm_ald0 ok (pc' := 9) d_Mod_linkOf_8 hc2 rfl ?_
    by_cases c3 : x1 ≤ v3
    · rw [if_pos c3] at hy
      refine g_icmp_geT (pc' := 60) d_Mod_linkOf_9 c3 (by decide) ?_
      refine g_iconst (v := (-1 : Int32)) (pc' := 61) d_Mod_linkOf_60 (by decide) rfl ?_
      cases hy
      exact g_iret rfl rfl rfl d_Mod_linkOf_61
    · rw [if_neg c3] at hy
      refine g_icmp_geF (pc' := 12) d_Mod_linkOf_9 60 c3 (by decide) rfl ?_
      refine g_aload_n 0 (i := 0) (pc' := 13) d_Mod_linkOf_12 rfl rfl rfl ?_
      refine g_iload_n 3 (i := 3) (pc' := 14) d_Mod_linkOf_13 rfl rfl rfl ?_
      refine g_iconst (v := (0 : Int32)) (pc' := 15) d_Mod_linkOf_14 (by decide) rfl ?_
      replace hy := g_b_inv hy
      obtain ⟨x4, hf6, hy⟩ := hy
      refine g_callV (rv := some (.int x4)) (h1 := (mH h0 a0 ad M)) (pc' := 18) (As := [.int v3, .int (0 : Int32)]) (rest := []) 2 (T_Mod_ofLink ok (hy := hf6)) d_Mod_linkOf_15 (mH_look ok) rfl rfl q2154 q2156 qs45 q135 q2157 hd_Mod_ofLink rfl ⟨by decide, by decide⟩ (by first | exact Nat.le_of_ble_eq_true rfl | (simp only [List.map, List.sum_cons, List.sum_nil, g_cat_rf]; exact Nat.le_of_ble_eq_true rfl) | (simp only [List.map, List.sum_cons, List.sum_nil, g_cat_rf, Value.category]; decide)) rfl ?_
      refine g_istore (pc' := 20) (Lc' := [(4, .int x4), (0, .ref a0), (1, .int v1), (2, .int v2), (3, .int v3)]) d_Mod_linkOf_18 (by decide) rfl rfl ?_
      refine g_aload_n 1 (i := 0) (pc' := 21) d_Mod_linkOf_20 rfl rfl rfl ?_
      refine g_iload_n 4 (i := 3) (pc' := 22) d_Mod_linkOf_21 rfl rfl rfl ?_
      refine g_iconst (v := (1 : Int32)) (pc' := 23) d_Mod_linkOf_22 (by decide) rfl ?_
      replace hy := g_b_inv hy
      obtain ⟨x7, hf9, hy⟩ := hy
      refine g_callV (rv := some (.int x7)) (h1 := (mH h0 a0 ad M)) (pc' := 26) (As := [.int v3, .int (1 : Int32)]) (rest := []) 2 (T_Mod_ofLink ok (hy := hf9)) d_Mod_linkOf_23 (mH_look ok) rfl rfl q2154 q2156 qs45 q135 q2157 hd_Mod_ofLink rfl ⟨by decide, by decide⟩ (by first | exact Nat.le_of_ble_eq_true rfl | (simp only [List.map, List.sum_cons, List.sum_nil, g_cat_rf]; exact Nat.le_of_ble_eq_true rfl) | (simp only [List.map, List.sum_cons, List.sum_nil, g_cat_rf, Value.category]; decide)) rfl ?_
      refine g_istore (pc' := 28) (Lc' := [(5, .int x7), (4, .int x4), (0, .ref a0), (1, .int v1), (2, .int v2), (3, .int v3)]) d_Mod_linkOf_26 (by decide) rfl rfl ?_
      refine g_iload 1 (pc' := 30) d_Mod_linkOf_28 rfl rfl ?_
      refine g_iload_n 3 (i := 1) (pc' := 31) d_Mod_linkOf_30 rfl rfl rfl ?_
      by_cases c10 : x4 = v1
      · rw [if_pos c10] at hy
        refine g_icmp_neF (pc' := 34) d_Mod_linkOf_31 40 c10 (by decide) rfl ?_
        refine g_iload 0 (pc' := 36) d_Mod_linkOf_34 rfl rfl ?_
        refine g_iload_n 4 (i := 2) (pc' := 37) d_Mod_linkOf_36 rfl rfl rfl ?_
        by_cases c13 : x7 = v2
        · rw [if_pos c13] at hy
          refine g_icmp_eqT (pc' := 52) d_Mod_linkOf_37 c13 (by decide) ?_
          refine g_iload_n 5 (i := 3) (pc' := 53) d_Mod_linkOf_52 rfl rfl rfl ?_
          cases hy
          exact g_iret rfl rfl rfl d_Mod_linkOf_53
        · rw [if_neg c13] at hy
          refine g_icmp_eqF (pc' := 40) d_Mod_linkOf_37 52 c13 (by decide) rfl ?_
          refine g_sub [2, 3, 4, 5, 1, 0] rfl ?_
          exact W_Mod_linkOf_40 ok _ _ _ ih _ _ _ _ _ hy
      · rw [if_neg c10] at hy
        refine g_icmp_neT (pc' := 40) d_Mod_linkOf_31 c10 (by decide) ?_
        refine g_sub [2, 3, 4, 5, 1, 0] rfl ?_
        exact W_Mod_linkOf_40 ok _ _ _ ih _ _ _ _ _ hy
def Mod_linkOf (M : g_MD) (p0 : Int32) (p1 : Int32) : Option (Int32) :=
  Mod_linkOf_2 M  gFU p0 p1 (0 : Int32)
set_option maxHeartbeats 4000000 in
set_option maxRecDepth 100000 in
theorem T_Mod_linkOf {l : Launch} {B : g_B} {h0 : g_AH} {a0 : Nat} {ad : Nat → Nat} (ok : mOK a0 ad) (M : g_MD) (p0 : Int32) (p1 : Int32) (z : Int32) (hy : Mod_linkOf M p0 p1 = some z) : g_CT l B y_Mod_linkOf k_Mod_linkOf [.ref a0, .int p0, .int p1] (mH h0 a0 ad M) (.inl (some (.int z))) (mH h0 a0 ad M) := by
  refine g_start2 (Lc := [(0, .ref a0), (1, .int p0), (2, .int p1)]) (by decide) rfl rfl (by exact Nat.le_of_ble_eq_true rfl) (by rfl) fun X => ?_
  unfold Mod_linkOf at hy
  refine g_iconst (v := (0 : Int32)) (pc' := 1) d_Mod_linkOf_0 (by decide) rfl ?_
  refine g_istore_n (i := 3) (pc' := 2) (Lc' := [(3, .int (0 : Int32)), (0, .ref a0), (1, .int p0), (2, .int p1)]) d_Mod_linkOf_1 rfl (by decide) rfl rfl ?_
  refine g_sub [1, 2, 3, 0] rfl ?_
  exact W_Mod_linkOf_2 ok _ _ _ _ _ _ hy
theorem hd_Mod_linkOf : g_dsc y_Mod_linkOf 2 := ⟨by decide +kernel, by decide +kernel, by decide +kernel⟩
/-! CircuitDeskModel.appendLink(IIII)I -/
abbrev y_Mod_appendLink : MethodName := ⟨"CircuitDeskModel", "appendLink", "(IIII)I"⟩
abbrev k_Mod_appendLink : g_M := (prog_17_method_41_code, 6, "CircuitDeskModel", 12, (some FieldType.int), "appendLink", [], 0)
theorem d_Mod_appendLink_0 : decode prog_17_method_41_code 0 = .ok (.bipush 24, 2) := by decide +kernel
theorem d_Mod_appendLink_2 : decode prog_17_method_41_code 2 = .ok (.iconst 5, 1) := by decide +kernel
theorem d_Mod_appendLink_3 : decode prog_17_method_41_code 3 = .ok (.aload_n 0, 1) := by decide +kernel
theorem d_Mod_appendLink_4 : decode prog_17_method_41_code 4 = .ok (.getfield 7, 3) := by decide +kernel
theorem d_Mod_appendLink_7 : decode prog_17_method_41_code 7 = .ok (.iconst 3, 1) := by decide +kernel
theorem d_Mod_appendLink_8 : decode prog_17_method_41_code 8 = .ok (.iaload, 1) := by decide +kernel
theorem d_Mod_appendLink_9 : decode prog_17_method_41_code 9 = .ok (.imul, 1) := by decide +kernel
theorem d_Mod_appendLink_10 : decode prog_17_method_41_code 10 = .ok (.iadd, 1) := by decide +kernel
theorem d_Mod_appendLink_11 : decode prog_17_method_41_code 11 = .ok (.istore 5, 2) := by decide +kernel
theorem d_Mod_appendLink_13 : decode prog_17_method_41_code 13 = .ok (.aload_n 0, 1) := by decide +kernel
theorem d_Mod_appendLink_14 : decode prog_17_method_41_code 14 = .ok (.getfield 7, 3) := by decide +kernel
theorem d_Mod_appendLink_17 : decode prog_17_method_41_code 17 = .ok (.iload 5, 2) := by decide +kernel
theorem d_Mod_appendLink_19 : decode prog_17_method_41_code 19 = .ok (.iconst 0, 1) := by decide +kernel
theorem d_Mod_appendLink_20 : decode prog_17_method_41_code 20 = .ok (.iadd, 1) := by decide +kernel
theorem d_Mod_appendLink_21 : decode prog_17_method_41_code 21 = .ok (.iload_n 1, 1) := by decide +kernel
theorem d_Mod_appendLink_22 : decode prog_17_method_41_code 22 = .ok (.iastore, 1) := by decide +kernel
theorem d_Mod_appendLink_23 : decode prog_17_method_41_code 23 = .ok (.aload_n 0, 1) := by decide +kernel
theorem d_Mod_appendLink_24 : decode prog_17_method_41_code 24 = .ok (.getfield 7, 3) := by decide +kernel
theorem d_Mod_appendLink_27 : decode prog_17_method_41_code 27 = .ok (.iload 5, 2) := by decide +kernel
theorem d_Mod_appendLink_29 : decode prog_17_method_41_code 29 = .ok (.iconst 1, 1) := by decide +kernel
theorem d_Mod_appendLink_30 : decode prog_17_method_41_code 30 = .ok (.iadd, 1) := by decide +kernel
theorem d_Mod_appendLink_31 : decode prog_17_method_41_code 31 = .ok (.iload_n 2, 1) := by decide +kernel
theorem d_Mod_appendLink_32 : decode prog_17_method_41_code 32 = .ok (.iastore, 1) := by decide +kernel
theorem d_Mod_appendLink_33 : decode prog_17_method_41_code 33 = .ok (.aload_n 0, 1) := by decide +kernel
theorem d_Mod_appendLink_34 : decode prog_17_method_41_code 34 = .ok (.getfield 7, 3) := by decide +kernel
theorem d_Mod_appendLink_37 : decode prog_17_method_41_code 37 = .ok (.iload 5, 2) := by decide +kernel
theorem d_Mod_appendLink_39 : decode prog_17_method_41_code 39 = .ok (.iconst 2, 1) := by decide +kernel
theorem d_Mod_appendLink_40 : decode prog_17_method_41_code 40 = .ok (.iadd, 1) := by decide +kernel
theorem d_Mod_appendLink_41 : decode prog_17_method_41_code 41 = .ok (.iload_n 3, 1) := by decide +kernel
theorem d_Mod_appendLink_42 : decode prog_17_method_41_code 42 = .ok (.iastore, 1) := by decide +kernel
theorem d_Mod_appendLink_43 : decode prog_17_method_41_code 43 = .ok (.aload_n 0, 1) := by decide +kernel
theorem d_Mod_appendLink_44 : decode prog_17_method_41_code 44 = .ok (.getfield 7, 3) := by decide +kernel
theorem d_Mod_appendLink_47 : decode prog_17_method_41_code 47 = .ok (.iload 5, 2) := by decide +kernel
theorem d_Mod_appendLink_49 : decode prog_17_method_41_code 49 = .ok (.iconst 3, 1) := by decide +kernel
theorem d_Mod_appendLink_50 : decode prog_17_method_41_code 50 = .ok (.iadd, 1) := by decide +kernel
theorem d_Mod_appendLink_51 : decode prog_17_method_41_code 51 = .ok (.iload 4, 2) := by decide +kernel
theorem d_Mod_appendLink_53 : decode prog_17_method_41_code 53 = .ok (.iastore, 1) := by decide +kernel
theorem d_Mod_appendLink_54 : decode prog_17_method_41_code 54 = .ok (.aload_n 0, 1) := by decide +kernel
theorem d_Mod_appendLink_55 : decode prog_17_method_41_code 55 = .ok (.getfield 7, 3) := by decide +kernel
theorem d_Mod_appendLink_58 : decode prog_17_method_41_code 58 = .ok (.iload 5, 2) := by decide +kernel
theorem d_Mod_appendLink_60 : decode prog_17_method_41_code 60 = .ok (.iconst 4, 1) := by decide +kernel
theorem d_Mod_appendLink_61 : decode prog_17_method_41_code 61 = .ok (.iadd, 1) := by decide +kernel
theorem d_Mod_appendLink_62 : decode prog_17_method_41_code 62 = .ok (.iconst 1, 1) := by decide +kernel
theorem d_Mod_appendLink_63 : decode prog_17_method_41_code 63 = .ok (.iastore, 1) := by decide +kernel
theorem d_Mod_appendLink_64 : decode prog_17_method_41_code 64 = .ok (.aload_n 0, 1) := by decide +kernel
theorem d_Mod_appendLink_65 : decode prog_17_method_41_code 65 = .ok (.getfield 7, 3) := by decide +kernel
theorem d_Mod_appendLink_68 : decode prog_17_method_41_code 68 = .ok (.iconst 3, 1) := by decide +kernel
theorem d_Mod_appendLink_69 : decode prog_17_method_41_code 69 = .ok (.dup2, 1) := by decide +kernel
theorem d_Mod_appendLink_70 : decode prog_17_method_41_code 70 = .ok (.iaload, 1) := by decide +kernel
theorem d_Mod_appendLink_71 : decode prog_17_method_41_code 71 = .ok (.iconst 1, 1) := by decide +kernel
theorem d_Mod_appendLink_72 : decode prog_17_method_41_code 72 = .ok (.iadd, 1) := by decide +kernel
theorem d_Mod_appendLink_73 : decode prog_17_method_41_code 73 = .ok (.iastore, 1) := by decide +kernel
theorem d_Mod_appendLink_74 : decode prog_17_method_41_code 74 = .ok (.aload_n 0, 1) := by decide +kernel
theorem d_Mod_appendLink_75 : decode prog_17_method_41_code 75 = .ok (.getfield 7, 3) := by decide +kernel
theorem d_Mod_appendLink_78 : decode prog_17_method_41_code 78 = .ok (.iconst 3, 1) := by decide +kernel
theorem d_Mod_appendLink_79 : decode prog_17_method_41_code 79 = .ok (.iaload, 1) := by decide +kernel
theorem d_Mod_appendLink_80 : decode prog_17_method_41_code 80 = .ok (.iconst 1, 1) := by decide +kernel
theorem d_Mod_appendLink_81 : decode prog_17_method_41_code 81 = .ok (.isub, 1) := by decide +kernel
theorem d_Mod_appendLink_82 : decode prog_17_method_41_code 82 = .ok (.ireturn, 1) := by decide +kernel
def Mod_appendLink (M : g_MD) (p0 : Int32) (p1 : Int32) (p2 : Int32) (p3 : Int32) : Option (Int32 × g_MD) :=
  g_mA M 0 0 (3 : Int32) fun x1 => g_mS M 0 0 (((24 : Int32) + ((5 : Int32) * x1)) + (0 : Int32)) p0 fun M3 => g_mS M3 0 0 (((24 : Int32) + ((5 : Int32) * x1)) + (1 : Int32)) p1 fun M5 => g_mS M5 0 0 (((24 : Int32) + ((5 : Int32) * x1)) + (2 : Int32)) p2 fun M7 => g_mS M7 0 0 (((24 : Int32) + ((5 : Int32) * x1)) + (3 : Int32)) p3 fun M9 => g_mS M9 0 0 (((24 : Int32) + ((5 : Int32) * x1)) + (4 : Int32)) (1 : Int32) fun M11 => g_mA M11 0 0 (3 : Int32) fun x13 => g_mS M11 0 0 (3 : Int32) (x13 + (1 : Int32)) fun M15 => g_mA M15 0 0 (3 : Int32) fun x17 => some ((x17 - (1 : Int32)), M15)
set_option maxHeartbeats 4000000 in
set_option maxRecDepth 100000 in
theorem T_Mod_appendLink {l : Launch} {B : g_B} {h0 : g_AH} {a0 : Nat} {ad : Nat → Nat} (ok : mOK a0 ad) (M : g_MD) (p0 : Int32) (p1 : Int32) (p2 : Int32) (p3 : Int32) (z : Int32 × g_MD) (hy : Mod_appendLink M p0 p1 p2 p3 = some z) : g_CT l B y_Mod_appendLink k_Mod_appendLink [.ref a0, .int p0, .int p1, .int p2, .int p3] (mH h0 a0 ad M) (.inl (some (.int z.1))) (mH h0 a0 ad z.2) := by
  refine g_start2 (Lc := [(0, .ref a0), (1, .int p0), (2, .int p1), (3, .int p2), (4, .int p3)]) (by decide) rfl rfl (by exact Nat.le_of_ble_eq_true rfl) (by rfl) fun X => ?_
  unfold Mod_appendLink at hy
  refine g_bipush (v := (24 : Int32)) (pc' := 2) d_Mod_appendLink_0 (by decide) rfl ?_
  refine g_iconst (v := (5 : Int32)) (pc' := 3) d_Mod_appendLink_2 (by decide) rfl ?_
  refine g_aload_n 0 (i := 0) (pc' := 4) d_Mod_appendLink_3 rfl rfl rfl ?_
  refine gm_getA ok 0 (pc' := 7) d_Mod_appendLink_4 rfl q1965 rfl rfl ?_
  refine g_iconst (v := (3 : Int32)) (pc' := 8) d_Mod_appendLink_7 (by decide) rfl ?_
  replace hy := g_mA_inv hy
  obtain ⟨x1, hc2, hy⟩ := hy
  refine gm_ald0 ok (pc' := 9) d_Mod_appendLink_8 hc2 rfl ?_
  refine g_imul (pc' := 10) d_Mod_appendLink_9 rfl ?_
  refine g_iadd (pc' := 11) d_Mod_appendLink_10 rfl ?_
  refine g_istore (pc' := 13) (Lc' := [(5, .int ((24 : Int32) + ((5 : Int32) * x1))), (0, .ref a0), (1, .int p0), (2, .int p1), (3, .int p2), (4, .int p3)]) d_Mod_appendLink_11 (by decide) rfl rfl ?_
  refine g_aload_n 1 (i := 0) (pc' := 14) d_Mod_appendLink_13 rfl rfl rfl ?_
  refine gm_getA ok 0 (pc' := 17) d_Mod_appendLink_14 rfl q1965 rfl rfl ?_
  refine g_iload 0 (pc' := 19) d_Mod_appendLink_17 rfl rfl ?_
  refine g_iconst (v := (0 : Int32)) (pc' := 20) d_Mod_appendLink_19 (by decide) rfl ?_
  refine g_iadd (pc' := 21) d_Mod_appendLink_20 rfl ?_
  refine g_iload_n 2 (i := 1) (pc' := 22) d_Mod_appendLink_21 rfl rfl rfl ?_
  replace hy := g_mS_inv hy
  obtain ⟨hc4, hy⟩ := hy
  refine gm_ast0 ok (pc' := 23) d_Mod_appendLink_22 hc4 rfl ?_
  generalize ms M 0 ((((24 : Int32) + ((5 : Int32) * x1)) + (0 : Int32))).toNatClampNeg p0 = M3 at hy ⊢
  refine g_aload_n 1 (i := 0) (pc' := 24) d_Mod_appendLink_23 rfl rfl rfl ?_
  refine gm_getA ok 0 (pc' := 27) d_Mod_appendLink_24 rfl q1965 rfl rfl ?_
  refine g_iload 0 (pc' := 29) d_Mod_appendLink_27 rfl rfl ?_
  refine g_iconst (v := (1 : Int32)) (pc' := 30) d_Mod_appendLink_29 (by decide) rfl ?_
  refine g_iadd (pc' := 31) d_Mod_appendLink_30 rfl ?_
  refine g_iload_n 3 (i := 2) (pc' := 32) d_Mod_appendLink_31 rfl rfl rfl ?_
  replace hy := g_mS_inv hy
  obtain ⟨hc6, hy⟩ := hy
  refine gm_ast0 ok (pc' := 33) d_Mod_appendLink_32 hc6 rfl ?_
  generalize ms M3 0 ((((24 : Int32) + ((5 : Int32) * x1)) + (1 : Int32))).toNatClampNeg p1 = M5 at hy ⊢
  refine g_aload_n 1 (i := 0) (pc' := 34) d_Mod_appendLink_33 rfl rfl rfl ?_
  refine gm_getA ok 0 (pc' := 37) d_Mod_appendLink_34 rfl q1965 rfl rfl ?_
  refine g_iload 0 (pc' := 39) d_Mod_appendLink_37 rfl rfl ?_
  refine g_iconst (v := (2 : Int32)) (pc' := 40) d_Mod_appendLink_39 (by decide) rfl ?_
  refine g_iadd (pc' := 41) d_Mod_appendLink_40 rfl ?_
  refine g_iload_n 4 (i := 3) (pc' := 42) d_Mod_appendLink_41 rfl rfl rfl ?_
  replace hy := g_mS_inv hy
  obtain ⟨hc8, hy⟩ := hy
  refine gm_ast0 ok (pc' := 43) d_Mod_appendLink_42 hc8 rfl ?_
  generalize ms M5 0 ((((24 : Int32) + ((5 : Int32) * x1)) + (2 : Int32))).toNatClampNeg p2 = M7 at hy ⊢
  refine g_aload_n 1 (i := 0) (pc' := 44) d_Mod_appendLink_43 rfl rfl rfl ?_
  refine gm_getA ok 0 (pc' := 47) d_Mod_appendLink_44 rfl q1965 rfl rfl ?_
  refine g_iload 0 (pc' := 49) d_Mod_appendLink_47 rfl rfl ?_
  refine g_iconst (v := (3 : Int32)) (pc' := 50) d_Mod_appendLink_49 (by decide) rfl ?_
  refine g_iadd (pc' := 51) d_Mod_appendLink_50 rfl ?_
  refine g_iload 5 (pc' := 53) d_Mod_appendLink_51 rfl rfl ?_
  replace hy := g_mS_inv hy
  obtain ⟨hc10, hy⟩ := hy
  refine gm_ast0 ok (pc' := 54) d_Mod_appendLink_53 hc10 rfl ?_
  generalize ms M7 0 ((((24 : Int32) + ((5 : Int32) * x1)) + (3 : Int32))).toNatClampNeg p3 = M9 at hy ⊢
  refine g_aload_n 1 (i := 0) (pc' := 55) d_Mod_appendLink_54 rfl rfl rfl ?_
  refine gm_getA ok 0 (pc' := 58) d_Mod_appendLink_55 rfl q1965 rfl rfl ?_
  refine g_iload 0 (pc' := 60) d_Mod_appendLink_58 rfl rfl ?_
  refine g_iconst (v := (4 : Int32)) (pc' := 61) d_Mod_appendLink_60 (by decide) rfl ?_
  refine g_iadd (pc' := 62) d_Mod_appendLink_61 rfl ?_
  refine g_iconst (v := (1 : Int32)) (pc' := 63) d_Mod_appendLink_62 (by decide) rfl ?_
  replace hy := g_mS_inv hy
  obtain ⟨hc12, hy⟩ := hy
  refine gm_ast0 ok (pc' := 64) d_Mod_appendLink_63 hc12 rfl ?_
  generalize ms M9 0 ((((24 : Int32) + ((5 : Int32) * x1)) + (4 : Int32))).toNatClampNeg (1 : Int32) = M11 at hy ⊢
  refine g_aload_n 1 (i := 0) (pc' := 65) d_Mod_appendLink_64 rfl rfl rfl ?_
  refine gm_getA ok 0 (pc' := 68) d_Mod_appendLink_65 rfl q1965 rfl rfl ?_
  refine g_iconst (v := (3 : Int32)) (pc' := 69) d_Mod_appendLink_68 (by decide) rfl ?_
  refine g_dup2 (pc' := 70) d_Mod_appendLink_69 rfl rfl rfl ?_
  replace hy := g_mA_inv hy
  obtain ⟨x13, hc14, hy⟩ := hy
  refine gm_ald0 ok (pc' := 71) d_Mod_appendLink_70 hc14 rfl ?_
  refine g_iconst (v := (1 : Int32)) (pc' := 72) d_Mod_appendLink_71 (by decide) rfl ?_
  refine g_iadd (pc' := 73) d_Mod_appendLink_72 rfl ?_
  replace hy := g_mS_inv hy
  obtain ⟨hc16, hy⟩ := hy
  refine gm_ast0 ok (pc' := 74) d_Mod_appendLink_73 hc16 rfl ?_
  generalize ms M11 0 ((3 : Int32)).toNatClampNeg (x13 + (1 : Int32)) = M15 at hy ⊢
  refine g_aload_n 1 (i := 0) (pc' := 75) d_Mod_appendLink_74 rfl rfl rfl ?_
  refine gm_getA ok 0 (pc' := 78) d_Mod_appendLink_75 rfl q1965 rfl rfl ?_
  refine g_iconst (v := (3 : Int32)) (pc' := 79) d_Mod_appendLink_78 (by decide) rfl ?_
  replace hy := g_mA_inv hy
  obtain ⟨x17, hc18, hy⟩ := hy
  refine gm_ald0 ok (pc' := 80) d_Mod_appendLink_79 hc18 rfl ?_
  refine g_iconst (v := (1 : Int32)) (pc' := 81) d_Mod_appendLink_80 (by decide) rfl ?_
  refine g_isub (pc' := 82) d_Mod_appendLink_81 rfl ?_
  cases hy
  exact g_iret rfl rfl rfl d_Mod_appendLink_82
theorem hd_Mod_appendLink : g_dsc y_Mod_appendLink 4 := ⟨by decide +kernel, by decide +kernel, by decide +kernel⟩
/-! CircuitDeskModel.parseLink()V -/
abbrev y_Mod_parseLink : MethodName := ⟨"CircuitDeskModel", "parseLink", "()V"⟩
abbrev k_Mod_parseLink : g_M := (prog_17_method_29_code, 6, "CircuitDeskModel", 17, none, "parseLink", [], 0)
theorem d_Mod_parseLink_0 : decode prog_17_method_29_code 0 = .ok (.aload_n 0, 1) := by decide +kernel
theorem d_Mod_parseLink_1 : decode prog_17_method_29_code 1 = .ok (.aload_n 0, 1) := by decide +kernel
theorem d_Mod_parseLink_2 : decode prog_17_method_29_code 2 = .ok (.getfield 7, 3) := by decide +kernel
theorem d_Mod_parseLink_5 : decode prog_17_method_29_code 5 = .ok (.iconst 3, 1) := by decide +kernel
theorem d_Mod_parseLink_6 : decode prog_17_method_29_code 6 = .ok (.iaload, 1) := by decide +kernel
theorem d_Mod_parseLink_7 : decode prog_17_method_29_code 7 = .ok (.bipush 16, 2) := by decide +kernel
theorem d_Mod_parseLink_9 : decode prog_17_method_29_code 9 = .ok (.if_icmp .ge 7, 3) := by decide +kernel
theorem d_Mod_parseLink_12 : decode prog_17_method_29_code 12 = .ok (.iconst 1, 1) := by decide +kernel
theorem d_Mod_parseLink_13 : decode prog_17_method_29_code 13 = .ok (.goto 4, 3) := by decide +kernel
theorem d_Mod_parseLink_16 : decode prog_17_method_29_code 16 = .ok (.iconst 0, 1) := by decide +kernel
theorem d_Mod_parseLink_17 : decode prog_17_method_29_code 17 = .ok (.iconst 3, 1) := by decide +kernel
theorem d_Mod_parseLink_18 : decode prog_17_method_29_code 18 = .ok (.invokevirtual 119, 3) := by decide +kernel
theorem d_Mod_parseLink_21 : decode prog_17_method_29_code 21 = .ok (.aload_n 0, 1) := by decide +kernel
theorem d_Mod_parseLink_22 : decode prog_17_method_29_code 22 = .ok (.invokevirtual 127, 3) := by decide +kernel
theorem d_Mod_parseLink_25 : decode prog_17_method_29_code 25 = .ok (.aload_n 0, 1) := by decide +kernel
theorem d_Mod_parseLink_26 : decode prog_17_method_29_code 26 = .ok (.iconst 0, 1) := by decide +kernel
theorem d_Mod_parseLink_27 : decode prog_17_method_29_code 27 = .ok (.aload_n 0, 1) := by decide +kernel
theorem d_Mod_parseLink_28 : decode prog_17_method_29_code 28 = .ok (.getfield 7, 3) := by decide +kernel
theorem d_Mod_parseLink_31 : decode prog_17_method_29_code 31 = .ok (.iconst 2, 1) := by decide +kernel
theorem d_Mod_parseLink_32 : decode prog_17_method_29_code 32 = .ok (.iaload, 1) := by decide +kernel
theorem d_Mod_parseLink_33 : decode prog_17_method_29_code 33 = .ok (.iconst 1, 1) := by decide +kernel
theorem d_Mod_parseLink_34 : decode prog_17_method_29_code 34 = .ok (.isub, 1) := by decide +kernel
theorem d_Mod_parseLink_35 : decode prog_17_method_29_code 35 = .ok (.invokevirtual 130, 3) := by decide +kernel
theorem d_Mod_parseLink_38 : decode prog_17_method_29_code 38 = .ok (.istore_n 1, 1) := by decide +kernel
theorem d_Mod_parseLink_39 : decode prog_17_method_29_code 39 = .ok (.aload_n 0, 1) := by decide +kernel
theorem d_Mod_parseLink_40 : decode prog_17_method_29_code 40 = .ok (.iconst 0, 1) := by decide +kernel
theorem d_Mod_parseLink_41 : decode prog_17_method_29_code 41 = .ok (.aload_n 0, 1) := by decide +kernel
theorem d_Mod_parseLink_42 : decode prog_17_method_29_code 42 = .ok (.getfield 7, 3) := by decide +kernel
theorem d_Mod_parseLink_45 : decode prog_17_method_29_code 45 = .ok (.iconst 2, 1) := by decide +kernel
theorem d_Mod_parseLink_46 : decode prog_17_method_29_code 46 = .ok (.iaload, 1) := by decide +kernel
theorem d_Mod_parseLink_47 : decode prog_17_method_29_code 47 = .ok (.iconst 1, 1) := by decide +kernel
theorem d_Mod_parseLink_48 : decode prog_17_method_29_code 48 = .ok (.isub, 1) := by decide +kernel
theorem d_Mod_parseLink_49 : decode prog_17_method_29_code 49 = .ok (.invokevirtual 123, 3) := by decide +kernel
theorem d_Mod_parseLink_52 : decode prog_17_method_29_code 52 = .ok (.aload_n 0, 1) := by decide +kernel
theorem d_Mod_parseLink_53 : decode prog_17_method_29_code 53 = .ok (.getfield 81, 3) := by decide +kernel
theorem d_Mod_parseLink_56 : decode prog_17_method_29_code 56 = .ok (.istore_n 2, 1) := by decide +kernel
theorem d_Mod_parseLink_57 : decode prog_17_method_29_code 57 = .ok (.aload_n 0, 1) := by decide +kernel
theorem d_Mod_parseLink_58 : decode prog_17_method_29_code 58 = .ok (.iload_n 1, 1) := by decide +kernel
theorem d_Mod_parseLink_59 : decode prog_17_method_29_code 59 = .ok (.iload_n 2, 1) := by decide +kernel
theorem d_Mod_parseLink_60 : decode prog_17_method_29_code 60 = .ok (.if_icmp .eq 17, 3) := by decide +kernel
theorem d_Mod_parseLink_63 : decode prog_17_method_29_code 63 = .ok (.aload_n 0, 1) := by decide +kernel
theorem d_Mod_parseLink_64 : decode prog_17_method_29_code 64 = .ok (.iload_n 1, 1) := by decide +kernel
theorem d_Mod_parseLink_65 : decode prog_17_method_29_code 65 = .ok (.iload_n 2, 1) := by decide +kernel
theorem d_Mod_parseLink_66 : decode prog_17_method_29_code 66 = .ok (.invokevirtual 137, 3) := by decide +kernel
theorem d_Mod_parseLink_69 : decode prog_17_method_29_code 69 = .ok (.iconst (-1), 1) := by decide +kernel
theorem d_Mod_parseLink_70 : decode prog_17_method_29_code 70 = .ok (.if_icmp .ne 7, 3) := by decide +kernel
theorem d_Mod_parseLink_73 : decode prog_17_method_29_code 73 = .ok (.iconst 1, 1) := by decide +kernel
theorem d_Mod_parseLink_74 : decode prog_17_method_29_code 74 = .ok (.goto 4, 3) := by decide +kernel
theorem d_Mod_parseLink_77 : decode prog_17_method_29_code 77 = .ok (.iconst 0, 1) := by decide +kernel
theorem d_Mod_parseLink_78 : decode prog_17_method_29_code 78 = .ok (.iconst 4, 1) := by decide +kernel
theorem d_Mod_parseLink_79 : decode prog_17_method_29_code 79 = .ok (.invokevirtual 119, 3) := by decide +kernel
theorem d_Mod_parseLink_82 : decode prog_17_method_29_code 82 = .ok (.aload_n 0, 1) := by decide +kernel
theorem d_Mod_parseLink_83 : decode prog_17_method_29_code 83 = .ok (.invokevirtual 127, 3) := by decide +kernel
theorem d_Mod_parseLink_86 : decode prog_17_method_29_code 86 = .ok (.aload_n 0, 1) := by decide +kernel
theorem d_Mod_parseLink_87 : decode prog_17_method_29_code 87 = .ok (.iconst 1, 1) := by decide +kernel
theorem d_Mod_parseLink_88 : decode prog_17_method_29_code 88 = .ok (.bipush 99, 2) := by decide +kernel
theorem d_Mod_parseLink_90 : decode prog_17_method_29_code 90 = .ok (.invokevirtual 130, 3) := by decide +kernel
theorem d_Mod_parseLink_93 : decode prog_17_method_29_code 93 = .ok (.istore_n 3, 1) := by decide +kernel
theorem d_Mod_parseLink_94 : decode prog_17_method_29_code 94 = .ok (.aload_n 0, 1) := by decide +kernel
theorem d_Mod_parseLink_95 : decode prog_17_method_29_code 95 = .ok (.iconst 1, 1) := by decide +kernel
theorem d_Mod_parseLink_96 : decode prog_17_method_29_code 96 = .ok (.bipush 9, 2) := by decide +kernel
theorem d_Mod_parseLink_98 : decode prog_17_method_29_code 98 = .ok (.invokevirtual 130, 3) := by decide +kernel
theorem d_Mod_parseLink_101 : decode prog_17_method_29_code 101 = .ok (.istore 4, 2) := by decide +kernel
theorem d_Mod_parseLink_103 : decode prog_17_method_29_code 103 = .ok (.aload_n 0, 1) := by decide +kernel
theorem d_Mod_parseLink_104 : decode prog_17_method_29_code 104 = .ok (.invokevirtual 112, 3) := by decide +kernel
theorem d_Mod_parseLink_107 : decode prog_17_method_29_code 107 = .ok (.ifCond .eq 14, 3) := by decide +kernel
theorem d_Mod_parseLink_110 : decode prog_17_method_29_code 110 = .ok (.aload_n 0, 1) := by decide +kernel
theorem d_Mod_parseLink_111 : decode prog_17_method_29_code 111 = .ok (.iload_n 1, 1) := by decide +kernel
theorem d_Mod_parseLink_112 : decode prog_17_method_29_code 112 = .ok (.iload_n 2, 1) := by decide +kernel
theorem d_Mod_parseLink_113 : decode prog_17_method_29_code 113 = .ok (.iload_n 3, 1) := by decide +kernel
theorem d_Mod_parseLink_114 : decode prog_17_method_29_code 114 = .ok (.iload 4, 2) := by decide +kernel
theorem d_Mod_parseLink_116 : decode prog_17_method_29_code 116 = .ok (.invokevirtual 140, 3) := by decide +kernel
theorem d_Mod_parseLink_119 : decode prog_17_method_29_code 119 = .ok (.istore 5, 2) := by decide +kernel
theorem d_Mod_parseLink_121 : decode prog_17_method_29_code 121 = .ok (.return_, 1) := by decide +kernel
def Mod_parseLink_78 (M : g_MD) (v1 : Int32) (v2 : Int32) (s0 : Int32) : Option g_MD :=
  g_b (Mod_require M s0 (4 : Int32)) fun M22 => g_b (Mod_advance M22) fun M25 => g_bM (Mod_parseNumber M25 (1 : Int32) (99 : Int32)) fun x27 M28 => g_bM (Mod_parseNumber M28 (1 : Int32) (9 : Int32)) fun x30 M31 => g_b (Mod_isFine M31) fun x33 => if x33 = 0 then (some M31) else (g_bM (Mod_appendLink M31 v1 v2 x27 x30) fun x37 M38 => some M38)
set_option maxHeartbeats 4000000 in
set_option maxRecDepth 100000 in
theorem W_Mod_parseLink_78 {X : g_X} {h0 : g_AH} {a0 : Nat} {ad : Nat → Nat} (ok : mOK a0 ad) (z : g_MD) (M : g_MD) (v1 : Int32) (v2 : Int32) (s0 : Int32) (hy : Mod_parseLink_78  M v1 v2 s0 = some z) : G X k_Mod_parseLink (.inl none) (mH h0 a0 ad z) (mH h0 a0 ad M) 78 [(0, .ref a0), (1, .int v1), (2, .int v2)] [.int s0, .ref a0] := by
  unfold Mod_parseLink_78 at hy
  refine g_iconst (v := (4 : Int32)) (pc' := 79) d_Mod_parseLink_78 (by decide) rfl ?_
  replace hy := g_b_inv hy
  obtain ⟨M22, hf23, hy⟩ := hy
  refine g_callV (rv := none) (h1 := (mH h0 a0 ad M22)) (pc' := 82) (As := [.int s0, .int (4 : Int32)]) (rest := []) 2 (T_Mod_require ok (hy := hf23)) d_Mod_parseLink_79 (mH_look ok) rfl rfl q2125 q2127 qs38 q135 q2128 hd_Mod_require rfl ⟨by decide, by decide⟩ (by first | exact Nat.le_of_ble_eq_true rfl | (simp only [List.map, List.sum_cons, List.sum_nil, g_cat_rf]; exact Nat.le_of_ble_eq_true rfl) | (simp only [List.map, List.sum_cons, List.sum_nil, g_cat_rf, Value.category]; decide)) rfl ?_
  refine g_aload_n 0 (i := 0) (pc' := 83) d_Mod_parseLink_82 rfl rfl rfl ?_
  replace hy := g_b_inv hy
  obtain ⟨M25, hf26, hy⟩ := hy
  refine g_callV (rv := none) (h1 := (mH h0 a0 ad M25)) (pc' := 86) (As := []) (rest := []) 0 (T_Mod_advance ok (hy := hf26)) d_Mod_parseLink_83 (mH_look ok) rfl rfl q2129 q2131 qs39 q135 q2132 hd_Mod_advance rfl ⟨by decide, by decide⟩ (by first | exact Nat.le_of_ble_eq_true rfl | (simp only [List.map, List.sum_cons, List.sum_nil, g_cat_rf]; exact Nat.le_of_ble_eq_true rfl) | (simp only [List.map, List.sum_cons, List.sum_nil, g_cat_rf, Value.category]; decide)) rfl ?_
  refine g_aload_n 0 (i := 0) (pc' := 87) d_Mod_parseLink_86 rfl rfl rfl ?_
  refine g_iconst (v := (1 : Int32)) (pc' := 88) d_Mod_parseLink_87 (by decide) rfl ?_
  refine g_bipush (v := (99 : Int32)) (pc' := 90) d_Mod_parseLink_88 (by decide) rfl ?_
  replace hy := g_bM_inv hy
  obtain ⟨x27, M28, hf29, hy⟩ := hy
  refine g_callV (rv := some (.int x27)) (h1 := (mH h0 a0 ad M28)) (pc' := 93) (As := [.int (1 : Int32), .int (99 : Int32)]) (rest := []) 2 (T_Mod_parseNumber ok (hy := hf29)) d_Mod_parseLink_90 (mH_look ok) rfl rfl q2133 q2135 qs40 q135 q2136 hd_Mod_parseNumber rfl ⟨by decide, by decide⟩ (by first | exact Nat.le_of_ble_eq_true rfl | (simp only [List.map, List.sum_cons, List.sum_nil, g_cat_rf]; exact Nat.le_of_ble_eq_true rfl) | (simp only [List.map, List.sum_cons, List.sum_nil, g_cat_rf, Value.category]; decide)) rfl ?_
  refine g_istore_n (i := 3) (pc' := 94) (Lc' := [(3, .int x27), (0, .ref a0), (1, .int v1), (2, .int v2)]) d_Mod_parseLink_93 rfl (by decide) rfl rfl ?_
  refine g_aload_n 1 (i := 0) (pc' := 95) d_Mod_parseLink_94 rfl rfl rfl ?_
  refine g_iconst (v := (1 : Int32)) (pc' := 96) d_Mod_parseLink_95 (by decide) rfl ?_
  refine g_bipush (v := (9 : Int32)) (pc' := 98) d_Mod_parseLink_96 (by decide) rfl ?_
  replace hy := g_bM_inv hy
  obtain ⟨x30, M31, hf32, hy⟩ := hy
  refine g_callV (rv := some (.int x30)) (h1 := (mH h0 a0 ad M31)) (pc' := 101) (As := [.int (1 : Int32), .int (9 : Int32)]) (rest := []) 2 (T_Mod_parseNumber ok (hy := hf32)) d_Mod_parseLink_98 (mH_look ok) rfl rfl q2133 q2135 qs40 q135 q2136 hd_Mod_parseNumber rfl ⟨by decide, by decide⟩ (by first | exact Nat.le_of_ble_eq_true rfl | (simp only [List.map, List.sum_cons, List.sum_nil, g_cat_rf]; exact Nat.le_of_ble_eq_true rfl) | (simp only [List.map, List.sum_cons, List.sum_nil, g_cat_rf, Value.category]; decide)) rfl ?_
  refine g_istore (pc' := 103) (Lc' := [(4, .int x30), (3, .int x27), (0, .ref a0), (1, .int v1), (2, .int v2)]) d_Mod_parseLink_101 (by decide) rfl rfl ?_
  refine g_aload_n 2 (i := 0) (pc' := 104) d_Mod_parseLink_103 rfl rfl rfl ?_
  replace hy := g_b_inv hy
  obtain ⟨x33, hf35, hy⟩ := hy
  refine g_callV (rv := some (.int x33)) (h1 := (mH h0 a0 ad M31)) (pc' := 107) (As := []) (rest := []) 0 (T_Mod_isFine ok (hy := hf35)) d_Mod_parseLink_104 (mH_look ok) rfl rfl q2096 q2098 qs34 q135 q2099 hd_Mod_isFine rfl ⟨by decide, by decide⟩ (by first | exact Nat.le_of_ble_eq_true rfl | (simp only [List.map, List.sum_cons, List.sum_nil, g_cat_rf]; exact Nat.le_of_ble_eq_true rfl) | (simp only [List.map, List.sum_cons, List.sum_nil, g_cat_rf, Value.category]; decide)) rfl ?_
  by_cases c36 : x33 = 0
  · rw [if_pos c36] at hy
    refine g_if_eqT (pc' := 121) d_Mod_parseLink_107 c36 (by decide) ?_
    cases hy
    exact g_vret rfl rfl rfl d_Mod_parseLink_121
  · rw [if_neg c36] at hy
    refine g_if_eqF (pc' := 110) d_Mod_parseLink_107 121 c36 (by decide) rfl ?_
    refine g_aload_n 2 (i := 0) (pc' := 111) d_Mod_parseLink_110 rfl rfl rfl ?_
    refine g_iload_n 3 (i := 1) (pc' := 112) d_Mod_parseLink_111 rfl rfl rfl ?_
    refine g_iload_n 4 (i := 2) (pc' := 113) d_Mod_parseLink_112 rfl rfl rfl ?_
    refine g_iload_n 1 (i := 3) (pc' := 114) d_Mod_parseLink_113 rfl rfl rfl ?_
    refine g_iload 0 (pc' := 116) d_Mod_parseLink_114 rfl rfl ?_
    replace hy := g_bM_inv hy
    obtain ⟨x37, M38, hf39, hy⟩ := hy
    refine g_callV (rv := some (.int x37)) (h1 := (mH h0 a0 ad M38)) (pc' := 119) (As := [.int v1, .int v2, .int x27, .int x30]) (rest := []) 4 (T_Mod_appendLink ok (hy := hf39)) d_Mod_parseLink_116 (mH_look ok) rfl rfl q2158 q2160 qs46 q135 q2161 hd_Mod_appendLink rfl ⟨by decide, by decide⟩ (by first | exact Nat.le_of_ble_eq_true rfl | (simp only [List.map, List.sum_cons, List.sum_nil, g_cat_rf]; exact Nat.le_of_ble_eq_true rfl) | (simp only [List.map, List.sum_cons, List.sum_nil, g_cat_rf, Value.category]; decide)) rfl ?_
    refine g_istore (pc' := 121) (Lc' := [(5, .int x37), (4, .int x30), (3, .int x27), (0, .ref a0), (1, .int v1), (2, .int v2)]) d_Mod_parseLink_119 (by decide) rfl rfl ?_
    cases hy
    exact g_vret rfl rfl rfl d_Mod_parseLink_121
def Mod_parseLink_77 (M : g_MD) (v1 : Int32) (v2 : Int32) : Option g_MD :=
  Mod_parseLink_78  M v1 v2 (0 : Int32)
set_option maxHeartbeats 4000000 in
set_option maxRecDepth 100000 in
theorem W_Mod_parseLink_77 {X : g_X} {h0 : g_AH} {a0 : Nat} {ad : Nat → Nat} (ok : mOK a0 ad) (z : g_MD) (M : g_MD) (v1 : Int32) (v2 : Int32) (hy : Mod_parseLink_77  M v1 v2 = some z) : G X k_Mod_parseLink (.inl none) (mH h0 a0 ad z) (mH h0 a0 ad M) 77 [(0, .ref a0), (1, .int v1), (2, .int v2)] [.ref a0] := by
  unfold Mod_parseLink_77 at hy
  refine g_iconst (v := (0 : Int32)) (pc' := 78) d_Mod_parseLink_77 (by decide) rfl ?_
  exact W_Mod_parseLink_78 ok _ _ _ _ _ hy
def Mod_parseLink_17 (M : g_MD) (s0 : Int32) : Option g_MD :=
  g_b (Mod_require M s0 (3 : Int32)) fun M5 => g_b (Mod_advance M5) fun M8 => g_mA M8 0 0 (2 : Int32) fun x10 => g_bM (Mod_parseNumber M8 (0 : Int32) (x10 - (1 : Int32))) fun x12 M13 => g_mA M13 0 0 (2 : Int32) fun x15 => g_b (Mod_look M13 (0 : Int32) (x15 - (1 : Int32))) fun M18 => if x12 = (M18.2.1 14) then (Mod_parseLink_77  M18 x12 (M18.2.1 14)) else (g_b (Mod_linkOf M18 x12 (M18.2.1 14)) fun x40 => if x40 = (-1 : Int32) then (Mod_parseLink_78  M18 x12 (M18.2.1 14) (1 : Int32)) else (Mod_parseLink_77  M18 x12 (M18.2.1 14)))
set_option maxHeartbeats 4000000 in
set_option maxRecDepth 100000 in
theorem W_Mod_parseLink_17 {X : g_X} {h0 : g_AH} {a0 : Nat} {ad : Nat → Nat} (ok : mOK a0 ad) (z : g_MD) (M : g_MD) (s0 : Int32) (hy : Mod_parseLink_17  M s0 = some z) : G X k_Mod_parseLink (.inl none) (mH h0 a0 ad z) (mH h0 a0 ad M) 17 [(0, .ref a0)] [.int s0, .ref a0] := by
  unfold Mod_parseLink_17 at hy
  refine g_iconst (v := (3 : Int32)) (pc' := 18) d_Mod_parseLink_17 (by decide) rfl ?_
  replace hy := g_b_inv hy
  obtain ⟨M5, hf6, hy⟩ := hy
  refine g_callV (rv := none) (h1 := (mH h0 a0 ad M5)) (pc' := 21) (As := [.int s0, .int (3 : Int32)]) (rest := []) 2 (T_Mod_require ok (hy := hf6)) d_Mod_parseLink_18 (mH_look ok) rfl rfl q2125 q2127 qs38 q135 q2128 hd_Mod_require rfl ⟨by decide, by decide⟩ (by first | exact Nat.le_of_ble_eq_true rfl | (simp only [List.map, List.sum_cons, List.sum_nil, g_cat_rf]; exact Nat.le_of_ble_eq_true rfl) | (simp only [List.map, List.sum_cons, List.sum_nil, g_cat_rf, Value.category]; decide)) rfl ?_
  refine g_aload_n 0 (i := 0) (pc' := 22) d_Mod_parseLink_21 rfl rfl rfl ?_
  replace hy := g_b_inv hy
  obtain ⟨M8, hf9, hy⟩ := hy
  refine g_callV (rv := none) (h1 := (mH h0 a0 ad M8)) (pc' := 25) (As := []) (rest := []) 0 (T_Mod_advance ok (hy := hf9)) d_Mod_parseLink_22 (mH_look ok) rfl rfl q2129 q2131 qs39 q135 q2132 hd_Mod_advance rfl ⟨by decide, by decide⟩ (by first | exact Nat.le_of_ble_eq_true rfl | (simp only [List.map, List.sum_cons, List.sum_nil, g_cat_rf]; exact Nat.le_of_ble_eq_true rfl) | (simp only [List.map, List.sum_cons, List.sum_nil, g_cat_rf, Value.category]; decide)) rfl ?_
  refine g_aload_n 0 (i := 0) (pc' := 26) d_Mod_parseLink_25 rfl rfl rfl ?_
  refine g_iconst (v := (0 : Int32)) (pc' := 27) d_Mod_parseLink_26 (by decide) rfl ?_
  refine g_aload_n 0 (i := 0) (pc' := 28) d_Mod_parseLink_27 rfl rfl rfl ?_
  refine gm_getA ok 0 (pc' := 31) d_Mod_parseLink_28 rfl q1965 rfl rfl ?_
  refine g_iconst (v := (2 : Int32)) (pc' := 32) d_Mod_parseLink_31 (by decide) rfl ?_
  replace hy := g_mA_inv hy
  obtain ⟨x10, hc11, hy⟩ := hy
  refine gm_ald0 ok (pc' := 33) d_Mod_parseLink_32 hc11 rfl ?_
  refine g_iconst (v := (1 : Int32)) (pc' := 34) d_Mod_parseLink_33 (by decide) rfl ?_
  refine g_isub (pc' := 35) d_Mod_parseLink_34 rfl ?_
  replace hy := g_bM_inv hy
  obtain ⟨x12, M13, hf14, hy⟩ := hy
  refine g_callV (rv := some (.int x12)) (h1 := (mH h0 a0 ad M13)) (pc' := 38) (As := [.int (0 : Int32), .int (x10 - (1 : Int32))]) (rest := []) 2 (T_Mod_parseNumber ok (hy := hf14)) d_Mod_parseLink_35 (mH_look ok) rfl rfl q2133 q2135 qs40 q135 q2136 hd_Mod_parseNumber rfl ⟨by decide, by decide⟩ (by first | exact Nat.le_of_ble_eq_true rfl | (simp only [List.map, List.sum_cons, List.sum_nil, g_cat_rf]; exact Nat.le_of_ble_eq_true rfl) | (simp only [List.map, List.sum_cons, List.sum_nil, g_cat_rf, Value.category]; decide)) rfl ?_
  refine g_istore_n (i := 1) (pc' := 39) (Lc' := [(1, .int x12), (0, .ref a0)]) d_Mod_parseLink_38 rfl (by decide) rfl rfl ?_
  refine g_aload_n 1 (i := 0) (pc' := 40) d_Mod_parseLink_39 rfl rfl rfl ?_
  refine g_iconst (v := (0 : Int32)) (pc' := 41) d_Mod_parseLink_40 (by decide) rfl ?_
  refine g_aload_n 1 (i := 0) (pc' := 42) d_Mod_parseLink_41 rfl rfl rfl ?_
  refine gm_getA ok 0 (pc' := 45) d_Mod_parseLink_42 rfl q1965 rfl rfl ?_
  refine g_iconst (v := (2 : Int32)) (pc' := 46) d_Mod_parseLink_45 (by decide) rfl ?_
  replace hy := g_mA_inv hy
  obtain ⟨x15, hc16, hy⟩ := hy
  refine gm_ald0 ok (pc' := 47) d_Mod_parseLink_46 hc16 rfl ?_
  refine g_iconst (v := (1 : Int32)) (pc' := 48) d_Mod_parseLink_47 (by decide) rfl ?_
  refine g_isub (pc' := 49) d_Mod_parseLink_48 rfl ?_
  replace hy := g_b_inv hy
  obtain ⟨M18, hf19, hy⟩ := hy
  refine g_callV (rv := none) (h1 := (mH h0 a0 ad M18)) (pc' := 52) (As := [.int (0 : Int32), .int (x15 - (1 : Int32))]) (rest := []) 2 (T_Mod_look ok (hy := hf19)) d_Mod_parseLink_49 (mH_look ok) rfl rfl q2137 q2139 qs41 q135 q2140 hd_Mod_look rfl ⟨by decide, by decide⟩ (by first | exact Nat.le_of_ble_eq_true rfl | (simp only [List.map, List.sum_cons, List.sum_nil, g_cat_rf]; exact Nat.le_of_ble_eq_true rfl) | (simp only [List.map, List.sum_cons, List.sum_nil, g_cat_rf, Value.category]; decide)) rfl ?_
  refine g_aload_n 1 (i := 0) (pc' := 53) d_Mod_parseLink_52 rfl rfl rfl ?_
  refine gm_getA ok 14 (pc' := 56) d_Mod_parseLink_53 rfl q1979 rfl rfl ?_
  refine g_istore_n (i := 2) (pc' := 57) (Lc' := [(2, .int (M18.2.1 14)), (1, .int x12), (0, .ref a0)]) d_Mod_parseLink_56 rfl (by decide) rfl rfl ?_
  refine g_aload_n 2 (i := 0) (pc' := 58) d_Mod_parseLink_57 rfl rfl rfl ?_
  refine g_iload_n 1 (i := 1) (pc' := 59) d_Mod_parseLink_58 rfl rfl rfl ?_
  refine g_iload_n 0 (i := 2) (pc' := 60) d_Mod_parseLink_59 rfl rfl rfl ?_
  by_cases c20 : x12 = (M18.2.1 14)
  · rw [if_pos c20] at hy
    refine g_icmp_eqT (pc' := 77) d_Mod_parseLink_60 c20 (by decide) ?_
    refine g_sub [2, 1, 0] rfl ?_
    exact W_Mod_parseLink_77 ok _ _ _ _ hy
  · rw [if_neg c20] at hy
    refine g_icmp_eqF (pc' := 63) d_Mod_parseLink_60 77 c20 (by decide) rfl ?_
    refine g_aload_n 2 (i := 0) (pc' := 64) d_Mod_parseLink_63 rfl rfl rfl ?_
    refine g_iload_n 1 (i := 1) (pc' := 65) d_Mod_parseLink_64 rfl rfl rfl ?_
    refine g_iload_n 0 (i := 2) (pc' := 66) d_Mod_parseLink_65 rfl rfl rfl ?_
    replace hy := g_b_inv hy
    obtain ⟨x40, hf42, hy⟩ := hy
    refine g_callV (rv := some (.int x40)) (h1 := (mH h0 a0 ad M18)) (pc' := 69) (As := [.int x12, .int (M18.2.1 14)]) (rest := [.ref a0]) 2 (T_Mod_linkOf ok (hy := hf42)) d_Mod_parseLink_66 (mH_look ok) rfl rfl q2150 q2152 qs44 q135 q2153 hd_Mod_linkOf rfl ⟨by decide, by decide⟩ (by first | exact Nat.le_of_ble_eq_true rfl | (simp only [List.map, List.sum_cons, List.sum_nil, g_cat_rf]; exact Nat.le_of_ble_eq_true rfl) | (simp only [List.map, List.sum_cons, List.sum_nil, g_cat_rf, Value.category]; decide)) rfl ?_
    refine g_iconst (v := (-1 : Int32)) (pc' := 70) d_Mod_parseLink_69 (by decide) rfl ?_
    by_cases c43 : x40 = (-1 : Int32)
    · rw [if_pos c43] at hy
      refine g_icmp_neF (pc' := 73) d_Mod_parseLink_70 77 c43 (by decide) rfl ?_
      refine g_iconst (v := (1 : Int32)) (pc' := 74) d_Mod_parseLink_73 (by decide) rfl ?_
      refine g_goto (pc' := 78) d_Mod_parseLink_74 (by decide) ?_
      refine g_sub [2, 1, 0] rfl ?_
      exact W_Mod_parseLink_78 ok _ _ _ _ _ hy
    · rw [if_neg c43] at hy
      refine g_icmp_neT (pc' := 77) d_Mod_parseLink_70 c43 (by decide) ?_
      refine g_sub [2, 1, 0] rfl ?_
      exact W_Mod_parseLink_77 ok _ _ _ _ hy
def Mod_parseLink (M : g_MD)  : Option g_MD :=
  g_mA M 0 0 (3 : Int32) fun x1 => if (16 : Int32) ≤ x1 then (Mod_parseLink_17  M (0 : Int32)) else (Mod_parseLink_17  M (1 : Int32))
set_option maxHeartbeats 4000000 in
set_option maxRecDepth 100000 in
theorem T_Mod_parseLink {l : Launch} {B : g_B} {h0 : g_AH} {a0 : Nat} {ad : Nat → Nat} (ok : mOK a0 ad) (M : g_MD)  (z : g_MD) (hy : Mod_parseLink M  = some z) : g_CT l B y_Mod_parseLink k_Mod_parseLink [.ref a0] (mH h0 a0 ad M) (.inl none) (mH h0 a0 ad z) := by
  refine g_start2 (Lc := [(0, .ref a0)]) (by decide) rfl rfl (by exact Nat.le_of_ble_eq_true rfl) (by rfl) fun X => ?_
  unfold Mod_parseLink at hy
  refine g_aload_n 0 (i := 0) (pc' := 1) d_Mod_parseLink_0 rfl rfl rfl ?_
  refine g_aload_n 0 (i := 0) (pc' := 2) d_Mod_parseLink_1 rfl rfl rfl ?_
  refine gm_getA ok 0 (pc' := 5) d_Mod_parseLink_2 rfl q1965 rfl rfl ?_
  refine g_iconst (v := (3 : Int32)) (pc' := 6) d_Mod_parseLink_5 (by decide) rfl ?_
  replace hy := g_mA_inv hy
  obtain ⟨x1, hc2, hy⟩ := hy
  refine gm_ald0 ok (pc' := 7) d_Mod_parseLink_6 hc2 rfl ?_
  refine g_bipush (v := (16 : Int32)) (pc' := 9) d_Mod_parseLink_7 (by decide) rfl ?_
  by_cases c3 : (16 : Int32) ≤ x1
  · rw [if_pos c3] at hy
    refine g_icmp_geT (pc' := 16) d_Mod_parseLink_9 c3 (by decide) ?_
    refine g_iconst (v := (0 : Int32)) (pc' := 17) d_Mod_parseLink_16 (by decide) rfl ?_
    exact W_Mod_parseLink_17 ok _ _ _ hy
  · rw [if_neg c3] at hy
    refine g_icmp_geF (pc' := 12) d_Mod_parseLink_9 16 c3 (by decide) rfl ?_
    refine g_iconst (v := (1 : Int32)) (pc' := 13) d_Mod_parseLink_12 (by decide) rfl ?_
    refine g_goto (pc' := 17) d_Mod_parseLink_13 (by decide) ?_
    exact W_Mod_parseLink_17 ok _ _ _ hy
theorem hd_Mod_parseLink : g_dsc y_Mod_parseLink 0 := ⟨by decide +kernel, by decide +kernel, by decide +kernel⟩
/-! CircuitDeskModel.put(III)V -/
abbrev y_Mod_put : MethodName := ⟨"CircuitDeskModel", "put", "(III)V"⟩
abbrev k_Mod_put : g_M := (prog_17_method_12_code, 4, "CircuitDeskModel", 12, none, "put", [], 0)
theorem d_Mod_put_0 : decode prog_17_method_12_code 0 = .ok (.aload_n 0, 1) := by decide +kernel
theorem d_Mod_put_1 : decode prog_17_method_12_code 1 = .ok (.getfield 7, 3) := by decide +kernel
theorem d_Mod_put_4 : decode prog_17_method_12_code 4 = .ok (.bipush 104, 2) := by decide +kernel
theorem d_Mod_put_6 : decode prog_17_method_12_code 6 = .ok (.bipush 66, 2) := by decide +kernel
theorem d_Mod_put_8 : decode prog_17_method_12_code 8 = .ok (.iload_n 1, 1) := by decide +kernel
theorem d_Mod_put_9 : decode prog_17_method_12_code 9 = .ok (.imul, 1) := by decide +kernel
theorem d_Mod_put_10 : decode prog_17_method_12_code 10 = .ok (.iadd, 1) := by decide +kernel
theorem d_Mod_put_11 : decode prog_17_method_12_code 11 = .ok (.iload_n 2, 1) := by decide +kernel
theorem d_Mod_put_12 : decode prog_17_method_12_code 12 = .ok (.iadd, 1) := by decide +kernel
theorem d_Mod_put_13 : decode prog_17_method_12_code 13 = .ok (.iload_n 3, 1) := by decide +kernel
theorem d_Mod_put_14 : decode prog_17_method_12_code 14 = .ok (.iastore, 1) := by decide +kernel
theorem d_Mod_put_15 : decode prog_17_method_12_code 15 = .ok (.return_, 1) := by decide +kernel
def Mod_put (M : g_MD) (p0 : Int32) (p1 : Int32) (p2 : Int32) : Option g_MD :=
  g_mS M 0 0 (((104 : Int32) + ((66 : Int32) * p0)) + p1) p2 fun M1 => some M1
set_option maxHeartbeats 4000000 in
set_option maxRecDepth 100000 in
theorem T_Mod_put {l : Launch} {B : g_B} {h0 : g_AH} {a0 : Nat} {ad : Nat → Nat} (ok : mOK a0 ad) (M : g_MD) (p0 : Int32) (p1 : Int32) (p2 : Int32) (z : g_MD) (hy : Mod_put M p0 p1 p2 = some z) : g_CT l B y_Mod_put k_Mod_put [.ref a0, .int p0, .int p1, .int p2] (mH h0 a0 ad M) (.inl none) (mH h0 a0 ad z) := by
  refine g_start2 (Lc := [(0, .ref a0), (1, .int p0), (2, .int p1), (3, .int p2)]) (by decide) rfl rfl (by exact Nat.le_of_ble_eq_true rfl) (by rfl) fun X => ?_
  unfold Mod_put at hy
  refine g_aload_n 0 (i := 0) (pc' := 1) d_Mod_put_0 rfl rfl rfl ?_
  refine gm_getA ok 0 (pc' := 4) d_Mod_put_1 rfl q1965 rfl rfl ?_
  refine g_bipush (v := (104 : Int32)) (pc' := 6) d_Mod_put_4 (by decide) rfl ?_
  refine g_bipush (v := (66 : Int32)) (pc' := 8) d_Mod_put_6 (by decide) rfl ?_
  refine g_iload_n 1 (i := 1) (pc' := 9) d_Mod_put_8 rfl rfl rfl ?_
  refine g_imul (pc' := 10) d_Mod_put_9 rfl ?_
  refine g_iadd (pc' := 11) d_Mod_put_10 rfl ?_
  refine g_iload_n 2 (i := 2) (pc' := 12) d_Mod_put_11 rfl rfl rfl ?_
  refine g_iadd (pc' := 13) d_Mod_put_12 rfl ?_
  refine g_iload_n 3 (i := 3) (pc' := 14) d_Mod_put_13 rfl rfl rfl ?_
  replace hy := g_mS_inv hy
  obtain ⟨hc2, hy⟩ := hy
  refine gm_ast0 ok (pc' := 15) d_Mod_put_14 hc2 rfl ?_
  generalize ms M 0 ((((104 : Int32) + ((66 : Int32) * p0)) + p1)).toNatClampNeg p2 = M1 at hy ⊢
  cases hy
  exact g_vret rfl rfl rfl d_Mod_put_15
theorem hd_Mod_put : g_dsc y_Mod_put 3 := ⟨by decide +kernel, by decide +kernel, by decide +kernel⟩
/-! CircuitDeskModel.appendCircuit(II)I -/
abbrev y_Mod_appendCircuit : MethodName := ⟨"CircuitDeskModel", "appendCircuit", "(II)I"⟩
abbrev k_Mod_appendCircuit : g_M := (prog_17_method_75_code, 5, "CircuitDeskModel", 13, (some FieldType.int), "appendCircuit", [], 0)
theorem d_Mod_appendCircuit_0 : decode prog_17_method_75_code 0 = .ok (.aload_n 0, 1) := by decide +kernel
theorem d_Mod_appendCircuit_1 : decode prog_17_method_75_code 1 = .ok (.getfield 7, 3) := by decide +kernel
theorem d_Mod_appendCircuit_4 : decode prog_17_method_75_code 4 = .ok (.iconst 4, 1) := by decide +kernel
theorem d_Mod_appendCircuit_5 : decode prog_17_method_75_code 5 = .ok (.iaload, 1) := by decide +kernel
theorem d_Mod_appendCircuit_6 : decode prog_17_method_75_code 6 = .ok (.istore_n 3, 1) := by decide +kernel
theorem d_Mod_appendCircuit_7 : decode prog_17_method_75_code 7 = .ok (.iconst 0, 1) := by decide +kernel
theorem d_Mod_appendCircuit_8 : decode prog_17_method_75_code 8 = .ok (.istore 4, 2) := by decide +kernel
theorem d_Mod_appendCircuit_10 : decode prog_17_method_75_code 10 = .ok (.iload 4, 2) := by decide +kernel
theorem d_Mod_appendCircuit_12 : decode prog_17_method_75_code 12 = .ok (.bipush 66, 2) := by decide +kernel
theorem d_Mod_appendCircuit_14 : decode prog_17_method_75_code 14 = .ok (.if_icmp .ge 17, 3) := by decide +kernel
theorem d_Mod_appendCircuit_17 : decode prog_17_method_75_code 17 = .ok (.aload_n 0, 1) := by decide +kernel
theorem d_Mod_appendCircuit_18 : decode prog_17_method_75_code 18 = .ok (.iload_n 3, 1) := by decide +kernel
theorem d_Mod_appendCircuit_19 : decode prog_17_method_75_code 19 = .ok (.iload 4, 2) := by decide +kernel
theorem d_Mod_appendCircuit_21 : decode prog_17_method_75_code 21 = .ok (.iconst 0, 1) := by decide +kernel
theorem d_Mod_appendCircuit_22 : decode prog_17_method_75_code 22 = .ok (.invokevirtual 296, 3) := by decide +kernel
theorem d_Mod_appendCircuit_25 : decode prog_17_method_75_code 25 = .ok (.iinc 4 1, 3) := by decide +kernel
theorem d_Mod_appendCircuit_28 : decode prog_17_method_75_code 28 = .ok (.goto (-18), 3) := by decide +kernel
theorem d_Mod_appendCircuit_31 : decode prog_17_method_75_code 31 = .ok (.aload_n 0, 1) := by decide +kernel
theorem d_Mod_appendCircuit_32 : decode prog_17_method_75_code 32 = .ok (.iload_n 3, 1) := by decide +kernel
theorem d_Mod_appendCircuit_33 : decode prog_17_method_75_code 33 = .ok (.iconst 0, 1) := by decide +kernel
theorem d_Mod_appendCircuit_34 : decode prog_17_method_75_code 34 = .ok (.iload_n 1, 1) := by decide +kernel
theorem d_Mod_appendCircuit_35 : decode prog_17_method_75_code 35 = .ok (.invokevirtual 296, 3) := by decide +kernel
theorem d_Mod_appendCircuit_38 : decode prog_17_method_75_code 38 = .ok (.aload_n 0, 1) := by decide +kernel
theorem d_Mod_appendCircuit_39 : decode prog_17_method_75_code 39 = .ok (.iload_n 3, 1) := by decide +kernel
theorem d_Mod_appendCircuit_40 : decode prog_17_method_75_code 40 = .ok (.iconst 1, 1) := by decide +kernel
theorem d_Mod_appendCircuit_41 : decode prog_17_method_75_code 41 = .ok (.iload_n 2, 1) := by decide +kernel
theorem d_Mod_appendCircuit_42 : decode prog_17_method_75_code 42 = .ok (.invokevirtual 296, 3) := by decide +kernel
theorem d_Mod_appendCircuit_45 : decode prog_17_method_75_code 45 = .ok (.aload_n 0, 1) := by decide +kernel
theorem d_Mod_appendCircuit_46 : decode prog_17_method_75_code 46 = .ok (.iload_n 3, 1) := by decide +kernel
theorem d_Mod_appendCircuit_47 : decode prog_17_method_75_code 47 = .ok (.bipush 10, 2) := by decide +kernel
theorem d_Mod_appendCircuit_49 : decode prog_17_method_75_code 49 = .ok (.iconst (-1), 1) := by decide +kernel
theorem d_Mod_appendCircuit_50 : decode prog_17_method_75_code 50 = .ok (.invokevirtual 296, 3) := by decide +kernel
theorem d_Mod_appendCircuit_53 : decode prog_17_method_75_code 53 = .ok (.aload_n 0, 1) := by decide +kernel
theorem d_Mod_appendCircuit_54 : decode prog_17_method_75_code 54 = .ok (.getfield 7, 3) := by decide +kernel
theorem d_Mod_appendCircuit_57 : decode prog_17_method_75_code 57 = .ok (.iconst 4, 1) := by decide +kernel
theorem d_Mod_appendCircuit_58 : decode prog_17_method_75_code 58 = .ok (.dup2, 1) := by decide +kernel
theorem d_Mod_appendCircuit_59 : decode prog_17_method_75_code 59 = .ok (.iaload, 1) := by decide +kernel
theorem d_Mod_appendCircuit_60 : decode prog_17_method_75_code 60 = .ok (.iconst 1, 1) := by decide +kernel
theorem d_Mod_appendCircuit_61 : decode prog_17_method_75_code 61 = .ok (.iadd, 1) := by decide +kernel
theorem d_Mod_appendCircuit_62 : decode prog_17_method_75_code 62 = .ok (.iastore, 1) := by decide +kernel
theorem d_Mod_appendCircuit_63 : decode prog_17_method_75_code 63 = .ok (.iload_n 3, 1) := by decide +kernel
theorem d_Mod_appendCircuit_64 : decode prog_17_method_75_code 64 = .ok (.ireturn, 1) := by decide +kernel
def Mod_appendCircuit_10  : Nat → g_MD → Int32 → Int32 → Int32 → Int32 → Option (Int32 × g_MD)
  | 0, _, _, _, _, _ => none
  | n + 1, M, v1, v2, v3, v4 => if (66 : Int32) ≤ v4 then (g_b (Mod_put M v3 (0 : Int32) v1) fun M5 => g_b (Mod_put M5 v3 (1 : Int32) v2) fun M8 => g_b (Mod_put M8 v3 (10 : Int32) (-1 : Int32)) fun M11 => g_mA M11 0 0 (4 : Int32) fun x13 => g_mS M11 0 0 (4 : Int32) (x13 + (1 : Int32)) fun M15 => some (v3, M15)) else (g_b (Mod_put M v3 v4 (0 : Int32)) fun M18 => (Mod_appendCircuit_10  n) M18 v1 v2 v3 (v4 + (1 : Int32)))
set_option maxHeartbeats 4000000 in
set_option maxRecDepth 100000 in
theorem W_Mod_appendCircuit_10 {X : g_X} {h0 : g_AH} {a0 : Nat} {ad : Nat → Nat} (ok : mOK a0 ad) (z : Int32 × g_MD)  : ∀ (n : Nat) (M : g_MD) (v1 : Int32) (v2 : Int32) (v3 : Int32) (v4 : Int32), Mod_appendCircuit_10  n M v1 v2 v3 v4 = some z → G X k_Mod_appendCircuit (.inl (some (.int z.1))) (mH h0 a0 ad z.2) (mH h0 a0 ad M) 10 [(0, .ref a0), (1, .int v1), (2, .int v2), (3, .int v3), (4, .int v4)] [] := by
  intro n
  induction n with
  | zero => intro M v1 v2 v3 v4 hy; exact absurd hy (by simp [Mod_appendCircuit_10])
  | succ n ih =>
    intro M v1 v2 v3 v4 hy
    rw [Mod_appendCircuit_10] at hy
    refine g_iload 4 (pc' := 12) d_Mod_appendCircuit_10 rfl rfl ?_
    refine g_bipush (v := (66 : Int32)) (pc' := 14) d_Mod_appendCircuit_12 (by decide) rfl ?_
    by_cases c3 : (66 : Int32) ≤ v4
    · rw [if_pos c3] at hy
      refine g_icmp_geT (pc' := 31) d_Mod_appendCircuit_14 c3 (by decide) ?_
      refine g_aload_n 0 (i := 0) (pc' := 32) d_Mod_appendCircuit_31 rfl rfl rfl ?_
      refine g_iload_n 3 (i := 3) (pc' := 33) d_Mod_appendCircuit_32 rfl rfl rfl ?_
      refine g_iconst (v := (0 : Int32)) (pc' := 34) d_Mod_appendCircuit_33 (by decide) rfl ?_
      refine g_iload_n 1 (i := 1) (pc' := 35) d_Mod_appendCircuit_34 rfl rfl rfl ?_
      replace hy := g_b_inv hy
      obtain ⟨M5, hf6, hy⟩ := hy
      refine g_callV (rv := none) (h1 := (mH h0 a0 ad M5)) (pc' := 38) (As := [.int v3, .int (0 : Int32), .int v1]) (rest := []) 3 (T_Mod_put ok (hy := hf6)) d_Mod_appendCircuit_35 (mH_look ok) rfl rfl q2171 q2173 qs49 q135 q2174 hd_Mod_put rfl ⟨by decide, by decide⟩ (by first | exact Nat.le_of_ble_eq_true rfl | (simp only [List.map, List.sum_cons, List.sum_nil, g_cat_rf]; exact Nat.le_of_ble_eq_true rfl) | (simp only [List.map, List.sum_cons, List.sum_nil, g_cat_rf, Value.category]; decide)) rfl ?_
      refine g_aload_n 0 (i := 0) (pc' := 39) d_Mod_appendCircuit_38 rfl rfl rfl ?_
      refine g_iload_n 3 (i := 3) (pc' := 40) d_Mod_appendCircuit_39 rfl rfl rfl ?_
      refine g_iconst (v := (1 : Int32)) (pc' := 41) d_Mod_appendCircuit_40 (by decide) rfl ?_
      refine g_iload_n 2 (i := 2) (pc' := 42) d_Mod_appendCircuit_41 rfl rfl rfl ?_
      replace hy := g_b_inv hy
      obtain ⟨M8, hf9, hy⟩ := hy
      refine g_callV (rv := none) (h1 := (mH h0 a0 ad M8)) (pc' := 45) (As := [.int v3, .int (1 : Int32), .int v2]) (rest := []) 3 (T_Mod_put ok (hy := hf9)) d_Mod_appendCircuit_42 (mH_look ok) rfl rfl q2171 q2173 qs49 q135 q2174 hd_Mod_put rfl ⟨by decide, by decide⟩ (by first | exact Nat.le_of_ble_eq_true rfl | (simp only [List.map, List.sum_cons, List.sum_nil, g_cat_rf]; exact Nat.le_of_ble_eq_true rfl) | (simp only [List.map, List.sum_cons, List.sum_nil, g_cat_rf, Value.category]; decide)) rfl ?_
      refine g_aload_n 0 (i := 0) (pc' := 46) d_Mod_appendCircuit_45 rfl rfl rfl ?_
      refine g_iload_n 3 (i := 3) (pc' := 47) d_Mod_appendCircuit_46 rfl rfl rfl ?_
      refine g_bipush (v := (10 : Int32)) (pc' := 49) d_Mod_appendCircuit_47 (by decide) rfl ?_
      refine g_iconst (v := (-1 : Int32)) (pc' := 50) d_Mod_appendCircuit_49 (by decide) rfl ?_
      replace hy := g_b_inv hy
      obtain ⟨M11, hf12, hy⟩ := hy
      refine g_callV (rv := none) (h1 := (mH h0 a0 ad M11)) (pc' := 53) (As := [.int v3, .int (10 : Int32), .int (-1 : Int32)]) (rest := []) 3 (T_Mod_put ok (hy := hf12)) d_Mod_appendCircuit_50 (mH_look ok) rfl rfl q2171 q2173 qs49 q135 q2174 hd_Mod_put rfl ⟨by decide, by decide⟩ (by first | exact Nat.le_of_ble_eq_true rfl | (simp only [List.map, List.sum_cons, List.sum_nil, g_cat_rf]; exact Nat.le_of_ble_eq_true rfl) | (simp only [List.map, List.sum_cons, List.sum_nil, g_cat_rf, Value.category]; decide)) rfl ?_
      refine g_aload_n 0 (i := 0) (pc' := 54) d_Mod_appendCircuit_53 rfl rfl rfl ?_
      refine gm_getA ok 0 (pc' := 57) d_Mod_appendCircuit_54 rfl q1965 rfl rfl ?_
      refine g_iconst (v := (4 : Int32)) (pc' := 58) d_Mod_appendCircuit_57 (by decide) rfl ?_
      refine g_dup2 (pc' := 59) d_Mod_appendCircuit_58 rfl rfl rfl ?_
      replace hy := g_mA_inv hy
      obtain ⟨x13, hc14, hy⟩ := hy
      refine gm_ald0 ok (pc' := 60) d_Mod_appendCircuit_59 hc14 rfl ?_
      refine g_iconst (v := (1 : Int32)) (pc' := 61) d_Mod_appendCircuit_60 (by decide) rfl ?_
      refine g_iadd (pc' := 62) d_Mod_appendCircuit_61 rfl ?_
      replace hy := g_mS_inv hy
      obtain ⟨hc16, hy⟩ := hy
      refine gm_ast0 ok (pc' := 63) d_Mod_appendCircuit_62 hc16 rfl ?_
      generalize ms M11 0 ((4 : Int32)).toNatClampNeg (x13 + (1 : Int32)) = M15 at hy ⊢
      refine g_iload_n 3 (i := 3) (pc' := 64) d_Mod_appendCircuit_63 rfl rfl rfl ?_
      cases hy
      exact g_iret rfl rfl rfl d_Mod_appendCircuit_64
    · rw [if_neg c3] at hy
      refine g_icmp_geF (pc' := 17) d_Mod_appendCircuit_14 31 c3 (by decide) rfl ?_
      refine g_aload_n 0 (i := 0) (pc' := 18) d_Mod_appendCircuit_17 rfl rfl rfl ?_
      refine g_iload_n 3 (i := 3) (pc' := 19) d_Mod_appendCircuit_18 rfl rfl rfl ?_
      refine g_iload 4 (pc' := 21) d_Mod_appendCircuit_19 rfl rfl ?_
      refine g_iconst (v := (0 : Int32)) (pc' := 22) d_Mod_appendCircuit_21 (by decide) rfl ?_
      replace hy := g_b_inv hy
      obtain ⟨M18, hf19, hy⟩ := hy
      refine g_callV (rv := none) (h1 := (mH h0 a0 ad M18)) (pc' := 25) (As := [.int v3, .int v4, .int (0 : Int32)]) (rest := []) 3 (T_Mod_put ok (hy := hf19)) d_Mod_appendCircuit_22 (mH_look ok) rfl rfl q2171 q2173 qs49 q135 q2174 hd_Mod_put rfl ⟨by decide, by decide⟩ (by first | exact Nat.le_of_ble_eq_true rfl | (simp only [List.map, List.sum_cons, List.sum_nil, g_cat_rf]; exact Nat.le_of_ble_eq_true rfl) | (simp only [List.map, List.sum_cons, List.sum_nil, g_cat_rf, Value.category]; decide)) rfl ?_
      refine g_iinc 4 (v := (v4 + (1 : Int32))) (pc' := 28) (Lc' := [(4, .int (v4 + (1 : Int32))), (0, .ref a0), (1, .int v1), (2, .int v2), (3, .int v3)]) d_Mod_appendCircuit_25 rfl rfl (by decide) rfl rfl ?_
      refine g_goto (pc' := 10) d_Mod_appendCircuit_28 (by decide) ?_
      refine g_sub [1, 2, 3, 4, 0] rfl ?_
      exact ih _ _ _ _ _ hy
def Mod_appendCircuit (M : g_MD) (p0 : Int32) (p1 : Int32) : Option (Int32 × g_MD) :=
  g_mA M 0 0 (4 : Int32) fun x1 => Mod_appendCircuit_10  gFU M p0 p1 x1 (0 : Int32)
set_option maxHeartbeats 4000000 in
set_option maxRecDepth 100000 in
theorem T_Mod_appendCircuit {l : Launch} {B : g_B} {h0 : g_AH} {a0 : Nat} {ad : Nat → Nat} (ok : mOK a0 ad) (M : g_MD) (p0 : Int32) (p1 : Int32) (z : Int32 × g_MD) (hy : Mod_appendCircuit M p0 p1 = some z) : g_CT l B y_Mod_appendCircuit k_Mod_appendCircuit [.ref a0, .int p0, .int p1] (mH h0 a0 ad M) (.inl (some (.int z.1))) (mH h0 a0 ad z.2) := by
  refine g_start2 (Lc := [(0, .ref a0), (1, .int p0), (2, .int p1)]) (by decide) rfl rfl (by exact Nat.le_of_ble_eq_true rfl) (by rfl) fun X => ?_
  unfold Mod_appendCircuit at hy
  refine g_aload_n 0 (i := 0) (pc' := 1) d_Mod_appendCircuit_0 rfl rfl rfl ?_
  refine gm_getA ok 0 (pc' := 4) d_Mod_appendCircuit_1 rfl q1965 rfl rfl ?_
  refine g_iconst (v := (4 : Int32)) (pc' := 5) d_Mod_appendCircuit_4 (by decide) rfl ?_
  replace hy := g_mA_inv hy
  obtain ⟨x1, hc2, hy⟩ := hy
  refine gm_ald0 ok (pc' := 6) d_Mod_appendCircuit_5 hc2 rfl ?_
  refine g_istore_n (i := 3) (pc' := 7) (Lc' := [(3, .int x1), (0, .ref a0), (1, .int p0), (2, .int p1)]) d_Mod_appendCircuit_6 rfl (by decide) rfl rfl ?_
  refine g_iconst (v := (0 : Int32)) (pc' := 8) d_Mod_appendCircuit_7 (by decide) rfl ?_
  refine g_istore (pc' := 10) (Lc' := [(4, .int (0 : Int32)), (3, .int x1), (0, .ref a0), (1, .int p0), (2, .int p1)]) d_Mod_appendCircuit_8 (by decide) rfl rfl ?_
  refine g_sub [2, 3, 4, 1, 0] rfl ?_
  exact W_Mod_appendCircuit_10 ok _ _ _ _ _ _ _ hy
theorem hd_Mod_appendCircuit : g_dsc y_Mod_appendCircuit 2 := ⟨by decide +kernel, by decide +kernel, by decide +kernel⟩
/-! CircuitDeskModel.wayPlace(II)I -/
abbrev y_Mod_wayPlace : MethodName := ⟨"CircuitDeskModel", "wayPlace", "(II)I"⟩
abbrev k_Mod_wayPlace : g_M := (prog_17_method_14_code, 2, "CircuitDeskModel", 12, (some FieldType.int), "wayPlace", [], 0)
theorem d_Mod_wayPlace_0 : decode prog_17_method_14_code 0 = .ok (.bipush 104, 2) := by decide +kernel
theorem d_Mod_wayPlace_2 : decode prog_17_method_14_code 2 = .ok (.bipush 66, 2) := by decide +kernel
theorem d_Mod_wayPlace_4 : decode prog_17_method_14_code 4 = .ok (.iload_n 0, 1) := by decide +kernel
theorem d_Mod_wayPlace_5 : decode prog_17_method_14_code 5 = .ok (.imul, 1) := by decide +kernel
theorem d_Mod_wayPlace_6 : decode prog_17_method_14_code 6 = .ok (.iadd, 1) := by decide +kernel
theorem d_Mod_wayPlace_7 : decode prog_17_method_14_code 7 = .ok (.bipush 16, 2) := by decide +kernel
theorem d_Mod_wayPlace_9 : decode prog_17_method_14_code 9 = .ok (.iadd, 1) := by decide +kernel
theorem d_Mod_wayPlace_10 : decode prog_17_method_14_code 10 = .ok (.bipush 25, 2) := by decide +kernel
theorem d_Mod_wayPlace_12 : decode prog_17_method_14_code 12 = .ok (.iload_n 1, 1) := by decide +kernel
theorem d_Mod_wayPlace_13 : decode prog_17_method_14_code 13 = .ok (.imul, 1) := by decide +kernel
theorem d_Mod_wayPlace_14 : decode prog_17_method_14_code 14 = .ok (.iadd, 1) := by decide +kernel
theorem d_Mod_wayPlace_15 : decode prog_17_method_14_code 15 = .ok (.ireturn, 1) := by decide +kernel
def Mod_wayPlace (p0 : Int32) (p1 : Int32) : Option (Int32) :=
  some ((((104 : Int32) + ((66 : Int32) * p0)) + (16 : Int32)) + ((25 : Int32) * p1))
set_option maxHeartbeats 4000000 in
set_option maxRecDepth 100000 in
theorem T_Mod_wayPlace {l : Launch} {B : g_B} {h : g_AH} (p0 : Int32) (p1 : Int32) (z : Int32) (hy : Mod_wayPlace p0 p1 = some z) : g_CT l B y_Mod_wayPlace k_Mod_wayPlace [.int p0, .int p1] h (.inl (some (.int z))) h := by
  refine g_start2 (Lc := [(0, .int p0), (1, .int p1)]) (by decide) rfl rfl (by exact Nat.le_of_ble_eq_true rfl) (by rfl) fun X => ?_
  unfold Mod_wayPlace at hy
  refine g_bipush (v := (104 : Int32)) (pc' := 2) d_Mod_wayPlace_0 (by decide) rfl ?_
  refine g_bipush (v := (66 : Int32)) (pc' := 4) d_Mod_wayPlace_2 (by decide) rfl ?_
  refine g_iload_n 0 (i := 0) (pc' := 5) d_Mod_wayPlace_4 rfl rfl rfl ?_
  refine g_imul (pc' := 6) d_Mod_wayPlace_5 rfl ?_
  refine g_iadd (pc' := 7) d_Mod_wayPlace_6 rfl ?_
  refine g_bipush (v := (16 : Int32)) (pc' := 9) d_Mod_wayPlace_7 (by decide) rfl ?_
  refine g_iadd (pc' := 10) d_Mod_wayPlace_9 rfl ?_
  refine g_bipush (v := (25 : Int32)) (pc' := 12) d_Mod_wayPlace_10 (by decide) rfl ?_
  refine g_iload_n 1 (i := 1) (pc' := 13) d_Mod_wayPlace_12 rfl rfl rfl ?_
  refine g_imul (pc' := 14) d_Mod_wayPlace_13 rfl ?_
  refine g_iadd (pc' := 15) d_Mod_wayPlace_14 rfl ?_
  cases hy
  exact g_iret rfl rfl rfl d_Mod_wayPlace_15
theorem hd_Mod_wayPlace : g_dsc y_Mod_wayPlace 2 := ⟨by decide +kernel, by decide +kernel, by decide +kernel⟩
/-! CircuitDeskModel.canFollow(III)Z -/
abbrev y_Mod_canFollow : MethodName := ⟨"CircuitDeskModel", "canFollow", "(III)Z"⟩
abbrev k_Mod_canFollow : g_M := (prog_17_method_31_code, 5, "CircuitDeskModel", 14, (some FieldType.boolean), "canFollow", [], 0)
theorem d_Mod_canFollow_0 : decode prog_17_method_31_code 0 = .ok (.iconst 0, 1) := by decide +kernel
theorem d_Mod_canFollow_1 : decode prog_17_method_31_code 1 = .ok (.istore 4, 2) := by decide +kernel
theorem d_Mod_canFollow_3 : decode prog_17_method_31_code 3 = .ok (.iload 4, 2) := by decide +kernel
theorem d_Mod_canFollow_5 : decode prog_17_method_31_code 5 = .ok (.iload_n 2, 1) := by decide +kernel
theorem d_Mod_canFollow_6 : decode prog_17_method_31_code 6 = .ok (.if_icmp .ge 26, 3) := by decide +kernel
theorem d_Mod_canFollow_9 : decode prog_17_method_31_code 9 = .ok (.aload_n 0, 1) := by decide +kernel
theorem d_Mod_canFollow_10 : decode prog_17_method_31_code 10 = .ok (.getfield 7, 3) := by decide +kernel
theorem d_Mod_canFollow_13 : decode prog_17_method_31_code 13 = .ok (.iload_n 1, 1) := by decide +kernel
theorem d_Mod_canFollow_14 : decode prog_17_method_31_code 14 = .ok (.iconst 1, 1) := by decide +kernel
theorem d_Mod_canFollow_15 : decode prog_17_method_31_code 15 = .ok (.iadd, 1) := by decide +kernel
theorem d_Mod_canFollow_16 : decode prog_17_method_31_code 16 = .ok (.iload 4, 2) := by decide +kernel
theorem d_Mod_canFollow_18 : decode prog_17_method_31_code 18 = .ok (.iadd, 1) := by decide +kernel
theorem d_Mod_canFollow_19 : decode prog_17_method_31_code 19 = .ok (.iaload, 1) := by decide +kernel
theorem d_Mod_canFollow_20 : decode prog_17_method_31_code 20 = .ok (.iload_n 3, 1) := by decide +kernel
theorem d_Mod_canFollow_21 : decode prog_17_method_31_code 21 = .ok (.if_icmp .ne 5, 3) := by decide +kernel
theorem d_Mod_canFollow_24 : decode prog_17_method_31_code 24 = .ok (.iconst 0, 1) := by decide +kernel
theorem d_Mod_canFollow_25 : decode prog_17_method_31_code 25 = .ok (.ireturn, 1) := by decide +kernel
theorem d_Mod_canFollow_26 : decode prog_17_method_31_code 26 = .ok (.iinc 4 1, 3) := by decide +kernel
theorem d_Mod_canFollow_29 : decode prog_17_method_31_code 29 = .ok (.goto (-26), 3) := by decide +kernel
theorem d_Mod_canFollow_32 : decode prog_17_method_31_code 32 = .ok (.iload_n 2, 1) := by decide +kernel
theorem d_Mod_canFollow_33 : decode prog_17_method_31_code 33 = .ok (.ifCond .eq 24, 3) := by decide +kernel
theorem d_Mod_canFollow_36 : decode prog_17_method_31_code 36 = .ok (.aload_n 0, 1) := by decide +kernel
theorem d_Mod_canFollow_37 : decode prog_17_method_31_code 37 = .ok (.aload_n 0, 1) := by decide +kernel
theorem d_Mod_canFollow_38 : decode prog_17_method_31_code 38 = .ok (.getfield 7, 3) := by decide +kernel
theorem d_Mod_canFollow_41 : decode prog_17_method_31_code 41 = .ok (.iload_n 1, 1) := by decide +kernel
theorem d_Mod_canFollow_42 : decode prog_17_method_31_code 42 = .ok (.iconst 1, 1) := by decide +kernel
theorem d_Mod_canFollow_43 : decode prog_17_method_31_code 43 = .ok (.iadd, 1) := by decide +kernel
theorem d_Mod_canFollow_44 : decode prog_17_method_31_code 44 = .ok (.iload_n 2, 1) := by decide +kernel
theorem d_Mod_canFollow_45 : decode prog_17_method_31_code 45 = .ok (.iadd, 1) := by decide +kernel
theorem d_Mod_canFollow_46 : decode prog_17_method_31_code 46 = .ok (.iconst 1, 1) := by decide +kernel
theorem d_Mod_canFollow_47 : decode prog_17_method_31_code 47 = .ok (.isub, 1) := by decide +kernel
theorem d_Mod_canFollow_48 : decode prog_17_method_31_code 48 = .ok (.iaload, 1) := by decide +kernel
theorem d_Mod_canFollow_49 : decode prog_17_method_31_code 49 = .ok (.iload_n 3, 1) := by decide +kernel
theorem d_Mod_canFollow_50 : decode prog_17_method_31_code 50 = .ok (.invokevirtual 137, 3) := by decide +kernel
theorem d_Mod_canFollow_53 : decode prog_17_method_31_code 53 = .ok (.iconst (-1), 1) := by decide +kernel
theorem d_Mod_canFollow_54 : decode prog_17_method_31_code 54 = .ok (.if_icmp .eq 7, 3) := by decide +kernel
theorem d_Mod_canFollow_57 : decode prog_17_method_31_code 57 = .ok (.iconst 1, 1) := by decide +kernel
theorem d_Mod_canFollow_58 : decode prog_17_method_31_code 58 = .ok (.goto 4, 3) := by decide +kernel
theorem d_Mod_canFollow_61 : decode prog_17_method_31_code 61 = .ok (.iconst 0, 1) := by decide +kernel
theorem d_Mod_canFollow_62 : decode prog_17_method_31_code 62 = .ok (.ireturn, 1) := by decide +kernel
def Mod_canFollow_3 (M : g_MD)  : Nat → Int32 → Int32 → Int32 → Int32 → Option (Int32)
  | 0, _, _, _, _ => none
  | n + 1, v1, v2, v3, v4 => if v2 ≤ v4 then (if v2 = 0 then (some (1 : Int32)) else (g_mA M 0 0 (((v1 + (1 : Int32)) + v2) - (1 : Int32)) fun x4 => g_b (Mod_linkOf M x4 v3) fun x6 => if x6 = (-1 : Int32) then (some (0 : Int32)) else (some (1 : Int32)))) else (g_mA M 0 0 ((v1 + (1 : Int32)) + v4) fun x12 => if x12 = v3 then (some (0 : Int32)) else ((Mod_canFollow_3 M  n) v1 v2 v3 (v4 + (1 : Int32))))
set_option maxHeartbeats 4000000 in
set_option maxRecDepth 100000 in
theorem W_Mod_canFollow_3 {X : g_X} {h0 : g_AH} {a0 : Nat} {ad : Nat → Nat} (ok : mOK a0 ad) (M : g_MD) (z : Int32)  : ∀ (n : Nat) (v1 : Int32) (v2 : Int32) (v3 : Int32) (v4 : Int32), Mod_canFollow_3 M  n v1 v2 v3 v4 = some z → G X k_Mod_canFollow (.inl (some (.int z))) (mH h0 a0 ad M) (mH h0 a0 ad M) 3 [(0, .ref a0), (1, .int v1), (2, .int v2), (3, .int v3), (4, .int v4)] [] := by
  intro n
  induction n with
  | zero => intro v1 v2 v3 v4 hy; exact absurd hy (by simp [Mod_canFollow_3])
  | succ n ih =>
    intro v1 v2 v3 v4 hy
    rw [Mod_canFollow_3] at hy
    refine g_iload 4 (pc' := 5) d_Mod_canFollow_3 rfl rfl ?_
    refine g_iload_n 2 (i := 2) (pc' := 6) d_Mod_canFollow_5 rfl rfl rfl ?_
    by_cases c1 : v2 ≤ v4
    · rw [if_pos c1] at hy
      refine g_icmp_geT (pc' := 32) d_Mod_canFollow_6 c1 (by decide) ?_
      refine g_iload_n 2 (i := 2) (pc' := 33) d_Mod_canFollow_32 rfl rfl rfl ?_
      by_cases c2 : v2 = 0
      · rw [if_pos c2] at hy
        refine g_if_eqT (pc' := 57) d_Mod_canFollow_33 c2 (by decide) ?_
        refine g_iconst (v := (1 : Int32)) (pc' := 58) d_Mod_canFollow_57 (by decide) rfl ?_
        refine g_goto (pc' := 62) d_Mod_canFollow_58 (by decide) ?_
        cases hy
        exact g_zret rfl rfl rfl (g_nar_z (Or.inr rfl)).1 d_Mod_canFollow_62
      · rw [if_neg c2] at hy
        refine g_if_eqF (pc' := 36) d_Mod_canFollow_33 57 c2 (by decide) rfl ?_
        refine g_aload_n 0 (i := 0) (pc' := 37) d_Mod_canFollow_36 rfl rfl rfl ?_
        refine g_aload_n 0 (i := 0) (pc' := 38) d_Mod_canFollow_37 rfl rfl rfl ?_
        refine gm_getA ok 0 (pc' := 41) d_Mod_canFollow_38 rfl q1965 rfl rfl ?_
        refine g_iload_n 1 (i := 1) (pc' := 42) d_Mod_canFollow_41 rfl rfl rfl ?_
        refine g_iconst (v := (1 : Int32)) (pc' := 43) d_Mod_canFollow_42 (by decide) rfl ?_
        refine g_iadd (pc' := 44) d_Mod_canFollow_43 rfl ?_
        refine g_iload_n 2 (i := 2) (pc' := 45) d_Mod_canFollow_44 rfl rfl rfl ?_
        refine g_iadd (pc' := 46) d_Mod_canFollow_45 rfl ?_
        refine g_iconst (v := (1 : Int32)) (pc' := 47) d_Mod_canFollow_46 (by decide) rfl ?_
        refine g_isub (pc' := 48) d_Mod_canFollow_47 rfl ?_
        replace hy := g_mA_inv hy
        obtain ⟨x4, hc5, hy⟩ := hy
        refine gm_ald0 ok (pc' := 49) d_Mod_canFollow_48 hc5 rfl ?_
        refine g_iload_n 3 (i := 3) (pc' := 50) d_Mod_canFollow_49 rfl rfl rfl ?_
        replace hy := g_b_inv hy
        obtain ⟨x6, hf8, hy⟩ := hy
        refine g_callV (rv := some (.int x6)) (h1 := (mH h0 a0 ad M)) (pc' := 53) (As := [.int x4, .int v3]) (rest := []) 2 (T_Mod_linkOf ok (hy := hf8)) d_Mod_canFollow_50 (mH_look ok) rfl rfl q2150 q2152 qs44 q135 q2153 hd_Mod_linkOf rfl ⟨by decide, by decide⟩ (by first | exact Nat.le_of_ble_eq_true rfl | (simp only [List.map, List.sum_cons, List.sum_nil, g_cat_rf]; exact Nat.le_of_ble_eq_true rfl) | (simp only [List.map, List.sum_cons, List.sum_nil, g_cat_rf, Value.category]; decide)) rfl ?_
        refine g_iconst (v := (-1 : Int32)) (pc' := 54) d_Mod_canFollow_53 (by decide) rfl ?_
        by_cases c9 : x6 = (-1 : Int32)
        · rw [if_pos c9] at hy
          refine g_icmp_eqT (pc' := 61) d_Mod_canFollow_54 c9 (by decide) ?_
          refine g_iconst (v := (0 : Int32)) (pc' := 62) d_Mod_canFollow_61 (by decide) rfl ?_
          cases hy
          exact g_zret rfl rfl rfl (g_nar_z (Or.inl rfl)).1 d_Mod_canFollow_62
        · rw [if_neg c9] at hy
          refine g_icmp_eqF (pc' := 57) d_Mod_canFollow_54 61 c9 (by decide) rfl ?_
          refine g_iconst (v := (1 : Int32)) (pc' := 58) d_Mod_canFollow_57 (by decide) rfl ?_
          refine g_goto (pc' := 62) d_Mod_canFollow_58 (by decide) ?_
          cases hy
          exact g_zret rfl rfl rfl (g_nar_z (Or.inr rfl)).1 d_Mod_canFollow_62
    · rw [if_neg c1] at hy
      refine g_icmp_geF (pc' := 9) d_Mod_canFollow_6 32 c1 (by decide) rfl ?_
      refine g_aload_n 0 (i := 0) (pc' := 10) d_Mod_canFollow_9 rfl rfl rfl ?_
      refine gm_getA ok 0 (pc' := 13) d_Mod_canFollow_10 rfl q1965 rfl rfl ?_
      refine g_iload_n 1 (i := 1) (pc' := 14) d_Mod_canFollow_13 rfl rfl rfl ?_
      refine g_iconst (v := (1 : Int32)) (pc' := 15) d_Mod_canFollow_14 (by decide) rfl ?_
      refine g_iadd (pc' := 16) d_Mod_canFollow_15 rfl ?_
      refine g_iload 4 (pc' := 18) d_Mod_canFollow_16 rfl rfl ?_
      refine g_iadd (pc' := 19) d_Mod_canFollow_18 rfl ?_
      replace hy := g_mA_inv hy
      obtain ⟨x12, hc13, hy⟩ := hy
      refine gm_ald0 ok (pc' := 20) d_Mod_canFollow_19 hc13 rfl ?_
      refine g_iload_n 3 (i := 3) (pc' := 21) d_Mod_canFollow_20 rfl rfl rfl ?_
      by_cases c14 : x12 = v3
      · rw [if_pos c14] at hy
        refine g_icmp_neF (pc' := 24) d_Mod_canFollow_21 26 c14 (by decide) rfl ?_
        refine g_iconst (v := (0 : Int32)) (pc' := 25) d_Mod_canFollow_24 (by decide) rfl ?_
        cases hy
        exact g_zret rfl rfl rfl (g_nar_z (Or.inl rfl)).1 d_Mod_canFollow_25
      · rw [if_neg c14] at hy
        refine g_icmp_neT (pc' := 26) d_Mod_canFollow_21 c14 (by decide) ?_
        refine g_iinc 4 (v := (v4 + (1 : Int32))) (pc' := 29) (Lc' := [(4, .int (v4 + (1 : Int32))), (0, .ref a0), (1, .int v1), (2, .int v2), (3, .int v3)]) d_Mod_canFollow_26 rfl rfl (by decide) rfl rfl ?_
        refine g_goto (pc' := 3) d_Mod_canFollow_29 (by decide) ?_
        refine g_sub [1, 2, 3, 4, 0] rfl ?_
        exact ih _ _ _ _ hy
def Mod_canFollow (M : g_MD) (p0 : Int32) (p1 : Int32) (p2 : Int32) : Option (Int32) :=
  Mod_canFollow_3 M  gFU p0 p1 p2 (0 : Int32)
set_option maxHeartbeats 4000000 in
set_option maxRecDepth 100000 in
theorem T_Mod_canFollow {l : Launch} {B : g_B} {h0 : g_AH} {a0 : Nat} {ad : Nat → Nat} (ok : mOK a0 ad) (M : g_MD) (p0 : Int32) (p1 : Int32) (p2 : Int32) (z : Int32) (hy : Mod_canFollow M p0 p1 p2 = some z) : g_CT l B y_Mod_canFollow k_Mod_canFollow [.ref a0, .int p0, .int p1, .int p2] (mH h0 a0 ad M) (.inl (some (.int z))) (mH h0 a0 ad M) := by
  refine g_start2 (Lc := [(0, .ref a0), (1, .int p0), (2, .int p1), (3, .int p2)]) (by decide) rfl rfl (by exact Nat.le_of_ble_eq_true rfl) (by rfl) fun X => ?_
  unfold Mod_canFollow at hy
  refine g_iconst (v := (0 : Int32)) (pc' := 1) d_Mod_canFollow_0 (by decide) rfl ?_
  refine g_istore (pc' := 3) (Lc' := [(4, .int (0 : Int32)), (0, .ref a0), (1, .int p0), (2, .int p1), (3, .int p2)]) d_Mod_canFollow_1 (by decide) rfl rfl ?_
  refine g_sub [1, 2, 3, 4, 0] rfl ?_
  exact W_Mod_canFollow_3 ok _ _ _ _ _ _ _ hy
theorem hd_Mod_canFollow : g_dsc y_Mod_canFollow 3 := ⟨by decide +kernel, by decide +kernel, by decide +kernel⟩
/-! CircuitDeskModel.of(II)I -/
abbrev y_Mod_of : MethodName := ⟨"CircuitDeskModel", "of", "(II)I"⟩
abbrev k_Mod_of : g_M := (prog_17_method_11_code, 3, "CircuitDeskModel", 12, (some FieldType.int), "of", [], 0)
theorem d_Mod_of_0 : decode prog_17_method_11_code 0 = .ok (.aload_n 0, 1) := by decide +kernel
theorem d_Mod_of_1 : decode prog_17_method_11_code 1 = .ok (.getfield 7, 3) := by decide +kernel
theorem d_Mod_of_4 : decode prog_17_method_11_code 4 = .ok (.bipush 104, 2) := by decide +kernel
theorem d_Mod_of_6 : decode prog_17_method_11_code 6 = .ok (.bipush 66, 2) := by decide +kernel
theorem d_Mod_of_8 : decode prog_17_method_11_code 8 = .ok (.iload_n 1, 1) := by decide +kernel
theorem d_Mod_of_9 : decode prog_17_method_11_code 9 = .ok (.imul, 1) := by decide +kernel
theorem d_Mod_of_10 : decode prog_17_method_11_code 10 = .ok (.iadd, 1) := by decide +kernel
theorem d_Mod_of_11 : decode prog_17_method_11_code 11 = .ok (.iload_n 2, 1) := by decide +kernel
theorem d_Mod_of_12 : decode prog_17_method_11_code 12 = .ok (.iadd, 1) := by decide +kernel
theorem d_Mod_of_13 : decode prog_17_method_11_code 13 = .ok (.iaload, 1) := by decide +kernel
theorem d_Mod_of_14 : decode prog_17_method_11_code 14 = .ok (.ireturn, 1) := by decide +kernel
def Mod_of (M : g_MD) (p0 : Int32) (p1 : Int32) : Option (Int32) :=
  g_mA M 0 0 (((104 : Int32) + ((66 : Int32) * p0)) + p1) fun x1 => some x1
set_option maxHeartbeats 4000000 in
set_option maxRecDepth 100000 in
theorem T_Mod_of {l : Launch} {B : g_B} {h0 : g_AH} {a0 : Nat} {ad : Nat → Nat} (ok : mOK a0 ad) (M : g_MD) (p0 : Int32) (p1 : Int32) (z : Int32) (hy : Mod_of M p0 p1 = some z) : g_CT l B y_Mod_of k_Mod_of [.ref a0, .int p0, .int p1] (mH h0 a0 ad M) (.inl (some (.int z))) (mH h0 a0 ad M) := by
  refine g_start2 (Lc := [(0, .ref a0), (1, .int p0), (2, .int p1)]) (by decide) rfl rfl (by exact Nat.le_of_ble_eq_true rfl) (by rfl) fun X => ?_
  unfold Mod_of at hy
  refine g_aload_n 0 (i := 0) (pc' := 1) d_Mod_of_0 rfl rfl rfl ?_
  refine gm_getA ok 0 (pc' := 4) d_Mod_of_1 rfl q1965 rfl rfl ?_
  refine g_bipush (v := (104 : Int32)) (pc' := 6) d_Mod_of_4 (by decide) rfl ?_
  refine g_bipush (v := (66 : Int32)) (pc' := 8) d_Mod_of_6 (by decide) rfl ?_
  refine g_iload_n 1 (i := 1) (pc' := 9) d_Mod_of_8 rfl rfl rfl ?_
  refine g_imul (pc' := 10) d_Mod_of_9 rfl ?_
  refine g_iadd (pc' := 11) d_Mod_of_10 rfl ?_
  refine g_iload_n 2 (i := 2) (pc' := 12) d_Mod_of_11 rfl rfl rfl ?_
  refine g_iadd (pc' := 13) d_Mod_of_12 rfl ?_
  replace hy := g_mA_inv hy
  obtain ⟨x1, hc2, hy⟩ := hy
  refine gm_ald0 ok (pc' := 14) d_Mod_of_13 hc2 rfl ?_
  cases hy
  exact g_iret rfl rfl rfl d_Mod_of_14
theorem hd_Mod_of : g_dsc y_Mod_of 2 := ⟨by decide +kernel, by decide +kernel, by decide +kernel⟩
/-! CircuitDeskModel.usesLink(II)Z -/
abbrev y_Mod_usesLink : MethodName := ⟨"CircuitDeskModel", "usesLink", "(II)Z"⟩
abbrev k_Mod_usesLink : g_M := (prog_17_method_43_code, 4, "CircuitDeskModel", 14, (some FieldType.boolean), "usesLink", [], 0)
theorem d_Mod_usesLink_0 : decode prog_17_method_43_code 0 = .ok (.iconst 1, 1) := by decide +kernel
theorem d_Mod_usesLink_1 : decode prog_17_method_43_code 1 = .ok (.istore_n 3, 1) := by decide +kernel
theorem d_Mod_usesLink_2 : decode prog_17_method_43_code 2 = .ok (.iload_n 3, 1) := by decide +kernel
theorem d_Mod_usesLink_3 : decode prog_17_method_43_code 3 = .ok (.aload_n 0, 1) := by decide +kernel
theorem d_Mod_usesLink_4 : decode prog_17_method_43_code 4 = .ok (.getfield 7, 3) := by decide +kernel
theorem d_Mod_usesLink_7 : decode prog_17_method_43_code 7 = .ok (.iload_n 1, 1) := by decide +kernel
theorem d_Mod_usesLink_8 : decode prog_17_method_43_code 8 = .ok (.iaload, 1) := by decide +kernel
theorem d_Mod_usesLink_9 : decode prog_17_method_43_code 9 = .ok (.if_icmp .ge 41, 3) := by decide +kernel
theorem d_Mod_usesLink_12 : decode prog_17_method_43_code 12 = .ok (.aload_n 0, 1) := by decide +kernel
theorem d_Mod_usesLink_13 : decode prog_17_method_43_code 13 = .ok (.aload_n 0, 1) := by decide +kernel
theorem d_Mod_usesLink_14 : decode prog_17_method_43_code 14 = .ok (.getfield 7, 3) := by decide +kernel
theorem d_Mod_usesLink_17 : decode prog_17_method_43_code 17 = .ok (.iload_n 1, 1) := by decide +kernel
theorem d_Mod_usesLink_18 : decode prog_17_method_43_code 18 = .ok (.iconst 1, 1) := by decide +kernel
theorem d_Mod_usesLink_19 : decode prog_17_method_43_code 19 = .ok (.iadd, 1) := by decide +kernel
theorem d_Mod_usesLink_20 : decode prog_17_method_43_code 20 = .ok (.iload_n 3, 1) := by decide +kernel
theorem d_Mod_usesLink_21 : decode prog_17_method_43_code 21 = .ok (.iadd, 1) := by decide +kernel
theorem d_Mod_usesLink_22 : decode prog_17_method_43_code 22 = .ok (.iconst 1, 1) := by decide +kernel
theorem d_Mod_usesLink_23 : decode prog_17_method_43_code 23 = .ok (.isub, 1) := by decide +kernel
theorem d_Mod_usesLink_24 : decode prog_17_method_43_code 24 = .ok (.iaload, 1) := by decide +kernel
theorem d_Mod_usesLink_25 : decode prog_17_method_43_code 25 = .ok (.aload_n 0, 1) := by decide +kernel
theorem d_Mod_usesLink_26 : decode prog_17_method_43_code 26 = .ok (.getfield 7, 3) := by decide +kernel
theorem d_Mod_usesLink_29 : decode prog_17_method_43_code 29 = .ok (.iload_n 1, 1) := by decide +kernel
theorem d_Mod_usesLink_30 : decode prog_17_method_43_code 30 = .ok (.iconst 1, 1) := by decide +kernel
theorem d_Mod_usesLink_31 : decode prog_17_method_43_code 31 = .ok (.iadd, 1) := by decide +kernel
theorem d_Mod_usesLink_32 : decode prog_17_method_43_code 32 = .ok (.iload_n 3, 1) := by decide +kernel
theorem d_Mod_usesLink_33 : decode prog_17_method_43_code 33 = .ok (.iadd, 1) := by decide +kernel
theorem d_Mod_usesLink_34 : decode prog_17_method_43_code 34 = .ok (.iaload, 1) := by decide +kernel
theorem d_Mod_usesLink_35 : decode prog_17_method_43_code 35 = .ok (.invokevirtual 137, 3) := by decide +kernel
theorem d_Mod_usesLink_38 : decode prog_17_method_43_code 38 = .ok (.iload_n 2, 1) := by decide +kernel
theorem d_Mod_usesLink_39 : decode prog_17_method_43_code 39 = .ok (.if_icmp .ne 5, 3) := by decide +kernel
theorem d_Mod_usesLink_42 : decode prog_17_method_43_code 42 = .ok (.iconst 1, 1) := by decide +kernel
theorem d_Mod_usesLink_43 : decode prog_17_method_43_code 43 = .ok (.ireturn, 1) := by decide +kernel
theorem d_Mod_usesLink_44 : decode prog_17_method_43_code 44 = .ok (.iinc 3 1, 3) := by decide +kernel
theorem d_Mod_usesLink_47 : decode prog_17_method_43_code 47 = .ok (.goto (-45), 3) := by decide +kernel
theorem d_Mod_usesLink_50 : decode prog_17_method_43_code 50 = .ok (.iconst 0, 1) := by decide +kernel
theorem d_Mod_usesLink_51 : decode prog_17_method_43_code 51 = .ok (.ireturn, 1) := by decide +kernel
def Mod_usesLink_2 (M : g_MD)  : Nat → Int32 → Int32 → Int32 → Option (Int32)
  | 0, _, _, _ => none
  | n + 1, v1, v2, v3 => g_mA M 0 0 v1 fun x1 => if x1 ≤ v3 then (some (0 : Int32)) else (g_mA M 0 0 (((v1 + (1 : Int32)) + v3) - (1 : Int32)) fun x5 => g_mA M 0 0 ((v1 + (1 : Int32)) + v3) fun x7 => g_b (Mod_linkOf M x5 x7) fun x9 => if x9 = v2 then (some (1 : Int32)) else ((Mod_usesLink_2 M  n) v1 v2 (v3 + (1 : Int32))))
set_option maxHeartbeats 4000000 in
set_option maxRecDepth 100000 in
theorem W_Mod_usesLink_2 {X : g_X} {h0 : g_AH} {a0 : Nat} {ad : Nat → Nat} (ok : mOK a0 ad) (M : g_MD) (z : Int32)  : ∀ (n : Nat) (v1 : Int32) (v2 : Int32) (v3 : Int32), Mod_usesLink_2 M  n v1 v2 v3 = some z → G X k_Mod_usesLink (.inl (some (.int z))) (mH h0 a0 ad M) (mH h0 a0 ad M) 2 [(0, .ref a0), (1, .int v1), (2, .int v2), (3, .int v3)] [] := by
  intro n
  induction n with
  | zero => intro v1 v2 v3 hy; exact absurd hy (by simp [Mod_usesLink_2])
  | succ n ih =>
    intro v1 v2 v3 hy
    rw [Mod_usesLink_2] at hy
    refine g_iload_n 3 (i := 3) (pc' := 3) d_Mod_usesLink_2 rfl rfl rfl ?_
    refine g_aload_n 0 (i := 0) (pc' := 4) d_Mod_usesLink_3 rfl rfl rfl ?_
    refine gm_getA ok 0 (pc' := 7) d_Mod_usesLink_4 rfl q1965 rfl rfl ?_
    refine g_iload_n 1 (i := 1) (pc' := 8) d_Mod_usesLink_7 rfl rfl rfl ?_
    replace hy := g_mA_inv hy
    obtain ⟨x1, hc2, hy⟩ := hy
    refine gm_ald0 ok (pc' := 9) d_Mod_usesLink_8 hc2 rfl ?_
    by_cases c3 : x1 ≤ v3
    · rw [if_pos c3] at hy
      refine g_icmp_geT (pc' := 50) d_Mod_usesLink_9 c3 (by decide) ?_
      refine g_iconst (v := (0 : Int32)) (pc' := 51) d_Mod_usesLink_50 (by decide) rfl ?_
      cases hy
      exact g_zret rfl rfl rfl (g_nar_z (Or.inl rfl)).1 d_Mod_usesLink_51
    · rw [if_neg c3] at hy
      refine g_icmp_geF (pc' := 12) d_Mod_usesLink_9 50 c3 (by decide) rfl ?_
      refine g_aload_n 0 (i := 0) (pc' := 13) d_Mod_usesLink_12 rfl rfl rfl ?_
      refine g_aload_n 0 (i := 0) (pc' := 14) d_Mod_usesLink_13 rfl rfl rfl ?_
      refine gm_getA ok 0 (pc' := 17) d_Mod_usesLink_14 rfl q1965 rfl rfl ?_
      refine g_iload_n 1 (i := 1) (pc' := 18) d_Mod_usesLink_17 rfl rfl rfl ?_
      refine g_iconst (v := (1 : Int32)) (pc' := 19) d_Mod_usesLink_18 (by decide) rfl ?_
      refine g_iadd (pc' := 20) d_Mod_usesLink_19 rfl ?_
      refine g_iload_n 3 (i := 3) (pc' := 21) d_Mod_usesLink_20 rfl rfl rfl ?_
      refine g_iadd (pc' := 22) d_Mod_usesLink_21 rfl ?_
      refine g_iconst (v := (1 : Int32)) (pc' := 23) d_Mod_usesLink_22 (by decide) rfl ?_
      refine g_isub (pc' := 24) d_Mod_usesLink_23 rfl ?_
      replace hy := g_mA_inv hy
      obtain ⟨x5, hc6, hy⟩ := hy
      refine gm_ald0 ok (pc' := 25) d_Mod_usesLink_24 hc6 rfl ?_
      refine g_aload_n 0 (i := 0) (pc' := 26) d_Mod_usesLink_25 rfl rfl rfl ?_
      refine gm_getA ok 0 (pc' := 29) d_Mod_usesLink_26 rfl q1965 rfl rfl ?_
      refine g_iload_n 1 (i := 1) (pc' := 30) d_Mod_usesLink_29 rfl rfl rfl ?_
      refine g_iconst (v := (1 : Int32)) (pc' := 31) d_Mod_usesLink_30 (by decide) rfl ?_
      refine g_iadd (pc' := 32) d_Mod_usesLink_31 rfl ?_
      refine g_iload_n 3 (i := 3) (pc' := 33) d_Mod_usesLink_32 rfl rfl rfl ?_
      refine g_iadd (pc' := 34) d_Mod_usesLink_33 rfl ?_
      replace hy := g_mA_inv hy
      obtain ⟨x7, hc8, hy⟩ := hy
      refine gm_ald0 ok (pc' := 35) d_Mod_usesLink_34 hc8 rfl ?_
      replace hy := g_b_inv hy
      obtain ⟨x9, hf11, hy⟩ := hy
      refine g_callV (rv := some (.int x9)) (h1 := (mH h0 a0 ad M)) (pc' := 38) (As := [.int x5, .int x7]) (rest := []) 2 (T_Mod_linkOf ok (hy := hf11)) d_Mod_usesLink_35 (mH_look ok) rfl rfl q2150 q2152 qs44 q135 q2153 hd_Mod_linkOf rfl ⟨by decide, by decide⟩ (by first | exact Nat.le_of_ble_eq_true rfl | (simp only [List.map, List.sum_cons, List.sum_nil, g_cat_rf]; exact Nat.le_of_ble_eq_true rfl) | (simp only [List.map, List.sum_cons, List.sum_nil, g_cat_rf, Value.category]; decide)) rfl ?_
      refine g_iload_n 2 (i := 2) (pc' := 39) d_Mod_usesLink_38 rfl rfl rfl ?_
      by_cases c12 : x9 = v2
      · rw [if_pos c12] at hy
        refine g_icmp_neF (pc' := 42) d_Mod_usesLink_39 44 c12 (by decide) rfl ?_
        refine g_iconst (v := (1 : Int32)) (pc' := 43) d_Mod_usesLink_42 (by decide) rfl ?_
        cases hy
        exact g_zret rfl rfl rfl (g_nar_z (Or.inr rfl)).1 d_Mod_usesLink_43
      · rw [if_neg c12] at hy
        refine g_icmp_neT (pc' := 44) d_Mod_usesLink_39 c12 (by decide) ?_
        refine g_iinc 3 (v := (v3 + (1 : Int32))) (pc' := 47) (Lc' := [(3, .int (v3 + (1 : Int32))), (0, .ref a0), (1, .int v1), (2, .int v2)]) d_Mod_usesLink_44 rfl rfl (by decide) rfl rfl ?_
        refine g_goto (pc' := 2) d_Mod_usesLink_47 (by decide) ?_
        refine g_sub [1, 2, 3, 0] rfl ?_
        exact ih _ _ _ hy
def Mod_usesLink (M : g_MD) (p0 : Int32) (p1 : Int32) : Option (Int32) :=
  Mod_usesLink_2 M  gFU p0 p1 (1 : Int32)
set_option maxHeartbeats 4000000 in
set_option maxRecDepth 100000 in
theorem T_Mod_usesLink {l : Launch} {B : g_B} {h0 : g_AH} {a0 : Nat} {ad : Nat → Nat} (ok : mOK a0 ad) (M : g_MD) (p0 : Int32) (p1 : Int32) (z : Int32) (hy : Mod_usesLink M p0 p1 = some z) : g_CT l B y_Mod_usesLink k_Mod_usesLink [.ref a0, .int p0, .int p1] (mH h0 a0 ad M) (.inl (some (.int z))) (mH h0 a0 ad M) := by
  refine g_start2 (Lc := [(0, .ref a0), (1, .int p0), (2, .int p1)]) (by decide) rfl rfl (by exact Nat.le_of_ble_eq_true rfl) (by rfl) fun X => ?_
  unfold Mod_usesLink at hy
  refine g_iconst (v := (1 : Int32)) (pc' := 1) d_Mod_usesLink_0 (by decide) rfl ?_
  refine g_istore_n (i := 3) (pc' := 2) (Lc' := [(3, .int (1 : Int32)), (0, .ref a0), (1, .int p0), (2, .int p1)]) d_Mod_usesLink_1 rfl (by decide) rfl rfl ?_
  refine g_sub [1, 2, 3, 0] rfl ?_
  exact W_Mod_usesLink_2 ok _ _ _ _ _ _ hy
theorem hd_Mod_usesLink : g_dsc y_Mod_usesLink 2 := ⟨by decide +kernel, by decide +kernel, by decide +kernel⟩
