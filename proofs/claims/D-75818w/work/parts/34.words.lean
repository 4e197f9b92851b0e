/-! CircuitDeskModel.isWord(Ljava/lang/String;)Z -/
abbrev y_Mod_isWord : MethodName := ⟨"CircuitDeskModel", "isWord", "(Ljava/lang/String;)Z"⟩
abbrev k_Mod_isWord : g_M := (prog_17_method_22_code, 5, "CircuitDeskModel", 17, (some FieldType.boolean), "isWord", [], 0)
theorem d_Mod_isWord_0 : decode prog_17_method_22_code 0 = .ok (.aload_n 0, 1) := by decide +kernel
theorem d_Mod_isWord_1 : decode prog_17_method_22_code 1 = .ok (.getfield 84, 3) := by decide +kernel
theorem d_Mod_isWord_4 : decode prog_17_method_22_code 4 = .ok (.iconst 2, 1) := by decide +kernel
theorem d_Mod_isWord_5 : decode prog_17_method_22_code 5 = .ok (.if_icmp .ne 14, 3) := by decide +kernel
theorem d_Mod_isWord_8 : decode prog_17_method_22_code 8 = .ok (.aload_n 0, 1) := by decide +kernel
theorem d_Mod_isWord_9 : decode prog_17_method_22_code 9 = .ok (.getfield 74, 3) := by decide +kernel
theorem d_Mod_isWord_12 : decode prog_17_method_22_code 12 = .ok (.aload_n 1, 1) := by decide +kernel
theorem d_Mod_isWord_13 : decode prog_17_method_22_code 13 = .ok (.invokevirtual 99, 3) := by decide +kernel
theorem d_Mod_isWord_16 : decode prog_17_method_22_code 16 = .ok (.if_icmp .eq 5, 3) := by decide +kernel
theorem d_Mod_isWord_19 : decode prog_17_method_22_code 19 = .ok (.iconst 0, 1) := by decide +kernel
theorem d_Mod_isWord_20 : decode prog_17_method_22_code 20 = .ok (.ireturn, 1) := by decide +kernel
theorem d_Mod_isWord_21 : decode prog_17_method_22_code 21 = .ok (.lconst 0, 1) := by decide +kernel
theorem d_Mod_isWord_22 : decode prog_17_method_22_code 22 = .ok (.lstore_n 2, 1) := by decide +kernel
theorem d_Mod_isWord_23 : decode prog_17_method_22_code 23 = .ok (.iconst 0, 1) := by decide +kernel
theorem d_Mod_isWord_24 : decode prog_17_method_22_code 24 = .ok (.istore 4, 2) := by decide +kernel
theorem d_Mod_isWord_26 : decode prog_17_method_22_code 26 = .ok (.iload 4, 2) := by decide +kernel
theorem d_Mod_isWord_28 : decode prog_17_method_22_code 28 = .ok (.aload_n 1, 1) := by decide +kernel
theorem d_Mod_isWord_29 : decode prog_17_method_22_code 29 = .ok (.invokevirtual 99, 3) := by decide +kernel
theorem d_Mod_isWord_32 : decode prog_17_method_22_code 32 = .ok (.if_icmp .ge 27, 3) := by decide +kernel
theorem d_Mod_isWord_35 : decode prog_17_method_22_code 35 = .ok (.ldc2_w 91, 3) := by decide +kernel
theorem d_Mod_isWord_38 : decode prog_17_method_22_code 38 = .ok (.lload_n 2, 1) := by decide +kernel
theorem d_Mod_isWord_39 : decode prog_17_method_22_code 39 = .ok (.lmul, 1) := by decide +kernel
theorem d_Mod_isWord_40 : decode prog_17_method_22_code 40 = .ok (.aload_n 1, 1) := by decide +kernel
theorem d_Mod_isWord_41 : decode prog_17_method_22_code 41 = .ok (.iload 4, 2) := by decide +kernel
theorem d_Mod_isWord_43 : decode prog_17_method_22_code 43 = .ok (.invokevirtual 105, 3) := by decide +kernel
theorem d_Mod_isWord_46 : decode prog_17_method_22_code 46 = .ok (.i2l, 1) := by decide +kernel
theorem d_Mod_isWord_47 : decode prog_17_method_22_code 47 = .ok (.ladd, 1) := by decide +kernel
theorem d_Mod_isWord_48 : decode prog_17_method_22_code 48 = .ok (.ldc2_w 93, 3) := by decide +kernel
theorem d_Mod_isWord_51 : decode prog_17_method_22_code 51 = .ok (.lsub, 1) := by decide +kernel
theorem d_Mod_isWord_52 : decode prog_17_method_22_code 52 = .ok (.lstore_n 2, 1) := by decide +kernel
theorem d_Mod_isWord_53 : decode prog_17_method_22_code 53 = .ok (.iinc 4 1, 3) := by decide +kernel
theorem d_Mod_isWord_56 : decode prog_17_method_22_code 56 = .ok (.goto (-30), 3) := by decide +kernel
theorem d_Mod_isWord_59 : decode prog_17_method_22_code 59 = .ok (.aload_n 0, 1) := by decide +kernel
theorem d_Mod_isWord_60 : decode prog_17_method_22_code 60 = .ok (.getfield 77, 3) := by decide +kernel
theorem d_Mod_isWord_63 : decode prog_17_method_22_code 63 = .ok (.lload_n 2, 1) := by decide +kernel
theorem d_Mod_isWord_64 : decode prog_17_method_22_code 64 = .ok (.lcmp, 1) := by decide +kernel
theorem d_Mod_isWord_65 : decode prog_17_method_22_code 65 = .ok (.ifCond .ne 7, 3) := by decide +kernel
theorem d_Mod_isWord_68 : decode prog_17_method_22_code 68 = .ok (.iconst 1, 1) := by decide +kernel
theorem d_Mod_isWord_69 : decode prog_17_method_22_code 69 = .ok (.goto 4, 3) := by decide +kernel
theorem d_Mod_isWord_72 : decode prog_17_method_22_code 72 = .ok (.iconst 0, 1) := by decide +kernel
theorem d_Mod_isWord_73 : decode prog_17_method_22_code 73 = .ok (.ireturn, 1) := by decide +kernel
def Mod_isWord_26 (h0 : g_AH) (a0 : Nat) (ad : Nat → Nat) (M : g_MD)  : Nat → Option Nat → Int64 → Int32 → Option (Int32)
  | 0, _, _, _ => none
  | n + 1, v1, v2, v4 => g_nn v1 fun a10 => g_is (mH h0 a0 ad M) a10 18 <| g_b (String_length (mH h0 a0 ad M) a10) fun x13 => if x13 ≤ v4 then (if (lg_cmp M.2.2 v2) = 0 then (some (1 : Int32)) else (some (0 : Int32))) else (g_is (mH h0 a0 ad M) a10 18 <| g_b (String_charAt (mH h0 a0 ad M) a10 v4) fun x22 => (Mod_isWord_26 h0 a0 ad M  n) (some a10) ((((27 : Int64) * v2) + ((x22).toInt64)) - (96 : Int64)) (v4 + (1 : Int32)))
set_option maxHeartbeats 4000000 in
set_option maxRecDepth 100000 in
theorem W_Mod_isWord_26 {X : g_X} {h0 : g_AH} {a0 : Nat} {ad : Nat → Nat} (ok : mOK a0 ad) (M : g_MD) (z : Int32)  : ∀ (n : Nat) (v1 : Option Nat) (v2 : Int64) (v4 : Int32), Mod_isWord_26 h0 a0 ad M  n v1 v2 v4 = some z → G X k_Mod_isWord (.inl (some (.int z))) (mH h0 a0 ad M) (mH h0 a0 ad M) 26 [(0, .ref a0), (1, va_rf v1), (2, .long v2), (4, .int v4)] [] := by
  intro n
  induction n with
  | zero => intro v1 v2 v4 hy; exact absurd hy (by simp [Mod_isWord_26])
  | succ n ih =>
    intro v1 v2 v4 hy
    rw [Mod_isWord_26] at hy
    refine g_iload 3 (pc' := 28) d_Mod_isWord_26 rfl rfl ?_
    refine g_aloadO_n 1 (i := 1) (pc' := 29) d_Mod_isWord_28 rfl rfl rfl ?_
    replace hy := g_nn_inv hy
    obtain ⟨a10, rfl, hy⟩ := hy
    replace hy := g_is_inv hy
    obtain ⟨fs11, hc12, hy⟩ := hy
    replace hy := g_b_inv hy
    obtain ⟨x13, hf15, hy⟩ := hy
    refine g_callV (rv := some (.int x13)) (h1 := (mH h0 a0 ad M)) (pc' := 32) (As := []) (rest := [.int v4]) 0 (T_String_length (hy := hf15)) d_Mod_isWord_29 hc12 rfl rfl q2109 q333 q334 q119 q335 hd_String_length rfl ⟨by decide, by decide⟩ (by first | exact Nat.le_of_ble_eq_true rfl | (simp only [List.map, List.sum_cons, List.sum_nil, g_cat_rf]; exact Nat.le_of_ble_eq_true rfl) | (simp only [List.map, List.sum_cons, List.sum_nil, g_cat_rf, Value.category]; decide)) rfl ?_
    by_cases c16 : x13 ≤ v4
    · rw [if_pos c16] at hy
      refine g_icmp_geT (pc' := 59) d_Mod_isWord_32 c16 (by decide) ?_
      refine g_aload_n 0 (i := 0) (pc' := 60) d_Mod_isWord_59 rfl rfl rfl ?_
      refine gm_getA ok 17 (pc' := 63) d_Mod_isWord_60 rfl q1982 rfl rfl ?_
      refine g_lload_n 2 (i := 2) (pc' := 64) d_Mod_isWord_63 rfl rfl rfl ?_
      refine g_lcmp (pc' := 65) d_Mod_isWord_64 rfl ?_
      by_cases c17 : (lg_cmp M.2.2 v2) = 0
      · rw [if_pos c17] at hy
        refine g_if_neF (pc' := 68) d_Mod_isWord_65 72 c17 (by decide) rfl ?_
        refine g_iconst (v := (1 : Int32)) (pc' := 69) d_Mod_isWord_68 (by decide) rfl ?_
        refine g_goto (pc' := 73) d_Mod_isWord_69 (by decide) ?_
        cases hy
        exact g_zret rfl rfl rfl (g_nar_z (Or.inr rfl)).1 d_Mod_isWord_73
      · rw [if_neg c17] at hy
        refine g_if_neT (pc' := 72) d_Mod_isWord_65 c17 (by decide) ?_
        refine g_iconst (v := (0 : Int32)) (pc' := 73) d_Mod_isWord_72 (by decide) rfl ?_
        cases hy
        exact g_zret rfl rfl rfl (g_nar_z (Or.inl rfl)).1 d_Mod_isWord_73
    · rw [if_neg c16] at hy
      refine g_icmp_geF (pc' := 35) d_Mod_isWord_32 59 c16 (by decide) rfl ?_
      refine g_ldc2 (pc' := 38) d_Mod_isWord_35 q2090 rfl ?_
      refine g_lload_n 2 (i := 2) (pc' := 39) d_Mod_isWord_38 rfl rfl rfl ?_
      refine g_lmul (pc' := 40) d_Mod_isWord_39 rfl ?_
      refine g_aload_n 1 (i := 1) (pc' := 41) d_Mod_isWord_40 rfl rfl rfl ?_
      refine g_iload 3 (pc' := 43) d_Mod_isWord_41 rfl rfl ?_
      replace hy := g_is_inv hy
      obtain ⟨fs20, hc21, hy⟩ := hy
      replace hy := g_b_inv hy
      obtain ⟨x22, hf24, hy⟩ := hy
      refine g_callV (rv := some (.int x22)) (h1 := (mH h0 a0 ad M)) (pc' := 46) (As := [.int v4]) (rest := [.long ((27 : Int64) * v2)]) 1 (T_String_charAt (hy := hf24)) d_Mod_isWord_43 hc21 rfl rfl q2110 q2111 q2112 q119 q2113 hd_String_charAt rfl ⟨by decide, by decide⟩ (by first | exact Nat.le_of_ble_eq_true rfl | (simp only [List.map, List.sum_cons, List.sum_nil, g_cat_rf]; exact Nat.le_of_ble_eq_true rfl) | (simp only [List.map, List.sum_cons, List.sum_nil, g_cat_rf, Value.category]; decide)) rfl ?_
      refine g_i2l (pc' := 47) d_Mod_isWord_46 rfl ?_
      refine g_ladd (pc' := 48) d_Mod_isWord_47 rfl ?_
      refine g_ldc2 (pc' := 51) d_Mod_isWord_48 q2091 rfl ?_
      refine g_lsub (pc' := 52) d_Mod_isWord_51 rfl ?_
      refine g_lstore_n (i := 2) (pc' := 53) (Lc' := [(2, .long ((((27 : Int64) * v2) + ((x22).toInt64)) - (96 : Int64))), (0, .ref a0), (1, .ref a10), (4, .int v4)]) d_Mod_isWord_52 rfl (by decide) rfl rfl ?_
      refine g_iinc 3 (v := (v4 + (1 : Int32))) (pc' := 56) (Lc' := [(4, .int (v4 + (1 : Int32))), (2, .long ((((27 : Int64) * v2) + ((x22).toInt64)) - (96 : Int64))), (0, .ref a0), (1, .ref a10)]) d_Mod_isWord_53 rfl rfl (by decide) rfl rfl ?_
      refine g_goto (pc' := 26) d_Mod_isWord_56 (by decide) ?_
      refine g_sub [2, 3, 1, 0] rfl ?_
      exact ih _ _ _ hy
def Mod_isWord (h0 : g_AH) (a0 : Nat) (ad : Nat → Nat) (M : g_MD) (p0 : Option Nat) : Option (Int32) :=
  if (M.2.1 12) = (2 : Int32) then (g_nn p0 fun a3 => g_is (mH h0 a0 ad M) a3 18 <| g_b (String_length (mH h0 a0 ad M) a3) fun x6 => if (M.2.1 13) = x6 then (Mod_isWord_26 h0 a0 ad M  gFU (some a3) (0 : Int64) (0 : Int32)) else (some (0 : Int32))) else (some (0 : Int32))
set_option maxHeartbeats 4000000 in
set_option maxRecDepth 100000 in
theorem T_Mod_isWord {l : Launch} {B : g_B} {h0 : g_AH} {a0 : Nat} {ad : Nat → Nat} (ok : mOK a0 ad) (M : g_MD) (p0 : Option Nat) (z : Int32) (hy : Mod_isWord h0 a0 ad M p0 = some z) : g_CT l B y_Mod_isWord k_Mod_isWord [.ref a0, va_rf p0] (mH h0 a0 ad M) (.inl (some (.int z))) (mH h0 a0 ad M) := by
  refine g_start2 (Lc := [(0, .ref a0), (1, va_rf p0)]) (by decide) rfl rfl (by rcases p0 with _ | p0 <;> exact Nat.le_of_ble_eq_true rfl) (by rcases p0 with _ | p0 <;> rfl) fun X => ?_
  unfold Mod_isWord at hy
  refine g_aload_n 0 (i := 0) (pc' := 1) d_Mod_isWord_0 rfl rfl rfl ?_
  refine gm_getA ok 12 (pc' := 4) d_Mod_isWord_1 rfl q1977 rfl rfl ?_
  refine g_iconst (v := (2 : Int32)) (pc' := 5) d_Mod_isWord_4 (by decide) rfl ?_
  by_cases c1 : (M.2.1 12) = (2 : Int32)
  · rw [if_pos c1] at hy
    refine g_icmp_neF (pc' := 8) d_Mod_isWord_5 19 c1 (by decide) rfl ?_
    refine g_aload_n 0 (i := 0) (pc' := 9) d_Mod_isWord_8 rfl rfl rfl ?_
    refine gm_getA ok 13 (pc' := 12) d_Mod_isWord_9 rfl q1978 rfl rfl ?_
    refine g_aloadO_n 1 (i := 1) (pc' := 13) d_Mod_isWord_12 rfl rfl rfl ?_
    replace hy := g_nn_inv hy
    obtain ⟨a3, rfl, hy⟩ := hy
    replace hy := g_is_inv hy
    obtain ⟨fs4, hc5, hy⟩ := hy
    replace hy := g_b_inv hy
    obtain ⟨x6, hf8, hy⟩ := hy
    refine g_callV (rv := some (.int x6)) (h1 := (mH h0 a0 ad M)) (pc' := 16) (As := []) (rest := [.int (M.2.1 13)]) 0 (T_String_length (hy := hf8)) d_Mod_isWord_13 hc5 rfl rfl q2109 q333 q334 q119 q335 hd_String_length rfl ⟨by decide, by decide⟩ (by first | exact Nat.le_of_ble_eq_true rfl | (simp only [List.map, List.sum_cons, List.sum_nil, g_cat_rf]; exact Nat.le_of_ble_eq_true rfl) | (simp only [List.map, List.sum_cons, List.sum_nil, g_cat_rf, Value.category]; decide)) rfl ?_
    by_cases c9 : (M.2.1 13) = x6
    · rw [if_pos c9] at hy
      refine g_icmp_eqT (pc' := 21) d_Mod_isWord_16 c9 (by decide) ?_
      refine g_lconst (v := 0) (pc' := 22) d_Mod_isWord_21 (by decide) rfl ?_
      refine g_lstore_n (i := 2) (pc' := 23) (Lc' := [(2, .long (0 : Int64)), (0, .ref a0), (1, .ref a3)]) d_Mod_isWord_22 rfl (by decide) rfl rfl ?_
      refine g_iconst (v := (0 : Int32)) (pc' := 24) d_Mod_isWord_23 (by decide) rfl ?_
      refine g_istore (pc' := 26) (Lc' := [(4, .int (0 : Int32)), (2, .long (0 : Int64)), (0, .ref a0), (1, .ref a3)]) d_Mod_isWord_24 (by decide) rfl rfl ?_
      refine g_sub [2, 3, 1, 0] rfl ?_
      exact W_Mod_isWord_26 ok _ _ _ _ _ _ hy
    · rw [if_neg c9] at hy
      refine g_icmp_eqF (pc' := 19) d_Mod_isWord_16 21 c9 (by decide) rfl ?_
      refine g_iconst (v := (0 : Int32)) (pc' := 20) d_Mod_isWord_19 (by decide) rfl ?_
      cases hy
      exact g_zret rfl rfl rfl (g_nar_z (Or.inl rfl)).1 d_Mod_isWord_20
  · rw [if_neg c1] at hy
    refine g_icmp_neT (pc' := 19) d_Mod_isWord_5 c1 (by decide) ?_
    refine g_iconst (v := (0 : Int32)) (pc' := 20) d_Mod_isWord_19 (by decide) rfl ?_
    cases hy
    exact g_zret rfl rfl rfl (g_nar_z (Or.inl rfl)).1 d_Mod_isWord_20
theorem hd_Mod_isWord : g_dsc y_Mod_isWord 1 := ⟨by decide +kernel, by decide +kernel, by decide +kernel⟩
/-! CircuitDeskModel.parseSet()V -/
abbrev y_Mod_parseSet : MethodName := ⟨"CircuitDeskModel", "parseSet", "()V"⟩
abbrev k_Mod_parseSet : g_M := (prog_17_method_33_code, 3, "CircuitDeskModel", 18, none, "parseSet", [], 0)
theorem d_Mod_parseSet_0 : decode prog_17_method_33_code 0 = .ok (.aload_n 0, 1) := by decide +kernel
theorem d_Mod_parseSet_1 : decode prog_17_method_33_code 1 = .ok (.aload_n 0, 1) := by decide +kernel
theorem d_Mod_parseSet_2 : decode prog_17_method_33_code 2 = .ok (.ldc 167, 2) := by decide +kernel
theorem d_Mod_parseSet_4 : decode prog_17_method_33_code 4 = .ok (.invokevirtual 169, 3) := by decide +kernel
theorem d_Mod_parseSet_7 : decode prog_17_method_33_code 7 = .ok (.iconst 1, 1) := by decide +kernel
theorem d_Mod_parseSet_8 : decode prog_17_method_33_code 8 = .ok (.invokevirtual 119, 3) := by decide +kernel
theorem d_Mod_parseSet_11 : decode prog_17_method_33_code 11 = .ok (.aload_n 0, 1) := by decide +kernel
theorem d_Mod_parseSet_12 : decode prog_17_method_33_code 12 = .ok (.invokevirtual 127, 3) := by decide +kernel
theorem d_Mod_parseSet_15 : decode prog_17_method_33_code 15 = .ok (.aload_n 0, 1) := by decide +kernel
theorem d_Mod_parseSet_16 : decode prog_17_method_33_code 16 = .ok (.iconst 0, 1) := by decide +kernel
theorem d_Mod_parseSet_17 : decode prog_17_method_33_code 17 = .ok (.iconst 1, 1) := by decide +kernel
theorem d_Mod_parseSet_18 : decode prog_17_method_33_code 18 = .ok (.invokevirtual 130, 3) := by decide +kernel
theorem d_Mod_parseSet_21 : decode prog_17_method_33_code 21 = .ok (.istore_n 1, 1) := by decide +kernel
theorem d_Mod_parseSet_22 : decode prog_17_method_33_code 22 = .ok (.aload_n 0, 1) := by decide +kernel
theorem d_Mod_parseSet_23 : decode prog_17_method_33_code 23 = .ok (.iconst 0, 1) := by decide +kernel
theorem d_Mod_parseSet_24 : decode prog_17_method_33_code 24 = .ok (.iload_n 1, 1) := by decide +kernel
theorem d_Mod_parseSet_25 : decode prog_17_method_33_code 25 = .ok (.ifCond .ne 7, 3) := by decide +kernel
theorem d_Mod_parseSet_28 : decode prog_17_method_33_code 28 = .ok (.iconst 4, 1) := by decide +kernel
theorem d_Mod_parseSet_29 : decode prog_17_method_33_code 29 = .ok (.goto 4, 3) := by decide +kernel
theorem d_Mod_parseSet_32 : decode prog_17_method_33_code 32 = .ok (.iconst 1, 1) := by decide +kernel
theorem d_Mod_parseSet_33 : decode prog_17_method_33_code 33 = .ok (.invokevirtual 130, 3) := by decide +kernel
theorem d_Mod_parseSet_36 : decode prog_17_method_33_code 36 = .ok (.istore_n 2, 1) := by decide +kernel
theorem d_Mod_parseSet_37 : decode prog_17_method_33_code 37 = .ok (.aload_n 0, 1) := by decide +kernel
theorem d_Mod_parseSet_38 : decode prog_17_method_33_code 38 = .ok (.invokevirtual 112, 3) := by decide +kernel
theorem d_Mod_parseSet_41 : decode prog_17_method_33_code 41 = .ok (.ifCond .eq 10, 3) := by decide +kernel
theorem d_Mod_parseSet_44 : decode prog_17_method_33_code 44 = .ok (.aload_n 0, 1) := by decide +kernel
theorem d_Mod_parseSet_45 : decode prog_17_method_33_code 45 = .ok (.getfield 7, 3) := by decide +kernel
theorem d_Mod_parseSet_48 : decode prog_17_method_33_code 48 = .ok (.iload_n 1, 1) := by decide +kernel
theorem d_Mod_parseSet_49 : decode prog_17_method_33_code 49 = .ok (.iload_n 2, 1) := by decide +kernel
theorem d_Mod_parseSet_50 : decode prog_17_method_33_code 50 = .ok (.iastore, 1) := by decide +kernel
theorem d_Mod_parseSet_51 : decode prog_17_method_33_code 51 = .ok (.return_, 1) := by decide +kernel
def Mod_parseSet_33 (h0 : g_AH) (a0 : Nat) (ad : Nat → Nat) (M : g_MD) (v1 : Int32) (s0 : Int32) (s1 : Int32) : Option g_MD :=
  g_bM (Mod_parseNumber M s1 s0) fun x14 M15 => g_b (Mod_isFine M15) fun x17 => if x17 = 0 then (some M15) else (g_mS M15 0 0 v1 x14 fun M21 => some M21)
set_option maxHeartbeats 4000000 in
set_option maxRecDepth 100000 in
theorem W_Mod_parseSet_33 {X : g_X} {h0 : g_AH} {a0 : Nat} {ad : Nat → Nat} (ok : mOK a0 ad) (z : g_MD) (M : g_MD) (v1 : Int32) (s0 : Int32) (s1 : Int32) (hy : Mod_parseSet_33 h0 a0 ad  M v1 s0 s1 = some z) : G X k_Mod_parseSet (.inl none) (mH h0 a0 ad z) (mH h0 a0 ad M) 33 [(0, .ref a0), (1, .int v1)] [.int s0, .int s1, .ref a0] := by
  unfold Mod_parseSet_33 at hy
  replace hy := g_bM_inv hy
  obtain ⟨x14, M15, hf16, hy⟩ := hy
  refine g_callV (rv := some (.int x14)) (h1 := (mH h0 a0 ad M15)) (pc' := 36) (As := [.int s1, .int s0]) (rest := []) 2 (T_Mod_parseNumber ok (hy := hf16)) d_Mod_parseSet_33 (mH_look ok) rfl rfl q2133 q2135 qs40 q135 q2136 hd_Mod_parseNumber rfl ⟨by decide, by decide⟩ (by first | exact Nat.le_of_ble_eq_true rfl | (simp only [List.map, List.sum_cons, List.sum_nil, g_cat_rf]; exact Nat.le_of_ble_eq_true rfl) | (simp only [List.map, List.sum_cons, List.sum_nil, g_cat_rf, Value.category]; decide)) rfl ?_
  refine g_istore_n (i := 2) (pc' := 37) (Lc' := [(2, .int x14), (0, .ref a0), (1, .int v1)]) d_Mod_parseSet_36 rfl (by decide) rfl rfl ?_
  refine g_aload_n 1 (i := 0) (pc' := 38) d_Mod_parseSet_37 rfl rfl rfl ?_
  replace hy := g_b_inv hy
  obtain ⟨x17, hf19, hy⟩ := hy
  refine g_callV (rv := some (.int x17)) (h1 := (mH h0 a0 ad M15)) (pc' := 41) (As := []) (rest := []) 0 (T_Mod_isFine ok (hy := hf19)) d_Mod_parseSet_38 (mH_look ok) rfl rfl q2096 q2098 qs34 q135 q2099 hd_Mod_isFine rfl ⟨by decide, by decide⟩ (by first | exact Nat.le_of_ble_eq_true rfl | (simp only [List.map, List.sum_cons, List.sum_nil, g_cat_rf]; exact Nat.le_of_ble_eq_true rfl) | (simp only [List.map, List.sum_cons, List.sum_nil, g_cat_rf, Value.category]; decide)) rfl ?_
  by_cases c20 : x17 = 0
  · rw [if_pos c20] at hy
    refine g_if_eqT (pc' := 51) d_Mod_parseSet_41 c20 (by decide) ?_
    cases hy
    exact g_vret rfl rfl rfl d_Mod_parseSet_51
  · rw [if_neg c20] at hy
    refine g_if_eqF (pc' := 44) d_Mod_parseSet_41 51 c20 (by decide) rfl ?_
    refine g_aload_n 1 (i := 0) (pc' := 45) d_Mod_parseSet_44 rfl rfl rfl ?_
    refine gm_getA ok 0 (pc' := 48) d_Mod_parseSet_45 rfl q1965 rfl rfl ?_
    refine g_iload_n 2 (i := 1) (pc' := 49) d_Mod_parseSet_48 rfl rfl rfl ?_
    refine g_iload_n 0 (i := 2) (pc' := 50) d_Mod_parseSet_49 rfl rfl rfl ?_
    replace hy := g_mS_inv hy
    obtain ⟨hc22, hy⟩ := hy
    refine gm_ast0 ok (pc' := 51) d_Mod_parseSet_50 hc22 rfl ?_
    generalize ms M15 0 (v1).toNatClampNeg x14 = M21 at hy ⊢
    cases hy
    exact g_vret rfl rfl rfl d_Mod_parseSet_51
def Mod_parseSet (h0 : g_AH) (a0 : Nat) (ad : Nat → Nat) (M : g_MD)  : Option g_MD :=
  g_b (Mod_isWord h0 a0 ad M (some (g_str h0 9))) fun x1 => g_b (Mod_require M x1 (1 : Int32)) fun M5 => g_b (Mod_advance M5) fun M8 => g_bM (Mod_parseNumber M8 (0 : Int32) (1 : Int32)) fun x10 M11 => if x10 = 0 then (Mod_parseSet_33 h0 a0 ad  M11 x10 (4 : Int32) (0 : Int32)) else (Mod_parseSet_33 h0 a0 ad  M11 x10 (1 : Int32) (0 : Int32))
set_option maxHeartbeats 4000000 in
set_option maxRecDepth 100000 in
theorem T_Mod_parseSet {l : Launch} {B : g_B} {h0 : g_AH} {a0 : Nat} {ad : Nat → Nat} (ok : mOK a0 ad) (M : g_MD)  (z : g_MD) (hy : Mod_parseSet h0 a0 ad M  = some z) : g_CT l B y_Mod_parseSet k_Mod_parseSet [.ref a0] (mH h0 a0 ad M) (.inl none) (mH h0 a0 ad z) := by
  refine g_start2 (Lc := [(0, .ref a0)]) (by decide) rfl rfl (by exact Nat.le_of_ble_eq_true rfl) (by rfl) fun X => ?_
  unfold Mod_parseSet at hy
  refine g_aload_n 0 (i := 0) (pc' := 1) d_Mod_parseSet_0 rfl rfl rfl ?_
  refine g_aload_n 0 (i := 0) (pc' := 2) d_Mod_parseSet_1 rfl rfl rfl ?_
  refine g_ldcS (j := 9) (pc' := 4) d_Mod_parseSet_2 rfl rfl rfl rfl ?_
  replace hy := g_b_inv hy
  obtain ⟨x1, hf3, hy⟩ := hy
  refine g_callV (rv := some (.int x1)) (h1 := (mH h0 a0 ad M)) (pc' := 7) (As := [va_rf (some (g_str h0 9))]) (rest := [.ref a0]) 1 (T_Mod_isWord ok (hy := hf3)) d_Mod_parseSet_4 (mH_look ok) rfl rfl q2105 q2107 qs36 q135 q2108 hd_Mod_isWord rfl ⟨by decide, by decide⟩ (by first | exact Nat.le_of_ble_eq_true rfl | (simp only [List.map, List.sum_cons, List.sum_nil, g_cat_rf]; exact Nat.le_of_ble_eq_true rfl) | (simp only [List.map, List.sum_cons, List.sum_nil, g_cat_rf, Value.category]; decide)) rfl ?_
  refine g_iconst (v := (1 : Int32)) (pc' := 8) d_Mod_parseSet_7 (by decide) rfl ?_
  replace hy := g_b_inv hy
  obtain ⟨M5, hf6, hy⟩ := hy
  refine g_callV (rv := none) (h1 := (mH h0 a0 ad M5)) (pc' := 11) (As := [.int x1, .int (1 : Int32)]) (rest := []) 2 (T_Mod_require ok (hy := hf6)) d_Mod_parseSet_8 (mH_look ok) rfl rfl q2125 q2127 qs38 q135 q2128 hd_Mod_require rfl ⟨by decide, by decide⟩ (by first | exact Nat.le_of_ble_eq_true rfl | (simp only [List.map, List.sum_cons, List.sum_nil, g_cat_rf]; exact Nat.le_of_ble_eq_true rfl) | (simp only [List.map, List.sum_cons, List.sum_nil, g_cat_rf, Value.category]; decide)) rfl ?_
  refine g_aload_n 0 (i := 0) (pc' := 12) d_Mod_parseSet_11 rfl rfl rfl ?_
  replace hy := g_b_inv hy
  obtain ⟨M8, hf9, hy⟩ := hy
  refine g_callV (rv := none) (h1 := (mH h0 a0 ad M8)) (pc' := 15) (As := []) (rest := []) 0 (T_Mod_advance ok (hy := hf9)) d_Mod_parseSet_12 (mH_look ok) rfl rfl q2129 q2131 qs39 q135 q2132 hd_Mod_advance rfl ⟨by decide, by decide⟩ (by first | exact Nat.le_of_ble_eq_true rfl | (simp only [List.map, List.sum_cons, List.sum_nil, g_cat_rf]; exact Nat.le_of_ble_eq_true rfl) | (simp only [List.map, List.sum_cons, List.sum_nil, g_cat_rf, Value.category]; decide)) rfl ?_
  refine g_aload_n 0 (i := 0) (pc' := 16) d_Mod_parseSet_15 rfl rfl rfl ?_
  refine g_iconst (v := (0 : Int32)) (pc' := 17) d_Mod_parseSet_16 (by decide) rfl ?_
  refine g_iconst (v := (1 : Int32)) (pc' := 18) d_Mod_parseSet_17 (by decide) rfl ?_
  replace hy := g_bM_inv hy
  obtain ⟨x10, M11, hf12, hy⟩ := hy
  refine g_callV (rv := some (.int x10)) (h1 := (mH h0 a0 ad M11)) (pc' := 21) (As := [.int (0 : Int32), .int (1 : Int32)]) (rest := []) 2 (T_Mod_parseNumber ok (hy := hf12)) d_Mod_parseSet_18 (mH_look ok) rfl rfl q2133 q2135 qs40 q135 q2136 hd_Mod_parseNumber rfl ⟨by decide, by decide⟩ (by first | exact Nat.le_of_ble_eq_true rfl | (simp only [List.map, List.sum_cons, List.sum_nil, g_cat_rf]; exact Nat.le_of_ble_eq_true rfl) | (simp only [List.map, List.sum_cons, List.sum_nil, g_cat_rf, Value.category]; decide)) rfl ?_
  refine g_istore_n (i := 1) (pc' := 22) (Lc' := [(1, .int x10), (0, .ref a0)]) d_Mod_parseSet_21 rfl (by decide) rfl rfl ?_
  refine g_aload_n 1 (i := 0) (pc' := 23) d_Mod_parseSet_22 rfl rfl rfl ?_
  refine g_iconst (v := (0 : Int32)) (pc' := 24) d_Mod_parseSet_23 (by decide) rfl ?_
  refine g_iload_n 0 (i := 1) (pc' := 25) d_Mod_parseSet_24 rfl rfl rfl ?_
  by_cases c13 : x10 = 0
  · rw [if_pos c13] at hy
    refine g_if_neF (pc' := 28) d_Mod_parseSet_25 32 c13 (by decide) rfl ?_
    refine g_iconst (v := (4 : Int32)) (pc' := 29) d_Mod_parseSet_28 (by decide) rfl ?_
    refine g_goto (pc' := 33) d_Mod_parseSet_29 (by decide) ?_
    refine g_sub [1, 0] rfl ?_
    exact W_Mod_parseSet_33 ok _ _ _ _ _ hy
  · rw [if_neg c13] at hy
    refine g_if_neT (pc' := 32) d_Mod_parseSet_25 c13 (by decide) ?_
    refine g_iconst (v := (1 : Int32)) (pc' := 33) d_Mod_parseSet_32 (by decide) rfl ?_
    refine g_sub [1, 0] rfl ?_
    exact W_Mod_parseSet_33 ok _ _ _ _ _ hy
theorem hd_Mod_parseSet : g_dsc y_Mod_parseSet 0 := ⟨by decide +kernel, by decide +kernel, by decide +kernel⟩
/-! CircuitDeskModel.parseStatement()V -/
abbrev y_Mod_parseStatement : MethodName := ⟨"CircuitDeskModel", "parseStatement", "()V"⟩
abbrev k_Mod_parseStatement : g_M := (prog_17_method_34_code, 1, "CircuitDeskModel", 19, none, "parseStatement", [], 0)
theorem d_Mod_parseStatement_0 : decode prog_17_method_34_code 0 = .ok (.aload_n 0, 1) := by decide +kernel
theorem d_Mod_parseStatement_1 : decode prog_17_method_34_code 1 = .ok (.ldc 173, 2) := by decide +kernel
theorem d_Mod_parseStatement_3 : decode prog_17_method_34_code 3 = .ok (.invokevirtual 169, 3) := by decide +kernel
theorem d_Mod_parseStatement_6 : decode prog_17_method_34_code 6 = .ok (.ifCond .eq 10, 3) := by decide +kernel
theorem d_Mod_parseStatement_9 : decode prog_17_method_34_code 9 = .ok (.aload_n 0, 1) := by decide +kernel
theorem d_Mod_parseStatement_10 : decode prog_17_method_34_code 10 = .ok (.invokevirtual 175, 3) := by decide +kernel
theorem d_Mod_parseStatement_13 : decode prog_17_method_34_code 13 = .ok (.goto 39, 3) := by decide +kernel
theorem d_Mod_parseStatement_16 : decode prog_17_method_34_code 16 = .ok (.aload_n 0, 1) := by decide +kernel
theorem d_Mod_parseStatement_17 : decode prog_17_method_34_code 17 = .ok (.ldc 178, 2) := by decide +kernel
theorem d_Mod_parseStatement_19 : decode prog_17_method_34_code 19 = .ok (.invokevirtual 169, 3) := by decide +kernel
theorem d_Mod_parseStatement_22 : decode prog_17_method_34_code 22 = .ok (.ifCond .eq 10, 3) := by decide +kernel
theorem d_Mod_parseStatement_25 : decode prog_17_method_34_code 25 = .ok (.aload_n 0, 1) := by decide +kernel
theorem d_Mod_parseStatement_26 : decode prog_17_method_34_code 26 = .ok (.invokevirtual 180, 3) := by decide +kernel
theorem d_Mod_parseStatement_29 : decode prog_17_method_34_code 29 = .ok (.goto 23, 3) := by decide +kernel
theorem d_Mod_parseStatement_32 : decode prog_17_method_34_code 32 = .ok (.aload_n 0, 1) := by decide +kernel
theorem d_Mod_parseStatement_33 : decode prog_17_method_34_code 33 = .ok (.ldc 183, 2) := by decide +kernel
theorem d_Mod_parseStatement_35 : decode prog_17_method_34_code 35 = .ok (.invokevirtual 169, 3) := by decide +kernel
theorem d_Mod_parseStatement_38 : decode prog_17_method_34_code 38 = .ok (.ifCond .eq 10, 3) := by decide +kernel
theorem d_Mod_parseStatement_41 : decode prog_17_method_34_code 41 = .ok (.aload_n 0, 1) := by decide +kernel
theorem d_Mod_parseStatement_42 : decode prog_17_method_34_code 42 = .ok (.invokevirtual 185, 3) := by decide +kernel
theorem d_Mod_parseStatement_45 : decode prog_17_method_34_code 45 = .ok (.goto 7, 3) := by decide +kernel
theorem d_Mod_parseStatement_48 : decode prog_17_method_34_code 48 = .ok (.aload_n 0, 1) := by decide +kernel
theorem d_Mod_parseStatement_49 : decode prog_17_method_34_code 49 = .ok (.invokevirtual 188, 3) := by decide +kernel
theorem d_Mod_parseStatement_52 : decode prog_17_method_34_code 52 = .ok (.aload_n 0, 1) := by decide +kernel
theorem d_Mod_parseStatement_53 : decode prog_17_method_34_code 53 = .ok (.aload_n 0, 1) := by decide +kernel
theorem d_Mod_parseStatement_54 : decode prog_17_method_34_code 54 = .ok (.getfield 84, 3) := by decide +kernel
theorem d_Mod_parseStatement_57 : decode prog_17_method_34_code 57 = .ok (.iconst 4, 1) := by decide +kernel
theorem d_Mod_parseStatement_58 : decode prog_17_method_34_code 58 = .ok (.if_icmp .ne 7, 3) := by decide +kernel
theorem d_Mod_parseStatement_61 : decode prog_17_method_34_code 61 = .ok (.iconst 1, 1) := by decide +kernel
theorem d_Mod_parseStatement_62 : decode prog_17_method_34_code 62 = .ok (.goto 4, 3) := by decide +kernel
theorem d_Mod_parseStatement_65 : decode prog_17_method_34_code 65 = .ok (.iconst 0, 1) := by decide +kernel
theorem d_Mod_parseStatement_66 : decode prog_17_method_34_code 66 = .ok (.iconst 1, 1) := by decide +kernel
theorem d_Mod_parseStatement_67 : decode prog_17_method_34_code 67 = .ok (.invokevirtual 119, 3) := by decide +kernel
theorem d_Mod_parseStatement_70 : decode prog_17_method_34_code 70 = .ok (.aload_n 0, 1) := by decide +kernel
theorem d_Mod_parseStatement_71 : decode prog_17_method_34_code 71 = .ok (.invokevirtual 127, 3) := by decide +kernel
theorem d_Mod_parseStatement_74 : decode prog_17_method_34_code 74 = .ok (.return_, 1) := by decide +kernel
def Mod_parseStatement_66 (h0 : g_AH) (a0 : Nat) (ad : Nat → Nat) (M : g_MD) (s0 : Int32) : Option g_MD :=
  g_b (Mod_require M s0 (1 : Int32)) fun M18 => g_b (Mod_advance M18) fun M21 => some M21
set_option maxHeartbeats 4000000 in
set_option maxRecDepth 100000 in
theorem W_Mod_parseStatement_66 {X : g_X} {h0 : g_AH} {a0 : Nat} {ad : Nat → Nat} (ok : mOK a0 ad) (z : g_MD) (M : g_MD) (s0 : Int32) (hy : Mod_parseStatement_66 h0 a0 ad  M s0 = some z) : G X k_Mod_parseStatement (.inl none) (mH h0 a0 ad z) (mH h0 a0 ad M) 66 [(0, .ref a0)] [.int s0, .ref a0] := by
  unfold Mod_parseStatement_66 at hy
  refine g_iconst (v := (1 : Int32)) (pc' := 67) d_Mod_parseStatement_66 (by decide) rfl ?_
  replace hy := g_b_inv hy
  obtain ⟨M18, hf19, hy⟩ := hy
  refine g_callV (rv := none) (h1 := (mH h0 a0 ad M18)) (pc' := 70) (As := [.int s0, .int (1 : Int32)]) (rest := []) 2 (T_Mod_require ok (hy := hf19)) d_Mod_parseStatement_67 (mH_look ok) rfl rfl q2125 q2127 qs38 q135 q2128 hd_Mod_require rfl ⟨by decide, by decide⟩ (by first | exact Nat.le_of_ble_eq_true rfl | (simp only [List.map, List.sum_cons, List.sum_nil, g_cat_rf]; exact Nat.le_of_ble_eq_true rfl) | (simp only [List.map, List.sum_cons, List.sum_nil, g_cat_rf, Value.category]; decide)) rfl ?_
  refine g_aload_n 0 (i := 0) (pc' := 71) d_Mod_parseStatement_70 rfl rfl rfl ?_
  replace hy := g_b_inv hy
  obtain ⟨M21, hf22, hy⟩ := hy
  refine g_callV (rv := none) (h1 := (mH h0 a0 ad M21)) (pc' := 74) (As := []) (rest := []) 0 (T_Mod_advance ok (hy := hf22)) d_Mod_parseStatement_71 (mH_look ok) rfl rfl q2129 q2131 qs39 q135 q2132 hd_Mod_advance rfl ⟨by decide, by decide⟩ (by first | exact Nat.le_of_ble_eq_true rfl | (simp only [List.map, List.sum_cons, List.sum_nil, g_cat_rf]; exact Nat.le_of_ble_eq_true rfl) | (simp only [List.map, List.sum_cons, List.sum_nil, g_cat_rf, Value.category]; decide)) rfl ?_
  cases hy
  exact g_vret rfl rfl rfl d_Mod_parseStatement_74
def Mod_parseStatement_52 (h0 : g_AH) (a0 : Nat) (ad : Nat → Nat) (M : g_MD) : Option g_MD :=
  if (M.2.1 12) = (4 : Int32) then (Mod_parseStatement_66 h0 a0 ad  M (1 : Int32)) else (Mod_parseStatement_66 h0 a0 ad  M (0 : Int32))
set_option maxHeartbeats 4000000 in
set_option maxRecDepth 100000 in
theorem W_Mod_parseStatement_52 {X : g_X} {h0 : g_AH} {a0 : Nat} {ad : Nat → Nat} (ok : mOK a0 ad) (z : g_MD) (M : g_MD) (hy : Mod_parseStatement_52 h0 a0 ad  M = some z) : G X k_Mod_parseStatement (.inl none) (mH h0 a0 ad z) (mH h0 a0 ad M) 52 [(0, .ref a0)] [] := by
  unfold Mod_parseStatement_52 at hy
  refine g_aload_n 0 (i := 0) (pc' := 53) d_Mod_parseStatement_52 rfl rfl rfl ?_
  refine g_aload_n 0 (i := 0) (pc' := 54) d_Mod_parseStatement_53 rfl rfl rfl ?_
  refine gm_getA ok 12 (pc' := 57) d_Mod_parseStatement_54 rfl q1977 rfl rfl ?_
  refine g_iconst (v := (4 : Int32)) (pc' := 58) d_Mod_parseStatement_57 (by decide) rfl ?_
  by_cases c16 : (M.2.1 12) = (4 : Int32)
  · rw [if_pos c16] at hy
    refine g_icmp_neF (pc' := 61) d_Mod_parseStatement_58 65 c16 (by decide) rfl ?_
    refine g_iconst (v := (1 : Int32)) (pc' := 62) d_Mod_parseStatement_61 (by decide) rfl ?_
    refine g_goto (pc' := 66) d_Mod_parseStatement_62 (by decide) ?_
    exact W_Mod_parseStatement_66 ok _ _ _ hy
  · rw [if_neg c16] at hy
    refine g_icmp_neT (pc' := 65) d_Mod_parseStatement_58 c16 (by decide) ?_
    refine g_iconst (v := (0 : Int32)) (pc' := 66) d_Mod_parseStatement_65 (by decide) rfl ?_
    exact W_Mod_parseStatement_66 ok _ _ _ hy
def Mod_parseStatement (h0 : g_AH) (a0 : Nat) (ad : Nat → Nat) (M : g_MD)  : Option g_MD :=
  g_b (Mod_isWord h0 a0 ad M (some (g_str h0 6))) fun x1 => if x1 = 0 then (g_b (Mod_isWord h0 a0 ad M (some (g_str h0 7))) fun x5 => if x5 = 0 then (g_b (Mod_isWord h0 a0 ad M (some (g_str h0 8))) fun x9 => if x9 = 0 then (g_b (Mod_parseSet h0 a0 ad M) fun M14 => Mod_parseStatement_52 h0 a0 ad  M14) else (g_b (Mod_parseCircuit M) fun M24 => Mod_parseStatement_52 h0 a0 ad  M24)) else (g_b (Mod_parseLink M) fun M27 => Mod_parseStatement_52 h0 a0 ad  M27)) else (g_b (Mod_parseNode M) fun M30 => Mod_parseStatement_52 h0 a0 ad  M30)
set_option maxHeartbeats 4000000 in
set_option maxRecDepth 100000 in
theorem T_Mod_parseStatement {l : Launch} {B : g_B} {h0 : g_AH} {a0 : Nat} {ad : Nat → Nat} (ok : mOK a0 ad) (M : g_MD)  (z : g_MD) (hy : Mod_parseStatement h0 a0 ad M  = some z) : g_CT l B y_Mod_parseStatement k_Mod_parseStatement [.ref a0] (mH h0 a0 ad M) (.inl none) (mH h0 a0 ad z) := by
  refine g_start2 (Lc := [(0, .ref a0)]) (by decide) rfl rfl (by exact Nat.le_of_ble_eq_true rfl) (by rfl) fun X => ?_
  unfold Mod_parseStatement at hy
  refine g_aload_n 0 (i := 0) (pc' := 1) d_Mod_parseStatement_0 rfl rfl rfl ?_
  refine g_ldcS (j := 6) (pc' := 3) d_Mod_parseStatement_1 rfl rfl rfl rfl ?_
  replace hy := g_b_inv hy
  obtain ⟨x1, hf3, hy⟩ := hy
  refine g_callV (rv := some (.int x1)) (h1 := (mH h0 a0 ad M)) (pc' := 6) (As := [va_rf (some (g_str h0 6))]) (rest := []) 1 (T_Mod_isWord ok (hy := hf3)) d_Mod_parseStatement_3 (mH_look ok) rfl rfl q2105 q2107 qs36 q135 q2108 hd_Mod_isWord rfl ⟨by decide, by decide⟩ (by first | exact Nat.le_of_ble_eq_true rfl | (simp only [List.map, List.sum_cons, List.sum_nil, g_cat_rf]; exact Nat.le_of_ble_eq_true rfl) | (simp only [List.map, List.sum_cons, List.sum_nil, g_cat_rf, Value.category]; decide)) rfl ?_
  by_cases c4 : x1 = 0
  · rw [if_pos c4] at hy
    refine g_if_eqT (pc' := 16) d_Mod_parseStatement_6 c4 (by decide) ?_
    refine g_aload_n 0 (i := 0) (pc' := 17) d_Mod_parseStatement_16 rfl rfl rfl ?_
    refine g_ldcS (j := 7) (pc' := 19) d_Mod_parseStatement_17 rfl rfl rfl rfl ?_
    replace hy := g_b_inv hy
    obtain ⟨x5, hf7, hy⟩ := hy
    refine g_callV (rv := some (.int x5)) (h1 := (mH h0 a0 ad M)) (pc' := 22) (As := [va_rf (some (g_str h0 7))]) (rest := []) 1 (T_Mod_isWord ok (hy := hf7)) d_Mod_parseStatement_19 (mH_look ok) rfl rfl q2105 q2107 qs36 q135 q2108 hd_Mod_isWord rfl ⟨by decide, by decide⟩ (by first | exact Nat.le_of_ble_eq_true rfl | (simp only [List.map, List.sum_cons, List.sum_nil, g_cat_rf]; exact Nat.le_of_ble_eq_true rfl) | (simp only [List.map, List.sum_cons, List.sum_nil, g_cat_rf, Value.category]; decide)) rfl ?_
    by_cases c8 : x5 = 0
    · rw [if_pos c8] at hy
      refine g_if_eqT (pc' := 32) d_Mod_parseStatement_22 c8 (by decide) ?_
      refine g_aload_n 0 (i := 0) (pc' := 33) d_Mod_parseStatement_32 rfl rfl rfl ?_
      refine g_ldcS (j := 8) (pc' := 35) d_Mod_parseStatement_33 rfl rfl rfl rfl ?_
      replace hy := g_b_inv hy
      obtain ⟨x9, hf11, hy⟩ := hy
      refine g_callV (rv := some (.int x9)) (h1 := (mH h0 a0 ad M)) (pc' := 38) (As := [va_rf (some (g_str h0 8))]) (rest := []) 1 (T_Mod_isWord ok (hy := hf11)) d_Mod_parseStatement_35 (mH_look ok) rfl rfl q2105 q2107 qs36 q135 q2108 hd_Mod_isWord rfl ⟨by decide, by decide⟩ (by first | exact Nat.le_of_ble_eq_true rfl | (simp only [List.map, List.sum_cons, List.sum_nil, g_cat_rf]; exact Nat.le_of_ble_eq_true rfl) | (simp only [List.map, List.sum_cons, List.sum_nil, g_cat_rf, Value.category]; decide)) rfl ?_
      by_cases c12 : x9 = 0
      · rw [if_pos c12] at hy
        refine g_if_eqT (pc' := 48) d_Mod_parseStatement_38 c12 (by decide) ?_
        refine g_aload_n 0 (i := 0) (pc' := 49) d_Mod_parseStatement_48 rfl rfl rfl ?_
        replace hy := g_b_inv hy
        obtain ⟨M14, hf15, hy⟩ := hy
        refine g_callV (rv := none) (h1 := (mH h0 a0 ad M14)) (pc' := 52) (As := []) (rest := []) 0 (T_Mod_parseSet ok (hy := hf15)) d_Mod_parseStatement_49 (mH_look ok) rfl rfl q2230 q2232 qs63 q135 q2233 hd_Mod_parseSet rfl ⟨by decide, by decide⟩ (by first | exact Nat.le_of_ble_eq_true rfl | (simp only [List.map, List.sum_cons, List.sum_nil, g_cat_rf]; exact Nat.le_of_ble_eq_true rfl) | (simp only [List.map, List.sum_cons, List.sum_nil, g_cat_rf, Value.category]; decide)) rfl ?_
        exact W_Mod_parseStatement_52 ok _ _ hy
      · rw [if_neg c12] at hy
        refine g_if_eqF (pc' := 41) d_Mod_parseStatement_38 48 c12 (by decide) rfl ?_
        refine g_aload_n 0 (i := 0) (pc' := 42) d_Mod_parseStatement_41 rfl rfl rfl ?_
        replace hy := g_b_inv hy
        obtain ⟨M24, hf25, hy⟩ := hy
        refine g_callV (rv := none) (h1 := (mH h0 a0 ad M24)) (pc' := 45) (As := []) (rest := []) 0 (T_Mod_parseCircuit ok (hy := hf25)) d_Mod_parseStatement_42 (mH_look ok) rfl rfl q2163 q2165 qs47 q135 q2166 hd_Mod_parseCircuit rfl ⟨by decide, by decide⟩ (by first | exact Nat.le_of_ble_eq_true rfl | (simp only [List.map, List.sum_cons, List.sum_nil, g_cat_rf]; exact Nat.le_of_ble_eq_true rfl) | (simp only [List.map, List.sum_cons, List.sum_nil, g_cat_rf, Value.category]; decide)) rfl ?_
        refine g_goto (pc' := 52) d_Mod_parseStatement_45 (by decide) ?_
        exact W_Mod_parseStatement_52 ok _ _ hy
    · rw [if_neg c8] at hy
      refine g_if_eqF (pc' := 25) d_Mod_parseStatement_22 32 c8 (by decide) rfl ?_
      refine g_aload_n 0 (i := 0) (pc' := 26) d_Mod_parseStatement_25 rfl rfl rfl ?_
      replace hy := g_b_inv hy
      obtain ⟨M27, hf28, hy⟩ := hy
      refine g_callV (rv := none) (h1 := (mH h0 a0 ad M27)) (pc' := 29) (As := []) (rest := []) 0 (T_Mod_parseLink ok (hy := hf28)) d_Mod_parseStatement_26 (mH_look ok) rfl rfl q2146 q2148 qs43 q135 q2149 hd_Mod_parseLink rfl ⟨by decide, by decide⟩ (by first | exact Nat.le_of_ble_eq_true rfl | (simp only [List.map, List.sum_cons, List.sum_nil, g_cat_rf]; exact Nat.le_of_ble_eq_true rfl) | (simp only [List.map, List.sum_cons, List.sum_nil, g_cat_rf, Value.category]; decide)) rfl ?_
      refine g_goto (pc' := 52) d_Mod_parseStatement_29 (by decide) ?_
      exact W_Mod_parseStatement_52 ok _ _ hy
  · rw [if_neg c4] at hy
    refine g_if_eqF (pc' := 9) d_Mod_parseStatement_6 16 c4 (by decide) rfl ?_
    refine g_aload_n 0 (i := 0) (pc' := 10) d_Mod_parseStatement_9 rfl rfl rfl ?_
    replace hy := g_b_inv hy
    obtain ⟨M30, hf31, hy⟩ := hy
    refine g_callV (rv := none) (h1 := (mH h0 a0 ad M30)) (pc' := 13) (As := []) (rest := []) 0 (T_Mod_parseNode ok (hy := hf31)) d_Mod_parseStatement_10 (mH_look ok) rfl rfl q2121 q2123 qs37 q135 q2124 hd_Mod_parseNode rfl ⟨by decide, by decide⟩ (by first | exact Nat.le_of_ble_eq_true rfl | (simp only [List.map, List.sum_cons, List.sum_nil, g_cat_rf]; exact Nat.le_of_ble_eq_true rfl) | (simp only [List.map, List.sum_cons, List.sum_nil, g_cat_rf, Value.category]; decide)) rfl ?_
    refine g_goto (pc' := 52) d_Mod_parseStatement_13 (by decide) ?_
    exact W_Mod_parseStatement_52 ok _ _ hy
theorem hd_Mod_parseStatement : g_dsc y_Mod_parseStatement 0 := ⟨by decide +kernel, by decide +kernel, by decide +kernel⟩
/-! CircuitDeskModel.load()I -/
abbrev y_Mod_load : MethodName := ⟨"CircuitDeskModel", "load", "()I"⟩
abbrev k_Mod_load : g_M := (prog_17_method_35_code, 1, "CircuitDeskModel", 20, (some FieldType.int), "load", [], 0)
theorem d_Mod_load_0 : decode prog_17_method_35_code 0 = .ok (.aload_n 0, 1) := by decide +kernel
theorem d_Mod_load_1 : decode prog_17_method_35_code 1 = .ok (.iconst 0, 1) := by decide +kernel
theorem d_Mod_load_2 : decode prog_17_method_35_code 2 = .ok (.putfield 51, 3) := by decide +kernel
theorem d_Mod_load_5 : decode prog_17_method_35_code 5 = .ok (.aload_n 0, 1) := by decide +kernel
theorem d_Mod_load_6 : decode prog_17_method_35_code 6 = .ok (.getfield 7, 3) := by decide +kernel
theorem d_Mod_load_9 : decode prog_17_method_35_code 9 = .ok (.iconst 0, 1) := by decide +kernel
theorem d_Mod_load_10 : decode prog_17_method_35_code 10 = .ok (.aload_n 0, 1) := by decide +kernel
theorem d_Mod_load_11 : decode prog_17_method_35_code 11 = .ok (.getfield 13, 3) := by decide +kernel
theorem d_Mod_load_14 : decode prog_17_method_35_code 14 = .ok (.iconst 0, 1) := by decide +kernel
theorem d_Mod_load_15 : decode prog_17_method_35_code 15 = .ok (.invokestatic 191, 3) := by decide +kernel
theorem d_Mod_load_18 : decode prog_17_method_35_code 18 = .ok (.aload_n 0, 1) := by decide +kernel
theorem d_Mod_load_19 : decode prog_17_method_35_code 19 = .ok (.invokevirtual 48, 3) := by decide +kernel
theorem d_Mod_load_22 : decode prog_17_method_35_code 22 = .ok (.aload_n 0, 1) := by decide +kernel
theorem d_Mod_load_23 : decode prog_17_method_35_code 23 = .ok (.iconst 0, 1) := by decide +kernel
theorem d_Mod_load_24 : decode prog_17_method_35_code 24 = .ok (.putfield 109, 3) := by decide +kernel
theorem d_Mod_load_27 : decode prog_17_method_35_code 27 = .ok (.aload_n 0, 1) := by decide +kernel
theorem d_Mod_load_28 : decode prog_17_method_35_code 28 = .ok (.iconst (-1), 1) := by decide +kernel
theorem d_Mod_load_29 : decode prog_17_method_35_code 29 = .ok (.putfield 32, 3) := by decide +kernel
theorem d_Mod_load_32 : decode prog_17_method_35_code 32 = .ok (.aload_n 0, 1) := by decide +kernel
theorem d_Mod_load_33 : decode prog_17_method_35_code 33 = .ok (.iconst 0, 1) := by decide +kernel
theorem d_Mod_load_34 : decode prog_17_method_35_code 34 = .ok (.putfield 65, 3) := by decide +kernel
theorem d_Mod_load_37 : decode prog_17_method_35_code 37 = .ok (.aload_n 0, 1) := by decide +kernel
theorem d_Mod_load_38 : decode prog_17_method_35_code 38 = .ok (.invokevirtual 116, 3) := by decide +kernel
theorem d_Mod_load_41 : decode prog_17_method_35_code 41 = .ok (.aload_n 0, 1) := by decide +kernel
theorem d_Mod_load_42 : decode prog_17_method_35_code 42 = .ok (.invokevirtual 112, 3) := by decide +kernel
theorem d_Mod_load_45 : decode prog_17_method_35_code 45 = .ok (.ifCond .eq 17, 3) := by decide +kernel
theorem d_Mod_load_48 : decode prog_17_method_35_code 48 = .ok (.aload_n 0, 1) := by decide +kernel
theorem d_Mod_load_49 : decode prog_17_method_35_code 49 = .ok (.getfield 84, 3) := by decide +kernel
theorem d_Mod_load_52 : decode prog_17_method_35_code 52 = .ok (.ifCond .eq 10, 3) := by decide +kernel
theorem d_Mod_load_55 : decode prog_17_method_35_code 55 = .ok (.aload_n 0, 1) := by decide +kernel
theorem d_Mod_load_56 : decode prog_17_method_35_code 56 = .ok (.invokevirtual 195, 3) := by decide +kernel
theorem d_Mod_load_59 : decode prog_17_method_35_code 59 = .ok (.goto (-18), 3) := by decide +kernel
theorem d_Mod_load_62 : decode prog_17_method_35_code 62 = .ok (.aload_n 0, 1) := by decide +kernel
theorem d_Mod_load_63 : decode prog_17_method_35_code 63 = .ok (.iconst 0, 1) := by decide +kernel
theorem d_Mod_load_64 : decode prog_17_method_35_code 64 = .ok (.putfield 58, 3) := by decide +kernel
theorem d_Mod_load_67 : decode prog_17_method_35_code 67 = .ok (.aload_n 0, 1) := by decide +kernel
theorem d_Mod_load_68 : decode prog_17_method_35_code 68 = .ok (.invokevirtual 112, 3) := by decide +kernel
theorem d_Mod_load_71 : decode prog_17_method_35_code 71 = .ok (.ifCond .ne 18, 3) := by decide +kernel
theorem d_Mod_load_74 : decode prog_17_method_35_code 74 = .ok (.aload_n 0, 1) := by decide +kernel
theorem d_Mod_load_75 : decode prog_17_method_35_code 75 = .ok (.getfield 13, 3) := by decide +kernel
theorem d_Mod_load_78 : decode prog_17_method_35_code 78 = .ok (.iconst 0, 1) := by decide +kernel
theorem d_Mod_load_79 : decode prog_17_method_35_code 79 = .ok (.aload_n 0, 1) := by decide +kernel
theorem d_Mod_load_80 : decode prog_17_method_35_code 80 = .ok (.getfield 7, 3) := by decide +kernel
theorem d_Mod_load_83 : decode prog_17_method_35_code 83 = .ok (.iconst 0, 1) := by decide +kernel
theorem d_Mod_load_84 : decode prog_17_method_35_code 84 = .ok (.invokestatic 191, 3) := by decide +kernel
theorem d_Mod_load_87 : decode prog_17_method_35_code 87 = .ok (.iconst (-1), 1) := by decide +kernel
theorem d_Mod_load_88 : decode prog_17_method_35_code 88 = .ok (.ireturn, 1) := by decide +kernel
theorem d_Mod_load_89 : decode prog_17_method_35_code 89 = .ok (.aload_n 0, 1) := by decide +kernel
theorem d_Mod_load_90 : decode prog_17_method_35_code 90 = .ok (.iconst 0, 1) := by decide +kernel
theorem d_Mod_load_91 : decode prog_17_method_35_code 91 = .ok (.putfield 198, 3) := by decide +kernel
theorem d_Mod_load_94 : decode prog_17_method_35_code 94 = .ok (.aload_n 0, 1) := by decide +kernel
theorem d_Mod_load_95 : decode prog_17_method_35_code 95 = .ok (.getfield 7, 3) := by decide +kernel
theorem d_Mod_load_98 : decode prog_17_method_35_code 98 = .ok (.iconst 4, 1) := by decide +kernel
theorem d_Mod_load_99 : decode prog_17_method_35_code 99 = .ok (.iaload, 1) := by decide +kernel
theorem d_Mod_load_100 : decode prog_17_method_35_code 100 = .ok (.ireturn, 1) := by decide +kernel
def Mod_load_62 (h0 : g_AH) (a0 : Nat) (ad : Nat → Nat) (M : g_MD) : Option (Int32 × g_MD) :=
  g_let (mp M 9 (0 : Int32)) fun M18 => g_b (Mod_isFine M18) fun x19 => if x19 = 0 then (g_b (Mod_copy M18 1 (0 : Int32) 0 (0 : Int32)) fun M27 => some ((-1 : Int32), M27)) else (g_let (mp M18 6 (0 : Int32)) fun M23 => g_mA M23 0 0 (4 : Int32) fun x24 => some (x24, M23))
set_option maxHeartbeats 4000000 in
set_option maxRecDepth 100000 in
theorem W_Mod_load_62 {X : g_X} {h0 : g_AH} {a0 : Nat} {ad : Nat → Nat} (ok : mOK a0 ad) (z : Int32 × g_MD) (M : g_MD) (hy : Mod_load_62 h0 a0 ad  M = some z) : G X k_Mod_load (.inl (some (.int z.1))) (mH h0 a0 ad z.2) (mH h0 a0 ad M) 62 [(0, .ref a0)] [] := by
  unfold Mod_load_62 at hy
  refine g_aload_n 0 (i := 0) (pc' := 63) d_Mod_load_62 rfl rfl rfl ?_
  refine g_iconst (v := (0 : Int32)) (pc' := 64) d_Mod_load_63 (by decide) rfl ?_
  replace hy := g_let_inv hy
  refine gm_put ok 9 (pc' := 67) d_Mod_load_64 rfl (by decide) q1974 rfl ?_
  generalize (mp M 9 (0 : Int32)) = M18 at hy ⊢
  refine g_aload_n 0 (i := 0) (pc' := 68) d_Mod_load_67 rfl rfl rfl ?_
  replace hy := g_b_inv hy
  obtain ⟨x19, hf21, hy⟩ := hy
  refine g_callV (rv := some (.int x19)) (h1 := (mH h0 a0 ad M18)) (pc' := 71) (As := []) (rest := []) 0 (T_Mod_isFine ok (hy := hf21)) d_Mod_load_68 (mH_look ok) rfl rfl q2096 q2098 qs34 q135 q2099 hd_Mod_isFine rfl ⟨by decide, by decide⟩ (by first | exact Nat.le_of_ble_eq_true rfl | (simp only [List.map, List.sum_cons, List.sum_nil, g_cat_rf]; exact Nat.le_of_ble_eq_true rfl) | (simp only [List.map, List.sum_cons, List.sum_nil, g_cat_rf, Value.category]; decide)) rfl ?_
  by_cases c22 : x19 = 0
  · rw [if_pos c22] at hy
    refine g_if_neF (pc' := 74) d_Mod_load_71 89 c22 (by decide) rfl ?_
    refine g_aload_n 0 (i := 0) (pc' := 75) d_Mod_load_74 rfl rfl rfl ?_
    refine gm_getA ok 1 (pc' := 78) d_Mod_load_75 rfl q1966 rfl rfl ?_
    refine g_iconst (v := (0 : Int32)) (pc' := 79) d_Mod_load_78 (by decide) rfl ?_
    refine g_aload_n 0 (i := 0) (pc' := 80) d_Mod_load_79 rfl rfl rfl ?_
    refine gm_getA ok 0 (pc' := 83) d_Mod_load_80 rfl q1965 rfl rfl ?_
    refine g_iconst (v := (0 : Int32)) (pc' := 84) d_Mod_load_83 (by decide) rfl ?_
    replace hy := g_b_inv hy
    obtain ⟨M27, hf28, hy⟩ := hy
    refine g_callS (rv := none) (h1 := (mH h0 a0 ad M27)) (pc' := 87) (As := [.ref (ad 1), .int (0 : Int32), .ref (ad 0), .int (0 : Int32)]) (rest := []) 4 (T_Mod_copy ok (hy := hf28)) d_Mod_load_84 q2076 q2077 q135 q2078 hd_Mod_copy rfl ⟨by decide, by decide⟩ (by first | exact Nat.le_of_ble_eq_true rfl | (simp only [List.map, List.sum_cons, List.sum_nil, g_cat_rf]; exact Nat.le_of_ble_eq_true rfl) | (simp only [List.map, List.sum_cons, List.sum_nil, g_cat_rf, Value.category]; decide)) rfl ?_
    refine g_iconst (v := (-1 : Int32)) (pc' := 88) d_Mod_load_87 (by decide) rfl ?_
    cases hy
    exact g_iret rfl rfl rfl d_Mod_load_88
  · rw [if_neg c22] at hy
    refine g_if_neT (pc' := 89) d_Mod_load_71 c22 (by decide) ?_
    refine g_aload_n 0 (i := 0) (pc' := 90) d_Mod_load_89 rfl rfl rfl ?_
    refine g_iconst (v := (0 : Int32)) (pc' := 91) d_Mod_load_90 (by decide) rfl ?_
    replace hy := g_let_inv hy
    refine gm_put ok 6 (pc' := 94) d_Mod_load_91 rfl (by decide) q1971 rfl ?_
    generalize (mp M18 6 (0 : Int32)) = M23 at hy ⊢
    refine g_aload_n 0 (i := 0) (pc' := 95) d_Mod_load_94 rfl rfl rfl ?_
    refine gm_getA ok 0 (pc' := 98) d_Mod_load_95 rfl q1965 rfl rfl ?_
    refine g_iconst (v := (4 : Int32)) (pc' := 99) d_Mod_load_98 (by decide) rfl ?_
    replace hy := g_mA_inv hy
    obtain ⟨x24, hc25, hy⟩ := hy
    refine gm_ald0 ok (pc' := 100) d_Mod_load_99 hc25 rfl ?_
    cases hy
    exact g_iret rfl rfl rfl d_Mod_load_100
def Mod_load_41 (h0 : g_AH) (a0 : Nat) (ad : Nat → Nat)  : Nat → g_MD → Option (Int32 × g_MD)
  | 0, _ => none
  | n + 1, M => g_b (Mod_isFine M) fun x14 => if x14 = 0 then (Mod_load_62 h0 a0 ad  M) else (if (M.2.1 12) = 0 then (Mod_load_62 h0 a0 ad  M) else (g_b (Mod_parseStatement h0 a0 ad M) fun M31 => (Mod_load_41 h0 a0 ad  n) M31))
set_option maxHeartbeats 4000000 in
set_option maxRecDepth 100000 in
theorem W_Mod_load_41 {X : g_X} {h0 : g_AH} {a0 : Nat} {ad : Nat → Nat} (ok : mOK a0 ad) (z : Int32 × g_MD)  : ∀ (n : Nat) (M : g_MD), Mod_load_41 h0 a0 ad  n M = some z → G X k_Mod_load (.inl (some (.int z.1))) (mH h0 a0 ad z.2) (mH h0 a0 ad M) 41 [(0, .ref a0)] [] := by
  intro n
  induction n with
  | zero => intro M hy; exact absurd hy (by simp [Mod_load_41])
  | succ n ih =>
    intro M hy
    rw [Mod_load_41] at hy
    refine g_aload_n 0 (i := 0) (pc' := 42) d_Mod_load_41 rfl rfl rfl ?_
    replace hy := g_b_inv hy
    obtain ⟨x14, hf16, hy⟩ := hy
    refine g_callV (rv := some (.int x14)) (h1 := (mH h0 a0 ad M)) (pc' := 45) (As := []) (rest := []) 0 (T_Mod_isFine ok (hy := hf16)) d_Mod_load_42 (mH_look ok) rfl rfl q2096 q2098 qs34 q135 q2099 hd_Mod_isFine rfl ⟨by decide, by decide⟩ (by first | exact Nat.le_of_ble_eq_true rfl | (simp only [List.map, List.sum_cons, List.sum_nil, g_cat_rf]; exact Nat.le_of_ble_eq_true rfl) | (simp only [List.map, List.sum_cons, List.sum_nil, g_cat_rf, Value.category]; decide)) rfl ?_
    by_cases c17 : x14 = 0
    · rw [if_pos c17] at hy
      refine g_if_eqT (pc' := 62) d_Mod_load_45 c17 (by decide) ?_
      exact W_Mod_load_62 ok _ _ hy
    · rw [if_neg c17] at hy
      refine g_if_eqF (pc' := 48) d_Mod_load_45 62 c17 (by decide) rfl ?_
      refine g_aload_n 0 (i := 0) (pc' := 49) d_Mod_load_48 rfl rfl rfl ?_
      refine gm_getA ok 12 (pc' := 52) d_Mod_load_49 rfl q1977 rfl rfl ?_
      by_cases c29 : (M.2.1 12) = 0
      · rw [if_pos c29] at hy
        refine g_if_eqT (pc' := 62) d_Mod_load_52 c29 (by decide) ?_
        exact W_Mod_load_62 ok _ _ hy
      · rw [if_neg c29] at hy
        refine g_if_eqF (pc' := 55) d_Mod_load_52 62 c29 (by decide) rfl ?_
        refine g_aload_n 0 (i := 0) (pc' := 56) d_Mod_load_55 rfl rfl rfl ?_
        replace hy := g_b_inv hy
        obtain ⟨M31, hf32, hy⟩ := hy
        refine g_callV (rv := none) (h1 := (mH h0 a0 ad M31)) (pc' := 59) (As := []) (rest := []) 0 (T_Mod_parseStatement ok (hy := hf32)) d_Mod_load_56 (mH_look ok) rfl rfl q2100 q2102 qs35 q135 q2103 hd_Mod_parseStatement rfl ⟨by decide, by decide⟩ (by first | exact Nat.le_of_ble_eq_true rfl | (simp only [List.map, List.sum_cons, List.sum_nil, g_cat_rf]; exact Nat.le_of_ble_eq_true rfl) | (simp only [List.map, List.sum_cons, List.sum_nil, g_cat_rf, Value.category]; decide)) rfl ?_
        refine g_goto (pc' := 41) d_Mod_load_59 (by decide) ?_
        exact ih _ hy
def Mod_load (h0 : g_AH) (a0 : Nat) (ad : Nat → Nat) (M : g_MD)  : Option (Int32 × g_MD) :=
  g_let (mp M 7 (0 : Int32)) fun M1 => g_b (Mod_copy M1 0 (0 : Int32) 1 (0 : Int32)) fun M3 => g_b (Mod_clear M3) fun M6 => g_let (mp M6 15 (0 : Int32)) fun M8 => g_let (mp M8 16 (-1 : Int32)) fun M9 => g_let (mp M9 10 (0 : Int32)) fun M10 => g_b (Mod_nextToken M10) fun M12 => Mod_load_41 h0 a0 ad  gFU M12
set_option maxHeartbeats 4000000 in
set_option maxRecDepth 100000 in
theorem T_Mod_load {l : Launch} {B : g_B} {h0 : g_AH} {a0 : Nat} {ad : Nat → Nat} (ok : mOK a0 ad) (M : g_MD)  (z : Int32 × g_MD) (hy : Mod_load h0 a0 ad M  = some z) : g_CT l B y_Mod_load k_Mod_load [.ref a0] (mH h0 a0 ad M) (.inl (some (.int z.1))) (mH h0 a0 ad z.2) := by
  refine g_start2 (Lc := [(0, .ref a0)]) (by decide) rfl rfl (by exact Nat.le_of_ble_eq_true rfl) (by rfl) fun X => ?_
  unfold Mod_load at hy
  refine g_aload_n 0 (i := 0) (pc' := 1) d_Mod_load_0 rfl rfl rfl ?_
  refine g_iconst (v := (0 : Int32)) (pc' := 2) d_Mod_load_1 (by decide) rfl ?_
  replace hy := g_let_inv hy
  refine gm_put ok 7 (pc' := 5) d_Mod_load_2 rfl (by decide) q1972 rfl ?_
  generalize (mp M 7 (0 : Int32)) = M1 at hy ⊢
  refine g_aload_n 0 (i := 0) (pc' := 6) d_Mod_load_5 rfl rfl rfl ?_
  refine gm_getA ok 0 (pc' := 9) d_Mod_load_6 rfl q1965 rfl rfl ?_
  refine g_iconst (v := (0 : Int32)) (pc' := 10) d_Mod_load_9 (by decide) rfl ?_
  refine g_aload_n 0 (i := 0) (pc' := 11) d_Mod_load_10 rfl rfl rfl ?_
  refine gm_getA ok 1 (pc' := 14) d_Mod_load_11 rfl q1966 rfl rfl ?_
  refine g_iconst (v := (0 : Int32)) (pc' := 15) d_Mod_load_14 (by decide) rfl ?_
  replace hy := g_b_inv hy
  obtain ⟨M3, hf4, hy⟩ := hy
  refine g_callS (rv := none) (h1 := (mH h0 a0 ad M3)) (pc' := 18) (As := [.ref (ad 0), .int (0 : Int32), .ref (ad 1), .int (0 : Int32)]) (rest := []) 4 (T_Mod_copy ok (hy := hf4)) d_Mod_load_15 q2076 q2077 q135 q2078 hd_Mod_copy rfl ⟨by decide, by decide⟩ (by first | exact Nat.le_of_ble_eq_true rfl | (simp only [List.map, List.sum_cons, List.sum_nil, g_cat_rf]; exact Nat.le_of_ble_eq_true rfl) | (simp only [List.map, List.sum_cons, List.sum_nil, g_cat_rf, Value.category]; decide)) rfl ?_
  refine g_aload_n 0 (i := 0) (pc' := 19) d_Mod_load_18 rfl rfl rfl ?_
  replace hy := g_b_inv hy
  obtain ⟨M6, hf7, hy⟩ := hy
  refine g_callV (rv := none) (h1 := (mH h0 a0 ad M6)) (pc' := 22) (As := []) (rest := []) 0 (T_Mod_clear ok (hy := hf7)) d_Mod_load_19 (mH_look ok) rfl rfl q1961 q1963 qs30 q135 q1964 hd_Mod_clear rfl ⟨by decide, by decide⟩ (by first | exact Nat.le_of_ble_eq_true rfl | (simp only [List.map, List.sum_cons, List.sum_nil, g_cat_rf]; exact Nat.le_of_ble_eq_true rfl) | (simp only [List.map, List.sum_cons, List.sum_nil, g_cat_rf, Value.category]; decide)) rfl ?_
  refine g_aload_n 0 (i := 0) (pc' := 23) d_Mod_load_22 rfl rfl rfl ?_
  refine g_iconst (v := (0 : Int32)) (pc' := 24) d_Mod_load_23 (by decide) rfl ?_
  replace hy := g_let_inv hy
  refine gm_put ok 15 (pc' := 27) d_Mod_load_24 rfl (by decide) q1980 rfl ?_
  generalize (mp M6 15 (0 : Int32)) = M8 at hy ⊢
  refine g_aload_n 0 (i := 0) (pc' := 28) d_Mod_load_27 rfl rfl rfl ?_
  refine g_iconst (v := (-1 : Int32)) (pc' := 29) d_Mod_load_28 (by decide) rfl ?_
  replace hy := g_let_inv hy
  refine gm_put ok 16 (pc' := 32) d_Mod_load_29 rfl (by decide) q1981 rfl ?_
  generalize (mp M8 16 (-1 : Int32)) = M9 at hy ⊢
  refine g_aload_n 0 (i := 0) (pc' := 33) d_Mod_load_32 rfl rfl rfl ?_
  refine g_iconst (v := (0 : Int32)) (pc' := 34) d_Mod_load_33 (by decide) rfl ?_
  replace hy := g_let_inv hy
  refine gm_put ok 10 (pc' := 37) d_Mod_load_34 rfl (by decide) q1975 rfl ?_
  generalize (mp M9 10 (0 : Int32)) = M10 at hy ⊢
  refine g_aload_n 0 (i := 0) (pc' := 38) d_Mod_load_37 rfl rfl rfl ?_
  replace hy := g_b_inv hy
  obtain ⟨M12, hf13, hy⟩ := hy
  refine g_callV (rv := none) (h1 := (mH h0 a0 ad M12)) (pc' := 41) (As := []) (rest := []) 0 (T_Mod_nextToken ok (hy := hf13)) d_Mod_load_38 (mH_look ok) rfl rfl q2079 q2081 qs32 q135 q2082 hd_Mod_nextToken rfl ⟨by decide, by decide⟩ (by first | exact Nat.le_of_ble_eq_true rfl | (simp only [List.map, List.sum_cons, List.sum_nil, g_cat_rf]; exact Nat.le_of_ble_eq_true rfl) | (simp only [List.map, List.sum_cons, List.sum_nil, g_cat_rf, Value.category]; decide)) rfl ?_
  exact W_Mod_load_41 ok _ _ _ hy
theorem hd_Mod_load : g_dsc y_Mod_load 0 := ⟨by decide +kernel, by decide +kernel, by decide +kernel⟩
