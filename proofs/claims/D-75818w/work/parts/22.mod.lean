/-! CircuitDeskModel.isLink(I)Z -/
abbrev y_Mod_isLink : MethodName := ⟨"CircuitDeskModel", "isLink", "(I)Z"⟩
abbrev k_Mod_isLink : g_M := (prog_17_method_8_code, 2, "CircuitDeskModel", 13, (some FieldType.boolean), "isLink", [], 0)
theorem d_Mod_isLink_0 : decode prog_17_method_8_code 0 = .ok (.iload_n 1, 1) := by decide +kernel
theorem d_Mod_isLink_1 : decode prog_17_method_8_code 1 = .ok (.iconst 0, 1) := by decide +kernel
theorem d_Mod_isLink_2 : decode prog_17_method_8_code 2 = .ok (.aload_n 0, 1) := by decide +kernel
theorem d_Mod_isLink_3 : decode prog_17_method_8_code 3 = .ok (.getfield 7, 3) := by decide +kernel
theorem d_Mod_isLink_6 : decode prog_17_method_8_code 6 = .ok (.iconst 3, 1) := by decide +kernel
theorem d_Mod_isLink_7 : decode prog_17_method_8_code 7 = .ok (.iaload, 1) := by decide +kernel
theorem d_Mod_isLink_8 : decode prog_17_method_8_code 8 = .ok (.iconst 1, 1) := by decide +kernel
theorem d_Mod_isLink_9 : decode prog_17_method_8_code 9 = .ok (.isub, 1) := by decide +kernel
theorem d_Mod_isLink_10 : decode prog_17_method_8_code 10 = .ok (.invokestatic 54, 3) := by decide +kernel
theorem d_Mod_isLink_13 : decode prog_17_method_8_code 13 = .ok (.ireturn, 1) := by decide +kernel
def Mod_isLink (M : g_MD) (p0 : Int32) : Option (Int32) :=
  g_mA M 0 0 (3 : Int32) fun x1 => g_b (Mod_isBetween p0 (0 : Int32) (x1 - (1 : Int32))) fun x3 => g_rq (x3 = 0 ∨ x3 = 1) <| some x3
set_option maxHeartbeats 4000000 in
set_option maxRecDepth 100000 in
theorem T_Mod_isLink {l : Launch} {B : g_B} {h0 : g_AH} {a0 : Nat} {ad : Nat → Nat} (ok : mOK a0 ad) (M : g_MD) (p0 : Int32) (z : Int32) (hy : Mod_isLink M p0 = some z) : g_CT l B y_Mod_isLink k_Mod_isLink [.ref a0, .int p0] (mH h0 a0 ad M) (.inl (some (.int z))) (mH h0 a0 ad M) := by
  refine g_start2 (Lc := [(0, .ref a0), (1, .int p0)]) (by decide) rfl rfl (by exact Nat.le_of_ble_eq_true rfl) (by rfl) fun X => ?_
  unfold Mod_isLink at hy
  refine g_iload_n 1 (i := 1) (pc' := 1) d_Mod_isLink_0 rfl rfl rfl ?_
  refine g_iconst (v := (0 : Int32)) (pc' := 2) d_Mod_isLink_1 (by decide) rfl ?_
  refine g_aload_n 0 (i := 0) (pc' := 3) d_Mod_isLink_2 rfl rfl rfl ?_
  refine gm_getA ok 0 (pc' := 6) d_Mod_isLink_3 rfl q1965 rfl rfl ?_
  refine g_iconst (v := (3 : Int32)) (pc' := 7) d_Mod_isLink_6 (by decide) rfl ?_
  replace hy := g_mA_inv hy
  obtain ⟨x1, hc2, hy⟩ := hy
  refine gm_ald0 ok (pc' := 8) d_Mod_isLink_7 hc2 rfl ?_
  refine g_iconst (v := (1 : Int32)) (pc' := 9) d_Mod_isLink_8 (by decide) rfl ?_
  refine g_isub (pc' := 10) d_Mod_isLink_9 rfl ?_
  replace hy := g_b_inv hy
  obtain ⟨x3, hf5, hy⟩ := hy
  refine g_callS (rv := some (.int x3)) (h1 := (mH h0 a0 ad M)) (pc' := 13) (As := [.int p0, .int (0 : Int32), .int (x1 - (1 : Int32))]) (rest := []) 3 (T_Mod_isBetween (hy := hf5)) d_Mod_isLink_10 q2069 q2070 q135 q2071 hd_Mod_isBetween rfl ⟨by decide, by decide⟩ (by first | exact Nat.le_of_ble_eq_true rfl | (simp only [List.map, List.sum_cons, List.sum_nil, g_cat_rf]; exact Nat.le_of_ble_eq_true rfl) | (simp only [List.map, List.sum_cons, List.sum_nil, g_cat_rf, Value.category]; decide)) rfl ?_
  replace hy := g_rq_inv hy
  obtain ⟨c6, hy⟩ := hy
  cases hy
  exact g_zret rfl rfl rfl (g_nar_z c6).1 d_Mod_isLink_13
theorem hd_Mod_isLink : g_dsc y_Mod_isLink 1 := ⟨by decide +kernel, by decide +kernel, by decide +kernel⟩
/-! CircuitDeskModel.ofPacket(II)I -/
abbrev y_Mod_ofPacket : MethodName := ⟨"CircuitDeskModel", "ofPacket", "(II)I"⟩
abbrev k_Mod_ofPacket : g_M := (prog_17_method_15_code, 3, "CircuitDeskModel", 12, (some FieldType.int), "ofPacket", [], 0)
theorem d_Mod_ofPacket_0 : decode prog_17_method_15_code 0 = .ok (.aload_n 0, 1) := by decide +kernel
theorem d_Mod_ofPacket_1 : decode prog_17_method_15_code 1 = .ok (.getfield 7, 3) := by decide +kernel
theorem d_Mod_ofPacket_4 : decode prog_17_method_15_code 4 = .ok (.sipush 632, 3) := by decide +kernel
theorem d_Mod_ofPacket_7 : decode prog_17_method_15_code 7 = .ok (.bipush 8, 2) := by decide +kernel
theorem d_Mod_ofPacket_9 : decode prog_17_method_15_code 9 = .ok (.iload_n 1, 1) := by decide +kernel
theorem d_Mod_ofPacket_10 : decode prog_17_method_15_code 10 = .ok (.imul, 1) := by decide +kernel
theorem d_Mod_ofPacket_11 : decode prog_17_method_15_code 11 = .ok (.iadd, 1) := by decide +kernel
theorem d_Mod_ofPacket_12 : decode prog_17_method_15_code 12 = .ok (.iload_n 2, 1) := by decide +kernel
theorem d_Mod_ofPacket_13 : decode prog_17_method_15_code 13 = .ok (.iadd, 1) := by decide +kernel
theorem d_Mod_ofPacket_14 : decode prog_17_method_15_code 14 = .ok (.iaload, 1) := by decide +kernel
theorem d_Mod_ofPacket_15 : decode prog_17_method_15_code 15 = .ok (.ireturn, 1) := by decide +kernel
def Mod_ofPacket (M : g_MD) (p0 : Int32) (p1 : Int32) : Option (Int32) :=
  g_mA M 0 0 (((632 : Int32) + ((8 : Int32) * p0)) + p1) fun x1 => some x1
set_option maxHeartbeats 4000000 in
set_option maxRecDepth 100000 in
theorem T_Mod_ofPacket {l : Launch} {B : g_B} {h0 : g_AH} {a0 : Nat} {ad : Nat → Nat} (ok : mOK a0 ad) (M : g_MD) (p0 : Int32) (p1 : Int32) (z : Int32) (hy : Mod_ofPacket M p0 p1 = some z) : g_CT l B y_Mod_ofPacket k_Mod_ofPacket [.ref a0, .int p0, .int p1] (mH h0 a0 ad M) (.inl (some (.int z))) (mH h0 a0 ad M) := by
  refine g_start2 (Lc := [(0, .ref a0), (1, .int p0), (2, .int p1)]) (by decide) rfl rfl (by exact Nat.le_of_ble_eq_true rfl) (by rfl) fun X => ?_
  unfold Mod_ofPacket at hy
  refine g_aload_n 0 (i := 0) (pc' := 1) d_Mod_ofPacket_0 rfl rfl rfl ?_
  refine gm_getA ok 0 (pc' := 4) d_Mod_ofPacket_1 rfl q1965 rfl rfl ?_
  refine g_sipush (v := (632 : Int32)) (pc' := 7) d_Mod_ofPacket_4 (by decide) rfl ?_
  refine g_bipush (v := (8 : Int32)) (pc' := 9) d_Mod_ofPacket_7 (by decide) rfl ?_
  refine g_iload_n 1 (i := 1) (pc' := 10) d_Mod_ofPacket_9 rfl rfl rfl ?_
  refine g_imul (pc' := 11) d_Mod_ofPacket_10 rfl ?_
  refine g_iadd (pc' := 12) d_Mod_ofPacket_11 rfl ?_
  refine g_iload_n 2 (i := 2) (pc' := 13) d_Mod_ofPacket_12 rfl rfl rfl ?_
  refine g_iadd (pc' := 14) d_Mod_ofPacket_13 rfl ?_
  replace hy := g_mA_inv hy
  obtain ⟨x1, hc2, hy⟩ := hy
  refine gm_ald0 ok (pc' := 15) d_Mod_ofPacket_14 hc2 rfl ?_
  cases hy
  exact g_iret rfl rfl rfl d_Mod_ofPacket_15
theorem hd_Mod_ofPacket : g_dsc y_Mod_ofPacket 2 := ⟨by decide +kernel, by decide +kernel, by decide +kernel⟩
/-! CircuitDeskModel.grow(III)V -/
abbrev y_Mod_grow : MethodName := ⟨"CircuitDeskModel", "grow", "(III)V"⟩
abbrev k_Mod_grow : g_M := (prog_17_method_13_code, 4, "CircuitDeskModel", 12, none, "grow", [], 0)
theorem d_Mod_grow_0 : decode prog_17_method_13_code 0 = .ok (.aload_n 0, 1) := by decide +kernel
theorem d_Mod_grow_1 : decode prog_17_method_13_code 1 = .ok (.getfield 7, 3) := by decide +kernel
theorem d_Mod_grow_4 : decode prog_17_method_13_code 4 = .ok (.bipush 104, 2) := by decide +kernel
theorem d_Mod_grow_6 : decode prog_17_method_13_code 6 = .ok (.bipush 66, 2) := by decide +kernel
theorem d_Mod_grow_8 : decode prog_17_method_13_code 8 = .ok (.iload_n 1, 1) := by decide +kernel
theorem d_Mod_grow_9 : decode prog_17_method_13_code 9 = .ok (.imul, 1) := by decide +kernel
theorem d_Mod_grow_10 : decode prog_17_method_13_code 10 = .ok (.iadd, 1) := by decide +kernel
theorem d_Mod_grow_11 : decode prog_17_method_13_code 11 = .ok (.iload_n 2, 1) := by decide +kernel
theorem d_Mod_grow_12 : decode prog_17_method_13_code 12 = .ok (.iadd, 1) := by decide +kernel
theorem d_Mod_grow_13 : decode prog_17_method_13_code 13 = .ok (.dup2, 1) := by decide +kernel
theorem d_Mod_grow_14 : decode prog_17_method_13_code 14 = .ok (.iaload, 1) := by decide +kernel
theorem d_Mod_grow_15 : decode prog_17_method_13_code 15 = .ok (.iload_n 3, 1) := by decide +kernel
theorem d_Mod_grow_16 : decode prog_17_method_13_code 16 = .ok (.iadd, 1) := by decide +kernel
theorem d_Mod_grow_17 : decode prog_17_method_13_code 17 = .ok (.iastore, 1) := by decide +kernel
theorem d_Mod_grow_18 : decode prog_17_method_13_code 18 = .ok (.return_, 1) := by decide +kernel
def Mod_grow (M : g_MD) (p0 : Int32) (p1 : Int32) (p2 : Int32) : Option g_MD :=
  g_mA M 0 0 (((104 : Int32) + ((66 : Int32) * p0)) + p1) fun x1 => g_mS M 0 0 (((104 : Int32) + ((66 : Int32) * p0)) + p1) (x1 + p2) fun M3 => some M3
set_option maxHeartbeats 4000000 in
set_option maxRecDepth 100000 in
theorem T_Mod_grow {l : Launch} {B : g_B} {h0 : g_AH} {a0 : Nat} {ad : Nat → Nat} (ok : mOK a0 ad) (M : g_MD) (p0 : Int32) (p1 : Int32) (p2 : Int32) (z : g_MD) (hy : Mod_grow M p0 p1 p2 = some z) : g_CT l B y_Mod_grow k_Mod_grow [.ref a0, .int p0, .int p1, .int p2] (mH h0 a0 ad M) (.inl none) (mH h0 a0 ad z) := by
  refine g_start2 (Lc := [(0, .ref a0), (1, .int p0), (2, .int p1), (3, .int p2)]) (by decide) rfl rfl (by exact Nat.le_of_ble_eq_true rfl) (by rfl) fun X => ?_
  unfold Mod_grow at hy
  refine g_aload_n 0 (i := 0) (pc' := 1) d_Mod_grow_0 rfl rfl rfl ?_
  refine gm_getA ok 0 (pc' := 4) d_Mod_grow_1 rfl q1965 rfl rfl ?_
  refine g_bipush (v := (104 : Int32)) (pc' := 6) d_Mod_grow_4 (by decide) rfl ?_
  refine g_bipush (v := (66 : Int32)) (pc' := 8) d_Mod_grow_6 (by decide) rfl ?_
  refine g_iload_n 1 (i := 1) (pc' := 9) d_Mod_grow_8 rfl rfl rfl ?_
  refine g_imul (pc' := 10) d_Mod_grow_9 rfl ?_
  refine g_iadd (pc' := 11) d_Mod_grow_10 rfl ?_
  refine g_iload_n 2 (i := 2) (pc' := 12) d_Mod_grow_11 rfl rfl rfl ?_
  refine g_iadd (pc' := 13) d_Mod_grow_12 rfl ?_
  refine g_dup2 (pc' := 14) d_Mod_grow_13 rfl rfl rfl ?_
  replace hy := g_mA_inv hy
  obtain ⟨x1, hc2, hy⟩ := hy
  refine gm_ald0 ok (pc' := 15) d_Mod_grow_14 hc2 rfl ?_
  refine g_iload_n 3 (i := 3) (pc' := 16) d_Mod_grow_15 rfl rfl rfl ?_
  refine g_iadd (pc' := 17) d_Mod_grow_16 rfl ?_
  replace hy := g_mS_inv hy
  obtain ⟨hc4, hy⟩ := hy
  refine gm_ast0 ok (pc' := 18) d_Mod_grow_17 hc4 rfl ?_
  generalize ms M 0 ((((104 : Int32) + ((66 : Int32) * p0)) + p1)).toNatClampNeg (x1 + p2) = M3 at hy ⊢
  cases hy
  exact g_vret rfl rfl rfl d_Mod_grow_18
theorem hd_Mod_grow : g_dsc y_Mod_grow 3 := ⟨by decide +kernel, by decide +kernel, by decide +kernel⟩
/-! CircuitDeskModel.removePacket(I)V -/
abbrev y_Mod_removePacket : MethodName := ⟨"CircuitDeskModel", "removePacket", "(I)V"⟩
abbrev k_Mod_removePacket : g_M := (prog_17_method_91_code, 3, "CircuitDeskModel", 12, none, "removePacket", [], 0)
theorem d_Mod_removePacket_0 : decode prog_17_method_91_code 0 = .ok (.aload_n 0, 1) := by decide +kernel
theorem d_Mod_removePacket_1 : decode prog_17_method_91_code 1 = .ok (.getfield 7, 3) := by decide +kernel
theorem d_Mod_removePacket_4 : decode prog_17_method_91_code 4 = .ok (.bipush 6, 2) := by decide +kernel
theorem d_Mod_removePacket_6 : decode prog_17_method_91_code 6 = .ok (.dup2, 1) := by decide +kernel
theorem d_Mod_removePacket_7 : decode prog_17_method_91_code 7 = .ok (.iaload, 1) := by decide +kernel
theorem d_Mod_removePacket_8 : decode prog_17_method_91_code 8 = .ok (.iconst 1, 1) := by decide +kernel
theorem d_Mod_removePacket_9 : decode prog_17_method_91_code 9 = .ok (.isub, 1) := by decide +kernel
theorem d_Mod_removePacket_10 : decode prog_17_method_91_code 10 = .ok (.iastore, 1) := by decide +kernel
theorem d_Mod_removePacket_11 : decode prog_17_method_91_code 11 = .ok (.sipush 632, 3) := by decide +kernel
theorem d_Mod_removePacket_14 : decode prog_17_method_91_code 14 = .ok (.bipush 8, 2) := by decide +kernel
theorem d_Mod_removePacket_16 : decode prog_17_method_91_code 16 = .ok (.iload_n 1, 1) := by decide +kernel
theorem d_Mod_removePacket_17 : decode prog_17_method_91_code 17 = .ok (.imul, 1) := by decide +kernel
theorem d_Mod_removePacket_18 : decode prog_17_method_91_code 18 = .ok (.iadd, 1) := by decide +kernel
theorem d_Mod_removePacket_19 : decode prog_17_method_91_code 19 = .ok (.istore_n 2, 1) := by decide +kernel
theorem d_Mod_removePacket_20 : decode prog_17_method_91_code 20 = .ok (.iload_n 2, 1) := by decide +kernel
theorem d_Mod_removePacket_21 : decode prog_17_method_91_code 21 = .ok (.sipush 632, 3) := by decide +kernel
theorem d_Mod_removePacket_24 : decode prog_17_method_91_code 24 = .ok (.bipush 8, 2) := by decide +kernel
theorem d_Mod_removePacket_26 : decode prog_17_method_91_code 26 = .ok (.aload_n 0, 1) := by decide +kernel
theorem d_Mod_removePacket_27 : decode prog_17_method_91_code 27 = .ok (.getfield 7, 3) := by decide +kernel
theorem d_Mod_removePacket_30 : decode prog_17_method_91_code 30 = .ok (.bipush 6, 2) := by decide +kernel
theorem d_Mod_removePacket_32 : decode prog_17_method_91_code 32 = .ok (.iaload, 1) := by decide +kernel
theorem d_Mod_removePacket_33 : decode prog_17_method_91_code 33 = .ok (.imul, 1) := by decide +kernel
theorem d_Mod_removePacket_34 : decode prog_17_method_91_code 34 = .ok (.iadd, 1) := by decide +kernel
theorem d_Mod_removePacket_35 : decode prog_17_method_91_code 35 = .ok (.if_icmp .ge 24, 3) := by decide +kernel
theorem d_Mod_removePacket_38 : decode prog_17_method_91_code 38 = .ok (.aload_n 0, 1) := by decide +kernel
theorem d_Mod_removePacket_39 : decode prog_17_method_91_code 39 = .ok (.getfield 7, 3) := by decide +kernel
theorem d_Mod_removePacket_42 : decode prog_17_method_91_code 42 = .ok (.iload_n 2, 1) := by decide +kernel
theorem d_Mod_removePacket_43 : decode prog_17_method_91_code 43 = .ok (.aload_n 0, 1) := by decide +kernel
theorem d_Mod_removePacket_44 : decode prog_17_method_91_code 44 = .ok (.getfield 7, 3) := by decide +kernel
theorem d_Mod_removePacket_47 : decode prog_17_method_91_code 47 = .ok (.iload_n 2, 1) := by decide +kernel
theorem d_Mod_removePacket_48 : decode prog_17_method_91_code 48 = .ok (.bipush 8, 2) := by decide +kernel
theorem d_Mod_removePacket_50 : decode prog_17_method_91_code 50 = .ok (.iadd, 1) := by decide +kernel
theorem d_Mod_removePacket_51 : decode prog_17_method_91_code 51 = .ok (.iaload, 1) := by decide +kernel
theorem d_Mod_removePacket_52 : decode prog_17_method_91_code 52 = .ok (.iastore, 1) := by decide +kernel
theorem d_Mod_removePacket_53 : decode prog_17_method_91_code 53 = .ok (.iinc 2 1, 3) := by decide +kernel
theorem d_Mod_removePacket_56 : decode prog_17_method_91_code 56 = .ok (.goto (-36), 3) := by decide +kernel
theorem d_Mod_removePacket_59 : decode prog_17_method_91_code 59 = .ok (.return_, 1) := by decide +kernel
def Mod_removePacket_20  : Nat → g_MD → Int32 → Option g_MD
  | 0, _, _ => none
  | n + 1, M, v2 => g_mA M 0 0 (6 : Int32) fun x5 => if ((632 : Int32) + ((8 : Int32) * x5)) ≤ v2 then (some M) else (g_mA M 0 0 (v2 + (8 : Int32)) fun x8 => g_mS M 0 0 v2 x8 fun M10 => (Mod_removePacket_20  n) M10 (v2 + (1 : Int32)))
set_option maxHeartbeats 4000000 in
set_option maxRecDepth 100000 in
theorem W_Mod_removePacket_20 {X : g_X} {h0 : g_AH} {a0 : Nat} {ad : Nat → Nat} (ok : mOK a0 ad) (z : g_MD)  : ∀ (n : Nat) (M : g_MD) (v2 : Int32), Mod_removePacket_20  n M v2 = some z → G X k_Mod_removePacket (.inl none) (mH h0 a0 ad z) (mH h0 a0 ad M) 20 [(0, .ref a0), (2, .int v2)] [] := by
  intro n
  induction n with
  | zero => intro M v2 hy; exact absurd hy (by simp [Mod_removePacket_20])
  | succ n ih =>
    intro M v2 hy
    rw [Mod_removePacket_20] at hy
    refine g_iload_n 1 (i := 2) (pc' := 21) d_Mod_removePacket_20 rfl rfl rfl ?_
    refine g_sipush (v := (632 : Int32)) (pc' := 24) d_Mod_removePacket_21 (by decide) rfl ?_
    refine g_bipush (v := (8 : Int32)) (pc' := 26) d_Mod_removePacket_24 (by decide) rfl ?_
    refine g_aload_n 0 (i := 0) (pc' := 27) d_Mod_removePacket_26 rfl rfl rfl ?_
    refine gm_getA ok 0 (pc' := 30) d_Mod_removePacket_27 rfl q1965 rfl rfl ?_
    refine g_bipush (v := (6 : Int32)) (pc' := 32) d_Mod_removePacket_30 (by decide) rfl ?_
    replace hy := g_mA_inv hy
    obtain ⟨x5, hc6, hy⟩ := hy
    refine gm_ald0 ok (pc' := 33) d_Mod_removePacket_32 hc6 rfl ?_
    refine g_imul (pc' := 34) d_Mod_removePacket_33 rfl ?_
    refine g_iadd (pc' := 35) d_Mod_removePacket_34 rfl ?_
    by_cases c7 : ((632 : Int32) + ((8 : Int32) * x5)) ≤ v2
    · rw [if_pos c7] at hy
      refine g_icmp_geT (pc' := 59) d_Mod_removePacket_35 c7 (by decide) ?_
      cases hy
      exact g_vret rfl rfl rfl d_Mod_removePacket_59
    · rw [if_neg c7] at hy
      refine g_icmp_geF (pc' := 38) d_Mod_removePacket_35 59 c7 (by decide) rfl ?_
      refine g_aload_n 0 (i := 0) (pc' := 39) d_Mod_removePacket_38 rfl rfl rfl ?_
      refine gm_getA ok 0 (pc' := 42) d_Mod_removePacket_39 rfl q1965 rfl rfl ?_
      refine g_iload_n 1 (i := 2) (pc' := 43) d_Mod_removePacket_42 rfl rfl rfl ?_
      refine g_aload_n 0 (i := 0) (pc' := 44) d_Mod_removePacket_43 rfl rfl rfl ?_
      refine gm_getA ok 0 (pc' := 47) d_Mod_removePacket_44 rfl q1965 rfl rfl ?_
      refine g_iload_n 1 (i := 2) (pc' := 48) d_Mod_removePacket_47 rfl rfl rfl ?_
      refine g_bipush (v := (8 : Int32)) (pc' := 50) d_Mod_removePacket_48 (by decide) rfl ?_
      refine g_iadd (pc' := 51) d_Mod_removePacket_50 rfl ?_
      replace hy := g_mA_inv hy
      obtain ⟨x8, hc9, hy⟩ := hy
      refine gm_ald0 ok (pc' := 52) d_Mod_removePacket_51 hc9 rfl ?_
      replace hy := g_mS_inv hy
      obtain ⟨hc11, hy⟩ := hy
      refine gm_ast0 ok (pc' := 53) d_Mod_removePacket_52 hc11 rfl ?_
      generalize ms M 0 (v2).toNatClampNeg x8 = M10 at hy ⊢
      refine g_iinc 1 (v := (v2 + (1 : Int32))) (pc' := 56) (Lc' := [(2, .int (v2 + (1 : Int32))), (0, .ref a0)]) d_Mod_removePacket_53 rfl rfl (by decide) rfl rfl ?_
      refine g_goto (pc' := 20) d_Mod_removePacket_56 (by decide) ?_
      refine g_sub [1, 0] rfl ?_
      exact ih _ _ hy
def Mod_removePacket (M : g_MD) (p0 : Int32) : Option g_MD :=
  g_mA M 0 0 (6 : Int32) fun x1 => g_mS M 0 0 (6 : Int32) (x1 - (1 : Int32)) fun M3 => Mod_removePacket_20  gFU M3 ((632 : Int32) + ((8 : Int32) * p0))
set_option maxHeartbeats 4000000 in
set_option maxRecDepth 100000 in
theorem T_Mod_removePacket {l : Launch} {B : g_B} {h0 : g_AH} {a0 : Nat} {ad : Nat → Nat} (ok : mOK a0 ad) (M : g_MD) (p0 : Int32) (z : g_MD) (hy : Mod_removePacket M p0 = some z) : g_CT l B y_Mod_removePacket k_Mod_removePacket [.ref a0, .int p0] (mH h0 a0 ad M) (.inl none) (mH h0 a0 ad z) := by
  refine g_start2 (Lc := [(0, .ref a0), (1, .int p0)]) (by decide) rfl rfl (by exact Nat.le_of_ble_eq_true rfl) (by rfl) fun X => ?_
  unfold Mod_removePacket at hy
  refine g_aload_n 0 (i := 0) (pc' := 1) d_Mod_removePacket_0 rfl rfl rfl ?_
  refine gm_getA ok 0 (pc' := 4) d_Mod_removePacket_1 rfl q1965 rfl rfl ?_
  refine g_bipush (v := (6 : Int32)) (pc' := 6) d_Mod_removePacket_4 (by decide) rfl ?_
  refine g_dup2 (pc' := 7) d_Mod_removePacket_6 rfl rfl rfl ?_
  replace hy := g_mA_inv hy
  obtain ⟨x1, hc2, hy⟩ := hy
  refine gm_ald0 ok (pc' := 8) d_Mod_removePacket_7 hc2 rfl ?_
  refine g_iconst (v := (1 : Int32)) (pc' := 9) d_Mod_removePacket_8 (by decide) rfl ?_
  refine g_isub (pc' := 10) d_Mod_removePacket_9 rfl ?_
  replace hy := g_mS_inv hy
  obtain ⟨hc4, hy⟩ := hy
  refine gm_ast0 ok (pc' := 11) d_Mod_removePacket_10 hc4 rfl ?_
  generalize ms M 0 ((6 : Int32)).toNatClampNeg (x1 - (1 : Int32)) = M3 at hy ⊢
  refine g_sipush (v := (632 : Int32)) (pc' := 14) d_Mod_removePacket_11 (by decide) rfl ?_
  refine g_bipush (v := (8 : Int32)) (pc' := 16) d_Mod_removePacket_14 (by decide) rfl ?_
  refine g_iload_n 1 (i := 1) (pc' := 17) d_Mod_removePacket_16 rfl rfl rfl ?_
  refine g_imul (pc' := 18) d_Mod_removePacket_17 rfl ?_
  refine g_iadd (pc' := 19) d_Mod_removePacket_18 rfl ?_
  refine g_istore_n (i := 2) (pc' := 20) (Lc' := [(2, .int ((632 : Int32) + ((8 : Int32) * p0))), (0, .ref a0), (1, .int p0)]) d_Mod_removePacket_19 rfl (by decide) rfl rfl ?_
  refine g_sub [1, 0] rfl ?_
  exact W_Mod_removePacket_20 ok _ _ _ _ hy
theorem hd_Mod_removePacket : g_dsc y_Mod_removePacket 1 := ⟨by decide +kernel, by decide +kernel, by decide +kernel⟩
/-! CircuitDeskModel.losePacket(I)V -/
abbrev y_Mod_losePacket : MethodName := ⟨"CircuitDeskModel", "losePacket", "(I)V"⟩
abbrev k_Mod_losePacket : g_M := (prog_17_method_92_code, 2, "CircuitDeskModel", 13, none, "losePacket", [], 0)
theorem d_Mod_losePacket_0 : decode prog_17_method_92_code 0 = .ok (.aload_n 0, 1) := by decide +kernel
theorem d_Mod_losePacket_1 : decode prog_17_method_92_code 1 = .ok (.getfield 7, 3) := by decide +kernel
theorem d_Mod_losePacket_4 : decode prog_17_method_92_code 4 = .ok (.bipush 9, 2) := by decide +kernel
theorem d_Mod_losePacket_6 : decode prog_17_method_92_code 6 = .ok (.dup2, 1) := by decide +kernel
theorem d_Mod_losePacket_7 : decode prog_17_method_92_code 7 = .ok (.iaload, 1) := by decide +kernel
theorem d_Mod_losePacket_8 : decode prog_17_method_92_code 8 = .ok (.iconst 1, 1) := by decide +kernel
theorem d_Mod_losePacket_9 : decode prog_17_method_92_code 9 = .ok (.iadd, 1) := by decide +kernel
theorem d_Mod_losePacket_10 : decode prog_17_method_92_code 10 = .ok (.iastore, 1) := by decide +kernel
theorem d_Mod_losePacket_11 : decode prog_17_method_92_code 11 = .ok (.aload_n 0, 1) := by decide +kernel
theorem d_Mod_losePacket_12 : decode prog_17_method_92_code 12 = .ok (.aload_n 0, 1) := by decide +kernel
theorem d_Mod_losePacket_13 : decode prog_17_method_92_code 13 = .ok (.iload_n 1, 1) := by decide +kernel
theorem d_Mod_losePacket_14 : decode prog_17_method_92_code 14 = .ok (.iconst 0, 1) := by decide +kernel
theorem d_Mod_losePacket_15 : decode prog_17_method_92_code 15 = .ok (.invokevirtual 217, 3) := by decide +kernel
theorem d_Mod_losePacket_18 : decode prog_17_method_92_code 18 = .ok (.bipush 8, 2) := by decide +kernel
theorem d_Mod_losePacket_20 : decode prog_17_method_92_code 20 = .ok (.iconst 1, 1) := by decide +kernel
theorem d_Mod_losePacket_21 : decode prog_17_method_92_code 21 = .ok (.invokevirtual 338, 3) := by decide +kernel
theorem d_Mod_losePacket_24 : decode prog_17_method_92_code 24 = .ok (.aload_n 0, 1) := by decide +kernel
theorem d_Mod_losePacket_25 : decode prog_17_method_92_code 25 = .ok (.iload_n 1, 1) := by decide +kernel
theorem d_Mod_losePacket_26 : decode prog_17_method_92_code 26 = .ok (.invokevirtual 341, 3) := by decide +kernel
theorem d_Mod_losePacket_29 : decode prog_17_method_92_code 29 = .ok (.return_, 1) := by decide +kernel
def Mod_losePacket (M : g_MD) (p0 : Int32) : Option g_MD :=
  g_mA M 0 0 (9 : Int32) fun x1 => g_mS M 0 0 (9 : Int32) (x1 + (1 : Int32)) fun M3 => g_b (Mod_ofPacket M3 p0 (0 : Int32)) fun x5 => g_b (Mod_grow M3 x5 (8 : Int32) (1 : Int32)) fun M9 => g_b (Mod_removePacket M9 p0) fun M12 => some M12
set_option maxHeartbeats 4000000 in
set_option maxRecDepth 100000 in
theorem T_Mod_losePacket {l : Launch} {B : g_B} {h0 : g_AH} {a0 : Nat} {ad : Nat → Nat} (ok : mOK a0 ad) (M : g_MD) (p0 : Int32) (z : g_MD) (hy : Mod_losePacket M p0 = some z) : g_CT l B y_Mod_losePacket k_Mod_losePacket [.ref a0, .int p0] (mH h0 a0 ad M) (.inl none) (mH h0 a0 ad z) := by
  refine g_start2 (Lc := [(0, .ref a0), (1, .int p0)]) (by decide) rfl rfl (by exact Nat.le_of_ble_eq_true rfl) (by rfl) fun X => ?_
  unfold Mod_losePacket at hy
  refine g_aload_n 0 (i := 0) (pc' := 1) d_Mod_losePacket_0 rfl rfl rfl ?_
  refine gm_getA ok 0 (pc' := 4) d_Mod_losePacket_1 rfl q1965 rfl rfl ?_
  refine g_bipush (v := (9 : Int32)) (pc' := 6) d_Mod_losePacket_4 (by decide) rfl ?_
  refine g_dup2 (pc' := 7) d_Mod_losePacket_6 rfl rfl rfl ?_
  replace hy := g_mA_inv hy
  obtain ⟨x1, hc2, hy⟩ := hy
  refine gm_ald0 ok (pc' := 8) d_Mod_losePacket_7 hc2 rfl ?_
  refine g_iconst (v := (1 : Int32)) (pc' := 9) d_Mod_losePacket_8 (by decide) rfl ?_
  refine g_iadd (pc' := 10) d_Mod_losePacket_9 rfl ?_
  replace hy := g_mS_inv hy
  obtain ⟨hc4, hy⟩ := hy
  refine gm_ast0 ok (pc' := 11) d_Mod_losePacket_10 hc4 rfl ?_
  generalize ms M 0 ((9 : Int32)).toNatClampNeg (x1 + (1 : Int32)) = M3 at hy ⊢
  refine g_aload_n 0 (i := 0) (pc' := 12) d_Mod_losePacket_11 rfl rfl rfl ?_
  refine g_aload_n 0 (i := 0) (pc' := 13) d_Mod_losePacket_12 rfl rfl rfl ?_
  refine g_iload_n 1 (i := 1) (pc' := 14) d_Mod_losePacket_13 rfl rfl rfl ?_
  refine g_iconst (v := (0 : Int32)) (pc' := 15) d_Mod_losePacket_14 (by decide) rfl ?_
  replace hy := g_b_inv hy
  obtain ⟨x5, hf7, hy⟩ := hy
  refine g_callV (rv := some (.int x5)) (h1 := (mH h0 a0 ad M3)) (pc' := 18) (As := [.int p0, .int (0 : Int32)]) (rest := [.ref a0]) 2 (T_Mod_ofPacket ok (hy := hf7)) d_Mod_losePacket_15 (mH_look ok) rfl rfl q2263 q2265 qs66 q135 q2266 hd_Mod_ofPacket rfl ⟨by decide, by decide⟩ (by first | exact Nat.le_of_ble_eq_true rfl | (simp only [List.map, List.sum_cons, List.sum_nil, g_cat_rf]; exact Nat.le_of_ble_eq_true rfl) | (simp only [List.map, List.sum_cons, List.sum_nil, g_cat_rf, Value.category]; decide)) rfl ?_
  refine g_bipush (v := (8 : Int32)) (pc' := 20) d_Mod_losePacket_18 (by decide) rfl ?_
  refine g_iconst (v := (1 : Int32)) (pc' := 21) d_Mod_losePacket_20 (by decide) rfl ?_
  replace hy := g_b_inv hy
  obtain ⟨M9, hf10, hy⟩ := hy
  refine g_callV (rv := none) (h1 := (mH h0 a0 ad M9)) (pc' := 24) (As := [.int x5, .int (8 : Int32), .int (1 : Int32)]) (rest := []) 3 (T_Mod_grow ok (hy := hf10)) d_Mod_losePacket_21 (mH_look ok) rfl rfl q2271 q2273 qs68 q135 q2274 hd_Mod_grow rfl ⟨by decide, by decide⟩ (by first | exact Nat.le_of_ble_eq_true rfl | (simp only [List.map, List.sum_cons, List.sum_nil, g_cat_rf]; exact Nat.le_of_ble_eq_true rfl) | (simp only [List.map, List.sum_cons, List.sum_nil, g_cat_rf, Value.category]; decide)) rfl ?_
  refine g_aload_n 0 (i := 0) (pc' := 25) d_Mod_losePacket_24 rfl rfl rfl ?_
  refine g_iload_n 1 (i := 1) (pc' := 26) d_Mod_losePacket_25 rfl rfl rfl ?_
  replace hy := g_b_inv hy
  obtain ⟨M12, hf13, hy⟩ := hy
  refine g_callV (rv := none) (h1 := (mH h0 a0 ad M12)) (pc' := 29) (As := [.int p0]) (rest := []) 1 (T_Mod_removePacket ok (hy := hf13)) d_Mod_losePacket_26 (mH_look ok) rfl rfl q2275 q2277 qs69 q135 q2278 hd_Mod_removePacket rfl ⟨by decide, by decide⟩ (by first | exact Nat.le_of_ble_eq_true rfl | (simp only [List.map, List.sum_cons, List.sum_nil, g_cat_rf]; exact Nat.le_of_ble_eq_true rfl) | (simp only [List.map, List.sum_cons, List.sum_nil, g_cat_rf, Value.category]; decide)) rfl ?_
  cases hy
  exact g_vret rfl rfl rfl d_Mod_losePacket_29
theorem hd_Mod_losePacket : g_dsc y_Mod_losePacket 1 := ⟨by decide +kernel, by decide +kernel, by decide +kernel⟩
/-! CircuitDeskModel.setUp(IZ)Z -/
abbrev y_Mod_setUp : MethodName := ⟨"CircuitDeskModel", "setUp", "(IZ)Z"⟩
abbrev k_Mod_setUp : g_M := (prog_17_method_46_code, 5, "CircuitDeskModel", 14, (some FieldType.boolean), "setUp", [], 0)
theorem d_Mod_setUp_0 : decode prog_17_method_46_code 0 = .ok (.aload_n 0, 1) := by decide +kernel
theorem d_Mod_setUp_1 : decode prog_17_method_46_code 1 = .ok (.aload_n 0, 1) := by decide +kernel
theorem d_Mod_setUp_2 : decode prog_17_method_46_code 2 = .ok (.iload_n 1, 1) := by decide +kernel
theorem d_Mod_setUp_3 : decode prog_17_method_46_code 3 = .ok (.invokevirtual 214, 3) := by decide +kernel
theorem d_Mod_setUp_6 : decode prog_17_method_46_code 6 = .ok (.ifCond .eq 7, 3) := by decide +kernel
theorem d_Mod_setUp_9 : decode prog_17_method_46_code 9 = .ok (.iconst 0, 1) := by decide +kernel
theorem d_Mod_setUp_10 : decode prog_17_method_46_code 10 = .ok (.goto 4, 3) := by decide +kernel
theorem d_Mod_setUp_13 : decode prog_17_method_46_code 13 = .ok (.iconst 1, 1) := by decide +kernel
theorem d_Mod_setUp_14 : decode prog_17_method_46_code 14 = .ok (.putfield 51, 3) := by decide +kernel
theorem d_Mod_setUp_17 : decode prog_17_method_46_code 17 = .ok (.aload_n 0, 1) := by decide +kernel
theorem d_Mod_setUp_18 : decode prog_17_method_46_code 18 = .ok (.getfield 51, 3) := by decide +kernel
theorem d_Mod_setUp_21 : decode prog_17_method_46_code 21 = .ok (.ifCond .eq 5, 3) := by decide +kernel
theorem d_Mod_setUp_24 : decode prog_17_method_46_code 24 = .ok (.iconst 0, 1) := by decide +kernel
theorem d_Mod_setUp_25 : decode prog_17_method_46_code 25 = .ok (.ireturn, 1) := by decide +kernel
theorem d_Mod_setUp_26 : decode prog_17_method_46_code 26 = .ok (.aload_n 0, 1) := by decide +kernel
theorem d_Mod_setUp_27 : decode prog_17_method_46_code 27 = .ok (.iload_n 1, 1) := by decide +kernel
theorem d_Mod_setUp_28 : decode prog_17_method_46_code 28 = .ok (.iconst 4, 1) := by decide +kernel
theorem d_Mod_setUp_29 : decode prog_17_method_46_code 29 = .ok (.invokevirtual 201, 3) := by decide +kernel
theorem d_Mod_setUp_32 : decode prog_17_method_46_code 32 = .ok (.iconst 1, 1) := by decide +kernel
theorem d_Mod_setUp_33 : decode prog_17_method_46_code 33 = .ok (.if_icmp .ne 7, 3) := by decide +kernel
theorem d_Mod_setUp_36 : decode prog_17_method_46_code 36 = .ok (.iconst 1, 1) := by decide +kernel
theorem d_Mod_setUp_37 : decode prog_17_method_46_code 37 = .ok (.goto 4, 3) := by decide +kernel
theorem d_Mod_setUp_40 : decode prog_17_method_46_code 40 = .ok (.iconst 0, 1) := by decide +kernel
theorem d_Mod_setUp_41 : decode prog_17_method_46_code 41 = .ok (.istore_n 3, 1) := by decide +kernel
theorem d_Mod_setUp_42 : decode prog_17_method_46_code 42 = .ok (.aload_n 0, 1) := by decide +kernel
theorem d_Mod_setUp_43 : decode prog_17_method_46_code 43 = .ok (.getfield 7, 3) := by decide +kernel
theorem d_Mod_setUp_46 : decode prog_17_method_46_code 46 = .ok (.bipush 24, 2) := by decide +kernel
theorem d_Mod_setUp_48 : decode prog_17_method_46_code 48 = .ok (.iconst 5, 1) := by decide +kernel
theorem d_Mod_setUp_49 : decode prog_17_method_46_code 49 = .ok (.iload_n 1, 1) := by decide +kernel
theorem d_Mod_setUp_50 : decode prog_17_method_46_code 50 = .ok (.imul, 1) := by decide +kernel
theorem d_Mod_setUp_51 : decode prog_17_method_46_code 51 = .ok (.iadd, 1) := by decide +kernel
theorem d_Mod_setUp_52 : decode prog_17_method_46_code 52 = .ok (.iconst 4, 1) := by decide +kernel
theorem d_Mod_setUp_53 : decode prog_17_method_46_code 53 = .ok (.iadd, 1) := by decide +kernel
theorem d_Mod_setUp_54 : decode prog_17_method_46_code 54 = .ok (.iload_n 2, 1) := by decide +kernel
theorem d_Mod_setUp_55 : decode prog_17_method_46_code 55 = .ok (.ifCond .eq 7, 3) := by decide +kernel
theorem d_Mod_setUp_58 : decode prog_17_method_46_code 58 = .ok (.iconst 1, 1) := by decide +kernel
theorem d_Mod_setUp_59 : decode prog_17_method_46_code 59 = .ok (.goto 4, 3) := by decide +kernel
theorem d_Mod_setUp_62 : decode prog_17_method_46_code 62 = .ok (.iconst 0, 1) := by decide +kernel
theorem d_Mod_setUp_63 : decode prog_17_method_46_code 63 = .ok (.iastore, 1) := by decide +kernel
theorem d_Mod_setUp_64 : decode prog_17_method_46_code 64 = .ok (.aload_n 0, 1) := by decide +kernel
theorem d_Mod_setUp_65 : decode prog_17_method_46_code 65 = .ok (.getfield 7, 3) := by decide +kernel
theorem d_Mod_setUp_68 : decode prog_17_method_46_code 68 = .ok (.bipush 6, 2) := by decide +kernel
theorem d_Mod_setUp_70 : decode prog_17_method_46_code 70 = .ok (.iaload, 1) := by decide +kernel
theorem d_Mod_setUp_71 : decode prog_17_method_46_code 71 = .ok (.iconst 1, 1) := by decide +kernel
theorem d_Mod_setUp_72 : decode prog_17_method_46_code 72 = .ok (.isub, 1) := by decide +kernel
theorem d_Mod_setUp_73 : decode prog_17_method_46_code 73 = .ok (.istore 4, 2) := by decide +kernel
theorem d_Mod_setUp_75 : decode prog_17_method_46_code 75 = .ok (.iload 4, 2) := by decide +kernel
theorem d_Mod_setUp_77 : decode prog_17_method_46_code 77 = .ok (.ifCond .lt 30, 3) := by decide +kernel
theorem d_Mod_setUp_80 : decode prog_17_method_46_code 80 = .ok (.iload_n 2, 1) := by decide +kernel
theorem d_Mod_setUp_81 : decode prog_17_method_46_code 81 = .ok (.ifCond .ne 26, 3) := by decide +kernel
theorem d_Mod_setUp_84 : decode prog_17_method_46_code 84 = .ok (.aload_n 0, 1) := by decide +kernel
theorem d_Mod_setUp_85 : decode prog_17_method_46_code 85 = .ok (.iload 4, 2) := by decide +kernel
theorem d_Mod_setUp_87 : decode prog_17_method_46_code 87 = .ok (.iconst 2, 1) := by decide +kernel
theorem d_Mod_setUp_88 : decode prog_17_method_46_code 88 = .ok (.invokevirtual 217, 3) := by decide +kernel
theorem d_Mod_setUp_91 : decode prog_17_method_46_code 91 = .ok (.iload_n 1, 1) := by decide +kernel
theorem d_Mod_setUp_92 : decode prog_17_method_46_code 92 = .ok (.if_icmp .ne 9, 3) := by decide +kernel
theorem d_Mod_setUp_95 : decode prog_17_method_46_code 95 = .ok (.aload_n 0, 1) := by decide +kernel
theorem d_Mod_setUp_96 : decode prog_17_method_46_code 96 = .ok (.iload 4, 2) := by decide +kernel
theorem d_Mod_setUp_98 : decode prog_17_method_46_code 98 = .ok (.invokevirtual 220, 3) := by decide +kernel
theorem d_Mod_setUp_101 : decode prog_17_method_46_code 101 = .ok (.iinc 4 (-1), 3) := by decide +kernel
theorem d_Mod_setUp_104 : decode prog_17_method_46_code 104 = .ok (.goto (-29), 3) := by decide +kernel
theorem d_Mod_setUp_107 : decode prog_17_method_46_code 107 = .ok (.iload_n 3, 1) := by decide +kernel
theorem d_Mod_setUp_108 : decode prog_17_method_46_code 108 = .ok (.ireturn, 1) := by decide +kernel
def Mod_setUp_101 (k75 : g_MD → Int32 → Int32 → Int32 → Int32 → Option (Int32 × g_MD)) (M : g_MD) (v1 : Int32) (v2 : Int32) (v3 : Int32) (v4 : Int32) : Option (Int32 × g_MD) :=
  k75 M v1 v2 v3 (v4 + (-1 : Int32))
set_option maxHeartbeats 4000000 in
set_option maxRecDepth 100000 in
theorem W_Mod_setUp_101 {X : g_X} {h0 : g_AH} {a0 : Nat} {ad : Nat → Nat} (ok : mOK a0 ad) (z : Int32 × g_MD) (k75 : g_MD → Int32 → Int32 → Int32 → Int32 → Option (Int32 × g_MD)) (hk75 : ∀ (M : g_MD) (v1 : Int32) (v2 : Int32) (v3 : Int32) (v4 : Int32), k75 M v1 v2 v3 v4 = some z → G X k_Mod_setUp (.inl (some (.int z.1))) (mH h0 a0 ad z.2) (mH h0 a0 ad M) 75 [(0, .ref a0), (1, .int v1), (2, .int v2), (3, .int v3), (4, .int v4)] []) (M : g_MD) (v1 : Int32) (v2 : Int32) (v3 : Int32) (v4 : Int32) (hy : Mod_setUp_101 k75 M v1 v2 v3 v4 = some z) : G X k_Mod_setUp (.inl (some (.int z.1))) (mH h0 a0 ad z.2) (mH h0 a0 ad M) 101 [(0, .ref a0), (1, .int v1), (2, .int v2), (3, .int v3), (4, .int v4)] [] := by
  unfold Mod_setUp_101 at hy
  refine g_iinc 4 (v := (v4 + (-1 : Int32))) (pc' := 104) (Lc' := [(4, .int (v4 + (-1 : Int32))), (0, .ref a0), (1, .int v1), (2, .int v2), (3, .int v3)]) d_Mod_setUp_101 rfl rfl (by decide) rfl rfl ?_
  refine g_goto (pc' := 75) d_Mod_setUp_104 (by decide) ?_
  refine g_sub [1, 2, 3, 4, 0] rfl ?_
  exact hk75 _ _ _ _ _ hy
def Mod_setUp_75  : Nat → g_MD → Int32 → Int32 → Int32 → Int32 → Option (Int32 × g_MD)
  | 0, _, _, _, _, _ => none
  | n + 1, M, v1, v2, v3, v4 => if v4 < 0 then (g_rq (v3 = 0 ∨ v3 = 1) <| some (v3, M)) else (if v2 = 0 then (g_b (Mod_ofPacket M v4 (2 : Int32)) fun x20 => if x20 = v1 then (g_b (Mod_losePacket M v4) fun M25 => Mod_setUp_101 (Mod_setUp_75  n) M25 v1 v2 v3 v4) else (Mod_setUp_101 (Mod_setUp_75  n) M v1 v2 v3 v4)) else (g_rq (v3 = 0 ∨ v3 = 1) <| some (v3, M)))
set_option maxHeartbeats 4000000 in
set_option maxRecDepth 100000 in
theorem W_Mod_setUp_75 {X : g_X} {h0 : g_AH} {a0 : Nat} {ad : Nat → Nat} (ok : mOK a0 ad) (z : Int32 × g_MD)  : ∀ (n : Nat) (M : g_MD) (v1 : Int32) (v2 : Int32) (v3 : Int32) (v4 : Int32), Mod_setUp_75  n M v1 v2 v3 v4 = some z → G X k_Mod_setUp (.inl (some (.int z.1))) (mH h0 a0 ad z.2) (mH h0 a0 ad M) 75 [(0, .ref a0), (1, .int v1), (2, .int v2), (3, .int v3), (4, .int v4)] [] := by
  intro n
  induction n with
  | zero => intro M v1 v2 v3 v4 hy; exact absurd hy (by simp [Mod_setUp_75])
  | succ n ih =>
    intro M v1 v2 v3 v4 hy
    rw [Mod_setUp_75] at hy
    refine g_iload 4 (pc' := 77) d_Mod_setUp_75 rfl rfl ?_
    by_cases c16 : v4 < 0
    · rw [if_pos c16] at hy
      refine g_if_ltT (pc' := 107) d_Mod_setUp_77 c16 (by decide) ?_
      refine g_iload_n 3 (i := 3) (pc' := 108) d_Mod_setUp_107 rfl rfl rfl ?_
      replace hy := g_rq_inv hy
      obtain ⟨c17, hy⟩ := hy
      cases hy
      exact g_zret rfl rfl rfl (g_nar_z c17).1 d_Mod_setUp_108
    · rw [if_neg c16] at hy
      refine g_if_ltF (pc' := 80) d_Mod_setUp_77 107 c16 (by decide) rfl ?_
      refine g_iload_n 2 (i := 2) (pc' := 81) d_Mod_setUp_80 rfl rfl rfl ?_
      by_cases c18 : v2 = 0
      · rw [if_pos c18] at hy
        refine g_if_neF (pc' := 84) d_Mod_setUp_81 107 c18 (by decide) rfl ?_
        refine g_aload_n 0 (i := 0) (pc' := 85) d_Mod_setUp_84 rfl rfl rfl ?_
        refine g_iload 4 (pc' := 87) d_Mod_setUp_85 rfl rfl ?_
        refine g_iconst (v := (2 : Int32)) (pc' := 88) d_Mod_setUp_87 (by decide) rfl ?_
        replace hy := g_b_inv hy
        obtain ⟨x20, hf22, hy⟩ := hy
        refine g_callV (rv := some (.int x20)) (h1 := (mH h0 a0 ad M)) (pc' := 91) (As := [.int v4, .int (2 : Int32)]) (rest := []) 2 (T_Mod_ofPacket ok (hy := hf22)) d_Mod_setUp_88 (mH_look ok) rfl rfl q2263 q2265 qs66 q135 q2266 hd_Mod_ofPacket rfl ⟨by decide, by decide⟩ (by first | exact Nat.le_of_ble_eq_true rfl | (simp only [List.map, List.sum_cons, List.sum_nil, g_cat_rf]; exact Nat.le_of_ble_eq_true rfl) | (simp only [List.map, List.sum_cons, List.sum_nil, g_cat_rf, Value.category]; decide)) rfl ?_
        refine g_iload_n 1 (i := 1) (pc' := 92) d_Mod_setUp_91 rfl rfl rfl ?_
        by_cases c23 : x20 = v1
        · rw [if_pos c23] at hy
          refine g_icmp_neF (pc' := 95) d_Mod_setUp_92 101 c23 (by decide) rfl ?_
          refine g_aload_n 0 (i := 0) (pc' := 96) d_Mod_setUp_95 rfl rfl rfl ?_
          refine g_iload 4 (pc' := 98) d_Mod_setUp_96 rfl rfl ?_
          replace hy := g_b_inv hy
          obtain ⟨M25, hf26, hy⟩ := hy
          refine g_callV (rv := none) (h1 := (mH h0 a0 ad M25)) (pc' := 101) (As := [.int v4]) (rest := []) 1 (T_Mod_losePacket ok (hy := hf26)) d_Mod_setUp_98 (mH_look ok) rfl rfl q2267 q2269 qs67 q135 q2270 hd_Mod_losePacket rfl ⟨by decide, by decide⟩ (by first | exact Nat.le_of_ble_eq_true rfl | (simp only [List.map, List.sum_cons, List.sum_nil, g_cat_rf]; exact Nat.le_of_ble_eq_true rfl) | (simp only [List.map, List.sum_cons, List.sum_nil, g_cat_rf, Value.category]; decide)) rfl ?_
          exact W_Mod_setUp_101 ok _ _ ih _ _ _ _ _ hy
        · rw [if_neg c23] at hy
          refine g_icmp_neT (pc' := 101) d_Mod_setUp_92 c23 (by decide) ?_
          exact W_Mod_setUp_101 ok _ _ ih _ _ _ _ _ hy
      · rw [if_neg c18] at hy
        refine g_if_neT (pc' := 107) d_Mod_setUp_81 c18 (by decide) ?_
        refine g_iload_n 3 (i := 3) (pc' := 108) d_Mod_setUp_107 rfl rfl rfl ?_
        replace hy := g_rq_inv hy
        obtain ⟨c19, hy⟩ := hy
        cases hy
        exact g_zret rfl rfl rfl (g_nar_z c19).1 d_Mod_setUp_108
def Mod_setUp_63 (M : g_MD) (v1 : Int32) (v2 : Int32) (v3 : Int32) (s0 : Int32) (s1 : Int32) (s2 : Nat) : Option (Int32 × g_MD) :=
  g_mS M 0 s2 s1 s0 fun M12 => g_mA M12 0 0 (6 : Int32) fun x14 => Mod_setUp_75  gFU M12 v1 v2 v3 (x14 - (1 : Int32))
set_option maxHeartbeats 4000000 in
set_option maxRecDepth 100000 in
theorem W_Mod_setUp_63 {X : g_X} {h0 : g_AH} {a0 : Nat} {ad : Nat → Nat} (ok : mOK a0 ad) (z : Int32 × g_MD) (M : g_MD) (v1 : Int32) (v2 : Int32) (v3 : Int32) (s0 : Int32) (s1 : Int32) (s2 : Nat) (hy : Mod_setUp_63  M v1 v2 v3 s0 s1 s2 = some z) : G X k_Mod_setUp (.inl (some (.int z.1))) (mH h0 a0 ad z.2) (mH h0 a0 ad M) 63 [(0, .ref a0), (1, .int v1), (2, .int v2), (3, .int v3)] [.int s0, .int s1, .ref (ad s2)] := by
  unfold Mod_setUp_63 at hy
  replace hy := g_mS_inv hy
  obtain ⟨hc13, hy⟩ := hy
  refine gm_ast0 ok (pc' := 64) d_Mod_setUp_63 hc13 rfl ?_
  generalize ms M s2 (s1).toNatClampNeg s0 = M12 at hy ⊢
  refine g_aload_n 0 (i := 0) (pc' := 65) d_Mod_setUp_64 rfl rfl rfl ?_
  refine gm_getA ok 0 (pc' := 68) d_Mod_setUp_65 rfl q1965 rfl rfl ?_
  refine g_bipush (v := (6 : Int32)) (pc' := 70) d_Mod_setUp_68 (by decide) rfl ?_
  replace hy := g_mA_inv hy
  obtain ⟨x14, hc15, hy⟩ := hy
  refine gm_ald0 ok (pc' := 71) d_Mod_setUp_70 hc15 rfl ?_
  refine g_iconst (v := (1 : Int32)) (pc' := 72) d_Mod_setUp_71 (by decide) rfl ?_
  refine g_isub (pc' := 73) d_Mod_setUp_72 rfl ?_
  refine g_istore (pc' := 75) (Lc' := [(4, .int (x14 - (1 : Int32))), (0, .ref a0), (1, .int v1), (2, .int v2), (3, .int v3)]) d_Mod_setUp_73 (by decide) rfl rfl ?_
  refine g_sub [1, 2, 3, 4, 0] rfl ?_
  exact W_Mod_setUp_75 ok _ _ _ _ _ _ _ hy
def Mod_setUp_41 (M : g_MD) (v1 : Int32) (v2 : Int32) (s0 : Int32) : Option (Int32 × g_MD) :=
  if v2 = 0 then (Mod_setUp_63  M v1 v2 s0 (0 : Int32) (((24 : Int32) + ((5 : Int32) * v1)) + (4 : Int32)) 0) else (Mod_setUp_63  M v1 v2 s0 (1 : Int32) (((24 : Int32) + ((5 : Int32) * v1)) + (4 : Int32)) 0)
set_option maxHeartbeats 4000000 in
set_option maxRecDepth 100000 in
theorem W_Mod_setUp_41 {X : g_X} {h0 : g_AH} {a0 : Nat} {ad : Nat → Nat} (ok : mOK a0 ad) (z : Int32 × g_MD) (M : g_MD) (v1 : Int32) (v2 : Int32) (s0 : Int32) (hy : Mod_setUp_41  M v1 v2 s0 = some z) : G X k_Mod_setUp (.inl (some (.int z.1))) (mH h0 a0 ad z.2) (mH h0 a0 ad M) 41 [(0, .ref a0), (1, .int v1), (2, .int v2)] [.int s0] := by
  unfold Mod_setUp_41 at hy
  refine g_istore_n (i := 3) (pc' := 42) (Lc' := [(3, .int s0), (0, .ref a0), (1, .int v1), (2, .int v2)]) d_Mod_setUp_41 rfl (by decide) rfl rfl ?_
  refine g_aload_n 1 (i := 0) (pc' := 43) d_Mod_setUp_42 rfl rfl rfl ?_
  refine gm_getA ok 0 (pc' := 46) d_Mod_setUp_43 rfl q1965 rfl rfl ?_
  refine g_bipush (v := (24 : Int32)) (pc' := 48) d_Mod_setUp_46 (by decide) rfl ?_
  refine g_iconst (v := (5 : Int32)) (pc' := 49) d_Mod_setUp_48 (by decide) rfl ?_
  refine g_iload_n 2 (i := 1) (pc' := 50) d_Mod_setUp_49 rfl rfl rfl ?_
  refine g_imul (pc' := 51) d_Mod_setUp_50 rfl ?_
  refine g_iadd (pc' := 52) d_Mod_setUp_51 rfl ?_
  refine g_iconst (v := (4 : Int32)) (pc' := 53) d_Mod_setUp_52 (by decide) rfl ?_
  refine g_iadd (pc' := 54) d_Mod_setUp_53 rfl ?_
  refine g_iload_n 3 (i := 2) (pc' := 55) d_Mod_setUp_54 rfl rfl rfl ?_
  by_cases c11 : v2 = 0
  · rw [if_pos c11] at hy
    refine g_if_eqT (pc' := 62) d_Mod_setUp_55 c11 (by decide) ?_
    refine g_iconst (v := (0 : Int32)) (pc' := 63) d_Mod_setUp_62 (by decide) rfl ?_
    refine g_sub [1, 2, 3, 0] rfl ?_
    exact W_Mod_setUp_63 ok _ _ _ _ _ _ _ _ hy
  · rw [if_neg c11] at hy
    refine g_if_eqF (pc' := 58) d_Mod_setUp_55 62 c11 (by decide) rfl ?_
    refine g_iconst (v := (1 : Int32)) (pc' := 59) d_Mod_setUp_58 (by decide) rfl ?_
    refine g_goto (pc' := 63) d_Mod_setUp_59 (by decide) ?_
    refine g_sub [1, 2, 3, 0] rfl ?_
    exact W_Mod_setUp_63 ok _ _ _ _ _ _ _ _ hy
def Mod_setUp_14 (M : g_MD) (v1 : Int32) (v2 : Int32) (s0 : Int32) : Option (Int32 × g_MD) :=
  g_let (mp M 7 s0) fun M5 => if (M5.2.1 7) = 0 then (g_b (Mod_ofLink M5 v1 (4 : Int32)) fun x7 => if x7 = (1 : Int32) then (Mod_setUp_41  M5 v1 v2 (1 : Int32)) else (Mod_setUp_41  M5 v1 v2 (0 : Int32))) else (some ((0 : Int32), M5))
set_option maxHeartbeats 4000000 in
set_option maxRecDepth 100000 in
theorem W_Mod_setUp_14 {X : g_X} {h0 : g_AH} {a0 : Nat} {ad : Nat → Nat} (ok : mOK a0 ad) (z : Int32 × g_MD) (M : g_MD) (v1 : Int32) (v2 : Int32) (s0 : Int32) (hy : Mod_setUp_14  M v1 v2 s0 = some z) : G X k_Mod_setUp (.inl (some (.int z.1))) (mH h0 a0 ad z.2) (mH h0 a0 ad M) 14 [(0, .ref a0), (1, .int v1), (2, .int v2)] [.int s0, .ref a0] := by
  unfold Mod_setUp_14 at hy
  replace hy := g_let_inv hy
  refine gm_put ok 7 (pc' := 17) d_Mod_setUp_14 rfl (by decide) q1972 rfl ?_
  generalize (mp M 7 s0) = M5 at hy ⊢
  refine g_aload_n 0 (i := 0) (pc' := 18) d_Mod_setUp_17 rfl rfl rfl ?_
  refine gm_getA ok 7 (pc' := 21) d_Mod_setUp_18 rfl q1972 rfl rfl ?_
  by_cases c6 : (M5.2.1 7) = 0
  · rw [if_pos c6] at hy
    refine g_if_eqT (pc' := 26) d_Mod_setUp_21 c6 (by decide) ?_
    refine g_aload_n 0 (i := 0) (pc' := 27) d_Mod_setUp_26 rfl rfl rfl ?_
    refine g_iload_n 1 (i := 1) (pc' := 28) d_Mod_setUp_27 rfl rfl rfl ?_
    refine g_iconst (v := (4 : Int32)) (pc' := 29) d_Mod_setUp_28 (by decide) rfl ?_
    replace hy := g_b_inv hy
    obtain ⟨x7, hf9, hy⟩ := hy
    refine g_callV (rv := some (.int x7)) (h1 := (mH h0 a0 ad M5)) (pc' := 32) (As := [.int v1, .int (4 : Int32)]) (rest := []) 2 (T_Mod_ofLink ok (hy := hf9)) d_Mod_setUp_29 (mH_look ok) rfl rfl q2154 q2156 qs45 q135 q2157 hd_Mod_ofLink rfl ⟨by decide, by decide⟩ (by first | exact Nat.le_of_ble_eq_true rfl | (simp only [List.map, List.sum_cons, List.sum_nil, g_cat_rf]; exact Nat.le_of_ble_eq_true rfl) | (simp only [List.map, List.sum_cons, List.sum_nil, g_cat_rf, Value.category]; decide)) rfl ?_
    refine g_iconst (v := (1 : Int32)) (pc' := 33) d_Mod_setUp_32 (by decide) rfl ?_
    by_cases c10 : x7 = (1 : Int32)
    · rw [if_pos c10] at hy
      refine g_icmp_neF (pc' := 36) d_Mod_setUp_33 40 c10 (by decide) rfl ?_
      refine g_iconst (v := (1 : Int32)) (pc' := 37) d_Mod_setUp_36 (by decide) rfl ?_
      refine g_goto (pc' := 41) d_Mod_setUp_37 (by decide) ?_
      exact W_Mod_setUp_41 ok _ _ _ _ _ hy
    · rw [if_neg c10] at hy
      refine g_icmp_neT (pc' := 40) d_Mod_setUp_33 c10 (by decide) ?_
      refine g_iconst (v := (0 : Int32)) (pc' := 41) d_Mod_setUp_40 (by decide) rfl ?_
      exact W_Mod_setUp_41 ok _ _ _ _ _ hy
  · rw [if_neg c6] at hy
    refine g_if_eqF (pc' := 24) d_Mod_setUp_21 26 c6 (by decide) rfl ?_
    refine g_iconst (v := (0 : Int32)) (pc' := 25) d_Mod_setUp_24 (by decide) rfl ?_
    cases hy
    exact g_zret rfl rfl rfl (g_nar_z (Or.inl rfl)).1 d_Mod_setUp_25
def Mod_setUp (M : g_MD) (p0 : Int32) (p1 : Int32) : Option (Int32 × g_MD) :=
  g_b (Mod_isLink M p0) fun x1 => if x1 = 0 then (Mod_setUp_14  M p0 p1 (1 : Int32)) else (Mod_setUp_14  M p0 p1 (0 : Int32))
set_option maxHeartbeats 4000000 in
set_option maxRecDepth 100000 in
theorem T_Mod_setUp {l : Launch} {B : g_B} {h0 : g_AH} {a0 : Nat} {ad : Nat → Nat} (ok : mOK a0 ad) (M : g_MD) (p0 : Int32) (p1 : Int32) (z : Int32 × g_MD) (hy : Mod_setUp M p0 p1 = some z) : g_CT l B y_Mod_setUp k_Mod_setUp [.ref a0, .int p0, .int p1] (mH h0 a0 ad M) (.inl (some (.int z.1))) (mH h0 a0 ad z.2) := by
  refine g_start2 (Lc := [(0, .ref a0), (1, .int p0), (2, .int p1)]) (by decide) rfl rfl (by exact Nat.le_of_ble_eq_true rfl) (by rfl) fun X => ?_
  unfold Mod_setUp at hy
  refine g_aload_n 0 (i := 0) (pc' := 1) d_Mod_setUp_0 rfl rfl rfl ?_
  refine g_aload_n 0 (i := 0) (pc' := 2) d_Mod_setUp_1 rfl rfl rfl ?_
  refine g_iload_n 1 (i := 1) (pc' := 3) d_Mod_setUp_2 rfl rfl rfl ?_
  replace hy := g_b_inv hy
  obtain ⟨x1, hf3, hy⟩ := hy
  refine g_callV (rv := some (.int x1)) (h1 := (mH h0 a0 ad M)) (pc' := 6) (As := [.int p0]) (rest := [.ref a0]) 1 (T_Mod_isLink ok (hy := hf3)) d_Mod_setUp_3 (mH_look ok) rfl rfl q2259 q2261 qs65 q135 q2262 hd_Mod_isLink rfl ⟨by decide, by decide⟩ (by first | exact Nat.le_of_ble_eq_true rfl | (simp only [List.map, List.sum_cons, List.sum_nil, g_cat_rf]; exact Nat.le_of_ble_eq_true rfl) | (simp only [List.map, List.sum_cons, List.sum_nil, g_cat_rf, Value.category]; decide)) rfl ?_
  by_cases c4 : x1 = 0
  · rw [if_pos c4] at hy
    refine g_if_eqT (pc' := 13) d_Mod_setUp_6 c4 (by decide) ?_
    refine g_iconst (v := (1 : Int32)) (pc' := 14) d_Mod_setUp_13 (by decide) rfl ?_
    exact W_Mod_setUp_14 ok _ _ _ _ _ hy
  · rw [if_neg c4] at hy
    refine g_if_eqF (pc' := 9) d_Mod_setUp_6 13 c4 (by decide) rfl ?_
    refine g_iconst (v := (0 : Int32)) (pc' := 10) d_Mod_setUp_9 (by decide) rfl ?_
    refine g_goto (pc' := 14) d_Mod_setUp_10 (by decide) ?_
    exact W_Mod_setUp_14 ok _ _ _ _ _ hy
theorem hd_Mod_setUp : g_dsc y_Mod_setUp 2 := ⟨by decide +kernel, by decide +kernel, by decide +kernel⟩
/-! CircuitDeskModel.set(II)I -/
abbrev y_Mod_set : MethodName := ⟨"CircuitDeskModel", "set", "(II)I"⟩
abbrev k_Mod_set : g_M := (prog_17_method_47_code, 4, "CircuitDeskModel", 13, (some FieldType.int), "set", [], 0)
theorem d_Mod_set_0 : decode prog_17_method_47_code 0 = .ok (.aload_n 0, 1) := by decide +kernel
theorem d_Mod_set_1 : decode prog_17_method_47_code 1 = .ok (.iconst 0, 1) := by decide +kernel
theorem d_Mod_set_2 : decode prog_17_method_47_code 2 = .ok (.putfield 51, 3) := by decide +kernel
theorem d_Mod_set_5 : decode prog_17_method_47_code 5 = .ok (.iload_n 1, 1) := by decide +kernel
theorem d_Mod_set_6 : decode prog_17_method_47_code 6 = .ok (.iconst 0, 1) := by decide +kernel
theorem d_Mod_set_7 : decode prog_17_method_47_code 7 = .ok (.iconst 1, 1) := by decide +kernel
theorem d_Mod_set_8 : decode prog_17_method_47_code 8 = .ok (.invokestatic 54, 3) := by decide +kernel
theorem d_Mod_set_11 : decode prog_17_method_47_code 11 = .ok (.ifCond .eq 20, 3) := by decide +kernel
theorem d_Mod_set_14 : decode prog_17_method_47_code 14 = .ok (.iload_n 2, 1) := by decide +kernel
theorem d_Mod_set_15 : decode prog_17_method_47_code 15 = .ok (.iconst 0, 1) := by decide +kernel
theorem d_Mod_set_16 : decode prog_17_method_47_code 16 = .ok (.iload_n 1, 1) := by decide +kernel
theorem d_Mod_set_17 : decode prog_17_method_47_code 17 = .ok (.ifCond .ne 7, 3) := by decide +kernel
theorem d_Mod_set_20 : decode prog_17_method_47_code 20 = .ok (.iconst 4, 1) := by decide +kernel
theorem d_Mod_set_21 : decode prog_17_method_47_code 21 = .ok (.goto 4, 3) := by decide +kernel
theorem d_Mod_set_24 : decode prog_17_method_47_code 24 = .ok (.iconst 1, 1) := by decide +kernel
theorem d_Mod_set_25 : decode prog_17_method_47_code 25 = .ok (.invokestatic 54, 3) := by decide +kernel
theorem d_Mod_set_28 : decode prog_17_method_47_code 28 = .ok (.ifCond .ne 9, 3) := by decide +kernel
theorem d_Mod_set_31 : decode prog_17_method_47_code 31 = .ok (.aload_n 0, 1) := by decide +kernel
theorem d_Mod_set_32 : decode prog_17_method_47_code 32 = .ok (.iconst 1, 1) := by decide +kernel
theorem d_Mod_set_33 : decode prog_17_method_47_code 33 = .ok (.invokevirtual 61, 3) := by decide +kernel
theorem d_Mod_set_36 : decode prog_17_method_47_code 36 = .ok (.ireturn, 1) := by decide +kernel
theorem d_Mod_set_37 : decode prog_17_method_47_code 37 = .ok (.aload_n 0, 1) := by decide +kernel
theorem d_Mod_set_38 : decode prog_17_method_47_code 38 = .ok (.getfield 7, 3) := by decide +kernel
theorem d_Mod_set_41 : decode prog_17_method_47_code 41 = .ok (.iload_n 1, 1) := by decide +kernel
theorem d_Mod_set_42 : decode prog_17_method_47_code 42 = .ok (.iaload, 1) := by decide +kernel
theorem d_Mod_set_43 : decode prog_17_method_47_code 43 = .ok (.istore_n 3, 1) := by decide +kernel
theorem d_Mod_set_44 : decode prog_17_method_47_code 44 = .ok (.aload_n 0, 1) := by decide +kernel
theorem d_Mod_set_45 : decode prog_17_method_47_code 45 = .ok (.getfield 7, 3) := by decide +kernel
theorem d_Mod_set_48 : decode prog_17_method_47_code 48 = .ok (.iload_n 1, 1) := by decide +kernel
theorem d_Mod_set_49 : decode prog_17_method_47_code 49 = .ok (.iload_n 2, 1) := by decide +kernel
theorem d_Mod_set_50 : decode prog_17_method_47_code 50 = .ok (.iastore, 1) := by decide +kernel
theorem d_Mod_set_51 : decode prog_17_method_47_code 51 = .ok (.iload_n 3, 1) := by decide +kernel
theorem d_Mod_set_52 : decode prog_17_method_47_code 52 = .ok (.ireturn, 1) := by decide +kernel
def Mod_set_31 (M : g_MD) : Option (Int32 × g_MD) :=
  g_bM (Mod_fail M (1 : Int32)) fun x6 M7 => some (x6, M7)
set_option maxHeartbeats 4000000 in
set_option maxRecDepth 100000 in
theorem W_Mod_set_31 {X : g_X} {h0 : g_AH} {a0 : Nat} {ad : Nat → Nat} (ok : mOK a0 ad) (z : Int32 × g_MD) (M : g_MD) (hy : Mod_set_31  M = some z) : G X k_Mod_set (.inl (some (.int z.1))) (mH h0 a0 ad z.2) (mH h0 a0 ad M) 31 [(0, .ref a0)] [] := by
  unfold Mod_set_31 at hy
  refine g_aload_n 0 (i := 0) (pc' := 32) d_Mod_set_31 rfl rfl rfl ?_
  refine g_iconst (v := (1 : Int32)) (pc' := 33) d_Mod_set_32 (by decide) rfl ?_
  replace hy := g_bM_inv hy
  obtain ⟨x6, M7, hf8, hy⟩ := hy
  refine g_callV (rv := some (.int x6)) (h1 := (mH h0 a0 ad M7)) (pc' := 36) (As := [.int (1 : Int32)]) (rest := []) 1 (T_Mod_fail ok (hy := hf8)) d_Mod_set_33 (mH_look ok) rfl rfl q2061 q2063 qs31 q135 q2064 hd_Mod_fail rfl ⟨by decide, by decide⟩ (by first | exact Nat.le_of_ble_eq_true rfl | (simp only [List.map, List.sum_cons, List.sum_nil, g_cat_rf]; exact Nat.le_of_ble_eq_true rfl) | (simp only [List.map, List.sum_cons, List.sum_nil, g_cat_rf, Value.category]; decide)) rfl ?_
  cases hy
  exact g_iret rfl rfl rfl d_Mod_set_36
def Mod_set_25 (M : g_MD) (v1 : Int32) (v2 : Int32) (s0 : Int32) (s1 : Int32) (s2 : Int32) : Option (Int32 × g_MD) :=
  g_b (Mod_isBetween s2 s1 s0) fun x10 => if x10 = 0 then (Mod_set_31  M) else (g_mA M 0 0 v1 fun x14 => g_mS M 0 0 v1 v2 fun M16 => some (x14, M16))
set_option maxHeartbeats 4000000 in
set_option maxRecDepth 100000 in
theorem W_Mod_set_25 {X : g_X} {h0 : g_AH} {a0 : Nat} {ad : Nat → Nat} (ok : mOK a0 ad) (z : Int32 × g_MD) (M : g_MD) (v1 : Int32) (v2 : Int32) (s0 : Int32) (s1 : Int32) (s2 : Int32) (hy : Mod_set_25  M v1 v2 s0 s1 s2 = some z) : G X k_Mod_set (.inl (some (.int z.1))) (mH h0 a0 ad z.2) (mH h0 a0 ad M) 25 [(0, .ref a0), (1, .int v1), (2, .int v2)] [.int s0, .int s1, .int s2] := by
  unfold Mod_set_25 at hy
  replace hy := g_b_inv hy
  obtain ⟨x10, hf12, hy⟩ := hy
  refine g_callS (rv := some (.int x10)) (h1 := (mH h0 a0 ad M)) (pc' := 28) (As := [.int s2, .int s1, .int s0]) (rest := []) 3 (T_Mod_isBetween (hy := hf12)) d_Mod_set_25 q2069 q2070 q135 q2071 hd_Mod_isBetween rfl ⟨by decide, by decide⟩ (by first | exact Nat.le_of_ble_eq_true rfl | (simp only [List.map, List.sum_cons, List.sum_nil, g_cat_rf]; exact Nat.le_of_ble_eq_true rfl) | (simp only [List.map, List.sum_cons, List.sum_nil, g_cat_rf, Value.category]; decide)) rfl ?_
  by_cases c13 : x10 = 0
  · rw [if_pos c13] at hy
    refine g_if_neF (pc' := 31) d_Mod_set_28 37 c13 (by decide) rfl ?_
    refine g_sub [0] rfl ?_
    exact W_Mod_set_31 ok _ _ hy
  · rw [if_neg c13] at hy
    refine g_if_neT (pc' := 37) d_Mod_set_28 c13 (by decide) ?_
    refine g_aload_n 0 (i := 0) (pc' := 38) d_Mod_set_37 rfl rfl rfl ?_
    refine gm_getA ok 0 (pc' := 41) d_Mod_set_38 rfl q1965 rfl rfl ?_
    refine g_iload_n 1 (i := 1) (pc' := 42) d_Mod_set_41 rfl rfl rfl ?_
    replace hy := g_mA_inv hy
    obtain ⟨x14, hc15, hy⟩ := hy
    refine gm_ald0 ok (pc' := 43) d_Mod_set_42 hc15 rfl ?_
    refine g_istore_n (i := 3) (pc' := 44) (Lc' := [(3, .int x14), (0, .ref a0), (1, .int v1), (2, .int v2)]) d_Mod_set_43 rfl (by decide) rfl rfl ?_
    refine g_aload_n 1 (i := 0) (pc' := 45) d_Mod_set_44 rfl rfl rfl ?_
    refine gm_getA ok 0 (pc' := 48) d_Mod_set_45 rfl q1965 rfl rfl ?_
    refine g_iload_n 2 (i := 1) (pc' := 49) d_Mod_set_48 rfl rfl rfl ?_
    refine g_iload_n 3 (i := 2) (pc' := 50) d_Mod_set_49 rfl rfl rfl ?_
    replace hy := g_mS_inv hy
    obtain ⟨hc17, hy⟩ := hy
    refine gm_ast0 ok (pc' := 51) d_Mod_set_50 hc17 rfl ?_
    generalize ms M 0 (v1).toNatClampNeg v2 = M16 at hy ⊢
    refine g_iload_n 0 (i := 3) (pc' := 52) d_Mod_set_51 rfl rfl rfl ?_
    cases hy
    exact g_iret rfl rfl rfl d_Mod_set_52
def Mod_set (M : g_MD) (p0 : Int32) (p1 : Int32) : Option (Int32 × g_MD) :=
  g_let (mp M 7 (0 : Int32)) fun M1 => g_b (Mod_isBetween p0 (0 : Int32) (1 : Int32)) fun x2 => if x2 = 0 then (Mod_set_31  M1) else (if p0 = 0 then (Mod_set_25  M1 p0 p1 (4 : Int32) (0 : Int32) p1) else (Mod_set_25  M1 p0 p1 (1 : Int32) (0 : Int32) p1))
set_option maxHeartbeats 4000000 in
set_option maxRecDepth 100000 in
theorem T_Mod_set {l : Launch} {B : g_B} {h0 : g_AH} {a0 : Nat} {ad : Nat → Nat} (ok : mOK a0 ad) (M : g_MD) (p0 : Int32) (p1 : Int32) (z : Int32 × g_MD) (hy : Mod_set M p0 p1 = some z) : g_CT l B y_Mod_set k_Mod_set [.ref a0, .int p0, .int p1] (mH h0 a0 ad M) (.inl (some (.int z.1))) (mH h0 a0 ad z.2) := by
  refine g_start2 (Lc := [(0, .ref a0), (1, .int p0), (2, .int p1)]) (by decide) rfl rfl (by exact Nat.le_of_ble_eq_true rfl) (by rfl) fun X => ?_
  unfold Mod_set at hy
  refine g_aload_n 0 (i := 0) (pc' := 1) d_Mod_set_0 rfl rfl rfl ?_
  refine g_iconst (v := (0 : Int32)) (pc' := 2) d_Mod_set_1 (by decide) rfl ?_
  replace hy := g_let_inv hy
  refine gm_put ok 7 (pc' := 5) d_Mod_set_2 rfl (by decide) q1972 rfl ?_
  generalize (mp M 7 (0 : Int32)) = M1 at hy ⊢
  refine g_iload_n 1 (i := 1) (pc' := 6) d_Mod_set_5 rfl rfl rfl ?_
  refine g_iconst (v := (0 : Int32)) (pc' := 7) d_Mod_set_6 (by decide) rfl ?_
  refine g_iconst (v := (1 : Int32)) (pc' := 8) d_Mod_set_7 (by decide) rfl ?_
  replace hy := g_b_inv hy
  obtain ⟨x2, hf4, hy⟩ := hy
  refine g_callS (rv := some (.int x2)) (h1 := (mH h0 a0 ad M1)) (pc' := 11) (As := [.int p0, .int (0 : Int32), .int (1 : Int32)]) (rest := []) 3 (T_Mod_isBetween (hy := hf4)) d_Mod_set_8 q2069 q2070 q135 q2071 hd_Mod_isBetween rfl ⟨by decide, by decide⟩ (by first | exact Nat.le_of_ble_eq_true rfl | (simp only [List.map, List.sum_cons, List.sum_nil, g_cat_rf]; exact Nat.le_of_ble_eq_true rfl) | (simp only [List.map, List.sum_cons, List.sum_nil, g_cat_rf, Value.category]; decide)) rfl ?_
  by_cases c5 : x2 = 0
  · rw [if_pos c5] at hy
    refine g_if_eqT (pc' := 31) d_Mod_set_11 c5 (by decide) ?_
    refine g_sub [0] rfl ?_
    exact W_Mod_set_31 ok _ _ hy
  · rw [if_neg c5] at hy
    refine g_if_eqF (pc' := 14) d_Mod_set_11 31 c5 (by decide) rfl ?_
    refine g_iload_n 2 (i := 2) (pc' := 15) d_Mod_set_14 rfl rfl rfl ?_
    refine g_iconst (v := (0 : Int32)) (pc' := 16) d_Mod_set_15 (by decide) rfl ?_
    refine g_iload_n 1 (i := 1) (pc' := 17) d_Mod_set_16 rfl rfl rfl ?_
    by_cases c9 : p0 = 0
    · rw [if_pos c9] at hy
      refine g_if_neF (pc' := 20) d_Mod_set_17 24 c9 (by decide) rfl ?_
      refine g_iconst (v := (4 : Int32)) (pc' := 21) d_Mod_set_20 (by decide) rfl ?_
      refine g_goto (pc' := 25) d_Mod_set_21 (by decide) ?_
      exact W_Mod_set_25 ok _ _ _ _ _ _ _ hy
    · rw [if_neg c9] at hy
      refine g_if_neT (pc' := 24) d_Mod_set_17 c9 (by decide) ?_
      refine g_iconst (v := (1 : Int32)) (pc' := 25) d_Mod_set_24 (by decide) rfl ?_
      exact W_Mod_set_25 ok _ _ _ _ _ _ _ hy
theorem hd_Mod_set : g_dsc y_Mod_set 2 := ⟨by decide +kernel, by decide +kernel, by decide +kernel⟩
/-! CircuitDeskModel.lent()I -/
abbrev y_Mod_lent : MethodName := ⟨"CircuitDeskModel", "lent", "()I"⟩
abbrev k_Mod_lent : g_M := (prog_17_method_57_code, 3, "CircuitDeskModel", 14, (some FieldType.int), "lent", [], 0)
theorem d_Mod_lent_0 : decode prog_17_method_57_code 0 = .ok (.iconst 0, 1) := by decide +kernel
theorem d_Mod_lent_1 : decode prog_17_method_57_code 1 = .ok (.istore_n 1, 1) := by decide +kernel
theorem d_Mod_lent_2 : decode prog_17_method_57_code 2 = .ok (.iconst 0, 1) := by decide +kernel
theorem d_Mod_lent_3 : decode prog_17_method_57_code 3 = .ok (.istore_n 2, 1) := by decide +kernel
theorem d_Mod_lent_4 : decode prog_17_method_57_code 4 = .ok (.iload_n 2, 1) := by decide +kernel
theorem d_Mod_lent_5 : decode prog_17_method_57_code 5 = .ok (.aload_n 0, 1) := by decide +kernel
theorem d_Mod_lent_6 : decode prog_17_method_57_code 6 = .ok (.getfield 7, 3) := by decide +kernel
theorem d_Mod_lent_9 : decode prog_17_method_57_code 9 = .ok (.iconst 2, 1) := by decide +kernel
theorem d_Mod_lent_10 : decode prog_17_method_57_code 10 = .ok (.iaload, 1) := by decide +kernel
theorem d_Mod_lent_11 : decode prog_17_method_57_code 11 = .ok (.if_icmp .ge 18, 3) := by decide +kernel
theorem d_Mod_lent_14 : decode prog_17_method_57_code 14 = .ok (.iload_n 1, 1) := by decide +kernel
theorem d_Mod_lent_15 : decode prog_17_method_57_code 15 = .ok (.aload_n 0, 1) := by decide +kernel
theorem d_Mod_lent_16 : decode prog_17_method_57_code 16 = .ok (.iload_n 2, 1) := by decide +kernel
theorem d_Mod_lent_17 : decode prog_17_method_57_code 17 = .ok (.iconst 1, 1) := by decide +kernel
theorem d_Mod_lent_18 : decode prog_17_method_57_code 18 = .ok (.invokevirtual 241, 3) := by decide +kernel
theorem d_Mod_lent_21 : decode prog_17_method_57_code 21 = .ok (.iadd, 1) := by decide +kernel
theorem d_Mod_lent_22 : decode prog_17_method_57_code 22 = .ok (.istore_n 1, 1) := by decide +kernel
theorem d_Mod_lent_23 : decode prog_17_method_57_code 23 = .ok (.iinc 2 1, 3) := by decide +kernel
theorem d_Mod_lent_26 : decode prog_17_method_57_code 26 = .ok (.goto (-22), 3) := by decide +kernel
theorem d_Mod_lent_29 : decode prog_17_method_57_code 29 = .ok (.iload_n 1, 1) := by decide +kernel
theorem d_Mod_lent_30 : decode prog_17_method_57_code 30 = .ok (.ireturn, 1) := by decide +kernel
def Mod_lent_4 (M : g_MD)  : Nat → Int32 → Int32 → Option (Int32)
  | 0, _, _ => none
  | n + 1, v1, v2 => g_mA M 0 0 (2 : Int32) fun x1 => if x1 ≤ v2 then (some v1) else (g_b (Mod_countLabels M v2 (1 : Int32)) fun x4 => (Mod_lent_4 M  n) (v1 + x4) (v2 + (1 : Int32)))
set_option maxHeartbeats 4000000 in
set_option maxRecDepth 100000 in
theorem W_Mod_lent_4 {X : g_X} {h0 : g_AH} {a0 : Nat} {ad : Nat → Nat} (ok : mOK a0 ad) (M : g_MD) (z : Int32)  : ∀ (n : Nat) (v1 : Int32) (v2 : Int32), Mod_lent_4 M  n v1 v2 = some z → G X k_Mod_lent (.inl (some (.int z))) (mH h0 a0 ad M) (mH h0 a0 ad M) 4 [(0, .ref a0), (1, .int v1), (2, .int v2)] [] := by
  intro n
  induction n with
  | zero => intro v1 v2 hy; exact absurd hy (by simp [Mod_lent_4])
  | succ n ih =>
    intro v1 v2 hy
    rw [Mod_lent_4] at hy
    refine g_iload_n 2 (i := 2) (pc' := 5) d_Mod_lent_4 rfl rfl rfl ?_
    refine g_aload_n 0 (i := 0) (pc' := 6) d_Mod_lent_5 rfl rfl rfl ?_
    refine gm_getA ok 0 (pc' := 9) d_Mod_lent_6 rfl q1965 rfl rfl ?_
    refine g_iconst (v := (2 : Int32)) (pc' := 10) d_Mod_lent_9 (by decide) rfl ?_
    replace hy := g_mA_inv hy
    obtain ⟨x1, hc2, hy⟩ := hy
    refine gm_ald0 ok (pc' := 11) d_Mod_lent_10 hc2 rfl ?_
    by_cases c3 : x1 ≤ v2
    · rw [if_pos c3] at hy
      refine g_icmp_geT (pc' := 29) d_Mod_lent_11 c3 (by decide) ?_
      refine g_iload_n 1 (i := 1) (pc' := 30) d_Mod_lent_29 rfl rfl rfl ?_
      cases hy
      exact g_iret rfl rfl rfl d_Mod_lent_30
    · rw [if_neg c3] at hy
      refine g_icmp_geF (pc' := 14) d_Mod_lent_11 29 c3 (by decide) rfl ?_
      refine g_iload_n 1 (i := 1) (pc' := 15) d_Mod_lent_14 rfl rfl rfl ?_
      refine g_aload_n 0 (i := 0) (pc' := 16) d_Mod_lent_15 rfl rfl rfl ?_
      refine g_iload_n 2 (i := 2) (pc' := 17) d_Mod_lent_16 rfl rfl rfl ?_
      refine g_iconst (v := (1 : Int32)) (pc' := 18) d_Mod_lent_17 (by decide) rfl ?_
      replace hy := g_b_inv hy
      obtain ⟨x4, hf6, hy⟩ := hy
      refine g_callV (rv := some (.int x4)) (h1 := (mH h0 a0 ad M)) (pc' := 21) (As := [.int v2, .int (1 : Int32)]) (rest := [.int v1]) 2 (T_Mod_countLabels ok (hy := hf6)) d_Mod_lent_18 (mH_look ok) rfl rfl q2214 q2216 qs59 q135 q2217 hd_Mod_countLabels rfl ⟨by decide, by decide⟩ (by first | exact Nat.le_of_ble_eq_true rfl | (simp only [List.map, List.sum_cons, List.sum_nil, g_cat_rf]; exact Nat.le_of_ble_eq_true rfl) | (simp only [List.map, List.sum_cons, List.sum_nil, g_cat_rf, Value.category]; decide)) rfl ?_
      refine g_iadd (pc' := 22) d_Mod_lent_21 rfl ?_
      refine g_istore_n (i := 1) (pc' := 23) (Lc' := [(1, .int (v1 + x4)), (0, .ref a0), (2, .int v2)]) d_Mod_lent_22 rfl (by decide) rfl rfl ?_
      refine g_iinc 2 (v := (v2 + (1 : Int32))) (pc' := 26) (Lc' := [(2, .int (v2 + (1 : Int32))), (1, .int (v1 + x4)), (0, .ref a0)]) d_Mod_lent_23 rfl rfl (by decide) rfl rfl ?_
      refine g_goto (pc' := 4) d_Mod_lent_26 (by decide) ?_
      refine g_sub [2, 1, 0] rfl ?_
      exact ih _ _ hy
def Mod_lent (M : g_MD)  : Option (Int32) :=
  Mod_lent_4 M  gFU (0 : Int32) (0 : Int32)
set_option maxHeartbeats 4000000 in
set_option maxRecDepth 100000 in
theorem T_Mod_lent {l : Launch} {B : g_B} {h0 : g_AH} {a0 : Nat} {ad : Nat → Nat} (ok : mOK a0 ad) (M : g_MD)  (z : Int32) (hy : Mod_lent M  = some z) : g_CT l B y_Mod_lent k_Mod_lent [.ref a0] (mH h0 a0 ad M) (.inl (some (.int z))) (mH h0 a0 ad M) := by
  refine g_start2 (Lc := [(0, .ref a0)]) (by decide) rfl rfl (by exact Nat.le_of_ble_eq_true rfl) (by rfl) fun X => ?_
  unfold Mod_lent at hy
  refine g_iconst (v := (0 : Int32)) (pc' := 1) d_Mod_lent_0 (by decide) rfl ?_
  refine g_istore_n (i := 1) (pc' := 2) (Lc' := [(1, .int (0 : Int32)), (0, .ref a0)]) d_Mod_lent_1 rfl (by decide) rfl rfl ?_
  refine g_iconst (v := (0 : Int32)) (pc' := 3) d_Mod_lent_2 (by decide) rfl ?_
  refine g_istore_n (i := 2) (pc' := 4) (Lc' := [(2, .int (0 : Int32)), (1, .int (0 : Int32)), (0, .ref a0)]) d_Mod_lent_3 rfl (by decide) rfl rfl ?_
  refine g_sub [2, 1, 0] rfl ?_
  exact W_Mod_lent_4 ok _ _ _ _ _ hy
theorem hd_Mod_lent : g_dsc y_Mod_lent 0 := ⟨by decide +kernel, by decide +kernel, by decide +kernel⟩
/-! CircuitDeskModel.movedCircuits()I -/
abbrev y_Mod_movedCircuits : MethodName := ⟨"CircuitDeskModel", "movedCircuits", "()I"⟩
abbrev k_Mod_movedCircuits : g_M := (prog_17_method_58_code, 3, "CircuitDeskModel", 13, (some FieldType.int), "movedCircuits", [], 0)
theorem d_Mod_movedCircuits_0 : decode prog_17_method_58_code 0 = .ok (.iconst 0, 1) := by decide +kernel
theorem d_Mod_movedCircuits_1 : decode prog_17_method_58_code 1 = .ok (.istore_n 1, 1) := by decide +kernel
theorem d_Mod_movedCircuits_2 : decode prog_17_method_58_code 2 = .ok (.iconst 0, 1) := by decide +kernel
theorem d_Mod_movedCircuits_3 : decode prog_17_method_58_code 3 = .ok (.istore_n 2, 1) := by decide +kernel
theorem d_Mod_movedCircuits_4 : decode prog_17_method_58_code 4 = .ok (.iload_n 2, 1) := by decide +kernel
theorem d_Mod_movedCircuits_5 : decode prog_17_method_58_code 5 = .ok (.aload_n 0, 1) := by decide +kernel
theorem d_Mod_movedCircuits_6 : decode prog_17_method_58_code 6 = .ok (.getfield 7, 3) := by decide +kernel
theorem d_Mod_movedCircuits_9 : decode prog_17_method_58_code 9 = .ok (.iconst 4, 1) := by decide +kernel
theorem d_Mod_movedCircuits_10 : decode prog_17_method_58_code 10 = .ok (.iaload, 1) := by decide +kernel
theorem d_Mod_movedCircuits_11 : decode prog_17_method_58_code 11 = .ok (.if_icmp .ge 26, 3) := by decide +kernel
theorem d_Mod_movedCircuits_14 : decode prog_17_method_58_code 14 = .ok (.iload_n 1, 1) := by decide +kernel
theorem d_Mod_movedCircuits_15 : decode prog_17_method_58_code 15 = .ok (.aload_n 0, 1) := by decide +kernel
theorem d_Mod_movedCircuits_16 : decode prog_17_method_58_code 16 = .ok (.iload_n 2, 1) := by decide +kernel
theorem d_Mod_movedCircuits_17 : decode prog_17_method_58_code 17 = .ok (.iconst 2, 1) := by decide +kernel
theorem d_Mod_movedCircuits_18 : decode prog_17_method_58_code 18 = .ok (.invokevirtual 150, 3) := by decide +kernel
theorem d_Mod_movedCircuits_21 : decode prog_17_method_58_code 21 = .ok (.ifCond .le 7, 3) := by decide +kernel
theorem d_Mod_movedCircuits_24 : decode prog_17_method_58_code 24 = .ok (.iconst 1, 1) := by decide +kernel
theorem d_Mod_movedCircuits_25 : decode prog_17_method_58_code 25 = .ok (.goto 4, 3) := by decide +kernel
theorem d_Mod_movedCircuits_28 : decode prog_17_method_58_code 28 = .ok (.iconst 0, 1) := by decide +kernel
theorem d_Mod_movedCircuits_29 : decode prog_17_method_58_code 29 = .ok (.iadd, 1) := by decide +kernel
theorem d_Mod_movedCircuits_30 : decode prog_17_method_58_code 30 = .ok (.istore_n 1, 1) := by decide +kernel
theorem d_Mod_movedCircuits_31 : decode prog_17_method_58_code 31 = .ok (.iinc 2 1, 3) := by decide +kernel
theorem d_Mod_movedCircuits_34 : decode prog_17_method_58_code 34 = .ok (.goto (-30), 3) := by decide +kernel
theorem d_Mod_movedCircuits_37 : decode prog_17_method_58_code 37 = .ok (.iload_n 1, 1) := by decide +kernel
theorem d_Mod_movedCircuits_38 : decode prog_17_method_58_code 38 = .ok (.ireturn, 1) := by decide +kernel
def Mod_movedCircuits_29 (M : g_MD) (k4 : Int32 → Int32 → Option (Int32)) (v2 : Int32) (s0 : Int32) (s1 : Int32) : Option (Int32) :=
  k4 (s1 + s0) (v2 + (1 : Int32))
set_option maxHeartbeats 4000000 in
set_option maxRecDepth 100000 in
theorem W_Mod_movedCircuits_29 {X : g_X} {h0 : g_AH} {a0 : Nat} {ad : Nat → Nat} (ok : mOK a0 ad) (M : g_MD) (z : Int32) (k4 : Int32 → Int32 → Option (Int32)) (hk4 : ∀ (v1 : Int32) (v2 : Int32), k4 v1 v2 = some z → G X k_Mod_movedCircuits (.inl (some (.int z))) (mH h0 a0 ad M) (mH h0 a0 ad M) 4 [(0, .ref a0), (1, .int v1), (2, .int v2)] []) (v2 : Int32) (s0 : Int32) (s1 : Int32) (hy : Mod_movedCircuits_29 M k4 v2 s0 s1 = some z) : G X k_Mod_movedCircuits (.inl (some (.int z))) (mH h0 a0 ad M) (mH h0 a0 ad M) 29 [(0, .ref a0), (2, .int v2)] [.int s0, .int s1] := by
  unfold Mod_movedCircuits_29 at hy
  refine g_iadd (pc' := 30) d_Mod_movedCircuits_29 rfl ?_
  refine g_istore_n (i := 1) (pc' := 31) (Lc' := [(1, .int (s1 + s0)), (0, .ref a0), (2, .int v2)]) d_Mod_movedCircuits_30 rfl (by decide) rfl rfl ?_
  refine g_iinc 2 (v := (v2 + (1 : Int32))) (pc' := 34) (Lc' := [(2, .int (v2 + (1 : Int32))), (1, .int (s1 + s0)), (0, .ref a0)]) d_Mod_movedCircuits_31 rfl rfl (by decide) rfl rfl ?_
  refine g_goto (pc' := 4) d_Mod_movedCircuits_34 (by decide) ?_
  refine g_sub [2, 1, 0] rfl ?_
  exact hk4 _ _ hy
def Mod_movedCircuits_4 (M : g_MD)  : Nat → Int32 → Int32 → Option (Int32)
  | 0, _, _ => none
  | n + 1, v1, v2 => g_mA M 0 0 (4 : Int32) fun x1 => if x1 ≤ v2 then (some v1) else (g_b (Mod_of M v2 (2 : Int32)) fun x4 => if x4 ≤ 0 then (Mod_movedCircuits_29 M (Mod_movedCircuits_4 M  n) v2 (0 : Int32) v1) else (Mod_movedCircuits_29 M (Mod_movedCircuits_4 M  n) v2 (1 : Int32) v1))
set_option maxHeartbeats 4000000 in
set_option maxRecDepth 100000 in
theorem W_Mod_movedCircuits_4 {X : g_X} {h0 : g_AH} {a0 : Nat} {ad : Nat → Nat} (ok : mOK a0 ad) (M : g_MD) (z : Int32)  : ∀ (n : Nat) (v1 : Int32) (v2 : Int32), Mod_movedCircuits_4 M  n v1 v2 = some z → G X k_Mod_movedCircuits (.inl (some (.int z))) (mH h0 a0 ad M) (mH h0 a0 ad M) 4 [(0, .ref a0), (1, .int v1), (2, .int v2)] [] := by
  intro n
  induction n with
  | zero => intro v1 v2 hy; exact absurd hy (by simp [Mod_movedCircuits_4])
  | succ n ih =>
    intro v1 v2 hy
    rw [Mod_movedCircuits_4] at hy
    refine g_iload_n 2 (i := 2) (pc' := 5) d_Mod_movedCircuits_4 rfl rfl rfl ?_
    refine g_aload_n 0 (i := 0) (pc' := 6) d_Mod_movedCircuits_5 rfl rfl rfl ?_
    refine gm_getA ok 0 (pc' := 9) d_Mod_movedCircuits_6 rfl q1965 rfl rfl ?_
    refine g_iconst (v := (4 : Int32)) (pc' := 10) d_Mod_movedCircuits_9 (by decide) rfl ?_
    replace hy := g_mA_inv hy
    obtain ⟨x1, hc2, hy⟩ := hy
    refine gm_ald0 ok (pc' := 11) d_Mod_movedCircuits_10 hc2 rfl ?_
    by_cases c3 : x1 ≤ v2
    · rw [if_pos c3] at hy
      refine g_icmp_geT (pc' := 37) d_Mod_movedCircuits_11 c3 (by decide) ?_
      refine g_iload_n 1 (i := 1) (pc' := 38) d_Mod_movedCircuits_37 rfl rfl rfl ?_
      cases hy
      exact g_iret rfl rfl rfl d_Mod_movedCircuits_38
    · rw [if_neg c3] at hy
      refine g_icmp_geF (pc' := 14) d_Mod_movedCircuits_11 37 c3 (by decide) rfl ?_
      refine g_iload_n 1 (i := 1) (pc' := 15) d_Mod_movedCircuits_14 rfl rfl rfl ?_
      refine g_aload_n 0 (i := 0) (pc' := 16) d_Mod_movedCircuits_15 rfl rfl rfl ?_
      refine g_iload_n 2 (i := 2) (pc' := 17) d_Mod_movedCircuits_16 rfl rfl rfl ?_
      refine g_iconst (v := (2 : Int32)) (pc' := 18) d_Mod_movedCircuits_17 (by decide) rfl ?_
      replace hy := g_b_inv hy
      obtain ⟨x4, hf6, hy⟩ := hy
      refine g_callV (rv := some (.int x4)) (h1 := (mH h0 a0 ad M)) (pc' := 21) (As := [.int v2, .int (2 : Int32)]) (rest := [.int v1]) 2 (T_Mod_of ok (hy := hf6)) d_Mod_movedCircuits_18 (mH_look ok) rfl rfl q2186 q2188 qs52 q135 q2189 hd_Mod_of rfl ⟨by decide, by decide⟩ (by first | exact Nat.le_of_ble_eq_true rfl | (simp only [List.map, List.sum_cons, List.sum_nil, g_cat_rf]; exact Nat.le_of_ble_eq_true rfl) | (simp only [List.map, List.sum_cons, List.sum_nil, g_cat_rf, Value.category]; decide)) rfl ?_
      by_cases c7 : x4 ≤ 0
      · rw [if_pos c7] at hy
        refine g_if_leT (pc' := 28) d_Mod_movedCircuits_21 c7 (by decide) ?_
        refine g_iconst (v := (0 : Int32)) (pc' := 29) d_Mod_movedCircuits_28 (by decide) rfl ?_
        refine g_sub [0, 2] rfl ?_
        exact W_Mod_movedCircuits_29 ok _ _ _ ih _ _ _ hy
      · rw [if_neg c7] at hy
        refine g_if_leF (pc' := 24) d_Mod_movedCircuits_21 28 c7 (by decide) rfl ?_
        refine g_iconst (v := (1 : Int32)) (pc' := 25) d_Mod_movedCircuits_24 (by decide) rfl ?_
        refine g_goto (pc' := 29) d_Mod_movedCircuits_25 (by decide) ?_
        refine g_sub [0, 2] rfl ?_
        exact W_Mod_movedCircuits_29 ok _ _ _ ih _ _ _ hy
def Mod_movedCircuits (M : g_MD)  : Option (Int32) :=
  Mod_movedCircuits_4 M  gFU (0 : Int32) (0 : Int32)
set_option maxHeartbeats 4000000 in
set_option maxRecDepth 100000 in
theorem T_Mod_movedCircuits {l : Launch} {B : g_B} {h0 : g_AH} {a0 : Nat} {ad : Nat → Nat} (ok : mOK a0 ad) (M : g_MD)  (z : Int32) (hy : Mod_movedCircuits M  = some z) : g_CT l B y_Mod_movedCircuits k_Mod_movedCircuits [.ref a0] (mH h0 a0 ad M) (.inl (some (.int z))) (mH h0 a0 ad M) := by
  refine g_start2 (Lc := [(0, .ref a0)]) (by decide) rfl rfl (by exact Nat.le_of_ble_eq_true rfl) (by rfl) fun X => ?_
  unfold Mod_movedCircuits at hy
  refine g_iconst (v := (0 : Int32)) (pc' := 1) d_Mod_movedCircuits_0 (by decide) rfl ?_
  refine g_istore_n (i := 1) (pc' := 2) (Lc' := [(1, .int (0 : Int32)), (0, .ref a0)]) d_Mod_movedCircuits_1 rfl (by decide) rfl rfl ?_
  refine g_iconst (v := (0 : Int32)) (pc' := 3) d_Mod_movedCircuits_2 (by decide) rfl ?_
  refine g_istore_n (i := 2) (pc' := 4) (Lc' := [(2, .int (0 : Int32)), (1, .int (0 : Int32)), (0, .ref a0)]) d_Mod_movedCircuits_3 rfl (by decide) rfl rfl ?_
  refine g_sub [2, 1, 0] rfl ?_
  exact W_Mod_movedCircuits_4 ok _ _ _ _ _ hy
theorem hd_Mod_movedCircuits : g_dsc y_Mod_movedCircuits 0 := ⟨by decide +kernel, by decide +kernel, by decide +kernel⟩
/-! CircuitDeskModel.count(I)I -/
abbrev y_Mod_count : MethodName := ⟨"CircuitDeskModel", "count", "(I)I"⟩
abbrev k_Mod_count : g_M := (prog_17_method_56_code, 2, "CircuitDeskModel", 15, (some FieldType.int), "count", [], 0)
theorem d_Mod_count_0 : decode prog_17_method_56_code 0 = .ok (.aload_n 0, 1) := by decide +kernel
theorem d_Mod_count_1 : decode prog_17_method_56_code 1 = .ok (.iconst 0, 1) := by decide +kernel
theorem d_Mod_count_2 : decode prog_17_method_56_code 2 = .ok (.putfield 51, 3) := by decide +kernel
theorem d_Mod_count_5 : decode prog_17_method_56_code 5 = .ok (.iload_n 1, 1) := by decide +kernel
theorem d_Mod_count_6 : decode prog_17_method_56_code 6 = .ok (.tableswitch 62 12 16 #[34, 39, 44, 44, 57], 34) := by decide +kernel
theorem d_Mod_count_40 : decode prog_17_method_56_code 40 = .ok (.aload_n 0, 1) := by decide +kernel
theorem d_Mod_count_41 : decode prog_17_method_56_code 41 = .ok (.invokevirtual 250, 3) := by decide +kernel
theorem d_Mod_count_44 : decode prog_17_method_56_code 44 = .ok (.ireturn, 1) := by decide +kernel
theorem d_Mod_count_45 : decode prog_17_method_56_code 45 = .ok (.aload_n 0, 1) := by decide +kernel
theorem d_Mod_count_46 : decode prog_17_method_56_code 46 = .ok (.invokevirtual 253, 3) := by decide +kernel
theorem d_Mod_count_49 : decode prog_17_method_56_code 49 = .ok (.ireturn, 1) := by decide +kernel
theorem d_Mod_count_50 : decode prog_17_method_56_code 50 = .ok (.aload_n 0, 1) := by decide +kernel
theorem d_Mod_count_51 : decode prog_17_method_56_code 51 = .ok (.getfield 7, 3) := by decide +kernel
theorem d_Mod_count_54 : decode prog_17_method_56_code 54 = .ok (.bipush 12, 2) := by decide +kernel
theorem d_Mod_count_56 : decode prog_17_method_56_code 56 = .ok (.iload_n 1, 1) := by decide +kernel
theorem d_Mod_count_57 : decode prog_17_method_56_code 57 = .ok (.iadd, 1) := by decide +kernel
theorem d_Mod_count_58 : decode prog_17_method_56_code 58 = .ok (.bipush 14, 2) := by decide +kernel
theorem d_Mod_count_60 : decode prog_17_method_56_code 60 = .ok (.isub, 1) := by decide +kernel
theorem d_Mod_count_61 : decode prog_17_method_56_code 61 = .ok (.iaload, 1) := by decide +kernel
theorem d_Mod_count_62 : decode prog_17_method_56_code 62 = .ok (.ireturn, 1) := by decide +kernel
theorem d_Mod_count_63 : decode prog_17_method_56_code 63 = .ok (.aload_n 0, 1) := by decide +kernel
theorem d_Mod_count_64 : decode prog_17_method_56_code 64 = .ok (.getfield 198, 3) := by decide +kernel
theorem d_Mod_count_67 : decode prog_17_method_56_code 67 = .ok (.ireturn, 1) := by decide +kernel
theorem d_Mod_count_68 : decode prog_17_method_56_code 68 = .ok (.iload_n 1, 1) := by decide +kernel
theorem d_Mod_count_69 : decode prog_17_method_56_code 69 = .ok (.iconst 0, 1) := by decide +kernel
theorem d_Mod_count_70 : decode prog_17_method_56_code 70 = .ok (.bipush 11, 2) := by decide +kernel
theorem d_Mod_count_72 : decode prog_17_method_56_code 72 = .ok (.invokestatic 54, 3) := by decide +kernel
theorem d_Mod_count_75 : decode prog_17_method_56_code 75 = .ok (.ifCond .eq 12, 3) := by decide +kernel
theorem d_Mod_count_78 : decode prog_17_method_56_code 78 = .ok (.aload_n 0, 1) := by decide +kernel
theorem d_Mod_count_79 : decode prog_17_method_56_code 79 = .ok (.getfield 7, 3) := by decide +kernel
theorem d_Mod_count_82 : decode prog_17_method_56_code 82 = .ok (.iload_n 1, 1) := by decide +kernel
theorem d_Mod_count_83 : decode prog_17_method_56_code 83 = .ok (.iaload, 1) := by decide +kernel
theorem d_Mod_count_84 : decode prog_17_method_56_code 84 = .ok (.goto 8, 3) := by decide +kernel
theorem d_Mod_count_87 : decode prog_17_method_56_code 87 = .ok (.aload_n 0, 1) := by decide +kernel
theorem d_Mod_count_88 : decode prog_17_method_56_code 88 = .ok (.iconst 1, 1) := by decide +kernel
theorem d_Mod_count_89 : decode prog_17_method_56_code 89 = .ok (.invokevirtual 61, 3) := by decide +kernel
theorem d_Mod_count_92 : decode prog_17_method_56_code 92 = .ok (.ireturn, 1) := by decide +kernel
def Mod_count_50 (M : g_MD) (v1 : Int32) : Option (Int32 × g_MD) :=
  g_mA M 0 0 (((12 : Int32) + v1) - (14 : Int32)) fun x11 => some (x11, M)
set_option maxHeartbeats 4000000 in
set_option maxRecDepth 100000 in
theorem W_Mod_count_50 {X : g_X} {h0 : g_AH} {a0 : Nat} {ad : Nat → Nat} (ok : mOK a0 ad) (z : Int32 × g_MD) (M : g_MD) (v1 : Int32) (hy : Mod_count_50  M v1 = some z) : G X k_Mod_count (.inl (some (.int z.1))) (mH h0 a0 ad z.2) (mH h0 a0 ad M) 50 [(0, .ref a0), (1, .int v1)] [] := by
  unfold Mod_count_50 at hy
  refine g_aload_n 0 (i := 0) (pc' := 51) d_Mod_count_50 rfl rfl rfl ?_
  refine gm_getA ok 0 (pc' := 54) d_Mod_count_51 rfl q1965 rfl rfl ?_
  refine g_bipush (v := (12 : Int32)) (pc' := 56) d_Mod_count_54 (by decide) rfl ?_
  refine g_iload_n 1 (i := 1) (pc' := 57) d_Mod_count_56 rfl rfl rfl ?_
  refine g_iadd (pc' := 58) d_Mod_count_57 rfl ?_
  refine g_bipush (v := (14 : Int32)) (pc' := 60) d_Mod_count_58 (by decide) rfl ?_
  refine g_isub (pc' := 61) d_Mod_count_60 rfl ?_
  replace hy := g_mA_inv hy
  obtain ⟨x11, hc12, hy⟩ := hy
  refine gm_ald0 ok (pc' := 62) d_Mod_count_61 hc12 rfl ?_
  cases hy
  exact g_iret rfl rfl rfl d_Mod_count_62
def Mod_count (M : g_MD) (p0 : Int32) : Option (Int32 × g_MD) :=
  g_let (mp M 7 (0 : Int32)) fun M1 => if p0 = (12 : Int32) then (g_b (Mod_lent M1) fun x3 => some (x3, M1)) else (if p0 = (13 : Int32) then (g_b (Mod_movedCircuits M1) fun x7 => some (x7, M1)) else (if p0 = (14 : Int32) then (Mod_count_50  M1 p0) else (if p0 = (15 : Int32) then (Mod_count_50  M1 p0) else (if p0 = (16 : Int32) then (some ((M1.2.1 6), M1)) else (g_b (Mod_isBetween p0 (0 : Int32) (11 : Int32)) fun x15 => if x15 = 0 then (g_bM (Mod_fail M1 (1 : Int32)) fun x19 M20 => some (x19, M20)) else (g_mA M1 0 0 p0 fun x22 => some (x22, M1)))))))
set_option maxHeartbeats 4000000 in
set_option maxRecDepth 100000 in
theorem T_Mod_count {l : Launch} {B : g_B} {h0 : g_AH} {a0 : Nat} {ad : Nat → Nat} (ok : mOK a0 ad) (M : g_MD) (p0 : Int32) (z : Int32 × g_MD) (hy : Mod_count M p0 = some z) : g_CT l B y_Mod_count k_Mod_count [.ref a0, .int p0] (mH h0 a0 ad M) (.inl (some (.int z.1))) (mH h0 a0 ad z.2) := by
  refine g_start2 (Lc := [(0, .ref a0), (1, .int p0)]) (by decide) rfl rfl (by exact Nat.le_of_ble_eq_true rfl) (by rfl) fun X => ?_
  unfold Mod_count at hy
  refine g_aload_n 0 (i := 0) (pc' := 1) d_Mod_count_0 rfl rfl rfl ?_
  refine g_iconst (v := (0 : Int32)) (pc' := 2) d_Mod_count_1 (by decide) rfl ?_
  replace hy := g_let_inv hy
  refine gm_put ok 7 (pc' := 5) d_Mod_count_2 rfl (by decide) q1972 rfl ?_
  generalize (mp M 7 (0 : Int32)) = M1 at hy ⊢
  refine g_iload_n 1 (i := 1) (pc' := 6) d_Mod_count_5 rfl rfl rfl ?_
  by_cases c2 : p0 = (12 : Int32)
  · rw [if_pos c2] at hy
    refine g_tableIn (pc' := 40) (12 : Int32) d_Mod_count_6 c2 (by decide) rfl (by decide) ?_
    refine g_aload_n 0 (i := 0) (pc' := 41) d_Mod_count_40 rfl rfl rfl ?_
    replace hy := g_b_inv hy
    obtain ⟨x3, hf5, hy⟩ := hy
    refine g_callV (rv := some (.int x3)) (h1 := (mH h0 a0 ad M1)) (pc' := 44) (As := []) (rest := []) 0 (T_Mod_lent ok (hy := hf5)) d_Mod_count_41 (mH_look ok) rfl rfl q2287 q2289 qs70 q135 q2290 hd_Mod_lent rfl ⟨by decide, by decide⟩ (by first | exact Nat.le_of_ble_eq_true rfl | (simp only [List.map, List.sum_cons, List.sum_nil, g_cat_rf]; exact Nat.le_of_ble_eq_true rfl) | (simp only [List.map, List.sum_cons, List.sum_nil, g_cat_rf, Value.category]; decide)) rfl ?_
    cases hy
    exact g_iret rfl rfl rfl d_Mod_count_44
  · rw [if_neg c2] at hy
    by_cases c6 : p0 = (13 : Int32)
    · rw [if_pos c6] at hy
      refine g_tableIn (pc' := 45) (13 : Int32) d_Mod_count_6 c6 (by decide) rfl (by decide) ?_
      refine g_aload_n 0 (i := 0) (pc' := 46) d_Mod_count_45 rfl rfl rfl ?_
      replace hy := g_b_inv hy
      obtain ⟨x7, hf9, hy⟩ := hy
      refine g_callV (rv := some (.int x7)) (h1 := (mH h0 a0 ad M1)) (pc' := 49) (As := []) (rest := []) 0 (T_Mod_movedCircuits ok (hy := hf9)) d_Mod_count_46 (mH_look ok) rfl rfl q2291 q2293 qs71 q135 q2294 hd_Mod_movedCircuits rfl ⟨by decide, by decide⟩ (by first | exact Nat.le_of_ble_eq_true rfl | (simp only [List.map, List.sum_cons, List.sum_nil, g_cat_rf]; exact Nat.le_of_ble_eq_true rfl) | (simp only [List.map, List.sum_cons, List.sum_nil, g_cat_rf, Value.category]; decide)) rfl ?_
      cases hy
      exact g_iret rfl rfl rfl d_Mod_count_49
    · rw [if_neg c6] at hy
      by_cases c10 : p0 = (14 : Int32)
      · rw [if_pos c10] at hy
        refine g_tableIn (pc' := 50) (14 : Int32) d_Mod_count_6 c10 (by decide) rfl (by decide) ?_
        exact W_Mod_count_50 ok _ _ _ hy
      · rw [if_neg c10] at hy
        by_cases c13 : p0 = (15 : Int32)
        · rw [if_pos c13] at hy
          refine g_tableIn (pc' := 50) (15 : Int32) d_Mod_count_6 c13 (by decide) rfl (by decide) ?_
          exact W_Mod_count_50 ok _ _ _ hy
        · rw [if_neg c13] at hy
          by_cases c14 : p0 = (16 : Int32)
          · rw [if_pos c14] at hy
            refine g_tableIn (pc' := 63) (16 : Int32) d_Mod_count_6 c14 (by decide) rfl (by decide) ?_
            refine g_aload_n 0 (i := 0) (pc' := 64) d_Mod_count_63 rfl rfl rfl ?_
            refine gm_getA ok 6 (pc' := 67) d_Mod_count_64 rfl q1971 rfl rfl ?_
            cases hy
            exact g_iret rfl rfl rfl d_Mod_count_67
          · rw [if_neg c14] at hy
            have c2 := g_neI (n := 12) (by decide) c2
            have c6 := g_neI (n := 13) (by decide) c6
            have c10 := g_neI (n := 14) (by decide) c10
            have c13 := g_neI (n := 15) (by decide) c13
            have c14 := g_neI (n := 16) (by decide) c14
            refine g_tableOut (pc' := 68) d_Mod_count_6 (by omega) (by decide) ?_
            refine g_iload_n 1 (i := 1) (pc' := 69) d_Mod_count_68 rfl rfl rfl ?_
            refine g_iconst (v := (0 : Int32)) (pc' := 70) d_Mod_count_69 (by decide) rfl ?_
            refine g_bipush (v := (11 : Int32)) (pc' := 72) d_Mod_count_70 (by decide) rfl ?_
            replace hy := g_b_inv hy
            obtain ⟨x15, hf17, hy⟩ := hy
            refine g_callS (rv := some (.int x15)) (h1 := (mH h0 a0 ad M1)) (pc' := 75) (As := [.int p0, .int (0 : Int32), .int (11 : Int32)]) (rest := []) 3 (T_Mod_isBetween (hy := hf17)) d_Mod_count_72 q2069 q2070 q135 q2071 hd_Mod_isBetween rfl ⟨by decide, by decide⟩ (by first | exact Nat.le_of_ble_eq_true rfl | (simp only [List.map, List.sum_cons, List.sum_nil, g_cat_rf]; exact Nat.le_of_ble_eq_true rfl) | (simp only [List.map, List.sum_cons, List.sum_nil, g_cat_rf, Value.category]; decide)) rfl ?_
            by_cases c18 : x15 = 0
            · rw [if_pos c18] at hy
              refine g_if_eqT (pc' := 87) d_Mod_count_75 c18 (by decide) ?_
              refine g_aload_n 0 (i := 0) (pc' := 88) d_Mod_count_87 rfl rfl rfl ?_
              refine g_iconst (v := (1 : Int32)) (pc' := 89) d_Mod_count_88 (by decide) rfl ?_
              replace hy := g_bM_inv hy
              obtain ⟨x19, M20, hf21, hy⟩ := hy
              refine g_callV (rv := some (.int x19)) (h1 := (mH h0 a0 ad M20)) (pc' := 92) (As := [.int (1 : Int32)]) (rest := []) 1 (T_Mod_fail ok (hy := hf21)) d_Mod_count_89 (mH_look ok) rfl rfl q2061 q2063 qs31 q135 q2064 hd_Mod_fail rfl ⟨by decide, by decide⟩ (by first | exact Nat.le_of_ble_eq_true rfl | (simp only [List.map, List.sum_cons, List.sum_nil, g_cat_rf]; exact Nat.le_of_ble_eq_true rfl) | (simp only [List.map, List.sum_cons, List.sum_nil, g_cat_rf, Value.category]; decide)) rfl ?_
              cases hy
              exact g_iret rfl rfl rfl d_Mod_count_92
            · rw [if_neg c18] at hy
              refine g_if_eqF (pc' := 78) d_Mod_count_75 87 c18 (by decide) rfl ?_
              refine g_aload_n 0 (i := 0) (pc' := 79) d_Mod_count_78 rfl rfl rfl ?_
              refine gm_getA ok 0 (pc' := 82) d_Mod_count_79 rfl q1965 rfl rfl ?_
              refine g_iload_n 1 (i := 1) (pc' := 83) d_Mod_count_82 rfl rfl rfl ?_
              replace hy := g_mA_inv hy
              obtain ⟨x22, hc23, hy⟩ := hy
              refine gm_ald0 ok (pc' := 84) d_Mod_count_83 hc23 rfl ?_
              refine g_goto (pc' := 92) d_Mod_count_84 (by decide) ?_
              cases hy
              exact g_iret rfl rfl rfl d_Mod_count_92
theorem hd_Mod_count : g_dsc y_Mod_count 1 := ⟨by decide +kernel, by decide +kernel, by decide +kernel⟩
/-! CircuitDeskModel.linksAt(I)I -/
abbrev y_Mod_linksAt : MethodName := ⟨"CircuitDeskModel", "linksAt", "(I)I"⟩
abbrev k_Mod_linksAt : g_M := (prog_17_method_59_code, 4, "CircuitDeskModel", 13, (some FieldType.int), "linksAt", [], 0)
theorem d_Mod_linksAt_0 : decode prog_17_method_59_code 0 = .ok (.iconst 0, 1) := by decide +kernel
theorem d_Mod_linksAt_1 : decode prog_17_method_59_code 1 = .ok (.istore_n 2, 1) := by decide +kernel
theorem d_Mod_linksAt_2 : decode prog_17_method_59_code 2 = .ok (.iconst 0, 1) := by decide +kernel
theorem d_Mod_linksAt_3 : decode prog_17_method_59_code 3 = .ok (.istore_n 3, 1) := by decide +kernel
theorem d_Mod_linksAt_4 : decode prog_17_method_59_code 4 = .ok (.iload_n 3, 1) := by decide +kernel
theorem d_Mod_linksAt_5 : decode prog_17_method_59_code 5 = .ok (.aload_n 0, 1) := by decide +kernel
theorem d_Mod_linksAt_6 : decode prog_17_method_59_code 6 = .ok (.getfield 7, 3) := by decide +kernel
theorem d_Mod_linksAt_9 : decode prog_17_method_59_code 9 = .ok (.iconst 3, 1) := by decide +kernel
theorem d_Mod_linksAt_10 : decode prog_17_method_59_code 10 = .ok (.iaload, 1) := by decide +kernel
theorem d_Mod_linksAt_11 : decode prog_17_method_59_code 11 = .ok (.if_icmp .ge 37, 3) := by decide +kernel
theorem d_Mod_linksAt_14 : decode prog_17_method_59_code 14 = .ok (.iload_n 2, 1) := by decide +kernel
theorem d_Mod_linksAt_15 : decode prog_17_method_59_code 15 = .ok (.aload_n 0, 1) := by decide +kernel
theorem d_Mod_linksAt_16 : decode prog_17_method_59_code 16 = .ok (.iload_n 3, 1) := by decide +kernel
theorem d_Mod_linksAt_17 : decode prog_17_method_59_code 17 = .ok (.iconst 0, 1) := by decide +kernel
theorem d_Mod_linksAt_18 : decode prog_17_method_59_code 18 = .ok (.invokevirtual 201, 3) := by decide +kernel
theorem d_Mod_linksAt_21 : decode prog_17_method_59_code 21 = .ok (.iload_n 1, 1) := by decide +kernel
theorem d_Mod_linksAt_22 : decode prog_17_method_59_code 22 = .ok (.if_icmp .eq 13, 3) := by decide +kernel
theorem d_Mod_linksAt_25 : decode prog_17_method_59_code 25 = .ok (.aload_n 0, 1) := by decide +kernel
theorem d_Mod_linksAt_26 : decode prog_17_method_59_code 26 = .ok (.iload_n 3, 1) := by decide +kernel
theorem d_Mod_linksAt_27 : decode prog_17_method_59_code 27 = .ok (.iconst 1, 1) := by decide +kernel
theorem d_Mod_linksAt_28 : decode prog_17_method_59_code 28 = .ok (.invokevirtual 201, 3) := by decide +kernel
theorem d_Mod_linksAt_31 : decode prog_17_method_59_code 31 = .ok (.iload_n 1, 1) := by decide +kernel
theorem d_Mod_linksAt_32 : decode prog_17_method_59_code 32 = .ok (.if_icmp .ne 7, 3) := by decide +kernel
theorem d_Mod_linksAt_35 : decode prog_17_method_59_code 35 = .ok (.iconst 1, 1) := by decide +kernel
theorem d_Mod_linksAt_36 : decode prog_17_method_59_code 36 = .ok (.goto 4, 3) := by decide +kernel
theorem d_Mod_linksAt_39 : decode prog_17_method_59_code 39 = .ok (.iconst 0, 1) := by decide +kernel
theorem d_Mod_linksAt_40 : decode prog_17_method_59_code 40 = .ok (.iadd, 1) := by decide +kernel
theorem d_Mod_linksAt_41 : decode prog_17_method_59_code 41 = .ok (.istore_n 2, 1) := by decide +kernel
theorem d_Mod_linksAt_42 : decode prog_17_method_59_code 42 = .ok (.iinc 3 1, 3) := by decide +kernel
theorem d_Mod_linksAt_45 : decode prog_17_method_59_code 45 = .ok (.goto (-41), 3) := by decide +kernel
theorem d_Mod_linksAt_48 : decode prog_17_method_59_code 48 = .ok (.iload_n 2, 1) := by decide +kernel
theorem d_Mod_linksAt_49 : decode prog_17_method_59_code 49 = .ok (.ireturn, 1) := by decide +kernel
def Mod_linksAt_40 (M : g_MD) (k4 : Int32 → Int32 → Int32 → Option (Int32)) (v1 : Int32) (v3 : Int32) (s0 : Int32) (s1 : Int32) : Option (Int32) :=
  k4 v1 (s1 + s0) (v3 + (1 : Int32))
set_option maxHeartbeats 4000000 in
set_option maxRecDepth 100000 in
theorem W_Mod_linksAt_40 {X : g_X} {h0 : g_AH} {a0 : Nat} {ad : Nat → Nat} (ok : mOK a0 ad) (M : g_MD) (z : Int32) (k4 : Int32 → Int32 → Int32 → Option (Int32)) (hk4 : ∀ (v1 : Int32) (v2 : Int32) (v3 : Int32), k4 v1 v2 v3 = some z → G X k_Mod_linksAt (.inl (some (.int z))) (mH h0 a0 ad M) (mH h0 a0 ad M) 4 [(0, .ref a0), (1, .int v1), (2, .int v2), (3, .int v3)] []) (v1 : Int32) (v3 : Int32) (s0 : Int32) (s1 : Int32) (hy : Mod_linksAt_40 M k4 v1 v3 s0 s1 = some z) : G X k_Mod_linksAt (.inl (some (.int z))) (mH h0 a0 ad M) (mH h0 a0 ad M) 40 [(0, .ref a0), (1, .int v1), (3, .int v3)] [.int s0, .int s1] := by
  unfold Mod_linksAt_40 at hy
  refine g_iadd (pc' := 41) d_Mod_linksAt_40 rfl ?_
  refine g_istore_n (i := 2) (pc' := 42) (Lc' := [(2, .int (s1 + s0)), (0, .ref a0), (1, .int v1), (3, .int v3)]) d_Mod_linksAt_41 rfl (by decide) rfl rfl ?_
  refine g_iinc 3 (v := (v3 + (1 : Int32))) (pc' := 45) (Lc' := [(3, .int (v3 + (1 : Int32))), (2, .int (s1 + s0)), (0, .ref a0), (1, .int v1)]) d_Mod_linksAt_42 rfl rfl (by decide) rfl rfl ?_
  refine g_goto (pc' := 4) d_Mod_linksAt_45 (by decide) ?_
  refine g_sub [2, 3, 1, 0] rfl ?_
  exact hk4 _ _ _ hy
def Mod_linksAt_35 (M : g_MD) (k4 : Int32 → Int32 → Int32 → Option (Int32)) (v1 : Int32) (v3 : Int32) (s0 : Int32) : Option (Int32) :=
  Mod_linksAt_40 M k4 v1 v3 (1 : Int32) s0
set_option maxHeartbeats 4000000 in
set_option maxRecDepth 100000 in
theorem W_Mod_linksAt_35 {X : g_X} {h0 : g_AH} {a0 : Nat} {ad : Nat → Nat} (ok : mOK a0 ad) (M : g_MD) (z : Int32) (k4 : Int32 → Int32 → Int32 → Option (Int32)) (hk4 : ∀ (v1 : Int32) (v2 : Int32) (v3 : Int32), k4 v1 v2 v3 = some z → G X k_Mod_linksAt (.inl (some (.int z))) (mH h0 a0 ad M) (mH h0 a0 ad M) 4 [(0, .ref a0), (1, .int v1), (2, .int v2), (3, .int v3)] []) (v1 : Int32) (v3 : Int32) (s0 : Int32) (hy : Mod_linksAt_35 M k4 v1 v3 s0 = some z) : G X k_Mod_linksAt (.inl (some (.int z))) (mH h0 a0 ad M) (mH h0 a0 ad M) 35 [(0, .ref a0), (1, .int v1), (3, .int v3)] [.int s0] := by
  unfold Mod_linksAt_35 at hy
  refine g_iconst (v := (1 : Int32)) (pc' := 36) d_Mod_linksAt_35 (by decide) rfl ?_
  refine g_goto (pc' := 40) d_Mod_linksAt_36 (by decide) ?_
  exact W_Mod_linksAt_40 ok _ _ _ hk4 _ _ _ _ hy
def Mod_linksAt_4 (M : g_MD)  : Nat → Int32 → Int32 → Int32 → Option (Int32)
  | 0, _, _, _ => none
  | n + 1, v1, v2, v3 => g_mA M 0 0 (3 : Int32) fun x1 => if x1 ≤ v3 then (some v2) else (g_b (Mod_ofLink M v3 (0 : Int32)) fun x4 => if x4 = v1 then (Mod_linksAt_35 M (Mod_linksAt_4 M  n) v1 v3 v2) else (g_b (Mod_ofLink M v3 (1 : Int32)) fun x8 => if x8 = v1 then (Mod_linksAt_35 M (Mod_linksAt_4 M  n) v1 v3 v2) else (Mod_linksAt_40 M (Mod_linksAt_4 M  n) v1 v3 (0 : Int32) v2)))
set_option maxHeartbeats 4000000 in
set_option maxRecDepth 100000 in
theorem W_Mod_linksAt_4 {X : g_X} {h0 : g_AH} {a0 : Nat} {ad : Nat → Nat} (ok : mOK a0 ad) (M : g_MD) (z : Int32)  : ∀ (n : Nat) (v1 : Int32) (v2 : Int32) (v3 : Int32), Mod_linksAt_4 M  n v1 v2 v3 = some z → G X k_Mod_linksAt (.inl (some (.int z))) (mH h0 a0 ad M) (mH h0 a0 ad M) 4 [(0, .ref a0), (1, .int v1), (2, .int v2), (3, .int v3)] [] := by
  intro n
  induction n with
  | zero => intro v1 v2 v3 hy; exact absurd hy (by simp [Mod_linksAt_4])
  | succ n ih =>
    intro v1 v2 v3 hy
    rw [Mod_linksAt_4] at hy
    refine g_iload_n 3 (i := 3) (pc' := 5) d_Mod_linksAt_4 rfl rfl rfl ?_
    refine g_aload_n 0 (i := 0) (pc' := 6) d_Mod_linksAt_5 rfl rfl rfl ?_
    refine gm_getA ok 0 (pc' := 9) d_Mod_linksAt_6 rfl q1965 rfl rfl ?_
    refine g_iconst (v := (3 : Int32)) (pc' := 10) d_Mod_linksAt_9 (by decide) rfl ?_
    replace hy := g_mA_inv hy
    obtain ⟨x1, hc2, hy⟩ := hy
    refine gm_ald0 ok (pc' := 11) d_Mod_linksAt_10 hc2 rfl ?_
    by_cases c3 : x1 ≤ v3
    · rw [if_pos c3] at hy
      refine g_icmp_geT (pc' := 48) d_Mod_linksAt_11 c3 (by decide) ?_
      refine g_iload_n 2 (i := 2) (pc' := 49) d_Mod_linksAt_48 rfl rfl rfl ?_
      cases hy
      exact g_iret rfl rfl rfl d_Mod_linksAt_49
    · rw [if_neg c3] at hy
      refine g_icmp_geF (pc' := 14) d_Mod_linksAt_11 48 c3 (by decide) rfl ?_
      refine g_iload_n 2 (i := 2) (pc' := 15) d_Mod_linksAt_14 rfl rfl rfl ?_
      refine g_aload_n 0 (i := 0) (pc' := 16) d_Mod_linksAt_15 rfl rfl rfl ?_
      refine g_iload_n 3 (i := 3) (pc' := 17) d_Mod_linksAt_16 rfl rfl rfl ?_
      refine g_iconst (v := (0 : Int32)) (pc' := 18) d_Mod_linksAt_17 (by decide) rfl ?_
      replace hy := g_b_inv hy
      obtain ⟨x4, hf6, hy⟩ := hy
      refine g_callV (rv := some (.int x4)) (h1 := (mH h0 a0 ad M)) (pc' := 21) (As := [.int v3, .int (0 : Int32)]) (rest := [.int v2]) 2 (T_Mod_ofLink ok (hy := hf6)) d_Mod_linksAt_18 (mH_look ok) rfl rfl q2154 q2156 qs45 q135 q2157 hd_Mod_ofLink rfl ⟨by decide, by decide⟩ (by first | exact Nat.le_of_ble_eq_true rfl | (simp only [List.map, List.sum_cons, List.sum_nil, g_cat_rf]; exact Nat.le_of_ble_eq_true rfl) | (simp only [List.map, List.sum_cons, List.sum_nil, g_cat_rf, Value.category]; decide)) rfl ?_
      refine g_iload_n 1 (i := 1) (pc' := 22) d_Mod_linksAt_21 rfl rfl rfl ?_
      by_cases c7 : x4 = v1
      · rw [if_pos c7] at hy
        refine g_icmp_eqT (pc' := 35) d_Mod_linksAt_22 c7 (by decide) ?_
        refine g_sub [0, 1, 3] rfl ?_
        exact W_Mod_linksAt_35 ok _ _ _ ih _ _ _ hy
      · rw [if_neg c7] at hy
        refine g_icmp_eqF (pc' := 25) d_Mod_linksAt_22 35 c7 (by decide) rfl ?_
        refine g_aload_n 0 (i := 0) (pc' := 26) d_Mod_linksAt_25 rfl rfl rfl ?_
        refine g_iload_n 3 (i := 3) (pc' := 27) d_Mod_linksAt_26 rfl rfl rfl ?_
        refine g_iconst (v := (1 : Int32)) (pc' := 28) d_Mod_linksAt_27 (by decide) rfl ?_
        replace hy := g_b_inv hy
        obtain ⟨x8, hf10, hy⟩ := hy
        refine g_callV (rv := some (.int x8)) (h1 := (mH h0 a0 ad M)) (pc' := 31) (As := [.int v3, .int (1 : Int32)]) (rest := [.int v2]) 2 (T_Mod_ofLink ok (hy := hf10)) d_Mod_linksAt_28 (mH_look ok) rfl rfl q2154 q2156 qs45 q135 q2157 hd_Mod_ofLink rfl ⟨by decide, by decide⟩ (by first | exact Nat.le_of_ble_eq_true rfl | (simp only [List.map, List.sum_cons, List.sum_nil, g_cat_rf]; exact Nat.le_of_ble_eq_true rfl) | (simp only [List.map, List.sum_cons, List.sum_nil, g_cat_rf, Value.category]; decide)) rfl ?_
        refine g_iload_n 1 (i := 1) (pc' := 32) d_Mod_linksAt_31 rfl rfl rfl ?_
        by_cases c11 : x8 = v1
        · rw [if_pos c11] at hy
          refine g_icmp_neF (pc' := 35) d_Mod_linksAt_32 39 c11 (by decide) rfl ?_
          refine g_sub [0, 1, 3] rfl ?_
          exact W_Mod_linksAt_35 ok _ _ _ ih _ _ _ hy
        · rw [if_neg c11] at hy
          refine g_icmp_neT (pc' := 39) d_Mod_linksAt_32 c11 (by decide) ?_
          refine g_iconst (v := (0 : Int32)) (pc' := 40) d_Mod_linksAt_39 (by decide) rfl ?_
          refine g_sub [0, 1, 3] rfl ?_
          exact W_Mod_linksAt_40 ok _ _ _ ih _ _ _ _ hy
def Mod_linksAt (M : g_MD) (p0 : Int32) : Option (Int32) :=
  Mod_linksAt_4 M  gFU p0 (0 : Int32) (0 : Int32)
set_option maxHeartbeats 4000000 in
set_option maxRecDepth 100000 in
theorem T_Mod_linksAt {l : Launch} {B : g_B} {h0 : g_AH} {a0 : Nat} {ad : Nat → Nat} (ok : mOK a0 ad) (M : g_MD) (p0 : Int32) (z : Int32) (hy : Mod_linksAt M p0 = some z) : g_CT l B y_Mod_linksAt k_Mod_linksAt [.ref a0, .int p0] (mH h0 a0 ad M) (.inl (some (.int z))) (mH h0 a0 ad M) := by
  refine g_start2 (Lc := [(0, .ref a0), (1, .int p0)]) (by decide) rfl rfl (by exact Nat.le_of_ble_eq_true rfl) (by rfl) fun X => ?_
  unfold Mod_linksAt at hy
  refine g_iconst (v := (0 : Int32)) (pc' := 1) d_Mod_linksAt_0 (by decide) rfl ?_
  refine g_istore_n (i := 2) (pc' := 2) (Lc' := [(2, .int (0 : Int32)), (0, .ref a0), (1, .int p0)]) d_Mod_linksAt_1 rfl (by decide) rfl rfl ?_
  refine g_iconst (v := (0 : Int32)) (pc' := 3) d_Mod_linksAt_2 (by decide) rfl ?_
  refine g_istore_n (i := 3) (pc' := 4) (Lc' := [(3, .int (0 : Int32)), (2, .int (0 : Int32)), (0, .ref a0), (1, .int p0)]) d_Mod_linksAt_3 rfl (by decide) rfl rfl ?_
  refine g_sub [2, 3, 1, 0] rfl ?_
  exact W_Mod_linksAt_4 ok _ _ _ _ _ _ hy
theorem hd_Mod_linksAt : g_dsc y_Mod_linksAt 1 := ⟨by decide +kernel, by decide +kernel, by decide +kernel⟩
/-! CircuitDeskModel.node(II)I -/
abbrev y_Mod_node : MethodName := ⟨"CircuitDeskModel", "node", "(II)I"⟩
abbrev k_Mod_node : g_M := (prog_17_method_60_code, 3, "CircuitDeskModel", 15, (some FieldType.int), "node", [], 0)
theorem d_Mod_node_0 : decode prog_17_method_60_code 0 = .ok (.aload_n 0, 1) := by decide +kernel
theorem d_Mod_node_1 : decode prog_17_method_60_code 1 = .ok (.iconst 0, 1) := by decide +kernel
theorem d_Mod_node_2 : decode prog_17_method_60_code 2 = .ok (.putfield 51, 3) := by decide +kernel
theorem d_Mod_node_5 : decode prog_17_method_60_code 5 = .ok (.aload_n 0, 1) := by decide +kernel
theorem d_Mod_node_6 : decode prog_17_method_60_code 6 = .ok (.iload_n 1, 1) := by decide +kernel
theorem d_Mod_node_7 : decode prog_17_method_60_code 7 = .ok (.invokevirtual 204, 3) := by decide +kernel
theorem d_Mod_node_10 : decode prog_17_method_60_code 10 = .ok (.ifCond .ne 9, 3) := by decide +kernel
theorem d_Mod_node_13 : decode prog_17_method_60_code 13 = .ok (.aload_n 0, 1) := by decide +kernel
theorem d_Mod_node_14 : decode prog_17_method_60_code 14 = .ok (.iconst 1, 1) := by decide +kernel
theorem d_Mod_node_15 : decode prog_17_method_60_code 15 = .ok (.invokevirtual 61, 3) := by decide +kernel
theorem d_Mod_node_18 : decode prog_17_method_60_code 18 = .ok (.ireturn, 1) := by decide +kernel
theorem d_Mod_node_19 : decode prog_17_method_60_code 19 = .ok (.iload_n 2, 1) := by decide +kernel
theorem d_Mod_node_20 : decode prog_17_method_60_code 20 = .ok (.tableswitch 94 0 6 #[44, 54, 60, 67, 74, 81, 88], 44) := by decide +kernel
theorem d_Mod_node_64 : decode prog_17_method_60_code 64 = .ok (.aload_n 0, 1) := by decide +kernel
theorem d_Mod_node_65 : decode prog_17_method_60_code 65 = .ok (.getfield 7, 3) := by decide +kernel
theorem d_Mod_node_68 : decode prog_17_method_60_code 68 = .ok (.bipush 14, 2) := by decide +kernel
theorem d_Mod_node_70 : decode prog_17_method_60_code 70 = .ok (.iload_n 1, 1) := by decide +kernel
theorem d_Mod_node_71 : decode prog_17_method_60_code 71 = .ok (.iadd, 1) := by decide +kernel
theorem d_Mod_node_72 : decode prog_17_method_60_code 72 = .ok (.iaload, 1) := by decide +kernel
theorem d_Mod_node_73 : decode prog_17_method_60_code 73 = .ok (.ireturn, 1) := by decide +kernel
theorem d_Mod_node_74 : decode prog_17_method_60_code 74 = .ok (.aload_n 0, 1) := by decide +kernel
theorem d_Mod_node_75 : decode prog_17_method_60_code 75 = .ok (.iload_n 1, 1) := by decide +kernel
theorem d_Mod_node_76 : decode prog_17_method_60_code 76 = .ok (.invokevirtual 235, 3) := by decide +kernel
theorem d_Mod_node_79 : decode prog_17_method_60_code 79 = .ok (.ireturn, 1) := by decide +kernel
theorem d_Mod_node_80 : decode prog_17_method_60_code 80 = .ok (.aload_n 0, 1) := by decide +kernel
theorem d_Mod_node_81 : decode prog_17_method_60_code 81 = .ok (.iload_n 1, 1) := by decide +kernel
theorem d_Mod_node_82 : decode prog_17_method_60_code 82 = .ok (.iconst 0, 1) := by decide +kernel
theorem d_Mod_node_83 : decode prog_17_method_60_code 83 = .ok (.invokevirtual 241, 3) := by decide +kernel
theorem d_Mod_node_86 : decode prog_17_method_60_code 86 = .ok (.ireturn, 1) := by decide +kernel
theorem d_Mod_node_87 : decode prog_17_method_60_code 87 = .ok (.aload_n 0, 1) := by decide +kernel
theorem d_Mod_node_88 : decode prog_17_method_60_code 88 = .ok (.iload_n 1, 1) := by decide +kernel
theorem d_Mod_node_89 : decode prog_17_method_60_code 89 = .ok (.iconst 3, 1) := by decide +kernel
theorem d_Mod_node_90 : decode prog_17_method_60_code 90 = .ok (.invokevirtual 241, 3) := by decide +kernel
theorem d_Mod_node_93 : decode prog_17_method_60_code 93 = .ok (.ireturn, 1) := by decide +kernel
theorem d_Mod_node_94 : decode prog_17_method_60_code 94 = .ok (.aload_n 0, 1) := by decide +kernel
theorem d_Mod_node_95 : decode prog_17_method_60_code 95 = .ok (.iload_n 1, 1) := by decide +kernel
theorem d_Mod_node_96 : decode prog_17_method_60_code 96 = .ok (.iconst 1, 1) := by decide +kernel
theorem d_Mod_node_97 : decode prog_17_method_60_code 97 = .ok (.invokevirtual 241, 3) := by decide +kernel
theorem d_Mod_node_100 : decode prog_17_method_60_code 100 = .ok (.ireturn, 1) := by decide +kernel
theorem d_Mod_node_101 : decode prog_17_method_60_code 101 = .ok (.aload_n 0, 1) := by decide +kernel
theorem d_Mod_node_102 : decode prog_17_method_60_code 102 = .ok (.iload_n 1, 1) := by decide +kernel
theorem d_Mod_node_103 : decode prog_17_method_60_code 103 = .ok (.iconst 2, 1) := by decide +kernel
theorem d_Mod_node_104 : decode prog_17_method_60_code 104 = .ok (.invokevirtual 241, 3) := by decide +kernel
theorem d_Mod_node_107 : decode prog_17_method_60_code 107 = .ok (.ireturn, 1) := by decide +kernel
theorem d_Mod_node_108 : decode prog_17_method_60_code 108 = .ok (.aload_n 0, 1) := by decide +kernel
theorem d_Mod_node_109 : decode prog_17_method_60_code 109 = .ok (.iload_n 1, 1) := by decide +kernel
theorem d_Mod_node_110 : decode prog_17_method_60_code 110 = .ok (.invokevirtual 256, 3) := by decide +kernel
theorem d_Mod_node_113 : decode prog_17_method_60_code 113 = .ok (.ireturn, 1) := by decide +kernel
theorem d_Mod_node_114 : decode prog_17_method_60_code 114 = .ok (.aload_n 0, 1) := by decide +kernel
theorem d_Mod_node_115 : decode prog_17_method_60_code 115 = .ok (.iconst 2, 1) := by decide +kernel
theorem d_Mod_node_116 : decode prog_17_method_60_code 116 = .ok (.invokevirtual 61, 3) := by decide +kernel
theorem d_Mod_node_119 : decode prog_17_method_60_code 119 = .ok (.ireturn, 1) := by decide +kernel
def Mod_node (M : g_MD) (p0 : Int32) (p1 : Int32) : Option (Int32 × g_MD) :=
  g_let (mp M 7 (0 : Int32)) fun M1 => g_b (Mod_isNode M1 p0) fun x2 => if x2 = 0 then (g_bM (Mod_fail M1 (1 : Int32)) fun x36 M37 => some (x36, M37)) else (if p1 = (0 : Int32) then (g_mA M1 0 0 ((14 : Int32) + p0) fun x7 => some (x7, M1)) else (if p1 = (1 : Int32) then (g_bM (Mod_freeLabels M1 p0) fun x10 M11 => some (x10, M11)) else (if p1 = (2 : Int32) then (g_b (Mod_countLabels M1 p0 (0 : Int32)) fun x14 => some (x14, M1)) else (if p1 = (3 : Int32) then (g_b (Mod_countLabels M1 p0 (3 : Int32)) fun x18 => some (x18, M1)) else (if p1 = (4 : Int32) then (g_b (Mod_countLabels M1 p0 (1 : Int32)) fun x22 => some (x22, M1)) else (if p1 = (5 : Int32) then (g_b (Mod_countLabels M1 p0 (2 : Int32)) fun x26 => some (x26, M1)) else (if p1 = (6 : Int32) then (g_b (Mod_linksAt M1 p0) fun x30 => some (x30, M1)) else (g_bM (Mod_fail M1 (2 : Int32)) fun x33 M34 => some (x33, M34)))))))))
set_option maxHeartbeats 4000000 in
set_option maxRecDepth 100000 in
theorem T_Mod_node {l : Launch} {B : g_B} {h0 : g_AH} {a0 : Nat} {ad : Nat → Nat} (ok : mOK a0 ad) (M : g_MD) (p0 : Int32) (p1 : Int32) (z : Int32 × g_MD) (hy : Mod_node M p0 p1 = some z) : g_CT l B y_Mod_node k_Mod_node [.ref a0, .int p0, .int p1] (mH h0 a0 ad M) (.inl (some (.int z.1))) (mH h0 a0 ad z.2) := by
  refine g_start2 (Lc := [(0, .ref a0), (1, .int p0), (2, .int p1)]) (by decide) rfl rfl (by exact Nat.le_of_ble_eq_true rfl) (by rfl) fun X => ?_
  unfold Mod_node at hy
  refine g_aload_n 0 (i := 0) (pc' := 1) d_Mod_node_0 rfl rfl rfl ?_
  refine g_iconst (v := (0 : Int32)) (pc' := 2) d_Mod_node_1 (by decide) rfl ?_
  replace hy := g_let_inv hy
  refine gm_put ok 7 (pc' := 5) d_Mod_node_2 rfl (by decide) q1972 rfl ?_
  generalize (mp M 7 (0 : Int32)) = M1 at hy ⊢
  refine g_aload_n 0 (i := 0) (pc' := 6) d_Mod_node_5 rfl rfl rfl ?_
  refine g_iload_n 1 (i := 1) (pc' := 7) d_Mod_node_6 rfl rfl rfl ?_
  replace hy := g_b_inv hy
  obtain ⟨x2, hf4, hy⟩ := hy
  refine g_callV (rv := some (.int x2)) (h1 := (mH h0 a0 ad M1)) (pc' := 10) (As := [.int p0]) (rest := []) 1 (T_Mod_isNode ok (hy := hf4)) d_Mod_node_7 (mH_look ok) rfl rfl q2251 q2253 qs64 q135 q2254 hd_Mod_isNode rfl ⟨by decide, by decide⟩ (by first | exact Nat.le_of_ble_eq_true rfl | (simp only [List.map, List.sum_cons, List.sum_nil, g_cat_rf]; exact Nat.le_of_ble_eq_true rfl) | (simp only [List.map, List.sum_cons, List.sum_nil, g_cat_rf, Value.category]; decide)) rfl ?_
  by_cases c5 : x2 = 0
  · rw [if_pos c5] at hy
    refine g_if_neF (pc' := 13) d_Mod_node_10 19 c5 (by decide) rfl ?_
    refine g_aload_n 0 (i := 0) (pc' := 14) d_Mod_node_13 rfl rfl rfl ?_
    refine g_iconst (v := (1 : Int32)) (pc' := 15) d_Mod_node_14 (by decide) rfl ?_
    replace hy := g_bM_inv hy
    obtain ⟨x36, M37, hf38, hy⟩ := hy
    refine g_callV (rv := some (.int x36)) (h1 := (mH h0 a0 ad M37)) (pc' := 18) (As := [.int (1 : Int32)]) (rest := []) 1 (T_Mod_fail ok (hy := hf38)) d_Mod_node_15 (mH_look ok) rfl rfl q2061 q2063 qs31 q135 q2064 hd_Mod_fail rfl ⟨by decide, by decide⟩ (by first | exact Nat.le_of_ble_eq_true rfl | (simp only [List.map, List.sum_cons, List.sum_nil, g_cat_rf]; exact Nat.le_of_ble_eq_true rfl) | (simp only [List.map, List.sum_cons, List.sum_nil, g_cat_rf, Value.category]; decide)) rfl ?_
    cases hy
    exact g_iret rfl rfl rfl d_Mod_node_18
  · rw [if_neg c5] at hy
    refine g_if_neT (pc' := 19) d_Mod_node_10 c5 (by decide) ?_
    refine g_iload_n 2 (i := 2) (pc' := 20) d_Mod_node_19 rfl rfl rfl ?_
    by_cases c6 : p1 = (0 : Int32)
    · rw [if_pos c6] at hy
      refine g_tableIn (pc' := 64) (0 : Int32) d_Mod_node_20 c6 (by decide) rfl (by decide) ?_
      refine g_aload_n 0 (i := 0) (pc' := 65) d_Mod_node_64 rfl rfl rfl ?_
      refine gm_getA ok 0 (pc' := 68) d_Mod_node_65 rfl q1965 rfl rfl ?_
      refine g_bipush (v := (14 : Int32)) (pc' := 70) d_Mod_node_68 (by decide) rfl ?_
      refine g_iload_n 1 (i := 1) (pc' := 71) d_Mod_node_70 rfl rfl rfl ?_
      refine g_iadd (pc' := 72) d_Mod_node_71 rfl ?_
      replace hy := g_mA_inv hy
      obtain ⟨x7, hc8, hy⟩ := hy
      refine gm_ald0 ok (pc' := 73) d_Mod_node_72 hc8 rfl ?_
      cases hy
      exact g_iret rfl rfl rfl d_Mod_node_73
    · rw [if_neg c6] at hy
      by_cases c9 : p1 = (1 : Int32)
      · rw [if_pos c9] at hy
        refine g_tableIn (pc' := 74) (1 : Int32) d_Mod_node_20 c9 (by decide) rfl (by decide) ?_
        refine g_aload_n 0 (i := 0) (pc' := 75) d_Mod_node_74 rfl rfl rfl ?_
        refine g_iload_n 1 (i := 1) (pc' := 76) d_Mod_node_75 rfl rfl rfl ?_
        replace hy := g_bM_inv hy
        obtain ⟨x10, M11, hf12, hy⟩ := hy
        refine g_callV (rv := some (.int x10)) (h1 := (mH h0 a0 ad M11)) (pc' := 79) (As := [.int p0]) (rest := []) 1 (T_Mod_freeLabels ok (hy := hf12)) d_Mod_node_76 (mH_look ok) rfl rfl q2222 q2224 qs61 q135 q2225 hd_Mod_freeLabels rfl ⟨by decide, by decide⟩ (by first | exact Nat.le_of_ble_eq_true rfl | (simp only [List.map, List.sum_cons, List.sum_nil, g_cat_rf]; exact Nat.le_of_ble_eq_true rfl) | (simp only [List.map, List.sum_cons, List.sum_nil, g_cat_rf, Value.category]; decide)) rfl ?_
        cases hy
        exact g_iret rfl rfl rfl d_Mod_node_79
      · rw [if_neg c9] at hy
        by_cases c13 : p1 = (2 : Int32)
        · rw [if_pos c13] at hy
          refine g_tableIn (pc' := 80) (2 : Int32) d_Mod_node_20 c13 (by decide) rfl (by decide) ?_
          refine g_aload_n 0 (i := 0) (pc' := 81) d_Mod_node_80 rfl rfl rfl ?_
          refine g_iload_n 1 (i := 1) (pc' := 82) d_Mod_node_81 rfl rfl rfl ?_
          refine g_iconst (v := (0 : Int32)) (pc' := 83) d_Mod_node_82 (by decide) rfl ?_
          replace hy := g_b_inv hy
          obtain ⟨x14, hf16, hy⟩ := hy
          refine g_callV (rv := some (.int x14)) (h1 := (mH h0 a0 ad M1)) (pc' := 86) (As := [.int p0, .int (0 : Int32)]) (rest := []) 2 (T_Mod_countLabels ok (hy := hf16)) d_Mod_node_83 (mH_look ok) rfl rfl q2214 q2216 qs59 q135 q2217 hd_Mod_countLabels rfl ⟨by decide, by decide⟩ (by first | exact Nat.le_of_ble_eq_true rfl | (simp only [List.map, List.sum_cons, List.sum_nil, g_cat_rf]; exact Nat.le_of_ble_eq_true rfl) | (simp only [List.map, List.sum_cons, List.sum_nil, g_cat_rf, Value.category]; decide)) rfl ?_
          cases hy
          exact g_iret rfl rfl rfl d_Mod_node_86
        · rw [if_neg c13] at hy
          by_cases c17 : p1 = (3 : Int32)
          · rw [if_pos c17] at hy
            refine g_tableIn (pc' := 87) (3 : Int32) d_Mod_node_20 c17 (by decide) rfl (by decide) ?_
            refine g_aload_n 0 (i := 0) (pc' := 88) d_Mod_node_87 rfl rfl rfl ?_
            refine g_iload_n 1 (i := 1) (pc' := 89) d_Mod_node_88 rfl rfl rfl ?_
            refine g_iconst (v := (3 : Int32)) (pc' := 90) d_Mod_node_89 (by decide) rfl ?_
            replace hy := g_b_inv hy
            obtain ⟨x18, hf20, hy⟩ := hy
            refine g_callV (rv := some (.int x18)) (h1 := (mH h0 a0 ad M1)) (pc' := 93) (As := [.int p0, .int (3 : Int32)]) (rest := []) 2 (T_Mod_countLabels ok (hy := hf20)) d_Mod_node_90 (mH_look ok) rfl rfl q2214 q2216 qs59 q135 q2217 hd_Mod_countLabels rfl ⟨by decide, by decide⟩ (by first | exact Nat.le_of_ble_eq_true rfl | (simp only [List.map, List.sum_cons, List.sum_nil, g_cat_rf]; exact Nat.le_of_ble_eq_true rfl) | (simp only [List.map, List.sum_cons, List.sum_nil, g_cat_rf, Value.category]; decide)) rfl ?_
            cases hy
            exact g_iret rfl rfl rfl d_Mod_node_93
          · rw [if_neg c17] at hy
            by_cases c21 : p1 = (4 : Int32)
            · rw [if_pos c21] at hy
              refine g_tableIn (pc' := 94) (4 : Int32) d_Mod_node_20 c21 (by decide) rfl (by decide) ?_
              refine g_aload_n 0 (i := 0) (pc' := 95) d_Mod_node_94 rfl rfl rfl ?_
              refine g_iload_n 1 (i := 1) (pc' := 96) d_Mod_node_95 rfl rfl rfl ?_
              refine g_iconst (v := (1 : Int32)) (pc' := 97) d_Mod_node_96 (by decide) rfl ?_
              replace hy := g_b_inv hy
              obtain ⟨x22, hf24, hy⟩ := hy
              refine g_callV (rv := some (.int x22)) (h1 := (mH h0 a0 ad M1)) (pc' := 100) (As := [.int p0, .int (1 : Int32)]) (rest := []) 2 (T_Mod_countLabels ok (hy := hf24)) d_Mod_node_97 (mH_look ok) rfl rfl q2214 q2216 qs59 q135 q2217 hd_Mod_countLabels rfl ⟨by decide, by decide⟩ (by first | exact Nat.le_of_ble_eq_true rfl | (simp only [List.map, List.sum_cons, List.sum_nil, g_cat_rf]; exact Nat.le_of_ble_eq_true rfl) | (simp only [List.map, List.sum_cons, List.sum_nil, g_cat_rf, Value.category]; decide)) rfl ?_
              cases hy
              exact g_iret rfl rfl rfl d_Mod_node_100
            · rw [if_neg c21] at hy
              by_cases c25 : p1 = (5 : Int32)
              · rw [if_pos c25] at hy
                refine g_tableIn (pc' := 101) (5 : Int32) d_Mod_node_20 c25 (by decide) rfl (by decide) ?_
                refine g_aload_n 0 (i := 0) (pc' := 102) d_Mod_node_101 rfl rfl rfl ?_
                refine g_iload_n 1 (i := 1) (pc' := 103) d_Mod_node_102 rfl rfl rfl ?_
                refine g_iconst (v := (2 : Int32)) (pc' := 104) d_Mod_node_103 (by decide) rfl ?_
                replace hy := g_b_inv hy
                obtain ⟨x26, hf28, hy⟩ := hy
                refine g_callV (rv := some (.int x26)) (h1 := (mH h0 a0 ad M1)) (pc' := 107) (As := [.int p0, .int (2 : Int32)]) (rest := []) 2 (T_Mod_countLabels ok (hy := hf28)) d_Mod_node_104 (mH_look ok) rfl rfl q2214 q2216 qs59 q135 q2217 hd_Mod_countLabels rfl ⟨by decide, by decide⟩ (by first | exact Nat.le_of_ble_eq_true rfl | (simp only [List.map, List.sum_cons, List.sum_nil, g_cat_rf]; exact Nat.le_of_ble_eq_true rfl) | (simp only [List.map, List.sum_cons, List.sum_nil, g_cat_rf, Value.category]; decide)) rfl ?_
                cases hy
                exact g_iret rfl rfl rfl d_Mod_node_107
              · rw [if_neg c25] at hy
                by_cases c29 : p1 = (6 : Int32)
                · rw [if_pos c29] at hy
                  refine g_tableIn (pc' := 108) (6 : Int32) d_Mod_node_20 c29 (by decide) rfl (by decide) ?_
                  refine g_aload_n 0 (i := 0) (pc' := 109) d_Mod_node_108 rfl rfl rfl ?_
                  refine g_iload_n 1 (i := 1) (pc' := 110) d_Mod_node_109 rfl rfl rfl ?_
                  replace hy := g_b_inv hy
                  obtain ⟨x30, hf32, hy⟩ := hy
                  refine g_callV (rv := some (.int x30)) (h1 := (mH h0 a0 ad M1)) (pc' := 113) (As := [.int p0]) (rest := []) 1 (T_Mod_linksAt ok (hy := hf32)) d_Mod_node_110 (mH_look ok) rfl rfl q2299 q2301 qs72 q135 q2302 hd_Mod_linksAt rfl ⟨by decide, by decide⟩ (by first | exact Nat.le_of_ble_eq_true rfl | (simp only [List.map, List.sum_cons, List.sum_nil, g_cat_rf]; exact Nat.le_of_ble_eq_true rfl) | (simp only [List.map, List.sum_cons, List.sum_nil, g_cat_rf, Value.category]; decide)) rfl ?_
                  cases hy
                  exact g_iret rfl rfl rfl d_Mod_node_113
                · rw [if_neg c29] at hy
                  have c6 := g_neI (n := 0) (by decide) c6
                  have c9 := g_neI (n := 1) (by decide) c9
                  have c13 := g_neI (n := 2) (by decide) c13
                  have c17 := g_neI (n := 3) (by decide) c17
                  have c21 := g_neI (n := 4) (by decide) c21
                  have c25 := g_neI (n := 5) (by decide) c25
                  have c29 := g_neI (n := 6) (by decide) c29
                  refine g_tableOut (pc' := 114) d_Mod_node_20 (by omega) (by decide) ?_
                  refine g_aload_n 0 (i := 0) (pc' := 115) d_Mod_node_114 rfl rfl rfl ?_
                  refine g_iconst (v := (2 : Int32)) (pc' := 116) d_Mod_node_115 (by decide) rfl ?_
                  replace hy := g_bM_inv hy
                  obtain ⟨x33, M34, hf35, hy⟩ := hy
                  refine g_callV (rv := some (.int x33)) (h1 := (mH h0 a0 ad M34)) (pc' := 119) (As := [.int (2 : Int32)]) (rest := []) 1 (T_Mod_fail ok (hy := hf35)) d_Mod_node_116 (mH_look ok) rfl rfl q2061 q2063 qs31 q135 q2064 hd_Mod_fail rfl ⟨by decide, by decide⟩ (by first | exact Nat.le_of_ble_eq_true rfl | (simp only [List.map, List.sum_cons, List.sum_nil, g_cat_rf]; exact Nat.le_of_ble_eq_true rfl) | (simp only [List.map, List.sum_cons, List.sum_nil, g_cat_rf, Value.category]; decide)) rfl ?_
                  cases hy
                  exact g_iret rfl rfl rfl d_Mod_node_119
theorem hd_Mod_node : g_dsc y_Mod_node 2 := ⟨by decide +kernel, by decide +kernel, by decide +kernel⟩
/-! CircuitDeskModel.label(III)I -/
abbrev y_Mod_label : MethodName := ⟨"CircuitDeskModel", "label", "(III)I"⟩
abbrev k_Mod_label : g_M := (prog_17_method_61_code, 5, "CircuitDeskModel", 14, (some FieldType.int), "label", [], 0)
theorem d_Mod_label_0 : decode prog_17_method_61_code 0 = .ok (.aload_n 0, 1) := by decide +kernel
theorem d_Mod_label_1 : decode prog_17_method_61_code 1 = .ok (.iconst 0, 1) := by decide +kernel
theorem d_Mod_label_2 : decode prog_17_method_61_code 2 = .ok (.putfield 51, 3) := by decide +kernel
theorem d_Mod_label_5 : decode prog_17_method_61_code 5 = .ok (.aload_n 0, 1) := by decide +kernel
theorem d_Mod_label_6 : decode prog_17_method_61_code 6 = .ok (.iload_n 1, 1) := by decide +kernel
theorem d_Mod_label_7 : decode prog_17_method_61_code 7 = .ok (.invokevirtual 204, 3) := by decide +kernel
theorem d_Mod_label_10 : decode prog_17_method_61_code 10 = .ok (.ifCond .eq 22, 3) := by decide +kernel
theorem d_Mod_label_13 : decode prog_17_method_61_code 13 = .ok (.iload_n 2, 1) := by decide +kernel
theorem d_Mod_label_14 : decode prog_17_method_61_code 14 = .ok (.iconst 0, 1) := by decide +kernel
theorem d_Mod_label_15 : decode prog_17_method_61_code 15 = .ok (.aload_n 0, 1) := by decide +kernel
theorem d_Mod_label_16 : decode prog_17_method_61_code 16 = .ok (.getfield 7, 3) := by decide +kernel
theorem d_Mod_label_19 : decode prog_17_method_61_code 19 = .ok (.bipush 14, 2) := by decide +kernel
theorem d_Mod_label_21 : decode prog_17_method_61_code 21 = .ok (.iload_n 1, 1) := by decide +kernel
theorem d_Mod_label_22 : decode prog_17_method_61_code 22 = .ok (.iadd, 1) := by decide +kernel
theorem d_Mod_label_23 : decode prog_17_method_61_code 23 = .ok (.iaload, 1) := by decide +kernel
theorem d_Mod_label_24 : decode prog_17_method_61_code 24 = .ok (.iconst 1, 1) := by decide +kernel
theorem d_Mod_label_25 : decode prog_17_method_61_code 25 = .ok (.isub, 1) := by decide +kernel
theorem d_Mod_label_26 : decode prog_17_method_61_code 26 = .ok (.invokestatic 54, 3) := by decide +kernel
theorem d_Mod_label_29 : decode prog_17_method_61_code 29 = .ok (.ifCond .ne 9, 3) := by decide +kernel
theorem d_Mod_label_32 : decode prog_17_method_61_code 32 = .ok (.aload_n 0, 1) := by decide +kernel
theorem d_Mod_label_33 : decode prog_17_method_61_code 33 = .ok (.iconst 1, 1) := by decide +kernel
theorem d_Mod_label_34 : decode prog_17_method_61_code 34 = .ok (.invokevirtual 61, 3) := by decide +kernel
theorem d_Mod_label_37 : decode prog_17_method_61_code 37 = .ok (.ireturn, 1) := by decide +kernel
theorem d_Mod_label_38 : decode prog_17_method_61_code 38 = .ok (.iload_n 3, 1) := by decide +kernel
theorem d_Mod_label_39 : decode prog_17_method_61_code 39 = .ok (.iconst 0, 1) := by decide +kernel
theorem d_Mod_label_40 : decode prog_17_method_61_code 40 = .ok (.iconst 3, 1) := by decide +kernel
theorem d_Mod_label_41 : decode prog_17_method_61_code 41 = .ok (.invokestatic 54, 3) := by decide +kernel
theorem d_Mod_label_44 : decode prog_17_method_61_code 44 = .ok (.ifCond .ne 9, 3) := by decide +kernel
theorem d_Mod_label_47 : decode prog_17_method_61_code 47 = .ok (.aload_n 0, 1) := by decide +kernel
theorem d_Mod_label_48 : decode prog_17_method_61_code 48 = .ok (.iconst 2, 1) := by decide +kernel
theorem d_Mod_label_49 : decode prog_17_method_61_code 49 = .ok (.invokevirtual 61, 3) := by decide +kernel
theorem d_Mod_label_52 : decode prog_17_method_61_code 52 = .ok (.ireturn, 1) := by decide +kernel
theorem d_Mod_label_53 : decode prog_17_method_61_code 53 = .ok (.aload_n 0, 1) := by decide +kernel
theorem d_Mod_label_54 : decode prog_17_method_61_code 54 = .ok (.iload_n 1, 1) := by decide +kernel
theorem d_Mod_label_55 : decode prog_17_method_61_code 55 = .ok (.iload_n 2, 1) := by decide +kernel
theorem d_Mod_label_56 : decode prog_17_method_61_code 56 = .ok (.invokevirtual 232, 3) := by decide +kernel
theorem d_Mod_label_59 : decode prog_17_method_61_code 59 = .ok (.ifCond .ne 5, 3) := by decide +kernel
theorem d_Mod_label_62 : decode prog_17_method_61_code 62 = .ok (.iconst (-1), 1) := by decide +kernel
theorem d_Mod_label_63 : decode prog_17_method_61_code 63 = .ok (.ireturn, 1) := by decide +kernel
theorem d_Mod_label_64 : decode prog_17_method_61_code 64 = .ok (.aload_n 0, 1) := by decide +kernel
theorem d_Mod_label_65 : decode prog_17_method_61_code 65 = .ok (.getfield 223, 3) := by decide +kernel
theorem d_Mod_label_68 : decode prog_17_method_61_code 68 = .ok (.aload_n 0, 1) := by decide +kernel
theorem d_Mod_label_69 : decode prog_17_method_61_code 69 = .ok (.getfield 226, 3) := by decide +kernel
theorem d_Mod_label_72 : decode prog_17_method_61_code 72 = .ok (.invokestatic 144, 3) := by decide +kernel
theorem d_Mod_label_75 : decode prog_17_method_61_code 75 = .ok (.istore 4, 2) := by decide +kernel
theorem d_Mod_label_77 : decode prog_17_method_61_code 77 = .ok (.iload_n 3, 1) := by decide +kernel
theorem d_Mod_label_78 : decode prog_17_method_61_code 78 = .ok (.ifCond .ne 20, 3) := by decide +kernel
theorem d_Mod_label_81 : decode prog_17_method_61_code 81 = .ok (.aload_n 0, 1) := by decide +kernel
theorem d_Mod_label_82 : decode prog_17_method_61_code 82 = .ok (.getfield 7, 3) := by decide +kernel
theorem d_Mod_label_85 : decode prog_17_method_61_code 85 = .ok (.iload 4, 2) := by decide +kernel
theorem d_Mod_label_87 : decode prog_17_method_61_code 87 = .ok (.iconst 1, 1) := by decide +kernel
theorem d_Mod_label_88 : decode prog_17_method_61_code 88 = .ok (.iadd, 1) := by decide +kernel
theorem d_Mod_label_89 : decode prog_17_method_61_code 89 = .ok (.aload_n 0, 1) := by decide +kernel
theorem d_Mod_label_90 : decode prog_17_method_61_code 90 = .ok (.getfield 229, 3) := by decide +kernel
theorem d_Mod_label_93 : decode prog_17_method_61_code 93 = .ok (.iadd, 1) := by decide +kernel
theorem d_Mod_label_94 : decode prog_17_method_61_code 94 = .ok (.iaload, 1) := by decide +kernel
theorem d_Mod_label_95 : decode prog_17_method_61_code 95 = .ok (.goto 42, 3) := by decide +kernel
theorem d_Mod_label_98 : decode prog_17_method_61_code 98 = .ok (.iload_n 3, 1) := by decide +kernel
theorem d_Mod_label_99 : decode prog_17_method_61_code 99 = .ok (.iconst 1, 1) := by decide +kernel
theorem d_Mod_label_100 : decode prog_17_method_61_code 100 = .ok (.if_icmp .ne 10, 3) := by decide +kernel
theorem d_Mod_label_103 : decode prog_17_method_61_code 103 = .ok (.aload_n 0, 1) := by decide +kernel
theorem d_Mod_label_104 : decode prog_17_method_61_code 104 = .ok (.getfield 223, 3) := by decide +kernel
theorem d_Mod_label_107 : decode prog_17_method_61_code 107 = .ok (.goto 30, 3) := by decide +kernel
theorem d_Mod_label_110 : decode prog_17_method_61_code 110 = .ok (.iload_n 3, 1) := by decide +kernel
theorem d_Mod_label_111 : decode prog_17_method_61_code 111 = .ok (.iconst 2, 1) := by decide +kernel
theorem d_Mod_label_112 : decode prog_17_method_61_code 112 = .ok (.if_icmp .ne 10, 3) := by decide +kernel
theorem d_Mod_label_115 : decode prog_17_method_61_code 115 = .ok (.aload_n 0, 1) := by decide +kernel
theorem d_Mod_label_116 : decode prog_17_method_61_code 116 = .ok (.getfield 226, 3) := by decide +kernel
theorem d_Mod_label_119 : decode prog_17_method_61_code 119 = .ok (.goto 18, 3) := by decide +kernel
theorem d_Mod_label_122 : decode prog_17_method_61_code 122 = .ok (.aload_n 0, 1) := by decide +kernel
theorem d_Mod_label_123 : decode prog_17_method_61_code 123 = .ok (.getfield 7, 3) := by decide +kernel
theorem d_Mod_label_126 : decode prog_17_method_61_code 126 = .ok (.iload 4, 2) := by decide +kernel
theorem d_Mod_label_128 : decode prog_17_method_61_code 128 = .ok (.bipush 19, 2) := by decide +kernel
theorem d_Mod_label_130 : decode prog_17_method_61_code 130 = .ok (.iadd, 1) := by decide +kernel
theorem d_Mod_label_131 : decode prog_17_method_61_code 131 = .ok (.aload_n 0, 1) := by decide +kernel
theorem d_Mod_label_132 : decode prog_17_method_61_code 132 = .ok (.getfield 229, 3) := by decide +kernel
theorem d_Mod_label_135 : decode prog_17_method_61_code 135 = .ok (.iadd, 1) := by decide +kernel
theorem d_Mod_label_136 : decode prog_17_method_61_code 136 = .ok (.iaload, 1) := by decide +kernel
theorem d_Mod_label_137 : decode prog_17_method_61_code 137 = .ok (.ireturn, 1) := by decide +kernel
def Mod_label_32 (M : g_MD) : Option (Int32 × g_MD) :=
  g_bM (Mod_fail M (1 : Int32)) fun x6 M7 => some (x6, M7)
set_option maxHeartbeats 4000000 in
set_option maxRecDepth 100000 in
theorem W_Mod_label_32 {X : g_X} {h0 : g_AH} {a0 : Nat} {ad : Nat → Nat} (ok : mOK a0 ad) (z : Int32 × g_MD) (M : g_MD) (hy : Mod_label_32  M = some z) : G X k_Mod_label (.inl (some (.int z.1))) (mH h0 a0 ad z.2) (mH h0 a0 ad M) 32 [(0, .ref a0)] [] := by
  unfold Mod_label_32 at hy
  refine g_aload_n 0 (i := 0) (pc' := 33) d_Mod_label_32 rfl rfl rfl ?_
  refine g_iconst (v := (1 : Int32)) (pc' := 34) d_Mod_label_33 (by decide) rfl ?_
  replace hy := g_bM_inv hy
  obtain ⟨x6, M7, hf8, hy⟩ := hy
  refine g_callV (rv := some (.int x6)) (h1 := (mH h0 a0 ad M7)) (pc' := 37) (As := [.int (1 : Int32)]) (rest := []) 1 (T_Mod_fail ok (hy := hf8)) d_Mod_label_34 (mH_look ok) rfl rfl q2061 q2063 qs31 q135 q2064 hd_Mod_fail rfl ⟨by decide, by decide⟩ (by first | exact Nat.le_of_ble_eq_true rfl | (simp only [List.map, List.sum_cons, List.sum_nil, g_cat_rf]; exact Nat.le_of_ble_eq_true rfl) | (simp only [List.map, List.sum_cons, List.sum_nil, g_cat_rf, Value.category]; decide)) rfl ?_
  cases hy
  exact g_iret rfl rfl rfl d_Mod_label_37
def Mod_label (M : g_MD) (p0 : Int32) (p1 : Int32) (p2 : Int32) : Option (Int32 × g_MD) :=
  g_let (mp M 7 (0 : Int32)) fun M1 => g_b (Mod_isNode M1 p0) fun x2 => if x2 = 0 then (Mod_label_32  M1) else (g_mA M1 0 0 ((14 : Int32) + p0) fun x9 => g_b (Mod_isBetween p1 (0 : Int32) (x9 - (1 : Int32))) fun x11 => if x11 = 0 then (Mod_label_32  M1) else (g_b (Mod_isBetween p2 (0 : Int32) (3 : Int32)) fun x15 => if x15 = 0 then (g_bM (Mod_fail M1 (2 : Int32)) fun x33 M34 => some (x33, M34)) else (g_bM (Mod_findHolder M1 p0 p1) fun x19 M20 => if x19 = 0 then (some ((-1 : Int32), M20)) else (g_b (Mod_wayPlace (M20.2.1 18) (M20.2.1 19)) fun x23 => if p2 = 0 then (g_mA M20 0 0 ((x23 + (1 : Int32)) + (M20.2.1 20)) fun x31 => some (x31, M20)) else (if p2 = (1 : Int32) then (some ((M20.2.1 18), M20)) else (if p2 = (2 : Int32) then (some ((M20.2.1 19), M20)) else (g_mA M20 0 0 ((x23 + (19 : Int32)) + (M20.2.1 20)) fun x29 => some (x29, M20))))))))
set_option maxHeartbeats 4000000 in
set_option maxRecDepth 100000 in
theorem T_Mod_label {l : Launch} {B : g_B} {h0 : g_AH} {a0 : Nat} {ad : Nat → Nat} (ok : mOK a0 ad) (M : g_MD) (p0 : Int32) (p1 : Int32) (p2 : Int32) (z : Int32 × g_MD) (hy : Mod_label M p0 p1 p2 = some z) : g_CT l B y_Mod_label k_Mod_label [.ref a0, .int p0, .int p1, .int p2] (mH h0 a0 ad M) (.inl (some (.int z.1))) (mH h0 a0 ad z.2) := by
  refine g_start2 (Lc := [(0, .ref a0), (1, .int p0), (2, .int p1), (3, .int p2)]) (by decide) rfl rfl (by exact Nat.le_of_ble_eq_true rfl) (by rfl) fun X => ?_
  unfold Mod_label at hy
  refine g_aload_n 0 (i := 0) (pc' := 1) d_Mod_label_0 rfl rfl rfl ?_
  refine g_iconst (v := (0 : Int32)) (pc' := 2) d_Mod_label_1 (by decide) rfl ?_
  replace hy := g_let_inv hy
  refine gm_put ok 7 (pc' := 5) d_Mod_label_2 rfl (by decide) q1972 rfl ?_
  generalize (mp M 7 (0 : Int32)) = M1 at hy ⊢
  refine g_aload_n 0 (i := 0) (pc' := 6) d_Mod_label_5 rfl rfl rfl ?_
  refine g_iload_n 1 (i := 1) (pc' := 7) d_Mod_label_6 rfl rfl rfl ?_
  replace hy := g_b_inv hy
  obtain ⟨x2, hf4, hy⟩ := hy
  refine g_callV (rv := some (.int x2)) (h1 := (mH h0 a0 ad M1)) (pc' := 10) (As := [.int p0]) (rest := []) 1 (T_Mod_isNode ok (hy := hf4)) d_Mod_label_7 (mH_look ok) rfl rfl q2251 q2253 qs64 q135 q2254 hd_Mod_isNode rfl ⟨by decide, by decide⟩ (by first | exact Nat.le_of_ble_eq_true rfl | (simp only [List.map, List.sum_cons, List.sum_nil, g_cat_rf]; exact Nat.le_of_ble_eq_true rfl) | (simp only [List.map, List.sum_cons, List.sum_nil, g_cat_rf, Value.category]; decide)) rfl ?_
  by_cases c5 : x2 = 0
  · rw [if_pos c5] at hy
    refine g_if_eqT (pc' := 32) d_Mod_label_10 c5 (by decide) ?_
    refine g_sub [0] rfl ?_
    exact W_Mod_label_32 ok _ _ hy
  · rw [if_neg c5] at hy
    refine g_if_eqF (pc' := 13) d_Mod_label_10 32 c5 (by decide) rfl ?_
    refine g_iload_n 2 (i := 2) (pc' := 14) d_Mod_label_13 rfl rfl rfl ?_
    refine g_iconst (v := (0 : Int32)) (pc' := 15) d_Mod_label_14 (by decide) rfl ?_
    refine g_aload_n 0 (i := 0) (pc' := 16) d_Mod_label_15 rfl rfl rfl ?_
    refine gm_getA ok 0 (pc' := 19) d_Mod_label_16 rfl q1965 rfl rfl ?_
    refine g_bipush (v := (14 : Int32)) (pc' := 21) d_Mod_label_19 (by decide) rfl ?_
    refine g_iload_n 1 (i := 1) (pc' := 22) d_Mod_label_21 rfl rfl rfl ?_
    refine g_iadd (pc' := 23) d_Mod_label_22 rfl ?_
    replace hy := g_mA_inv hy
    obtain ⟨x9, hc10, hy⟩ := hy
    refine gm_ald0 ok (pc' := 24) d_Mod_label_23 hc10 rfl ?_
    refine g_iconst (v := (1 : Int32)) (pc' := 25) d_Mod_label_24 (by decide) rfl ?_
    refine g_isub (pc' := 26) d_Mod_label_25 rfl ?_
    replace hy := g_b_inv hy
    obtain ⟨x11, hf13, hy⟩ := hy
    refine g_callS (rv := some (.int x11)) (h1 := (mH h0 a0 ad M1)) (pc' := 29) (As := [.int p1, .int (0 : Int32), .int (x9 - (1 : Int32))]) (rest := []) 3 (T_Mod_isBetween (hy := hf13)) d_Mod_label_26 q2069 q2070 q135 q2071 hd_Mod_isBetween rfl ⟨by decide, by decide⟩ (by first | exact Nat.le_of_ble_eq_true rfl | (simp only [List.map, List.sum_cons, List.sum_nil, g_cat_rf]; exact Nat.le_of_ble_eq_true rfl) | (simp only [List.map, List.sum_cons, List.sum_nil, g_cat_rf, Value.category]; decide)) rfl ?_
    by_cases c14 : x11 = 0
    · rw [if_pos c14] at hy
      refine g_if_neF (pc' := 32) d_Mod_label_29 38 c14 (by decide) rfl ?_
      refine g_sub [0] rfl ?_
      exact W_Mod_label_32 ok _ _ hy
    · rw [if_neg c14] at hy
      refine g_if_neT (pc' := 38) d_Mod_label_29 c14 (by decide) ?_
      refine g_iload_n 3 (i := 3) (pc' := 39) d_Mod_label_38 rfl rfl rfl ?_
      refine g_iconst (v := (0 : Int32)) (pc' := 40) d_Mod_label_39 (by decide) rfl ?_
      refine g_iconst (v := (3 : Int32)) (pc' := 41) d_Mod_label_40 (by decide) rfl ?_
      replace hy := g_b_inv hy
      obtain ⟨x15, hf17, hy⟩ := hy
      refine g_callS (rv := some (.int x15)) (h1 := (mH h0 a0 ad M1)) (pc' := 44) (As := [.int p2, .int (0 : Int32), .int (3 : Int32)]) (rest := []) 3 (T_Mod_isBetween (hy := hf17)) d_Mod_label_41 q2069 q2070 q135 q2071 hd_Mod_isBetween rfl ⟨by decide, by decide⟩ (by first | exact Nat.le_of_ble_eq_true rfl | (simp only [List.map, List.sum_cons, List.sum_nil, g_cat_rf]; exact Nat.le_of_ble_eq_true rfl) | (simp only [List.map, List.sum_cons, List.sum_nil, g_cat_rf, Value.category]; decide)) rfl ?_
      by_cases c18 : x15 = 0
      · rw [if_pos c18] at hy
        refine g_if_neF (pc' := 47) d_Mod_label_44 53 c18 (by decide) rfl ?_
        refine g_aload_n 0 (i := 0) (pc' := 48) d_Mod_label_47 rfl rfl rfl ?_
        refine g_iconst (v := (2 : Int32)) (pc' := 49) d_Mod_label_48 (by decide) rfl ?_
        replace hy := g_bM_inv hy
        obtain ⟨x33, M34, hf35, hy⟩ := hy
        refine g_callV (rv := some (.int x33)) (h1 := (mH h0 a0 ad M34)) (pc' := 52) (As := [.int (2 : Int32)]) (rest := []) 1 (T_Mod_fail ok (hy := hf35)) d_Mod_label_49 (mH_look ok) rfl rfl q2061 q2063 qs31 q135 q2064 hd_Mod_fail rfl ⟨by decide, by decide⟩ (by first | exact Nat.le_of_ble_eq_true rfl | (simp only [List.map, List.sum_cons, List.sum_nil, g_cat_rf]; exact Nat.le_of_ble_eq_true rfl) | (simp only [List.map, List.sum_cons, List.sum_nil, g_cat_rf, Value.category]; decide)) rfl ?_
        cases hy
        exact g_iret rfl rfl rfl d_Mod_label_52
      · rw [if_neg c18] at hy
        refine g_if_neT (pc' := 53) d_Mod_label_44 c18 (by decide) ?_
        refine g_aload_n 0 (i := 0) (pc' := 54) d_Mod_label_53 rfl rfl rfl ?_
        refine g_iload_n 1 (i := 1) (pc' := 55) d_Mod_label_54 rfl rfl rfl ?_
        refine g_iload_n 2 (i := 2) (pc' := 56) d_Mod_label_55 rfl rfl rfl ?_
        replace hy := g_bM_inv hy
        obtain ⟨x19, M20, hf21, hy⟩ := hy
        refine g_callV (rv := some (.int x19)) (h1 := (mH h0 a0 ad M20)) (pc' := 59) (As := [.int p0, .int p1]) (rest := []) 2 (T_Mod_findHolder ok (hy := hf21)) d_Mod_label_56 (mH_look ok) rfl rfl q2210 q2212 qs58 q135 q2213 hd_Mod_findHolder rfl ⟨by decide, by decide⟩ (by first | exact Nat.le_of_ble_eq_true rfl | (simp only [List.map, List.sum_cons, List.sum_nil, g_cat_rf]; exact Nat.le_of_ble_eq_true rfl) | (simp only [List.map, List.sum_cons, List.sum_nil, g_cat_rf, Value.category]; decide)) rfl ?_
        by_cases c22 : x19 = 0
        · rw [if_pos c22] at hy
          refine g_if_neF (pc' := 62) d_Mod_label_59 64 c22 (by decide) rfl ?_
          refine g_iconst (v := (-1 : Int32)) (pc' := 63) d_Mod_label_62 (by decide) rfl ?_
          cases hy
          exact g_iret rfl rfl rfl d_Mod_label_63
        · rw [if_neg c22] at hy
          refine g_if_neT (pc' := 64) d_Mod_label_59 c22 (by decide) ?_
          refine g_aload_n 0 (i := 0) (pc' := 65) d_Mod_label_64 rfl rfl rfl ?_
          refine gm_getA ok 18 (pc' := 68) d_Mod_label_65 rfl q1983 rfl rfl ?_
          refine g_aload_n 0 (i := 0) (pc' := 69) d_Mod_label_68 rfl rfl rfl ?_
          refine gm_getA ok 19 (pc' := 72) d_Mod_label_69 rfl q1984 rfl rfl ?_
          replace hy := g_b_inv hy
          obtain ⟨x23, hf25, hy⟩ := hy
          refine g_callS (rv := some (.int x23)) (h1 := (mH h0 a0 ad M20)) (pc' := 75) (As := [.int (M20.2.1 18), .int (M20.2.1 19)]) (rest := []) 2 (T_Mod_wayPlace (hy := hf25)) d_Mod_label_72 q2179 q2180 q135 q2181 hd_Mod_wayPlace rfl ⟨by decide, by decide⟩ (by first | exact Nat.le_of_ble_eq_true rfl | (simp only [List.map, List.sum_cons, List.sum_nil, g_cat_rf]; exact Nat.le_of_ble_eq_true rfl) | (simp only [List.map, List.sum_cons, List.sum_nil, g_cat_rf, Value.category]; decide)) rfl ?_
          refine g_istore (pc' := 77) (Lc' := [(4, .int x23), (0, .ref a0), (1, .int p0), (2, .int p1), (3, .int p2)]) d_Mod_label_75 (by decide) rfl rfl ?_
          refine g_iload_n 4 (i := 3) (pc' := 78) d_Mod_label_77 rfl rfl rfl ?_
          by_cases c26 : p2 = 0
          · rw [if_pos c26] at hy
            refine g_if_neF (pc' := 81) d_Mod_label_78 98 c26 (by decide) rfl ?_
            refine g_aload_n 1 (i := 0) (pc' := 82) d_Mod_label_81 rfl rfl rfl ?_
            refine gm_getA ok 0 (pc' := 85) d_Mod_label_82 rfl q1965 rfl rfl ?_
            refine g_iload 0 (pc' := 87) d_Mod_label_85 rfl rfl ?_
            refine g_iconst (v := (1 : Int32)) (pc' := 88) d_Mod_label_87 (by decide) rfl ?_
            refine g_iadd (pc' := 89) d_Mod_label_88 rfl ?_
            refine g_aload_n 1 (i := 0) (pc' := 90) d_Mod_label_89 rfl rfl rfl ?_
            refine gm_getA ok 20 (pc' := 93) d_Mod_label_90 rfl q1985 rfl rfl ?_
            refine g_iadd (pc' := 94) d_Mod_label_93 rfl ?_
            replace hy := g_mA_inv hy
            obtain ⟨x31, hc32, hy⟩ := hy
            refine gm_ald0 ok (pc' := 95) d_Mod_label_94 hc32 rfl ?_
            refine g_goto (pc' := 137) d_Mod_label_95 (by decide) ?_
            cases hy
            exact g_iret rfl rfl rfl d_Mod_label_137
          · rw [if_neg c26] at hy
            refine g_if_neT (pc' := 98) d_Mod_label_78 c26 (by decide) ?_
            refine g_iload_n 4 (i := 3) (pc' := 99) d_Mod_label_98 rfl rfl rfl ?_
            refine g_iconst (v := (1 : Int32)) (pc' := 100) d_Mod_label_99 (by decide) rfl ?_
            by_cases c27 : p2 = (1 : Int32)
            · rw [if_pos c27] at hy
              refine g_icmp_neF (pc' := 103) d_Mod_label_100 110 c27 (by decide) rfl ?_
              refine g_aload_n 1 (i := 0) (pc' := 104) d_Mod_label_103 rfl rfl rfl ?_
              refine gm_getA ok 18 (pc' := 107) d_Mod_label_104 rfl q1983 rfl rfl ?_
              refine g_goto (pc' := 137) d_Mod_label_107 (by decide) ?_
              cases hy
              exact g_iret rfl rfl rfl d_Mod_label_137
            · rw [if_neg c27] at hy
              refine g_icmp_neT (pc' := 110) d_Mod_label_100 c27 (by decide) ?_
              refine g_iload_n 4 (i := 3) (pc' := 111) d_Mod_label_110 rfl rfl rfl ?_
              refine g_iconst (v := (2 : Int32)) (pc' := 112) d_Mod_label_111 (by decide) rfl ?_
              by_cases c28 : p2 = (2 : Int32)
              · rw [if_pos c28] at hy
                refine g_icmp_neF (pc' := 115) d_Mod_label_112 122 c28 (by decide) rfl ?_
                refine g_aload_n 1 (i := 0) (pc' := 116) d_Mod_label_115 rfl rfl rfl ?_
                refine gm_getA ok 19 (pc' := 119) d_Mod_label_116 rfl q1984 rfl rfl ?_
                refine g_goto (pc' := 137) d_Mod_label_119 (by decide) ?_
                cases hy
                exact g_iret rfl rfl rfl d_Mod_label_137
              · rw [if_neg c28] at hy
                refine g_icmp_neT (pc' := 122) d_Mod_label_112 c28 (by decide) ?_
                refine g_aload_n 1 (i := 0) (pc' := 123) d_Mod_label_122 rfl rfl rfl ?_
                refine gm_getA ok 0 (pc' := 126) d_Mod_label_123 rfl q1965 rfl rfl ?_
                refine g_iload 0 (pc' := 128) d_Mod_label_126 rfl rfl ?_
                refine g_bipush (v := (19 : Int32)) (pc' := 130) d_Mod_label_128 (by decide) rfl ?_
                refine g_iadd (pc' := 131) d_Mod_label_130 rfl ?_
                refine g_aload_n 1 (i := 0) (pc' := 132) d_Mod_label_131 rfl rfl rfl ?_
                refine gm_getA ok 20 (pc' := 135) d_Mod_label_132 rfl q1985 rfl rfl ?_
                refine g_iadd (pc' := 136) d_Mod_label_135 rfl ?_
                replace hy := g_mA_inv hy
                obtain ⟨x29, hc30, hy⟩ := hy
                refine gm_ald0 ok (pc' := 137) d_Mod_label_136 hc30 rfl ?_
                cases hy
                exact g_iret rfl rfl rfl d_Mod_label_137
theorem hd_Mod_label : g_dsc y_Mod_label 3 := ⟨by decide +kernel, by decide +kernel, by decide +kernel⟩
/-! CircuitDeskModel.packetsOn(I)I -/
abbrev y_Mod_packetsOn : MethodName := ⟨"CircuitDeskModel", "packetsOn", "(I)I"⟩
abbrev k_Mod_packetsOn : g_M := (prog_17_method_62_code, 4, "CircuitDeskModel", 13, (some FieldType.int), "packetsOn", [], 0)
theorem d_Mod_packetsOn_0 : decode prog_17_method_62_code 0 = .ok (.iconst 0, 1) := by decide +kernel
theorem d_Mod_packetsOn_1 : decode prog_17_method_62_code 1 = .ok (.istore_n 2, 1) := by decide +kernel
theorem d_Mod_packetsOn_2 : decode prog_17_method_62_code 2 = .ok (.iconst 0, 1) := by decide +kernel
theorem d_Mod_packetsOn_3 : decode prog_17_method_62_code 3 = .ok (.istore_n 3, 1) := by decide +kernel
theorem d_Mod_packetsOn_4 : decode prog_17_method_62_code 4 = .ok (.iload_n 3, 1) := by decide +kernel
theorem d_Mod_packetsOn_5 : decode prog_17_method_62_code 5 = .ok (.aload_n 0, 1) := by decide +kernel
theorem d_Mod_packetsOn_6 : decode prog_17_method_62_code 6 = .ok (.getfield 7, 3) := by decide +kernel
theorem d_Mod_packetsOn_9 : decode prog_17_method_62_code 9 = .ok (.bipush 6, 2) := by decide +kernel
theorem d_Mod_packetsOn_11 : decode prog_17_method_62_code 11 = .ok (.iaload, 1) := by decide +kernel
theorem d_Mod_packetsOn_12 : decode prog_17_method_62_code 12 = .ok (.if_icmp .ge 27, 3) := by decide +kernel
theorem d_Mod_packetsOn_15 : decode prog_17_method_62_code 15 = .ok (.iload_n 2, 1) := by decide +kernel
theorem d_Mod_packetsOn_16 : decode prog_17_method_62_code 16 = .ok (.aload_n 0, 1) := by decide +kernel
theorem d_Mod_packetsOn_17 : decode prog_17_method_62_code 17 = .ok (.iload_n 3, 1) := by decide +kernel
theorem d_Mod_packetsOn_18 : decode prog_17_method_62_code 18 = .ok (.iconst 2, 1) := by decide +kernel
theorem d_Mod_packetsOn_19 : decode prog_17_method_62_code 19 = .ok (.invokevirtual 217, 3) := by decide +kernel
theorem d_Mod_packetsOn_22 : decode prog_17_method_62_code 22 = .ok (.iload_n 1, 1) := by decide +kernel
theorem d_Mod_packetsOn_23 : decode prog_17_method_62_code 23 = .ok (.if_icmp .ne 7, 3) := by decide +kernel
theorem d_Mod_packetsOn_26 : decode prog_17_method_62_code 26 = .ok (.iconst 1, 1) := by decide +kernel
theorem d_Mod_packetsOn_27 : decode prog_17_method_62_code 27 = .ok (.goto 4, 3) := by decide +kernel
theorem d_Mod_packetsOn_30 : decode prog_17_method_62_code 30 = .ok (.iconst 0, 1) := by decide +kernel
theorem d_Mod_packetsOn_31 : decode prog_17_method_62_code 31 = .ok (.iadd, 1) := by decide +kernel
theorem d_Mod_packetsOn_32 : decode prog_17_method_62_code 32 = .ok (.istore_n 2, 1) := by decide +kernel
theorem d_Mod_packetsOn_33 : decode prog_17_method_62_code 33 = .ok (.iinc 3 1, 3) := by decide +kernel
theorem d_Mod_packetsOn_36 : decode prog_17_method_62_code 36 = .ok (.goto (-32), 3) := by decide +kernel
theorem d_Mod_packetsOn_39 : decode prog_17_method_62_code 39 = .ok (.iload_n 2, 1) := by decide +kernel
theorem d_Mod_packetsOn_40 : decode prog_17_method_62_code 40 = .ok (.ireturn, 1) := by decide +kernel
def Mod_packetsOn_31 (M : g_MD) (k4 : Int32 → Int32 → Int32 → Option (Int32)) (v1 : Int32) (v3 : Int32) (s0 : Int32) (s1 : Int32) : Option (Int32) :=
  k4 v1 (s1 + s0) (v3 + (1 : Int32))
set_option maxHeartbeats 4000000 in
set_option maxRecDepth 100000 in
theorem W_Mod_packetsOn_31 {X : g_X} {h0 : g_AH} {a0 : Nat} {ad : Nat → Nat} (ok : mOK a0 ad) (M : g_MD) (z : Int32) (k4 : Int32 → Int32 → Int32 → Option (Int32)) (hk4 : ∀ (v1 : Int32) (v2 : Int32) (v3 : Int32), k4 v1 v2 v3 = some z → G X k_Mod_packetsOn (.inl (some (.int z))) (mH h0 a0 ad M) (mH h0 a0 ad M) 4 [(0, .ref a0), (1, .int v1), (2, .int v2), (3, .int v3)] []) (v1 : Int32) (v3 : Int32) (s0 : Int32) (s1 : Int32) (hy : Mod_packetsOn_31 M k4 v1 v3 s0 s1 = some z) : G X k_Mod_packetsOn (.inl (some (.int z))) (mH h0 a0 ad M) (mH h0 a0 ad M) 31 [(0, .ref a0), (1, .int v1), (3, .int v3)] [.int s0, .int s1] := by
  unfold Mod_packetsOn_31 at hy
  refine g_iadd (pc' := 32) d_Mod_packetsOn_31 rfl ?_
  refine g_istore_n (i := 2) (pc' := 33) (Lc' := [(2, .int (s1 + s0)), (0, .ref a0), (1, .int v1), (3, .int v3)]) d_Mod_packetsOn_32 rfl (by decide) rfl rfl ?_
  refine g_iinc 3 (v := (v3 + (1 : Int32))) (pc' := 36) (Lc' := [(3, .int (v3 + (1 : Int32))), (2, .int (s1 + s0)), (0, .ref a0), (1, .int v1)]) d_Mod_packetsOn_33 rfl rfl (by decide) rfl rfl ?_
  refine g_goto (pc' := 4) d_Mod_packetsOn_36 (by decide) ?_
  refine g_sub [2, 3, 1, 0] rfl ?_
  exact hk4 _ _ _ hy
def Mod_packetsOn_4 (M : g_MD)  : Nat → Int32 → Int32 → Int32 → Option (Int32)
  | 0, _, _, _ => none
  | n + 1, v1, v2, v3 => g_mA M 0 0 (6 : Int32) fun x1 => if x1 ≤ v3 then (some v2) else (g_b (Mod_ofPacket M v3 (2 : Int32)) fun x4 => if x4 = v1 then (Mod_packetsOn_31 M (Mod_packetsOn_4 M  n) v1 v3 (1 : Int32) v2) else (Mod_packetsOn_31 M (Mod_packetsOn_4 M  n) v1 v3 (0 : Int32) v2))
set_option maxHeartbeats 4000000 in
set_option maxRecDepth 100000 in
theorem W_Mod_packetsOn_4 {X : g_X} {h0 : g_AH} {a0 : Nat} {ad : Nat → Nat} (ok : mOK a0 ad) (M : g_MD) (z : Int32)  : ∀ (n : Nat) (v1 : Int32) (v2 : Int32) (v3 : Int32), Mod_packetsOn_4 M  n v1 v2 v3 = some z → G X k_Mod_packetsOn (.inl (some (.int z))) (mH h0 a0 ad M) (mH h0 a0 ad M) 4 [(0, .ref a0), (1, .int v1), (2, .int v2), (3, .int v3)] [] := by
  intro n
  induction n with
  | zero => intro v1 v2 v3 hy; exact absurd hy (by simp [Mod_packetsOn_4])
  | succ n ih =>
    intro v1 v2 v3 hy
    rw [Mod_packetsOn_4] at hy
    refine g_iload_n 3 (i := 3) (pc' := 5) d_Mod_packetsOn_4 rfl rfl rfl ?_
    refine g_aload_n 0 (i := 0) (pc' := 6) d_Mod_packetsOn_5 rfl rfl rfl ?_
    refine gm_getA ok 0 (pc' := 9) d_Mod_packetsOn_6 rfl q1965 rfl rfl ?_
    refine g_bipush (v := (6 : Int32)) (pc' := 11) d_Mod_packetsOn_9 (by decide) rfl ?_
    replace hy := g_mA_inv hy
    obtain ⟨x1, hc2, hy⟩ := hy
    refine gm_ald0 ok (pc' := 12) d_Mod_packetsOn_11 hc2 rfl ?_
    by_cases c3 : x1 ≤ v3
    · rw [if_pos c3] at hy
      refine g_icmp_geT (pc' := 39) d_Mod_packetsOn_12 c3 (by decide) ?_
      refine g_iload_n 2 (i := 2) (pc' := 40) d_Mod_packetsOn_39 rfl rfl rfl ?_
      cases hy
      exact g_iret rfl rfl rfl d_Mod_packetsOn_40
    · rw [if_neg c3] at hy
      refine g_icmp_geF (pc' := 15) d_Mod_packetsOn_12 39 c3 (by decide) rfl ?_
      refine g_iload_n 2 (i := 2) (pc' := 16) d_Mod_packetsOn_15 rfl rfl rfl ?_
      refine g_aload_n 0 (i := 0) (pc' := 17) d_Mod_packetsOn_16 rfl rfl rfl ?_
      refine g_iload_n 3 (i := 3) (pc' := 18) d_Mod_packetsOn_17 rfl rfl rfl ?_
      refine g_iconst (v := (2 : Int32)) (pc' := 19) d_Mod_packetsOn_18 (by decide) rfl ?_
      replace hy := g_b_inv hy
      obtain ⟨x4, hf6, hy⟩ := hy
      refine g_callV (rv := some (.int x4)) (h1 := (mH h0 a0 ad M)) (pc' := 22) (As := [.int v3, .int (2 : Int32)]) (rest := [.int v2]) 2 (T_Mod_ofPacket ok (hy := hf6)) d_Mod_packetsOn_19 (mH_look ok) rfl rfl q2263 q2265 qs66 q135 q2266 hd_Mod_ofPacket rfl ⟨by decide, by decide⟩ (by first | exact Nat.le_of_ble_eq_true rfl | (simp only [List.map, List.sum_cons, List.sum_nil, g_cat_rf]; exact Nat.le_of_ble_eq_true rfl) | (simp only [List.map, List.sum_cons, List.sum_nil, g_cat_rf, Value.category]; decide)) rfl ?_
      refine g_iload_n 1 (i := 1) (pc' := 23) d_Mod_packetsOn_22 rfl rfl rfl ?_
      by_cases c7 : x4 = v1
      · rw [if_pos c7] at hy
        refine g_icmp_neF (pc' := 26) d_Mod_packetsOn_23 30 c7 (by decide) rfl ?_
        refine g_iconst (v := (1 : Int32)) (pc' := 27) d_Mod_packetsOn_26 (by decide) rfl ?_
        refine g_goto (pc' := 31) d_Mod_packetsOn_27 (by decide) ?_
        refine g_sub [0, 1, 3] rfl ?_
        exact W_Mod_packetsOn_31 ok _ _ _ ih _ _ _ _ hy
      · rw [if_neg c7] at hy
        refine g_icmp_neT (pc' := 30) d_Mod_packetsOn_23 c7 (by decide) ?_
        refine g_iconst (v := (0 : Int32)) (pc' := 31) d_Mod_packetsOn_30 (by decide) rfl ?_
        refine g_sub [0, 1, 3] rfl ?_
        exact W_Mod_packetsOn_31 ok _ _ _ ih _ _ _ _ hy
def Mod_packetsOn (M : g_MD) (p0 : Int32) : Option (Int32) :=
  Mod_packetsOn_4 M  gFU p0 (0 : Int32) (0 : Int32)
set_option maxHeartbeats 4000000 in
set_option maxRecDepth 100000 in
theorem T_Mod_packetsOn {l : Launch} {B : g_B} {h0 : g_AH} {a0 : Nat} {ad : Nat → Nat} (ok : mOK a0 ad) (M : g_MD) (p0 : Int32) (z : Int32) (hy : Mod_packetsOn M p0 = some z) : g_CT l B y_Mod_packetsOn k_Mod_packetsOn [.ref a0, .int p0] (mH h0 a0 ad M) (.inl (some (.int z))) (mH h0 a0 ad M) := by
  refine g_start2 (Lc := [(0, .ref a0), (1, .int p0)]) (by decide) rfl rfl (by exact Nat.le_of_ble_eq_true rfl) (by rfl) fun X => ?_
  unfold Mod_packetsOn at hy
  refine g_iconst (v := (0 : Int32)) (pc' := 1) d_Mod_packetsOn_0 (by decide) rfl ?_
  refine g_istore_n (i := 2) (pc' := 2) (Lc' := [(2, .int (0 : Int32)), (0, .ref a0), (1, .int p0)]) d_Mod_packetsOn_1 rfl (by decide) rfl rfl ?_
  refine g_iconst (v := (0 : Int32)) (pc' := 3) d_Mod_packetsOn_2 (by decide) rfl ?_
  refine g_istore_n (i := 3) (pc' := 4) (Lc' := [(3, .int (0 : Int32)), (2, .int (0 : Int32)), (0, .ref a0), (1, .int p0)]) d_Mod_packetsOn_3 rfl (by decide) rfl rfl ?_
  refine g_sub [2, 3, 1, 0] rfl ?_
  exact W_Mod_packetsOn_4 ok _ _ _ _ _ _ hy
theorem hd_Mod_packetsOn : g_dsc y_Mod_packetsOn 1 := ⟨by decide +kernel, by decide +kernel, by decide +kernel⟩
/-! CircuitDeskModel.link(II)I -/
abbrev y_Mod_link : MethodName := ⟨"CircuitDeskModel", "link", "(II)I"⟩
abbrev k_Mod_link : g_M := (prog_17_method_63_code, 3, "CircuitDeskModel", 16, (some FieldType.int), "link", [], 0)
theorem d_Mod_link_0 : decode prog_17_method_63_code 0 = .ok (.aload_n 0, 1) := by decide +kernel
theorem d_Mod_link_1 : decode prog_17_method_63_code 1 = .ok (.iconst 0, 1) := by decide +kernel
theorem d_Mod_link_2 : decode prog_17_method_63_code 2 = .ok (.putfield 51, 3) := by decide +kernel
theorem d_Mod_link_5 : decode prog_17_method_63_code 5 = .ok (.aload_n 0, 1) := by decide +kernel
theorem d_Mod_link_6 : decode prog_17_method_63_code 6 = .ok (.iload_n 1, 1) := by decide +kernel
theorem d_Mod_link_7 : decode prog_17_method_63_code 7 = .ok (.invokevirtual 214, 3) := by decide +kernel
theorem d_Mod_link_10 : decode prog_17_method_63_code 10 = .ok (.ifCond .ne 9, 3) := by decide +kernel
theorem d_Mod_link_13 : decode prog_17_method_63_code 13 = .ok (.aload_n 0, 1) := by decide +kernel
theorem d_Mod_link_14 : decode prog_17_method_63_code 14 = .ok (.iconst 1, 1) := by decide +kernel
theorem d_Mod_link_15 : decode prog_17_method_63_code 15 = .ok (.invokevirtual 61, 3) := by decide +kernel
theorem d_Mod_link_18 : decode prog_17_method_63_code 18 = .ok (.ireturn, 1) := by decide +kernel
theorem d_Mod_link_19 : decode prog_17_method_63_code 19 = .ok (.iload_n 2, 1) := by decide +kernel
theorem d_Mod_link_20 : decode prog_17_method_63_code 20 = .ok (.lookupswitch 41 #[(5, 28), (6, 35)], 28) := by decide +kernel
theorem d_Mod_link_48 : decode prog_17_method_63_code 48 = .ok (.aload_n 0, 1) := by decide +kernel
theorem d_Mod_link_49 : decode prog_17_method_63_code 49 = .ok (.iload_n 1, 1) := by decide +kernel
theorem d_Mod_link_50 : decode prog_17_method_63_code 50 = .ok (.iconst (-1), 1) := by decide +kernel
theorem d_Mod_link_51 : decode prog_17_method_63_code 51 = .ok (.invokevirtual 211, 3) := by decide +kernel
theorem d_Mod_link_54 : decode prog_17_method_63_code 54 = .ok (.ireturn, 1) := by decide +kernel
theorem d_Mod_link_55 : decode prog_17_method_63_code 55 = .ok (.aload_n 0, 1) := by decide +kernel
theorem d_Mod_link_56 : decode prog_17_method_63_code 56 = .ok (.iload_n 1, 1) := by decide +kernel
theorem d_Mod_link_57 : decode prog_17_method_63_code 57 = .ok (.invokevirtual 259, 3) := by decide +kernel
theorem d_Mod_link_60 : decode prog_17_method_63_code 60 = .ok (.ireturn, 1) := by decide +kernel
theorem d_Mod_link_61 : decode prog_17_method_63_code 61 = .ok (.iload_n 2, 1) := by decide +kernel
theorem d_Mod_link_62 : decode prog_17_method_63_code 62 = .ok (.iconst 0, 1) := by decide +kernel
theorem d_Mod_link_63 : decode prog_17_method_63_code 63 = .ok (.iconst 4, 1) := by decide +kernel
theorem d_Mod_link_64 : decode prog_17_method_63_code 64 = .ok (.invokestatic 54, 3) := by decide +kernel
theorem d_Mod_link_67 : decode prog_17_method_63_code 67 = .ok (.ifCond .eq 12, 3) := by decide +kernel
theorem d_Mod_link_70 : decode prog_17_method_63_code 70 = .ok (.aload_n 0, 1) := by decide +kernel
theorem d_Mod_link_71 : decode prog_17_method_63_code 71 = .ok (.iload_n 1, 1) := by decide +kernel
theorem d_Mod_link_72 : decode prog_17_method_63_code 72 = .ok (.iload_n 2, 1) := by decide +kernel
theorem d_Mod_link_73 : decode prog_17_method_63_code 73 = .ok (.invokevirtual 201, 3) := by decide +kernel
theorem d_Mod_link_76 : decode prog_17_method_63_code 76 = .ok (.goto 8, 3) := by decide +kernel
theorem d_Mod_link_79 : decode prog_17_method_63_code 79 = .ok (.aload_n 0, 1) := by decide +kernel
theorem d_Mod_link_80 : decode prog_17_method_63_code 80 = .ok (.iconst 2, 1) := by decide +kernel
theorem d_Mod_link_81 : decode prog_17_method_63_code 81 = .ok (.invokevirtual 61, 3) := by decide +kernel
theorem d_Mod_link_84 : decode prog_17_method_63_code 84 = .ok (.ireturn, 1) := by decide +kernel
def Mod_link (M : g_MD) (p0 : Int32) (p1 : Int32) : Option (Int32 × g_MD) :=
  g_let (mp M 7 (0 : Int32)) fun M1 => g_b (Mod_isLink M1 p0) fun x2 => if x2 = 0 then (g_bM (Mod_fail M1 (1 : Int32)) fun x24 M25 => some (x24, M25)) else (if p1 = (5 : Int32) then (g_b (Mod_reserved M1 p0 (-1 : Int32)) fun x7 => some (x7, M1)) else (if p1 = (6 : Int32) then (g_b (Mod_packetsOn M1 p0) fun x11 => some (x11, M1)) else (g_b (Mod_isBetween p1 (0 : Int32) (4 : Int32)) fun x14 => if x14 = 0 then (g_bM (Mod_fail M1 (2 : Int32)) fun x18 M19 => some (x18, M19)) else (g_b (Mod_ofLink M1 p0 p1) fun x21 => some (x21, M1)))))
set_option maxHeartbeats 4000000 in
set_option maxRecDepth 100000 in
theorem T_Mod_link {l : Launch} {B : g_B} {h0 : g_AH} {a0 : Nat} {ad : Nat → Nat} (ok : mOK a0 ad) (M : g_MD) (p0 : Int32) (p1 : Int32) (z : Int32 × g_MD) (hy : Mod_link M p0 p1 = some z) : g_CT l B y_Mod_link k_Mod_link [.ref a0, .int p0, .int p1] (mH h0 a0 ad M) (.inl (some (.int z.1))) (mH h0 a0 ad z.2) := by
  refine g_start2 (Lc := [(0, .ref a0), (1, .int p0), (2, .int p1)]) (by decide) rfl rfl (by exact Nat.le_of_ble_eq_true rfl) (by rfl) fun X => ?_
  unfold Mod_link at hy
  refine g_aload_n 0 (i := 0) (pc' := 1) d_Mod_link_0 rfl rfl rfl ?_
  refine g_iconst (v := (0 : Int32)) (pc' := 2) d_Mod_link_1 (by decide) rfl ?_
  replace hy := g_let_inv hy
  refine gm_put ok 7 (pc' := 5) d_Mod_link_2 rfl (by decide) q1972 rfl ?_
  generalize (mp M 7 (0 : Int32)) = M1 at hy ⊢
  refine g_aload_n 0 (i := 0) (pc' := 6) d_Mod_link_5 rfl rfl rfl ?_
  refine g_iload_n 1 (i := 1) (pc' := 7) d_Mod_link_6 rfl rfl rfl ?_
  replace hy := g_b_inv hy
  obtain ⟨x2, hf4, hy⟩ := hy
  refine g_callV (rv := some (.int x2)) (h1 := (mH h0 a0 ad M1)) (pc' := 10) (As := [.int p0]) (rest := []) 1 (T_Mod_isLink ok (hy := hf4)) d_Mod_link_7 (mH_look ok) rfl rfl q2259 q2261 qs65 q135 q2262 hd_Mod_isLink rfl ⟨by decide, by decide⟩ (by first | exact Nat.le_of_ble_eq_true rfl | (simp only [List.map, List.sum_cons, List.sum_nil, g_cat_rf]; exact Nat.le_of_ble_eq_true rfl) | (simp only [List.map, List.sum_cons, List.sum_nil, g_cat_rf, Value.category]; decide)) rfl ?_
  by_cases c5 : x2 = 0
  · rw [if_pos c5] at hy
    refine g_if_neF (pc' := 13) d_Mod_link_10 19 c5 (by decide) rfl ?_
    refine g_aload_n 0 (i := 0) (pc' := 14) d_Mod_link_13 rfl rfl rfl ?_
    refine g_iconst (v := (1 : Int32)) (pc' := 15) d_Mod_link_14 (by decide) rfl ?_
    replace hy := g_bM_inv hy
    obtain ⟨x24, M25, hf26, hy⟩ := hy
    refine g_callV (rv := some (.int x24)) (h1 := (mH h0 a0 ad M25)) (pc' := 18) (As := [.int (1 : Int32)]) (rest := []) 1 (T_Mod_fail ok (hy := hf26)) d_Mod_link_15 (mH_look ok) rfl rfl q2061 q2063 qs31 q135 q2064 hd_Mod_fail rfl ⟨by decide, by decide⟩ (by first | exact Nat.le_of_ble_eq_true rfl | (simp only [List.map, List.sum_cons, List.sum_nil, g_cat_rf]; exact Nat.le_of_ble_eq_true rfl) | (simp only [List.map, List.sum_cons, List.sum_nil, g_cat_rf, Value.category]; decide)) rfl ?_
    cases hy
    exact g_iret rfl rfl rfl d_Mod_link_18
  · rw [if_neg c5] at hy
    refine g_if_neT (pc' := 19) d_Mod_link_10 c5 (by decide) ?_
    refine g_iload_n 2 (i := 2) (pc' := 20) d_Mod_link_19 rfl rfl rfl ?_
    by_cases c6 : p1 = (5 : Int32)
    · rw [if_pos c6] at hy
      refine g_lookup (off := 28) (pc' := 48) d_Mod_link_20 (by decide) (by rw [c6]; decide) (by decide) ?_
      refine g_aload_n 0 (i := 0) (pc' := 49) d_Mod_link_48 rfl rfl rfl ?_
      refine g_iload_n 1 (i := 1) (pc' := 50) d_Mod_link_49 rfl rfl rfl ?_
      refine g_iconst (v := (-1 : Int32)) (pc' := 51) d_Mod_link_50 (by decide) rfl ?_
      replace hy := g_b_inv hy
      obtain ⟨x7, hf9, hy⟩ := hy
      refine g_callV (rv := some (.int x7)) (h1 := (mH h0 a0 ad M1)) (pc' := 54) (As := [.int p0, .int (-1 : Int32)]) (rest := []) 2 (T_Mod_reserved ok (hy := hf9)) d_Mod_link_51 (mH_look ok) rfl rfl q2194 q2196 qs54 q135 q2197 hd_Mod_reserved rfl ⟨by decide, by decide⟩ (by first | exact Nat.le_of_ble_eq_true rfl | (simp only [List.map, List.sum_cons, List.sum_nil, g_cat_rf]; exact Nat.le_of_ble_eq_true rfl) | (simp only [List.map, List.sum_cons, List.sum_nil, g_cat_rf, Value.category]; decide)) rfl ?_
      cases hy
      exact g_iret rfl rfl rfl d_Mod_link_54
    · rw [if_neg c6] at hy
      by_cases c10 : p1 = (6 : Int32)
      · rw [if_pos c10] at hy
        refine g_lookup (off := 35) (pc' := 55) d_Mod_link_20 (by decide) (by rw [c10]; decide) (by decide) ?_
        refine g_aload_n 0 (i := 0) (pc' := 56) d_Mod_link_55 rfl rfl rfl ?_
        refine g_iload_n 1 (i := 1) (pc' := 57) d_Mod_link_56 rfl rfl rfl ?_
        replace hy := g_b_inv hy
        obtain ⟨x11, hf13, hy⟩ := hy
        refine g_callV (rv := some (.int x11)) (h1 := (mH h0 a0 ad M1)) (pc' := 60) (As := [.int p0]) (rest := []) 1 (T_Mod_packetsOn ok (hy := hf13)) d_Mod_link_57 (mH_look ok) rfl rfl q2311 q2313 qs73 q135 q2314 hd_Mod_packetsOn rfl ⟨by decide, by decide⟩ (by first | exact Nat.le_of_ble_eq_true rfl | (simp only [List.map, List.sum_cons, List.sum_nil, g_cat_rf]; exact Nat.le_of_ble_eq_true rfl) | (simp only [List.map, List.sum_cons, List.sum_nil, g_cat_rf, Value.category]; decide)) rfl ?_
        cases hy
        exact g_iret rfl rfl rfl d_Mod_link_60
      · rw [if_neg c10] at hy
        have c6 := g_neI (n := 5) (by decide) c6
        have c10 := g_neI (n := 6) (by decide) c10
        refine g_lookup (off := 41) (pc' := 61) d_Mod_link_20 (by decide) (by simp [Op.lookupswitch.offset, Ne.symm c6, Ne.symm c10]) (by decide) ?_
        refine g_iload_n 2 (i := 2) (pc' := 62) d_Mod_link_61 rfl rfl rfl ?_
        refine g_iconst (v := (0 : Int32)) (pc' := 63) d_Mod_link_62 (by decide) rfl ?_
        refine g_iconst (v := (4 : Int32)) (pc' := 64) d_Mod_link_63 (by decide) rfl ?_
        replace hy := g_b_inv hy
        obtain ⟨x14, hf16, hy⟩ := hy
        refine g_callS (rv := some (.int x14)) (h1 := (mH h0 a0 ad M1)) (pc' := 67) (As := [.int p1, .int (0 : Int32), .int (4 : Int32)]) (rest := []) 3 (T_Mod_isBetween (hy := hf16)) d_Mod_link_64 q2069 q2070 q135 q2071 hd_Mod_isBetween rfl ⟨by decide, by decide⟩ (by first | exact Nat.le_of_ble_eq_true rfl | (simp only [List.map, List.sum_cons, List.sum_nil, g_cat_rf]; exact Nat.le_of_ble_eq_true rfl) | (simp only [List.map, List.sum_cons, List.sum_nil, g_cat_rf, Value.category]; decide)) rfl ?_
        by_cases c17 : x14 = 0
        · rw [if_pos c17] at hy
          refine g_if_eqT (pc' := 79) d_Mod_link_67 c17 (by decide) ?_
          refine g_aload_n 0 (i := 0) (pc' := 80) d_Mod_link_79 rfl rfl rfl ?_
          refine g_iconst (v := (2 : Int32)) (pc' := 81) d_Mod_link_80 (by decide) rfl ?_
          replace hy := g_bM_inv hy
          obtain ⟨x18, M19, hf20, hy⟩ := hy
          refine g_callV (rv := some (.int x18)) (h1 := (mH h0 a0 ad M19)) (pc' := 84) (As := [.int (2 : Int32)]) (rest := []) 1 (T_Mod_fail ok (hy := hf20)) d_Mod_link_81 (mH_look ok) rfl rfl q2061 q2063 qs31 q135 q2064 hd_Mod_fail rfl ⟨by decide, by decide⟩ (by first | exact Nat.le_of_ble_eq_true rfl | (simp only [List.map, List.sum_cons, List.sum_nil, g_cat_rf]; exact Nat.le_of_ble_eq_true rfl) | (simp only [List.map, List.sum_cons, List.sum_nil, g_cat_rf, Value.category]; decide)) rfl ?_
          cases hy
          exact g_iret rfl rfl rfl d_Mod_link_84
        · rw [if_neg c17] at hy
          refine g_if_eqF (pc' := 70) d_Mod_link_67 79 c17 (by decide) rfl ?_
          refine g_aload_n 0 (i := 0) (pc' := 71) d_Mod_link_70 rfl rfl rfl ?_
          refine g_iload_n 1 (i := 1) (pc' := 72) d_Mod_link_71 rfl rfl rfl ?_
          refine g_iload_n 2 (i := 2) (pc' := 73) d_Mod_link_72 rfl rfl rfl ?_
          replace hy := g_b_inv hy
          obtain ⟨x21, hf23, hy⟩ := hy
          refine g_callV (rv := some (.int x21)) (h1 := (mH h0 a0 ad M1)) (pc' := 76) (As := [.int p0, .int p1]) (rest := []) 2 (T_Mod_ofLink ok (hy := hf23)) d_Mod_link_73 (mH_look ok) rfl rfl q2154 q2156 qs45 q135 q2157 hd_Mod_ofLink rfl ⟨by decide, by decide⟩ (by first | exact Nat.le_of_ble_eq_true rfl | (simp only [List.map, List.sum_cons, List.sum_nil, g_cat_rf]; exact Nat.le_of_ble_eq_true rfl) | (simp only [List.map, List.sum_cons, List.sum_nil, g_cat_rf, Value.category]; decide)) rfl ?_
          refine g_goto (pc' := 84) d_Mod_link_76 (by decide) ?_
          cases hy
          exact g_iret rfl rfl rfl d_Mod_link_84
theorem hd_Mod_link : g_dsc y_Mod_link 2 := ⟨by decide +kernel, by decide +kernel, by decide +kernel⟩
/-! CircuitDeskModel.isInDraft(I)Z -/
abbrev y_Mod_isInDraft : MethodName := ⟨"CircuitDeskModel", "isInDraft", "(I)Z"⟩
abbrev k_Mod_isInDraft : g_M := (prog_17_method_64_code, 3, "CircuitDeskModel", 12, (some FieldType.boolean), "isInDraft", [], 0)
theorem d_Mod_isInDraft_0 : decode prog_17_method_64_code 0 = .ok (.iconst 0, 1) := by decide +kernel
theorem d_Mod_isInDraft_1 : decode prog_17_method_64_code 1 = .ok (.istore_n 2, 1) := by decide +kernel
theorem d_Mod_isInDraft_2 : decode prog_17_method_64_code 2 = .ok (.iload_n 2, 1) := by decide +kernel
theorem d_Mod_isInDraft_3 : decode prog_17_method_64_code 3 = .ok (.aload_n 0, 1) := by decide +kernel
theorem d_Mod_isInDraft_4 : decode prog_17_method_64_code 4 = .ok (.getfield 198, 3) := by decide +kernel
theorem d_Mod_isInDraft_7 : decode prog_17_method_64_code 7 = .ok (.if_icmp .ge 21, 3) := by decide +kernel
theorem d_Mod_isInDraft_10 : decode prog_17_method_64_code 10 = .ok (.aload_n 0, 1) := by decide +kernel
theorem d_Mod_isInDraft_11 : decode prog_17_method_64_code 11 = .ok (.getfield 26, 3) := by decide +kernel
theorem d_Mod_isInDraft_14 : decode prog_17_method_64_code 14 = .ok (.iload_n 2, 1) := by decide +kernel
theorem d_Mod_isInDraft_15 : decode prog_17_method_64_code 15 = .ok (.iaload, 1) := by decide +kernel
theorem d_Mod_isInDraft_16 : decode prog_17_method_64_code 16 = .ok (.iload_n 1, 1) := by decide +kernel
theorem d_Mod_isInDraft_17 : decode prog_17_method_64_code 17 = .ok (.if_icmp .ne 5, 3) := by decide +kernel
theorem d_Mod_isInDraft_20 : decode prog_17_method_64_code 20 = .ok (.iconst 1, 1) := by decide +kernel
theorem d_Mod_isInDraft_21 : decode prog_17_method_64_code 21 = .ok (.ireturn, 1) := by decide +kernel
theorem d_Mod_isInDraft_22 : decode prog_17_method_64_code 22 = .ok (.iinc 2 1, 3) := by decide +kernel
theorem d_Mod_isInDraft_25 : decode prog_17_method_64_code 25 = .ok (.goto (-23), 3) := by decide +kernel
theorem d_Mod_isInDraft_28 : decode prog_17_method_64_code 28 = .ok (.iconst 0, 1) := by decide +kernel
theorem d_Mod_isInDraft_29 : decode prog_17_method_64_code 29 = .ok (.ireturn, 1) := by decide +kernel
def Mod_isInDraft_2 (M : g_MD)  : Nat → Int32 → Int32 → Option (Int32)
  | 0, _, _ => none
  | n + 1, v1, v2 => if (M.2.1 6) ≤ v2 then (some (0 : Int32)) else (g_mA M 0 5 v2 fun x3 => if x3 = v1 then (some (1 : Int32)) else ((Mod_isInDraft_2 M  n) v1 (v2 + (1 : Int32))))
set_option maxHeartbeats 4000000 in
set_option maxRecDepth 100000 in
theorem W_Mod_isInDraft_2 {X : g_X} {h0 : g_AH} {a0 : Nat} {ad : Nat → Nat} (ok : mOK a0 ad) (M : g_MD) (z : Int32)  : ∀ (n : Nat) (v1 : Int32) (v2 : Int32), Mod_isInDraft_2 M  n v1 v2 = some z → G X k_Mod_isInDraft (.inl (some (.int z))) (mH h0 a0 ad M) (mH h0 a0 ad M) 2 [(0, .ref a0), (1, .int v1), (2, .int v2)] [] := by
  intro n
  induction n with
  | zero => intro v1 v2 hy; exact absurd hy (by simp [Mod_isInDraft_2])
  | succ n ih =>
    intro v1 v2 hy
    rw [Mod_isInDraft_2] at hy
    refine g_iload_n 2 (i := 2) (pc' := 3) d_Mod_isInDraft_2 rfl rfl rfl ?_
    refine g_aload_n 0 (i := 0) (pc' := 4) d_Mod_isInDraft_3 rfl rfl rfl ?_
    refine gm_getA ok 6 (pc' := 7) d_Mod_isInDraft_4 rfl q1971 rfl rfl ?_
    by_cases c1 : (M.2.1 6) ≤ v2
    · rw [if_pos c1] at hy
      refine g_icmp_geT (pc' := 28) d_Mod_isInDraft_7 c1 (by decide) ?_
      refine g_iconst (v := (0 : Int32)) (pc' := 29) d_Mod_isInDraft_28 (by decide) rfl ?_
      cases hy
      exact g_zret rfl rfl rfl (g_nar_z (Or.inl rfl)).1 d_Mod_isInDraft_29
    · rw [if_neg c1] at hy
      refine g_icmp_geF (pc' := 10) d_Mod_isInDraft_7 28 c1 (by decide) rfl ?_
      refine g_aload_n 0 (i := 0) (pc' := 11) d_Mod_isInDraft_10 rfl rfl rfl ?_
      refine gm_getA ok 5 (pc' := 14) d_Mod_isInDraft_11 rfl q1970 rfl rfl ?_
      refine g_iload_n 2 (i := 2) (pc' := 15) d_Mod_isInDraft_14 rfl rfl rfl ?_
      replace hy := g_mA_inv hy
      obtain ⟨x3, hc4, hy⟩ := hy
      refine gm_ald0 ok (pc' := 16) d_Mod_isInDraft_15 hc4 rfl ?_
      refine g_iload_n 1 (i := 1) (pc' := 17) d_Mod_isInDraft_16 rfl rfl rfl ?_
      by_cases c5 : x3 = v1
      · rw [if_pos c5] at hy
        refine g_icmp_neF (pc' := 20) d_Mod_isInDraft_17 22 c5 (by decide) rfl ?_
        refine g_iconst (v := (1 : Int32)) (pc' := 21) d_Mod_isInDraft_20 (by decide) rfl ?_
        cases hy
        exact g_zret rfl rfl rfl (g_nar_z (Or.inr rfl)).1 d_Mod_isInDraft_21
      · rw [if_neg c5] at hy
        refine g_icmp_neT (pc' := 22) d_Mod_isInDraft_17 c5 (by decide) ?_
        refine g_iinc 2 (v := (v2 + (1 : Int32))) (pc' := 25) (Lc' := [(2, .int (v2 + (1 : Int32))), (0, .ref a0), (1, .int v1)]) d_Mod_isInDraft_22 rfl rfl (by decide) rfl rfl ?_
        refine g_goto (pc' := 2) d_Mod_isInDraft_25 (by decide) ?_
        refine g_sub [1, 2, 0] rfl ?_
        exact ih _ _ hy
def Mod_isInDraft (M : g_MD) (p0 : Int32) : Option (Int32) :=
  Mod_isInDraft_2 M  gFU p0 (0 : Int32)
set_option maxHeartbeats 4000000 in
set_option maxRecDepth 100000 in
theorem T_Mod_isInDraft {l : Launch} {B : g_B} {h0 : g_AH} {a0 : Nat} {ad : Nat → Nat} (ok : mOK a0 ad) (M : g_MD) (p0 : Int32) (z : Int32) (hy : Mod_isInDraft M p0 = some z) : g_CT l B y_Mod_isInDraft k_Mod_isInDraft [.ref a0, .int p0] (mH h0 a0 ad M) (.inl (some (.int z))) (mH h0 a0 ad M) := by
  refine g_start2 (Lc := [(0, .ref a0), (1, .int p0)]) (by decide) rfl rfl (by exact Nat.le_of_ble_eq_true rfl) (by rfl) fun X => ?_
  unfold Mod_isInDraft at hy
  refine g_iconst (v := (0 : Int32)) (pc' := 1) d_Mod_isInDraft_0 (by decide) rfl ?_
  refine g_istore_n (i := 2) (pc' := 2) (Lc' := [(2, .int (0 : Int32)), (0, .ref a0), (1, .int p0)]) d_Mod_isInDraft_1 rfl (by decide) rfl rfl ?_
  refine g_sub [1, 2, 0] rfl ?_
  exact W_Mod_isInDraft_2 ok _ _ _ _ _ hy
theorem hd_Mod_isInDraft : g_dsc y_Mod_isInDraft 1 := ⟨by decide +kernel, by decide +kernel, by decide +kernel⟩
/-! CircuitDeskModel.draft(I)I -/
abbrev y_Mod_draft : MethodName := ⟨"CircuitDeskModel", "draft", "(I)I"⟩
abbrev k_Mod_draft : g_M := (prog_17_method_65_code, 2, "CircuitDeskModel", 14, (some FieldType.int), "draft", [], 0)
theorem d_Mod_draft_0 : decode prog_17_method_65_code 0 = .ok (.aload_n 0, 1) := by decide +kernel
theorem d_Mod_draft_1 : decode prog_17_method_65_code 1 = .ok (.iconst 0, 1) := by decide +kernel
theorem d_Mod_draft_2 : decode prog_17_method_65_code 2 = .ok (.putfield 51, 3) := by decide +kernel
theorem d_Mod_draft_5 : decode prog_17_method_65_code 5 = .ok (.aload_n 0, 1) := by decide +kernel
theorem d_Mod_draft_6 : decode prog_17_method_65_code 6 = .ok (.iload_n 1, 1) := by decide +kernel
theorem d_Mod_draft_7 : decode prog_17_method_65_code 7 = .ok (.invokevirtual 204, 3) := by decide +kernel
theorem d_Mod_draft_10 : decode prog_17_method_65_code 10 = .ok (.ifCond .ne 9, 3) := by decide +kernel
theorem d_Mod_draft_13 : decode prog_17_method_65_code 13 = .ok (.aload_n 0, 1) := by decide +kernel
theorem d_Mod_draft_14 : decode prog_17_method_65_code 14 = .ok (.iconst 1, 1) := by decide +kernel
theorem d_Mod_draft_15 : decode prog_17_method_65_code 15 = .ok (.invokevirtual 61, 3) := by decide +kernel
theorem d_Mod_draft_18 : decode prog_17_method_65_code 18 = .ok (.ireturn, 1) := by decide +kernel
theorem d_Mod_draft_19 : decode prog_17_method_65_code 19 = .ok (.aload_n 0, 1) := by decide +kernel
theorem d_Mod_draft_20 : decode prog_17_method_65_code 20 = .ok (.getfield 198, 3) := by decide +kernel
theorem d_Mod_draft_23 : decode prog_17_method_65_code 23 = .ok (.bipush 6, 2) := by decide +kernel
theorem d_Mod_draft_25 : decode prog_17_method_65_code 25 = .ok (.if_icmp .eq 38, 3) := by decide +kernel
theorem d_Mod_draft_28 : decode prog_17_method_65_code 28 = .ok (.aload_n 0, 1) := by decide +kernel
theorem d_Mod_draft_29 : decode prog_17_method_65_code 29 = .ok (.iload_n 1, 1) := by decide +kernel
theorem d_Mod_draft_30 : decode prog_17_method_65_code 30 = .ok (.invokevirtual 262, 3) := by decide +kernel
theorem d_Mod_draft_33 : decode prog_17_method_65_code 33 = .ok (.ifCond .ne 30, 3) := by decide +kernel
theorem d_Mod_draft_36 : decode prog_17_method_65_code 36 = .ok (.aload_n 0, 1) := by decide +kernel
theorem d_Mod_draft_37 : decode prog_17_method_65_code 37 = .ok (.getfield 198, 3) := by decide +kernel
theorem d_Mod_draft_40 : decode prog_17_method_65_code 40 = .ok (.ifCond .le 29, 3) := by decide +kernel
theorem d_Mod_draft_43 : decode prog_17_method_65_code 43 = .ok (.aload_n 0, 1) := by decide +kernel
theorem d_Mod_draft_44 : decode prog_17_method_65_code 44 = .ok (.aload_n 0, 1) := by decide +kernel
theorem d_Mod_draft_45 : decode prog_17_method_65_code 45 = .ok (.getfield 26, 3) := by decide +kernel
theorem d_Mod_draft_48 : decode prog_17_method_65_code 48 = .ok (.aload_n 0, 1) := by decide +kernel
theorem d_Mod_draft_49 : decode prog_17_method_65_code 49 = .ok (.getfield 198, 3) := by decide +kernel
theorem d_Mod_draft_52 : decode prog_17_method_65_code 52 = .ok (.iconst 1, 1) := by decide +kernel
theorem d_Mod_draft_53 : decode prog_17_method_65_code 53 = .ok (.isub, 1) := by decide +kernel
theorem d_Mod_draft_54 : decode prog_17_method_65_code 54 = .ok (.iaload, 1) := by decide +kernel
theorem d_Mod_draft_55 : decode prog_17_method_65_code 55 = .ok (.iload_n 1, 1) := by decide +kernel
theorem d_Mod_draft_56 : decode prog_17_method_65_code 56 = .ok (.invokevirtual 137, 3) := by decide +kernel
theorem d_Mod_draft_59 : decode prog_17_method_65_code 59 = .ok (.iconst (-1), 1) := by decide +kernel
theorem d_Mod_draft_60 : decode prog_17_method_65_code 60 = .ok (.if_icmp .ne 9, 3) := by decide +kernel
theorem d_Mod_draft_63 : decode prog_17_method_65_code 63 = .ok (.aload_n 0, 1) := by decide +kernel
theorem d_Mod_draft_64 : decode prog_17_method_65_code 64 = .ok (.iconst 2, 1) := by decide +kernel
theorem d_Mod_draft_65 : decode prog_17_method_65_code 65 = .ok (.invokevirtual 61, 3) := by decide +kernel
theorem d_Mod_draft_68 : decode prog_17_method_65_code 68 = .ok (.ireturn, 1) := by decide +kernel
theorem d_Mod_draft_69 : decode prog_17_method_65_code 69 = .ok (.aload_n 0, 1) := by decide +kernel
theorem d_Mod_draft_70 : decode prog_17_method_65_code 70 = .ok (.getfield 26, 3) := by decide +kernel
theorem d_Mod_draft_73 : decode prog_17_method_65_code 73 = .ok (.aload_n 0, 1) := by decide +kernel
theorem d_Mod_draft_74 : decode prog_17_method_65_code 74 = .ok (.getfield 198, 3) := by decide +kernel
theorem d_Mod_draft_77 : decode prog_17_method_65_code 77 = .ok (.iload_n 1, 1) := by decide +kernel
theorem d_Mod_draft_78 : decode prog_17_method_65_code 78 = .ok (.iastore, 1) := by decide +kernel
theorem d_Mod_draft_79 : decode prog_17_method_65_code 79 = .ok (.aload_n 0, 1) := by decide +kernel
theorem d_Mod_draft_80 : decode prog_17_method_65_code 80 = .ok (.dup, 1) := by decide +kernel
theorem d_Mod_draft_81 : decode prog_17_method_65_code 81 = .ok (.getfield 198, 3) := by decide +kernel
theorem d_Mod_draft_84 : decode prog_17_method_65_code 84 = .ok (.iconst 1, 1) := by decide +kernel
theorem d_Mod_draft_85 : decode prog_17_method_65_code 85 = .ok (.iadd, 1) := by decide +kernel
theorem d_Mod_draft_86 : decode prog_17_method_65_code 86 = .ok (.putfield 198, 3) := by decide +kernel
theorem d_Mod_draft_89 : decode prog_17_method_65_code 89 = .ok (.aload_n 0, 1) := by decide +kernel
theorem d_Mod_draft_90 : decode prog_17_method_65_code 90 = .ok (.getfield 198, 3) := by decide +kernel
theorem d_Mod_draft_93 : decode prog_17_method_65_code 93 = .ok (.ireturn, 1) := by decide +kernel
def Mod_draft_63 (M : g_MD) : Option (Int32 × g_MD) :=
  g_bM (Mod_fail M (2 : Int32)) fun x7 M8 => some (x7, M8)
set_option maxHeartbeats 4000000 in
set_option maxRecDepth 100000 in
theorem W_Mod_draft_63 {X : g_X} {h0 : g_AH} {a0 : Nat} {ad : Nat → Nat} (ok : mOK a0 ad) (z : Int32 × g_MD) (M : g_MD) (hy : Mod_draft_63  M = some z) : G X k_Mod_draft (.inl (some (.int z.1))) (mH h0 a0 ad z.2) (mH h0 a0 ad M) 63 [(0, .ref a0)] [] := by
  unfold Mod_draft_63 at hy
  refine g_aload_n 0 (i := 0) (pc' := 64) d_Mod_draft_63 rfl rfl rfl ?_
  refine g_iconst (v := (2 : Int32)) (pc' := 65) d_Mod_draft_64 (by decide) rfl ?_
  replace hy := g_bM_inv hy
  obtain ⟨x7, M8, hf9, hy⟩ := hy
  refine g_callV (rv := some (.int x7)) (h1 := (mH h0 a0 ad M8)) (pc' := 68) (As := [.int (2 : Int32)]) (rest := []) 1 (T_Mod_fail ok (hy := hf9)) d_Mod_draft_65 (mH_look ok) rfl rfl q2061 q2063 qs31 q135 q2064 hd_Mod_fail rfl ⟨by decide, by decide⟩ (by first | exact Nat.le_of_ble_eq_true rfl | (simp only [List.map, List.sum_cons, List.sum_nil, g_cat_rf]; exact Nat.le_of_ble_eq_true rfl) | (simp only [List.map, List.sum_cons, List.sum_nil, g_cat_rf, Value.category]; decide)) rfl ?_
  cases hy
  exact g_iret rfl rfl rfl d_Mod_draft_68
def Mod_draft_69 (M : g_MD) (v1 : Int32) : Option (Int32 × g_MD) :=
  g_mS M 0 5 (M.2.1 6) v1 fun M15 => g_let (mp M15 6 ((M15.2.1 6) + (1 : Int32))) fun M17 => some ((M17.2.1 6), M17)
set_option maxHeartbeats 4000000 in
set_option maxRecDepth 100000 in
theorem W_Mod_draft_69 {X : g_X} {h0 : g_AH} {a0 : Nat} {ad : Nat → Nat} (ok : mOK a0 ad) (z : Int32 × g_MD) (M : g_MD) (v1 : Int32) (hy : Mod_draft_69  M v1 = some z) : G X k_Mod_draft (.inl (some (.int z.1))) (mH h0 a0 ad z.2) (mH h0 a0 ad M) 69 [(0, .ref a0), (1, .int v1)] [] := by
  unfold Mod_draft_69 at hy
  refine g_aload_n 0 (i := 0) (pc' := 70) d_Mod_draft_69 rfl rfl rfl ?_
  refine gm_getA ok 5 (pc' := 73) d_Mod_draft_70 rfl q1970 rfl rfl ?_
  refine g_aload_n 0 (i := 0) (pc' := 74) d_Mod_draft_73 rfl rfl rfl ?_
  refine gm_getA ok 6 (pc' := 77) d_Mod_draft_74 rfl q1971 rfl rfl ?_
  refine g_iload_n 1 (i := 1) (pc' := 78) d_Mod_draft_77 rfl rfl rfl ?_
  replace hy := g_mS_inv hy
  obtain ⟨hc16, hy⟩ := hy
  refine gm_ast0 ok (pc' := 79) d_Mod_draft_78 hc16 rfl ?_
  generalize ms M 5 ((M.2.1 6)).toNatClampNeg v1 = M15 at hy ⊢
  refine g_aload_n 0 (i := 0) (pc' := 80) d_Mod_draft_79 rfl rfl rfl ?_
  refine g_dup (pc' := 81) d_Mod_draft_80 rfl rfl ?_
  refine gm_getA ok 6 (pc' := 84) d_Mod_draft_81 rfl q1971 rfl rfl ?_
  refine g_iconst (v := (1 : Int32)) (pc' := 85) d_Mod_draft_84 (by decide) rfl ?_
  refine g_iadd (pc' := 86) d_Mod_draft_85 rfl ?_
  replace hy := g_let_inv hy
  refine gm_put ok 6 (pc' := 89) d_Mod_draft_86 rfl (by decide) q1971 rfl ?_
  generalize (mp M15 6 ((M15.2.1 6) + (1 : Int32))) = M17 at hy ⊢
  refine g_aload_n 0 (i := 0) (pc' := 90) d_Mod_draft_89 rfl rfl rfl ?_
  refine gm_getA ok 6 (pc' := 93) d_Mod_draft_90 rfl q1971 rfl rfl ?_
  cases hy
  exact g_iret rfl rfl rfl d_Mod_draft_93
def Mod_draft (M : g_MD) (p0 : Int32) : Option (Int32 × g_MD) :=
  g_let (mp M 7 (0 : Int32)) fun M1 => g_b (Mod_isNode M1 p0) fun x2 => if x2 = 0 then (g_bM (Mod_fail M1 (1 : Int32)) fun x24 M25 => some (x24, M25)) else (if (M1.2.1 6) = (6 : Int32) then (Mod_draft_63  M1) else (g_b (Mod_isInDraft M1 p0) fun x10 => if x10 = 0 then (if (M1.2.1 6) ≤ 0 then (Mod_draft_69  M1 p0) else (g_mA M1 0 5 ((M1.2.1 6) - (1 : Int32)) fun x18 => g_b (Mod_linkOf M1 x18 p0) fun x20 => if x20 = (-1 : Int32) then (Mod_draft_63  M1) else (Mod_draft_69  M1 p0))) else (Mod_draft_63  M1)))
set_option maxHeartbeats 4000000 in
set_option maxRecDepth 100000 in
theorem T_Mod_draft {l : Launch} {B : g_B} {h0 : g_AH} {a0 : Nat} {ad : Nat → Nat} (ok : mOK a0 ad) (M : g_MD) (p0 : Int32) (z : Int32 × g_MD) (hy : Mod_draft M p0 = some z) : g_CT l B y_Mod_draft k_Mod_draft [.ref a0, .int p0] (mH h0 a0 ad M) (.inl (some (.int z.1))) (mH h0 a0 ad z.2) := by
  refine g_start2 (Lc := [(0, .ref a0), (1, .int p0)]) (by decide) rfl rfl (by exact Nat.le_of_ble_eq_true rfl) (by rfl) fun X => ?_
  unfold Mod_draft at hy
  refine g_aload_n 0 (i := 0) (pc' := 1) d_Mod_draft_0 rfl rfl rfl ?_
  refine g_iconst (v := (0 : Int32)) (pc' := 2) d_Mod_draft_1 (by decide) rfl ?_
  replace hy := g_let_inv hy
  refine gm_put ok 7 (pc' := 5) d_Mod_draft_2 rfl (by decide) q1972 rfl ?_
  generalize (mp M 7 (0 : Int32)) = M1 at hy ⊢
  refine g_aload_n 0 (i := 0) (pc' := 6) d_Mod_draft_5 rfl rfl rfl ?_
  refine g_iload_n 1 (i := 1) (pc' := 7) d_Mod_draft_6 rfl rfl rfl ?_
  replace hy := g_b_inv hy
  obtain ⟨x2, hf4, hy⟩ := hy
  refine g_callV (rv := some (.int x2)) (h1 := (mH h0 a0 ad M1)) (pc' := 10) (As := [.int p0]) (rest := []) 1 (T_Mod_isNode ok (hy := hf4)) d_Mod_draft_7 (mH_look ok) rfl rfl q2251 q2253 qs64 q135 q2254 hd_Mod_isNode rfl ⟨by decide, by decide⟩ (by first | exact Nat.le_of_ble_eq_true rfl | (simp only [List.map, List.sum_cons, List.sum_nil, g_cat_rf]; exact Nat.le_of_ble_eq_true rfl) | (simp only [List.map, List.sum_cons, List.sum_nil, g_cat_rf, Value.category]; decide)) rfl ?_
  by_cases c5 : x2 = 0
  · rw [if_pos c5] at hy
    refine g_if_neF (pc' := 13) d_Mod_draft_10 19 c5 (by decide) rfl ?_
    refine g_aload_n 0 (i := 0) (pc' := 14) d_Mod_draft_13 rfl rfl rfl ?_
    refine g_iconst (v := (1 : Int32)) (pc' := 15) d_Mod_draft_14 (by decide) rfl ?_
    replace hy := g_bM_inv hy
    obtain ⟨x24, M25, hf26, hy⟩ := hy
    refine g_callV (rv := some (.int x24)) (h1 := (mH h0 a0 ad M25)) (pc' := 18) (As := [.int (1 : Int32)]) (rest := []) 1 (T_Mod_fail ok (hy := hf26)) d_Mod_draft_15 (mH_look ok) rfl rfl q2061 q2063 qs31 q135 q2064 hd_Mod_fail rfl ⟨by decide, by decide⟩ (by first | exact Nat.le_of_ble_eq_true rfl | (simp only [List.map, List.sum_cons, List.sum_nil, g_cat_rf]; exact Nat.le_of_ble_eq_true rfl) | (simp only [List.map, List.sum_cons, List.sum_nil, g_cat_rf, Value.category]; decide)) rfl ?_
    cases hy
    exact g_iret rfl rfl rfl d_Mod_draft_18
  · rw [if_neg c5] at hy
    refine g_if_neT (pc' := 19) d_Mod_draft_10 c5 (by decide) ?_
    refine g_aload_n 0 (i := 0) (pc' := 20) d_Mod_draft_19 rfl rfl rfl ?_
    refine gm_getA ok 6 (pc' := 23) d_Mod_draft_20 rfl q1971 rfl rfl ?_
    refine g_bipush (v := (6 : Int32)) (pc' := 25) d_Mod_draft_23 (by decide) rfl ?_
    by_cases c6 : (M1.2.1 6) = (6 : Int32)
    · rw [if_pos c6] at hy
      refine g_icmp_eqT (pc' := 63) d_Mod_draft_25 c6 (by decide) ?_
      refine g_sub [0] rfl ?_
      exact W_Mod_draft_63 ok _ _ hy
    · rw [if_neg c6] at hy
      refine g_icmp_eqF (pc' := 28) d_Mod_draft_25 63 c6 (by decide) rfl ?_
      refine g_aload_n 0 (i := 0) (pc' := 29) d_Mod_draft_28 rfl rfl rfl ?_
      refine g_iload_n 1 (i := 1) (pc' := 30) d_Mod_draft_29 rfl rfl rfl ?_
      replace hy := g_b_inv hy
      obtain ⟨x10, hf12, hy⟩ := hy
      refine g_callV (rv := some (.int x10)) (h1 := (mH h0 a0 ad M1)) (pc' := 33) (As := [.int p0]) (rest := []) 1 (T_Mod_isInDraft ok (hy := hf12)) d_Mod_draft_30 (mH_look ok) rfl rfl q2319 q2321 qs74 q135 q2322 hd_Mod_isInDraft rfl ⟨by decide, by decide⟩ (by first | exact Nat.le_of_ble_eq_true rfl | (simp only [List.map, List.sum_cons, List.sum_nil, g_cat_rf]; exact Nat.le_of_ble_eq_true rfl) | (simp only [List.map, List.sum_cons, List.sum_nil, g_cat_rf, Value.category]; decide)) rfl ?_
      by_cases c13 : x10 = 0
      · rw [if_pos c13] at hy
        refine g_if_neF (pc' := 36) d_Mod_draft_33 63 c13 (by decide) rfl ?_
        refine g_aload_n 0 (i := 0) (pc' := 37) d_Mod_draft_36 rfl rfl rfl ?_
        refine gm_getA ok 6 (pc' := 40) d_Mod_draft_37 rfl q1971 rfl rfl ?_
        by_cases c14 : (M1.2.1 6) ≤ 0
        · rw [if_pos c14] at hy
          refine g_if_leT (pc' := 69) d_Mod_draft_40 c14 (by decide) ?_
          exact W_Mod_draft_69 ok _ _ _ hy
        · rw [if_neg c14] at hy
          refine g_if_leF (pc' := 43) d_Mod_draft_40 69 c14 (by decide) rfl ?_
          refine g_aload_n 0 (i := 0) (pc' := 44) d_Mod_draft_43 rfl rfl rfl ?_
          refine g_aload_n 0 (i := 0) (pc' := 45) d_Mod_draft_44 rfl rfl rfl ?_
          refine gm_getA ok 5 (pc' := 48) d_Mod_draft_45 rfl q1970 rfl rfl ?_
          refine g_aload_n 0 (i := 0) (pc' := 49) d_Mod_draft_48 rfl rfl rfl ?_
          refine gm_getA ok 6 (pc' := 52) d_Mod_draft_49 rfl q1971 rfl rfl ?_
          refine g_iconst (v := (1 : Int32)) (pc' := 53) d_Mod_draft_52 (by decide) rfl ?_
          refine g_isub (pc' := 54) d_Mod_draft_53 rfl ?_
          replace hy := g_mA_inv hy
          obtain ⟨x18, hc19, hy⟩ := hy
          refine gm_ald0 ok (pc' := 55) d_Mod_draft_54 hc19 rfl ?_
          refine g_iload_n 1 (i := 1) (pc' := 56) d_Mod_draft_55 rfl rfl rfl ?_
          replace hy := g_b_inv hy
          obtain ⟨x20, hf22, hy⟩ := hy
          refine g_callV (rv := some (.int x20)) (h1 := (mH h0 a0 ad M1)) (pc' := 59) (As := [.int x18, .int p0]) (rest := []) 2 (T_Mod_linkOf ok (hy := hf22)) d_Mod_draft_56 (mH_look ok) rfl rfl q2150 q2152 qs44 q135 q2153 hd_Mod_linkOf rfl ⟨by decide, by decide⟩ (by first | exact Nat.le_of_ble_eq_true rfl | (simp only [List.map, List.sum_cons, List.sum_nil, g_cat_rf]; exact Nat.le_of_ble_eq_true rfl) | (simp only [List.map, List.sum_cons, List.sum_nil, g_cat_rf, Value.category]; decide)) rfl ?_
          refine g_iconst (v := (-1 : Int32)) (pc' := 60) d_Mod_draft_59 (by decide) rfl ?_
          by_cases c23 : x20 = (-1 : Int32)
          · rw [if_pos c23] at hy
            refine g_icmp_neF (pc' := 63) d_Mod_draft_60 69 c23 (by decide) rfl ?_
            refine g_sub [0] rfl ?_
            exact W_Mod_draft_63 ok _ _ hy
          · rw [if_neg c23] at hy
            refine g_icmp_neT (pc' := 69) d_Mod_draft_60 c23 (by decide) ?_
            exact W_Mod_draft_69 ok _ _ _ hy
      · rw [if_neg c13] at hy
        refine g_if_neT (pc' := 63) d_Mod_draft_33 c13 (by decide) ?_
        refine g_sub [0] rfl ?_
        exact W_Mod_draft_63 ok _ _ hy
theorem hd_Mod_draft : g_dsc y_Mod_draft 1 := ⟨by decide +kernel, by decide +kernel, by decide +kernel⟩
/-! CircuitDeskModel.clearDraft()I -/
abbrev y_Mod_clearDraft : MethodName := ⟨"CircuitDeskModel", "clearDraft", "()I"⟩
abbrev k_Mod_clearDraft : g_M := (prog_17_method_66_code, 2, "CircuitDeskModel", 12, (some FieldType.int), "clearDraft", [], 0)
theorem d_Mod_clearDraft_0 : decode prog_17_method_66_code 0 = .ok (.aload_n 0, 1) := by decide +kernel
theorem d_Mod_clearDraft_1 : decode prog_17_method_66_code 1 = .ok (.iconst 0, 1) := by decide +kernel
theorem d_Mod_clearDraft_2 : decode prog_17_method_66_code 2 = .ok (.putfield 51, 3) := by decide +kernel
theorem d_Mod_clearDraft_5 : decode prog_17_method_66_code 5 = .ok (.aload_n 0, 1) := by decide +kernel
theorem d_Mod_clearDraft_6 : decode prog_17_method_66_code 6 = .ok (.getfield 198, 3) := by decide +kernel
theorem d_Mod_clearDraft_9 : decode prog_17_method_66_code 9 = .ok (.istore_n 1, 1) := by decide +kernel
theorem d_Mod_clearDraft_10 : decode prog_17_method_66_code 10 = .ok (.aload_n 0, 1) := by decide +kernel
theorem d_Mod_clearDraft_11 : decode prog_17_method_66_code 11 = .ok (.iconst 0, 1) := by decide +kernel
theorem d_Mod_clearDraft_12 : decode prog_17_method_66_code 12 = .ok (.putfield 198, 3) := by decide +kernel
theorem d_Mod_clearDraft_15 : decode prog_17_method_66_code 15 = .ok (.iload_n 1, 1) := by decide +kernel
theorem d_Mod_clearDraft_16 : decode prog_17_method_66_code 16 = .ok (.ireturn, 1) := by decide +kernel
def Mod_clearDraft (M : g_MD)  : Option (Int32 × g_MD) :=
  g_let (mp M 7 (0 : Int32)) fun M1 => g_let (mp M1 6 (0 : Int32)) fun M2 => some ((M1.2.1 6), M2)
set_option maxHeartbeats 4000000 in
set_option maxRecDepth 100000 in
theorem T_Mod_clearDraft {l : Launch} {B : g_B} {h0 : g_AH} {a0 : Nat} {ad : Nat → Nat} (ok : mOK a0 ad) (M : g_MD)  (z : Int32 × g_MD) (hy : Mod_clearDraft M  = some z) : g_CT l B y_Mod_clearDraft k_Mod_clearDraft [.ref a0] (mH h0 a0 ad M) (.inl (some (.int z.1))) (mH h0 a0 ad z.2) := by
  refine g_start2 (Lc := [(0, .ref a0)]) (by decide) rfl rfl (by exact Nat.le_of_ble_eq_true rfl) (by rfl) fun X => ?_
  unfold Mod_clearDraft at hy
  refine g_aload_n 0 (i := 0) (pc' := 1) d_Mod_clearDraft_0 rfl rfl rfl ?_
  refine g_iconst (v := (0 : Int32)) (pc' := 2) d_Mod_clearDraft_1 (by decide) rfl ?_
  replace hy := g_let_inv hy
  refine gm_put ok 7 (pc' := 5) d_Mod_clearDraft_2 rfl (by decide) q1972 rfl ?_
  generalize (mp M 7 (0 : Int32)) = M1 at hy ⊢
  refine g_aload_n 0 (i := 0) (pc' := 6) d_Mod_clearDraft_5 rfl rfl rfl ?_
  refine gm_getA ok 6 (pc' := 9) d_Mod_clearDraft_6 rfl q1971 rfl rfl ?_
  refine g_istore_n (i := 1) (pc' := 10) (Lc' := [(1, .int (M1.2.1 6)), (0, .ref a0)]) d_Mod_clearDraft_9 rfl (by decide) rfl rfl ?_
  refine g_aload_n 1 (i := 0) (pc' := 11) d_Mod_clearDraft_10 rfl rfl rfl ?_
  refine g_iconst (v := (0 : Int32)) (pc' := 12) d_Mod_clearDraft_11 (by decide) rfl ?_
  replace hy := g_let_inv hy
  refine gm_put ok 6 (pc' := 15) d_Mod_clearDraft_12 rfl (by decide) q1971 rfl ?_
  generalize (mp M1 6 (0 : Int32)) = M2 at hy ⊢
  refine g_iload_n 0 (i := 1) (pc' := 16) d_Mod_clearDraft_15 rfl rfl rfl ?_
  cases hy
  exact g_iret rfl rfl rfl d_Mod_clearDraft_16
theorem hd_Mod_clearDraft : g_dsc y_Mod_clearDraft 0 := ⟨by decide +kernel, by decide +kernel, by decide +kernel⟩
/-! CircuitDeskModel.isTried(I)Z -/
abbrev y_Mod_isTried : MethodName := ⟨"CircuitDeskModel", "isTried", "(I)Z"⟩
abbrev k_Mod_isTried : g_M := (prog_17_method_67_code, 3, "CircuitDeskModel", 12, (some FieldType.boolean), "isTried", [], 0)
theorem d_Mod_isTried_0 : decode prog_17_method_67_code 0 = .ok (.iconst 0, 1) := by decide +kernel
theorem d_Mod_isTried_1 : decode prog_17_method_67_code 1 = .ok (.istore_n 2, 1) := by decide +kernel
theorem d_Mod_isTried_2 : decode prog_17_method_67_code 2 = .ok (.iload_n 2, 1) := by decide +kernel
theorem d_Mod_isTried_3 : decode prog_17_method_67_code 3 = .ok (.aload_n 0, 1) := by decide +kernel
theorem d_Mod_isTried_4 : decode prog_17_method_67_code 4 = .ok (.getfield 265, 3) := by decide +kernel
theorem d_Mod_isTried_7 : decode prog_17_method_67_code 7 = .ok (.if_icmp .ge 21, 3) := by decide +kernel
theorem d_Mod_isTried_10 : decode prog_17_method_67_code 10 = .ok (.aload_n 0, 1) := by decide +kernel
theorem d_Mod_isTried_11 : decode prog_17_method_67_code 11 = .ok (.getfield 36, 3) := by decide +kernel
theorem d_Mod_isTried_14 : decode prog_17_method_67_code 14 = .ok (.iload_n 2, 1) := by decide +kernel
theorem d_Mod_isTried_15 : decode prog_17_method_67_code 15 = .ok (.iaload, 1) := by decide +kernel
theorem d_Mod_isTried_16 : decode prog_17_method_67_code 16 = .ok (.iload_n 1, 1) := by decide +kernel
theorem d_Mod_isTried_17 : decode prog_17_method_67_code 17 = .ok (.if_icmp .ne 5, 3) := by decide +kernel
theorem d_Mod_isTried_20 : decode prog_17_method_67_code 20 = .ok (.iconst 1, 1) := by decide +kernel
theorem d_Mod_isTried_21 : decode prog_17_method_67_code 21 = .ok (.ireturn, 1) := by decide +kernel
theorem d_Mod_isTried_22 : decode prog_17_method_67_code 22 = .ok (.iinc 2 1, 3) := by decide +kernel
theorem d_Mod_isTried_25 : decode prog_17_method_67_code 25 = .ok (.goto (-23), 3) := by decide +kernel
theorem d_Mod_isTried_28 : decode prog_17_method_67_code 28 = .ok (.iconst 0, 1) := by decide +kernel
theorem d_Mod_isTried_29 : decode prog_17_method_67_code 29 = .ok (.ireturn, 1) := by decide +kernel
def Mod_isTried_2 (M : g_MD)  : Nat → Int32 → Int32 → Option (Int32)
  | 0, _, _ => none
  | n + 1, v1, v2 => if (M.2.1 24) ≤ v2 then (some (0 : Int32)) else (g_mA M 0 21 v2 fun x3 => if x3 = v1 then (some (1 : Int32)) else ((Mod_isTried_2 M  n) v1 (v2 + (1 : Int32))))
set_option maxHeartbeats 4000000 in
set_option maxRecDepth 100000 in
theorem W_Mod_isTried_2 {X : g_X} {h0 : g_AH} {a0 : Nat} {ad : Nat → Nat} (ok : mOK a0 ad) (M : g_MD) (z : Int32)  : ∀ (n : Nat) (v1 : Int32) (v2 : Int32), Mod_isTried_2 M  n v1 v2 = some z → G X k_Mod_isTried (.inl (some (.int z))) (mH h0 a0 ad M) (mH h0 a0 ad M) 2 [(0, .ref a0), (1, .int v1), (2, .int v2)] [] := by
  intro n
  induction n with
  | zero => intro v1 v2 hy; exact absurd hy (by simp [Mod_isTried_2])
  | succ n ih =>
    intro v1 v2 hy
    rw [Mod_isTried_2] at hy
    refine g_iload_n 2 (i := 2) (pc' := 3) d_Mod_isTried_2 rfl rfl rfl ?_
    refine g_aload_n 0 (i := 0) (pc' := 4) d_Mod_isTried_3 rfl rfl rfl ?_
    refine gm_getA ok 24 (pc' := 7) d_Mod_isTried_4 rfl q1989 rfl rfl ?_
    by_cases c1 : (M.2.1 24) ≤ v2
    · rw [if_pos c1] at hy
      refine g_icmp_geT (pc' := 28) d_Mod_isTried_7 c1 (by decide) ?_
      refine g_iconst (v := (0 : Int32)) (pc' := 29) d_Mod_isTried_28 (by decide) rfl ?_
      cases hy
      exact g_zret rfl rfl rfl (g_nar_z (Or.inl rfl)).1 d_Mod_isTried_29
    · rw [if_neg c1] at hy
      refine g_icmp_geF (pc' := 10) d_Mod_isTried_7 28 c1 (by decide) rfl ?_
      refine g_aload_n 0 (i := 0) (pc' := 11) d_Mod_isTried_10 rfl rfl rfl ?_
      refine gm_getA ok 21 (pc' := 14) d_Mod_isTried_11 rfl q1986 rfl rfl ?_
      refine g_iload_n 2 (i := 2) (pc' := 15) d_Mod_isTried_14 rfl rfl rfl ?_
      replace hy := g_mA_inv hy
      obtain ⟨x3, hc4, hy⟩ := hy
      refine gm_ald0 ok (pc' := 16) d_Mod_isTried_15 hc4 rfl ?_
      refine g_iload_n 1 (i := 1) (pc' := 17) d_Mod_isTried_16 rfl rfl rfl ?_
      by_cases c5 : x3 = v1
      · rw [if_pos c5] at hy
        refine g_icmp_neF (pc' := 20) d_Mod_isTried_17 22 c5 (by decide) rfl ?_
        refine g_iconst (v := (1 : Int32)) (pc' := 21) d_Mod_isTried_20 (by decide) rfl ?_
        cases hy
        exact g_zret rfl rfl rfl (g_nar_z (Or.inr rfl)).1 d_Mod_isTried_21
      · rw [if_neg c5] at hy
        refine g_icmp_neT (pc' := 22) d_Mod_isTried_17 c5 (by decide) ?_
        refine g_iinc 2 (v := (v2 + (1 : Int32))) (pc' := 25) (Lc' := [(2, .int (v2 + (1 : Int32))), (0, .ref a0), (1, .int v1)]) d_Mod_isTried_22 rfl rfl (by decide) rfl rfl ?_
        refine g_goto (pc' := 2) d_Mod_isTried_25 (by decide) ?_
        refine g_sub [1, 2, 0] rfl ?_
        exact ih _ _ hy
def Mod_isTried (M : g_MD) (p0 : Int32) : Option (Int32) :=
  Mod_isTried_2 M  gFU p0 (0 : Int32)
set_option maxHeartbeats 4000000 in
set_option maxRecDepth 100000 in
theorem T_Mod_isTried {l : Launch} {B : g_B} {h0 : g_AH} {a0 : Nat} {ad : Nat → Nat} (ok : mOK a0 ad) (M : g_MD) (p0 : Int32) (z : Int32) (hy : Mod_isTried M p0 = some z) : g_CT l B y_Mod_isTried k_Mod_isTried [.ref a0, .int p0] (mH h0 a0 ad M) (.inl (some (.int z))) (mH h0 a0 ad M) := by
  refine g_start2 (Lc := [(0, .ref a0), (1, .int p0)]) (by decide) rfl rfl (by exact Nat.le_of_ble_eq_true rfl) (by rfl) fun X => ?_
  unfold Mod_isTried at hy
  refine g_iconst (v := (0 : Int32)) (pc' := 1) d_Mod_isTried_0 (by decide) rfl ?_
  refine g_istore_n (i := 2) (pc' := 2) (Lc' := [(2, .int (0 : Int32)), (0, .ref a0), (1, .int p0)]) d_Mod_isTried_1 rfl (by decide) rfl rfl ?_
  refine g_sub [1, 2, 0] rfl ?_
  exact W_Mod_isTried_2 ok _ _ _ _ _ hy
theorem hd_Mod_isTried : g_dsc y_Mod_isTried 1 := ⟨by decide +kernel, by decide +kernel, by decide +kernel⟩
/-! CircuitDeskModel.goOn(II)Z -/
abbrev y_Mod_goOn : MethodName := ⟨"CircuitDeskModel", "goOn", "(II)Z"⟩
abbrev k_Mod_goOn : g_M := (prog_17_method_70_code, 6, "CircuitDeskModel", 14, (some FieldType.boolean), "goOn", [], 0)
theorem d_Mod_goOn_0 : decode prog_17_method_70_code 0 = .ok (.aload_n 0, 1) := by decide +kernel
theorem d_Mod_goOn_1 : decode prog_17_method_70_code 1 = .ok (.getfield 36, 3) := by decide +kernel
theorem d_Mod_goOn_4 : decode prog_17_method_70_code 4 = .ok (.aload_n 0, 1) := by decide +kernel
theorem d_Mod_goOn_5 : decode prog_17_method_70_code 5 = .ok (.getfield 265, 3) := by decide +kernel
theorem d_Mod_goOn_8 : decode prog_17_method_70_code 8 = .ok (.iconst 1, 1) := by decide +kernel
theorem d_Mod_goOn_9 : decode prog_17_method_70_code 9 = .ok (.isub, 1) := by decide +kernel
theorem d_Mod_goOn_10 : decode prog_17_method_70_code 10 = .ok (.iaload, 1) := by decide +kernel
theorem d_Mod_goOn_11 : decode prog_17_method_70_code 11 = .ok (.istore_n 3, 1) := by decide +kernel
theorem d_Mod_goOn_12 : decode prog_17_method_70_code 12 = .ok (.iload_n 1, 1) := by decide +kernel
theorem d_Mod_goOn_13 : decode prog_17_method_70_code 13 = .ok (.istore 4, 2) := by decide +kernel
theorem d_Mod_goOn_15 : decode prog_17_method_70_code 15 = .ok (.iload 4, 2) := by decide +kernel
theorem d_Mod_goOn_17 : decode prog_17_method_70_code 17 = .ok (.aload_n 0, 1) := by decide +kernel
theorem d_Mod_goOn_18 : decode prog_17_method_70_code 18 = .ok (.getfield 7, 3) := by decide +kernel
theorem d_Mod_goOn_21 : decode prog_17_method_70_code 21 = .ok (.iconst 2, 1) := by decide +kernel
theorem d_Mod_goOn_22 : decode prog_17_method_70_code 22 = .ok (.iaload, 1) := by decide +kernel
theorem d_Mod_goOn_23 : decode prog_17_method_70_code 23 = .ok (.if_icmp .ge 96, 3) := by decide +kernel
theorem d_Mod_goOn_26 : decode prog_17_method_70_code 26 = .ok (.aload_n 0, 1) := by decide +kernel
theorem d_Mod_goOn_27 : decode prog_17_method_70_code 27 = .ok (.getfield 265, 3) := by decide +kernel
theorem d_Mod_goOn_30 : decode prog_17_method_70_code 30 = .ok (.bipush 6, 2) := by decide +kernel
theorem d_Mod_goOn_32 : decode prog_17_method_70_code 32 = .ok (.if_icmp .ge 87, 3) := by decide +kernel
theorem d_Mod_goOn_35 : decode prog_17_method_70_code 35 = .ok (.iload_n 3, 1) := by decide +kernel
theorem d_Mod_goOn_36 : decode prog_17_method_70_code 36 = .ok (.iload_n 2, 1) := by decide +kernel
theorem d_Mod_goOn_37 : decode prog_17_method_70_code 37 = .ok (.if_icmp .eq 82, 3) := by decide +kernel
theorem d_Mod_goOn_40 : decode prog_17_method_70_code 40 = .ok (.aload_n 0, 1) := by decide +kernel
theorem d_Mod_goOn_41 : decode prog_17_method_70_code 41 = .ok (.iload_n 3, 1) := by decide +kernel
theorem d_Mod_goOn_42 : decode prog_17_method_70_code 42 = .ok (.iload 4, 2) := by decide +kernel
theorem d_Mod_goOn_44 : decode prog_17_method_70_code 44 = .ok (.invokevirtual 137, 3) := by decide +kernel
theorem d_Mod_goOn_47 : decode prog_17_method_70_code 47 = .ok (.istore 5, 2) := by decide +kernel
theorem d_Mod_goOn_49 : decode prog_17_method_70_code 49 = .ok (.iload 5, 2) := by decide +kernel
theorem d_Mod_goOn_51 : decode prog_17_method_70_code 51 = .ok (.iconst (-1), 1) := by decide +kernel
theorem d_Mod_goOn_52 : decode prog_17_method_70_code 52 = .ok (.if_icmp .eq 61, 3) := by decide +kernel
theorem d_Mod_goOn_55 : decode prog_17_method_70_code 55 = .ok (.aload_n 0, 1) := by decide +kernel
theorem d_Mod_goOn_56 : decode prog_17_method_70_code 56 = .ok (.getfield 42, 3) := by decide +kernel
theorem d_Mod_goOn_59 : decode prog_17_method_70_code 59 = .ok (.iload 5, 2) := by decide +kernel
theorem d_Mod_goOn_61 : decode prog_17_method_70_code 61 = .ok (.baload, 1) := by decide +kernel
theorem d_Mod_goOn_62 : decode prog_17_method_70_code 62 = .ok (.ifCond .eq 51, 3) := by decide +kernel
theorem d_Mod_goOn_65 : decode prog_17_method_70_code 65 = .ok (.aload_n 0, 1) := by decide +kernel
theorem d_Mod_goOn_66 : decode prog_17_method_70_code 66 = .ok (.iload 4, 2) := by decide +kernel
theorem d_Mod_goOn_68 : decode prog_17_method_70_code 68 = .ok (.invokevirtual 277, 3) := by decide +kernel
theorem d_Mod_goOn_71 : decode prog_17_method_70_code 71 = .ok (.ifCond .ne 42, 3) := by decide +kernel
theorem d_Mod_goOn_74 : decode prog_17_method_70_code 74 = .ok (.aload_n 0, 1) := by decide +kernel
theorem d_Mod_goOn_75 : decode prog_17_method_70_code 75 = .ok (.getfield 36, 3) := by decide +kernel
theorem d_Mod_goOn_78 : decode prog_17_method_70_code 78 = .ok (.aload_n 0, 1) := by decide +kernel
theorem d_Mod_goOn_79 : decode prog_17_method_70_code 79 = .ok (.getfield 265, 3) := by decide +kernel
theorem d_Mod_goOn_82 : decode prog_17_method_70_code 82 = .ok (.iload 4, 2) := by decide +kernel
theorem d_Mod_goOn_84 : decode prog_17_method_70_code 84 = .ok (.iastore, 1) := by decide +kernel
theorem d_Mod_goOn_85 : decode prog_17_method_70_code 85 = .ok (.aload_n 0, 1) := by decide +kernel
theorem d_Mod_goOn_86 : decode prog_17_method_70_code 86 = .ok (.dup, 1) := by decide +kernel
theorem d_Mod_goOn_87 : decode prog_17_method_70_code 87 = .ok (.getfield 265, 3) := by decide +kernel
theorem d_Mod_goOn_90 : decode prog_17_method_70_code 90 = .ok (.iconst 1, 1) := by decide +kernel
theorem d_Mod_goOn_91 : decode prog_17_method_70_code 91 = .ok (.iadd, 1) := by decide +kernel
theorem d_Mod_goOn_92 : decode prog_17_method_70_code 92 = .ok (.putfield 265, 3) := by decide +kernel
theorem d_Mod_goOn_95 : decode prog_17_method_70_code 95 = .ok (.aload_n 0, 1) := by decide +kernel
theorem d_Mod_goOn_96 : decode prog_17_method_70_code 96 = .ok (.dup, 1) := by decide +kernel
theorem d_Mod_goOn_97 : decode prog_17_method_70_code 97 = .ok (.getfield 268, 3) := by decide +kernel
theorem d_Mod_goOn_100 : decode prog_17_method_70_code 100 = .ok (.aload_n 0, 1) := by decide +kernel
theorem d_Mod_goOn_101 : decode prog_17_method_70_code 101 = .ok (.iload 5, 2) := by decide +kernel
theorem d_Mod_goOn_103 : decode prog_17_method_70_code 103 = .ok (.iconst 3, 1) := by decide +kernel
theorem d_Mod_goOn_104 : decode prog_17_method_70_code 104 = .ok (.invokevirtual 201, 3) := by decide +kernel
theorem d_Mod_goOn_107 : decode prog_17_method_70_code 107 = .ok (.iadd, 1) := by decide +kernel
theorem d_Mod_goOn_108 : decode prog_17_method_70_code 108 = .ok (.putfield 268, 3) := by decide +kernel
theorem d_Mod_goOn_111 : decode prog_17_method_70_code 111 = .ok (.iconst 1, 1) := by decide +kernel
theorem d_Mod_goOn_112 : decode prog_17_method_70_code 112 = .ok (.ireturn, 1) := by decide +kernel
theorem d_Mod_goOn_113 : decode prog_17_method_70_code 113 = .ok (.iinc 4 1, 3) := by decide +kernel
theorem d_Mod_goOn_116 : decode prog_17_method_70_code 116 = .ok (.goto (-101), 3) := by decide +kernel
theorem d_Mod_goOn_119 : decode prog_17_method_70_code 119 = .ok (.iconst 0, 1) := by decide +kernel
theorem d_Mod_goOn_120 : decode prog_17_method_70_code 120 = .ok (.ireturn, 1) := by decide +kernel
def Mod_goOn_113 (k15 : g_MD → Int32 → Int32 → Int32 → Option (Int32 × g_MD)) (M : g_MD) (v2 : Int32) (v3 : Int32) (v4 : Int32) : Option (Int32 × g_MD) :=
  k15 M v2 v3 (v4 + (1 : Int32))
set_option maxHeartbeats 4000000 in
set_option maxRecDepth 100000 in
theorem W_Mod_goOn_113 {X : g_X} {h0 : g_AH} {a0 : Nat} {ad : Nat → Nat} (ok : mOK a0 ad) (z : Int32 × g_MD) (k15 : g_MD → Int32 → Int32 → Int32 → Option (Int32 × g_MD)) (hk15 : ∀ (M : g_MD) (v2 : Int32) (v3 : Int32) (v4 : Int32), k15 M v2 v3 v4 = some z → G X k_Mod_goOn (.inl (some (.int z.1))) (mH h0 a0 ad z.2) (mH h0 a0 ad M) 15 [(0, .ref a0), (2, .int v2), (3, .int v3), (4, .int v4)] []) (M : g_MD) (v2 : Int32) (v3 : Int32) (v4 : Int32) (hy : Mod_goOn_113 k15 M v2 v3 v4 = some z) : G X k_Mod_goOn (.inl (some (.int z.1))) (mH h0 a0 ad z.2) (mH h0 a0 ad M) 113 [(0, .ref a0), (2, .int v2), (3, .int v3), (4, .int v4)] [] := by
  unfold Mod_goOn_113 at hy
  refine g_iinc 3 (v := (v4 + (1 : Int32))) (pc' := 116) (Lc' := [(4, .int (v4 + (1 : Int32))), (0, .ref a0), (2, .int v2), (3, .int v3)]) d_Mod_goOn_113 rfl rfl (by decide) rfl rfl ?_
  refine g_goto (pc' := 15) d_Mod_goOn_116 (by decide) ?_
  refine g_sub [1, 2, 3, 0] rfl ?_
  exact hk15 _ _ _ _ hy
def Mod_goOn_15  : Nat → g_MD → Int32 → Int32 → Int32 → Option (Int32 × g_MD)
  | 0, _, _, _, _ => none
  | n + 1, M, v2, v3, v4 => g_mA M 0 0 (2 : Int32) fun x3 => if x3 ≤ v4 then (some ((0 : Int32), M)) else (if (6 : Int32) ≤ (M.2.1 24) then (some ((0 : Int32), M)) else (if v3 = v2 then (some ((0 : Int32), M)) else (g_b (Mod_linkOf M v3 v4) fun x11 => if x11 = (-1 : Int32) then (Mod_goOn_113 (Mod_goOn_15  n) M v2 v3 v4) else (g_mA M 1 23 x11 fun x15 => if x15 = 0 then (Mod_goOn_113 (Mod_goOn_15  n) M v2 v3 v4) else (g_b (Mod_isTried M v4) fun x18 => if x18 = 0 then (g_mS M 0 21 (M.2.1 24) v4 fun M22 => g_let (mp M22 24 ((M22.2.1 24) + (1 : Int32))) fun M24 => g_b (Mod_ofLink M24 x11 (3 : Int32)) fun x25 => g_let (mp M24 25 ((M24.2.1 25) + x25)) fun M28 => some ((1 : Int32), M28)) else (Mod_goOn_113 (Mod_goOn_15  n) M v2 v3 v4))))))
set_option maxHeartbeats 4000000 in
set_option maxRecDepth 100000 in
theorem W_Mod_goOn_15 {X : g_X} {h0 : g_AH} {a0 : Nat} {ad : Nat → Nat} (ok : mOK a0 ad) (z : Int32 × g_MD)  : ∀ (n : Nat) (M : g_MD) (v2 : Int32) (v3 : Int32) (v4 : Int32), Mod_goOn_15  n M v2 v3 v4 = some z → G X k_Mod_goOn (.inl (some (.int z.1))) (mH h0 a0 ad z.2) (mH h0 a0 ad M) 15 [(0, .ref a0), (2, .int v2), (3, .int v3), (4, .int v4)] [] := by
  intro n
  induction n with
  | zero => intro M v2 v3 v4 hy; exact absurd hy (by simp [Mod_goOn_15])
  | succ n ih =>
    intro M v2 v3 v4 hy
    rw [Mod_goOn_15] at hy
    refine g_iload 3 (pc' := 17) d_Mod_goOn_15 rfl rfl ?_
    refine g_aload_n 0 (i := 0) (pc' := 18) d_Mod_goOn_17 rfl rfl rfl ?_
    refine gm_getA ok 0 (pc' := 21) d_Mod_goOn_18 rfl q1965 rfl rfl ?_
    refine g_iconst (v := (2 : Int32)) (pc' := 22) d_Mod_goOn_21 (by decide) rfl ?_
    replace hy := g_mA_inv hy
    obtain ⟨x3, hc4, hy⟩ := hy
    refine gm_ald0 ok (pc' := 23) d_Mod_goOn_22 hc4 rfl ?_
    by_cases c5 : x3 ≤ v4
    · rw [if_pos c5] at hy
      refine g_icmp_geT (pc' := 119) d_Mod_goOn_23 c5 (by decide) ?_
      refine g_iconst (v := (0 : Int32)) (pc' := 120) d_Mod_goOn_119 (by decide) rfl ?_
      cases hy
      exact g_zret rfl rfl rfl (g_nar_z (Or.inl rfl)).1 d_Mod_goOn_120
    · rw [if_neg c5] at hy
      refine g_icmp_geF (pc' := 26) d_Mod_goOn_23 119 c5 (by decide) rfl ?_
      refine g_aload_n 0 (i := 0) (pc' := 27) d_Mod_goOn_26 rfl rfl rfl ?_
      refine gm_getA ok 24 (pc' := 30) d_Mod_goOn_27 rfl q1989 rfl rfl ?_
      refine g_bipush (v := (6 : Int32)) (pc' := 32) d_Mod_goOn_30 (by decide) rfl ?_
      by_cases c7 : (6 : Int32) ≤ (M.2.1 24)
      · rw [if_pos c7] at hy
        refine g_icmp_geT (pc' := 119) d_Mod_goOn_32 c7 (by decide) ?_
        refine g_iconst (v := (0 : Int32)) (pc' := 120) d_Mod_goOn_119 (by decide) rfl ?_
        cases hy
        exact g_zret rfl rfl rfl (g_nar_z (Or.inl rfl)).1 d_Mod_goOn_120
      · rw [if_neg c7] at hy
        refine g_icmp_geF (pc' := 35) d_Mod_goOn_32 119 c7 (by decide) rfl ?_
        refine g_iload_n 2 (i := 3) (pc' := 36) d_Mod_goOn_35 rfl rfl rfl ?_
        refine g_iload_n 1 (i := 2) (pc' := 37) d_Mod_goOn_36 rfl rfl rfl ?_
        by_cases c9 : v3 = v2
        · rw [if_pos c9] at hy
          refine g_icmp_eqT (pc' := 119) d_Mod_goOn_37 c9 (by decide) ?_
          refine g_iconst (v := (0 : Int32)) (pc' := 120) d_Mod_goOn_119 (by decide) rfl ?_
          cases hy
          exact g_zret rfl rfl rfl (g_nar_z (Or.inl rfl)).1 d_Mod_goOn_120
        · rw [if_neg c9] at hy
          refine g_icmp_eqF (pc' := 40) d_Mod_goOn_37 119 c9 (by decide) rfl ?_
          refine g_aload_n 0 (i := 0) (pc' := 41) d_Mod_goOn_40 rfl rfl rfl ?_
          refine g_iload_n 2 (i := 3) (pc' := 42) d_Mod_goOn_41 rfl rfl rfl ?_
          refine g_iload 3 (pc' := 44) d_Mod_goOn_42 rfl rfl ?_
          replace hy := g_b_inv hy
          obtain ⟨x11, hf13, hy⟩ := hy
          refine g_callV (rv := some (.int x11)) (h1 := (mH h0 a0 ad M)) (pc' := 47) (As := [.int v3, .int v4]) (rest := []) 2 (T_Mod_linkOf ok (hy := hf13)) d_Mod_goOn_44 (mH_look ok) rfl rfl q2150 q2152 qs44 q135 q2153 hd_Mod_linkOf rfl ⟨by decide, by decide⟩ (by first | exact Nat.le_of_ble_eq_true rfl | (simp only [List.map, List.sum_cons, List.sum_nil, g_cat_rf]; exact Nat.le_of_ble_eq_true rfl) | (simp only [List.map, List.sum_cons, List.sum_nil, g_cat_rf, Value.category]; decide)) rfl ?_
          refine g_istore (pc' := 49) (Lc' := [(5, .int x11), (0, .ref a0), (2, .int v2), (3, .int v3), (4, .int v4)]) d_Mod_goOn_47 (by decide) rfl rfl ?_
          refine g_iload 0 (pc' := 51) d_Mod_goOn_49 rfl rfl ?_
          refine g_iconst (v := (-1 : Int32)) (pc' := 52) d_Mod_goOn_51 (by decide) rfl ?_
          by_cases c14 : x11 = (-1 : Int32)
          · rw [if_pos c14] at hy
            refine g_icmp_eqT (pc' := 113) d_Mod_goOn_52 c14 (by decide) ?_
            refine g_sub [1, 2, 3, 4] rfl ?_
            exact W_Mod_goOn_113 ok _ _ ih _ _ _ _ hy
          · rw [if_neg c14] at hy
            refine g_icmp_eqF (pc' := 55) d_Mod_goOn_52 113 c14 (by decide) rfl ?_
            refine g_aload_n 1 (i := 0) (pc' := 56) d_Mod_goOn_55 rfl rfl rfl ?_
            refine gm_getA ok 23 (pc' := 59) d_Mod_goOn_56 rfl q1988 rfl rfl ?_
            refine g_iload 0 (pc' := 61) d_Mod_goOn_59 rfl rfl ?_
            replace hy := g_mA_inv hy
            obtain ⟨x15, hc16, hy⟩ := hy
            refine gm_ald1 ok (pc' := 62) d_Mod_goOn_61 hc16 rfl ?_
            by_cases c17 : x15 = 0
            · rw [if_pos c17] at hy
              refine g_if_eqT (pc' := 113) d_Mod_goOn_62 c17 (by decide) ?_
              refine g_sub [1, 2, 3, 4] rfl ?_
              exact W_Mod_goOn_113 ok _ _ ih _ _ _ _ hy
            · rw [if_neg c17] at hy
              refine g_if_eqF (pc' := 65) d_Mod_goOn_62 113 c17 (by decide) rfl ?_
              refine g_aload_n 1 (i := 0) (pc' := 66) d_Mod_goOn_65 rfl rfl rfl ?_
              refine g_iload 4 (pc' := 68) d_Mod_goOn_66 rfl rfl ?_
              replace hy := g_b_inv hy
              obtain ⟨x18, hf20, hy⟩ := hy
              refine g_callV (rv := some (.int x18)) (h1 := (mH h0 a0 ad M)) (pc' := 71) (As := [.int v4]) (rest := []) 1 (T_Mod_isTried ok (hy := hf20)) d_Mod_goOn_68 (mH_look ok) rfl rfl q2339 q2341 qs77 q135 q2342 hd_Mod_isTried rfl ⟨by decide, by decide⟩ (by first | exact Nat.le_of_ble_eq_true rfl | (simp only [List.map, List.sum_cons, List.sum_nil, g_cat_rf]; exact Nat.le_of_ble_eq_true rfl) | (simp only [List.map, List.sum_cons, List.sum_nil, g_cat_rf, Value.category]; decide)) rfl ?_
              by_cases c21 : x18 = 0
              · rw [if_pos c21] at hy
                refine g_if_neF (pc' := 74) d_Mod_goOn_71 113 c21 (by decide) rfl ?_
                refine g_aload_n 1 (i := 0) (pc' := 75) d_Mod_goOn_74 rfl rfl rfl ?_
                refine gm_getA ok 21 (pc' := 78) d_Mod_goOn_75 rfl q1986 rfl rfl ?_
                refine g_aload_n 1 (i := 0) (pc' := 79) d_Mod_goOn_78 rfl rfl rfl ?_
                refine gm_getA ok 24 (pc' := 82) d_Mod_goOn_79 rfl q1989 rfl rfl ?_
                refine g_iload 4 (pc' := 84) d_Mod_goOn_82 rfl rfl ?_
                replace hy := g_mS_inv hy
                obtain ⟨hc23, hy⟩ := hy
                refine gm_ast0 ok (pc' := 85) d_Mod_goOn_84 hc23 rfl ?_
                generalize ms M 21 ((M.2.1 24)).toNatClampNeg v4 = M22 at hy ⊢
                refine g_aload_n 1 (i := 0) (pc' := 86) d_Mod_goOn_85 rfl rfl rfl ?_
                refine g_dup (pc' := 87) d_Mod_goOn_86 rfl rfl ?_
                refine gm_getA ok 24 (pc' := 90) d_Mod_goOn_87 rfl q1989 rfl rfl ?_
                refine g_iconst (v := (1 : Int32)) (pc' := 91) d_Mod_goOn_90 (by decide) rfl ?_
                refine g_iadd (pc' := 92) d_Mod_goOn_91 rfl ?_
                replace hy := g_let_inv hy
                refine gm_put ok 24 (pc' := 95) d_Mod_goOn_92 rfl (by decide) q1989 rfl ?_
                generalize (mp M22 24 ((M22.2.1 24) + (1 : Int32))) = M24 at hy ⊢
                refine g_aload_n 1 (i := 0) (pc' := 96) d_Mod_goOn_95 rfl rfl rfl ?_
                refine g_dup (pc' := 97) d_Mod_goOn_96 rfl rfl ?_
                refine gm_getA ok 25 (pc' := 100) d_Mod_goOn_97 rfl q1990 rfl rfl ?_
                refine g_aload_n 1 (i := 0) (pc' := 101) d_Mod_goOn_100 rfl rfl rfl ?_
                refine g_iload 0 (pc' := 103) d_Mod_goOn_101 rfl rfl ?_
                refine g_iconst (v := (3 : Int32)) (pc' := 104) d_Mod_goOn_103 (by decide) rfl ?_
                replace hy := g_b_inv hy
                obtain ⟨x25, hf27, hy⟩ := hy
                refine g_callV (rv := some (.int x25)) (h1 := (mH h0 a0 ad M24)) (pc' := 107) (As := [.int x11, .int (3 : Int32)]) (rest := [.int (M24.2.1 25), .ref a0]) 2 (T_Mod_ofLink ok (hy := hf27)) d_Mod_goOn_104 (mH_look ok) rfl rfl q2154 q2156 qs45 q135 q2157 hd_Mod_ofLink rfl ⟨by decide, by decide⟩ (by first | exact Nat.le_of_ble_eq_true rfl | (simp only [List.map, List.sum_cons, List.sum_nil, g_cat_rf]; exact Nat.le_of_ble_eq_true rfl) | (simp only [List.map, List.sum_cons, List.sum_nil, g_cat_rf, Value.category]; decide)) rfl ?_
                refine g_iadd (pc' := 108) d_Mod_goOn_107 rfl ?_
                replace hy := g_let_inv hy
                refine gm_put ok 25 (pc' := 111) d_Mod_goOn_108 rfl (by decide) q1990 rfl ?_
                generalize (mp M24 25 ((M24.2.1 25) + x25)) = M28 at hy ⊢
                refine g_iconst (v := (1 : Int32)) (pc' := 112) d_Mod_goOn_111 (by decide) rfl ?_
                cases hy
                exact g_zret rfl rfl rfl (g_nar_z (Or.inr rfl)).1 d_Mod_goOn_112
              · rw [if_neg c21] at hy
                refine g_if_neT (pc' := 113) d_Mod_goOn_71 c21 (by decide) ?_
                refine g_sub [1, 2, 3, 4] rfl ?_
                exact W_Mod_goOn_113 ok _ _ ih _ _ _ _ hy
def Mod_goOn (M : g_MD) (p0 : Int32) (p1 : Int32) : Option (Int32 × g_MD) :=
  g_mA M 0 21 ((M.2.1 24) - (1 : Int32)) fun x1 => Mod_goOn_15  gFU M p1 x1 p0
set_option maxHeartbeats 4000000 in
set_option maxRecDepth 100000 in
theorem T_Mod_goOn {l : Launch} {B : g_B} {h0 : g_AH} {a0 : Nat} {ad : Nat → Nat} (ok : mOK a0 ad) (M : g_MD) (p0 : Int32) (p1 : Int32) (z : Int32 × g_MD) (hy : Mod_goOn M p0 p1 = some z) : g_CT l B y_Mod_goOn k_Mod_goOn [.ref a0, .int p0, .int p1] (mH h0 a0 ad M) (.inl (some (.int z.1))) (mH h0 a0 ad z.2) := by
  refine g_start2 (Lc := [(0, .ref a0), (1, .int p0), (2, .int p1)]) (by decide) rfl rfl (by exact Nat.le_of_ble_eq_true rfl) (by rfl) fun X => ?_
  unfold Mod_goOn at hy
  refine g_aload_n 0 (i := 0) (pc' := 1) d_Mod_goOn_0 rfl rfl rfl ?_
  refine gm_getA ok 21 (pc' := 4) d_Mod_goOn_1 rfl q1986 rfl rfl ?_
  refine g_aload_n 0 (i := 0) (pc' := 5) d_Mod_goOn_4 rfl rfl rfl ?_
  refine gm_getA ok 24 (pc' := 8) d_Mod_goOn_5 rfl q1989 rfl rfl ?_
  refine g_iconst (v := (1 : Int32)) (pc' := 9) d_Mod_goOn_8 (by decide) rfl ?_
  refine g_isub (pc' := 10) d_Mod_goOn_9 rfl ?_
  replace hy := g_mA_inv hy
  obtain ⟨x1, hc2, hy⟩ := hy
  refine gm_ald0 ok (pc' := 11) d_Mod_goOn_10 hc2 rfl ?_
  refine g_istore_n (i := 3) (pc' := 12) (Lc' := [(3, .int x1), (0, .ref a0), (1, .int p0), (2, .int p1)]) d_Mod_goOn_11 rfl (by decide) rfl rfl ?_
  refine g_iload_n 2 (i := 1) (pc' := 13) d_Mod_goOn_12 rfl rfl rfl ?_
  refine g_istore (pc' := 15) (Lc' := [(4, .int p0), (3, .int x1), (0, .ref a0), (1, .int p0), (2, .int p1)]) d_Mod_goOn_13 (by decide) rfl rfl ?_
  refine g_sub [2, 4, 1, 0] rfl ?_
  exact W_Mod_goOn_15 ok _ _ _ _ _ _ hy
theorem hd_Mod_goOn : g_dsc y_Mod_goOn 2 := ⟨by decide +kernel, by decide +kernel, by decide +kernel⟩
/-! CircuitDeskModel.compareTried()V -/
abbrev y_Mod_compareTried : MethodName := ⟨"CircuitDeskModel", "compareTried", "()V"⟩
abbrev k_Mod_compareTried : g_M := (prog_17_method_69_code, 3, "CircuitDeskModel", 12, none, "compareTried", [], 0)
theorem d_Mod_compareTried_0 : decode prog_17_method_69_code 0 = .ok (.aload_n 0, 1) := by decide +kernel
theorem d_Mod_compareTried_1 : decode prog_17_method_69_code 1 = .ok (.getfield 271, 3) := by decide +kernel
theorem d_Mod_compareTried_4 : decode prog_17_method_69_code 4 = .ok (.ifCond .eq 36, 3) := by decide +kernel
theorem d_Mod_compareTried_7 : decode prog_17_method_69_code 7 = .ok (.aload_n 0, 1) := by decide +kernel
theorem d_Mod_compareTried_8 : decode prog_17_method_69_code 8 = .ok (.getfield 268, 3) := by decide +kernel
theorem d_Mod_compareTried_11 : decode prog_17_method_69_code 11 = .ok (.aload_n 0, 1) := by decide +kernel
theorem d_Mod_compareTried_12 : decode prog_17_method_69_code 12 = .ok (.getfield 274, 3) := by decide +kernel
theorem d_Mod_compareTried_15 : decode prog_17_method_69_code 15 = .ok (.if_icmp .lt 25, 3) := by decide +kernel
theorem d_Mod_compareTried_18 : decode prog_17_method_69_code 18 = .ok (.aload_n 0, 1) := by decide +kernel
theorem d_Mod_compareTried_19 : decode prog_17_method_69_code 19 = .ok (.getfield 268, 3) := by decide +kernel
theorem d_Mod_compareTried_22 : decode prog_17_method_69_code 22 = .ok (.aload_n 0, 1) := by decide +kernel
theorem d_Mod_compareTried_23 : decode prog_17_method_69_code 23 = .ok (.getfield 274, 3) := by decide +kernel
theorem d_Mod_compareTried_26 : decode prog_17_method_69_code 26 = .ok (.if_icmp .ne 18, 3) := by decide +kernel
theorem d_Mod_compareTried_29 : decode prog_17_method_69_code 29 = .ok (.aload_n 0, 1) := by decide +kernel
theorem d_Mod_compareTried_30 : decode prog_17_method_69_code 30 = .ok (.getfield 265, 3) := by decide +kernel
theorem d_Mod_compareTried_33 : decode prog_17_method_69_code 33 = .ok (.aload_n 0, 1) := by decide +kernel
theorem d_Mod_compareTried_34 : decode prog_17_method_69_code 34 = .ok (.getfield 271, 3) := by decide +kernel
theorem d_Mod_compareTried_37 : decode prog_17_method_69_code 37 = .ok (.if_icmp .ge 7, 3) := by decide +kernel
theorem d_Mod_compareTried_40 : decode prog_17_method_69_code 40 = .ok (.iconst 1, 1) := by decide +kernel
theorem d_Mod_compareTried_41 : decode prog_17_method_69_code 41 = .ok (.goto 4, 3) := by decide +kernel
theorem d_Mod_compareTried_44 : decode prog_17_method_69_code 44 = .ok (.iconst 0, 1) := by decide +kernel
theorem d_Mod_compareTried_45 : decode prog_17_method_69_code 45 = .ok (.istore_n 1, 1) := by decide +kernel
theorem d_Mod_compareTried_46 : decode prog_17_method_69_code 46 = .ok (.iload_n 1, 1) := by decide +kernel
theorem d_Mod_compareTried_47 : decode prog_17_method_69_code 47 = .ok (.ifCond .eq 47, 3) := by decide +kernel
theorem d_Mod_compareTried_50 : decode prog_17_method_69_code 50 = .ok (.iconst 0, 1) := by decide +kernel
theorem d_Mod_compareTried_51 : decode prog_17_method_69_code 51 = .ok (.istore_n 2, 1) := by decide +kernel
theorem d_Mod_compareTried_52 : decode prog_17_method_69_code 52 = .ok (.iload_n 2, 1) := by decide +kernel
theorem d_Mod_compareTried_53 : decode prog_17_method_69_code 53 = .ok (.aload_n 0, 1) := by decide +kernel
theorem d_Mod_compareTried_54 : decode prog_17_method_69_code 54 = .ok (.getfield 265, 3) := by decide +kernel
theorem d_Mod_compareTried_57 : decode prog_17_method_69_code 57 = .ok (.if_icmp .ge 21, 3) := by decide +kernel
theorem d_Mod_compareTried_60 : decode prog_17_method_69_code 60 = .ok (.aload_n 0, 1) := by decide +kernel
theorem d_Mod_compareTried_61 : decode prog_17_method_69_code 61 = .ok (.getfield 39, 3) := by decide +kernel
theorem d_Mod_compareTried_64 : decode prog_17_method_69_code 64 = .ok (.iload_n 2, 1) := by decide +kernel
theorem d_Mod_compareTried_65 : decode prog_17_method_69_code 65 = .ok (.aload_n 0, 1) := by decide +kernel
theorem d_Mod_compareTried_66 : decode prog_17_method_69_code 66 = .ok (.getfield 36, 3) := by decide +kernel
theorem d_Mod_compareTried_69 : decode prog_17_method_69_code 69 = .ok (.iload_n 2, 1) := by decide +kernel
theorem d_Mod_compareTried_70 : decode prog_17_method_69_code 70 = .ok (.iaload, 1) := by decide +kernel
theorem d_Mod_compareTried_71 : decode prog_17_method_69_code 71 = .ok (.iastore, 1) := by decide +kernel
theorem d_Mod_compareTried_72 : decode prog_17_method_69_code 72 = .ok (.iinc 2 1, 3) := by decide +kernel
theorem d_Mod_compareTried_75 : decode prog_17_method_69_code 75 = .ok (.goto (-23), 3) := by decide +kernel
theorem d_Mod_compareTried_78 : decode prog_17_method_69_code 78 = .ok (.aload_n 0, 1) := by decide +kernel
theorem d_Mod_compareTried_79 : decode prog_17_method_69_code 79 = .ok (.aload_n 0, 1) := by decide +kernel
theorem d_Mod_compareTried_80 : decode prog_17_method_69_code 80 = .ok (.getfield 265, 3) := by decide +kernel
theorem d_Mod_compareTried_83 : decode prog_17_method_69_code 83 = .ok (.putfield 271, 3) := by decide +kernel
theorem d_Mod_compareTried_86 : decode prog_17_method_69_code 86 = .ok (.aload_n 0, 1) := by decide +kernel
theorem d_Mod_compareTried_87 : decode prog_17_method_69_code 87 = .ok (.aload_n 0, 1) := by decide +kernel
theorem d_Mod_compareTried_88 : decode prog_17_method_69_code 88 = .ok (.getfield 268, 3) := by decide +kernel
theorem d_Mod_compareTried_91 : decode prog_17_method_69_code 91 = .ok (.putfield 274, 3) := by decide +kernel
theorem d_Mod_compareTried_94 : decode prog_17_method_69_code 94 = .ok (.return_, 1) := by decide +kernel
def Mod_compareTried_52  : Nat → g_MD → Int32 → Option g_MD
  | 0, _, _ => none
  | n + 1, M, v2 => if (M.2.1 24) ≤ v2 then (g_let (mp M 26 (M.2.1 24)) fun M4 => g_let (mp M4 27 (M4.2.1 25)) fun M5 => some M5) else (g_mA M 0 21 v2 fun x6 => g_mS M 0 22 v2 x6 fun M8 => (Mod_compareTried_52  n) M8 (v2 + (1 : Int32)))
set_option maxHeartbeats 4000000 in
set_option maxRecDepth 100000 in
theorem W_Mod_compareTried_52 {X : g_X} {h0 : g_AH} {a0 : Nat} {ad : Nat → Nat} (ok : mOK a0 ad) (z : g_MD)  : ∀ (n : Nat) (M : g_MD) (v2 : Int32), Mod_compareTried_52  n M v2 = some z → G X k_Mod_compareTried (.inl none) (mH h0 a0 ad z) (mH h0 a0 ad M) 52 [(0, .ref a0), (2, .int v2)] [] := by
  intro n
  induction n with
  | zero => intro M v2 hy; exact absurd hy (by simp [Mod_compareTried_52])
  | succ n ih =>
    intro M v2 hy
    rw [Mod_compareTried_52] at hy
    refine g_iload_n 1 (i := 2) (pc' := 53) d_Mod_compareTried_52 rfl rfl rfl ?_
    refine g_aload_n 0 (i := 0) (pc' := 54) d_Mod_compareTried_53 rfl rfl rfl ?_
    refine gm_getA ok 24 (pc' := 57) d_Mod_compareTried_54 rfl q1989 rfl rfl ?_
    by_cases c3 : (M.2.1 24) ≤ v2
    · rw [if_pos c3] at hy
      refine g_icmp_geT (pc' := 78) d_Mod_compareTried_57 c3 (by decide) ?_
      refine g_aload_n 0 (i := 0) (pc' := 79) d_Mod_compareTried_78 rfl rfl rfl ?_
      refine g_aload_n 0 (i := 0) (pc' := 80) d_Mod_compareTried_79 rfl rfl rfl ?_
      refine gm_getA ok 24 (pc' := 83) d_Mod_compareTried_80 rfl q1989 rfl rfl ?_
      replace hy := g_let_inv hy
      refine gm_put ok 26 (pc' := 86) d_Mod_compareTried_83 rfl (by decide) q1991 rfl ?_
      generalize (mp M 26 (M.2.1 24)) = M4 at hy ⊢
      refine g_aload_n 0 (i := 0) (pc' := 87) d_Mod_compareTried_86 rfl rfl rfl ?_
      refine g_aload_n 0 (i := 0) (pc' := 88) d_Mod_compareTried_87 rfl rfl rfl ?_
      refine gm_getA ok 25 (pc' := 91) d_Mod_compareTried_88 rfl q1990 rfl rfl ?_
      replace hy := g_let_inv hy
      refine gm_put ok 27 (pc' := 94) d_Mod_compareTried_91 rfl (by decide) q1992 rfl ?_
      generalize (mp M4 27 (M4.2.1 25)) = M5 at hy ⊢
      cases hy
      exact g_vret rfl rfl rfl d_Mod_compareTried_94
    · rw [if_neg c3] at hy
      refine g_icmp_geF (pc' := 60) d_Mod_compareTried_57 78 c3 (by decide) rfl ?_
      refine g_aload_n 0 (i := 0) (pc' := 61) d_Mod_compareTried_60 rfl rfl rfl ?_
      refine gm_getA ok 22 (pc' := 64) d_Mod_compareTried_61 rfl q1987 rfl rfl ?_
      refine g_iload_n 1 (i := 2) (pc' := 65) d_Mod_compareTried_64 rfl rfl rfl ?_
      refine g_aload_n 0 (i := 0) (pc' := 66) d_Mod_compareTried_65 rfl rfl rfl ?_
      refine gm_getA ok 21 (pc' := 69) d_Mod_compareTried_66 rfl q1986 rfl rfl ?_
      refine g_iload_n 1 (i := 2) (pc' := 70) d_Mod_compareTried_69 rfl rfl rfl ?_
      replace hy := g_mA_inv hy
      obtain ⟨x6, hc7, hy⟩ := hy
      refine gm_ald0 ok (pc' := 71) d_Mod_compareTried_70 hc7 rfl ?_
      replace hy := g_mS_inv hy
      obtain ⟨hc9, hy⟩ := hy
      refine gm_ast0 ok (pc' := 72) d_Mod_compareTried_71 hc9 rfl ?_
      generalize ms M 22 (v2).toNatClampNeg x6 = M8 at hy ⊢
      refine g_iinc 1 (v := (v2 + (1 : Int32))) (pc' := 75) (Lc' := [(2, .int (v2 + (1 : Int32))), (0, .ref a0)]) d_Mod_compareTried_72 rfl rfl (by decide) rfl rfl ?_
      refine g_goto (pc' := 52) d_Mod_compareTried_75 (by decide) ?_
      refine g_sub [1, 0] rfl ?_
      exact ih _ _ hy
def Mod_compareTried_45 (M : g_MD) (s0 : Int32) : Option g_MD :=
  if s0 = 0 then (some M) else (Mod_compareTried_52  gFU M (0 : Int32))
set_option maxHeartbeats 4000000 in
set_option maxRecDepth 100000 in
theorem W_Mod_compareTried_45 {X : g_X} {h0 : g_AH} {a0 : Nat} {ad : Nat → Nat} (ok : mOK a0 ad) (z : g_MD) (M : g_MD) (s0 : Int32) (hy : Mod_compareTried_45  M s0 = some z) : G X k_Mod_compareTried (.inl none) (mH h0 a0 ad z) (mH h0 a0 ad M) 45 [(0, .ref a0)] [.int s0] := by
  unfold Mod_compareTried_45 at hy
  refine g_istore_n (i := 1) (pc' := 46) (Lc' := [(1, .int s0), (0, .ref a0)]) d_Mod_compareTried_45 rfl (by decide) rfl rfl ?_
  refine g_iload_n 0 (i := 1) (pc' := 47) d_Mod_compareTried_46 rfl rfl rfl ?_
  by_cases c2 : s0 = 0
  · rw [if_pos c2] at hy
    refine g_if_eqT (pc' := 94) d_Mod_compareTried_47 c2 (by decide) ?_
    cases hy
    exact g_vret rfl rfl rfl d_Mod_compareTried_94
  · rw [if_neg c2] at hy
    refine g_if_eqF (pc' := 50) d_Mod_compareTried_47 94 c2 (by decide) rfl ?_
    refine g_iconst (v := (0 : Int32)) (pc' := 51) d_Mod_compareTried_50 (by decide) rfl ?_
    refine g_istore_n (i := 2) (pc' := 52) (Lc' := [(2, .int (0 : Int32)), (1, .int s0), (0, .ref a0)]) d_Mod_compareTried_51 rfl (by decide) rfl rfl ?_
    refine g_sub [2, 0] rfl ?_
    exact W_Mod_compareTried_52 ok _ _ _ _ hy
def Mod_compareTried_40 (M : g_MD) : Option g_MD :=
  Mod_compareTried_45  M (1 : Int32)
set_option maxHeartbeats 4000000 in
set_option maxRecDepth 100000 in
theorem W_Mod_compareTried_40 {X : g_X} {h0 : g_AH} {a0 : Nat} {ad : Nat → Nat} (ok : mOK a0 ad) (z : g_MD) (M : g_MD) (hy : Mod_compareTried_40  M = some z) : G X k_Mod_compareTried (.inl none) (mH h0 a0 ad z) (mH h0 a0 ad M) 40 [(0, .ref a0)] [] := by
  unfold Mod_compareTried_40 at hy
  refine g_iconst (v := (1 : Int32)) (pc' := 41) d_Mod_compareTried_40 (by decide) rfl ?_
  refine g_goto (pc' := 45) d_Mod_compareTried_41 (by decide) ?_
  exact W_Mod_compareTried_45 ok _ _ _ hy
def Mod_compareTried_44 (M : g_MD) : Option g_MD :=
  Mod_compareTried_45  M (0 : Int32)
set_option maxHeartbeats 4000000 in
set_option maxRecDepth 100000 in
theorem W_Mod_compareTried_44 {X : g_X} {h0 : g_AH} {a0 : Nat} {ad : Nat → Nat} (ok : mOK a0 ad) (z : g_MD) (M : g_MD) (hy : Mod_compareTried_44  M = some z) : G X k_Mod_compareTried (.inl none) (mH h0 a0 ad z) (mH h0 a0 ad M) 44 [(0, .ref a0)] [] := by
  unfold Mod_compareTried_44 at hy
  refine g_iconst (v := (0 : Int32)) (pc' := 45) d_Mod_compareTried_44 (by decide) rfl ?_
  exact W_Mod_compareTried_45 ok _ _ _ hy
def Mod_compareTried (M : g_MD)  : Option g_MD :=
  if (M.2.1 26) = 0 then (Mod_compareTried_40  M) else (if (M.2.1 25) < (M.2.1 27) then (Mod_compareTried_40  M) else (if (M.2.1 25) = (M.2.1 27) then (if (M.2.1 26) ≤ (M.2.1 24) then (Mod_compareTried_44  M) else (Mod_compareTried_40  M)) else (Mod_compareTried_44  M)))
set_option maxHeartbeats 4000000 in
set_option maxRecDepth 100000 in
theorem T_Mod_compareTried {l : Launch} {B : g_B} {h0 : g_AH} {a0 : Nat} {ad : Nat → Nat} (ok : mOK a0 ad) (M : g_MD)  (z : g_MD) (hy : Mod_compareTried M  = some z) : g_CT l B y_Mod_compareTried k_Mod_compareTried [.ref a0] (mH h0 a0 ad M) (.inl none) (mH h0 a0 ad z) := by
  refine g_start2 (Lc := [(0, .ref a0)]) (by decide) rfl rfl (by exact Nat.le_of_ble_eq_true rfl) (by rfl) fun X => ?_
  unfold Mod_compareTried at hy
  refine g_aload_n 0 (i := 0) (pc' := 1) d_Mod_compareTried_0 rfl rfl rfl ?_
  refine gm_getA ok 26 (pc' := 4) d_Mod_compareTried_1 rfl q1991 rfl rfl ?_
  by_cases c1 : (M.2.1 26) = 0
  · rw [if_pos c1] at hy
    refine g_if_eqT (pc' := 40) d_Mod_compareTried_4 c1 (by decide) ?_
    exact W_Mod_compareTried_40 ok _ _ hy
  · rw [if_neg c1] at hy
    refine g_if_eqF (pc' := 7) d_Mod_compareTried_4 40 c1 (by decide) rfl ?_
    refine g_aload_n 0 (i := 0) (pc' := 8) d_Mod_compareTried_7 rfl rfl rfl ?_
    refine gm_getA ok 25 (pc' := 11) d_Mod_compareTried_8 rfl q1990 rfl rfl ?_
    refine g_aload_n 0 (i := 0) (pc' := 12) d_Mod_compareTried_11 rfl rfl rfl ?_
    refine gm_getA ok 27 (pc' := 15) d_Mod_compareTried_12 rfl q1992 rfl rfl ?_
    by_cases c10 : (M.2.1 25) < (M.2.1 27)
    · rw [if_pos c10] at hy
      refine g_icmp_ltT (pc' := 40) d_Mod_compareTried_15 c10 (by decide) ?_
      exact W_Mod_compareTried_40 ok _ _ hy
    · rw [if_neg c10] at hy
      refine g_icmp_ltF (pc' := 18) d_Mod_compareTried_15 40 c10 (by decide) rfl ?_
      refine g_aload_n 0 (i := 0) (pc' := 19) d_Mod_compareTried_18 rfl rfl rfl ?_
      refine gm_getA ok 25 (pc' := 22) d_Mod_compareTried_19 rfl q1990 rfl rfl ?_
      refine g_aload_n 0 (i := 0) (pc' := 23) d_Mod_compareTried_22 rfl rfl rfl ?_
      refine gm_getA ok 27 (pc' := 26) d_Mod_compareTried_23 rfl q1992 rfl rfl ?_
      by_cases c11 : (M.2.1 25) = (M.2.1 27)
      · rw [if_pos c11] at hy
        refine g_icmp_neF (pc' := 29) d_Mod_compareTried_26 44 c11 (by decide) rfl ?_
        refine g_aload_n 0 (i := 0) (pc' := 30) d_Mod_compareTried_29 rfl rfl rfl ?_
        refine gm_getA ok 24 (pc' := 33) d_Mod_compareTried_30 rfl q1989 rfl rfl ?_
        refine g_aload_n 0 (i := 0) (pc' := 34) d_Mod_compareTried_33 rfl rfl rfl ?_
        refine gm_getA ok 26 (pc' := 37) d_Mod_compareTried_34 rfl q1991 rfl rfl ?_
        by_cases c12 : (M.2.1 26) ≤ (M.2.1 24)
        · rw [if_pos c12] at hy
          refine g_icmp_geT (pc' := 44) d_Mod_compareTried_37 c12 (by decide) ?_
          exact W_Mod_compareTried_44 ok _ _ hy
        · rw [if_neg c12] at hy
          refine g_icmp_geF (pc' := 40) d_Mod_compareTried_37 44 c12 (by decide) rfl ?_
          exact W_Mod_compareTried_40 ok _ _ hy
      · rw [if_neg c11] at hy
        refine g_icmp_neT (pc' := 44) d_Mod_compareTried_26 c11 (by decide) ?_
        exact W_Mod_compareTried_44 ok _ _ hy
theorem hd_Mod_compareTried : g_dsc y_Mod_compareTried 0 := ⟨by decide +kernel, by decide +kernel, by decide +kernel⟩
