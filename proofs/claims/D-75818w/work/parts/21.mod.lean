/-! CircuitDeskModel.reserved(II)I -/
abbrev y_Mod_reserved : MethodName := ⟨"CircuitDeskModel", "reserved", "(II)I"⟩
abbrev k_Mod_reserved : g_M := (prog_17_method_44_code, 6, "CircuitDeskModel", 15, (some FieldType.int), "reserved", [], 0)
theorem d_Mod_reserved_0 : decode prog_17_method_44_code 0 = .ok (.iconst 0, 1) := by decide +kernel
theorem d_Mod_reserved_1 : decode prog_17_method_44_code 1 = .ok (.istore_n 3, 1) := by decide +kernel
theorem d_Mod_reserved_2 : decode prog_17_method_44_code 2 = .ok (.iconst 0, 1) := by decide +kernel
theorem d_Mod_reserved_3 : decode prog_17_method_44_code 3 = .ok (.istore 4, 2) := by decide +kernel
theorem d_Mod_reserved_5 : decode prog_17_method_44_code 5 = .ok (.iload 4, 2) := by decide +kernel
theorem d_Mod_reserved_7 : decode prog_17_method_44_code 7 = .ok (.aload_n 0, 1) := by decide +kernel
theorem d_Mod_reserved_8 : decode prog_17_method_44_code 8 = .ok (.getfield 7, 3) := by decide +kernel
theorem d_Mod_reserved_11 : decode prog_17_method_44_code 11 = .ok (.iconst 4, 1) := by decide +kernel
theorem d_Mod_reserved_12 : decode prog_17_method_44_code 12 = .ok (.iaload, 1) := by decide +kernel
theorem d_Mod_reserved_13 : decode prog_17_method_44_code 13 = .ok (.if_icmp .ge 79, 3) := by decide +kernel
theorem d_Mod_reserved_16 : decode prog_17_method_44_code 16 = .ok (.iload 4, 2) := by decide +kernel
theorem d_Mod_reserved_18 : decode prog_17_method_44_code 18 = .ok (.iload_n 2, 1) := by decide +kernel
theorem d_Mod_reserved_19 : decode prog_17_method_44_code 19 = .ok (.if_icmp .eq 45, 3) := by decide +kernel
theorem d_Mod_reserved_22 : decode prog_17_method_44_code 22 = .ok (.aload_n 0, 1) := by decide +kernel
theorem d_Mod_reserved_23 : decode prog_17_method_44_code 23 = .ok (.iload 4, 2) := by decide +kernel
theorem d_Mod_reserved_25 : decode prog_17_method_44_code 25 = .ok (.iconst 0, 1) := by decide +kernel
theorem d_Mod_reserved_26 : decode prog_17_method_44_code 26 = .ok (.invokestatic 144, 3) := by decide +kernel
theorem d_Mod_reserved_29 : decode prog_17_method_44_code 29 = .ok (.iload_n 1, 1) := by decide +kernel
theorem d_Mod_reserved_30 : decode prog_17_method_44_code 30 = .ok (.invokevirtual 207, 3) := by decide +kernel
theorem d_Mod_reserved_33 : decode prog_17_method_44_code 33 = .ok (.ifCond .ne 27, 3) := by decide +kernel
theorem d_Mod_reserved_36 : decode prog_17_method_44_code 36 = .ok (.aload_n 0, 1) := by decide +kernel
theorem d_Mod_reserved_37 : decode prog_17_method_44_code 37 = .ok (.iload 4, 2) := by decide +kernel
theorem d_Mod_reserved_39 : decode prog_17_method_44_code 39 = .ok (.iconst 2, 1) := by decide +kernel
theorem d_Mod_reserved_40 : decode prog_17_method_44_code 40 = .ok (.invokevirtual 150, 3) := by decide +kernel
theorem d_Mod_reserved_43 : decode prog_17_method_44_code 43 = .ok (.ifCond .le 21, 3) := by decide +kernel
theorem d_Mod_reserved_46 : decode prog_17_method_44_code 46 = .ok (.aload_n 0, 1) := by decide +kernel
theorem d_Mod_reserved_47 : decode prog_17_method_44_code 47 = .ok (.iload 4, 2) := by decide +kernel
theorem d_Mod_reserved_49 : decode prog_17_method_44_code 49 = .ok (.iconst 1, 1) := by decide +kernel
theorem d_Mod_reserved_50 : decode prog_17_method_44_code 50 = .ok (.invokestatic 144, 3) := by decide +kernel
theorem d_Mod_reserved_53 : decode prog_17_method_44_code 53 = .ok (.iload_n 1, 1) := by decide +kernel
theorem d_Mod_reserved_54 : decode prog_17_method_44_code 54 = .ok (.invokevirtual 207, 3) := by decide +kernel
theorem d_Mod_reserved_57 : decode prog_17_method_44_code 57 = .ok (.ifCond .eq 7, 3) := by decide +kernel
theorem d_Mod_reserved_60 : decode prog_17_method_44_code 60 = .ok (.iconst 1, 1) := by decide +kernel
theorem d_Mod_reserved_61 : decode prog_17_method_44_code 61 = .ok (.goto 4, 3) := by decide +kernel
theorem d_Mod_reserved_64 : decode prog_17_method_44_code 64 = .ok (.iconst 0, 1) := by decide +kernel
theorem d_Mod_reserved_65 : decode prog_17_method_44_code 65 = .ok (.istore 5, 2) := by decide +kernel
theorem d_Mod_reserved_67 : decode prog_17_method_44_code 67 = .ok (.iload_n 3, 1) := by decide +kernel
theorem d_Mod_reserved_68 : decode prog_17_method_44_code 68 = .ok (.iload 5, 2) := by decide +kernel
theorem d_Mod_reserved_70 : decode prog_17_method_44_code 70 = .ok (.ifCond .eq 13, 3) := by decide +kernel
theorem d_Mod_reserved_73 : decode prog_17_method_44_code 73 = .ok (.aload_n 0, 1) := by decide +kernel
theorem d_Mod_reserved_74 : decode prog_17_method_44_code 74 = .ok (.iload 4, 2) := by decide +kernel
theorem d_Mod_reserved_76 : decode prog_17_method_44_code 76 = .ok (.iconst 0, 1) := by decide +kernel
theorem d_Mod_reserved_77 : decode prog_17_method_44_code 77 = .ok (.invokevirtual 150, 3) := by decide +kernel
theorem d_Mod_reserved_80 : decode prog_17_method_44_code 80 = .ok (.goto 4, 3) := by decide +kernel
theorem d_Mod_reserved_83 : decode prog_17_method_44_code 83 = .ok (.iconst 0, 1) := by decide +kernel
theorem d_Mod_reserved_84 : decode prog_17_method_44_code 84 = .ok (.iadd, 1) := by decide +kernel
theorem d_Mod_reserved_85 : decode prog_17_method_44_code 85 = .ok (.istore_n 3, 1) := by decide +kernel
theorem d_Mod_reserved_86 : decode prog_17_method_44_code 86 = .ok (.iinc 4 1, 3) := by decide +kernel
theorem d_Mod_reserved_89 : decode prog_17_method_44_code 89 = .ok (.goto (-84), 3) := by decide +kernel
theorem d_Mod_reserved_92 : decode prog_17_method_44_code 92 = .ok (.iload_n 3, 1) := by decide +kernel
theorem d_Mod_reserved_93 : decode prog_17_method_44_code 93 = .ok (.ireturn, 1) := by decide +kernel
def Mod_reserved_84 (M : g_MD) (k5 : Int32 → Int32 → Int32 → Int32 → Option (Int32)) (v1 : Int32) (v2 : Int32) (v4 : Int32) (s0 : Int32) (s1 : Int32) : Option (Int32) :=
  k5 v1 v2 (s1 + s0) (v4 + (1 : Int32))
set_option maxHeartbeats 4000000 in
set_option maxRecDepth 100000 in
theorem W_Mod_reserved_84 {X : g_X} {h0 : g_AH} {a0 : Nat} {ad : Nat → Nat} (ok : mOK a0 ad) (M : g_MD) (z : Int32) (k5 : Int32 → Int32 → Int32 → Int32 → Option (Int32)) (hk5 : ∀ (v1 : Int32) (v2 : Int32) (v3 : Int32) (v4 : Int32), k5 v1 v2 v3 v4 = some z → G X k_Mod_reserved (.inl (some (.int z))) (mH h0 a0 ad M) (mH h0 a0 ad M) 5 [(0, .ref a0), (1, .int v1), (2, .int v2), (3, .int v3), (4, .int v4)] []) (v1 : Int32) (v2 : Int32) (v4 : Int32) (s0 : Int32) (s1 : Int32) (hy : Mod_reserved_84 M k5 v1 v2 v4 s0 s1 = some z) : G X k_Mod_reserved (.inl (some (.int z))) (mH h0 a0 ad M) (mH h0 a0 ad M) 84 [(0, .ref a0), (1, .int v1), (2, .int v2), (4, .int v4)] [.int s0, .int s1] := by
  unfold Mod_reserved_84 at hy
  refine g_iadd (pc' := 85) d_Mod_reserved_84 rfl ?_
  refine g_istore_n (i := 3) (pc' := 86) (Lc' := [(3, .int (s1 + s0)), (0, .ref a0), (1, .int v1), (2, .int v2), (4, .int v4)]) d_Mod_reserved_85 rfl (by decide) rfl rfl ?_
  refine g_iinc 4 (v := (v4 + (1 : Int32))) (pc' := 89) (Lc' := [(4, .int (v4 + (1 : Int32))), (3, .int (s1 + s0)), (0, .ref a0), (1, .int v1), (2, .int v2)]) d_Mod_reserved_86 rfl rfl (by decide) rfl rfl ?_
  refine g_goto (pc' := 5) d_Mod_reserved_89 (by decide) ?_
  refine g_sub [2, 3, 4, 1, 0] rfl ?_
  exact hk5 _ _ _ _ hy
def Mod_reserved_65 (M : g_MD) (k5 : Int32 → Int32 → Int32 → Int32 → Option (Int32)) (v1 : Int32) (v2 : Int32) (v3 : Int32) (v4 : Int32) (s0 : Int32) : Option (Int32) :=
  if s0 = 0 then (Mod_reserved_84 M k5 v1 v2 v4 (0 : Int32) v3) else (g_b (Mod_of M v4 (0 : Int32)) fun x6 => Mod_reserved_84 M k5 v1 v2 v4 x6 v3)
set_option maxHeartbeats 4000000 in
set_option maxRecDepth 100000 in
theorem W_Mod_reserved_65 {X : g_X} {h0 : g_AH} {a0 : Nat} {ad : Nat → Nat} (ok : mOK a0 ad) (M : g_MD) (z : Int32) (k5 : Int32 → Int32 → Int32 → Int32 → Option (Int32)) (hk5 : ∀ (v1 : Int32) (v2 : Int32) (v3 : Int32) (v4 : Int32), k5 v1 v2 v3 v4 = some z → G X k_Mod_reserved (.inl (some (.int z))) (mH h0 a0 ad M) (mH h0 a0 ad M) 5 [(0, .ref a0), (1, .int v1), (2, .int v2), (3, .int v3), (4, .int v4)] []) (v1 : Int32) (v2 : Int32) (v3 : Int32) (v4 : Int32) (s0 : Int32) (hy : Mod_reserved_65 M k5 v1 v2 v3 v4 s0 = some z) : G X k_Mod_reserved (.inl (some (.int z))) (mH h0 a0 ad M) (mH h0 a0 ad M) 65 [(0, .ref a0), (1, .int v1), (2, .int v2), (3, .int v3), (4, .int v4)] [.int s0] := by
  unfold Mod_reserved_65 at hy
  refine g_istore (pc' := 67) (Lc' := [(5, .int s0), (0, .ref a0), (1, .int v1), (2, .int v2), (3, .int v3), (4, .int v4)]) d_Mod_reserved_65 (by decide) rfl rfl ?_
  refine g_iload_n 4 (i := 3) (pc' := 68) d_Mod_reserved_67 rfl rfl rfl ?_
  refine g_iload 0 (pc' := 70) d_Mod_reserved_68 rfl rfl ?_
  by_cases c5 : s0 = 0
  · rw [if_pos c5] at hy
    refine g_if_eqT (pc' := 83) d_Mod_reserved_70 c5 (by decide) ?_
    refine g_iconst (v := (0 : Int32)) (pc' := 84) d_Mod_reserved_83 (by decide) rfl ?_
    refine g_sub [1, 2, 3, 5] rfl ?_
    exact W_Mod_reserved_84 ok _ _ _ hk5 _ _ _ _ _ hy
  · rw [if_neg c5] at hy
    refine g_if_eqF (pc' := 73) d_Mod_reserved_70 83 c5 (by decide) rfl ?_
    refine g_aload_n 1 (i := 0) (pc' := 74) d_Mod_reserved_73 rfl rfl rfl ?_
    refine g_iload 5 (pc' := 76) d_Mod_reserved_74 rfl rfl ?_
    refine g_iconst (v := (0 : Int32)) (pc' := 77) d_Mod_reserved_76 (by decide) rfl ?_
    replace hy := g_b_inv hy
    obtain ⟨x6, hf8, hy⟩ := hy
    refine g_callV (rv := some (.int x6)) (h1 := (mH h0 a0 ad M)) (pc' := 80) (As := [.int v4, .int (0 : Int32)]) (rest := [.int v3]) 2 (T_Mod_of ok (hy := hf8)) d_Mod_reserved_77 (mH_look ok) rfl rfl q2186 q2188 qs52 q135 q2189 hd_Mod_of rfl ⟨by decide, by decide⟩ (by first | exact Nat.le_of_ble_eq_true rfl | (simp only [List.map, List.sum_cons, List.sum_nil, g_cat_rf]; exact Nat.le_of_ble_eq_true rfl) | (simp only [List.map, List.sum_cons, List.sum_nil, g_cat_rf, Value.category]; decide)) rfl ?_
    refine g_goto (pc' := 84) d_Mod_reserved_80 (by decide) ?_
    refine g_sub [1, 2, 3, 5] rfl ?_
    exact W_Mod_reserved_84 ok _ _ _ hk5 _ _ _ _ _ hy
def Mod_reserved_64 (M : g_MD) (k5 : Int32 → Int32 → Int32 → Int32 → Option (Int32)) (v1 : Int32) (v2 : Int32) (v3 : Int32) (v4 : Int32) : Option (Int32) :=
  Mod_reserved_65 M k5 v1 v2 v3 v4 (0 : Int32)
set_option maxHeartbeats 4000000 in
set_option maxRecDepth 100000 in
theorem W_Mod_reserved_64 {X : g_X} {h0 : g_AH} {a0 : Nat} {ad : Nat → Nat} (ok : mOK a0 ad) (M : g_MD) (z : Int32) (k5 : Int32 → Int32 → Int32 → Int32 → Option (Int32)) (hk5 : ∀ (v1 : Int32) (v2 : Int32) (v3 : Int32) (v4 : Int32), k5 v1 v2 v3 v4 = some z → G X k_Mod_reserved (.inl (some (.int z))) (mH h0 a0 ad M) (mH h0 a0 ad M) 5 [(0, .ref a0), (1, .int v1), (2, .int v2), (3, .int v3), (4, .int v4)] []) (v1 : Int32) (v2 : Int32) (v3 : Int32) (v4 : Int32) (hy : Mod_reserved_64 M k5 v1 v2 v3 v4 = some z) : G X k_Mod_reserved (.inl (some (.int z))) (mH h0 a0 ad M) (mH h0 a0 ad M) 64 [(0, .ref a0), (1, .int v1), (2, .int v2), (3, .int v3), (4, .int v4)] [] := by
  unfold Mod_reserved_64 at hy
  refine g_iconst (v := (0 : Int32)) (pc' := 65) d_Mod_reserved_64 (by decide) rfl ?_
  exact W_Mod_reserved_65 ok _ _ _ hk5 _ _ _ _ _ hy
def Mod_reserved_60 (M : g_MD) (k5 : Int32 → Int32 → Int32 → Int32 → Option (Int32)) (v1 : Int32) (v2 : Int32) (v3 : Int32) (v4 : Int32) : Option (Int32) :=
  Mod_reserved_65 M k5 v1 v2 v3 v4 (1 : Int32)
set_option maxHeartbeats 4000000 in
set_option maxRecDepth 100000 in
theorem W_Mod_reserved_60 {X : g_X} {h0 : g_AH} {a0 : Nat} {ad : Nat → Nat} (ok : mOK a0 ad) (M : g_MD) (z : Int32) (k5 : Int32 → Int32 → Int32 → Int32 → Option (Int32)) (hk5 : ∀ (v1 : Int32) (v2 : Int32) (v3 : Int32) (v4 : Int32), k5 v1 v2 v3 v4 = some z → G X k_Mod_reserved (.inl (some (.int z))) (mH h0 a0 ad M) (mH h0 a0 ad M) 5 [(0, .ref a0), (1, .int v1), (2, .int v2), (3, .int v3), (4, .int v4)] []) (v1 : Int32) (v2 : Int32) (v3 : Int32) (v4 : Int32) (hy : Mod_reserved_60 M k5 v1 v2 v3 v4 = some z) : G X k_Mod_reserved (.inl (some (.int z))) (mH h0 a0 ad M) (mH h0 a0 ad M) 60 [(0, .ref a0), (1, .int v1), (2, .int v2), (3, .int v3), (4, .int v4)] [] := by
  unfold Mod_reserved_60 at hy
  refine g_iconst (v := (1 : Int32)) (pc' := 61) d_Mod_reserved_60 (by decide) rfl ?_
  refine g_goto (pc' := 65) d_Mod_reserved_61 (by decide) ?_
  exact W_Mod_reserved_65 ok _ _ _ hk5 _ _ _ _ _ hy
def Mod_reserved_5 (M : g_MD)  : Nat → Int32 → Int32 → Int32 → Int32 → Option (Int32)
  | 0, _, _, _, _ => none
  | n + 1, v1, v2, v3, v4 => g_mA M 0 0 (4 : Int32) fun x1 => if x1 ≤ v4 then (some v3) else (if v4 = v2 then (Mod_reserved_64 M (Mod_reserved_5 M  n) v1 v2 v3 v4) else (g_b (Mod_wayPlace v4 (0 : Int32)) fun x9 => g_b (Mod_usesLink M x9 v1) fun x12 => if x12 = 0 then (g_b (Mod_of M v4 (2 : Int32)) fun x16 => if x16 ≤ 0 then (Mod_reserved_64 M (Mod_reserved_5 M  n) v1 v2 v3 v4) else (g_b (Mod_wayPlace v4 (1 : Int32)) fun x20 => g_b (Mod_usesLink M x20 v1) fun x23 => if x23 = 0 then (Mod_reserved_64 M (Mod_reserved_5 M  n) v1 v2 v3 v4) else (Mod_reserved_60 M (Mod_reserved_5 M  n) v1 v2 v3 v4))) else (Mod_reserved_60 M (Mod_reserved_5 M  n) v1 v2 v3 v4)))
set_option maxHeartbeats 4000000 in
set_option maxRecDepth 100000 in
theorem W_Mod_reserved_5 {X : g_X} {h0 : g_AH} {a0 : Nat} {ad : Nat → Nat} (ok : mOK a0 ad) (M : g_MD) (z : Int32)  : ∀ (n : Nat) (v1 : Int32) (v2 : Int32) (v3 : Int32) (v4 : Int32), Mod_reserved_5 M  n v1 v2 v3 v4 = some z → G X k_Mod_reserved (.inl (some (.int z))) (mH h0 a0 ad M) (mH h0 a0 ad M) 5 [(0, .ref a0), (1, .int v1), (2, .int v2), (3, .int v3), (4, .int v4)] [] := by
  intro n
  induction n with
  | zero => intro v1 v2 v3 v4 hy; exact absurd hy (by simp [Mod_reserved_5])
  | succ n ih =>
    intro v1 v2 v3 v4 hy
    rw [Mod_reserved_5] at hy
    refine g_iload 4 (pc' := 7) d_Mod_reserved_5 rfl rfl ?_
    refine g_aload_n 0 (i := 0) (pc' := 8) d_Mod_reserved_7 rfl rfl rfl ?_
    refine gm_getA ok 0 (pc' := 11) d_Mod_reserved_8 rfl q1965 rfl rfl ?_
    refine g_iconst (v := (4 : Int32)) (pc' := 12) d_Mod_reserved_11 (by decide) rfl ?_
    replace hy := g_mA_inv hy
    obtain ⟨x1, hc2, hy⟩ := hy
    refine gm_ald0 ok (pc' := 13) d_Mod_reserved_12 hc2 rfl ?_
    by_cases c3 : x1 ≤ v4
    · rw [if_pos c3] at hy
      refine g_icmp_geT (pc' := 92) d_Mod_reserved_13 c3 (by decide) ?_
      refine g_iload_n 3 (i := 3) (pc' := 93) d_Mod_reserved_92 rfl rfl rfl ?_
      cases hy
      exact g_iret rfl rfl rfl d_Mod_reserved_93
    · rw [if_neg c3] at hy
      refine g_icmp_geF (pc' := 16) d_Mod_reserved_13 92 c3 (by decide) rfl ?_
      refine g_iload 4 (pc' := 18) d_Mod_reserved_16 rfl rfl ?_
      refine g_iload_n 2 (i := 2) (pc' := 19) d_Mod_reserved_18 rfl rfl rfl ?_
      by_cases c4 : v4 = v2
      · rw [if_pos c4] at hy
        refine g_icmp_eqT (pc' := 64) d_Mod_reserved_19 c4 (by decide) ?_
        exact W_Mod_reserved_64 ok _ _ _ ih _ _ _ _ hy
      · rw [if_neg c4] at hy
        refine g_icmp_eqF (pc' := 22) d_Mod_reserved_19 64 c4 (by decide) rfl ?_
        refine g_aload_n 0 (i := 0) (pc' := 23) d_Mod_reserved_22 rfl rfl rfl ?_
        refine g_iload 4 (pc' := 25) d_Mod_reserved_23 rfl rfl ?_
        refine g_iconst (v := (0 : Int32)) (pc' := 26) d_Mod_reserved_25 (by decide) rfl ?_
        replace hy := g_b_inv hy
        obtain ⟨x9, hf11, hy⟩ := hy
        refine g_callS (rv := some (.int x9)) (h1 := (mH h0 a0 ad M)) (pc' := 29) (As := [.int v4, .int (0 : Int32)]) (rest := [.ref a0]) 2 (T_Mod_wayPlace (hy := hf11)) d_Mod_reserved_26 q2179 q2180 q135 q2181 hd_Mod_wayPlace rfl ⟨by decide, by decide⟩ (by first | exact Nat.le_of_ble_eq_true rfl | (simp only [List.map, List.sum_cons, List.sum_nil, g_cat_rf]; exact Nat.le_of_ble_eq_true rfl) | (simp only [List.map, List.sum_cons, List.sum_nil, g_cat_rf, Value.category]; decide)) rfl ?_
        refine g_iload_n 1 (i := 1) (pc' := 30) d_Mod_reserved_29 rfl rfl rfl ?_
        replace hy := g_b_inv hy
        obtain ⟨x12, hf14, hy⟩ := hy
        refine g_callV (rv := some (.int x12)) (h1 := (mH h0 a0 ad M)) (pc' := 33) (As := [.int x9, .int v1]) (rest := []) 2 (T_Mod_usesLink ok (hy := hf14)) d_Mod_reserved_30 (mH_look ok) rfl rfl q2198 q2200 qs55 q135 q2201 hd_Mod_usesLink rfl ⟨by decide, by decide⟩ (by first | exact Nat.le_of_ble_eq_true rfl | (simp only [List.map, List.sum_cons, List.sum_nil, g_cat_rf]; exact Nat.le_of_ble_eq_true rfl) | (simp only [List.map, List.sum_cons, List.sum_nil, g_cat_rf, Value.category]; decide)) rfl ?_
        by_cases c15 : x12 = 0
        · rw [if_pos c15] at hy
          refine g_if_neF (pc' := 36) d_Mod_reserved_33 60 c15 (by decide) rfl ?_
          refine g_aload_n 0 (i := 0) (pc' := 37) d_Mod_reserved_36 rfl rfl rfl ?_
          refine g_iload 4 (pc' := 39) d_Mod_reserved_37 rfl rfl ?_
          refine g_iconst (v := (2 : Int32)) (pc' := 40) d_Mod_reserved_39 (by decide) rfl ?_
          replace hy := g_b_inv hy
          obtain ⟨x16, hf18, hy⟩ := hy
          refine g_callV (rv := some (.int x16)) (h1 := (mH h0 a0 ad M)) (pc' := 43) (As := [.int v4, .int (2 : Int32)]) (rest := []) 2 (T_Mod_of ok (hy := hf18)) d_Mod_reserved_40 (mH_look ok) rfl rfl q2186 q2188 qs52 q135 q2189 hd_Mod_of rfl ⟨by decide, by decide⟩ (by first | exact Nat.le_of_ble_eq_true rfl | (simp only [List.map, List.sum_cons, List.sum_nil, g_cat_rf]; exact Nat.le_of_ble_eq_true rfl) | (simp only [List.map, List.sum_cons, List.sum_nil, g_cat_rf, Value.category]; decide)) rfl ?_
          by_cases c19 : x16 ≤ 0
          · rw [if_pos c19] at hy
            refine g_if_leT (pc' := 64) d_Mod_reserved_43 c19 (by decide) ?_
            exact W_Mod_reserved_64 ok _ _ _ ih _ _ _ _ hy
          · rw [if_neg c19] at hy
            refine g_if_leF (pc' := 46) d_Mod_reserved_43 64 c19 (by decide) rfl ?_
            refine g_aload_n 0 (i := 0) (pc' := 47) d_Mod_reserved_46 rfl rfl rfl ?_
            refine g_iload 4 (pc' := 49) d_Mod_reserved_47 rfl rfl ?_
            refine g_iconst (v := (1 : Int32)) (pc' := 50) d_Mod_reserved_49 (by decide) rfl ?_
            replace hy := g_b_inv hy
            obtain ⟨x20, hf22, hy⟩ := hy
            refine g_callS (rv := some (.int x20)) (h1 := (mH h0 a0 ad M)) (pc' := 53) (As := [.int v4, .int (1 : Int32)]) (rest := [.ref a0]) 2 (T_Mod_wayPlace (hy := hf22)) d_Mod_reserved_50 q2179 q2180 q135 q2181 hd_Mod_wayPlace rfl ⟨by decide, by decide⟩ (by first | exact Nat.le_of_ble_eq_true rfl | (simp only [List.map, List.sum_cons, List.sum_nil, g_cat_rf]; exact Nat.le_of_ble_eq_true rfl) | (simp only [List.map, List.sum_cons, List.sum_nil, g_cat_rf, Value.category]; decide)) rfl ?_
            refine g_iload_n 1 (i := 1) (pc' := 54) d_Mod_reserved_53 rfl rfl rfl ?_
            replace hy := g_b_inv hy
            obtain ⟨x23, hf25, hy⟩ := hy
            refine g_callV (rv := some (.int x23)) (h1 := (mH h0 a0 ad M)) (pc' := 57) (As := [.int x20, .int v1]) (rest := []) 2 (T_Mod_usesLink ok (hy := hf25)) d_Mod_reserved_54 (mH_look ok) rfl rfl q2198 q2200 qs55 q135 q2201 hd_Mod_usesLink rfl ⟨by decide, by decide⟩ (by first | exact Nat.le_of_ble_eq_true rfl | (simp only [List.map, List.sum_cons, List.sum_nil, g_cat_rf]; exact Nat.le_of_ble_eq_true rfl) | (simp only [List.map, List.sum_cons, List.sum_nil, g_cat_rf, Value.category]; decide)) rfl ?_
            by_cases c26 : x23 = 0
            · rw [if_pos c26] at hy
              refine g_if_eqT (pc' := 64) d_Mod_reserved_57 c26 (by decide) ?_
              exact W_Mod_reserved_64 ok _ _ _ ih _ _ _ _ hy
            · rw [if_neg c26] at hy
              refine g_if_eqF (pc' := 60) d_Mod_reserved_57 64 c26 (by decide) rfl ?_
              exact W_Mod_reserved_60 ok _ _ _ ih _ _ _ _ hy
        · rw [if_neg c15] at hy
          refine g_if_neT (pc' := 60) d_Mod_reserved_33 c15 (by decide) ?_
          exact W_Mod_reserved_60 ok _ _ _ ih _ _ _ _ hy
def Mod_reserved (M : g_MD) (p0 : Int32) (p1 : Int32) : Option (Int32) :=
  Mod_reserved_5 M  gFU p0 p1 (0 : Int32) (0 : Int32)
set_option maxHeartbeats 4000000 in
set_option maxRecDepth 100000 in
theorem T_Mod_reserved {l : Launch} {B : g_B} {h0 : g_AH} {a0 : Nat} {ad : Nat → Nat} (ok : mOK a0 ad) (M : g_MD) (p0 : Int32) (p1 : Int32) (z : Int32) (hy : Mod_reserved M p0 p1 = some z) : g_CT l B y_Mod_reserved k_Mod_reserved [.ref a0, .int p0, .int p1] (mH h0 a0 ad M) (.inl (some (.int z))) (mH h0 a0 ad M) := by
  refine g_start2 (Lc := [(0, .ref a0), (1, .int p0), (2, .int p1)]) (by decide) rfl rfl (by exact Nat.le_of_ble_eq_true rfl) (by rfl) fun X => ?_
  unfold Mod_reserved at hy
  refine g_iconst (v := (0 : Int32)) (pc' := 1) d_Mod_reserved_0 (by decide) rfl ?_
  refine g_istore_n (i := 3) (pc' := 2) (Lc' := [(3, .int (0 : Int32)), (0, .ref a0), (1, .int p0), (2, .int p1)]) d_Mod_reserved_1 rfl (by decide) rfl rfl ?_
  refine g_iconst (v := (0 : Int32)) (pc' := 3) d_Mod_reserved_2 (by decide) rfl ?_
  refine g_istore (pc' := 5) (Lc' := [(4, .int (0 : Int32)), (3, .int (0 : Int32)), (0, .ref a0), (1, .int p0), (2, .int p1)]) d_Mod_reserved_3 (by decide) rfl rfl ?_
  refine g_sub [2, 3, 4, 1, 0] rfl ?_
  exact W_Mod_reserved_5 ok _ _ _ _ _ _ _ hy
theorem hd_Mod_reserved : g_dsc y_Mod_reserved 2 := ⟨by decide +kernel, by decide +kernel, by decide +kernel⟩
/-! CircuitDeskModel.hasRoom(III)Z -/
abbrev y_Mod_hasRoom : MethodName := ⟨"CircuitDeskModel", "hasRoom", "(III)Z"⟩
abbrev k_Mod_hasRoom : g_M := (prog_17_method_45_code, 4, "CircuitDeskModel", 16, (some FieldType.boolean), "hasRoom", [], 0)
theorem d_Mod_hasRoom_0 : decode prog_17_method_45_code 0 = .ok (.aload_n 0, 1) := by decide +kernel
theorem d_Mod_hasRoom_1 : decode prog_17_method_45_code 1 = .ok (.iload_n 1, 1) := by decide +kernel
theorem d_Mod_hasRoom_2 : decode prog_17_method_45_code 2 = .ok (.iconst 4, 1) := by decide +kernel
theorem d_Mod_hasRoom_3 : decode prog_17_method_45_code 3 = .ok (.invokevirtual 201, 3) := by decide +kernel
theorem d_Mod_hasRoom_6 : decode prog_17_method_45_code 6 = .ok (.iconst 1, 1) := by decide +kernel
theorem d_Mod_hasRoom_7 : decode prog_17_method_45_code 7 = .ok (.if_icmp .ne 24, 3) := by decide +kernel
theorem d_Mod_hasRoom_10 : decode prog_17_method_45_code 10 = .ok (.aload_n 0, 1) := by decide +kernel
theorem d_Mod_hasRoom_11 : decode prog_17_method_45_code 11 = .ok (.iload_n 1, 1) := by decide +kernel
theorem d_Mod_hasRoom_12 : decode prog_17_method_45_code 12 = .ok (.iload_n 2, 1) := by decide +kernel
theorem d_Mod_hasRoom_13 : decode prog_17_method_45_code 13 = .ok (.invokevirtual 211, 3) := by decide +kernel
theorem d_Mod_hasRoom_16 : decode prog_17_method_45_code 16 = .ok (.iload_n 3, 1) := by decide +kernel
theorem d_Mod_hasRoom_17 : decode prog_17_method_45_code 17 = .ok (.iadd, 1) := by decide +kernel
theorem d_Mod_hasRoom_18 : decode prog_17_method_45_code 18 = .ok (.aload_n 0, 1) := by decide +kernel
theorem d_Mod_hasRoom_19 : decode prog_17_method_45_code 19 = .ok (.iload_n 1, 1) := by decide +kernel
theorem d_Mod_hasRoom_20 : decode prog_17_method_45_code 20 = .ok (.iconst 2, 1) := by decide +kernel
theorem d_Mod_hasRoom_21 : decode prog_17_method_45_code 21 = .ok (.invokevirtual 201, 3) := by decide +kernel
theorem d_Mod_hasRoom_24 : decode prog_17_method_45_code 24 = .ok (.if_icmp .gt 7, 3) := by decide +kernel
theorem d_Mod_hasRoom_27 : decode prog_17_method_45_code 27 = .ok (.iconst 1, 1) := by decide +kernel
theorem d_Mod_hasRoom_28 : decode prog_17_method_45_code 28 = .ok (.goto 4, 3) := by decide +kernel
theorem d_Mod_hasRoom_31 : decode prog_17_method_45_code 31 = .ok (.iconst 0, 1) := by decide +kernel
theorem d_Mod_hasRoom_32 : decode prog_17_method_45_code 32 = .ok (.ireturn, 1) := by decide +kernel
def Mod_hasRoom (M : g_MD) (p0 : Int32) (p1 : Int32) (p2 : Int32) : Option (Int32) :=
  g_b (Mod_ofLink M p0 (4 : Int32)) fun x1 => if x1 = (1 : Int32) then (g_b (Mod_reserved M p0 p1) fun x6 => g_b (Mod_ofLink M p0 (2 : Int32)) fun x9 => if x9 < (x6 + p2) then (some (0 : Int32)) else (some (1 : Int32))) else (some (0 : Int32))
set_option maxHeartbeats 4000000 in
set_option maxRecDepth 100000 in
theorem T_Mod_hasRoom {l : Launch} {B : g_B} {h0 : g_AH} {a0 : Nat} {ad : Nat → Nat} (ok : mOK a0 ad) (M : g_MD) (p0 : Int32) (p1 : Int32) (p2 : Int32) (z : Int32) (hy : Mod_hasRoom M p0 p1 p2 = some z) : g_CT l B y_Mod_hasRoom k_Mod_hasRoom [.ref a0, .int p0, .int p1, .int p2] (mH h0 a0 ad M) (.inl (some (.int z))) (mH h0 a0 ad M) := by
  refine g_start2 (Lc := [(0, .ref a0), (1, .int p0), (2, .int p1), (3, .int p2)]) (by decide) rfl rfl (by exact Nat.le_of_ble_eq_true rfl) (by rfl) fun X => ?_
  unfold Mod_hasRoom at hy
  refine g_aload_n 0 (i := 0) (pc' := 1) d_Mod_hasRoom_0 rfl rfl rfl ?_
  refine g_iload_n 1 (i := 1) (pc' := 2) d_Mod_hasRoom_1 rfl rfl rfl ?_
  refine g_iconst (v := (4 : Int32)) (pc' := 3) d_Mod_hasRoom_2 (by decide) rfl ?_
  replace hy := g_b_inv hy
  obtain ⟨x1, hf3, hy⟩ := hy
  refine g_callV (rv := some (.int x1)) (h1 := (mH h0 a0 ad M)) (pc' := 6) (As := [.int p0, .int (4 : Int32)]) (rest := []) 2 (T_Mod_ofLink ok (hy := hf3)) d_Mod_hasRoom_3 (mH_look ok) rfl rfl q2154 q2156 qs45 q135 q2157 hd_Mod_ofLink rfl ⟨by decide, by decide⟩ (by first | exact Nat.le_of_ble_eq_true rfl | (simp only [List.map, List.sum_cons, List.sum_nil, g_cat_rf]; exact Nat.le_of_ble_eq_true rfl) | (simp only [List.map, List.sum_cons, List.sum_nil, g_cat_rf, Value.category]; decide)) rfl ?_
  refine g_iconst (v := (1 : Int32)) (pc' := 7) d_Mod_hasRoom_6 (by decide) rfl ?_
  by_cases c4 : x1 = (1 : Int32)
  · rw [if_pos c4] at hy
    refine g_icmp_neF (pc' := 10) d_Mod_hasRoom_7 31 c4 (by decide) rfl ?_
    refine g_aload_n 0 (i := 0) (pc' := 11) d_Mod_hasRoom_10 rfl rfl rfl ?_
    refine g_iload_n 1 (i := 1) (pc' := 12) d_Mod_hasRoom_11 rfl rfl rfl ?_
    refine g_iload_n 2 (i := 2) (pc' := 13) d_Mod_hasRoom_12 rfl rfl rfl ?_
    replace hy := g_b_inv hy
    obtain ⟨x6, hf8, hy⟩ := hy
    refine g_callV (rv := some (.int x6)) (h1 := (mH h0 a0 ad M)) (pc' := 16) (As := [.int p0, .int p1]) (rest := []) 2 (T_Mod_reserved ok (hy := hf8)) d_Mod_hasRoom_13 (mH_look ok) rfl rfl q2194 q2196 qs54 q135 q2197 hd_Mod_reserved rfl ⟨by decide, by decide⟩ (by first | exact Nat.le_of_ble_eq_true rfl | (simp only [List.map, List.sum_cons, List.sum_nil, g_cat_rf]; exact Nat.le_of_ble_eq_true rfl) | (simp only [List.map, List.sum_cons, List.sum_nil, g_cat_rf, Value.category]; decide)) rfl ?_
    refine g_iload_n 3 (i := 3) (pc' := 17) d_Mod_hasRoom_16 rfl rfl rfl ?_
    refine g_iadd (pc' := 18) d_Mod_hasRoom_17 rfl ?_
    refine g_aload_n 0 (i := 0) (pc' := 19) d_Mod_hasRoom_18 rfl rfl rfl ?_
    refine g_iload_n 1 (i := 1) (pc' := 20) d_Mod_hasRoom_19 rfl rfl rfl ?_
    refine g_iconst (v := (2 : Int32)) (pc' := 21) d_Mod_hasRoom_20 (by decide) rfl ?_
    replace hy := g_b_inv hy
    obtain ⟨x9, hf11, hy⟩ := hy
    refine g_callV (rv := some (.int x9)) (h1 := (mH h0 a0 ad M)) (pc' := 24) (As := [.int p0, .int (2 : Int32)]) (rest := [.int (x6 + p2)]) 2 (T_Mod_ofLink ok (hy := hf11)) d_Mod_hasRoom_21 (mH_look ok) rfl rfl q2154 q2156 qs45 q135 q2157 hd_Mod_ofLink rfl ⟨by decide, by decide⟩ (by first | exact Nat.le_of_ble_eq_true rfl | (simp only [List.map, List.sum_cons, List.sum_nil, g_cat_rf]; exact Nat.le_of_ble_eq_true rfl) | (simp only [List.map, List.sum_cons, List.sum_nil, g_cat_rf, Value.category]; decide)) rfl ?_
    by_cases c12 : x9 < (x6 + p2)
    · rw [if_pos c12] at hy
      refine g_icmp_gtT (pc' := 31) d_Mod_hasRoom_24 c12 (by decide) ?_
      refine g_iconst (v := (0 : Int32)) (pc' := 32) d_Mod_hasRoom_31 (by decide) rfl ?_
      cases hy
      exact g_zret rfl rfl rfl (g_nar_z (Or.inl rfl)).1 d_Mod_hasRoom_32
    · rw [if_neg c12] at hy
      refine g_icmp_gtF (pc' := 27) d_Mod_hasRoom_24 31 c12 (by decide) rfl ?_
      refine g_iconst (v := (1 : Int32)) (pc' := 28) d_Mod_hasRoom_27 (by decide) rfl ?_
      refine g_goto (pc' := 32) d_Mod_hasRoom_28 (by decide) ?_
      cases hy
      exact g_zret rfl rfl rfl (g_nar_z (Or.inr rfl)).1 d_Mod_hasRoom_32
  · rw [if_neg c4] at hy
    refine g_icmp_neT (pc' := 31) d_Mod_hasRoom_7 c4 (by decide) ?_
    refine g_iconst (v := (0 : Int32)) (pc' := 32) d_Mod_hasRoom_31 (by decide) rfl ?_
    cases hy
    exact g_zret rfl rfl rfl (g_nar_z (Or.inl rfl)).1 d_Mod_hasRoom_32
theorem hd_Mod_hasRoom : g_dsc y_Mod_hasRoom 3 := ⟨by decide +kernel, by decide +kernel, by decide +kernel⟩
/-! CircuitDeskModel.findHolder(II)Z -/
abbrev y_Mod_findHolder : MethodName := ⟨"CircuitDeskModel", "findHolder", "(II)Z"⟩
abbrev k_Mod_findHolder : g_M := (prog_17_method_48_code, 7, "CircuitDeskModel", 13, (some FieldType.boolean), "findHolder", [], 0)
theorem d_Mod_findHolder_0 : decode prog_17_method_48_code 0 = .ok (.iconst 0, 1) := by decide +kernel
theorem d_Mod_findHolder_1 : decode prog_17_method_48_code 1 = .ok (.istore_n 3, 1) := by decide +kernel
theorem d_Mod_findHolder_2 : decode prog_17_method_48_code 2 = .ok (.iload_n 3, 1) := by decide +kernel
theorem d_Mod_findHolder_3 : decode prog_17_method_48_code 3 = .ok (.aload_n 0, 1) := by decide +kernel
theorem d_Mod_findHolder_4 : decode prog_17_method_48_code 4 = .ok (.getfield 7, 3) := by decide +kernel
theorem d_Mod_findHolder_7 : decode prog_17_method_48_code 7 = .ok (.iconst 4, 1) := by decide +kernel
theorem d_Mod_findHolder_8 : decode prog_17_method_48_code 8 = .ok (.iaload, 1) := by decide +kernel
theorem d_Mod_findHolder_9 : decode prog_17_method_48_code 9 = .ok (.if_icmp .ge 106, 3) := by decide +kernel
theorem d_Mod_findHolder_12 : decode prog_17_method_48_code 12 = .ok (.iconst 0, 1) := by decide +kernel
theorem d_Mod_findHolder_13 : decode prog_17_method_48_code 13 = .ok (.istore 4, 2) := by decide +kernel
theorem d_Mod_findHolder_15 : decode prog_17_method_48_code 15 = .ok (.iload 4, 2) := by decide +kernel
theorem d_Mod_findHolder_17 : decode prog_17_method_48_code 17 = .ok (.iconst 2, 1) := by decide +kernel
theorem d_Mod_findHolder_18 : decode prog_17_method_48_code 18 = .ok (.if_icmp .ge 91, 3) := by decide +kernel
theorem d_Mod_findHolder_21 : decode prog_17_method_48_code 21 = .ok (.iload_n 3, 1) := by decide +kernel
theorem d_Mod_findHolder_22 : decode prog_17_method_48_code 22 = .ok (.iload 4, 2) := by decide +kernel
theorem d_Mod_findHolder_24 : decode prog_17_method_48_code 24 = .ok (.invokestatic 144, 3) := by decide +kernel
theorem d_Mod_findHolder_27 : decode prog_17_method_48_code 27 = .ok (.istore 5, 2) := by decide +kernel
theorem d_Mod_findHolder_29 : decode prog_17_method_48_code 29 = .ok (.iconst 1, 1) := by decide +kernel
theorem d_Mod_findHolder_30 : decode prog_17_method_48_code 30 = .ok (.istore 6, 2) := by decide +kernel
theorem d_Mod_findHolder_32 : decode prog_17_method_48_code 32 = .ok (.iload 6, 2) := by decide +kernel
theorem d_Mod_findHolder_34 : decode prog_17_method_48_code 34 = .ok (.aload_n 0, 1) := by decide +kernel
theorem d_Mod_findHolder_35 : decode prog_17_method_48_code 35 = .ok (.getfield 7, 3) := by decide +kernel
theorem d_Mod_findHolder_38 : decode prog_17_method_48_code 38 = .ok (.iload 5, 2) := by decide +kernel
theorem d_Mod_findHolder_40 : decode prog_17_method_48_code 40 = .ok (.iaload, 1) := by decide +kernel
theorem d_Mod_findHolder_41 : decode prog_17_method_48_code 41 = .ok (.if_icmp .ge 62, 3) := by decide +kernel
theorem d_Mod_findHolder_44 : decode prog_17_method_48_code 44 = .ok (.aload_n 0, 1) := by decide +kernel
theorem d_Mod_findHolder_45 : decode prog_17_method_48_code 45 = .ok (.getfield 7, 3) := by decide +kernel
theorem d_Mod_findHolder_48 : decode prog_17_method_48_code 48 = .ok (.iload 5, 2) := by decide +kernel
theorem d_Mod_findHolder_50 : decode prog_17_method_48_code 50 = .ok (.bipush 7, 2) := by decide +kernel
theorem d_Mod_findHolder_52 : decode prog_17_method_48_code 52 = .ok (.iadd, 1) := by decide +kernel
theorem d_Mod_findHolder_53 : decode prog_17_method_48_code 53 = .ok (.iload 6, 2) := by decide +kernel
theorem d_Mod_findHolder_55 : decode prog_17_method_48_code 55 = .ok (.iadd, 1) := by decide +kernel
theorem d_Mod_findHolder_56 : decode prog_17_method_48_code 56 = .ok (.iaload, 1) := by decide +kernel
theorem d_Mod_findHolder_57 : decode prog_17_method_48_code 57 = .ok (.iload_n 1, 1) := by decide +kernel
theorem d_Mod_findHolder_58 : decode prog_17_method_48_code 58 = .ok (.if_icmp .ne 39, 3) := by decide +kernel
theorem d_Mod_findHolder_61 : decode prog_17_method_48_code 61 = .ok (.aload_n 0, 1) := by decide +kernel
theorem d_Mod_findHolder_62 : decode prog_17_method_48_code 62 = .ok (.getfield 7, 3) := by decide +kernel
theorem d_Mod_findHolder_65 : decode prog_17_method_48_code 65 = .ok (.iload 5, 2) := by decide +kernel
theorem d_Mod_findHolder_67 : decode prog_17_method_48_code 67 = .ok (.bipush 13, 2) := by decide +kernel
theorem d_Mod_findHolder_69 : decode prog_17_method_48_code 69 = .ok (.iadd, 1) := by decide +kernel
theorem d_Mod_findHolder_70 : decode prog_17_method_48_code 70 = .ok (.iload 6, 2) := by decide +kernel
theorem d_Mod_findHolder_72 : decode prog_17_method_48_code 72 = .ok (.iadd, 1) := by decide +kernel
theorem d_Mod_findHolder_73 : decode prog_17_method_48_code 73 = .ok (.iaload, 1) := by decide +kernel
theorem d_Mod_findHolder_74 : decode prog_17_method_48_code 74 = .ok (.iload_n 2, 1) := by decide +kernel
theorem d_Mod_findHolder_75 : decode prog_17_method_48_code 75 = .ok (.if_icmp .ne 22, 3) := by decide +kernel
theorem d_Mod_findHolder_78 : decode prog_17_method_48_code 78 = .ok (.aload_n 0, 1) := by decide +kernel
theorem d_Mod_findHolder_79 : decode prog_17_method_48_code 79 = .ok (.iload_n 3, 1) := by decide +kernel
theorem d_Mod_findHolder_80 : decode prog_17_method_48_code 80 = .ok (.putfield 223, 3) := by decide +kernel
theorem d_Mod_findHolder_83 : decode prog_17_method_48_code 83 = .ok (.aload_n 0, 1) := by decide +kernel
theorem d_Mod_findHolder_84 : decode prog_17_method_48_code 84 = .ok (.iload 4, 2) := by decide +kernel
theorem d_Mod_findHolder_86 : decode prog_17_method_48_code 86 = .ok (.putfield 226, 3) := by decide +kernel
theorem d_Mod_findHolder_89 : decode prog_17_method_48_code 89 = .ok (.aload_n 0, 1) := by decide +kernel
theorem d_Mod_findHolder_90 : decode prog_17_method_48_code 90 = .ok (.iload 6, 2) := by decide +kernel
theorem d_Mod_findHolder_92 : decode prog_17_method_48_code 92 = .ok (.putfield 229, 3) := by decide +kernel
theorem d_Mod_findHolder_95 : decode prog_17_method_48_code 95 = .ok (.iconst 1, 1) := by decide +kernel
theorem d_Mod_findHolder_96 : decode prog_17_method_48_code 96 = .ok (.ireturn, 1) := by decide +kernel
theorem d_Mod_findHolder_97 : decode prog_17_method_48_code 97 = .ok (.iinc 6 1, 3) := by decide +kernel
theorem d_Mod_findHolder_100 : decode prog_17_method_48_code 100 = .ok (.goto (-68), 3) := by decide +kernel
theorem d_Mod_findHolder_103 : decode prog_17_method_48_code 103 = .ok (.iinc 4 1, 3) := by decide +kernel
theorem d_Mod_findHolder_106 : decode prog_17_method_48_code 106 = .ok (.goto (-91), 3) := by decide +kernel
theorem d_Mod_findHolder_109 : decode prog_17_method_48_code 109 = .ok (.iinc 3 1, 3) := by decide +kernel
theorem d_Mod_findHolder_112 : decode prog_17_method_48_code 112 = .ok (.goto (-110), 3) := by decide +kernel
theorem d_Mod_findHolder_115 : decode prog_17_method_48_code 115 = .ok (.iconst 0, 1) := by decide +kernel
theorem d_Mod_findHolder_116 : decode prog_17_method_48_code 116 = .ok (.ireturn, 1) := by decide +kernel
def Mod_findHolder_97 (k2 : g_MD → Int32 → Int32 → Int32 → Option (Int32 × g_MD)) (k15 : g_MD → Int32 → Int32 → Int32 → Int32 → Option (Int32 × g_MD)) (k32 : g_MD → Int32 → Int32 → Int32 → Int32 → Int32 → Int32 → Option (Int32 × g_MD)) (M : g_MD) (v1 : Int32) (v2 : Int32) (v3 : Int32) (v4 : Int32) (v5 : Int32) (v6 : Int32) : Option (Int32 × g_MD) :=
  k32 M v1 v2 v3 v4 v5 (v6 + (1 : Int32))
set_option maxHeartbeats 4000000 in
set_option maxRecDepth 100000 in
theorem W_Mod_findHolder_97 {X : g_X} {h0 : g_AH} {a0 : Nat} {ad : Nat → Nat} (ok : mOK a0 ad) (z : Int32 × g_MD) (k2 : g_MD → Int32 → Int32 → Int32 → Option (Int32 × g_MD)) (hk2 : ∀ (M : g_MD) (v1 : Int32) (v2 : Int32) (v3 : Int32), k2 M v1 v2 v3 = some z → G X k_Mod_findHolder (.inl (some (.int z.1))) (mH h0 a0 ad z.2) (mH h0 a0 ad M) 2 [(0, .ref a0), (1, .int v1), (2, .int v2), (3, .int v3)] []) (k15 : g_MD → Int32 → Int32 → Int32 → Int32 → Option (Int32 × g_MD)) (hk15 : ∀ (M : g_MD) (v1 : Int32) (v2 : Int32) (v3 : Int32) (v4 : Int32), k15 M v1 v2 v3 v4 = some z → G X k_Mod_findHolder (.inl (some (.int z.1))) (mH h0 a0 ad z.2) (mH h0 a0 ad M) 15 [(0, .ref a0), (1, .int v1), (2, .int v2), (3, .int v3), (4, .int v4)] []) (k32 : g_MD → Int32 → Int32 → Int32 → Int32 → Int32 → Int32 → Option (Int32 × g_MD)) (hk32 : ∀ (M : g_MD) (v1 : Int32) (v2 : Int32) (v3 : Int32) (v4 : Int32) (v5 : Int32) (v6 : Int32), k32 M v1 v2 v3 v4 v5 v6 = some z → G X k_Mod_findHolder (.inl (some (.int z.1))) (mH h0 a0 ad z.2) (mH h0 a0 ad M) 32 [(0, .ref a0), (1, .int v1), (2, .int v2), (3, .int v3), (4, .int v4), (5, .int v5), (6, .int v6)] []) (M : g_MD) (v1 : Int32) (v2 : Int32) (v3 : Int32) (v4 : Int32) (v5 : Int32) (v6 : Int32) (hy : Mod_findHolder_97 k2 k15 k32 M v1 v2 v3 v4 v5 v6 = some z) : G X k_Mod_findHolder (.inl (some (.int z.1))) (mH h0 a0 ad z.2) (mH h0 a0 ad M) 97 [(0, .ref a0), (1, .int v1), (2, .int v2), (3, .int v3), (4, .int v4), (5, .int v5), (6, .int v6)] [] := by
  unfold Mod_findHolder_97 at hy
  refine g_iinc 6 (v := (v6 + (1 : Int32))) (pc' := 100) (Lc' := [(6, .int (v6 + (1 : Int32))), (0, .ref a0), (1, .int v1), (2, .int v2), (3, .int v3), (4, .int v4), (5, .int v5)]) d_Mod_findHolder_97 rfl rfl (by decide) rfl rfl ?_
  refine g_goto (pc' := 32) d_Mod_findHolder_100 (by decide) ?_
  refine g_sub [1, 2, 3, 4, 5, 6, 0] rfl ?_
  exact hk32 _ _ _ _ _ _ _ hy
def Mod_findHolder_32 (k2 : g_MD → Int32 → Int32 → Int32 → Option (Int32 × g_MD)) (k15 : g_MD → Int32 → Int32 → Int32 → Int32 → Option (Int32 × g_MD))  : Nat → g_MD → Int32 → Int32 → Int32 → Int32 → Int32 → Int32 → Option (Int32 × g_MD)
  | 0, _, _, _, _, _, _, _ => none
  | n + 1, M, v1, v2, v3, v4, v5, v6 => g_mA M 0 0 v5 fun x9 => if x9 ≤ v6 then (k15 M v1 v2 v3 (v4 + (1 : Int32))) else (g_mA M 0 0 ((v5 + (7 : Int32)) + v6) fun x12 => if x12 = v1 then (g_mA M 0 0 ((v5 + (13 : Int32)) + v6) fun x15 => if x15 = v2 then (g_let (mp M 18 v3) fun M18 => g_let (mp M18 19 v4) fun M19 => g_let (mp M19 20 v6) fun M20 => some ((1 : Int32), M20)) else (Mod_findHolder_97 k2 k15 (Mod_findHolder_32 k2 k15 n) M v1 v2 v3 v4 v5 v6)) else (Mod_findHolder_97 k2 k15 (Mod_findHolder_32 k2 k15 n) M v1 v2 v3 v4 v5 v6))
set_option maxHeartbeats 4000000 in
set_option maxRecDepth 100000 in
theorem W_Mod_findHolder_32 {X : g_X} {h0 : g_AH} {a0 : Nat} {ad : Nat → Nat} (ok : mOK a0 ad) (z : Int32 × g_MD) (k2 : g_MD → Int32 → Int32 → Int32 → Option (Int32 × g_MD)) (hk2 : ∀ (M : g_MD) (v1 : Int32) (v2 : Int32) (v3 : Int32), k2 M v1 v2 v3 = some z → G X k_Mod_findHolder (.inl (some (.int z.1))) (mH h0 a0 ad z.2) (mH h0 a0 ad M) 2 [(0, .ref a0), (1, .int v1), (2, .int v2), (3, .int v3)] []) (k15 : g_MD → Int32 → Int32 → Int32 → Int32 → Option (Int32 × g_MD)) (hk15 : ∀ (M : g_MD) (v1 : Int32) (v2 : Int32) (v3 : Int32) (v4 : Int32), k15 M v1 v2 v3 v4 = some z → G X k_Mod_findHolder (.inl (some (.int z.1))) (mH h0 a0 ad z.2) (mH h0 a0 ad M) 15 [(0, .ref a0), (1, .int v1), (2, .int v2), (3, .int v3), (4, .int v4)] [])  : ∀ (n : Nat) (M : g_MD) (v1 : Int32) (v2 : Int32) (v3 : Int32) (v4 : Int32) (v5 : Int32) (v6 : Int32), Mod_findHolder_32 k2 k15 n M v1 v2 v3 v4 v5 v6 = some z → G X k_Mod_findHolder (.inl (some (.int z.1))) (mH h0 a0 ad z.2) (mH h0 a0 ad M) 32 [(0, .ref a0), (1, .int v1), (2, .int v2), (3, .int v3), (4, .int v4), (5, .int v5), (6, .int v6)] [] := by
  intro n
  induction n with
  | zero => intro M v1 v2 v3 v4 v5 v6 hy; exact absurd hy (by simp [Mod_findHolder_32])
  | succ n ih =>
    intro M v1 v2 v3 v4 v5 v6 hy
    rw [Mod_findHolder_32] at hy
    refine g_iload 6 (pc' := 34) d_Mod_findHolder_32 rfl rfl ?_
    refine g_aload_n 0 (i := 0) (pc' := 35) d_Mod_findHolder_34 rfl rfl rfl ?_
    refine gm_getA ok 0 (pc' := 38) d_Mod_findHolder_35 rfl q1965 rfl rfl ?_
    refine g_iload 5 (pc' := 40) d_Mod_findHolder_38 rfl rfl ?_
    replace hy := g_mA_inv hy
    obtain ⟨x9, hc10, hy⟩ := hy
    refine gm_ald0 ok (pc' := 41) d_Mod_findHolder_40 hc10 rfl ?_
    by_cases c11 : x9 ≤ v6
    · rw [if_pos c11] at hy
      refine g_icmp_geT (pc' := 103) d_Mod_findHolder_41 c11 (by decide) ?_
      refine g_iinc 4 (v := (v4 + (1 : Int32))) (pc' := 106) (Lc' := [(4, .int (v4 + (1 : Int32))), (0, .ref a0), (1, .int v1), (2, .int v2), (3, .int v3), (5, .int v5), (6, .int v6)]) d_Mod_findHolder_103 rfl rfl (by decide) rfl rfl ?_
      refine g_goto (pc' := 15) d_Mod_findHolder_106 (by decide) ?_
      refine g_sub [1, 2, 3, 4, 0] rfl ?_
      exact hk15 _ _ _ _ _ hy
    · rw [if_neg c11] at hy
      refine g_icmp_geF (pc' := 44) d_Mod_findHolder_41 103 c11 (by decide) rfl ?_
      refine g_aload_n 0 (i := 0) (pc' := 45) d_Mod_findHolder_44 rfl rfl rfl ?_
      refine gm_getA ok 0 (pc' := 48) d_Mod_findHolder_45 rfl q1965 rfl rfl ?_
      refine g_iload 5 (pc' := 50) d_Mod_findHolder_48 rfl rfl ?_
      refine g_bipush (v := (7 : Int32)) (pc' := 52) d_Mod_findHolder_50 (by decide) rfl ?_
      refine g_iadd (pc' := 53) d_Mod_findHolder_52 rfl ?_
      refine g_iload 6 (pc' := 55) d_Mod_findHolder_53 rfl rfl ?_
      refine g_iadd (pc' := 56) d_Mod_findHolder_55 rfl ?_
      replace hy := g_mA_inv hy
      obtain ⟨x12, hc13, hy⟩ := hy
      refine gm_ald0 ok (pc' := 57) d_Mod_findHolder_56 hc13 rfl ?_
      refine g_iload_n 1 (i := 1) (pc' := 58) d_Mod_findHolder_57 rfl rfl rfl ?_
      by_cases c14 : x12 = v1
      · rw [if_pos c14] at hy
        refine g_icmp_neF (pc' := 61) d_Mod_findHolder_58 97 c14 (by decide) rfl ?_
        refine g_aload_n 0 (i := 0) (pc' := 62) d_Mod_findHolder_61 rfl rfl rfl ?_
        refine gm_getA ok 0 (pc' := 65) d_Mod_findHolder_62 rfl q1965 rfl rfl ?_
        refine g_iload 5 (pc' := 67) d_Mod_findHolder_65 rfl rfl ?_
        refine g_bipush (v := (13 : Int32)) (pc' := 69) d_Mod_findHolder_67 (by decide) rfl ?_
        refine g_iadd (pc' := 70) d_Mod_findHolder_69 rfl ?_
        refine g_iload 6 (pc' := 72) d_Mod_findHolder_70 rfl rfl ?_
        refine g_iadd (pc' := 73) d_Mod_findHolder_72 rfl ?_
        replace hy := g_mA_inv hy
        obtain ⟨x15, hc16, hy⟩ := hy
        refine gm_ald0 ok (pc' := 74) d_Mod_findHolder_73 hc16 rfl ?_
        refine g_iload_n 2 (i := 2) (pc' := 75) d_Mod_findHolder_74 rfl rfl rfl ?_
        by_cases c17 : x15 = v2
        · rw [if_pos c17] at hy
          refine g_icmp_neF (pc' := 78) d_Mod_findHolder_75 97 c17 (by decide) rfl ?_
          refine g_aload_n 0 (i := 0) (pc' := 79) d_Mod_findHolder_78 rfl rfl rfl ?_
          refine g_iload_n 3 (i := 3) (pc' := 80) d_Mod_findHolder_79 rfl rfl rfl ?_
          replace hy := g_let_inv hy
          refine gm_put ok 18 (pc' := 83) d_Mod_findHolder_80 rfl (by decide) q1983 rfl ?_
          generalize (mp M 18 v3) = M18 at hy ⊢
          refine g_aload_n 0 (i := 0) (pc' := 84) d_Mod_findHolder_83 rfl rfl rfl ?_
          refine g_iload 4 (pc' := 86) d_Mod_findHolder_84 rfl rfl ?_
          replace hy := g_let_inv hy
          refine gm_put ok 19 (pc' := 89) d_Mod_findHolder_86 rfl (by decide) q1984 rfl ?_
          generalize (mp M18 19 v4) = M19 at hy ⊢
          refine g_aload_n 0 (i := 0) (pc' := 90) d_Mod_findHolder_89 rfl rfl rfl ?_
          refine g_iload 6 (pc' := 92) d_Mod_findHolder_90 rfl rfl ?_
          replace hy := g_let_inv hy
          refine gm_put ok 20 (pc' := 95) d_Mod_findHolder_92 rfl (by decide) q1985 rfl ?_
          generalize (mp M19 20 v6) = M20 at hy ⊢
          refine g_iconst (v := (1 : Int32)) (pc' := 96) d_Mod_findHolder_95 (by decide) rfl ?_
          cases hy
          exact g_zret rfl rfl rfl (g_nar_z (Or.inr rfl)).1 d_Mod_findHolder_96
        · rw [if_neg c17] at hy
          refine g_icmp_neT (pc' := 97) d_Mod_findHolder_75 c17 (by decide) ?_
          exact W_Mod_findHolder_97 ok _ _ hk2 _ hk15 _ ih _ _ _ _ _ _ _ hy
      · rw [if_neg c14] at hy
        refine g_icmp_neT (pc' := 97) d_Mod_findHolder_58 c14 (by decide) ?_
        exact W_Mod_findHolder_97 ok _ _ hk2 _ hk15 _ ih _ _ _ _ _ _ _ hy
def Mod_findHolder_15 (k2 : g_MD → Int32 → Int32 → Int32 → Option (Int32 × g_MD))  : Nat → g_MD → Int32 → Int32 → Int32 → Int32 → Option (Int32 × g_MD)
  | 0, _, _, _, _, _ => none
  | n + 1, M, v1, v2, v3, v4 => if (2 : Int32) ≤ v4 then (k2 M v1 v2 (v3 + (1 : Int32))) else (g_b (Mod_wayPlace v3 v4) fun x6 => Mod_findHolder_32 k2 (Mod_findHolder_15 k2 n) gFU M v1 v2 v3 v4 x6 (1 : Int32))
set_option maxHeartbeats 4000000 in
set_option maxRecDepth 100000 in
theorem W_Mod_findHolder_15 {X : g_X} {h0 : g_AH} {a0 : Nat} {ad : Nat → Nat} (ok : mOK a0 ad) (z : Int32 × g_MD) (k2 : g_MD → Int32 → Int32 → Int32 → Option (Int32 × g_MD)) (hk2 : ∀ (M : g_MD) (v1 : Int32) (v2 : Int32) (v3 : Int32), k2 M v1 v2 v3 = some z → G X k_Mod_findHolder (.inl (some (.int z.1))) (mH h0 a0 ad z.2) (mH h0 a0 ad M) 2 [(0, .ref a0), (1, .int v1), (2, .int v2), (3, .int v3)] [])  : ∀ (n : Nat) (M : g_MD) (v1 : Int32) (v2 : Int32) (v3 : Int32) (v4 : Int32), Mod_findHolder_15 k2 n M v1 v2 v3 v4 = some z → G X k_Mod_findHolder (.inl (some (.int z.1))) (mH h0 a0 ad z.2) (mH h0 a0 ad M) 15 [(0, .ref a0), (1, .int v1), (2, .int v2), (3, .int v3), (4, .int v4)] [] := by
  intro n
  induction n with
  | zero => intro M v1 v2 v3 v4 hy; exact absurd hy (by simp [Mod_findHolder_15])
  | succ n ih =>
    intro M v1 v2 v3 v4 hy
    rw [Mod_findHolder_15] at hy
    refine g_iload 4 (pc' := 17) d_Mod_findHolder_15 rfl rfl ?_
    refine g_iconst (v := (2 : Int32)) (pc' := 18) d_Mod_findHolder_17 (by decide) rfl ?_
    by_cases c5 : (2 : Int32) ≤ v4
    · rw [if_pos c5] at hy
      refine g_icmp_geT (pc' := 109) d_Mod_findHolder_18 c5 (by decide) ?_
      refine g_iinc 3 (v := (v3 + (1 : Int32))) (pc' := 112) (Lc' := [(3, .int (v3 + (1 : Int32))), (0, .ref a0), (1, .int v1), (2, .int v2), (4, .int v4)]) d_Mod_findHolder_109 rfl rfl (by decide) rfl rfl ?_
      refine g_goto (pc' := 2) d_Mod_findHolder_112 (by decide) ?_
      refine g_sub [1, 2, 3, 0] rfl ?_
      exact hk2 _ _ _ _ hy
    · rw [if_neg c5] at hy
      refine g_icmp_geF (pc' := 21) d_Mod_findHolder_18 109 c5 (by decide) rfl ?_
      refine g_iload_n 3 (i := 3) (pc' := 22) d_Mod_findHolder_21 rfl rfl rfl ?_
      refine g_iload 4 (pc' := 24) d_Mod_findHolder_22 rfl rfl ?_
      replace hy := g_b_inv hy
      obtain ⟨x6, hf8, hy⟩ := hy
      refine g_callS (rv := some (.int x6)) (h1 := (mH h0 a0 ad M)) (pc' := 27) (As := [.int v3, .int v4]) (rest := []) 2 (T_Mod_wayPlace (hy := hf8)) d_Mod_findHolder_24 q2179 q2180 q135 q2181 hd_Mod_wayPlace rfl ⟨by decide, by decide⟩ (by first | exact Nat.le_of_ble_eq_true rfl | (simp only [List.map, List.sum_cons, List.sum_nil, g_cat_rf]; exact Nat.le_of_ble_eq_true rfl) | (simp only [List.map, List.sum_cons, List.sum_nil, g_cat_rf, Value.category]; decide)) rfl ?_
      refine g_istore (pc' := 29) (Lc' := [(5, .int x6), (0, .ref a0), (1, .int v1), (2, .int v2), (3, .int v3), (4, .int v4)]) d_Mod_findHolder_27 (by decide) rfl rfl ?_
      refine g_iconst (v := (1 : Int32)) (pc' := 30) d_Mod_findHolder_29 (by decide) rfl ?_
      refine g_istore (pc' := 32) (Lc' := [(6, .int (1 : Int32)), (5, .int x6), (0, .ref a0), (1, .int v1), (2, .int v2), (3, .int v3), (4, .int v4)]) d_Mod_findHolder_30 (by decide) rfl rfl ?_
      refine g_sub [2, 3, 4, 5, 6, 1, 0] rfl ?_
      exact W_Mod_findHolder_32 ok _ _ hk2 _ ih _ _ _ _ _ _ _ _ hy
def Mod_findHolder_2  : Nat → g_MD → Int32 → Int32 → Int32 → Option (Int32 × g_MD)
  | 0, _, _, _, _ => none
  | n + 1, M, v1, v2, v3 => g_mA M 0 0 (4 : Int32) fun x1 => if x1 ≤ v3 then (some ((0 : Int32), M)) else (Mod_findHolder_15 (Mod_findHolder_2  n) gFU M v1 v2 v3 (0 : Int32))
set_option maxHeartbeats 4000000 in
set_option maxRecDepth 100000 in
theorem W_Mod_findHolder_2 {X : g_X} {h0 : g_AH} {a0 : Nat} {ad : Nat → Nat} (ok : mOK a0 ad) (z : Int32 × g_MD)  : ∀ (n : Nat) (M : g_MD) (v1 : Int32) (v2 : Int32) (v3 : Int32), Mod_findHolder_2  n M v1 v2 v3 = some z → G X k_Mod_findHolder (.inl (some (.int z.1))) (mH h0 a0 ad z.2) (mH h0 a0 ad M) 2 [(0, .ref a0), (1, .int v1), (2, .int v2), (3, .int v3)] [] := by
  intro n
  induction n with
  | zero => intro M v1 v2 v3 hy; exact absurd hy (by simp [Mod_findHolder_2])
  | succ n ih =>
    intro M v1 v2 v3 hy
    rw [Mod_findHolder_2] at hy
    refine g_iload_n 3 (i := 3) (pc' := 3) d_Mod_findHolder_2 rfl rfl rfl ?_
    refine g_aload_n 0 (i := 0) (pc' := 4) d_Mod_findHolder_3 rfl rfl rfl ?_
    refine gm_getA ok 0 (pc' := 7) d_Mod_findHolder_4 rfl q1965 rfl rfl ?_
    refine g_iconst (v := (4 : Int32)) (pc' := 8) d_Mod_findHolder_7 (by decide) rfl ?_
    replace hy := g_mA_inv hy
    obtain ⟨x1, hc2, hy⟩ := hy
    refine gm_ald0 ok (pc' := 9) d_Mod_findHolder_8 hc2 rfl ?_
    by_cases c3 : x1 ≤ v3
    · rw [if_pos c3] at hy
      refine g_icmp_geT (pc' := 115) d_Mod_findHolder_9 c3 (by decide) ?_
      refine g_iconst (v := (0 : Int32)) (pc' := 116) d_Mod_findHolder_115 (by decide) rfl ?_
      cases hy
      exact g_zret rfl rfl rfl (g_nar_z (Or.inl rfl)).1 d_Mod_findHolder_116
    · rw [if_neg c3] at hy
      refine g_icmp_geF (pc' := 12) d_Mod_findHolder_9 115 c3 (by decide) rfl ?_
      refine g_iconst (v := (0 : Int32)) (pc' := 13) d_Mod_findHolder_12 (by decide) rfl ?_
      refine g_istore (pc' := 15) (Lc' := [(4, .int (0 : Int32)), (0, .ref a0), (1, .int v1), (2, .int v2), (3, .int v3)]) d_Mod_findHolder_13 (by decide) rfl rfl ?_
      refine g_sub [1, 2, 3, 4, 0] rfl ?_
      exact W_Mod_findHolder_15 ok _ _ ih _ _ _ _ _ _ hy
def Mod_findHolder (M : g_MD) (p0 : Int32) (p1 : Int32) : Option (Int32 × g_MD) :=
  Mod_findHolder_2  gFU M p0 p1 (0 : Int32)
set_option maxHeartbeats 4000000 in
set_option maxRecDepth 100000 in
theorem T_Mod_findHolder {l : Launch} {B : g_B} {h0 : g_AH} {a0 : Nat} {ad : Nat → Nat} (ok : mOK a0 ad) (M : g_MD) (p0 : Int32) (p1 : Int32) (z : Int32 × g_MD) (hy : Mod_findHolder M p0 p1 = some z) : g_CT l B y_Mod_findHolder k_Mod_findHolder [.ref a0, .int p0, .int p1] (mH h0 a0 ad M) (.inl (some (.int z.1))) (mH h0 a0 ad z.2) := by
  refine g_start2 (Lc := [(0, .ref a0), (1, .int p0), (2, .int p1)]) (by decide) rfl rfl (by exact Nat.le_of_ble_eq_true rfl) (by rfl) fun X => ?_
  unfold Mod_findHolder at hy
  refine g_iconst (v := (0 : Int32)) (pc' := 1) d_Mod_findHolder_0 (by decide) rfl ?_
  refine g_istore_n (i := 3) (pc' := 2) (Lc' := [(3, .int (0 : Int32)), (0, .ref a0), (1, .int p0), (2, .int p1)]) d_Mod_findHolder_1 rfl (by decide) rfl rfl ?_
  refine g_sub [1, 2, 3, 0] rfl ?_
  exact W_Mod_findHolder_2 ok _ _ _ _ _ _ hy
theorem hd_Mod_findHolder : g_dsc y_Mod_findHolder 2 := ⟨by decide +kernel, by decide +kernel, by decide +kernel⟩
/-! CircuitDeskModel.lowestFree(I)I -/
abbrev y_Mod_lowestFree : MethodName := ⟨"CircuitDeskModel", "lowestFree", "(I)I"⟩
abbrev k_Mod_lowestFree : g_M := (prog_17_method_50_code, 3, "CircuitDeskModel", 14, (some FieldType.int), "lowestFree", [], 0)
theorem d_Mod_lowestFree_0 : decode prog_17_method_50_code 0 = .ok (.iconst 0, 1) := by decide +kernel
theorem d_Mod_lowestFree_1 : decode prog_17_method_50_code 1 = .ok (.istore_n 2, 1) := by decide +kernel
theorem d_Mod_lowestFree_2 : decode prog_17_method_50_code 2 = .ok (.iload_n 2, 1) := by decide +kernel
theorem d_Mod_lowestFree_3 : decode prog_17_method_50_code 3 = .ok (.aload_n 0, 1) := by decide +kernel
theorem d_Mod_lowestFree_4 : decode prog_17_method_50_code 4 = .ok (.getfield 7, 3) := by decide +kernel
theorem d_Mod_lowestFree_7 : decode prog_17_method_50_code 7 = .ok (.bipush 14, 2) := by decide +kernel
theorem d_Mod_lowestFree_9 : decode prog_17_method_50_code 9 = .ok (.iload_n 1, 1) := by decide +kernel
theorem d_Mod_lowestFree_10 : decode prog_17_method_50_code 10 = .ok (.iadd, 1) := by decide +kernel
theorem d_Mod_lowestFree_11 : decode prog_17_method_50_code 11 = .ok (.iaload, 1) := by decide +kernel
theorem d_Mod_lowestFree_12 : decode prog_17_method_50_code 12 = .ok (.if_icmp .ge 20, 3) := by decide +kernel
theorem d_Mod_lowestFree_15 : decode prog_17_method_50_code 15 = .ok (.aload_n 0, 1) := by decide +kernel
theorem d_Mod_lowestFree_16 : decode prog_17_method_50_code 16 = .ok (.iload_n 1, 1) := by decide +kernel
theorem d_Mod_lowestFree_17 : decode prog_17_method_50_code 17 = .ok (.iload_n 2, 1) := by decide +kernel
theorem d_Mod_lowestFree_18 : decode prog_17_method_50_code 18 = .ok (.invokevirtual 232, 3) := by decide +kernel
theorem d_Mod_lowestFree_21 : decode prog_17_method_50_code 21 = .ok (.ifCond .ne 5, 3) := by decide +kernel
theorem d_Mod_lowestFree_24 : decode prog_17_method_50_code 24 = .ok (.iload_n 2, 1) := by decide +kernel
theorem d_Mod_lowestFree_25 : decode prog_17_method_50_code 25 = .ok (.ireturn, 1) := by decide +kernel
theorem d_Mod_lowestFree_26 : decode prog_17_method_50_code 26 = .ok (.iinc 2 1, 3) := by decide +kernel
theorem d_Mod_lowestFree_29 : decode prog_17_method_50_code 29 = .ok (.goto (-27), 3) := by decide +kernel
theorem d_Mod_lowestFree_32 : decode prog_17_method_50_code 32 = .ok (.iconst (-1), 1) := by decide +kernel
theorem d_Mod_lowestFree_33 : decode prog_17_method_50_code 33 = .ok (.ireturn, 1) := by decide +kernel
def Mod_lowestFree_2  : Nat → g_MD → Int32 → Int32 → Option (Int32 × g_MD)
  | 0, _, _, _ => none
  | n + 1, M, v1, v2 => g_mA M 0 0 ((14 : Int32) + v1) fun x1 => if x1 ≤ v2 then (some ((-1 : Int32), M)) else (g_bM (Mod_findHolder M v1 v2) fun x4 M5 => if x4 = 0 then (some (v2, M5)) else ((Mod_lowestFree_2  n) M5 v1 (v2 + (1 : Int32))))
set_option maxHeartbeats 4000000 in
set_option maxRecDepth 100000 in
theorem W_Mod_lowestFree_2 {X : g_X} {h0 : g_AH} {a0 : Nat} {ad : Nat → Nat} (ok : mOK a0 ad) (z : Int32 × g_MD)  : ∀ (n : Nat) (M : g_MD) (v1 : Int32) (v2 : Int32), Mod_lowestFree_2  n M v1 v2 = some z → G X k_Mod_lowestFree (.inl (some (.int z.1))) (mH h0 a0 ad z.2) (mH h0 a0 ad M) 2 [(0, .ref a0), (1, .int v1), (2, .int v2)] [] := by
  intro n
  induction n with
  | zero => intro M v1 v2 hy; exact absurd hy (by simp [Mod_lowestFree_2])
  | succ n ih =>
    intro M v1 v2 hy
    rw [Mod_lowestFree_2] at hy
    refine g_iload_n 2 (i := 2) (pc' := 3) d_Mod_lowestFree_2 rfl rfl rfl ?_
    refine g_aload_n 0 (i := 0) (pc' := 4) d_Mod_lowestFree_3 rfl rfl rfl ?_
    refine gm_getA ok 0 (pc' := 7) d_Mod_lowestFree_4 rfl q1965 rfl rfl ?_
    refine g_bipush (v := (14 : Int32)) (pc' := 9) d_Mod_lowestFree_7 (by decide) rfl ?_
    refine g_iload_n 1 (i := 1) (pc' := 10) d_Mod_lowestFree_9 rfl rfl rfl ?_
    refine g_iadd (pc' := 11) d_Mod_lowestFree_10 rfl ?_
    replace hy := g_mA_inv hy
    obtain ⟨x1, hc2, hy⟩ := hy
    refine gm_ald0 ok (pc' := 12) d_Mod_lowestFree_11 hc2 rfl ?_
    by_cases c3 : x1 ≤ v2
    · rw [if_pos c3] at hy
      refine g_icmp_geT (pc' := 32) d_Mod_lowestFree_12 c3 (by decide) ?_
      refine g_iconst (v := (-1 : Int32)) (pc' := 33) d_Mod_lowestFree_32 (by decide) rfl ?_
      cases hy
      exact g_iret rfl rfl rfl d_Mod_lowestFree_33
    · rw [if_neg c3] at hy
      refine g_icmp_geF (pc' := 15) d_Mod_lowestFree_12 32 c3 (by decide) rfl ?_
      refine g_aload_n 0 (i := 0) (pc' := 16) d_Mod_lowestFree_15 rfl rfl rfl ?_
      refine g_iload_n 1 (i := 1) (pc' := 17) d_Mod_lowestFree_16 rfl rfl rfl ?_
      refine g_iload_n 2 (i := 2) (pc' := 18) d_Mod_lowestFree_17 rfl rfl rfl ?_
      replace hy := g_bM_inv hy
      obtain ⟨x4, M5, hf6, hy⟩ := hy
      refine g_callV (rv := some (.int x4)) (h1 := (mH h0 a0 ad M5)) (pc' := 21) (As := [.int v1, .int v2]) (rest := []) 2 (T_Mod_findHolder ok (hy := hf6)) d_Mod_lowestFree_18 (mH_look ok) rfl rfl q2210 q2212 qs58 q135 q2213 hd_Mod_findHolder rfl ⟨by decide, by decide⟩ (by first | exact Nat.le_of_ble_eq_true rfl | (simp only [List.map, List.sum_cons, List.sum_nil, g_cat_rf]; exact Nat.le_of_ble_eq_true rfl) | (simp only [List.map, List.sum_cons, List.sum_nil, g_cat_rf, Value.category]; decide)) rfl ?_
      by_cases c7 : x4 = 0
      · rw [if_pos c7] at hy
        refine g_if_neF (pc' := 24) d_Mod_lowestFree_21 26 c7 (by decide) rfl ?_
        refine g_iload_n 2 (i := 2) (pc' := 25) d_Mod_lowestFree_24 rfl rfl rfl ?_
        cases hy
        exact g_iret rfl rfl rfl d_Mod_lowestFree_25
      · rw [if_neg c7] at hy
        refine g_if_neT (pc' := 26) d_Mod_lowestFree_21 c7 (by decide) ?_
        refine g_iinc 2 (v := (v2 + (1 : Int32))) (pc' := 29) (Lc' := [(2, .int (v2 + (1 : Int32))), (0, .ref a0), (1, .int v1)]) d_Mod_lowestFree_26 rfl rfl (by decide) rfl rfl ?_
        refine g_goto (pc' := 2) d_Mod_lowestFree_29 (by decide) ?_
        refine g_sub [1, 2, 0] rfl ?_
        exact ih _ _ _ hy
def Mod_lowestFree (M : g_MD) (p0 : Int32) : Option (Int32 × g_MD) :=
  Mod_lowestFree_2  gFU M p0 (0 : Int32)
set_option maxHeartbeats 4000000 in
set_option maxRecDepth 100000 in
theorem T_Mod_lowestFree {l : Launch} {B : g_B} {h0 : g_AH} {a0 : Nat} {ad : Nat → Nat} (ok : mOK a0 ad) (M : g_MD) (p0 : Int32) (z : Int32 × g_MD) (hy : Mod_lowestFree M p0 = some z) : g_CT l B y_Mod_lowestFree k_Mod_lowestFree [.ref a0, .int p0] (mH h0 a0 ad M) (.inl (some (.int z.1))) (mH h0 a0 ad z.2) := by
  refine g_start2 (Lc := [(0, .ref a0), (1, .int p0)]) (by decide) rfl rfl (by exact Nat.le_of_ble_eq_true rfl) (by rfl) fun X => ?_
  unfold Mod_lowestFree at hy
  refine g_iconst (v := (0 : Int32)) (pc' := 1) d_Mod_lowestFree_0 (by decide) rfl ?_
  refine g_istore_n (i := 2) (pc' := 2) (Lc' := [(2, .int (0 : Int32)), (0, .ref a0), (1, .int p0)]) d_Mod_lowestFree_1 rfl (by decide) rfl rfl ?_
  refine g_sub [1, 2, 0] rfl ?_
  exact W_Mod_lowestFree_2 ok _ _ _ _ _ hy
theorem hd_Mod_lowestFree : g_dsc y_Mod_lowestFree 1 := ⟨by decide +kernel, by decide +kernel, by decide +kernel⟩
/-! CircuitDeskModel.countLabels(II)I -/
abbrev y_Mod_countLabels : MethodName := ⟨"CircuitDeskModel", "countLabels", "(II)I"⟩
abbrev k_Mod_countLabels : g_M := (prog_17_method_52_code, 11, "CircuitDeskModel", 13, (some FieldType.int), "countLabels", [], 0)
theorem d_Mod_countLabels_0 : decode prog_17_method_52_code 0 = .ok (.iconst 0, 1) := by decide +kernel
theorem d_Mod_countLabels_1 : decode prog_17_method_52_code 1 = .ok (.istore_n 3, 1) := by decide +kernel
theorem d_Mod_countLabels_2 : decode prog_17_method_52_code 2 = .ok (.iconst 0, 1) := by decide +kernel
theorem d_Mod_countLabels_3 : decode prog_17_method_52_code 3 = .ok (.istore 4, 2) := by decide +kernel
theorem d_Mod_countLabels_5 : decode prog_17_method_52_code 5 = .ok (.iload 4, 2) := by decide +kernel
theorem d_Mod_countLabels_7 : decode prog_17_method_52_code 7 = .ok (.aload_n 0, 1) := by decide +kernel
theorem d_Mod_countLabels_8 : decode prog_17_method_52_code 8 = .ok (.getfield 7, 3) := by decide +kernel
theorem d_Mod_countLabels_11 : decode prog_17_method_52_code 11 = .ok (.iconst 4, 1) := by decide +kernel
theorem d_Mod_countLabels_12 : decode prog_17_method_52_code 12 = .ok (.iaload, 1) := by decide +kernel
theorem d_Mod_countLabels_13 : decode prog_17_method_52_code 13 = .ok (.if_icmp .ge 217, 3) := by decide +kernel
theorem d_Mod_countLabels_16 : decode prog_17_method_52_code 16 = .ok (.iconst 0, 1) := by decide +kernel
theorem d_Mod_countLabels_17 : decode prog_17_method_52_code 17 = .ok (.istore 5, 2) := by decide +kernel
theorem d_Mod_countLabels_19 : decode prog_17_method_52_code 19 = .ok (.iload 5, 2) := by decide +kernel
theorem d_Mod_countLabels_21 : decode prog_17_method_52_code 21 = .ok (.iconst 2, 1) := by decide +kernel
theorem d_Mod_countLabels_22 : decode prog_17_method_52_code 22 = .ok (.if_icmp .ge 202, 3) := by decide +kernel
theorem d_Mod_countLabels_25 : decode prog_17_method_52_code 25 = .ok (.iload 4, 2) := by decide +kernel
theorem d_Mod_countLabels_27 : decode prog_17_method_52_code 27 = .ok (.iload 5, 2) := by decide +kernel
theorem d_Mod_countLabels_29 : decode prog_17_method_52_code 29 = .ok (.invokestatic 144, 3) := by decide +kernel
theorem d_Mod_countLabels_32 : decode prog_17_method_52_code 32 = .ok (.istore 6, 2) := by decide +kernel
theorem d_Mod_countLabels_34 : decode prog_17_method_52_code 34 = .ok (.iconst 1, 1) := by decide +kernel
theorem d_Mod_countLabels_35 : decode prog_17_method_52_code 35 = .ok (.istore 7, 2) := by decide +kernel
theorem d_Mod_countLabels_37 : decode prog_17_method_52_code 37 = .ok (.iload 7, 2) := by decide +kernel
theorem d_Mod_countLabels_39 : decode prog_17_method_52_code 39 = .ok (.aload_n 0, 1) := by decide +kernel
theorem d_Mod_countLabels_40 : decode prog_17_method_52_code 40 = .ok (.getfield 7, 3) := by decide +kernel
theorem d_Mod_countLabels_43 : decode prog_17_method_52_code 43 = .ok (.iload 6, 2) := by decide +kernel
theorem d_Mod_countLabels_45 : decode prog_17_method_52_code 45 = .ok (.iaload, 1) := by decide +kernel
theorem d_Mod_countLabels_46 : decode prog_17_method_52_code 46 = .ok (.if_icmp .ge 172, 3) := by decide +kernel
theorem d_Mod_countLabels_49 : decode prog_17_method_52_code 49 = .ok (.aload_n 0, 1) := by decide +kernel
theorem d_Mod_countLabels_50 : decode prog_17_method_52_code 50 = .ok (.getfield 7, 3) := by decide +kernel
theorem d_Mod_countLabels_53 : decode prog_17_method_52_code 53 = .ok (.iload 6, 2) := by decide +kernel
theorem d_Mod_countLabels_55 : decode prog_17_method_52_code 55 = .ok (.iconst 1, 1) := by decide +kernel
theorem d_Mod_countLabels_56 : decode prog_17_method_52_code 56 = .ok (.iadd, 1) := by decide +kernel
theorem d_Mod_countLabels_57 : decode prog_17_method_52_code 57 = .ok (.iload 7, 2) := by decide +kernel
theorem d_Mod_countLabels_59 : decode prog_17_method_52_code 59 = .ok (.iadd, 1) := by decide +kernel
theorem d_Mod_countLabels_60 : decode prog_17_method_52_code 60 = .ok (.iaload, 1) := by decide +kernel
theorem d_Mod_countLabels_61 : decode prog_17_method_52_code 61 = .ok (.iload_n 1, 1) := by decide +kernel
theorem d_Mod_countLabels_62 : decode prog_17_method_52_code 62 = .ok (.if_icmp .ne 7, 3) := by decide +kernel
theorem d_Mod_countLabels_65 : decode prog_17_method_52_code 65 = .ok (.iconst 1, 1) := by decide +kernel
theorem d_Mod_countLabels_66 : decode prog_17_method_52_code 66 = .ok (.goto 4, 3) := by decide +kernel
theorem d_Mod_countLabels_69 : decode prog_17_method_52_code 69 = .ok (.iconst 0, 1) := by decide +kernel
theorem d_Mod_countLabels_70 : decode prog_17_method_52_code 70 = .ok (.istore 8, 2) := by decide +kernel
theorem d_Mod_countLabels_72 : decode prog_17_method_52_code 72 = .ok (.aload_n 0, 1) := by decide +kernel
theorem d_Mod_countLabels_73 : decode prog_17_method_52_code 73 = .ok (.getfield 7, 3) := by decide +kernel
theorem d_Mod_countLabels_76 : decode prog_17_method_52_code 76 = .ok (.iload 6, 2) := by decide +kernel
theorem d_Mod_countLabels_78 : decode prog_17_method_52_code 78 = .ok (.bipush 7, 2) := by decide +kernel
theorem d_Mod_countLabels_80 : decode prog_17_method_52_code 80 = .ok (.iadd, 1) := by decide +kernel
theorem d_Mod_countLabels_81 : decode prog_17_method_52_code 81 = .ok (.iload 7, 2) := by decide +kernel
theorem d_Mod_countLabels_83 : decode prog_17_method_52_code 83 = .ok (.iadd, 1) := by decide +kernel
theorem d_Mod_countLabels_84 : decode prog_17_method_52_code 84 = .ok (.iaload, 1) := by decide +kernel
theorem d_Mod_countLabels_85 : decode prog_17_method_52_code 85 = .ok (.istore 9, 2) := by decide +kernel
theorem d_Mod_countLabels_87 : decode prog_17_method_52_code 87 = .ok (.iload_n 2, 1) := by decide +kernel
theorem d_Mod_countLabels_88 : decode prog_17_method_52_code 88 = .ok (.ifCond .ne 22, 3) := by decide +kernel
theorem d_Mod_countLabels_91 : decode prog_17_method_52_code 91 = .ok (.iload 8, 2) := by decide +kernel
theorem d_Mod_countLabels_93 : decode prog_17_method_52_code 93 = .ok (.ifCond .eq 13, 3) := by decide +kernel
theorem d_Mod_countLabels_96 : decode prog_17_method_52_code 96 = .ok (.iload 9, 2) := by decide +kernel
theorem d_Mod_countLabels_98 : decode prog_17_method_52_code 98 = .ok (.iload_n 1, 1) := by decide +kernel
theorem d_Mod_countLabels_99 : decode prog_17_method_52_code 99 = .ok (.if_icmp .ne 7, 3) := by decide +kernel
theorem d_Mod_countLabels_102 : decode prog_17_method_52_code 102 = .ok (.iconst 1, 1) := by decide +kernel
theorem d_Mod_countLabels_103 : decode prog_17_method_52_code 103 = .ok (.goto 94, 3) := by decide +kernel
theorem d_Mod_countLabels_106 : decode prog_17_method_52_code 106 = .ok (.iconst 0, 1) := by decide +kernel
theorem d_Mod_countLabels_107 : decode prog_17_method_52_code 107 = .ok (.goto 90, 3) := by decide +kernel
theorem d_Mod_countLabels_110 : decode prog_17_method_52_code 110 = .ok (.iload_n 2, 1) := by decide +kernel
theorem d_Mod_countLabels_111 : decode prog_17_method_52_code 111 = .ok (.iconst 1, 1) := by decide +kernel
theorem d_Mod_countLabels_112 : decode prog_17_method_52_code 112 = .ok (.if_icmp .ne 28, 3) := by decide +kernel
theorem d_Mod_countLabels_115 : decode prog_17_method_52_code 115 = .ok (.iload 8, 2) := by decide +kernel
theorem d_Mod_countLabels_117 : decode prog_17_method_52_code 117 = .ok (.ifCond .eq 19, 3) := by decide +kernel
theorem d_Mod_countLabels_120 : decode prog_17_method_52_code 120 = .ok (.iload 9, 2) := by decide +kernel
theorem d_Mod_countLabels_122 : decode prog_17_method_52_code 122 = .ok (.iload_n 1, 1) := by decide +kernel
theorem d_Mod_countLabels_123 : decode prog_17_method_52_code 123 = .ok (.if_icmp .eq 13, 3) := by decide +kernel
theorem d_Mod_countLabels_126 : decode prog_17_method_52_code 126 = .ok (.iload 9, 2) := by decide +kernel
theorem d_Mod_countLabels_128 : decode prog_17_method_52_code 128 = .ok (.iconst (-1), 1) := by decide +kernel
theorem d_Mod_countLabels_129 : decode prog_17_method_52_code 129 = .ok (.if_icmp .eq 7, 3) := by decide +kernel
theorem d_Mod_countLabels_132 : decode prog_17_method_52_code 132 = .ok (.iconst 1, 1) := by decide +kernel
theorem d_Mod_countLabels_133 : decode prog_17_method_52_code 133 = .ok (.goto 64, 3) := by decide +kernel
theorem d_Mod_countLabels_136 : decode prog_17_method_52_code 136 = .ok (.iconst 0, 1) := by decide +kernel
theorem d_Mod_countLabels_137 : decode prog_17_method_52_code 137 = .ok (.goto 60, 3) := by decide +kernel
theorem d_Mod_countLabels_140 : decode prog_17_method_52_code 140 = .ok (.iload_n 2, 1) := by decide +kernel
theorem d_Mod_countLabels_141 : decode prog_17_method_52_code 141 = .ok (.iconst 2, 1) := by decide +kernel
theorem d_Mod_countLabels_142 : decode prog_17_method_52_code 142 = .ok (.if_icmp .ne 39, 3) := by decide +kernel
theorem d_Mod_countLabels_145 : decode prog_17_method_52_code 145 = .ok (.iload 8, 2) := by decide +kernel
theorem d_Mod_countLabels_147 : decode prog_17_method_52_code 147 = .ok (.ifCond .eq 30, 3) := by decide +kernel
theorem d_Mod_countLabels_150 : decode prog_17_method_52_code 150 = .ok (.iload 9, 2) := by decide +kernel
theorem d_Mod_countLabels_152 : decode prog_17_method_52_code 152 = .ok (.iconst (-1), 1) := by decide +kernel
theorem d_Mod_countLabels_153 : decode prog_17_method_52_code 153 = .ok (.if_icmp .eq 24, 3) := by decide +kernel
theorem d_Mod_countLabels_156 : decode prog_17_method_52_code 156 = .ok (.aload_n 0, 1) := by decide +kernel
theorem d_Mod_countLabels_157 : decode prog_17_method_52_code 157 = .ok (.getfield 7, 3) := by decide +kernel
theorem d_Mod_countLabels_160 : decode prog_17_method_52_code 160 = .ok (.iload 6, 2) := by decide +kernel
theorem d_Mod_countLabels_162 : decode prog_17_method_52_code 162 = .ok (.bipush 19, 2) := by decide +kernel
theorem d_Mod_countLabels_164 : decode prog_17_method_52_code 164 = .ok (.iadd, 1) := by decide +kernel
theorem d_Mod_countLabels_165 : decode prog_17_method_52_code 165 = .ok (.iload 7, 2) := by decide +kernel
theorem d_Mod_countLabels_167 : decode prog_17_method_52_code 167 = .ok (.iadd, 1) := by decide +kernel
theorem d_Mod_countLabels_168 : decode prog_17_method_52_code 168 = .ok (.iaload, 1) := by decide +kernel
theorem d_Mod_countLabels_169 : decode prog_17_method_52_code 169 = .ok (.iconst 1, 1) := by decide +kernel
theorem d_Mod_countLabels_170 : decode prog_17_method_52_code 170 = .ok (.if_icmp .ne 7, 3) := by decide +kernel
theorem d_Mod_countLabels_173 : decode prog_17_method_52_code 173 = .ok (.iconst 1, 1) := by decide +kernel
theorem d_Mod_countLabels_174 : decode prog_17_method_52_code 174 = .ok (.goto 23, 3) := by decide +kernel
theorem d_Mod_countLabels_177 : decode prog_17_method_52_code 177 = .ok (.iconst 0, 1) := by decide +kernel
theorem d_Mod_countLabels_178 : decode prog_17_method_52_code 178 = .ok (.goto 19, 3) := by decide +kernel
theorem d_Mod_countLabels_181 : decode prog_17_method_52_code 181 = .ok (.iload 8, 2) := by decide +kernel
theorem d_Mod_countLabels_183 : decode prog_17_method_52_code 183 = .ok (.ifCond .ne 13, 3) := by decide +kernel
theorem d_Mod_countLabels_186 : decode prog_17_method_52_code 186 = .ok (.iload 9, 2) := by decide +kernel
theorem d_Mod_countLabels_188 : decode prog_17_method_52_code 188 = .ok (.iload_n 1, 1) := by decide +kernel
theorem d_Mod_countLabels_189 : decode prog_17_method_52_code 189 = .ok (.if_icmp .ne 7, 3) := by decide +kernel
theorem d_Mod_countLabels_192 : decode prog_17_method_52_code 192 = .ok (.iconst 1, 1) := by decide +kernel
theorem d_Mod_countLabels_193 : decode prog_17_method_52_code 193 = .ok (.goto 4, 3) := by decide +kernel
theorem d_Mod_countLabels_196 : decode prog_17_method_52_code 196 = .ok (.iconst 0, 1) := by decide +kernel
theorem d_Mod_countLabels_197 : decode prog_17_method_52_code 197 = .ok (.istore 10, 2) := by decide +kernel
theorem d_Mod_countLabels_199 : decode prog_17_method_52_code 199 = .ok (.iload_n 3, 1) := by decide +kernel
theorem d_Mod_countLabels_200 : decode prog_17_method_52_code 200 = .ok (.iload 10, 2) := by decide +kernel
theorem d_Mod_countLabels_202 : decode prog_17_method_52_code 202 = .ok (.ifCond .eq 7, 3) := by decide +kernel
theorem d_Mod_countLabels_205 : decode prog_17_method_52_code 205 = .ok (.iconst 1, 1) := by decide +kernel
theorem d_Mod_countLabels_206 : decode prog_17_method_52_code 206 = .ok (.goto 4, 3) := by decide +kernel
theorem d_Mod_countLabels_209 : decode prog_17_method_52_code 209 = .ok (.iconst 0, 1) := by decide +kernel
theorem d_Mod_countLabels_210 : decode prog_17_method_52_code 210 = .ok (.iadd, 1) := by decide +kernel
theorem d_Mod_countLabels_211 : decode prog_17_method_52_code 211 = .ok (.istore_n 3, 1) := by decide +kernel
theorem d_Mod_countLabels_212 : decode prog_17_method_52_code 212 = .ok (.iinc 7 1, 3) := by decide +kernel
theorem d_Mod_countLabels_215 : decode prog_17_method_52_code 215 = .ok (.goto (-178), 3) := by decide +kernel
theorem d_Mod_countLabels_218 : decode prog_17_method_52_code 218 = .ok (.iinc 5 1, 3) := by decide +kernel
theorem d_Mod_countLabels_221 : decode prog_17_method_52_code 221 = .ok (.goto (-202), 3) := by decide +kernel
theorem d_Mod_countLabels_224 : decode prog_17_method_52_code 224 = .ok (.iinc 4 1, 3) := by decide +kernel
theorem d_Mod_countLabels_227 : decode prog_17_method_52_code 227 = .ok (.goto (-222), 3) := by decide +kernel
theorem d_Mod_countLabels_230 : decode prog_17_method_52_code 230 = .ok (.iload_n 3, 1) := by decide +kernel
theorem d_Mod_countLabels_231 : decode prog_17_method_52_code 231 = .ok (.ireturn, 1) := by decide +kernel
def Mod_countLabels_210 (M : g_MD) (k5 : Int32 → Int32 → Int32 → Int32 → Option (Int32)) (k19 : Int32 → Int32 → Int32 → Int32 → Int32 → Option (Int32)) (k37 : Int32 → Int32 → Int32 → Int32 → Int32 → Int32 → Int32 → Option (Int32)) (v1 : Int32) (v2 : Int32) (v4 : Int32) (v5 : Int32) (v6 : Int32) (v7 : Int32) (s0 : Int32) (s1 : Int32) : Option (Int32) :=
  k37 v1 v2 (s1 + s0) v4 v5 v6 (v7 + (1 : Int32))
set_option maxHeartbeats 4000000 in
set_option maxRecDepth 100000 in
theorem W_Mod_countLabels_210 {X : g_X} {h0 : g_AH} {a0 : Nat} {ad : Nat → Nat} (ok : mOK a0 ad) (M : g_MD) (z : Int32) (k5 : Int32 → Int32 → Int32 → Int32 → Option (Int32)) (hk5 : ∀ (v1 : Int32) (v2 : Int32) (v3 : Int32) (v4 : Int32), k5 v1 v2 v3 v4 = some z → G X k_Mod_countLabels (.inl (some (.int z))) (mH h0 a0 ad M) (mH h0 a0 ad M) 5 [(0, .ref a0), (1, .int v1), (2, .int v2), (3, .int v3), (4, .int v4)] []) (k19 : Int32 → Int32 → Int32 → Int32 → Int32 → Option (Int32)) (hk19 : ∀ (v1 : Int32) (v2 : Int32) (v3 : Int32) (v4 : Int32) (v5 : Int32), k19 v1 v2 v3 v4 v5 = some z → G X k_Mod_countLabels (.inl (some (.int z))) (mH h0 a0 ad M) (mH h0 a0 ad M) 19 [(0, .ref a0), (1, .int v1), (2, .int v2), (3, .int v3), (4, .int v4), (5, .int v5)] []) (k37 : Int32 → Int32 → Int32 → Int32 → Int32 → Int32 → Int32 → Option (Int32)) (hk37 : ∀ (v1 : Int32) (v2 : Int32) (v3 : Int32) (v4 : Int32) (v5 : Int32) (v6 : Int32) (v7 : Int32), k37 v1 v2 v3 v4 v5 v6 v7 = some z → G X k_Mod_countLabels (.inl (some (.int z))) (mH h0 a0 ad M) (mH h0 a0 ad M) 37 [(0, .ref a0), (1, .int v1), (2, .int v2), (3, .int v3), (4, .int v4), (5, .int v5), (6, .int v6), (7, .int v7)] []) (v1 : Int32) (v2 : Int32) (v4 : Int32) (v5 : Int32) (v6 : Int32) (v7 : Int32) (s0 : Int32) (s1 : Int32) (hy : Mod_countLabels_210 M k5 k19 k37 v1 v2 v4 v5 v6 v7 s0 s1 = some z) : G X k_Mod_countLabels (.inl (some (.int z))) (mH h0 a0 ad M) (mH h0 a0 ad M) 210 [(0, .ref a0), (1, .int v1), (2, .int v2), (4, .int v4), (5, .int v5), (6, .int v6), (7, .int v7)] [.int s0, .int s1] := by
  unfold Mod_countLabels_210 at hy
  refine g_iadd (pc' := 211) d_Mod_countLabels_210 rfl ?_
  refine g_istore_n (i := 3) (pc' := 212) (Lc' := [(3, .int (s1 + s0)), (0, .ref a0), (1, .int v1), (2, .int v2), (4, .int v4), (5, .int v5), (6, .int v6), (7, .int v7)]) d_Mod_countLabels_211 rfl (by decide) rfl rfl ?_
  refine g_iinc 7 (v := (v7 + (1 : Int32))) (pc' := 215) (Lc' := [(7, .int (v7 + (1 : Int32))), (3, .int (s1 + s0)), (0, .ref a0), (1, .int v1), (2, .int v2), (4, .int v4), (5, .int v5), (6, .int v6)]) d_Mod_countLabels_212 rfl rfl (by decide) rfl rfl ?_
  refine g_goto (pc' := 37) d_Mod_countLabels_215 (by decide) ?_
  refine g_sub [2, 3, 4, 1, 5, 6, 7, 0] rfl ?_
  exact hk37 _ _ _ _ _ _ _ hy
def Mod_countLabels_197 (M : g_MD) (k5 : Int32 → Int32 → Int32 → Int32 → Option (Int32)) (k19 : Int32 → Int32 → Int32 → Int32 → Int32 → Option (Int32)) (k37 : Int32 → Int32 → Int32 → Int32 → Int32 → Int32 → Int32 → Option (Int32)) (v1 : Int32) (v2 : Int32) (v3 : Int32) (v4 : Int32) (v5 : Int32) (v6 : Int32) (v7 : Int32) (s0 : Int32) : Option (Int32) :=
  if s0 = 0 then (Mod_countLabels_210 M k5 k19 k37 v1 v2 v4 v5 v6 v7 (0 : Int32) v3) else (Mod_countLabels_210 M k5 k19 k37 v1 v2 v4 v5 v6 v7 (1 : Int32) v3)
set_option maxHeartbeats 4000000 in
set_option maxRecDepth 100000 in
theorem W_Mod_countLabels_197 {X : g_X} {h0 : g_AH} {a0 : Nat} {ad : Nat → Nat} (ok : mOK a0 ad) (M : g_MD) (z : Int32) (k5 : Int32 → Int32 → Int32 → Int32 → Option (Int32)) (hk5 : ∀ (v1 : Int32) (v2 : Int32) (v3 : Int32) (v4 : Int32), k5 v1 v2 v3 v4 = some z → G X k_Mod_countLabels (.inl (some (.int z))) (mH h0 a0 ad M) (mH h0 a0 ad M) 5 [(0, .ref a0), (1, .int v1), (2, .int v2), (3, .int v3), (4, .int v4)] []) (k19 : Int32 → Int32 → Int32 → Int32 → Int32 → Option (Int32)) (hk19 : ∀ (v1 : Int32) (v2 : Int32) (v3 : Int32) (v4 : Int32) (v5 : Int32), k19 v1 v2 v3 v4 v5 = some z → G X k_Mod_countLabels (.inl (some (.int z))) (mH h0 a0 ad M) (mH h0 a0 ad M) 19 [(0, .ref a0), (1, .int v1), (2, .int v2), (3, .int v3), (4, .int v4), (5, .int v5)] []) (k37 : Int32 → Int32 → Int32 → Int32 → Int32 → Int32 → Int32 → Option (Int32)) (hk37 : ∀ (v1 : Int32) (v2 : Int32) (v3 : Int32) (v4 : Int32) (v5 : Int32) (v6 : Int32) (v7 : Int32), k37 v1 v2 v3 v4 v5 v6 v7 = some z → G X k_Mod_countLabels (.inl (some (.int z))) (mH h0 a0 ad M) (mH h0 a0 ad M) 37 [(0, .ref a0), (1, .int v1), (2, .int v2), (3, .int v3), (4, .int v4), (5, .int v5), (6, .int v6), (7, .int v7)] []) (v1 : Int32) (v2 : Int32) (v3 : Int32) (v4 : Int32) (v5 : Int32) (v6 : Int32) (v7 : Int32) (s0 : Int32) (hy : Mod_countLabels_197 M k5 k19 k37 v1 v2 v3 v4 v5 v6 v7 s0 = some z) : G X k_Mod_countLabels (.inl (some (.int z))) (mH h0 a0 ad M) (mH h0 a0 ad M) 197 [(0, .ref a0), (1, .int v1), (2, .int v2), (3, .int v3), (4, .int v4), (5, .int v5), (6, .int v6), (7, .int v7)] [.int s0] := by
  unfold Mod_countLabels_197 at hy
  refine g_istore (pc' := 199) (Lc' := [(10, .int s0), (0, .ref a0), (1, .int v1), (2, .int v2), (3, .int v3), (4, .int v4), (5, .int v5), (6, .int v6), (7, .int v7)]) d_Mod_countLabels_197 (by decide) rfl rfl ?_
  refine g_iload_n 4 (i := 3) (pc' := 200) d_Mod_countLabels_199 rfl rfl rfl ?_
  refine g_iload 0 (pc' := 202) d_Mod_countLabels_200 rfl rfl ?_
  by_cases c20 : s0 = 0
  · rw [if_pos c20] at hy
    refine g_if_eqT (pc' := 209) d_Mod_countLabels_202 c20 (by decide) ?_
    refine g_iconst (v := (0 : Int32)) (pc' := 210) d_Mod_countLabels_209 (by decide) rfl ?_
    refine g_sub [1, 2, 3, 5, 6, 7, 8] rfl ?_
    exact W_Mod_countLabels_210 ok _ _ _ hk5 _ hk19 _ hk37 _ _ _ _ _ _ _ _ hy
  · rw [if_neg c20] at hy
    refine g_if_eqF (pc' := 205) d_Mod_countLabels_202 209 c20 (by decide) rfl ?_
    refine g_iconst (v := (1 : Int32)) (pc' := 206) d_Mod_countLabels_205 (by decide) rfl ?_
    refine g_goto (pc' := 210) d_Mod_countLabels_206 (by decide) ?_
    refine g_sub [1, 2, 3, 5, 6, 7, 8] rfl ?_
    exact W_Mod_countLabels_210 ok _ _ _ hk5 _ hk19 _ hk37 _ _ _ _ _ _ _ _ hy
def Mod_countLabels_196 (M : g_MD) (k5 : Int32 → Int32 → Int32 → Int32 → Option (Int32)) (k19 : Int32 → Int32 → Int32 → Int32 → Int32 → Option (Int32)) (k37 : Int32 → Int32 → Int32 → Int32 → Int32 → Int32 → Int32 → Option (Int32)) (v1 : Int32) (v2 : Int32) (v3 : Int32) (v4 : Int32) (v5 : Int32) (v6 : Int32) (v7 : Int32) : Option (Int32) :=
  Mod_countLabels_197 M k5 k19 k37 v1 v2 v3 v4 v5 v6 v7 (0 : Int32)
set_option maxHeartbeats 4000000 in
set_option maxRecDepth 100000 in
theorem W_Mod_countLabels_196 {X : g_X} {h0 : g_AH} {a0 : Nat} {ad : Nat → Nat} (ok : mOK a0 ad) (M : g_MD) (z : Int32) (k5 : Int32 → Int32 → Int32 → Int32 → Option (Int32)) (hk5 : ∀ (v1 : Int32) (v2 : Int32) (v3 : Int32) (v4 : Int32), k5 v1 v2 v3 v4 = some z → G X k_Mod_countLabels (.inl (some (.int z))) (mH h0 a0 ad M) (mH h0 a0 ad M) 5 [(0, .ref a0), (1, .int v1), (2, .int v2), (3, .int v3), (4, .int v4)] []) (k19 : Int32 → Int32 → Int32 → Int32 → Int32 → Option (Int32)) (hk19 : ∀ (v1 : Int32) (v2 : Int32) (v3 : Int32) (v4 : Int32) (v5 : Int32), k19 v1 v2 v3 v4 v5 = some z → G X k_Mod_countLabels (.inl (some (.int z))) (mH h0 a0 ad M) (mH h0 a0 ad M) 19 [(0, .ref a0), (1, .int v1), (2, .int v2), (3, .int v3), (4, .int v4), (5, .int v5)] []) (k37 : Int32 → Int32 → Int32 → Int32 → Int32 → Int32 → Int32 → Option (Int32)) (hk37 : ∀ (v1 : Int32) (v2 : Int32) (v3 : Int32) (v4 : Int32) (v5 : Int32) (v6 : Int32) (v7 : Int32), k37 v1 v2 v3 v4 v5 v6 v7 = some z → G X k_Mod_countLabels (.inl (some (.int z))) (mH h0 a0 ad M) (mH h0 a0 ad M) 37 [(0, .ref a0), (1, .int v1), (2, .int v2), (3, .int v3), (4, .int v4), (5, .int v5), (6, .int v6), (7, .int v7)] []) (v1 : Int32) (v2 : Int32) (v3 : Int32) (v4 : Int32) (v5 : Int32) (v6 : Int32) (v7 : Int32) (hy : Mod_countLabels_196 M k5 k19 k37 v1 v2 v3 v4 v5 v6 v7 = some z) : G X k_Mod_countLabels (.inl (some (.int z))) (mH h0 a0 ad M) (mH h0 a0 ad M) 196 [(0, .ref a0), (1, .int v1), (2, .int v2), (3, .int v3), (4, .int v4), (5, .int v5), (6, .int v6), (7, .int v7)] [] := by
  unfold Mod_countLabels_196 at hy
  refine g_iconst (v := (0 : Int32)) (pc' := 197) d_Mod_countLabels_196 (by decide) rfl ?_
  exact W_Mod_countLabels_197 ok _ _ _ hk5 _ hk19 _ hk37 _ _ _ _ _ _ _ _ hy
def Mod_countLabels_177 (M : g_MD) (k5 : Int32 → Int32 → Int32 → Int32 → Option (Int32)) (k19 : Int32 → Int32 → Int32 → Int32 → Int32 → Option (Int32)) (k37 : Int32 → Int32 → Int32 → Int32 → Int32 → Int32 → Int32 → Option (Int32)) (v1 : Int32) (v2 : Int32) (v3 : Int32) (v4 : Int32) (v5 : Int32) (v6 : Int32) (v7 : Int32) : Option (Int32) :=
  Mod_countLabels_197 M k5 k19 k37 v1 v2 v3 v4 v5 v6 v7 (0 : Int32)
set_option maxHeartbeats 4000000 in
set_option maxRecDepth 100000 in
theorem W_Mod_countLabels_177 {X : g_X} {h0 : g_AH} {a0 : Nat} {ad : Nat → Nat} (ok : mOK a0 ad) (M : g_MD) (z : Int32) (k5 : Int32 → Int32 → Int32 → Int32 → Option (Int32)) (hk5 : ∀ (v1 : Int32) (v2 : Int32) (v3 : Int32) (v4 : Int32), k5 v1 v2 v3 v4 = some z → G X k_Mod_countLabels (.inl (some (.int z))) (mH h0 a0 ad M) (mH h0 a0 ad M) 5 [(0, .ref a0), (1, .int v1), (2, .int v2), (3, .int v3), (4, .int v4)] []) (k19 : Int32 → Int32 → Int32 → Int32 → Int32 → Option (Int32)) (hk19 : ∀ (v1 : Int32) (v2 : Int32) (v3 : Int32) (v4 : Int32) (v5 : Int32), k19 v1 v2 v3 v4 v5 = some z → G X k_Mod_countLabels (.inl (some (.int z))) (mH h0 a0 ad M) (mH h0 a0 ad M) 19 [(0, .ref a0), (1, .int v1), (2, .int v2), (3, .int v3), (4, .int v4), (5, .int v5)] []) (k37 : Int32 → Int32 → Int32 → Int32 → Int32 → Int32 → Int32 → Option (Int32)) (hk37 : ∀ (v1 : Int32) (v2 : Int32) (v3 : Int32) (v4 : Int32) (v5 : Int32) (v6 : Int32) (v7 : Int32), k37 v1 v2 v3 v4 v5 v6 v7 = some z → G X k_Mod_countLabels (.inl (some (.int z))) (mH h0 a0 ad M) (mH h0 a0 ad M) 37 [(0, .ref a0), (1, .int v1), (2, .int v2), (3, .int v3), (4, .int v4), (5, .int v5), (6, .int v6), (7, .int v7)] []) (v1 : Int32) (v2 : Int32) (v3 : Int32) (v4 : Int32) (v5 : Int32) (v6 : Int32) (v7 : Int32) (hy : Mod_countLabels_177 M k5 k19 k37 v1 v2 v3 v4 v5 v6 v7 = some z) : G X k_Mod_countLabels (.inl (some (.int z))) (mH h0 a0 ad M) (mH h0 a0 ad M) 177 [(0, .ref a0), (1, .int v1), (2, .int v2), (3, .int v3), (4, .int v4), (5, .int v5), (6, .int v6), (7, .int v7)] [] := by
  unfold Mod_countLabels_177 at hy
  refine g_iconst (v := (0 : Int32)) (pc' := 178) d_Mod_countLabels_177 (by decide) rfl ?_
  refine g_goto (pc' := 197) d_Mod_countLabels_178 (by decide) ?_
  exact W_Mod_countLabels_197 ok _ _ _ hk5 _ hk19 _ hk37 _ _ _ _ _ _ _ _ hy
def Mod_countLabels_136 (M : g_MD) (k5 : Int32 → Int32 → Int32 → Int32 → Option (Int32)) (k19 : Int32 → Int32 → Int32 → Int32 → Int32 → Option (Int32)) (k37 : Int32 → Int32 → Int32 → Int32 → Int32 → Int32 → Int32 → Option (Int32)) (v1 : Int32) (v2 : Int32) (v3 : Int32) (v4 : Int32) (v5 : Int32) (v6 : Int32) (v7 : Int32) : Option (Int32) :=
  Mod_countLabels_197 M k5 k19 k37 v1 v2 v3 v4 v5 v6 v7 (0 : Int32)
set_option maxHeartbeats 4000000 in
set_option maxRecDepth 100000 in
theorem W_Mod_countLabels_136 {X : g_X} {h0 : g_AH} {a0 : Nat} {ad : Nat → Nat} (ok : mOK a0 ad) (M : g_MD) (z : Int32) (k5 : Int32 → Int32 → Int32 → Int32 → Option (Int32)) (hk5 : ∀ (v1 : Int32) (v2 : Int32) (v3 : Int32) (v4 : Int32), k5 v1 v2 v3 v4 = some z → G X k_Mod_countLabels (.inl (some (.int z))) (mH h0 a0 ad M) (mH h0 a0 ad M) 5 [(0, .ref a0), (1, .int v1), (2, .int v2), (3, .int v3), (4, .int v4)] []) (k19 : Int32 → Int32 → Int32 → Int32 → Int32 → Option (Int32)) (hk19 : ∀ (v1 : Int32) (v2 : Int32) (v3 : Int32) (v4 : Int32) (v5 : Int32), k19 v1 v2 v3 v4 v5 = some z → G X k_Mod_countLabels (.inl (some (.int z))) (mH h0 a0 ad M) (mH h0 a0 ad M) 19 [(0, .ref a0), (1, .int v1), (2, .int v2), (3, .int v3), (4, .int v4), (5, .int v5)] []) (k37 : Int32 → Int32 → Int32 → Int32 → Int32 → Int32 → Int32 → Option (Int32)) (hk37 : ∀ (v1 : Int32) (v2 : Int32) (v3 : Int32) (v4 : Int32) (v5 : Int32) (v6 : Int32) (v7 : Int32), k37 v1 v2 v3 v4 v5 v6 v7 = some z → G X k_Mod_countLabels (.inl (some (.int z))) (mH h0 a0 ad M) (mH h0 a0 ad M) 37 [(0, .ref a0), (1, .int v1), (2, .int v2), (3, .int v3), (4, .int v4), (5, .int v5), (6, .int v6), (7, .int v7)] []) (v1 : Int32) (v2 : Int32) (v3 : Int32) (v4 : Int32) (v5 : Int32) (v6 : Int32) (v7 : Int32) (hy : Mod_countLabels_136 M k5 k19 k37 v1 v2 v3 v4 v5 v6 v7 = some z) : G X k_Mod_countLabels (.inl (some (.int z))) (mH h0 a0 ad M) (mH h0 a0 ad M) 136 [(0, .ref a0), (1, .int v1), (2, .int v2), (3, .int v3), (4, .int v4), (5, .int v5), (6, .int v6), (7, .int v7)] [] := by
  unfold Mod_countLabels_136 at hy
  refine g_iconst (v := (0 : Int32)) (pc' := 137) d_Mod_countLabels_136 (by decide) rfl ?_
  refine g_goto (pc' := 197) d_Mod_countLabels_137 (by decide) ?_
  exact W_Mod_countLabels_197 ok _ _ _ hk5 _ hk19 _ hk37 _ _ _ _ _ _ _ _ hy
def Mod_countLabels_106 (M : g_MD) (k5 : Int32 → Int32 → Int32 → Int32 → Option (Int32)) (k19 : Int32 → Int32 → Int32 → Int32 → Int32 → Option (Int32)) (k37 : Int32 → Int32 → Int32 → Int32 → Int32 → Int32 → Int32 → Option (Int32)) (v1 : Int32) (v2 : Int32) (v3 : Int32) (v4 : Int32) (v5 : Int32) (v6 : Int32) (v7 : Int32) : Option (Int32) :=
  Mod_countLabels_197 M k5 k19 k37 v1 v2 v3 v4 v5 v6 v7 (0 : Int32)
set_option maxHeartbeats 4000000 in
set_option maxRecDepth 100000 in
theorem W_Mod_countLabels_106 {X : g_X} {h0 : g_AH} {a0 : Nat} {ad : Nat → Nat} (ok : mOK a0 ad) (M : g_MD) (z : Int32) (k5 : Int32 → Int32 → Int32 → Int32 → Option (Int32)) (hk5 : ∀ (v1 : Int32) (v2 : Int32) (v3 : Int32) (v4 : Int32), k5 v1 v2 v3 v4 = some z → G X k_Mod_countLabels (.inl (some (.int z))) (mH h0 a0 ad M) (mH h0 a0 ad M) 5 [(0, .ref a0), (1, .int v1), (2, .int v2), (3, .int v3), (4, .int v4)] []) (k19 : Int32 → Int32 → Int32 → Int32 → Int32 → Option (Int32)) (hk19 : ∀ (v1 : Int32) (v2 : Int32) (v3 : Int32) (v4 : Int32) (v5 : Int32), k19 v1 v2 v3 v4 v5 = some z → G X k_Mod_countLabels (.inl (some (.int z))) (mH h0 a0 ad M) (mH h0 a0 ad M) 19 [(0, .ref a0), (1, .int v1), (2, .int v2), (3, .int v3), (4, .int v4), (5, .int v5)] []) (k37 : Int32 → Int32 → Int32 → Int32 → Int32 → Int32 → Int32 → Option (Int32)) (hk37 : ∀ (v1 : Int32) (v2 : Int32) (v3 : Int32) (v4 : Int32) (v5 : Int32) (v6 : Int32) (v7 : Int32), k37 v1 v2 v3 v4 v5 v6 v7 = some z → G X k_Mod_countLabels (.inl (some (.int z))) (mH h0 a0 ad M) (mH h0 a0 ad M) 37 [(0, .ref a0), (1, .int v1), (2, .int v2), (3, .int v3), (4, .int v4), (5, .int v5), (6, .int v6), (7, .int v7)] []) (v1 : Int32) (v2 : Int32) (v3 : Int32) (v4 : Int32) (v5 : Int32) (v6 : Int32) (v7 : Int32) (hy : Mod_countLabels_106 M k5 k19 k37 v1 v2 v3 v4 v5 v6 v7 = some z) : G X k_Mod_countLabels (.inl (some (.int z))) (mH h0 a0 ad M) (mH h0 a0 ad M) 106 [(0, .ref a0), (1, .int v1), (2, .int v2), (3, .int v3), (4, .int v4), (5, .int v5), (6, .int v6), (7, .int v7)] [] := by
  unfold Mod_countLabels_106 at hy
  refine g_iconst (v := (0 : Int32)) (pc' := 107) d_Mod_countLabels_106 (by decide) rfl ?_
  refine g_goto (pc' := 197) d_Mod_countLabels_107 (by decide) ?_
  exact W_Mod_countLabels_197 ok _ _ _ hk5 _ hk19 _ hk37 _ _ _ _ _ _ _ _ hy
def Mod_countLabels_70 (M : g_MD) (k5 : Int32 → Int32 → Int32 → Int32 → Option (Int32)) (k19 : Int32 → Int32 → Int32 → Int32 → Int32 → Option (Int32)) (k37 : Int32 → Int32 → Int32 → Int32 → Int32 → Int32 → Int32 → Option (Int32)) (v1 : Int32) (v2 : Int32) (v3 : Int32) (v4 : Int32) (v5 : Int32) (v6 : Int32) (v7 : Int32) (s0 : Int32) : Option (Int32) :=
  g_mA M 0 0 ((v6 + (7 : Int32)) + v7) fun x14 => if v2 = 0 then (if s0 = 0 then (Mod_countLabels_106 M k5 k19 k37 v1 v2 v3 v4 v5 v6 v7) else (if x14 = v1 then (Mod_countLabels_197 M k5 k19 k37 v1 v2 v3 v4 v5 v6 v7 (1 : Int32)) else (Mod_countLabels_106 M k5 k19 k37 v1 v2 v3 v4 v5 v6 v7))) else (if v2 = (1 : Int32) then (if s0 = 0 then (Mod_countLabels_136 M k5 k19 k37 v1 v2 v3 v4 v5 v6 v7) else (if x14 = v1 then (Mod_countLabels_136 M k5 k19 k37 v1 v2 v3 v4 v5 v6 v7) else (if x14 = (-1 : Int32) then (Mod_countLabels_136 M k5 k19 k37 v1 v2 v3 v4 v5 v6 v7) else (Mod_countLabels_197 M k5 k19 k37 v1 v2 v3 v4 v5 v6 v7 (1 : Int32))))) else (if v2 = (2 : Int32) then (if s0 = 0 then (Mod_countLabels_177 M k5 k19 k37 v1 v2 v3 v4 v5 v6 v7) else (if x14 = (-1 : Int32) then (Mod_countLabels_177 M k5 k19 k37 v1 v2 v3 v4 v5 v6 v7) else (g_mA M 0 0 ((v6 + (19 : Int32)) + v7) fun x24 => if x24 = (1 : Int32) then (Mod_countLabels_197 M k5 k19 k37 v1 v2 v3 v4 v5 v6 v7 (1 : Int32)) else (Mod_countLabels_177 M k5 k19 k37 v1 v2 v3 v4 v5 v6 v7)))) else (if s0 = 0 then (if x14 = v1 then (Mod_countLabels_197 M k5 k19 k37 v1 v2 v3 v4 v5 v6 v7 (1 : Int32)) else (Mod_countLabels_196 M k5 k19 k37 v1 v2 v3 v4 v5 v6 v7)) else (Mod_countLabels_196 M k5 k19 k37 v1 v2 v3 v4 v5 v6 v7))))
set_option maxHeartbeats 4000000 in
set_option maxRecDepth 100000 in
theorem W_Mod_countLabels_70 {X : g_X} {h0 : g_AH} {a0 : Nat} {ad : Nat → Nat} (ok : mOK a0 ad) (M : g_MD) (z : Int32) (k5 : Int32 → Int32 → Int32 → Int32 → Option (Int32)) (hk5 : ∀ (v1 : Int32) (v2 : Int32) (v3 : Int32) (v4 : Int32), k5 v1 v2 v3 v4 = some z → G X k_Mod_countLabels (.inl (some (.int z))) (mH h0 a0 ad M) (mH h0 a0 ad M) 5 [(0, .ref a0), (1, .int v1), (2, .int v2), (3, .int v3), (4, .int v4)] []) (k19 : Int32 → Int32 → Int32 → Int32 → Int32 → Option (Int32)) (hk19 : ∀ (v1 : Int32) (v2 : Int32) (v3 : Int32) (v4 : Int32) (v5 : Int32), k19 v1 v2 v3 v4 v5 = some z → G X k_Mod_countLabels (.inl (some (.int z))) (mH h0 a0 ad M) (mH h0 a0 ad M) 19 [(0, .ref a0), (1, .int v1), (2, .int v2), (3, .int v3), (4, .int v4), (5, .int v5)] []) (k37 : Int32 → Int32 → Int32 → Int32 → Int32 → Int32 → Int32 → Option (Int32)) (hk37 : ∀ (v1 : Int32) (v2 : Int32) (v3 : Int32) (v4 : Int32) (v5 : Int32) (v6 : Int32) (v7 : Int32), k37 v1 v2 v3 v4 v5 v6 v7 = some z → G X k_Mod_countLabels (.inl (some (.int z))) (mH h0 a0 ad M) (mH h0 a0 ad M) 37 [(0, .ref a0), (1, .int v1), (2, .int v2), (3, .int v3), (4, .int v4), (5, .int v5), (6, .int v6), (7, .int v7)] []) (v1 : Int32) (v2 : Int32) (v3 : Int32) (v4 : Int32) (v5 : Int32) (v6 : Int32) (v7 : Int32) (s0 : Int32) (hy : Mod_countLabels_70 M k5 k19 k37 v1 v2 v3 v4 v5 v6 v7 s0 = some z) : G X k_Mod_countLabels (.inl (some (.int z))) (mH h0 a0 ad M) (mH h0 a0 ad M) 70 [(0, .ref a0), (1, .int v1), (2, .int v2), (3, .int v3), (4, .int v4), (5, .int v5), (6, .int v6), (7, .int v7)] [.int s0] := by
  unfold Mod_countLabels_70 at hy
  refine g_istore (pc' := 72) (Lc' := [(8, .int s0), (0, .ref a0), (1, .int v1), (2, .int v2), (3, .int v3), (4, .int v4), (5, .int v5), (6, .int v6), (7, .int v7)]) d_Mod_countLabels_70 (by decide) rfl rfl ?_
  refine g_aload_n 1 (i := 0) (pc' := 73) d_Mod_countLabels_72 rfl rfl rfl ?_
  refine gm_getA ok 0 (pc' := 76) d_Mod_countLabels_73 rfl q1965 rfl rfl ?_
  refine g_iload 7 (pc' := 78) d_Mod_countLabels_76 rfl rfl ?_
  refine g_bipush (v := (7 : Int32)) (pc' := 80) d_Mod_countLabels_78 (by decide) rfl ?_
  refine g_iadd (pc' := 81) d_Mod_countLabels_80 rfl ?_
  refine g_iload 8 (pc' := 83) d_Mod_countLabels_81 rfl rfl ?_
  refine g_iadd (pc' := 84) d_Mod_countLabels_83 rfl ?_
  replace hy := g_mA_inv hy
  obtain ⟨x14, hc15, hy⟩ := hy
  refine gm_ald0 ok (pc' := 85) d_Mod_countLabels_84 hc15 rfl ?_
  refine g_istore (pc' := 87) (Lc' := [(9, .int x14), (8, .int s0), (0, .ref a0), (1, .int v1), (2, .int v2), (3, .int v3), (4, .int v4), (5, .int v5), (6, .int v6), (7, .int v7)]) d_Mod_countLabels_85 (by decide) rfl rfl ?_
  refine g_iload_n 4 (i := 2) (pc' := 88) d_Mod_countLabels_87 rfl rfl rfl ?_
  by_cases c16 : v2 = 0
  · rw [if_pos c16] at hy
    refine g_if_neF (pc' := 91) d_Mod_countLabels_88 110 c16 (by decide) rfl ?_
    refine g_iload 1 (pc' := 93) d_Mod_countLabels_91 rfl rfl ?_
    by_cases c30 : s0 = 0
    · rw [if_pos c30] at hy
      refine g_if_eqT (pc' := 106) d_Mod_countLabels_93 c30 (by decide) ?_
      refine g_sub [2, 3, 4, 5, 6, 7, 8, 9] rfl ?_
      exact W_Mod_countLabels_106 ok _ _ _ hk5 _ hk19 _ hk37 _ _ _ _ _ _ _ hy
    · rw [if_neg c30] at hy
      refine g_if_eqF (pc' := 96) d_Mod_countLabels_93 106 c30 (by decide) rfl ?_
      refine g_iload 0 (pc' := 98) d_Mod_countLabels_96 rfl rfl ?_
      refine g_iload_n 3 (i := 1) (pc' := 99) d_Mod_countLabels_98 rfl rfl rfl ?_
      by_cases c31 : x14 = v1
      · rw [if_pos c31] at hy
        refine g_icmp_neF (pc' := 102) d_Mod_countLabels_99 106 c31 (by decide) rfl ?_
        refine g_iconst (v := (1 : Int32)) (pc' := 103) d_Mod_countLabels_102 (by decide) rfl ?_
        refine g_goto (pc' := 197) d_Mod_countLabels_103 (by decide) ?_
        refine g_sub [2, 3, 4, 5, 6, 7, 8, 9] rfl ?_
        exact W_Mod_countLabels_197 ok _ _ _ hk5 _ hk19 _ hk37 _ _ _ _ _ _ _ _ hy
      · rw [if_neg c31] at hy
        refine g_icmp_neT (pc' := 106) d_Mod_countLabels_99 c31 (by decide) ?_
        refine g_sub [2, 3, 4, 5, 6, 7, 8, 9] rfl ?_
        exact W_Mod_countLabels_106 ok _ _ _ hk5 _ hk19 _ hk37 _ _ _ _ _ _ _ hy
  · rw [if_neg c16] at hy
    refine g_if_neT (pc' := 110) d_Mod_countLabels_88 c16 (by decide) ?_
    refine g_iload_n 4 (i := 2) (pc' := 111) d_Mod_countLabels_110 rfl rfl rfl ?_
    refine g_iconst (v := (1 : Int32)) (pc' := 112) d_Mod_countLabels_111 (by decide) rfl ?_
    by_cases c17 : v2 = (1 : Int32)
    · rw [if_pos c17] at hy
      refine g_icmp_neF (pc' := 115) d_Mod_countLabels_112 140 c17 (by decide) rfl ?_
      refine g_iload 1 (pc' := 117) d_Mod_countLabels_115 rfl rfl ?_
      by_cases c27 : s0 = 0
      · rw [if_pos c27] at hy
        refine g_if_eqT (pc' := 136) d_Mod_countLabels_117 c27 (by decide) ?_
        refine g_sub [2, 3, 4, 5, 6, 7, 8, 9] rfl ?_
        exact W_Mod_countLabels_136 ok _ _ _ hk5 _ hk19 _ hk37 _ _ _ _ _ _ _ hy
      · rw [if_neg c27] at hy
        refine g_if_eqF (pc' := 120) d_Mod_countLabels_117 136 c27 (by decide) rfl ?_
        refine g_iload 0 (pc' := 122) d_Mod_countLabels_120 rfl rfl ?_
        refine g_iload_n 3 (i := 1) (pc' := 123) d_Mod_countLabels_122 rfl rfl rfl ?_
        by_cases c28 : x14 = v1
        · rw [if_pos c28] at hy
          refine g_icmp_eqT (pc' := 136) d_Mod_countLabels_123 c28 (by decide) ?_
          refine g_sub [2, 3, 4, 5, 6, 7, 8, 9] rfl ?_
          exact W_Mod_countLabels_136 ok _ _ _ hk5 _ hk19 _ hk37 _ _ _ _ _ _ _ hy
        · rw [if_neg c28] at hy
          refine g_icmp_eqF (pc' := 126) d_Mod_countLabels_123 136 c28 (by decide) rfl ?_
          refine g_iload 0 (pc' := 128) d_Mod_countLabels_126 rfl rfl ?_
          refine g_iconst (v := (-1 : Int32)) (pc' := 129) d_Mod_countLabels_128 (by decide) rfl ?_
          by_cases c29 : x14 = (-1 : Int32)
          · rw [if_pos c29] at hy
            refine g_icmp_eqT (pc' := 136) d_Mod_countLabels_129 c29 (by decide) ?_
            refine g_sub [2, 3, 4, 5, 6, 7, 8, 9] rfl ?_
            exact W_Mod_countLabels_136 ok _ _ _ hk5 _ hk19 _ hk37 _ _ _ _ _ _ _ hy
          · rw [if_neg c29] at hy
            refine g_icmp_eqF (pc' := 132) d_Mod_countLabels_129 136 c29 (by decide) rfl ?_
            refine g_iconst (v := (1 : Int32)) (pc' := 133) d_Mod_countLabels_132 (by decide) rfl ?_
            refine g_goto (pc' := 197) d_Mod_countLabels_133 (by decide) ?_
            refine g_sub [2, 3, 4, 5, 6, 7, 8, 9] rfl ?_
            exact W_Mod_countLabels_197 ok _ _ _ hk5 _ hk19 _ hk37 _ _ _ _ _ _ _ _ hy
    · rw [if_neg c17] at hy
      refine g_icmp_neT (pc' := 140) d_Mod_countLabels_112 c17 (by decide) ?_
      refine g_iload_n 4 (i := 2) (pc' := 141) d_Mod_countLabels_140 rfl rfl rfl ?_
      refine g_iconst (v := (2 : Int32)) (pc' := 142) d_Mod_countLabels_141 (by decide) rfl ?_
      by_cases c18 : v2 = (2 : Int32)
      · rw [if_pos c18] at hy
        refine g_icmp_neF (pc' := 145) d_Mod_countLabels_142 181 c18 (by decide) rfl ?_
        refine g_iload 1 (pc' := 147) d_Mod_countLabels_145 rfl rfl ?_
        by_cases c22 : s0 = 0
        · rw [if_pos c22] at hy
          refine g_if_eqT (pc' := 177) d_Mod_countLabels_147 c22 (by decide) ?_
          refine g_sub [2, 3, 4, 5, 6, 7, 8, 9] rfl ?_
          exact W_Mod_countLabels_177 ok _ _ _ hk5 _ hk19 _ hk37 _ _ _ _ _ _ _ hy
        · rw [if_neg c22] at hy
          refine g_if_eqF (pc' := 150) d_Mod_countLabels_147 177 c22 (by decide) rfl ?_
          refine g_iload 0 (pc' := 152) d_Mod_countLabels_150 rfl rfl ?_
          refine g_iconst (v := (-1 : Int32)) (pc' := 153) d_Mod_countLabels_152 (by decide) rfl ?_
          by_cases c23 : x14 = (-1 : Int32)
          · rw [if_pos c23] at hy
            refine g_icmp_eqT (pc' := 177) d_Mod_countLabels_153 c23 (by decide) ?_
            refine g_sub [2, 3, 4, 5, 6, 7, 8, 9] rfl ?_
            exact W_Mod_countLabels_177 ok _ _ _ hk5 _ hk19 _ hk37 _ _ _ _ _ _ _ hy
          · rw [if_neg c23] at hy
            refine g_icmp_eqF (pc' := 156) d_Mod_countLabels_153 177 c23 (by decide) rfl ?_
            refine g_aload_n 2 (i := 0) (pc' := 157) d_Mod_countLabels_156 rfl rfl rfl ?_
            refine gm_getA ok 0 (pc' := 160) d_Mod_countLabels_157 rfl q1965 rfl rfl ?_
            refine g_iload 8 (pc' := 162) d_Mod_countLabels_160 rfl rfl ?_
            refine g_bipush (v := (19 : Int32)) (pc' := 164) d_Mod_countLabels_162 (by decide) rfl ?_
            refine g_iadd (pc' := 165) d_Mod_countLabels_164 rfl ?_
            refine g_iload 9 (pc' := 167) d_Mod_countLabels_165 rfl rfl ?_
            refine g_iadd (pc' := 168) d_Mod_countLabels_167 rfl ?_
            replace hy := g_mA_inv hy
            obtain ⟨x24, hc25, hy⟩ := hy
            refine gm_ald0 ok (pc' := 169) d_Mod_countLabels_168 hc25 rfl ?_
            refine g_iconst (v := (1 : Int32)) (pc' := 170) d_Mod_countLabels_169 (by decide) rfl ?_
            by_cases c26 : x24 = (1 : Int32)
            · rw [if_pos c26] at hy
              refine g_icmp_neF (pc' := 173) d_Mod_countLabels_170 177 c26 (by decide) rfl ?_
              refine g_iconst (v := (1 : Int32)) (pc' := 174) d_Mod_countLabels_173 (by decide) rfl ?_
              refine g_goto (pc' := 197) d_Mod_countLabels_174 (by decide) ?_
              refine g_sub [2, 3, 4, 5, 6, 7, 8, 9] rfl ?_
              exact W_Mod_countLabels_197 ok _ _ _ hk5 _ hk19 _ hk37 _ _ _ _ _ _ _ _ hy
            · rw [if_neg c26] at hy
              refine g_icmp_neT (pc' := 177) d_Mod_countLabels_170 c26 (by decide) ?_
              refine g_sub [2, 3, 4, 5, 6, 7, 8, 9] rfl ?_
              exact W_Mod_countLabels_177 ok _ _ _ hk5 _ hk19 _ hk37 _ _ _ _ _ _ _ hy
      · rw [if_neg c18] at hy
        refine g_icmp_neT (pc' := 181) d_Mod_countLabels_142 c18 (by decide) ?_
        refine g_iload 1 (pc' := 183) d_Mod_countLabels_181 rfl rfl ?_
        by_cases c19 : s0 = 0
        · rw [if_pos c19] at hy
          refine g_if_neF (pc' := 186) d_Mod_countLabels_183 196 c19 (by decide) rfl ?_
          refine g_iload 0 (pc' := 188) d_Mod_countLabels_186 rfl rfl ?_
          refine g_iload_n 3 (i := 1) (pc' := 189) d_Mod_countLabels_188 rfl rfl rfl ?_
          by_cases c21 : x14 = v1
          · rw [if_pos c21] at hy
            refine g_icmp_neF (pc' := 192) d_Mod_countLabels_189 196 c21 (by decide) rfl ?_
            refine g_iconst (v := (1 : Int32)) (pc' := 193) d_Mod_countLabels_192 (by decide) rfl ?_
            refine g_goto (pc' := 197) d_Mod_countLabels_193 (by decide) ?_
            refine g_sub [2, 3, 4, 5, 6, 7, 8, 9] rfl ?_
            exact W_Mod_countLabels_197 ok _ _ _ hk5 _ hk19 _ hk37 _ _ _ _ _ _ _ _ hy
          · rw [if_neg c21] at hy
            refine g_icmp_neT (pc' := 196) d_Mod_countLabels_189 c21 (by decide) ?_
            refine g_sub [2, 3, 4, 5, 6, 7, 8, 9] rfl ?_
            exact W_Mod_countLabels_196 ok _ _ _ hk5 _ hk19 _ hk37 _ _ _ _ _ _ _ hy
        · rw [if_neg c19] at hy
          refine g_if_neT (pc' := 196) d_Mod_countLabels_183 c19 (by decide) ?_
          refine g_sub [2, 3, 4, 5, 6, 7, 8, 9] rfl ?_
          exact W_Mod_countLabels_196 ok _ _ _ hk5 _ hk19 _ hk37 _ _ _ _ _ _ _ hy
def Mod_countLabels_37 (M : g_MD) (k5 : Int32 → Int32 → Int32 → Int32 → Option (Int32)) (k19 : Int32 → Int32 → Int32 → Int32 → Int32 → Option (Int32))  : Nat → Int32 → Int32 → Int32 → Int32 → Int32 → Int32 → Int32 → Option (Int32)
  | 0, _, _, _, _, _, _, _ => none
  | n + 1, v1, v2, v3, v4, v5, v6, v7 => g_mA M 0 0 v6 fun x8 => if x8 ≤ v7 then (k19 v1 v2 v3 v4 (v5 + (1 : Int32))) else (g_mA M 0 0 ((v6 + (1 : Int32)) + v7) fun x11 => if x11 = v1 then (Mod_countLabels_70 M k5 k19 (Mod_countLabels_37 M k5 k19 n) v1 v2 v3 v4 v5 v6 v7 (1 : Int32)) else (Mod_countLabels_70 M k5 k19 (Mod_countLabels_37 M k5 k19 n) v1 v2 v3 v4 v5 v6 v7 (0 : Int32)))
set_option maxHeartbeats 4000000 in
set_option maxRecDepth 100000 in
theorem W_Mod_countLabels_37 {X : g_X} {h0 : g_AH} {a0 : Nat} {ad : Nat → Nat} (ok : mOK a0 ad) (M : g_MD) (z : Int32) (k5 : Int32 → Int32 → Int32 → Int32 → Option (Int32)) (hk5 : ∀ (v1 : Int32) (v2 : Int32) (v3 : Int32) (v4 : Int32), k5 v1 v2 v3 v4 = some z → G X k_Mod_countLabels (.inl (some (.int z))) (mH h0 a0 ad M) (mH h0 a0 ad M) 5 [(0, .ref a0), (1, .int v1), (2, .int v2), (3, .int v3), (4, .int v4)] []) (k19 : Int32 → Int32 → Int32 → Int32 → Int32 → Option (Int32)) (hk19 : ∀ (v1 : Int32) (v2 : Int32) (v3 : Int32) (v4 : Int32) (v5 : Int32), k19 v1 v2 v3 v4 v5 = some z → G X k_Mod_countLabels (.inl (some (.int z))) (mH h0 a0 ad M) (mH h0 a0 ad M) 19 [(0, .ref a0), (1, .int v1), (2, .int v2), (3, .int v3), (4, .int v4), (5, .int v5)] [])  : ∀ (n : Nat) (v1 : Int32) (v2 : Int32) (v3 : Int32) (v4 : Int32) (v5 : Int32) (v6 : Int32) (v7 : Int32), Mod_countLabels_37 M k5 k19 n v1 v2 v3 v4 v5 v6 v7 = some z → G X k_Mod_countLabels (.inl (some (.int z))) (mH h0 a0 ad M) (mH h0 a0 ad M) 37 [(0, .ref a0), (1, .int v1), (2, .int v2), (3, .int v3), (4, .int v4), (5, .int v5), (6, .int v6), (7, .int v7)] [] := by
  intro n
  induction n with
  | zero => intro v1 v2 v3 v4 v5 v6 v7 hy; exact absurd hy (by simp [Mod_countLabels_37])
  | succ n ih =>
    intro v1 v2 v3 v4 v5 v6 v7 hy
    rw [Mod_countLabels_37] at hy
    refine g_iload 7 (pc' := 39) d_Mod_countLabels_37 rfl rfl ?_
    refine g_aload_n 0 (i := 0) (pc' := 40) d_Mod_countLabels_39 rfl rfl rfl ?_
    refine gm_getA ok 0 (pc' := 43) d_Mod_countLabels_40 rfl q1965 rfl rfl ?_
    refine g_iload 6 (pc' := 45) d_Mod_countLabels_43 rfl rfl ?_
    replace hy := g_mA_inv hy
    obtain ⟨x8, hc9, hy⟩ := hy
    refine gm_ald0 ok (pc' := 46) d_Mod_countLabels_45 hc9 rfl ?_
    by_cases c10 : x8 ≤ v7
    · rw [if_pos c10] at hy
      refine g_icmp_geT (pc' := 218) d_Mod_countLabels_46 c10 (by decide) ?_
      refine g_iinc 5 (v := (v5 + (1 : Int32))) (pc' := 221) (Lc' := [(5, .int (v5 + (1 : Int32))), (0, .ref a0), (1, .int v1), (2, .int v2), (3, .int v3), (4, .int v4), (6, .int v6), (7, .int v7)]) d_Mod_countLabels_218 rfl rfl (by decide) rfl rfl ?_
      refine g_goto (pc' := 19) d_Mod_countLabels_221 (by decide) ?_
      refine g_sub [1, 2, 3, 4, 5, 0] rfl ?_
      exact hk19 _ _ _ _ _ hy
    · rw [if_neg c10] at hy
      refine g_icmp_geF (pc' := 49) d_Mod_countLabels_46 218 c10 (by decide) rfl ?_
      refine g_aload_n 0 (i := 0) (pc' := 50) d_Mod_countLabels_49 rfl rfl rfl ?_
      refine gm_getA ok 0 (pc' := 53) d_Mod_countLabels_50 rfl q1965 rfl rfl ?_
      refine g_iload 6 (pc' := 55) d_Mod_countLabels_53 rfl rfl ?_
      refine g_iconst (v := (1 : Int32)) (pc' := 56) d_Mod_countLabels_55 (by decide) rfl ?_
      refine g_iadd (pc' := 57) d_Mod_countLabels_56 rfl ?_
      refine g_iload 7 (pc' := 59) d_Mod_countLabels_57 rfl rfl ?_
      refine g_iadd (pc' := 60) d_Mod_countLabels_59 rfl ?_
      replace hy := g_mA_inv hy
      obtain ⟨x11, hc12, hy⟩ := hy
      refine gm_ald0 ok (pc' := 61) d_Mod_countLabels_60 hc12 rfl ?_
      refine g_iload_n 1 (i := 1) (pc' := 62) d_Mod_countLabels_61 rfl rfl rfl ?_
      by_cases c13 : x11 = v1
      · rw [if_pos c13] at hy
        refine g_icmp_neF (pc' := 65) d_Mod_countLabels_62 69 c13 (by decide) rfl ?_
        refine g_iconst (v := (1 : Int32)) (pc' := 66) d_Mod_countLabels_65 (by decide) rfl ?_
        refine g_goto (pc' := 70) d_Mod_countLabels_66 (by decide) ?_
        exact W_Mod_countLabels_70 ok _ _ _ hk5 _ hk19 _ ih _ _ _ _ _ _ _ _ hy
      · rw [if_neg c13] at hy
        refine g_icmp_neT (pc' := 69) d_Mod_countLabels_62 c13 (by decide) ?_
        refine g_iconst (v := (0 : Int32)) (pc' := 70) d_Mod_countLabels_69 (by decide) rfl ?_
        exact W_Mod_countLabels_70 ok _ _ _ hk5 _ hk19 _ ih _ _ _ _ _ _ _ _ hy
def Mod_countLabels_19 (M : g_MD) (k5 : Int32 → Int32 → Int32 → Int32 → Option (Int32))  : Nat → Int32 → Int32 → Int32 → Int32 → Int32 → Option (Int32)
  | 0, _, _, _, _, _ => none
  | n + 1, v1, v2, v3, v4, v5 => if (2 : Int32) ≤ v5 then (k5 v1 v2 v3 (v4 + (1 : Int32))) else (g_b (Mod_wayPlace v4 v5) fun x5 => Mod_countLabels_37 M k5 (Mod_countLabels_19 M k5 n) gFU v1 v2 v3 v4 v5 x5 (1 : Int32))
set_option maxHeartbeats 4000000 in
set_option maxRecDepth 100000 in
theorem W_Mod_countLabels_19 {X : g_X} {h0 : g_AH} {a0 : Nat} {ad : Nat → Nat} (ok : mOK a0 ad) (M : g_MD) (z : Int32) (k5 : Int32 → Int32 → Int32 → Int32 → Option (Int32)) (hk5 : ∀ (v1 : Int32) (v2 : Int32) (v3 : Int32) (v4 : Int32), k5 v1 v2 v3 v4 = some z → G X k_Mod_countLabels (.inl (some (.int z))) (mH h0 a0 ad M) (mH h0 a0 ad M) 5 [(0, .ref a0), (1, .int v1), (2, .int v2), (3, .int v3), (4, .int v4)] [])  : ∀ (n : Nat) (v1 : Int32) (v2 : Int32) (v3 : Int32) (v4 : Int32) (v5 : Int32), Mod_countLabels_19 M k5 n v1 v2 v3 v4 v5 = some z → G X k_Mod_countLabels (.inl (some (.int z))) (mH h0 a0 ad M) (mH h0 a0 ad M) 19 [(0, .ref a0), (1, .int v1), (2, .int v2), (3, .int v3), (4, .int v4), (5, .int v5)] [] := by
  intro n
  induction n with
  | zero => intro v1 v2 v3 v4 v5 hy; exact absurd hy (by simp [Mod_countLabels_19])
  | succ n ih =>
    intro v1 v2 v3 v4 v5 hy
    rw [Mod_countLabels_19] at hy
    refine g_iload 5 (pc' := 21) d_Mod_countLabels_19 rfl rfl ?_
    refine g_iconst (v := (2 : Int32)) (pc' := 22) d_Mod_countLabels_21 (by decide) rfl ?_
    by_cases c4 : (2 : Int32) ≤ v5
    · rw [if_pos c4] at hy
      refine g_icmp_geT (pc' := 224) d_Mod_countLabels_22 c4 (by decide) ?_
      refine g_iinc 4 (v := (v4 + (1 : Int32))) (pc' := 227) (Lc' := [(4, .int (v4 + (1 : Int32))), (0, .ref a0), (1, .int v1), (2, .int v2), (3, .int v3), (5, .int v5)]) d_Mod_countLabels_224 rfl rfl (by decide) rfl rfl ?_
      refine g_goto (pc' := 5) d_Mod_countLabels_227 (by decide) ?_
      refine g_sub [1, 2, 3, 4, 0] rfl ?_
      exact hk5 _ _ _ _ hy
    · rw [if_neg c4] at hy
      refine g_icmp_geF (pc' := 25) d_Mod_countLabels_22 224 c4 (by decide) rfl ?_
      refine g_iload 4 (pc' := 27) d_Mod_countLabels_25 rfl rfl ?_
      refine g_iload 5 (pc' := 29) d_Mod_countLabels_27 rfl rfl ?_
      replace hy := g_b_inv hy
      obtain ⟨x5, hf7, hy⟩ := hy
      refine g_callS (rv := some (.int x5)) (h1 := (mH h0 a0 ad M)) (pc' := 32) (As := [.int v4, .int v5]) (rest := []) 2 (T_Mod_wayPlace (hy := hf7)) d_Mod_countLabels_29 q2179 q2180 q135 q2181 hd_Mod_wayPlace rfl ⟨by decide, by decide⟩ (by first | exact Nat.le_of_ble_eq_true rfl | (simp only [List.map, List.sum_cons, List.sum_nil, g_cat_rf]; exact Nat.le_of_ble_eq_true rfl) | (simp only [List.map, List.sum_cons, List.sum_nil, g_cat_rf, Value.category]; decide)) rfl ?_
      refine g_istore (pc' := 34) (Lc' := [(6, .int x5), (0, .ref a0), (1, .int v1), (2, .int v2), (3, .int v3), (4, .int v4), (5, .int v5)]) d_Mod_countLabels_32 (by decide) rfl rfl ?_
      refine g_iconst (v := (1 : Int32)) (pc' := 35) d_Mod_countLabels_34 (by decide) rfl ?_
      refine g_istore (pc' := 37) (Lc' := [(7, .int (1 : Int32)), (6, .int x5), (0, .ref a0), (1, .int v1), (2, .int v2), (3, .int v3), (4, .int v4), (5, .int v5)]) d_Mod_countLabels_35 (by decide) rfl rfl ?_
      refine g_sub [2, 3, 4, 5, 6, 7, 1, 0] rfl ?_
      exact W_Mod_countLabels_37 ok _ _ _ hk5 _ ih _ _ _ _ _ _ _ _ hy
def Mod_countLabels_5 (M : g_MD)  : Nat → Int32 → Int32 → Int32 → Int32 → Option (Int32)
  | 0, _, _, _, _ => none
  | n + 1, v1, v2, v3, v4 => g_mA M 0 0 (4 : Int32) fun x1 => if x1 ≤ v4 then (some v3) else (Mod_countLabels_19 M (Mod_countLabels_5 M  n) gFU v1 v2 v3 v4 (0 : Int32))
set_option maxHeartbeats 4000000 in
set_option maxRecDepth 100000 in
theorem W_Mod_countLabels_5 {X : g_X} {h0 : g_AH} {a0 : Nat} {ad : Nat → Nat} (ok : mOK a0 ad) (M : g_MD) (z : Int32)  : ∀ (n : Nat) (v1 : Int32) (v2 : Int32) (v3 : Int32) (v4 : Int32), Mod_countLabels_5 M  n v1 v2 v3 v4 = some z → G X k_Mod_countLabels (.inl (some (.int z))) (mH h0 a0 ad M) (mH h0 a0 ad M) 5 [(0, .ref a0), (1, .int v1), (2, .int v2), (3, .int v3), (4, .int v4)] [] := by
  intro n
  induction n with
  | zero => intro v1 v2 v3 v4 hy; exact absurd hy (by simp [Mod_countLabels_5])
  | succ n ih =>
    intro v1 v2 v3 v4 hy
    rw [Mod_countLabels_5] at hy
    refine g_iload 4 (pc' := 7) d_Mod_countLabels_5 rfl rfl ?_
    refine g_aload_n 0 (i := 0) (pc' := 8) d_Mod_countLabels_7 rfl rfl rfl ?_
    refine gm_getA ok 0 (pc' := 11) d_Mod_countLabels_8 rfl q1965 rfl rfl ?_
    refine g_iconst (v := (4 : Int32)) (pc' := 12) d_Mod_countLabels_11 (by decide) rfl ?_
    replace hy := g_mA_inv hy
    obtain ⟨x1, hc2, hy⟩ := hy
    refine gm_ald0 ok (pc' := 13) d_Mod_countLabels_12 hc2 rfl ?_
    by_cases c3 : x1 ≤ v4
    · rw [if_pos c3] at hy
      refine g_icmp_geT (pc' := 230) d_Mod_countLabels_13 c3 (by decide) ?_
      refine g_iload_n 3 (i := 3) (pc' := 231) d_Mod_countLabels_230 rfl rfl rfl ?_
      cases hy
      exact g_iret rfl rfl rfl d_Mod_countLabels_231
    · rw [if_neg c3] at hy
      refine g_icmp_geF (pc' := 16) d_Mod_countLabels_13 230 c3 (by decide) rfl ?_
      refine g_iconst (v := (0 : Int32)) (pc' := 17) d_Mod_countLabels_16 (by decide) rfl ?_
      refine g_istore (pc' := 19) (Lc' := [(5, .int (0 : Int32)), (0, .ref a0), (1, .int v1), (2, .int v2), (3, .int v3), (4, .int v4)]) d_Mod_countLabels_17 (by decide) rfl rfl ?_
      refine g_sub [1, 2, 3, 4, 5, 0] rfl ?_
      exact W_Mod_countLabels_19 ok _ _ _ ih _ _ _ _ _ _ hy
def Mod_countLabels (M : g_MD) (p0 : Int32) (p1 : Int32) : Option (Int32) :=
  Mod_countLabels_5 M  gFU p0 p1 (0 : Int32) (0 : Int32)
set_option maxHeartbeats 4000000 in
set_option maxRecDepth 100000 in
theorem T_Mod_countLabels {l : Launch} {B : g_B} {h0 : g_AH} {a0 : Nat} {ad : Nat → Nat} (ok : mOK a0 ad) (M : g_MD) (p0 : Int32) (p1 : Int32) (z : Int32) (hy : Mod_countLabels M p0 p1 = some z) : g_CT l B y_Mod_countLabels k_Mod_countLabels [.ref a0, .int p0, .int p1] (mH h0 a0 ad M) (.inl (some (.int z))) (mH h0 a0 ad M) := by
  refine g_start2 (Lc := [(0, .ref a0), (1, .int p0), (2, .int p1)]) (by decide) rfl rfl (by exact Nat.le_of_ble_eq_true rfl) (by rfl) fun X => ?_
  unfold Mod_countLabels at hy
  refine g_iconst (v := (0 : Int32)) (pc' := 1) d_Mod_countLabels_0 (by decide) rfl ?_
  refine g_istore_n (i := 3) (pc' := 2) (Lc' := [(3, .int (0 : Int32)), (0, .ref a0), (1, .int p0), (2, .int p1)]) d_Mod_countLabels_1 rfl (by decide) rfl rfl ?_
  refine g_iconst (v := (0 : Int32)) (pc' := 3) d_Mod_countLabels_2 (by decide) rfl ?_
  refine g_istore (pc' := 5) (Lc' := [(4, .int (0 : Int32)), (3, .int (0 : Int32)), (0, .ref a0), (1, .int p0), (2, .int p1)]) d_Mod_countLabels_3 (by decide) rfl rfl ?_
  refine g_sub [2, 3, 4, 1, 0] rfl ?_
  exact W_Mod_countLabels_5 ok _ _ _ _ _ _ _ hy
theorem hd_Mod_countLabels : g_dsc y_Mod_countLabels 2 := ⟨by decide +kernel, by decide +kernel, by decide +kernel⟩
/-! CircuitDeskModel.freeLabels(I)I -/
abbrev y_Mod_freeLabels : MethodName := ⟨"CircuitDeskModel", "freeLabels", "(I)I"⟩
abbrev k_Mod_freeLabels : g_M := (prog_17_method_49_code, 4, "CircuitDeskModel", 14, (some FieldType.int), "freeLabels", [], 0)
theorem d_Mod_freeLabels_0 : decode prog_17_method_49_code 0 = .ok (.iconst 0, 1) := by decide +kernel
theorem d_Mod_freeLabels_1 : decode prog_17_method_49_code 1 = .ok (.istore_n 2, 1) := by decide +kernel
theorem d_Mod_freeLabels_2 : decode prog_17_method_49_code 2 = .ok (.iconst 0, 1) := by decide +kernel
theorem d_Mod_freeLabels_3 : decode prog_17_method_49_code 3 = .ok (.istore_n 3, 1) := by decide +kernel
theorem d_Mod_freeLabels_4 : decode prog_17_method_49_code 4 = .ok (.iload_n 3, 1) := by decide +kernel
theorem d_Mod_freeLabels_5 : decode prog_17_method_49_code 5 = .ok (.aload_n 0, 1) := by decide +kernel
theorem d_Mod_freeLabels_6 : decode prog_17_method_49_code 6 = .ok (.getfield 7, 3) := by decide +kernel
theorem d_Mod_freeLabels_9 : decode prog_17_method_49_code 9 = .ok (.bipush 14, 2) := by decide +kernel
theorem d_Mod_freeLabels_11 : decode prog_17_method_49_code 11 = .ok (.iload_n 1, 1) := by decide +kernel
theorem d_Mod_freeLabels_12 : decode prog_17_method_49_code 12 = .ok (.iadd, 1) := by decide +kernel
theorem d_Mod_freeLabels_13 : decode prog_17_method_49_code 13 = .ok (.iaload, 1) := by decide +kernel
theorem d_Mod_freeLabels_14 : decode prog_17_method_49_code 14 = .ok (.if_icmp .ge 26, 3) := by decide +kernel
theorem d_Mod_freeLabels_17 : decode prog_17_method_49_code 17 = .ok (.iload_n 2, 1) := by decide +kernel
theorem d_Mod_freeLabels_18 : decode prog_17_method_49_code 18 = .ok (.aload_n 0, 1) := by decide +kernel
theorem d_Mod_freeLabels_19 : decode prog_17_method_49_code 19 = .ok (.iload_n 1, 1) := by decide +kernel
theorem d_Mod_freeLabels_20 : decode prog_17_method_49_code 20 = .ok (.iload_n 3, 1) := by decide +kernel
theorem d_Mod_freeLabels_21 : decode prog_17_method_49_code 21 = .ok (.invokevirtual 232, 3) := by decide +kernel
theorem d_Mod_freeLabels_24 : decode prog_17_method_49_code 24 = .ok (.ifCond .eq 7, 3) := by decide +kernel
theorem d_Mod_freeLabels_27 : decode prog_17_method_49_code 27 = .ok (.iconst 0, 1) := by decide +kernel
theorem d_Mod_freeLabels_28 : decode prog_17_method_49_code 28 = .ok (.goto 4, 3) := by decide +kernel
theorem d_Mod_freeLabels_31 : decode prog_17_method_49_code 31 = .ok (.iconst 1, 1) := by decide +kernel
theorem d_Mod_freeLabels_32 : decode prog_17_method_49_code 32 = .ok (.iadd, 1) := by decide +kernel
theorem d_Mod_freeLabels_33 : decode prog_17_method_49_code 33 = .ok (.istore_n 2, 1) := by decide +kernel
theorem d_Mod_freeLabels_34 : decode prog_17_method_49_code 34 = .ok (.iinc 3 1, 3) := by decide +kernel
theorem d_Mod_freeLabels_37 : decode prog_17_method_49_code 37 = .ok (.goto (-33), 3) := by decide +kernel
theorem d_Mod_freeLabels_40 : decode prog_17_method_49_code 40 = .ok (.iload_n 2, 1) := by decide +kernel
theorem d_Mod_freeLabels_41 : decode prog_17_method_49_code 41 = .ok (.ireturn, 1) := by decide +kernel
def Mod_freeLabels_32 (k4 : g_MD → Int32 → Int32 → Int32 → Option (Int32 × g_MD)) (M : g_MD) (v1 : Int32) (v3 : Int32) (s0 : Int32) (s1 : Int32) : Option (Int32 × g_MD) :=
  k4 M v1 (s1 + s0) (v3 + (1 : Int32))
set_option maxHeartbeats 4000000 in
set_option maxRecDepth 100000 in
theorem W_Mod_freeLabels_32 {X : g_X} {h0 : g_AH} {a0 : Nat} {ad : Nat → Nat} (ok : mOK a0 ad) (z : Int32 × g_MD) (k4 : g_MD → Int32 → Int32 → Int32 → Option (Int32 × g_MD)) (hk4 : ∀ (M : g_MD) (v1 : Int32) (v2 : Int32) (v3 : Int32), k4 M v1 v2 v3 = some z → G X k_Mod_freeLabels (.inl (some (.int z.1))) (mH h0 a0 ad z.2) (mH h0 a0 ad M) 4 [(0, .ref a0), (1, .int v1), (2, .int v2), (3, .int v3)] []) (M : g_MD) (v1 : Int32) (v3 : Int32) (s0 : Int32) (s1 : Int32) (hy : Mod_freeLabels_32 k4 M v1 v3 s0 s1 = some z) : G X k_Mod_freeLabels (.inl (some (.int z.1))) (mH h0 a0 ad z.2) (mH h0 a0 ad M) 32 [(0, .ref a0), (1, .int v1), (3, .int v3)] [.int s0, .int s1] := by
  unfold Mod_freeLabels_32 at hy
  refine g_iadd (pc' := 33) d_Mod_freeLabels_32 rfl ?_
  refine g_istore_n (i := 2) (pc' := 34) (Lc' := [(2, .int (s1 + s0)), (0, .ref a0), (1, .int v1), (3, .int v3)]) d_Mod_freeLabels_33 rfl (by decide) rfl rfl ?_
  refine g_iinc 3 (v := (v3 + (1 : Int32))) (pc' := 37) (Lc' := [(3, .int (v3 + (1 : Int32))), (2, .int (s1 + s0)), (0, .ref a0), (1, .int v1)]) d_Mod_freeLabels_34 rfl rfl (by decide) rfl rfl ?_
  refine g_goto (pc' := 4) d_Mod_freeLabels_37 (by decide) ?_
  refine g_sub [2, 3, 1, 0] rfl ?_
  exact hk4 _ _ _ _ hy
def Mod_freeLabels_4  : Nat → g_MD → Int32 → Int32 → Int32 → Option (Int32 × g_MD)
  | 0, _, _, _, _ => none
  | n + 1, M, v1, v2, v3 => g_mA M 0 0 ((14 : Int32) + v1) fun x1 => if x1 ≤ v3 then (some (v2, M)) else (g_bM (Mod_findHolder M v1 v3) fun x4 M5 => if x4 = 0 then (Mod_freeLabels_32 (Mod_freeLabels_4  n) M5 v1 v3 (1 : Int32) v2) else (Mod_freeLabels_32 (Mod_freeLabels_4  n) M5 v1 v3 (0 : Int32) v2))
set_option maxHeartbeats 4000000 in
set_option maxRecDepth 100000 in
theorem W_Mod_freeLabels_4 {X : g_X} {h0 : g_AH} {a0 : Nat} {ad : Nat → Nat} (ok : mOK a0 ad) (z : Int32 × g_MD)  : ∀ (n : Nat) (M : g_MD) (v1 : Int32) (v2 : Int32) (v3 : Int32), Mod_freeLabels_4  n M v1 v2 v3 = some z → G X k_Mod_freeLabels (.inl (some (.int z.1))) (mH h0 a0 ad z.2) (mH h0 a0 ad M) 4 [(0, .ref a0), (1, .int v1), (2, .int v2), (3, .int v3)] [] := by
  intro n
  induction n with
  | zero => intro M v1 v2 v3 hy; exact absurd hy (by simp [Mod_freeLabels_4])
  | succ n ih =>
    intro M v1 v2 v3 hy
    rw [Mod_freeLabels_4] at hy
    refine g_iload_n 3 (i := 3) (pc' := 5) d_Mod_freeLabels_4 rfl rfl rfl ?_
    refine g_aload_n 0 (i := 0) (pc' := 6) d_Mod_freeLabels_5 rfl rfl rfl ?_
    refine gm_getA ok 0 (pc' := 9) d_Mod_freeLabels_6 rfl q1965 rfl rfl ?_
    refine g_bipush (v := (14 : Int32)) (pc' := 11) d_Mod_freeLabels_9 (by decide) rfl ?_
    refine g_iload_n 1 (i := 1) (pc' := 12) d_Mod_freeLabels_11 rfl rfl rfl ?_
    refine g_iadd (pc' := 13) d_Mod_freeLabels_12 rfl ?_
    replace hy := g_mA_inv hy
    obtain ⟨x1, hc2, hy⟩ := hy
    refine gm_ald0 ok (pc' := 14) d_Mod_freeLabels_13 hc2 rfl ?_
    by_cases c3 : x1 ≤ v3
    · rw [if_pos c3] at hy
      refine g_icmp_geT (pc' := 40) d_Mod_freeLabels_14 c3 (by decide) ?_
      refine g_iload_n 2 (i := 2) (pc' := 41) d_Mod_freeLabels_40 rfl rfl rfl ?_
      cases hy
      exact g_iret rfl rfl rfl d_Mod_freeLabels_41
    · rw [if_neg c3] at hy
      refine g_icmp_geF (pc' := 17) d_Mod_freeLabels_14 40 c3 (by decide) rfl ?_
      refine g_iload_n 2 (i := 2) (pc' := 18) d_Mod_freeLabels_17 rfl rfl rfl ?_
      refine g_aload_n 0 (i := 0) (pc' := 19) d_Mod_freeLabels_18 rfl rfl rfl ?_
      refine g_iload_n 1 (i := 1) (pc' := 20) d_Mod_freeLabels_19 rfl rfl rfl ?_
      refine g_iload_n 3 (i := 3) (pc' := 21) d_Mod_freeLabels_20 rfl rfl rfl ?_
      replace hy := g_bM_inv hy
      obtain ⟨x4, M5, hf6, hy⟩ := hy
      refine g_callV (rv := some (.int x4)) (h1 := (mH h0 a0 ad M5)) (pc' := 24) (As := [.int v1, .int v3]) (rest := [.int v2]) 2 (T_Mod_findHolder ok (hy := hf6)) d_Mod_freeLabels_21 (mH_look ok) rfl rfl q2210 q2212 qs58 q135 q2213 hd_Mod_findHolder rfl ⟨by decide, by decide⟩ (by first | exact Nat.le_of_ble_eq_true rfl | (simp only [List.map, List.sum_cons, List.sum_nil, g_cat_rf]; exact Nat.le_of_ble_eq_true rfl) | (simp only [List.map, List.sum_cons, List.sum_nil, g_cat_rf, Value.category]; decide)) rfl ?_
      by_cases c7 : x4 = 0
      · rw [if_pos c7] at hy
        refine g_if_eqT (pc' := 31) d_Mod_freeLabels_24 c7 (by decide) ?_
        refine g_iconst (v := (1 : Int32)) (pc' := 32) d_Mod_freeLabels_31 (by decide) rfl ?_
        refine g_sub [0, 1, 3] rfl ?_
        exact W_Mod_freeLabels_32 ok _ _ ih _ _ _ _ _ hy
      · rw [if_neg c7] at hy
        refine g_if_eqF (pc' := 27) d_Mod_freeLabels_24 31 c7 (by decide) rfl ?_
        refine g_iconst (v := (0 : Int32)) (pc' := 28) d_Mod_freeLabels_27 (by decide) rfl ?_
        refine g_goto (pc' := 32) d_Mod_freeLabels_28 (by decide) ?_
        refine g_sub [0, 1, 3] rfl ?_
        exact W_Mod_freeLabels_32 ok _ _ ih _ _ _ _ _ hy
def Mod_freeLabels (M : g_MD) (p0 : Int32) : Option (Int32 × g_MD) :=
  Mod_freeLabels_4  gFU M p0 (0 : Int32) (0 : Int32)
set_option maxHeartbeats 4000000 in
set_option maxRecDepth 100000 in
theorem T_Mod_freeLabels {l : Launch} {B : g_B} {h0 : g_AH} {a0 : Nat} {ad : Nat → Nat} (ok : mOK a0 ad) (M : g_MD) (p0 : Int32) (z : Int32 × g_MD) (hy : Mod_freeLabels M p0 = some z) : g_CT l B y_Mod_freeLabels k_Mod_freeLabels [.ref a0, .int p0] (mH h0 a0 ad M) (.inl (some (.int z.1))) (mH h0 a0 ad z.2) := by
  refine g_start2 (Lc := [(0, .ref a0), (1, .int p0)]) (by decide) rfl rfl (by exact Nat.le_of_ble_eq_true rfl) (by rfl) fun X => ?_
  unfold Mod_freeLabels at hy
  refine g_iconst (v := (0 : Int32)) (pc' := 1) d_Mod_freeLabels_0 (by decide) rfl ?_
  refine g_istore_n (i := 2) (pc' := 2) (Lc' := [(2, .int (0 : Int32)), (0, .ref a0), (1, .int p0)]) d_Mod_freeLabels_1 rfl (by decide) rfl rfl ?_
  refine g_iconst (v := (0 : Int32)) (pc' := 3) d_Mod_freeLabels_2 (by decide) rfl ?_
  refine g_istore_n (i := 3) (pc' := 4) (Lc' := [(3, .int (0 : Int32)), (2, .int (0 : Int32)), (0, .ref a0), (1, .int p0)]) d_Mod_freeLabels_3 rfl (by decide) rfl rfl ?_
  refine g_sub [2, 3, 1, 0] rfl ?_
  exact W_Mod_freeLabels_4 ok _ _ _ _ _ _ hy
theorem hd_Mod_freeLabels : g_dsc y_Mod_freeLabels 1 := ⟨by decide +kernel, by decide +kernel, by decide +kernel⟩
/-! CircuitDeskModel.lenderFor(I)I -/
abbrev y_Mod_lenderFor : MethodName := ⟨"CircuitDeskModel", "lenderFor", "(I)I"⟩
abbrev k_Mod_lenderFor : g_M := (prog_17_method_53_code, 6, "CircuitDeskModel", 15, (some FieldType.int), "lenderFor", [], 0)
theorem d_Mod_lenderFor_0 : decode prog_17_method_53_code 0 = .ok (.iconst (-1), 1) := by decide +kernel
theorem d_Mod_lenderFor_1 : decode prog_17_method_53_code 1 = .ok (.istore_n 2, 1) := by decide +kernel
theorem d_Mod_lenderFor_2 : decode prog_17_method_53_code 2 = .ok (.iconst 0, 1) := by decide +kernel
theorem d_Mod_lenderFor_3 : decode prog_17_method_53_code 3 = .ok (.istore_n 3, 1) := by decide +kernel
theorem d_Mod_lenderFor_4 : decode prog_17_method_53_code 4 = .ok (.iconst 0, 1) := by decide +kernel
theorem d_Mod_lenderFor_5 : decode prog_17_method_53_code 5 = .ok (.istore 4, 2) := by decide +kernel
theorem d_Mod_lenderFor_7 : decode prog_17_method_53_code 7 = .ok (.iload 4, 2) := by decide +kernel
theorem d_Mod_lenderFor_9 : decode prog_17_method_53_code 9 = .ok (.aload_n 0, 1) := by decide +kernel
theorem d_Mod_lenderFor_10 : decode prog_17_method_53_code 10 = .ok (.getfield 7, 3) := by decide +kernel
theorem d_Mod_lenderFor_13 : decode prog_17_method_53_code 13 = .ok (.iconst 2, 1) := by decide +kernel
theorem d_Mod_lenderFor_14 : decode prog_17_method_53_code 14 = .ok (.iaload, 1) := by decide +kernel
theorem d_Mod_lenderFor_15 : decode prog_17_method_53_code 15 = .ok (.if_icmp .ge 44, 3) := by decide +kernel
theorem d_Mod_lenderFor_18 : decode prog_17_method_53_code 18 = .ok (.aload_n 0, 1) := by decide +kernel
theorem d_Mod_lenderFor_19 : decode prog_17_method_53_code 19 = .ok (.iload_n 1, 1) := by decide +kernel
theorem d_Mod_lenderFor_20 : decode prog_17_method_53_code 20 = .ok (.iload 4, 2) := by decide +kernel
theorem d_Mod_lenderFor_22 : decode prog_17_method_53_code 22 = .ok (.invokevirtual 137, 3) := by decide +kernel
theorem d_Mod_lenderFor_25 : decode prog_17_method_53_code 25 = .ok (.iconst (-1), 1) := by decide +kernel
theorem d_Mod_lenderFor_26 : decode prog_17_method_53_code 26 = .ok (.if_icmp .ne 7, 3) := by decide +kernel
theorem d_Mod_lenderFor_29 : decode prog_17_method_53_code 29 = .ok (.iconst 0, 1) := by decide +kernel
theorem d_Mod_lenderFor_30 : decode prog_17_method_53_code 30 = .ok (.goto 9, 3) := by decide +kernel
theorem d_Mod_lenderFor_33 : decode prog_17_method_53_code 33 = .ok (.aload_n 0, 1) := by decide +kernel
theorem d_Mod_lenderFor_34 : decode prog_17_method_53_code 34 = .ok (.iload 4, 2) := by decide +kernel
theorem d_Mod_lenderFor_36 : decode prog_17_method_53_code 36 = .ok (.invokevirtual 235, 3) := by decide +kernel
theorem d_Mod_lenderFor_39 : decode prog_17_method_53_code 39 = .ok (.istore 5, 2) := by decide +kernel
theorem d_Mod_lenderFor_41 : decode prog_17_method_53_code 41 = .ok (.iload 5, 2) := by decide +kernel
theorem d_Mod_lenderFor_43 : decode prog_17_method_53_code 43 = .ok (.iload_n 3, 1) := by decide +kernel
theorem d_Mod_lenderFor_44 : decode prog_17_method_53_code 44 = .ok (.if_icmp .le 9, 3) := by decide +kernel
theorem d_Mod_lenderFor_47 : decode prog_17_method_53_code 47 = .ok (.iload 4, 2) := by decide +kernel
theorem d_Mod_lenderFor_49 : decode prog_17_method_53_code 49 = .ok (.istore_n 2, 1) := by decide +kernel
theorem d_Mod_lenderFor_50 : decode prog_17_method_53_code 50 = .ok (.iload 5, 2) := by decide +kernel
theorem d_Mod_lenderFor_52 : decode prog_17_method_53_code 52 = .ok (.istore_n 3, 1) := by decide +kernel
theorem d_Mod_lenderFor_53 : decode prog_17_method_53_code 53 = .ok (.iinc 4 1, 3) := by decide +kernel
theorem d_Mod_lenderFor_56 : decode prog_17_method_53_code 56 = .ok (.goto (-49), 3) := by decide +kernel
theorem d_Mod_lenderFor_59 : decode prog_17_method_53_code 59 = .ok (.iload_n 2, 1) := by decide +kernel
theorem d_Mod_lenderFor_60 : decode prog_17_method_53_code 60 = .ok (.ireturn, 1) := by decide +kernel
def Mod_lenderFor_53 (k7 : g_MD → Int32 → Int32 → Int32 → Int32 → Option (Int32 × g_MD)) (M : g_MD) (v1 : Int32) (v2 : Int32) (v3 : Int32) (v4 : Int32) : Option (Int32 × g_MD) :=
  k7 M v1 v2 v3 (v4 + (1 : Int32))
set_option maxHeartbeats 4000000 in
set_option maxRecDepth 100000 in
theorem W_Mod_lenderFor_53 {X : g_X} {h0 : g_AH} {a0 : Nat} {ad : Nat → Nat} (ok : mOK a0 ad) (z : Int32 × g_MD) (k7 : g_MD → Int32 → Int32 → Int32 → Int32 → Option (Int32 × g_MD)) (hk7 : ∀ (M : g_MD) (v1 : Int32) (v2 : Int32) (v3 : Int32) (v4 : Int32), k7 M v1 v2 v3 v4 = some z → G X k_Mod_lenderFor (.inl (some (.int z.1))) (mH h0 a0 ad z.2) (mH h0 a0 ad M) 7 [(0, .ref a0), (1, .int v1), (2, .int v2), (3, .int v3), (4, .int v4)] []) (M : g_MD) (v1 : Int32) (v2 : Int32) (v3 : Int32) (v4 : Int32) (hy : Mod_lenderFor_53 k7 M v1 v2 v3 v4 = some z) : G X k_Mod_lenderFor (.inl (some (.int z.1))) (mH h0 a0 ad z.2) (mH h0 a0 ad M) 53 [(0, .ref a0), (1, .int v1), (2, .int v2), (3, .int v3), (4, .int v4)] [] := by
  unfold Mod_lenderFor_53 at hy
  refine g_iinc 4 (v := (v4 + (1 : Int32))) (pc' := 56) (Lc' := [(4, .int (v4 + (1 : Int32))), (0, .ref a0), (1, .int v1), (2, .int v2), (3, .int v3)]) d_Mod_lenderFor_53 rfl rfl (by decide) rfl rfl ?_
  refine g_goto (pc' := 7) d_Mod_lenderFor_56 (by decide) ?_
  refine g_sub [1, 2, 3, 4, 0] rfl ?_
  exact hk7 _ _ _ _ _ hy
def Mod_lenderFor_39 (k7 : g_MD → Int32 → Int32 → Int32 → Int32 → Option (Int32 × g_MD)) (M : g_MD) (v1 : Int32) (v2 : Int32) (v3 : Int32) (v4 : Int32) (s0 : Int32) : Option (Int32 × g_MD) :=
  if s0 ≤ v3 then (Mod_lenderFor_53 k7 M v1 v2 v3 v4) else (Mod_lenderFor_53 k7 M v1 v4 s0 v4)
set_option maxHeartbeats 4000000 in
set_option maxRecDepth 100000 in
theorem W_Mod_lenderFor_39 {X : g_X} {h0 : g_AH} {a0 : Nat} {ad : Nat → Nat} (ok : mOK a0 ad) (z : Int32 × g_MD) (k7 : g_MD → Int32 → Int32 → Int32 → Int32 → Option (Int32 × g_MD)) (hk7 : ∀ (M : g_MD) (v1 : Int32) (v2 : Int32) (v3 : Int32) (v4 : Int32), k7 M v1 v2 v3 v4 = some z → G X k_Mod_lenderFor (.inl (some (.int z.1))) (mH h0 a0 ad z.2) (mH h0 a0 ad M) 7 [(0, .ref a0), (1, .int v1), (2, .int v2), (3, .int v3), (4, .int v4)] []) (M : g_MD) (v1 : Int32) (v2 : Int32) (v3 : Int32) (v4 : Int32) (s0 : Int32) (hy : Mod_lenderFor_39 k7 M v1 v2 v3 v4 s0 = some z) : G X k_Mod_lenderFor (.inl (some (.int z.1))) (mH h0 a0 ad z.2) (mH h0 a0 ad M) 39 [(0, .ref a0), (1, .int v1), (2, .int v2), (3, .int v3), (4, .int v4)] [.int s0] := by
  unfold Mod_lenderFor_39 at hy
  refine g_istore (pc' := 41) (Lc' := [(5, .int s0), (0, .ref a0), (1, .int v1), (2, .int v2), (3, .int v3), (4, .int v4)]) d_Mod_lenderFor_39 (by decide) rfl rfl ?_
  refine g_iload 0 (pc' := 43) d_Mod_lenderFor_41 rfl rfl ?_
  refine g_iload_n 4 (i := 3) (pc' := 44) d_Mod_lenderFor_43 rfl rfl rfl ?_
  by_cases c11 : s0 ≤ v3
  · rw [if_pos c11] at hy
    refine g_icmp_leT (pc' := 53) d_Mod_lenderFor_44 c11 (by decide) ?_
    refine g_sub [1, 2, 3, 4, 5] rfl ?_
    exact W_Mod_lenderFor_53 ok _ _ hk7 _ _ _ _ _ hy
  · rw [if_neg c11] at hy
    refine g_icmp_leF (pc' := 47) d_Mod_lenderFor_44 53 c11 (by decide) rfl ?_
    refine g_iload 5 (pc' := 49) d_Mod_lenderFor_47 rfl rfl ?_
    refine g_istore_n (i := 2) (pc' := 50) (Lc' := [(2, .int v4), (5, .int s0), (0, .ref a0), (1, .int v1), (3, .int v3), (4, .int v4)]) d_Mod_lenderFor_49 rfl (by decide) rfl rfl ?_
    refine g_iload 1 (pc' := 52) d_Mod_lenderFor_50 rfl rfl ?_
    refine g_istore_n (i := 3) (pc' := 53) (Lc' := [(3, .int s0), (2, .int v4), (5, .int s0), (0, .ref a0), (1, .int v1), (4, .int v4)]) d_Mod_lenderFor_52 rfl (by decide) rfl rfl ?_
    refine g_sub [3, 4, 1, 0, 5] rfl ?_
    exact W_Mod_lenderFor_53 ok _ _ hk7 _ _ _ _ _ hy
def Mod_lenderFor_7  : Nat → g_MD → Int32 → Int32 → Int32 → Int32 → Option (Int32 × g_MD)
  | 0, _, _, _, _, _ => none
  | n + 1, M, v1, v2, v3, v4 => g_mA M 0 0 (2 : Int32) fun x1 => if x1 ≤ v4 then (some (v2, M)) else (g_b (Mod_linkOf M v1 v4) fun x4 => if x4 = (-1 : Int32) then (Mod_lenderFor_39 (Mod_lenderFor_7  n) M v1 v2 v3 v4 (0 : Int32)) else (g_bM (Mod_freeLabels M v4) fun x8 M9 => Mod_lenderFor_39 (Mod_lenderFor_7  n) M9 v1 v2 v3 v4 x8))
set_option maxHeartbeats 4000000 in
set_option maxRecDepth 100000 in
theorem W_Mod_lenderFor_7 {X : g_X} {h0 : g_AH} {a0 : Nat} {ad : Nat → Nat} (ok : mOK a0 ad) (z : Int32 × g_MD)  : ∀ (n : Nat) (M : g_MD) (v1 : Int32) (v2 : Int32) (v3 : Int32) (v4 : Int32), Mod_lenderFor_7  n M v1 v2 v3 v4 = some z → G X k_Mod_lenderFor (.inl (some (.int z.1))) (mH h0 a0 ad z.2) (mH h0 a0 ad M) 7 [(0, .ref a0), (1, .int v1), (2, .int v2), (3, .int v3), (4, .int v4)] [] := by
  intro n
  induction n with
  | zero => intro M v1 v2 v3 v4 hy; exact absurd hy (by simp [Mod_lenderFor_7])
  | succ n ih =>
    intro M v1 v2 v3 v4 hy
    rw [Mod_lenderFor_7] at hy
    refine g_iload 4 (pc' := 9) d_Mod_lenderFor_7 rfl rfl ?_
    refine g_aload_n 0 (i := 0) (pc' := 10) d_Mod_lenderFor_9 rfl rfl rfl ?_
    refine gm_getA ok 0 (pc' := 13) d_Mod_lenderFor_10 rfl q1965 rfl rfl ?_
    refine g_iconst (v := (2 : Int32)) (pc' := 14) d_Mod_lenderFor_13 (by decide) rfl ?_
    replace hy := g_mA_inv hy
    obtain ⟨x1, hc2, hy⟩ := hy
    refine gm_ald0 ok (pc' := 15) d_Mod_lenderFor_14 hc2 rfl ?_
    by_cases c3 : x1 ≤ v4
    · rw [if_pos c3] at hy
      refine g_icmp_geT (pc' := 59) d_Mod_lenderFor_15 c3 (by decide) ?_
      refine g_iload_n 2 (i := 2) (pc' := 60) d_Mod_lenderFor_59 rfl rfl rfl ?_
      cases hy
      exact g_iret rfl rfl rfl d_Mod_lenderFor_60
    · rw [if_neg c3] at hy
      refine g_icmp_geF (pc' := 18) d_Mod_lenderFor_15 59 c3 (by decide) rfl ?_
      refine g_aload_n 0 (i := 0) (pc' := 19) d_Mod_lenderFor_18 rfl rfl rfl ?_
      refine g_iload_n 1 (i := 1) (pc' := 20) d_Mod_lenderFor_19 rfl rfl rfl ?_
      refine g_iload 4 (pc' := 22) d_Mod_lenderFor_20 rfl rfl ?_
      replace hy := g_b_inv hy
      obtain ⟨x4, hf6, hy⟩ := hy
      refine g_callV (rv := some (.int x4)) (h1 := (mH h0 a0 ad M)) (pc' := 25) (As := [.int v1, .int v4]) (rest := []) 2 (T_Mod_linkOf ok (hy := hf6)) d_Mod_lenderFor_22 (mH_look ok) rfl rfl q2150 q2152 qs44 q135 q2153 hd_Mod_linkOf rfl ⟨by decide, by decide⟩ (by first | exact Nat.le_of_ble_eq_true rfl | (simp only [List.map, List.sum_cons, List.sum_nil, g_cat_rf]; exact Nat.le_of_ble_eq_true rfl) | (simp only [List.map, List.sum_cons, List.sum_nil, g_cat_rf, Value.category]; decide)) rfl ?_
      refine g_iconst (v := (-1 : Int32)) (pc' := 26) d_Mod_lenderFor_25 (by decide) rfl ?_
      by_cases c7 : x4 = (-1 : Int32)
      · rw [if_pos c7] at hy
        refine g_icmp_neF (pc' := 29) d_Mod_lenderFor_26 33 c7 (by decide) rfl ?_
        refine g_iconst (v := (0 : Int32)) (pc' := 30) d_Mod_lenderFor_29 (by decide) rfl ?_
        refine g_goto (pc' := 39) d_Mod_lenderFor_30 (by decide) ?_
        exact W_Mod_lenderFor_39 ok _ _ ih _ _ _ _ _ _ hy
      · rw [if_neg c7] at hy
        refine g_icmp_neT (pc' := 33) d_Mod_lenderFor_26 c7 (by decide) ?_
        refine g_aload_n 0 (i := 0) (pc' := 34) d_Mod_lenderFor_33 rfl rfl rfl ?_
        refine g_iload 4 (pc' := 36) d_Mod_lenderFor_34 rfl rfl ?_
        replace hy := g_bM_inv hy
        obtain ⟨x8, M9, hf10, hy⟩ := hy
        refine g_callV (rv := some (.int x8)) (h1 := (mH h0 a0 ad M9)) (pc' := 39) (As := [.int v4]) (rest := []) 1 (T_Mod_freeLabels ok (hy := hf10)) d_Mod_lenderFor_36 (mH_look ok) rfl rfl q2222 q2224 qs61 q135 q2225 hd_Mod_freeLabels rfl ⟨by decide, by decide⟩ (by first | exact Nat.le_of_ble_eq_true rfl | (simp only [List.map, List.sum_cons, List.sum_nil, g_cat_rf]; exact Nat.le_of_ble_eq_true rfl) | (simp only [List.map, List.sum_cons, List.sum_nil, g_cat_rf, Value.category]; decide)) rfl ?_
        exact W_Mod_lenderFor_39 ok _ _ ih _ _ _ _ _ _ hy
def Mod_lenderFor (M : g_MD) (p0 : Int32) : Option (Int32 × g_MD) :=
  Mod_lenderFor_7  gFU M p0 (-1 : Int32) (0 : Int32) (0 : Int32)
set_option maxHeartbeats 4000000 in
set_option maxRecDepth 100000 in
theorem T_Mod_lenderFor {l : Launch} {B : g_B} {h0 : g_AH} {a0 : Nat} {ad : Nat → Nat} (ok : mOK a0 ad) (M : g_MD) (p0 : Int32) (z : Int32 × g_MD) (hy : Mod_lenderFor M p0 = some z) : g_CT l B y_Mod_lenderFor k_Mod_lenderFor [.ref a0, .int p0] (mH h0 a0 ad M) (.inl (some (.int z.1))) (mH h0 a0 ad z.2) := by
  refine g_start2 (Lc := [(0, .ref a0), (1, .int p0)]) (by decide) rfl rfl (by exact Nat.le_of_ble_eq_true rfl) (by rfl) fun X => ?_
  unfold Mod_lenderFor at hy
  refine g_iconst (v := (-1 : Int32)) (pc' := 1) d_Mod_lenderFor_0 (by decide) rfl ?_
  refine g_istore_n (i := 2) (pc' := 2) (Lc' := [(2, .int (-1 : Int32)), (0, .ref a0), (1, .int p0)]) d_Mod_lenderFor_1 rfl (by decide) rfl rfl ?_
  refine g_iconst (v := (0 : Int32)) (pc' := 3) d_Mod_lenderFor_2 (by decide) rfl ?_
  refine g_istore_n (i := 3) (pc' := 4) (Lc' := [(3, .int (0 : Int32)), (2, .int (-1 : Int32)), (0, .ref a0), (1, .int p0)]) d_Mod_lenderFor_3 rfl (by decide) rfl rfl ?_
  refine g_iconst (v := (0 : Int32)) (pc' := 5) d_Mod_lenderFor_4 (by decide) rfl ?_
  refine g_istore (pc' := 7) (Lc' := [(4, .int (0 : Int32)), (3, .int (0 : Int32)), (2, .int (-1 : Int32)), (0, .ref a0), (1, .int p0)]) d_Mod_lenderFor_5 (by decide) rfl rfl ?_
  refine g_sub [3, 4, 2, 1, 0] rfl ?_
  exact W_Mod_lenderFor_7 ok _ _ _ _ _ _ _ hy
theorem hd_Mod_lenderFor : g_dsc y_Mod_lenderFor 1 := ⟨by decide +kernel, by decide +kernel, by decide +kernel⟩
/-! CircuitDeskModel.highestFree(I)I -/
abbrev y_Mod_highestFree : MethodName := ⟨"CircuitDeskModel", "highestFree", "(I)I"⟩
abbrev k_Mod_highestFree : g_M := (prog_17_method_51_code, 3, "CircuitDeskModel", 14, (some FieldType.int), "highestFree", [], 0)
theorem d_Mod_highestFree_0 : decode prog_17_method_51_code 0 = .ok (.aload_n 0, 1) := by decide +kernel
theorem d_Mod_highestFree_1 : decode prog_17_method_51_code 1 = .ok (.getfield 7, 3) := by decide +kernel
theorem d_Mod_highestFree_4 : decode prog_17_method_51_code 4 = .ok (.bipush 14, 2) := by decide +kernel
theorem d_Mod_highestFree_6 : decode prog_17_method_51_code 6 = .ok (.iload_n 1, 1) := by decide +kernel
theorem d_Mod_highestFree_7 : decode prog_17_method_51_code 7 = .ok (.iadd, 1) := by decide +kernel
theorem d_Mod_highestFree_8 : decode prog_17_method_51_code 8 = .ok (.iaload, 1) := by decide +kernel
theorem d_Mod_highestFree_9 : decode prog_17_method_51_code 9 = .ok (.iconst 1, 1) := by decide +kernel
theorem d_Mod_highestFree_10 : decode prog_17_method_51_code 10 = .ok (.isub, 1) := by decide +kernel
theorem d_Mod_highestFree_11 : decode prog_17_method_51_code 11 = .ok (.istore_n 2, 1) := by decide +kernel
theorem d_Mod_highestFree_12 : decode prog_17_method_51_code 12 = .ok (.iload_n 2, 1) := by decide +kernel
theorem d_Mod_highestFree_13 : decode prog_17_method_51_code 13 = .ok (.ifCond .lt 20, 3) := by decide +kernel
theorem d_Mod_highestFree_16 : decode prog_17_method_51_code 16 = .ok (.aload_n 0, 1) := by decide +kernel
theorem d_Mod_highestFree_17 : decode prog_17_method_51_code 17 = .ok (.iload_n 1, 1) := by decide +kernel
theorem d_Mod_highestFree_18 : decode prog_17_method_51_code 18 = .ok (.iload_n 2, 1) := by decide +kernel
theorem d_Mod_highestFree_19 : decode prog_17_method_51_code 19 = .ok (.invokevirtual 232, 3) := by decide +kernel
theorem d_Mod_highestFree_22 : decode prog_17_method_51_code 22 = .ok (.ifCond .ne 5, 3) := by decide +kernel
theorem d_Mod_highestFree_25 : decode prog_17_method_51_code 25 = .ok (.iload_n 2, 1) := by decide +kernel
theorem d_Mod_highestFree_26 : decode prog_17_method_51_code 26 = .ok (.ireturn, 1) := by decide +kernel
theorem d_Mod_highestFree_27 : decode prog_17_method_51_code 27 = .ok (.iinc 2 (-1), 3) := by decide +kernel
theorem d_Mod_highestFree_30 : decode prog_17_method_51_code 30 = .ok (.goto (-18), 3) := by decide +kernel
theorem d_Mod_highestFree_33 : decode prog_17_method_51_code 33 = .ok (.iconst (-1), 1) := by decide +kernel
theorem d_Mod_highestFree_34 : decode prog_17_method_51_code 34 = .ok (.ireturn, 1) := by decide +kernel
def Mod_highestFree_12  : Nat → g_MD → Int32 → Int32 → Option (Int32 × g_MD)
  | 0, _, _, _ => none
  | n + 1, M, v1, v2 => if v2 < 0 then (some ((-1 : Int32), M)) else (g_bM (Mod_findHolder M v1 v2) fun x4 M5 => if x4 = 0 then (some (v2, M5)) else ((Mod_highestFree_12  n) M5 v1 (v2 + (-1 : Int32))))
set_option maxHeartbeats 4000000 in
set_option maxRecDepth 100000 in
theorem W_Mod_highestFree_12 {X : g_X} {h0 : g_AH} {a0 : Nat} {ad : Nat → Nat} (ok : mOK a0 ad) (z : Int32 × g_MD)  : ∀ (n : Nat) (M : g_MD) (v1 : Int32) (v2 : Int32), Mod_highestFree_12  n M v1 v2 = some z → G X k_Mod_highestFree (.inl (some (.int z.1))) (mH h0 a0 ad z.2) (mH h0 a0 ad M) 12 [(0, .ref a0), (1, .int v1), (2, .int v2)] [] := by
  intro n
  induction n with
  | zero => intro M v1 v2 hy; exact absurd hy (by simp [Mod_highestFree_12])
  | succ n ih =>
    intro M v1 v2 hy
    rw [Mod_highestFree_12] at hy
    refine g_iload_n 2 (i := 2) (pc' := 13) d_Mod_highestFree_12 rfl rfl rfl ?_
    by_cases c3 : v2 < 0
    · rw [if_pos c3] at hy
      refine g_if_ltT (pc' := 33) d_Mod_highestFree_13 c3 (by decide) ?_
      refine g_iconst (v := (-1 : Int32)) (pc' := 34) d_Mod_highestFree_33 (by decide) rfl ?_
      cases hy
      exact g_iret rfl rfl rfl d_Mod_highestFree_34
    · rw [if_neg c3] at hy
      refine g_if_ltF (pc' := 16) d_Mod_highestFree_13 33 c3 (by decide) rfl ?_
      refine g_aload_n 0 (i := 0) (pc' := 17) d_Mod_highestFree_16 rfl rfl rfl ?_
      refine g_iload_n 1 (i := 1) (pc' := 18) d_Mod_highestFree_17 rfl rfl rfl ?_
      refine g_iload_n 2 (i := 2) (pc' := 19) d_Mod_highestFree_18 rfl rfl rfl ?_
      replace hy := g_bM_inv hy
      obtain ⟨x4, M5, hf6, hy⟩ := hy
      refine g_callV (rv := some (.int x4)) (h1 := (mH h0 a0 ad M5)) (pc' := 22) (As := [.int v1, .int v2]) (rest := []) 2 (T_Mod_findHolder ok (hy := hf6)) d_Mod_highestFree_19 (mH_look ok) rfl rfl q2210 q2212 qs58 q135 q2213 hd_Mod_findHolder rfl ⟨by decide, by decide⟩ (by first | exact Nat.le_of_ble_eq_true rfl | (simp only [List.map, List.sum_cons, List.sum_nil, g_cat_rf]; exact Nat.le_of_ble_eq_true rfl) | (simp only [List.map, List.sum_cons, List.sum_nil, g_cat_rf, Value.category]; decide)) rfl ?_
      by_cases c7 : x4 = 0
      · rw [if_pos c7] at hy
        refine g_if_neF (pc' := 25) d_Mod_highestFree_22 27 c7 (by decide) rfl ?_
        refine g_iload_n 2 (i := 2) (pc' := 26) d_Mod_highestFree_25 rfl rfl rfl ?_
        cases hy
        exact g_iret rfl rfl rfl d_Mod_highestFree_26
      · rw [if_neg c7] at hy
        refine g_if_neT (pc' := 27) d_Mod_highestFree_22 c7 (by decide) ?_
        refine g_iinc 2 (v := (v2 + (-1 : Int32))) (pc' := 30) (Lc' := [(2, .int (v2 + (-1 : Int32))), (0, .ref a0), (1, .int v1)]) d_Mod_highestFree_27 rfl rfl (by decide) rfl rfl ?_
        refine g_goto (pc' := 12) d_Mod_highestFree_30 (by decide) ?_
        refine g_sub [1, 2, 0] rfl ?_
        exact ih _ _ _ hy
def Mod_highestFree (M : g_MD) (p0 : Int32) : Option (Int32 × g_MD) :=
  g_mA M 0 0 ((14 : Int32) + p0) fun x1 => Mod_highestFree_12  gFU M p0 (x1 - (1 : Int32))
set_option maxHeartbeats 4000000 in
set_option maxRecDepth 100000 in
theorem T_Mod_highestFree {l : Launch} {B : g_B} {h0 : g_AH} {a0 : Nat} {ad : Nat → Nat} (ok : mOK a0 ad) (M : g_MD) (p0 : Int32) (z : Int32 × g_MD) (hy : Mod_highestFree M p0 = some z) : g_CT l B y_Mod_highestFree k_Mod_highestFree [.ref a0, .int p0] (mH h0 a0 ad M) (.inl (some (.int z.1))) (mH h0 a0 ad z.2) := by
  refine g_start2 (Lc := [(0, .ref a0), (1, .int p0)]) (by decide) rfl rfl (by exact Nat.le_of_ble_eq_true rfl) (by rfl) fun X => ?_
  unfold Mod_highestFree at hy
  refine g_aload_n 0 (i := 0) (pc' := 1) d_Mod_highestFree_0 rfl rfl rfl ?_
  refine gm_getA ok 0 (pc' := 4) d_Mod_highestFree_1 rfl q1965 rfl rfl ?_
  refine g_bipush (v := (14 : Int32)) (pc' := 6) d_Mod_highestFree_4 (by decide) rfl ?_
  refine g_iload_n 1 (i := 1) (pc' := 7) d_Mod_highestFree_6 rfl rfl rfl ?_
  refine g_iadd (pc' := 8) d_Mod_highestFree_7 rfl ?_
  replace hy := g_mA_inv hy
  obtain ⟨x1, hc2, hy⟩ := hy
  refine gm_ald0 ok (pc' := 9) d_Mod_highestFree_8 hc2 rfl ?_
  refine g_iconst (v := (1 : Int32)) (pc' := 10) d_Mod_highestFree_9 (by decide) rfl ?_
  refine g_isub (pc' := 11) d_Mod_highestFree_10 rfl ?_
  refine g_istore_n (i := 2) (pc' := 12) (Lc' := [(2, .int (x1 - (1 : Int32))), (0, .ref a0), (1, .int p0)]) d_Mod_highestFree_11 rfl (by decide) rfl rfl ?_
  refine g_sub [1, 2, 0] rfl ?_
  exact W_Mod_highestFree_12 ok _ _ _ _ _ hy
theorem hd_Mod_highestFree : g_dsc y_Mod_highestFree 1 := ⟨by decide +kernel, by decide +kernel, by decide +kernel⟩
/-! CircuitDeskModel.appendToWay(IIII)Z -/
abbrev y_Mod_appendToWay : MethodName := ⟨"CircuitDeskModel", "appendToWay", "(IIII)Z"⟩
abbrev k_Mod_appendToWay : g_M := (prog_17_method_54_code, 9, "CircuitDeskModel", 16, (some FieldType.boolean), "appendToWay", [], 0)
theorem d_Mod_appendToWay_0 : decode prog_17_method_54_code 0 = .ok (.iload_n 1, 1) := by decide +kernel
theorem d_Mod_appendToWay_1 : decode prog_17_method_54_code 1 = .ok (.iload_n 2, 1) := by decide +kernel
theorem d_Mod_appendToWay_2 : decode prog_17_method_54_code 2 = .ok (.invokestatic 144, 3) := by decide +kernel
theorem d_Mod_appendToWay_5 : decode prog_17_method_54_code 5 = .ok (.istore 5, 2) := by decide +kernel
theorem d_Mod_appendToWay_7 : decode prog_17_method_54_code 7 = .ok (.aload_n 0, 1) := by decide +kernel
theorem d_Mod_appendToWay_8 : decode prog_17_method_54_code 8 = .ok (.getfield 7, 3) := by decide +kernel
theorem d_Mod_appendToWay_11 : decode prog_17_method_54_code 11 = .ok (.iload 5, 2) := by decide +kernel
theorem d_Mod_appendToWay_13 : decode prog_17_method_54_code 13 = .ok (.iaload, 1) := by decide +kernel
theorem d_Mod_appendToWay_14 : decode prog_17_method_54_code 14 = .ok (.istore 6, 2) := by decide +kernel
theorem d_Mod_appendToWay_16 : decode prog_17_method_54_code 16 = .ok (.iconst (-1), 1) := by decide +kernel
theorem d_Mod_appendToWay_17 : decode prog_17_method_54_code 17 = .ok (.istore 7, 2) := by decide +kernel
theorem d_Mod_appendToWay_19 : decode prog_17_method_54_code 19 = .ok (.iconst (-1), 1) := by decide +kernel
theorem d_Mod_appendToWay_20 : decode prog_17_method_54_code 20 = .ok (.istore 8, 2) := by decide +kernel
theorem d_Mod_appendToWay_22 : decode prog_17_method_54_code 22 = .ok (.iload 6, 2) := by decide +kernel
theorem d_Mod_appendToWay_24 : decode prog_17_method_54_code 24 = .ok (.ifCond .le 73, 3) := by decide +kernel
theorem d_Mod_appendToWay_27 : decode prog_17_method_54_code 27 = .ok (.aload_n 0, 1) := by decide +kernel
theorem d_Mod_appendToWay_28 : decode prog_17_method_54_code 28 = .ok (.iload_n 3, 1) := by decide +kernel
theorem d_Mod_appendToWay_29 : decode prog_17_method_54_code 29 = .ok (.invokevirtual 238, 3) := by decide +kernel
theorem d_Mod_appendToWay_32 : decode prog_17_method_54_code 32 = .ok (.istore 8, 2) := by decide +kernel
theorem d_Mod_appendToWay_34 : decode prog_17_method_54_code 34 = .ok (.iload 8, 2) := by decide +kernel
theorem d_Mod_appendToWay_36 : decode prog_17_method_54_code 36 = .ok (.iconst (-1), 1) := by decide +kernel
theorem d_Mod_appendToWay_37 : decode prog_17_method_54_code 37 = .ok (.if_icmp .eq 7, 3) := by decide +kernel
theorem d_Mod_appendToWay_40 : decode prog_17_method_54_code 40 = .ok (.iload_n 3, 1) := by decide +kernel
theorem d_Mod_appendToWay_41 : decode prog_17_method_54_code 41 = .ok (.goto 27, 3) := by decide +kernel
theorem d_Mod_appendToWay_44 : decode prog_17_method_54_code 44 = .ok (.aload_n 0, 1) := by decide +kernel
theorem d_Mod_appendToWay_45 : decode prog_17_method_54_code 45 = .ok (.iload_n 3, 1) := by decide +kernel
theorem d_Mod_appendToWay_46 : decode prog_17_method_54_code 46 = .ok (.iconst 1, 1) := by decide +kernel
theorem d_Mod_appendToWay_47 : decode prog_17_method_54_code 47 = .ok (.invokevirtual 241, 3) := by decide +kernel
theorem d_Mod_appendToWay_50 : decode prog_17_method_54_code 50 = .ok (.aload_n 0, 1) := by decide +kernel
theorem d_Mod_appendToWay_51 : decode prog_17_method_54_code 51 = .ok (.getfield 7, 3) := by decide +kernel
theorem d_Mod_appendToWay_54 : decode prog_17_method_54_code 54 = .ok (.iconst 0, 1) := by decide +kernel
theorem d_Mod_appendToWay_55 : decode prog_17_method_54_code 55 = .ok (.iaload, 1) := by decide +kernel
theorem d_Mod_appendToWay_56 : decode prog_17_method_54_code 56 = .ok (.if_icmp .ge 11, 3) := by decide +kernel
theorem d_Mod_appendToWay_59 : decode prog_17_method_54_code 59 = .ok (.aload_n 0, 1) := by decide +kernel
theorem d_Mod_appendToWay_60 : decode prog_17_method_54_code 60 = .ok (.iload_n 3, 1) := by decide +kernel
theorem d_Mod_appendToWay_61 : decode prog_17_method_54_code 61 = .ok (.invokevirtual 244, 3) := by decide +kernel
theorem d_Mod_appendToWay_64 : decode prog_17_method_54_code 64 = .ok (.goto 4, 3) := by decide +kernel
theorem d_Mod_appendToWay_67 : decode prog_17_method_54_code 67 = .ok (.iconst (-1), 1) := by decide +kernel
theorem d_Mod_appendToWay_68 : decode prog_17_method_54_code 68 = .ok (.istore 7, 2) := by decide +kernel
theorem d_Mod_appendToWay_70 : decode prog_17_method_54_code 70 = .ok (.iload 7, 2) := by decide +kernel
theorem d_Mod_appendToWay_72 : decode prog_17_method_54_code 72 = .ok (.iconst (-1), 1) := by decide +kernel
theorem d_Mod_appendToWay_73 : decode prog_17_method_54_code 73 = .ok (.if_icmp .ne 5, 3) := by decide +kernel
theorem d_Mod_appendToWay_76 : decode prog_17_method_54_code 76 = .ok (.iconst 0, 1) := by decide +kernel
theorem d_Mod_appendToWay_77 : decode prog_17_method_54_code 77 = .ok (.ireturn, 1) := by decide +kernel
theorem d_Mod_appendToWay_78 : decode prog_17_method_54_code 78 = .ok (.iload 8, 2) := by decide +kernel
theorem d_Mod_appendToWay_80 : decode prog_17_method_54_code 80 = .ok (.iconst (-1), 1) := by decide +kernel
theorem d_Mod_appendToWay_81 : decode prog_17_method_54_code 81 = .ok (.if_icmp .eq 8, 3) := by decide +kernel
theorem d_Mod_appendToWay_84 : decode prog_17_method_54_code 84 = .ok (.iload 8, 2) := by decide +kernel
theorem d_Mod_appendToWay_86 : decode prog_17_method_54_code 86 = .ok (.goto 9, 3) := by decide +kernel
theorem d_Mod_appendToWay_89 : decode prog_17_method_54_code 89 = .ok (.aload_n 0, 1) := by decide +kernel
theorem d_Mod_appendToWay_90 : decode prog_17_method_54_code 90 = .ok (.iload 7, 2) := by decide +kernel
theorem d_Mod_appendToWay_92 : decode prog_17_method_54_code 92 = .ok (.invokevirtual 247, 3) := by decide +kernel
theorem d_Mod_appendToWay_95 : decode prog_17_method_54_code 95 = .ok (.istore 8, 2) := by decide +kernel
theorem d_Mod_appendToWay_97 : decode prog_17_method_54_code 97 = .ok (.aload_n 0, 1) := by decide +kernel
theorem d_Mod_appendToWay_98 : decode prog_17_method_54_code 98 = .ok (.getfield 7, 3) := by decide +kernel
theorem d_Mod_appendToWay_101 : decode prog_17_method_54_code 101 = .ok (.iload 5, 2) := by decide +kernel
theorem d_Mod_appendToWay_103 : decode prog_17_method_54_code 103 = .ok (.iconst 1, 1) := by decide +kernel
theorem d_Mod_appendToWay_104 : decode prog_17_method_54_code 104 = .ok (.iadd, 1) := by decide +kernel
theorem d_Mod_appendToWay_105 : decode prog_17_method_54_code 105 = .ok (.iload 6, 2) := by decide +kernel
theorem d_Mod_appendToWay_107 : decode prog_17_method_54_code 107 = .ok (.iadd, 1) := by decide +kernel
theorem d_Mod_appendToWay_108 : decode prog_17_method_54_code 108 = .ok (.iload_n 3, 1) := by decide +kernel
theorem d_Mod_appendToWay_109 : decode prog_17_method_54_code 109 = .ok (.iastore, 1) := by decide +kernel
theorem d_Mod_appendToWay_110 : decode prog_17_method_54_code 110 = .ok (.aload_n 0, 1) := by decide +kernel
theorem d_Mod_appendToWay_111 : decode prog_17_method_54_code 111 = .ok (.getfield 7, 3) := by decide +kernel
theorem d_Mod_appendToWay_114 : decode prog_17_method_54_code 114 = .ok (.iload 5, 2) := by decide +kernel
theorem d_Mod_appendToWay_116 : decode prog_17_method_54_code 116 = .ok (.bipush 7, 2) := by decide +kernel
theorem d_Mod_appendToWay_118 : decode prog_17_method_54_code 118 = .ok (.iadd, 1) := by decide +kernel
theorem d_Mod_appendToWay_119 : decode prog_17_method_54_code 119 = .ok (.iload 6, 2) := by decide +kernel
theorem d_Mod_appendToWay_121 : decode prog_17_method_54_code 121 = .ok (.iadd, 1) := by decide +kernel
theorem d_Mod_appendToWay_122 : decode prog_17_method_54_code 122 = .ok (.iload 7, 2) := by decide +kernel
theorem d_Mod_appendToWay_124 : decode prog_17_method_54_code 124 = .ok (.iastore, 1) := by decide +kernel
theorem d_Mod_appendToWay_125 : decode prog_17_method_54_code 125 = .ok (.aload_n 0, 1) := by decide +kernel
theorem d_Mod_appendToWay_126 : decode prog_17_method_54_code 126 = .ok (.getfield 7, 3) := by decide +kernel
theorem d_Mod_appendToWay_129 : decode prog_17_method_54_code 129 = .ok (.iload 5, 2) := by decide +kernel
theorem d_Mod_appendToWay_131 : decode prog_17_method_54_code 131 = .ok (.bipush 13, 2) := by decide +kernel
theorem d_Mod_appendToWay_133 : decode prog_17_method_54_code 133 = .ok (.iadd, 1) := by decide +kernel
theorem d_Mod_appendToWay_134 : decode prog_17_method_54_code 134 = .ok (.iload 6, 2) := by decide +kernel
theorem d_Mod_appendToWay_136 : decode prog_17_method_54_code 136 = .ok (.iadd, 1) := by decide +kernel
theorem d_Mod_appendToWay_137 : decode prog_17_method_54_code 137 = .ok (.iload 8, 2) := by decide +kernel
theorem d_Mod_appendToWay_139 : decode prog_17_method_54_code 139 = .ok (.iastore, 1) := by decide +kernel
theorem d_Mod_appendToWay_140 : decode prog_17_method_54_code 140 = .ok (.aload_n 0, 1) := by decide +kernel
theorem d_Mod_appendToWay_141 : decode prog_17_method_54_code 141 = .ok (.getfield 7, 3) := by decide +kernel
theorem d_Mod_appendToWay_144 : decode prog_17_method_54_code 144 = .ok (.iload 5, 2) := by decide +kernel
theorem d_Mod_appendToWay_146 : decode prog_17_method_54_code 146 = .ok (.bipush 19, 2) := by decide +kernel
theorem d_Mod_appendToWay_148 : decode prog_17_method_54_code 148 = .ok (.iadd, 1) := by decide +kernel
theorem d_Mod_appendToWay_149 : decode prog_17_method_54_code 149 = .ok (.iload 6, 2) := by decide +kernel
theorem d_Mod_appendToWay_151 : decode prog_17_method_54_code 151 = .ok (.iadd, 1) := by decide +kernel
theorem d_Mod_appendToWay_152 : decode prog_17_method_54_code 152 = .ok (.iload 4, 2) := by decide +kernel
theorem d_Mod_appendToWay_154 : decode prog_17_method_54_code 154 = .ok (.iastore, 1) := by decide +kernel
theorem d_Mod_appendToWay_155 : decode prog_17_method_54_code 155 = .ok (.aload_n 0, 1) := by decide +kernel
theorem d_Mod_appendToWay_156 : decode prog_17_method_54_code 156 = .ok (.getfield 7, 3) := by decide +kernel
theorem d_Mod_appendToWay_159 : decode prog_17_method_54_code 159 = .ok (.iload 5, 2) := by decide +kernel
theorem d_Mod_appendToWay_161 : decode prog_17_method_54_code 161 = .ok (.dup2, 1) := by decide +kernel
theorem d_Mod_appendToWay_162 : decode prog_17_method_54_code 162 = .ok (.iaload, 1) := by decide +kernel
theorem d_Mod_appendToWay_163 : decode prog_17_method_54_code 163 = .ok (.iconst 1, 1) := by decide +kernel
theorem d_Mod_appendToWay_164 : decode prog_17_method_54_code 164 = .ok (.iadd, 1) := by decide +kernel
theorem d_Mod_appendToWay_165 : decode prog_17_method_54_code 165 = .ok (.iastore, 1) := by decide +kernel
theorem d_Mod_appendToWay_166 : decode prog_17_method_54_code 166 = .ok (.iconst 1, 1) := by decide +kernel
theorem d_Mod_appendToWay_167 : decode prog_17_method_54_code 167 = .ok (.ireturn, 1) := by decide +kernel
def Mod_appendToWay_97 (M : g_MD) (v3 : Int32) (v4 : Int32) (v5 : Int32) (v6 : Int32) (v7 : Int32) (v8 : Int32) : Option (Int32 × g_MD) :=
  g_mS M 0 0 ((v5 + (1 : Int32)) + v6) v3 fun M7 => g_mS M7 0 0 ((v5 + (7 : Int32)) + v6) v7 fun M9 => g_mS M9 0 0 ((v5 + (13 : Int32)) + v6) v8 fun M11 => g_mS M11 0 0 ((v5 + (19 : Int32)) + v6) v4 fun M13 => g_mA M13 0 0 v5 fun x15 => g_mS M13 0 0 v5 (x15 + (1 : Int32)) fun M17 => some ((1 : Int32), M17)
set_option maxHeartbeats 4000000 in
set_option maxRecDepth 100000 in
theorem W_Mod_appendToWay_97 {X : g_X} {h0 : g_AH} {a0 : Nat} {ad : Nat → Nat} (ok : mOK a0 ad) (z : Int32 × g_MD) (M : g_MD) (v3 : Int32) (v4 : Int32) (v5 : Int32) (v6 : Int32) (v7 : Int32) (v8 : Int32) (hy : Mod_appendToWay_97  M v3 v4 v5 v6 v7 v8 = some z) : G X k_Mod_appendToWay (.inl (some (.int z.1))) (mH h0 a0 ad z.2) (mH h0 a0 ad M) 97 [(0, .ref a0), (3, .int v3), (4, .int v4), (5, .int v5), (6, .int v6), (7, .int v7), (8, .int v8)] [] := by
  unfold Mod_appendToWay_97 at hy
  refine g_aload_n 0 (i := 0) (pc' := 98) d_Mod_appendToWay_97 rfl rfl rfl ?_
  refine gm_getA ok 0 (pc' := 101) d_Mod_appendToWay_98 rfl q1965 rfl rfl ?_
  refine g_iload 3 (pc' := 103) d_Mod_appendToWay_101 rfl rfl ?_
  refine g_iconst (v := (1 : Int32)) (pc' := 104) d_Mod_appendToWay_103 (by decide) rfl ?_
  refine g_iadd (pc' := 105) d_Mod_appendToWay_104 rfl ?_
  refine g_iload 4 (pc' := 107) d_Mod_appendToWay_105 rfl rfl ?_
  refine g_iadd (pc' := 108) d_Mod_appendToWay_107 rfl ?_
  refine g_iload_n 1 (i := 3) (pc' := 109) d_Mod_appendToWay_108 rfl rfl rfl ?_
  replace hy := g_mS_inv hy
  obtain ⟨hc8, hy⟩ := hy
  refine gm_ast0 ok (pc' := 110) d_Mod_appendToWay_109 hc8 rfl ?_
  generalize ms M 0 (((v5 + (1 : Int32)) + v6)).toNatClampNeg v3 = M7 at hy ⊢
  refine g_aload_n 0 (i := 0) (pc' := 111) d_Mod_appendToWay_110 rfl rfl rfl ?_
  refine gm_getA ok 0 (pc' := 114) d_Mod_appendToWay_111 rfl q1965 rfl rfl ?_
  refine g_iload 3 (pc' := 116) d_Mod_appendToWay_114 rfl rfl ?_
  refine g_bipush (v := (7 : Int32)) (pc' := 118) d_Mod_appendToWay_116 (by decide) rfl ?_
  refine g_iadd (pc' := 119) d_Mod_appendToWay_118 rfl ?_
  refine g_iload 4 (pc' := 121) d_Mod_appendToWay_119 rfl rfl ?_
  refine g_iadd (pc' := 122) d_Mod_appendToWay_121 rfl ?_
  refine g_iload 5 (pc' := 124) d_Mod_appendToWay_122 rfl rfl ?_
  replace hy := g_mS_inv hy
  obtain ⟨hc10, hy⟩ := hy
  refine gm_ast0 ok (pc' := 125) d_Mod_appendToWay_124 hc10 rfl ?_
  generalize ms M7 0 (((v5 + (7 : Int32)) + v6)).toNatClampNeg v7 = M9 at hy ⊢
  refine g_aload_n 0 (i := 0) (pc' := 126) d_Mod_appendToWay_125 rfl rfl rfl ?_
  refine gm_getA ok 0 (pc' := 129) d_Mod_appendToWay_126 rfl q1965 rfl rfl ?_
  refine g_iload 3 (pc' := 131) d_Mod_appendToWay_129 rfl rfl ?_
  refine g_bipush (v := (13 : Int32)) (pc' := 133) d_Mod_appendToWay_131 (by decide) rfl ?_
  refine g_iadd (pc' := 134) d_Mod_appendToWay_133 rfl ?_
  refine g_iload 4 (pc' := 136) d_Mod_appendToWay_134 rfl rfl ?_
  refine g_iadd (pc' := 137) d_Mod_appendToWay_136 rfl ?_
  refine g_iload 6 (pc' := 139) d_Mod_appendToWay_137 rfl rfl ?_
  replace hy := g_mS_inv hy
  obtain ⟨hc12, hy⟩ := hy
  refine gm_ast0 ok (pc' := 140) d_Mod_appendToWay_139 hc12 rfl ?_
  generalize ms M9 0 (((v5 + (13 : Int32)) + v6)).toNatClampNeg v8 = M11 at hy ⊢
  refine g_aload_n 0 (i := 0) (pc' := 141) d_Mod_appendToWay_140 rfl rfl rfl ?_
  refine gm_getA ok 0 (pc' := 144) d_Mod_appendToWay_141 rfl q1965 rfl rfl ?_
  refine g_iload 3 (pc' := 146) d_Mod_appendToWay_144 rfl rfl ?_
  refine g_bipush (v := (19 : Int32)) (pc' := 148) d_Mod_appendToWay_146 (by decide) rfl ?_
  refine g_iadd (pc' := 149) d_Mod_appendToWay_148 rfl ?_
  refine g_iload 4 (pc' := 151) d_Mod_appendToWay_149 rfl rfl ?_
  refine g_iadd (pc' := 152) d_Mod_appendToWay_151 rfl ?_
  refine g_iload 2 (pc' := 154) d_Mod_appendToWay_152 rfl rfl ?_
  replace hy := g_mS_inv hy
  obtain ⟨hc14, hy⟩ := hy
  refine gm_ast0 ok (pc' := 155) d_Mod_appendToWay_154 hc14 rfl ?_
  generalize ms M11 0 (((v5 + (19 : Int32)) + v6)).toNatClampNeg v4 = M13 at hy ⊢
  refine g_aload_n 0 (i := 0) (pc' := 156) d_Mod_appendToWay_155 rfl rfl rfl ?_
  refine gm_getA ok 0 (pc' := 159) d_Mod_appendToWay_156 rfl q1965 rfl rfl ?_
  refine g_iload 3 (pc' := 161) d_Mod_appendToWay_159 rfl rfl ?_
  refine g_dup2 (pc' := 162) d_Mod_appendToWay_161 rfl rfl rfl ?_
  replace hy := g_mA_inv hy
  obtain ⟨x15, hc16, hy⟩ := hy
  refine gm_ald0 ok (pc' := 163) d_Mod_appendToWay_162 hc16 rfl ?_
  refine g_iconst (v := (1 : Int32)) (pc' := 164) d_Mod_appendToWay_163 (by decide) rfl ?_
  refine g_iadd (pc' := 165) d_Mod_appendToWay_164 rfl ?_
  replace hy := g_mS_inv hy
  obtain ⟨hc18, hy⟩ := hy
  refine gm_ast0 ok (pc' := 166) d_Mod_appendToWay_165 hc18 rfl ?_
  generalize ms M13 0 (v5).toNatClampNeg (x15 + (1 : Int32)) = M17 at hy ⊢
  refine g_iconst (v := (1 : Int32)) (pc' := 167) d_Mod_appendToWay_166 (by decide) rfl ?_
  cases hy
  exact g_zret rfl rfl rfl (g_nar_z (Or.inr rfl)).1 d_Mod_appendToWay_167
def Mod_appendToWay_95 (M : g_MD) (v3 : Int32) (v4 : Int32) (v5 : Int32) (v6 : Int32) (v7 : Int32) (s0 : Int32) : Option (Int32 × g_MD) :=
  Mod_appendToWay_97  M v3 v4 v5 v6 v7 s0
set_option maxHeartbeats 4000000 in
set_option maxRecDepth 100000 in
theorem W_Mod_appendToWay_95 {X : g_X} {h0 : g_AH} {a0 : Nat} {ad : Nat → Nat} (ok : mOK a0 ad) (z : Int32 × g_MD) (M : g_MD) (v3 : Int32) (v4 : Int32) (v5 : Int32) (v6 : Int32) (v7 : Int32) (s0 : Int32) (hy : Mod_appendToWay_95  M v3 v4 v5 v6 v7 s0 = some z) : G X k_Mod_appendToWay (.inl (some (.int z.1))) (mH h0 a0 ad z.2) (mH h0 a0 ad M) 95 [(0, .ref a0), (3, .int v3), (4, .int v4), (5, .int v5), (6, .int v6), (7, .int v7)] [.int s0] := by
  unfold Mod_appendToWay_95 at hy
  refine g_istore (pc' := 97) (Lc' := [(8, .int s0), (0, .ref a0), (3, .int v3), (4, .int v4), (5, .int v5), (6, .int v6), (7, .int v7)]) d_Mod_appendToWay_95 (by decide) rfl rfl ?_
  refine g_sub [1, 2, 3, 4, 5, 6, 0] rfl ?_
  exact W_Mod_appendToWay_97 ok _ _ _ _ _ _ _ _ hy
def Mod_appendToWay_68 (M : g_MD) (v3 : Int32) (v4 : Int32) (v5 : Int32) (v6 : Int32) (v8 : Int32) (s0 : Int32) : Option (Int32 × g_MD) :=
  if s0 = (-1 : Int32) then (some ((0 : Int32), M)) else (if v8 = (-1 : Int32) then (g_bM (Mod_highestFree M s0) fun x32 M33 => Mod_appendToWay_95  M33 v3 v4 v5 v6 s0 x32) else (Mod_appendToWay_95  M v3 v4 v5 v6 s0 v8))
set_option maxHeartbeats 4000000 in
set_option maxRecDepth 100000 in
theorem W_Mod_appendToWay_68 {X : g_X} {h0 : g_AH} {a0 : Nat} {ad : Nat → Nat} (ok : mOK a0 ad) (z : Int32 × g_MD) (M : g_MD) (v3 : Int32) (v4 : Int32) (v5 : Int32) (v6 : Int32) (v8 : Int32) (s0 : Int32) (hy : Mod_appendToWay_68  M v3 v4 v5 v6 v8 s0 = some z) : G X k_Mod_appendToWay (.inl (some (.int z.1))) (mH h0 a0 ad z.2) (mH h0 a0 ad M) 68 [(0, .ref a0), (3, .int v3), (4, .int v4), (5, .int v5), (6, .int v6), (8, .int v8)] [.int s0] := by
  unfold Mod_appendToWay_68 at hy
  refine g_istore (pc' := 70) (Lc' := [(7, .int s0), (0, .ref a0), (3, .int v3), (4, .int v4), (5, .int v5), (6, .int v6), (8, .int v8)]) d_Mod_appendToWay_68 (by decide) rfl rfl ?_
  refine g_iload 0 (pc' := 72) d_Mod_appendToWay_70 rfl rfl ?_
  refine g_iconst (v := (-1 : Int32)) (pc' := 73) d_Mod_appendToWay_72 (by decide) rfl ?_
  by_cases c30 : s0 = (-1 : Int32)
  · rw [if_pos c30] at hy
    refine g_icmp_neF (pc' := 76) d_Mod_appendToWay_73 78 c30 (by decide) rfl ?_
    refine g_iconst (v := (0 : Int32)) (pc' := 77) d_Mod_appendToWay_76 (by decide) rfl ?_
    cases hy
    exact g_zret rfl rfl rfl (g_nar_z (Or.inl rfl)).1 d_Mod_appendToWay_77
  · rw [if_neg c30] at hy
    refine g_icmp_neT (pc' := 78) d_Mod_appendToWay_73 c30 (by decide) ?_
    refine g_iload 6 (pc' := 80) d_Mod_appendToWay_78 rfl rfl ?_
    refine g_iconst (v := (-1 : Int32)) (pc' := 81) d_Mod_appendToWay_80 (by decide) rfl ?_
    by_cases c31 : v8 = (-1 : Int32)
    · rw [if_pos c31] at hy
      refine g_icmp_eqT (pc' := 89) d_Mod_appendToWay_81 c31 (by decide) ?_
      refine g_aload_n 1 (i := 0) (pc' := 90) d_Mod_appendToWay_89 rfl rfl rfl ?_
      refine g_iload 0 (pc' := 92) d_Mod_appendToWay_90 rfl rfl ?_
      replace hy := g_bM_inv hy
      obtain ⟨x32, M33, hf34, hy⟩ := hy
      refine g_callV (rv := some (.int x32)) (h1 := (mH h0 a0 ad M33)) (pc' := 95) (As := [.int s0]) (rest := []) 1 (T_Mod_highestFree ok (hy := hf34)) d_Mod_appendToWay_92 (mH_look ok) rfl rfl q2226 q2228 qs62 q135 q2229 hd_Mod_highestFree rfl ⟨by decide, by decide⟩ (by first | exact Nat.le_of_ble_eq_true rfl | (simp only [List.map, List.sum_cons, List.sum_nil, g_cat_rf]; exact Nat.le_of_ble_eq_true rfl) | (simp only [List.map, List.sum_cons, List.sum_nil, g_cat_rf, Value.category]; decide)) rfl ?_
      refine g_sub [1, 2, 3, 4, 5, 0] rfl ?_
      exact W_Mod_appendToWay_95 ok _ _ _ _ _ _ _ _ hy
    · rw [if_neg c31] at hy
      refine g_icmp_eqF (pc' := 84) d_Mod_appendToWay_81 89 c31 (by decide) rfl ?_
      refine g_iload 6 (pc' := 86) d_Mod_appendToWay_84 rfl rfl ?_
      refine g_goto (pc' := 95) d_Mod_appendToWay_86 (by decide) ?_
      refine g_sub [1, 2, 3, 4, 5, 0] rfl ?_
      exact W_Mod_appendToWay_95 ok _ _ _ _ _ _ _ _ hy
def Mod_appendToWay (M : g_MD) (p0 : Int32) (p1 : Int32) (p2 : Int32) (p3 : Int32) : Option (Int32 × g_MD) :=
  g_b (Mod_wayPlace p0 p1) fun x1 => g_mA M 0 0 x1 fun x4 => if x4 ≤ 0 then (Mod_appendToWay_97  M p2 p3 x1 x4 (-1 : Int32) (-1 : Int32)) else (g_bM (Mod_lowestFree M p2) fun x20 M21 => if x20 = (-1 : Int32) then (g_b (Mod_countLabels M21 p2 (1 : Int32)) fun x24 => g_mA M21 0 0 (0 : Int32) fun x27 => if x27 ≤ x24 then (Mod_appendToWay_68  M21 p2 p3 x1 x4 x20 (-1 : Int32)) else (g_bM (Mod_lenderFor M21 p2) fun x36 M37 => Mod_appendToWay_68  M37 p2 p3 x1 x4 x20 x36)) else (Mod_appendToWay_68  M21 p2 p3 x1 x4 x20 p2))
set_option maxHeartbeats 4000000 in
set_option maxRecDepth 100000 in
theorem T_Mod_appendToWay {l : Launch} {B : g_B} {h0 : g_AH} {a0 : Nat} {ad : Nat → Nat} (ok : mOK a0 ad) (M : g_MD) (p0 : Int32) (p1 : Int32) (p2 : Int32) (p3 : Int32) (z : Int32 × g_MD) (hy : Mod_appendToWay M p0 p1 p2 p3 = some z) : g_CT l B y_Mod_appendToWay k_Mod_appendToWay [.ref a0, .int p0, .int p1, .int p2, .int p3] (mH h0 a0 ad M) (.inl (some (.int z.1))) (mH h0 a0 ad z.2) := by
  refine g_start2 (Lc := [(0, .ref a0), (1, .int p0), (2, .int p1), (3, .int p2), (4, .int p3)]) (by decide) rfl rfl (by exact Nat.le_of_ble_eq_true rfl) (by rfl) fun X => ?_
  unfold Mod_appendToWay at hy
  refine g_iload_n 1 (i := 1) (pc' := 1) d_Mod_appendToWay_0 rfl rfl rfl ?_
  refine g_iload_n 2 (i := 2) (pc' := 2) d_Mod_appendToWay_1 rfl rfl rfl ?_
  replace hy := g_b_inv hy
  obtain ⟨x1, hf3, hy⟩ := hy
  refine g_callS (rv := some (.int x1)) (h1 := (mH h0 a0 ad M)) (pc' := 5) (As := [.int p0, .int p1]) (rest := []) 2 (T_Mod_wayPlace (hy := hf3)) d_Mod_appendToWay_2 q2179 q2180 q135 q2181 hd_Mod_wayPlace rfl ⟨by decide, by decide⟩ (by first | exact Nat.le_of_ble_eq_true rfl | (simp only [List.map, List.sum_cons, List.sum_nil, g_cat_rf]; exact Nat.le_of_ble_eq_true rfl) | (simp only [List.map, List.sum_cons, List.sum_nil, g_cat_rf, Value.category]; decide)) rfl ?_
  refine g_istore (pc' := 7) (Lc' := [(5, .int x1), (0, .ref a0), (1, .int p0), (2, .int p1), (3, .int p2), (4, .int p3)]) d_Mod_appendToWay_5 (by decide) rfl rfl ?_
  refine g_aload_n 1 (i := 0) (pc' := 8) d_Mod_appendToWay_7 rfl rfl rfl ?_
  refine gm_getA ok 0 (pc' := 11) d_Mod_appendToWay_8 rfl q1965 rfl rfl ?_
  refine g_iload 0 (pc' := 13) d_Mod_appendToWay_11 rfl rfl ?_
  replace hy := g_mA_inv hy
  obtain ⟨x4, hc5, hy⟩ := hy
  refine gm_ald0 ok (pc' := 14) d_Mod_appendToWay_13 hc5 rfl ?_
  refine g_istore (pc' := 16) (Lc' := [(6, .int x4), (5, .int x1), (0, .ref a0), (1, .int p0), (2, .int p1), (3, .int p2), (4, .int p3)]) d_Mod_appendToWay_14 (by decide) rfl rfl ?_
  refine g_iconst (v := (-1 : Int32)) (pc' := 17) d_Mod_appendToWay_16 (by decide) rfl ?_
  refine g_istore (pc' := 19) (Lc' := [(7, .int (-1 : Int32)), (6, .int x4), (5, .int x1), (0, .ref a0), (1, .int p0), (2, .int p1), (3, .int p2), (4, .int p3)]) d_Mod_appendToWay_17 (by decide) rfl rfl ?_
  refine g_iconst (v := (-1 : Int32)) (pc' := 20) d_Mod_appendToWay_19 (by decide) rfl ?_
  refine g_istore (pc' := 22) (Lc' := [(8, .int (-1 : Int32)), (7, .int (-1 : Int32)), (6, .int x4), (5, .int x1), (0, .ref a0), (1, .int p0), (2, .int p1), (3, .int p2), (4, .int p3)]) d_Mod_appendToWay_20 (by decide) rfl rfl ?_
  refine g_iload 2 (pc' := 24) d_Mod_appendToWay_22 rfl rfl ?_
  by_cases c6 : x4 ≤ 0
  · rw [if_pos c6] at hy
    refine g_if_leT (pc' := 97) d_Mod_appendToWay_24 c6 (by decide) ?_
    refine g_sub [4, 7, 8, 3, 2, 1, 0] rfl ?_
    exact W_Mod_appendToWay_97 ok _ _ _ _ _ _ _ _ hy
  · rw [if_neg c6] at hy
    refine g_if_leF (pc' := 27) d_Mod_appendToWay_24 97 c6 (by decide) rfl ?_
    refine g_aload_n 4 (i := 0) (pc' := 28) d_Mod_appendToWay_27 rfl rfl rfl ?_
    refine g_iload_n 7 (i := 3) (pc' := 29) d_Mod_appendToWay_28 rfl rfl rfl ?_
    replace hy := g_bM_inv hy
    obtain ⟨x20, M21, hf22, hy⟩ := hy
    refine g_callV (rv := some (.int x20)) (h1 := (mH h0 a0 ad M21)) (pc' := 32) (As := [.int p2]) (rest := []) 1 (T_Mod_lowestFree ok (hy := hf22)) d_Mod_appendToWay_29 (mH_look ok) rfl rfl q2206 q2208 qs57 q135 q2209 hd_Mod_lowestFree rfl ⟨by decide, by decide⟩ (by first | exact Nat.le_of_ble_eq_true rfl | (simp only [List.map, List.sum_cons, List.sum_nil, g_cat_rf]; exact Nat.le_of_ble_eq_true rfl) | (simp only [List.map, List.sum_cons, List.sum_nil, g_cat_rf, Value.category]; decide)) rfl ?_
    refine g_istore (pc' := 34) (Lc' := [(8, .int x20), (7, .int (-1 : Int32)), (6, .int x4), (5, .int x1), (0, .ref a0), (1, .int p0), (2, .int p1), (3, .int p2), (4, .int p3)]) d_Mod_appendToWay_32 (by decide) rfl rfl ?_
    refine g_iload 0 (pc' := 36) d_Mod_appendToWay_34 rfl rfl ?_
    refine g_iconst (v := (-1 : Int32)) (pc' := 37) d_Mod_appendToWay_36 (by decide) rfl ?_
    by_cases c23 : x20 = (-1 : Int32)
    · rw [if_pos c23] at hy
      refine g_icmp_eqT (pc' := 44) d_Mod_appendToWay_37 c23 (by decide) ?_
      refine g_aload_n 4 (i := 0) (pc' := 45) d_Mod_appendToWay_44 rfl rfl rfl ?_
      refine g_iload_n 7 (i := 3) (pc' := 46) d_Mod_appendToWay_45 rfl rfl rfl ?_
      refine g_iconst (v := (1 : Int32)) (pc' := 47) d_Mod_appendToWay_46 (by decide) rfl ?_
      replace hy := g_b_inv hy
      obtain ⟨x24, hf26, hy⟩ := hy
      refine g_callV (rv := some (.int x24)) (h1 := (mH h0 a0 ad M21)) (pc' := 50) (As := [.int p2, .int (1 : Int32)]) (rest := []) 2 (T_Mod_countLabels ok (hy := hf26)) d_Mod_appendToWay_47 (mH_look ok) rfl rfl q2214 q2216 qs59 q135 q2217 hd_Mod_countLabels rfl ⟨by decide, by decide⟩ (by first | exact Nat.le_of_ble_eq_true rfl | (simp only [List.map, List.sum_cons, List.sum_nil, g_cat_rf]; exact Nat.le_of_ble_eq_true rfl) | (simp only [List.map, List.sum_cons, List.sum_nil, g_cat_rf, Value.category]; decide)) rfl ?_
      refine g_aload_n 4 (i := 0) (pc' := 51) d_Mod_appendToWay_50 rfl rfl rfl ?_
      refine gm_getA ok 0 (pc' := 54) d_Mod_appendToWay_51 rfl q1965 rfl rfl ?_
      refine g_iconst (v := (0 : Int32)) (pc' := 55) d_Mod_appendToWay_54 (by decide) rfl ?_
      replace hy := g_mA_inv hy
      obtain ⟨x27, hc28, hy⟩ := hy
      refine gm_ald0 ok (pc' := 56) d_Mod_appendToWay_55 hc28 rfl ?_
      by_cases c29 : x27 ≤ x24
      · rw [if_pos c29] at hy
        refine g_icmp_geT (pc' := 67) d_Mod_appendToWay_56 c29 (by decide) ?_
        refine g_iconst (v := (-1 : Int32)) (pc' := 68) d_Mod_appendToWay_67 (by decide) rfl ?_
        refine g_sub [4, 7, 8, 3, 2, 0] rfl ?_
        exact W_Mod_appendToWay_68 ok _ _ _ _ _ _ _ _ hy
      · rw [if_neg c29] at hy
        refine g_icmp_geF (pc' := 59) d_Mod_appendToWay_56 67 c29 (by decide) rfl ?_
        refine g_aload_n 4 (i := 0) (pc' := 60) d_Mod_appendToWay_59 rfl rfl rfl ?_
        refine g_iload_n 7 (i := 3) (pc' := 61) d_Mod_appendToWay_60 rfl rfl rfl ?_
        replace hy := g_bM_inv hy
        obtain ⟨x36, M37, hf38, hy⟩ := hy
        refine g_callV (rv := some (.int x36)) (h1 := (mH h0 a0 ad M37)) (pc' := 64) (As := [.int p2]) (rest := []) 1 (T_Mod_lenderFor ok (hy := hf38)) d_Mod_appendToWay_61 (mH_look ok) rfl rfl q2218 q2220 qs60 q135 q2221 hd_Mod_lenderFor rfl ⟨by decide, by decide⟩ (by first | exact Nat.le_of_ble_eq_true rfl | (simp only [List.map, List.sum_cons, List.sum_nil, g_cat_rf]; exact Nat.le_of_ble_eq_true rfl) | (simp only [List.map, List.sum_cons, List.sum_nil, g_cat_rf, Value.category]; decide)) rfl ?_
        refine g_goto (pc' := 68) d_Mod_appendToWay_64 (by decide) ?_
        refine g_sub [4, 7, 8, 3, 2, 0] rfl ?_
        exact W_Mod_appendToWay_68 ok _ _ _ _ _ _ _ _ hy
    · rw [if_neg c23] at hy
      refine g_icmp_eqF (pc' := 40) d_Mod_appendToWay_37 44 c23 (by decide) rfl ?_
      refine g_iload_n 7 (i := 3) (pc' := 41) d_Mod_appendToWay_40 rfl rfl rfl ?_
      refine g_goto (pc' := 68) d_Mod_appendToWay_41 (by decide) ?_
      refine g_sub [4, 7, 8, 3, 2, 0] rfl ?_
      exact W_Mod_appendToWay_68 ok _ _ _ _ _ _ _ _ hy
theorem hd_Mod_appendToWay : g_dsc y_Mod_appendToWay 4 := ⟨by decide +kernel, by decide +kernel, by decide +kernel⟩
/-! CircuitDeskModel.parseWayNode(I)V -/
abbrev y_Mod_parseWayNode : MethodName := ⟨"CircuitDeskModel", "parseWayNode", "(I)V"⟩
abbrev k_Mod_parseWayNode : g_M := (prog_17_method_30_code, 5, "CircuitDeskModel", 17, none, "parseWayNode", [], 0)
theorem d_Mod_parseWayNode_0 : decode prog_17_method_30_code 0 = .ok (.iload_n 1, 1) := by decide +kernel
theorem d_Mod_parseWayNode_1 : decode prog_17_method_30_code 1 = .ok (.iconst 0, 1) := by decide +kernel
theorem d_Mod_parseWayNode_2 : decode prog_17_method_30_code 2 = .ok (.invokestatic 144, 3) := by decide +kernel
theorem d_Mod_parseWayNode_5 : decode prog_17_method_30_code 5 = .ok (.istore_n 2, 1) := by decide +kernel
theorem d_Mod_parseWayNode_6 : decode prog_17_method_30_code 6 = .ok (.aload_n 0, 1) := by decide +kernel
theorem d_Mod_parseWayNode_7 : decode prog_17_method_30_code 7 = .ok (.getfield 7, 3) := by decide +kernel
theorem d_Mod_parseWayNode_10 : decode prog_17_method_30_code 10 = .ok (.iload_n 2, 1) := by decide +kernel
theorem d_Mod_parseWayNode_11 : decode prog_17_method_30_code 11 = .ok (.iaload, 1) := by decide +kernel
theorem d_Mod_parseWayNode_12 : decode prog_17_method_30_code 12 = .ok (.istore_n 3, 1) := by decide +kernel
theorem d_Mod_parseWayNode_13 : decode prog_17_method_30_code 13 = .ok (.aload_n 0, 1) := by decide +kernel
theorem d_Mod_parseWayNode_14 : decode prog_17_method_30_code 14 = .ok (.iconst 0, 1) := by decide +kernel
theorem d_Mod_parseWayNode_15 : decode prog_17_method_30_code 15 = .ok (.aload_n 0, 1) := by decide +kernel
theorem d_Mod_parseWayNode_16 : decode prog_17_method_30_code 16 = .ok (.getfield 7, 3) := by decide +kernel
theorem d_Mod_parseWayNode_19 : decode prog_17_method_30_code 19 = .ok (.iconst 2, 1) := by decide +kernel
theorem d_Mod_parseWayNode_20 : decode prog_17_method_30_code 20 = .ok (.iaload, 1) := by decide +kernel
theorem d_Mod_parseWayNode_21 : decode prog_17_method_30_code 21 = .ok (.iconst 1, 1) := by decide +kernel
theorem d_Mod_parseWayNode_22 : decode prog_17_method_30_code 22 = .ok (.isub, 1) := by decide +kernel
theorem d_Mod_parseWayNode_23 : decode prog_17_method_30_code 23 = .ok (.invokevirtual 123, 3) := by decide +kernel
theorem d_Mod_parseWayNode_26 : decode prog_17_method_30_code 26 = .ok (.aload_n 0, 1) := by decide +kernel
theorem d_Mod_parseWayNode_27 : decode prog_17_method_30_code 27 = .ok (.iload_n 3, 1) := by decide +kernel
theorem d_Mod_parseWayNode_28 : decode prog_17_method_30_code 28 = .ok (.bipush 6, 2) := by decide +kernel
theorem d_Mod_parseWayNode_30 : decode prog_17_method_30_code 30 = .ok (.if_icmp .ge 7, 3) := by decide +kernel
theorem d_Mod_parseWayNode_33 : decode prog_17_method_30_code 33 = .ok (.iconst 1, 1) := by decide +kernel
theorem d_Mod_parseWayNode_34 : decode prog_17_method_30_code 34 = .ok (.goto 4, 3) := by decide +kernel
theorem d_Mod_parseWayNode_37 : decode prog_17_method_30_code 37 = .ok (.iconst 0, 1) := by decide +kernel
theorem d_Mod_parseWayNode_38 : decode prog_17_method_30_code 38 = .ok (.iconst 3, 1) := by decide +kernel
theorem d_Mod_parseWayNode_39 : decode prog_17_method_30_code 39 = .ok (.invokevirtual 119, 3) := by decide +kernel
theorem d_Mod_parseWayNode_42 : decode prog_17_method_30_code 42 = .ok (.aload_n 0, 1) := by decide +kernel
theorem d_Mod_parseWayNode_43 : decode prog_17_method_30_code 43 = .ok (.getfield 81, 3) := by decide +kernel
theorem d_Mod_parseWayNode_46 : decode prog_17_method_30_code 46 = .ok (.istore 4, 2) := by decide +kernel
theorem d_Mod_parseWayNode_48 : decode prog_17_method_30_code 48 = .ok (.aload_n 0, 1) := by decide +kernel
theorem d_Mod_parseWayNode_49 : decode prog_17_method_30_code 49 = .ok (.aload_n 0, 1) := by decide +kernel
theorem d_Mod_parseWayNode_50 : decode prog_17_method_30_code 50 = .ok (.invokevirtual 112, 3) := by decide +kernel
theorem d_Mod_parseWayNode_53 : decode prog_17_method_30_code 53 = .ok (.ifCond .eq 14, 3) := by decide +kernel
theorem d_Mod_parseWayNode_56 : decode prog_17_method_30_code 56 = .ok (.aload_n 0, 1) := by decide +kernel
theorem d_Mod_parseWayNode_57 : decode prog_17_method_30_code 57 = .ok (.iload_n 2, 1) := by decide +kernel
theorem d_Mod_parseWayNode_58 : decode prog_17_method_30_code 58 = .ok (.iload_n 3, 1) := by decide +kernel
theorem d_Mod_parseWayNode_59 : decode prog_17_method_30_code 59 = .ok (.iload 4, 2) := by decide +kernel
theorem d_Mod_parseWayNode_61 : decode prog_17_method_30_code 61 = .ok (.invokevirtual 147, 3) := by decide +kernel
theorem d_Mod_parseWayNode_64 : decode prog_17_method_30_code 64 = .ok (.ifCond .eq 7, 3) := by decide +kernel
theorem d_Mod_parseWayNode_67 : decode prog_17_method_30_code 67 = .ok (.iconst 1, 1) := by decide +kernel
theorem d_Mod_parseWayNode_68 : decode prog_17_method_30_code 68 = .ok (.goto 4, 3) := by decide +kernel
theorem d_Mod_parseWayNode_71 : decode prog_17_method_30_code 71 = .ok (.iconst 0, 1) := by decide +kernel
theorem d_Mod_parseWayNode_72 : decode prog_17_method_30_code 72 = .ok (.iconst 4, 1) := by decide +kernel
theorem d_Mod_parseWayNode_73 : decode prog_17_method_30_code 73 = .ok (.invokevirtual 119, 3) := by decide +kernel
theorem d_Mod_parseWayNode_76 : decode prog_17_method_30_code 76 = .ok (.aload_n 0, 1) := by decide +kernel
theorem d_Mod_parseWayNode_77 : decode prog_17_method_30_code 77 = .ok (.aload_n 0, 1) := by decide +kernel
theorem d_Mod_parseWayNode_78 : decode prog_17_method_30_code 78 = .ok (.invokevirtual 112, 3) := by decide +kernel
theorem d_Mod_parseWayNode_81 : decode prog_17_method_30_code 81 = .ok (.ifCond .eq 39, 3) := by decide +kernel
theorem d_Mod_parseWayNode_84 : decode prog_17_method_30_code 84 = .ok (.iload_n 3, 1) := by decide +kernel
theorem d_Mod_parseWayNode_85 : decode prog_17_method_30_code 85 = .ok (.ifCond .eq 35, 3) := by decide +kernel
theorem d_Mod_parseWayNode_88 : decode prog_17_method_30_code 88 = .ok (.aload_n 0, 1) := by decide +kernel
theorem d_Mod_parseWayNode_89 : decode prog_17_method_30_code 89 = .ok (.aload_n 0, 1) := by decide +kernel
theorem d_Mod_parseWayNode_90 : decode prog_17_method_30_code 90 = .ok (.aload_n 0, 1) := by decide +kernel
theorem d_Mod_parseWayNode_91 : decode prog_17_method_30_code 91 = .ok (.getfield 7, 3) := by decide +kernel
theorem d_Mod_parseWayNode_94 : decode prog_17_method_30_code 94 = .ok (.iload_n 2, 1) := by decide +kernel
theorem d_Mod_parseWayNode_95 : decode prog_17_method_30_code 95 = .ok (.iconst 1, 1) := by decide +kernel
theorem d_Mod_parseWayNode_96 : decode prog_17_method_30_code 96 = .ok (.iadd, 1) := by decide +kernel
theorem d_Mod_parseWayNode_97 : decode prog_17_method_30_code 97 = .ok (.iload_n 3, 1) := by decide +kernel
theorem d_Mod_parseWayNode_98 : decode prog_17_method_30_code 98 = .ok (.iadd, 1) := by decide +kernel
theorem d_Mod_parseWayNode_99 : decode prog_17_method_30_code 99 = .ok (.iconst 1, 1) := by decide +kernel
theorem d_Mod_parseWayNode_100 : decode prog_17_method_30_code 100 = .ok (.isub, 1) := by decide +kernel
theorem d_Mod_parseWayNode_101 : decode prog_17_method_30_code 101 = .ok (.iaload, 1) := by decide +kernel
theorem d_Mod_parseWayNode_102 : decode prog_17_method_30_code 102 = .ok (.iload 4, 2) := by decide +kernel
theorem d_Mod_parseWayNode_104 : decode prog_17_method_30_code 104 = .ok (.invokevirtual 137, 3) := by decide +kernel
theorem d_Mod_parseWayNode_107 : decode prog_17_method_30_code 107 = .ok (.iload_n 1, 1) := by decide +kernel
theorem d_Mod_parseWayNode_108 : decode prog_17_method_30_code 108 = .ok (.aload_n 0, 1) := by decide +kernel
theorem d_Mod_parseWayNode_109 : decode prog_17_method_30_code 109 = .ok (.iload_n 1, 1) := by decide +kernel
theorem d_Mod_parseWayNode_110 : decode prog_17_method_30_code 110 = .ok (.iconst 0, 1) := by decide +kernel
theorem d_Mod_parseWayNode_111 : decode prog_17_method_30_code 111 = .ok (.invokevirtual 150, 3) := by decide +kernel
theorem d_Mod_parseWayNode_114 : decode prog_17_method_30_code 114 = .ok (.invokevirtual 153, 3) := by decide +kernel
theorem d_Mod_parseWayNode_117 : decode prog_17_method_30_code 117 = .ok (.ifCond .eq 7, 3) := by decide +kernel
theorem d_Mod_parseWayNode_120 : decode prog_17_method_30_code 120 = .ok (.iconst 1, 1) := by decide +kernel
theorem d_Mod_parseWayNode_121 : decode prog_17_method_30_code 121 = .ok (.goto 4, 3) := by decide +kernel
theorem d_Mod_parseWayNode_124 : decode prog_17_method_30_code 124 = .ok (.iconst 0, 1) := by decide +kernel
theorem d_Mod_parseWayNode_125 : decode prog_17_method_30_code 125 = .ok (.iconst 5, 1) := by decide +kernel
theorem d_Mod_parseWayNode_126 : decode prog_17_method_30_code 126 = .ok (.invokevirtual 119, 3) := by decide +kernel
theorem d_Mod_parseWayNode_129 : decode prog_17_method_30_code 129 = .ok (.aload_n 0, 1) := by decide +kernel
theorem d_Mod_parseWayNode_130 : decode prog_17_method_30_code 130 = .ok (.aload_n 0, 1) := by decide +kernel
theorem d_Mod_parseWayNode_131 : decode prog_17_method_30_code 131 = .ok (.invokevirtual 112, 3) := by decide +kernel
theorem d_Mod_parseWayNode_134 : decode prog_17_method_30_code 134 = .ok (.ifCond .eq 15, 3) := by decide +kernel
theorem d_Mod_parseWayNode_137 : decode prog_17_method_30_code 137 = .ok (.aload_n 0, 1) := by decide +kernel
theorem d_Mod_parseWayNode_138 : decode prog_17_method_30_code 138 = .ok (.iload_n 1, 1) := by decide +kernel
theorem d_Mod_parseWayNode_139 : decode prog_17_method_30_code 139 = .ok (.iconst 0, 1) := by decide +kernel
theorem d_Mod_parseWayNode_140 : decode prog_17_method_30_code 140 = .ok (.iload 4, 2) := by decide +kernel
theorem d_Mod_parseWayNode_142 : decode prog_17_method_30_code 142 = .ok (.iconst 1, 1) := by decide +kernel
theorem d_Mod_parseWayNode_143 : decode prog_17_method_30_code 143 = .ok (.invokevirtual 156, 3) := by decide +kernel
theorem d_Mod_parseWayNode_146 : decode prog_17_method_30_code 146 = .ok (.ifCond .eq 7, 3) := by decide +kernel
theorem d_Mod_parseWayNode_149 : decode prog_17_method_30_code 149 = .ok (.iconst 1, 1) := by decide +kernel
theorem d_Mod_parseWayNode_150 : decode prog_17_method_30_code 150 = .ok (.goto 4, 3) := by decide +kernel
theorem d_Mod_parseWayNode_153 : decode prog_17_method_30_code 153 = .ok (.iconst 0, 1) := by decide +kernel
theorem d_Mod_parseWayNode_154 : decode prog_17_method_30_code 154 = .ok (.iconst 5, 1) := by decide +kernel
theorem d_Mod_parseWayNode_155 : decode prog_17_method_30_code 155 = .ok (.invokevirtual 119, 3) := by decide +kernel
theorem d_Mod_parseWayNode_158 : decode prog_17_method_30_code 158 = .ok (.aload_n 0, 1) := by decide +kernel
theorem d_Mod_parseWayNode_159 : decode prog_17_method_30_code 159 = .ok (.invokevirtual 127, 3) := by decide +kernel
theorem d_Mod_parseWayNode_162 : decode prog_17_method_30_code 162 = .ok (.return_, 1) := by decide +kernel
def Mod_parseWayNode_154 (M : g_MD) (s0 : Int32) : Option g_MD :=
  g_b (Mod_require M s0 (5 : Int32)) fun M34 => g_b (Mod_advance M34) fun M37 => some M37
set_option maxHeartbeats 4000000 in
set_option maxRecDepth 100000 in
theorem W_Mod_parseWayNode_154 {X : g_X} {h0 : g_AH} {a0 : Nat} {ad : Nat → Nat} (ok : mOK a0 ad) (z : g_MD) (M : g_MD) (s0 : Int32) (hy : Mod_parseWayNode_154  M s0 = some z) : G X k_Mod_parseWayNode (.inl none) (mH h0 a0 ad z) (mH h0 a0 ad M) 154 [(0, .ref a0)] [.int s0, .ref a0] := by
  unfold Mod_parseWayNode_154 at hy
  refine g_iconst (v := (5 : Int32)) (pc' := 155) d_Mod_parseWayNode_154 (by decide) rfl ?_
  replace hy := g_b_inv hy
  obtain ⟨M34, hf35, hy⟩ := hy
  refine g_callV (rv := none) (h1 := (mH h0 a0 ad M34)) (pc' := 158) (As := [.int s0, .int (5 : Int32)]) (rest := []) 2 (T_Mod_require ok (hy := hf35)) d_Mod_parseWayNode_155 (mH_look ok) rfl rfl q2125 q2127 qs38 q135 q2128 hd_Mod_require rfl ⟨by decide, by decide⟩ (by first | exact Nat.le_of_ble_eq_true rfl | (simp only [List.map, List.sum_cons, List.sum_nil, g_cat_rf]; exact Nat.le_of_ble_eq_true rfl) | (simp only [List.map, List.sum_cons, List.sum_nil, g_cat_rf, Value.category]; decide)) rfl ?_
  refine g_aload_n 0 (i := 0) (pc' := 159) d_Mod_parseWayNode_158 rfl rfl rfl ?_
  replace hy := g_b_inv hy
  obtain ⟨M37, hf38, hy⟩ := hy
  refine g_callV (rv := none) (h1 := (mH h0 a0 ad M37)) (pc' := 162) (As := []) (rest := []) 0 (T_Mod_advance ok (hy := hf38)) d_Mod_parseWayNode_159 (mH_look ok) rfl rfl q2129 q2131 qs39 q135 q2132 hd_Mod_advance rfl ⟨by decide, by decide⟩ (by first | exact Nat.le_of_ble_eq_true rfl | (simp only [List.map, List.sum_cons, List.sum_nil, g_cat_rf]; exact Nat.le_of_ble_eq_true rfl) | (simp only [List.map, List.sum_cons, List.sum_nil, g_cat_rf, Value.category]; decide)) rfl ?_
  cases hy
  exact g_vret rfl rfl rfl d_Mod_parseWayNode_162
def Mod_parseWayNode_149 (M : g_MD) : Option g_MD :=
  Mod_parseWayNode_154  M (1 : Int32)
set_option maxHeartbeats 4000000 in
set_option maxRecDepth 100000 in
theorem W_Mod_parseWayNode_149 {X : g_X} {h0 : g_AH} {a0 : Nat} {ad : Nat → Nat} (ok : mOK a0 ad) (z : g_MD) (M : g_MD) (hy : Mod_parseWayNode_149  M = some z) : G X k_Mod_parseWayNode (.inl none) (mH h0 a0 ad z) (mH h0 a0 ad M) 149 [(0, .ref a0)] [.ref a0] := by
  unfold Mod_parseWayNode_149 at hy
  refine g_iconst (v := (1 : Int32)) (pc' := 150) d_Mod_parseWayNode_149 (by decide) rfl ?_
  refine g_goto (pc' := 154) d_Mod_parseWayNode_150 (by decide) ?_
  exact W_Mod_parseWayNode_154 ok _ _ _ hy
def Mod_parseWayNode_125 (M : g_MD) (v1 : Int32) (v4 : Int32) (s0 : Int32) : Option g_MD :=
  g_b (Mod_require M s0 (5 : Int32)) fun M27 => g_b (Mod_isFine M27) fun x29 => if x29 = 0 then (Mod_parseWayNode_149  M27) else (g_bM (Mod_appendToWay M27 v1 (0 : Int32) v4 (1 : Int32)) fun x39 M40 => if x39 = 0 then (Mod_parseWayNode_154  M40 (0 : Int32)) else (Mod_parseWayNode_149  M40))
set_option maxHeartbeats 4000000 in
set_option maxRecDepth 100000 in
theorem W_Mod_parseWayNode_125 {X : g_X} {h0 : g_AH} {a0 : Nat} {ad : Nat → Nat} (ok : mOK a0 ad) (z : g_MD) (M : g_MD) (v1 : Int32) (v4 : Int32) (s0 : Int32) (hy : Mod_parseWayNode_125  M v1 v4 s0 = some z) : G X k_Mod_parseWayNode (.inl none) (mH h0 a0 ad z) (mH h0 a0 ad M) 125 [(0, .ref a0), (1, .int v1), (4, .int v4)] [.int s0, .ref a0] := by
  unfold Mod_parseWayNode_125 at hy
  refine g_iconst (v := (5 : Int32)) (pc' := 126) d_Mod_parseWayNode_125 (by decide) rfl ?_
  replace hy := g_b_inv hy
  obtain ⟨M27, hf28, hy⟩ := hy
  refine g_callV (rv := none) (h1 := (mH h0 a0 ad M27)) (pc' := 129) (As := [.int s0, .int (5 : Int32)]) (rest := []) 2 (T_Mod_require ok (hy := hf28)) d_Mod_parseWayNode_126 (mH_look ok) rfl rfl q2125 q2127 qs38 q135 q2128 hd_Mod_require rfl ⟨by decide, by decide⟩ (by first | exact Nat.le_of_ble_eq_true rfl | (simp only [List.map, List.sum_cons, List.sum_nil, g_cat_rf]; exact Nat.le_of_ble_eq_true rfl) | (simp only [List.map, List.sum_cons, List.sum_nil, g_cat_rf, Value.category]; decide)) rfl ?_
  refine g_aload_n 0 (i := 0) (pc' := 130) d_Mod_parseWayNode_129 rfl rfl rfl ?_
  refine g_aload_n 0 (i := 0) (pc' := 131) d_Mod_parseWayNode_130 rfl rfl rfl ?_
  replace hy := g_b_inv hy
  obtain ⟨x29, hf31, hy⟩ := hy
  refine g_callV (rv := some (.int x29)) (h1 := (mH h0 a0 ad M27)) (pc' := 134) (As := []) (rest := [.ref a0]) 0 (T_Mod_isFine ok (hy := hf31)) d_Mod_parseWayNode_131 (mH_look ok) rfl rfl q2096 q2098 qs34 q135 q2099 hd_Mod_isFine rfl ⟨by decide, by decide⟩ (by first | exact Nat.le_of_ble_eq_true rfl | (simp only [List.map, List.sum_cons, List.sum_nil, g_cat_rf]; exact Nat.le_of_ble_eq_true rfl) | (simp only [List.map, List.sum_cons, List.sum_nil, g_cat_rf, Value.category]; decide)) rfl ?_
  by_cases c32 : x29 = 0
  · rw [if_pos c32] at hy
    refine g_if_eqT (pc' := 149) d_Mod_parseWayNode_134 c32 (by decide) ?_
    refine g_sub [0] rfl ?_
    exact W_Mod_parseWayNode_149 ok _ _ hy
  · rw [if_neg c32] at hy
    refine g_if_eqF (pc' := 137) d_Mod_parseWayNode_134 149 c32 (by decide) rfl ?_
    refine g_aload_n 0 (i := 0) (pc' := 138) d_Mod_parseWayNode_137 rfl rfl rfl ?_
    refine g_iload_n 1 (i := 1) (pc' := 139) d_Mod_parseWayNode_138 rfl rfl rfl ?_
    refine g_iconst (v := (0 : Int32)) (pc' := 140) d_Mod_parseWayNode_139 (by decide) rfl ?_
    refine g_iload 2 (pc' := 142) d_Mod_parseWayNode_140 rfl rfl ?_
    refine g_iconst (v := (1 : Int32)) (pc' := 143) d_Mod_parseWayNode_142 (by decide) rfl ?_
    replace hy := g_bM_inv hy
    obtain ⟨x39, M40, hf41, hy⟩ := hy
    refine g_callV (rv := some (.int x39)) (h1 := (mH h0 a0 ad M40)) (pc' := 146) (As := [.int v1, .int (0 : Int32), .int v4, .int (1 : Int32)]) (rest := [.ref a0]) 4 (T_Mod_appendToWay ok (hy := hf41)) d_Mod_parseWayNode_143 (mH_look ok) rfl rfl q2202 q2204 qs56 q135 q2205 hd_Mod_appendToWay rfl ⟨by decide, by decide⟩ (by first | exact Nat.le_of_ble_eq_true rfl | (simp only [List.map, List.sum_cons, List.sum_nil, g_cat_rf]; exact Nat.le_of_ble_eq_true rfl) | (simp only [List.map, List.sum_cons, List.sum_nil, g_cat_rf, Value.category]; decide)) rfl ?_
    by_cases c42 : x39 = 0
    · rw [if_pos c42] at hy
      refine g_if_eqT (pc' := 153) d_Mod_parseWayNode_146 c42 (by decide) ?_
      refine g_iconst (v := (0 : Int32)) (pc' := 154) d_Mod_parseWayNode_153 (by decide) rfl ?_
      refine g_sub [0] rfl ?_
      exact W_Mod_parseWayNode_154 ok _ _ _ hy
    · rw [if_neg c42] at hy
      refine g_if_eqF (pc' := 149) d_Mod_parseWayNode_146 153 c42 (by decide) rfl ?_
      refine g_sub [0] rfl ?_
      exact W_Mod_parseWayNode_149 ok _ _ hy
def Mod_parseWayNode_120 (M : g_MD) (v1 : Int32) (v4 : Int32) : Option g_MD :=
  Mod_parseWayNode_125  M v1 v4 (1 : Int32)
set_option maxHeartbeats 4000000 in
set_option maxRecDepth 100000 in
theorem W_Mod_parseWayNode_120 {X : g_X} {h0 : g_AH} {a0 : Nat} {ad : Nat → Nat} (ok : mOK a0 ad) (z : g_MD) (M : g_MD) (v1 : Int32) (v4 : Int32) (hy : Mod_parseWayNode_120  M v1 v4 = some z) : G X k_Mod_parseWayNode (.inl none) (mH h0 a0 ad z) (mH h0 a0 ad M) 120 [(0, .ref a0), (1, .int v1), (4, .int v4)] [.ref a0] := by
  unfold Mod_parseWayNode_120 at hy
  refine g_iconst (v := (1 : Int32)) (pc' := 121) d_Mod_parseWayNode_120 (by decide) rfl ?_
  refine g_goto (pc' := 125) d_Mod_parseWayNode_121 (by decide) ?_
  exact W_Mod_parseWayNode_125 ok _ _ _ _ _ hy
def Mod_parseWayNode_72 (M : g_MD) (v1 : Int32) (v2 : Int32) (v3 : Int32) (v4 : Int32) (s0 : Int32) : Option g_MD :=
  g_b (Mod_require M s0 (4 : Int32)) fun M20 => g_b (Mod_isFine M20) fun x22 => if x22 = 0 then (Mod_parseWayNode_120  M20 v1 v4) else (if v3 = 0 then (Mod_parseWayNode_120  M20 v1 v4) else (g_mA M20 0 0 (((v2 + (1 : Int32)) + v3) - (1 : Int32)) fun x44 => g_b (Mod_linkOf M20 x44 v4) fun x46 => g_b (Mod_of M20 v1 (0 : Int32)) fun x49 => g_b (Mod_hasRoom M20 x46 v1 x49) fun x52 => if x52 = 0 then (Mod_parseWayNode_125  M20 v1 v4 (0 : Int32)) else (Mod_parseWayNode_120  M20 v1 v4)))
set_option maxHeartbeats 4000000 in
set_option maxRecDepth 100000 in
theorem W_Mod_parseWayNode_72 {X : g_X} {h0 : g_AH} {a0 : Nat} {ad : Nat → Nat} (ok : mOK a0 ad) (z : g_MD) (M : g_MD) (v1 : Int32) (v2 : Int32) (v3 : Int32) (v4 : Int32) (s0 : Int32) (hy : Mod_parseWayNode_72  M v1 v2 v3 v4 s0 = some z) : G X k_Mod_parseWayNode (.inl none) (mH h0 a0 ad z) (mH h0 a0 ad M) 72 [(0, .ref a0), (1, .int v1), (2, .int v2), (3, .int v3), (4, .int v4)] [.int s0, .ref a0] := by
  unfold Mod_parseWayNode_72 at hy
  refine g_iconst (v := (4 : Int32)) (pc' := 73) d_Mod_parseWayNode_72 (by decide) rfl ?_
  replace hy := g_b_inv hy
  obtain ⟨M20, hf21, hy⟩ := hy
  refine g_callV (rv := none) (h1 := (mH h0 a0 ad M20)) (pc' := 76) (As := [.int s0, .int (4 : Int32)]) (rest := []) 2 (T_Mod_require ok (hy := hf21)) d_Mod_parseWayNode_73 (mH_look ok) rfl rfl q2125 q2127 qs38 q135 q2128 hd_Mod_require rfl ⟨by decide, by decide⟩ (by first | exact Nat.le_of_ble_eq_true rfl | (simp only [List.map, List.sum_cons, List.sum_nil, g_cat_rf]; exact Nat.le_of_ble_eq_true rfl) | (simp only [List.map, List.sum_cons, List.sum_nil, g_cat_rf, Value.category]; decide)) rfl ?_
  refine g_aload_n 0 (i := 0) (pc' := 77) d_Mod_parseWayNode_76 rfl rfl rfl ?_
  refine g_aload_n 0 (i := 0) (pc' := 78) d_Mod_parseWayNode_77 rfl rfl rfl ?_
  replace hy := g_b_inv hy
  obtain ⟨x22, hf24, hy⟩ := hy
  refine g_callV (rv := some (.int x22)) (h1 := (mH h0 a0 ad M20)) (pc' := 81) (As := []) (rest := [.ref a0]) 0 (T_Mod_isFine ok (hy := hf24)) d_Mod_parseWayNode_78 (mH_look ok) rfl rfl q2096 q2098 qs34 q135 q2099 hd_Mod_isFine rfl ⟨by decide, by decide⟩ (by first | exact Nat.le_of_ble_eq_true rfl | (simp only [List.map, List.sum_cons, List.sum_nil, g_cat_rf]; exact Nat.le_of_ble_eq_true rfl) | (simp only [List.map, List.sum_cons, List.sum_nil, g_cat_rf, Value.category]; decide)) rfl ?_
  by_cases c25 : x22 = 0
  · rw [if_pos c25] at hy
    refine g_if_eqT (pc' := 120) d_Mod_parseWayNode_81 c25 (by decide) ?_
    refine g_sub [0, 1, 4] rfl ?_
    exact W_Mod_parseWayNode_120 ok _ _ _ _ hy
  · rw [if_neg c25] at hy
    refine g_if_eqF (pc' := 84) d_Mod_parseWayNode_81 120 c25 (by decide) rfl ?_
    refine g_iload_n 3 (i := 3) (pc' := 85) d_Mod_parseWayNode_84 rfl rfl rfl ?_
    by_cases c43 : v3 = 0
    · rw [if_pos c43] at hy
      refine g_if_eqT (pc' := 120) d_Mod_parseWayNode_85 c43 (by decide) ?_
      refine g_sub [0, 1, 4] rfl ?_
      exact W_Mod_parseWayNode_120 ok _ _ _ _ hy
    · rw [if_neg c43] at hy
      refine g_if_eqF (pc' := 88) d_Mod_parseWayNode_85 120 c43 (by decide) rfl ?_
      refine g_aload_n 0 (i := 0) (pc' := 89) d_Mod_parseWayNode_88 rfl rfl rfl ?_
      refine g_aload_n 0 (i := 0) (pc' := 90) d_Mod_parseWayNode_89 rfl rfl rfl ?_
      refine g_aload_n 0 (i := 0) (pc' := 91) d_Mod_parseWayNode_90 rfl rfl rfl ?_
      refine gm_getA ok 0 (pc' := 94) d_Mod_parseWayNode_91 rfl q1965 rfl rfl ?_
      refine g_iload_n 2 (i := 2) (pc' := 95) d_Mod_parseWayNode_94 rfl rfl rfl ?_
      refine g_iconst (v := (1 : Int32)) (pc' := 96) d_Mod_parseWayNode_95 (by decide) rfl ?_
      refine g_iadd (pc' := 97) d_Mod_parseWayNode_96 rfl ?_
      refine g_iload_n 3 (i := 3) (pc' := 98) d_Mod_parseWayNode_97 rfl rfl rfl ?_
      refine g_iadd (pc' := 99) d_Mod_parseWayNode_98 rfl ?_
      refine g_iconst (v := (1 : Int32)) (pc' := 100) d_Mod_parseWayNode_99 (by decide) rfl ?_
      refine g_isub (pc' := 101) d_Mod_parseWayNode_100 rfl ?_
      replace hy := g_mA_inv hy
      obtain ⟨x44, hc45, hy⟩ := hy
      refine gm_ald0 ok (pc' := 102) d_Mod_parseWayNode_101 hc45 rfl ?_
      refine g_iload 4 (pc' := 104) d_Mod_parseWayNode_102 rfl rfl ?_
      replace hy := g_b_inv hy
      obtain ⟨x46, hf48, hy⟩ := hy
      refine g_callV (rv := some (.int x46)) (h1 := (mH h0 a0 ad M20)) (pc' := 107) (As := [.int x44, .int v4]) (rest := [.ref a0, .ref a0]) 2 (T_Mod_linkOf ok (hy := hf48)) d_Mod_parseWayNode_104 (mH_look ok) rfl rfl q2150 q2152 qs44 q135 q2153 hd_Mod_linkOf rfl ⟨by decide, by decide⟩ (by first | exact Nat.le_of_ble_eq_true rfl | (simp only [List.map, List.sum_cons, List.sum_nil, g_cat_rf]; exact Nat.le_of_ble_eq_true rfl) | (simp only [List.map, List.sum_cons, List.sum_nil, g_cat_rf, Value.category]; decide)) rfl ?_
      refine g_iload_n 1 (i := 1) (pc' := 108) d_Mod_parseWayNode_107 rfl rfl rfl ?_
      refine g_aload_n 0 (i := 0) (pc' := 109) d_Mod_parseWayNode_108 rfl rfl rfl ?_
      refine g_iload_n 1 (i := 1) (pc' := 110) d_Mod_parseWayNode_109 rfl rfl rfl ?_
      refine g_iconst (v := (0 : Int32)) (pc' := 111) d_Mod_parseWayNode_110 (by decide) rfl ?_
      replace hy := g_b_inv hy
      obtain ⟨x49, hf51, hy⟩ := hy
      refine g_callV (rv := some (.int x49)) (h1 := (mH h0 a0 ad M20)) (pc' := 114) (As := [.int v1, .int (0 : Int32)]) (rest := [.int v1, .int x46, .ref a0, .ref a0]) 2 (T_Mod_of ok (hy := hf51)) d_Mod_parseWayNode_111 (mH_look ok) rfl rfl q2186 q2188 qs52 q135 q2189 hd_Mod_of rfl ⟨by decide, by decide⟩ (by first | exact Nat.le_of_ble_eq_true rfl | (simp only [List.map, List.sum_cons, List.sum_nil, g_cat_rf]; exact Nat.le_of_ble_eq_true rfl) | (simp only [List.map, List.sum_cons, List.sum_nil, g_cat_rf, Value.category]; decide)) rfl ?_
      replace hy := g_b_inv hy
      obtain ⟨x52, hf54, hy⟩ := hy
      refine g_callV (rv := some (.int x52)) (h1 := (mH h0 a0 ad M20)) (pc' := 117) (As := [.int x46, .int v1, .int x49]) (rest := [.ref a0]) 3 (T_Mod_hasRoom ok (hy := hf54)) d_Mod_parseWayNode_114 (mH_look ok) rfl rfl q2190 q2192 qs53 q135 q2193 hd_Mod_hasRoom rfl ⟨by decide, by decide⟩ (by first | exact Nat.le_of_ble_eq_true rfl | (simp only [List.map, List.sum_cons, List.sum_nil, g_cat_rf]; exact Nat.le_of_ble_eq_true rfl) | (simp only [List.map, List.sum_cons, List.sum_nil, g_cat_rf, Value.category]; decide)) rfl ?_
      by_cases c55 : x52 = 0
      · rw [if_pos c55] at hy
        refine g_if_eqT (pc' := 124) d_Mod_parseWayNode_117 c55 (by decide) ?_
        refine g_iconst (v := (0 : Int32)) (pc' := 125) d_Mod_parseWayNode_124 (by decide) rfl ?_
        refine g_sub [0, 1, 4] rfl ?_
        exact W_Mod_parseWayNode_125 ok _ _ _ _ _ hy
      · rw [if_neg c55] at hy
        refine g_if_eqF (pc' := 120) d_Mod_parseWayNode_117 124 c55 (by decide) rfl ?_
        refine g_sub [0, 1, 4] rfl ?_
        exact W_Mod_parseWayNode_120 ok _ _ _ _ hy
def Mod_parseWayNode_67 (M : g_MD) (v1 : Int32) (v2 : Int32) (v3 : Int32) (v4 : Int32) : Option g_MD :=
  Mod_parseWayNode_72  M v1 v2 v3 v4 (1 : Int32)
set_option maxHeartbeats 4000000 in
set_option maxRecDepth 100000 in
theorem W_Mod_parseWayNode_67 {X : g_X} {h0 : g_AH} {a0 : Nat} {ad : Nat → Nat} (ok : mOK a0 ad) (z : g_MD) (M : g_MD) (v1 : Int32) (v2 : Int32) (v3 : Int32) (v4 : Int32) (hy : Mod_parseWayNode_67  M v1 v2 v3 v4 = some z) : G X k_Mod_parseWayNode (.inl none) (mH h0 a0 ad z) (mH h0 a0 ad M) 67 [(0, .ref a0), (1, .int v1), (2, .int v2), (3, .int v3), (4, .int v4)] [.ref a0] := by
  unfold Mod_parseWayNode_67 at hy
  refine g_iconst (v := (1 : Int32)) (pc' := 68) d_Mod_parseWayNode_67 (by decide) rfl ?_
  refine g_goto (pc' := 72) d_Mod_parseWayNode_68 (by decide) ?_
  exact W_Mod_parseWayNode_72 ok _ _ _ _ _ _ _ hy
def Mod_parseWayNode_38 (M : g_MD) (v1 : Int32) (v2 : Int32) (v3 : Int32) (s0 : Int32) : Option g_MD :=
  g_b (Mod_require M s0 (3 : Int32)) fun M13 => g_b (Mod_isFine M13) fun x15 => if x15 = 0 then (Mod_parseWayNode_67  M13 v1 v2 v3 (M13.2.1 14)) else (g_b (Mod_canFollow M13 v2 v3 (M13.2.1 14)) fun x56 => if x56 = 0 then (Mod_parseWayNode_72  M13 v1 v2 v3 (M13.2.1 14) (0 : Int32)) else (Mod_parseWayNode_67  M13 v1 v2 v3 (M13.2.1 14)))
set_option maxHeartbeats 4000000 in
set_option maxRecDepth 100000 in
theorem W_Mod_parseWayNode_38 {X : g_X} {h0 : g_AH} {a0 : Nat} {ad : Nat → Nat} (ok : mOK a0 ad) (z : g_MD) (M : g_MD) (v1 : Int32) (v2 : Int32) (v3 : Int32) (s0 : Int32) (hy : Mod_parseWayNode_38  M v1 v2 v3 s0 = some z) : G X k_Mod_parseWayNode (.inl none) (mH h0 a0 ad z) (mH h0 a0 ad M) 38 [(0, .ref a0), (1, .int v1), (2, .int v2), (3, .int v3)] [.int s0, .ref a0] := by
  unfold Mod_parseWayNode_38 at hy
  refine g_iconst (v := (3 : Int32)) (pc' := 39) d_Mod_parseWayNode_38 (by decide) rfl ?_
  replace hy := g_b_inv hy
  obtain ⟨M13, hf14, hy⟩ := hy
  refine g_callV (rv := none) (h1 := (mH h0 a0 ad M13)) (pc' := 42) (As := [.int s0, .int (3 : Int32)]) (rest := []) 2 (T_Mod_require ok (hy := hf14)) d_Mod_parseWayNode_39 (mH_look ok) rfl rfl q2125 q2127 qs38 q135 q2128 hd_Mod_require rfl ⟨by decide, by decide⟩ (by first | exact Nat.le_of_ble_eq_true rfl | (simp only [List.map, List.sum_cons, List.sum_nil, g_cat_rf]; exact Nat.le_of_ble_eq_true rfl) | (simp only [List.map, List.sum_cons, List.sum_nil, g_cat_rf, Value.category]; decide)) rfl ?_
  refine g_aload_n 0 (i := 0) (pc' := 43) d_Mod_parseWayNode_42 rfl rfl rfl ?_
  refine gm_getA ok 14 (pc' := 46) d_Mod_parseWayNode_43 rfl q1979 rfl rfl ?_
  refine g_istore (pc' := 48) (Lc' := [(4, .int (M13.2.1 14)), (0, .ref a0), (1, .int v1), (2, .int v2), (3, .int v3)]) d_Mod_parseWayNode_46 (by decide) rfl rfl ?_
  refine g_aload_n 1 (i := 0) (pc' := 49) d_Mod_parseWayNode_48 rfl rfl rfl ?_
  refine g_aload_n 1 (i := 0) (pc' := 50) d_Mod_parseWayNode_49 rfl rfl rfl ?_
  replace hy := g_b_inv hy
  obtain ⟨x15, hf17, hy⟩ := hy
  refine g_callV (rv := some (.int x15)) (h1 := (mH h0 a0 ad M13)) (pc' := 53) (As := []) (rest := [.ref a0]) 0 (T_Mod_isFine ok (hy := hf17)) d_Mod_parseWayNode_50 (mH_look ok) rfl rfl q2096 q2098 qs34 q135 q2099 hd_Mod_isFine rfl ⟨by decide, by decide⟩ (by first | exact Nat.le_of_ble_eq_true rfl | (simp only [List.map, List.sum_cons, List.sum_nil, g_cat_rf]; exact Nat.le_of_ble_eq_true rfl) | (simp only [List.map, List.sum_cons, List.sum_nil, g_cat_rf, Value.category]; decide)) rfl ?_
  by_cases c18 : x15 = 0
  · rw [if_pos c18] at hy
    refine g_if_eqT (pc' := 67) d_Mod_parseWayNode_53 c18 (by decide) ?_
    refine g_sub [1, 2, 3, 4, 0] rfl ?_
    exact W_Mod_parseWayNode_67 ok _ _ _ _ _ _ hy
  · rw [if_neg c18] at hy
    refine g_if_eqF (pc' := 56) d_Mod_parseWayNode_53 67 c18 (by decide) rfl ?_
    refine g_aload_n 1 (i := 0) (pc' := 57) d_Mod_parseWayNode_56 rfl rfl rfl ?_
    refine g_iload_n 3 (i := 2) (pc' := 58) d_Mod_parseWayNode_57 rfl rfl rfl ?_
    refine g_iload_n 4 (i := 3) (pc' := 59) d_Mod_parseWayNode_58 rfl rfl rfl ?_
    refine g_iload 0 (pc' := 61) d_Mod_parseWayNode_59 rfl rfl ?_
    replace hy := g_b_inv hy
    obtain ⟨x56, hf58, hy⟩ := hy
    refine g_callV (rv := some (.int x56)) (h1 := (mH h0 a0 ad M13)) (pc' := 64) (As := [.int v2, .int v3, .int (M13.2.1 14)]) (rest := [.ref a0]) 3 (T_Mod_canFollow ok (hy := hf58)) d_Mod_parseWayNode_61 (mH_look ok) rfl rfl q2182 q2184 qs51 q135 q2185 hd_Mod_canFollow rfl ⟨by decide, by decide⟩ (by first | exact Nat.le_of_ble_eq_true rfl | (simp only [List.map, List.sum_cons, List.sum_nil, g_cat_rf]; exact Nat.le_of_ble_eq_true rfl) | (simp only [List.map, List.sum_cons, List.sum_nil, g_cat_rf, Value.category]; decide)) rfl ?_
    by_cases c59 : x56 = 0
    · rw [if_pos c59] at hy
      refine g_if_eqT (pc' := 71) d_Mod_parseWayNode_64 c59 (by decide) ?_
      refine g_iconst (v := (0 : Int32)) (pc' := 72) d_Mod_parseWayNode_71 (by decide) rfl ?_
      refine g_sub [1, 2, 3, 4, 0] rfl ?_
      exact W_Mod_parseWayNode_72 ok _ _ _ _ _ _ _ hy
    · rw [if_neg c59] at hy
      refine g_if_eqF (pc' := 67) d_Mod_parseWayNode_64 71 c59 (by decide) rfl ?_
      refine g_sub [1, 2, 3, 4, 0] rfl ?_
      exact W_Mod_parseWayNode_67 ok _ _ _ _ _ _ hy
def Mod_parseWayNode (M : g_MD) (p0 : Int32) : Option g_MD :=
  g_b (Mod_wayPlace p0 (0 : Int32)) fun x1 => g_mA M 0 0 x1 fun x4 => g_mA M 0 0 (2 : Int32) fun x6 => g_b (Mod_look M (0 : Int32) (x6 - (1 : Int32))) fun M9 => if (6 : Int32) ≤ x4 then (Mod_parseWayNode_38  M9 p0 x1 x4 (0 : Int32)) else (Mod_parseWayNode_38  M9 p0 x1 x4 (1 : Int32))
set_option maxHeartbeats 4000000 in
set_option maxRecDepth 100000 in
theorem T_Mod_parseWayNode {l : Launch} {B : g_B} {h0 : g_AH} {a0 : Nat} {ad : Nat → Nat} (ok : mOK a0 ad) (M : g_MD) (p0 : Int32) (z : g_MD) (hy : Mod_parseWayNode M p0 = some z) : g_CT l B y_Mod_parseWayNode k_Mod_parseWayNode [.ref a0, .int p0] (mH h0 a0 ad M) (.inl none) (mH h0 a0 ad z) := by
  refine g_start2 (Lc := [(0, .ref a0), (1, .int p0)]) (by decide) rfl rfl (by exact Nat.le_of_ble_eq_true rfl) (by rfl) fun X => ?_
  unfold Mod_parseWayNode at hy
  refine g_iload_n 1 (i := 1) (pc' := 1) d_Mod_parseWayNode_0 rfl rfl rfl ?_
  refine g_iconst (v := (0 : Int32)) (pc' := 2) d_Mod_parseWayNode_1 (by decide) rfl ?_
  replace hy := g_b_inv hy
  obtain ⟨x1, hf3, hy⟩ := hy
  refine g_callS (rv := some (.int x1)) (h1 := (mH h0 a0 ad M)) (pc' := 5) (As := [.int p0, .int (0 : Int32)]) (rest := []) 2 (T_Mod_wayPlace (hy := hf3)) d_Mod_parseWayNode_2 q2179 q2180 q135 q2181 hd_Mod_wayPlace rfl ⟨by decide, by decide⟩ (by first | exact Nat.le_of_ble_eq_true rfl | (simp only [List.map, List.sum_cons, List.sum_nil, g_cat_rf]; exact Nat.le_of_ble_eq_true rfl) | (simp only [List.map, List.sum_cons, List.sum_nil, g_cat_rf, Value.category]; decide)) rfl ?_
  refine g_istore_n (i := 2) (pc' := 6) (Lc' := [(2, .int x1), (0, .ref a0), (1, .int p0)]) d_Mod_parseWayNode_5 rfl (by decide) rfl rfl ?_
  refine g_aload_n 1 (i := 0) (pc' := 7) d_Mod_parseWayNode_6 rfl rfl rfl ?_
  refine gm_getA ok 0 (pc' := 10) d_Mod_parseWayNode_7 rfl q1965 rfl rfl ?_
  refine g_iload_n 0 (i := 2) (pc' := 11) d_Mod_parseWayNode_10 rfl rfl rfl ?_
  replace hy := g_mA_inv hy
  obtain ⟨x4, hc5, hy⟩ := hy
  refine gm_ald0 ok (pc' := 12) d_Mod_parseWayNode_11 hc5 rfl ?_
  refine g_istore_n (i := 3) (pc' := 13) (Lc' := [(3, .int x4), (2, .int x1), (0, .ref a0), (1, .int p0)]) d_Mod_parseWayNode_12 rfl (by decide) rfl rfl ?_
  refine g_aload_n 2 (i := 0) (pc' := 14) d_Mod_parseWayNode_13 rfl rfl rfl ?_
  refine g_iconst (v := (0 : Int32)) (pc' := 15) d_Mod_parseWayNode_14 (by decide) rfl ?_
  refine g_aload_n 2 (i := 0) (pc' := 16) d_Mod_parseWayNode_15 rfl rfl rfl ?_
  refine gm_getA ok 0 (pc' := 19) d_Mod_parseWayNode_16 rfl q1965 rfl rfl ?_
  refine g_iconst (v := (2 : Int32)) (pc' := 20) d_Mod_parseWayNode_19 (by decide) rfl ?_
  replace hy := g_mA_inv hy
  obtain ⟨x6, hc7, hy⟩ := hy
  refine gm_ald0 ok (pc' := 21) d_Mod_parseWayNode_20 hc7 rfl ?_
  refine g_iconst (v := (1 : Int32)) (pc' := 22) d_Mod_parseWayNode_21 (by decide) rfl ?_
  refine g_isub (pc' := 23) d_Mod_parseWayNode_22 rfl ?_
  replace hy := g_b_inv hy
  obtain ⟨M9, hf10, hy⟩ := hy
  refine g_callV (rv := none) (h1 := (mH h0 a0 ad M9)) (pc' := 26) (As := [.int (0 : Int32), .int (x6 - (1 : Int32))]) (rest := []) 2 (T_Mod_look ok (hy := hf10)) d_Mod_parseWayNode_23 (mH_look ok) rfl rfl q2137 q2139 qs41 q135 q2140 hd_Mod_look rfl ⟨by decide, by decide⟩ (by first | exact Nat.le_of_ble_eq_true rfl | (simp only [List.map, List.sum_cons, List.sum_nil, g_cat_rf]; exact Nat.le_of_ble_eq_true rfl) | (simp only [List.map, List.sum_cons, List.sum_nil, g_cat_rf, Value.category]; decide)) rfl ?_
  refine g_aload_n 2 (i := 0) (pc' := 27) d_Mod_parseWayNode_26 rfl rfl rfl ?_
  refine g_iload_n 0 (i := 3) (pc' := 28) d_Mod_parseWayNode_27 rfl rfl rfl ?_
  refine g_bipush (v := (6 : Int32)) (pc' := 30) d_Mod_parseWayNode_28 (by decide) rfl ?_
  by_cases c11 : (6 : Int32) ≤ x4
  · rw [if_pos c11] at hy
    refine g_icmp_geT (pc' := 37) d_Mod_parseWayNode_30 c11 (by decide) ?_
    refine g_iconst (v := (0 : Int32)) (pc' := 38) d_Mod_parseWayNode_37 (by decide) rfl ?_
    refine g_sub [2, 3, 1, 0] rfl ?_
    exact W_Mod_parseWayNode_38 ok _ _ _ _ _ _ hy
  · rw [if_neg c11] at hy
    refine g_icmp_geF (pc' := 33) d_Mod_parseWayNode_30 37 c11 (by decide) rfl ?_
    refine g_iconst (v := (1 : Int32)) (pc' := 34) d_Mod_parseWayNode_33 (by decide) rfl ?_
    refine g_goto (pc' := 38) d_Mod_parseWayNode_34 (by decide) ?_
    refine g_sub [2, 3, 1, 0] rfl ?_
    exact W_Mod_parseWayNode_38 ok _ _ _ _ _ _ hy
theorem hd_Mod_parseWayNode : g_dsc y_Mod_parseWayNode 1 := ⟨by decide +kernel, by decide +kernel, by decide +kernel⟩
/-! CircuitDeskModel.parseCircuit()V -/
abbrev y_Mod_parseCircuit : MethodName := ⟨"CircuitDeskModel", "parseCircuit", "()V"⟩
abbrev k_Mod_parseCircuit : g_M := (prog_17_method_32_code, 4, "CircuitDeskModel", 18, none, "parseCircuit", [], 0)
theorem d_Mod_parseCircuit_0 : decode prog_17_method_32_code 0 = .ok (.aload_n 0, 1) := by decide +kernel
theorem d_Mod_parseCircuit_1 : decode prog_17_method_32_code 1 = .ok (.aload_n 0, 1) := by decide +kernel
theorem d_Mod_parseCircuit_2 : decode prog_17_method_32_code 2 = .ok (.getfield 7, 3) := by decide +kernel
theorem d_Mod_parseCircuit_5 : decode prog_17_method_32_code 5 = .ok (.iconst 4, 1) := by decide +kernel
theorem d_Mod_parseCircuit_6 : decode prog_17_method_32_code 6 = .ok (.iaload, 1) := by decide +kernel
theorem d_Mod_parseCircuit_7 : decode prog_17_method_32_code 7 = .ok (.bipush 8, 2) := by decide +kernel
theorem d_Mod_parseCircuit_9 : decode prog_17_method_32_code 9 = .ok (.if_icmp .ge 7, 3) := by decide +kernel
theorem d_Mod_parseCircuit_12 : decode prog_17_method_32_code 12 = .ok (.iconst 1, 1) := by decide +kernel
theorem d_Mod_parseCircuit_13 : decode prog_17_method_32_code 13 = .ok (.goto 4, 3) := by decide +kernel
theorem d_Mod_parseCircuit_16 : decode prog_17_method_32_code 16 = .ok (.iconst 0, 1) := by decide +kernel
theorem d_Mod_parseCircuit_17 : decode prog_17_method_32_code 17 = .ok (.iconst 3, 1) := by decide +kernel
theorem d_Mod_parseCircuit_18 : decode prog_17_method_32_code 18 = .ok (.invokevirtual 119, 3) := by decide +kernel
theorem d_Mod_parseCircuit_21 : decode prog_17_method_32_code 21 = .ok (.aload_n 0, 1) := by decide +kernel
theorem d_Mod_parseCircuit_22 : decode prog_17_method_32_code 22 = .ok (.invokevirtual 127, 3) := by decide +kernel
theorem d_Mod_parseCircuit_25 : decode prog_17_method_32_code 25 = .ok (.aload_n 0, 1) := by decide +kernel
theorem d_Mod_parseCircuit_26 : decode prog_17_method_32_code 26 = .ok (.iconst 1, 1) := by decide +kernel
theorem d_Mod_parseCircuit_27 : decode prog_17_method_32_code 27 = .ok (.bipush 20, 2) := by decide +kernel
theorem d_Mod_parseCircuit_29 : decode prog_17_method_32_code 29 = .ok (.invokevirtual 130, 3) := by decide +kernel
theorem d_Mod_parseCircuit_32 : decode prog_17_method_32_code 32 = .ok (.istore_n 1, 1) := by decide +kernel
theorem d_Mod_parseCircuit_33 : decode prog_17_method_32_code 33 = .ok (.aload_n 0, 1) := by decide +kernel
theorem d_Mod_parseCircuit_34 : decode prog_17_method_32_code 34 = .ok (.iconst 0, 1) := by decide +kernel
theorem d_Mod_parseCircuit_35 : decode prog_17_method_32_code 35 = .ok (.bipush 9, 2) := by decide +kernel
theorem d_Mod_parseCircuit_37 : decode prog_17_method_32_code 37 = .ok (.invokevirtual 130, 3) := by decide +kernel
theorem d_Mod_parseCircuit_40 : decode prog_17_method_32_code 40 = .ok (.istore_n 2, 1) := by decide +kernel
theorem d_Mod_parseCircuit_41 : decode prog_17_method_32_code 41 = .ok (.aload_n 0, 1) := by decide +kernel
theorem d_Mod_parseCircuit_42 : decode prog_17_method_32_code 42 = .ok (.invokevirtual 112, 3) := by decide +kernel
theorem d_Mod_parseCircuit_45 : decode prog_17_method_32_code 45 = .ok (.ifCond .ne 4, 3) := by decide +kernel
theorem d_Mod_parseCircuit_48 : decode prog_17_method_32_code 48 = .ok (.return_, 1) := by decide +kernel
theorem d_Mod_parseCircuit_49 : decode prog_17_method_32_code 49 = .ok (.aload_n 0, 1) := by decide +kernel
theorem d_Mod_parseCircuit_50 : decode prog_17_method_32_code 50 = .ok (.iload_n 1, 1) := by decide +kernel
theorem d_Mod_parseCircuit_51 : decode prog_17_method_32_code 51 = .ok (.iload_n 2, 1) := by decide +kernel
theorem d_Mod_parseCircuit_52 : decode prog_17_method_32_code 52 = .ok (.invokevirtual 160, 3) := by decide +kernel
theorem d_Mod_parseCircuit_55 : decode prog_17_method_32_code 55 = .ok (.istore_n 3, 1) := by decide +kernel
theorem d_Mod_parseCircuit_56 : decode prog_17_method_32_code 56 = .ok (.aload_n 0, 1) := by decide +kernel
theorem d_Mod_parseCircuit_57 : decode prog_17_method_32_code 57 = .ok (.iload_n 3, 1) := by decide +kernel
theorem d_Mod_parseCircuit_58 : decode prog_17_method_32_code 58 = .ok (.invokevirtual 163, 3) := by decide +kernel
theorem d_Mod_parseCircuit_61 : decode prog_17_method_32_code 61 = .ok (.aload_n 0, 1) := by decide +kernel
theorem d_Mod_parseCircuit_62 : decode prog_17_method_32_code 62 = .ok (.invokevirtual 112, 3) := by decide +kernel
theorem d_Mod_parseCircuit_65 : decode prog_17_method_32_code 65 = .ok (.ifCond .eq 8, 3) := by decide +kernel
theorem d_Mod_parseCircuit_68 : decode prog_17_method_32_code 68 = .ok (.aload_n 0, 1) := by decide +kernel
theorem d_Mod_parseCircuit_69 : decode prog_17_method_32_code 69 = .ok (.iload_n 3, 1) := by decide +kernel
theorem d_Mod_parseCircuit_70 : decode prog_17_method_32_code 70 = .ok (.invokevirtual 163, 3) := by decide +kernel
theorem d_Mod_parseCircuit_73 : decode prog_17_method_32_code 73 = .ok (.aload_n 0, 1) := by decide +kernel
theorem d_Mod_parseCircuit_74 : decode prog_17_method_32_code 74 = .ok (.invokevirtual 112, 3) := by decide +kernel
theorem d_Mod_parseCircuit_77 : decode prog_17_method_32_code 77 = .ok (.ifCond .eq 19, 3) := by decide +kernel
theorem d_Mod_parseCircuit_80 : decode prog_17_method_32_code 80 = .ok (.aload_n 0, 1) := by decide +kernel
theorem d_Mod_parseCircuit_81 : decode prog_17_method_32_code 81 = .ok (.getfield 84, 3) := by decide +kernel
theorem d_Mod_parseCircuit_84 : decode prog_17_method_32_code 84 = .ok (.iconst 3, 1) := by decide +kernel
theorem d_Mod_parseCircuit_85 : decode prog_17_method_32_code 85 = .ok (.if_icmp .ne 11, 3) := by decide +kernel
theorem d_Mod_parseCircuit_88 : decode prog_17_method_32_code 88 = .ok (.aload_n 0, 1) := by decide +kernel
theorem d_Mod_parseCircuit_89 : decode prog_17_method_32_code 89 = .ok (.iload_n 3, 1) := by decide +kernel
theorem d_Mod_parseCircuit_90 : decode prog_17_method_32_code 90 = .ok (.invokevirtual 163, 3) := by decide +kernel
theorem d_Mod_parseCircuit_93 : decode prog_17_method_32_code 93 = .ok (.goto (-20), 3) := by decide +kernel
theorem d_Mod_parseCircuit_96 : decode prog_17_method_32_code 96 = .ok (.return_, 1) := by decide +kernel
def Mod_parseCircuit_73  : Nat → g_MD → Int32 → Option g_MD
  | 0, _, _ => none
  | n + 1, M, v3 => g_b (Mod_isFine M) fun x30 => if x30 = 0 then (some M) else (if (M.2.1 12) = (3 : Int32) then (g_b (Mod_parseWayNode M v3) fun M36 => (Mod_parseCircuit_73  n) M36 v3) else (some M))
set_option maxHeartbeats 4000000 in
set_option maxRecDepth 100000 in
theorem W_Mod_parseCircuit_73 {X : g_X} {h0 : g_AH} {a0 : Nat} {ad : Nat → Nat} (ok : mOK a0 ad) (z : g_MD)  : ∀ (n : Nat) (M : g_MD) (v3 : Int32), Mod_parseCircuit_73  n M v3 = some z → G X k_Mod_parseCircuit (.inl none) (mH h0 a0 ad z) (mH h0 a0 ad M) 73 [(0, .ref a0), (3, .int v3)] [] := by
  intro n
  induction n with
  | zero => intro M v3 hy; exact absurd hy (by simp [Mod_parseCircuit_73])
  | succ n ih =>
    intro M v3 hy
    rw [Mod_parseCircuit_73] at hy
    refine g_aload_n 0 (i := 0) (pc' := 74) d_Mod_parseCircuit_73 rfl rfl rfl ?_
    replace hy := g_b_inv hy
    obtain ⟨x30, hf32, hy⟩ := hy
    refine g_callV (rv := some (.int x30)) (h1 := (mH h0 a0 ad M)) (pc' := 77) (As := []) (rest := []) 0 (T_Mod_isFine ok (hy := hf32)) d_Mod_parseCircuit_74 (mH_look ok) rfl rfl q2096 q2098 qs34 q135 q2099 hd_Mod_isFine rfl ⟨by decide, by decide⟩ (by first | exact Nat.le_of_ble_eq_true rfl | (simp only [List.map, List.sum_cons, List.sum_nil, g_cat_rf]; exact Nat.le_of_ble_eq_true rfl) | (simp only [List.map, List.sum_cons, List.sum_nil, g_cat_rf, Value.category]; decide)) rfl ?_
    by_cases c33 : x30 = 0
    · rw [if_pos c33] at hy
      refine g_if_eqT (pc' := 96) d_Mod_parseCircuit_77 c33 (by decide) ?_
      cases hy
      exact g_vret rfl rfl rfl d_Mod_parseCircuit_96
    · rw [if_neg c33] at hy
      refine g_if_eqF (pc' := 80) d_Mod_parseCircuit_77 96 c33 (by decide) rfl ?_
      refine g_aload_n 0 (i := 0) (pc' := 81) d_Mod_parseCircuit_80 rfl rfl rfl ?_
      refine gm_getA ok 12 (pc' := 84) d_Mod_parseCircuit_81 rfl q1977 rfl rfl ?_
      refine g_iconst (v := (3 : Int32)) (pc' := 85) d_Mod_parseCircuit_84 (by decide) rfl ?_
      by_cases c34 : (M.2.1 12) = (3 : Int32)
      · rw [if_pos c34] at hy
        refine g_icmp_neF (pc' := 88) d_Mod_parseCircuit_85 96 c34 (by decide) rfl ?_
        refine g_aload_n 0 (i := 0) (pc' := 89) d_Mod_parseCircuit_88 rfl rfl rfl ?_
        refine g_iload_n 1 (i := 3) (pc' := 90) d_Mod_parseCircuit_89 rfl rfl rfl ?_
        replace hy := g_b_inv hy
        obtain ⟨M36, hf37, hy⟩ := hy
        refine g_callV (rv := none) (h1 := (mH h0 a0 ad M36)) (pc' := 93) (As := [.int v3]) (rest := []) 1 (T_Mod_parseWayNode ok (hy := hf37)) d_Mod_parseCircuit_90 (mH_look ok) rfl rfl q2175 q2177 qs50 q135 q2178 hd_Mod_parseWayNode rfl ⟨by decide, by decide⟩ (by first | exact Nat.le_of_ble_eq_true rfl | (simp only [List.map, List.sum_cons, List.sum_nil, g_cat_rf]; exact Nat.le_of_ble_eq_true rfl) | (simp only [List.map, List.sum_cons, List.sum_nil, g_cat_rf, Value.category]; decide)) rfl ?_
        refine g_goto (pc' := 73) d_Mod_parseCircuit_93 (by decide) ?_
        exact ih _ _ hy
      · rw [if_neg c34] at hy
        refine g_icmp_neT (pc' := 96) d_Mod_parseCircuit_85 c34 (by decide) ?_
        cases hy
        exact g_vret rfl rfl rfl d_Mod_parseCircuit_96
def Mod_parseCircuit_17 (M : g_MD) (s0 : Int32) : Option g_MD :=
  g_b (Mod_require M s0 (3 : Int32)) fun M5 => g_b (Mod_advance M5) fun M8 => g_bM (Mod_parseNumber M8 (1 : Int32) (20 : Int32)) fun x10 M11 => g_bM (Mod_parseNumber M11 (0 : Int32) (9 : Int32)) fun x13 M14 => g_b (Mod_isFine M14) fun x16 => if x16 = 0 then (some M14) else (g_bM (Mod_appendCircuit M14 x10 x13) fun x20 M21 => g_b (Mod_parseWayNode M21 x20) fun M24 => g_b (Mod_isFine M24) fun x26 => if x26 = 0 then (Mod_parseCircuit_73  gFU M24 x20) else (g_b (Mod_parseWayNode M24 x20) fun M39 => Mod_parseCircuit_73  gFU M39 x20))
set_option maxHeartbeats 4000000 in
set_option maxRecDepth 100000 in
theorem W_Mod_parseCircuit_17 {X : g_X} {h0 : g_AH} {a0 : Nat} {ad : Nat → Nat} (ok : mOK a0 ad) (z : g_MD) (M : g_MD) (s0 : Int32) (hy : Mod_parseCircuit_17  M s0 = some z) : G X k_Mod_parseCircuit (.inl none) (mH h0 a0 ad z) (mH h0 a0 ad M) 17 [(0, .ref a0)] [.int s0, .ref a0] := by
  unfold Mod_parseCircuit_17 at hy
  refine g_iconst (v := (3 : Int32)) (pc' := 18) d_Mod_parseCircuit_17 (by decide) rfl ?_
  replace hy := g_b_inv hy
  obtain ⟨M5, hf6, hy⟩ := hy
  refine g_callV (rv := none) (h1 := (mH h0 a0 ad M5)) (pc' := 21) (As := [.int s0, .int (3 : Int32)]) (rest := []) 2 (T_Mod_require ok (hy := hf6)) d_Mod_parseCircuit_18 (mH_look ok) rfl rfl q2125 q2127 qs38 q135 q2128 hd_Mod_require rfl ⟨by decide, by decide⟩ (by first | exact Nat.le_of_ble_eq_true rfl | (simp only [List.map, List.sum_cons, List.sum_nil, g_cat_rf]; exact Nat.le_of_ble_eq_true rfl) | (simp only [List.map, List.sum_cons, List.sum_nil, g_cat_rf, Value.category]; decide)) rfl ?_
  refine g_aload_n 0 (i := 0) (pc' := 22) d_Mod_parseCircuit_21 rfl rfl rfl ?_
  replace hy := g_b_inv hy
  obtain ⟨M8, hf9, hy⟩ := hy
  refine g_callV (rv := none) (h1 := (mH h0 a0 ad M8)) (pc' := 25) (As := []) (rest := []) 0 (T_Mod_advance ok (hy := hf9)) d_Mod_parseCircuit_22 (mH_look ok) rfl rfl q2129 q2131 qs39 q135 q2132 hd_Mod_advance rfl ⟨by decide, by decide⟩ (by first | exact Nat.le_of_ble_eq_true rfl | (simp only [List.map, List.sum_cons, List.sum_nil, g_cat_rf]; exact Nat.le_of_ble_eq_true rfl) | (simp only [List.map, List.sum_cons, List.sum_nil, g_cat_rf, Value.category]; decide)) rfl ?_
  refine g_aload_n 0 (i := 0) (pc' := 26) d_Mod_parseCircuit_25 rfl rfl rfl ?_
  refine g_iconst (v := (1 : Int32)) (pc' := 27) d_Mod_parseCircuit_26 (by decide) rfl ?_
  refine g_bipush (v := (20 : Int32)) (pc' := 29) d_Mod_parseCircuit_27 (by decide) rfl ?_
  replace hy := g_bM_inv hy
  obtain ⟨x10, M11, hf12, hy⟩ := hy
  refine g_callV (rv := some (.int x10)) (h1 := (mH h0 a0 ad M11)) (pc' := 32) (As := [.int (1 : Int32), .int (20 : Int32)]) (rest := []) 2 (T_Mod_parseNumber ok (hy := hf12)) d_Mod_parseCircuit_29 (mH_look ok) rfl rfl q2133 q2135 qs40 q135 q2136 hd_Mod_parseNumber rfl ⟨by decide, by decide⟩ (by first | exact Nat.le_of_ble_eq_true rfl | (simp only [List.map, List.sum_cons, List.sum_nil, g_cat_rf]; exact Nat.le_of_ble_eq_true rfl) | (simp only [List.map, List.sum_cons, List.sum_nil, g_cat_rf, Value.category]; decide)) rfl ?_
  refine g_istore_n (i := 1) (pc' := 33) (Lc' := [(1, .int x10), (0, .ref a0)]) d_Mod_parseCircuit_32 rfl (by decide) rfl rfl ?_
  refine g_aload_n 1 (i := 0) (pc' := 34) d_Mod_parseCircuit_33 rfl rfl rfl ?_
  refine g_iconst (v := (0 : Int32)) (pc' := 35) d_Mod_parseCircuit_34 (by decide) rfl ?_
  refine g_bipush (v := (9 : Int32)) (pc' := 37) d_Mod_parseCircuit_35 (by decide) rfl ?_
  replace hy := g_bM_inv hy
  obtain ⟨x13, M14, hf15, hy⟩ := hy
  refine g_callV (rv := some (.int x13)) (h1 := (mH h0 a0 ad M14)) (pc' := 40) (As := [.int (0 : Int32), .int (9 : Int32)]) (rest := []) 2 (T_Mod_parseNumber ok (hy := hf15)) d_Mod_parseCircuit_37 (mH_look ok) rfl rfl q2133 q2135 qs40 q135 q2136 hd_Mod_parseNumber rfl ⟨by decide, by decide⟩ (by first | exact Nat.le_of_ble_eq_true rfl | (simp only [List.map, List.sum_cons, List.sum_nil, g_cat_rf]; exact Nat.le_of_ble_eq_true rfl) | (simp only [List.map, List.sum_cons, List.sum_nil, g_cat_rf, Value.category]; decide)) rfl ?_
  refine g_istore_n (i := 2) (pc' := 41) (Lc' := [(2, .int x13), (1, .int x10), (0, .ref a0)]) d_Mod_parseCircuit_40 rfl (by decide) rfl rfl ?_
  refine g_aload_n 2 (i := 0) (pc' := 42) d_Mod_parseCircuit_41 rfl rfl rfl ?_
  replace hy := g_b_inv hy
  obtain ⟨x16, hf18, hy⟩ := hy
  refine g_callV (rv := some (.int x16)) (h1 := (mH h0 a0 ad M14)) (pc' := 45) (As := []) (rest := []) 0 (T_Mod_isFine ok (hy := hf18)) d_Mod_parseCircuit_42 (mH_look ok) rfl rfl q2096 q2098 qs34 q135 q2099 hd_Mod_isFine rfl ⟨by decide, by decide⟩ (by first | exact Nat.le_of_ble_eq_true rfl | (simp only [List.map, List.sum_cons, List.sum_nil, g_cat_rf]; exact Nat.le_of_ble_eq_true rfl) | (simp only [List.map, List.sum_cons, List.sum_nil, g_cat_rf, Value.category]; decide)) rfl ?_
  by_cases c19 : x16 = 0
  · rw [if_pos c19] at hy
    refine g_if_neF (pc' := 48) d_Mod_parseCircuit_45 49 c19 (by decide) rfl ?_
    cases hy
    exact g_vret rfl rfl rfl d_Mod_parseCircuit_48
  · rw [if_neg c19] at hy
    refine g_if_neT (pc' := 49) d_Mod_parseCircuit_45 c19 (by decide) ?_
    refine g_aload_n 2 (i := 0) (pc' := 50) d_Mod_parseCircuit_49 rfl rfl rfl ?_
    refine g_iload_n 1 (i := 1) (pc' := 51) d_Mod_parseCircuit_50 rfl rfl rfl ?_
    refine g_iload_n 0 (i := 2) (pc' := 52) d_Mod_parseCircuit_51 rfl rfl rfl ?_
    replace hy := g_bM_inv hy
    obtain ⟨x20, M21, hf22, hy⟩ := hy
    refine g_callV (rv := some (.int x20)) (h1 := (mH h0 a0 ad M21)) (pc' := 55) (As := [.int x10, .int x13]) (rest := []) 2 (T_Mod_appendCircuit ok (hy := hf22)) d_Mod_parseCircuit_52 (mH_look ok) rfl rfl q2167 q2169 qs48 q135 q2170 hd_Mod_appendCircuit rfl ⟨by decide, by decide⟩ (by first | exact Nat.le_of_ble_eq_true rfl | (simp only [List.map, List.sum_cons, List.sum_nil, g_cat_rf]; exact Nat.le_of_ble_eq_true rfl) | (simp only [List.map, List.sum_cons, List.sum_nil, g_cat_rf, Value.category]; decide)) rfl ?_
    refine g_istore_n (i := 3) (pc' := 56) (Lc' := [(3, .int x20), (2, .int x13), (1, .int x10), (0, .ref a0)]) d_Mod_parseCircuit_55 rfl (by decide) rfl rfl ?_
    refine g_aload_n 3 (i := 0) (pc' := 57) d_Mod_parseCircuit_56 rfl rfl rfl ?_
    refine g_iload_n 0 (i := 3) (pc' := 58) d_Mod_parseCircuit_57 rfl rfl rfl ?_
    replace hy := g_b_inv hy
    obtain ⟨M24, hf25, hy⟩ := hy
    refine g_callV (rv := none) (h1 := (mH h0 a0 ad M24)) (pc' := 61) (As := [.int x20]) (rest := []) 1 (T_Mod_parseWayNode ok (hy := hf25)) d_Mod_parseCircuit_58 (mH_look ok) rfl rfl q2175 q2177 qs50 q135 q2178 hd_Mod_parseWayNode rfl ⟨by decide, by decide⟩ (by first | exact Nat.le_of_ble_eq_true rfl | (simp only [List.map, List.sum_cons, List.sum_nil, g_cat_rf]; exact Nat.le_of_ble_eq_true rfl) | (simp only [List.map, List.sum_cons, List.sum_nil, g_cat_rf, Value.category]; decide)) rfl ?_
    refine g_aload_n 3 (i := 0) (pc' := 62) d_Mod_parseCircuit_61 rfl rfl rfl ?_
    replace hy := g_b_inv hy
    obtain ⟨x26, hf28, hy⟩ := hy
    refine g_callV (rv := some (.int x26)) (h1 := (mH h0 a0 ad M24)) (pc' := 65) (As := []) (rest := []) 0 (T_Mod_isFine ok (hy := hf28)) d_Mod_parseCircuit_62 (mH_look ok) rfl rfl q2096 q2098 qs34 q135 q2099 hd_Mod_isFine rfl ⟨by decide, by decide⟩ (by first | exact Nat.le_of_ble_eq_true rfl | (simp only [List.map, List.sum_cons, List.sum_nil, g_cat_rf]; exact Nat.le_of_ble_eq_true rfl) | (simp only [List.map, List.sum_cons, List.sum_nil, g_cat_rf, Value.category]; decide)) rfl ?_
    by_cases c29 : x26 = 0
    · rw [if_pos c29] at hy
      refine g_if_eqT (pc' := 73) d_Mod_parseCircuit_65 c29 (by decide) ?_
      refine g_sub [3, 0] rfl ?_
      exact W_Mod_parseCircuit_73 ok _ _ _ _ hy
    · rw [if_neg c29] at hy
      refine g_if_eqF (pc' := 68) d_Mod_parseCircuit_65 73 c29 (by decide) rfl ?_
      refine g_aload_n 3 (i := 0) (pc' := 69) d_Mod_parseCircuit_68 rfl rfl rfl ?_
      refine g_iload_n 0 (i := 3) (pc' := 70) d_Mod_parseCircuit_69 rfl rfl rfl ?_
      replace hy := g_b_inv hy
      obtain ⟨M39, hf40, hy⟩ := hy
      refine g_callV (rv := none) (h1 := (mH h0 a0 ad M39)) (pc' := 73) (As := [.int x20]) (rest := []) 1 (T_Mod_parseWayNode ok (hy := hf40)) d_Mod_parseCircuit_70 (mH_look ok) rfl rfl q2175 q2177 qs50 q135 q2178 hd_Mod_parseWayNode rfl ⟨by decide, by decide⟩ (by first | exact Nat.le_of_ble_eq_true rfl | (simp only [List.map, List.sum_cons, List.sum_nil, g_cat_rf]; exact Nat.le_of_ble_eq_true rfl) | (simp only [List.map, List.sum_cons, List.sum_nil, g_cat_rf, Value.category]; decide)) rfl ?_
      refine g_sub [3, 0] rfl ?_
      exact W_Mod_parseCircuit_73 ok _ _ _ _ hy
def Mod_parseCircuit (M : g_MD)  : Option g_MD :=
  g_mA M 0 0 (4 : Int32) fun x1 => if (8 : Int32) ≤ x1 then (Mod_parseCircuit_17  M (0 : Int32)) else (Mod_parseCircuit_17  M (1 : Int32))
set_option maxHeartbeats 4000000 in
set_option maxRecDepth 100000 in
theorem T_Mod_parseCircuit {l : Launch} {B : g_B} {h0 : g_AH} {a0 : Nat} {ad : Nat → Nat} (ok : mOK a0 ad) (M : g_MD)  (z : g_MD) (hy : Mod_parseCircuit M  = some z) : g_CT l B y_Mod_parseCircuit k_Mod_parseCircuit [.ref a0] (mH h0 a0 ad M) (.inl none) (mH h0 a0 ad z) := by
  refine g_start2 (Lc := [(0, .ref a0)]) (by decide) rfl rfl (by exact Nat.le_of_ble_eq_true rfl) (by rfl) fun X => ?_
  unfold Mod_parseCircuit at hy
  refine g_aload_n 0 (i := 0) (pc' := 1) d_Mod_parseCircuit_0 rfl rfl rfl ?_
  refine g_aload_n 0 (i := 0) (pc' := 2) d_Mod_parseCircuit_1 rfl rfl rfl ?_
  refine gm_getA ok 0 (pc' := 5) d_Mod_parseCircuit_2 rfl q1965 rfl rfl ?_
  refine g_iconst (v := (4 : Int32)) (pc' := 6) d_Mod_parseCircuit_5 (by decide) rfl ?_
  replace hy := g_mA_inv hy
  obtain ⟨x1, hc2, hy⟩ := hy
  refine gm_ald0 ok (pc' := 7) d_Mod_parseCircuit_6 hc2 rfl ?_
  refine g_bipush (v := (8 : Int32)) (pc' := 9) d_Mod_parseCircuit_7 (by decide) rfl ?_
  by_cases c3 : (8 : Int32) ≤ x1
  · rw [if_pos c3] at hy
    refine g_icmp_geT (pc' := 16) d_Mod_parseCircuit_9 c3 (by decide) ?_
    refine g_iconst (v := (0 : Int32)) (pc' := 17) d_Mod_parseCircuit_16 (by decide) rfl ?_
    exact W_Mod_parseCircuit_17 ok _ _ _ hy
  · rw [if_neg c3] at hy
    refine g_icmp_geF (pc' := 12) d_Mod_parseCircuit_9 16 c3 (by decide) rfl ?_
    refine g_iconst (v := (1 : Int32)) (pc' := 13) d_Mod_parseCircuit_12 (by decide) rfl ?_
    refine g_goto (pc' := 17) d_Mod_parseCircuit_13 (by decide) ?_
    exact W_Mod_parseCircuit_17 ok _ _ _ hy
theorem hd_Mod_parseCircuit : g_dsc y_Mod_parseCircuit 0 := ⟨by decide +kernel, by decide +kernel, by decide +kernel⟩
/-! CircuitDeskModel.errorCode()I -/
abbrev y_Mod_errorCode : MethodName := ⟨"CircuitDeskModel", "errorCode", "()I"⟩
abbrev k_Mod_errorCode : g_M := (prog_17_method_36_code, 1, "CircuitDeskModel", 12, (some FieldType.int), "errorCode", [], 0)
theorem d_Mod_errorCode_0 : decode prog_17_method_36_code 0 = .ok (.aload_n 0, 1) := by decide +kernel
theorem d_Mod_errorCode_1 : decode prog_17_method_36_code 1 = .ok (.iconst 0, 1) := by decide +kernel
theorem d_Mod_errorCode_2 : decode prog_17_method_36_code 2 = .ok (.putfield 51, 3) := by decide +kernel
theorem d_Mod_errorCode_5 : decode prog_17_method_36_code 5 = .ok (.aload_n 0, 1) := by decide +kernel
theorem d_Mod_errorCode_6 : decode prog_17_method_36_code 6 = .ok (.getfield 109, 3) := by decide +kernel
theorem d_Mod_errorCode_9 : decode prog_17_method_36_code 9 = .ok (.ireturn, 1) := by decide +kernel
def Mod_errorCode (M : g_MD)  : Option (Int32 × g_MD) :=
  g_let (mp M 7 (0 : Int32)) fun M1 => some ((M1.2.1 15), M1)
set_option maxHeartbeats 4000000 in
set_option maxRecDepth 100000 in
theorem T_Mod_errorCode {l : Launch} {B : g_B} {h0 : g_AH} {a0 : Nat} {ad : Nat → Nat} (ok : mOK a0 ad) (M : g_MD)  (z : Int32 × g_MD) (hy : Mod_errorCode M  = some z) : g_CT l B y_Mod_errorCode k_Mod_errorCode [.ref a0] (mH h0 a0 ad M) (.inl (some (.int z.1))) (mH h0 a0 ad z.2) := by
  refine g_start2 (Lc := [(0, .ref a0)]) (by decide) rfl rfl (by exact Nat.le_of_ble_eq_true rfl) (by rfl) fun X => ?_
  unfold Mod_errorCode at hy
  refine g_aload_n 0 (i := 0) (pc' := 1) d_Mod_errorCode_0 rfl rfl rfl ?_
  refine g_iconst (v := (0 : Int32)) (pc' := 2) d_Mod_errorCode_1 (by decide) rfl ?_
  replace hy := g_let_inv hy
  refine gm_put ok 7 (pc' := 5) d_Mod_errorCode_2 rfl (by decide) q1972 rfl ?_
  generalize (mp M 7 (0 : Int32)) = M1 at hy ⊢
  refine g_aload_n 0 (i := 0) (pc' := 6) d_Mod_errorCode_5 rfl rfl rfl ?_
  refine gm_getA ok 15 (pc' := 9) d_Mod_errorCode_6 rfl q1980 rfl rfl ?_
  cases hy
  exact g_iret rfl rfl rfl d_Mod_errorCode_9
theorem hd_Mod_errorCode : g_dsc y_Mod_errorCode 0 := ⟨by decide +kernel, by decide +kernel, by decide +kernel⟩
/-! CircuitDeskModel.errorPosition()I -/
abbrev y_Mod_errorPosition : MethodName := ⟨"CircuitDeskModel", "errorPosition", "()I"⟩
abbrev k_Mod_errorPosition : g_M := (prog_17_method_37_code, 1, "CircuitDeskModel", 12, (some FieldType.int), "errorPosition", [], 0)
theorem d_Mod_errorPosition_0 : decode prog_17_method_37_code 0 = .ok (.aload_n 0, 1) := by decide +kernel
theorem d_Mod_errorPosition_1 : decode prog_17_method_37_code 1 = .ok (.iconst 0, 1) := by decide +kernel
theorem d_Mod_errorPosition_2 : decode prog_17_method_37_code 2 = .ok (.putfield 51, 3) := by decide +kernel
theorem d_Mod_errorPosition_5 : decode prog_17_method_37_code 5 = .ok (.aload_n 0, 1) := by decide +kernel
theorem d_Mod_errorPosition_6 : decode prog_17_method_37_code 6 = .ok (.getfield 32, 3) := by decide +kernel
theorem d_Mod_errorPosition_9 : decode prog_17_method_37_code 9 = .ok (.ireturn, 1) := by decide +kernel
def Mod_errorPosition (M : g_MD)  : Option (Int32 × g_MD) :=
  g_let (mp M 7 (0 : Int32)) fun M1 => some ((M1.2.1 16), M1)
set_option maxHeartbeats 4000000 in
set_option maxRecDepth 100000 in
theorem T_Mod_errorPosition {l : Launch} {B : g_B} {h0 : g_AH} {a0 : Nat} {ad : Nat → Nat} (ok : mOK a0 ad) (M : g_MD)  (z : Int32 × g_MD) (hy : Mod_errorPosition M  = some z) : g_CT l B y_Mod_errorPosition k_Mod_errorPosition [.ref a0] (mH h0 a0 ad M) (.inl (some (.int z.1))) (mH h0 a0 ad z.2) := by
  refine g_start2 (Lc := [(0, .ref a0)]) (by decide) rfl rfl (by exact Nat.le_of_ble_eq_true rfl) (by rfl) fun X => ?_
  unfold Mod_errorPosition at hy
  refine g_aload_n 0 (i := 0) (pc' := 1) d_Mod_errorPosition_0 rfl rfl rfl ?_
  refine g_iconst (v := (0 : Int32)) (pc' := 2) d_Mod_errorPosition_1 (by decide) rfl ?_
  replace hy := g_let_inv hy
  refine gm_put ok 7 (pc' := 5) d_Mod_errorPosition_2 rfl (by decide) q1972 rfl ?_
  generalize (mp M 7 (0 : Int32)) = M1 at hy ⊢
  refine g_aload_n 0 (i := 0) (pc' := 6) d_Mod_errorPosition_5 rfl rfl rfl ?_
  refine gm_getA ok 16 (pc' := 9) d_Mod_errorPosition_6 rfl q1981 rfl rfl ?_
  cases hy
  exact g_iret rfl rfl rfl d_Mod_errorPosition_9
theorem hd_Mod_errorPosition : g_dsc y_Mod_errorPosition 0 := ⟨by decide +kernel, by decide +kernel, by decide +kernel⟩
/-! CircuitDeskModel.addNode(I)I -/
abbrev y_Mod_addNode : MethodName := ⟨"CircuitDeskModel", "addNode", "(I)I"⟩
abbrev k_Mod_addNode : g_M := (prog_17_method_39_code, 2, "CircuitDeskModel", 13, (some FieldType.int), "addNode", [], 0)
theorem d_Mod_addNode_0 : decode prog_17_method_39_code 0 = .ok (.aload_n 0, 1) := by decide +kernel
theorem d_Mod_addNode_1 : decode prog_17_method_39_code 1 = .ok (.iconst 0, 1) := by decide +kernel
theorem d_Mod_addNode_2 : decode prog_17_method_39_code 2 = .ok (.putfield 51, 3) := by decide +kernel
theorem d_Mod_addNode_5 : decode prog_17_method_39_code 5 = .ok (.iload_n 1, 1) := by decide +kernel
theorem d_Mod_addNode_6 : decode prog_17_method_39_code 6 = .ok (.iconst 1, 1) := by decide +kernel
theorem d_Mod_addNode_7 : decode prog_17_method_39_code 7 = .ok (.bipush 12, 2) := by decide +kernel
theorem d_Mod_addNode_9 : decode prog_17_method_39_code 9 = .ok (.invokestatic 54, 3) := by decide +kernel
theorem d_Mod_addNode_12 : decode prog_17_method_39_code 12 = .ok (.ifCond .ne 9, 3) := by decide +kernel
theorem d_Mod_addNode_15 : decode prog_17_method_39_code 15 = .ok (.aload_n 0, 1) := by decide +kernel
theorem d_Mod_addNode_16 : decode prog_17_method_39_code 16 = .ok (.iconst 1, 1) := by decide +kernel
theorem d_Mod_addNode_17 : decode prog_17_method_39_code 17 = .ok (.invokevirtual 61, 3) := by decide +kernel
theorem d_Mod_addNode_20 : decode prog_17_method_39_code 20 = .ok (.ireturn, 1) := by decide +kernel
theorem d_Mod_addNode_21 : decode prog_17_method_39_code 21 = .ok (.aload_n 0, 1) := by decide +kernel
theorem d_Mod_addNode_22 : decode prog_17_method_39_code 22 = .ok (.getfield 7, 3) := by decide +kernel
theorem d_Mod_addNode_25 : decode prog_17_method_39_code 25 = .ok (.iconst 2, 1) := by decide +kernel
theorem d_Mod_addNode_26 : decode prog_17_method_39_code 26 = .ok (.iaload, 1) := by decide +kernel
theorem d_Mod_addNode_27 : decode prog_17_method_39_code 27 = .ok (.bipush 10, 2) := by decide +kernel
theorem d_Mod_addNode_29 : decode prog_17_method_39_code 29 = .ok (.if_icmp .ne 11, 3) := by decide +kernel
theorem d_Mod_addNode_32 : decode prog_17_method_39_code 32 = .ok (.aload_n 0, 1) := by decide +kernel
theorem d_Mod_addNode_33 : decode prog_17_method_39_code 33 = .ok (.iconst 2, 1) := by decide +kernel
theorem d_Mod_addNode_34 : decode prog_17_method_39_code 34 = .ok (.invokevirtual 61, 3) := by decide +kernel
theorem d_Mod_addNode_37 : decode prog_17_method_39_code 37 = .ok (.goto 8, 3) := by decide +kernel
theorem d_Mod_addNode_40 : decode prog_17_method_39_code 40 = .ok (.aload_n 0, 1) := by decide +kernel
theorem d_Mod_addNode_41 : decode prog_17_method_39_code 41 = .ok (.iload_n 1, 1) := by decide +kernel
theorem d_Mod_addNode_42 : decode prog_17_method_39_code 42 = .ok (.invokevirtual 134, 3) := by decide +kernel
theorem d_Mod_addNode_45 : decode prog_17_method_39_code 45 = .ok (.ireturn, 1) := by decide +kernel
def Mod_addNode (M : g_MD) (p0 : Int32) : Option (Int32 × g_MD) :=
  g_let (mp M 7 (0 : Int32)) fun M1 => g_b (Mod_isBetween p0 (1 : Int32) (12 : Int32)) fun x2 => if x2 = 0 then (g_bM (Mod_fail M1 (1 : Int32)) fun x15 M16 => some (x15, M16)) else (g_mA M1 0 0 (2 : Int32) fun x6 => if x6 = (10 : Int32) then (g_bM (Mod_fail M1 (2 : Int32)) fun x12 M13 => some (x12, M13)) else (g_bM (Mod_appendNode M1 p0) fun x9 M10 => some (x9, M10)))
set_option maxHeartbeats 4000000 in
set_option maxRecDepth 100000 in
theorem T_Mod_addNode {l : Launch} {B : g_B} {h0 : g_AH} {a0 : Nat} {ad : Nat → Nat} (ok : mOK a0 ad) (M : g_MD) (p0 : Int32) (z : Int32 × g_MD) (hy : Mod_addNode M p0 = some z) : g_CT l B y_Mod_addNode k_Mod_addNode [.ref a0, .int p0] (mH h0 a0 ad M) (.inl (some (.int z.1))) (mH h0 a0 ad z.2) := by
  refine g_start2 (Lc := [(0, .ref a0), (1, .int p0)]) (by decide) rfl rfl (by exact Nat.le_of_ble_eq_true rfl) (by rfl) fun X => ?_
  unfold Mod_addNode at hy
  refine g_aload_n 0 (i := 0) (pc' := 1) d_Mod_addNode_0 rfl rfl rfl ?_
  refine g_iconst (v := (0 : Int32)) (pc' := 2) d_Mod_addNode_1 (by decide) rfl ?_
  replace hy := g_let_inv hy
  refine gm_put ok 7 (pc' := 5) d_Mod_addNode_2 rfl (by decide) q1972 rfl ?_
  generalize (mp M 7 (0 : Int32)) = M1 at hy ⊢
  refine g_iload_n 1 (i := 1) (pc' := 6) d_Mod_addNode_5 rfl rfl rfl ?_
  refine g_iconst (v := (1 : Int32)) (pc' := 7) d_Mod_addNode_6 (by decide) rfl ?_
  refine g_bipush (v := (12 : Int32)) (pc' := 9) d_Mod_addNode_7 (by decide) rfl ?_
  replace hy := g_b_inv hy
  obtain ⟨x2, hf4, hy⟩ := hy
  refine g_callS (rv := some (.int x2)) (h1 := (mH h0 a0 ad M1)) (pc' := 12) (As := [.int p0, .int (1 : Int32), .int (12 : Int32)]) (rest := []) 3 (T_Mod_isBetween (hy := hf4)) d_Mod_addNode_9 q2069 q2070 q135 q2071 hd_Mod_isBetween rfl ⟨by decide, by decide⟩ (by first | exact Nat.le_of_ble_eq_true rfl | (simp only [List.map, List.sum_cons, List.sum_nil, g_cat_rf]; exact Nat.le_of_ble_eq_true rfl) | (simp only [List.map, List.sum_cons, List.sum_nil, g_cat_rf, Value.category]; decide)) rfl ?_
  by_cases c5 : x2 = 0
  · rw [if_pos c5] at hy
    refine g_if_neF (pc' := 15) d_Mod_addNode_12 21 c5 (by decide) rfl ?_
    refine g_aload_n 0 (i := 0) (pc' := 16) d_Mod_addNode_15 rfl rfl rfl ?_
    refine g_iconst (v := (1 : Int32)) (pc' := 17) d_Mod_addNode_16 (by decide) rfl ?_
    replace hy := g_bM_inv hy
    obtain ⟨x15, M16, hf17, hy⟩ := hy
    refine g_callV (rv := some (.int x15)) (h1 := (mH h0 a0 ad M16)) (pc' := 20) (As := [.int (1 : Int32)]) (rest := []) 1 (T_Mod_fail ok (hy := hf17)) d_Mod_addNode_17 (mH_look ok) rfl rfl q2061 q2063 qs31 q135 q2064 hd_Mod_fail rfl ⟨by decide, by decide⟩ (by first | exact Nat.le_of_ble_eq_true rfl | (simp only [List.map, List.sum_cons, List.sum_nil, g_cat_rf]; exact Nat.le_of_ble_eq_true rfl) | (simp only [List.map, List.sum_cons, List.sum_nil, g_cat_rf, Value.category]; decide)) rfl ?_
    cases hy
    exact g_iret rfl rfl rfl d_Mod_addNode_20
  · rw [if_neg c5] at hy
    refine g_if_neT (pc' := 21) d_Mod_addNode_12 c5 (by decide) ?_
    refine g_aload_n 0 (i := 0) (pc' := 22) d_Mod_addNode_21 rfl rfl rfl ?_
    refine gm_getA ok 0 (pc' := 25) d_Mod_addNode_22 rfl q1965 rfl rfl ?_
    refine g_iconst (v := (2 : Int32)) (pc' := 26) d_Mod_addNode_25 (by decide) rfl ?_
    replace hy := g_mA_inv hy
    obtain ⟨x6, hc7, hy⟩ := hy
    refine gm_ald0 ok (pc' := 27) d_Mod_addNode_26 hc7 rfl ?_
    refine g_bipush (v := (10 : Int32)) (pc' := 29) d_Mod_addNode_27 (by decide) rfl ?_
    by_cases c8 : x6 = (10 : Int32)
    · rw [if_pos c8] at hy
      refine g_icmp_neF (pc' := 32) d_Mod_addNode_29 40 c8 (by decide) rfl ?_
      refine g_aload_n 0 (i := 0) (pc' := 33) d_Mod_addNode_32 rfl rfl rfl ?_
      refine g_iconst (v := (2 : Int32)) (pc' := 34) d_Mod_addNode_33 (by decide) rfl ?_
      replace hy := g_bM_inv hy
      obtain ⟨x12, M13, hf14, hy⟩ := hy
      refine g_callV (rv := some (.int x12)) (h1 := (mH h0 a0 ad M13)) (pc' := 37) (As := [.int (2 : Int32)]) (rest := []) 1 (T_Mod_fail ok (hy := hf14)) d_Mod_addNode_34 (mH_look ok) rfl rfl q2061 q2063 qs31 q135 q2064 hd_Mod_fail rfl ⟨by decide, by decide⟩ (by first | exact Nat.le_of_ble_eq_true rfl | (simp only [List.map, List.sum_cons, List.sum_nil, g_cat_rf]; exact Nat.le_of_ble_eq_true rfl) | (simp only [List.map, List.sum_cons, List.sum_nil, g_cat_rf, Value.category]; decide)) rfl ?_
      refine g_goto (pc' := 45) d_Mod_addNode_37 (by decide) ?_
      cases hy
      exact g_iret rfl rfl rfl d_Mod_addNode_45
    · rw [if_neg c8] at hy
      refine g_icmp_neT (pc' := 40) d_Mod_addNode_29 c8 (by decide) ?_
      refine g_aload_n 0 (i := 0) (pc' := 41) d_Mod_addNode_40 rfl rfl rfl ?_
      refine g_iload_n 1 (i := 1) (pc' := 42) d_Mod_addNode_41 rfl rfl rfl ?_
      replace hy := g_bM_inv hy
      obtain ⟨x9, M10, hf11, hy⟩ := hy
      refine g_callV (rv := some (.int x9)) (h1 := (mH h0 a0 ad M10)) (pc' := 45) (As := [.int p0]) (rest := []) 1 (T_Mod_appendNode ok (hy := hf11)) d_Mod_addNode_42 (mH_look ok) rfl rfl q2141 q2143 qs42 q135 q2144 hd_Mod_appendNode rfl ⟨by decide, by decide⟩ (by first | exact Nat.le_of_ble_eq_true rfl | (simp only [List.map, List.sum_cons, List.sum_nil, g_cat_rf]; exact Nat.le_of_ble_eq_true rfl) | (simp only [List.map, List.sum_cons, List.sum_nil, g_cat_rf, Value.category]; decide)) rfl ?_
      cases hy
      exact g_iret rfl rfl rfl d_Mod_addNode_45
theorem hd_Mod_addNode : g_dsc y_Mod_addNode 1 := ⟨by decide +kernel, by decide +kernel, by decide +kernel⟩
/-! CircuitDeskModel.isNode(I)Z -/
abbrev y_Mod_isNode : MethodName := ⟨"CircuitDeskModel", "isNode", "(I)Z"⟩
abbrev k_Mod_isNode : g_M := (prog_17_method_7_code, 2, "CircuitDeskModel", 13, (some FieldType.boolean), "isNode", [], 0)
theorem d_Mod_isNode_0 : decode prog_17_method_7_code 0 = .ok (.iload_n 1, 1) := by decide +kernel
theorem d_Mod_isNode_1 : decode prog_17_method_7_code 1 = .ok (.iconst 0, 1) := by decide +kernel
theorem d_Mod_isNode_2 : decode prog_17_method_7_code 2 = .ok (.aload_n 0, 1) := by decide +kernel
theorem d_Mod_isNode_3 : decode prog_17_method_7_code 3 = .ok (.getfield 7, 3) := by decide +kernel
theorem d_Mod_isNode_6 : decode prog_17_method_7_code 6 = .ok (.iconst 2, 1) := by decide +kernel
theorem d_Mod_isNode_7 : decode prog_17_method_7_code 7 = .ok (.iaload, 1) := by decide +kernel
theorem d_Mod_isNode_8 : decode prog_17_method_7_code 8 = .ok (.iconst 1, 1) := by decide +kernel
theorem d_Mod_isNode_9 : decode prog_17_method_7_code 9 = .ok (.isub, 1) := by decide +kernel
theorem d_Mod_isNode_10 : decode prog_17_method_7_code 10 = .ok (.invokestatic 54, 3) := by decide +kernel
theorem d_Mod_isNode_13 : decode prog_17_method_7_code 13 = .ok (.ireturn, 1) := by decide +kernel
def Mod_isNode (M : g_MD) (p0 : Int32) : Option (Int32) :=
  g_mA M 0 0 (2 : Int32) fun x1 => g_b (Mod_isBetween p0 (0 : Int32) (x1 - (1 : Int32))) fun x3 => g_rq (x3 = 0 ∨ x3 = 1) <| some x3
set_option maxHeartbeats 4000000 in
set_option maxRecDepth 100000 in
theorem T_Mod_isNode {l : Launch} {B : g_B} {h0 : g_AH} {a0 : Nat} {ad : Nat → Nat} (ok : mOK a0 ad) (M : g_MD) (p0 : Int32) (z : Int32) (hy : Mod_isNode M p0 = some z) : g_CT l B y_Mod_isNode k_Mod_isNode [.ref a0, .int p0] (mH h0 a0 ad M) (.inl (some (.int z))) (mH h0 a0 ad M) := by
  refine g_start2 (Lc := [(0, .ref a0), (1, .int p0)]) (by decide) rfl rfl (by exact Nat.le_of_ble_eq_true rfl) (by rfl) fun X => ?_
  unfold Mod_isNode at hy
  refine g_iload_n 1 (i := 1) (pc' := 1) d_Mod_isNode_0 rfl rfl rfl ?_
  refine g_iconst (v := (0 : Int32)) (pc' := 2) d_Mod_isNode_1 (by decide) rfl ?_
  refine g_aload_n 0 (i := 0) (pc' := 3) d_Mod_isNode_2 rfl rfl rfl ?_
  refine gm_getA ok 0 (pc' := 6) d_Mod_isNode_3 rfl q1965 rfl rfl ?_
  refine g_iconst (v := (2 : Int32)) (pc' := 7) d_Mod_isNode_6 (by decide) rfl ?_
  replace hy := g_mA_inv hy
  obtain ⟨x1, hc2, hy⟩ := hy
  refine gm_ald0 ok (pc' := 8) d_Mod_isNode_7 hc2 rfl ?_
  refine g_iconst (v := (1 : Int32)) (pc' := 9) d_Mod_isNode_8 (by decide) rfl ?_
  refine g_isub (pc' := 10) d_Mod_isNode_9 rfl ?_
  replace hy := g_b_inv hy
  obtain ⟨x3, hf5, hy⟩ := hy
  refine g_callS (rv := some (.int x3)) (h1 := (mH h0 a0 ad M)) (pc' := 13) (As := [.int p0, .int (0 : Int32), .int (x1 - (1 : Int32))]) (rest := []) 3 (T_Mod_isBetween (hy := hf5)) d_Mod_isNode_10 q2069 q2070 q135 q2071 hd_Mod_isBetween rfl ⟨by decide, by decide⟩ (by first | exact Nat.le_of_ble_eq_true rfl | (simp only [List.map, List.sum_cons, List.sum_nil, g_cat_rf]; exact Nat.le_of_ble_eq_true rfl) | (simp only [List.map, List.sum_cons, List.sum_nil, g_cat_rf, Value.category]; decide)) rfl ?_
  replace hy := g_rq_inv hy
  obtain ⟨c6, hy⟩ := hy
  cases hy
  exact g_zret rfl rfl rfl (g_nar_z c6).1 d_Mod_isNode_13
theorem hd_Mod_isNode : g_dsc y_Mod_isNode 1 := ⟨by decide +kernel, by decide +kernel, by decide +kernel⟩
/-! CircuitDeskModel.addLink(IIII)I -/
abbrev y_Mod_addLink : MethodName := ⟨"CircuitDeskModel", "addLink", "(IIII)I"⟩
abbrev k_Mod_addLink : g_M := (prog_17_method_42_code, 5, "CircuitDeskModel", 14, (some FieldType.int), "addLink", [], 0)
theorem d_Mod_addLink_0 : decode prog_17_method_42_code 0 = .ok (.aload_n 0, 1) := by decide +kernel
theorem d_Mod_addLink_1 : decode prog_17_method_42_code 1 = .ok (.iconst 0, 1) := by decide +kernel
theorem d_Mod_addLink_2 : decode prog_17_method_42_code 2 = .ok (.putfield 51, 3) := by decide +kernel
theorem d_Mod_addLink_5 : decode prog_17_method_42_code 5 = .ok (.aload_n 0, 1) := by decide +kernel
theorem d_Mod_addLink_6 : decode prog_17_method_42_code 6 = .ok (.iload_n 1, 1) := by decide +kernel
theorem d_Mod_addLink_7 : decode prog_17_method_42_code 7 = .ok (.invokevirtual 204, 3) := by decide +kernel
theorem d_Mod_addLink_10 : decode prog_17_method_42_code 10 = .ok (.ifCond .eq 11, 3) := by decide +kernel
theorem d_Mod_addLink_13 : decode prog_17_method_42_code 13 = .ok (.aload_n 0, 1) := by decide +kernel
theorem d_Mod_addLink_14 : decode prog_17_method_42_code 14 = .ok (.iload_n 2, 1) := by decide +kernel
theorem d_Mod_addLink_15 : decode prog_17_method_42_code 15 = .ok (.invokevirtual 204, 3) := by decide +kernel
theorem d_Mod_addLink_18 : decode prog_17_method_42_code 18 = .ok (.ifCond .ne 9, 3) := by decide +kernel
theorem d_Mod_addLink_21 : decode prog_17_method_42_code 21 = .ok (.aload_n 0, 1) := by decide +kernel
theorem d_Mod_addLink_22 : decode prog_17_method_42_code 22 = .ok (.iconst 1, 1) := by decide +kernel
theorem d_Mod_addLink_23 : decode prog_17_method_42_code 23 = .ok (.invokevirtual 61, 3) := by decide +kernel
theorem d_Mod_addLink_26 : decode prog_17_method_42_code 26 = .ok (.ireturn, 1) := by decide +kernel
theorem d_Mod_addLink_27 : decode prog_17_method_42_code 27 = .ok (.iload_n 1, 1) := by decide +kernel
theorem d_Mod_addLink_28 : decode prog_17_method_42_code 28 = .ok (.iload_n 2, 1) := by decide +kernel
theorem d_Mod_addLink_29 : decode prog_17_method_42_code 29 = .ok (.if_icmp .eq 24, 3) := by decide +kernel
theorem d_Mod_addLink_32 : decode prog_17_method_42_code 32 = .ok (.iload_n 3, 1) := by decide +kernel
theorem d_Mod_addLink_33 : decode prog_17_method_42_code 33 = .ok (.iconst 1, 1) := by decide +kernel
theorem d_Mod_addLink_34 : decode prog_17_method_42_code 34 = .ok (.bipush 99, 2) := by decide +kernel
theorem d_Mod_addLink_36 : decode prog_17_method_42_code 36 = .ok (.invokestatic 54, 3) := by decide +kernel
theorem d_Mod_addLink_39 : decode prog_17_method_42_code 39 = .ok (.ifCond .eq 14, 3) := by decide +kernel
theorem d_Mod_addLink_42 : decode prog_17_method_42_code 42 = .ok (.iload 4, 2) := by decide +kernel
theorem d_Mod_addLink_44 : decode prog_17_method_42_code 44 = .ok (.iconst 1, 1) := by decide +kernel
theorem d_Mod_addLink_45 : decode prog_17_method_42_code 45 = .ok (.bipush 9, 2) := by decide +kernel
theorem d_Mod_addLink_47 : decode prog_17_method_42_code 47 = .ok (.invokestatic 54, 3) := by decide +kernel
theorem d_Mod_addLink_50 : decode prog_17_method_42_code 50 = .ok (.ifCond .ne 9, 3) := by decide +kernel
theorem d_Mod_addLink_53 : decode prog_17_method_42_code 53 = .ok (.aload_n 0, 1) := by decide +kernel
theorem d_Mod_addLink_54 : decode prog_17_method_42_code 54 = .ok (.iconst 2, 1) := by decide +kernel
theorem d_Mod_addLink_55 : decode prog_17_method_42_code 55 = .ok (.invokevirtual 61, 3) := by decide +kernel
theorem d_Mod_addLink_58 : decode prog_17_method_42_code 58 = .ok (.ireturn, 1) := by decide +kernel
theorem d_Mod_addLink_59 : decode prog_17_method_42_code 59 = .ok (.aload_n 0, 1) := by decide +kernel
theorem d_Mod_addLink_60 : decode prog_17_method_42_code 60 = .ok (.iload_n 1, 1) := by decide +kernel
theorem d_Mod_addLink_61 : decode prog_17_method_42_code 61 = .ok (.iload_n 2, 1) := by decide +kernel
theorem d_Mod_addLink_62 : decode prog_17_method_42_code 62 = .ok (.invokevirtual 137, 3) := by decide +kernel
theorem d_Mod_addLink_65 : decode prog_17_method_42_code 65 = .ok (.iconst (-1), 1) := by decide +kernel
theorem d_Mod_addLink_66 : decode prog_17_method_42_code 66 = .ok (.if_icmp .ne 14, 3) := by decide +kernel
theorem d_Mod_addLink_69 : decode prog_17_method_42_code 69 = .ok (.aload_n 0, 1) := by decide +kernel
theorem d_Mod_addLink_70 : decode prog_17_method_42_code 70 = .ok (.getfield 7, 3) := by decide +kernel
theorem d_Mod_addLink_73 : decode prog_17_method_42_code 73 = .ok (.iconst 3, 1) := by decide +kernel
theorem d_Mod_addLink_74 : decode prog_17_method_42_code 74 = .ok (.iaload, 1) := by decide +kernel
theorem d_Mod_addLink_75 : decode prog_17_method_42_code 75 = .ok (.bipush 16, 2) := by decide +kernel
theorem d_Mod_addLink_77 : decode prog_17_method_42_code 77 = .ok (.if_icmp .ne 11, 3) := by decide +kernel
theorem d_Mod_addLink_80 : decode prog_17_method_42_code 80 = .ok (.aload_n 0, 1) := by decide +kernel
theorem d_Mod_addLink_81 : decode prog_17_method_42_code 81 = .ok (.iconst 3, 1) := by decide +kernel
theorem d_Mod_addLink_82 : decode prog_17_method_42_code 82 = .ok (.invokevirtual 61, 3) := by decide +kernel
theorem d_Mod_addLink_85 : decode prog_17_method_42_code 85 = .ok (.goto 12, 3) := by decide +kernel
theorem d_Mod_addLink_88 : decode prog_17_method_42_code 88 = .ok (.aload_n 0, 1) := by decide +kernel
theorem d_Mod_addLink_89 : decode prog_17_method_42_code 89 = .ok (.iload_n 1, 1) := by decide +kernel
theorem d_Mod_addLink_90 : decode prog_17_method_42_code 90 = .ok (.iload_n 2, 1) := by decide +kernel
theorem d_Mod_addLink_91 : decode prog_17_method_42_code 91 = .ok (.iload_n 3, 1) := by decide +kernel
theorem d_Mod_addLink_92 : decode prog_17_method_42_code 92 = .ok (.iload 4, 2) := by decide +kernel
theorem d_Mod_addLink_94 : decode prog_17_method_42_code 94 = .ok (.invokevirtual 140, 3) := by decide +kernel
theorem d_Mod_addLink_97 : decode prog_17_method_42_code 97 = .ok (.ireturn, 1) := by decide +kernel
def Mod_addLink_21 (M : g_MD) : Option (Int32 × g_MD) :=
  g_bM (Mod_fail M (1 : Int32)) fun x6 M7 => some (x6, M7)
set_option maxHeartbeats 4000000 in
set_option maxRecDepth 100000 in
theorem W_Mod_addLink_21 {X : g_X} {h0 : g_AH} {a0 : Nat} {ad : Nat → Nat} (ok : mOK a0 ad) (z : Int32 × g_MD) (M : g_MD) (hy : Mod_addLink_21  M = some z) : G X k_Mod_addLink (.inl (some (.int z.1))) (mH h0 a0 ad z.2) (mH h0 a0 ad M) 21 [(0, .ref a0)] [] := by
  unfold Mod_addLink_21 at hy
  refine g_aload_n 0 (i := 0) (pc' := 22) d_Mod_addLink_21 rfl rfl rfl ?_
  refine g_iconst (v := (1 : Int32)) (pc' := 23) d_Mod_addLink_22 (by decide) rfl ?_
  replace hy := g_bM_inv hy
  obtain ⟨x6, M7, hf8, hy⟩ := hy
  refine g_callV (rv := some (.int x6)) (h1 := (mH h0 a0 ad M7)) (pc' := 26) (As := [.int (1 : Int32)]) (rest := []) 1 (T_Mod_fail ok (hy := hf8)) d_Mod_addLink_23 (mH_look ok) rfl rfl q2061 q2063 qs31 q135 q2064 hd_Mod_fail rfl ⟨by decide, by decide⟩ (by first | exact Nat.le_of_ble_eq_true rfl | (simp only [List.map, List.sum_cons, List.sum_nil, g_cat_rf]; exact Nat.le_of_ble_eq_true rfl) | (simp only [List.map, List.sum_cons, List.sum_nil, g_cat_rf, Value.category]; decide)) rfl ?_
  cases hy
  exact g_iret rfl rfl rfl d_Mod_addLink_26
def Mod_addLink_53 (M : g_MD) : Option (Int32 × g_MD) :=
  g_bM (Mod_fail M (2 : Int32)) fun x14 M15 => some (x14, M15)
set_option maxHeartbeats 4000000 in
set_option maxRecDepth 100000 in
theorem W_Mod_addLink_53 {X : g_X} {h0 : g_AH} {a0 : Nat} {ad : Nat → Nat} (ok : mOK a0 ad) (z : Int32 × g_MD) (M : g_MD) (hy : Mod_addLink_53  M = some z) : G X k_Mod_addLink (.inl (some (.int z.1))) (mH h0 a0 ad z.2) (mH h0 a0 ad M) 53 [(0, .ref a0)] [] := by
  unfold Mod_addLink_53 at hy
  refine g_aload_n 0 (i := 0) (pc' := 54) d_Mod_addLink_53 rfl rfl rfl ?_
  refine g_iconst (v := (2 : Int32)) (pc' := 55) d_Mod_addLink_54 (by decide) rfl ?_
  replace hy := g_bM_inv hy
  obtain ⟨x14, M15, hf16, hy⟩ := hy
  refine g_callV (rv := some (.int x14)) (h1 := (mH h0 a0 ad M15)) (pc' := 58) (As := [.int (2 : Int32)]) (rest := []) 1 (T_Mod_fail ok (hy := hf16)) d_Mod_addLink_55 (mH_look ok) rfl rfl q2061 q2063 qs31 q135 q2064 hd_Mod_fail rfl ⟨by decide, by decide⟩ (by first | exact Nat.le_of_ble_eq_true rfl | (simp only [List.map, List.sum_cons, List.sum_nil, g_cat_rf]; exact Nat.le_of_ble_eq_true rfl) | (simp only [List.map, List.sum_cons, List.sum_nil, g_cat_rf, Value.category]; decide)) rfl ?_
  cases hy
  exact g_iret rfl rfl rfl d_Mod_addLink_58
def Mod_addLink_80 (M : g_MD) : Option (Int32 × g_MD) :=
  g_bM (Mod_fail M (3 : Int32)) fun x29 M30 => some (x29, M30)
set_option maxHeartbeats 4000000 in
set_option maxRecDepth 100000 in
theorem W_Mod_addLink_80 {X : g_X} {h0 : g_AH} {a0 : Nat} {ad : Nat → Nat} (ok : mOK a0 ad) (z : Int32 × g_MD) (M : g_MD) (hy : Mod_addLink_80  M = some z) : G X k_Mod_addLink (.inl (some (.int z.1))) (mH h0 a0 ad z.2) (mH h0 a0 ad M) 80 [(0, .ref a0)] [] := by
  unfold Mod_addLink_80 at hy
  refine g_aload_n 0 (i := 0) (pc' := 81) d_Mod_addLink_80 rfl rfl rfl ?_
  refine g_iconst (v := (3 : Int32)) (pc' := 82) d_Mod_addLink_81 (by decide) rfl ?_
  replace hy := g_bM_inv hy
  obtain ⟨x29, M30, hf31, hy⟩ := hy
  refine g_callV (rv := some (.int x29)) (h1 := (mH h0 a0 ad M30)) (pc' := 85) (As := [.int (3 : Int32)]) (rest := []) 1 (T_Mod_fail ok (hy := hf31)) d_Mod_addLink_82 (mH_look ok) rfl rfl q2061 q2063 qs31 q135 q2064 hd_Mod_fail rfl ⟨by decide, by decide⟩ (by first | exact Nat.le_of_ble_eq_true rfl | (simp only [List.map, List.sum_cons, List.sum_nil, g_cat_rf]; exact Nat.le_of_ble_eq_true rfl) | (simp only [List.map, List.sum_cons, List.sum_nil, g_cat_rf, Value.category]; decide)) rfl ?_
  refine g_goto (pc' := 97) d_Mod_addLink_85 (by decide) ?_
  cases hy
  exact g_iret rfl rfl rfl d_Mod_addLink_97
def Mod_addLink (M : g_MD) (p0 : Int32) (p1 : Int32) (p2 : Int32) (p3 : Int32) : Option (Int32 × g_MD) :=
  g_let (mp M 7 (0 : Int32)) fun M1 => g_b (Mod_isNode M1 p0) fun x2 => if x2 = 0 then (Mod_addLink_21  M1) else (g_b (Mod_isNode M1 p1) fun x9 => if x9 = 0 then (Mod_addLink_21  M1) else (if p0 = p1 then (Mod_addLink_53  M1) else (g_b (Mod_isBetween p2 (1 : Int32) (99 : Int32)) fun x17 => if x17 = 0 then (Mod_addLink_53  M1) else (g_b (Mod_isBetween p3 (1 : Int32) (9 : Int32)) fun x21 => if x21 = 0 then (Mod_addLink_53  M1) else (g_b (Mod_linkOf M1 p0 p1) fun x25 => if x25 = (-1 : Int32) then (g_mA M1 0 0 (3 : Int32) fun x32 => if x32 = (16 : Int32) then (Mod_addLink_80  M1) else (g_bM (Mod_appendLink M1 p0 p1 p2 p3) fun x35 M36 => some (x35, M36))) else (Mod_addLink_80  M1))))))
set_option maxHeartbeats 4000000 in
set_option maxRecDepth 100000 in
theorem T_Mod_addLink {l : Launch} {B : g_B} {h0 : g_AH} {a0 : Nat} {ad : Nat → Nat} (ok : mOK a0 ad) (M : g_MD) (p0 : Int32) (p1 : Int32) (p2 : Int32) (p3 : Int32) (z : Int32 × g_MD) (hy : Mod_addLink M p0 p1 p2 p3 = some z) : g_CT l B y_Mod_addLink k_Mod_addLink [.ref a0, .int p0, .int p1, .int p2, .int p3] (mH h0 a0 ad M) (.inl (some (.int z.1))) (mH h0 a0 ad z.2) := by
  refine g_start2 (Lc := [(0, .ref a0), (1, .int p0), (2, .int p1), (3, .int p2), (4, .int p3)]) (by decide) rfl rfl (by exact Nat.le_of_ble_eq_true rfl) (by rfl) fun X => ?_
  unfold Mod_addLink at hy
  refine g_aload_n 0 (i := 0) (pc' := 1) d_Mod_addLink_0 rfl rfl rfl ?_
  refine g_iconst (v := (0 : Int32)) (pc' := 2) d_Mod_addLink_1 (by decide) rfl ?_
  replace hy := g_let_inv hy
  refine gm_put ok 7 (pc' := 5) d_Mod_addLink_2 rfl (by decide) q1972 rfl ?_
  generalize (mp M 7 (0 : Int32)) = M1 at hy ⊢
  refine g_aload_n 0 (i := 0) (pc' := 6) d_Mod_addLink_5 rfl rfl rfl ?_
  refine g_iload_n 1 (i := 1) (pc' := 7) d_Mod_addLink_6 rfl rfl rfl ?_
  replace hy := g_b_inv hy
  obtain ⟨x2, hf4, hy⟩ := hy
  refine g_callV (rv := some (.int x2)) (h1 := (mH h0 a0 ad M1)) (pc' := 10) (As := [.int p0]) (rest := []) 1 (T_Mod_isNode ok (hy := hf4)) d_Mod_addLink_7 (mH_look ok) rfl rfl q2251 q2253 qs64 q135 q2254 hd_Mod_isNode rfl ⟨by decide, by decide⟩ (by first | exact Nat.le_of_ble_eq_true rfl | (simp only [List.map, List.sum_cons, List.sum_nil, g_cat_rf]; exact Nat.le_of_ble_eq_true rfl) | (simp only [List.map, List.sum_cons, List.sum_nil, g_cat_rf, Value.category]; decide)) rfl ?_
  by_cases c5 : x2 = 0
  · rw [if_pos c5] at hy
    refine g_if_eqT (pc' := 21) d_Mod_addLink_10 c5 (by decide) ?_
    refine g_sub [0] rfl ?_
    exact W_Mod_addLink_21 ok _ _ hy
  · rw [if_neg c5] at hy
    refine g_if_eqF (pc' := 13) d_Mod_addLink_10 21 c5 (by decide) rfl ?_
    refine g_aload_n 0 (i := 0) (pc' := 14) d_Mod_addLink_13 rfl rfl rfl ?_
    refine g_iload_n 2 (i := 2) (pc' := 15) d_Mod_addLink_14 rfl rfl rfl ?_
    replace hy := g_b_inv hy
    obtain ⟨x9, hf11, hy⟩ := hy
    refine g_callV (rv := some (.int x9)) (h1 := (mH h0 a0 ad M1)) (pc' := 18) (As := [.int p1]) (rest := []) 1 (T_Mod_isNode ok (hy := hf11)) d_Mod_addLink_15 (mH_look ok) rfl rfl q2251 q2253 qs64 q135 q2254 hd_Mod_isNode rfl ⟨by decide, by decide⟩ (by first | exact Nat.le_of_ble_eq_true rfl | (simp only [List.map, List.sum_cons, List.sum_nil, g_cat_rf]; exact Nat.le_of_ble_eq_true rfl) | (simp only [List.map, List.sum_cons, List.sum_nil, g_cat_rf, Value.category]; decide)) rfl ?_
    by_cases c12 : x9 = 0
    · rw [if_pos c12] at hy
      refine g_if_neF (pc' := 21) d_Mod_addLink_18 27 c12 (by decide) rfl ?_
      refine g_sub [0] rfl ?_
      exact W_Mod_addLink_21 ok _ _ hy
    · rw [if_neg c12] at hy
      refine g_if_neT (pc' := 27) d_Mod_addLink_18 c12 (by decide) ?_
      refine g_iload_n 1 (i := 1) (pc' := 28) d_Mod_addLink_27 rfl rfl rfl ?_
      refine g_iload_n 2 (i := 2) (pc' := 29) d_Mod_addLink_28 rfl rfl rfl ?_
      by_cases c13 : p0 = p1
      · rw [if_pos c13] at hy
        refine g_icmp_eqT (pc' := 53) d_Mod_addLink_29 c13 (by decide) ?_
        refine g_sub [0] rfl ?_
        exact W_Mod_addLink_53 ok _ _ hy
      · rw [if_neg c13] at hy
        refine g_icmp_eqF (pc' := 32) d_Mod_addLink_29 53 c13 (by decide) rfl ?_
        refine g_iload_n 3 (i := 3) (pc' := 33) d_Mod_addLink_32 rfl rfl rfl ?_
        refine g_iconst (v := (1 : Int32)) (pc' := 34) d_Mod_addLink_33 (by decide) rfl ?_
        refine g_bipush (v := (99 : Int32)) (pc' := 36) d_Mod_addLink_34 (by decide) rfl ?_
        replace hy := g_b_inv hy
        obtain ⟨x17, hf19, hy⟩ := hy
        refine g_callS (rv := some (.int x17)) (h1 := (mH h0 a0 ad M1)) (pc' := 39) (As := [.int p2, .int (1 : Int32), .int (99 : Int32)]) (rest := []) 3 (T_Mod_isBetween (hy := hf19)) d_Mod_addLink_36 q2069 q2070 q135 q2071 hd_Mod_isBetween rfl ⟨by decide, by decide⟩ (by first | exact Nat.le_of_ble_eq_true rfl | (simp only [List.map, List.sum_cons, List.sum_nil, g_cat_rf]; exact Nat.le_of_ble_eq_true rfl) | (simp only [List.map, List.sum_cons, List.sum_nil, g_cat_rf, Value.category]; decide)) rfl ?_
        by_cases c20 : x17 = 0
        · rw [if_pos c20] at hy
          refine g_if_eqT (pc' := 53) d_Mod_addLink_39 c20 (by decide) ?_
          refine g_sub [0] rfl ?_
          exact W_Mod_addLink_53 ok _ _ hy
        · rw [if_neg c20] at hy
          refine g_if_eqF (pc' := 42) d_Mod_addLink_39 53 c20 (by decide) rfl ?_
          refine g_iload 4 (pc' := 44) d_Mod_addLink_42 rfl rfl ?_
          refine g_iconst (v := (1 : Int32)) (pc' := 45) d_Mod_addLink_44 (by decide) rfl ?_
          refine g_bipush (v := (9 : Int32)) (pc' := 47) d_Mod_addLink_45 (by decide) rfl ?_
          replace hy := g_b_inv hy
          obtain ⟨x21, hf23, hy⟩ := hy
          refine g_callS (rv := some (.int x21)) (h1 := (mH h0 a0 ad M1)) (pc' := 50) (As := [.int p3, .int (1 : Int32), .int (9 : Int32)]) (rest := []) 3 (T_Mod_isBetween (hy := hf23)) d_Mod_addLink_47 q2069 q2070 q135 q2071 hd_Mod_isBetween rfl ⟨by decide, by decide⟩ (by first | exact Nat.le_of_ble_eq_true rfl | (simp only [List.map, List.sum_cons, List.sum_nil, g_cat_rf]; exact Nat.le_of_ble_eq_true rfl) | (simp only [List.map, List.sum_cons, List.sum_nil, g_cat_rf, Value.category]; decide)) rfl ?_
          by_cases c24 : x21 = 0
          · rw [if_pos c24] at hy
            refine g_if_neF (pc' := 53) d_Mod_addLink_50 59 c24 (by decide) rfl ?_
            refine g_sub [0] rfl ?_
            exact W_Mod_addLink_53 ok _ _ hy
          · rw [if_neg c24] at hy
            refine g_if_neT (pc' := 59) d_Mod_addLink_50 c24 (by decide) ?_
            refine g_aload_n 0 (i := 0) (pc' := 60) d_Mod_addLink_59 rfl rfl rfl ?_
            refine g_iload_n 1 (i := 1) (pc' := 61) d_Mod_addLink_60 rfl rfl rfl ?_
            refine g_iload_n 2 (i := 2) (pc' := 62) d_Mod_addLink_61 rfl rfl rfl ?_
            replace hy := g_b_inv hy
            obtain ⟨x25, hf27, hy⟩ := hy
            refine g_callV (rv := some (.int x25)) (h1 := (mH h0 a0 ad M1)) (pc' := 65) (As := [.int p0, .int p1]) (rest := []) 2 (T_Mod_linkOf ok (hy := hf27)) d_Mod_addLink_62 (mH_look ok) rfl rfl q2150 q2152 qs44 q135 q2153 hd_Mod_linkOf rfl ⟨by decide, by decide⟩ (by first | exact Nat.le_of_ble_eq_true rfl | (simp only [List.map, List.sum_cons, List.sum_nil, g_cat_rf]; exact Nat.le_of_ble_eq_true rfl) | (simp only [List.map, List.sum_cons, List.sum_nil, g_cat_rf, Value.category]; decide)) rfl ?_
            refine g_iconst (v := (-1 : Int32)) (pc' := 66) d_Mod_addLink_65 (by decide) rfl ?_
            by_cases c28 : x25 = (-1 : Int32)
            · rw [if_pos c28] at hy
              refine g_icmp_neF (pc' := 69) d_Mod_addLink_66 80 c28 (by decide) rfl ?_
              refine g_aload_n 0 (i := 0) (pc' := 70) d_Mod_addLink_69 rfl rfl rfl ?_
              refine gm_getA ok 0 (pc' := 73) d_Mod_addLink_70 rfl q1965 rfl rfl ?_
              refine g_iconst (v := (3 : Int32)) (pc' := 74) d_Mod_addLink_73 (by decide) rfl ?_
              replace hy := g_mA_inv hy
              obtain ⟨x32, hc33, hy⟩ := hy
              refine gm_ald0 ok (pc' := 75) d_Mod_addLink_74 hc33 rfl ?_
              refine g_bipush (v := (16 : Int32)) (pc' := 77) d_Mod_addLink_75 (by decide) rfl ?_
              by_cases c34 : x32 = (16 : Int32)
              · rw [if_pos c34] at hy
                refine g_icmp_neF (pc' := 80) d_Mod_addLink_77 88 c34 (by decide) rfl ?_
                refine g_sub [0] rfl ?_
                exact W_Mod_addLink_80 ok _ _ hy
              · rw [if_neg c34] at hy
                refine g_icmp_neT (pc' := 88) d_Mod_addLink_77 c34 (by decide) ?_
                refine g_aload_n 0 (i := 0) (pc' := 89) d_Mod_addLink_88 rfl rfl rfl ?_
                refine g_iload_n 1 (i := 1) (pc' := 90) d_Mod_addLink_89 rfl rfl rfl ?_
                refine g_iload_n 2 (i := 2) (pc' := 91) d_Mod_addLink_90 rfl rfl rfl ?_
                refine g_iload_n 3 (i := 3) (pc' := 92) d_Mod_addLink_91 rfl rfl rfl ?_
                refine g_iload 4 (pc' := 94) d_Mod_addLink_92 rfl rfl ?_
                replace hy := g_bM_inv hy
                obtain ⟨x35, M36, hf37, hy⟩ := hy
                refine g_callV (rv := some (.int x35)) (h1 := (mH h0 a0 ad M36)) (pc' := 97) (As := [.int p0, .int p1, .int p2, .int p3]) (rest := []) 4 (T_Mod_appendLink ok (hy := hf37)) d_Mod_addLink_94 (mH_look ok) rfl rfl q2158 q2160 qs46 q135 q2161 hd_Mod_appendLink rfl ⟨by decide, by decide⟩ (by first | exact Nat.le_of_ble_eq_true rfl | (simp only [List.map, List.sum_cons, List.sum_nil, g_cat_rf]; exact Nat.le_of_ble_eq_true rfl) | (simp only [List.map, List.sum_cons, List.sum_nil, g_cat_rf, Value.category]; decide)) rfl ?_
                cases hy
                exact g_iret rfl rfl rfl d_Mod_addLink_97
            · rw [if_neg c28] at hy
              refine g_icmp_neT (pc' := 80) d_Mod_addLink_66 c28 (by decide) ?_
              refine g_sub [0] rfl ?_
              exact W_Mod_addLink_80 ok _ _ hy
theorem hd_Mod_addLink : g_dsc y_Mod_addLink 4 := ⟨by decide +kernel, by decide +kernel, by decide +kernel⟩
