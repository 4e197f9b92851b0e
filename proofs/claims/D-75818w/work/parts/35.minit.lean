/-! CircuitDeskModel.<init>()V -/
abbrev y_Mod_init : MethodName := ⟨"CircuitDeskModel", "<init>", "()V"⟩
abbrev k_Mod_init : g_M := (prog_17_method_1_code, 1, "CircuitDeskModel", 13, none, "<init>", [], 0)
theorem d_Mod_init_0 : decode prog_17_method_1_code 0 = .ok (.aload_n 0, 1) := by decide +kernel
theorem d_Mod_init_1 : decode prog_17_method_1_code 1 = .ok (.invokespecial 1, 3) := by decide +kernel
theorem d_Mod_init_4 : decode prog_17_method_1_code 4 = .ok (.aload_n 0, 1) := by decide +kernel
theorem d_Mod_init_5 : decode prog_17_method_1_code 5 = .ok (.sipush 1112, 3) := by decide +kernel
theorem d_Mod_init_8 : decode prog_17_method_1_code 8 = .ok (.newarray .int, 2) := by decide +kernel
theorem d_Mod_init_10 : decode prog_17_method_1_code 10 = .ok (.putfield 7, 3) := by decide +kernel
theorem d_Mod_init_13 : decode prog_17_method_1_code 13 = .ok (.aload_n 0, 1) := by decide +kernel
theorem d_Mod_init_14 : decode prog_17_method_1_code 14 = .ok (.sipush 1112, 3) := by decide +kernel
theorem d_Mod_init_17 : decode prog_17_method_1_code 17 = .ok (.newarray .int, 2) := by decide +kernel
theorem d_Mod_init_19 : decode prog_17_method_1_code 19 = .ok (.putfield 13, 3) := by decide +kernel
theorem d_Mod_init_22 : decode prog_17_method_1_code 22 = .ok (.aload_n 0, 1) := by decide +kernel
theorem d_Mod_init_23 : decode prog_17_method_1_code 23 = .ok (.sipush 1112, 3) := by decide +kernel
theorem d_Mod_init_26 : decode prog_17_method_1_code 26 = .ok (.newarray .int, 2) := by decide +kernel
theorem d_Mod_init_28 : decode prog_17_method_1_code 28 = .ok (.putfield 16, 3) := by decide +kernel
theorem d_Mod_init_31 : decode prog_17_method_1_code 31 = .ok (.aload_n 0, 1) := by decide +kernel
theorem d_Mod_init_32 : decode prog_17_method_1_code 32 = .ok (.sipush 2224, 3) := by decide +kernel
theorem d_Mod_init_35 : decode prog_17_method_1_code 35 = .ok (.newarray .int, 2) := by decide +kernel
theorem d_Mod_init_37 : decode prog_17_method_1_code 37 = .ok (.putfield 19, 3) := by decide +kernel
theorem d_Mod_init_40 : decode prog_17_method_1_code 40 = .ok (.aload_n 0, 1) := by decide +kernel
theorem d_Mod_init_41 : decode prog_17_method_1_code 41 = .ok (.iconst 2, 1) := by decide +kernel
theorem d_Mod_init_42 : decode prog_17_method_1_code 42 = .ok (.newarray .boolean, 2) := by decide +kernel
theorem d_Mod_init_44 : decode prog_17_method_1_code 44 = .ok (.putfield 22, 3) := by decide +kernel
theorem d_Mod_init_47 : decode prog_17_method_1_code 47 = .ok (.aload_n 0, 1) := by decide +kernel
theorem d_Mod_init_48 : decode prog_17_method_1_code 48 = .ok (.bipush 6, 2) := by decide +kernel
theorem d_Mod_init_50 : decode prog_17_method_1_code 50 = .ok (.newarray .int, 2) := by decide +kernel
theorem d_Mod_init_52 : decode prog_17_method_1_code 52 = .ok (.putfield 26, 3) := by decide +kernel
theorem d_Mod_init_55 : decode prog_17_method_1_code 55 = .ok (.aload_n 0, 1) := by decide +kernel
theorem d_Mod_init_56 : decode prog_17_method_1_code 56 = .ok (.sipush 800, 3) := by decide +kernel
theorem d_Mod_init_59 : decode prog_17_method_1_code 59 = .ok (.newarray .int, 2) := by decide +kernel
theorem d_Mod_init_61 : decode prog_17_method_1_code 61 = .ok (.putfield 29, 3) := by decide +kernel
theorem d_Mod_init_64 : decode prog_17_method_1_code 64 = .ok (.aload_n 0, 1) := by decide +kernel
theorem d_Mod_init_65 : decode prog_17_method_1_code 65 = .ok (.iconst (-1), 1) := by decide +kernel
theorem d_Mod_init_66 : decode prog_17_method_1_code 66 = .ok (.putfield 32, 3) := by decide +kernel
theorem d_Mod_init_69 : decode prog_17_method_1_code 69 = .ok (.aload_n 0, 1) := by decide +kernel
theorem d_Mod_init_70 : decode prog_17_method_1_code 70 = .ok (.bipush 6, 2) := by decide +kernel
theorem d_Mod_init_72 : decode prog_17_method_1_code 72 = .ok (.newarray .int, 2) := by decide +kernel
theorem d_Mod_init_74 : decode prog_17_method_1_code 74 = .ok (.putfield 36, 3) := by decide +kernel
theorem d_Mod_init_77 : decode prog_17_method_1_code 77 = .ok (.aload_n 0, 1) := by decide +kernel
theorem d_Mod_init_78 : decode prog_17_method_1_code 78 = .ok (.bipush 6, 2) := by decide +kernel
theorem d_Mod_init_80 : decode prog_17_method_1_code 80 = .ok (.newarray .int, 2) := by decide +kernel
theorem d_Mod_init_82 : decode prog_17_method_1_code 82 = .ok (.putfield 39, 3) := by decide +kernel
theorem d_Mod_init_85 : decode prog_17_method_1_code 85 = .ok (.aload_n 0, 1) := by decide +kernel
theorem d_Mod_init_86 : decode prog_17_method_1_code 86 = .ok (.bipush 16, 2) := by decide +kernel
theorem d_Mod_init_88 : decode prog_17_method_1_code 88 = .ok (.newarray .boolean, 2) := by decide +kernel
theorem d_Mod_init_90 : decode prog_17_method_1_code 90 = .ok (.putfield 42, 3) := by decide +kernel
theorem d_Mod_init_93 : decode prog_17_method_1_code 93 = .ok (.aload_n 0, 1) := by decide +kernel
theorem d_Mod_init_94 : decode prog_17_method_1_code 94 = .ok (.bipush 6, 2) := by decide +kernel
theorem d_Mod_init_96 : decode prog_17_method_1_code 96 = .ok (.newarray .int, 2) := by decide +kernel
theorem d_Mod_init_98 : decode prog_17_method_1_code 98 = .ok (.putfield 45, 3) := by decide +kernel
theorem d_Mod_init_101 : decode prog_17_method_1_code 101 = .ok (.aload_n 0, 1) := by decide +kernel
theorem d_Mod_init_102 : decode prog_17_method_1_code 102 = .ok (.invokevirtual 48, 3) := by decide +kernel
theorem d_Mod_init_105 : decode prog_17_method_1_code 105 = .ok (.return_, 1) := by decide +kernel
def Mod_init0 (h : g_AH) (this : Nat) : Option g_AH :=
  g_mkA h 0 (1112 : Int32) fun a1 h2 => g_pF h2 this 7 0 (.ref a1) fun h8 => g_mkA h8 0 (1112 : Int32) fun a9 h10 => g_pF h10 this 7 1 (.ref a9) fun h16 => g_mkA h16 0 (1112 : Int32) fun a17 h18 => g_pF h18 this 7 2 (.ref a17) fun h24 => g_mkA h24 0 (2224 : Int32) fun a25 h26 => g_pF h26 this 7 3 (.ref a25) fun h32 => g_mkA h32 1 (2 : Int32) fun a33 h34 => g_pF h34 this 7 4 (.ref a33) fun h40 => g_mkA h40 0 (6 : Int32) fun a41 h42 => g_pF h42 this 7 5 (.ref a41) fun h48 => g_mkA h48 0 (800 : Int32) fun a49 h50 => g_pF h50 this 7 8 (.ref a49) fun h56 => g_pF h56 this 7 16 (.int (-1 : Int32)) fun h60 => g_mkA h60 0 (6 : Int32) fun a61 h62 => g_pF h62 this 7 21 (.ref a61) fun h68 => g_mkA h68 0 (6 : Int32) fun a69 h70 => g_pF h70 this 7 22 (.ref a69) fun h76 => g_mkA h76 1 (16 : Int32) fun a77 h78 => g_pF h78 this 7 23 (.ref a77) fun h84 => g_mkA h84 0 (6 : Int32) fun a85 h86 => g_pF h86 this 7 28 (.ref a85) fun h92 => some h92
set_option maxHeartbeats 4000000 in
set_option maxRecDepth 100000 in
theorem T_Mod_init {l : Launch} {B : g_B} (h : g_AH) (this : Nat) (z : g_AH) (hy : Mod_init0 h this = some z) {h0 : g_AH} {ad : Nat → Nat} (ok : mOK this ad) {M M1 : g_MD} (ez : z = mH h0 this ad M) (hM : Mod_clear M = some M1) : g_CT l B y_Mod_init k_Mod_init [.ref this] h (.inl none) (mH h0 this ad M1) := by
  refine g_start2 (Lc := [(0, .ref this)]) (by decide) rfl rfl (by exact Nat.le_of_ble_eq_true rfl) (by rfl) fun X => ?_
  unfold Mod_init0 at hy
  refine g_aload_n 0 (i := 0) (pc' := 1) d_Mod_init_0 rfl rfl rfl ?_
  refine g_objInit (pc' := 4) d_Mod_init_1 q1960 (by first | exact Nat.le_of_ble_eq_true rfl | (simp only [List.map, List.sum_cons, List.sum_nil, g_cat_rf]; exact Nat.le_of_ble_eq_true rfl) | (simp only [List.map, List.sum_cons, List.sum_nil, g_cat_rf, Value.category]; decide)) (by decide) rfl ?_
  refine g_aload_n 0 (i := 0) (pc' := 5) d_Mod_init_4 rfl rfl rfl ?_
  refine g_sipush (v := (1112 : Int32)) (pc' := 8) d_Mod_init_5 (by decide) rfl ?_
  replace hy := g_mkA_inv hy
  obtain ⟨hn3, hb4, hy⟩ := hy
  refine g_newa0 (pc' := 10) d_Mod_init_8 hn3 hb4 rfl ?_
  generalize g_al h (.inl (0, ((1112 : Int32)).toNatClampNeg, .inl (fun _ => 0))) ((1112 : Int32)).toNatClampNeg = h2 at hy ⊢
  generalize g_n h = a1 at hy ⊢
  replace hy := g_pF_inv hy
  obtain ⟨fs5, hc6, hl7, hy⟩ := hy
  refine g_putfF (pc' := 13) d_Mod_init_10 rfl hc6 rfl (by decide) hl7 rfl rfl rfl rfl q1965 rfl rfl ?_
  generalize g_up h2 this (.inr (7, fs5.set 0 (.ref a1))) = h8 at hy ⊢
  refine g_aload_n 0 (i := 0) (pc' := 14) d_Mod_init_13 rfl rfl rfl ?_
  refine g_sipush (v := (1112 : Int32)) (pc' := 17) d_Mod_init_14 (by decide) rfl ?_
  replace hy := g_mkA_inv hy
  obtain ⟨hn11, hb12, hy⟩ := hy
  refine g_newa0 (pc' := 19) d_Mod_init_17 hn11 hb12 rfl ?_
  generalize g_al h8 (.inl (0, ((1112 : Int32)).toNatClampNeg, .inl (fun _ => 0))) ((1112 : Int32)).toNatClampNeg = h10 at hy ⊢
  generalize g_n h8 = a9 at hy ⊢
  replace hy := g_pF_inv hy
  obtain ⟨fs13, hc14, hl15, hy⟩ := hy
  refine g_putfF (pc' := 22) d_Mod_init_19 rfl hc14 rfl (by decide) hl15 rfl rfl rfl rfl q1966 rfl rfl ?_
  generalize g_up h10 this (.inr (7, fs13.set 1 (.ref a9))) = h16 at hy ⊢
  refine g_aload_n 0 (i := 0) (pc' := 23) d_Mod_init_22 rfl rfl rfl ?_
  refine g_sipush (v := (1112 : Int32)) (pc' := 26) d_Mod_init_23 (by decide) rfl ?_
  replace hy := g_mkA_inv hy
  obtain ⟨hn19, hb20, hy⟩ := hy
  refine g_newa0 (pc' := 28) d_Mod_init_26 hn19 hb20 rfl ?_
  generalize g_al h16 (.inl (0, ((1112 : Int32)).toNatClampNeg, .inl (fun _ => 0))) ((1112 : Int32)).toNatClampNeg = h18 at hy ⊢
  generalize g_n h16 = a17 at hy ⊢
  replace hy := g_pF_inv hy
  obtain ⟨fs21, hc22, hl23, hy⟩ := hy
  refine g_putfF (pc' := 31) d_Mod_init_28 rfl hc22 rfl (by decide) hl23 rfl rfl rfl rfl q1967 rfl rfl ?_
  generalize g_up h18 this (.inr (7, fs21.set 2 (.ref a17))) = h24 at hy ⊢
  refine g_aload_n 0 (i := 0) (pc' := 32) d_Mod_init_31 rfl rfl rfl ?_
  refine g_sipush (v := (2224 : Int32)) (pc' := 35) d_Mod_init_32 (by decide) rfl ?_
  replace hy := g_mkA_inv hy
  obtain ⟨hn27, hb28, hy⟩ := hy
  refine g_newa0 (pc' := 37) d_Mod_init_35 hn27 hb28 rfl ?_
  generalize g_al h24 (.inl (0, ((2224 : Int32)).toNatClampNeg, .inl (fun _ => 0))) ((2224 : Int32)).toNatClampNeg = h26 at hy ⊢
  generalize g_n h24 = a25 at hy ⊢
  replace hy := g_pF_inv hy
  obtain ⟨fs29, hc30, hl31, hy⟩ := hy
  refine g_putfF (pc' := 40) d_Mod_init_37 rfl hc30 rfl (by decide) hl31 rfl rfl rfl rfl q1968 rfl rfl ?_
  generalize g_up h26 this (.inr (7, fs29.set 3 (.ref a25))) = h32 at hy ⊢
  refine g_aload_n 0 (i := 0) (pc' := 41) d_Mod_init_40 rfl rfl rfl ?_
  refine g_iconst (v := (2 : Int32)) (pc' := 42) d_Mod_init_41 (by decide) rfl ?_
  replace hy := g_mkA_inv hy
  obtain ⟨hn35, hb36, hy⟩ := hy
  refine g_newa1 (pc' := 44) d_Mod_init_42 hn35 hb36 rfl ?_
  generalize g_al h32 (.inl (1, ((2 : Int32)).toNatClampNeg, .inl (fun _ => 0))) ((2 : Int32)).toNatClampNeg = h34 at hy ⊢
  generalize g_n h32 = a33 at hy ⊢
  replace hy := g_pF_inv hy
  obtain ⟨fs37, hc38, hl39, hy⟩ := hy
  refine g_putfF (pc' := 47) d_Mod_init_44 rfl hc38 rfl (by decide) hl39 rfl rfl rfl rfl q1969 rfl rfl ?_
  generalize g_up h34 this (.inr (7, fs37.set 4 (.ref a33))) = h40 at hy ⊢
  refine g_aload_n 0 (i := 0) (pc' := 48) d_Mod_init_47 rfl rfl rfl ?_
  refine g_bipush (v := (6 : Int32)) (pc' := 50) d_Mod_init_48 (by decide) rfl ?_
  replace hy := g_mkA_inv hy
  obtain ⟨hn43, hb44, hy⟩ := hy
  refine g_newa0 (pc' := 52) d_Mod_init_50 hn43 hb44 rfl ?_
  generalize g_al h40 (.inl (0, ((6 : Int32)).toNatClampNeg, .inl (fun _ => 0))) ((6 : Int32)).toNatClampNeg = h42 at hy ⊢
  generalize g_n h40 = a41 at hy ⊢
  replace hy := g_pF_inv hy
  obtain ⟨fs45, hc46, hl47, hy⟩ := hy
  refine g_putfF (pc' := 55) d_Mod_init_52 rfl hc46 rfl (by decide) hl47 rfl rfl rfl rfl q1970 rfl rfl ?_
  generalize g_up h42 this (.inr (7, fs45.set 5 (.ref a41))) = h48 at hy ⊢
  refine g_aload_n 0 (i := 0) (pc' := 56) d_Mod_init_55 rfl rfl rfl ?_
  refine g_sipush (v := (800 : Int32)) (pc' := 59) d_Mod_init_56 (by decide) rfl ?_
  replace hy := g_mkA_inv hy
  obtain ⟨hn51, hb52, hy⟩ := hy
  refine g_newa0 (pc' := 61) d_Mod_init_59 hn51 hb52 rfl ?_
  generalize g_al h48 (.inl (0, ((800 : Int32)).toNatClampNeg, .inl (fun _ => 0))) ((800 : Int32)).toNatClampNeg = h50 at hy ⊢
  generalize g_n h48 = a49 at hy ⊢
  replace hy := g_pF_inv hy
  obtain ⟨fs53, hc54, hl55, hy⟩ := hy
  refine g_putfF (pc' := 64) d_Mod_init_61 rfl hc54 rfl (by decide) hl55 rfl rfl rfl rfl q1973 rfl rfl ?_
  generalize g_up h50 this (.inr (7, fs53.set 8 (.ref a49))) = h56 at hy ⊢
  refine g_aload_n 0 (i := 0) (pc' := 65) d_Mod_init_64 rfl rfl rfl ?_
  refine g_iconst (v := (-1 : Int32)) (pc' := 66) d_Mod_init_65 (by decide) rfl ?_
  replace hy := g_pF_inv hy
  obtain ⟨fs57, hc58, hl59, hy⟩ := hy
  refine g_putf (pc' := 69) d_Mod_init_66 hc58 rfl (by decide) hl59 rfl rfl rfl q1981 (Or.inl rfl) rfl ?_
  generalize g_up h56 this (.inr (7, fs57.set 16 (.int (-1 : Int32)))) = h60 at hy ⊢
  refine g_aload_n 0 (i := 0) (pc' := 70) d_Mod_init_69 rfl rfl rfl ?_
  refine g_bipush (v := (6 : Int32)) (pc' := 72) d_Mod_init_70 (by decide) rfl ?_
  replace hy := g_mkA_inv hy
  obtain ⟨hn63, hb64, hy⟩ := hy
  refine g_newa0 (pc' := 74) d_Mod_init_72 hn63 hb64 rfl ?_
  generalize g_al h60 (.inl (0, ((6 : Int32)).toNatClampNeg, .inl (fun _ => 0))) ((6 : Int32)).toNatClampNeg = h62 at hy ⊢
  generalize g_n h60 = a61 at hy ⊢
  replace hy := g_pF_inv hy
  obtain ⟨fs65, hc66, hl67, hy⟩ := hy
  refine g_putfF (pc' := 77) d_Mod_init_74 rfl hc66 rfl (by decide) hl67 rfl rfl rfl rfl q1986 rfl rfl ?_
  generalize g_up h62 this (.inr (7, fs65.set 21 (.ref a61))) = h68 at hy ⊢
  refine g_aload_n 0 (i := 0) (pc' := 78) d_Mod_init_77 rfl rfl rfl ?_
  refine g_bipush (v := (6 : Int32)) (pc' := 80) d_Mod_init_78 (by decide) rfl ?_
  replace hy := g_mkA_inv hy
  obtain ⟨hn71, hb72, hy⟩ := hy
  refine g_newa0 (pc' := 82) d_Mod_init_80 hn71 hb72 rfl ?_
  generalize g_al h68 (.inl (0, ((6 : Int32)).toNatClampNeg, .inl (fun _ => 0))) ((6 : Int32)).toNatClampNeg = h70 at hy ⊢
  generalize g_n h68 = a69 at hy ⊢
  replace hy := g_pF_inv hy
  obtain ⟨fs73, hc74, hl75, hy⟩ := hy
  refine g_putfF (pc' := 85) d_Mod_init_82 rfl hc74 rfl (by decide) hl75 rfl rfl rfl rfl q1987 rfl rfl ?_
  generalize g_up h70 this (.inr (7, fs73.set 22 (.ref a69))) = h76 at hy ⊢
  refine g_aload_n 0 (i := 0) (pc' := 86) d_Mod_init_85 rfl rfl rfl ?_
  refine g_bipush (v := (16 : Int32)) (pc' := 88) d_Mod_init_86 (by decide) rfl ?_
  replace hy := g_mkA_inv hy
  obtain ⟨hn79, hb80, hy⟩ := hy
  refine g_newa1 (pc' := 90) d_Mod_init_88 hn79 hb80 rfl ?_
  generalize g_al h76 (.inl (1, ((16 : Int32)).toNatClampNeg, .inl (fun _ => 0))) ((16 : Int32)).toNatClampNeg = h78 at hy ⊢
  generalize g_n h76 = a77 at hy ⊢
  replace hy := g_pF_inv hy
  obtain ⟨fs81, hc82, hl83, hy⟩ := hy
  refine g_putfF (pc' := 93) d_Mod_init_90 rfl hc82 rfl (by decide) hl83 rfl rfl rfl rfl q1988 rfl rfl ?_
  generalize g_up h78 this (.inr (7, fs81.set 23 (.ref a77))) = h84 at hy ⊢
  refine g_aload_n 0 (i := 0) (pc' := 94) d_Mod_init_93 rfl rfl rfl ?_
  refine g_bipush (v := (6 : Int32)) (pc' := 96) d_Mod_init_94 (by decide) rfl ?_
  replace hy := g_mkA_inv hy
  obtain ⟨hn87, hb88, hy⟩ := hy
  refine g_newa0 (pc' := 98) d_Mod_init_96 hn87 hb88 rfl ?_
  generalize g_al h84 (.inl (0, ((6 : Int32)).toNatClampNeg, .inl (fun _ => 0))) ((6 : Int32)).toNatClampNeg = h86 at hy ⊢
  generalize g_n h84 = a85 at hy ⊢
  replace hy := g_pF_inv hy
  obtain ⟨fs89, hc90, hl91, hy⟩ := hy
  refine g_putfF (pc' := 101) d_Mod_init_98 rfl hc90 rfl (by decide) hl91 rfl rfl rfl rfl q1993 rfl rfl ?_
  generalize g_up h86 this (.inr (7, fs89.set 28 (.ref a85))) = h92 at hy ⊢
  refine g_aload_n 0 (i := 0) (pc' := 102) d_Mod_init_101 rfl rfl rfl ?_
  cases hy
  subst ez
  refine g_callV (rv := none) (h1 := mH h0 this ad M1) (pc' := 105) (As := []) (rest := []) 0 (T_Mod_clear ok (hy := hM)) d_Mod_init_102 (mH_look ok) rfl rfl q1961 q1963 qs30 q135 q1964 hd_Mod_clear rfl ⟨by decide, by decide⟩ (by decide) rfl ?_
  exact g_vret rfl rfl rfl d_Mod_init_105
theorem hd_Mod_init : g_dsc y_Mod_init 0 := ⟨by decide +kernel, by decide +kernel, by decide +kernel⟩
