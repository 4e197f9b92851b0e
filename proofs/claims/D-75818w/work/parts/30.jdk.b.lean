/-! java/lang/String.checkBoundsBeginEnd(III)V -/
abbrev y_String_checkBoundsBeginEnd : MethodName := ⟨"java/lang/String", "checkBoundsBeginEnd", "(III)V"⟩
abbrev k_String_checkBoundsBeginEnd : g_M := (prog_34_method_158_code, 3, "java/lang/String", 13, none, "checkBoundsBeginEnd", [], 0)
theorem d_String_checkBoundsBeginEnd_0 : decode prog_34_method_158_code 0 = .ok (.iload_n 0, 1) := by decide +kernel
theorem d_String_checkBoundsBeginEnd_1 : decode prog_34_method_158_code 1 = .ok (.iload_n 1, 1) := by decide +kernel
theorem d_String_checkBoundsBeginEnd_2 : decode prog_34_method_158_code 2 = .ok (.iload_n 2, 1) := by decide +kernel
theorem d_String_checkBoundsBeginEnd_3 : decode prog_34_method_158_code 3 = .ok (.getstatic 1053, 3) := by decide +kernel
theorem d_String_checkBoundsBeginEnd_6 : decode prog_34_method_158_code 6 = .ok (.invokestatic 1062, 3) := by decide +kernel
theorem d_String_checkBoundsBeginEnd_9 : decode prog_34_method_158_code 9 = .ok (.pop, 1) := by decide +kernel
theorem d_String_checkBoundsBeginEnd_10 : decode prog_34_method_158_code 10 = .ok (.return_, 1) := by decide +kernel
def String_checkBoundsBeginEnd (h : g_AH) (p0 : Int32) (p1 : Int32) (p2 : Int32) : Option (Unit) :=
  g_b (Preconditions_checkFromToIndex p0 p1 p2 (g_opt (g_str h 101))) fun x1 => some ()
set_option maxHeartbeats 4000000 in
set_option maxRecDepth 100000 in
theorem T_String_checkBoundsBeginEnd {l : Launch} {B : g_B} (h : g_AH) (p0 : Int32) (p1 : Int32) (p2 : Int32) (z : Unit) (hy : String_checkBoundsBeginEnd h p0 p1 p2 = some z) : g_CT l B y_String_checkBoundsBeginEnd k_String_checkBoundsBeginEnd [.int p0, .int p1, .int p2] h (.inl none) h := by
  refine g_start2 (Lc := [(0, .int p0), (1, .int p1), (2, .int p2)]) (by decide) rfl rfl (by exact Nat.le_of_ble_eq_true rfl) (by rfl) fun X => ?_
  unfold String_checkBoundsBeginEnd at hy
  refine g_iload_n 0 (i := 0) (pc' := 1) d_String_checkBoundsBeginEnd_0 rfl rfl rfl ?_
  refine g_iload_n 1 (i := 1) (pc' := 2) d_String_checkBoundsBeginEnd_1 rfl rfl rfl ?_
  refine g_iload_n 2 (i := 2) (pc' := 3) d_String_checkBoundsBeginEnd_2 rfl rfl rfl ?_
  refine g_getst (pc' := 6) d_String_checkBoundsBeginEnd_3 (List.mem_of_getElem? (i := 0) rfl) q318 rfl ?_
  replace hy := g_b_inv hy
  obtain ⟨x1, hf3, hy⟩ := hy
  refine g_callS (rv := some (.int x1)) (h1 := h) (pc' := 9) (As := [.int p0, .int p1, .int p2, va_rf (g_opt (g_str h 101))]) (rest := []) 4 (T_Preconditions_checkFromToIndex (hy := hf3)) d_String_checkBoundsBeginEnd_6 q320 q321 q125 q322 hd_Preconditions_checkFromToIndex rfl ⟨by decide, by decide⟩ (by first | exact Nat.le_of_ble_eq_true rfl | (simp only [List.map, List.sum_cons, List.sum_nil, g_cat_rf]; exact Nat.le_of_ble_eq_true rfl) | (simp only [List.map, List.sum_cons, List.sum_nil, g_cat_rf, Value.category]; decide)) rfl ?_
  refine g_pop (pc' := 10) d_String_checkBoundsBeginEnd_9 rfl rfl ?_
  cases hy
  exact g_vret rfl rfl rfl d_String_checkBoundsBeginEnd_10
theorem hd_String_checkBoundsBeginEnd : g_dsc y_String_checkBoundsBeginEnd 3 := ⟨by decide +kernel, by decide +kernel, by decide +kernel⟩
/-! java/lang/StringUTF16.checkBoundsBeginEnd(II[B)V -/
abbrev y_StringUTF16_checkBoundsBeginEnd : MethodName := ⟨"java/lang/StringUTF16", "checkBoundsBeginEnd", "(II[B)V"⟩
abbrev k_StringUTF16_checkBoundsBeginEnd : g_M := (prog_37_method_93_code, 3, "java/lang/StringUTF16", 14, none, "checkBoundsBeginEnd", [], 0)
theorem d_StringUTF16_checkBoundsBeginEnd_0 : decode prog_37_method_93_code 0 = .ok (.iload_n 0, 1) := by decide +kernel
theorem d_StringUTF16_checkBoundsBeginEnd_1 : decode prog_37_method_93_code 1 = .ok (.iload_n 1, 1) := by decide +kernel
theorem d_StringUTF16_checkBoundsBeginEnd_2 : decode prog_37_method_93_code 2 = .ok (.aload_n 2, 1) := by decide +kernel
theorem d_StringUTF16_checkBoundsBeginEnd_3 : decode prog_37_method_93_code 3 = .ok (.invokestatic 48, 3) := by decide +kernel
theorem d_StringUTF16_checkBoundsBeginEnd_6 : decode prog_37_method_93_code 6 = .ok (.invokestatic 241, 3) := by decide +kernel
theorem d_StringUTF16_checkBoundsBeginEnd_9 : decode prog_37_method_93_code 9 = .ok (.return_, 1) := by decide +kernel
def StringUTF16_checkBoundsBeginEnd (h : g_AH) (p0 : Int32) (p1 : Int32) (p2 : Option Nat) : Option (Unit) :=
  g_b (StringUTF16_length h p2) fun x1 => g_b (String_checkBoundsBeginEnd h p0 p1 x1) fun x4 => some ()
set_option maxHeartbeats 4000000 in
set_option maxRecDepth 100000 in
theorem T_StringUTF16_checkBoundsBeginEnd {l : Launch} {B : g_B} (h : g_AH) (p0 : Int32) (p1 : Int32) (p2 : Option Nat) (z : Unit) (hy : StringUTF16_checkBoundsBeginEnd h p0 p1 p2 = some z) : g_CT l B y_StringUTF16_checkBoundsBeginEnd k_StringUTF16_checkBoundsBeginEnd [.int p0, .int p1, va_rf p2] h (.inl none) h := by
  refine g_start2 (Lc := [(0, .int p0), (1, .int p1), (2, va_rf p2)]) (by decide) rfl rfl (by rcases p2 with _ | p2 <;> exact Nat.le_of_ble_eq_true rfl) (by rcases p2 with _ | p2 <;> rfl) fun X => ?_
  unfold StringUTF16_checkBoundsBeginEnd at hy
  refine g_iload_n 0 (i := 0) (pc' := 1) d_StringUTF16_checkBoundsBeginEnd_0 rfl rfl rfl ?_
  refine g_iload_n 1 (i := 1) (pc' := 2) d_StringUTF16_checkBoundsBeginEnd_1 rfl rfl rfl ?_
  refine g_aloadO_n 2 (i := 2) (pc' := 3) d_StringUTF16_checkBoundsBeginEnd_2 rfl rfl rfl ?_
  replace hy := g_b_inv hy
  obtain ⟨x1, hf3, hy⟩ := hy
  refine g_callS (rv := some (.int x1)) (h1 := h) (pc' := 6) (As := [va_rf p2]) (rest := [.int p1, .int p0]) 1 (T_StringUTF16_length (hy := hf3)) d_StringUTF16_checkBoundsBeginEnd_3 q312 q313 q120 q314 hd_StringUTF16_length rfl ⟨by decide, by decide⟩ (by first | exact Nat.le_of_ble_eq_true rfl | (simp only [List.map, List.sum_cons, List.sum_nil, g_cat_rf]; exact Nat.le_of_ble_eq_true rfl) | (simp only [List.map, List.sum_cons, List.sum_nil, g_cat_rf, Value.category]; decide)) rfl ?_
  replace hy := g_b_inv hy
  obtain ⟨x4, hf6, hy⟩ := hy
  refine g_callS (rv := none) (h1 := h) (pc' := 9) (As := [.int p0, .int p1, .int x1]) (rest := []) 3 (T_String_checkBoundsBeginEnd (hy := hf6)) d_StringUTF16_checkBoundsBeginEnd_6 q315 q316 q119 q317 hd_String_checkBoundsBeginEnd rfl ⟨by decide, by decide⟩ (by first | exact Nat.le_of_ble_eq_true rfl | (simp only [List.map, List.sum_cons, List.sum_nil, g_cat_rf]; exact Nat.le_of_ble_eq_true rfl) | (simp only [List.map, List.sum_cons, List.sum_nil, g_cat_rf, Value.category]; decide)) rfl ?_
  cases hy
  exact g_vret rfl rfl rfl d_StringUTF16_checkBoundsBeginEnd_9
theorem hd_StringUTF16_checkBoundsBeginEnd : g_dsc y_StringUTF16_checkBoundsBeginEnd 3 := ⟨by decide +kernel, by decide +kernel, by decide +kernel⟩
/-! java/lang/AbstractStringBuilder.appendNull()Ljava/lang/AbstractStringBuilder; -/
abbrev y_AbstractStringBuilder_appendNull : MethodName := ⟨"java/lang/AbstractStringBuilder", "appendNull", "()Ljava/lang/AbstractStringBuilder;"⟩
abbrev k_AbstractStringBuilder_appendNull : g_M := (prog_19_method_26_code, 3, "java/lang/AbstractStringBuilder", 16, (some (FieldType.object "java/lang/AbstractStringBuilder")), "appendNull", [], 0)
theorem d_AbstractStringBuilder_appendNull_0 : decode prog_19_method_26_code 0 = .ok (.aload_n 0, 1) := by decide +kernel
theorem d_AbstractStringBuilder_appendNull_1 : decode prog_19_method_26_code 1 = .ok (.aload_n 0, 1) := by decide +kernel
theorem d_AbstractStringBuilder_appendNull_2 : decode prog_19_method_26_code 2 = .ok (.getfield 79, 3) := by decide +kernel
theorem d_AbstractStringBuilder_appendNull_5 : decode prog_19_method_26_code 5 = .ok (.iconst 4, 1) := by decide +kernel
theorem d_AbstractStringBuilder_appendNull_6 : decode prog_19_method_26_code 6 = .ok (.iadd, 1) := by decide +kernel
theorem d_AbstractStringBuilder_appendNull_7 : decode prog_19_method_26_code 7 = .ok (.invokevirtual 100, 3) := by decide +kernel
theorem d_AbstractStringBuilder_appendNull_10 : decode prog_19_method_26_code 10 = .ok (.aload_n 0, 1) := by decide +kernel
theorem d_AbstractStringBuilder_appendNull_11 : decode prog_19_method_26_code 11 = .ok (.getfield 79, 3) := by decide +kernel
theorem d_AbstractStringBuilder_appendNull_14 : decode prog_19_method_26_code 14 = .ok (.istore_n 1, 1) := by decide +kernel
theorem d_AbstractStringBuilder_appendNull_15 : decode prog_19_method_26_code 15 = .ok (.aload_n 0, 1) := by decide +kernel
theorem d_AbstractStringBuilder_appendNull_16 : decode prog_19_method_26_code 16 = .ok (.getfield 15, 3) := by decide +kernel
theorem d_AbstractStringBuilder_appendNull_19 : decode prog_19_method_26_code 19 = .ok (.astore_n 2, 1) := by decide +kernel
theorem d_AbstractStringBuilder_appendNull_20 : decode prog_19_method_26_code 20 = .ok (.aload_n 0, 1) := by decide +kernel
theorem d_AbstractStringBuilder_appendNull_21 : decode prog_19_method_26_code 21 = .ok (.invokevirtual 83, 3) := by decide +kernel
theorem d_AbstractStringBuilder_appendNull_24 : decode prog_19_method_26_code 24 = .ok (.ifCond .eq 38, 3) := by decide +kernel
theorem d_AbstractStringBuilder_appendNull_27 : decode prog_19_method_26_code 27 = .ok (.aload_n 2, 1) := by decide +kernel
theorem d_AbstractStringBuilder_appendNull_28 : decode prog_19_method_26_code 28 = .ok (.iload_n 1, 1) := by decide +kernel
theorem d_AbstractStringBuilder_appendNull_29 : decode prog_19_method_26_code 29 = .ok (.iinc 1 1, 3) := by decide +kernel
theorem d_AbstractStringBuilder_appendNull_32 : decode prog_19_method_26_code 32 = .ok (.bipush 110, 2) := by decide +kernel
theorem d_AbstractStringBuilder_appendNull_34 : decode prog_19_method_26_code 34 = .ok (.bastore, 1) := by decide +kernel
theorem d_AbstractStringBuilder_appendNull_35 : decode prog_19_method_26_code 35 = .ok (.aload_n 2, 1) := by decide +kernel
theorem d_AbstractStringBuilder_appendNull_36 : decode prog_19_method_26_code 36 = .ok (.iload_n 1, 1) := by decide +kernel
theorem d_AbstractStringBuilder_appendNull_37 : decode prog_19_method_26_code 37 = .ok (.iinc 1 1, 3) := by decide +kernel
theorem d_AbstractStringBuilder_appendNull_40 : decode prog_19_method_26_code 40 = .ok (.bipush 117, 2) := by decide +kernel
theorem d_AbstractStringBuilder_appendNull_42 : decode prog_19_method_26_code 42 = .ok (.bastore, 1) := by decide +kernel
theorem d_AbstractStringBuilder_appendNull_43 : decode prog_19_method_26_code 43 = .ok (.aload_n 2, 1) := by decide +kernel
theorem d_AbstractStringBuilder_appendNull_44 : decode prog_19_method_26_code 44 = .ok (.iload_n 1, 1) := by decide +kernel
theorem d_AbstractStringBuilder_appendNull_45 : decode prog_19_method_26_code 45 = .ok (.iinc 1 1, 3) := by decide +kernel
theorem d_AbstractStringBuilder_appendNull_48 : decode prog_19_method_26_code 48 = .ok (.bipush 108, 2) := by decide +kernel
theorem d_AbstractStringBuilder_appendNull_50 : decode prog_19_method_26_code 50 = .ok (.bastore, 1) := by decide +kernel
theorem d_AbstractStringBuilder_appendNull_51 : decode prog_19_method_26_code 51 = .ok (.aload_n 2, 1) := by decide +kernel
theorem d_AbstractStringBuilder_appendNull_52 : decode prog_19_method_26_code 52 = .ok (.iload_n 1, 1) := by decide +kernel
theorem d_AbstractStringBuilder_appendNull_53 : decode prog_19_method_26_code 53 = .ok (.iinc 1 1, 3) := by decide +kernel
theorem d_AbstractStringBuilder_appendNull_56 : decode prog_19_method_26_code 56 = .ok (.bipush 108, 2) := by decide +kernel
theorem d_AbstractStringBuilder_appendNull_58 : decode prog_19_method_26_code 58 = .ok (.bastore, 1) := by decide +kernel
theorem d_AbstractStringBuilder_appendNull_59 : decode prog_19_method_26_code 59 = .ok (.goto 17, 3) := by decide +kernel
theorem d_AbstractStringBuilder_appendNull_76 : decode prog_19_method_26_code 76 = .ok (.aload_n 0, 1) := by decide +kernel
theorem d_AbstractStringBuilder_appendNull_77 : decode prog_19_method_26_code 77 = .ok (.iload_n 1, 1) := by decide +kernel
theorem d_AbstractStringBuilder_appendNull_78 : decode prog_19_method_26_code 78 = .ok (.putfield 79, 3) := by decide +kernel
theorem d_AbstractStringBuilder_appendNull_81 : decode prog_19_method_26_code 81 = .ok (.aload_n 0, 1) := by decide +kernel
theorem d_AbstractStringBuilder_appendNull_82 : decode prog_19_method_26_code 82 = .ok (.areturn, 1) := by decide +kernel
def AbstractStringBuilder_appendNull_76 (h : g_AH) (v0 : Nat) (v1 : Int32) : Option (Option Nat × g_AH) :=
  g_pF h v0 17 3 (.int v1) fun h48 => some ((some v0), h48)
set_option maxHeartbeats 4000000 in
set_option maxRecDepth 100000 in
theorem W_AbstractStringBuilder_appendNull_76 {X : g_X} (z : Option Nat × g_AH) (h : g_AH) (v0 : Nat) (v1 : Int32) (hy : AbstractStringBuilder_appendNull_76  h v0 v1 = some z) : G X k_AbstractStringBuilder_appendNull (.inl (some (va_rf z.1))) z.2 h 76 [(0, .ref v0), (1, .int v1)] [] := by
  unfold AbstractStringBuilder_appendNull_76 at hy
  refine g_aload_n 0 (i := 0) (pc' := 77) d_AbstractStringBuilder_appendNull_76 rfl rfl rfl ?_
  refine g_iload_n 1 (i := 1) (pc' := 78) d_AbstractStringBuilder_appendNull_77 rfl rfl rfl ?_
  replace hy := g_pF_inv hy
  obtain ⟨fs45, hc46, hl47, hy⟩ := hy
  refine g_putf (pc' := 81) d_AbstractStringBuilder_appendNull_78 hc46 rfl (by decide) hl47 rfl rfl rfl q242 (Or.inl rfl) rfl ?_
  generalize g_up h v0 (.inr (17, fs45.set 3 (.int v1))) = h48 at hy ⊢
  refine g_aload_n 0 (i := 0) (pc' := 82) d_AbstractStringBuilder_appendNull_81 rfl rfl rfl ?_
  cases hy
  refine g_stk (st' := [va_rf (some v0)]) rfl ?_
  exact g_aret rfl rfl rfl (Or.inl ⟨_, rfl⟩) d_AbstractStringBuilder_appendNull_82
def AbstractStringBuilder_appendNull (h : g_AH) (this : Nat) : Option (Option Nat × g_AH) :=
  g_gI h this 17 3 fun x2 => g_is h this 17 <| g_b (AbstractStringBuilder_ensureCapacityInternal h this (x2 + (4 : Int32))) fun h8 => g_gI h8 this 17 3 fun x11 => g_gR h8 this 17 0 fun x15 => g_is h8 this 17 <| g_b (AbstractStringBuilder_isLatin1 h8 this) fun x20 => if x20 = 0 then (none) else (g_nn x15 fun a24 => g_sI h8 2 a24 x11 (vp_nar .byte (110 : Int32)) fun h29 => g_sI h29 2 a24 (x11 + (1 : Int32)) (vp_nar .byte (117 : Int32)) fun h34 => g_sI h34 2 a24 ((x11 + (1 : Int32)) + (1 : Int32)) (vp_nar .byte (108 : Int32)) fun h39 => g_sI h39 2 a24 (((x11 + (1 : Int32)) + (1 : Int32)) + (1 : Int32)) (vp_nar .byte (108 : Int32)) fun h44 => AbstractStringBuilder_appendNull_76  h44 this ((((x11 + (1 : Int32)) + (1 : Int32)) + (1 : Int32)) + (1 : Int32)))
set_option maxHeartbeats 4000000 in
set_option maxRecDepth 100000 in
theorem T_AbstractStringBuilder_appendNull {l : Launch} {B : g_B} (h : g_AH) (this : Nat) (z : Option Nat × g_AH) (hy : AbstractStringBuilder_appendNull h this = some z) : g_CT l B y_AbstractStringBuilder_appendNull k_AbstractStringBuilder_appendNull [.ref this] h (.inl (some (va_rf z.1))) z.2 := by
  refine g_start2 (Lc := [(0, .ref this)]) (by decide) rfl rfl (by exact Nat.le_of_ble_eq_true rfl) (by rfl) fun X => ?_
  unfold AbstractStringBuilder_appendNull at hy
  refine g_aload_n 0 (i := 0) (pc' := 1) d_AbstractStringBuilder_appendNull_0 rfl rfl rfl ?_
  refine g_aload_n 0 (i := 0) (pc' := 2) d_AbstractStringBuilder_appendNull_1 rfl rfl rfl ?_
  replace hy := g_gI_inv hy
  obtain ⟨fs1, x2, hc3, hv4, hy⟩ := hy
  refine g_getf (pc' := 5) d_AbstractStringBuilder_appendNull_2 hc3 rfl (by decide) hv4 q242 (Or.inl rfl) rfl ?_
  refine g_iconst (v := (4 : Int32)) (pc' := 6) d_AbstractStringBuilder_appendNull_5 (by decide) rfl ?_
  refine g_iadd (pc' := 7) d_AbstractStringBuilder_appendNull_6 rfl ?_
  replace hy := g_is_inv hy
  obtain ⟨fs5, hc6, hy⟩ := hy
  replace hy := g_b_inv hy
  obtain ⟨h8, hf9, hy⟩ := hy
  refine g_callP (y2 := ⟨"java/lang/AbstractStringBuilder", "isLatin1", "()Z"⟩) (rv := none) (h1 := h8) (pc' := 10) (As := [.int (x2 + (4 : Int32))]) (rest := []) 1 (T_AbstractStringBuilder_ensureCapacityInternal (hy := hf9)) d_AbstractStringBuilder_appendNull_7 hc6 rfl q266 q2543 q267 q268 q117 q269 rfl q302 q304 hd_AbstractStringBuilder_ensureCapacityInternal rfl ⟨by decide, by decide⟩ (by first | exact Nat.le_of_ble_eq_true rfl | (simp only [List.map, List.sum_cons, List.sum_nil, g_cat_rf]; exact Nat.le_of_ble_eq_true rfl) | (simp only [List.map, List.sum_cons, List.sum_nil, g_cat_rf, Value.category]; decide)) rfl ?_
  refine g_aload_n 0 (i := 0) (pc' := 11) d_AbstractStringBuilder_appendNull_10 rfl rfl rfl ?_
  replace hy := g_gI_inv hy
  obtain ⟨fs10, x11, hc12, hv13, hy⟩ := hy
  refine g_getf (pc' := 14) d_AbstractStringBuilder_appendNull_11 hc12 rfl (by decide) hv13 q242 (Or.inl rfl) rfl ?_
  refine g_istore_n (i := 1) (pc' := 15) (Lc' := [(1, .int x11), (0, .ref this)]) d_AbstractStringBuilder_appendNull_14 rfl (by decide) rfl rfl ?_
  refine g_aload_n 1 (i := 0) (pc' := 16) d_AbstractStringBuilder_appendNull_15 rfl rfl rfl ?_
  replace hy := g_gR_inv hy
  obtain ⟨fs14, x15, hc16, hv17, hy⟩ := hy
  refine g_getf (pc' := 19) d_AbstractStringBuilder_appendNull_16 hc16 rfl (by decide) hv17 q239 (Or.inl rfl) rfl ?_
  refine g_astoreO_n (i := 2) (pc' := 20) (Lc' := [(2, va_rf x15), (1, .int x11), (0, .ref this)]) d_AbstractStringBuilder_appendNull_19 rfl (by decide) rfl rfl ?_
  refine g_aload_n 2 (i := 0) (pc' := 21) d_AbstractStringBuilder_appendNull_20 rfl rfl rfl ?_
  replace hy := g_is_inv hy
  obtain ⟨fs18, hc19, hy⟩ := hy
  replace hy := g_b_inv hy
  obtain ⟨x20, hf22, hy⟩ := hy
  refine g_callU (x := y_AbstractStringBuilder_isLatin1) (rv := some (.int x20)) (h1 := h8) (pc' := 24) (As := []) (rest := []) 0 (T_AbstractStringBuilder_isLatin1 (hy := hf22)) d_AbstractStringBuilder_appendNull_21 hc19 rfl rfl (g_wsU q301 q303 q304 q302 q117 q305) ⟨by decide, by decide, by decide +kernel⟩ rfl ⟨by decide, by decide⟩ (by first | exact Nat.le_of_ble_eq_true rfl | (simp only [List.map, List.sum_cons, List.sum_nil, g_cat_rf]; exact Nat.le_of_ble_eq_true rfl) | (simp only [List.map, List.sum_cons, List.sum_nil, g_cat_rf, Value.category]; decide)) rfl ?_
  by_cases c23 : x20 = 0
  · rw [if_pos c23] at hy
    refine g_if_eqT (pc' := 62) d_AbstractStringBuilder_appendNull_24 c23 (by decide) ?_
    cases hy
  · rw [if_neg c23] at hy
    refine g_if_eqF (pc' := 27) d_AbstractStringBuilder_appendNull_24 62 c23 (by decide) rfl ?_
    refine g_aloadO_n 0 (i := 2) (pc' := 28) d_AbstractStringBuilder_appendNull_27 rfl rfl rfl ?_
    refine g_iload_n 1 (i := 1) (pc' := 29) d_AbstractStringBuilder_appendNull_28 rfl rfl rfl ?_
    refine g_iinc 1 (v := (x11 + (1 : Int32))) (pc' := 32) (Lc' := [(1, .int (x11 + (1 : Int32))), (2, va_rf x15), (0, .ref this)]) d_AbstractStringBuilder_appendNull_29 rfl rfl (by decide) rfl rfl ?_
    refine g_bipush (v := (110 : Int32)) (pc' := 34) d_AbstractStringBuilder_appendNull_32 (by decide) rfl ?_
    replace hy := g_nn_inv hy
    obtain ⟨a24, rfl, hy⟩ := hy
    replace hy := g_sI_inv hy
    obtain ⟨n25, f26, hc27, hi28, hy⟩ := hy
    refine g_bast (pc' := 35) d_AbstractStringBuilder_appendNull_34 hc27 hi28 rfl ?_
    generalize g_up h8 a24 (.inl (2, n25, .inl (upd f26 (x11).toNatClampNeg (vp_nar .byte (110 : Int32))))) = h29 at hy ⊢
    refine g_aload_n 1 (i := 2) (pc' := 36) d_AbstractStringBuilder_appendNull_35 rfl rfl rfl ?_
    refine g_iload_n 0 (i := 1) (pc' := 37) d_AbstractStringBuilder_appendNull_36 rfl rfl rfl ?_
    refine g_iinc 0 (v := ((x11 + (1 : Int32)) + (1 : Int32))) (pc' := 40) (Lc' := [(1, .int ((x11 + (1 : Int32)) + (1 : Int32))), (2, .ref a24), (0, .ref this)]) d_AbstractStringBuilder_appendNull_37 rfl rfl (by decide) rfl rfl ?_
    refine g_bipush (v := (117 : Int32)) (pc' := 42) d_AbstractStringBuilder_appendNull_40 (by decide) rfl ?_
    replace hy := g_sI_inv hy
    obtain ⟨n30, f31, hc32, hi33, hy⟩ := hy
    refine g_bast (pc' := 43) d_AbstractStringBuilder_appendNull_42 hc32 hi33 rfl ?_
    generalize g_up h29 a24 (.inl (2, n30, .inl (upd f31 ((x11 + (1 : Int32))).toNatClampNeg (vp_nar .byte (117 : Int32))))) = h34 at hy ⊢
    refine g_aload_n 1 (i := 2) (pc' := 44) d_AbstractStringBuilder_appendNull_43 rfl rfl rfl ?_
    refine g_iload_n 0 (i := 1) (pc' := 45) d_AbstractStringBuilder_appendNull_44 rfl rfl rfl ?_
    refine g_iinc 0 (v := (((x11 + (1 : Int32)) + (1 : Int32)) + (1 : Int32))) (pc' := 48) (Lc' := [(1, .int (((x11 + (1 : Int32)) + (1 : Int32)) + (1 : Int32))), (2, .ref a24), (0, .ref this)]) d_AbstractStringBuilder_appendNull_45 rfl rfl (by decide) rfl rfl ?_
    refine g_bipush (v := (108 : Int32)) (pc' := 50) d_AbstractStringBuilder_appendNull_48 (by decide) rfl ?_
    replace hy := g_sI_inv hy
    obtain ⟨n35, f36, hc37, hi38, hy⟩ := hy
    refine g_bast (pc' := 51) d_AbstractStringBuilder_appendNull_50 hc37 hi38 rfl ?_
    generalize g_up h34 a24 (.inl (2, n35, .inl (upd f36 (((x11 + (1 : Int32)) + (1 : Int32))).toNatClampNeg (vp_nar .byte (108 : Int32))))) = h39 at hy ⊢
    refine g_aload_n 1 (i := 2) (pc' := 52) d_AbstractStringBuilder_appendNull_51 rfl rfl rfl ?_
    refine g_iload_n 0 (i := 1) (pc' := 53) d_AbstractStringBuilder_appendNull_52 rfl rfl rfl ?_
    refine g_iinc 0 (v := ((((x11 + (1 : Int32)) + (1 : Int32)) + (1 : Int32)) + (1 : Int32))) (pc' := 56) (Lc' := [(1, .int ((((x11 + (1 : Int32)) + (1 : Int32)) + (1 : Int32)) + (1 : Int32))), (2, .ref a24), (0, .ref this)]) d_AbstractStringBuilder_appendNull_53 rfl rfl (by decide) rfl rfl ?_
    refine g_bipush (v := (108 : Int32)) (pc' := 58) d_AbstractStringBuilder_appendNull_56 (by decide) rfl ?_
    replace hy := g_sI_inv hy
    obtain ⟨n40, f41, hc42, hi43, hy⟩ := hy
    refine g_bast (pc' := 59) d_AbstractStringBuilder_appendNull_58 hc42 hi43 rfl ?_
    generalize g_up h39 a24 (.inl (2, n40, .inl (upd f41 ((((x11 + (1 : Int32)) + (1 : Int32)) + (1 : Int32))).toNatClampNeg (vp_nar .byte (108 : Int32))))) = h44 at hy ⊢
    refine g_goto (pc' := 76) d_AbstractStringBuilder_appendNull_59 (by decide) ?_
    refine g_sub [2, 0] rfl ?_
    exact W_AbstractStringBuilder_appendNull_76 _ _ _ _ hy
theorem hd_AbstractStringBuilder_appendNull : g_dsc y_AbstractStringBuilder_appendNull 0 := ⟨by decide +kernel, by decide +kernel, by decide +kernel⟩
/-! java/lang/String.coder()B -/
abbrev y_String_coder : MethodName := ⟨"java/lang/String", "coder", "()B"⟩
abbrev k_String_coder : g_M := (prog_34_method_152_code, 1, "java/lang/String", 12, (some FieldType.byte), "coder", [], 0)
theorem d_String_coder_0 : decode prog_34_method_152_code 0 = .ok (.getstatic 38, 3) := by decide +kernel
theorem d_String_coder_3 : decode prog_34_method_152_code 3 = .ok (.ifCond .eq 10, 3) := by decide +kernel
theorem d_String_coder_6 : decode prog_34_method_152_code 6 = .ok (.aload_n 0, 1) := by decide +kernel
theorem d_String_coder_7 : decode prog_34_method_152_code 7 = .ok (.getfield 15, 3) := by decide +kernel
theorem d_String_coder_10 : decode prog_34_method_152_code 10 = .ok (.goto 4, 3) := by decide +kernel
theorem d_String_coder_13 : decode prog_34_method_152_code 13 = .ok (.iconst 1, 1) := by decide +kernel
theorem d_String_coder_14 : decode prog_34_method_152_code 14 = .ok (.ireturn, 1) := by decide +kernel
def String_coder (h : g_AH) (this : Nat) : Option (Int32) :=
  if (1 : Int32) = 0 then (g_rq (narrow .byte (.int (1 : Int32)) = .int (1 : Int32)) <| some (1 : Int32)) else (g_gI h this 18 1 fun x4 => g_rq (narrow .byte (.int x4) = .int x4) <| some x4)
set_option maxHeartbeats 4000000 in
set_option maxRecDepth 100000 in
theorem T_String_coder {l : Launch} {B : g_B} (h : g_AH) (this : Nat) (z : Int32) (hy : String_coder h this = some z) : g_CT l B y_String_coder k_String_coder [.ref this] h (.inl (some (.int z))) h := by
  refine g_start2 (Lc := [(0, .ref this)]) (by decide) rfl rfl (by exact Nat.le_of_ble_eq_true rfl) (by rfl) fun X => ?_
  unfold String_coder at hy
  refine g_compact (pc' := 3) d_String_coder_0 q340 rfl ?_
  by_cases c1 : (1 : Int32) = 0
  · rw [if_pos c1] at hy
    refine g_if_eqT (pc' := 13) d_String_coder_3 c1 (by decide) ?_
    refine g_iconst (v := (1 : Int32)) (pc' := 14) d_String_coder_13 (by decide) rfl ?_
    replace hy := g_rq_inv hy
    obtain ⟨c2, hy⟩ := hy
    cases hy
    exact g_zret rfl rfl rfl c2 d_String_coder_14
  · rw [if_neg c1] at hy
    refine g_if_eqF (pc' := 6) d_String_coder_3 13 c1 (by decide) rfl ?_
    refine g_aload_n 0 (i := 0) (pc' := 7) d_String_coder_6 rfl rfl rfl ?_
    replace hy := g_gI_inv hy
    obtain ⟨fs3, x4, hc5, hv6, hy⟩ := hy
    refine g_getf (pc' := 10) d_String_coder_7 hc5 rfl (by decide) hv6 q482 (Or.inl rfl) rfl ?_
    refine g_goto (pc' := 14) d_String_coder_10 (by decide) ?_
    replace hy := g_rq_inv hy
    obtain ⟨c7, hy⟩ := hy
    cases hy
    exact g_zret rfl rfl rfl c7 d_String_coder_14
theorem hd_String_coder : g_dsc y_String_coder 0 := ⟨by decide +kernel, by decide +kernel, by decide +kernel⟩
/-! java/lang/String.length()I -/
abbrev y_String_length : MethodName := ⟨"java/lang/String", "length", "()I"⟩
abbrev k_String_length : g_M := (prog_34_method_54_code, 1, "java/lang/String", 13, (some FieldType.int), "length", [], 0)
theorem d_String_length_0 : decode prog_34_method_54_code 0 = .ok (.aload_n 0, 1) := by decide +kernel
theorem d_String_length_1 : decode prog_34_method_54_code 1 = .ok (.getfield 9, 3) := by decide +kernel
theorem d_String_length_4 : decode prog_34_method_54_code 4 = .ok (.arraylength, 1) := by decide +kernel
theorem d_String_length_5 : decode prog_34_method_54_code 5 = .ok (.aload_n 0, 1) := by decide +kernel
theorem d_String_length_6 : decode prog_34_method_54_code 6 = .ok (.invokevirtual 335, 3) := by decide +kernel
theorem d_String_length_9 : decode prog_34_method_54_code 9 = .ok (.ishr, 1) := by decide +kernel
theorem d_String_length_10 : decode prog_34_method_54_code 10 = .ok (.ireturn, 1) := by decide +kernel
def String_length (h : g_AH) (this : Nat) : Option (Int32) :=
  g_gR h this 18 0 fun x2 => g_nn x2 fun a5 => g_len h a5 fun x10 => g_is h this 18 <| g_b (String_coder h this) fun x13 => some (x10 >>> (x13 &&& 31))
set_option maxHeartbeats 4000000 in
set_option maxRecDepth 100000 in
theorem T_String_length {l : Launch} {B : g_B} (h : g_AH) (this : Nat) (z : Int32) (hy : String_length h this = some z) : g_CT l B y_String_length k_String_length [.ref this] h (.inl (some (.int z))) h := by
  refine g_start2 (Lc := [(0, .ref this)]) (by decide) rfl rfl (by exact Nat.le_of_ble_eq_true rfl) (by rfl) fun X => ?_
  unfold String_length at hy
  refine g_aload_n 0 (i := 0) (pc' := 1) d_String_length_0 rfl rfl rfl ?_
  replace hy := g_gR_inv hy
  obtain ⟨fs1, x2, hc3, hv4, hy⟩ := hy
  refine g_getf (pc' := 4) d_String_length_1 hc3 rfl (by decide) hv4 q481 (Or.inl rfl) rfl ?_
  replace hy := g_nn_inv hy
  obtain ⟨a5, rfl, hy⟩ := hy
  replace hy := g_len_inv hy
  obtain ⟨t6, y7, hc8, ht9, hy⟩ := hy
  refine g_alen (pc' := 5) d_String_length_4 hc8 ht9 rfl rfl ?_
  generalize Int32.ofNat y7.1 = x10 at hy ⊢
  refine g_aload_n 0 (i := 0) (pc' := 6) d_String_length_5 rfl rfl rfl ?_
  replace hy := g_is_inv hy
  obtain ⟨fs11, hc12, hy⟩ := hy
  replace hy := g_b_inv hy
  obtain ⟨x13, hf15, hy⟩ := hy
  refine g_callV (rv := some (.int x13)) (h1 := h) (pc' := 9) (As := []) (rest := [.int x10]) 0 (T_String_coder (hy := hf15)) d_String_length_6 hc12 rfl rfl q336 q337 q338 q119 q339 hd_String_coder rfl ⟨by decide, by decide⟩ (by first | exact Nat.le_of_ble_eq_true rfl | (simp only [List.map, List.sum_cons, List.sum_nil, g_cat_rf]; exact Nat.le_of_ble_eq_true rfl) | (simp only [List.map, List.sum_cons, List.sum_nil, g_cat_rf, Value.category]; decide)) rfl ?_
  refine g_ishr (pc' := 10) d_String_length_9 rfl ?_
  cases hy
  exact g_iret rfl rfl rfl d_String_length_10
theorem hd_String_length : g_dsc y_String_length 0 := ⟨by decide +kernel, by decide +kernel, by decide +kernel⟩
/-! jdk/internal/util/Preconditions.checkFromIndexSize(IIILjava/util/function/BiFunction;)I -/
abbrev y_Preconditions_checkFromIndexSize : MethodName := ⟨"jdk/internal/util/Preconditions", "checkFromIndexSize", "(IIILjava/util/function/BiFunction;)I"⟩
abbrev k_Preconditions_checkFromIndexSize : g_M := (prog_56_method_13_code, 4, "jdk/internal/util/Preconditions", 12, (some FieldType.int), "checkFromIndexSize", [], 0)
theorem d_Preconditions_checkFromIndexSize_0 : decode prog_56_method_13_code 0 = .ok (.iload_n 2, 1) := by decide +kernel
theorem d_Preconditions_checkFromIndexSize_1 : decode prog_56_method_13_code 1 = .ok (.iload_n 0, 1) := by decide +kernel
theorem d_Preconditions_checkFromIndexSize_2 : decode prog_56_method_13_code 2 = .ok (.ior, 1) := by decide +kernel
theorem d_Preconditions_checkFromIndexSize_3 : decode prog_56_method_13_code 3 = .ok (.iload_n 1, 1) := by decide +kernel
theorem d_Preconditions_checkFromIndexSize_4 : decode prog_56_method_13_code 4 = .ok (.ior, 1) := by decide +kernel
theorem d_Preconditions_checkFromIndexSize_5 : decode prog_56_method_13_code 5 = .ok (.ifCond .lt 10, 3) := by decide +kernel
theorem d_Preconditions_checkFromIndexSize_8 : decode prog_56_method_13_code 8 = .ok (.iload_n 1, 1) := by decide +kernel
theorem d_Preconditions_checkFromIndexSize_9 : decode prog_56_method_13_code 9 = .ok (.iload_n 2, 1) := by decide +kernel
theorem d_Preconditions_checkFromIndexSize_10 : decode prog_56_method_13_code 10 = .ok (.iload_n 0, 1) := by decide +kernel
theorem d_Preconditions_checkFromIndexSize_11 : decode prog_56_method_13_code 11 = .ok (.isub, 1) := by decide +kernel
theorem d_Preconditions_checkFromIndexSize_12 : decode prog_56_method_13_code 12 = .ok (.if_icmp .le 11, 3) := by decide +kernel
theorem d_Preconditions_checkFromIndexSize_23 : decode prog_56_method_13_code 23 = .ok (.iload_n 0, 1) := by decide +kernel
theorem d_Preconditions_checkFromIndexSize_24 : decode prog_56_method_13_code 24 = .ok (.ireturn, 1) := by decide +kernel
def Preconditions_checkFromIndexSize (p0 : Int32) (p1 : Int32) (p2 : Int32) (p3 : Option Nat) : Option (Int32) :=
  if ((p2 ||| p0) ||| p1) < 0 then (none) else (if p1 ≤ (p2 - p0) then (some p0) else (none))
set_option maxHeartbeats 4000000 in
set_option maxRecDepth 100000 in
theorem T_Preconditions_checkFromIndexSize {l : Launch} {B : g_B} {h : g_AH} (p0 : Int32) (p1 : Int32) (p2 : Int32) (p3 : Option Nat) (z : Int32) (hy : Preconditions_checkFromIndexSize p0 p1 p2 p3 = some z) : g_CT l B y_Preconditions_checkFromIndexSize k_Preconditions_checkFromIndexSize [.int p0, .int p1, .int p2, va_rf p3] h (.inl (some (.int z))) h := by
  refine g_start2 (Lc := [(0, .int p0), (1, .int p1), (2, .int p2), (3, va_rf p3)]) (by decide) rfl rfl (by rcases p3 with _ | p3 <;> exact Nat.le_of_ble_eq_true rfl) (by rcases p3 with _ | p3 <;> rfl) fun X => ?_
  unfold Preconditions_checkFromIndexSize at hy
  refine g_iload_n 2 (i := 2) (pc' := 1) d_Preconditions_checkFromIndexSize_0 rfl rfl rfl ?_
  refine g_iload_n 0 (i := 0) (pc' := 2) d_Preconditions_checkFromIndexSize_1 rfl rfl rfl ?_
  refine g_ior (pc' := 3) d_Preconditions_checkFromIndexSize_2 rfl ?_
  refine g_iload_n 1 (i := 1) (pc' := 4) d_Preconditions_checkFromIndexSize_3 rfl rfl rfl ?_
  refine g_ior (pc' := 5) d_Preconditions_checkFromIndexSize_4 rfl ?_
  by_cases c1 : ((p2 ||| p0) ||| p1) < 0
  · rw [if_pos c1] at hy
    refine g_if_ltT (pc' := 15) d_Preconditions_checkFromIndexSize_5 c1 (by decide) ?_
    cases hy
  · rw [if_neg c1] at hy
    refine g_if_ltF (pc' := 8) d_Preconditions_checkFromIndexSize_5 15 c1 (by decide) rfl ?_
    refine g_iload_n 1 (i := 1) (pc' := 9) d_Preconditions_checkFromIndexSize_8 rfl rfl rfl ?_
    refine g_iload_n 2 (i := 2) (pc' := 10) d_Preconditions_checkFromIndexSize_9 rfl rfl rfl ?_
    refine g_iload_n 0 (i := 0) (pc' := 11) d_Preconditions_checkFromIndexSize_10 rfl rfl rfl ?_
    refine g_isub (pc' := 12) d_Preconditions_checkFromIndexSize_11 rfl ?_
    by_cases c2 : p1 ≤ (p2 - p0)
    · rw [if_pos c2] at hy
      refine g_icmp_leT (pc' := 23) d_Preconditions_checkFromIndexSize_12 c2 (by decide) ?_
      refine g_iload_n 0 (i := 0) (pc' := 24) d_Preconditions_checkFromIndexSize_23 rfl rfl rfl ?_
      cases hy
      exact g_iret rfl rfl rfl d_Preconditions_checkFromIndexSize_24
    · rw [if_neg c2] at hy
      refine g_icmp_leF (pc' := 15) d_Preconditions_checkFromIndexSize_12 23 c2 (by decide) rfl ?_
      cases hy
theorem hd_Preconditions_checkFromIndexSize : g_dsc y_Preconditions_checkFromIndexSize 4 := ⟨by decide +kernel, by decide +kernel, by decide +kernel⟩
/-! java/lang/String.checkBoundsOffCount(III)I -/
abbrev y_String_checkBoundsOffCount : MethodName := ⟨"java/lang/String", "checkBoundsOffCount", "(III)I"⟩
abbrev k_String_checkBoundsOffCount : g_M := (prog_34_method_157_code, 3, "java/lang/String", 13, (some FieldType.int), "checkBoundsOffCount", [], 0)
theorem d_String_checkBoundsOffCount_0 : decode prog_34_method_157_code 0 = .ok (.iload_n 0, 1) := by decide +kernel
theorem d_String_checkBoundsOffCount_1 : decode prog_34_method_157_code 1 = .ok (.iload_n 1, 1) := by decide +kernel
theorem d_String_checkBoundsOffCount_2 : decode prog_34_method_157_code 2 = .ok (.iload_n 2, 1) := by decide +kernel
theorem d_String_checkBoundsOffCount_3 : decode prog_34_method_157_code 3 = .ok (.getstatic 1053, 3) := by decide +kernel
theorem d_String_checkBoundsOffCount_6 : decode prog_34_method_157_code 6 = .ok (.invokestatic 1065, 3) := by decide +kernel
theorem d_String_checkBoundsOffCount_9 : decode prog_34_method_157_code 9 = .ok (.ireturn, 1) := by decide +kernel
def String_checkBoundsOffCount (h : g_AH) (p0 : Int32) (p1 : Int32) (p2 : Int32) : Option (Int32) :=
  g_b (Preconditions_checkFromIndexSize p0 p1 p2 (g_opt (g_str h 101))) fun x1 => some x1
set_option maxHeartbeats 4000000 in
set_option maxRecDepth 100000 in
theorem T_String_checkBoundsOffCount {l : Launch} {B : g_B} (h : g_AH) (p0 : Int32) (p1 : Int32) (p2 : Int32) (z : Int32) (hy : String_checkBoundsOffCount h p0 p1 p2 = some z) : g_CT l B y_String_checkBoundsOffCount k_String_checkBoundsOffCount [.int p0, .int p1, .int p2] h (.inl (some (.int z))) h := by
  refine g_start2 (Lc := [(0, .int p0), (1, .int p1), (2, .int p2)]) (by decide) rfl rfl (by exact Nat.le_of_ble_eq_true rfl) (by rfl) fun X => ?_
  unfold String_checkBoundsOffCount at hy
  refine g_iload_n 0 (i := 0) (pc' := 1) d_String_checkBoundsOffCount_0 rfl rfl rfl ?_
  refine g_iload_n 1 (i := 1) (pc' := 2) d_String_checkBoundsOffCount_1 rfl rfl rfl ?_
  refine g_iload_n 2 (i := 2) (pc' := 3) d_String_checkBoundsOffCount_2 rfl rfl rfl ?_
  refine g_getst (pc' := 6) d_String_checkBoundsOffCount_3 (List.mem_of_getElem? (i := 0) rfl) q318 rfl ?_
  replace hy := g_b_inv hy
  obtain ⟨x1, hf3, hy⟩ := hy
  refine g_callS (rv := some (.int x1)) (h1 := h) (pc' := 9) (As := [.int p0, .int p1, .int p2, va_rf (g_opt (g_str h 101))]) (rest := []) 4 (T_Preconditions_checkFromIndexSize (hy := hf3)) d_String_checkBoundsOffCount_6 q366 q367 q125 q368 hd_Preconditions_checkFromIndexSize rfl ⟨by decide, by decide⟩ (by first | exact Nat.le_of_ble_eq_true rfl | (simp only [List.map, List.sum_cons, List.sum_nil, g_cat_rf]; exact Nat.le_of_ble_eq_true rfl) | (simp only [List.map, List.sum_cons, List.sum_nil, g_cat_rf, Value.category]; decide)) rfl ?_
  cases hy
  exact g_iret rfl rfl rfl d_String_checkBoundsOffCount_9
theorem hd_String_checkBoundsOffCount : g_dsc y_String_checkBoundsOffCount 3 := ⟨by decide +kernel, by decide +kernel, by decide +kernel⟩
/-! java/lang/StringUTF16.checkBoundsOffCount(II[B)V -/
abbrev y_StringUTF16_checkBoundsOffCount : MethodName := ⟨"java/lang/StringUTF16", "checkBoundsOffCount", "(II[B)V"⟩
abbrev k_StringUTF16_checkBoundsOffCount : g_M := (prog_37_method_94_code, 3, "java/lang/StringUTF16", 14, none, "checkBoundsOffCount", [], 0)
theorem d_StringUTF16_checkBoundsOffCount_0 : decode prog_37_method_94_code 0 = .ok (.iload_n 0, 1) := by decide +kernel
theorem d_StringUTF16_checkBoundsOffCount_1 : decode prog_37_method_94_code 1 = .ok (.iload_n 1, 1) := by decide +kernel
theorem d_StringUTF16_checkBoundsOffCount_2 : decode prog_37_method_94_code 2 = .ok (.aload_n 2, 1) := by decide +kernel
theorem d_StringUTF16_checkBoundsOffCount_3 : decode prog_37_method_94_code 3 = .ok (.invokestatic 48, 3) := by decide +kernel
theorem d_StringUTF16_checkBoundsOffCount_6 : decode prog_37_method_94_code 6 = .ok (.invokestatic 419, 3) := by decide +kernel
theorem d_StringUTF16_checkBoundsOffCount_9 : decode prog_37_method_94_code 9 = .ok (.pop, 1) := by decide +kernel
theorem d_StringUTF16_checkBoundsOffCount_10 : decode prog_37_method_94_code 10 = .ok (.return_, 1) := by decide +kernel
def StringUTF16_checkBoundsOffCount (h : g_AH) (p0 : Int32) (p1 : Int32) (p2 : Option Nat) : Option (Unit) :=
  g_b (StringUTF16_length h p2) fun x1 => g_b (String_checkBoundsOffCount h p0 p1 x1) fun x4 => some ()
set_option maxHeartbeats 4000000 in
set_option maxRecDepth 100000 in
theorem T_StringUTF16_checkBoundsOffCount {l : Launch} {B : g_B} (h : g_AH) (p0 : Int32) (p1 : Int32) (p2 : Option Nat) (z : Unit) (hy : StringUTF16_checkBoundsOffCount h p0 p1 p2 = some z) : g_CT l B y_StringUTF16_checkBoundsOffCount k_StringUTF16_checkBoundsOffCount [.int p0, .int p1, va_rf p2] h (.inl none) h := by
  refine g_start2 (Lc := [(0, .int p0), (1, .int p1), (2, va_rf p2)]) (by decide) rfl rfl (by rcases p2 with _ | p2 <;> exact Nat.le_of_ble_eq_true rfl) (by rcases p2 with _ | p2 <;> rfl) fun X => ?_
  unfold StringUTF16_checkBoundsOffCount at hy
  refine g_iload_n 0 (i := 0) (pc' := 1) d_StringUTF16_checkBoundsOffCount_0 rfl rfl rfl ?_
  refine g_iload_n 1 (i := 1) (pc' := 2) d_StringUTF16_checkBoundsOffCount_1 rfl rfl rfl ?_
  refine g_aloadO_n 2 (i := 2) (pc' := 3) d_StringUTF16_checkBoundsOffCount_2 rfl rfl rfl ?_
  replace hy := g_b_inv hy
  obtain ⟨x1, hf3, hy⟩ := hy
  refine g_callS (rv := some (.int x1)) (h1 := h) (pc' := 6) (As := [va_rf p2]) (rest := [.int p1, .int p0]) 1 (T_StringUTF16_length (hy := hf3)) d_StringUTF16_checkBoundsOffCount_3 q312 q313 q120 q314 hd_StringUTF16_length rfl ⟨by decide, by decide⟩ (by first | exact Nat.le_of_ble_eq_true rfl | (simp only [List.map, List.sum_cons, List.sum_nil, g_cat_rf]; exact Nat.le_of_ble_eq_true rfl) | (simp only [List.map, List.sum_cons, List.sum_nil, g_cat_rf, Value.category]; decide)) rfl ?_
  replace hy := g_b_inv hy
  obtain ⟨x4, hf6, hy⟩ := hy
  refine g_callS (rv := some (.int x4)) (h1 := h) (pc' := 9) (As := [.int p0, .int p1, .int x1]) (rest := []) 3 (T_String_checkBoundsOffCount (hy := hf6)) d_StringUTF16_checkBoundsOffCount_6 q363 q364 q119 q365 hd_String_checkBoundsOffCount rfl ⟨by decide, by decide⟩ (by first | exact Nat.le_of_ble_eq_true rfl | (simp only [List.map, List.sum_cons, List.sum_nil, g_cat_rf]; exact Nat.le_of_ble_eq_true rfl) | (simp only [List.map, List.sum_cons, List.sum_nil, g_cat_rf, Value.category]; decide)) rfl ?_
  refine g_pop (pc' := 10) d_StringUTF16_checkBoundsOffCount_9 rfl rfl ?_
  cases hy
  exact g_vret rfl rfl rfl d_StringUTF16_checkBoundsOffCount_10
theorem hd_StringUTF16_checkBoundsOffCount : g_dsc y_StringUTF16_checkBoundsOffCount 3 := ⟨by decide +kernel, by decide +kernel, by decide +kernel⟩
/-! java/lang/StringUTF16.inflate([BI[BII)V -/
abbrev y_StringUTF16_inflate : MethodName := ⟨"java/lang/StringUTF16", "inflate", "([BI[BII)V"⟩
abbrev k_StringUTF16_inflate : g_M := (prog_37_method_86_code, 6, "java/lang/StringUTF16", 15, none, "inflate", [], 0)
theorem d_StringUTF16_inflate_0 : decode prog_37_method_86_code 0 = .ok (.iload_n 3, 1) := by decide +kernel
theorem d_StringUTF16_inflate_1 : decode prog_37_method_86_code 1 = .ok (.iload 4, 2) := by decide +kernel
theorem d_StringUTF16_inflate_3 : decode prog_37_method_86_code 3 = .ok (.aload_n 2, 1) := by decide +kernel
theorem d_StringUTF16_inflate_4 : decode prog_37_method_86_code 4 = .ok (.invokestatic 173, 3) := by decide +kernel
theorem d_StringUTF16_inflate_7 : decode prog_37_method_86_code 7 = .ok (.iconst 0, 1) := by decide +kernel
theorem d_StringUTF16_inflate_8 : decode prog_37_method_86_code 8 = .ok (.istore 5, 2) := by decide +kernel
theorem d_StringUTF16_inflate_10 : decode prog_37_method_86_code 10 = .ok (.iload 5, 2) := by decide +kernel
theorem d_StringUTF16_inflate_12 : decode prog_37_method_86_code 12 = .ok (.iload 4, 2) := by decide +kernel
theorem d_StringUTF16_inflate_14 : decode prog_37_method_86_code 14 = .ok (.if_icmp .ge 27, 3) := by decide +kernel
theorem d_StringUTF16_inflate_41 : decode prog_37_method_86_code 41 = .ok (.return_, 1) := by decide +kernel
def StringUTF16_inflate_10  : Nat → g_AH → Option Nat → Int32 → Option Nat → Int32 → Int32 → Int32 → Option g_AH
  | 0, _, _, _, _, _, _, _ => none
  | n + 1, h, v0, v1, v2, v3, v4, v5 => if v4 ≤ v5 then (some h) else (none)
set_option maxHeartbeats 4000000 in
set_option maxRecDepth 100000 in
theorem W_StringUTF16_inflate_10 {X : g_X} (z : g_AH)  : ∀ (n : Nat) (h : g_AH) (v0 : Option Nat) (v1 : Int32) (v2 : Option Nat) (v3 : Int32) (v4 : Int32) (v5 : Int32), StringUTF16_inflate_10  n h v0 v1 v2 v3 v4 v5 = some z → G X k_StringUTF16_inflate (.inl none) z h 10 [(0, va_rf v0), (1, .int v1), (2, va_rf v2), (3, .int v3), (4, .int v4), (5, .int v5)] [] := by
  intro n
  induction n with
  | zero => intro h v0 v1 v2 v3 v4 v5 hy; exact absurd hy (by simp [StringUTF16_inflate_10])
  | succ n ih =>
    intro h v0 v1 v2 v3 v4 v5 hy
    rw [StringUTF16_inflate_10] at hy
    refine g_iload 5 (pc' := 12) d_StringUTF16_inflate_10 rfl rfl ?_
    refine g_iload 4 (pc' := 14) d_StringUTF16_inflate_12 rfl rfl ?_
    by_cases c4 : v4 ≤ v5
    · rw [if_pos c4] at hy
      refine g_icmp_geT (pc' := 41) d_StringUTF16_inflate_14 c4 (by decide) ?_
      cases hy
      exact g_vret rfl rfl rfl d_StringUTF16_inflate_41
    · rw [if_neg c4] at hy
      refine g_icmp_geF (pc' := 17) d_StringUTF16_inflate_14 41 c4 (by decide) rfl ?_
      cases hy
def StringUTF16_inflate (h : g_AH) (p0 : Option Nat) (p1 : Int32) (p2 : Option Nat) (p3 : Int32) (p4 : Int32) : Option g_AH :=
  g_b (StringUTF16_checkBoundsOffCount h p3 p4 p2) fun x1 => StringUTF16_inflate_10  gFU h p0 p1 p2 p3 p4 (0 : Int32)
set_option maxHeartbeats 4000000 in
set_option maxRecDepth 100000 in
theorem T_StringUTF16_inflate {l : Launch} {B : g_B} (h : g_AH) (p0 : Option Nat) (p1 : Int32) (p2 : Option Nat) (p3 : Int32) (p4 : Int32) (z : g_AH) (hy : StringUTF16_inflate h p0 p1 p2 p3 p4 = some z) : g_CT l B y_StringUTF16_inflate k_StringUTF16_inflate [va_rf p0, .int p1, va_rf p2, .int p3, .int p4] h (.inl none) z := by
  refine g_start2 (Lc := [(0, va_rf p0), (1, .int p1), (2, va_rf p2), (3, .int p3), (4, .int p4)]) (by decide) rfl rfl (by rcases p0 with _ | p0 <;> rcases p2 with _ | p2 <;> exact Nat.le_of_ble_eq_true rfl) (by rcases p0 with _ | p0 <;> rcases p2 with _ | p2 <;> rfl) fun X => ?_
  unfold StringUTF16_inflate at hy
  refine g_iload_n 3 (i := 3) (pc' := 1) d_StringUTF16_inflate_0 rfl rfl rfl ?_
  refine g_iload 4 (pc' := 3) d_StringUTF16_inflate_1 rfl rfl ?_
  refine g_aloadO_n 2 (i := 2) (pc' := 4) d_StringUTF16_inflate_3 rfl rfl rfl ?_
  replace hy := g_b_inv hy
  obtain ⟨x1, hf3, hy⟩ := hy
  refine g_callS (rv := none) (h1 := h) (pc' := 7) (As := [.int p3, .int p4, va_rf p2]) (rest := []) 3 (T_StringUTF16_checkBoundsOffCount (hy := hf3)) d_StringUTF16_inflate_4 q360 q361 q120 q362 hd_StringUTF16_checkBoundsOffCount rfl ⟨by decide, by decide⟩ (by first | exact Nat.le_of_ble_eq_true rfl | (simp only [List.map, List.sum_cons, List.sum_nil, g_cat_rf]; exact Nat.le_of_ble_eq_true rfl) | (simp only [List.map, List.sum_cons, List.sum_nil, g_cat_rf, Value.category]; decide)) rfl ?_
  refine g_iconst (v := (0 : Int32)) (pc' := 8) d_StringUTF16_inflate_7 (by decide) rfl ?_
  refine g_istore (pc' := 10) (Lc' := [(5, .int (0 : Int32)), (0, va_rf p0), (1, .int p1), (2, va_rf p2), (3, .int p3), (4, .int p4)]) d_StringUTF16_inflate_8 (by decide) rfl rfl ?_
  refine g_sub [1, 2, 3, 4, 5, 0] rfl ?_
  exact W_StringUTF16_inflate_10 _ _ _ _ _ _ _ _ _ hy
theorem hd_StringUTF16_inflate : g_dsc y_StringUTF16_inflate 5 := ⟨by decide +kernel, by decide +kernel, by decide +kernel⟩
/-! java/lang/StringLatin1.inflate([BI[BII)V -/
abbrev y_StringLatin1_inflate : MethodName := ⟨"java/lang/StringLatin1", "inflate", "([BI[BII)V"⟩
abbrev k_StringLatin1_inflate : g_M := (prog_36_method_50_code, 5, "java/lang/StringLatin1", 16, none, "inflate", [], 0)
theorem d_StringLatin1_inflate_0 : decode prog_36_method_50_code 0 = .ok (.aload_n 0, 1) := by decide +kernel
theorem d_StringLatin1_inflate_1 : decode prog_36_method_50_code 1 = .ok (.iload_n 1, 1) := by decide +kernel
theorem d_StringLatin1_inflate_2 : decode prog_36_method_50_code 2 = .ok (.aload_n 2, 1) := by decide +kernel
theorem d_StringLatin1_inflate_3 : decode prog_36_method_50_code 3 = .ok (.iload_n 3, 1) := by decide +kernel
theorem d_StringLatin1_inflate_4 : decode prog_36_method_50_code 4 = .ok (.iload 4, 2) := by decide +kernel
theorem d_StringLatin1_inflate_6 : decode prog_36_method_50_code 6 = .ok (.invokestatic 240, 3) := by decide +kernel
theorem d_StringLatin1_inflate_9 : decode prog_36_method_50_code 9 = .ok (.return_, 1) := by decide +kernel
def StringLatin1_inflate (h : g_AH) (p0 : Option Nat) (p1 : Int32) (p2 : Option Nat) (p3 : Int32) (p4 : Int32) : Option g_AH :=
  g_b (StringUTF16_inflate h p0 p1 p2 p3 p4) fun h2 => some h2
set_option maxHeartbeats 4000000 in
set_option maxRecDepth 100000 in
theorem T_StringLatin1_inflate {l : Launch} {B : g_B} (h : g_AH) (p0 : Option Nat) (p1 : Int32) (p2 : Option Nat) (p3 : Int32) (p4 : Int32) (z : g_AH) (hy : StringLatin1_inflate h p0 p1 p2 p3 p4 = some z) : g_CT l B y_StringLatin1_inflate k_StringLatin1_inflate [va_rf p0, .int p1, va_rf p2, .int p3, .int p4] h (.inl none) z := by
  refine g_start2 (Lc := [(0, va_rf p0), (1, .int p1), (2, va_rf p2), (3, .int p3), (4, .int p4)]) (by decide) rfl rfl (by rcases p0 with _ | p0 <;> rcases p2 with _ | p2 <;> exact Nat.le_of_ble_eq_true rfl) (by rcases p0 with _ | p0 <;> rcases p2 with _ | p2 <;> rfl) fun X => ?_
  unfold StringLatin1_inflate at hy
  refine g_aloadO_n 0 (i := 0) (pc' := 1) d_StringLatin1_inflate_0 rfl rfl rfl ?_
  refine g_iload_n 1 (i := 1) (pc' := 2) d_StringLatin1_inflate_1 rfl rfl rfl ?_
  refine g_aloadO_n 2 (i := 2) (pc' := 3) d_StringLatin1_inflate_2 rfl rfl rfl ?_
  refine g_iload_n 3 (i := 3) (pc' := 4) d_StringLatin1_inflate_3 rfl rfl rfl ?_
  refine g_iload 4 (pc' := 6) d_StringLatin1_inflate_4 rfl rfl ?_
  replace hy := g_b_inv hy
  obtain ⟨h2, hf3, hy⟩ := hy
  refine g_callS (rv := none) (h1 := h2) (pc' := 9) (As := [va_rf p0, .int p1, va_rf p2, .int p3, .int p4]) (rest := []) 5 (T_StringUTF16_inflate (hy := hf3)) d_StringLatin1_inflate_6 q357 q358 q120 q359 hd_StringUTF16_inflate rfl ⟨by decide, by decide⟩ (by first | exact Nat.le_of_ble_eq_true rfl | (simp only [List.map, List.sum_cons, List.sum_nil, g_cat_rf]; exact Nat.le_of_ble_eq_true rfl) | (simp only [List.map, List.sum_cons, List.sum_nil, g_cat_rf, Value.category]; decide)) rfl ?_
  cases hy
  exact g_vret rfl rfl rfl d_StringLatin1_inflate_9
theorem hd_StringLatin1_inflate : g_dsc y_StringLatin1_inflate 5 := ⟨by decide +kernel, by decide +kernel, by decide +kernel⟩
/-! java/lang/AbstractStringBuilder.inflate()V -/
abbrev y_AbstractStringBuilder_inflate : MethodName := ⟨"java/lang/AbstractStringBuilder", "inflate", "()V"⟩
abbrev k_AbstractStringBuilder_inflate : g_M := (prog_19_method_11_code, 2, "java/lang/AbstractStringBuilder", 17, none, "inflate", [], 0)
theorem d_AbstractStringBuilder_inflate_0 : decode prog_19_method_11_code 0 = .ok (.aload_n 0, 1) := by decide +kernel
theorem d_AbstractStringBuilder_inflate_1 : decode prog_19_method_11_code 1 = .ok (.invokevirtual 83, 3) := by decide +kernel
theorem d_AbstractStringBuilder_inflate_4 : decode prog_19_method_11_code 4 = .ok (.ifCond .ne 4, 3) := by decide +kernel
theorem d_AbstractStringBuilder_inflate_7 : decode prog_19_method_11_code 7 = .ok (.return_, 1) := by decide +kernel
theorem d_AbstractStringBuilder_inflate_8 : decode prog_19_method_11_code 8 = .ok (.aload_n 0, 1) := by decide +kernel
theorem d_AbstractStringBuilder_inflate_9 : decode prog_19_method_11_code 9 = .ok (.getfield 15, 3) := by decide +kernel
theorem d_AbstractStringBuilder_inflate_12 : decode prog_19_method_11_code 12 = .ok (.arraylength, 1) := by decide +kernel
theorem d_AbstractStringBuilder_inflate_13 : decode prog_19_method_11_code 13 = .ok (.invokestatic 26, 3) := by decide +kernel
theorem d_AbstractStringBuilder_inflate_16 : decode prog_19_method_11_code 16 = .ok (.astore_n 1, 1) := by decide +kernel
theorem d_AbstractStringBuilder_inflate_17 : decode prog_19_method_11_code 17 = .ok (.aload_n 0, 1) := by decide +kernel
theorem d_AbstractStringBuilder_inflate_18 : decode prog_19_method_11_code 18 = .ok (.getfield 15, 3) := by decide +kernel
theorem d_AbstractStringBuilder_inflate_21 : decode prog_19_method_11_code 21 = .ok (.iconst 0, 1) := by decide +kernel
theorem d_AbstractStringBuilder_inflate_22 : decode prog_19_method_11_code 22 = .ok (.aload_n 1, 1) := by decide +kernel
theorem d_AbstractStringBuilder_inflate_23 : decode prog_19_method_11_code 23 = .ok (.iconst 0, 1) := by decide +kernel
theorem d_AbstractStringBuilder_inflate_24 : decode prog_19_method_11_code 24 = .ok (.aload_n 0, 1) := by decide +kernel
theorem d_AbstractStringBuilder_inflate_25 : decode prog_19_method_11_code 25 = .ok (.getfield 79, 3) := by decide +kernel
theorem d_AbstractStringBuilder_inflate_28 : decode prog_19_method_11_code 28 = .ok (.invokestatic 125, 3) := by decide +kernel
theorem d_AbstractStringBuilder_inflate_31 : decode prog_19_method_11_code 31 = .ok (.aload_n 0, 1) := by decide +kernel
theorem d_AbstractStringBuilder_inflate_32 : decode prog_19_method_11_code 32 = .ok (.aload_n 1, 1) := by decide +kernel
theorem d_AbstractStringBuilder_inflate_33 : decode prog_19_method_11_code 33 = .ok (.putfield 15, 3) := by decide +kernel
theorem d_AbstractStringBuilder_inflate_36 : decode prog_19_method_11_code 36 = .ok (.aload_n 0, 1) := by decide +kernel
theorem d_AbstractStringBuilder_inflate_37 : decode prog_19_method_11_code 37 = .ok (.iconst 1, 1) := by decide +kernel
theorem d_AbstractStringBuilder_inflate_38 : decode prog_19_method_11_code 38 = .ok (.putfield 22, 3) := by decide +kernel
theorem d_AbstractStringBuilder_inflate_41 : decode prog_19_method_11_code 41 = .ok (.return_, 1) := by decide +kernel
def AbstractStringBuilder_inflate (h : g_AH) (this : Nat) : Option g_AH :=
  g_is h this 17 <| g_b (AbstractStringBuilder_isLatin1 h this) fun x3 => if x3 = 0 then (some h) else (g_gR h this 17 0 fun x8 => g_nn x8 fun a11 => g_len h a11 fun x16 => g_b2 (StringUTF16_newBytesFor h x16) fun x17 h18 => g_gR h18 this 17 0 fun x21 => g_gI h18 this 17 3 fun x25 => g_b (StringLatin1_inflate h18 x21 (0 : Int32) x17 (0 : Int32) x25) fun h29 => g_pF h29 this 17 0 (va_rf x17) fun h34 => g_rq (narrow .byte (.int (1 : Int32)) = .int (1 : Int32) ∧ fits .byte (.int (1 : Int32)) = true) <| g_pF h34 this 17 1 (.int (1 : Int32)) fun h39 => some h39)
set_option maxHeartbeats 4000000 in
set_option maxRecDepth 100000 in
theorem T_AbstractStringBuilder_inflate {l : Launch} {B : g_B} (h : g_AH) (this : Nat) (z : g_AH) (hy : AbstractStringBuilder_inflate h this = some z) : g_CT l B y_AbstractStringBuilder_inflate k_AbstractStringBuilder_inflate [.ref this] h (.inl none) z := by
  refine g_start2 (Lc := [(0, .ref this)]) (by decide) rfl rfl (by exact Nat.le_of_ble_eq_true rfl) (by rfl) fun X => ?_
  unfold AbstractStringBuilder_inflate at hy
  refine g_aload_n 0 (i := 0) (pc' := 1) d_AbstractStringBuilder_inflate_0 rfl rfl rfl ?_
  replace hy := g_is_inv hy
  obtain ⟨fs1, hc2, hy⟩ := hy
  replace hy := g_b_inv hy
  obtain ⟨x3, hf5, hy⟩ := hy
  refine g_callU (x := y_AbstractStringBuilder_isLatin1) (rv := some (.int x3)) (h1 := h) (pc' := 4) (As := []) (rest := []) 0 (T_AbstractStringBuilder_isLatin1 (hy := hf5)) d_AbstractStringBuilder_inflate_1 hc2 rfl rfl (g_wsU q301 q303 q304 q302 q117 q305) ⟨by decide, by decide, by decide +kernel⟩ rfl ⟨by decide, by decide⟩ (by first | exact Nat.le_of_ble_eq_true rfl | (simp only [List.map, List.sum_cons, List.sum_nil, g_cat_rf]; exact Nat.le_of_ble_eq_true rfl) | (simp only [List.map, List.sum_cons, List.sum_nil, g_cat_rf, Value.category]; decide)) rfl ?_
  by_cases c6 : x3 = 0
  · rw [if_pos c6] at hy
    refine g_if_neF (pc' := 7) d_AbstractStringBuilder_inflate_4 8 c6 (by decide) rfl ?_
    cases hy
    exact g_vret rfl rfl rfl d_AbstractStringBuilder_inflate_7
  · rw [if_neg c6] at hy
    refine g_if_neT (pc' := 8) d_AbstractStringBuilder_inflate_4 c6 (by decide) ?_
    refine g_aload_n 0 (i := 0) (pc' := 9) d_AbstractStringBuilder_inflate_8 rfl rfl rfl ?_
    replace hy := g_gR_inv hy
    obtain ⟨fs7, x8, hc9, hv10, hy⟩ := hy
    refine g_getf (pc' := 12) d_AbstractStringBuilder_inflate_9 hc9 rfl (by decide) hv10 q239 (Or.inl rfl) rfl ?_
    replace hy := g_nn_inv hy
    obtain ⟨a11, rfl, hy⟩ := hy
    replace hy := g_len_inv hy
    obtain ⟨t12, y13, hc14, ht15, hy⟩ := hy
    refine g_alen (pc' := 13) d_AbstractStringBuilder_inflate_12 hc14 ht15 rfl rfl ?_
    generalize Int32.ofNat y13.1 = x16 at hy ⊢
    replace hy := g_b2_inv hy
    obtain ⟨x17, h18, hf19, hy⟩ := hy
    refine g_callS (rv := some (va_rf x17)) (h1 := h18) (pc' := 16) (As := [.int x16]) (rest := []) 1 (T_StringUTF16_newBytesFor (hy := hf19)) d_AbstractStringBuilder_inflate_13 q232 q233 q120 q234 hd_StringUTF16_newBytesFor rfl ⟨by decide, by decide⟩ (by first | exact Nat.le_of_ble_eq_true rfl | (simp only [List.map, List.sum_cons, List.sum_nil, g_cat_rf]; exact Nat.le_of_ble_eq_true rfl) | (simp only [List.map, List.sum_cons, List.sum_nil, g_cat_rf, Value.category]; decide)) rfl ?_
    refine g_astoreO_n (i := 1) (pc' := 17) (Lc' := [(1, va_rf x17), (0, .ref this)]) d_AbstractStringBuilder_inflate_16 rfl (by decide) rfl rfl ?_
    refine g_aload_n 1 (i := 0) (pc' := 18) d_AbstractStringBuilder_inflate_17 rfl rfl rfl ?_
    replace hy := g_gR_inv hy
    obtain ⟨fs20, x21, hc22, hv23, hy⟩ := hy
    refine g_getf (pc' := 21) d_AbstractStringBuilder_inflate_18 hc22 rfl (by decide) hv23 q239 (Or.inl rfl) rfl ?_
    refine g_iconst (v := (0 : Int32)) (pc' := 22) d_AbstractStringBuilder_inflate_21 (by decide) rfl ?_
    refine g_aloadO_n 0 (i := 1) (pc' := 23) d_AbstractStringBuilder_inflate_22 rfl rfl rfl ?_
    refine g_iconst (v := (0 : Int32)) (pc' := 24) d_AbstractStringBuilder_inflate_23 (by decide) rfl ?_
    refine g_aload_n 1 (i := 0) (pc' := 25) d_AbstractStringBuilder_inflate_24 rfl rfl rfl ?_
    replace hy := g_gI_inv hy
    obtain ⟨fs24, x25, hc26, hv27, hy⟩ := hy
    refine g_getf (pc' := 28) d_AbstractStringBuilder_inflate_25 hc26 rfl (by decide) hv27 q242 (Or.inl rfl) rfl ?_
    replace hy := g_b_inv hy
    obtain ⟨h29, hf30, hy⟩ := hy
    refine g_callS (rv := none) (h1 := h29) (pc' := 31) (As := [va_rf x21, .int (0 : Int32), va_rf x17, .int (0 : Int32), .int x25]) (rest := []) 5 (T_StringLatin1_inflate (hy := hf30)) d_AbstractStringBuilder_inflate_28 q354 q355 q126 q356 hd_StringLatin1_inflate rfl ⟨by decide, by decide⟩ (by first | exact Nat.le_of_ble_eq_true rfl | (simp only [List.map, List.sum_cons, List.sum_nil, g_cat_rf]; exact Nat.le_of_ble_eq_true rfl) | (simp only [List.map, List.sum_cons, List.sum_nil, g_cat_rf, Value.category]; decide)) rfl ?_
    refine g_aload_n 1 (i := 0) (pc' := 32) d_AbstractStringBuilder_inflate_31 rfl rfl rfl ?_
    refine g_aloadO_n 0 (i := 1) (pc' := 33) d_AbstractStringBuilder_inflate_32 rfl rfl rfl ?_
    replace hy := g_pF_inv hy
    obtain ⟨fs31, hc32, hl33, hy⟩ := hy
    refine g_putf (pc' := 36) d_AbstractStringBuilder_inflate_33 hc32 rfl (by decide) hl33 rfl g_nar_rf g_fit_a q239 (Or.inl rfl) rfl ?_
    generalize g_up h29 this (.inr (17, fs31.set 0 (va_rf x17))) = h34 at hy ⊢
    refine g_aload_n 1 (i := 0) (pc' := 37) d_AbstractStringBuilder_inflate_36 rfl rfl rfl ?_
    refine g_iconst (v := (1 : Int32)) (pc' := 38) d_AbstractStringBuilder_inflate_37 (by decide) rfl ?_
    replace hy := g_rq_inv hy
    obtain ⟨c35, hy⟩ := hy
    replace hy := g_pF_inv hy
    obtain ⟨fs36, hc37, hl38, hy⟩ := hy
    refine g_putf (pc' := 41) d_AbstractStringBuilder_inflate_38 hc37 rfl (by decide) hl38 rfl c35.1 c35.2 q240 (Or.inl rfl) rfl ?_
    generalize g_up h34 this (.inr (17, fs36.set 1 (.int (1 : Int32)))) = h39 at hy ⊢
    cases hy
    exact g_vret rfl rfl rfl d_AbstractStringBuilder_inflate_41
theorem hd_AbstractStringBuilder_inflate : g_dsc y_AbstractStringBuilder_inflate 0 := ⟨by decide +kernel, by decide +kernel, by decide +kernel⟩
/-! java/lang/AbstractStringBuilder.inflateIfNeededFor(Ljava/lang/String;)V -/
abbrev y_AbstractStringBuilder_inflateIfNeededFor : MethodName := ⟨"java/lang/AbstractStringBuilder", "inflateIfNeededFor", "(Ljava/lang/String;)V"⟩
abbrev k_AbstractStringBuilder_inflateIfNeededFor : g_M := (prog_19_method_71_code, 2, "java/lang/AbstractStringBuilder", 18, none, "inflateIfNeededFor", [], 0)
theorem d_AbstractStringBuilder_inflateIfNeededFor_0 : decode prog_19_method_71_code 0 = .ok (.getstatic 18, 3) := by decide +kernel
theorem d_AbstractStringBuilder_inflateIfNeededFor_3 : decode prog_19_method_71_code 3 = .ok (.ifCond .eq 18, 3) := by decide +kernel
theorem d_AbstractStringBuilder_inflateIfNeededFor_6 : decode prog_19_method_71_code 6 = .ok (.aload_n 0, 1) := by decide +kernel
theorem d_AbstractStringBuilder_inflateIfNeededFor_7 : decode prog_19_method_71_code 7 = .ok (.getfield 22, 3) := by decide +kernel
theorem d_AbstractStringBuilder_inflateIfNeededFor_10 : decode prog_19_method_71_code 10 = .ok (.aload_n 1, 1) := by decide +kernel
theorem d_AbstractStringBuilder_inflateIfNeededFor_11 : decode prog_19_method_71_code 11 = .ok (.invokevirtual 40, 3) := by decide +kernel
theorem d_AbstractStringBuilder_inflateIfNeededFor_14 : decode prog_19_method_71_code 14 = .ok (.if_icmp .eq 7, 3) := by decide +kernel
theorem d_AbstractStringBuilder_inflateIfNeededFor_17 : decode prog_19_method_71_code 17 = .ok (.aload_n 0, 1) := by decide +kernel
theorem d_AbstractStringBuilder_inflateIfNeededFor_18 : decode prog_19_method_71_code 18 = .ok (.invokevirtual 195, 3) := by decide +kernel
theorem d_AbstractStringBuilder_inflateIfNeededFor_21 : decode prog_19_method_71_code 21 = .ok (.return_, 1) := by decide +kernel
def AbstractStringBuilder_inflateIfNeededFor (h : g_AH) (this : Nat) (p0 : Option Nat) : Option g_AH :=
  if (1 : Int32) = 0 then (some h) else (g_gI h this 17 1 fun x3 => g_nn p0 fun a6 => g_is h a6 18 <| g_b (String_coder h a6) fun x9 => if x3 = x9 then (some h) else (g_is h this 17 <| g_b (AbstractStringBuilder_inflate h this) fun h16 => some h16))
set_option maxHeartbeats 4000000 in
set_option maxRecDepth 100000 in
theorem T_AbstractStringBuilder_inflateIfNeededFor {l : Launch} {B : g_B} (h : g_AH) (this : Nat) (p0 : Option Nat) (z : g_AH) (hy : AbstractStringBuilder_inflateIfNeededFor h this p0 = some z) : g_CT l B y_AbstractStringBuilder_inflateIfNeededFor k_AbstractStringBuilder_inflateIfNeededFor [.ref this, va_rf p0] h (.inl none) z := by
  refine g_start2 (Lc := [(0, .ref this), (1, va_rf p0)]) (by decide) rfl rfl (by rcases p0 with _ | p0 <;> exact Nat.le_of_ble_eq_true rfl) (by rcases p0 with _ | p0 <;> rfl) fun X => ?_
  unfold AbstractStringBuilder_inflateIfNeededFor at hy
  refine g_compact (pc' := 3) d_AbstractStringBuilder_inflateIfNeededFor_0 q230 rfl ?_
  by_cases c1 : (1 : Int32) = 0
  · rw [if_pos c1] at hy
    refine g_if_eqT (pc' := 21) d_AbstractStringBuilder_inflateIfNeededFor_3 c1 (by decide) ?_
    cases hy
    exact g_vret rfl rfl rfl d_AbstractStringBuilder_inflateIfNeededFor_21
  · rw [if_neg c1] at hy
    refine g_if_eqF (pc' := 6) d_AbstractStringBuilder_inflateIfNeededFor_3 21 c1 (by decide) rfl ?_
    refine g_aload_n 0 (i := 0) (pc' := 7) d_AbstractStringBuilder_inflateIfNeededFor_6 rfl rfl rfl ?_
    replace hy := g_gI_inv hy
    obtain ⟨fs2, x3, hc4, hv5, hy⟩ := hy
    refine g_getf (pc' := 10) d_AbstractStringBuilder_inflateIfNeededFor_7 hc4 rfl (by decide) hv5 q240 (Or.inl rfl) rfl ?_
    refine g_aloadO_n 1 (i := 1) (pc' := 11) d_AbstractStringBuilder_inflateIfNeededFor_10 rfl rfl rfl ?_
    replace hy := g_nn_inv hy
    obtain ⟨a6, rfl, hy⟩ := hy
    replace hy := g_is_inv hy
    obtain ⟨fs7, hc8, hy⟩ := hy
    replace hy := g_b_inv hy
    obtain ⟨x9, hf11, hy⟩ := hy
    refine g_callV (rv := some (.int x9)) (h1 := h) (pc' := 14) (As := []) (rest := [.int x3]) 0 (T_String_coder (hy := hf11)) d_AbstractStringBuilder_inflateIfNeededFor_11 hc8 rfl rfl q349 q337 q338 q119 q339 hd_String_coder rfl ⟨by decide, by decide⟩ (by first | exact Nat.le_of_ble_eq_true rfl | (simp only [List.map, List.sum_cons, List.sum_nil, g_cat_rf]; exact Nat.le_of_ble_eq_true rfl) | (simp only [List.map, List.sum_cons, List.sum_nil, g_cat_rf, Value.category]; decide)) rfl ?_
    by_cases c12 : x3 = x9
    · rw [if_pos c12] at hy
      refine g_icmp_eqT (pc' := 21) d_AbstractStringBuilder_inflateIfNeededFor_14 c12 (by decide) ?_
      cases hy
      exact g_vret rfl rfl rfl d_AbstractStringBuilder_inflateIfNeededFor_21
    · rw [if_neg c12] at hy
      refine g_icmp_eqF (pc' := 17) d_AbstractStringBuilder_inflateIfNeededFor_14 21 c12 (by decide) rfl ?_
      refine g_aload_n 0 (i := 0) (pc' := 18) d_AbstractStringBuilder_inflateIfNeededFor_17 rfl rfl rfl ?_
      replace hy := g_is_inv hy
      obtain ⟨fs13, hc14, hy⟩ := hy
      replace hy := g_b_inv hy
      obtain ⟨h16, hf17, hy⟩ := hy
      refine g_callP (y2 := ⟨"java/lang/AbstractStringBuilder", "isLatin1", "()Z"⟩) (rv := none) (h1 := h16) (pc' := 21) (As := []) (rest := []) 0 (T_AbstractStringBuilder_inflate (hy := hf17)) d_AbstractStringBuilder_inflateIfNeededFor_18 hc14 rfl q350 q2547 q351 q352 q117 q353 rfl q302 q304 hd_AbstractStringBuilder_inflate rfl ⟨by decide, by decide⟩ (by first | exact Nat.le_of_ble_eq_true rfl | (simp only [List.map, List.sum_cons, List.sum_nil, g_cat_rf]; exact Nat.le_of_ble_eq_true rfl) | (simp only [List.map, List.sum_cons, List.sum_nil, g_cat_rf, Value.category]; decide)) rfl ?_
      cases hy
      exact g_vret rfl rfl rfl d_AbstractStringBuilder_inflateIfNeededFor_21
theorem hd_AbstractStringBuilder_inflateIfNeededFor : g_dsc y_AbstractStringBuilder_inflateIfNeededFor 1 := ⟨by decide +kernel, by decide +kernel, by decide +kernel⟩
/-! java/lang/String.getBytes([BIB)V -/
abbrev y_String_getBytes : MethodName := ⟨"java/lang/String", "getBytes", "([BIB)V"⟩
abbrev k_String_getBytes : g_M := (prog_34_method_147_code, 4, "java/lang/String", 17, none, "getBytes", [], 0)
theorem d_String_getBytes_0 : decode prog_34_method_147_code 0 = .ok (.aload_n 0, 1) := by decide +kernel
theorem d_String_getBytes_1 : decode prog_34_method_147_code 1 = .ok (.invokevirtual 335, 3) := by decide +kernel
theorem d_String_getBytes_4 : decode prog_34_method_147_code 4 = .ok (.iload_n 3, 1) := by decide +kernel
theorem d_String_getBytes_5 : decode prog_34_method_147_code 5 = .ok (.if_icmp .ne 23, 3) := by decide +kernel
theorem d_String_getBytes_8 : decode prog_34_method_147_code 8 = .ok (.aload_n 0, 1) := by decide +kernel
theorem d_String_getBytes_9 : decode prog_34_method_147_code 9 = .ok (.getfield 9, 3) := by decide +kernel
theorem d_String_getBytes_12 : decode prog_34_method_147_code 12 = .ok (.iconst 0, 1) := by decide +kernel
theorem d_String_getBytes_13 : decode prog_34_method_147_code 13 = .ok (.aload_n 1, 1) := by decide +kernel
theorem d_String_getBytes_14 : decode prog_34_method_147_code 14 = .ok (.iload_n 2, 1) := by decide +kernel
theorem d_String_getBytes_15 : decode prog_34_method_147_code 15 = .ok (.iload_n 3, 1) := by decide +kernel
theorem d_String_getBytes_16 : decode prog_34_method_147_code 16 = .ok (.ishl, 1) := by decide +kernel
theorem d_String_getBytes_17 : decode prog_34_method_147_code 17 = .ok (.aload_n 0, 1) := by decide +kernel
theorem d_String_getBytes_18 : decode prog_34_method_147_code 18 = .ok (.getfield 9, 3) := by decide +kernel
theorem d_String_getBytes_21 : decode prog_34_method_147_code 21 = .ok (.arraylength, 1) := by decide +kernel
theorem d_String_getBytes_22 : decode prog_34_method_147_code 22 = .ok (.invokestatic 212, 3) := by decide +kernel
theorem d_String_getBytes_25 : decode prog_34_method_147_code 25 = .ok (.goto 18, 3) := by decide +kernel
theorem d_String_getBytes_28 : decode prog_34_method_147_code 28 = .ok (.aload_n 0, 1) := by decide +kernel
theorem d_String_getBytes_29 : decode prog_34_method_147_code 29 = .ok (.getfield 9, 3) := by decide +kernel
theorem d_String_getBytes_32 : decode prog_34_method_147_code 32 = .ok (.iconst 0, 1) := by decide +kernel
theorem d_String_getBytes_33 : decode prog_34_method_147_code 33 = .ok (.aload_n 1, 1) := by decide +kernel
theorem d_String_getBytes_34 : decode prog_34_method_147_code 34 = .ok (.iload_n 2, 1) := by decide +kernel
theorem d_String_getBytes_35 : decode prog_34_method_147_code 35 = .ok (.aload_n 0, 1) := by decide +kernel
theorem d_String_getBytes_36 : decode prog_34_method_147_code 36 = .ok (.getfield 9, 3) := by decide +kernel
theorem d_String_getBytes_39 : decode prog_34_method_147_code 39 = .ok (.arraylength, 1) := by decide +kernel
theorem d_String_getBytes_40 : decode prog_34_method_147_code 40 = .ok (.invokestatic 106, 3) := by decide +kernel
theorem d_String_getBytes_43 : decode prog_34_method_147_code 43 = .ok (.return_, 1) := by decide +kernel
def String_getBytes (h : g_AH) (this : Nat) (p0 : Option Nat) (p1 : Int32) (p2 : Int32) : Option g_AH :=
  g_is h this 18 <| g_b (String_coder h this) fun x3 => if x3 = p2 then (g_gR h this 18 0 fun x25 => g_gR h this 18 0 fun x29 => g_nn x29 fun a32 => g_len h a32 fun x37 => g_nn x25 fun a38 => g_nn p0 fun a39 => g_cpB h a38 (0 : Int32) a39 (p1 <<< (p2 &&& 31)) x37 fun h48 => some h48) else (g_gR h this 18 0 fun x8 => g_gR h this 18 0 fun x12 => g_nn x12 fun a15 => g_len h a15 fun x20 => g_b (StringLatin1_inflate h x8 (0 : Int32) p0 p1 x20) fun h22 => some h22)
set_option maxHeartbeats 4000000 in
set_option maxRecDepth 100000 in
theorem T_String_getBytes {l : Launch} {B : g_B} (h : g_AH) (this : Nat) (p0 : Option Nat) (p1 : Int32) (p2 : Int32) (z : g_AH) (hy : String_getBytes h this p0 p1 p2 = some z) : g_CT l B y_String_getBytes k_String_getBytes [.ref this, va_rf p0, .int p1, .int p2] h (.inl none) z := by
  refine g_start2 (Lc := [(0, .ref this), (1, va_rf p0), (2, .int p1), (3, .int p2)]) (by decide) rfl rfl (by rcases p0 with _ | p0 <;> exact Nat.le_of_ble_eq_true rfl) (by rcases p0 with _ | p0 <;> rfl) fun X => ?_
  unfold String_getBytes at hy
  refine g_aload_n 0 (i := 0) (pc' := 1) d_String_getBytes_0 rfl rfl rfl ?_
  replace hy := g_is_inv hy
  obtain ⟨fs1, hc2, hy⟩ := hy
  replace hy := g_b_inv hy
  obtain ⟨x3, hf5, hy⟩ := hy
  refine g_callV (rv := some (.int x3)) (h1 := h) (pc' := 4) (As := []) (rest := []) 0 (T_String_coder (hy := hf5)) d_String_getBytes_1 hc2 rfl rfl q336 q337 q338 q119 q339 hd_String_coder rfl ⟨by decide, by decide⟩ (by first | exact Nat.le_of_ble_eq_true rfl | (simp only [List.map, List.sum_cons, List.sum_nil, g_cat_rf]; exact Nat.le_of_ble_eq_true rfl) | (simp only [List.map, List.sum_cons, List.sum_nil, g_cat_rf, Value.category]; decide)) rfl ?_
  refine g_iload_n 3 (i := 3) (pc' := 5) d_String_getBytes_4 rfl rfl rfl ?_
  by_cases c6 : x3 = p2
  · rw [if_pos c6] at hy
    refine g_icmp_neF (pc' := 8) d_String_getBytes_5 28 c6 (by decide) rfl ?_
    refine g_aload_n 0 (i := 0) (pc' := 9) d_String_getBytes_8 rfl rfl rfl ?_
    replace hy := g_gR_inv hy
    obtain ⟨fs24, x25, hc26, hv27, hy⟩ := hy
    refine g_getf (pc' := 12) d_String_getBytes_9 hc26 rfl (by decide) hv27 q481 (Or.inl rfl) rfl ?_
    refine g_iconst (v := (0 : Int32)) (pc' := 13) d_String_getBytes_12 (by decide) rfl ?_
    refine g_aloadO_n 1 (i := 1) (pc' := 14) d_String_getBytes_13 rfl rfl rfl ?_
    refine g_iload_n 2 (i := 2) (pc' := 15) d_String_getBytes_14 rfl rfl rfl ?_
    refine g_iload_n 3 (i := 3) (pc' := 16) d_String_getBytes_15 rfl rfl rfl ?_
    refine g_ishl (pc' := 17) d_String_getBytes_16 rfl ?_
    refine g_aload_n 0 (i := 0) (pc' := 18) d_String_getBytes_17 rfl rfl rfl ?_
    replace hy := g_gR_inv hy
    obtain ⟨fs28, x29, hc30, hv31, hy⟩ := hy
    refine g_getf (pc' := 21) d_String_getBytes_18 hc30 rfl (by decide) hv31 q481 (Or.inl rfl) rfl ?_
    replace hy := g_nn_inv hy
    obtain ⟨a32, rfl, hy⟩ := hy
    replace hy := g_len_inv hy
    obtain ⟨t33, y34, hc35, ht36, hy⟩ := hy
    refine g_alen (pc' := 22) d_String_getBytes_21 hc35 ht36 rfl rfl ?_
    generalize Int32.ofNat y34.1 = x37 at hy ⊢
    replace hy := g_nn_inv hy
    obtain ⟨a38, rfl, hy⟩ := hy
    replace hy := g_nn_inv hy
    obtain ⟨a39, rfl, hy⟩ := hy
    replace hy := g_cpB_inv hy
    obtain ⟨n40, f41, n42, g43, hc44, hc45, hr46, hf47, hy⟩ := hy
    refine g_copyB (pc' := 25) d_String_getBytes_22 q373 hc44 hc45 hr46 hf47 (by first | exact Nat.le_of_ble_eq_true rfl | (simp only [List.map, List.sum_cons, List.sum_nil, g_cat_rf]; exact Nat.le_of_ble_eq_true rfl) | (simp only [List.map, List.sum_cons, List.sum_nil, g_cat_rf, Value.category]; decide)) (by decide) rfl ?_
    generalize g_up h a39 (.inl (2, n42, .inl (va_cpy f41 g43 ((0 : Int32)).toNatClampNeg ((p1 <<< (p2 &&& 31))).toNatClampNeg (x37).toNatClampNeg))) = h48 at hy ⊢
    refine g_goto (pc' := 43) d_String_getBytes_25 (by decide) ?_
    cases hy
    exact g_vret rfl rfl rfl d_String_getBytes_43
  · rw [if_neg c6] at hy
    refine g_icmp_neT (pc' := 28) d_String_getBytes_5 c6 (by decide) ?_
    refine g_aload_n 0 (i := 0) (pc' := 29) d_String_getBytes_28 rfl rfl rfl ?_
    replace hy := g_gR_inv hy
    obtain ⟨fs7, x8, hc9, hv10, hy⟩ := hy
    refine g_getf (pc' := 32) d_String_getBytes_29 hc9 rfl (by decide) hv10 q481 (Or.inl rfl) rfl ?_
    refine g_iconst (v := (0 : Int32)) (pc' := 33) d_String_getBytes_32 (by decide) rfl ?_
    refine g_aloadO_n 1 (i := 1) (pc' := 34) d_String_getBytes_33 rfl rfl rfl ?_
    refine g_iload_n 2 (i := 2) (pc' := 35) d_String_getBytes_34 rfl rfl rfl ?_
    refine g_aload_n 0 (i := 0) (pc' := 36) d_String_getBytes_35 rfl rfl rfl ?_
    replace hy := g_gR_inv hy
    obtain ⟨fs11, x12, hc13, hv14, hy⟩ := hy
    refine g_getf (pc' := 39) d_String_getBytes_36 hc13 rfl (by decide) hv14 q481 (Or.inl rfl) rfl ?_
    replace hy := g_nn_inv hy
    obtain ⟨a15, rfl, hy⟩ := hy
    replace hy := g_len_inv hy
    obtain ⟨t16, y17, hc18, ht19, hy⟩ := hy
    refine g_alen (pc' := 40) d_String_getBytes_39 hc18 ht19 rfl rfl ?_
    generalize Int32.ofNat y17.1 = x20 at hy ⊢
    replace hy := g_b_inv hy
    obtain ⟨h22, hf23, hy⟩ := hy
    refine g_callS (rv := none) (h1 := h22) (pc' := 43) (As := [va_rf x8, .int (0 : Int32), va_rf p0, .int p1, .int x20]) (rest := []) 5 (T_StringLatin1_inflate (hy := hf23)) d_String_getBytes_40 q374 q355 q126 q356 hd_StringLatin1_inflate rfl ⟨by decide, by decide⟩ (by first | exact Nat.le_of_ble_eq_true rfl | (simp only [List.map, List.sum_cons, List.sum_nil, g_cat_rf]; exact Nat.le_of_ble_eq_true rfl) | (simp only [List.map, List.sum_cons, List.sum_nil, g_cat_rf, Value.category]; decide)) rfl ?_
    cases hy
    exact g_vret rfl rfl rfl d_String_getBytes_43
theorem hd_String_getBytes : g_dsc y_String_getBytes 3 := ⟨by decide +kernel, by decide +kernel, by decide +kernel⟩
/-! java/lang/AbstractStringBuilder.putStringAt(ILjava/lang/String;)V -/
abbrev y_AbstractStringBuilder_putStringAt : MethodName := ⟨"java/lang/AbstractStringBuilder", "putStringAt", "(ILjava/lang/String;)V"⟩
abbrev k_AbstractStringBuilder_putStringAt : g_M := (prog_19_method_73_code, 3, "java/lang/AbstractStringBuilder", 19, none, "putStringAt", [], 0)
theorem d_AbstractStringBuilder_putStringAt_0 : decode prog_19_method_73_code 0 = .ok (.aload_n 0, 1) := by decide +kernel
theorem d_AbstractStringBuilder_putStringAt_1 : decode prog_19_method_73_code 1 = .ok (.aload_n 2, 1) := by decide +kernel
theorem d_AbstractStringBuilder_putStringAt_2 : decode prog_19_method_73_code 2 = .ok (.invokevirtual 397, 3) := by decide +kernel
theorem d_AbstractStringBuilder_putStringAt_5 : decode prog_19_method_73_code 5 = .ok (.aload_n 2, 1) := by decide +kernel
theorem d_AbstractStringBuilder_putStringAt_6 : decode prog_19_method_73_code 6 = .ok (.aload_n 0, 1) := by decide +kernel
theorem d_AbstractStringBuilder_putStringAt_7 : decode prog_19_method_73_code 7 = .ok (.getfield 15, 3) := by decide +kernel
theorem d_AbstractStringBuilder_putStringAt_10 : decode prog_19_method_73_code 10 = .ok (.iload_n 1, 1) := by decide +kernel
theorem d_AbstractStringBuilder_putStringAt_11 : decode prog_19_method_73_code 11 = .ok (.aload_n 0, 1) := by decide +kernel
theorem d_AbstractStringBuilder_putStringAt_12 : decode prog_19_method_73_code 12 = .ok (.getfield 22, 3) := by decide +kernel
theorem d_AbstractStringBuilder_putStringAt_15 : decode prog_19_method_73_code 15 = .ok (.invokevirtual 399, 3) := by decide +kernel
theorem d_AbstractStringBuilder_putStringAt_18 : decode prog_19_method_73_code 18 = .ok (.return_, 1) := by decide +kernel
def AbstractStringBuilder_putStringAt (h : g_AH) (this : Nat) (p0 : Int32) (p1 : Option Nat) : Option g_AH :=
  g_is h this 17 <| g_b (AbstractStringBuilder_inflateIfNeededFor h this p1) fun h4 => g_gR h4 this 17 0 fun x7 => g_gI h4 this 17 1 fun x11 => g_nn p1 fun a14 => g_is h4 a14 18 <| g_b (String_getBytes h4 a14 x7 p0 x11) fun h18 => some h18
set_option maxHeartbeats 4000000 in
set_option maxRecDepth 100000 in
theorem T_AbstractStringBuilder_putStringAt {l : Launch} {B : g_B} (h : g_AH) (this : Nat) (p0 : Int32) (p1 : Option Nat) (z : g_AH) (hy : AbstractStringBuilder_putStringAt h this p0 p1 = some z) : g_CT l B y_AbstractStringBuilder_putStringAt k_AbstractStringBuilder_putStringAt [.ref this, .int p0, va_rf p1] h (.inl none) z := by
  refine g_start2 (Lc := [(0, .ref this), (1, .int p0), (2, va_rf p1)]) (by decide) rfl rfl (by rcases p1 with _ | p1 <;> exact Nat.le_of_ble_eq_true rfl) (by rcases p1 with _ | p1 <;> rfl) fun X => ?_
  unfold AbstractStringBuilder_putStringAt at hy
  refine g_aload_n 0 (i := 0) (pc' := 1) d_AbstractStringBuilder_putStringAt_0 rfl rfl rfl ?_
  refine g_aloadO_n 2 (i := 2) (pc' := 2) d_AbstractStringBuilder_putStringAt_1 rfl rfl rfl ?_
  replace hy := g_is_inv hy
  obtain ⟨fs1, hc2, hy⟩ := hy
  replace hy := g_b_inv hy
  obtain ⟨h4, hf5, hy⟩ := hy
  refine g_callP (y2 := ⟨"java/lang/AbstractStringBuilder", "isLatin1", "()Z"⟩) (rv := none) (h1 := h4) (pc' := 5) (As := [va_rf p1]) (rest := []) 1 (T_AbstractStringBuilder_inflateIfNeededFor (hy := hf5)) d_AbstractStringBuilder_putStringAt_2 hc2 rfl q345 q2546 q346 q347 q117 q348 rfl q302 q304 hd_AbstractStringBuilder_inflateIfNeededFor rfl ⟨by decide, by decide⟩ (by first | exact Nat.le_of_ble_eq_true rfl | (simp only [List.map, List.sum_cons, List.sum_nil, g_cat_rf]; exact Nat.le_of_ble_eq_true rfl) | (simp only [List.map, List.sum_cons, List.sum_nil, g_cat_rf, Value.category]; decide)) rfl ?_
  refine g_aloadO_n 2 (i := 2) (pc' := 6) d_AbstractStringBuilder_putStringAt_5 rfl rfl rfl ?_
  refine g_aload_n 0 (i := 0) (pc' := 7) d_AbstractStringBuilder_putStringAt_6 rfl rfl rfl ?_
  replace hy := g_gR_inv hy
  obtain ⟨fs6, x7, hc8, hv9, hy⟩ := hy
  refine g_getf (pc' := 10) d_AbstractStringBuilder_putStringAt_7 hc8 rfl (by decide) hv9 q239 (Or.inl rfl) rfl ?_
  refine g_iload_n 1 (i := 1) (pc' := 11) d_AbstractStringBuilder_putStringAt_10 rfl rfl rfl ?_
  refine g_aload_n 0 (i := 0) (pc' := 12) d_AbstractStringBuilder_putStringAt_11 rfl rfl rfl ?_
  replace hy := g_gI_inv hy
  obtain ⟨fs10, x11, hc12, hv13, hy⟩ := hy
  refine g_getf (pc' := 15) d_AbstractStringBuilder_putStringAt_12 hc12 rfl (by decide) hv13 q240 (Or.inl rfl) rfl ?_
  replace hy := g_nn_inv hy
  obtain ⟨a14, rfl, hy⟩ := hy
  replace hy := g_is_inv hy
  obtain ⟨fs15, hc16, hy⟩ := hy
  replace hy := g_b_inv hy
  obtain ⟨h18, hf19, hy⟩ := hy
  refine g_callV (rv := none) (h1 := h18) (pc' := 18) (As := [va_rf x7, .int p0, .int x11]) (rest := []) 3 (T_String_getBytes (hy := hf19)) d_AbstractStringBuilder_putStringAt_15 hc16 rfl rfl q369 q370 q371 q119 q372 hd_String_getBytes rfl ⟨by decide, by decide⟩ (by first | exact Nat.le_of_ble_eq_true rfl | (simp only [List.map, List.sum_cons, List.sum_nil, g_cat_rf]; exact Nat.le_of_ble_eq_true rfl) | (simp only [List.map, List.sum_cons, List.sum_nil, g_cat_rf, Value.category]; decide)) rfl ?_
  cases hy
  exact g_vret rfl rfl rfl d_AbstractStringBuilder_putStringAt_18
theorem hd_AbstractStringBuilder_putStringAt : g_dsc y_AbstractStringBuilder_putStringAt 2 := ⟨by decide +kernel, by decide +kernel, by decide +kernel⟩
/-! java/lang/AbstractStringBuilder.append(Ljava/lang/String;)Ljava/lang/AbstractStringBuilder; -/
abbrev y_AbstractStringBuilder_append0 : MethodName := ⟨"java/lang/AbstractStringBuilder", "append", "(Ljava/lang/String;)Ljava/lang/AbstractStringBuilder;"⟩
abbrev k_AbstractStringBuilder_append0 : g_M := (prog_19_method_22_code, 3, "java/lang/AbstractStringBuilder", 20, (some (FieldType.object "java/lang/AbstractStringBuilder")), "append", [], 0)
theorem d_AbstractStringBuilder_append0_0 : decode prog_19_method_22_code 0 = .ok (.aload_n 1, 1) := by decide +kernel
theorem d_AbstractStringBuilder_append0_1 : decode prog_19_method_22_code 1 = .ok (.ifnonnull 8, 3) := by decide +kernel
theorem d_AbstractStringBuilder_append0_4 : decode prog_19_method_22_code 4 = .ok (.aload_n 0, 1) := by decide +kernel
theorem d_AbstractStringBuilder_append0_5 : decode prog_19_method_22_code 5 = .ok (.invokevirtual 204, 3) := by decide +kernel
theorem d_AbstractStringBuilder_append0_8 : decode prog_19_method_22_code 8 = .ok (.areturn, 1) := by decide +kernel
theorem d_AbstractStringBuilder_append0_9 : decode prog_19_method_22_code 9 = .ok (.aload_n 1, 1) := by decide +kernel
theorem d_AbstractStringBuilder_append0_10 : decode prog_19_method_22_code 10 = .ok (.invokevirtual 32, 3) := by decide +kernel
theorem d_AbstractStringBuilder_append0_13 : decode prog_19_method_22_code 13 = .ok (.istore_n 2, 1) := by decide +kernel
theorem d_AbstractStringBuilder_append0_14 : decode prog_19_method_22_code 14 = .ok (.aload_n 0, 1) := by decide +kernel
theorem d_AbstractStringBuilder_append0_15 : decode prog_19_method_22_code 15 = .ok (.aload_n 0, 1) := by decide +kernel
theorem d_AbstractStringBuilder_append0_16 : decode prog_19_method_22_code 16 = .ok (.getfield 79, 3) := by decide +kernel
theorem d_AbstractStringBuilder_append0_19 : decode prog_19_method_22_code 19 = .ok (.iload_n 2, 1) := by decide +kernel
theorem d_AbstractStringBuilder_append0_20 : decode prog_19_method_22_code 20 = .ok (.iadd, 1) := by decide +kernel
theorem d_AbstractStringBuilder_append0_21 : decode prog_19_method_22_code 21 = .ok (.invokevirtual 100, 3) := by decide +kernel
theorem d_AbstractStringBuilder_append0_24 : decode prog_19_method_22_code 24 = .ok (.aload_n 0, 1) := by decide +kernel
theorem d_AbstractStringBuilder_append0_25 : decode prog_19_method_22_code 25 = .ok (.aload_n 0, 1) := by decide +kernel
theorem d_AbstractStringBuilder_append0_26 : decode prog_19_method_22_code 26 = .ok (.getfield 79, 3) := by decide +kernel
theorem d_AbstractStringBuilder_append0_29 : decode prog_19_method_22_code 29 = .ok (.aload_n 1, 1) := by decide +kernel
theorem d_AbstractStringBuilder_append0_30 : decode prog_19_method_22_code 30 = .ok (.invokevirtual 208, 3) := by decide +kernel
theorem d_AbstractStringBuilder_append0_33 : decode prog_19_method_22_code 33 = .ok (.aload_n 0, 1) := by decide +kernel
theorem d_AbstractStringBuilder_append0_34 : decode prog_19_method_22_code 34 = .ok (.dup, 1) := by decide +kernel
theorem d_AbstractStringBuilder_append0_35 : decode prog_19_method_22_code 35 = .ok (.getfield 79, 3) := by decide +kernel
theorem d_AbstractStringBuilder_append0_38 : decode prog_19_method_22_code 38 = .ok (.iload_n 2, 1) := by decide +kernel
theorem d_AbstractStringBuilder_append0_39 : decode prog_19_method_22_code 39 = .ok (.iadd, 1) := by decide +kernel
theorem d_AbstractStringBuilder_append0_40 : decode prog_19_method_22_code 40 = .ok (.putfield 79, 3) := by decide +kernel
theorem d_AbstractStringBuilder_append0_43 : decode prog_19_method_22_code 43 = .ok (.aload_n 0, 1) := by decide +kernel
theorem d_AbstractStringBuilder_append0_44 : decode prog_19_method_22_code 44 = .ok (.areturn, 1) := by decide +kernel
def AbstractStringBuilder_append0 (h : g_AH) (this : Nat) (p0 : Option Nat) : Option (Option Nat × g_AH) :=
  if p0 = none then (g_is h this 17 <| g_b2 (AbstractStringBuilder_appendNull h this) fun x36 h37 => some (x36, h37)) else (g_nn p0 fun a2 => g_is h a2 18 <| g_b (String_length h a2) fun x5 => g_gI h this 17 3 fun x9 => g_is h this 17 <| g_b (AbstractStringBuilder_ensureCapacityInternal h this (x9 + x5)) fun h15 => g_gI h15 this 17 3 fun x18 => g_is h15 this 17 <| g_b (AbstractStringBuilder_putStringAt h15 this x18 (some a2)) fun h24 => g_gI h24 this 17 3 fun x27 => g_pF h24 this 17 3 (.int (x27 + x5)) fun h33 => some ((some this), h33))
set_option maxHeartbeats 4000000 in
set_option maxRecDepth 100000 in
theorem T_AbstractStringBuilder_append0 {l : Launch} {B : g_B} (h : g_AH) (this : Nat) (p0 : Option Nat) (z : Option Nat × g_AH) (hy : AbstractStringBuilder_append0 h this p0 = some z) : g_CT l B y_AbstractStringBuilder_append0 k_AbstractStringBuilder_append0 [.ref this, va_rf p0] h (.inl (some (va_rf z.1))) z.2 := by
  refine g_start2 (Lc := [(0, .ref this), (1, va_rf p0)]) (by decide) rfl rfl (by rcases p0 with _ | p0 <;> exact Nat.le_of_ble_eq_true rfl) (by rcases p0 with _ | p0 <;> rfl) fun X => ?_
  unfold AbstractStringBuilder_append0 at hy
  refine g_aloadO_n 1 (i := 1) (pc' := 1) d_AbstractStringBuilder_append0_0 rfl rfl rfl ?_
  by_cases c1 : p0 = none
  · rw [if_pos c1] at hy
    refine g_ifnonnullF (pc' := 4) d_AbstractStringBuilder_append0_1 c1 rfl ?_
    refine g_aload_n 0 (i := 0) (pc' := 5) d_AbstractStringBuilder_append0_4 rfl rfl rfl ?_
    replace hy := g_is_inv hy
    obtain ⟨fs34, hc35, hy⟩ := hy
    replace hy := g_b2_inv hy
    obtain ⟨x36, h37, hf38, hy⟩ := hy
    refine g_callP (y2 := ⟨"java/lang/AbstractStringBuilder", "isLatin1", "()Z"⟩) (rv := some (va_rf x36)) (h1 := h37) (pc' := 8) (As := []) (rest := []) 0 (T_AbstractStringBuilder_appendNull (hy := hf38)) d_AbstractStringBuilder_append0_5 hc35 rfl q262 q2542 q263 q264 q117 q265 rfl q302 q304 hd_AbstractStringBuilder_appendNull rfl ⟨by decide, by decide⟩ (by first | exact Nat.le_of_ble_eq_true rfl | (simp only [List.map, List.sum_cons, List.sum_nil, g_cat_rf]; exact Nat.le_of_ble_eq_true rfl) | (simp only [List.map, List.sum_cons, List.sum_nil, g_cat_rf, Value.category]; decide)) rfl ?_
    cases hy
    exact g_aret rfl rfl rfl (Or.inl ⟨_, rfl⟩) d_AbstractStringBuilder_append0_8
  · rw [if_neg c1] at hy
    refine g_ifnonnullT (pc' := 9) d_AbstractStringBuilder_append0_1 c1 (by decide) ?_
    refine g_aloadO_n 1 (i := 1) (pc' := 10) d_AbstractStringBuilder_append0_9 rfl rfl rfl ?_
    replace hy := g_nn_inv hy
    obtain ⟨a2, rfl, hy⟩ := hy
    replace hy := g_is_inv hy
    obtain ⟨fs3, hc4, hy⟩ := hy
    replace hy := g_b_inv hy
    obtain ⟨x5, hf7, hy⟩ := hy
    refine g_callV (rv := some (.int x5)) (h1 := h) (pc' := 13) (As := []) (rest := []) 0 (T_String_length (hy := hf7)) d_AbstractStringBuilder_append0_10 hc4 rfl rfl q332 q333 q334 q119 q335 hd_String_length rfl ⟨by decide, by decide⟩ (by first | exact Nat.le_of_ble_eq_true rfl | (simp only [List.map, List.sum_cons, List.sum_nil, g_cat_rf]; exact Nat.le_of_ble_eq_true rfl) | (simp only [List.map, List.sum_cons, List.sum_nil, g_cat_rf, Value.category]; decide)) rfl ?_
    refine g_istore_n (i := 2) (pc' := 14) (Lc' := [(2, .int x5), (0, .ref this), (1, .ref a2)]) d_AbstractStringBuilder_append0_13 rfl (by decide) rfl rfl ?_
    refine g_aload_n 1 (i := 0) (pc' := 15) d_AbstractStringBuilder_append0_14 rfl rfl rfl ?_
    refine g_aload_n 1 (i := 0) (pc' := 16) d_AbstractStringBuilder_append0_15 rfl rfl rfl ?_
    replace hy := g_gI_inv hy
    obtain ⟨fs8, x9, hc10, hv11, hy⟩ := hy
    refine g_getf (pc' := 19) d_AbstractStringBuilder_append0_16 hc10 rfl (by decide) hv11 q242 (Or.inl rfl) rfl ?_
    refine g_iload_n 0 (i := 2) (pc' := 20) d_AbstractStringBuilder_append0_19 rfl rfl rfl ?_
    refine g_iadd (pc' := 21) d_AbstractStringBuilder_append0_20 rfl ?_
    replace hy := g_is_inv hy
    obtain ⟨fs12, hc13, hy⟩ := hy
    replace hy := g_b_inv hy
    obtain ⟨h15, hf16, hy⟩ := hy
    refine g_callP (y2 := ⟨"java/lang/AbstractStringBuilder", "isLatin1", "()Z"⟩) (rv := none) (h1 := h15) (pc' := 24) (As := [.int (x9 + x5)]) (rest := []) 1 (T_AbstractStringBuilder_ensureCapacityInternal (hy := hf16)) d_AbstractStringBuilder_append0_21 hc13 rfl q266 q2543 q267 q268 q117 q269 rfl q302 q304 hd_AbstractStringBuilder_ensureCapacityInternal rfl ⟨by decide, by decide⟩ (by first | exact Nat.le_of_ble_eq_true rfl | (simp only [List.map, List.sum_cons, List.sum_nil, g_cat_rf]; exact Nat.le_of_ble_eq_true rfl) | (simp only [List.map, List.sum_cons, List.sum_nil, g_cat_rf, Value.category]; decide)) rfl ?_
    refine g_aload_n 1 (i := 0) (pc' := 25) d_AbstractStringBuilder_append0_24 rfl rfl rfl ?_
    refine g_aload_n 1 (i := 0) (pc' := 26) d_AbstractStringBuilder_append0_25 rfl rfl rfl ?_
    replace hy := g_gI_inv hy
    obtain ⟨fs17, x18, hc19, hv20, hy⟩ := hy
    refine g_getf (pc' := 29) d_AbstractStringBuilder_append0_26 hc19 rfl (by decide) hv20 q242 (Or.inl rfl) rfl ?_
    refine g_aload_n 2 (i := 1) (pc' := 30) d_AbstractStringBuilder_append0_29 rfl rfl rfl ?_
    replace hy := g_is_inv hy
    obtain ⟨fs21, hc22, hy⟩ := hy
    replace hy := g_b_inv hy
    obtain ⟨h24, hf25, hy⟩ := hy
    refine g_callP (y2 := ⟨"java/lang/AbstractStringBuilder", "isLatin1", "()Z"⟩) (rv := none) (h1 := h24) (pc' := 33) (As := [.int x18, va_rf (some a2)]) (rest := []) 2 (T_AbstractStringBuilder_putStringAt (hy := hf25)) d_AbstractStringBuilder_append0_30 hc22 rfl q341 q2545 q342 q343 q117 q344 rfl q302 q304 hd_AbstractStringBuilder_putStringAt rfl ⟨by decide, by decide⟩ (by first | exact Nat.le_of_ble_eq_true rfl | (simp only [List.map, List.sum_cons, List.sum_nil, g_cat_rf]; exact Nat.le_of_ble_eq_true rfl) | (simp only [List.map, List.sum_cons, List.sum_nil, g_cat_rf, Value.category]; decide)) rfl ?_
    refine g_aload_n 1 (i := 0) (pc' := 34) d_AbstractStringBuilder_append0_33 rfl rfl rfl ?_
    refine g_dup (pc' := 35) d_AbstractStringBuilder_append0_34 rfl rfl ?_
    replace hy := g_gI_inv hy
    obtain ⟨fs26, x27, hc28, hv29, hy⟩ := hy
    refine g_getf (pc' := 38) d_AbstractStringBuilder_append0_35 hc28 rfl (by decide) hv29 q242 (Or.inl rfl) rfl ?_
    refine g_iload_n 0 (i := 2) (pc' := 39) d_AbstractStringBuilder_append0_38 rfl rfl rfl ?_
    refine g_iadd (pc' := 40) d_AbstractStringBuilder_append0_39 rfl ?_
    replace hy := g_pF_inv hy
    obtain ⟨fs30, hc31, hl32, hy⟩ := hy
    refine g_putf (pc' := 43) d_AbstractStringBuilder_append0_40 hc31 rfl (by decide) hl32 rfl rfl rfl q242 (Or.inl rfl) rfl ?_
    generalize g_up h24 this (.inr (17, fs30.set 3 (.int (x27 + x5)))) = h33 at hy ⊢
    refine g_aload_n 1 (i := 0) (pc' := 44) d_AbstractStringBuilder_append0_43 rfl rfl rfl ?_
    cases hy
    refine g_stk (st' := [va_rf (some this)]) rfl ?_
    exact g_aret rfl rfl rfl (Or.inl ⟨_, rfl⟩) d_AbstractStringBuilder_append0_44
theorem hd_AbstractStringBuilder_append0 : g_dsc y_AbstractStringBuilder_append0 1 := ⟨by decide +kernel, by decide +kernel, by decide +kernel⟩
/-! java/lang/StringBuilder.append(Ljava/lang/String;)Ljava/lang/StringBuilder; -/
abbrev y_StringBuilder_append0 : MethodName := ⟨"java/lang/StringBuilder", "append", "(Ljava/lang/String;)Ljava/lang/StringBuilder;"⟩
abbrev k_StringBuilder_append0 : g_M := (prog_35_method_7_code, 2, "java/lang/StringBuilder", 21, (some (FieldType.object "java/lang/StringBuilder")), "append", [], 0)
theorem d_StringBuilder_append0_0 : decode prog_35_method_7_code 0 = .ok (.aload_n 0, 1) := by decide +kernel
theorem d_StringBuilder_append0_1 : decode prog_35_method_7_code 1 = .ok (.aload_n 1, 1) := by decide +kernel
theorem d_StringBuilder_append0_2 : decode prog_35_method_7_code 2 = .ok (.invokespecial 29, 3) := by decide +kernel
theorem d_StringBuilder_append0_5 : decode prog_35_method_7_code 5 = .ok (.pop, 1) := by decide +kernel
theorem d_StringBuilder_append0_6 : decode prog_35_method_7_code 6 = .ok (.aload_n 0, 1) := by decide +kernel
theorem d_StringBuilder_append0_7 : decode prog_35_method_7_code 7 = .ok (.areturn, 1) := by decide +kernel
def StringBuilder_append0 (h : g_AH) (this : Nat) (p0 : Option Nat) : Option (Option Nat × g_AH) :=
  g_is h this 17 <| g_b2 (AbstractStringBuilder_append0 h this p0) fun x3 h4 => some ((some this), h4)
set_option maxHeartbeats 4000000 in
set_option maxRecDepth 100000 in
theorem T_StringBuilder_append0 {l : Launch} {B : g_B} (h : g_AH) (this : Nat) (p0 : Option Nat) (z : Option Nat × g_AH) (hy : StringBuilder_append0 h this p0 = some z) : g_CT l B y_StringBuilder_append0 k_StringBuilder_append0 [.ref this, va_rf p0] h (.inl (some (va_rf z.1))) z.2 := by
  refine g_start2 (Lc := [(0, .ref this), (1, va_rf p0)]) (by decide) rfl rfl (by rcases p0 with _ | p0 <;> exact Nat.le_of_ble_eq_true rfl) (by rcases p0 with _ | p0 <;> rfl) fun X => ?_
  unfold StringBuilder_append0 at hy
  refine g_aload_n 0 (i := 0) (pc' := 1) d_StringBuilder_append0_0 rfl rfl rfl ?_
  refine g_aloadO_n 1 (i := 1) (pc' := 2) d_StringBuilder_append0_1 rfl rfl rfl ?_
  replace hy := g_is_inv hy
  obtain ⟨fs1, hc2, hy⟩ := hy
  replace hy := g_b2_inv hy
  obtain ⟨x3, h4, hf5, hy⟩ := hy
  refine g_callSU (rv := some (va_rf x3)) (h1 := h4) (pc' := 5) (As := [va_rf p0]) (rest := []) 1 (T_AbstractStringBuilder_append0 (hy := hf5)) d_StringBuilder_append0_2 hc2 rfl (g_wsSU q259 q2541 q251 q260 q117 q261) ⟨by decide, by decide +kernel⟩ rfl ⟨by decide, by decide⟩ (by first | exact Nat.le_of_ble_eq_true rfl | (simp only [List.map, List.sum_cons, List.sum_nil, g_cat_rf]; exact Nat.le_of_ble_eq_true rfl) | (simp only [List.map, List.sum_cons, List.sum_nil, g_cat_rf, Value.category]; decide)) rfl ?_
  refine g_pop (pc' := 6) d_StringBuilder_append0_5 g_cat_rf rfl ?_
  refine g_aload_n 0 (i := 0) (pc' := 7) d_StringBuilder_append0_6 rfl rfl rfl ?_
  cases hy
  refine g_stk (st' := [va_rf (some this)]) rfl ?_
  exact g_aret rfl rfl rfl (Or.inl ⟨_, rfl⟩) d_StringBuilder_append0_7
theorem hd_StringBuilder_append0 : g_dsc y_StringBuilder_append0 1 := ⟨by decide +kernel, by decide +kernel, by decide +kernel⟩
/-! java/lang/Integer.stringSize(I)I -/
abbrev y_Integer_stringSize : MethodName := ⟨"java/lang/Integer", "stringSize", "(I)I"⟩
abbrev k_Integer_stringSize : g_M := (prog_29_method_13_code, 4, "java/lang/Integer", 12, (some FieldType.int), "stringSize", [], 0)
theorem d_Integer_stringSize_0 : decode prog_29_method_13_code 0 = .ok (.iconst 1, 1) := by decide +kernel
theorem d_Integer_stringSize_1 : decode prog_29_method_13_code 1 = .ok (.istore_n 1, 1) := by decide +kernel
theorem d_Integer_stringSize_2 : decode prog_29_method_13_code 2 = .ok (.iload_n 0, 1) := by decide +kernel
theorem d_Integer_stringSize_3 : decode prog_29_method_13_code 3 = .ok (.ifCond .lt 8, 3) := by decide +kernel
theorem d_Integer_stringSize_6 : decode prog_29_method_13_code 6 = .ok (.iconst 0, 1) := by decide +kernel
theorem d_Integer_stringSize_7 : decode prog_29_method_13_code 7 = .ok (.istore_n 1, 1) := by decide +kernel
theorem d_Integer_stringSize_8 : decode prog_29_method_13_code 8 = .ok (.iload_n 0, 1) := by decide +kernel
theorem d_Integer_stringSize_9 : decode prog_29_method_13_code 9 = .ok (.ineg, 1) := by decide +kernel
theorem d_Integer_stringSize_10 : decode prog_29_method_13_code 10 = .ok (.istore_n 0, 1) := by decide +kernel
theorem d_Integer_stringSize_11 : decode prog_29_method_13_code 11 = .ok (.bipush (-10), 2) := by decide +kernel
theorem d_Integer_stringSize_13 : decode prog_29_method_13_code 13 = .ok (.istore_n 2, 1) := by decide +kernel
theorem d_Integer_stringSize_14 : decode prog_29_method_13_code 14 = .ok (.iconst 1, 1) := by decide +kernel
theorem d_Integer_stringSize_15 : decode prog_29_method_13_code 15 = .ok (.istore_n 3, 1) := by decide +kernel
theorem d_Integer_stringSize_16 : decode prog_29_method_13_code 16 = .ok (.iload_n 3, 1) := by decide +kernel
theorem d_Integer_stringSize_17 : decode prog_29_method_13_code 17 = .ok (.bipush 10, 2) := by decide +kernel
theorem d_Integer_stringSize_19 : decode prog_29_method_13_code 19 = .ok (.if_icmp .ge 23, 3) := by decide +kernel
theorem d_Integer_stringSize_22 : decode prog_29_method_13_code 22 = .ok (.iload_n 0, 1) := by decide +kernel
theorem d_Integer_stringSize_23 : decode prog_29_method_13_code 23 = .ok (.iload_n 2, 1) := by decide +kernel
theorem d_Integer_stringSize_24 : decode prog_29_method_13_code 24 = .ok (.if_icmp .le 7, 3) := by decide +kernel
theorem d_Integer_stringSize_27 : decode prog_29_method_13_code 27 = .ok (.iload_n 3, 1) := by decide +kernel
theorem d_Integer_stringSize_28 : decode prog_29_method_13_code 28 = .ok (.iload_n 1, 1) := by decide +kernel
theorem d_Integer_stringSize_29 : decode prog_29_method_13_code 29 = .ok (.iadd, 1) := by decide +kernel
theorem d_Integer_stringSize_30 : decode prog_29_method_13_code 30 = .ok (.ireturn, 1) := by decide +kernel
theorem d_Integer_stringSize_31 : decode prog_29_method_13_code 31 = .ok (.bipush 10, 2) := by decide +kernel
theorem d_Integer_stringSize_33 : decode prog_29_method_13_code 33 = .ok (.iload_n 2, 1) := by decide +kernel
theorem d_Integer_stringSize_34 : decode prog_29_method_13_code 34 = .ok (.imul, 1) := by decide +kernel
theorem d_Integer_stringSize_35 : decode prog_29_method_13_code 35 = .ok (.istore_n 2, 1) := by decide +kernel
theorem d_Integer_stringSize_36 : decode prog_29_method_13_code 36 = .ok (.iinc 3 1, 3) := by decide +kernel
theorem d_Integer_stringSize_39 : decode prog_29_method_13_code 39 = .ok (.goto (-23), 3) := by decide +kernel
theorem d_Integer_stringSize_42 : decode prog_29_method_13_code 42 = .ok (.bipush 10, 2) := by decide +kernel
theorem d_Integer_stringSize_44 : decode prog_29_method_13_code 44 = .ok (.iload_n 1, 1) := by decide +kernel
theorem d_Integer_stringSize_45 : decode prog_29_method_13_code 45 = .ok (.iadd, 1) := by decide +kernel
theorem d_Integer_stringSize_46 : decode prog_29_method_13_code 46 = .ok (.ireturn, 1) := by decide +kernel
def Integer_stringSize_16  : Nat → Int32 → Int32 → Int32 → Int32 → Option (Int32)
  | 0, _, _, _, _ => none
  | n + 1, v0, v1, v2, v3 => if (10 : Int32) ≤ v3 then (some ((10 : Int32) + v1)) else (if v0 ≤ v2 then ((Integer_stringSize_16  n) v0 v1 ((10 : Int32) * v2) (v3 + (1 : Int32))) else (some (v3 + v1)))
set_option maxHeartbeats 4000000 in
set_option maxRecDepth 100000 in
theorem W_Integer_stringSize_16 {X : g_X} {h : g_AH} (z : Int32)  : ∀ (n : Nat) (v0 : Int32) (v1 : Int32) (v2 : Int32) (v3 : Int32), Integer_stringSize_16  n v0 v1 v2 v3 = some z → G X k_Integer_stringSize (.inl (some (.int z))) h h 16 [(0, .int v0), (1, .int v1), (2, .int v2), (3, .int v3)] [] := by
  intro n
  induction n with
  | zero => intro v0 v1 v2 v3 hy; exact absurd hy (by simp [Integer_stringSize_16])
  | succ n ih =>
    intro v0 v1 v2 v3 hy
    rw [Integer_stringSize_16] at hy
    refine g_iload_n 3 (i := 3) (pc' := 17) d_Integer_stringSize_16 rfl rfl rfl ?_
    refine g_bipush (v := (10 : Int32)) (pc' := 19) d_Integer_stringSize_17 (by decide) rfl ?_
    by_cases c2 : (10 : Int32) ≤ v3
    · rw [if_pos c2] at hy
      refine g_icmp_geT (pc' := 42) d_Integer_stringSize_19 c2 (by decide) ?_
      refine g_bipush (v := (10 : Int32)) (pc' := 44) d_Integer_stringSize_42 (by decide) rfl ?_
      refine g_iload_n 1 (i := 1) (pc' := 45) d_Integer_stringSize_44 rfl rfl rfl ?_
      refine g_iadd (pc' := 46) d_Integer_stringSize_45 rfl ?_
      cases hy
      exact g_iret rfl rfl rfl d_Integer_stringSize_46
    · rw [if_neg c2] at hy
      refine g_icmp_geF (pc' := 22) d_Integer_stringSize_19 42 c2 (by decide) rfl ?_
      refine g_iload_n 0 (i := 0) (pc' := 23) d_Integer_stringSize_22 rfl rfl rfl ?_
      refine g_iload_n 2 (i := 2) (pc' := 24) d_Integer_stringSize_23 rfl rfl rfl ?_
      by_cases c3 : v0 ≤ v2
      · rw [if_pos c3] at hy
        refine g_icmp_leT (pc' := 31) d_Integer_stringSize_24 c3 (by decide) ?_
        refine g_bipush (v := (10 : Int32)) (pc' := 33) d_Integer_stringSize_31 (by decide) rfl ?_
        refine g_iload_n 2 (i := 2) (pc' := 34) d_Integer_stringSize_33 rfl rfl rfl ?_
        refine g_imul (pc' := 35) d_Integer_stringSize_34 rfl ?_
        refine g_istore_n (i := 2) (pc' := 36) (Lc' := [(2, .int ((10 : Int32) * v2)), (0, .int v0), (1, .int v1), (3, .int v3)]) d_Integer_stringSize_35 rfl (by decide) rfl rfl ?_
        refine g_iinc 3 (v := (v3 + (1 : Int32))) (pc' := 39) (Lc' := [(3, .int (v3 + (1 : Int32))), (2, .int ((10 : Int32) * v2)), (0, .int v0), (1, .int v1)]) d_Integer_stringSize_36 rfl rfl (by decide) rfl rfl ?_
        refine g_goto (pc' := 16) d_Integer_stringSize_39 (by decide) ?_
        refine g_sub [2, 3, 1, 0] rfl ?_
        exact ih _ _ _ _ hy
      · rw [if_neg c3] at hy
        refine g_icmp_leF (pc' := 27) d_Integer_stringSize_24 31 c3 (by decide) rfl ?_
        refine g_iload_n 3 (i := 3) (pc' := 28) d_Integer_stringSize_27 rfl rfl rfl ?_
        refine g_iload_n 1 (i := 1) (pc' := 29) d_Integer_stringSize_28 rfl rfl rfl ?_
        refine g_iadd (pc' := 30) d_Integer_stringSize_29 rfl ?_
        cases hy
        exact g_iret rfl rfl rfl d_Integer_stringSize_30
def Integer_stringSize_11 (v0 : Int32) (v1 : Int32) : Option (Int32) :=
  Integer_stringSize_16  gFU v0 v1 (-10 : Int32) (1 : Int32)
set_option maxHeartbeats 4000000 in
set_option maxRecDepth 100000 in
theorem W_Integer_stringSize_11 {X : g_X} {h : g_AH} (z : Int32) (v0 : Int32) (v1 : Int32) (hy : Integer_stringSize_11  v0 v1 = some z) : G X k_Integer_stringSize (.inl (some (.int z))) h h 11 [(0, .int v0), (1, .int v1)] [] := by
  unfold Integer_stringSize_11 at hy
  refine g_bipush (v := (-10 : Int32)) (pc' := 13) d_Integer_stringSize_11 (by decide) rfl ?_
  refine g_istore_n (i := 2) (pc' := 14) (Lc' := [(2, .int (-10 : Int32)), (0, .int v0), (1, .int v1)]) d_Integer_stringSize_13 rfl (by decide) rfl rfl ?_
  refine g_iconst (v := (1 : Int32)) (pc' := 15) d_Integer_stringSize_14 (by decide) rfl ?_
  refine g_istore_n (i := 3) (pc' := 16) (Lc' := [(3, .int (1 : Int32)), (2, .int (-10 : Int32)), (0, .int v0), (1, .int v1)]) d_Integer_stringSize_15 rfl (by decide) rfl rfl ?_
  refine g_sub [2, 3, 1, 0] rfl ?_
  exact W_Integer_stringSize_16 _ _ _ _ _ _ hy
def Integer_stringSize (p0 : Int32) : Option (Int32) :=
  if p0 < 0 then (Integer_stringSize_11  p0 (1 : Int32)) else (Integer_stringSize_11  (-p0) (0 : Int32))
set_option maxHeartbeats 4000000 in
set_option maxRecDepth 100000 in
theorem T_Integer_stringSize {l : Launch} {B : g_B} {h : g_AH} (p0 : Int32) (z : Int32) (hy : Integer_stringSize p0 = some z) : g_CT l B y_Integer_stringSize k_Integer_stringSize [.int p0] h (.inl (some (.int z))) h := by
  refine g_start2 (Lc := [(0, .int p0)]) (by decide) rfl rfl (by exact Nat.le_of_ble_eq_true rfl) (by rfl) fun X => ?_
  unfold Integer_stringSize at hy
  refine g_iconst (v := (1 : Int32)) (pc' := 1) d_Integer_stringSize_0 (by decide) rfl ?_
  refine g_istore_n (i := 1) (pc' := 2) (Lc' := [(1, .int (1 : Int32)), (0, .int p0)]) d_Integer_stringSize_1 rfl (by decide) rfl rfl ?_
  refine g_iload_n 1 (i := 0) (pc' := 3) d_Integer_stringSize_2 rfl rfl rfl ?_
  by_cases c1 : p0 < 0
  · rw [if_pos c1] at hy
    refine g_if_ltT (pc' := 11) d_Integer_stringSize_3 c1 (by decide) ?_
    refine g_sub [1, 0] rfl ?_
    exact W_Integer_stringSize_11 _ _ _ hy
  · rw [if_neg c1] at hy
    refine g_if_ltF (pc' := 6) d_Integer_stringSize_3 11 c1 (by decide) rfl ?_
    refine g_iconst (v := (0 : Int32)) (pc' := 7) d_Integer_stringSize_6 (by decide) rfl ?_
    refine g_istore_n (i := 1) (pc' := 8) (Lc' := [(1, .int (0 : Int32)), (0, .int p0)]) d_Integer_stringSize_7 rfl (by decide) rfl rfl ?_
    refine g_iload_n 1 (i := 0) (pc' := 9) d_Integer_stringSize_8 rfl rfl rfl ?_
    refine g_ineg (pc' := 10) d_Integer_stringSize_9 rfl ?_
    refine g_istore_n (i := 0) (pc' := 11) (Lc' := [(0, .int (-p0)), (1, .int (0 : Int32))]) d_Integer_stringSize_10 rfl (by decide) rfl rfl ?_
    exact W_Integer_stringSize_11 _ _ _ hy
theorem hd_Integer_stringSize : g_dsc y_Integer_stringSize 1 := ⟨by decide +kernel, by decide +kernel, by decide +kernel⟩
/-! java/lang/Integer.getChars(II[B)I -/
abbrev y_Integer_getChars : MethodName := ⟨"java/lang/Integer", "getChars", "(II[B)I"⟩
abbrev k_Integer_getChars : g_M := (prog_29_method_12_code, 7, "java/lang/Integer", 12, (some FieldType.int), "getChars", [], 0)
theorem d_Integer_getChars_0 : decode prog_29_method_12_code 0 = .ok (.iload_n 1, 1) := by decide +kernel
theorem d_Integer_getChars_1 : decode prog_29_method_12_code 1 = .ok (.istore 5, 2) := by decide +kernel
theorem d_Integer_getChars_3 : decode prog_29_method_12_code 3 = .ok (.iload_n 0, 1) := by decide +kernel
theorem d_Integer_getChars_4 : decode prog_29_method_12_code 4 = .ok (.ifCond .ge 7, 3) := by decide +kernel
theorem d_Integer_getChars_7 : decode prog_29_method_12_code 7 = .ok (.iconst 1, 1) := by decide +kernel
theorem d_Integer_getChars_8 : decode prog_29_method_12_code 8 = .ok (.goto 4, 3) := by decide +kernel
theorem d_Integer_getChars_11 : decode prog_29_method_12_code 11 = .ok (.iconst 0, 1) := by decide +kernel
theorem d_Integer_getChars_12 : decode prog_29_method_12_code 12 = .ok (.istore 6, 2) := by decide +kernel
theorem d_Integer_getChars_14 : decode prog_29_method_12_code 14 = .ok (.iload 6, 2) := by decide +kernel
theorem d_Integer_getChars_16 : decode prog_29_method_12_code 16 = .ok (.ifCond .ne 6, 3) := by decide +kernel
theorem d_Integer_getChars_19 : decode prog_29_method_12_code 19 = .ok (.iload_n 0, 1) := by decide +kernel
theorem d_Integer_getChars_20 : decode prog_29_method_12_code 20 = .ok (.ineg, 1) := by decide +kernel
theorem d_Integer_getChars_21 : decode prog_29_method_12_code 21 = .ok (.istore_n 0, 1) := by decide +kernel
theorem d_Integer_getChars_22 : decode prog_29_method_12_code 22 = .ok (.iload_n 0, 1) := by decide +kernel
theorem d_Integer_getChars_23 : decode prog_29_method_12_code 23 = .ok (.bipush (-100), 2) := by decide +kernel
theorem d_Integer_getChars_25 : decode prog_29_method_12_code 25 = .ok (.if_icmp .gt 47, 3) := by decide +kernel
def Integer_getChars_22  : Nat → g_AH → Int32 → Option Nat → Int32 → Int32 → Option (Int32 × g_AH)
  | 0, _, _, _, _, _ => none
  | n + 1, h, v0, v2, v5, v6 => if (-100 : Int32) < v0 then (none) else (none)
set_option maxHeartbeats 4000000 in
set_option maxRecDepth 100000 in
theorem W_Integer_getChars_22 {X : g_X} (z : Int32 × g_AH)  : ∀ (n : Nat) (h : g_AH) (v0 : Int32) (v2 : Option Nat) (v5 : Int32) (v6 : Int32), Integer_getChars_22  n h v0 v2 v5 v6 = some z → G X k_Integer_getChars (.inl (some (.int z.1))) z.2 h 22 [(0, .int v0), (2, va_rf v2), (5, .int v5), (6, .int v6)] [] := by
  intro n
  induction n with
  | zero => intro h v0 v2 v5 v6 hy; exact absurd hy (by simp [Integer_getChars_22])
  | succ n ih =>
    intro h v0 v2 v5 v6 hy
    rw [Integer_getChars_22] at hy
    refine g_iload_n 0 (i := 0) (pc' := 23) d_Integer_getChars_22 rfl rfl rfl ?_
    refine g_bipush (v := (-100 : Int32)) (pc' := 25) d_Integer_getChars_23 (by decide) rfl ?_
    by_cases c3 : (-100 : Int32) < v0
    · rw [if_pos c3] at hy
      refine g_icmp_gtT (pc' := 72) d_Integer_getChars_25 c3 (by decide) ?_
      cases hy
    · rw [if_neg c3] at hy
      refine g_icmp_gtF (pc' := 28) d_Integer_getChars_25 72 c3 (by decide) rfl ?_
      cases hy
def Integer_getChars_12 (h : g_AH) (v0 : Int32) (v2 : Option Nat) (v5 : Int32) (s0 : Int32) : Option (Int32 × g_AH) :=
  if s0 = 0 then (Integer_getChars_22  gFU h (-v0) v2 v5 s0) else (Integer_getChars_22  gFU h v0 v2 v5 s0)
set_option maxHeartbeats 4000000 in
set_option maxRecDepth 100000 in
theorem W_Integer_getChars_12 {X : g_X} (z : Int32 × g_AH) (h : g_AH) (v0 : Int32) (v2 : Option Nat) (v5 : Int32) (s0 : Int32) (hy : Integer_getChars_12  h v0 v2 v5 s0 = some z) : G X k_Integer_getChars (.inl (some (.int z.1))) z.2 h 12 [(0, .int v0), (2, va_rf v2), (5, .int v5)] [.int s0] := by
  unfold Integer_getChars_12 at hy
  refine g_istore (pc' := 14) (Lc' := [(6, .int s0), (0, .int v0), (2, va_rf v2), (5, .int v5)]) d_Integer_getChars_12 (by decide) rfl rfl ?_
  refine g_iload 0 (pc' := 16) d_Integer_getChars_14 rfl rfl ?_
  by_cases c2 : s0 = 0
  · rw [if_pos c2] at hy
    refine g_if_neF (pc' := 19) d_Integer_getChars_16 22 c2 (by decide) rfl ?_
    refine g_iload_n 1 (i := 0) (pc' := 20) d_Integer_getChars_19 rfl rfl rfl ?_
    refine g_ineg (pc' := 21) d_Integer_getChars_20 rfl ?_
    refine g_istore_n (i := 0) (pc' := 22) (Lc' := [(0, .int (-v0)), (6, .int s0), (2, va_rf v2), (5, .int v5)]) d_Integer_getChars_21 rfl (by decide) rfl rfl ?_
    refine g_sub [0, 2, 3, 1] rfl ?_
    exact W_Integer_getChars_22 _ _ _ _ _ _ _ hy
  · rw [if_neg c2] at hy
    refine g_if_neT (pc' := 22) d_Integer_getChars_16 c2 (by decide) ?_
    refine g_sub [1, 2, 3, 0] rfl ?_
    exact W_Integer_getChars_22 _ _ _ _ _ _ _ hy
def Integer_getChars (h : g_AH) (p0 : Int32) (p1 : Int32) (p2 : Option Nat) : Option (Int32 × g_AH) :=
  if 0 ≤ p0 then (Integer_getChars_12  h p0 p2 p1 (0 : Int32)) else (Integer_getChars_12  h p0 p2 p1 (1 : Int32))
set_option maxHeartbeats 4000000 in
set_option maxRecDepth 100000 in
theorem T_Integer_getChars {l : Launch} {B : g_B} (h : g_AH) (p0 : Int32) (p1 : Int32) (p2 : Option Nat) (z : Int32 × g_AH) (hy : Integer_getChars h p0 p1 p2 = some z) : g_CT l B y_Integer_getChars k_Integer_getChars [.int p0, .int p1, va_rf p2] h (.inl (some (.int z.1))) z.2 := by
  refine g_start2 (Lc := [(0, .int p0), (1, .int p1), (2, va_rf p2)]) (by decide) rfl rfl (by rcases p2 with _ | p2 <;> exact Nat.le_of_ble_eq_true rfl) (by rcases p2 with _ | p2 <;> rfl) fun X => ?_
  unfold Integer_getChars at hy
  refine g_iload_n 1 (i := 1) (pc' := 1) d_Integer_getChars_0 rfl rfl rfl ?_
  refine g_istore (pc' := 3) (Lc' := [(5, .int p1), (0, .int p0), (1, .int p1), (2, va_rf p2)]) d_Integer_getChars_1 (by decide) rfl rfl ?_
  refine g_iload_n 1 (i := 0) (pc' := 4) d_Integer_getChars_3 rfl rfl rfl ?_
  by_cases c1 : 0 ≤ p0
  · rw [if_pos c1] at hy
    refine g_if_geT (pc' := 11) d_Integer_getChars_4 c1 (by decide) ?_
    refine g_iconst (v := (0 : Int32)) (pc' := 12) d_Integer_getChars_11 (by decide) rfl ?_
    refine g_sub [1, 3, 0] rfl ?_
    exact W_Integer_getChars_12 _ _ _ _ _ _ hy
  · rw [if_neg c1] at hy
    refine g_if_geF (pc' := 7) d_Integer_getChars_4 11 c1 (by decide) rfl ?_
    refine g_iconst (v := (1 : Int32)) (pc' := 8) d_Integer_getChars_7 (by decide) rfl ?_
    refine g_goto (pc' := 12) d_Integer_getChars_8 (by decide) ?_
    refine g_sub [1, 3, 0] rfl ?_
    exact W_Integer_getChars_12 _ _ _ _ _ _ hy
theorem hd_Integer_getChars : g_dsc y_Integer_getChars 3 := ⟨by decide +kernel, by decide +kernel, by decide +kernel⟩
/-! java/lang/StringUTF16.getChars(II[B)I -/
abbrev y_StringUTF16_getChars1 : MethodName := ⟨"java/lang/StringUTF16", "getChars", "(II[B)I"⟩
abbrev k_StringUTF16_getChars1 : g_M := (prog_37_method_89_code, 7, "java/lang/StringUTF16", 14, (some FieldType.int), "getChars", [], 0)
theorem d_StringUTF16_getChars1_0 : decode prog_37_method_89_code 0 = .ok (.iload_n 1, 1) := by decide +kernel
theorem d_StringUTF16_getChars1_1 : decode prog_37_method_89_code 1 = .ok (.istore 5, 2) := by decide +kernel
theorem d_StringUTF16_getChars1_3 : decode prog_37_method_89_code 3 = .ok (.iload_n 0, 1) := by decide +kernel
theorem d_StringUTF16_getChars1_4 : decode prog_37_method_89_code 4 = .ok (.ifCond .ge 7, 3) := by decide +kernel
theorem d_StringUTF16_getChars1_7 : decode prog_37_method_89_code 7 = .ok (.iconst 1, 1) := by decide +kernel
theorem d_StringUTF16_getChars1_8 : decode prog_37_method_89_code 8 = .ok (.goto 4, 3) := by decide +kernel
theorem d_StringUTF16_getChars1_11 : decode prog_37_method_89_code 11 = .ok (.iconst 0, 1) := by decide +kernel
theorem d_StringUTF16_getChars1_12 : decode prog_37_method_89_code 12 = .ok (.istore 6, 2) := by decide +kernel
theorem d_StringUTF16_getChars1_14 : decode prog_37_method_89_code 14 = .ok (.iload 6, 2) := by decide +kernel
theorem d_StringUTF16_getChars1_16 : decode prog_37_method_89_code 16 = .ok (.ifCond .ne 6, 3) := by decide +kernel
theorem d_StringUTF16_getChars1_19 : decode prog_37_method_89_code 19 = .ok (.iload_n 0, 1) := by decide +kernel
theorem d_StringUTF16_getChars1_20 : decode prog_37_method_89_code 20 = .ok (.ineg, 1) := by decide +kernel
theorem d_StringUTF16_getChars1_21 : decode prog_37_method_89_code 21 = .ok (.istore_n 0, 1) := by decide +kernel
theorem d_StringUTF16_getChars1_22 : decode prog_37_method_89_code 22 = .ok (.iload_n 0, 1) := by decide +kernel
theorem d_StringUTF16_getChars1_23 : decode prog_37_method_89_code 23 = .ok (.bipush (-100), 2) := by decide +kernel
theorem d_StringUTF16_getChars1_25 : decode prog_37_method_89_code 25 = .ok (.if_icmp .gt 51, 3) := by decide +kernel
def StringUTF16_getChars1_22  : Nat → g_AH → Int32 → Option Nat → Int32 → Int32 → Option (Int32 × g_AH)
  | 0, _, _, _, _, _ => none
  | n + 1, h, v0, v2, v5, v6 => if (-100 : Int32) < v0 then (none) else (none)
set_option maxHeartbeats 4000000 in
set_option maxRecDepth 100000 in
theorem W_StringUTF16_getChars1_22 {X : g_X} (z : Int32 × g_AH)  : ∀ (n : Nat) (h : g_AH) (v0 : Int32) (v2 : Option Nat) (v5 : Int32) (v6 : Int32), StringUTF16_getChars1_22  n h v0 v2 v5 v6 = some z → G X k_StringUTF16_getChars1 (.inl (some (.int z.1))) z.2 h 22 [(0, .int v0), (2, va_rf v2), (5, .int v5), (6, .int v6)] [] := by
  intro n
  induction n with
  | zero => intro h v0 v2 v5 v6 hy; exact absurd hy (by simp [StringUTF16_getChars1_22])
  | succ n ih =>
    intro h v0 v2 v5 v6 hy
    rw [StringUTF16_getChars1_22] at hy
    refine g_iload_n 0 (i := 0) (pc' := 23) d_StringUTF16_getChars1_22 rfl rfl rfl ?_
    refine g_bipush (v := (-100 : Int32)) (pc' := 25) d_StringUTF16_getChars1_23 (by decide) rfl ?_
    by_cases c3 : (-100 : Int32) < v0
    · rw [if_pos c3] at hy
      refine g_icmp_gtT (pc' := 76) d_StringUTF16_getChars1_25 c3 (by decide) ?_
      cases hy
    · rw [if_neg c3] at hy
      refine g_icmp_gtF (pc' := 28) d_StringUTF16_getChars1_25 76 c3 (by decide) rfl ?_
      cases hy
def StringUTF16_getChars1_12 (h : g_AH) (v0 : Int32) (v2 : Option Nat) (v5 : Int32) (s0 : Int32) : Option (Int32 × g_AH) :=
  if s0 = 0 then (StringUTF16_getChars1_22  gFU h (-v0) v2 v5 s0) else (StringUTF16_getChars1_22  gFU h v0 v2 v5 s0)
set_option maxHeartbeats 4000000 in
set_option maxRecDepth 100000 in
theorem W_StringUTF16_getChars1_12 {X : g_X} (z : Int32 × g_AH) (h : g_AH) (v0 : Int32) (v2 : Option Nat) (v5 : Int32) (s0 : Int32) (hy : StringUTF16_getChars1_12  h v0 v2 v5 s0 = some z) : G X k_StringUTF16_getChars1 (.inl (some (.int z.1))) z.2 h 12 [(0, .int v0), (2, va_rf v2), (5, .int v5)] [.int s0] := by
  unfold StringUTF16_getChars1_12 at hy
  refine g_istore (pc' := 14) (Lc' := [(6, .int s0), (0, .int v0), (2, va_rf v2), (5, .int v5)]) d_StringUTF16_getChars1_12 (by decide) rfl rfl ?_
  refine g_iload 0 (pc' := 16) d_StringUTF16_getChars1_14 rfl rfl ?_
  by_cases c2 : s0 = 0
  · rw [if_pos c2] at hy
    refine g_if_neF (pc' := 19) d_StringUTF16_getChars1_16 22 c2 (by decide) rfl ?_
    refine g_iload_n 1 (i := 0) (pc' := 20) d_StringUTF16_getChars1_19 rfl rfl rfl ?_
    refine g_ineg (pc' := 21) d_StringUTF16_getChars1_20 rfl ?_
    refine g_istore_n (i := 0) (pc' := 22) (Lc' := [(0, .int (-v0)), (6, .int s0), (2, va_rf v2), (5, .int v5)]) d_StringUTF16_getChars1_21 rfl (by decide) rfl rfl ?_
    refine g_sub [0, 2, 3, 1] rfl ?_
    exact W_StringUTF16_getChars1_22 _ _ _ _ _ _ _ hy
  · rw [if_neg c2] at hy
    refine g_if_neT (pc' := 22) d_StringUTF16_getChars1_16 c2 (by decide) ?_
    refine g_sub [1, 2, 3, 0] rfl ?_
    exact W_StringUTF16_getChars1_22 _ _ _ _ _ _ _ hy
def StringUTF16_getChars1 (h : g_AH) (p0 : Int32) (p1 : Int32) (p2 : Option Nat) : Option (Int32 × g_AH) :=
  if 0 ≤ p0 then (StringUTF16_getChars1_12  h p0 p2 p1 (0 : Int32)) else (StringUTF16_getChars1_12  h p0 p2 p1 (1 : Int32))
set_option maxHeartbeats 4000000 in
set_option maxRecDepth 100000 in
theorem T_StringUTF16_getChars1 {l : Launch} {B : g_B} (h : g_AH) (p0 : Int32) (p1 : Int32) (p2 : Option Nat) (z : Int32 × g_AH) (hy : StringUTF16_getChars1 h p0 p1 p2 = some z) : g_CT l B y_StringUTF16_getChars1 k_StringUTF16_getChars1 [.int p0, .int p1, va_rf p2] h (.inl (some (.int z.1))) z.2 := by
  refine g_start2 (Lc := [(0, .int p0), (1, .int p1), (2, va_rf p2)]) (by decide) rfl rfl (by rcases p2 with _ | p2 <;> exact Nat.le_of_ble_eq_true rfl) (by rcases p2 with _ | p2 <;> rfl) fun X => ?_
  unfold StringUTF16_getChars1 at hy
  refine g_iload_n 1 (i := 1) (pc' := 1) d_StringUTF16_getChars1_0 rfl rfl rfl ?_
  refine g_istore (pc' := 3) (Lc' := [(5, .int p1), (0, .int p0), (1, .int p1), (2, va_rf p2)]) d_StringUTF16_getChars1_1 (by decide) rfl rfl ?_
  refine g_iload_n 1 (i := 0) (pc' := 4) d_StringUTF16_getChars1_3 rfl rfl rfl ?_
  by_cases c1 : 0 ≤ p0
  · rw [if_pos c1] at hy
    refine g_if_geT (pc' := 11) d_StringUTF16_getChars1_4 c1 (by decide) ?_
    refine g_iconst (v := (0 : Int32)) (pc' := 12) d_StringUTF16_getChars1_11 (by decide) rfl ?_
    refine g_sub [1, 3, 0] rfl ?_
    exact W_StringUTF16_getChars1_12 _ _ _ _ _ _ hy
  · rw [if_neg c1] at hy
    refine g_if_geF (pc' := 7) d_StringUTF16_getChars1_4 11 c1 (by decide) rfl ?_
    refine g_iconst (v := (1 : Int32)) (pc' := 8) d_StringUTF16_getChars1_7 (by decide) rfl ?_
    refine g_goto (pc' := 12) d_StringUTF16_getChars1_8 (by decide) ?_
    refine g_sub [1, 3, 0] rfl ?_
    exact W_StringUTF16_getChars1_12 _ _ _ _ _ _ hy
theorem hd_StringUTF16_getChars1 : g_dsc y_StringUTF16_getChars1 3 := ⟨by decide +kernel, by decide +kernel, by decide +kernel⟩
/-! java/lang/AbstractStringBuilder.append(I)Ljava/lang/AbstractStringBuilder; -/
abbrev y_AbstractStringBuilder_append1 : MethodName := ⟨"java/lang/AbstractStringBuilder", "append", "(I)Ljava/lang/AbstractStringBuilder;"⟩
abbrev k_AbstractStringBuilder_append1 : g_M := (prog_19_method_32_code, 4, "java/lang/AbstractStringBuilder", 16, (some (FieldType.object "java/lang/AbstractStringBuilder")), "append", [], 0)
theorem d_AbstractStringBuilder_append1_0 : decode prog_19_method_32_code 0 = .ok (.aload_n 0, 1) := by decide +kernel
theorem d_AbstractStringBuilder_append1_1 : decode prog_19_method_32_code 1 = .ok (.getfield 79, 3) := by decide +kernel
theorem d_AbstractStringBuilder_append1_4 : decode prog_19_method_32_code 4 = .ok (.istore_n 2, 1) := by decide +kernel
theorem d_AbstractStringBuilder_append1_5 : decode prog_19_method_32_code 5 = .ok (.iload_n 2, 1) := by decide +kernel
theorem d_AbstractStringBuilder_append1_6 : decode prog_19_method_32_code 6 = .ok (.iload_n 1, 1) := by decide +kernel
theorem d_AbstractStringBuilder_append1_7 : decode prog_19_method_32_code 7 = .ok (.invokestatic 245, 3) := by decide +kernel
theorem d_AbstractStringBuilder_append1_10 : decode prog_19_method_32_code 10 = .ok (.iadd, 1) := by decide +kernel
theorem d_AbstractStringBuilder_append1_11 : decode prog_19_method_32_code 11 = .ok (.istore_n 3, 1) := by decide +kernel
theorem d_AbstractStringBuilder_append1_12 : decode prog_19_method_32_code 12 = .ok (.aload_n 0, 1) := by decide +kernel
theorem d_AbstractStringBuilder_append1_13 : decode prog_19_method_32_code 13 = .ok (.iload_n 3, 1) := by decide +kernel
theorem d_AbstractStringBuilder_append1_14 : decode prog_19_method_32_code 14 = .ok (.invokevirtual 100, 3) := by decide +kernel
theorem d_AbstractStringBuilder_append1_17 : decode prog_19_method_32_code 17 = .ok (.aload_n 0, 1) := by decide +kernel
theorem d_AbstractStringBuilder_append1_18 : decode prog_19_method_32_code 18 = .ok (.invokevirtual 83, 3) := by decide +kernel
theorem d_AbstractStringBuilder_append1_21 : decode prog_19_method_32_code 21 = .ok (.ifCond .eq 16, 3) := by decide +kernel
theorem d_AbstractStringBuilder_append1_24 : decode prog_19_method_32_code 24 = .ok (.iload_n 1, 1) := by decide +kernel
theorem d_AbstractStringBuilder_append1_25 : decode prog_19_method_32_code 25 = .ok (.iload_n 3, 1) := by decide +kernel
theorem d_AbstractStringBuilder_append1_26 : decode prog_19_method_32_code 26 = .ok (.aload_n 0, 1) := by decide +kernel
theorem d_AbstractStringBuilder_append1_27 : decode prog_19_method_32_code 27 = .ok (.getfield 15, 3) := by decide +kernel
theorem d_AbstractStringBuilder_append1_30 : decode prog_19_method_32_code 30 = .ok (.invokestatic 248, 3) := by decide +kernel
theorem d_AbstractStringBuilder_append1_33 : decode prog_19_method_32_code 33 = .ok (.pop, 1) := by decide +kernel
theorem d_AbstractStringBuilder_append1_34 : decode prog_19_method_32_code 34 = .ok (.goto 14, 3) := by decide +kernel
theorem d_AbstractStringBuilder_append1_48 : decode prog_19_method_32_code 48 = .ok (.aload_n 0, 1) := by decide +kernel
theorem d_AbstractStringBuilder_append1_49 : decode prog_19_method_32_code 49 = .ok (.iload_n 3, 1) := by decide +kernel
theorem d_AbstractStringBuilder_append1_50 : decode prog_19_method_32_code 50 = .ok (.putfield 79, 3) := by decide +kernel
theorem d_AbstractStringBuilder_append1_53 : decode prog_19_method_32_code 53 = .ok (.aload_n 0, 1) := by decide +kernel
theorem d_AbstractStringBuilder_append1_54 : decode prog_19_method_32_code 54 = .ok (.areturn, 1) := by decide +kernel
def AbstractStringBuilder_append1_48 (h : g_AH) (v0 : Nat) (v3 : Int32) : Option (Option Nat × g_AH) :=
  g_pF h v0 17 3 (.int v3) fun h33 => some ((some v0), h33)
set_option maxHeartbeats 4000000 in
set_option maxRecDepth 100000 in
theorem W_AbstractStringBuilder_append1_48 {X : g_X} (z : Option Nat × g_AH) (h : g_AH) (v0 : Nat) (v3 : Int32) (hy : AbstractStringBuilder_append1_48  h v0 v3 = some z) : G X k_AbstractStringBuilder_append1 (.inl (some (va_rf z.1))) z.2 h 48 [(0, .ref v0), (3, .int v3)] [] := by
  unfold AbstractStringBuilder_append1_48 at hy
  refine g_aload_n 0 (i := 0) (pc' := 49) d_AbstractStringBuilder_append1_48 rfl rfl rfl ?_
  refine g_iload_n 1 (i := 3) (pc' := 50) d_AbstractStringBuilder_append1_49 rfl rfl rfl ?_
  replace hy := g_pF_inv hy
  obtain ⟨fs30, hc31, hl32, hy⟩ := hy
  refine g_putf (pc' := 53) d_AbstractStringBuilder_append1_50 hc31 rfl (by decide) hl32 rfl rfl rfl q242 (Or.inl rfl) rfl ?_
  generalize g_up h v0 (.inr (17, fs30.set 3 (.int v3))) = h33 at hy ⊢
  refine g_aload_n 0 (i := 0) (pc' := 54) d_AbstractStringBuilder_append1_53 rfl rfl rfl ?_
  cases hy
  refine g_stk (st' := [va_rf (some v0)]) rfl ?_
  exact g_aret rfl rfl rfl (Or.inl ⟨_, rfl⟩) d_AbstractStringBuilder_append1_54
def AbstractStringBuilder_append1 (h : g_AH) (this : Nat) (p0 : Int32) : Option (Option Nat × g_AH) :=
  g_gI h this 17 3 fun x2 => g_b (Integer_stringSize p0) fun x5 => g_is h this 17 <| g_b (AbstractStringBuilder_ensureCapacityInternal h this (x2 + x5)) fun h11 => g_is h11 this 17 <| g_b (AbstractStringBuilder_isLatin1 h11 this) fun x15 => if x15 = 0 then (none) else (g_gR h11 this 17 0 fun x24 => g_b2 (Integer_getChars h11 p0 (x2 + x5) x24) fun x27 h28 => AbstractStringBuilder_append1_48  h28 this (x2 + x5))
set_option maxHeartbeats 4000000 in
set_option maxRecDepth 100000 in
theorem T_AbstractStringBuilder_append1 {l : Launch} {B : g_B} (h : g_AH) (this : Nat) (p0 : Int32) (z : Option Nat × g_AH) (hy : AbstractStringBuilder_append1 h this p0 = some z) : g_CT l B y_AbstractStringBuilder_append1 k_AbstractStringBuilder_append1 [.ref this, .int p0] h (.inl (some (va_rf z.1))) z.2 := by
  refine g_start2 (Lc := [(0, .ref this), (1, .int p0)]) (by decide) rfl rfl (by exact Nat.le_of_ble_eq_true rfl) (by rfl) fun X => ?_
  unfold AbstractStringBuilder_append1 at hy
  refine g_aload_n 0 (i := 0) (pc' := 1) d_AbstractStringBuilder_append1_0 rfl rfl rfl ?_
  replace hy := g_gI_inv hy
  obtain ⟨fs1, x2, hc3, hv4, hy⟩ := hy
  refine g_getf (pc' := 4) d_AbstractStringBuilder_append1_1 hc3 rfl (by decide) hv4 q242 (Or.inl rfl) rfl ?_
  refine g_istore_n (i := 2) (pc' := 5) (Lc' := [(2, .int x2), (0, .ref this), (1, .int p0)]) d_AbstractStringBuilder_append1_4 rfl (by decide) rfl rfl ?_
  refine g_iload_n 0 (i := 2) (pc' := 6) d_AbstractStringBuilder_append1_5 rfl rfl rfl ?_
  refine g_iload_n 2 (i := 1) (pc' := 7) d_AbstractStringBuilder_append1_6 rfl rfl rfl ?_
  replace hy := g_b_inv hy
  obtain ⟨x5, hf7, hy⟩ := hy
  refine g_callS (rv := some (.int x5)) (h1 := h) (pc' := 10) (As := [.int p0]) (rest := [.int x2]) 1 (T_Integer_stringSize (hy := hf7)) d_AbstractStringBuilder_append1_7 q382 q383 q128 q384 hd_Integer_stringSize rfl ⟨by decide, by decide⟩ (by first | exact Nat.le_of_ble_eq_true rfl | (simp only [List.map, List.sum_cons, List.sum_nil, g_cat_rf]; exact Nat.le_of_ble_eq_true rfl) | (simp only [List.map, List.sum_cons, List.sum_nil, g_cat_rf, Value.category]; decide)) rfl ?_
  refine g_iadd (pc' := 11) d_AbstractStringBuilder_append1_10 rfl ?_
  refine g_istore_n (i := 3) (pc' := 12) (Lc' := [(3, .int (x2 + x5)), (2, .int x2), (0, .ref this), (1, .int p0)]) d_AbstractStringBuilder_append1_11 rfl (by decide) rfl rfl ?_
  refine g_aload_n 2 (i := 0) (pc' := 13) d_AbstractStringBuilder_append1_12 rfl rfl rfl ?_
  refine g_iload_n 0 (i := 3) (pc' := 14) d_AbstractStringBuilder_append1_13 rfl rfl rfl ?_
  replace hy := g_is_inv hy
  obtain ⟨fs8, hc9, hy⟩ := hy
  replace hy := g_b_inv hy
  obtain ⟨h11, hf12, hy⟩ := hy
  refine g_callP (y2 := ⟨"java/lang/AbstractStringBuilder", "isLatin1", "()Z"⟩) (rv := none) (h1 := h11) (pc' := 17) (As := [.int (x2 + x5)]) (rest := []) 1 (T_AbstractStringBuilder_ensureCapacityInternal (hy := hf12)) d_AbstractStringBuilder_append1_14 hc9 rfl q266 q2543 q267 q268 q117 q269 rfl q302 q304 hd_AbstractStringBuilder_ensureCapacityInternal rfl ⟨by decide, by decide⟩ (by first | exact Nat.le_of_ble_eq_true rfl | (simp only [List.map, List.sum_cons, List.sum_nil, g_cat_rf]; exact Nat.le_of_ble_eq_true rfl) | (simp only [List.map, List.sum_cons, List.sum_nil, g_cat_rf, Value.category]; decide)) rfl ?_
  refine g_aload_n 2 (i := 0) (pc' := 18) d_AbstractStringBuilder_append1_17 rfl rfl rfl ?_
  replace hy := g_is_inv hy
  obtain ⟨fs13, hc14, hy⟩ := hy
  replace hy := g_b_inv hy
  obtain ⟨x15, hf17, hy⟩ := hy
  refine g_callU (x := y_AbstractStringBuilder_isLatin1) (rv := some (.int x15)) (h1 := h11) (pc' := 21) (As := []) (rest := []) 0 (T_AbstractStringBuilder_isLatin1 (hy := hf17)) d_AbstractStringBuilder_append1_18 hc14 rfl rfl (g_wsU q301 q303 q304 q302 q117 q305) ⟨by decide, by decide, by decide +kernel⟩ rfl ⟨by decide, by decide⟩ (by first | exact Nat.le_of_ble_eq_true rfl | (simp only [List.map, List.sum_cons, List.sum_nil, g_cat_rf]; exact Nat.le_of_ble_eq_true rfl) | (simp only [List.map, List.sum_cons, List.sum_nil, g_cat_rf, Value.category]; decide)) rfl ?_
  by_cases c18 : x15 = 0
  · rw [if_pos c18] at hy
    refine g_if_eqT (pc' := 37) d_AbstractStringBuilder_append1_21 c18 (by decide) ?_
    cases hy
  · rw [if_neg c18] at hy
    refine g_if_eqF (pc' := 24) d_AbstractStringBuilder_append1_21 37 c18 (by decide) rfl ?_
    refine g_iload_n 3 (i := 1) (pc' := 25) d_AbstractStringBuilder_append1_24 rfl rfl rfl ?_
    refine g_iload_n 0 (i := 3) (pc' := 26) d_AbstractStringBuilder_append1_25 rfl rfl rfl ?_
    refine g_aload_n 2 (i := 0) (pc' := 27) d_AbstractStringBuilder_append1_26 rfl rfl rfl ?_
    replace hy := g_gR_inv hy
    obtain ⟨fs23, x24, hc25, hv26, hy⟩ := hy
    refine g_getf (pc' := 30) d_AbstractStringBuilder_append1_27 hc25 rfl (by decide) hv26 q239 (Or.inl rfl) rfl ?_
    replace hy := g_b2_inv hy
    obtain ⟨x27, h28, hf29, hy⟩ := hy
    refine g_callS (rv := some (.int x27)) (h1 := h28) (pc' := 33) (As := [.int p0, .int (x2 + x5), va_rf x24]) (rest := []) 3 (T_Integer_getChars (hy := hf29)) d_AbstractStringBuilder_append1_30 q385 q386 q128 q387 hd_Integer_getChars rfl ⟨by decide, by decide⟩ (by first | exact Nat.le_of_ble_eq_true rfl | (simp only [List.map, List.sum_cons, List.sum_nil, g_cat_rf]; exact Nat.le_of_ble_eq_true rfl) | (simp only [List.map, List.sum_cons, List.sum_nil, g_cat_rf, Value.category]; decide)) rfl ?_
    refine g_pop (pc' := 34) d_AbstractStringBuilder_append1_33 rfl rfl ?_
    refine g_goto (pc' := 48) d_AbstractStringBuilder_append1_34 (by decide) ?_
    refine g_sub [2, 0] rfl ?_
    exact W_AbstractStringBuilder_append1_48 _ _ _ _ hy
theorem hd_AbstractStringBuilder_append1 : g_dsc y_AbstractStringBuilder_append1 1 := ⟨by decide +kernel, by decide +kernel, by decide +kernel⟩
/-! java/lang/StringBuilder.append(I)Ljava/lang/StringBuilder; -/
abbrev y_StringBuilder_append1 : MethodName := ⟨"java/lang/StringBuilder", "append", "(I)Ljava/lang/StringBuilder;"⟩
abbrev k_StringBuilder_append1 : g_M := (prog_35_method_15_code, 2, "java/lang/StringBuilder", 17, (some (FieldType.object "java/lang/StringBuilder")), "append", [], 0)
theorem d_StringBuilder_append1_0 : decode prog_35_method_15_code 0 = .ok (.aload_n 0, 1) := by decide +kernel
theorem d_StringBuilder_append1_1 : decode prog_35_method_15_code 1 = .ok (.iload_n 1, 1) := by decide +kernel
theorem d_StringBuilder_append1_2 : decode prog_35_method_15_code 2 = .ok (.invokespecial 53, 3) := by decide +kernel
theorem d_StringBuilder_append1_5 : decode prog_35_method_15_code 5 = .ok (.pop, 1) := by decide +kernel
theorem d_StringBuilder_append1_6 : decode prog_35_method_15_code 6 = .ok (.aload_n 0, 1) := by decide +kernel
theorem d_StringBuilder_append1_7 : decode prog_35_method_15_code 7 = .ok (.areturn, 1) := by decide +kernel
def StringBuilder_append1 (h : g_AH) (this : Nat) (p0 : Int32) : Option (Option Nat × g_AH) :=
  g_is h this 17 <| g_b2 (AbstractStringBuilder_append1 h this p0) fun x3 h4 => some ((some this), h4)
set_option maxHeartbeats 4000000 in
set_option maxRecDepth 100000 in
theorem T_StringBuilder_append1 {l : Launch} {B : g_B} (h : g_AH) (this : Nat) (p0 : Int32) (z : Option Nat × g_AH) (hy : StringBuilder_append1 h this p0 = some z) : g_CT l B y_StringBuilder_append1 k_StringBuilder_append1 [.ref this, .int p0] h (.inl (some (va_rf z.1))) z.2 := by
  refine g_start2 (Lc := [(0, .ref this), (1, .int p0)]) (by decide) rfl rfl (by exact Nat.le_of_ble_eq_true rfl) (by rfl) fun X => ?_
  unfold StringBuilder_append1 at hy
  refine g_aload_n 0 (i := 0) (pc' := 1) d_StringBuilder_append1_0 rfl rfl rfl ?_
  refine g_iload_n 1 (i := 1) (pc' := 2) d_StringBuilder_append1_1 rfl rfl rfl ?_
  replace hy := g_is_inv hy
  obtain ⟨fs1, hc2, hy⟩ := hy
  replace hy := g_b2_inv hy
  obtain ⟨x3, h4, hf5, hy⟩ := hy
  refine g_callSU (rv := some (va_rf x3)) (h1 := h4) (pc' := 5) (As := [.int p0]) (rest := []) 1 (T_AbstractStringBuilder_append1 (hy := hf5)) d_StringBuilder_append1_2 hc2 rfl (g_wsSU q379 q2548 q251 q380 q117 q381) ⟨by decide, by decide +kernel⟩ rfl ⟨by decide, by decide⟩ (by first | exact Nat.le_of_ble_eq_true rfl | (simp only [List.map, List.sum_cons, List.sum_nil, g_cat_rf]; exact Nat.le_of_ble_eq_true rfl) | (simp only [List.map, List.sum_cons, List.sum_nil, g_cat_rf, Value.category]; decide)) rfl ?_
  refine g_pop (pc' := 6) d_StringBuilder_append1_5 g_cat_rf rfl ?_
  refine g_aload_n 0 (i := 0) (pc' := 7) d_StringBuilder_append1_6 rfl rfl rfl ?_
  cases hy
  refine g_stk (st' := [va_rf (some this)]) rfl ?_
  exact g_aret rfl rfl rfl (Or.inl ⟨_, rfl⟩) d_StringBuilder_append1_7
theorem hd_StringBuilder_append1 : g_dsc y_StringBuilder_append1 1 := ⟨by decide +kernel, by decide +kernel, by decide +kernel⟩
