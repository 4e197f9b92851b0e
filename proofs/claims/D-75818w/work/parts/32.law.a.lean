/-! CircuitDeskLaw.appendText(LCircuitDesk;I[J)I -/
abbrev y_Law_appendText : MethodName := ⟨"CircuitDeskLaw", "appendText", "(LCircuitDesk;I[J)I"⟩
abbrev k_Law_appendText : g_M := (method_3_code, 4, "CircuitDeskLaw", 19, (some FieldType.int), "appendText", [(0, 9, 12, 13)], 1)
theorem d_Law_appendText_0 : decode method_3_code 0 = .ok (.aload_n 2, 1) := by decide +kernel
theorem d_Law_appendText_1 : decode method_3_code 1 = .ok (.iconst 0, 1) := by decide +kernel
theorem d_Law_appendText_2 : decode method_3_code 2 = .ok (.aload_n 0, 1) := by decide +kernel
theorem d_Law_appendText_3 : decode method_3_code 3 = .ok (.iload_n 1, 1) := by decide +kernel
theorem d_Law_appendText_4 : decode method_3_code 4 = .ok (.invokevirtual 7, 3) := by decide +kernel
theorem d_Law_appendText_7 : decode method_3_code 7 = .ok (.i2l, 1) := by decide +kernel
theorem d_Law_appendText_8 : decode method_3_code 8 = .ok (.lastore, 1) := by decide +kernel
theorem d_Law_appendText_9 : decode method_3_code 9 = .ok (.goto 6, 3) := by decide +kernel
theorem d_Law_appendText_12 : decode method_3_code 12 = .ok (.astore_n 3, 1) := by decide +kernel
theorem d_Law_appendText_13 : decode method_3_code 13 = .ok (.iconst 1, 1) := by decide +kernel
theorem d_Law_appendText_14 : decode method_3_code 14 = .ok (.ireturn, 1) := by decide +kernel
theorem d_Law_appendText_15 : decode method_3_code 15 = .ok (.iconst 0, 1) := by decide +kernel
theorem d_Law_appendText_16 : decode method_3_code 16 = .ok (.ireturn, 1) := by decide +kernel
def Law_appendText (h : g_AH) (p0 : Option Nat) (p1 : Int32) (p2 : Option Nat) : Option (Int32 × g_AH) :=
  g_nn p0 fun a1 => g_is h a1 0 <| g_bh (Desk_appendText h a1 p1) (fun E9 _ h9 => if E9 = "java/lang/IllegalStateException" then some ((1 : Int32), h9) else none) fun x4 h5 => g_nn p2 fun a7 => g_sL h5 a7 (0 : Int32) ((x4).toInt64) fun h12 => some ((0 : Int32), h12)
set_option maxHeartbeats 4000000 in
set_option maxRecDepth 100000 in
theorem T_Law_appendText {l : Launch} {B : g_B} (h : g_AH) (p0 : Option Nat) (p1 : Int32) (p2 : Option Nat) (z : Int32 × g_AH) (hy : Law_appendText h p0 p1 p2 = some z) : g_CTR l B y_Law_appendText k_Law_appendText [va_rf p0, .int p1, va_rf p2] h (.inl (some (.int z.1))) z.2 := by
  have hle0 : g_X → g_Le h z.2 := by
    intro X0
    unfold Law_appendText at hy
    replace hy := g_nn_inv hy
    obtain ⟨a1, rfl, hy⟩ := hy
    replace hy := g_is_inv hy
    obtain ⟨fs1, hc1, hy⟩ := hy
    replace hy := g_bh_inv hy
    rcases hy with ⟨x1, h1, hf1, hy⟩ | ⟨E1, q1, h1, hf1, hy⟩
    · have b1 := (T_Desk_appendText (l := x_l X0) (B := x_B X0) (hy := hf1)).1 X0
      replace hy := g_nn_inv hy; obtain ⟨a2, rfl, hy⟩ := hy; replace hy := g_sL_inv hy; obtain ⟨n2, f2, hc2, hi2, hy⟩ := hy; cases hy; exact b1.tr (g_Le.up hc2)
    · have b1 := (T_Desk_appendText (l := x_l X0) (B := x_B X0) (hy := hf1)).1 X0
      repeat (first | (cases hy; done) | (cases hy; exact b1) | split at hy)
  refine g_startR (Lc := [(0, va_rf p0), (1, .int p1), (2, va_rf p2)]) (by decide) rfl rfl (by rcases p0 with _ | p0 <;> rcases p2 with _ | p2 <;> exact Nat.le_of_ble_eq_true rfl) (by rcases p0 with _ | p0 <;> rcases p2 with _ | p2 <;> rfl) hle0 (fun X => ?_) rfl
  unfold Law_appendText at hy
  refine g_aloadO_n 2 (i := 2) (pc' := 1) d_Law_appendText_0 rfl rfl rfl ?_
  refine g_iconst (v := (0 : Int32)) (pc' := 2) d_Law_appendText_1 (by decide) rfl ?_
  refine g_aloadO_n 0 (i := 0) (pc' := 3) d_Law_appendText_2 rfl rfl rfl ?_
  refine g_iload_n 1 (i := 1) (pc' := 4) d_Law_appendText_3 rfl rfl rfl ?_
  replace hy := g_nn_inv hy
  obtain ⟨a1, rfl, hy⟩ := hy
  replace hy := g_is_inv hy
  obtain ⟨fs2, hc3, hy⟩ := hy
  replace hy := g_bh_inv hy
  rcases hy with ⟨x4, h5, hf6, hy⟩ | ⟨E9, q9, h5, hf6, hy⟩
  rotate_left
  · by_cases e9 : E9 = "java/lang/IllegalStateException"
    · subst e9
      rw [if_pos rfl] at hy
      cases hy
      refine g_callVH (pre := []) (suf := []) (x := (0, 9, 12, 13)) (nm := "java/lang/IllegalStateException") (pc' := 12) (As := [.int p1]) (rest := [.int (0 : Int32), va_rf p2]) 1 (T_Desk_appendText (hy := hf6)) d_Law_appendText_4 hc3 rfl rfl q1294 q1295 q1296 q108 q1297 hd_Desk_appendText rfl ⟨by decide, by decide⟩ (by first | exact Nat.le_of_ble_eq_true rfl | (simp only [List.map, List.sum_cons, List.sum_nil, g_cat_rf]; exact Nat.le_of_ble_eq_true rfl) | (simp only [List.map, List.sum_cons, List.sum_nil, g_cat_rf, Value.category]; decide)) (by decide) rfl (fun z hz => by cases hz) (by decide) (by decide) q1293 q1303 rfl ?_
      intro n9 a9 hn9 ha9
      refine g_astore_n (i := 3) (pc' := 13) (Lc' := [(3, .ref a9), (0, .ref a1), (1, .int p1), (2, va_rf p2)]) d_Law_appendText_12 rfl (by decide) (by cases p2 <;> rfl) rfl ?_
      refine g_iconst (v := (1 : Int32)) (pc' := 14) d_Law_appendText_13 (by decide) rfl ?_
      exact g_iretR n9 rfl rfl rfl hn9 rfl d_Law_appendText_14
    · rw [if_neg e9] at hy
      cases hy
  refine g_callV (rv := some (.int x4)) (h1 := h5) (pc' := 7) (As := [.int p1]) (rest := [.int (0 : Int32), va_rf p2]) 1 (T_Desk_appendText (hy := hf6)) d_Law_appendText_4 hc3 rfl rfl q1294 q1295 q1296 q108 q1297 hd_Desk_appendText rfl ⟨by decide, by decide⟩ (by first | exact Nat.le_of_ble_eq_true rfl | (simp only [List.map, List.sum_cons, List.sum_nil, g_cat_rf]; exact Nat.le_of_ble_eq_true rfl) | (simp only [List.map, List.sum_cons, List.sum_nil, g_cat_rf, Value.category]; decide)) rfl ?_
  refine g_i2l (pc' := 8) d_Law_appendText_7 rfl ?_
  replace hy := g_nn_inv hy
  obtain ⟨a7, rfl, hy⟩ := hy
  replace hy := g_sL_inv hy
  obtain ⟨n8, f9, hc10, hi11, hy⟩ := hy
  refine g_last (pc' := 9) d_Law_appendText_8 hc10 hi11 rfl ?_
  generalize g_up h5 a7 (.inl (3, n8, .inr (.inl (vp_updL f9 ((0 : Int32)).toNatClampNeg ((x4).toInt64))))) = h12 at hy ⊢
  refine g_goto (pc' := 15) d_Law_appendText_9 (by decide) ?_
  refine g_iconst (v := (0 : Int32)) (pc' := 16) d_Law_appendText_15 (by decide) rfl ?_
  cases hy
  exact g_iret rfl rfl rfl d_Law_appendText_16
theorem hd_Law_appendText : g_dsc y_Law_appendText 3 := ⟨by decide +kernel, by decide +kernel, by decide +kernel⟩
/-! CircuitDeskLaw.truncateText(LCircuitDesk;I[J)I -/
abbrev y_Law_truncateText : MethodName := ⟨"CircuitDeskLaw", "truncateText", "(LCircuitDesk;I[J)I"⟩
abbrev k_Law_truncateText : g_M := (method_4_code, 4, "CircuitDeskLaw", 19, (some FieldType.int), "truncateText", [(0, 9, 12, 18)], 1)
theorem d_Law_truncateText_0 : decode method_4_code 0 = .ok (.aload_n 2, 1) := by decide +kernel
theorem d_Law_truncateText_1 : decode method_4_code 1 = .ok (.iconst 0, 1) := by decide +kernel
theorem d_Law_truncateText_2 : decode method_4_code 2 = .ok (.aload_n 0, 1) := by decide +kernel
theorem d_Law_truncateText_3 : decode method_4_code 3 = .ok (.iload_n 1, 1) := by decide +kernel
theorem d_Law_truncateText_4 : decode method_4_code 4 = .ok (.invokevirtual 15, 3) := by decide +kernel
theorem d_Law_truncateText_7 : decode method_4_code 7 = .ok (.i2l, 1) := by decide +kernel
theorem d_Law_truncateText_8 : decode method_4_code 8 = .ok (.lastore, 1) := by decide +kernel
theorem d_Law_truncateText_9 : decode method_4_code 9 = .ok (.goto 6, 3) := by decide +kernel
theorem d_Law_truncateText_12 : decode method_4_code 12 = .ok (.astore_n 3, 1) := by decide +kernel
theorem d_Law_truncateText_13 : decode method_4_code 13 = .ok (.iconst 1, 1) := by decide +kernel
theorem d_Law_truncateText_14 : decode method_4_code 14 = .ok (.ireturn, 1) := by decide +kernel
theorem d_Law_truncateText_15 : decode method_4_code 15 = .ok (.iconst 0, 1) := by decide +kernel
theorem d_Law_truncateText_16 : decode method_4_code 16 = .ok (.ireturn, 1) := by decide +kernel
def Law_truncateText (h : g_AH) (p0 : Option Nat) (p1 : Int32) (p2 : Option Nat) : Option (Int32 × g_AH) :=
  g_nn p0 fun a1 => g_is h a1 0 <| g_bh (Desk_truncateText h a1 p1) (fun E9 _ h9 => if E9 = "java/lang/IllegalArgumentException" then some ((1 : Int32), h9) else none) fun x4 h5 => g_nn p2 fun a7 => g_sL h5 a7 (0 : Int32) ((x4).toInt64) fun h12 => some ((0 : Int32), h12)
set_option maxHeartbeats 4000000 in
set_option maxRecDepth 100000 in
theorem T_Law_truncateText {l : Launch} {B : g_B} (h : g_AH) (p0 : Option Nat) (p1 : Int32) (p2 : Option Nat) (z : Int32 × g_AH) (hy : Law_truncateText h p0 p1 p2 = some z) : g_CTR l B y_Law_truncateText k_Law_truncateText [va_rf p0, .int p1, va_rf p2] h (.inl (some (.int z.1))) z.2 := by
  have hle0 : g_X → g_Le h z.2 := by
    intro X0
    unfold Law_truncateText at hy
    replace hy := g_nn_inv hy
    obtain ⟨a1, rfl, hy⟩ := hy
    replace hy := g_is_inv hy
    obtain ⟨fs1, hc1, hy⟩ := hy
    replace hy := g_bh_inv hy
    rcases hy with ⟨x1, h1, hf1, hy⟩ | ⟨E1, q1, h1, hf1, hy⟩
    · have b1 := (T_Desk_truncateText (l := x_l X0) (B := x_B X0) (hy := hf1)).1 X0
      replace hy := g_nn_inv hy; obtain ⟨a2, rfl, hy⟩ := hy; replace hy := g_sL_inv hy; obtain ⟨n2, f2, hc2, hi2, hy⟩ := hy; cases hy; exact b1.tr (g_Le.up hc2)
    · have b1 := (T_Desk_truncateText (l := x_l X0) (B := x_B X0) (hy := hf1)).1 X0
      repeat (first | (cases hy; done) | (cases hy; exact b1) | split at hy)
  refine g_startR (Lc := [(0, va_rf p0), (1, .int p1), (2, va_rf p2)]) (by decide) rfl rfl (by rcases p0 with _ | p0 <;> rcases p2 with _ | p2 <;> exact Nat.le_of_ble_eq_true rfl) (by rcases p0 with _ | p0 <;> rcases p2 with _ | p2 <;> rfl) hle0 (fun X => ?_) rfl
  unfold Law_truncateText at hy
  refine g_aloadO_n 2 (i := 2) (pc' := 1) d_Law_truncateText_0 rfl rfl rfl ?_
  refine g_iconst (v := (0 : Int32)) (pc' := 2) d_Law_truncateText_1 (by decide) rfl ?_
  refine g_aloadO_n 0 (i := 0) (pc' := 3) d_Law_truncateText_2 rfl rfl rfl ?_
  refine g_iload_n 1 (i := 1) (pc' := 4) d_Law_truncateText_3 rfl rfl rfl ?_
  replace hy := g_nn_inv hy
  obtain ⟨a1, rfl, hy⟩ := hy
  replace hy := g_is_inv hy
  obtain ⟨fs2, hc3, hy⟩ := hy
  replace hy := g_bh_inv hy
  rcases hy with ⟨x4, h5, hf6, hy⟩ | ⟨E9, q9, h5, hf6, hy⟩
  rotate_left
  · by_cases e9 : E9 = "java/lang/IllegalArgumentException"
    · subst e9
      rw [if_pos rfl] at hy
      cases hy
      refine g_callVH (pre := []) (suf := []) (x := (0, 9, 12, 18)) (nm := "java/lang/IllegalArgumentException") (pc' := 12) (As := [.int p1]) (rest := [.int (0 : Int32), va_rf p2]) 1 (T_Desk_truncateText (hy := hf6)) d_Law_truncateText_4 hc3 rfl rfl q1326 q1327 q1328 q108 q1329 hd_Desk_truncateText rfl ⟨by decide, by decide⟩ (by first | exact Nat.le_of_ble_eq_true rfl | (simp only [List.map, List.sum_cons, List.sum_nil, g_cat_rf]; exact Nat.le_of_ble_eq_true rfl) | (simp only [List.map, List.sum_cons, List.sum_nil, g_cat_rf, Value.category]; decide)) (by decide) rfl (fun z hz => by cases hz) (by decide) (by decide) q1325 q180 rfl ?_
      intro n9 a9 hn9 ha9
      refine g_astore_n (i := 3) (pc' := 13) (Lc' := [(3, .ref a9), (0, .ref a1), (1, .int p1), (2, va_rf p2)]) d_Law_truncateText_12 rfl (by decide) (by cases p2 <;> rfl) rfl ?_
      refine g_iconst (v := (1 : Int32)) (pc' := 14) d_Law_truncateText_13 (by decide) rfl ?_
      exact g_iretR n9 rfl rfl rfl hn9 rfl d_Law_truncateText_14
    · rw [if_neg e9] at hy
      cases hy
  refine g_callV (rv := some (.int x4)) (h1 := h5) (pc' := 7) (As := [.int p1]) (rest := [.int (0 : Int32), va_rf p2]) 1 (T_Desk_truncateText (hy := hf6)) d_Law_truncateText_4 hc3 rfl rfl q1326 q1327 q1328 q108 q1329 hd_Desk_truncateText rfl ⟨by decide, by decide⟩ (by first | exact Nat.le_of_ble_eq_true rfl | (simp only [List.map, List.sum_cons, List.sum_nil, g_cat_rf]; exact Nat.le_of_ble_eq_true rfl) | (simp only [List.map, List.sum_cons, List.sum_nil, g_cat_rf, Value.category]; decide)) rfl ?_
  refine g_i2l (pc' := 8) d_Law_truncateText_7 rfl ?_
  replace hy := g_nn_inv hy
  obtain ⟨a7, rfl, hy⟩ := hy
  replace hy := g_sL_inv hy
  obtain ⟨n8, f9, hc10, hi11, hy⟩ := hy
  refine g_last (pc' := 9) d_Law_truncateText_8 hc10 hi11 rfl ?_
  generalize g_up h5 a7 (.inl (3, n8, .inr (.inl (vp_updL f9 ((0 : Int32)).toNatClampNeg ((x4).toInt64))))) = h12 at hy ⊢
  refine g_goto (pc' := 15) d_Law_truncateText_9 (by decide) ?_
  refine g_iconst (v := (0 : Int32)) (pc' := 16) d_Law_truncateText_15 (by decide) rfl ?_
  cases hy
  exact g_iret rfl rfl rfl d_Law_truncateText_16
theorem hd_Law_truncateText : g_dsc y_Law_truncateText 3 := ⟨by decide +kernel, by decide +kernel, by decide +kernel⟩
/-! CircuitDeskLaw.addNode(LCircuitDesk;I[J)I -/
abbrev y_Law_addNode : MethodName := ⟨"CircuitDeskLaw", "addNode", "(LCircuitDesk;I[J)I"⟩
abbrev k_Law_addNode : g_M := (method_5_code, 4, "CircuitDeskLaw", 20, (some FieldType.int), "addNode", [(0, 9, 12, 18), (0, 9, 15, 13)], 1)
theorem d_Law_addNode_0 : decode method_5_code 0 = .ok (.aload_n 2, 1) := by decide +kernel
theorem d_Law_addNode_1 : decode method_5_code 1 = .ok (.iconst 0, 1) := by decide +kernel
theorem d_Law_addNode_2 : decode method_5_code 2 = .ok (.aload_n 0, 1) := by decide +kernel
theorem d_Law_addNode_3 : decode method_5_code 3 = .ok (.iload_n 1, 1) := by decide +kernel
theorem d_Law_addNode_4 : decode method_5_code 4 = .ok (.invokevirtual 20, 3) := by decide +kernel
theorem d_Law_addNode_7 : decode method_5_code 7 = .ok (.i2l, 1) := by decide +kernel
theorem d_Law_addNode_8 : decode method_5_code 8 = .ok (.lastore, 1) := by decide +kernel
theorem d_Law_addNode_9 : decode method_5_code 9 = .ok (.goto 9, 3) := by decide +kernel
theorem d_Law_addNode_12 : decode method_5_code 12 = .ok (.astore_n 3, 1) := by decide +kernel
theorem d_Law_addNode_13 : decode method_5_code 13 = .ok (.iconst 1, 1) := by decide +kernel
theorem d_Law_addNode_14 : decode method_5_code 14 = .ok (.ireturn, 1) := by decide +kernel
theorem d_Law_addNode_15 : decode method_5_code 15 = .ok (.astore_n 3, 1) := by decide +kernel
theorem d_Law_addNode_16 : decode method_5_code 16 = .ok (.iconst 2, 1) := by decide +kernel
theorem d_Law_addNode_17 : decode method_5_code 17 = .ok (.ireturn, 1) := by decide +kernel
theorem d_Law_addNode_18 : decode method_5_code 18 = .ok (.iconst 0, 1) := by decide +kernel
theorem d_Law_addNode_19 : decode method_5_code 19 = .ok (.ireturn, 1) := by decide +kernel
def Law_addNode (h : g_AH) (p0 : Option Nat) (p1 : Int32) (p2 : Option Nat) : Option (Int32 × g_AH) :=
  g_nn p0 fun a1 => g_is h a1 0 <| g_bh (Desk_addNode h a1 p1) (fun E9 _ h9 => if E9 = "java/lang/IllegalArgumentException" then some ((1 : Int32), h9) else if E9 = "java/lang/IllegalStateException" then some ((2 : Int32), h9) else none) fun x4 h5 => g_nn p2 fun a7 => g_sL h5 a7 (0 : Int32) ((x4).toInt64) fun h12 => some ((0 : Int32), h12)
set_option maxHeartbeats 4000000 in
set_option maxRecDepth 100000 in
theorem T_Law_addNode {l : Launch} {B : g_B} (h : g_AH) (p0 : Option Nat) (p1 : Int32) (p2 : Option Nat) (z : Int32 × g_AH) (hy : Law_addNode h p0 p1 p2 = some z) : g_CTR l B y_Law_addNode k_Law_addNode [va_rf p0, .int p1, va_rf p2] h (.inl (some (.int z.1))) z.2 := by
  have hle0 : g_X → g_Le h z.2 := by
    intro X0
    unfold Law_addNode at hy
    replace hy := g_nn_inv hy
    obtain ⟨a1, rfl, hy⟩ := hy
    replace hy := g_is_inv hy
    obtain ⟨fs1, hc1, hy⟩ := hy
    replace hy := g_bh_inv hy
    rcases hy with ⟨x1, h1, hf1, hy⟩ | ⟨E1, q1, h1, hf1, hy⟩
    · have b1 := (T_Desk_addNode (l := x_l X0) (B := x_B X0) (hy := hf1)).1 X0
      replace hy := g_nn_inv hy; obtain ⟨a2, rfl, hy⟩ := hy; replace hy := g_sL_inv hy; obtain ⟨n2, f2, hc2, hi2, hy⟩ := hy; cases hy; exact b1.tr (g_Le.up hc2)
    · have b1 := (T_Desk_addNode (l := x_l X0) (B := x_B X0) (hy := hf1)).1 X0
      repeat (first | (cases hy; done) | (cases hy; exact b1) | split at hy)
  refine g_startR (Lc := [(0, va_rf p0), (1, .int p1), (2, va_rf p2)]) (by decide) rfl rfl (by rcases p0 with _ | p0 <;> rcases p2 with _ | p2 <;> exact Nat.le_of_ble_eq_true rfl) (by rcases p0 with _ | p0 <;> rcases p2 with _ | p2 <;> rfl) hle0 (fun X => ?_) rfl
  unfold Law_addNode at hy
  refine g_aloadO_n 2 (i := 2) (pc' := 1) d_Law_addNode_0 rfl rfl rfl ?_
  refine g_iconst (v := (0 : Int32)) (pc' := 2) d_Law_addNode_1 (by decide) rfl ?_
  refine g_aloadO_n 0 (i := 0) (pc' := 3) d_Law_addNode_2 rfl rfl rfl ?_
  refine g_iload_n 1 (i := 1) (pc' := 4) d_Law_addNode_3 rfl rfl rfl ?_
  replace hy := g_nn_inv hy
  obtain ⟨a1, rfl, hy⟩ := hy
  replace hy := g_is_inv hy
  obtain ⟨fs2, hc3, hy⟩ := hy
  replace hy := g_bh_inv hy
  rcases hy with ⟨x4, h5, hf6, hy⟩ | ⟨E9, q9, h5, hf6, hy⟩
  rotate_left
  · by_cases e9 : E9 = "java/lang/IllegalArgumentException"
    · subst e9
      rw [if_pos rfl] at hy
      cases hy
      refine g_callVH (pre := []) (suf := [(0, 9, 15, 13)]) (x := (0, 9, 12, 18)) (nm := "java/lang/IllegalArgumentException") (pc' := 12) (As := [.int p1]) (rest := [.int (0 : Int32), va_rf p2]) 1 (T_Desk_addNode (hy := hf6)) d_Law_addNode_4 hc3 rfl rfl q1342 q1343 q1344 q108 q1345 hd_Desk_addNode rfl ⟨by decide, by decide⟩ (by first | exact Nat.le_of_ble_eq_true rfl | (simp only [List.map, List.sum_cons, List.sum_nil, g_cat_rf]; exact Nat.le_of_ble_eq_true rfl) | (simp only [List.map, List.sum_cons, List.sum_nil, g_cat_rf, Value.category]; decide)) (by decide) rfl (fun z hz => by cases hz) (by decide) (by decide) q1325 q180 rfl ?_
      intro n9 a9 hn9 ha9
      refine g_astore_n (i := 3) (pc' := 13) (Lc' := [(3, .ref a9), (0, .ref a1), (1, .int p1), (2, va_rf p2)]) d_Law_addNode_12 rfl (by decide) (by cases p2 <;> rfl) rfl ?_
      refine g_iconst (v := (1 : Int32)) (pc' := 14) d_Law_addNode_13 (by decide) rfl ?_
      exact g_iretR n9 rfl rfl rfl hn9 rfl d_Law_addNode_14
    · rw [if_neg e9] at hy
      by_cases e9 : E9 = "java/lang/IllegalStateException"
      · subst e9
        rw [if_pos rfl] at hy
        cases hy
        refine g_callVH (pre := [(0, 9, 12, 18)]) (suf := []) (x := (0, 9, 15, 13)) (nm := "java/lang/IllegalStateException") (pc' := 15) (As := [.int p1]) (rest := [.int (0 : Int32), va_rf p2]) 1 (T_Desk_addNode (hy := hf6)) d_Law_addNode_4 hc3 rfl rfl q1342 q1343 q1344 q108 q1345 hd_Desk_addNode rfl ⟨by decide, by decide⟩ (by first | exact Nat.le_of_ble_eq_true rfl | (simp only [List.map, List.sum_cons, List.sum_nil, g_cat_rf]; exact Nat.le_of_ble_eq_true rfl) | (simp only [List.map, List.sum_cons, List.sum_nil, g_cat_rf, Value.category]; decide)) (by decide) rfl (fun z hz => by rcases List.mem_cons.mp hz with rfl | hz; exact ⟨by decide, "java/lang/IllegalArgumentException", q1325, by decide +kernel⟩; cases hz) (by decide) (by decide) q1293 q1303 rfl ?_
        intro n9 a9 hn9 ha9
        refine g_astore_n (i := 3) (pc' := 16) (Lc' := [(3, .ref a9), (0, .ref a1), (1, .int p1), (2, va_rf p2)]) d_Law_addNode_15 rfl (by decide) (by cases p2 <;> rfl) rfl ?_
        refine g_iconst (v := (2 : Int32)) (pc' := 17) d_Law_addNode_16 (by decide) rfl ?_
        exact g_iretR n9 rfl rfl rfl hn9 rfl d_Law_addNode_17
      · rw [if_neg e9] at hy
        cases hy
  refine g_callV (rv := some (.int x4)) (h1 := h5) (pc' := 7) (As := [.int p1]) (rest := [.int (0 : Int32), va_rf p2]) 1 (T_Desk_addNode (hy := hf6)) d_Law_addNode_4 hc3 rfl rfl q1342 q1343 q1344 q108 q1345 hd_Desk_addNode rfl ⟨by decide, by decide⟩ (by first | exact Nat.le_of_ble_eq_true rfl | (simp only [List.map, List.sum_cons, List.sum_nil, g_cat_rf]; exact Nat.le_of_ble_eq_true rfl) | (simp only [List.map, List.sum_cons, List.sum_nil, g_cat_rf, Value.category]; decide)) rfl ?_
  refine g_i2l (pc' := 8) d_Law_addNode_7 rfl ?_
  replace hy := g_nn_inv hy
  obtain ⟨a7, rfl, hy⟩ := hy
  replace hy := g_sL_inv hy
  obtain ⟨n8, f9, hc10, hi11, hy⟩ := hy
  refine g_last (pc' := 9) d_Law_addNode_8 hc10 hi11 rfl ?_
  generalize g_up h5 a7 (.inl (3, n8, .inr (.inl (vp_updL f9 ((0 : Int32)).toNatClampNeg ((x4).toInt64))))) = h12 at hy ⊢
  refine g_goto (pc' := 18) d_Law_addNode_9 (by decide) ?_
  refine g_iconst (v := (0 : Int32)) (pc' := 19) d_Law_addNode_18 (by decide) rfl ?_
  cases hy
  exact g_iret rfl rfl rfl d_Law_addNode_19
theorem hd_Law_addNode : g_dsc y_Law_addNode 3 := ⟨by decide +kernel, by decide +kernel, by decide +kernel⟩
/-! CircuitDeskLaw.addLink(LCircuitDesk;IIII[J)I -/
abbrev y_Law_addLink : MethodName := ⟨"CircuitDeskLaw", "addLink", "(LCircuitDesk;IIII[J)I"⟩
abbrev k_Law_addLink : g_M := (method_6_code, 7, "CircuitDeskLaw", 20, (some FieldType.int), "addLink", [(0, 14, 17, 27), (0, 14, 21, 18), (0, 14, 25, 13)], 1)
theorem d_Law_addLink_0 : decode method_6_code 0 = .ok (.aload 5, 2) := by decide +kernel
theorem d_Law_addLink_2 : decode method_6_code 2 = .ok (.iconst 0, 1) := by decide +kernel
theorem d_Law_addLink_3 : decode method_6_code 3 = .ok (.aload_n 0, 1) := by decide +kernel
theorem d_Law_addLink_4 : decode method_6_code 4 = .ok (.iload_n 1, 1) := by decide +kernel
theorem d_Law_addLink_5 : decode method_6_code 5 = .ok (.iload_n 2, 1) := by decide +kernel
theorem d_Law_addLink_6 : decode method_6_code 6 = .ok (.iload_n 3, 1) := by decide +kernel
theorem d_Law_addLink_7 : decode method_6_code 7 = .ok (.iload 4, 2) := by decide +kernel
theorem d_Law_addLink_9 : decode method_6_code 9 = .ok (.invokevirtual 23, 3) := by decide +kernel
theorem d_Law_addLink_12 : decode method_6_code 12 = .ok (.i2l, 1) := by decide +kernel
theorem d_Law_addLink_13 : decode method_6_code 13 = .ok (.lastore, 1) := by decide +kernel
theorem d_Law_addLink_14 : decode method_6_code 14 = .ok (.goto 15, 3) := by decide +kernel
theorem d_Law_addLink_17 : decode method_6_code 17 = .ok (.astore 6, 2) := by decide +kernel
theorem d_Law_addLink_19 : decode method_6_code 19 = .ok (.iconst 1, 1) := by decide +kernel
theorem d_Law_addLink_20 : decode method_6_code 20 = .ok (.ireturn, 1) := by decide +kernel
theorem d_Law_addLink_21 : decode method_6_code 21 = .ok (.astore 6, 2) := by decide +kernel
theorem d_Law_addLink_23 : decode method_6_code 23 = .ok (.iconst 2, 1) := by decide +kernel
theorem d_Law_addLink_24 : decode method_6_code 24 = .ok (.ireturn, 1) := by decide +kernel
theorem d_Law_addLink_25 : decode method_6_code 25 = .ok (.astore 6, 2) := by decide +kernel
theorem d_Law_addLink_27 : decode method_6_code 27 = .ok (.iconst 3, 1) := by decide +kernel
theorem d_Law_addLink_28 : decode method_6_code 28 = .ok (.ireturn, 1) := by decide +kernel
theorem d_Law_addLink_29 : decode method_6_code 29 = .ok (.iconst 0, 1) := by decide +kernel
theorem d_Law_addLink_30 : decode method_6_code 30 = .ok (.ireturn, 1) := by decide +kernel
def Law_addLink (h : g_AH) (p0 : Option Nat) (p1 : Int32) (p2 : Int32) (p3 : Int32) (p4 : Int32) (p5 : Option Nat) : Option (Int32 × g_AH) :=
  g_nn p0 fun a1 => g_is h a1 0 <| g_bh (Desk_addLink h a1 p1 p2 p3 p4) (fun E9 _ h9 => if E9 = "java/lang/IndexOutOfBoundsException" then some ((1 : Int32), h9) else if E9 = "java/lang/IllegalArgumentException" then some ((2 : Int32), h9) else if E9 = "java/lang/IllegalStateException" then some ((3 : Int32), h9) else none) fun x4 h5 => g_nn p5 fun a7 => g_sL h5 a7 (0 : Int32) ((x4).toInt64) fun h12 => some ((0 : Int32), h12)
set_option maxHeartbeats 4000000 in
set_option maxRecDepth 100000 in
theorem T_Law_addLink {l : Launch} {B : g_B} (h : g_AH) (p0 : Option Nat) (p1 : Int32) (p2 : Int32) (p3 : Int32) (p4 : Int32) (p5 : Option Nat) (z : Int32 × g_AH) (hy : Law_addLink h p0 p1 p2 p3 p4 p5 = some z) : g_CTR l B y_Law_addLink k_Law_addLink [va_rf p0, .int p1, .int p2, .int p3, .int p4, va_rf p5] h (.inl (some (.int z.1))) z.2 := by
  have hle0 : g_X → g_Le h z.2 := by
    intro X0
    unfold Law_addLink at hy
    replace hy := g_nn_inv hy
    obtain ⟨a1, rfl, hy⟩ := hy
    replace hy := g_is_inv hy
    obtain ⟨fs1, hc1, hy⟩ := hy
    replace hy := g_bh_inv hy
    rcases hy with ⟨x1, h1, hf1, hy⟩ | ⟨E1, q1, h1, hf1, hy⟩
    · have b1 := (T_Desk_addLink (l := x_l X0) (B := x_B X0) (hy := hf1)).1 X0
      replace hy := g_nn_inv hy; obtain ⟨a2, rfl, hy⟩ := hy; replace hy := g_sL_inv hy; obtain ⟨n2, f2, hc2, hi2, hy⟩ := hy; cases hy; exact b1.tr (g_Le.up hc2)
    · have b1 := (T_Desk_addLink (l := x_l X0) (B := x_B X0) (hy := hf1)).1 X0
      repeat (first | (cases hy; done) | (cases hy; exact b1) | split at hy)
  refine g_startR (Lc := [(0, va_rf p0), (1, .int p1), (2, .int p2), (3, .int p3), (4, .int p4), (5, va_rf p5)]) (by decide) rfl rfl (by rcases p0 with _ | p0 <;> rcases p5 with _ | p5 <;> exact Nat.le_of_ble_eq_true rfl) (by rcases p0 with _ | p0 <;> rcases p5 with _ | p5 <;> rfl) hle0 (fun X => ?_) rfl
  unfold Law_addLink at hy
  refine g_aloadO 5 (pc' := 2) d_Law_addLink_0 rfl rfl ?_
  refine g_iconst (v := (0 : Int32)) (pc' := 3) d_Law_addLink_2 (by decide) rfl ?_
  refine g_aloadO_n 0 (i := 0) (pc' := 4) d_Law_addLink_3 rfl rfl rfl ?_
  refine g_iload_n 1 (i := 1) (pc' := 5) d_Law_addLink_4 rfl rfl rfl ?_
  refine g_iload_n 2 (i := 2) (pc' := 6) d_Law_addLink_5 rfl rfl rfl ?_
  refine g_iload_n 3 (i := 3) (pc' := 7) d_Law_addLink_6 rfl rfl rfl ?_
  refine g_iload 4 (pc' := 9) d_Law_addLink_7 rfl rfl ?_
  replace hy := g_nn_inv hy
  obtain ⟨a1, rfl, hy⟩ := hy
  replace hy := g_is_inv hy
  obtain ⟨fs2, hc3, hy⟩ := hy
  replace hy := g_bh_inv hy
  rcases hy with ⟨x4, h5, hf6, hy⟩ | ⟨E9, q9, h5, hf6, hy⟩
  rotate_left
  · by_cases e9 : E9 = "java/lang/IndexOutOfBoundsException"
    · subst e9
      rw [if_pos rfl] at hy
      cases hy
      refine g_callVH (pre := []) (suf := [(0, 14, 21, 18), (0, 14, 25, 13)]) (x := (0, 14, 17, 27)) (nm := "java/lang/IndexOutOfBoundsException") (pc' := 17) (As := [.int p1, .int p2, .int p3, .int p4]) (rest := [.int (0 : Int32), va_rf p5]) 4 (T_Desk_addLink (hy := hf6)) d_Law_addLink_9 hc3 rfl rfl q1372 q1373 q1374 q108 q1375 hd_Desk_addLink rfl ⟨by decide, by decide⟩ (by first | exact Nat.le_of_ble_eq_true rfl | (simp only [List.map, List.sum_cons, List.sum_nil, g_cat_rf]; exact Nat.le_of_ble_eq_true rfl) | (simp only [List.map, List.sum_cons, List.sum_nil, g_cat_rf, Value.category]; decide)) (by decide) rfl (fun z hz => by cases hz) (by decide) (by decide) q1353 q1385 rfl ?_
      intro n9 a9 hn9 ha9
      refine g_astore (pc' := 19) (Lc' := [(6, .ref a9), (0, .ref a1), (1, .int p1), (2, .int p2), (3, .int p3), (4, .int p4), (5, va_rf p5)]) d_Law_addLink_17 (by decide) (by cases p5 <;> rfl) rfl ?_
      refine g_iconst (v := (1 : Int32)) (pc' := 20) d_Law_addLink_19 (by decide) rfl ?_
      exact g_iretR n9 rfl rfl rfl hn9 rfl d_Law_addLink_20
    · rw [if_neg e9] at hy
      by_cases e9 : E9 = "java/lang/IllegalArgumentException"
      · subst e9
        rw [if_pos rfl] at hy
        cases hy
        refine g_callVH (pre := [(0, 14, 17, 27)]) (suf := [(0, 14, 25, 13)]) (x := (0, 14, 21, 18)) (nm := "java/lang/IllegalArgumentException") (pc' := 21) (As := [.int p1, .int p2, .int p3, .int p4]) (rest := [.int (0 : Int32), va_rf p5]) 4 (T_Desk_addLink (hy := hf6)) d_Law_addLink_9 hc3 rfl rfl q1372 q1373 q1374 q108 q1375 hd_Desk_addLink rfl ⟨by decide, by decide⟩ (by first | exact Nat.le_of_ble_eq_true rfl | (simp only [List.map, List.sum_cons, List.sum_nil, g_cat_rf]; exact Nat.le_of_ble_eq_true rfl) | (simp only [List.map, List.sum_cons, List.sum_nil, g_cat_rf, Value.category]; decide)) (by decide) rfl (fun z hz => by rcases List.mem_cons.mp hz with rfl | hz; exact ⟨by decide, "java/lang/IndexOutOfBoundsException", q1353, by decide +kernel⟩; cases hz) (by decide) (by decide) q1325 q180 rfl ?_
        intro n9 a9 hn9 ha9
        refine g_astore (pc' := 23) (Lc' := [(6, .ref a9), (0, .ref a1), (1, .int p1), (2, .int p2), (3, .int p3), (4, .int p4), (5, va_rf p5)]) d_Law_addLink_21 (by decide) (by cases p5 <;> rfl) rfl ?_
        refine g_iconst (v := (2 : Int32)) (pc' := 24) d_Law_addLink_23 (by decide) rfl ?_
        exact g_iretR n9 rfl rfl rfl hn9 rfl d_Law_addLink_24
      · rw [if_neg e9] at hy
        by_cases e9 : E9 = "java/lang/IllegalStateException"
        · subst e9
          rw [if_pos rfl] at hy
          cases hy
          refine g_callVH (pre := [(0, 14, 17, 27), (0, 14, 21, 18)]) (suf := []) (x := (0, 14, 25, 13)) (nm := "java/lang/IllegalStateException") (pc' := 25) (As := [.int p1, .int p2, .int p3, .int p4]) (rest := [.int (0 : Int32), va_rf p5]) 4 (T_Desk_addLink (hy := hf6)) d_Law_addLink_9 hc3 rfl rfl q1372 q1373 q1374 q108 q1375 hd_Desk_addLink rfl ⟨by decide, by decide⟩ (by first | exact Nat.le_of_ble_eq_true rfl | (simp only [List.map, List.sum_cons, List.sum_nil, g_cat_rf]; exact Nat.le_of_ble_eq_true rfl) | (simp only [List.map, List.sum_cons, List.sum_nil, g_cat_rf, Value.category]; decide)) (by decide) rfl (fun z hz => by rcases List.mem_cons.mp hz with rfl | hz; exact ⟨by decide, "java/lang/IndexOutOfBoundsException", q1353, by decide +kernel⟩; rcases List.mem_cons.mp hz with rfl | hz; exact ⟨by decide, "java/lang/IllegalArgumentException", q1325, by decide +kernel⟩; cases hz) (by decide) (by decide) q1293 q1303 rfl ?_
          intro n9 a9 hn9 ha9
          refine g_astore (pc' := 27) (Lc' := [(6, .ref a9), (0, .ref a1), (1, .int p1), (2, .int p2), (3, .int p3), (4, .int p4), (5, va_rf p5)]) d_Law_addLink_25 (by decide) (by cases p5 <;> rfl) rfl ?_
          refine g_iconst (v := (3 : Int32)) (pc' := 28) d_Law_addLink_27 (by decide) rfl ?_
          exact g_iretR n9 rfl rfl rfl hn9 rfl d_Law_addLink_28
        · rw [if_neg e9] at hy
          cases hy
  refine g_callV (rv := some (.int x4)) (h1 := h5) (pc' := 12) (As := [.int p1, .int p2, .int p3, .int p4]) (rest := [.int (0 : Int32), va_rf p5]) 4 (T_Desk_addLink (hy := hf6)) d_Law_addLink_9 hc3 rfl rfl q1372 q1373 q1374 q108 q1375 hd_Desk_addLink rfl ⟨by decide, by decide⟩ (by first | exact Nat.le_of_ble_eq_true rfl | (simp only [List.map, List.sum_cons, List.sum_nil, g_cat_rf]; exact Nat.le_of_ble_eq_true rfl) | (simp only [List.map, List.sum_cons, List.sum_nil, g_cat_rf, Value.category]; decide)) rfl ?_
  refine g_i2l (pc' := 13) d_Law_addLink_12 rfl ?_
  replace hy := g_nn_inv hy
  obtain ⟨a7, rfl, hy⟩ := hy
  replace hy := g_sL_inv hy
  obtain ⟨n8, f9, hc10, hi11, hy⟩ := hy
  refine g_last (pc' := 14) d_Law_addLink_13 hc10 hi11 rfl ?_
  generalize g_up h5 a7 (.inl (3, n8, .inr (.inl (vp_updL f9 ((0 : Int32)).toNatClampNeg ((x4).toInt64))))) = h12 at hy ⊢
  refine g_goto (pc' := 29) d_Law_addLink_14 (by decide) ?_
  refine g_iconst (v := (0 : Int32)) (pc' := 30) d_Law_addLink_29 (by decide) rfl ?_
  cases hy
  exact g_iret rfl rfl rfl d_Law_addLink_30
theorem hd_Law_addLink : g_dsc y_Law_addLink 6 := ⟨by decide +kernel, by decide +kernel, by decide +kernel⟩
/-! CircuitDeskLaw.setUp(LCircuitDesk;IZ[J)I -/
abbrev y_Law_setUp : MethodName := ⟨"CircuitDeskLaw", "setUp", "(LCircuitDesk;IZ[J)I"⟩
abbrev k_Law_setUp : g_M := (method_7_code, 5, "CircuitDeskLaw", 20, (some FieldType.int), "setUp", [(0, 17, 20, 27)], 1)
theorem d_Law_setUp_0 : decode method_7_code 0 = .ok (.aload_n 3, 1) := by decide +kernel
theorem d_Law_setUp_1 : decode method_7_code 1 = .ok (.iconst 0, 1) := by decide +kernel
theorem d_Law_setUp_2 : decode method_7_code 2 = .ok (.aload_n 0, 1) := by decide +kernel
theorem d_Law_setUp_3 : decode method_7_code 3 = .ok (.iload_n 1, 1) := by decide +kernel
theorem d_Law_setUp_4 : decode method_7_code 4 = .ok (.iload_n 2, 1) := by decide +kernel
theorem d_Law_setUp_5 : decode method_7_code 5 = .ok (.invokevirtual 29, 3) := by decide +kernel
theorem d_Law_setUp_8 : decode method_7_code 8 = .ok (.ifCond .eq 7, 3) := by decide +kernel
theorem d_Law_setUp_11 : decode method_7_code 11 = .ok (.lconst 1, 1) := by decide +kernel
theorem d_Law_setUp_12 : decode method_7_code 12 = .ok (.goto 4, 3) := by decide +kernel
theorem d_Law_setUp_15 : decode method_7_code 15 = .ok (.lconst 0, 1) := by decide +kernel
theorem d_Law_setUp_16 : decode method_7_code 16 = .ok (.lastore, 1) := by decide +kernel
theorem d_Law_setUp_17 : decode method_7_code 17 = .ok (.goto 7, 3) := by decide +kernel
theorem d_Law_setUp_20 : decode method_7_code 20 = .ok (.astore 4, 2) := by decide +kernel
theorem d_Law_setUp_22 : decode method_7_code 22 = .ok (.iconst 1, 1) := by decide +kernel
theorem d_Law_setUp_23 : decode method_7_code 23 = .ok (.ireturn, 1) := by decide +kernel
theorem d_Law_setUp_24 : decode method_7_code 24 = .ok (.iconst 0, 1) := by decide +kernel
theorem d_Law_setUp_25 : decode method_7_code 25 = .ok (.ireturn, 1) := by decide +kernel
def Law_setUp (h : g_AH) (p0 : Option Nat) (p1 : Int32) (p2 : Int32) (p3 : Option Nat) : Option (Int32 × g_AH) :=
  g_nn p0 fun a1 => g_is h a1 0 <| g_bh (Desk_setUp h a1 p1 p2) (fun E9 _ h9 => if E9 = "java/lang/IndexOutOfBoundsException" then some ((1 : Int32), h9) else none) fun x4 h5 => if x4 = 0 then (g_nn p3 fun a8 => g_sL h5 a8 (0 : Int32) (0 : Int64) fun h13 => some ((0 : Int32), h13)) else (g_nn p3 fun a14 => g_sL h5 a14 (0 : Int32) (1 : Int64) fun h19 => some ((0 : Int32), h19))
set_option maxHeartbeats 4000000 in
set_option maxRecDepth 100000 in
theorem T_Law_setUp {l : Launch} {B : g_B} (h : g_AH) (p0 : Option Nat) (p1 : Int32) (p2 : Int32) (p3 : Option Nat) (z : Int32 × g_AH) (hy : Law_setUp h p0 p1 p2 p3 = some z) : g_CTR l B y_Law_setUp k_Law_setUp [va_rf p0, .int p1, .int p2, va_rf p3] h (.inl (some (.int z.1))) z.2 := by
  have hle0 : g_X → g_Le h z.2 := by
    intro X0
    unfold Law_setUp at hy
    replace hy := g_nn_inv hy
    obtain ⟨a1, rfl, hy⟩ := hy
    replace hy := g_is_inv hy
    obtain ⟨fs1, hc1, hy⟩ := hy
    replace hy := g_bh_inv hy
    rcases hy with ⟨x1, h1, hf1, hy⟩ | ⟨E1, q1, h1, hf1, hy⟩
    · have b1 := (T_Desk_setUp (l := x_l X0) (B := x_B X0) (hy := hf1)).1 X0
      split at hy <;> (replace hy := g_nn_inv hy; obtain ⟨a2, rfl, hy⟩ := hy; replace hy := g_sL_inv hy; obtain ⟨n2, f2, hc2, hi2, hy⟩ := hy; cases hy; exact b1.tr (g_Le.up hc2))
    · have b1 := (T_Desk_setUp (l := x_l X0) (B := x_B X0) (hy := hf1)).1 X0
      repeat (first | (cases hy; done) | (cases hy; exact b1) | split at hy)
  refine g_startR (Lc := [(0, va_rf p0), (1, .int p1), (2, .int p2), (3, va_rf p3)]) (by decide) rfl rfl (by rcases p0 with _ | p0 <;> rcases p3 with _ | p3 <;> exact Nat.le_of_ble_eq_true rfl) (by rcases p0 with _ | p0 <;> rcases p3 with _ | p3 <;> rfl) hle0 (fun X => ?_) rfl
  unfold Law_setUp at hy
  refine g_aloadO_n 3 (i := 3) (pc' := 1) d_Law_setUp_0 rfl rfl rfl ?_
  refine g_iconst (v := (0 : Int32)) (pc' := 2) d_Law_setUp_1 (by decide) rfl ?_
  refine g_aloadO_n 0 (i := 0) (pc' := 3) d_Law_setUp_2 rfl rfl rfl ?_
  refine g_iload_n 1 (i := 1) (pc' := 4) d_Law_setUp_3 rfl rfl rfl ?_
  refine g_iload_n 2 (i := 2) (pc' := 5) d_Law_setUp_4 rfl rfl rfl ?_
  replace hy := g_nn_inv hy
  obtain ⟨a1, rfl, hy⟩ := hy
  replace hy := g_is_inv hy
  obtain ⟨fs2, hc3, hy⟩ := hy
  replace hy := g_bh_inv hy
  rcases hy with ⟨x4, h5, hf6, hy⟩ | ⟨E9, q9, h5, hf6, hy⟩
  rotate_left
  · by_cases e9 : E9 = "java/lang/IndexOutOfBoundsException"
    · subst e9
      rw [if_pos rfl] at hy
      cases hy
      refine g_callVH (pre := []) (suf := []) (x := (0, 17, 20, 27)) (nm := "java/lang/IndexOutOfBoundsException") (pc' := 20) (As := [.int p1, .int p2]) (rest := [.int (0 : Int32), va_rf p3]) 2 (T_Desk_setUp (hy := hf6)) d_Law_setUp_5 hc3 rfl rfl q1408 q1409 q1410 q108 q1411 hd_Desk_setUp rfl ⟨by decide, by decide⟩ (by first | exact Nat.le_of_ble_eq_true rfl | (simp only [List.map, List.sum_cons, List.sum_nil, g_cat_rf]; exact Nat.le_of_ble_eq_true rfl) | (simp only [List.map, List.sum_cons, List.sum_nil, g_cat_rf, Value.category]; decide)) (by decide) rfl (fun z hz => by cases hz) (by decide) (by decide) q1353 q1385 rfl ?_
      intro n9 a9 hn9 ha9
      refine g_astore (pc' := 22) (Lc' := [(4, .ref a9), (0, .ref a1), (1, .int p1), (2, .int p2), (3, va_rf p3)]) d_Law_setUp_20 (by decide) (by cases p3 <;> rfl) rfl ?_
      refine g_iconst (v := (1 : Int32)) (pc' := 23) d_Law_setUp_22 (by decide) rfl ?_
      exact g_iretR n9 rfl rfl rfl hn9 rfl d_Law_setUp_23
    · rw [if_neg e9] at hy
      cases hy
  refine g_callV (rv := some (.int x4)) (h1 := h5) (pc' := 8) (As := [.int p1, .int p2]) (rest := [.int (0 : Int32), va_rf p3]) 2 (T_Desk_setUp (hy := hf6)) d_Law_setUp_5 hc3 rfl rfl q1408 q1409 q1410 q108 q1411 hd_Desk_setUp rfl ⟨by decide, by decide⟩ (by first | exact Nat.le_of_ble_eq_true rfl | (simp only [List.map, List.sum_cons, List.sum_nil, g_cat_rf]; exact Nat.le_of_ble_eq_true rfl) | (simp only [List.map, List.sum_cons, List.sum_nil, g_cat_rf, Value.category]; decide)) rfl ?_
  by_cases c7 : x4 = 0
  · rw [if_pos c7] at hy
    refine g_if_eqT (pc' := 15) d_Law_setUp_8 c7 (by decide) ?_
    refine g_lconst (v := 0) (pc' := 16) d_Law_setUp_15 (by decide) rfl ?_
    replace hy := g_nn_inv hy
    obtain ⟨a8, rfl, hy⟩ := hy
    replace hy := g_sL_inv hy
    obtain ⟨n9, f10, hc11, hi12, hy⟩ := hy
    refine g_last (pc' := 17) d_Law_setUp_16 hc11 hi12 rfl ?_
    generalize g_up h5 a8 (.inl (3, n9, .inr (.inl (vp_updL f10 ((0 : Int32)).toNatClampNeg (0 : Int64))))) = h13 at hy ⊢
    refine g_goto (pc' := 24) d_Law_setUp_17 (by decide) ?_
    refine g_iconst (v := (0 : Int32)) (pc' := 25) d_Law_setUp_24 (by decide) rfl ?_
    cases hy
    exact g_iret rfl rfl rfl d_Law_setUp_25
  · rw [if_neg c7] at hy
    refine g_if_eqF (pc' := 11) d_Law_setUp_8 15 c7 (by decide) rfl ?_
    refine g_lconst (v := 1) (pc' := 12) d_Law_setUp_11 (by decide) rfl ?_
    refine g_goto (pc' := 16) d_Law_setUp_12 (by decide) ?_
    replace hy := g_nn_inv hy
    obtain ⟨a14, rfl, hy⟩ := hy
    replace hy := g_sL_inv hy
    obtain ⟨n15, f16, hc17, hi18, hy⟩ := hy
    refine g_last (pc' := 17) d_Law_setUp_16 hc17 hi18 rfl ?_
    generalize g_up h5 a14 (.inl (3, n15, .inr (.inl (vp_updL f16 ((0 : Int32)).toNatClampNeg (1 : Int64))))) = h19 at hy ⊢
    refine g_goto (pc' := 24) d_Law_setUp_17 (by decide) ?_
    refine g_iconst (v := (0 : Int32)) (pc' := 25) d_Law_setUp_24 (by decide) rfl ?_
    cases hy
    exact g_iret rfl rfl rfl d_Law_setUp_25
theorem hd_Law_setUp : g_dsc y_Law_setUp 4 := ⟨by decide +kernel, by decide +kernel, by decide +kernel⟩
/-! CircuitDeskLaw.set(LCircuitDesk;II[J)I -/
abbrev y_Law_set : MethodName := ⟨"CircuitDeskLaw", "set", "(LCircuitDesk;II[J)I"⟩
abbrev k_Law_set : g_M := (method_8_code, 5, "CircuitDeskLaw", 19, (some FieldType.int), "set", [(0, 10, 13, 18)], 1)
theorem d_Law_set_0 : decode method_8_code 0 = .ok (.aload_n 3, 1) := by decide +kernel
theorem d_Law_set_1 : decode method_8_code 1 = .ok (.iconst 0, 1) := by decide +kernel
theorem d_Law_set_2 : decode method_8_code 2 = .ok (.aload_n 0, 1) := by decide +kernel
theorem d_Law_set_3 : decode method_8_code 3 = .ok (.iload_n 1, 1) := by decide +kernel
theorem d_Law_set_4 : decode method_8_code 4 = .ok (.iload_n 2, 1) := by decide +kernel
theorem d_Law_set_5 : decode method_8_code 5 = .ok (.invokevirtual 33, 3) := by decide +kernel
theorem d_Law_set_8 : decode method_8_code 8 = .ok (.i2l, 1) := by decide +kernel
theorem d_Law_set_9 : decode method_8_code 9 = .ok (.lastore, 1) := by decide +kernel
theorem d_Law_set_10 : decode method_8_code 10 = .ok (.goto 7, 3) := by decide +kernel
theorem d_Law_set_13 : decode method_8_code 13 = .ok (.astore 4, 2) := by decide +kernel
theorem d_Law_set_15 : decode method_8_code 15 = .ok (.iconst 1, 1) := by decide +kernel
theorem d_Law_set_16 : decode method_8_code 16 = .ok (.ireturn, 1) := by decide +kernel
theorem d_Law_set_17 : decode method_8_code 17 = .ok (.iconst 0, 1) := by decide +kernel
theorem d_Law_set_18 : decode method_8_code 18 = .ok (.ireturn, 1) := by decide +kernel
def Law_set (h : g_AH) (p0 : Option Nat) (p1 : Int32) (p2 : Int32) (p3 : Option Nat) : Option (Int32 × g_AH) :=
  g_nn p0 fun a1 => g_is h a1 0 <| g_bh (Desk_set h a1 p1 p2) (fun E9 _ h9 => if E9 = "java/lang/IllegalArgumentException" then some ((1 : Int32), h9) else none) fun x4 h5 => g_nn p3 fun a7 => g_sL h5 a7 (0 : Int32) ((x4).toInt64) fun h12 => some ((0 : Int32), h12)
set_option maxHeartbeats 4000000 in
set_option maxRecDepth 100000 in
theorem T_Law_set {l : Launch} {B : g_B} (h : g_AH) (p0 : Option Nat) (p1 : Int32) (p2 : Int32) (p3 : Option Nat) (z : Int32 × g_AH) (hy : Law_set h p0 p1 p2 p3 = some z) : g_CTR l B y_Law_set k_Law_set [va_rf p0, .int p1, .int p2, va_rf p3] h (.inl (some (.int z.1))) z.2 := by
  have hle0 : g_X → g_Le h z.2 := by
    intro X0
    unfold Law_set at hy
    replace hy := g_nn_inv hy
    obtain ⟨a1, rfl, hy⟩ := hy
    replace hy := g_is_inv hy
    obtain ⟨fs1, hc1, hy⟩ := hy
    replace hy := g_bh_inv hy
    rcases hy with ⟨x1, h1, hf1, hy⟩ | ⟨E1, q1, h1, hf1, hy⟩
    · have b1 := (T_Desk_set (l := x_l X0) (B := x_B X0) (hy := hf1)).1 X0
      replace hy := g_nn_inv hy; obtain ⟨a2, rfl, hy⟩ := hy; replace hy := g_sL_inv hy; obtain ⟨n2, f2, hc2, hi2, hy⟩ := hy; cases hy; exact b1.tr (g_Le.up hc2)
    · have b1 := (T_Desk_set (l := x_l X0) (B := x_B X0) (hy := hf1)).1 X0
      repeat (first | (cases hy; done) | (cases hy; exact b1) | split at hy)
  refine g_startR (Lc := [(0, va_rf p0), (1, .int p1), (2, .int p2), (3, va_rf p3)]) (by decide) rfl rfl (by rcases p0 with _ | p0 <;> rcases p3 with _ | p3 <;> exact Nat.le_of_ble_eq_true rfl) (by rcases p0 with _ | p0 <;> rcases p3 with _ | p3 <;> rfl) hle0 (fun X => ?_) rfl
  unfold Law_set at hy
  refine g_aloadO_n 3 (i := 3) (pc' := 1) d_Law_set_0 rfl rfl rfl ?_
  refine g_iconst (v := (0 : Int32)) (pc' := 2) d_Law_set_1 (by decide) rfl ?_
  refine g_aloadO_n 0 (i := 0) (pc' := 3) d_Law_set_2 rfl rfl rfl ?_
  refine g_iload_n 1 (i := 1) (pc' := 4) d_Law_set_3 rfl rfl rfl ?_
  refine g_iload_n 2 (i := 2) (pc' := 5) d_Law_set_4 rfl rfl rfl ?_
  replace hy := g_nn_inv hy
  obtain ⟨a1, rfl, hy⟩ := hy
  replace hy := g_is_inv hy
  obtain ⟨fs2, hc3, hy⟩ := hy
  replace hy := g_bh_inv hy
  rcases hy with ⟨x4, h5, hf6, hy⟩ | ⟨E9, q9, h5, hf6, hy⟩
  rotate_left
  · by_cases e9 : E9 = "java/lang/IllegalArgumentException"
    · subst e9
      rw [if_pos rfl] at hy
      cases hy
      refine g_callVH (pre := []) (suf := []) (x := (0, 10, 13, 18)) (nm := "java/lang/IllegalArgumentException") (pc' := 13) (As := [.int p1, .int p2]) (rest := [.int (0 : Int32), va_rf p3]) 2 (T_Desk_set (hy := hf6)) d_Law_set_5 hc3 rfl rfl q1437 q1438 q1439 q108 q1440 hd_Desk_set rfl ⟨by decide, by decide⟩ (by first | exact Nat.le_of_ble_eq_true rfl | (simp only [List.map, List.sum_cons, List.sum_nil, g_cat_rf]; exact Nat.le_of_ble_eq_true rfl) | (simp only [List.map, List.sum_cons, List.sum_nil, g_cat_rf, Value.category]; decide)) (by decide) rfl (fun z hz => by cases hz) (by decide) (by decide) q1325 q180 rfl ?_
      intro n9 a9 hn9 ha9
      refine g_astore (pc' := 15) (Lc' := [(4, .ref a9), (0, .ref a1), (1, .int p1), (2, .int p2), (3, va_rf p3)]) d_Law_set_13 (by decide) (by cases p3 <;> rfl) rfl ?_
      refine g_iconst (v := (1 : Int32)) (pc' := 16) d_Law_set_15 (by decide) rfl ?_
      exact g_iretR n9 rfl rfl rfl hn9 rfl d_Law_set_16
    · rw [if_neg e9] at hy
      cases hy
  refine g_callV (rv := some (.int x4)) (h1 := h5) (pc' := 8) (As := [.int p1, .int p2]) (rest := [.int (0 : Int32), va_rf p3]) 2 (T_Desk_set (hy := hf6)) d_Law_set_5 hc3 rfl rfl q1437 q1438 q1439 q108 q1440 hd_Desk_set rfl ⟨by decide, by decide⟩ (by first | exact Nat.le_of_ble_eq_true rfl | (simp only [List.map, List.sum_cons, List.sum_nil, g_cat_rf]; exact Nat.le_of_ble_eq_true rfl) | (simp only [List.map, List.sum_cons, List.sum_nil, g_cat_rf, Value.category]; decide)) rfl ?_
  refine g_i2l (pc' := 9) d_Law_set_8 rfl ?_
  replace hy := g_nn_inv hy
  obtain ⟨a7, rfl, hy⟩ := hy
  replace hy := g_sL_inv hy
  obtain ⟨n8, f9, hc10, hi11, hy⟩ := hy
  refine g_last (pc' := 10) d_Law_set_9 hc10 hi11 rfl ?_
  generalize g_up h5 a7 (.inl (3, n8, .inr (.inl (vp_updL f9 ((0 : Int32)).toNatClampNeg ((x4).toInt64))))) = h12 at hy ⊢
  refine g_goto (pc' := 17) d_Law_set_10 (by decide) ?_
  refine g_iconst (v := (0 : Int32)) (pc' := 18) d_Law_set_17 (by decide) rfl ?_
  cases hy
  exact g_iret rfl rfl rfl d_Law_set_18
theorem hd_Law_set : g_dsc y_Law_set 4 := ⟨by decide +kernel, by decide +kernel, by decide +kernel⟩
/-! CircuitDeskLaw.count(LCircuitDesk;I[J)I -/
abbrev y_Law_count : MethodName := ⟨"CircuitDeskLaw", "count", "(LCircuitDesk;I[J)I"⟩
abbrev k_Law_count : g_M := (method_9_code, 4, "CircuitDeskLaw", 19, (some FieldType.int), "count", [(0, 9, 12, 18)], 1)
theorem d_Law_count_0 : decode method_9_code 0 = .ok (.aload_n 2, 1) := by decide +kernel
theorem d_Law_count_1 : decode method_9_code 1 = .ok (.iconst 0, 1) := by decide +kernel
theorem d_Law_count_2 : decode method_9_code 2 = .ok (.aload_n 0, 1) := by decide +kernel
theorem d_Law_count_3 : decode method_9_code 3 = .ok (.iload_n 1, 1) := by decide +kernel
theorem d_Law_count_4 : decode method_9_code 4 = .ok (.invokevirtual 37, 3) := by decide +kernel
theorem d_Law_count_7 : decode method_9_code 7 = .ok (.i2l, 1) := by decide +kernel
theorem d_Law_count_8 : decode method_9_code 8 = .ok (.lastore, 1) := by decide +kernel
theorem d_Law_count_9 : decode method_9_code 9 = .ok (.goto 6, 3) := by decide +kernel
theorem d_Law_count_12 : decode method_9_code 12 = .ok (.astore_n 3, 1) := by decide +kernel
theorem d_Law_count_13 : decode method_9_code 13 = .ok (.iconst 1, 1) := by decide +kernel
theorem d_Law_count_14 : decode method_9_code 14 = .ok (.ireturn, 1) := by decide +kernel
theorem d_Law_count_15 : decode method_9_code 15 = .ok (.iconst 0, 1) := by decide +kernel
theorem d_Law_count_16 : decode method_9_code 16 = .ok (.ireturn, 1) := by decide +kernel
def Law_count (h : g_AH) (p0 : Option Nat) (p1 : Int32) (p2 : Option Nat) : Option (Int32 × g_AH) :=
  g_nn p0 fun a1 => g_is h a1 0 <| g_bh (Desk_count h a1 p1) (fun E9 _ h9 => if E9 = "java/lang/IllegalArgumentException" then some ((1 : Int32), h9) else none) fun x4 h5 => g_nn p2 fun a7 => g_sL h5 a7 (0 : Int32) ((x4).toInt64) fun h12 => some ((0 : Int32), h12)
set_option maxHeartbeats 4000000 in
set_option maxRecDepth 100000 in
theorem T_Law_count {l : Launch} {B : g_B} (h : g_AH) (p0 : Option Nat) (p1 : Int32) (p2 : Option Nat) (z : Int32 × g_AH) (hy : Law_count h p0 p1 p2 = some z) : g_CTR l B y_Law_count k_Law_count [va_rf p0, .int p1, va_rf p2] h (.inl (some (.int z.1))) z.2 := by
  have hle0 : g_X → g_Le h z.2 := by
    intro X0
    unfold Law_count at hy
    replace hy := g_nn_inv hy
    obtain ⟨a1, rfl, hy⟩ := hy
    replace hy := g_is_inv hy
    obtain ⟨fs1, hc1, hy⟩ := hy
    replace hy := g_bh_inv hy
    rcases hy with ⟨x1, h1, hf1, hy⟩ | ⟨E1, q1, h1, hf1, hy⟩
    · have b1 := (T_Desk_count (l := x_l X0) (B := x_B X0) (hy := hf1)).1 X0
      replace hy := g_nn_inv hy; obtain ⟨a2, rfl, hy⟩ := hy; replace hy := g_sL_inv hy; obtain ⟨n2, f2, hc2, hi2, hy⟩ := hy; cases hy; exact b1.tr (g_Le.up hc2)
    · have b1 := (T_Desk_count (l := x_l X0) (B := x_B X0) (hy := hf1)).1 X0
      repeat (first | (cases hy; done) | (cases hy; exact b1) | split at hy)
  refine g_startR (Lc := [(0, va_rf p0), (1, .int p1), (2, va_rf p2)]) (by decide) rfl rfl (by rcases p0 with _ | p0 <;> rcases p2 with _ | p2 <;> exact Nat.le_of_ble_eq_true rfl) (by rcases p0 with _ | p0 <;> rcases p2 with _ | p2 <;> rfl) hle0 (fun X => ?_) rfl
  unfold Law_count at hy
  refine g_aloadO_n 2 (i := 2) (pc' := 1) d_Law_count_0 rfl rfl rfl ?_
  refine g_iconst (v := (0 : Int32)) (pc' := 2) d_Law_count_1 (by decide) rfl ?_
  refine g_aloadO_n 0 (i := 0) (pc' := 3) d_Law_count_2 rfl rfl rfl ?_
  refine g_iload_n 1 (i := 1) (pc' := 4) d_Law_count_3 rfl rfl rfl ?_
  replace hy := g_nn_inv hy
  obtain ⟨a1, rfl, hy⟩ := hy
  replace hy := g_is_inv hy
  obtain ⟨fs2, hc3, hy⟩ := hy
  replace hy := g_bh_inv hy
  rcases hy with ⟨x4, h5, hf6, hy⟩ | ⟨E9, q9, h5, hf6, hy⟩
  rotate_left
  · by_cases e9 : E9 = "java/lang/IllegalArgumentException"
    · subst e9
      rw [if_pos rfl] at hy
      cases hy
      refine g_callVH (pre := []) (suf := []) (x := (0, 9, 12, 18)) (nm := "java/lang/IllegalArgumentException") (pc' := 12) (As := [.int p1]) (rest := [.int (0 : Int32), va_rf p2]) 1 (T_Desk_count (hy := hf6)) d_Law_count_4 hc3 rfl rfl q1445 q1446 q1447 q108 q1448 hd_Desk_count rfl ⟨by decide, by decide⟩ (by first | exact Nat.le_of_ble_eq_true rfl | (simp only [List.map, List.sum_cons, List.sum_nil, g_cat_rf]; exact Nat.le_of_ble_eq_true rfl) | (simp only [List.map, List.sum_cons, List.sum_nil, g_cat_rf, Value.category]; decide)) (by decide) rfl (fun z hz => by cases hz) (by decide) (by decide) q1325 q180 rfl ?_
      intro n9 a9 hn9 ha9
      refine g_astore_n (i := 3) (pc' := 13) (Lc' := [(3, .ref a9), (0, .ref a1), (1, .int p1), (2, va_rf p2)]) d_Law_count_12 rfl (by decide) (by cases p2 <;> rfl) rfl ?_
      refine g_iconst (v := (1 : Int32)) (pc' := 14) d_Law_count_13 (by decide) rfl ?_
      exact g_iretR n9 rfl rfl rfl hn9 rfl d_Law_count_14
    · rw [if_neg e9] at hy
      cases hy
  refine g_callV (rv := some (.int x4)) (h1 := h5) (pc' := 7) (As := [.int p1]) (rest := [.int (0 : Int32), va_rf p2]) 1 (T_Desk_count (hy := hf6)) d_Law_count_4 hc3 rfl rfl q1445 q1446 q1447 q108 q1448 hd_Desk_count rfl ⟨by decide, by decide⟩ (by first | exact Nat.le_of_ble_eq_true rfl | (simp only [List.map, List.sum_cons, List.sum_nil, g_cat_rf]; exact Nat.le_of_ble_eq_true rfl) | (simp only [List.map, List.sum_cons, List.sum_nil, g_cat_rf, Value.category]; decide)) rfl ?_
  refine g_i2l (pc' := 8) d_Law_count_7 rfl ?_
  replace hy := g_nn_inv hy
  obtain ⟨a7, rfl, hy⟩ := hy
  replace hy := g_sL_inv hy
  obtain ⟨n8, f9, hc10, hi11, hy⟩ := hy
  refine g_last (pc' := 9) d_Law_count_8 hc10 hi11 rfl ?_
  generalize g_up h5 a7 (.inl (3, n8, .inr (.inl (vp_updL f9 ((0 : Int32)).toNatClampNeg ((x4).toInt64))))) = h12 at hy ⊢
  refine g_goto (pc' := 15) d_Law_count_9 (by decide) ?_
  refine g_iconst (v := (0 : Int32)) (pc' := 16) d_Law_count_15 (by decide) rfl ?_
  cases hy
  exact g_iret rfl rfl rfl d_Law_count_16
theorem hd_Law_count : g_dsc y_Law_count 3 := ⟨by decide +kernel, by decide +kernel, by decide +kernel⟩
/-! CircuitDeskLaw.node(LCircuitDesk;II[J)I -/
abbrev y_Law_node : MethodName := ⟨"CircuitDeskLaw", "node", "(LCircuitDesk;II[J)I"⟩
abbrev k_Law_node : g_M := (method_10_code, 5, "CircuitDeskLaw", 20, (some FieldType.int), "node", [(0, 10, 13, 27), (0, 10, 17, 18)], 1)
theorem d_Law_node_0 : decode method_10_code 0 = .ok (.aload_n 3, 1) := by decide +kernel
theorem d_Law_node_1 : decode method_10_code 1 = .ok (.iconst 0, 1) := by decide +kernel
theorem d_Law_node_2 : decode method_10_code 2 = .ok (.aload_n 0, 1) := by decide +kernel
theorem d_Law_node_3 : decode method_10_code 3 = .ok (.iload_n 1, 1) := by decide +kernel
theorem d_Law_node_4 : decode method_10_code 4 = .ok (.iload_n 2, 1) := by decide +kernel
theorem d_Law_node_5 : decode method_10_code 5 = .ok (.invokevirtual 40, 3) := by decide +kernel
theorem d_Law_node_8 : decode method_10_code 8 = .ok (.i2l, 1) := by decide +kernel
theorem d_Law_node_9 : decode method_10_code 9 = .ok (.lastore, 1) := by decide +kernel
theorem d_Law_node_10 : decode method_10_code 10 = .ok (.goto 11, 3) := by decide +kernel
theorem d_Law_node_13 : decode method_10_code 13 = .ok (.astore 4, 2) := by decide +kernel
theorem d_Law_node_15 : decode method_10_code 15 = .ok (.iconst 1, 1) := by decide +kernel
theorem d_Law_node_16 : decode method_10_code 16 = .ok (.ireturn, 1) := by decide +kernel
theorem d_Law_node_17 : decode method_10_code 17 = .ok (.astore 4, 2) := by decide +kernel
theorem d_Law_node_19 : decode method_10_code 19 = .ok (.iconst 2, 1) := by decide +kernel
theorem d_Law_node_20 : decode method_10_code 20 = .ok (.ireturn, 1) := by decide +kernel
theorem d_Law_node_21 : decode method_10_code 21 = .ok (.iconst 0, 1) := by decide +kernel
theorem d_Law_node_22 : decode method_10_code 22 = .ok (.ireturn, 1) := by decide +kernel
def Law_node (h : g_AH) (p0 : Option Nat) (p1 : Int32) (p2 : Int32) (p3 : Option Nat) : Option (Int32 × g_AH) :=
  g_nn p0 fun a1 => g_is h a1 0 <| g_bh (Desk_node h a1 p1 p2) (fun E9 _ h9 => if E9 = "java/lang/IndexOutOfBoundsException" then some ((1 : Int32), h9) else if E9 = "java/lang/IllegalArgumentException" then some ((2 : Int32), h9) else none) fun x4 h5 => g_nn p3 fun a7 => g_sL h5 a7 (0 : Int32) ((x4).toInt64) fun h12 => some ((0 : Int32), h12)
set_option maxHeartbeats 4000000 in
set_option maxRecDepth 100000 in
theorem T_Law_node {l : Launch} {B : g_B} (h : g_AH) (p0 : Option Nat) (p1 : Int32) (p2 : Int32) (p3 : Option Nat) (z : Int32 × g_AH) (hy : Law_node h p0 p1 p2 p3 = some z) : g_CTR l B y_Law_node k_Law_node [va_rf p0, .int p1, .int p2, va_rf p3] h (.inl (some (.int z.1))) z.2 := by
  have hle0 : g_X → g_Le h z.2 := by
    intro X0
    unfold Law_node at hy
    replace hy := g_nn_inv hy
    obtain ⟨a1, rfl, hy⟩ := hy
    replace hy := g_is_inv hy
    obtain ⟨fs1, hc1, hy⟩ := hy
    replace hy := g_bh_inv hy
    rcases hy with ⟨x1, h1, hf1, hy⟩ | ⟨E1, q1, h1, hf1, hy⟩
    · have b1 := (T_Desk_node (l := x_l X0) (B := x_B X0) (hy := hf1)).1 X0
      replace hy := g_nn_inv hy; obtain ⟨a2, rfl, hy⟩ := hy; replace hy := g_sL_inv hy; obtain ⟨n2, f2, hc2, hi2, hy⟩ := hy; cases hy; exact b1.tr (g_Le.up hc2)
    · have b1 := (T_Desk_node (l := x_l X0) (B := x_B X0) (hy := hf1)).1 X0
      repeat (first | (cases hy; done) | (cases hy; exact b1) | split at hy)
  refine g_startR (Lc := [(0, va_rf p0), (1, .int p1), (2, .int p2), (3, va_rf p3)]) (by decide) rfl rfl (by rcases p0 with _ | p0 <;> rcases p3 with _ | p3 <;> exact Nat.le_of_ble_eq_true rfl) (by rcases p0 with _ | p0 <;> rcases p3 with _ | p3 <;> rfl) hle0 (fun X => ?_) rfl
  unfold Law_node at hy
  refine g_aloadO_n 3 (i := 3) (pc' := 1) d_Law_node_0 rfl rfl rfl ?_
  refine g_iconst (v := (0 : Int32)) (pc' := 2) d_Law_node_1 (by decide) rfl ?_
  refine g_aloadO_n 0 (i := 0) (pc' := 3) d_Law_node_2 rfl rfl rfl ?_
  refine g_iload_n 1 (i := 1) (pc' := 4) d_Law_node_3 rfl rfl rfl ?_
  refine g_iload_n 2 (i := 2) (pc' := 5) d_Law_node_4 rfl rfl rfl ?_
  replace hy := g_nn_inv hy
  obtain ⟨a1, rfl, hy⟩ := hy
  replace hy := g_is_inv hy
  obtain ⟨fs2, hc3, hy⟩ := hy
  replace hy := g_bh_inv hy
  rcases hy with ⟨x4, h5, hf6, hy⟩ | ⟨E9, q9, h5, hf6, hy⟩
  rotate_left
  · by_cases e9 : E9 = "java/lang/IndexOutOfBoundsException"
    · subst e9
      rw [if_pos rfl] at hy
      cases hy
      refine g_callVH (pre := []) (suf := [(0, 10, 17, 18)]) (x := (0, 10, 13, 27)) (nm := "java/lang/IndexOutOfBoundsException") (pc' := 13) (As := [.int p1, .int p2]) (rest := [.int (0 : Int32), va_rf p3]) 2 (T_Desk_node (hy := hf6)) d_Law_node_5 hc3 rfl rfl q1531 q1532 q1533 q108 q1534 hd_Desk_node rfl ⟨by decide, by decide⟩ (by first | exact Nat.le_of_ble_eq_true rfl | (simp only [List.map, List.sum_cons, List.sum_nil, g_cat_rf]; exact Nat.le_of_ble_eq_true rfl) | (simp only [List.map, List.sum_cons, List.sum_nil, g_cat_rf, Value.category]; decide)) (by decide) rfl (fun z hz => by cases hz) (by decide) (by decide) q1353 q1385 rfl ?_
      intro n9 a9 hn9 ha9
      refine g_astore (pc' := 15) (Lc' := [(4, .ref a9), (0, .ref a1), (1, .int p1), (2, .int p2), (3, va_rf p3)]) d_Law_node_13 (by decide) (by cases p3 <;> rfl) rfl ?_
      refine g_iconst (v := (1 : Int32)) (pc' := 16) d_Law_node_15 (by decide) rfl ?_
      exact g_iretR n9 rfl rfl rfl hn9 rfl d_Law_node_16
    · rw [if_neg e9] at hy
      by_cases e9 : E9 = "java/lang/IllegalArgumentException"
      · subst e9
        rw [if_pos rfl] at hy
        cases hy
        refine g_callVH (pre := [(0, 10, 13, 27)]) (suf := []) (x := (0, 10, 17, 18)) (nm := "java/lang/IllegalArgumentException") (pc' := 17) (As := [.int p1, .int p2]) (rest := [.int (0 : Int32), va_rf p3]) 2 (T_Desk_node (hy := hf6)) d_Law_node_5 hc3 rfl rfl q1531 q1532 q1533 q108 q1534 hd_Desk_node rfl ⟨by decide, by decide⟩ (by first | exact Nat.le_of_ble_eq_true rfl | (simp only [List.map, List.sum_cons, List.sum_nil, g_cat_rf]; exact Nat.le_of_ble_eq_true rfl) | (simp only [List.map, List.sum_cons, List.sum_nil, g_cat_rf, Value.category]; decide)) (by decide) rfl (fun z hz => by rcases List.mem_cons.mp hz with rfl | hz; exact ⟨by decide, "java/lang/IndexOutOfBoundsException", q1353, by decide +kernel⟩; cases hz) (by decide) (by decide) q1325 q180 rfl ?_
        intro n9 a9 hn9 ha9
        refine g_astore (pc' := 19) (Lc' := [(4, .ref a9), (0, .ref a1), (1, .int p1), (2, .int p2), (3, va_rf p3)]) d_Law_node_17 (by decide) (by cases p3 <;> rfl) rfl ?_
        refine g_iconst (v := (2 : Int32)) (pc' := 20) d_Law_node_19 (by decide) rfl ?_
        exact g_iretR n9 rfl rfl rfl hn9 rfl d_Law_node_20
      · rw [if_neg e9] at hy
        cases hy
  refine g_callV (rv := some (.int x4)) (h1 := h5) (pc' := 8) (As := [.int p1, .int p2]) (rest := [.int (0 : Int32), va_rf p3]) 2 (T_Desk_node (hy := hf6)) d_Law_node_5 hc3 rfl rfl q1531 q1532 q1533 q108 q1534 hd_Desk_node rfl ⟨by decide, by decide⟩ (by first | exact Nat.le_of_ble_eq_true rfl | (simp only [List.map, List.sum_cons, List.sum_nil, g_cat_rf]; exact Nat.le_of_ble_eq_true rfl) | (simp only [List.map, List.sum_cons, List.sum_nil, g_cat_rf, Value.category]; decide)) rfl ?_
  refine g_i2l (pc' := 9) d_Law_node_8 rfl ?_
  replace hy := g_nn_inv hy
  obtain ⟨a7, rfl, hy⟩ := hy
  replace hy := g_sL_inv hy
  obtain ⟨n8, f9, hc10, hi11, hy⟩ := hy
  refine g_last (pc' := 10) d_Law_node_9 hc10 hi11 rfl ?_
  generalize g_up h5 a7 (.inl (3, n8, .inr (.inl (vp_updL f9 ((0 : Int32)).toNatClampNeg ((x4).toInt64))))) = h12 at hy ⊢
  refine g_goto (pc' := 21) d_Law_node_10 (by decide) ?_
  refine g_iconst (v := (0 : Int32)) (pc' := 22) d_Law_node_21 (by decide) rfl ?_
  cases hy
  exact g_iret rfl rfl rfl d_Law_node_22
theorem hd_Law_node : g_dsc y_Law_node 4 := ⟨by decide +kernel, by decide +kernel, by decide +kernel⟩
/-! CircuitDeskLaw.label(LCircuitDesk;III[J)I -/
abbrev y_Law_label : MethodName := ⟨"CircuitDeskLaw", "label", "(LCircuitDesk;III[J)I"⟩
abbrev k_Law_label : g_M := (method_11_code, 6, "CircuitDeskLaw", 20, (some FieldType.int), "label", [(0, 12, 15, 27), (0, 12, 19, 18)], 1)
theorem d_Law_label_0 : decode method_11_code 0 = .ok (.aload 4, 2) := by decide +kernel
theorem d_Law_label_2 : decode method_11_code 2 = .ok (.iconst 0, 1) := by decide +kernel
theorem d_Law_label_3 : decode method_11_code 3 = .ok (.aload_n 0, 1) := by decide +kernel
theorem d_Law_label_4 : decode method_11_code 4 = .ok (.iload_n 1, 1) := by decide +kernel
theorem d_Law_label_5 : decode method_11_code 5 = .ok (.iload_n 2, 1) := by decide +kernel
theorem d_Law_label_6 : decode method_11_code 6 = .ok (.iload_n 3, 1) := by decide +kernel
theorem d_Law_label_7 : decode method_11_code 7 = .ok (.invokevirtual 43, 3) := by decide +kernel
theorem d_Law_label_10 : decode method_11_code 10 = .ok (.i2l, 1) := by decide +kernel
theorem d_Law_label_11 : decode method_11_code 11 = .ok (.lastore, 1) := by decide +kernel
theorem d_Law_label_12 : decode method_11_code 12 = .ok (.goto 11, 3) := by decide +kernel
theorem d_Law_label_15 : decode method_11_code 15 = .ok (.astore 5, 2) := by decide +kernel
theorem d_Law_label_17 : decode method_11_code 17 = .ok (.iconst 1, 1) := by decide +kernel
theorem d_Law_label_18 : decode method_11_code 18 = .ok (.ireturn, 1) := by decide +kernel
theorem d_Law_label_19 : decode method_11_code 19 = .ok (.astore 5, 2) := by decide +kernel
theorem d_Law_label_21 : decode method_11_code 21 = .ok (.iconst 2, 1) := by decide +kernel
theorem d_Law_label_22 : decode method_11_code 22 = .ok (.ireturn, 1) := by decide +kernel
theorem d_Law_label_23 : decode method_11_code 23 = .ok (.iconst 0, 1) := by decide +kernel
theorem d_Law_label_24 : decode method_11_code 24 = .ok (.ireturn, 1) := by decide +kernel
def Law_label (h : g_AH) (p0 : Option Nat) (p1 : Int32) (p2 : Int32) (p3 : Int32) (p4 : Option Nat) : Option (Int32 × g_AH) :=
  g_nn p0 fun a1 => g_is h a1 0 <| g_bh (Desk_label h a1 p1 p2 p3) (fun E9 _ h9 => if E9 = "java/lang/IndexOutOfBoundsException" then some ((1 : Int32), h9) else if E9 = "java/lang/IllegalArgumentException" then some ((2 : Int32), h9) else none) fun x4 h5 => g_nn p4 fun a7 => g_sL h5 a7 (0 : Int32) ((x4).toInt64) fun h12 => some ((0 : Int32), h12)
set_option maxHeartbeats 4000000 in
set_option maxRecDepth 100000 in
theorem T_Law_label {l : Launch} {B : g_B} (h : g_AH) (p0 : Option Nat) (p1 : Int32) (p2 : Int32) (p3 : Int32) (p4 : Option Nat) (z : Int32 × g_AH) (hy : Law_label h p0 p1 p2 p3 p4 = some z) : g_CTR l B y_Law_label k_Law_label [va_rf p0, .int p1, .int p2, .int p3, va_rf p4] h (.inl (some (.int z.1))) z.2 := by
  have hle0 : g_X → g_Le h z.2 := by
    intro X0
    unfold Law_label at hy
    replace hy := g_nn_inv hy
    obtain ⟨a1, rfl, hy⟩ := hy
    replace hy := g_is_inv hy
    obtain ⟨fs1, hc1, hy⟩ := hy
    replace hy := g_bh_inv hy
    rcases hy with ⟨x1, h1, hf1, hy⟩ | ⟨E1, q1, h1, hf1, hy⟩
    · have b1 := (T_Desk_label (l := x_l X0) (B := x_B X0) (hy := hf1)).1 X0
      replace hy := g_nn_inv hy; obtain ⟨a2, rfl, hy⟩ := hy; replace hy := g_sL_inv hy; obtain ⟨n2, f2, hc2, hi2, hy⟩ := hy; cases hy; exact b1.tr (g_Le.up hc2)
    · have b1 := (T_Desk_label (l := x_l X0) (B := x_B X0) (hy := hf1)).1 X0
      repeat (first | (cases hy; done) | (cases hy; exact b1) | split at hy)
  refine g_startR (Lc := [(0, va_rf p0), (1, .int p1), (2, .int p2), (3, .int p3), (4, va_rf p4)]) (by decide) rfl rfl (by rcases p0 with _ | p0 <;> rcases p4 with _ | p4 <;> exact Nat.le_of_ble_eq_true rfl) (by rcases p0 with _ | p0 <;> rcases p4 with _ | p4 <;> rfl) hle0 (fun X => ?_) rfl
  unfold Law_label at hy
  refine g_aloadO 4 (pc' := 2) d_Law_label_0 rfl rfl ?_
  refine g_iconst (v := (0 : Int32)) (pc' := 3) d_Law_label_2 (by decide) rfl ?_
  refine g_aloadO_n 0 (i := 0) (pc' := 4) d_Law_label_3 rfl rfl rfl ?_
  refine g_iload_n 1 (i := 1) (pc' := 5) d_Law_label_4 rfl rfl rfl ?_
  refine g_iload_n 2 (i := 2) (pc' := 6) d_Law_label_5 rfl rfl rfl ?_
  refine g_iload_n 3 (i := 3) (pc' := 7) d_Law_label_6 rfl rfl rfl ?_
  replace hy := g_nn_inv hy
  obtain ⟨a1, rfl, hy⟩ := hy
  replace hy := g_is_inv hy
  obtain ⟨fs2, hc3, hy⟩ := hy
  replace hy := g_bh_inv hy
  rcases hy with ⟨x4, h5, hf6, hy⟩ | ⟨E9, q9, h5, hf6, hy⟩
  rotate_left
  · by_cases e9 : E9 = "java/lang/IndexOutOfBoundsException"
    · subst e9
      rw [if_pos rfl] at hy
      cases hy
      refine g_callVH (pre := []) (suf := [(0, 12, 19, 18)]) (x := (0, 12, 15, 27)) (nm := "java/lang/IndexOutOfBoundsException") (pc' := 15) (As := [.int p1, .int p2, .int p3]) (rest := [.int (0 : Int32), va_rf p4]) 3 (T_Desk_label (hy := hf6)) d_Law_label_7 hc3 rfl rfl q1549 q1550 q1551 q108 q1552 hd_Desk_label rfl ⟨by decide, by decide⟩ (by first | exact Nat.le_of_ble_eq_true rfl | (simp only [List.map, List.sum_cons, List.sum_nil, g_cat_rf]; exact Nat.le_of_ble_eq_true rfl) | (simp only [List.map, List.sum_cons, List.sum_nil, g_cat_rf, Value.category]; decide)) (by decide) rfl (fun z hz => by cases hz) (by decide) (by decide) q1353 q1385 rfl ?_
      intro n9 a9 hn9 ha9
      refine g_astore (pc' := 17) (Lc' := [(5, .ref a9), (0, .ref a1), (1, .int p1), (2, .int p2), (3, .int p3), (4, va_rf p4)]) d_Law_label_15 (by decide) (by cases p4 <;> rfl) rfl ?_
      refine g_iconst (v := (1 : Int32)) (pc' := 18) d_Law_label_17 (by decide) rfl ?_
      exact g_iretR n9 rfl rfl rfl hn9 rfl d_Law_label_18
    · rw [if_neg e9] at hy
      by_cases e9 : E9 = "java/lang/IllegalArgumentException"
      · subst e9
        rw [if_pos rfl] at hy
        cases hy
        refine g_callVH (pre := [(0, 12, 15, 27)]) (suf := []) (x := (0, 12, 19, 18)) (nm := "java/lang/IllegalArgumentException") (pc' := 19) (As := [.int p1, .int p2, .int p3]) (rest := [.int (0 : Int32), va_rf p4]) 3 (T_Desk_label (hy := hf6)) d_Law_label_7 hc3 rfl rfl q1549 q1550 q1551 q108 q1552 hd_Desk_label rfl ⟨by decide, by decide⟩ (by first | exact Nat.le_of_ble_eq_true rfl | (simp only [List.map, List.sum_cons, List.sum_nil, g_cat_rf]; exact Nat.le_of_ble_eq_true rfl) | (simp only [List.map, List.sum_cons, List.sum_nil, g_cat_rf, Value.category]; decide)) (by decide) rfl (fun z hz => by rcases List.mem_cons.mp hz with rfl | hz; exact ⟨by decide, "java/lang/IndexOutOfBoundsException", q1353, by decide +kernel⟩; cases hz) (by decide) (by decide) q1325 q180 rfl ?_
        intro n9 a9 hn9 ha9
        refine g_astore (pc' := 21) (Lc' := [(5, .ref a9), (0, .ref a1), (1, .int p1), (2, .int p2), (3, .int p3), (4, va_rf p4)]) d_Law_label_19 (by decide) (by cases p4 <;> rfl) rfl ?_
        refine g_iconst (v := (2 : Int32)) (pc' := 22) d_Law_label_21 (by decide) rfl ?_
        exact g_iretR n9 rfl rfl rfl hn9 rfl d_Law_label_22
      · rw [if_neg e9] at hy
        cases hy
  refine g_callV (rv := some (.int x4)) (h1 := h5) (pc' := 10) (As := [.int p1, .int p2, .int p3]) (rest := [.int (0 : Int32), va_rf p4]) 3 (T_Desk_label (hy := hf6)) d_Law_label_7 hc3 rfl rfl q1549 q1550 q1551 q108 q1552 hd_Desk_label rfl ⟨by decide, by decide⟩ (by first | exact Nat.le_of_ble_eq_true rfl | (simp only [List.map, List.sum_cons, List.sum_nil, g_cat_rf]; exact Nat.le_of_ble_eq_true rfl) | (simp only [List.map, List.sum_cons, List.sum_nil, g_cat_rf, Value.category]; decide)) rfl ?_
  refine g_i2l (pc' := 11) d_Law_label_10 rfl ?_
  replace hy := g_nn_inv hy
  obtain ⟨a7, rfl, hy⟩ := hy
  replace hy := g_sL_inv hy
  obtain ⟨n8, f9, hc10, hi11, hy⟩ := hy
  refine g_last (pc' := 12) d_Law_label_11 hc10 hi11 rfl ?_
  generalize g_up h5 a7 (.inl (3, n8, .inr (.inl (vp_updL f9 ((0 : Int32)).toNatClampNeg ((x4).toInt64))))) = h12 at hy ⊢
  refine g_goto (pc' := 23) d_Law_label_12 (by decide) ?_
  refine g_iconst (v := (0 : Int32)) (pc' := 24) d_Law_label_23 (by decide) rfl ?_
  cases hy
  exact g_iret rfl rfl rfl d_Law_label_24
theorem hd_Law_label : g_dsc y_Law_label 5 := ⟨by decide +kernel, by decide +kernel, by decide +kernel⟩
/-! CircuitDeskLaw.link(LCircuitDesk;II[J)I -/
abbrev y_Law_link : MethodName := ⟨"CircuitDeskLaw", "link", "(LCircuitDesk;II[J)I"⟩
abbrev k_Law_link : g_M := (method_12_code, 5, "CircuitDeskLaw", 20, (some FieldType.int), "link", [(0, 10, 13, 27), (0, 10, 17, 18)], 1)
theorem d_Law_link_0 : decode method_12_code 0 = .ok (.aload_n 3, 1) := by decide +kernel
theorem d_Law_link_1 : decode method_12_code 1 = .ok (.iconst 0, 1) := by decide +kernel
theorem d_Law_link_2 : decode method_12_code 2 = .ok (.aload_n 0, 1) := by decide +kernel
theorem d_Law_link_3 : decode method_12_code 3 = .ok (.iload_n 1, 1) := by decide +kernel
theorem d_Law_link_4 : decode method_12_code 4 = .ok (.iload_n 2, 1) := by decide +kernel
theorem d_Law_link_5 : decode method_12_code 5 = .ok (.invokevirtual 47, 3) := by decide +kernel
theorem d_Law_link_8 : decode method_12_code 8 = .ok (.i2l, 1) := by decide +kernel
theorem d_Law_link_9 : decode method_12_code 9 = .ok (.lastore, 1) := by decide +kernel
theorem d_Law_link_10 : decode method_12_code 10 = .ok (.goto 11, 3) := by decide +kernel
theorem d_Law_link_13 : decode method_12_code 13 = .ok (.astore 4, 2) := by decide +kernel
theorem d_Law_link_15 : decode method_12_code 15 = .ok (.iconst 1, 1) := by decide +kernel
theorem d_Law_link_16 : decode method_12_code 16 = .ok (.ireturn, 1) := by decide +kernel
theorem d_Law_link_17 : decode method_12_code 17 = .ok (.astore 4, 2) := by decide +kernel
theorem d_Law_link_19 : decode method_12_code 19 = .ok (.iconst 2, 1) := by decide +kernel
theorem d_Law_link_20 : decode method_12_code 20 = .ok (.ireturn, 1) := by decide +kernel
theorem d_Law_link_21 : decode method_12_code 21 = .ok (.iconst 0, 1) := by decide +kernel
theorem d_Law_link_22 : decode method_12_code 22 = .ok (.ireturn, 1) := by decide +kernel
def Law_link (h : g_AH) (p0 : Option Nat) (p1 : Int32) (p2 : Int32) (p3 : Option Nat) : Option (Int32 × g_AH) :=
  g_nn p0 fun a1 => g_is h a1 0 <| g_bh (Desk_link h a1 p1 p2) (fun E9 _ h9 => if E9 = "java/lang/IndexOutOfBoundsException" then some ((1 : Int32), h9) else if E9 = "java/lang/IllegalArgumentException" then some ((2 : Int32), h9) else none) fun x4 h5 => g_nn p3 fun a7 => g_sL h5 a7 (0 : Int32) ((x4).toInt64) fun h12 => some ((0 : Int32), h12)
set_option maxHeartbeats 4000000 in
set_option maxRecDepth 100000 in
theorem T_Law_link {l : Launch} {B : g_B} (h : g_AH) (p0 : Option Nat) (p1 : Int32) (p2 : Int32) (p3 : Option Nat) (z : Int32 × g_AH) (hy : Law_link h p0 p1 p2 p3 = some z) : g_CTR l B y_Law_link k_Law_link [va_rf p0, .int p1, .int p2, va_rf p3] h (.inl (some (.int z.1))) z.2 := by
  have hle0 : g_X → g_Le h z.2 := by
    intro X0
    unfold Law_link at hy
    replace hy := g_nn_inv hy
    obtain ⟨a1, rfl, hy⟩ := hy
    replace hy := g_is_inv hy
    obtain ⟨fs1, hc1, hy⟩ := hy
    replace hy := g_bh_inv hy
    rcases hy with ⟨x1, h1, hf1, hy⟩ | ⟨E1, q1, h1, hf1, hy⟩
    · have b1 := (T_Desk_link (l := x_l X0) (B := x_B X0) (hy := hf1)).1 X0
      replace hy := g_nn_inv hy; obtain ⟨a2, rfl, hy⟩ := hy; replace hy := g_sL_inv hy; obtain ⟨n2, f2, hc2, hi2, hy⟩ := hy; cases hy; exact b1.tr (g_Le.up hc2)
    · have b1 := (T_Desk_link (l := x_l X0) (B := x_B X0) (hy := hf1)).1 X0
      repeat (first | (cases hy; done) | (cases hy; exact b1) | split at hy)
  refine g_startR (Lc := [(0, va_rf p0), (1, .int p1), (2, .int p2), (3, va_rf p3)]) (by decide) rfl rfl (by rcases p0 with _ | p0 <;> rcases p3 with _ | p3 <;> exact Nat.le_of_ble_eq_true rfl) (by rcases p0 with _ | p0 <;> rcases p3 with _ | p3 <;> rfl) hle0 (fun X => ?_) rfl
  unfold Law_link at hy
  refine g_aloadO_n 3 (i := 3) (pc' := 1) d_Law_link_0 rfl rfl rfl ?_
  refine g_iconst (v := (0 : Int32)) (pc' := 2) d_Law_link_1 (by decide) rfl ?_
  refine g_aloadO_n 0 (i := 0) (pc' := 3) d_Law_link_2 rfl rfl rfl ?_
  refine g_iload_n 1 (i := 1) (pc' := 4) d_Law_link_3 rfl rfl rfl ?_
  refine g_iload_n 2 (i := 2) (pc' := 5) d_Law_link_4 rfl rfl rfl ?_
  replace hy := g_nn_inv hy
  obtain ⟨a1, rfl, hy⟩ := hy
  replace hy := g_is_inv hy
  obtain ⟨fs2, hc3, hy⟩ := hy
  replace hy := g_bh_inv hy
  rcases hy with ⟨x4, h5, hf6, hy⟩ | ⟨E9, q9, h5, hf6, hy⟩
  rotate_left
  · by_cases e9 : E9 = "java/lang/IndexOutOfBoundsException"
    · subst e9
      rw [if_pos rfl] at hy
      cases hy
      refine g_callVH (pre := []) (suf := [(0, 10, 17, 18)]) (x := (0, 10, 13, 27)) (nm := "java/lang/IndexOutOfBoundsException") (pc' := 13) (As := [.int p1, .int p2]) (rest := [.int (0 : Int32), va_rf p3]) 2 (T_Desk_link (hy := hf6)) d_Law_link_5 hc3 rfl rfl q1557 q1558 q1559 q108 q1560 hd_Desk_link rfl ⟨by decide, by decide⟩ (by first | exact Nat.le_of_ble_eq_true rfl | (simp only [List.map, List.sum_cons, List.sum_nil, g_cat_rf]; exact Nat.le_of_ble_eq_true rfl) | (simp only [List.map, List.sum_cons, List.sum_nil, g_cat_rf, Value.category]; decide)) (by decide) rfl (fun z hz => by cases hz) (by decide) (by decide) q1353 q1385 rfl ?_
      intro n9 a9 hn9 ha9
      refine g_astore (pc' := 15) (Lc' := [(4, .ref a9), (0, .ref a1), (1, .int p1), (2, .int p2), (3, va_rf p3)]) d_Law_link_13 (by decide) (by cases p3 <;> rfl) rfl ?_
      refine g_iconst (v := (1 : Int32)) (pc' := 16) d_Law_link_15 (by decide) rfl ?_
      exact g_iretR n9 rfl rfl rfl hn9 rfl d_Law_link_16
    · rw [if_neg e9] at hy
      by_cases e9 : E9 = "java/lang/IllegalArgumentException"
      · subst e9
        rw [if_pos rfl] at hy
        cases hy
        refine g_callVH (pre := [(0, 10, 13, 27)]) (suf := []) (x := (0, 10, 17, 18)) (nm := "java/lang/IllegalArgumentException") (pc' := 17) (As := [.int p1, .int p2]) (rest := [.int (0 : Int32), va_rf p3]) 2 (T_Desk_link (hy := hf6)) d_Law_link_5 hc3 rfl rfl q1557 q1558 q1559 q108 q1560 hd_Desk_link rfl ⟨by decide, by decide⟩ (by first | exact Nat.le_of_ble_eq_true rfl | (simp only [List.map, List.sum_cons, List.sum_nil, g_cat_rf]; exact Nat.le_of_ble_eq_true rfl) | (simp only [List.map, List.sum_cons, List.sum_nil, g_cat_rf, Value.category]; decide)) (by decide) rfl (fun z hz => by rcases List.mem_cons.mp hz with rfl | hz; exact ⟨by decide, "java/lang/IndexOutOfBoundsException", q1353, by decide +kernel⟩; cases hz) (by decide) (by decide) q1325 q180 rfl ?_
        intro n9 a9 hn9 ha9
        refine g_astore (pc' := 19) (Lc' := [(4, .ref a9), (0, .ref a1), (1, .int p1), (2, .int p2), (3, va_rf p3)]) d_Law_link_17 (by decide) (by cases p3 <;> rfl) rfl ?_
        refine g_iconst (v := (2 : Int32)) (pc' := 20) d_Law_link_19 (by decide) rfl ?_
        exact g_iretR n9 rfl rfl rfl hn9 rfl d_Law_link_20
      · rw [if_neg e9] at hy
        cases hy
  refine g_callV (rv := some (.int x4)) (h1 := h5) (pc' := 8) (As := [.int p1, .int p2]) (rest := [.int (0 : Int32), va_rf p3]) 2 (T_Desk_link (hy := hf6)) d_Law_link_5 hc3 rfl rfl q1557 q1558 q1559 q108 q1560 hd_Desk_link rfl ⟨by decide, by decide⟩ (by first | exact Nat.le_of_ble_eq_true rfl | (simp only [List.map, List.sum_cons, List.sum_nil, g_cat_rf]; exact Nat.le_of_ble_eq_true rfl) | (simp only [List.map, List.sum_cons, List.sum_nil, g_cat_rf, Value.category]; decide)) rfl ?_
  refine g_i2l (pc' := 9) d_Law_link_8 rfl ?_
  replace hy := g_nn_inv hy
  obtain ⟨a7, rfl, hy⟩ := hy
  replace hy := g_sL_inv hy
  obtain ⟨n8, f9, hc10, hi11, hy⟩ := hy
  refine g_last (pc' := 10) d_Law_link_9 hc10 hi11 rfl ?_
  generalize g_up h5 a7 (.inl (3, n8, .inr (.inl (vp_updL f9 ((0 : Int32)).toNatClampNeg ((x4).toInt64))))) = h12 at hy ⊢
  refine g_goto (pc' := 21) d_Law_link_10 (by decide) ?_
  refine g_iconst (v := (0 : Int32)) (pc' := 22) d_Law_link_21 (by decide) rfl ?_
  cases hy
  exact g_iret rfl rfl rfl d_Law_link_22
theorem hd_Law_link : g_dsc y_Law_link 4 := ⟨by decide +kernel, by decide +kernel, by decide +kernel⟩
/-! CircuitDeskLaw.draft(LCircuitDesk;I[J)I -/
abbrev y_Law_draft : MethodName := ⟨"CircuitDeskLaw", "draft", "(LCircuitDesk;I[J)I"⟩
abbrev k_Law_draft : g_M := (method_13_code, 4, "CircuitDeskLaw", 20, (some FieldType.int), "draft", [(0, 9, 12, 27), (0, 9, 15, 13)], 1)
theorem d_Law_draft_0 : decode method_13_code 0 = .ok (.aload_n 2, 1) := by decide +kernel
theorem d_Law_draft_1 : decode method_13_code 1 = .ok (.iconst 0, 1) := by decide +kernel
theorem d_Law_draft_2 : decode method_13_code 2 = .ok (.aload_n 0, 1) := by decide +kernel
theorem d_Law_draft_3 : decode method_13_code 3 = .ok (.iload_n 1, 1) := by decide +kernel
theorem d_Law_draft_4 : decode method_13_code 4 = .ok (.invokevirtual 50, 3) := by decide +kernel
theorem d_Law_draft_7 : decode method_13_code 7 = .ok (.i2l, 1) := by decide +kernel
theorem d_Law_draft_8 : decode method_13_code 8 = .ok (.lastore, 1) := by decide +kernel
theorem d_Law_draft_9 : decode method_13_code 9 = .ok (.goto 9, 3) := by decide +kernel
theorem d_Law_draft_12 : decode method_13_code 12 = .ok (.astore_n 3, 1) := by decide +kernel
theorem d_Law_draft_13 : decode method_13_code 13 = .ok (.iconst 1, 1) := by decide +kernel
theorem d_Law_draft_14 : decode method_13_code 14 = .ok (.ireturn, 1) := by decide +kernel
theorem d_Law_draft_15 : decode method_13_code 15 = .ok (.astore_n 3, 1) := by decide +kernel
theorem d_Law_draft_16 : decode method_13_code 16 = .ok (.iconst 2, 1) := by decide +kernel
theorem d_Law_draft_17 : decode method_13_code 17 = .ok (.ireturn, 1) := by decide +kernel
theorem d_Law_draft_18 : decode method_13_code 18 = .ok (.iconst 0, 1) := by decide +kernel
theorem d_Law_draft_19 : decode method_13_code 19 = .ok (.ireturn, 1) := by decide +kernel
def Law_draft (h : g_AH) (p0 : Option Nat) (p1 : Int32) (p2 : Option Nat) : Option (Int32 × g_AH) :=
  g_nn p0 fun a1 => g_is h a1 0 <| g_bh (Desk_draft h a1 p1) (fun E9 _ h9 => if E9 = "java/lang/IndexOutOfBoundsException" then some ((1 : Int32), h9) else if E9 = "java/lang/IllegalStateException" then some ((2 : Int32), h9) else none) fun x4 h5 => g_nn p2 fun a7 => g_sL h5 a7 (0 : Int32) ((x4).toInt64) fun h12 => some ((0 : Int32), h12)
set_option maxHeartbeats 4000000 in
set_option maxRecDepth 100000 in
theorem T_Law_draft {l : Launch} {B : g_B} (h : g_AH) (p0 : Option Nat) (p1 : Int32) (p2 : Option Nat) (z : Int32 × g_AH) (hy : Law_draft h p0 p1 p2 = some z) : g_CTR l B y_Law_draft k_Law_draft [va_rf p0, .int p1, va_rf p2] h (.inl (some (.int z.1))) z.2 := by
  have hle0 : g_X → g_Le h z.2 := by
    intro X0
    unfold Law_draft at hy
    replace hy := g_nn_inv hy
    obtain ⟨a1, rfl, hy⟩ := hy
    replace hy := g_is_inv hy
    obtain ⟨fs1, hc1, hy⟩ := hy
    replace hy := g_bh_inv hy
    rcases hy with ⟨x1, h1, hf1, hy⟩ | ⟨E1, q1, h1, hf1, hy⟩
    · have b1 := (T_Desk_draft (l := x_l X0) (B := x_B X0) (hy := hf1)).1 X0
      replace hy := g_nn_inv hy; obtain ⟨a2, rfl, hy⟩ := hy; replace hy := g_sL_inv hy; obtain ⟨n2, f2, hc2, hi2, hy⟩ := hy; cases hy; exact b1.tr (g_Le.up hc2)
    · have b1 := (T_Desk_draft (l := x_l X0) (B := x_B X0) (hy := hf1)).1 X0
      repeat (first | (cases hy; done) | (cases hy; exact b1) | split at hy)
  refine g_startR (Lc := [(0, va_rf p0), (1, .int p1), (2, va_rf p2)]) (by decide) rfl rfl (by rcases p0 with _ | p0 <;> rcases p2 with _ | p2 <;> exact Nat.le_of_ble_eq_true rfl) (by rcases p0 with _ | p0 <;> rcases p2 with _ | p2 <;> rfl) hle0 (fun X => ?_) rfl
  unfold Law_draft at hy
  refine g_aloadO_n 2 (i := 2) (pc' := 1) d_Law_draft_0 rfl rfl rfl ?_
  refine g_iconst (v := (0 : Int32)) (pc' := 2) d_Law_draft_1 (by decide) rfl ?_
  refine g_aloadO_n 0 (i := 0) (pc' := 3) d_Law_draft_2 rfl rfl rfl ?_
  refine g_iload_n 1 (i := 1) (pc' := 4) d_Law_draft_3 rfl rfl rfl ?_
  replace hy := g_nn_inv hy
  obtain ⟨a1, rfl, hy⟩ := hy
  replace hy := g_is_inv hy
  obtain ⟨fs2, hc3, hy⟩ := hy
  replace hy := g_bh_inv hy
  rcases hy with ⟨x4, h5, hf6, hy⟩ | ⟨E9, q9, h5, hf6, hy⟩
  rotate_left
  · by_cases e9 : E9 = "java/lang/IndexOutOfBoundsException"
    · subst e9
      rw [if_pos rfl] at hy
      cases hy
      refine g_callVH (pre := []) (suf := [(0, 9, 15, 13)]) (x := (0, 9, 12, 27)) (nm := "java/lang/IndexOutOfBoundsException") (pc' := 12) (As := [.int p1]) (rest := [.int (0 : Int32), va_rf p2]) 1 (T_Desk_draft (hy := hf6)) d_Law_draft_4 hc3 rfl rfl q1568 q1569 q1570 q108 q1571 hd_Desk_draft rfl ⟨by decide, by decide⟩ (by first | exact Nat.le_of_ble_eq_true rfl | (simp only [List.map, List.sum_cons, List.sum_nil, g_cat_rf]; exact Nat.le_of_ble_eq_true rfl) | (simp only [List.map, List.sum_cons, List.sum_nil, g_cat_rf, Value.category]; decide)) (by decide) rfl (fun z hz => by cases hz) (by decide) (by decide) q1353 q1385 rfl ?_
      intro n9 a9 hn9 ha9
      refine g_astore_n (i := 3) (pc' := 13) (Lc' := [(3, .ref a9), (0, .ref a1), (1, .int p1), (2, va_rf p2)]) d_Law_draft_12 rfl (by decide) (by cases p2 <;> rfl) rfl ?_
      refine g_iconst (v := (1 : Int32)) (pc' := 14) d_Law_draft_13 (by decide) rfl ?_
      exact g_iretR n9 rfl rfl rfl hn9 rfl d_Law_draft_14
    · rw [if_neg e9] at hy
      by_cases e9 : E9 = "java/lang/IllegalStateException"
      · subst e9
        rw [if_pos rfl] at hy
        cases hy
        refine g_callVH (pre := [(0, 9, 12, 27)]) (suf := []) (x := (0, 9, 15, 13)) (nm := "java/lang/IllegalStateException") (pc' := 15) (As := [.int p1]) (rest := [.int (0 : Int32), va_rf p2]) 1 (T_Desk_draft (hy := hf6)) d_Law_draft_4 hc3 rfl rfl q1568 q1569 q1570 q108 q1571 hd_Desk_draft rfl ⟨by decide, by decide⟩ (by first | exact Nat.le_of_ble_eq_true rfl | (simp only [List.map, List.sum_cons, List.sum_nil, g_cat_rf]; exact Nat.le_of_ble_eq_true rfl) | (simp only [List.map, List.sum_cons, List.sum_nil, g_cat_rf, Value.category]; decide)) (by decide) rfl (fun z hz => by rcases List.mem_cons.mp hz with rfl | hz; exact ⟨by decide, "java/lang/IndexOutOfBoundsException", q1353, by decide +kernel⟩; cases hz) (by decide) (by decide) q1293 q1303 rfl ?_
        intro n9 a9 hn9 ha9
        refine g_astore_n (i := 3) (pc' := 16) (Lc' := [(3, .ref a9), (0, .ref a1), (1, .int p1), (2, va_rf p2)]) d_Law_draft_15 rfl (by decide) (by cases p2 <;> rfl) rfl ?_
        refine g_iconst (v := (2 : Int32)) (pc' := 17) d_Law_draft_16 (by decide) rfl ?_
        exact g_iretR n9 rfl rfl rfl hn9 rfl d_Law_draft_17
      · rw [if_neg e9] at hy
        cases hy
  refine g_callV (rv := some (.int x4)) (h1 := h5) (pc' := 7) (As := [.int p1]) (rest := [.int (0 : Int32), va_rf p2]) 1 (T_Desk_draft (hy := hf6)) d_Law_draft_4 hc3 rfl rfl q1568 q1569 q1570 q108 q1571 hd_Desk_draft rfl ⟨by decide, by decide⟩ (by first | exact Nat.le_of_ble_eq_true rfl | (simp only [List.map, List.sum_cons, List.sum_nil, g_cat_rf]; exact Nat.le_of_ble_eq_true rfl) | (simp only [List.map, List.sum_cons, List.sum_nil, g_cat_rf, Value.category]; decide)) rfl ?_
  refine g_i2l (pc' := 8) d_Law_draft_7 rfl ?_
  replace hy := g_nn_inv hy
  obtain ⟨a7, rfl, hy⟩ := hy
  replace hy := g_sL_inv hy
  obtain ⟨n8, f9, hc10, hi11, hy⟩ := hy
  refine g_last (pc' := 9) d_Law_draft_8 hc10 hi11 rfl ?_
  generalize g_up h5 a7 (.inl (3, n8, .inr (.inl (vp_updL f9 ((0 : Int32)).toNatClampNeg ((x4).toInt64))))) = h12 at hy ⊢
  refine g_goto (pc' := 18) d_Law_draft_9 (by decide) ?_
  refine g_iconst (v := (0 : Int32)) (pc' := 19) d_Law_draft_18 (by decide) rfl ?_
  cases hy
  exact g_iret rfl rfl rfl d_Law_draft_19
theorem hd_Law_draft : g_dsc y_Law_draft 3 := ⟨by decide +kernel, by decide +kernel, by decide +kernel⟩
/-! CircuitDeskLaw.draftBest(LCircuitDesk;III[J)I -/
abbrev y_Law_draftBest : MethodName := ⟨"CircuitDeskLaw", "draftBest", "(LCircuitDesk;III[J)I"⟩
abbrev k_Law_draftBest : g_M := (method_14_code, 6, "CircuitDeskLaw", 27, (some FieldType.int), "draftBest", [(0, 12, 15, 27), (0, 12, 19, 18)], 1)
theorem d_Law_draftBest_0 : decode method_14_code 0 = .ok (.aload 4, 2) := by decide +kernel
theorem d_Law_draftBest_2 : decode method_14_code 2 = .ok (.iconst 0, 1) := by decide +kernel
theorem d_Law_draftBest_3 : decode method_14_code 3 = .ok (.aload_n 0, 1) := by decide +kernel
theorem d_Law_draftBest_4 : decode method_14_code 4 = .ok (.iload_n 1, 1) := by decide +kernel
theorem d_Law_draftBest_5 : decode method_14_code 5 = .ok (.iload_n 2, 1) := by decide +kernel
theorem d_Law_draftBest_6 : decode method_14_code 6 = .ok (.iload_n 3, 1) := by decide +kernel
theorem d_Law_draftBest_7 : decode method_14_code 7 = .ok (.invokevirtual 53, 3) := by decide +kernel
theorem d_Law_draftBest_10 : decode method_14_code 10 = .ok (.i2l, 1) := by decide +kernel
theorem d_Law_draftBest_11 : decode method_14_code 11 = .ok (.lastore, 1) := by decide +kernel
theorem d_Law_draftBest_12 : decode method_14_code 12 = .ok (.goto 11, 3) := by decide +kernel
theorem d_Law_draftBest_15 : decode method_14_code 15 = .ok (.astore 5, 2) := by decide +kernel
theorem d_Law_draftBest_17 : decode method_14_code 17 = .ok (.iconst 1, 1) := by decide +kernel
theorem d_Law_draftBest_18 : decode method_14_code 18 = .ok (.ireturn, 1) := by decide +kernel
theorem d_Law_draftBest_19 : decode method_14_code 19 = .ok (.astore 5, 2) := by decide +kernel
theorem d_Law_draftBest_21 : decode method_14_code 21 = .ok (.iconst 2, 1) := by decide +kernel
theorem d_Law_draftBest_22 : decode method_14_code 22 = .ok (.ireturn, 1) := by decide +kernel
theorem d_Law_draftBest_23 : decode method_14_code 23 = .ok (.iconst 0, 1) := by decide +kernel
theorem d_Law_draftBest_24 : decode method_14_code 24 = .ok (.ireturn, 1) := by decide +kernel
def Law_draftBest (h : g_AH) (p0 : Option Nat) (p1 : Int32) (p2 : Int32) (p3 : Int32) (p4 : Option Nat) : Option (Int32 × g_AH) :=
  g_nn p0 fun a1 => g_is h a1 0 <| g_bh (Desk_draftBest h a1 p1 p2 p3) (fun E9 _ h9 => if E9 = "java/lang/IndexOutOfBoundsException" then some ((1 : Int32), h9) else if E9 = "java/lang/IllegalArgumentException" then some ((2 : Int32), h9) else none) fun x4 h5 => g_nn p4 fun a7 => g_sL h5 a7 (0 : Int32) ((x4).toInt64) fun h12 => some ((0 : Int32), h12)
set_option maxHeartbeats 4000000 in
set_option maxRecDepth 100000 in
theorem T_Law_draftBest {l : Launch} {B : g_B} (h : g_AH) (p0 : Option Nat) (p1 : Int32) (p2 : Int32) (p3 : Int32) (p4 : Option Nat) (z : Int32 × g_AH) (hy : Law_draftBest h p0 p1 p2 p3 p4 = some z) : g_CTR l B y_Law_draftBest k_Law_draftBest [va_rf p0, .int p1, .int p2, .int p3, va_rf p4] h (.inl (some (.int z.1))) z.2 := by
  have hle0 : g_X → g_Le h z.2 := by
    intro X0
    unfold Law_draftBest at hy
    replace hy := g_nn_inv hy
    obtain ⟨a1, rfl, hy⟩ := hy
    replace hy := g_is_inv hy
    obtain ⟨fs1, hc1, hy⟩ := hy
    replace hy := g_bh_inv hy
    rcases hy with ⟨x1, h1, hf1, hy⟩ | ⟨E1, q1, h1, hf1, hy⟩
    · have b1 := (T_Desk_draftBest (l := x_l X0) (B := x_B X0) (hy := hf1)).1 X0
      replace hy := g_nn_inv hy; obtain ⟨a2, rfl, hy⟩ := hy; replace hy := g_sL_inv hy; obtain ⟨n2, f2, hc2, hi2, hy⟩ := hy; cases hy; exact b1.tr (g_Le.up hc2)
    · have b1 := (T_Desk_draftBest (l := x_l X0) (B := x_B X0) (hy := hf1)).1 X0
      repeat (first | (cases hy; done) | (cases hy; exact b1) | split at hy)
  refine g_startR (Lc := [(0, va_rf p0), (1, .int p1), (2, .int p2), (3, .int p3), (4, va_rf p4)]) (by decide) rfl rfl (by rcases p0 with _ | p0 <;> rcases p4 with _ | p4 <;> exact Nat.le_of_ble_eq_true rfl) (by rcases p0 with _ | p0 <;> rcases p4 with _ | p4 <;> rfl) hle0 (fun X => ?_) rfl
  unfold Law_draftBest at hy
  refine g_aloadO 4 (pc' := 2) d_Law_draftBest_0 rfl rfl ?_
  refine g_iconst (v := (0 : Int32)) (pc' := 3) d_Law_draftBest_2 (by decide) rfl ?_
  refine g_aloadO_n 0 (i := 0) (pc' := 4) d_Law_draftBest_3 rfl rfl rfl ?_
  refine g_iload_n 1 (i := 1) (pc' := 5) d_Law_draftBest_4 rfl rfl rfl ?_
  refine g_iload_n 2 (i := 2) (pc' := 6) d_Law_draftBest_5 rfl rfl rfl ?_
  refine g_iload_n 3 (i := 3) (pc' := 7) d_Law_draftBest_6 rfl rfl rfl ?_
  replace hy := g_nn_inv hy
  obtain ⟨a1, rfl, hy⟩ := hy
  replace hy := g_is_inv hy
  obtain ⟨fs2, hc3, hy⟩ := hy
  replace hy := g_bh_inv hy
  rcases hy with ⟨x4, h5, hf6, hy⟩ | ⟨E9, q9, h5, hf6, hy⟩
  rotate_left
  · by_cases e9 : E9 = "java/lang/IndexOutOfBoundsException"
    · subst e9
      rw [if_pos rfl] at hy
      cases hy
      refine g_callVH (pre := []) (suf := [(0, 12, 19, 18)]) (x := (0, 12, 15, 27)) (nm := "java/lang/IndexOutOfBoundsException") (pc' := 15) (As := [.int p1, .int p2, .int p3]) (rest := [.int (0 : Int32), va_rf p4]) 3 (T_Desk_draftBest (hy := hf6)) d_Law_draftBest_7 hc3 rfl rfl q1577 q1578 q1579 q108 q1580 hd_Desk_draftBest rfl ⟨by decide, by decide⟩ (by first | exact Nat.le_of_ble_eq_true rfl | (simp only [List.map, List.sum_cons, List.sum_nil, g_cat_rf]; exact Nat.le_of_ble_eq_true rfl) | (simp only [List.map, List.sum_cons, List.sum_nil, g_cat_rf, Value.category]; decide)) (by decide) rfl (fun z hz => by cases hz) (by decide) (by decide) q1353 q1385 rfl ?_
      intro n9 a9 hn9 ha9
      refine g_astore (pc' := 17) (Lc' := [(5, .ref a9), (0, .ref a1), (1, .int p1), (2, .int p2), (3, .int p3), (4, va_rf p4)]) d_Law_draftBest_15 (by decide) (by cases p4 <;> rfl) rfl ?_
      refine g_iconst (v := (1 : Int32)) (pc' := 18) d_Law_draftBest_17 (by decide) rfl ?_
      exact g_iretR n9 rfl rfl rfl hn9 rfl d_Law_draftBest_18
    · rw [if_neg e9] at hy
      by_cases e9 : E9 = "java/lang/IllegalArgumentException"
      · subst e9
        rw [if_pos rfl] at hy
        cases hy
        refine g_callVH (pre := [(0, 12, 15, 27)]) (suf := []) (x := (0, 12, 19, 18)) (nm := "java/lang/IllegalArgumentException") (pc' := 19) (As := [.int p1, .int p2, .int p3]) (rest := [.int (0 : Int32), va_rf p4]) 3 (T_Desk_draftBest (hy := hf6)) d_Law_draftBest_7 hc3 rfl rfl q1577 q1578 q1579 q108 q1580 hd_Desk_draftBest rfl ⟨by decide, by decide⟩ (by first | exact Nat.le_of_ble_eq_true rfl | (simp only [List.map, List.sum_cons, List.sum_nil, g_cat_rf]; exact Nat.le_of_ble_eq_true rfl) | (simp only [List.map, List.sum_cons, List.sum_nil, g_cat_rf, Value.category]; decide)) (by decide) rfl (fun z hz => by rcases List.mem_cons.mp hz with rfl | hz; exact ⟨by decide, "java/lang/IndexOutOfBoundsException", q1353, by decide +kernel⟩; cases hz) (by decide) (by decide) q1325 q180 rfl ?_
        intro n9 a9 hn9 ha9
        refine g_astore (pc' := 21) (Lc' := [(5, .ref a9), (0, .ref a1), (1, .int p1), (2, .int p2), (3, .int p3), (4, va_rf p4)]) d_Law_draftBest_19 (by decide) (by cases p4 <;> rfl) rfl ?_
        refine g_iconst (v := (2 : Int32)) (pc' := 22) d_Law_draftBest_21 (by decide) rfl ?_
        exact g_iretR n9 rfl rfl rfl hn9 rfl d_Law_draftBest_22
      · rw [if_neg e9] at hy
        cases hy
  refine g_callV (rv := some (.int x4)) (h1 := h5) (pc' := 10) (As := [.int p1, .int p2, .int p3]) (rest := [.int (0 : Int32), va_rf p4]) 3 (T_Desk_draftBest (hy := hf6)) d_Law_draftBest_7 hc3 rfl rfl q1577 q1578 q1579 q108 q1580 hd_Desk_draftBest rfl ⟨by decide, by decide⟩ (by first | exact Nat.le_of_ble_eq_true rfl | (simp only [List.map, List.sum_cons, List.sum_nil, g_cat_rf]; exact Nat.le_of_ble_eq_true rfl) | (simp only [List.map, List.sum_cons, List.sum_nil, g_cat_rf, Value.category]; decide)) rfl ?_
  refine g_i2l (pc' := 11) d_Law_draftBest_10 rfl ?_
  replace hy := g_nn_inv hy
  obtain ⟨a7, rfl, hy⟩ := hy
  replace hy := g_sL_inv hy
  obtain ⟨n8, f9, hc10, hi11, hy⟩ := hy
  refine g_last (pc' := 12) d_Law_draftBest_11 hc10 hi11 rfl ?_
  generalize g_up h5 a7 (.inl (3, n8, .inr (.inl (vp_updL f9 ((0 : Int32)).toNatClampNeg ((x4).toInt64))))) = h12 at hy ⊢
  refine g_goto (pc' := 23) d_Law_draftBest_12 (by decide) ?_
  refine g_iconst (v := (0 : Int32)) (pc' := 24) d_Law_draftBest_23 (by decide) rfl ?_
  cases hy
  exact g_iret rfl rfl rfl d_Law_draftBest_24
theorem hd_Law_draftBest : g_dsc y_Law_draftBest 5 := ⟨by decide +kernel, by decide +kernel, by decide +kernel⟩
/-! CircuitDeskLaw.draftNode(LCircuitDesk;I[J)I -/
abbrev y_Law_draftNode : MethodName := ⟨"CircuitDeskLaw", "draftNode", "(LCircuitDesk;I[J)I"⟩
abbrev k_Law_draftNode : g_M := (method_15_code, 4, "CircuitDeskLaw", 19, (some FieldType.int), "draftNode", [(0, 9, 12, 27)], 1)
theorem d_Law_draftNode_0 : decode method_15_code 0 = .ok (.aload_n 2, 1) := by decide +kernel
theorem d_Law_draftNode_1 : decode method_15_code 1 = .ok (.iconst 0, 1) := by decide +kernel
theorem d_Law_draftNode_2 : decode method_15_code 2 = .ok (.aload_n 0, 1) := by decide +kernel
theorem d_Law_draftNode_3 : decode method_15_code 3 = .ok (.iload_n 1, 1) := by decide +kernel
theorem d_Law_draftNode_4 : decode method_15_code 4 = .ok (.invokevirtual 56, 3) := by decide +kernel
theorem d_Law_draftNode_7 : decode method_15_code 7 = .ok (.i2l, 1) := by decide +kernel
theorem d_Law_draftNode_8 : decode method_15_code 8 = .ok (.lastore, 1) := by decide +kernel
theorem d_Law_draftNode_9 : decode method_15_code 9 = .ok (.goto 6, 3) := by decide +kernel
theorem d_Law_draftNode_12 : decode method_15_code 12 = .ok (.astore_n 3, 1) := by decide +kernel
theorem d_Law_draftNode_13 : decode method_15_code 13 = .ok (.iconst 1, 1) := by decide +kernel
theorem d_Law_draftNode_14 : decode method_15_code 14 = .ok (.ireturn, 1) := by decide +kernel
theorem d_Law_draftNode_15 : decode method_15_code 15 = .ok (.iconst 0, 1) := by decide +kernel
theorem d_Law_draftNode_16 : decode method_15_code 16 = .ok (.ireturn, 1) := by decide +kernel
def Law_draftNode (h : g_AH) (p0 : Option Nat) (p1 : Int32) (p2 : Option Nat) : Option (Int32 × g_AH) :=
  g_nn p0 fun a1 => g_is h a1 0 <| g_bh (Desk_draftNode h a1 p1) (fun E9 _ h9 => if E9 = "java/lang/IndexOutOfBoundsException" then some ((1 : Int32), h9) else none) fun x4 h5 => g_nn p2 fun a7 => g_sL h5 a7 (0 : Int32) ((x4).toInt64) fun h12 => some ((0 : Int32), h12)
set_option maxHeartbeats 4000000 in
set_option maxRecDepth 100000 in
theorem T_Law_draftNode {l : Launch} {B : g_B} (h : g_AH) (p0 : Option Nat) (p1 : Int32) (p2 : Option Nat) (z : Int32 × g_AH) (hy : Law_draftNode h p0 p1 p2 = some z) : g_CTR l B y_Law_draftNode k_Law_draftNode [va_rf p0, .int p1, va_rf p2] h (.inl (some (.int z.1))) z.2 := by
  have hle0 : g_X → g_Le h z.2 := by
    intro X0
    unfold Law_draftNode at hy
    replace hy := g_nn_inv hy
    obtain ⟨a1, rfl, hy⟩ := hy
    replace hy := g_is_inv hy
    obtain ⟨fs1, hc1, hy⟩ := hy
    replace hy := g_bh_inv hy
    rcases hy with ⟨x1, h1, hf1, hy⟩ | ⟨E1, q1, h1, hf1, hy⟩
    · have b1 := (T_Desk_draftNode (l := x_l X0) (B := x_B X0) (hy := hf1)).1 X0
      replace hy := g_nn_inv hy; obtain ⟨a2, rfl, hy⟩ := hy; replace hy := g_sL_inv hy; obtain ⟨n2, f2, hc2, hi2, hy⟩ := hy; cases hy; exact b1.tr (g_Le.up hc2)
    · have b1 := (T_Desk_draftNode (l := x_l X0) (B := x_B X0) (hy := hf1)).1 X0
      repeat (first | (cases hy; done) | (cases hy; exact b1) | split at hy)
  refine g_startR (Lc := [(0, va_rf p0), (1, .int p1), (2, va_rf p2)]) (by decide) rfl rfl (by rcases p0 with _ | p0 <;> rcases p2 with _ | p2 <;> exact Nat.le_of_ble_eq_true rfl) (by rcases p0 with _ | p0 <;> rcases p2 with _ | p2 <;> rfl) hle0 (fun X => ?_) rfl
  unfold Law_draftNode at hy
  refine g_aloadO_n 2 (i := 2) (pc' := 1) d_Law_draftNode_0 rfl rfl rfl ?_
  refine g_iconst (v := (0 : Int32)) (pc' := 2) d_Law_draftNode_1 (by decide) rfl ?_
  refine g_aloadO_n 0 (i := 0) (pc' := 3) d_Law_draftNode_2 rfl rfl rfl ?_
  refine g_iload_n 1 (i := 1) (pc' := 4) d_Law_draftNode_3 rfl rfl rfl ?_
  replace hy := g_nn_inv hy
  obtain ⟨a1, rfl, hy⟩ := hy
  replace hy := g_is_inv hy
  obtain ⟨fs2, hc3, hy⟩ := hy
  replace hy := g_bh_inv hy
  rcases hy with ⟨x4, h5, hf6, hy⟩ | ⟨E9, q9, h5, hf6, hy⟩
  rotate_left
  · by_cases e9 : E9 = "java/lang/IndexOutOfBoundsException"
    · subst e9
      rw [if_pos rfl] at hy
      cases hy
      refine g_callVH (pre := []) (suf := []) (x := (0, 9, 12, 27)) (nm := "java/lang/IndexOutOfBoundsException") (pc' := 12) (As := [.int p1]) (rest := [.int (0 : Int32), va_rf p2]) 1 (T_Desk_draftNode (hy := hf6)) d_Law_draftNode_4 hc3 rfl rfl q1588 q1589 q1590 q108 q1591 hd_Desk_draftNode rfl ⟨by decide, by decide⟩ (by first | exact Nat.le_of_ble_eq_true rfl | (simp only [List.map, List.sum_cons, List.sum_nil, g_cat_rf]; exact Nat.le_of_ble_eq_true rfl) | (simp only [List.map, List.sum_cons, List.sum_nil, g_cat_rf, Value.category]; decide)) (by decide) rfl (fun z hz => by cases hz) (by decide) (by decide) q1353 q1385 rfl ?_
      intro n9 a9 hn9 ha9
      refine g_astore_n (i := 3) (pc' := 13) (Lc' := [(3, .ref a9), (0, .ref a1), (1, .int p1), (2, va_rf p2)]) d_Law_draftNode_12 rfl (by decide) (by cases p2 <;> rfl) rfl ?_
      refine g_iconst (v := (1 : Int32)) (pc' := 14) d_Law_draftNode_13 (by decide) rfl ?_
      exact g_iretR n9 rfl rfl rfl hn9 rfl d_Law_draftNode_14
    · rw [if_neg e9] at hy
      cases hy
  refine g_callV (rv := some (.int x4)) (h1 := h5) (pc' := 7) (As := [.int p1]) (rest := [.int (0 : Int32), va_rf p2]) 1 (T_Desk_draftNode (hy := hf6)) d_Law_draftNode_4 hc3 rfl rfl q1588 q1589 q1590 q108 q1591 hd_Desk_draftNode rfl ⟨by decide, by decide⟩ (by first | exact Nat.le_of_ble_eq_true rfl | (simp only [List.map, List.sum_cons, List.sum_nil, g_cat_rf]; exact Nat.le_of_ble_eq_true rfl) | (simp only [List.map, List.sum_cons, List.sum_nil, g_cat_rf, Value.category]; decide)) rfl ?_
  refine g_i2l (pc' := 8) d_Law_draftNode_7 rfl ?_
  replace hy := g_nn_inv hy
  obtain ⟨a7, rfl, hy⟩ := hy
  replace hy := g_sL_inv hy
  obtain ⟨n8, f9, hc10, hi11, hy⟩ := hy
  refine g_last (pc' := 9) d_Law_draftNode_8 hc10 hi11 rfl ?_
  generalize g_up h5 a7 (.inl (3, n8, .inr (.inl (vp_updL f9 ((0 : Int32)).toNatClampNeg ((x4).toInt64))))) = h12 at hy ⊢
  refine g_goto (pc' := 15) d_Law_draftNode_9 (by decide) ?_
  refine g_iconst (v := (0 : Int32)) (pc' := 16) d_Law_draftNode_15 (by decide) rfl ?_
  cases hy
  exact g_iret rfl rfl rfl d_Law_draftNode_16
theorem hd_Law_draftNode : g_dsc y_Law_draftNode 3 := ⟨by decide +kernel, by decide +kernel, by decide +kernel⟩
/-! CircuitDeskLaw.open(LCircuitDesk;II[J)I -/
abbrev y_Law_open : MethodName := ⟨"CircuitDeskLaw", "open", "(LCircuitDesk;II[J)I"⟩
abbrev k_Law_open : g_M := (method_16_code, 5, "CircuitDeskLaw", 22, (some FieldType.int), "open", [(0, 10, 13, 18)], 1)
theorem d_Law_open_0 : decode method_16_code 0 = .ok (.aload_n 3, 1) := by decide +kernel
theorem d_Law_open_1 : decode method_16_code 1 = .ok (.iconst 0, 1) := by decide +kernel
theorem d_Law_open_2 : decode method_16_code 2 = .ok (.aload_n 0, 1) := by decide +kernel
theorem d_Law_open_3 : decode method_16_code 3 = .ok (.iload_n 1, 1) := by decide +kernel
theorem d_Law_open_4 : decode method_16_code 4 = .ok (.iload_n 2, 1) := by decide +kernel
theorem d_Law_open_5 : decode method_16_code 5 = .ok (.invokevirtual 59, 3) := by decide +kernel
theorem d_Law_open_8 : decode method_16_code 8 = .ok (.i2l, 1) := by decide +kernel
theorem d_Law_open_9 : decode method_16_code 9 = .ok (.lastore, 1) := by decide +kernel
theorem d_Law_open_10 : decode method_16_code 10 = .ok (.goto 7, 3) := by decide +kernel
theorem d_Law_open_13 : decode method_16_code 13 = .ok (.astore 4, 2) := by decide +kernel
theorem d_Law_open_15 : decode method_16_code 15 = .ok (.iconst 1, 1) := by decide +kernel
theorem d_Law_open_16 : decode method_16_code 16 = .ok (.ireturn, 1) := by decide +kernel
theorem d_Law_open_17 : decode method_16_code 17 = .ok (.iconst 0, 1) := by decide +kernel
theorem d_Law_open_18 : decode method_16_code 18 = .ok (.ireturn, 1) := by decide +kernel
def Law_open (h : g_AH) (p0 : Option Nat) (p1 : Int32) (p2 : Int32) (p3 : Option Nat) : Option (Int32 × g_AH) :=
  g_nn p0 fun a1 => g_is h a1 0 <| g_bh (Desk_open h a1 p1 p2) (fun E9 _ h9 => if E9 = "java/lang/IllegalArgumentException" then some ((1 : Int32), h9) else none) fun x4 h5 => g_nn p3 fun a7 => g_sL h5 a7 (0 : Int32) ((x4).toInt64) fun h12 => some ((0 : Int32), h12)
set_option maxHeartbeats 4000000 in
set_option maxRecDepth 100000 in
theorem T_Law_open {l : Launch} {B : g_B} (h : g_AH) (p0 : Option Nat) (p1 : Int32) (p2 : Int32) (p3 : Option Nat) (z : Int32 × g_AH) (hy : Law_open h p0 p1 p2 p3 = some z) : g_CTR l B y_Law_open k_Law_open [va_rf p0, .int p1, .int p2, va_rf p3] h (.inl (some (.int z.1))) z.2 := by
  have hle0 : g_X → g_Le h z.2 := by
    intro X0
    unfold Law_open at hy
    replace hy := g_nn_inv hy
    obtain ⟨a1, rfl, hy⟩ := hy
    replace hy := g_is_inv hy
    obtain ⟨fs1, hc1, hy⟩ := hy
    replace hy := g_bh_inv hy
    rcases hy with ⟨x1, h1, hf1, hy⟩ | ⟨E1, q1, h1, hf1, hy⟩
    · have b1 := (T_Desk_open (l := x_l X0) (B := x_B X0) (hy := hf1)).1 X0
      replace hy := g_nn_inv hy; obtain ⟨a2, rfl, hy⟩ := hy; replace hy := g_sL_inv hy; obtain ⟨n2, f2, hc2, hi2, hy⟩ := hy; cases hy; exact b1.tr (g_Le.up hc2)
    · have b1 := (T_Desk_open (l := x_l X0) (B := x_B X0) (hy := hf1)).1 X0
      repeat (first | (cases hy; done) | (cases hy; exact b1) | split at hy)
  refine g_startR (Lc := [(0, va_rf p0), (1, .int p1), (2, .int p2), (3, va_rf p3)]) (by decide) rfl rfl (by rcases p0 with _ | p0 <;> rcases p3 with _ | p3 <;> exact Nat.le_of_ble_eq_true rfl) (by rcases p0 with _ | p0 <;> rcases p3 with _ | p3 <;> rfl) hle0 (fun X => ?_) rfl
  unfold Law_open at hy
  refine g_aloadO_n 3 (i := 3) (pc' := 1) d_Law_open_0 rfl rfl rfl ?_
  refine g_iconst (v := (0 : Int32)) (pc' := 2) d_Law_open_1 (by decide) rfl ?_
  refine g_aloadO_n 0 (i := 0) (pc' := 3) d_Law_open_2 rfl rfl rfl ?_
  refine g_iload_n 1 (i := 1) (pc' := 4) d_Law_open_3 rfl rfl rfl ?_
  refine g_iload_n 2 (i := 2) (pc' := 5) d_Law_open_4 rfl rfl rfl ?_
  replace hy := g_nn_inv hy
  obtain ⟨a1, rfl, hy⟩ := hy
  replace hy := g_is_inv hy
  obtain ⟨fs2, hc3, hy⟩ := hy
  replace hy := g_bh_inv hy
  rcases hy with ⟨x4, h5, hf6, hy⟩ | ⟨E9, q9, h5, hf6, hy⟩
  rotate_left
  · by_cases e9 : E9 = "java/lang/IllegalArgumentException"
    · subst e9
      rw [if_pos rfl] at hy
      cases hy
      refine g_callVH (pre := []) (suf := []) (x := (0, 10, 13, 18)) (nm := "java/lang/IllegalArgumentException") (pc' := 13) (As := [.int p1, .int p2]) (rest := [.int (0 : Int32), va_rf p3]) 2 (T_Desk_open (hy := hf6)) d_Law_open_5 hc3 rfl rfl q1595 q1596 q1597 q108 q1598 hd_Desk_open rfl ⟨by decide, by decide⟩ (by first | exact Nat.le_of_ble_eq_true rfl | (simp only [List.map, List.sum_cons, List.sum_nil, g_cat_rf]; exact Nat.le_of_ble_eq_true rfl) | (simp only [List.map, List.sum_cons, List.sum_nil, g_cat_rf, Value.category]; decide)) (by decide) rfl (fun z hz => by cases hz) (by decide) (by decide) q1325 q180 rfl ?_
      intro n9 a9 hn9 ha9
      refine g_astore (pc' := 15) (Lc' := [(4, .ref a9), (0, .ref a1), (1, .int p1), (2, .int p2), (3, va_rf p3)]) d_Law_open_13 (by decide) (by cases p3 <;> rfl) rfl ?_
      refine g_iconst (v := (1 : Int32)) (pc' := 16) d_Law_open_15 (by decide) rfl ?_
      exact g_iretR n9 rfl rfl rfl hn9 rfl d_Law_open_16
    · rw [if_neg e9] at hy
      cases hy
  refine g_callV (rv := some (.int x4)) (h1 := h5) (pc' := 8) (As := [.int p1, .int p2]) (rest := [.int (0 : Int32), va_rf p3]) 2 (T_Desk_open (hy := hf6)) d_Law_open_5 hc3 rfl rfl q1595 q1596 q1597 q108 q1598 hd_Desk_open rfl ⟨by decide, by decide⟩ (by first | exact Nat.le_of_ble_eq_true rfl | (simp only [List.map, List.sum_cons, List.sum_nil, g_cat_rf]; exact Nat.le_of_ble_eq_true rfl) | (simp only [List.map, List.sum_cons, List.sum_nil, g_cat_rf, Value.category]; decide)) rfl ?_
  refine g_i2l (pc' := 9) d_Law_open_8 rfl ?_
  replace hy := g_nn_inv hy
  obtain ⟨a7, rfl, hy⟩ := hy
  replace hy := g_sL_inv hy
  obtain ⟨n8, f9, hc10, hi11, hy⟩ := hy
  refine g_last (pc' := 10) d_Law_open_9 hc10 hi11 rfl ?_
  generalize g_up h5 a7 (.inl (3, n8, .inr (.inl (vp_updL f9 ((0 : Int32)).toNatClampNeg ((x4).toInt64))))) = h12 at hy ⊢
  refine g_goto (pc' := 17) d_Law_open_10 (by decide) ?_
  refine g_iconst (v := (0 : Int32)) (pc' := 18) d_Law_open_17 (by decide) rfl ?_
  cases hy
  exact g_iret rfl rfl rfl d_Law_open_18
theorem hd_Law_open : g_dsc y_Law_open 4 := ⟨by decide +kernel, by decide +kernel, by decide +kernel⟩
/-! CircuitDeskLaw.close(LCircuitDesk;I[J)I -/
abbrev y_Law_close : MethodName := ⟨"CircuitDeskLaw", "close", "(LCircuitDesk;I[J)I"⟩
abbrev k_Law_close : g_M := (method_17_code, 4, "CircuitDeskLaw", 20, (some FieldType.int), "close", [(0, 9, 12, 27)], 1)
theorem d_Law_close_0 : decode method_17_code 0 = .ok (.aload_n 2, 1) := by decide +kernel
theorem d_Law_close_1 : decode method_17_code 1 = .ok (.iconst 0, 1) := by decide +kernel
theorem d_Law_close_2 : decode method_17_code 2 = .ok (.aload_n 0, 1) := by decide +kernel
theorem d_Law_close_3 : decode method_17_code 3 = .ok (.iload_n 1, 1) := by decide +kernel
theorem d_Law_close_4 : decode method_17_code 4 = .ok (.invokevirtual 62, 3) := by decide +kernel
theorem d_Law_close_7 : decode method_17_code 7 = .ok (.i2l, 1) := by decide +kernel
theorem d_Law_close_8 : decode method_17_code 8 = .ok (.lastore, 1) := by decide +kernel
theorem d_Law_close_9 : decode method_17_code 9 = .ok (.goto 6, 3) := by decide +kernel
theorem d_Law_close_12 : decode method_17_code 12 = .ok (.astore_n 3, 1) := by decide +kernel
theorem d_Law_close_13 : decode method_17_code 13 = .ok (.iconst 1, 1) := by decide +kernel
theorem d_Law_close_14 : decode method_17_code 14 = .ok (.ireturn, 1) := by decide +kernel
theorem d_Law_close_15 : decode method_17_code 15 = .ok (.iconst 0, 1) := by decide +kernel
theorem d_Law_close_16 : decode method_17_code 16 = .ok (.ireturn, 1) := by decide +kernel
def Law_close (h : g_AH) (p0 : Option Nat) (p1 : Int32) (p2 : Option Nat) : Option (Int32 × g_AH) :=
  g_nn p0 fun a1 => g_is h a1 0 <| g_bh (Desk_close h a1 p1) (fun E9 _ h9 => if E9 = "java/lang/IndexOutOfBoundsException" then some ((1 : Int32), h9) else none) fun x4 h5 => g_nn p2 fun a7 => g_sL h5 a7 (0 : Int32) ((x4).toInt64) fun h12 => some ((0 : Int32), h12)
set_option maxHeartbeats 4000000 in
set_option maxRecDepth 100000 in
theorem T_Law_close {l : Launch} {B : g_B} (h : g_AH) (p0 : Option Nat) (p1 : Int32) (p2 : Option Nat) (z : Int32 × g_AH) (hy : Law_close h p0 p1 p2 = some z) : g_CTR l B y_Law_close k_Law_close [va_rf p0, .int p1, va_rf p2] h (.inl (some (.int z.1))) z.2 := by
  have hle0 : g_X → g_Le h z.2 := by
    intro X0
    unfold Law_close at hy
    replace hy := g_nn_inv hy
    obtain ⟨a1, rfl, hy⟩ := hy
    replace hy := g_is_inv hy
    obtain ⟨fs1, hc1, hy⟩ := hy
    replace hy := g_bh_inv hy
    rcases hy with ⟨x1, h1, hf1, hy⟩ | ⟨E1, q1, h1, hf1, hy⟩
    · have b1 := (T_Desk_close (l := x_l X0) (B := x_B X0) (hy := hf1)).1 X0
      replace hy := g_nn_inv hy; obtain ⟨a2, rfl, hy⟩ := hy; replace hy := g_sL_inv hy; obtain ⟨n2, f2, hc2, hi2, hy⟩ := hy; cases hy; exact b1.tr (g_Le.up hc2)
    · have b1 := (T_Desk_close (l := x_l X0) (B := x_B X0) (hy := hf1)).1 X0
      repeat (first | (cases hy; done) | (cases hy; exact b1) | split at hy)
  refine g_startR (Lc := [(0, va_rf p0), (1, .int p1), (2, va_rf p2)]) (by decide) rfl rfl (by rcases p0 with _ | p0 <;> rcases p2 with _ | p2 <;> exact Nat.le_of_ble_eq_true rfl) (by rcases p0 with _ | p0 <;> rcases p2 with _ | p2 <;> rfl) hle0 (fun X => ?_) rfl
  unfold Law_close at hy
  refine g_aloadO_n 2 (i := 2) (pc' := 1) d_Law_close_0 rfl rfl rfl ?_
  refine g_iconst (v := (0 : Int32)) (pc' := 2) d_Law_close_1 (by decide) rfl ?_
  refine g_aloadO_n 0 (i := 0) (pc' := 3) d_Law_close_2 rfl rfl rfl ?_
  refine g_iload_n 1 (i := 1) (pc' := 4) d_Law_close_3 rfl rfl rfl ?_
  replace hy := g_nn_inv hy
  obtain ⟨a1, rfl, hy⟩ := hy
  replace hy := g_is_inv hy
  obtain ⟨fs2, hc3, hy⟩ := hy
  replace hy := g_bh_inv hy
  rcases hy with ⟨x4, h5, hf6, hy⟩ | ⟨E9, q9, h5, hf6, hy⟩
  rotate_left
  · by_cases e9 : E9 = "java/lang/IndexOutOfBoundsException"
    · subst e9
      rw [if_pos rfl] at hy
      cases hy
      refine g_callVH (pre := []) (suf := []) (x := (0, 9, 12, 27)) (nm := "java/lang/IndexOutOfBoundsException") (pc' := 12) (As := [.int p1]) (rest := [.int (0 : Int32), va_rf p2]) 1 (T_Desk_close (hy := hf6)) d_Law_close_4 hc3 rfl rfl q1627 q1628 q1629 q108 q1630 hd_Desk_close rfl ⟨by decide, by decide⟩ (by first | exact Nat.le_of_ble_eq_true rfl | (simp only [List.map, List.sum_cons, List.sum_nil, g_cat_rf]; exact Nat.le_of_ble_eq_true rfl) | (simp only [List.map, List.sum_cons, List.sum_nil, g_cat_rf, Value.category]; decide)) (by decide) rfl (fun z hz => by cases hz) (by decide) (by decide) q1353 q1385 rfl ?_
      intro n9 a9 hn9 ha9
      refine g_astore_n (i := 3) (pc' := 13) (Lc' := [(3, .ref a9), (0, .ref a1), (1, .int p1), (2, va_rf p2)]) d_Law_close_12 rfl (by decide) (by cases p2 <;> rfl) rfl ?_
      refine g_iconst (v := (1 : Int32)) (pc' := 14) d_Law_close_13 (by decide) rfl ?_
      exact g_iretR n9 rfl rfl rfl hn9 rfl d_Law_close_14
    · rw [if_neg e9] at hy
      cases hy
  refine g_callV (rv := some (.int x4)) (h1 := h5) (pc' := 7) (As := [.int p1]) (rest := [.int (0 : Int32), va_rf p2]) 1 (T_Desk_close (hy := hf6)) d_Law_close_4 hc3 rfl rfl q1627 q1628 q1629 q108 q1630 hd_Desk_close rfl ⟨by decide, by decide⟩ (by first | exact Nat.le_of_ble_eq_true rfl | (simp only [List.map, List.sum_cons, List.sum_nil, g_cat_rf]; exact Nat.le_of_ble_eq_true rfl) | (simp only [List.map, List.sum_cons, List.sum_nil, g_cat_rf, Value.category]; decide)) rfl ?_
  refine g_i2l (pc' := 8) d_Law_close_7 rfl ?_
  replace hy := g_nn_inv hy
  obtain ⟨a7, rfl, hy⟩ := hy
  replace hy := g_sL_inv hy
  obtain ⟨n8, f9, hc10, hi11, hy⟩ := hy
  refine g_last (pc' := 9) d_Law_close_8 hc10 hi11 rfl ?_
  generalize g_up h5 a7 (.inl (3, n8, .inr (.inl (vp_updL f9 ((0 : Int32)).toNatClampNeg ((x4).toInt64))))) = h12 at hy ⊢
  refine g_goto (pc' := 15) d_Law_close_9 (by decide) ?_
  refine g_iconst (v := (0 : Int32)) (pc' := 16) d_Law_close_15 (by decide) rfl ?_
  cases hy
  exact g_iret rfl rfl rfl d_Law_close_16
theorem hd_Law_close : g_dsc y_Law_close 3 := ⟨by decide +kernel, by decide +kernel, by decide +kernel⟩
