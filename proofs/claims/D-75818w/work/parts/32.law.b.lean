/-! CircuitDeskLaw.move(LCircuitDesk;I[J)I -/
abbrev y_Law_move : MethodName := ⟨"CircuitDeskLaw", "move", "(LCircuitDesk;I[J)I"⟩
abbrev k_Law_move : g_M := (method_18_code, 4, "CircuitDeskLaw", 22, (some FieldType.int), "move", [(0, 9, 12, 27)], 1)
theorem d_Law_move_0 : decode method_18_code 0 = .ok (.aload_n 2, 1) := by decide +kernel
theorem d_Law_move_1 : decode method_18_code 1 = .ok (.iconst 0, 1) := by decide +kernel
theorem d_Law_move_2 : decode method_18_code 2 = .ok (.aload_n 0, 1) := by decide +kernel
theorem d_Law_move_3 : decode method_18_code 3 = .ok (.iload_n 1, 1) := by decide +kernel
theorem d_Law_move_4 : decode method_18_code 4 = .ok (.invokevirtual 65, 3) := by decide +kernel
theorem d_Law_move_7 : decode method_18_code 7 = .ok (.i2l, 1) := by decide +kernel
theorem d_Law_move_8 : decode method_18_code 8 = .ok (.lastore, 1) := by decide +kernel
theorem d_Law_move_9 : decode method_18_code 9 = .ok (.goto 6, 3) := by decide +kernel
theorem d_Law_move_12 : decode method_18_code 12 = .ok (.astore_n 3, 1) := by decide +kernel
theorem d_Law_move_13 : decode method_18_code 13 = .ok (.iconst 1, 1) := by decide +kernel
theorem d_Law_move_14 : decode method_18_code 14 = .ok (.ireturn, 1) := by decide +kernel
theorem d_Law_move_15 : decode method_18_code 15 = .ok (.iconst 0, 1) := by decide +kernel
theorem d_Law_move_16 : decode method_18_code 16 = .ok (.ireturn, 1) := by decide +kernel
def Law_move (h : g_AH) (p0 : Option Nat) (p1 : Int32) (p2 : Option Nat) : Option (Int32 × g_AH) :=
  g_nn p0 fun a1 => g_is h a1 0 <| g_bh (Desk_move h a1 p1) (fun E9 _ h9 => if E9 = "java/lang/IndexOutOfBoundsException" then some ((1 : Int32), h9) else none) fun x4 h5 => g_nn p2 fun a7 => g_sL h5 a7 (0 : Int32) ((x4).toInt64) fun h12 => some ((0 : Int32), h12)
set_option maxHeartbeats 4000000 in
set_option maxRecDepth 100000 in
theorem T_Law_move {l : Launch} {B : g_B} (h : g_AH) (p0 : Option Nat) (p1 : Int32) (p2 : Option Nat) (z : Int32 × g_AH) (hy : Law_move h p0 p1 p2 = some z) : g_CTR l B y_Law_move k_Law_move [va_rf p0, .int p1, va_rf p2] h (.inl (some (.int z.1))) z.2 := by
  have hle0 : g_X → g_Le h z.2 := by
    intro X0
    unfold Law_move at hy
    replace hy := g_nn_inv hy
    obtain ⟨a1, rfl, hy⟩ := hy
    replace hy := g_is_inv hy
    obtain ⟨fs1, hc1, hy⟩ := hy
    replace hy := g_bh_inv hy
    rcases hy with ⟨x1, h1, hf1, hy⟩ | ⟨E1, q1, h1, hf1, hy⟩
    · have b1 := (T_Desk_move (l := x_l X0) (B := x_B X0) (hy := hf1)).1 X0
      replace hy := g_nn_inv hy; obtain ⟨a2, rfl, hy⟩ := hy; replace hy := g_sL_inv hy; obtain ⟨n2, f2, hc2, hi2, hy⟩ := hy; cases hy; exact b1.tr (g_Le.up hc2)
    · have b1 := (T_Desk_move (l := x_l X0) (B := x_B X0) (hy := hf1)).1 X0
      repeat (first | (cases hy; done) | (cases hy; exact b1) | split at hy)
  refine g_startR (Lc := [(0, va_rf p0), (1, .int p1), (2, va_rf p2)]) (by decide) rfl rfl (by rcases p0 with _ | p0 <;> rcases p2 with _ | p2 <;> exact Nat.le_of_ble_eq_true rfl) (by rcases p0 with _ | p0 <;> rcases p2 with _ | p2 <;> rfl) hle0 (fun X => ?_) rfl
  unfold Law_move at hy
  refine g_aloadO_n 2 (i := 2) (pc' := 1) d_Law_move_0 rfl rfl rfl ?_
  refine g_iconst (v := (0 : Int32)) (pc' := 2) d_Law_move_1 (by decide) rfl ?_
  refine g_aloadO_n 0 (i := 0) (pc' := 3) d_Law_move_2 rfl rfl rfl ?_
  refine g_iload_n 1 (i := 1) (pc' := 4) d_Law_move_3 rfl rfl rfl ?_
  replace hy := g_nn_inv hy
  obtain ⟨a1, rfl, hy⟩ := hy
  replace hy := g_is_inv hy
  obtain ⟨fs2, hc3, hy⟩ := hy
  replace hy := g_bh_inv hy
  rcases hy with ⟨x4, h5, hf6, hy⟩ | ⟨E9, q9, h5, hf6, hy⟩
  rotate_left
  · by_cases e9 : E9 = "java/lang/IndexOutOfBoundsException"
    · subst e9
      rw [if_pos rfl] at hy
      cases hy
      refine g_callVH (pre := []) (suf := []) (x := (0, 9, 12, 27)) (nm := "java/lang/IndexOutOfBoundsException") (pc' := 12) (As := [.int p1]) (rest := [.int (0 : Int32), va_rf p2]) 1 (T_Desk_move (hy := hf6)) d_Law_move_4 hc3 rfl rfl q1652 q1653 q1654 q108 q1655 hd_Desk_move rfl ⟨by decide, by decide⟩ (by first | exact Nat.le_of_ble_eq_true rfl | (simp only [List.map, List.sum_cons, List.sum_nil, g_cat_rf]; exact Nat.le_of_ble_eq_true rfl) | (simp only [List.map, List.sum_cons, List.sum_nil, g_cat_rf, Value.category]; decide)) (by decide) rfl (fun z hz => by cases hz) (by decide) (by decide) q1353 q1385 rfl ?_
      intro n9 a9 hn9 ha9
      refine g_astore_n (i := 3) (pc' := 13) (Lc' := [(3, .ref a9), (0, .ref a1), (1, .int p1), (2, va_rf p2)]) d_Law_move_12 rfl (by decide) (by cases p2 <;> rfl) rfl ?_
      refine g_iconst (v := (1 : Int32)) (pc' := 14) d_Law_move_13 (by decide) rfl ?_
      exact g_iretR n9 rfl rfl rfl hn9 rfl d_Law_move_14
    · rw [if_neg e9] at hy
      cases hy
  refine g_callV (rv := some (.int x4)) (h1 := h5) (pc' := 7) (As := [.int p1]) (rest := [.int (0 : Int32), va_rf p2]) 1 (T_Desk_move (hy := hf6)) d_Law_move_4 hc3 rfl rfl q1652 q1653 q1654 q108 q1655 hd_Desk_move rfl ⟨by decide, by decide⟩ (by first | exact Nat.le_of_ble_eq_true rfl | (simp only [List.map, List.sum_cons, List.sum_nil, g_cat_rf]; exact Nat.le_of_ble_eq_true rfl) | (simp only [List.map, List.sum_cons, List.sum_nil, g_cat_rf, Value.category]; decide)) rfl ?_
  refine g_i2l (pc' := 8) d_Law_move_7 rfl ?_
  replace hy := g_nn_inv hy
  obtain ⟨a7, rfl, hy⟩ := hy
  replace hy := g_sL_inv hy
  obtain ⟨n8, f9, hc10, hi11, hy⟩ := hy
  refine g_last (pc' := 9) d_Law_move_8 hc10 hi11 rfl ?_
  generalize g_up h5 a7 (.inl (3, n8, .inr (.inl (vp_updL f9 ((0 : Int32)).toNatClampNeg ((x4).toInt64))))) = h12 at hy ⊢
  refine g_goto (pc' := 15) d_Law_move_9 (by decide) ?_
  refine g_iconst (v := (0 : Int32)) (pc' := 16) d_Law_move_15 (by decide) rfl ?_
  cases hy
  exact g_iret rfl rfl rfl d_Law_move_16
theorem hd_Law_move : g_dsc y_Law_move 3 := ⟨by decide +kernel, by decide +kernel, by decide +kernel⟩
/-! CircuitDeskLaw.moveBest(LCircuitDesk;II[J)I -/
abbrev y_Law_moveBest : MethodName := ⟨"CircuitDeskLaw", "moveBest", "(LCircuitDesk;II[J)I"⟩
abbrev k_Law_moveBest : g_M := (method_19_code, 5, "CircuitDeskLaw", 28, (some FieldType.int), "moveBest", [(0, 10, 13, 27)], 1)
theorem d_Law_moveBest_0 : decode method_19_code 0 = .ok (.aload_n 3, 1) := by decide +kernel
theorem d_Law_moveBest_1 : decode method_19_code 1 = .ok (.iconst 0, 1) := by decide +kernel
theorem d_Law_moveBest_2 : decode method_19_code 2 = .ok (.aload_n 0, 1) := by decide +kernel
theorem d_Law_moveBest_3 : decode method_19_code 3 = .ok (.iload_n 1, 1) := by decide +kernel
theorem d_Law_moveBest_4 : decode method_19_code 4 = .ok (.iload_n 2, 1) := by decide +kernel
theorem d_Law_moveBest_5 : decode method_19_code 5 = .ok (.invokevirtual 68, 3) := by decide +kernel
theorem d_Law_moveBest_8 : decode method_19_code 8 = .ok (.i2l, 1) := by decide +kernel
theorem d_Law_moveBest_9 : decode method_19_code 9 = .ok (.lastore, 1) := by decide +kernel
theorem d_Law_moveBest_10 : decode method_19_code 10 = .ok (.goto 7, 3) := by decide +kernel
theorem d_Law_moveBest_13 : decode method_19_code 13 = .ok (.astore 4, 2) := by decide +kernel
theorem d_Law_moveBest_15 : decode method_19_code 15 = .ok (.iconst 1, 1) := by decide +kernel
theorem d_Law_moveBest_16 : decode method_19_code 16 = .ok (.ireturn, 1) := by decide +kernel
theorem d_Law_moveBest_17 : decode method_19_code 17 = .ok (.iconst 0, 1) := by decide +kernel
theorem d_Law_moveBest_18 : decode method_19_code 18 = .ok (.ireturn, 1) := by decide +kernel
def Law_moveBest (h : g_AH) (p0 : Option Nat) (p1 : Int32) (p2 : Int32) (p3 : Option Nat) : Option (Int32 × g_AH) :=
  g_nn p0 fun a1 => g_is h a1 0 <| g_bh (Desk_moveBest0 h a1 p1 p2) (fun E9 _ h9 => if E9 = "java/lang/IndexOutOfBoundsException" then some ((1 : Int32), h9) else none) fun x4 h5 => g_nn p3 fun a7 => g_sL h5 a7 (0 : Int32) ((x4).toInt64) fun h12 => some ((0 : Int32), h12)
set_option maxHeartbeats 4000000 in
set_option maxRecDepth 100000 in
theorem T_Law_moveBest {l : Launch} {B : g_B} (h : g_AH) (p0 : Option Nat) (p1 : Int32) (p2 : Int32) (p3 : Option Nat) (z : Int32 × g_AH) (hy : Law_moveBest h p0 p1 p2 p3 = some z) : g_CTR l B y_Law_moveBest k_Law_moveBest [va_rf p0, .int p1, .int p2, va_rf p3] h (.inl (some (.int z.1))) z.2 := by
  have hle0 : g_X → g_Le h z.2 := by
    intro X0
    unfold Law_moveBest at hy
    replace hy := g_nn_inv hy
    obtain ⟨a1, rfl, hy⟩ := hy
    replace hy := g_is_inv hy
    obtain ⟨fs1, hc1, hy⟩ := hy
    replace hy := g_bh_inv hy
    rcases hy with ⟨x1, h1, hf1, hy⟩ | ⟨E1, q1, h1, hf1, hy⟩
    · have b1 := (T_Desk_moveBest0 (l := x_l X0) (B := x_B X0) (hy := hf1)).1 X0
      replace hy := g_nn_inv hy; obtain ⟨a2, rfl, hy⟩ := hy; replace hy := g_sL_inv hy; obtain ⟨n2, f2, hc2, hi2, hy⟩ := hy; cases hy; exact b1.tr (g_Le.up hc2)
    · have b1 := (T_Desk_moveBest0 (l := x_l X0) (B := x_B X0) (hy := hf1)).1 X0
      repeat (first | (cases hy; done) | (cases hy; exact b1) | split at hy)
  refine g_startR (Lc := [(0, va_rf p0), (1, .int p1), (2, .int p2), (3, va_rf p3)]) (by decide) rfl rfl (by rcases p0 with _ | p0 <;> rcases p3 with _ | p3 <;> exact Nat.le_of_ble_eq_true rfl) (by rcases p0 with _ | p0 <;> rcases p3 with _ | p3 <;> rfl) hle0 (fun X => ?_) rfl
  unfold Law_moveBest at hy
  refine g_aloadO_n 3 (i := 3) (pc' := 1) d_Law_moveBest_0 rfl rfl rfl ?_
  refine g_iconst (v := (0 : Int32)) (pc' := 2) d_Law_moveBest_1 (by decide) rfl ?_
  refine g_aloadO_n 0 (i := 0) (pc' := 3) d_Law_moveBest_2 rfl rfl rfl ?_
  refine g_iload_n 1 (i := 1) (pc' := 4) d_Law_moveBest_3 rfl rfl rfl ?_
  refine g_iload_n 2 (i := 2) (pc' := 5) d_Law_moveBest_4 rfl rfl rfl ?_
  replace hy := g_nn_inv hy
  obtain ⟨a1, rfl, hy⟩ := hy
  replace hy := g_is_inv hy
  obtain ⟨fs2, hc3, hy⟩ := hy
  replace hy := g_bh_inv hy
  rcases hy with ⟨x4, h5, hf6, hy⟩ | ⟨E9, q9, h5, hf6, hy⟩
  rotate_left
  · by_cases e9 : E9 = "java/lang/IndexOutOfBoundsException"
    · subst e9
      rw [if_pos rfl] at hy
      cases hy
      refine g_callVH (pre := []) (suf := []) (x := (0, 10, 13, 27)) (nm := "java/lang/IndexOutOfBoundsException") (pc' := 13) (As := [.int p1, .int p2]) (rest := [.int (0 : Int32), va_rf p3]) 2 (T_Desk_moveBest0 (hy := hf6)) d_Law_moveBest_5 hc3 rfl rfl q1672 q1673 q1674 q108 q1675 hd_Desk_moveBest0 rfl ⟨by decide, by decide⟩ (by first | exact Nat.le_of_ble_eq_true rfl | (simp only [List.map, List.sum_cons, List.sum_nil, g_cat_rf]; exact Nat.le_of_ble_eq_true rfl) | (simp only [List.map, List.sum_cons, List.sum_nil, g_cat_rf, Value.category]; decide)) (by decide) rfl (fun z hz => by cases hz) (by decide) (by decide) q1353 q1385 rfl ?_
      intro n9 a9 hn9 ha9
      refine g_astore (pc' := 15) (Lc' := [(4, .ref a9), (0, .ref a1), (1, .int p1), (2, .int p2), (3, va_rf p3)]) d_Law_moveBest_13 (by decide) (by cases p3 <;> rfl) rfl ?_
      refine g_iconst (v := (1 : Int32)) (pc' := 16) d_Law_moveBest_15 (by decide) rfl ?_
      exact g_iretR n9 rfl rfl rfl hn9 rfl d_Law_moveBest_16
    · rw [if_neg e9] at hy
      cases hy
  refine g_callV (rv := some (.int x4)) (h1 := h5) (pc' := 8) (As := [.int p1, .int p2]) (rest := [.int (0 : Int32), va_rf p3]) 2 (T_Desk_moveBest0 (hy := hf6)) d_Law_moveBest_5 hc3 rfl rfl q1672 q1673 q1674 q108 q1675 hd_Desk_moveBest0 rfl ⟨by decide, by decide⟩ (by first | exact Nat.le_of_ble_eq_true rfl | (simp only [List.map, List.sum_cons, List.sum_nil, g_cat_rf]; exact Nat.le_of_ble_eq_true rfl) | (simp only [List.map, List.sum_cons, List.sum_nil, g_cat_rf, Value.category]; decide)) rfl ?_
  refine g_i2l (pc' := 9) d_Law_moveBest_8 rfl ?_
  replace hy := g_nn_inv hy
  obtain ⟨a7, rfl, hy⟩ := hy
  replace hy := g_sL_inv hy
  obtain ⟨n8, f9, hc10, hi11, hy⟩ := hy
  refine g_last (pc' := 10) d_Law_moveBest_9 hc10 hi11 rfl ?_
  generalize g_up h5 a7 (.inl (3, n8, .inr (.inl (vp_updL f9 ((0 : Int32)).toNatClampNeg ((x4).toInt64))))) = h12 at hy ⊢
  refine g_goto (pc' := 17) d_Law_moveBest_10 (by decide) ?_
  refine g_iconst (v := (0 : Int32)) (pc' := 18) d_Law_moveBest_17 (by decide) rfl ?_
  cases hy
  exact g_iret rfl rfl rfl d_Law_moveBest_18
theorem hd_Law_moveBest : g_dsc y_Law_moveBest 4 := ⟨by decide +kernel, by decide +kernel, by decide +kernel⟩
/-! CircuitDeskLaw.abort(LCircuitDesk;I[J)I -/
abbrev y_Law_abort : MethodName := ⟨"CircuitDeskLaw", "abort", "(LCircuitDesk;I[J)I"⟩
abbrev k_Law_abort : g_M := (method_20_code, 4, "CircuitDeskLaw", 20, (some FieldType.int), "abort", [(0, 9, 12, 27)], 1)
theorem d_Law_abort_0 : decode method_20_code 0 = .ok (.aload_n 2, 1) := by decide +kernel
theorem d_Law_abort_1 : decode method_20_code 1 = .ok (.iconst 0, 1) := by decide +kernel
theorem d_Law_abort_2 : decode method_20_code 2 = .ok (.aload_n 0, 1) := by decide +kernel
theorem d_Law_abort_3 : decode method_20_code 3 = .ok (.iload_n 1, 1) := by decide +kernel
theorem d_Law_abort_4 : decode method_20_code 4 = .ok (.invokevirtual 71, 3) := by decide +kernel
theorem d_Law_abort_7 : decode method_20_code 7 = .ok (.i2l, 1) := by decide +kernel
theorem d_Law_abort_8 : decode method_20_code 8 = .ok (.lastore, 1) := by decide +kernel
theorem d_Law_abort_9 : decode method_20_code 9 = .ok (.goto 6, 3) := by decide +kernel
theorem d_Law_abort_12 : decode method_20_code 12 = .ok (.astore_n 3, 1) := by decide +kernel
theorem d_Law_abort_13 : decode method_20_code 13 = .ok (.iconst 1, 1) := by decide +kernel
theorem d_Law_abort_14 : decode method_20_code 14 = .ok (.ireturn, 1) := by decide +kernel
theorem d_Law_abort_15 : decode method_20_code 15 = .ok (.iconst 0, 1) := by decide +kernel
theorem d_Law_abort_16 : decode method_20_code 16 = .ok (.ireturn, 1) := by decide +kernel
def Law_abort (h : g_AH) (p0 : Option Nat) (p1 : Int32) (p2 : Option Nat) : Option (Int32 × g_AH) :=
  g_nn p0 fun a1 => g_is h a1 0 <| g_bh (Desk_abort h a1 p1) (fun E9 _ h9 => if E9 = "java/lang/IndexOutOfBoundsException" then some ((1 : Int32), h9) else none) fun x4 h5 => g_nn p2 fun a7 => g_sL h5 a7 (0 : Int32) ((x4).toInt64) fun h12 => some ((0 : Int32), h12)
set_option maxHeartbeats 4000000 in
set_option maxRecDepth 100000 in
theorem T_Law_abort {l : Launch} {B : g_B} (h : g_AH) (p0 : Option Nat) (p1 : Int32) (p2 : Option Nat) (z : Int32 × g_AH) (hy : Law_abort h p0 p1 p2 = some z) : g_CTR l B y_Law_abort k_Law_abort [va_rf p0, .int p1, va_rf p2] h (.inl (some (.int z.1))) z.2 := by
  have hle0 : g_X → g_Le h z.2 := by
    intro X0
    unfold Law_abort at hy
    replace hy := g_nn_inv hy
    obtain ⟨a1, rfl, hy⟩ := hy
    replace hy := g_is_inv hy
    obtain ⟨fs1, hc1, hy⟩ := hy
    replace hy := g_bh_inv hy
    rcases hy with ⟨x1, h1, hf1, hy⟩ | ⟨E1, q1, h1, hf1, hy⟩
    · have b1 := (T_Desk_abort (l := x_l X0) (B := x_B X0) (hy := hf1)).1 X0
      replace hy := g_nn_inv hy; obtain ⟨a2, rfl, hy⟩ := hy; replace hy := g_sL_inv hy; obtain ⟨n2, f2, hc2, hi2, hy⟩ := hy; cases hy; exact b1.tr (g_Le.up hc2)
    · have b1 := (T_Desk_abort (l := x_l X0) (B := x_B X0) (hy := hf1)).1 X0
      repeat (first | (cases hy; done) | (cases hy; exact b1) | split at hy)
  refine g_startR (Lc := [(0, va_rf p0), (1, .int p1), (2, va_rf p2)]) (by decide) rfl rfl (by rcases p0 with _ | p0 <;> rcases p2 with _ | p2 <;> exact Nat.le_of_ble_eq_true rfl) (by rcases p0 with _ | p0 <;> rcases p2 with _ | p2 <;> rfl) hle0 (fun X => ?_) rfl
  unfold Law_abort at hy
  refine g_aloadO_n 2 (i := 2) (pc' := 1) d_Law_abort_0 rfl rfl rfl ?_
  refine g_iconst (v := (0 : Int32)) (pc' := 2) d_Law_abort_1 (by decide) rfl ?_
  refine g_aloadO_n 0 (i := 0) (pc' := 3) d_Law_abort_2 rfl rfl rfl ?_
  refine g_iload_n 1 (i := 1) (pc' := 4) d_Law_abort_3 rfl rfl rfl ?_
  replace hy := g_nn_inv hy
  obtain ⟨a1, rfl, hy⟩ := hy
  replace hy := g_is_inv hy
  obtain ⟨fs2, hc3, hy⟩ := hy
  replace hy := g_bh_inv hy
  rcases hy with ⟨x4, h5, hf6, hy⟩ | ⟨E9, q9, h5, hf6, hy⟩
  rotate_left
  · by_cases e9 : E9 = "java/lang/IndexOutOfBoundsException"
    · subst e9
      rw [if_pos rfl] at hy
      cases hy
      refine g_callVH (pre := []) (suf := []) (x := (0, 9, 12, 27)) (nm := "java/lang/IndexOutOfBoundsException") (pc' := 12) (As := [.int p1]) (rest := [.int (0 : Int32), va_rf p2]) 1 (T_Desk_abort (hy := hf6)) d_Law_abort_4 hc3 rfl rfl q1687 q1688 q1689 q108 q1690 hd_Desk_abort rfl ⟨by decide, by decide⟩ (by first | exact Nat.le_of_ble_eq_true rfl | (simp only [List.map, List.sum_cons, List.sum_nil, g_cat_rf]; exact Nat.le_of_ble_eq_true rfl) | (simp only [List.map, List.sum_cons, List.sum_nil, g_cat_rf, Value.category]; decide)) (by decide) rfl (fun z hz => by cases hz) (by decide) (by decide) q1353 q1385 rfl ?_
      intro n9 a9 hn9 ha9
      refine g_astore_n (i := 3) (pc' := 13) (Lc' := [(3, .ref a9), (0, .ref a1), (1, .int p1), (2, va_rf p2)]) d_Law_abort_12 rfl (by decide) (by cases p2 <;> rfl) rfl ?_
      refine g_iconst (v := (1 : Int32)) (pc' := 14) d_Law_abort_13 (by decide) rfl ?_
      exact g_iretR n9 rfl rfl rfl hn9 rfl d_Law_abort_14
    · rw [if_neg e9] at hy
      cases hy
  refine g_callV (rv := some (.int x4)) (h1 := h5) (pc' := 7) (As := [.int p1]) (rest := [.int (0 : Int32), va_rf p2]) 1 (T_Desk_abort (hy := hf6)) d_Law_abort_4 hc3 rfl rfl q1687 q1688 q1689 q108 q1690 hd_Desk_abort rfl ⟨by decide, by decide⟩ (by first | exact Nat.le_of_ble_eq_true rfl | (simp only [List.map, List.sum_cons, List.sum_nil, g_cat_rf]; exact Nat.le_of_ble_eq_true rfl) | (simp only [List.map, List.sum_cons, List.sum_nil, g_cat_rf, Value.category]; decide)) rfl ?_
  refine g_i2l (pc' := 8) d_Law_abort_7 rfl ?_
  replace hy := g_nn_inv hy
  obtain ⟨a7, rfl, hy⟩ := hy
  replace hy := g_sL_inv hy
  obtain ⟨n8, f9, hc10, hi11, hy⟩ := hy
  refine g_last (pc' := 9) d_Law_abort_8 hc10 hi11 rfl ?_
  generalize g_up h5 a7 (.inl (3, n8, .inr (.inl (vp_updL f9 ((0 : Int32)).toNatClampNeg ((x4).toInt64))))) = h12 at hy ⊢
  refine g_goto (pc' := 15) d_Law_abort_9 (by decide) ?_
  refine g_iconst (v := (0 : Int32)) (pc' := 16) d_Law_abort_15 (by decide) rfl ?_
  cases hy
  exact g_iret rfl rfl rfl d_Law_abort_16
theorem hd_Law_abort : g_dsc y_Law_abort 3 := ⟨by decide +kernel, by decide +kernel, by decide +kernel⟩
/-! CircuitDeskLaw.offer(LCircuitDesk;II[J)I -/
abbrev y_Law_offer : MethodName := ⟨"CircuitDeskLaw", "offer", "(LCircuitDesk;II[J)I"⟩
abbrev k_Law_offer : g_M := (method_21_code, 5, "CircuitDeskLaw", 20, (some FieldType.int), "offer", [(0, 10, 13, 27), (0, 10, 17, 18)], 1)
theorem d_Law_offer_0 : decode method_21_code 0 = .ok (.aload_n 3, 1) := by decide +kernel
theorem d_Law_offer_1 : decode method_21_code 1 = .ok (.iconst 0, 1) := by decide +kernel
theorem d_Law_offer_2 : decode method_21_code 2 = .ok (.aload_n 0, 1) := by decide +kernel
theorem d_Law_offer_3 : decode method_21_code 3 = .ok (.iload_n 1, 1) := by decide +kernel
theorem d_Law_offer_4 : decode method_21_code 4 = .ok (.iload_n 2, 1) := by decide +kernel
theorem d_Law_offer_5 : decode method_21_code 5 = .ok (.invokevirtual 74, 3) := by decide +kernel
theorem d_Law_offer_8 : decode method_21_code 8 = .ok (.i2l, 1) := by decide +kernel
theorem d_Law_offer_9 : decode method_21_code 9 = .ok (.lastore, 1) := by decide +kernel
theorem d_Law_offer_10 : decode method_21_code 10 = .ok (.goto 11, 3) := by decide +kernel
theorem d_Law_offer_13 : decode method_21_code 13 = .ok (.astore 4, 2) := by decide +kernel
theorem d_Law_offer_15 : decode method_21_code 15 = .ok (.iconst 1, 1) := by decide +kernel
theorem d_Law_offer_16 : decode method_21_code 16 = .ok (.ireturn, 1) := by decide +kernel
theorem d_Law_offer_17 : decode method_21_code 17 = .ok (.astore 4, 2) := by decide +kernel
theorem d_Law_offer_19 : decode method_21_code 19 = .ok (.iconst 2, 1) := by decide +kernel
theorem d_Law_offer_20 : decode method_21_code 20 = .ok (.ireturn, 1) := by decide +kernel
theorem d_Law_offer_21 : decode method_21_code 21 = .ok (.iconst 0, 1) := by decide +kernel
theorem d_Law_offer_22 : decode method_21_code 22 = .ok (.ireturn, 1) := by decide +kernel
def Law_offer (h : g_AH) (p0 : Option Nat) (p1 : Int32) (p2 : Int32) (p3 : Option Nat) : Option (Int32 × g_AH) :=
  g_nn p0 fun a1 => g_is h a1 0 <| g_bh (Desk_offer h a1 p1 p2) (fun E9 _ h9 => if E9 = "java/lang/IndexOutOfBoundsException" then some ((1 : Int32), h9) else if E9 = "java/lang/IllegalArgumentException" then some ((2 : Int32), h9) else none) fun x4 h5 => g_nn p3 fun a7 => g_sL h5 a7 (0 : Int32) ((x4).toInt64) fun h12 => some ((0 : Int32), h12)
set_option maxHeartbeats 4000000 in
set_option maxRecDepth 100000 in
theorem T_Law_offer {l : Launch} {B : g_B} (h : g_AH) (p0 : Option Nat) (p1 : Int32) (p2 : Int32) (p3 : Option Nat) (z : Int32 × g_AH) (hy : Law_offer h p0 p1 p2 p3 = some z) : g_CTR l B y_Law_offer k_Law_offer [va_rf p0, .int p1, .int p2, va_rf p3] h (.inl (some (.int z.1))) z.2 := by
  have hle0 : g_X → g_Le h z.2 := by
    intro X0
    unfold Law_offer at hy
    replace hy := g_nn_inv hy
    obtain ⟨a1, rfl, hy⟩ := hy
    replace hy := g_is_inv hy
    obtain ⟨fs1, hc1, hy⟩ := hy
    replace hy := g_bh_inv hy
    rcases hy with ⟨x1, h1, hf1, hy⟩ | ⟨E1, q1, h1, hf1, hy⟩
    · have b1 := (T_Desk_offer (l := x_l X0) (B := x_B X0) (hy := hf1)).1 X0
      replace hy := g_nn_inv hy; obtain ⟨a2, rfl, hy⟩ := hy; replace hy := g_sL_inv hy; obtain ⟨n2, f2, hc2, hi2, hy⟩ := hy; cases hy; exact b1.tr (g_Le.up hc2)
    · have b1 := (T_Desk_offer (l := x_l X0) (B := x_B X0) (hy := hf1)).1 X0
      repeat (first | (cases hy; done) | (cases hy; exact b1) | split at hy)
  refine g_startR (Lc := [(0, va_rf p0), (1, .int p1), (2, .int p2), (3, va_rf p3)]) (by decide) rfl rfl (by rcases p0 with _ | p0 <;> rcases p3 with _ | p3 <;> exact Nat.le_of_ble_eq_true rfl) (by rcases p0 with _ | p0 <;> rcases p3 with _ | p3 <;> rfl) hle0 (fun X => ?_) rfl
  unfold Law_offer at hy
  refine g_aloadO_n 3 (i := 3) (pc' := 1) d_Law_offer_0 rfl rfl rfl ?_
  refine g_iconst (v := (0 : Int32)) (pc' := 2) d_Law_offer_1 (by decide) rfl ?_
  refine g_aloadO_n 0 (i := 0) (pc' := 3) d_Law_offer_2 rfl rfl rfl ?_
  refine g_iload_n 1 (i := 1) (pc' := 4) d_Law_offer_3 rfl rfl rfl ?_
  refine g_iload_n 2 (i := 2) (pc' := 5) d_Law_offer_4 rfl rfl rfl ?_
  replace hy := g_nn_inv hy
  obtain ⟨a1, rfl, hy⟩ := hy
  replace hy := g_is_inv hy
  obtain ⟨fs2, hc3, hy⟩ := hy
  replace hy := g_bh_inv hy
  rcases hy with ⟨x4, h5, hf6, hy⟩ | ⟨E9, q9, h5, hf6, hy⟩
  rotate_left
  · by_cases e9 : E9 = "java/lang/IndexOutOfBoundsException"
    · subst e9
      rw [if_pos rfl] at hy
      cases hy
      refine g_callVH (pre := []) (suf := [(0, 10, 17, 18)]) (x := (0, 10, 13, 27)) (nm := "java/lang/IndexOutOfBoundsException") (pc' := 13) (As := [.int p1, .int p2]) (rest := [.int (0 : Int32), va_rf p3]) 2 (T_Desk_offer (hy := hf6)) d_Law_offer_5 hc3 rfl rfl q1698 q1699 q1700 q108 q1701 hd_Desk_offer rfl ⟨by decide, by decide⟩ (by first | exact Nat.le_of_ble_eq_true rfl | (simp only [List.map, List.sum_cons, List.sum_nil, g_cat_rf]; exact Nat.le_of_ble_eq_true rfl) | (simp only [List.map, List.sum_cons, List.sum_nil, g_cat_rf, Value.category]; decide)) (by decide) rfl (fun z hz => by cases hz) (by decide) (by decide) q1353 q1385 rfl ?_
      intro n9 a9 hn9 ha9
      refine g_astore (pc' := 15) (Lc' := [(4, .ref a9), (0, .ref a1), (1, .int p1), (2, .int p2), (3, va_rf p3)]) d_Law_offer_13 (by decide) (by cases p3 <;> rfl) rfl ?_
      refine g_iconst (v := (1 : Int32)) (pc' := 16) d_Law_offer_15 (by decide) rfl ?_
      exact g_iretR n9 rfl rfl rfl hn9 rfl d_Law_offer_16
    · rw [if_neg e9] at hy
      by_cases e9 : E9 = "java/lang/IllegalArgumentException"
      · subst e9
        rw [if_pos rfl] at hy
        cases hy
        refine g_callVH (pre := [(0, 10, 13, 27)]) (suf := []) (x := (0, 10, 17, 18)) (nm := "java/lang/IllegalArgumentException") (pc' := 17) (As := [.int p1, .int p2]) (rest := [.int (0 : Int32), va_rf p3]) 2 (T_Desk_offer (hy := hf6)) d_Law_offer_5 hc3 rfl rfl q1698 q1699 q1700 q108 q1701 hd_Desk_offer rfl ⟨by decide, by decide⟩ (by first | exact Nat.le_of_ble_eq_true rfl | (simp only [List.map, List.sum_cons, List.sum_nil, g_cat_rf]; exact Nat.le_of_ble_eq_true rfl) | (simp only [List.map, List.sum_cons, List.sum_nil, g_cat_rf, Value.category]; decide)) (by decide) rfl (fun z hz => by rcases List.mem_cons.mp hz with rfl | hz; exact ⟨by decide, "java/lang/IndexOutOfBoundsException", q1353, by decide +kernel⟩; cases hz) (by decide) (by decide) q1325 q180 rfl ?_
        intro n9 a9 hn9 ha9
        refine g_astore (pc' := 19) (Lc' := [(4, .ref a9), (0, .ref a1), (1, .int p1), (2, .int p2), (3, va_rf p3)]) d_Law_offer_17 (by decide) (by cases p3 <;> rfl) rfl ?_
        refine g_iconst (v := (2 : Int32)) (pc' := 20) d_Law_offer_19 (by decide) rfl ?_
        exact g_iretR n9 rfl rfl rfl hn9 rfl d_Law_offer_20
      · rw [if_neg e9] at hy
        cases hy
  refine g_callV (rv := some (.int x4)) (h1 := h5) (pc' := 8) (As := [.int p1, .int p2]) (rest := [.int (0 : Int32), va_rf p3]) 2 (T_Desk_offer (hy := hf6)) d_Law_offer_5 hc3 rfl rfl q1698 q1699 q1700 q108 q1701 hd_Desk_offer rfl ⟨by decide, by decide⟩ (by first | exact Nat.le_of_ble_eq_true rfl | (simp only [List.map, List.sum_cons, List.sum_nil, g_cat_rf]; exact Nat.le_of_ble_eq_true rfl) | (simp only [List.map, List.sum_cons, List.sum_nil, g_cat_rf, Value.category]; decide)) rfl ?_
  refine g_i2l (pc' := 9) d_Law_offer_8 rfl ?_
  replace hy := g_nn_inv hy
  obtain ⟨a7, rfl, hy⟩ := hy
  replace hy := g_sL_inv hy
  obtain ⟨n8, f9, hc10, hi11, hy⟩ := hy
  refine g_last (pc' := 10) d_Law_offer_9 hc10 hi11 rfl ?_
  generalize g_up h5 a7 (.inl (3, n8, .inr (.inl (vp_updL f9 ((0 : Int32)).toNatClampNeg ((x4).toInt64))))) = h12 at hy ⊢
  refine g_goto (pc' := 21) d_Law_offer_10 (by decide) ?_
  refine g_iconst (v := (0 : Int32)) (pc' := 22) d_Law_offer_21 (by decide) rfl ?_
  cases hy
  exact g_iret rfl rfl rfl d_Law_offer_22
theorem hd_Law_offer : g_dsc y_Law_offer 4 := ⟨by decide +kernel, by decide +kernel, by decide +kernel⟩
/-! CircuitDeskLaw.run(LCircuitDesk;I[J)I -/
abbrev y_Law_run : MethodName := ⟨"CircuitDeskLaw", "run", "(LCircuitDesk;I[J)I"⟩
abbrev k_Law_run : g_M := (method_22_code, 4, "CircuitDeskLaw", 24, (some FieldType.int), "run", [(0, 9, 12, 18)], 1)
theorem d_Law_run_0 : decode method_22_code 0 = .ok (.aload_n 2, 1) := by decide +kernel
theorem d_Law_run_1 : decode method_22_code 1 = .ok (.iconst 0, 1) := by decide +kernel
theorem d_Law_run_2 : decode method_22_code 2 = .ok (.aload_n 0, 1) := by decide +kernel
theorem d_Law_run_3 : decode method_22_code 3 = .ok (.iload_n 1, 1) := by decide +kernel
theorem d_Law_run_4 : decode method_22_code 4 = .ok (.invokevirtual 77, 3) := by decide +kernel
theorem d_Law_run_7 : decode method_22_code 7 = .ok (.i2l, 1) := by decide +kernel
theorem d_Law_run_8 : decode method_22_code 8 = .ok (.lastore, 1) := by decide +kernel
theorem d_Law_run_9 : decode method_22_code 9 = .ok (.goto 6, 3) := by decide +kernel
theorem d_Law_run_12 : decode method_22_code 12 = .ok (.astore_n 3, 1) := by decide +kernel
theorem d_Law_run_13 : decode method_22_code 13 = .ok (.iconst 1, 1) := by decide +kernel
theorem d_Law_run_14 : decode method_22_code 14 = .ok (.ireturn, 1) := by decide +kernel
theorem d_Law_run_15 : decode method_22_code 15 = .ok (.iconst 0, 1) := by decide +kernel
theorem d_Law_run_16 : decode method_22_code 16 = .ok (.ireturn, 1) := by decide +kernel
def Law_run (h : g_AH) (p0 : Option Nat) (p1 : Int32) (p2 : Option Nat) : Option (Int32 × g_AH) :=
  g_nn p0 fun a1 => g_is h a1 0 <| g_bh (Desk_run h a1 p1) (fun E9 _ h9 => if E9 = "java/lang/IllegalArgumentException" then some ((1 : Int32), h9) else none) fun x4 h5 => g_nn p2 fun a7 => g_sL h5 a7 (0 : Int32) ((x4).toInt64) fun h12 => some ((0 : Int32), h12)
set_option maxHeartbeats 4000000 in
set_option maxRecDepth 100000 in
theorem T_Law_run {l : Launch} {B : g_B} (h : g_AH) (p0 : Option Nat) (p1 : Int32) (p2 : Option Nat) (z : Int32 × g_AH) (hy : Law_run h p0 p1 p2 = some z) : g_CTR l B y_Law_run k_Law_run [va_rf p0, .int p1, va_rf p2] h (.inl (some (.int z.1))) z.2 := by
  have hle0 : g_X → g_Le h z.2 := by
    intro X0
    unfold Law_run at hy
    replace hy := g_nn_inv hy
    obtain ⟨a1, rfl, hy⟩ := hy
    replace hy := g_is_inv hy
    obtain ⟨fs1, hc1, hy⟩ := hy
    replace hy := g_bh_inv hy
    rcases hy with ⟨x1, h1, hf1, hy⟩ | ⟨E1, q1, h1, hf1, hy⟩
    · have b1 := (T_Desk_run (l := x_l X0) (B := x_B X0) (hy := hf1)).1 X0
      replace hy := g_nn_inv hy; obtain ⟨a2, rfl, hy⟩ := hy; replace hy := g_sL_inv hy; obtain ⟨n2, f2, hc2, hi2, hy⟩ := hy; cases hy; exact b1.tr (g_Le.up hc2)
    · have b1 := (T_Desk_run (l := x_l X0) (B := x_B X0) (hy := hf1)).1 X0
      repeat (first | (cases hy; done) | (cases hy; exact b1) | split at hy)
  refine g_startR (Lc := [(0, va_rf p0), (1, .int p1), (2, va_rf p2)]) (by decide) rfl rfl (by rcases p0 with _ | p0 <;> rcases p2 with _ | p2 <;> exact Nat.le_of_ble_eq_true rfl) (by rcases p0 with _ | p0 <;> rcases p2 with _ | p2 <;> rfl) hle0 (fun X => ?_) rfl
  unfold Law_run at hy
  refine g_aloadO_n 2 (i := 2) (pc' := 1) d_Law_run_0 rfl rfl rfl ?_
  refine g_iconst (v := (0 : Int32)) (pc' := 2) d_Law_run_1 (by decide) rfl ?_
  refine g_aloadO_n 0 (i := 0) (pc' := 3) d_Law_run_2 rfl rfl rfl ?_
  refine g_iload_n 1 (i := 1) (pc' := 4) d_Law_run_3 rfl rfl rfl ?_
  replace hy := g_nn_inv hy
  obtain ⟨a1, rfl, hy⟩ := hy
  replace hy := g_is_inv hy
  obtain ⟨fs2, hc3, hy⟩ := hy
  replace hy := g_bh_inv hy
  rcases hy with ⟨x4, h5, hf6, hy⟩ | ⟨E9, q9, h5, hf6, hy⟩
  rotate_left
  · by_cases e9 : E9 = "java/lang/IllegalArgumentException"
    · subst e9
      rw [if_pos rfl] at hy
      cases hy
      refine g_callVH (pre := []) (suf := []) (x := (0, 9, 12, 18)) (nm := "java/lang/IllegalArgumentException") (pc' := 12) (As := [.int p1]) (rest := [.int (0 : Int32), va_rf p2]) 1 (T_Desk_run (hy := hf6)) d_Law_run_4 hc3 rfl rfl q1710 q1711 q1712 q108 q1713 hd_Desk_run rfl ⟨by decide, by decide⟩ (by first | exact Nat.le_of_ble_eq_true rfl | (simp only [List.map, List.sum_cons, List.sum_nil, g_cat_rf]; exact Nat.le_of_ble_eq_true rfl) | (simp only [List.map, List.sum_cons, List.sum_nil, g_cat_rf, Value.category]; decide)) (by decide) rfl (fun z hz => by cases hz) (by decide) (by decide) q1325 q180 rfl ?_
      intro n9 a9 hn9 ha9
      refine g_astore_n (i := 3) (pc' := 13) (Lc' := [(3, .ref a9), (0, .ref a1), (1, .int p1), (2, va_rf p2)]) d_Law_run_12 rfl (by decide) (by cases p2 <;> rfl) rfl ?_
      refine g_iconst (v := (1 : Int32)) (pc' := 14) d_Law_run_13 (by decide) rfl ?_
      exact g_iretR n9 rfl rfl rfl hn9 rfl d_Law_run_14
    · rw [if_neg e9] at hy
      cases hy
  refine g_callV (rv := some (.int x4)) (h1 := h5) (pc' := 7) (As := [.int p1]) (rest := [.int (0 : Int32), va_rf p2]) 1 (T_Desk_run (hy := hf6)) d_Law_run_4 hc3 rfl rfl q1710 q1711 q1712 q108 q1713 hd_Desk_run rfl ⟨by decide, by decide⟩ (by first | exact Nat.le_of_ble_eq_true rfl | (simp only [List.map, List.sum_cons, List.sum_nil, g_cat_rf]; exact Nat.le_of_ble_eq_true rfl) | (simp only [List.map, List.sum_cons, List.sum_nil, g_cat_rf, Value.category]; decide)) rfl ?_
  refine g_i2l (pc' := 8) d_Law_run_7 rfl ?_
  replace hy := g_nn_inv hy
  obtain ⟨a7, rfl, hy⟩ := hy
  replace hy := g_sL_inv hy
  obtain ⟨n8, f9, hc10, hi11, hy⟩ := hy
  refine g_last (pc' := 9) d_Law_run_8 hc10 hi11 rfl ?_
  generalize g_up h5 a7 (.inl (3, n8, .inr (.inl (vp_updL f9 ((0 : Int32)).toNatClampNeg ((x4).toInt64))))) = h12 at hy ⊢
  refine g_goto (pc' := 15) d_Law_run_9 (by decide) ?_
  refine g_iconst (v := (0 : Int32)) (pc' := 16) d_Law_run_15 (by decide) rfl ?_
  cases hy
  exact g_iret rfl rfl rfl d_Law_run_16
theorem hd_Law_run : g_dsc y_Law_run 3 := ⟨by decide +kernel, by decide +kernel, by decide +kernel⟩
/-! CircuitDeskLaw.circuit(LCircuitDesk;II[J)I -/
abbrev y_Law_circuit : MethodName := ⟨"CircuitDeskLaw", "circuit", "(LCircuitDesk;II[J)I"⟩
abbrev k_Law_circuit : g_M := (method_23_code, 5, "CircuitDeskLaw", 20, (some FieldType.int), "circuit", [(0, 10, 13, 27), (0, 10, 17, 18)], 1)
theorem d_Law_circuit_0 : decode method_23_code 0 = .ok (.aload_n 3, 1) := by decide +kernel
theorem d_Law_circuit_1 : decode method_23_code 1 = .ok (.iconst 0, 1) := by decide +kernel
theorem d_Law_circuit_2 : decode method_23_code 2 = .ok (.aload_n 0, 1) := by decide +kernel
theorem d_Law_circuit_3 : decode method_23_code 3 = .ok (.iload_n 1, 1) := by decide +kernel
theorem d_Law_circuit_4 : decode method_23_code 4 = .ok (.iload_n 2, 1) := by decide +kernel
theorem d_Law_circuit_5 : decode method_23_code 5 = .ok (.invokevirtual 80, 3) := by decide +kernel
theorem d_Law_circuit_8 : decode method_23_code 8 = .ok (.i2l, 1) := by decide +kernel
theorem d_Law_circuit_9 : decode method_23_code 9 = .ok (.lastore, 1) := by decide +kernel
theorem d_Law_circuit_10 : decode method_23_code 10 = .ok (.goto 11, 3) := by decide +kernel
theorem d_Law_circuit_13 : decode method_23_code 13 = .ok (.astore 4, 2) := by decide +kernel
theorem d_Law_circuit_15 : decode method_23_code 15 = .ok (.iconst 1, 1) := by decide +kernel
theorem d_Law_circuit_16 : decode method_23_code 16 = .ok (.ireturn, 1) := by decide +kernel
theorem d_Law_circuit_17 : decode method_23_code 17 = .ok (.astore 4, 2) := by decide +kernel
theorem d_Law_circuit_19 : decode method_23_code 19 = .ok (.iconst 2, 1) := by decide +kernel
theorem d_Law_circuit_20 : decode method_23_code 20 = .ok (.ireturn, 1) := by decide +kernel
theorem d_Law_circuit_21 : decode method_23_code 21 = .ok (.iconst 0, 1) := by decide +kernel
theorem d_Law_circuit_22 : decode method_23_code 22 = .ok (.ireturn, 1) := by decide +kernel
def Law_circuit (h : g_AH) (p0 : Option Nat) (p1 : Int32) (p2 : Int32) (p3 : Option Nat) : Option (Int32 × g_AH) :=
  g_nn p0 fun a1 => g_is h a1 0 <| g_bh (Desk_circuit h a1 p1 p2) (fun E9 _ h9 => if E9 = "java/lang/IndexOutOfBoundsException" then some ((1 : Int32), h9) else if E9 = "java/lang/IllegalArgumentException" then some ((2 : Int32), h9) else none) fun x4 h5 => g_nn p3 fun a7 => g_sL h5 a7 (0 : Int32) ((x4).toInt64) fun h12 => some ((0 : Int32), h12)
set_option maxHeartbeats 4000000 in
set_option maxRecDepth 100000 in
theorem T_Law_circuit {l : Launch} {B : g_B} (h : g_AH) (p0 : Option Nat) (p1 : Int32) (p2 : Int32) (p3 : Option Nat) (z : Int32 × g_AH) (hy : Law_circuit h p0 p1 p2 p3 = some z) : g_CTR l B y_Law_circuit k_Law_circuit [va_rf p0, .int p1, .int p2, va_rf p3] h (.inl (some (.int z.1))) z.2 := by
  have hle0 : g_X → g_Le h z.2 := by
    intro X0
    unfold Law_circuit at hy
    replace hy := g_nn_inv hy
    obtain ⟨a1, rfl, hy⟩ := hy
    replace hy := g_is_inv hy
    obtain ⟨fs1, hc1, hy⟩ := hy
    replace hy := g_bh_inv hy
    rcases hy with ⟨x1, h1, hf1, hy⟩ | ⟨E1, q1, h1, hf1, hy⟩
    · have b1 := (T_Desk_circuit (l := x_l X0) (B := x_B X0) (hy := hf1)).1 X0
      replace hy := g_nn_inv hy; obtain ⟨a2, rfl, hy⟩ := hy; replace hy := g_sL_inv hy; obtain ⟨n2, f2, hc2, hi2, hy⟩ := hy; cases hy; exact b1.tr (g_Le.up hc2)
    · have b1 := (T_Desk_circuit (l := x_l X0) (B := x_B X0) (hy := hf1)).1 X0
      repeat (first | (cases hy; done) | (cases hy; exact b1) | split at hy)
  refine g_startR (Lc := [(0, va_rf p0), (1, .int p1), (2, .int p2), (3, va_rf p3)]) (by decide) rfl rfl (by rcases p0 with _ | p0 <;> rcases p3 with _ | p3 <;> exact Nat.le_of_ble_eq_true rfl) (by rcases p0 with _ | p0 <;> rcases p3 with _ | p3 <;> rfl) hle0 (fun X => ?_) rfl
  unfold Law_circuit at hy
  refine g_aloadO_n 3 (i := 3) (pc' := 1) d_Law_circuit_0 rfl rfl rfl ?_
  refine g_iconst (v := (0 : Int32)) (pc' := 2) d_Law_circuit_1 (by decide) rfl ?_
  refine g_aloadO_n 0 (i := 0) (pc' := 3) d_Law_circuit_2 rfl rfl rfl ?_
  refine g_iload_n 1 (i := 1) (pc' := 4) d_Law_circuit_3 rfl rfl rfl ?_
  refine g_iload_n 2 (i := 2) (pc' := 5) d_Law_circuit_4 rfl rfl rfl ?_
  replace hy := g_nn_inv hy
  obtain ⟨a1, rfl, hy⟩ := hy
  replace hy := g_is_inv hy
  obtain ⟨fs2, hc3, hy⟩ := hy
  replace hy := g_bh_inv hy
  rcases hy with ⟨x4, h5, hf6, hy⟩ | ⟨E9, q9, h5, hf6, hy⟩
  rotate_left
  · by_cases e9 : E9 = "java/lang/IndexOutOfBoundsException"
    · subst e9
      rw [if_pos rfl] at hy
      cases hy
      refine g_callVH (pre := []) (suf := [(0, 10, 17, 18)]) (x := (0, 10, 13, 27)) (nm := "java/lang/IndexOutOfBoundsException") (pc' := 13) (As := [.int p1, .int p2]) (rest := [.int (0 : Int32), va_rf p3]) 2 (T_Desk_circuit (hy := hf6)) d_Law_circuit_5 hc3 rfl rfl q1847 q1848 q1849 q108 q1850 hd_Desk_circuit rfl ⟨by decide, by decide⟩ (by first | exact Nat.le_of_ble_eq_true rfl | (simp only [List.map, List.sum_cons, List.sum_nil, g_cat_rf]; exact Nat.le_of_ble_eq_true rfl) | (simp only [List.map, List.sum_cons, List.sum_nil, g_cat_rf, Value.category]; decide)) (by decide) rfl (fun z hz => by cases hz) (by decide) (by decide) q1353 q1385 rfl ?_
      intro n9 a9 hn9 ha9
      refine g_astore (pc' := 15) (Lc' := [(4, .ref a9), (0, .ref a1), (1, .int p1), (2, .int p2), (3, va_rf p3)]) d_Law_circuit_13 (by decide) (by cases p3 <;> rfl) rfl ?_
      refine g_iconst (v := (1 : Int32)) (pc' := 16) d_Law_circuit_15 (by decide) rfl ?_
      exact g_iretR n9 rfl rfl rfl hn9 rfl d_Law_circuit_16
    · rw [if_neg e9] at hy
      by_cases e9 : E9 = "java/lang/IllegalArgumentException"
      · subst e9
        rw [if_pos rfl] at hy
        cases hy
        refine g_callVH (pre := [(0, 10, 13, 27)]) (suf := []) (x := (0, 10, 17, 18)) (nm := "java/lang/IllegalArgumentException") (pc' := 17) (As := [.int p1, .int p2]) (rest := [.int (0 : Int32), va_rf p3]) 2 (T_Desk_circuit (hy := hf6)) d_Law_circuit_5 hc3 rfl rfl q1847 q1848 q1849 q108 q1850 hd_Desk_circuit rfl ⟨by decide, by decide⟩ (by first | exact Nat.le_of_ble_eq_true rfl | (simp only [List.map, List.sum_cons, List.sum_nil, g_cat_rf]; exact Nat.le_of_ble_eq_true rfl) | (simp only [List.map, List.sum_cons, List.sum_nil, g_cat_rf, Value.category]; decide)) (by decide) rfl (fun z hz => by rcases List.mem_cons.mp hz with rfl | hz; exact ⟨by decide, "java/lang/IndexOutOfBoundsException", q1353, by decide +kernel⟩; cases hz) (by decide) (by decide) q1325 q180 rfl ?_
        intro n9 a9 hn9 ha9
        refine g_astore (pc' := 19) (Lc' := [(4, .ref a9), (0, .ref a1), (1, .int p1), (2, .int p2), (3, va_rf p3)]) d_Law_circuit_17 (by decide) (by cases p3 <;> rfl) rfl ?_
        refine g_iconst (v := (2 : Int32)) (pc' := 20) d_Law_circuit_19 (by decide) rfl ?_
        exact g_iretR n9 rfl rfl rfl hn9 rfl d_Law_circuit_20
      · rw [if_neg e9] at hy
        cases hy
  refine g_callV (rv := some (.int x4)) (h1 := h5) (pc' := 8) (As := [.int p1, .int p2]) (rest := [.int (0 : Int32), va_rf p3]) 2 (T_Desk_circuit (hy := hf6)) d_Law_circuit_5 hc3 rfl rfl q1847 q1848 q1849 q108 q1850 hd_Desk_circuit rfl ⟨by decide, by decide⟩ (by first | exact Nat.le_of_ble_eq_true rfl | (simp only [List.map, List.sum_cons, List.sum_nil, g_cat_rf]; exact Nat.le_of_ble_eq_true rfl) | (simp only [List.map, List.sum_cons, List.sum_nil, g_cat_rf, Value.category]; decide)) rfl ?_
  refine g_i2l (pc' := 9) d_Law_circuit_8 rfl ?_
  replace hy := g_nn_inv hy
  obtain ⟨a7, rfl, hy⟩ := hy
  replace hy := g_sL_inv hy
  obtain ⟨n8, f9, hc10, hi11, hy⟩ := hy
  refine g_last (pc' := 10) d_Law_circuit_9 hc10 hi11 rfl ?_
  generalize g_up h5 a7 (.inl (3, n8, .inr (.inl (vp_updL f9 ((0 : Int32)).toNatClampNeg ((x4).toInt64))))) = h12 at hy ⊢
  refine g_goto (pc' := 21) d_Law_circuit_10 (by decide) ?_
  refine g_iconst (v := (0 : Int32)) (pc' := 22) d_Law_circuit_21 (by decide) rfl ?_
  cases hy
  exact g_iret rfl rfl rfl d_Law_circuit_22
theorem hd_Law_circuit : g_dsc y_Law_circuit 4 := ⟨by decide +kernel, by decide +kernel, by decide +kernel⟩
/-! CircuitDeskLaw.way(LCircuitDesk;IZII[J)I -/
abbrev y_Law_way : MethodName := ⟨"CircuitDeskLaw", "way", "(LCircuitDesk;IZII[J)I"⟩
abbrev k_Law_way : g_M := (method_24_code, 7, "CircuitDeskLaw", 20, (some FieldType.int), "way", [(0, 14, 17, 27), (0, 14, 21, 18)], 1)
theorem d_Law_way_0 : decode method_24_code 0 = .ok (.aload 5, 2) := by decide +kernel
theorem d_Law_way_2 : decode method_24_code 2 = .ok (.iconst 0, 1) := by decide +kernel
theorem d_Law_way_3 : decode method_24_code 3 = .ok (.aload_n 0, 1) := by decide +kernel
theorem d_Law_way_4 : decode method_24_code 4 = .ok (.iload_n 1, 1) := by decide +kernel
theorem d_Law_way_5 : decode method_24_code 5 = .ok (.iload_n 2, 1) := by decide +kernel
theorem d_Law_way_6 : decode method_24_code 6 = .ok (.iload_n 3, 1) := by decide +kernel
theorem d_Law_way_7 : decode method_24_code 7 = .ok (.iload 4, 2) := by decide +kernel
theorem d_Law_way_9 : decode method_24_code 9 = .ok (.invokevirtual 83, 3) := by decide +kernel
theorem d_Law_way_12 : decode method_24_code 12 = .ok (.i2l, 1) := by decide +kernel
theorem d_Law_way_13 : decode method_24_code 13 = .ok (.lastore, 1) := by decide +kernel
theorem d_Law_way_14 : decode method_24_code 14 = .ok (.goto 11, 3) := by decide +kernel
theorem d_Law_way_17 : decode method_24_code 17 = .ok (.astore 6, 2) := by decide +kernel
theorem d_Law_way_19 : decode method_24_code 19 = .ok (.iconst 1, 1) := by decide +kernel
theorem d_Law_way_20 : decode method_24_code 20 = .ok (.ireturn, 1) := by decide +kernel
theorem d_Law_way_21 : decode method_24_code 21 = .ok (.astore 6, 2) := by decide +kernel
theorem d_Law_way_23 : decode method_24_code 23 = .ok (.iconst 2, 1) := by decide +kernel
theorem d_Law_way_24 : decode method_24_code 24 = .ok (.ireturn, 1) := by decide +kernel
theorem d_Law_way_25 : decode method_24_code 25 = .ok (.iconst 0, 1) := by decide +kernel
theorem d_Law_way_26 : decode method_24_code 26 = .ok (.ireturn, 1) := by decide +kernel
def Law_way (h : g_AH) (p0 : Option Nat) (p1 : Int32) (p2 : Int32) (p3 : Int32) (p4 : Int32) (p5 : Option Nat) : Option (Int32 × g_AH) :=
  g_nn p0 fun a1 => g_is h a1 0 <| g_bh (Desk_way h a1 p1 p2 p3 p4) (fun E9 _ h9 => if E9 = "java/lang/IndexOutOfBoundsException" then some ((1 : Int32), h9) else if E9 = "java/lang/IllegalArgumentException" then some ((2 : Int32), h9) else none) fun x4 h5 => g_nn p5 fun a7 => g_sL h5 a7 (0 : Int32) ((x4).toInt64) fun h12 => some ((0 : Int32), h12)
set_option maxHeartbeats 4000000 in
set_option maxRecDepth 100000 in
theorem T_Law_way {l : Launch} {B : g_B} (h : g_AH) (p0 : Option Nat) (p1 : Int32) (p2 : Int32) (p3 : Int32) (p4 : Int32) (p5 : Option Nat) (z : Int32 × g_AH) (hy : Law_way h p0 p1 p2 p3 p4 p5 = some z) : g_CTR l B y_Law_way k_Law_way [va_rf p0, .int p1, .int p2, .int p3, .int p4, va_rf p5] h (.inl (some (.int z.1))) z.2 := by
  have hle0 : g_X → g_Le h z.2 := by
    intro X0
    unfold Law_way at hy
    replace hy := g_nn_inv hy
    obtain ⟨a1, rfl, hy⟩ := hy
    replace hy := g_is_inv hy
    obtain ⟨fs1, hc1, hy⟩ := hy
    replace hy := g_bh_inv hy
    rcases hy with ⟨x1, h1, hf1, hy⟩ | ⟨E1, q1, h1, hf1, hy⟩
    · have b1 := (T_Desk_way (l := x_l X0) (B := x_B X0) (hy := hf1)).1 X0
      replace hy := g_nn_inv hy; obtain ⟨a2, rfl, hy⟩ := hy; replace hy := g_sL_inv hy; obtain ⟨n2, f2, hc2, hi2, hy⟩ := hy; cases hy; exact b1.tr (g_Le.up hc2)
    · have b1 := (T_Desk_way (l := x_l X0) (B := x_B X0) (hy := hf1)).1 X0
      repeat (first | (cases hy; done) | (cases hy; exact b1) | split at hy)
  refine g_startR (Lc := [(0, va_rf p0), (1, .int p1), (2, .int p2), (3, .int p3), (4, .int p4), (5, va_rf p5)]) (by decide) rfl rfl (by rcases p0 with _ | p0 <;> rcases p5 with _ | p5 <;> exact Nat.le_of_ble_eq_true rfl) (by rcases p0 with _ | p0 <;> rcases p5 with _ | p5 <;> rfl) hle0 (fun X => ?_) rfl
  unfold Law_way at hy
  refine g_aloadO 5 (pc' := 2) d_Law_way_0 rfl rfl ?_
  refine g_iconst (v := (0 : Int32)) (pc' := 3) d_Law_way_2 (by decide) rfl ?_
  refine g_aloadO_n 0 (i := 0) (pc' := 4) d_Law_way_3 rfl rfl rfl ?_
  refine g_iload_n 1 (i := 1) (pc' := 5) d_Law_way_4 rfl rfl rfl ?_
  refine g_iload_n 2 (i := 2) (pc' := 6) d_Law_way_5 rfl rfl rfl ?_
  refine g_iload_n 3 (i := 3) (pc' := 7) d_Law_way_6 rfl rfl rfl ?_
  refine g_iload 4 (pc' := 9) d_Law_way_7 rfl rfl ?_
  replace hy := g_nn_inv hy
  obtain ⟨a1, rfl, hy⟩ := hy
  replace hy := g_is_inv hy
  obtain ⟨fs2, hc3, hy⟩ := hy
  replace hy := g_bh_inv hy
  rcases hy with ⟨x4, h5, hf6, hy⟩ | ⟨E9, q9, h5, hf6, hy⟩
  rotate_left
  · by_cases e9 : E9 = "java/lang/IndexOutOfBoundsException"
    · subst e9
      rw [if_pos rfl] at hy
      cases hy
      refine g_callVH (pre := []) (suf := [(0, 14, 21, 18)]) (x := (0, 14, 17, 27)) (nm := "java/lang/IndexOutOfBoundsException") (pc' := 17) (As := [.int p1, .int p2, .int p3, .int p4]) (rest := [.int (0 : Int32), va_rf p5]) 4 (T_Desk_way (hy := hf6)) d_Law_way_9 hc3 rfl rfl q1857 q1858 q1859 q108 q1860 hd_Desk_way rfl ⟨by decide, by decide⟩ (by first | exact Nat.le_of_ble_eq_true rfl | (simp only [List.map, List.sum_cons, List.sum_nil, g_cat_rf]; exact Nat.le_of_ble_eq_true rfl) | (simp only [List.map, List.sum_cons, List.sum_nil, g_cat_rf, Value.category]; decide)) (by decide) rfl (fun z hz => by cases hz) (by decide) (by decide) q1353 q1385 rfl ?_
      intro n9 a9 hn9 ha9
      refine g_astore (pc' := 19) (Lc' := [(6, .ref a9), (0, .ref a1), (1, .int p1), (2, .int p2), (3, .int p3), (4, .int p4), (5, va_rf p5)]) d_Law_way_17 (by decide) (by cases p5 <;> rfl) rfl ?_
      refine g_iconst (v := (1 : Int32)) (pc' := 20) d_Law_way_19 (by decide) rfl ?_
      exact g_iretR n9 rfl rfl rfl hn9 rfl d_Law_way_20
    · rw [if_neg e9] at hy
      by_cases e9 : E9 = "java/lang/IllegalArgumentException"
      · subst e9
        rw [if_pos rfl] at hy
        cases hy
        refine g_callVH (pre := [(0, 14, 17, 27)]) (suf := []) (x := (0, 14, 21, 18)) (nm := "java/lang/IllegalArgumentException") (pc' := 21) (As := [.int p1, .int p2, .int p3, .int p4]) (rest := [.int (0 : Int32), va_rf p5]) 4 (T_Desk_way (hy := hf6)) d_Law_way_9 hc3 rfl rfl q1857 q1858 q1859 q108 q1860 hd_Desk_way rfl ⟨by decide, by decide⟩ (by first | exact Nat.le_of_ble_eq_true rfl | (simp only [List.map, List.sum_cons, List.sum_nil, g_cat_rf]; exact Nat.le_of_ble_eq_true rfl) | (simp only [List.map, List.sum_cons, List.sum_nil, g_cat_rf, Value.category]; decide)) (by decide) rfl (fun z hz => by rcases List.mem_cons.mp hz with rfl | hz; exact ⟨by decide, "java/lang/IndexOutOfBoundsException", q1353, by decide +kernel⟩; cases hz) (by decide) (by decide) q1325 q180 rfl ?_
        intro n9 a9 hn9 ha9
        refine g_astore (pc' := 23) (Lc' := [(6, .ref a9), (0, .ref a1), (1, .int p1), (2, .int p2), (3, .int p3), (4, .int p4), (5, va_rf p5)]) d_Law_way_21 (by decide) (by cases p5 <;> rfl) rfl ?_
        refine g_iconst (v := (2 : Int32)) (pc' := 24) d_Law_way_23 (by decide) rfl ?_
        exact g_iretR n9 rfl rfl rfl hn9 rfl d_Law_way_24
      · rw [if_neg e9] at hy
        cases hy
  refine g_callV (rv := some (.int x4)) (h1 := h5) (pc' := 12) (As := [.int p1, .int p2, .int p3, .int p4]) (rest := [.int (0 : Int32), va_rf p5]) 4 (T_Desk_way (hy := hf6)) d_Law_way_9 hc3 rfl rfl q1857 q1858 q1859 q108 q1860 hd_Desk_way rfl ⟨by decide, by decide⟩ (by first | exact Nat.le_of_ble_eq_true rfl | (simp only [List.map, List.sum_cons, List.sum_nil, g_cat_rf]; exact Nat.le_of_ble_eq_true rfl) | (simp only [List.map, List.sum_cons, List.sum_nil, g_cat_rf, Value.category]; decide)) rfl ?_
  refine g_i2l (pc' := 13) d_Law_way_12 rfl ?_
  replace hy := g_nn_inv hy
  obtain ⟨a7, rfl, hy⟩ := hy
  replace hy := g_sL_inv hy
  obtain ⟨n8, f9, hc10, hi11, hy⟩ := hy
  refine g_last (pc' := 14) d_Law_way_13 hc10 hi11 rfl ?_
  generalize g_up h5 a7 (.inl (3, n8, .inr (.inl (vp_updL f9 ((0 : Int32)).toNatClampNeg ((x4).toInt64))))) = h12 at hy ⊢
  refine g_goto (pc' := 25) d_Law_way_14 (by decide) ?_
  refine g_iconst (v := (0 : Int32)) (pc' := 26) d_Law_way_25 (by decide) rfl ?_
  cases hy
  exact g_iret rfl rfl rfl d_Law_way_26
theorem hd_Law_way : g_dsc y_Law_way 6 := ⟨by decide +kernel, by decide +kernel, by decide +kernel⟩
/-! CircuitDeskLaw.packet(LCircuitDesk;II[J)I -/
abbrev y_Law_packet : MethodName := ⟨"CircuitDeskLaw", "packet", "(LCircuitDesk;II[J)I"⟩
abbrev k_Law_packet : g_M := (method_25_code, 5, "CircuitDeskLaw", 19, (some FieldType.int), "packet", [(0, 10, 13, 27), (0, 10, 17, 18)], 1)
theorem d_Law_packet_0 : decode method_25_code 0 = .ok (.aload_n 3, 1) := by decide +kernel
theorem d_Law_packet_1 : decode method_25_code 1 = .ok (.iconst 0, 1) := by decide +kernel
theorem d_Law_packet_2 : decode method_25_code 2 = .ok (.aload_n 0, 1) := by decide +kernel
theorem d_Law_packet_3 : decode method_25_code 3 = .ok (.iload_n 1, 1) := by decide +kernel
theorem d_Law_packet_4 : decode method_25_code 4 = .ok (.iload_n 2, 1) := by decide +kernel
theorem d_Law_packet_5 : decode method_25_code 5 = .ok (.invokevirtual 87, 3) := by decide +kernel
theorem d_Law_packet_8 : decode method_25_code 8 = .ok (.i2l, 1) := by decide +kernel
theorem d_Law_packet_9 : decode method_25_code 9 = .ok (.lastore, 1) := by decide +kernel
theorem d_Law_packet_10 : decode method_25_code 10 = .ok (.goto 11, 3) := by decide +kernel
theorem d_Law_packet_13 : decode method_25_code 13 = .ok (.astore 4, 2) := by decide +kernel
theorem d_Law_packet_15 : decode method_25_code 15 = .ok (.iconst 1, 1) := by decide +kernel
theorem d_Law_packet_16 : decode method_25_code 16 = .ok (.ireturn, 1) := by decide +kernel
theorem d_Law_packet_17 : decode method_25_code 17 = .ok (.astore 4, 2) := by decide +kernel
theorem d_Law_packet_19 : decode method_25_code 19 = .ok (.iconst 2, 1) := by decide +kernel
theorem d_Law_packet_20 : decode method_25_code 20 = .ok (.ireturn, 1) := by decide +kernel
theorem d_Law_packet_21 : decode method_25_code 21 = .ok (.iconst 0, 1) := by decide +kernel
theorem d_Law_packet_22 : decode method_25_code 22 = .ok (.ireturn, 1) := by decide +kernel
def Law_packet (h : g_AH) (p0 : Option Nat) (p1 : Int32) (p2 : Int32) (p3 : Option Nat) : Option (Int32 × g_AH) :=
  g_nn p0 fun a1 => g_is h a1 0 <| g_bh (Desk_packet h a1 p1 p2) (fun E9 _ h9 => if E9 = "java/lang/IndexOutOfBoundsException" then some ((1 : Int32), h9) else if E9 = "java/lang/IllegalArgumentException" then some ((2 : Int32), h9) else none) fun x4 h5 => g_nn p3 fun a7 => g_sL h5 a7 (0 : Int32) ((x4).toInt64) fun h12 => some ((0 : Int32), h12)
set_option maxHeartbeats 4000000 in
set_option maxRecDepth 100000 in
theorem T_Law_packet {l : Launch} {B : g_B} (h : g_AH) (p0 : Option Nat) (p1 : Int32) (p2 : Int32) (p3 : Option Nat) (z : Int32 × g_AH) (hy : Law_packet h p0 p1 p2 p3 = some z) : g_CTR l B y_Law_packet k_Law_packet [va_rf p0, .int p1, .int p2, va_rf p3] h (.inl (some (.int z.1))) z.2 := by
  have hle0 : g_X → g_Le h z.2 := by
    intro X0
    unfold Law_packet at hy
    replace hy := g_nn_inv hy
    obtain ⟨a1, rfl, hy⟩ := hy
    replace hy := g_is_inv hy
    obtain ⟨fs1, hc1, hy⟩ := hy
    replace hy := g_bh_inv hy
    rcases hy with ⟨x1, h1, hf1, hy⟩ | ⟨E1, q1, h1, hf1, hy⟩
    · have b1 := (T_Desk_packet (l := x_l X0) (B := x_B X0) (hy := hf1)).1 X0
      replace hy := g_nn_inv hy; obtain ⟨a2, rfl, hy⟩ := hy; replace hy := g_sL_inv hy; obtain ⟨n2, f2, hc2, hi2, hy⟩ := hy; cases hy; exact b1.tr (g_Le.up hc2)
    · have b1 := (T_Desk_packet (l := x_l X0) (B := x_B X0) (hy := hf1)).1 X0
      repeat (first | (cases hy; done) | (cases hy; exact b1) | split at hy)
  refine g_startR (Lc := [(0, va_rf p0), (1, .int p1), (2, .int p2), (3, va_rf p3)]) (by decide) rfl rfl (by rcases p0 with _ | p0 <;> rcases p3 with _ | p3 <;> exact Nat.le_of_ble_eq_true rfl) (by rcases p0 with _ | p0 <;> rcases p3 with _ | p3 <;> rfl) hle0 (fun X => ?_) rfl
  unfold Law_packet at hy
  refine g_aloadO_n 3 (i := 3) (pc' := 1) d_Law_packet_0 rfl rfl rfl ?_
  refine g_iconst (v := (0 : Int32)) (pc' := 2) d_Law_packet_1 (by decide) rfl ?_
  refine g_aloadO_n 0 (i := 0) (pc' := 3) d_Law_packet_2 rfl rfl rfl ?_
  refine g_iload_n 1 (i := 1) (pc' := 4) d_Law_packet_3 rfl rfl rfl ?_
  refine g_iload_n 2 (i := 2) (pc' := 5) d_Law_packet_4 rfl rfl rfl ?_
  replace hy := g_nn_inv hy
  obtain ⟨a1, rfl, hy⟩ := hy
  replace hy := g_is_inv hy
  obtain ⟨fs2, hc3, hy⟩ := hy
  replace hy := g_bh_inv hy
  rcases hy with ⟨x4, h5, hf6, hy⟩ | ⟨E9, q9, h5, hf6, hy⟩
  rotate_left
  · by_cases e9 : E9 = "java/lang/IndexOutOfBoundsException"
    · subst e9
      rw [if_pos rfl] at hy
      cases hy
      refine g_callVH (pre := []) (suf := [(0, 10, 17, 18)]) (x := (0, 10, 13, 27)) (nm := "java/lang/IndexOutOfBoundsException") (pc' := 13) (As := [.int p1, .int p2]) (rest := [.int (0 : Int32), va_rf p3]) 2 (T_Desk_packet (hy := hf6)) d_Law_packet_5 hc3 rfl rfl q1866 q1867 q1868 q108 q1869 hd_Desk_packet rfl ⟨by decide, by decide⟩ (by first | exact Nat.le_of_ble_eq_true rfl | (simp only [List.map, List.sum_cons, List.sum_nil, g_cat_rf]; exact Nat.le_of_ble_eq_true rfl) | (simp only [List.map, List.sum_cons, List.sum_nil, g_cat_rf, Value.category]; decide)) (by decide) rfl (fun z hz => by cases hz) (by decide) (by decide) q1353 q1385 rfl ?_
      intro n9 a9 hn9 ha9
      refine g_astore (pc' := 15) (Lc' := [(4, .ref a9), (0, .ref a1), (1, .int p1), (2, .int p2), (3, va_rf p3)]) d_Law_packet_13 (by decide) (by cases p3 <;> rfl) rfl ?_
      refine g_iconst (v := (1 : Int32)) (pc' := 16) d_Law_packet_15 (by decide) rfl ?_
      exact g_iretR n9 rfl rfl rfl hn9 rfl d_Law_packet_16
    · rw [if_neg e9] at hy
      by_cases e9 : E9 = "java/lang/IllegalArgumentException"
      · subst e9
        rw [if_pos rfl] at hy
        cases hy
        refine g_callVH (pre := [(0, 10, 13, 27)]) (suf := []) (x := (0, 10, 17, 18)) (nm := "java/lang/IllegalArgumentException") (pc' := 17) (As := [.int p1, .int p2]) (rest := [.int (0 : Int32), va_rf p3]) 2 (T_Desk_packet (hy := hf6)) d_Law_packet_5 hc3 rfl rfl q1866 q1867 q1868 q108 q1869 hd_Desk_packet rfl ⟨by decide, by decide⟩ (by first | exact Nat.le_of_ble_eq_true rfl | (simp only [List.map, List.sum_cons, List.sum_nil, g_cat_rf]; exact Nat.le_of_ble_eq_true rfl) | (simp only [List.map, List.sum_cons, List.sum_nil, g_cat_rf, Value.category]; decide)) (by decide) rfl (fun z hz => by rcases List.mem_cons.mp hz with rfl | hz; exact ⟨by decide, "java/lang/IndexOutOfBoundsException", q1353, by decide +kernel⟩; cases hz) (by decide) (by decide) q1325 q180 rfl ?_
        intro n9 a9 hn9 ha9
        refine g_astore (pc' := 19) (Lc' := [(4, .ref a9), (0, .ref a1), (1, .int p1), (2, .int p2), (3, va_rf p3)]) d_Law_packet_17 (by decide) (by cases p3 <;> rfl) rfl ?_
        refine g_iconst (v := (2 : Int32)) (pc' := 20) d_Law_packet_19 (by decide) rfl ?_
        exact g_iretR n9 rfl rfl rfl hn9 rfl d_Law_packet_20
      · rw [if_neg e9] at hy
        cases hy
  refine g_callV (rv := some (.int x4)) (h1 := h5) (pc' := 8) (As := [.int p1, .int p2]) (rest := [.int (0 : Int32), va_rf p3]) 2 (T_Desk_packet (hy := hf6)) d_Law_packet_5 hc3 rfl rfl q1866 q1867 q1868 q108 q1869 hd_Desk_packet rfl ⟨by decide, by decide⟩ (by first | exact Nat.le_of_ble_eq_true rfl | (simp only [List.map, List.sum_cons, List.sum_nil, g_cat_rf]; exact Nat.le_of_ble_eq_true rfl) | (simp only [List.map, List.sum_cons, List.sum_nil, g_cat_rf, Value.category]; decide)) rfl ?_
  refine g_i2l (pc' := 9) d_Law_packet_8 rfl ?_
  replace hy := g_nn_inv hy
  obtain ⟨a7, rfl, hy⟩ := hy
  replace hy := g_sL_inv hy
  obtain ⟨n8, f9, hc10, hi11, hy⟩ := hy
  refine g_last (pc' := 10) d_Law_packet_9 hc10 hi11 rfl ?_
  generalize g_up h5 a7 (.inl (3, n8, .inr (.inl (vp_updL f9 ((0 : Int32)).toNatClampNeg ((x4).toInt64))))) = h12 at hy ⊢
  refine g_goto (pc' := 21) d_Law_packet_10 (by decide) ?_
  refine g_iconst (v := (0 : Int32)) (pc' := 22) d_Law_packet_21 (by decide) rfl ?_
  cases hy
  exact g_iret rfl rfl rfl d_Law_packet_22
theorem hd_Law_packet : g_dsc y_Law_packet 4 := ⟨by decide +kernel, by decide +kernel, by decide +kernel⟩
/-! CircuitDeskLaw.meanDelay(LCircuitDesk;I[D)I -/
abbrev y_Law_meanDelay : MethodName := ⟨"CircuitDeskLaw", "meanDelay", "(LCircuitDesk;I[D)I"⟩
abbrev k_Law_meanDelay : g_M := (method_26_code, 4, "CircuitDeskLaw", 20, (some FieldType.int), "meanDelay", [(0, 8, 11, 27)], 1)
theorem d_Law_meanDelay_0 : decode method_26_code 0 = .ok (.aload_n 2, 1) := by decide +kernel
theorem d_Law_meanDelay_1 : decode method_26_code 1 = .ok (.iconst 0, 1) := by decide +kernel
theorem d_Law_meanDelay_2 : decode method_26_code 2 = .ok (.aload_n 0, 1) := by decide +kernel
theorem d_Law_meanDelay_3 : decode method_26_code 3 = .ok (.iload_n 1, 1) := by decide +kernel
theorem d_Law_meanDelay_4 : decode method_26_code 4 = .ok (.invokevirtual 90, 3) := by decide +kernel
theorem d_Law_meanDelay_7 : decode method_26_code 7 = .ok (.dastore, 1) := by decide +kernel
theorem d_Law_meanDelay_8 : decode method_26_code 8 = .ok (.goto 6, 3) := by decide +kernel
theorem d_Law_meanDelay_11 : decode method_26_code 11 = .ok (.astore_n 3, 1) := by decide +kernel
theorem d_Law_meanDelay_12 : decode method_26_code 12 = .ok (.iconst 1, 1) := by decide +kernel
theorem d_Law_meanDelay_13 : decode method_26_code 13 = .ok (.ireturn, 1) := by decide +kernel
theorem d_Law_meanDelay_14 : decode method_26_code 14 = .ok (.iconst 0, 1) := by decide +kernel
theorem d_Law_meanDelay_15 : decode method_26_code 15 = .ok (.ireturn, 1) := by decide +kernel
def Law_meanDelay (h : g_AH) (p0 : Option Nat) (p1 : Int32) (p2 : Option Nat) : Option (Int32 × g_AH) :=
  g_nn p0 fun a1 => g_is h a1 0 <| g_bh (Desk_meanDelay h a1 p1) (fun E9 _ h9 => if E9 = "java/lang/IndexOutOfBoundsException" then some ((1 : Int32), h9) else none) fun x4 h5 => g_nn p2 fun a7 => g_sD h5 a7 (0 : Int32) x4 fun h12 => some ((0 : Int32), h12)
set_option maxHeartbeats 4000000 in
set_option maxRecDepth 100000 in
theorem T_Law_meanDelay {l : Launch} {B : g_B} (h : g_AH) (p0 : Option Nat) (p1 : Int32) (p2 : Option Nat) (z : Int32 × g_AH) (hy : Law_meanDelay h p0 p1 p2 = some z) : g_CTR l B y_Law_meanDelay k_Law_meanDelay [va_rf p0, .int p1, va_rf p2] h (.inl (some (.int z.1))) z.2 := by
  have hle0 : g_X → g_Le h z.2 := by
    intro X0
    unfold Law_meanDelay at hy
    replace hy := g_nn_inv hy
    obtain ⟨a1, rfl, hy⟩ := hy
    replace hy := g_is_inv hy
    obtain ⟨fs1, hc1, hy⟩ := hy
    replace hy := g_bh_inv hy
    rcases hy with ⟨x1, h1, hf1, hy⟩ | ⟨E1, q1, h1, hf1, hy⟩
    · have b1 := (T_Desk_meanDelay (l := x_l X0) (B := x_B X0) (hy := hf1)).1 X0
      replace hy := g_nn_inv hy; obtain ⟨a2, rfl, hy⟩ := hy; replace hy := g_sD_inv hy; obtain ⟨n2, f2, hc2, hi2, hy⟩ := hy; cases hy; exact b1.tr (g_Le.up hc2)
    · have b1 := (T_Desk_meanDelay (l := x_l X0) (B := x_B X0) (hy := hf1)).1 X0
      repeat (first | (cases hy; done) | (cases hy; exact b1) | split at hy)
  refine g_startR (Lc := [(0, va_rf p0), (1, .int p1), (2, va_rf p2)]) (by decide) rfl rfl (by rcases p0 with _ | p0 <;> rcases p2 with _ | p2 <;> exact Nat.le_of_ble_eq_true rfl) (by rcases p0 with _ | p0 <;> rcases p2 with _ | p2 <;> rfl) hle0 (fun X => ?_) rfl
  unfold Law_meanDelay at hy
  refine g_aloadO_n 2 (i := 2) (pc' := 1) d_Law_meanDelay_0 rfl rfl rfl ?_
  refine g_iconst (v := (0 : Int32)) (pc' := 2) d_Law_meanDelay_1 (by decide) rfl ?_
  refine g_aloadO_n 0 (i := 0) (pc' := 3) d_Law_meanDelay_2 rfl rfl rfl ?_
  refine g_iload_n 1 (i := 1) (pc' := 4) d_Law_meanDelay_3 rfl rfl rfl ?_
  replace hy := g_nn_inv hy
  obtain ⟨a1, rfl, hy⟩ := hy
  replace hy := g_is_inv hy
  obtain ⟨fs2, hc3, hy⟩ := hy
  replace hy := g_bh_inv hy
  rcases hy with ⟨x4, h5, hf6, hy⟩ | ⟨E9, q9, h5, hf6, hy⟩
  rotate_left
  · by_cases e9 : E9 = "java/lang/IndexOutOfBoundsException"
    · subst e9
      rw [if_pos rfl] at hy
      cases hy
      refine g_callVH (pre := []) (suf := []) (x := (0, 8, 11, 27)) (nm := "java/lang/IndexOutOfBoundsException") (pc' := 11) (As := [.int p1]) (rest := [.int (0 : Int32), va_rf p2]) 1 (T_Desk_meanDelay (hy := hf6)) d_Law_meanDelay_4 hc3 rfl rfl q1874 q1875 q1876 q108 q1877 hd_Desk_meanDelay rfl ⟨by decide, by decide⟩ (by first | exact Nat.le_of_ble_eq_true rfl | (simp only [List.map, List.sum_cons, List.sum_nil, g_cat_rf]; exact Nat.le_of_ble_eq_true rfl) | (simp only [List.map, List.sum_cons, List.sum_nil, g_cat_rf, Value.category]; decide)) (by decide) rfl (fun z hz => by cases hz) (by decide) (by decide) q1353 q1385 rfl ?_
      intro n9 a9 hn9 ha9
      refine g_astore_n (i := 3) (pc' := 12) (Lc' := [(3, .ref a9), (0, .ref a1), (1, .int p1), (2, va_rf p2)]) d_Law_meanDelay_11 rfl (by decide) (by cases p2 <;> rfl) rfl ?_
      refine g_iconst (v := (1 : Int32)) (pc' := 13) d_Law_meanDelay_12 (by decide) rfl ?_
      exact g_iretR n9 rfl rfl rfl hn9 rfl d_Law_meanDelay_13
    · rw [if_neg e9] at hy
      cases hy
  refine g_callV (rv := some (.double x4)) (h1 := h5) (pc' := 7) (As := [.int p1]) (rest := [.int (0 : Int32), va_rf p2]) 1 (T_Desk_meanDelay (hy := hf6)) d_Law_meanDelay_4 hc3 rfl rfl q1874 q1875 q1876 q108 q1877 hd_Desk_meanDelay rfl ⟨by decide, by decide⟩ (by first | exact Nat.le_of_ble_eq_true rfl | (simp only [List.map, List.sum_cons, List.sum_nil, g_cat_rf]; exact Nat.le_of_ble_eq_true rfl) | (simp only [List.map, List.sum_cons, List.sum_nil, g_cat_rf, Value.category]; decide)) rfl ?_
  replace hy := g_nn_inv hy
  obtain ⟨a7, rfl, hy⟩ := hy
  replace hy := g_sD_inv hy
  obtain ⟨n8, f9, hc10, hi11, hy⟩ := hy
  refine g_dast (pc' := 8) d_Law_meanDelay_7 hc10 hi11 rfl ?_
  generalize g_up h5 a7 (.inl (4, n8, .inr (.inr (.inr (.inl (vf_upd f9 ((0 : Int32)).toNatClampNeg x4)))))) = h12 at hy ⊢
  refine g_goto (pc' := 14) d_Law_meanDelay_8 (by decide) ?_
  refine g_iconst (v := (0 : Int32)) (pc' := 15) d_Law_meanDelay_14 (by decide) rfl ?_
  cases hy
  exact g_iret rfl rfl rfl d_Law_meanDelay_15
theorem hd_Law_meanDelay : g_dsc y_Law_meanDelay 3 := ⟨by decide +kernel, by decide +kernel, by decide +kernel⟩
/-! CircuitDeskLaw.canMove(LCircuitDesk;II[J)I -/
abbrev y_Law_canMove : MethodName := ⟨"CircuitDeskLaw", "canMove", "(LCircuitDesk;II[J)I"⟩
abbrev k_Law_canMove : g_M := (method_27_code, 5, "CircuitDeskLaw", 33, (some FieldType.int), "canMove", [(0, 10, 13, 27)], 1)
theorem d_Law_canMove_0 : decode method_27_code 0 = .ok (.aload_n 3, 1) := by decide +kernel
theorem d_Law_canMove_1 : decode method_27_code 1 = .ok (.iconst 0, 1) := by decide +kernel
theorem d_Law_canMove_2 : decode method_27_code 2 = .ok (.aload_n 0, 1) := by decide +kernel
theorem d_Law_canMove_3 : decode method_27_code 3 = .ok (.iload_n 1, 1) := by decide +kernel
theorem d_Law_canMove_4 : decode method_27_code 4 = .ok (.iload_n 2, 1) := by decide +kernel
theorem d_Law_canMove_5 : decode method_27_code 5 = .ok (.invokevirtual 94, 3) := by decide +kernel
theorem d_Law_canMove_8 : decode method_27_code 8 = .ok (.i2l, 1) := by decide +kernel
theorem d_Law_canMove_9 : decode method_27_code 9 = .ok (.lastore, 1) := by decide +kernel
theorem d_Law_canMove_10 : decode method_27_code 10 = .ok (.goto 7, 3) := by decide +kernel
theorem d_Law_canMove_13 : decode method_27_code 13 = .ok (.astore 4, 2) := by decide +kernel
theorem d_Law_canMove_15 : decode method_27_code 15 = .ok (.iconst 1, 1) := by decide +kernel
theorem d_Law_canMove_16 : decode method_27_code 16 = .ok (.ireturn, 1) := by decide +kernel
theorem d_Law_canMove_17 : decode method_27_code 17 = .ok (.iconst 0, 1) := by decide +kernel
theorem d_Law_canMove_18 : decode method_27_code 18 = .ok (.ireturn, 1) := by decide +kernel
def Law_canMove (h : g_AH) (p0 : Option Nat) (p1 : Int32) (p2 : Int32) (p3 : Option Nat) : Option (Int32 × g_AH) :=
  g_nn p0 fun a1 => g_is h a1 0 <| g_bh (Desk_canMove h a1 p1 p2) (fun E9 _ h9 => if E9 = "java/lang/IndexOutOfBoundsException" then some ((1 : Int32), h9) else none) fun x4 h5 => g_nn p3 fun a7 => g_sL h5 a7 (0 : Int32) ((x4).toInt64) fun h12 => some ((0 : Int32), h12)
set_option maxHeartbeats 4000000 in
set_option maxRecDepth 100000 in
theorem T_Law_canMove {l : Launch} {B : g_B} (h : g_AH) (p0 : Option Nat) (p1 : Int32) (p2 : Int32) (p3 : Option Nat) (z : Int32 × g_AH) (hy : Law_canMove h p0 p1 p2 p3 = some z) : g_CTR l B y_Law_canMove k_Law_canMove [va_rf p0, .int p1, .int p2, va_rf p3] h (.inl (some (.int z.1))) z.2 := by
  have hle0 : g_X → g_Le h z.2 := by
    intro X0
    unfold Law_canMove at hy
    replace hy := g_nn_inv hy
    obtain ⟨a1, rfl, hy⟩ := hy
    replace hy := g_is_inv hy
    obtain ⟨fs1, hc1, hy⟩ := hy
    replace hy := g_bh_inv hy
    rcases hy with ⟨x1, h1, hf1, hy⟩ | ⟨E1, q1, h1, hf1, hy⟩
    · have b1 := (T_Desk_canMove (l := x_l X0) (B := x_B X0) (hy := hf1)).1 X0
      replace hy := g_nn_inv hy; obtain ⟨a2, rfl, hy⟩ := hy; replace hy := g_sL_inv hy; obtain ⟨n2, f2, hc2, hi2, hy⟩ := hy; cases hy; exact b1.tr (g_Le.up hc2)
    · have b1 := (T_Desk_canMove (l := x_l X0) (B := x_B X0) (hy := hf1)).1 X0
      repeat (first | (cases hy; done) | (cases hy; exact b1) | split at hy)
  refine g_startR (Lc := [(0, va_rf p0), (1, .int p1), (2, .int p2), (3, va_rf p3)]) (by decide) rfl rfl (by rcases p0 with _ | p0 <;> rcases p3 with _ | p3 <;> exact Nat.le_of_ble_eq_true rfl) (by rcases p0 with _ | p0 <;> rcases p3 with _ | p3 <;> rfl) hle0 (fun X => ?_) rfl
  unfold Law_canMove at hy
  refine g_aloadO_n 3 (i := 3) (pc' := 1) d_Law_canMove_0 rfl rfl rfl ?_
  refine g_iconst (v := (0 : Int32)) (pc' := 2) d_Law_canMove_1 (by decide) rfl ?_
  refine g_aloadO_n 0 (i := 0) (pc' := 3) d_Law_canMove_2 rfl rfl rfl ?_
  refine g_iload_n 1 (i := 1) (pc' := 4) d_Law_canMove_3 rfl rfl rfl ?_
  refine g_iload_n 2 (i := 2) (pc' := 5) d_Law_canMove_4 rfl rfl rfl ?_
  replace hy := g_nn_inv hy
  obtain ⟨a1, rfl, hy⟩ := hy
  replace hy := g_is_inv hy
  obtain ⟨fs2, hc3, hy⟩ := hy
  replace hy := g_bh_inv hy
  rcases hy with ⟨x4, h5, hf6, hy⟩ | ⟨E9, q9, h5, hf6, hy⟩
  rotate_left
  · by_cases e9 : E9 = "java/lang/IndexOutOfBoundsException"
    · subst e9
      rw [if_pos rfl] at hy
      cases hy
      refine g_callVH (pre := []) (suf := []) (x := (0, 10, 13, 27)) (nm := "java/lang/IndexOutOfBoundsException") (pc' := 13) (As := [.int p1, .int p2]) (rest := [.int (0 : Int32), va_rf p3]) 2 (T_Desk_canMove (hy := hf6)) d_Law_canMove_5 hc3 rfl rfl q1882 q1883 q1884 q108 q1885 hd_Desk_canMove rfl ⟨by decide, by decide⟩ (by first | exact Nat.le_of_ble_eq_true rfl | (simp only [List.map, List.sum_cons, List.sum_nil, g_cat_rf]; exact Nat.le_of_ble_eq_true rfl) | (simp only [List.map, List.sum_cons, List.sum_nil, g_cat_rf, Value.category]; decide)) (by decide) rfl (fun z hz => by cases hz) (by decide) (by decide) q1353 q1385 rfl ?_
      intro n9 a9 hn9 ha9
      refine g_astore (pc' := 15) (Lc' := [(4, .ref a9), (0, .ref a1), (1, .int p1), (2, .int p2), (3, va_rf p3)]) d_Law_canMove_13 (by decide) (by cases p3 <;> rfl) rfl ?_
      refine g_iconst (v := (1 : Int32)) (pc' := 16) d_Law_canMove_15 (by decide) rfl ?_
      exact g_iretR n9 rfl rfl rfl hn9 rfl d_Law_canMove_16
    · rw [if_neg e9] at hy
      cases hy
  refine g_callV (rv := some (.int x4)) (h1 := h5) (pc' := 8) (As := [.int p1, .int p2]) (rest := [.int (0 : Int32), va_rf p3]) 2 (T_Desk_canMove (hy := hf6)) d_Law_canMove_5 hc3 rfl rfl q1882 q1883 q1884 q108 q1885 hd_Desk_canMove rfl ⟨by decide, by decide⟩ (by first | exact Nat.le_of_ble_eq_true rfl | (simp only [List.map, List.sum_cons, List.sum_nil, g_cat_rf]; exact Nat.le_of_ble_eq_true rfl) | (simp only [List.map, List.sum_cons, List.sum_nil, g_cat_rf, Value.category]; decide)) rfl ?_
  refine g_i2l (pc' := 9) d_Law_canMove_8 rfl ?_
  replace hy := g_nn_inv hy
  obtain ⟨a7, rfl, hy⟩ := hy
  replace hy := g_sL_inv hy
  obtain ⟨n8, f9, hc10, hi11, hy⟩ := hy
  refine g_last (pc' := 10) d_Law_canMove_9 hc10 hi11 rfl ?_
  generalize g_up h5 a7 (.inl (3, n8, .inr (.inl (vp_updL f9 ((0 : Int32)).toNatClampNeg ((x4).toInt64))))) = h12 at hy ⊢
  refine g_goto (pc' := 17) d_Law_canMove_10 (by decide) ?_
  refine g_iconst (v := (0 : Int32)) (pc' := 18) d_Law_canMove_17 (by decide) rfl ?_
  cases hy
  exact g_iret rfl rfl rfl d_Law_canMove_18
theorem hd_Law_canMove : g_dsc y_Law_canMove 4 := ⟨by decide +kernel, by decide +kernel, by decide +kernel⟩
/-! CircuitDeskLaw.movedIn(LCircuitDesk;I[J)I -/
abbrev y_Law_movedIn : MethodName := ⟨"CircuitDeskLaw", "movedIn", "(LCircuitDesk;I[J)I"⟩
abbrev k_Law_movedIn : g_M := (method_28_code, 4, "CircuitDeskLaw", 33, (some FieldType.int), "movedIn", [(0, 9, 12, 27)], 1)
theorem d_Law_movedIn_0 : decode method_28_code 0 = .ok (.aload_n 2, 1) := by decide +kernel
theorem d_Law_movedIn_1 : decode method_28_code 1 = .ok (.iconst 0, 1) := by decide +kernel
theorem d_Law_movedIn_2 : decode method_28_code 2 = .ok (.aload_n 0, 1) := by decide +kernel
theorem d_Law_movedIn_3 : decode method_28_code 3 = .ok (.iload_n 1, 1) := by decide +kernel
theorem d_Law_movedIn_4 : decode method_28_code 4 = .ok (.invokevirtual 97, 3) := by decide +kernel
theorem d_Law_movedIn_7 : decode method_28_code 7 = .ok (.i2l, 1) := by decide +kernel
theorem d_Law_movedIn_8 : decode method_28_code 8 = .ok (.lastore, 1) := by decide +kernel
theorem d_Law_movedIn_9 : decode method_28_code 9 = .ok (.goto 6, 3) := by decide +kernel
theorem d_Law_movedIn_12 : decode method_28_code 12 = .ok (.astore_n 3, 1) := by decide +kernel
theorem d_Law_movedIn_13 : decode method_28_code 13 = .ok (.iconst 1, 1) := by decide +kernel
theorem d_Law_movedIn_14 : decode method_28_code 14 = .ok (.ireturn, 1) := by decide +kernel
theorem d_Law_movedIn_15 : decode method_28_code 15 = .ok (.iconst 0, 1) := by decide +kernel
theorem d_Law_movedIn_16 : decode method_28_code 16 = .ok (.ireturn, 1) := by decide +kernel
def Law_movedIn (h : g_AH) (p0 : Option Nat) (p1 : Int32) (p2 : Option Nat) : Option (Int32 × g_AH) :=
  g_nn p0 fun a1 => g_is h a1 0 <| g_bh (Desk_movedIn h a1 p1) (fun E9 _ h9 => if E9 = "java/lang/IndexOutOfBoundsException" then some ((1 : Int32), h9) else none) fun x4 h5 => g_nn p2 fun a7 => g_sL h5 a7 (0 : Int32) ((x4).toInt64) fun h12 => some ((0 : Int32), h12)
set_option maxHeartbeats 4000000 in
set_option maxRecDepth 100000 in
theorem T_Law_movedIn {l : Launch} {B : g_B} (h : g_AH) (p0 : Option Nat) (p1 : Int32) (p2 : Option Nat) (z : Int32 × g_AH) (hy : Law_movedIn h p0 p1 p2 = some z) : g_CTR l B y_Law_movedIn k_Law_movedIn [va_rf p0, .int p1, va_rf p2] h (.inl (some (.int z.1))) z.2 := by
  have hle0 : g_X → g_Le h z.2 := by
    intro X0
    unfold Law_movedIn at hy
    replace hy := g_nn_inv hy
    obtain ⟨a1, rfl, hy⟩ := hy
    replace hy := g_is_inv hy
    obtain ⟨fs1, hc1, hy⟩ := hy
    replace hy := g_bh_inv hy
    rcases hy with ⟨x1, h1, hf1, hy⟩ | ⟨E1, q1, h1, hf1, hy⟩
    · have b1 := (T_Desk_movedIn (l := x_l X0) (B := x_B X0) (hy := hf1)).1 X0
      replace hy := g_nn_inv hy; obtain ⟨a2, rfl, hy⟩ := hy; replace hy := g_sL_inv hy; obtain ⟨n2, f2, hc2, hi2, hy⟩ := hy; cases hy; exact b1.tr (g_Le.up hc2)
    · have b1 := (T_Desk_movedIn (l := x_l X0) (B := x_B X0) (hy := hf1)).1 X0
      repeat (first | (cases hy; done) | (cases hy; exact b1) | split at hy)
  refine g_startR (Lc := [(0, va_rf p0), (1, .int p1), (2, va_rf p2)]) (by decide) rfl rfl (by rcases p0 with _ | p0 <;> rcases p2 with _ | p2 <;> exact Nat.le_of_ble_eq_true rfl) (by rcases p0 with _ | p0 <;> rcases p2 with _ | p2 <;> rfl) hle0 (fun X => ?_) rfl
  unfold Law_movedIn at hy
  refine g_aloadO_n 2 (i := 2) (pc' := 1) d_Law_movedIn_0 rfl rfl rfl ?_
  refine g_iconst (v := (0 : Int32)) (pc' := 2) d_Law_movedIn_1 (by decide) rfl ?_
  refine g_aloadO_n 0 (i := 0) (pc' := 3) d_Law_movedIn_2 rfl rfl rfl ?_
  refine g_iload_n 1 (i := 1) (pc' := 4) d_Law_movedIn_3 rfl rfl rfl ?_
  replace hy := g_nn_inv hy
  obtain ⟨a1, rfl, hy⟩ := hy
  replace hy := g_is_inv hy
  obtain ⟨fs2, hc3, hy⟩ := hy
  replace hy := g_bh_inv hy
  rcases hy with ⟨x4, h5, hf6, hy⟩ | ⟨E9, q9, h5, hf6, hy⟩
  rotate_left
  · by_cases e9 : E9 = "java/lang/IndexOutOfBoundsException"
    · subst e9
      rw [if_pos rfl] at hy
      cases hy
      refine g_callVH (pre := []) (suf := []) (x := (0, 9, 12, 27)) (nm := "java/lang/IndexOutOfBoundsException") (pc' := 12) (As := [.int p1]) (rest := [.int (0 : Int32), va_rf p2]) 1 (T_Desk_movedIn (hy := hf6)) d_Law_movedIn_4 hc3 rfl rfl q1929 q1930 q1931 q108 q1932 hd_Desk_movedIn rfl ⟨by decide, by decide⟩ (by first | exact Nat.le_of_ble_eq_true rfl | (simp only [List.map, List.sum_cons, List.sum_nil, g_cat_rf]; exact Nat.le_of_ble_eq_true rfl) | (simp only [List.map, List.sum_cons, List.sum_nil, g_cat_rf, Value.category]; decide)) (by decide) rfl (fun z hz => by cases hz) (by decide) (by decide) q1353 q1385 rfl ?_
      intro n9 a9 hn9 ha9
      refine g_astore_n (i := 3) (pc' := 13) (Lc' := [(3, .ref a9), (0, .ref a1), (1, .int p1), (2, va_rf p2)]) d_Law_movedIn_12 rfl (by decide) (by cases p2 <;> rfl) rfl ?_
      refine g_iconst (v := (1 : Int32)) (pc' := 14) d_Law_movedIn_13 (by decide) rfl ?_
      exact g_iretR n9 rfl rfl rfl hn9 rfl d_Law_movedIn_14
    · rw [if_neg e9] at hy
      cases hy
  refine g_callV (rv := some (.int x4)) (h1 := h5) (pc' := 7) (As := [.int p1]) (rest := [.int (0 : Int32), va_rf p2]) 1 (T_Desk_movedIn (hy := hf6)) d_Law_movedIn_4 hc3 rfl rfl q1929 q1930 q1931 q108 q1932 hd_Desk_movedIn rfl ⟨by decide, by decide⟩ (by first | exact Nat.le_of_ble_eq_true rfl | (simp only [List.map, List.sum_cons, List.sum_nil, g_cat_rf]; exact Nat.le_of_ble_eq_true rfl) | (simp only [List.map, List.sum_cons, List.sum_nil, g_cat_rf, Value.category]; decide)) rfl ?_
  refine g_i2l (pc' := 8) d_Law_movedIn_7 rfl ?_
  replace hy := g_nn_inv hy
  obtain ⟨a7, rfl, hy⟩ := hy
  replace hy := g_sL_inv hy
  obtain ⟨n8, f9, hc10, hi11, hy⟩ := hy
  refine g_last (pc' := 9) d_Law_movedIn_8 hc10 hi11 rfl ?_
  generalize g_up h5 a7 (.inl (3, n8, .inr (.inl (vp_updL f9 ((0 : Int32)).toNatClampNeg ((x4).toInt64))))) = h12 at hy ⊢
  refine g_goto (pc' := 15) d_Law_movedIn_9 (by decide) ?_
  refine g_iconst (v := (0 : Int32)) (pc' := 16) d_Law_movedIn_15 (by decide) rfl ?_
  cases hy
  exact g_iret rfl rfl rfl d_Law_movedIn_16
theorem hd_Law_movedIn : g_dsc y_Law_movedIn 3 := ⟨by decide +kernel, by decide +kernel, by decide +kernel⟩
/-! CircuitDeskLaw.ahead(LCircuitDesk;II[J)I -/
abbrev y_Law_ahead : MethodName := ⟨"CircuitDeskLaw", "ahead", "(LCircuitDesk;II[J)I"⟩
abbrev k_Law_ahead : g_M := (method_29_code, 5, "CircuitDeskLaw", 33, (some FieldType.int), "ahead", [(0, 10, 13, 18)], 1)
theorem d_Law_ahead_0 : decode method_29_code 0 = .ok (.aload_n 3, 1) := by decide +kernel
theorem d_Law_ahead_1 : decode method_29_code 1 = .ok (.iconst 0, 1) := by decide +kernel
theorem d_Law_ahead_2 : decode method_29_code 2 = .ok (.aload_n 0, 1) := by decide +kernel
theorem d_Law_ahead_3 : decode method_29_code 3 = .ok (.iload_n 1, 1) := by decide +kernel
theorem d_Law_ahead_4 : decode method_29_code 4 = .ok (.iload_n 2, 1) := by decide +kernel
theorem d_Law_ahead_5 : decode method_29_code 5 = .ok (.invokevirtual 100, 3) := by decide +kernel
theorem d_Law_ahead_8 : decode method_29_code 8 = .ok (.i2l, 1) := by decide +kernel
theorem d_Law_ahead_9 : decode method_29_code 9 = .ok (.lastore, 1) := by decide +kernel
theorem d_Law_ahead_10 : decode method_29_code 10 = .ok (.goto 7, 3) := by decide +kernel
theorem d_Law_ahead_13 : decode method_29_code 13 = .ok (.astore 4, 2) := by decide +kernel
theorem d_Law_ahead_15 : decode method_29_code 15 = .ok (.iconst 1, 1) := by decide +kernel
theorem d_Law_ahead_16 : decode method_29_code 16 = .ok (.ireturn, 1) := by decide +kernel
theorem d_Law_ahead_17 : decode method_29_code 17 = .ok (.iconst 0, 1) := by decide +kernel
theorem d_Law_ahead_18 : decode method_29_code 18 = .ok (.ireturn, 1) := by decide +kernel
def Law_ahead (h : g_AH) (p0 : Option Nat) (p1 : Int32) (p2 : Int32) (p3 : Option Nat) : Option (Int32 × g_AH) :=
  g_nn p0 fun a1 => g_is h a1 0 <| g_bh (Desk_ahead h a1 p1 p2) (fun E9 _ h9 => if E9 = "java/lang/IllegalArgumentException" then some ((1 : Int32), h9) else none) fun x4 h5 => g_nn p3 fun a7 => g_sL h5 a7 (0 : Int32) ((x4).toInt64) fun h12 => some ((0 : Int32), h12)
set_option maxHeartbeats 4000000 in
set_option maxRecDepth 100000 in
theorem T_Law_ahead {l : Launch} {B : g_B} (h : g_AH) (p0 : Option Nat) (p1 : Int32) (p2 : Int32) (p3 : Option Nat) (z : Int32 × g_AH) (hy : Law_ahead h p0 p1 p2 p3 = some z) : g_CTR l B y_Law_ahead k_Law_ahead [va_rf p0, .int p1, .int p2, va_rf p3] h (.inl (some (.int z.1))) z.2 := by
  have hle0 : g_X → g_Le h z.2 := by
    intro X0
    unfold Law_ahead at hy
    replace hy := g_nn_inv hy
    obtain ⟨a1, rfl, hy⟩ := hy
    replace hy := g_is_inv hy
    obtain ⟨fs1, hc1, hy⟩ := hy
    replace hy := g_bh_inv hy
    rcases hy with ⟨x1, h1, hf1, hy⟩ | ⟨E1, q1, h1, hf1, hy⟩
    · have b1 := (T_Desk_ahead (l := x_l X0) (B := x_B X0) (hy := hf1)).1 X0
      replace hy := g_nn_inv hy; obtain ⟨a2, rfl, hy⟩ := hy; replace hy := g_sL_inv hy; obtain ⟨n2, f2, hc2, hi2, hy⟩ := hy; cases hy; exact b1.tr (g_Le.up hc2)
    · have b1 := (T_Desk_ahead (l := x_l X0) (B := x_B X0) (hy := hf1)).1 X0
      repeat (first | (cases hy; done) | (cases hy; exact b1) | split at hy)
  refine g_startR (Lc := [(0, va_rf p0), (1, .int p1), (2, .int p2), (3, va_rf p3)]) (by decide) rfl rfl (by rcases p0 with _ | p0 <;> rcases p3 with _ | p3 <;> exact Nat.le_of_ble_eq_true rfl) (by rcases p0 with _ | p0 <;> rcases p3 with _ | p3 <;> rfl) hle0 (fun X => ?_) rfl
  unfold Law_ahead at hy
  refine g_aloadO_n 3 (i := 3) (pc' := 1) d_Law_ahead_0 rfl rfl rfl ?_
  refine g_iconst (v := (0 : Int32)) (pc' := 2) d_Law_ahead_1 (by decide) rfl ?_
  refine g_aloadO_n 0 (i := 0) (pc' := 3) d_Law_ahead_2 rfl rfl rfl ?_
  refine g_iload_n 1 (i := 1) (pc' := 4) d_Law_ahead_3 rfl rfl rfl ?_
  refine g_iload_n 2 (i := 2) (pc' := 5) d_Law_ahead_4 rfl rfl rfl ?_
  replace hy := g_nn_inv hy
  obtain ⟨a1, rfl, hy⟩ := hy
  replace hy := g_is_inv hy
  obtain ⟨fs2, hc3, hy⟩ := hy
  replace hy := g_bh_inv hy
  rcases hy with ⟨x4, h5, hf6, hy⟩ | ⟨E9, q9, h5, hf6, hy⟩
  rotate_left
  · by_cases e9 : E9 = "java/lang/IllegalArgumentException"
    · subst e9
      rw [if_pos rfl] at hy
      cases hy
      refine g_callVH (pre := []) (suf := []) (x := (0, 10, 13, 18)) (nm := "java/lang/IllegalArgumentException") (pc' := 13) (As := [.int p1, .int p2]) (rest := [.int (0 : Int32), va_rf p3]) 2 (T_Desk_ahead (hy := hf6)) d_Law_ahead_5 hc3 rfl rfl q1937 q1938 q1939 q108 q1940 hd_Desk_ahead rfl ⟨by decide, by decide⟩ (by first | exact Nat.le_of_ble_eq_true rfl | (simp only [List.map, List.sum_cons, List.sum_nil, g_cat_rf]; exact Nat.le_of_ble_eq_true rfl) | (simp only [List.map, List.sum_cons, List.sum_nil, g_cat_rf, Value.category]; decide)) (by decide) rfl (fun z hz => by cases hz) (by decide) (by decide) q1325 q180 rfl ?_
      intro n9 a9 hn9 ha9
      refine g_astore (pc' := 15) (Lc' := [(4, .ref a9), (0, .ref a1), (1, .int p1), (2, .int p2), (3, va_rf p3)]) d_Law_ahead_13 (by decide) (by cases p3 <;> rfl) rfl ?_
      refine g_iconst (v := (1 : Int32)) (pc' := 16) d_Law_ahead_15 (by decide) rfl ?_
      exact g_iretR n9 rfl rfl rfl hn9 rfl d_Law_ahead_16
    · rw [if_neg e9] at hy
      cases hy
  refine g_callV (rv := some (.int x4)) (h1 := h5) (pc' := 8) (As := [.int p1, .int p2]) (rest := [.int (0 : Int32), va_rf p3]) 2 (T_Desk_ahead (hy := hf6)) d_Law_ahead_5 hc3 rfl rfl q1937 q1938 q1939 q108 q1940 hd_Desk_ahead rfl ⟨by decide, by decide⟩ (by first | exact Nat.le_of_ble_eq_true rfl | (simp only [List.map, List.sum_cons, List.sum_nil, g_cat_rf]; exact Nat.le_of_ble_eq_true rfl) | (simp only [List.map, List.sum_cons, List.sum_nil, g_cat_rf, Value.category]; decide)) rfl ?_
  refine g_i2l (pc' := 9) d_Law_ahead_8 rfl ?_
  replace hy := g_nn_inv hy
  obtain ⟨a7, rfl, hy⟩ := hy
  replace hy := g_sL_inv hy
  obtain ⟨n8, f9, hc10, hi11, hy⟩ := hy
  refine g_last (pc' := 10) d_Law_ahead_9 hc10 hi11 rfl ?_
  generalize g_up h5 a7 (.inl (3, n8, .inr (.inl (vp_updL f9 ((0 : Int32)).toNatClampNeg ((x4).toInt64))))) = h12 at hy ⊢
  refine g_goto (pc' := 17) d_Law_ahead_10 (by decide) ?_
  refine g_iconst (v := (0 : Int32)) (pc' := 18) d_Law_ahead_17 (by decide) rfl ?_
  cases hy
  exact g_iret rfl rfl rfl d_Law_ahead_18
theorem hd_Law_ahead : g_dsc y_Law_ahead 4 := ⟨by decide +kernel, by decide +kernel, by decide +kernel⟩
/-! CircuitDeskLaw.save(LCircuitDesk;I)I -/
abbrev y_Law_save : MethodName := ⟨"CircuitDeskLaw", "save", "(LCircuitDesk;I)I"⟩
abbrev k_Law_save : g_M := (method_30_code, 3, "CircuitDeskLaw", 33, (some FieldType.int), "save", [(0, 5, 8, 18)], 1)
theorem d_Law_save_0 : decode method_30_code 0 = .ok (.aload_n 0, 1) := by decide +kernel
theorem d_Law_save_1 : decode method_30_code 1 = .ok (.iload_n 1, 1) := by decide +kernel
theorem d_Law_save_2 : decode method_30_code 2 = .ok (.invokevirtual 103, 3) := by decide +kernel
theorem d_Law_save_5 : decode method_30_code 5 = .ok (.goto 6, 3) := by decide +kernel
theorem d_Law_save_8 : decode method_30_code 8 = .ok (.astore_n 2, 1) := by decide +kernel
theorem d_Law_save_9 : decode method_30_code 9 = .ok (.iconst 1, 1) := by decide +kernel
theorem d_Law_save_10 : decode method_30_code 10 = .ok (.ireturn, 1) := by decide +kernel
theorem d_Law_save_11 : decode method_30_code 11 = .ok (.iconst 0, 1) := by decide +kernel
theorem d_Law_save_12 : decode method_30_code 12 = .ok (.ireturn, 1) := by decide +kernel
def Law_save (h : g_AH) (p0 : Option Nat) (p1 : Int32) : Option (Int32 × g_AH) :=
  g_nn p0 fun a1 => g_is h a1 0 <| g_bh (Desk_save h a1 p1) (fun E9 _ h9 => if E9 = "java/lang/IllegalArgumentException" then some ((1 : Int32), h9) else none) fun x4 h5 => some ((0 : Int32), h5)
set_option maxHeartbeats 4000000 in
set_option maxRecDepth 100000 in
theorem T_Law_save {l : Launch} {B : g_B} (h : g_AH) (p0 : Option Nat) (p1 : Int32) (z : Int32 × g_AH) (hy : Law_save h p0 p1 = some z) : g_CTR l B y_Law_save k_Law_save [va_rf p0, .int p1] h (.inl (some (.int z.1))) z.2 := by
  have hle0 : g_X → g_Le h z.2 := by
    intro X0
    unfold Law_save at hy
    replace hy := g_nn_inv hy
    obtain ⟨a1, rfl, hy⟩ := hy
    replace hy := g_is_inv hy
    obtain ⟨fs1, hc1, hy⟩ := hy
    replace hy := g_bh_inv hy
    rcases hy with ⟨x1, h1, hf1, hy⟩ | ⟨E1, q1, h1, hf1, hy⟩
    · have b1 := (T_Desk_save (l := x_l X0) (B := x_B X0) (hy := hf1)).1 X0
      cases hy; exact b1
    · have b1 := (T_Desk_save (l := x_l X0) (B := x_B X0) (hy := hf1)).1 X0
      repeat (first | (cases hy; done) | (cases hy; exact b1) | split at hy)
  refine g_startR (Lc := [(0, va_rf p0), (1, .int p1)]) (by decide) rfl rfl (by rcases p0 with _ | p0 <;> exact Nat.le_of_ble_eq_true rfl) (by rcases p0 with _ | p0 <;> rfl) hle0 (fun X => ?_) rfl
  unfold Law_save at hy
  refine g_aloadO_n 0 (i := 0) (pc' := 1) d_Law_save_0 rfl rfl rfl ?_
  refine g_iload_n 1 (i := 1) (pc' := 2) d_Law_save_1 rfl rfl rfl ?_
  replace hy := g_nn_inv hy
  obtain ⟨a1, rfl, hy⟩ := hy
  replace hy := g_is_inv hy
  obtain ⟨fs2, hc3, hy⟩ := hy
  replace hy := g_bh_inv hy
  rcases hy with ⟨x4, h5, hf6, hy⟩ | ⟨E9, q9, h5, hf6, hy⟩
  rotate_left
  · by_cases e9 : E9 = "java/lang/IllegalArgumentException"
    · subst e9
      rw [if_pos rfl] at hy
      cases hy
      refine g_callVH (pre := []) (suf := []) (x := (0, 5, 8, 18)) (nm := "java/lang/IllegalArgumentException") (pc' := 8) (As := [.int p1]) (rest := []) 1 (T_Desk_save (hy := hf6)) d_Law_save_2 hc3 rfl rfl q1944 q1945 q1946 q108 q1947 hd_Desk_save rfl ⟨by decide, by decide⟩ (by first | exact Nat.le_of_ble_eq_true rfl | (simp only [List.map, List.sum_cons, List.sum_nil, g_cat_rf]; exact Nat.le_of_ble_eq_true rfl) | (simp only [List.map, List.sum_cons, List.sum_nil, g_cat_rf, Value.category]; decide)) (by decide) rfl (fun z hz => by cases hz) (by decide) (by decide) q1325 q180 rfl ?_
      intro n9 a9 hn9 ha9
      refine g_astore_n (i := 2) (pc' := 9) (Lc' := [(2, .ref a9), (0, .ref a1), (1, .int p1)]) d_Law_save_8 rfl (by decide) rfl rfl ?_
      refine g_iconst (v := (1 : Int32)) (pc' := 10) d_Law_save_9 (by decide) rfl ?_
      exact g_iretR n9 rfl rfl rfl hn9 rfl d_Law_save_10
    · rw [if_neg e9] at hy
      cases hy
  refine g_callV (rv := none) (h1 := h5) (pc' := 5) (As := [.int p1]) (rest := []) 1 (T_Desk_save (hy := hf6)) d_Law_save_2 hc3 rfl rfl q1944 q1945 q1946 q108 q1947 hd_Desk_save rfl ⟨by decide, by decide⟩ (by first | exact Nat.le_of_ble_eq_true rfl | (simp only [List.map, List.sum_cons, List.sum_nil, g_cat_rf]; exact Nat.le_of_ble_eq_true rfl) | (simp only [List.map, List.sum_cons, List.sum_nil, g_cat_rf, Value.category]; decide)) rfl ?_
  refine g_goto (pc' := 11) d_Law_save_5 (by decide) ?_
  refine g_iconst (v := (0 : Int32)) (pc' := 12) d_Law_save_11 (by decide) rfl ?_
  cases hy
  exact g_iret rfl rfl rfl d_Law_save_12
theorem hd_Law_save : g_dsc y_Law_save 2 := ⟨by decide +kernel, by decide +kernel, by decide +kernel⟩
/-! CircuitDeskLaw.restore(LCircuitDesk;I)I -/
abbrev y_Law_restore : MethodName := ⟨"CircuitDeskLaw", "restore", "(LCircuitDesk;I)I"⟩
abbrev k_Law_restore : g_M := (method_31_code, 3, "CircuitDeskLaw", 33, (some FieldType.int), "restore", [(0, 5, 8, 18), (0, 5, 11, 13)], 1)
theorem d_Law_restore_0 : decode method_31_code 0 = .ok (.aload_n 0, 1) := by decide +kernel
theorem d_Law_restore_1 : decode method_31_code 1 = .ok (.iload_n 1, 1) := by decide +kernel
theorem d_Law_restore_2 : decode method_31_code 2 = .ok (.invokevirtual 107, 3) := by decide +kernel
theorem d_Law_restore_5 : decode method_31_code 5 = .ok (.goto 9, 3) := by decide +kernel
theorem d_Law_restore_8 : decode method_31_code 8 = .ok (.astore_n 2, 1) := by decide +kernel
theorem d_Law_restore_9 : decode method_31_code 9 = .ok (.iconst 1, 1) := by decide +kernel
theorem d_Law_restore_10 : decode method_31_code 10 = .ok (.ireturn, 1) := by decide +kernel
theorem d_Law_restore_11 : decode method_31_code 11 = .ok (.astore_n 2, 1) := by decide +kernel
theorem d_Law_restore_12 : decode method_31_code 12 = .ok (.iconst 2, 1) := by decide +kernel
theorem d_Law_restore_13 : decode method_31_code 13 = .ok (.ireturn, 1) := by decide +kernel
theorem d_Law_restore_14 : decode method_31_code 14 = .ok (.iconst 0, 1) := by decide +kernel
theorem d_Law_restore_15 : decode method_31_code 15 = .ok (.ireturn, 1) := by decide +kernel
def Law_restore (h : g_AH) (p0 : Option Nat) (p1 : Int32) : Option (Int32 × g_AH) :=
  g_nn p0 fun a1 => g_is h a1 0 <| g_bh (Desk_restore h a1 p1) (fun E9 _ h9 => if E9 = "java/lang/IllegalArgumentException" then some ((1 : Int32), h9) else if E9 = "java/lang/IllegalStateException" then some ((2 : Int32), h9) else none) fun x4 h5 => some ((0 : Int32), h5)
set_option maxHeartbeats 4000000 in
set_option maxRecDepth 100000 in
theorem T_Law_restore {l : Launch} {B : g_B} (h : g_AH) (p0 : Option Nat) (p1 : Int32) (z : Int32 × g_AH) (hy : Law_restore h p0 p1 = some z) : g_CTR l B y_Law_restore k_Law_restore [va_rf p0, .int p1] h (.inl (some (.int z.1))) z.2 := by
  have hle0 : g_X → g_Le h z.2 := by
    intro X0
    unfold Law_restore at hy
    replace hy := g_nn_inv hy
    obtain ⟨a1, rfl, hy⟩ := hy
    replace hy := g_is_inv hy
    obtain ⟨fs1, hc1, hy⟩ := hy
    replace hy := g_bh_inv hy
    rcases hy with ⟨x1, h1, hf1, hy⟩ | ⟨E1, q1, h1, hf1, hy⟩
    · have b1 := (T_Desk_restore (l := x_l X0) (B := x_B X0) (hy := hf1)).1 X0
      cases hy; exact b1
    · have b1 := (T_Desk_restore (l := x_l X0) (B := x_B X0) (hy := hf1)).1 X0
      repeat (first | (cases hy; done) | (cases hy; exact b1) | split at hy)
  refine g_startR (Lc := [(0, va_rf p0), (1, .int p1)]) (by decide) rfl rfl (by rcases p0 with _ | p0 <;> exact Nat.le_of_ble_eq_true rfl) (by rcases p0 with _ | p0 <;> rfl) hle0 (fun X => ?_) rfl
  unfold Law_restore at hy
  refine g_aloadO_n 0 (i := 0) (pc' := 1) d_Law_restore_0 rfl rfl rfl ?_
  refine g_iload_n 1 (i := 1) (pc' := 2) d_Law_restore_1 rfl rfl rfl ?_
  replace hy := g_nn_inv hy
  obtain ⟨a1, rfl, hy⟩ := hy
  replace hy := g_is_inv hy
  obtain ⟨fs2, hc3, hy⟩ := hy
  replace hy := g_bh_inv hy
  rcases hy with ⟨x4, h5, hf6, hy⟩ | ⟨E9, q9, h5, hf6, hy⟩
  rotate_left
  · by_cases e9 : E9 = "java/lang/IllegalArgumentException"
    · subst e9
      rw [if_pos rfl] at hy
      cases hy
      refine g_callVH (pre := []) (suf := [(0, 5, 11, 13)]) (x := (0, 5, 8, 18)) (nm := "java/lang/IllegalArgumentException") (pc' := 8) (As := [.int p1]) (rest := []) 1 (T_Desk_restore (hy := hf6)) d_Law_restore_2 hc3 rfl rfl q1951 q1952 q1953 q108 q1954 hd_Desk_restore rfl ⟨by decide, by decide⟩ (by first | exact Nat.le_of_ble_eq_true rfl | (simp only [List.map, List.sum_cons, List.sum_nil, g_cat_rf]; exact Nat.le_of_ble_eq_true rfl) | (simp only [List.map, List.sum_cons, List.sum_nil, g_cat_rf, Value.category]; decide)) (by decide) rfl (fun z hz => by cases hz) (by decide) (by decide) q1325 q180 rfl ?_
      intro n9 a9 hn9 ha9
      refine g_astore_n (i := 2) (pc' := 9) (Lc' := [(2, .ref a9), (0, .ref a1), (1, .int p1)]) d_Law_restore_8 rfl (by decide) rfl rfl ?_
      refine g_iconst (v := (1 : Int32)) (pc' := 10) d_Law_restore_9 (by decide) rfl ?_
      exact g_iretR n9 rfl rfl rfl hn9 rfl d_Law_restore_10
    · rw [if_neg e9] at hy
      by_cases e9 : E9 = "java/lang/IllegalStateException"
      · subst e9
        rw [if_pos rfl] at hy
        cases hy
        refine g_callVH (pre := [(0, 5, 8, 18)]) (suf := []) (x := (0, 5, 11, 13)) (nm := "java/lang/IllegalStateException") (pc' := 11) (As := [.int p1]) (rest := []) 1 (T_Desk_restore (hy := hf6)) d_Law_restore_2 hc3 rfl rfl q1951 q1952 q1953 q108 q1954 hd_Desk_restore rfl ⟨by decide, by decide⟩ (by first | exact Nat.le_of_ble_eq_true rfl | (simp only [List.map, List.sum_cons, List.sum_nil, g_cat_rf]; exact Nat.le_of_ble_eq_true rfl) | (simp only [List.map, List.sum_cons, List.sum_nil, g_cat_rf, Value.category]; decide)) (by decide) rfl (fun z hz => by rcases List.mem_cons.mp hz with rfl | hz; exact ⟨by decide, "java/lang/IllegalArgumentException", q1325, by decide +kernel⟩; cases hz) (by decide) (by decide) q1293 q1303 rfl ?_
        intro n9 a9 hn9 ha9
        refine g_astore_n (i := 2) (pc' := 12) (Lc' := [(2, .ref a9), (0, .ref a1), (1, .int p1)]) d_Law_restore_11 rfl (by decide) rfl rfl ?_
        refine g_iconst (v := (2 : Int32)) (pc' := 13) d_Law_restore_12 (by decide) rfl ?_
        exact g_iretR n9 rfl rfl rfl hn9 rfl d_Law_restore_13
      · rw [if_neg e9] at hy
        cases hy
  refine g_callV (rv := none) (h1 := h5) (pc' := 5) (As := [.int p1]) (rest := []) 1 (T_Desk_restore (hy := hf6)) d_Law_restore_2 hc3 rfl rfl q1951 q1952 q1953 q108 q1954 hd_Desk_restore rfl ⟨by decide, by decide⟩ (by first | exact Nat.le_of_ble_eq_true rfl | (simp only [List.map, List.sum_cons, List.sum_nil, g_cat_rf]; exact Nat.le_of_ble_eq_true rfl) | (simp only [List.map, List.sum_cons, List.sum_nil, g_cat_rf, Value.category]; decide)) rfl ?_
  refine g_goto (pc' := 14) d_Law_restore_5 (by decide) ?_
  refine g_iconst (v := (0 : Int32)) (pc' := 15) d_Law_restore_14 (by decide) rfl ?_
  cases hy
  exact g_iret rfl rfl rfl d_Law_restore_15
theorem hd_Law_restore : g_dsc y_Law_restore 2 := ⟨by decide +kernel, by decide +kernel, by decide +kernel⟩
