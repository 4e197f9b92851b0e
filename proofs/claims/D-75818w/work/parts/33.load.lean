theorem g_renU {X : g_X} {K : g_M} {r : g_RV} {he h : g_AH} {pc n a : Nat} {c : g_OB} {Lc : List (Nat × Value)} {st : List Value} (k : G X K r he (g_ren (g_up h a c) n) pc Lc st) : G X K r he (g_up (g_ren h n) a c) pc Lc st := k
/-! CircuitDesk.load()I -/
abbrev y_Desk_load : MethodName := ⟨"CircuitDesk", "load", "()I"⟩
abbrev k_Desk_load : g_M := (prog_1_method_49_code, 3, "CircuitDesk", 34, (some FieldType.int), "load", [(28, 57, 58, 409)], 1)
theorem d_Desk_load_0 : decode prog_1_method_49_code 0 = .ok (.new 398, 3) := by decide +kernel
theorem d_Desk_load_3 : decode prog_1_method_49_code 3 = .ok (.dup, 1) := by decide +kernel
theorem d_Desk_load_4 : decode prog_1_method_49_code 4 = .ok (.aload_n 0, 1) := by decide +kernel
theorem d_Desk_load_5 : decode prog_1_method_49_code 5 = .ok (.aload_n 0, 1) := by decide +kernel
theorem d_Desk_load_6 : decode prog_1_method_49_code 6 = .ok (.getfield 395, 3) := by decide +kernel
theorem d_Desk_load_9 : decode prog_1_method_49_code 9 = .ok (.invokespecial 400, 3) := by decide +kernel
theorem d_Desk_load_12 : decode prog_1_method_49_code 12 = .ok (.astore_n 1, 1) := by decide +kernel
theorem d_Desk_load_13 : decode prog_1_method_49_code 13 = .ok (.aload_n 0, 1) := by decide +kernel
theorem d_Desk_load_14 : decode prog_1_method_49_code 14 = .ok (.iconst 0, 1) := by decide +kernel
theorem d_Desk_load_15 : decode prog_1_method_49_code 15 = .ok (.putfield 395, 3) := by decide +kernel
theorem d_Desk_load_18 : decode prog_1_method_49_code 18 = .ok (.aload_n 0, 1) := by decide +kernel
theorem d_Desk_load_19 : decode prog_1_method_49_code 19 = .ok (.iconst 0, 1) := by decide +kernel
theorem d_Desk_load_20 : decode prog_1_method_49_code 20 = .ok (.putfield 403, 3) := by decide +kernel
theorem d_Desk_load_23 : decode prog_1_method_49_code 23 = .ok (.aload_n 0, 1) := by decide +kernel
theorem d_Desk_load_24 : decode prog_1_method_49_code 24 = .ok (.iconst (-1), 1) := by decide +kernel
theorem d_Desk_load_25 : decode prog_1_method_49_code 25 = .ok (.putfield 40, 3) := by decide +kernel
theorem d_Desk_load_28 : decode prog_1_method_49_code 28 = .ok (.aload_n 0, 1) := by decide +kernel
theorem d_Desk_load_29 : decode prog_1_method_49_code 29 = .ok (.aload_n 1, 1) := by decide +kernel
theorem d_Desk_load_30 : decode prog_1_method_49_code 30 = .ok (.invokevirtual 406, 3) := by decide +kernel
theorem d_Desk_load_33 : decode prog_1_method_49_code 33 = .ok (.putfield 19, 3) := by decide +kernel
theorem d_Desk_load_36 : decode prog_1_method_49_code 36 = .ok (.aload_n 0, 1) := by decide +kernel
theorem d_Desk_load_37 : decode prog_1_method_49_code 37 = .ok (.new 25, 3) := by decide +kernel
theorem d_Desk_load_40 : decode prog_1_method_49_code 40 = .ok (.dup, 1) := by decide +kernel
theorem d_Desk_load_41 : decode prog_1_method_49_code 41 = .ok (.invokespecial 27, 3) := by decide +kernel
theorem d_Desk_load_44 : decode prog_1_method_49_code 44 = .ok (.putfield 28, 3) := by decide +kernel
theorem d_Desk_load_47 : decode prog_1_method_49_code 47 = .ok (.aload_n 0, 1) := by decide +kernel
theorem d_Desk_load_48 : decode prog_1_method_49_code 48 = .ok (.getfield 19, 3) := by decide +kernel
theorem d_Desk_load_51 : decode prog_1_method_49_code 51 = .ok (.getfield 73, 3) := by decide +kernel
theorem d_Desk_load_54 : decode prog_1_method_49_code 54 = .ok (.invokevirtual 48, 3) := by decide +kernel
theorem d_Desk_load_57 : decode prog_1_method_49_code 57 = .ok (.ireturn, 1) := by decide +kernel
theorem d_Desk_load_58 : decode prog_1_method_49_code 58 = .ok (.astore_n 2, 1) := by decide +kernel
theorem d_Desk_load_59 : decode prog_1_method_49_code 59 = .ok (.aload_n 0, 1) := by decide +kernel
theorem d_Desk_load_60 : decode prog_1_method_49_code 60 = .ok (.aload_n 2, 1) := by decide +kernel
theorem d_Desk_load_61 : decode prog_1_method_49_code 61 = .ok (.getfield 411, 3) := by decide +kernel
theorem d_Desk_load_64 : decode prog_1_method_49_code 64 = .ok (.putfield 403, 3) := by decide +kernel
theorem d_Desk_load_67 : decode prog_1_method_49_code 67 = .ok (.aload_n 0, 1) := by decide +kernel
theorem d_Desk_load_68 : decode prog_1_method_49_code 68 = .ok (.aload_n 2, 1) := by decide +kernel
theorem d_Desk_load_69 : decode prog_1_method_49_code 69 = .ok (.getfield 414, 3) := by decide +kernel
theorem d_Desk_load_72 : decode prog_1_method_49_code 72 = .ok (.putfield 40, 3) := by decide +kernel
theorem d_Desk_load_75 : decode prog_1_method_49_code 75 = .ok (.iconst (-1), 1) := by decide +kernel
theorem d_Desk_load_76 : decode prog_1_method_49_code 76 = .ok (.ireturn, 1) := by decide +kernel
def Desk_load (h : g_AH) (this : Nat) : Option (Int32 × g_AH) :=
  g_mk h (.inr (8, [.int 0, .null, .int 0, .int 0, .int 0, .int 0, .null, .null])) 8 fun a1 h2 => g_gI h2 this 0 4 fun x4 => g_b (Parser_init h2 a1 (some this) x4) fun h8 => g_pF h8 this 0 4 (.int (0 : Int32)) fun h13 => g_pF h13 this 0 5 (.int (0 : Int32)) fun h17 => g_pF h17 this 0 6 (.int (-1 : Int32)) fun h21 => g_is h21 a1 8 <| g_bh (Parser_setup h21 a1) (fun E9 q9 h9 => if E9 = "CircuitDesk$TextError" then g_nn q9 fun a7x => (g_gI h9 a7x 9 6 fun x28 => g_pF h9 this 0 5 (.int x28) fun h34 => g_gI h34 a7x 9 7 fun x36 => g_pF h34 this 0 6 (.int x36) fun h42 => some ((-1 : Int32), h42)) else none) fun x24 h25 => g_pF h25 this 0 0 (va_rf x24) fun h46 => g_mk h46 (.inr (6, [.null, .null, .null, .int 0])) 4 fun a47 h48 => g_b (Way_init h48 a47) fun h50 => g_pF h50 this 0 1 (.ref a47) fun h55 => g_gR h55 this 0 0 fun x57 => g_nn x57 fun a60 => g_gR h55 a60 1 3 fun x62 => g_nn x62 fun a65 => g_is h55 a65 15 <| g_b (ArrayList_size h55 a65) fun x68 => some (x68, h55)
set_option maxHeartbeats 4000000 in
set_option maxRecDepth 100000 in
theorem T_Desk_load {l : Launch} {B : g_B} (h : g_AH) (this : Nat) (z : Int32 × g_AH) (hy : Desk_load h this = some z) : g_CTR l B y_Desk_load k_Desk_load [.ref this] h (.inl (some (.int z.1))) z.2 := by
  have hle0 : g_X → g_Le h z.2 := by
    intro X0
    unfold Desk_load at hy
    replace hy := g_mk_inv hy
    replace hy := g_gI_inv hy
    obtain ⟨fs3, x4, hc5, hv6, hy⟩ := hy
    replace hy := g_b_inv hy
    obtain ⟨h8, hf9, hy⟩ := hy
    have b1 := g_Le.al.tr ((T_Parser_init (l := x_l X0) (B := x_B X0) (hy := hf9)).1 X0)
    replace hy := g_pF_inv hy
    obtain ⟨fs10, hc11, hl12, hy⟩ := hy
    replace hy := g_pF_inv hy
    obtain ⟨fs14, hc15, hl16, hy⟩ := hy
    replace hy := g_pF_inv hy
    obtain ⟨fs18, hc19, hl20, hy⟩ := hy
    replace hy := g_is_inv hy
    obtain ⟨fs22, hc23, hy⟩ := hy
    replace hy := g_bh_inv hy
    rcases hy with ⟨x24, h25, hf26, hy⟩ | ⟨E9, q9, h25, hf26, hy⟩
    · have b2 := (T_Parser_setup (l := x_l X0) (B := x_B X0) (hy := hf26)).1 X0
      replace hy := g_pF_inv hy
      obtain ⟨fs43, hc44, hl45, hy⟩ := hy
      replace hy := g_mk_inv hy
      replace hy := g_b_inv hy
      obtain ⟨h50, hf51, hy⟩ := hy
      have b3 := (T_Way_init (l := x_l X0) (B := x_B X0) (hy := hf51)).1 X0
      replace hy := g_pF_inv hy
      obtain ⟨fs52, hc53, hl54, hy⟩ := hy
      replace hy := g_gR_inv hy
      obtain ⟨fs56, x57, hc58, hv59, hy⟩ := hy
      replace hy := g_nn_inv hy
      obtain ⟨a60, rfl, hy⟩ := hy
      replace hy := g_gR_inv hy
      obtain ⟨fs61, x62, hc63, hv64, hy⟩ := hy
      replace hy := g_nn_inv hy
      obtain ⟨a65, rfl, hy⟩ := hy
      replace hy := g_is_inv hy
      obtain ⟨fs66, hc67, hy⟩ := hy
      replace hy := g_b_inv hy
      obtain ⟨x68, hf70, hy⟩ := hy
      cases hy
      exact (((((((b1.tr (g_Le.up hc11)).tr (g_Le.up hc15)).tr (g_Le.up hc19)).tr b2).tr (g_Le.up hc44)).tr g_Le.al).tr b3).tr (g_Le.up hc53)
    · have b2 := (T_Parser_setup (l := x_l X0) (B := x_B X0) (hy := hf26)).1 X0
      by_cases e9 : E9 = "CircuitDesk$TextError"
      · subst e9
        rw [if_pos rfl] at hy
        replace hy := g_nn_inv hy
        obtain ⟨a8, hq8, hy⟩ := hy
        replace hy := g_gI_inv hy
        obtain ⟨fs27, x28, hc29, hv30, hy⟩ := hy
        replace hy := g_pF_inv hy
        obtain ⟨fs31, hc32, hl33, hy⟩ := hy
        replace hy := g_gI_inv hy
        obtain ⟨fs35, x36, hc37, hv38, hy⟩ := hy
        replace hy := g_pF_inv hy
        obtain ⟨fs39, hc40, hl41, hy⟩ := hy
        cases hy
        exact (((((b1.tr (g_Le.up hc11)).tr (g_Le.up hc15)).tr (g_Le.up hc19)).tr b2).tr (g_Le.up hc32)).tr (g_Le.up hc40)
      · rw [if_neg e9] at hy
        cases hy
  refine g_startR (Lc := [(0, .ref this)]) (by decide) rfl rfl (by exact Nat.le_of_ble_eq_true rfl) (by rfl) hle0 (fun X => ?_) rfl
  unfold Desk_load at hy
  replace hy := g_mk_inv hy
  refine g_new (ci := 8) (fs := [.int 0, .null, .int 0, .int 0, .int 0, .int 0, .null, .null]) (pc' := 3) d_Desk_load_0 rfl q808 q809 q137 gdf_8 rfl ?_
  generalize g_al h (.inr (8, [.int 0, .null, .int 0, .int 0, .int 0, .int 0, .null, .null])) 8 = h2 at hy ⊢
  generalize g_n h = a1 at hy ⊢
  refine g_dup (pc' := 4) d_Desk_load_3 rfl rfl ?_
  refine g_aload_n 0 (i := 0) (pc' := 5) d_Desk_load_4 rfl rfl rfl ?_
  refine g_aload_n 0 (i := 0) (pc' := 6) d_Desk_load_5 rfl rfl rfl ?_
  replace hy := g_gI_inv hy
  obtain ⟨fs3, x4, hc5, hv6, hy⟩ := hy
  refine g_getf (pc' := 9) d_Desk_load_6 hc5 rfl (by decide) hv6 q647 (Or.inl rfl) rfl ?_
  replace hy := g_b_inv hy
  obtain ⟨h8, hf9, hy⟩ := hy
  refine g_callI (h1 := h8) (pc' := 12) (As := [va_rf (some this), .int x4]) (rest := [.ref a1]) 2 (T_Parser_init (hy := hf9)) d_Desk_load_9 rfl rfl q810 q811 q137 q812 hd_Parser_init rfl ⟨by decide, by decide⟩ (by first | exact Nat.le_of_ble_eq_true rfl | (simp only [List.map, List.sum_cons, List.sum_nil, g_cat_rf]; exact Nat.le_of_ble_eq_true rfl) | (simp only [List.map, List.sum_cons, List.sum_nil, g_cat_rf, Value.category]; decide)) rfl ?_
  refine g_astore_n (i := 1) (pc' := 13) (Lc' := [(1, .ref a1), (0, .ref this)]) d_Desk_load_12 rfl (by decide) rfl rfl ?_
  refine g_aload_n 1 (i := 0) (pc' := 14) d_Desk_load_13 rfl rfl rfl ?_
  refine g_iconst (v := (0 : Int32)) (pc' := 15) d_Desk_load_14 (by decide) rfl ?_
  replace hy := g_pF_inv hy
  obtain ⟨fs10, hc11, hl12, hy⟩ := hy
  refine g_putf (pc' := 18) d_Desk_load_15 hc11 rfl (by decide) hl12 rfl rfl rfl q647 (Or.inl rfl) rfl ?_
  generalize g_up h8 this (.inr (0, fs10.set 4 (.int (0 : Int32)))) = h13 at hy ⊢
  refine g_aload_n 1 (i := 0) (pc' := 19) d_Desk_load_18 rfl rfl rfl ?_
  refine g_iconst (v := (0 : Int32)) (pc' := 20) d_Desk_load_19 (by decide) rfl ?_
  replace hy := g_pF_inv hy
  obtain ⟨fs14, hc15, hl16, hy⟩ := hy
  refine g_putf (pc' := 23) d_Desk_load_20 hc15 rfl (by decide) hl16 rfl rfl rfl q648 (Or.inl rfl) rfl ?_
  generalize g_up h13 this (.inr (0, fs14.set 5 (.int (0 : Int32)))) = h17 at hy ⊢
  refine g_aload_n 1 (i := 0) (pc' := 24) d_Desk_load_23 rfl rfl rfl ?_
  refine g_iconst (v := (-1 : Int32)) (pc' := 25) d_Desk_load_24 (by decide) rfl ?_
  replace hy := g_pF_inv hy
  obtain ⟨fs18, hc19, hl20, hy⟩ := hy
  refine g_putf (pc' := 28) d_Desk_load_25 hc19 rfl (by decide) hl20 rfl rfl rfl q649 (Or.inl rfl) rfl ?_
  generalize g_up h17 this (.inr (0, fs18.set 6 (.int (-1 : Int32)))) = h21 at hy ⊢
  refine g_aload_n 1 (i := 0) (pc' := 29) d_Desk_load_28 rfl rfl rfl ?_
  refine g_aload_n 0 (i := 1) (pc' := 30) d_Desk_load_29 rfl rfl rfl ?_
  replace hy := g_is_inv hy
  obtain ⟨fs22, hc23, hy⟩ := hy
  replace hy := g_bh_inv hy
  rcases hy with ⟨x24, h25, hf26, hy⟩ | ⟨E9, q9, h25, hf26, hy⟩
  rotate_left
  · by_cases e9 : E9 = "CircuitDesk$TextError"
    · subst e9
      rw [if_pos rfl] at hy
      replace hy := g_nn_inv hy
      obtain ⟨a8, hq8, hy⟩ := hy
      refine g_callVH (pre := []) (suf := []) (x := (28, 57, 58, 409)) (nm := "CircuitDesk$TextError") (pc' := 58) (As := []) (rest := [.ref this]) 0 (T_Parser_setup (hy := hf26)) d_Desk_load_30 hc23 rfl rfl q882 q883 q884 q137 q885 hd_Parser_setup rfl ⟨by decide, by decide⟩ (by first | exact Nat.le_of_ble_eq_true rfl | (simp only [List.map, List.sum_cons, List.sum_nil, g_cat_rf]; exact Nat.le_of_ble_eq_true rfl) | (simp only [List.map, List.sum_cons, List.sum_nil, g_cat_rf, Value.category]; decide)) (by decide) rfl (fun z hz => by cases hz) (by decide) (by decide) q807 q970 rfl ?_
      intro n9 a9 hn9 ha9
      have hq7 := ha9 a8 hq8
      subst hq7
      refine g_astore_n (i := 2) (pc' := 59) (Lc' := [(2, .ref a9), (1, .ref a1), (0, .ref this)]) d_Desk_load_58 rfl (by decide) rfl rfl ?_
      refine g_aload_n 2 (i := 0) (pc' := 60) d_Desk_load_59 rfl rfl rfl ?_
      refine g_aload_n 0 (i := 2) (pc' := 61) d_Desk_load_60 rfl rfl rfl ?_
      replace hy := g_gI_inv hy
      obtain ⟨fs27, x28, hc29, hv30, hy⟩ := hy
      refine g_getfN (pc' := 64) d_Desk_load_61 hc29 rfl (by decide) hv30 q987 rfl rfl ?_
      replace hy := g_pF_inv hy
      obtain ⟨fs31, hc32, hl33, hy⟩ := hy
      refine g_putf (pc' := 67) d_Desk_load_64 hc32 rfl (by decide) hl33 rfl rfl rfl q648 (Or.inl rfl) rfl ?_
      refine g_renU ?_
      replace hn9 : g_n (g_up h25 this (.inr (0, fs31.set 5 (.int x28)))) ≤ n9 := hn9
      generalize g_up h25 this (.inr (0, fs31.set 5 (.int x28))) = h34 at hy hn9 ⊢
      refine g_aload_n 2 (i := 0) (pc' := 68) d_Desk_load_67 rfl rfl rfl ?_
      refine g_aload_n 0 (i := 2) (pc' := 69) d_Desk_load_68 rfl rfl rfl ?_
      replace hy := g_gI_inv hy
      obtain ⟨fs35, x36, hc37, hv38, hy⟩ := hy
      refine g_getfN (pc' := 72) d_Desk_load_69 hc37 rfl (by decide) hv38 q989 rfl rfl ?_
      replace hy := g_pF_inv hy
      obtain ⟨fs39, hc40, hl41, hy⟩ := hy
      refine g_putf (pc' := 75) d_Desk_load_72 hc40 rfl (by decide) hl41 rfl rfl rfl q649 (Or.inl rfl) rfl ?_
      refine g_renU ?_
      replace hn9 : g_n (g_up h34 this (.inr (0, fs39.set 6 (.int x36)))) ≤ n9 := hn9
      generalize g_up h34 this (.inr (0, fs39.set 6 (.int x36))) = h42 at hy hn9 ⊢
      refine g_iconst (v := (-1 : Int32)) (pc' := 76) d_Desk_load_75 (by decide) rfl ?_
      cases hy
      exact g_iretR n9 rfl rfl rfl hn9 rfl d_Desk_load_76
    · rw [if_neg e9] at hy
      cases hy
  refine g_callV (rv := some (va_rf x24)) (h1 := h25) (pc' := 33) (As := []) (rest := [.ref this]) 0 (T_Parser_setup (hy := hf26)) d_Desk_load_30 hc23 rfl rfl q882 q883 q884 q137 q885 hd_Parser_setup rfl ⟨by decide, by decide⟩ (by first | exact Nat.le_of_ble_eq_true rfl | (simp only [List.map, List.sum_cons, List.sum_nil, g_cat_rf]; exact Nat.le_of_ble_eq_true rfl) | (simp only [List.map, List.sum_cons, List.sum_nil, g_cat_rf, Value.category]; decide)) rfl ?_
  replace hy := g_pF_inv hy
  obtain ⟨fs43, hc44, hl45, hy⟩ := hy
  refine g_putf (pc' := 36) d_Desk_load_33 hc44 rfl (by decide) hl45 rfl g_nar_rf g_fit_o q642 (Or.inl rfl) rfl ?_
  generalize g_up h25 this (.inr (0, fs43.set 0 (va_rf x24))) = h46 at hy ⊢
  refine g_aload_n 1 (i := 0) (pc' := 37) d_Desk_load_36 rfl rfl rfl ?_
  replace hy := g_mk_inv hy
  refine g_new (ci := 6) (fs := [.null, .null, .null, .int 0]) (pc' := 40) d_Desk_load_37 rfl q610 q611 q134 gdf_6 rfl ?_
  generalize g_al h46 (.inr (6, [.null, .null, .null, .int 0])) 4 = h48 at hy ⊢
  generalize g_n h46 = a47 at hy ⊢
  refine g_dup (pc' := 41) d_Desk_load_40 rfl rfl ?_
  replace hy := g_b_inv hy
  obtain ⟨h50, hf51, hy⟩ := hy
  refine g_callIN (h1 := h50) (pc' := 44) (As := []) (rest := [.ref a47, .ref this]) 0 (T_Way_init (hy := hf51)) d_Desk_load_41 rfl rfl q612 q613 q134 q614 hd_Way_init rfl ⟨by decide, by decide⟩ (by first | exact Nat.le_of_ble_eq_true rfl | (simp only [List.map, List.sum_cons, List.sum_nil, g_cat_rf]; exact Nat.le_of_ble_eq_true rfl) | (simp only [List.map, List.sum_cons, List.sum_nil, g_cat_rf, Value.category]; decide)) rfl ?_
  replace hy := g_pF_inv hy
  obtain ⟨fs52, hc53, hl54, hy⟩ := hy
  refine g_putf (pc' := 47) d_Desk_load_44 hc53 rfl (by decide) hl54 rfl rfl rfl q643 (Or.inl rfl) rfl ?_
  generalize g_up h50 this (.inr (0, fs52.set 1 (.ref a47))) = h55 at hy ⊢
  refine g_aload_n 1 (i := 0) (pc' := 48) d_Desk_load_47 rfl rfl rfl ?_
  replace hy := g_gR_inv hy
  obtain ⟨fs56, x57, hc58, hv59, hy⟩ := hy
  refine g_getf (pc' := 51) d_Desk_load_48 hc58 rfl (by decide) hv59 q642 (Or.inl rfl) rfl ?_
  replace hy := g_nn_inv hy
  obtain ⟨a60, rfl, hy⟩ := hy
  replace hy := g_gR_inv hy
  obtain ⟨fs61, x62, hc63, hv64, hy⟩ := hy
  refine g_getfN (pc' := 54) d_Desk_load_51 hc63 rfl (by decide) hv64 q559 rfl rfl ?_
  replace hy := g_nn_inv hy
  obtain ⟨a65, rfl, hy⟩ := hy
  replace hy := g_is_inv hy
  obtain ⟨fs66, hc67, hy⟩ := hy
  replace hy := g_b_inv hy
  obtain ⟨x68, hf70, hy⟩ := hy
  refine g_callV (rv := some (.int x68)) (h1 := h55) (pc' := 57) (As := []) (rest := []) 0 (T_ArrayList_size (hy := hf70)) d_Desk_load_54 hc67 rfl rfl q673 q674 q675 q112 q676 hd_ArrayList_size rfl ⟨by decide, by decide⟩ (by first | exact Nat.le_of_ble_eq_true rfl | (simp only [List.map, List.sum_cons, List.sum_nil, g_cat_rf]; exact Nat.le_of_ble_eq_true rfl) | (simp only [List.map, List.sum_cons, List.sum_nil, g_cat_rf, Value.category]; decide)) rfl ?_
  cases hy
  exact g_iret rfl rfl rfl d_Desk_load_57
theorem hd_Desk_load : g_dsc y_Desk_load 0 := ⟨by decide +kernel, by decide +kernel, by decide +kernel⟩
