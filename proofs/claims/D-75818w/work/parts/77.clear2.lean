/-! LEVEL 2: Clearing.tick and the twin's clearWay -/
section CLEAR2
variable {h h0 h' : g_AH} {G G' O : Nat → Prop} {a : Nat} {r r' : tR} {N L C K : Nat → Nat} {mC x k p p' c c' w n s l i0 i j q W cp st : Nat} {M : g_MD}
theorem clear_both (hs : RS h G a r N L C K) (hr : M.1 0 = r) (hc : c < nt r 4) (hph : nt r (104 + 66 * c + 2) = 3) : ∃ (h' : g_AH) (M' : g_MD) (r' : tR), Clearing_tick h x (some a) (Int32.ofNat c) = some h' ∧ Mod_clearWay M (Int32.ofNat c) = some M' ∧ RS h' G a r' N L C K ∧ nt r' 4 = nt r 4 ∧ Mr M M' r' ∧ VF h h' G ∧ Co h h' 0 0 ∧ (∀ q, cl h' q = cl h q) := by
  have hI4 := hs.2.2
  have hA := hI4.1
  have g4 := nm4 hA
  have g2 := nm2 hA
  obtain ⟨ha, hl, -, -, hCs, -⟩ := hs.2.1.lst
  have hcc := hs.clC hc
  have hGc := (hs.2.1.2.2.2.2.1.1 c hc).1.2
  obtain ⟨z1, z2, -, -, z5, z6, z7⟩ := hs.2.1.2.2.2.2.1.1 c hc
  have hC := hI4.2.2.1 c hc
  obtain ⟨⟨c1, c2⟩, c3, c4, c5, c6, c7, c8, c9⟩ := id hC
  have hn1 := c5 (by omega)
  have hstn := c8 hph
  have hW0 := hI4.2.1 c 0 hc (by omega)
  have hW1 := hI4.2.1 c 1 hc (by omega)
  have l0 := hI4.len hc (show 0 < 2 by omega)
  have l1 := hI4.len hc (show 1 < 2 by omega)
  obtain ⟨B0, hB0, hWay0⟩ := hs.way hc (w := 0) (by omega) (fun z => by omega)
  obtain ⟨B1, hB1, hWay1⟩ := hs.way hc (w := 1) (by omega) (fun _ => by omega)
  have hBB : B1 ≠ B0 := fun e => by
    subst e
    have := (hs.2.1.2.2.2.2.1.2 c c 0 1 B1 hc hc (by omega) (by omega) hB0 hB1).2
    omega
  have e3 := c2.1
  have hcf : ∀ f, f ∈ [0, 1, 4, 7, 8, 9, 10, 11, 12, 13, 14] → cf f < 12 ∧ cf f ≠ 3 ∧ (cf f = 2 ↔ f = 4) ∧ f ≠ 5 ∧ f ≠ 6 := by decide
  have hinj : InjN N (nt r 2) := hs.2.1.2.1.2.2.2.1
  generalize hst : nt r (104 + 66 * c + 3) = st at *
  have j5 : J h 12 5 (C c) = Int32.ofNat (st - 1) := z7 hph
  -- the label given up
  have hh := c9 0 st (by omega) hstn.1 hstn.2
  rcases hW0.2.2.2.2.1 st hstn.2 with ⟨z, -⟩ | ⟨-, zs, zl⟩
  · exact absurd (hh.mp z).2.2 (by omega)
  generalize hss : nt r (wp c 0 + 7 + st) = s at *
  generalize hll : nt r (wp c 0 + 13 + st) = l at *
  have es := zs.1
  have el := zl.1
  have hs2 := zs.2
  have hl2 := zl.2
  rw [hss] at es
  rw [hll] at el
  rw [hss] at hs2
  rw [hll] at hl2
  have hpos : Pos r c 0 st s l := ⟨hc, by omega, hstn.1, hstn.2, es, el⟩
  have gs := (nm_sp hA hs2).2
  obtain ⟨h1, e1, w1, k1, o1, j1, R1, L1, A1, I1, V1, m1⟩ := setC hs.1 hcc (f := 5) (by decide) (Int32.ofNat st)
  have hnod : ∀ k, k < nt r 2 → cl h (N k) = some 10 ∧ ∀ f, 1 ≤ f → f ≤ 4 → AL h 10 f (N k) = nt r (14 + k) := fun k hk => ⟨(hs.2.1.2.2.1 k hk).1.1, (hs.2.1.2.2.1 k hk).2.2⟩
  have nb1 : NB h1 a r N := (hs.2.1.six.nb).heap (fun q k e => by rw [k1]; exact e) (fun f => R1 _ _ _) (fun f q => o1 _ _ _ (by simp)) L1 (fun f q i => A1 _ _ _ _)
  have hWL1 : ∀ f, f < 3 → AL h1 6 f B0 = 6 := fun f hf => by rw [L1]; exact hWay0.2.2.1 f hf
  have hg := c_giveUpS (i := st) w1 nb1 hA (by rw [k1]; exact hWay0.1.1) hWL1 (by omega) (by rw [I1, hWay0.2.2.2 1 st (by omega) hstn.2, ← es]) (by rw [I1, hWay0.2.2.2 2 st (by omega) hstn.2, ← el]) hs2 hl2
  have hb0 : (0 : Int32) = 0 ∨ (0 : Int32) = 1 := Or.inl rfl
  have wg := gv_W (h := h1) (x := N s) (l := l) (v := -1) (cc := -1) w1 hb0
  have w2 := un_W (W := B0) (i := st) wg
  have hlab1 : LabR h1 r N := hs.2.1.lab.same (fun k f _ _ _ => by funext i; exact I1 _ _ _ _)
  have hal : ∀ f, 1 ≤ f → f ≤ 4 → 0 < AL h1 10 f (N s) := fun f y1 y2 => by rw [L1, (hnod s hs2).2 f y1 y2]; omega
  have lab2 := LabR_un w1 hlab1 hI4 hpos hs2 hl2 hal hinj
  have hWLg : ∀ f, f < 3 → AL (gvH h1 (N s) l (-1) (-1) 0) 6 f B0 = 6 := fun f hf => by rw [gv_L]; exact hWL1 f hf
  generalize hh2 : unH (gvH h1 (N s) l (-1) (-1) 0) B0 st = h2 at hg w2
  have k2 : ∀ q, cl h2 q = cl h q := fun q => by rw [← hh2, un_cl, gv_cl, k1]
  have o2 : ∀ ci f q, J h2 ci f q = J h1 ci f q := fun ci f q => by rw [← hh2, un_J, gv_J]
  have R2 : ∀ ci f q, Rf h2 ci f q = Rf h ci f q := fun ci f q => by rw [← hh2, un_R, gv_R, R1]
  have L2 : ∀ ci f q, AL h2 ci f q = AL h ci f q := fun ci f q => by rw [← hh2, un_L, gv_L, L1]
  have A2 : ∀ ci f q i, RA h2 ci f q i = RA h ci f q i := fun ci f q i => by rw [← hh2, un_A, gv_A, A1]
  have m2 : h2.2 = h.2 := by rw [← hh2, un_m, gv_m, m1]
  have V2 : VF h h2 G := by
    rw [← hh2]
    exact ((V1.weak (fun q hq => by rw [hq]; exact hGc)).tr hs.1 (gv_V (O := G) w1 hb0 (hs.2.1.2.2.1 s hs2).1.2) (fun _ y => Or.inl y)).tr hs.1 (un_V (O := G) wg hWay0.1.2) (fun _ y => Or.inl y)
  have I2o : ∀ ci f q i, 3 ≤ kd ci f → ¬ (ci = 10 ∧ q = N s) → ¬ (ci = 6 ∧ q = B0) → Ar h2 ci f q i = Ar h ci f q i := fun ci f q i y1 y2 y3 => by
    rw [← hh2, un_Aro wg y1 y3, gv_Aro w1 hb0 y1 y2, I1]
  have I2w : ∀ f j, f < 3 → Ar h2 6 f B0 j = if f = 0 then Ar h 6 0 B0 j else if j = st then -1 else Ar h 6 f B0 j := fun f j hf => by
    rw [← hh2, un_Ar wg hWLg hf, gv_Aro w1 hb0 (by decide) (by simp), gv_Aro w1 hb0 (by rw [kd6 hf]; omega) (by simp), I1, I1]
  have hJ2 : ∀ f, J h2 12 f (C c) = if f = 5 then Int32.ofNat st else J h 12 f (C c) := fun f => by rw [o2, j1]
  have lab2' : LabR h2 (unL r (wp c 0) st) N := lab2.same (fun k f hk y1 y2 => by
    funext i; rw [← hh2, un_Aro wg (by rw [kd10 y1 y2]; split <;> omega) (by simp)])
  -- the row
  have far2 : ∀ j, j < 104 + 66 * c ∨ 104 + 66 * c + 66 ≤ j → unL r (wp c 0) st j = r j := fun j hj => un_o (by unfold wp; omega) (by unfold wp; omega) (by unfold wp; omega)
  have hI2len : ∀ c' w', c' < nt (unL r (wp c 0) st) 4 → w' < 2 → nt (unL r (wp c 0) st) (wp c' w') ≤ 6 := fun c' w' y1 y2 => by
    rw [nt_eq (far2 4 (by omega))] at y1
    have e : unL r (wp c 0) st (wp c' w') = r (wp c' w') := by
      have key : ∀ d, d = 7 ∨ d = 13 ∨ d = 19 → wp c' w' ≠ wp c 0 + d + st := fun d hd e => by
        obtain ⟨rfl, rfl⟩ := way_cell (c1 := c) (w1 := 0) (c2 := c') (w2 := w') (b := d) (i := st) (j := 0) (by omega) y2 (by omega) (by omega) (by omega)
        omega
      exact un_o (key 7 (by omega)) (key 13 (by omega)) (key 19 (by omega))
    rw [nt_eq e]; exact hI4.len y1 y2
  have hA2 : InvA (unL r (wp c 0) st) := hA.row (fun j hj => far2 j (by omega)) ((nm_same (far2 4 (by omega))).mpr hA.1.2.2.1) ((nm_same (far2 6 (by omega))).mpr hA.1.2.2.2)
  obtain ⟨M1, t1, q1⟩ : ∃ M1, Mod_giveUp M (Int32.ofNat (wp c 0)) (Int32.ofNat st) = some M1 ∧ Mr M M1 (unL r (wp c 0) st) := by
    have hw : wp c 0 + 25 ≤ 1112 := by unfold wp; omega
    unfold Mod_giveUp
    rw [e_w' (i := wp c 0 + 7 + st) (by show Int32.ofNat (wp c 0) + Int32.ofNat 7 + Int32.ofNat st = _; rw [i_add, i_add]) (by omega), e_w' (i := wp c 0 + 13 + st) (by show Int32.ofNat (wp c 0) + Int32.ofNat 13 + Int32.ofNat st = _; rw [i_add, i_add]) (by omega), e_w' (i := wp c 0 + 19 + st) (by show Int32.ofNat (wp c 0) + Int32.ofNat 19 + Int32.ofNat st = _; rw [i_add, i_add]) (by omega)]
    refine ⟨_, rfl, ?_⟩
    unfold unL
    rw [← hr]
    exact ((Mr.w).tr Mr.w).tr Mr.w
  obtain ⟨M2, t2, q2⟩ := t_put (M := M1) (c := c) (f := 3) (v := Int32.ofNat (st + 1)) (by omega) (by omega)
  rw [q1.1] at q2
  have q12 := q1.tr q2
  have lab3 : LabR h2 (upd (unL r (wp c 0) st) (104 + 66 * c + 3) (Int32.ofNat (st + 1))) N := lab2'.row hA2 (upd_ne (by omega)) hI2len (fun j hj => upd_ne (by omega)) (fun c' w' j y1 y2 y3 y4 => upd_ne (by have := wp_in y2 y3 y4; omega)) (fun _ _ _ _ _ => rfl)
  have ag := upd3_hag (v := Int32.ofNat (st + 1)) (j0 := 104 + 66 * c + 3) (by omega) (by omega) far2
  generalize hrr : upd (unL r (wp c 0) st) (104 + 66 * c + 3) (Int32.ofNat (st + 1)) = rr at q12 lab3 ag
  have rcell : ∀ j, j ≠ 104 + 66 * c + 3 → j ≠ wp c 0 + 7 + st → j ≠ wp c 0 + 13 + st → j ≠ wp c 0 + 19 + st → rr j = r j := fun j y0 y1 y2 y3 => by rw [← hrr, upd_ne y0, un_o y1 y2 y3]
  have rlow : ∀ d, d < 16 → d ≠ 3 → rr (104 + 66 * c + d) = r (104 + 66 * c + d) := fun d y0 y1 => rcell _ (by omega) (by unfold wp; omega) (by unfold wp; omega) (by unfold wp; omega)
  have r3 : rr (104 + 66 * c + 3) = Int32.ofNat (st + 1) := by rw [← hrr, upd_eq]
  have nr3 : nt rr (104 + 66 * c + 3) = st + 1 := nt_of r3 (by omega)
  have nr2 : nt rr (104 + 66 * c + 2) = 3 := (nt_eq (rlow 2 (by omega) (by omega))).trans hph
  have w1c : ∀ j, wp c 1 ≤ j → j < wp c 1 + 25 → rr j = r j := fun j y1 y2 => rcell j (by unfold wp at *; omega) (by unfold wp at *; omega) (by unfold wp at *; omega) (by unfold wp at *; omega)
  have w00 : rr (wp c 0) = r (wp c 0) := rcell _ (by unfold wp; omega) (by omega) (by omega) (by omega)
  have w01 : ∀ i, i < 6 → rr (wp c 0 + 1 + i) = r (wp c 0 + 1 + i) := fun i hi => rcell _ (by unfold wp; omega) (by omega) (by omega) (by omega)
  have w0f : ∀ f i, i < 6 → f = 1 ∨ f = 2 → rr (wp c 0 + 1 + 6 * f + i) = if i = st then -1 else r (wp c 0 + 1 + 6 * f + i) := fun f i hi hf => by
    have u : ∀ b, rr (wp c 0 + b) = unL r (wp c 0) st (wp c 0 + b) := fun b => by rw [← hrr, upd_ne (by unfold wp; omega)]
    rcases hf with rfl | rfl
    · rw [show wp c 0 + 1 + 6 * 1 + i = wp c 0 + 7 + i by omega]
      by_cases e : i = st
      · rw [if_pos e, e, Nat.add_assoc, u, ← Nat.add_assoc, un_7]
      · rw [if_neg e]; exact rcell _ (by unfold wp; omega) (by omega) (by omega) (by omega)
    · rw [show wp c 0 + 1 + 6 * 2 + i = wp c 0 + 13 + i by omega]
      by_cases e : i = st
      · rw [if_pos e, e, Nat.add_assoc, u, ← Nat.add_assoc, un_13]
      · rw [if_neg e]; exact rcell _ (by unfold wp; omega) (by omega) (by omega) (by omega)
  have hWr0 : WyI rr (wp c 0) := by
    have := WyI_un (i := st) hW0 hA (by unfold wp; omega) hstn.2
    exact this.row hA2 (fun j hj => by rw [← hrr]; exact upd_ne (by omega)) (fun j y1 y2 => by rw [← hrr]; exact upd_ne (by have := wp_in (c := c) (w := 0) (j := j) (by omega) y1 y2; omega))
  have hWr1 : WyI rr (wp c 1) := WyI.same hI4 hc (by omega) (fun j hj => ag j (by omega)) w1c
  have n0 : nt rr (wp c 0) = nt r (wp c 0) := nt_eq w00
  have n1 : nt rr (wp c 1) = nt r (wp c 1) := nt_eq (w1c _ (by omega) (by omega))
  have n4 : nt rr 4 = nt r 4 := nt_eq (ag 4 (by omega))
  have front : Clearing_tick h x (some a) (Int32.ofNat c) = if Int32.ofNat st = Int32.ofNat (nt r (wp c 0)) - (1 : Int32) then (g_gR h2 (C c) 12 3 fun x50 => g_pF h2 (C c) 12 2 (va_rf x50) fun h56 => g_gR h56 (C c) 12 2 fun x58 => g_is h56 a 1 <| g_b (Net_markOld h56 a x58) fun h64 => g_pF h64 (C c) 12 3 (va_rf none) fun h69 => g_pF h69 (C c) 12 4 (.int (0 : Int32)) fun h73 => g_gI h73 a 1 12 fun x75 => g_pF h73 a 1 12 (.int (x75 + (1 : Int32))) fun h81 => some h81) else some h2 := by
    unfold Clearing_tick
    rw [e_nn, net_get hs.1 ha (by omega) (by omega) (hl 3 (by omega) (by omega)) hCs rfl hc, v_ck hcc, e_nn, v_gI hs.1 hcc rfl, j5, show Int32.ofNat (st - 1) + (1 : Int32) = Int32.ofNat st by rw [show (1 : Int32) = Int32.ofNat 1 from rfl, i_add]; congr 1; omega, e1]
    have hcc1 : cl h1 (C c) = some 12 := by rw [k1]; exact hcc
    rw [v_gR w1 hcc1 rfl, R1, hB0, v_gI w1 hcc1 rfl, j1, if_pos rfl, v_is (by rw [k1]; exact ha), e_b hg]
    have hcc2 : cl h2 (C c) = some 12 := by rw [k2]; exact hcc
    rw [v_gI w2 hcc2 rfl, hJ2, if_pos rfl, v_gR w2 hcc2 rfl, R2, hB0, e_nn, v_gI w2 (by rw [k2]; exact hWay0.1.1) rfl, o2, o1 _ _ _ (by simp), hWay0.2.1, hW0.1.1]
  have tfront : Mod_clearWay M (Int32.ofNat c) = if Int32.ofNat (nt r (wp c 0)) ≤ Int32.ofNat (st + 1) then Mod_clearWay_44 gFU M2 (Int32.ofNat c) (Int32.ofNat (wp c 0)) (0 : Int32) else some M2 := by
    unfold Mod_clearWay
    rw [e_b (show Mod_wayPlace (Int32.ofNat c) (0 : Int32) = some (Int32.ofNat (wp c 0)) from t_wayPlace (w := 0)), e_b (show Mod_of M (Int32.ofNat c) (3 : Int32) = some (Int32.ofNat st) by rw [show (3 : Int32) = Int32.ofNat 3 from rfl, t_of (by omega) (by omega), hr, e3]), e_b t1]
    rw [show Int32.ofNat st + (1 : Int32) = Int32.ofNat (st + 1) from i_add, e_b (show Mod_put M1 (Int32.ofNat c) (3 : Int32) (Int32.ofNat (st + 1)) = some M2 from t2), e_r' (i := wp c 0) rfl (by unfold wp; omega), q12.1, w00, hW0.1.1]
  rw [front, tfront, i_sub1 (by omega)]
  by_cases hz : st + 1 = nt r (wp c 0)
  · rw [if_pos (by congr 1; omega), if_pos ((i_le (by omega) (by omega)).mpr (by omega))]
    have hcc2 : cl h2 (C c) = some 12 := by rw [k2]; exact hcc
    have hWr : InvW rr := fun c' w hc' hw => by
      rw [n4] at hc'
      by_cases e : c' = c
      · subst e
        rcases (show w = 0 ∨ w = 1 by omega) with rfl | rfl
        · exact hWr0
        · exact hWr1
      · exact (hI4.2.1 c' w hc' hw).row hA (fun j hj => ag j (by omega)) (fun j y1 y2 => by have := wp_in hw y1 y2; exact ag j (by omega))
    have hAr : InvA rr := hA.row (fun j hj => ag j (by omega)) ((nm_same (ag 4 (by omega))).mpr hA.1.2.2.1) ((nm_same (ag 6 (by omega))).mpr hA.1.2.2.2)
    have hold : ∀ i, 0 < i → i < nt rr (wp c 0) → rr (wp c 0 + 7 + i) = -1 := fun i y1 y2 => by
      rw [n0] at y2
      have := w0f 1 i (by omega) (by omega)
      rw [show wp c 0 + 1 + 6 * 1 + i = wp c 0 + 7 + i by omega] at this
      rw [this]
      by_cases e : i = st
      · rw [if_pos e]
      · rw [if_neg e, c9 0 i (by omega) y1 y2]; exact ⟨rfl, hph, by omega⟩
    have hlab : ∀ i, 0 < i → i < nt rr (wp c 1) → rr (wp c 1 + 7 + i) ≠ -1 := fun i y1 y2 z => by
      rw [n1] at y2
      rw [w1c _ (by omega) (by omega)] at z
      have := (c9 1 i (by omega) y1 y2).mp z
      omega
    obtain ⟨h3, e3', w3, k3, o3, R3, R3s, L3, A3, I3, V3, m3⟩ := setR w2 hcc2 (f := 2) rfl (some B1)
    have nb2 : NB h2 a r N := (hs.2.1.six.nb).heap (fun q k e => by rw [k2]; exact e) (fun f => R2 _ _ _) (fun f q => by rw [o2]; exact o1 _ _ _ (by simp)) L2 (fun f q i => A2 _ _ _ _)
    have nb3 : NB h3 a r N := nb2.heap2 (fun q k e => by rw [k3]; exact e) (fun f => R3 _ _ _ (by simp)) (fun f q => o3 _ _ _) L3 (fun f q i => A3 _ _ _ _ (by decide))
    have hmark := c_markOld (h := h3) (G := G) (W := B1) (n := nt rr (wp c 1)) (S := fun k => nt rr (wp c 1 + 7 + k)) (T := fun k => nt rr (wp c 1 + 13 + k)) w3 nb3 hA (fun k hk => (hs.2.1.2.2.1 k hk).1.2) (by rw [k3, k2]; exact hWay1.1.1) (fun f hf => by rw [L3 _ _ _ (by decide), L2]; exact hWay1.2.2.1 f hf) (by rw [o3, o2, o1 _ _ _ (by simp), hWay1.2.1, n1, hW1.1.1]) (by omega) hinj (fun k y1 y2 => by
      have y3 := y2
      rw [n1] at y2
      rcases hWr1.2.2.2.2.1 k y3 with ⟨z, -⟩ | ⟨-, za, zb⟩
      · exact absurd z (hlab k y1 y3)
      · have za2 := za.2
        have zb2 := zb.2
        rw [nt_eq (ag 2 (by omega))] at za2
        rw [nt_eq (ag (14 + nt rr (wp c 1 + 7 + k)) (by omega))] at zb2
        refine ⟨?_, ?_, za2, zb2⟩
        · rw [I3 _ _ _ _ (by decide), I2o _ _ _ _ (by decide) (by simp) (fun z => hBB z.2), hWay1.2.2.2 1 k (by omega) y2, show wp c 1 + 1 + 6 * 1 + k = wp c 1 + 7 + k by omega, ← w1c _ (by omega) (by omega)]
          exact za.1
        · rw [I3 _ _ _ _ (by decide), I2o _ _ _ _ (by decide) (by simp) (fun z => hBB z.2), hWay1.2.2.2 2 k (by omega) y2, show wp c 1 + 1 + 6 * 2 + k = wp c 1 + 13 + k by omega, ← w1c _ (by omega) (by omega)]
          exact zb.1)
    obtain ⟨h4, e4, w4, k4, o4, R4, L4, A4, I4, I4m, V4, m4⟩ := hmark
    obtain ⟨h5, e5, w5, k5, o5, R5, R5s, L5, A5, I5, V5, m5⟩ := setR w4 (by rw [k4, k3]; exact hcc2) (f := 3) rfl none
    obtain ⟨h6, e6, w6, k6, o6, j6, R6', L6, A6, I6, V6, m6⟩ := setC w5 (by rw [k5, k4, k3]; exact hcc2) (f := 4) (by decide) 0
    have k62 : ∀ q, cl h6 q = cl h q := fun q => by rw [k6, k5, k4, k3, k2]
    have o62 : ∀ ci f q, ¬ (ci = 12 ∧ q = C c) → J h6 ci f q = J h ci f q := fun ci f q hd => by rw [o6 _ _ _ hd, o5, o4, o3, o2, o1 _ _ _ hd]
    have j62 : ∀ f, f ≠ 5 → J h6 12 f (C c) = if f = 4 then 0 else J h 12 f (C c) := fun f hf => by rw [j6, o5, o4, o3, hJ2, if_neg hf]
    have R62 : ∀ ci f q, ¬ (ci = 12 ∧ q = C c) → Rf h6 ci f q = Rf h ci f q := fun ci f q hd => by rw [R6', R5 _ _ _ hd, R4, R3 _ _ _ hd, R2]
    have R6s : Rf h6 12 2 (C c) = some B1 ∧ Rf h6 12 3 (C c) = none := ⟨by rw [R6', R5s, if_neg (by omega), R4, R3s, if_pos rfl], by rw [R6', R5s, if_pos rfl]⟩
    have L62 : ∀ ci f q, ci ≠ 12 → AL h6 ci f q = AL h ci f q := fun ci f q hd => by rw [L6, L5 _ _ _ hd, L4, L3 _ _ _ hd, L2]
    have A62 : ∀ ci f q i, ci ≠ 12 → RA h6 ci f q i = RA h ci f q i := fun ci f q i hd => by rw [A6, A5 _ _ _ _ hd, A4, A3 _ _ _ _ hd, A2]
    have I62 : ∀ ci f q i, ci ≠ 12 → 3 ≤ kd ci f → ¬ (ci = 10 ∧ f = 3) → Ar h6 ci f q i = Ar h2 ci f q i := fun ci f q i y1 y2 y3 => by rw [I6, I5 _ _ _ _ y1, I4 _ _ _ _ y2 y3, I3 _ _ _ _ y1]
    have I63 : ∀ q i, Ar h6 10 3 q i = Ar h4 10 3 q i := fun q i => by rw [I6, I5 _ _ _ _ (by decide)]
    have V6' : VF h h6 G := ((((V2.tr hs.1 (V3.weak (fun q hq => by rw [hq]; exact hGc)) (fun _ y => Or.inl y)).tr hs.1 V4 (fun _ y => Or.inl y)).tr hs.1 (V5.weak (O1 := G) (fun q hq => by rw [hq]; exact hGc)) (fun _ y => Or.inl y)).tr hs.1 (V6.weak (O1 := G) (fun q hq => by rw [hq]; exact hGc)) (fun _ y => Or.inl y))
    have lab6 : LabR h6 (mvR rr c) N := by
      refine LabR_mv lab3 hAr hWr (by rw [n4]; exact hc) hold hlab (fun s l f _ y1 y2 y3 => I62 _ _ _ _ (by decide) (by rw [kd10 y1 y2]; split <;> omega) (fun z => y3 z.2)) (fun s l hs' => ?_)
      rw [nt_eq (ag 2 (by omega))] at hs'
      rw [I63, ← I3 _ _ _ _ (by decide)]
      exact I4m s l hs'
    have I6' : Inv4 (mvR rr c) := hI4.mv hc ag (rlow 5 (by omega) (by omega)) hWr1 (by rw [n1]; exact hn1) hlab
    have s6 : RS h6 G a (mvR rr c) N L C K := by
      refine hs.circ hc (w0 := 0) (by omega) hB0 w6 k62 o62 R62 L62 A62 (fun i => by rw [I62 _ _ _ _ (by decide) (by decide) (by simp)]; exact I2o _ _ _ _ (by decide) (by simp) (by simp)) (fun q hq f i hf => by rw [I62 _ _ _ _ (by decide) (by rw [kd6 hf]; omega) (by simp)]; exact I2o _ _ _ _ (by rw [kd6 hf]; omega) (by simp) (fun z => hq z.2)) (fun j hj => (mv_ag hj).trans (ag j hj)) ?_ (fun w q hw e => ?_) (fun q _ y2 => by rw [R6s.2] at y2; cases y2) lab6 I6'
      · have e2 : nt (mvR rr c) (104 + 66 * c + 2) = 0 := nt_of (n := 0) (by rw [mv_2]; rfl) (by omega)
        refine ⟨⟨by rw [k62]; exact hcc, hGc⟩, fun f hf => ?_, ⟨B1, R6s.1, ?_⟩, by rw [if_pos e2]; exact R6s.2, by rw [e2]; exact ⟨fun z => by omega, fun z => by omega, fun z => by omega⟩⟩
        · obtain ⟨y1, y2, y3, y4, y5⟩ := hcf f hf
          rw [j62 f y4]
          by_cases e : f = 4
          · rw [if_pos e, y3.mpr e, mv_2]
          · rw [if_neg e, mv_lo (by omega) (fun z => e (y3.mp z)) y2, rlow _ (by omega) y2]
            exact z2 f hf
        · obtain ⟨⟨x1, x2⟩, x3, x4, x5⟩ := hWay1
          have em : mvR rr c (wp c 0) = rr (wp c 1) := mv_0 (b := 0) (i := 0) (by omega)
          refine ⟨⟨by rw [k62]; exact x1, x2⟩, by rw [o62 _ _ _ (by simp), em, w1c _ (by omega) (by omega)]; exact x3, fun f hf => by rw [L62 _ _ _ (by decide)]; exact x4 f hf, fun f i hf hi => ?_⟩
          rw [nt_eq em, n1] at hi
          rw [I62 _ _ _ _ (by decide) (by rw [kd6 hf]; omega) (by simp), I2o _ _ _ _ (by rw [kd6 hf]; omega) (by simp) (fun z => hBB z.2), show wp c 0 + 1 + 6 * f + i = wp c 0 + (1 + 6 * f) + i by omega, mv_0 (by omega), w1c _ (by omega) (by omega), x5 f i hf hi]
          congr 1; omega
      · rcases (show w = 0 ∨ w = 1 by omega) with rfl | rfl
        · rw [R6s.1] at e
          exact ⟨1, by omega, by rw [← e]; exact hB1⟩
        · rw [R6s.2] at e; cases e
    obtain ⟨h7, e7, s7, V7, m7, k7⟩ := s6.stepN (f := 12) (by omega) (by omega) (mvR rr c 12 + 1)
    obtain ⟨M', tM, qM⟩ := t_mvloop (r := rr) (c := c) (by omega) gFU 0 M2 (by omega) (by unfold gFU; omega) (by rw [q12.1]; funext k; unfold mvk; rw [if_neg (by omega)])
    have eu : upd (mvR rr c) 12 (mvR rr c 12 + 1) = upd (mvR rr c) (if (12 : Nat) = 6 then 5 else 12) (mvR rr c 12 + 1) := rfl
    refine ⟨h7, M', upd (mvR rr c) 12 (mvR rr c 12 + 1), ?_, tM, s7, ?_, q12.tr qM, V6'.tr hs.1 V7 (fun _ y => Or.inl y), Co.of (by rw [m7, m6, m5, m4, m3, m2]), fun q => by rw [k7, k62]⟩
    · rw [v_gR w2 hcc2 rfl, R2, hB1, e3']
      rw [v_gR w3 (by rw [k3]; exact hcc2) rfl, R3s, if_pos rfl, v_is (by rw [k3, k2]; exact ha), e_b e4, e5, e6, v_gI w6 (by rw [k62]; exact ha) rfl]
      rw [s6.2.1.1.2.2.1.2 12 (by omega) (by omega), e7]
    · exact (nt_eq (upd_ne (by omega))).trans ((nt_eq (mv_ag (by omega))).trans n4)
  · rw [if_neg (fun y => by have := (i_eq (by omega) (by omega)).mp y; omega), if_neg (fun y => by have := (i_le (by omega) (by omega)).mp y; omega)]
    refine ⟨h2, M2, rr, rfl, rfl, ?_, n4, q12, V2, Co.of (by rw [m2]), k2⟩
    have hI' : Inv4 rr := by
      refine hI4.ci hc ag (fun w hw => ?_) ?_ (rlow 5 (by omega) (by omega))
      · rcases (show w = 0 ∨ w = 1 by omega) with rfl | rfl
        · exact hWr0
        · exact hWr1
      · unfold ICc
        rw [nr2, nr3, n0, n1]
        refine ⟨⟨(nm_same (rlow 2 (by omega) (by omega))).mpr c1, (nm.of r3 (by omega) (by omega)).1⟩, c3, fun z => by omega, fun _ => hn1, fun z => by omega, fun z => by omega, fun _ => by omega, fun w i hw hi0 hi => ?_⟩
        rcases (show w = 0 ∨ w = 1 by omega) with rfl | rfl
        · rw [n0] at hi
          have := w0f 1 i (by omega) (by omega)
          rw [show wp c 0 + 1 + 6 * 1 + i = wp c 0 + 7 + i by omega] at this
          rw [this]
          by_cases e : i = st
          · rw [if_pos e]; exact ⟨fun _ => ⟨rfl, rfl, by omega⟩, fun _ => rfl⟩
          · rw [if_neg e, c9 0 i (by omega) hi0 hi]
            exact ⟨fun z => ⟨rfl, rfl, by omega⟩, fun z => ⟨rfl, hph, by omega⟩⟩
        · rw [n1] at hi
          rw [w1c _ (by omega) (by omega), c9 1 i (by omega) hi0 hi]
          exact ⟨fun z => by omega, fun z => by omega⟩
    have wayk : WayR h2 G rr B0 (wp c 0) ∧ WayR h2 G rr B1 (wp c 1) := by
      obtain ⟨⟨y1, y2⟩, y3, y4, y5⟩ := hWay0
      obtain ⟨⟨x1, x2⟩, x3, x4, x5⟩ := hWay1
      refine ⟨⟨⟨by rw [k2]; exact y1, y2⟩, by rw [o2, o1 _ _ _ (by simp), w00]; exact y3, fun f hf => by rw [L2]; exact y4 f hf, fun f i hf hi => ?_⟩, ⟨by rw [k2]; exact x1, x2⟩, by rw [o2, o1 _ _ _ (by simp), w1c _ (by omega) (by omega)]; exact x3, fun f hf => by rw [L2]; exact x4 f hf, fun f i hf hi => ?_⟩
      · rw [n0] at hi
        rw [I2w f i hf]
        rcases (show f = 0 ∨ f = 1 ∨ f = 2 by omega) with rfl | rfl | rfl
        · rw [if_pos rfl, y5 0 i (by omega) hi]; exact (w01 i (by omega)).symm
        · rw [if_neg (by omega), y5 1 i (by omega) hi]; exact (w0f 1 i (by omega) (by omega)).symm
        · rw [if_neg (by omega), y5 2 i (by omega) hi]; exact (w0f 2 i (by omega) (by omega)).symm
      · rw [n1] at hi
        rw [I2o _ _ _ _ (by rw [kd6 hf]; omega) (by simp) (fun z => hBB z.2), w1c _ (by omega) (by omega)]
        exact x5 f i hf hi
    refine hs.circ hc (w0 := 0) (by omega) hB0 w2 k2 (fun ci f q hd => by rw [o2, o1 _ _ _ hd]) (fun ci f q _ => R2 ci f q) (fun ci f q _ => L2 ci f q) (fun ci f q i _ => A2 ci f q i) (fun i => I2o _ _ _ _ (by decide) (by simp) (by simp)) (fun q hq f i hf => I2o _ _ _ _ (by rw [kd6 hf]; omega) (by simp) (fun z => hq z.2)) ag ?_ (fun w q hw e => ⟨w, hw, by rw [← R2]; exact e⟩) (fun q y1 y2 => ?_) lab3 hI'
    · refine ⟨⟨by rw [k2]; exact hcc, hGc⟩, fun f hf => ?_, ⟨B0, by rw [R2]; exact hB0, wayk.1⟩, ?_, ?_⟩
      · obtain ⟨y1, y2, y3, y4, y5⟩ := hcf f hf
        rw [hJ2, if_neg y4, rlow _ (by omega) y2]
        exact z2 f hf
      · rw [if_neg (by rw [nr2]; omega)]
        exact ⟨B1, by rw [R2]; exact hB1, wayk.2⟩
      · rw [nr2, nr3]
        exact ⟨fun z => by omega, fun z => by omega, fun _ => by rw [hJ2, if_pos rfl]; congr 1⟩
    · rw [R2] at y1 y2
      have e1 := hB0.symm.trans y1
      have e2 := hB1.symm.trans y2
      exact hBB (Option.some.inj (e2.trans e1.symm))
end CLEAR2
