/-! LEVEL 2: building -/
theorem smN_ofNat {f : Nat → Int32} {g : Nat → Nat} : ∀ m k b, (∀ j, k ≤ j → j < k + m → f j = Int32.ofNat (g j)) → smN f k m (Int32.ofNat b) = Int32.ofNat (b + sumN g k m)
  | 0, _, _, _ => rfl
  | m + 1, k, b, h => by
    unfold smN sumN
    rw [h k (Nat.le_refl _) (by omega), i_add, smN_ofNat m (k + 1) (b + g k) (fun j h1 h2 => h j (by omega) (by omega)), Nat.add_assoc]
theorem sumN_ge {f : Nat → Nat} {b : Nat} : ∀ m k, (∀ j, k ≤ j → j < k + m → b ≤ f j) → m * b ≤ sumN f k m
  | 0, _, _ => by simp
  | m + 1, k, h => by
    unfold sumN
    have h1 := h k (Nat.le_refl _) (by omega)
    have h2 := sumN_ge m (k + 1) (fun j x1 x2 => h j (by omega) (by omega))
    rw [Nat.add_mul]; omega
section BUILD
variable {h h0 h' : g_AH} {G G' O : Nat → Prop} {a : Nat} {r r' : tR} {N L C K : Nat → Nat} {mC x k p c w n s l i0 i q W cp : Nat} {M : g_MD} {D : Nat → Int32}
theorem dly_nat (hA : InvA r) (hLeg : Leg r n D) (h2 : 2 ≤ n) (h6 : n ≤ 6) : ∃ d, dly r n D = Int32.ofNat d ∧ 0 < d ∧ d < 46 := by
  have hl : ∀ j, 1 ≤ j → j < 1 + (n - 1) → lk r (D (j - 1)) (D j) < nt r 3 := fun j h1 h3 => by
    have := hLeg (j - 1) (by omega)
    rw [show j - 1 + 1 = j by omega] at this
    exact this
  refine ⟨0 + sumN (fun j => nt r (24 + 5 * lk r (D (j - 1)) (D j) + 3)) 1 (n - 1), ?_, ?_, ?_⟩
  · unfold dly
    rw [show (0 : Int32) = Int32.ofNat 0 from rfl]
    exact smN_ofNat _ _ _ (fun j h1 h3 => (hA.2.2.2.1 _ (hl j h1 h3)).2.2.2.1.1.1)
  · have := sumN_ge (f := fun j => nt r (24 + 5 * lk r (D (j - 1)) (D j) + 3)) (b := 1) (n - 1) 1 (fun j h1 h3 => (hA.2.2.2.1 _ (hl j h1 h3)).2.2.2.1.2)
    omega
  · have := sumN_le (f := fun j => nt r (24 + 5 * lk r (D (j - 1)) (D j) + 3)) (b := 9) (n - 1) 1 (fun j h1 h3 => by have := (hA.2.2.2.1 _ (hl j h1 h3)).2.2.2.1.1.2; omega)
    omega
theorem WyI.leg (hx : WyI r p) : Leg r (nt r p) (rwD r p) := fun i hi => hx.2.2.2.1 i hi
theorem dly_row (hA : InvA r) (e : ∀ j, j ≤ 3 ∨ (14 ≤ j ∧ j < 104) → r' j = r j) (hLeg : Leg r n D) : dly r' n D = dly r n D := by
  unfold dly
  refine smN_congr _ _ _ (fun j h1 h2 => ?_)
  have := hLeg (j - 1) (by omega)
  rw [show j - 1 + 1 = j by omega] at this
  have g3 := nm3 hA
  rw [lk_row e hA, e _ (by omega)]
theorem WyI.made (hx : WyI r p) (hA : InvA r) (hp : 104 ≤ p) (hi : i < nt r p) : WyI (upd r (p + 19 + i) 1) p := by
  have h16 := hx.1.2
  have lo : ∀ j, j ≤ 3 ∨ (14 ≤ j ∧ j < 104) → upd r (p + 19 + i) 1 j = r j := fun j hj => upd_ne (by omega)
  have n2 := nt_eq (lo 2 (by omega)); have n3 := nt_eq (lo 3 (by omega))
  have np : nt (upd r (p + 19 + i) 1) p = nt r p := nt_eq (upd_ne (by omega))
  have g2 := nm2 hA
  obtain ⟨h1, h2, h3, h4, h5, h6⟩ := hx
  refine ⟨(nm_same (upd_ne (by omega))).mpr h1, fun k hk => ?_, fun k k' hk hk' q => ?_, fun k hk => ?_, fun k hk => ?_, fun k hk => ?_⟩
  · rw [np] at hk; rw [n2]; exact (nm_same (upd_ne (by omega))).mpr (h2 k hk)
  · rw [np] at hk hk'; rw [upd_ne (by omega), upd_ne (by omega)] at q; exact h3 k k' hk hk' q
  · rw [np] at hk; rw [lk_row lo hA, n3, upd_ne (by omega), upd_ne (by omega)]; exact h4 k hk
  · rw [np] at hk
    have q7 : upd r (p + 19 + i) 1 (p + 7 + k) = r (p + 7 + k) := upd_ne (by omega)
    have q13 : upd r (p + 19 + i) 1 (p + 13 + k) = r (p + 13 + k) := upd_ne (by omega)
    rcases h5 k hk with ⟨a1, a2⟩ | ⟨a1, a2, a3⟩
    · exact Or.inl ⟨by rw [q7]; exact a1, by rw [q13]; exact a2⟩
    · refine Or.inr ⟨a1, by rw [n2]; exact (nm_same q7).mpr a2, ?_⟩
      rw [nt_eq q7, nt_eq (lo (14 + nt r (p + 7 + k)) (by have := a2.2; omega))]; exact (nm_same q13).mpr a3
  · rw [np] at hk
    by_cases e : k = i
    · subst e; exact (nm.of (n := 1) upd_eq (by omega) (by omega)).1
    · exact (nm_same (upd_ne (by omega))).mpr (h6 k hk)
/-- Net.make: the entry of a label -/
theorem c_makeE (hW : WF h) (hR : RN h G a r N L C K mC) (hA : InvA r) (hWc : cl h W = some 6) (hWL : ∀ f, f < 3 → AL h 6 f W = 6) (hi6 : i < 6) (h1 : Ar h 6 1 W i = Int32.ofNat s) (h2 : Ar h 6 2 W i = Int32.ofNat l) (hs : s < nt r 2) (hl : l < nt r (14 + s)) : Net_make h a (some W) (Int32.ofNat i) = some (wA h 10 4 (N s) l 1) := by
  obtain ⟨ha, hli, hN, -, -, -⟩ := hR.lst
  have hx := hR.2.2.1 s hs
  have g2 := nm2 hA
  have gs := (nm_sp hA hs).2
  obtain ⟨q1, e1⟩ := AL_ref (hWL 1 (by omega)) (by omega)
  obtain ⟨q2, e2⟩ := AL_ref (hWL 2 (by omega)) (by omega)
  obtain ⟨q4, e4⟩ := AL_ref (hx.2.2 4 (by omega) (by omega)) (by omega)
  have hin : vp_in (Int32.ofNat i) 6 := i_in hi6 (by omega)
  unfold Net_make
  rw [v_gR hW ha rfl, hli 1 (by omega) (by omega), e_nn, v_gR hW hWc rfl, e1, e_nn, v_aI (t := 0) hW e1 rfl rfl (by rw [hWL 1 (by omega)]; exact hin), i_cl (by omega), h1]
  rw [e_nn, v_is hN.1, e_b (ls_get hW hN hs), v_ck hx.1.1, e_nn, v_gR hW hx.1.1 rfl, e4, v_gR hW hWc rfl, e2, e_nn, v_aI (t := 0) hW e2 rfl rfl (by rw [hWL 2 (by omega)]; exact hin), i_cl (by omega), h2]
  rw [e_nn, show vp_nar .boolean (1 : Int32) = 1 from rfl, v_sI (t := 1) hW e4 rfl rfl (by rw [hx.2.2 4 (by omega) (by omega)]; exact i_in hl (by omega)), i_cl (by omega)]
theorem RS.make (hs : RS h G a r N L C K) (hc : c < nt r 4) (hw : w < 2) (hi0 : 0 < i) (hi : i < nt r (wp c w)) (hheld : r (wp c w + 7 + i) ≠ -1) (hWay : WayR h G r W (wp c w)) : ∃ h', Net_make h a (some W) (Int32.ofNat i) = some h' ∧ RS h' G a (upd r (wp c w + 19 + i) 1) N L C K ∧ VF h h' G ∧ h'.2 = h.2 ∧ (∀ q, cl h' q = cl h q) ∧ (∀ ci f q, J h' ci f q = J h ci f q) ∧ (∀ ci f q, Rf h' ci f q = Rf h ci f q) := by
  have hI4 := hs.2.2
  have hA := hI4.1
  have g4 := nm4 hA
  have l6 := hI4.len hc hw
  obtain ⟨ps, pl1, pl2⟩ := Pos.rng hI4.2.1 hA hc hw hi0 hi hheld
  obtain ⟨⟨w1, w2⟩, w3, w4, w5⟩ := hWay
  have a1 : Ar h 6 1 W i = Int32.ofNat (nt r (wp c w + 7 + i)) := by
    rw [w5 1 i (by omega) hi, show wp c w + 1 + 6 * 1 + i = wp c w + 7 + i by omega]; exact ps.2.2.2.2.1
  have a2 : Ar h 6 2 W i = Int32.ofNat (nt r (wp c w + 13 + i)) := by
    rw [w5 2 i (by omega) hi, show wp c w + 1 + 6 * 2 + i = wp c w + 13 + i by omega]; exact ps.2.2.2.2.2
  have hE := c_makeE hs.1 hs.2.1 hA w1 w4 (by omega) a1 a2 pl1 pl2
  generalize nt r (wp c w + 7 + i) = s at *
  generalize nt r (wp c w + 13 + i) = l at *
  have hnd := hs.2.1.2.2.1 s pl1
  have hn4 : 0 < AL h 10 4 (N s) := by rw [hnd.2.2 4 (by omega) (by omega)]; omega
  have hLab := LabR_make hs.1 hs.2.1.lab hI4 ps pl1 pl2 hn4 hs.2.1.2.1.2.2.2.1
  have hwin := wp_in (c := c) (j := wp c w + 19 + i) hw (by omega) (by omega)
  have hag : ∀ j, j < 104 + 66 * c ∨ 104 + 66 * c + 66 ≤ j → upd r (wp c w + 19 + i) 1 j = r j := fun j hj => upd_ne (by omega)
  have e2 : upd r (wp c w + 19 + i) 1 (104 + 66 * c + 2) = r (104 + 66 * c + 2) := upd_ne (by omega)
  have e3 : upd r (wp c w + 19 + i) 1 (104 + 66 * c + 3) = r (104 + 66 * c + 3) := upd_ne (by omega)
  have wc : ∀ w' b j, w' < 2 → b + j < 19 → upd r (wp c w + 19 + i) 1 (wp c w' + b + j) = r (wp c w' + b + j) := fun w' b j hw' hb => upd_ne (fun e => by
    obtain ⟨-, rfl⟩ := way_cell (c1 := c) (c2 := c) (b := b) (i := j) (j := 19 + i) hw' hw (by omega) (by omega) (by omega)
    omega)
  have nw : ∀ w', w' < 2 → nt (upd r (wp c w + 19 + i) 1) (wp c w') = nt r (wp c w') := fun w' hw' => nt_eq (wc w' 0 0 hw' (by omega))
  have hI' : Inv4 (upd r (wp c w + 19 + i) 1) := by
    refine hI4.ci hc hag (fun w' hw' => ?_) ?_ (upd_ne (by unfold wp; omega))
    · by_cases e : w' = w
      · subst e; exact (hI4.2.1 c w' hc hw').made hA (by unfold wp; omega) hi
      · refine (hI4.2.1 c w' hc hw').row hA (fun j hj => hag j (by omega)) (fun j y1 y2 => upd_ne (fun z => ?_))
        have := wp_disj (c := c) (w := w) (c1 := c) (w1 := w') hw hw' (fun y => e y.2) y1 y2
        omega
    · have hC := hI4.2.2.1 c hc
      obtain ⟨⟨c1, c2⟩, c3, c4, c5, c6, c7, c8, c9⟩ := id hC
      unfold ICc
      rw [nt_eq e2, nt_eq e3, nw 0 (by omega), nw 1 (by omega)]
      refine ⟨⟨(nm_same e2).mpr c1, (nm_same e3).mpr c2⟩, c3, c4, c5, c6, c7, c8, fun w' i' hw' hi0' hi' => ?_⟩
      rw [nw w' hw'] at hi'
      have l6' := hI4.len hc hw'
      rw [wc w' 7 i' hw' (by omega)]
      exact c9 w' i' hw' hi0' hi'
  obtain ⟨z1, z2, -, -, z5, z6, z7⟩ := hs.2.1.2.2.2.2.1.1 c hc
  have hcf : ∀ f, f ∈ [0, 1, 4, 7, 8, 9, 10, 11, 12, 13, 14] → cf f < 12 := by decide
  refine ⟨wA h 10 4 (N s) l 1, hE, ?_, VF.pA hs.1 hnd.1.2 (by decide), wA_meta, fun q => cl_wA, fun ci f q => J_wA, fun ci f q => Rf_wA⟩
  refine hs.phase hc (hs.1.pA ⟨by decide, by decide⟩ (fun _ => Or.inr rfl) (fun e => by cases e)) (fun q => cl_wA) (fun ci f q _ => J_wA) (fun ci f q => Rf_wA) (fun ci f q => AL_wA) (fun ci f q i => RA_wA) (fun ci f q i h3 hd => ?_) hag (fun w' f i' hw' hf hi' => ⟨wc w' 0 0 hw' (by omega), ?_⟩) (fun f hf => ?_) (by rw [nt_eq e2]) ?_ hLab hI'
  · exact Ar_wAn hs.1 (by decide) h3 (fun e => hd ⟨e.1, e.2.1⟩)
  · have := wc w' (1 + 6 * f) i' hw' (by omega)
    rw [show wp c w' + (1 + 6 * f) + i' = wp c w' + 1 + 6 * f + i' by omega] at this
    exact this
  · rw [J_wA, upd_ne (by have := hcf f hf; omega)]; exact z2 f hf
  · rw [nt_eq e2, nt_eq e3, nw 1 (by omega), e3, J_wA, J_wA]
    exact ⟨z5, z6, z7⟩
theorem build_both (hs : RS h G a r N L C K) (hr : M.1 0 = r) (hc : c < nt r 4) (hph : nt r (104 + 66 * c + 2) = 1) : ∃ (h' : g_AH) (M' : g_MD) (r' : tR), Building_tick h x (some a) (Int32.ofNat c) = some h' ∧ Mod_build M (Int32.ofNat c) = some M' ∧ RS h' G a r' N L C K ∧ nt r' 4 = nt r 4 ∧ Mr M M' r' ∧ VF h h' G ∧ Co h h' 0 0 ∧ (∀ q, cl h' q = cl h q) := by
  have hI4 := hs.2.2
  have hA := hI4.1
  have g4 := nm4 hA
  have g3 := nm3 hA
  obtain ⟨ha, hl, -, -, hCs, -⟩ := hs.2.1.lst
  have hcc := hs.clC hc
  have hGc := (hs.2.1.2.2.2.2.1.1 c hc).1.2
  obtain ⟨z1, z2, -, -, z5, z6, z7⟩ := hs.2.1.2.2.2.2.1.1 c hc
  have hC := hI4.2.2.1 c hc
  obtain ⟨⟨c1, c2⟩, c3, c4, c5, c6, c7, c8, c9⟩ := id hC
  have hn1 := c5 (by omega)
  have hstn := c6 hph
  have hW0 := hI4.2.1 c 0 hc (by omega)
  have hW1 := hI4.2.1 c 1 hc (by omega)
  have l0 := hI4.len hc (show 0 < 2 by omega)
  have l1 := hI4.len hc (show 1 < 2 by omega)
  obtain ⟨B0, hB0, hWay0⟩ := hs.way hc (w := 0) (by omega) (fun z => by omega)
  obtain ⟨B1, hB1, hWay1⟩ := hs.way hc (w := 1) (by omega) (fun _ => by omega)
  have e3 := c2.1
  generalize hst : nt r (104 + 66 * c + 3) = st at *
  have j5 : J h 12 5 (C c) = Int32.ofNat (nt r (wp c 1) - 1 - st) := z5 hph
  have hcf : ∀ f, f ∈ [0, 1, 4, 7, 8, 9, 10, 11, 12, 13, 14] → cf f < 12 ∧ cf f ≠ 3 ∧ (cf f = 2 ↔ f = 4) ∧ f ≠ 5 ∧ f ≠ 6 := by decide
  by_cases hz : st = 0
  · -- the new way stands: old packets drain
    have wy0 := hWay0.wyn hW0.1
    obtain ⟨d, hd, hd0, hd46⟩ := dly_nat hA hW0.leg c3 l0
    obtain ⟨h1, e1, w1, k1, o1, j1, R1, L1, A1, I1, V1, m1⟩ := setC hs.1 hcc (f := 4) (by decide) 2
    obtain ⟨h2, e2, w2, k2, o2, j2, R2, L2, A2, I2, V2, m2⟩ := setC w1 (by rw [k1]; exact hcc) (f := 6) (by decide) (Int32.ofNat d)
    obtain ⟨M1, t1, q1⟩ := t_put (M := M) (c := c) (f := 2) (v := 2) (by omega) (by omega)
    rw [hr] at q1
    obtain ⟨M2, t2, q2⟩ := t_put (M := M1) (c := c) (f := 3) (v := Int32.ofNat d) (by omega) (by omega)
    rw [q1.1] at q2
    have ag1 : ∀ j, j < 104 + 66 * c ∨ 104 + 66 * c + 66 ≤ j → upd r (104 + 66 * c + 2) 2 j = r j := upd3_hag (by omega) (by omega) (fun _ _ => rfl)
    have ag2 := upd3_hag (v := Int32.ofNat d) (j0 := 104 + 66 * c + 3) (by omega) (by omega) ag1
    have q12 := q1.tr q2
    generalize hrr : upd (upd r (104 + 66 * c + 2) 2) (104 + 66 * c + 3) (Int32.ofNat d) = rr at q12 ag2
    have rcell : ∀ j, j ≠ 104 + 66 * c + 2 → j ≠ 104 + 66 * c + 3 → rr j = r j := fun j y1 y2 => by rw [← hrr, upd_ne y2, upd_ne y1]
    have r2 : rr (104 + 66 * c + 2) = Int32.ofNat 2 := by rw [← hrr, upd_ne (by omega), upd_eq]; rfl
    have r3 : rr (104 + 66 * c + 3) = Int32.ofNat d := by rw [← hrr, upd_eq]
    have nr2 : nt rr (104 + 66 * c + 2) = 2 := nt_of r2 (by omega)
    have nr3 : nt rr (104 + 66 * c + 3) = d := nt_of r3 (by omega)
    have wcell : ∀ w j, w < 2 → wp c w ≤ j → j < wp c w + 25 → rr j = r j := fun w j hw y1 y2 => by
      have := wp_in hw y1 y2
      exact rcell j (by omega) (by omega)
    have nw : ∀ w, w < 2 → nt rr (wp c w) = nt r (wp c w) := fun w hw => nt_eq (wcell w _ hw (by omega) (by omega))
    have hI' : Inv4 rr := by
      refine hI4.ci hc ag2 (fun w hw => WyI.same hI4 hc hw (fun j hj => ag2 j (by omega)) (fun j y1 y2 => wcell w j hw y1 y2)) ?_ (rcell _ (by omega) (by omega))
      unfold ICc
      rw [nr2, nr3, nw 0 (by omega), nw 1 (by omega)]
      refine ⟨⟨(nm.of r2 (by omega) (by omega)).1, (nm.of r3 (by omega) (by omega)).1⟩, c3, fun z => by omega, fun _ => c5 (by omega), fun z => by omega, fun _ => hd0, fun z => by omega, fun w i hw hi0 hi => ?_⟩
      rw [nw w hw] at hi
      have l6 := hI4.len hc hw
      rw [wcell w _ hw (by omega) (by omega)]
      have := c9 w i hw hi0 hi
      constructor
      · intro z; have := (this.mp z).2.1; omega
      · intro z; omega
    have hJ : ∀ f, J h2 12 f (C c) = if f = 6 then Int32.ofNat d else if f = 4 then 2 else J h 12 f (C c) := fun f => by rw [j2, j1]
    have s2 : RS h2 G a rr N L C K := by
      refine hs.phase hc w2 (fun q => by rw [k2, k1]) (fun ci f q hd => by rw [o2 ci f q hd, o1 ci f q hd]) (fun ci f q => by rw [R2, R1]) (fun ci f q => by rw [L2, L1]) (fun ci f q i => by rw [A2, A1]) (fun ci f q i _ _ => by rw [I2, I1]) ag2 (fun w f i hw hf hi => ⟨wcell w _ hw (by omega) (by omega), wcell w _ hw (by omega) (by omega)⟩) (fun f hf => ?_) (by rw [nr2, hph]; omega) ?_ ?_ hI'
      · obtain ⟨y1, y2, y3, y4, y5⟩ := hcf f hf
        rw [hJ, if_neg y5]
        by_cases e4 : f = 4
        · rw [if_pos e4, y3.mpr e4, r2]; rfl
        · rw [if_neg e4, rcell _ (by have : cf f ≠ 2 := fun z => e4 (y3.mp z); omega) (by omega)]
          exact z2 f hf
      · rw [nr2, r3]
        exact ⟨fun z => by omega, fun _ => by rw [hJ, if_pos rfl], fun z => by omega⟩
      · exact hs.2.1.lab.row hA (rcell 4 (by omega) (by omega)) (fun c w y1 y2 => hI4.len y1 y2) (fun j hj => rcell j (by omega) (by omega)) (fun c' w' j y1 y2 y3 y4 => rcell j (by have := wp_in y2 y3 y4; omega) (by have := wp_in y2 y3 y4; omega)) (fun f q i _ _ => by rw [I2, I1])
    have n4 : nt rr 4 = nt r 4 := nt_eq (rcell 4 (by omega) (by omega))
    have hc2 : c < nt rr 4 := by rw [n4]; exact hc
    have V12 : VF h h2 G := (V1.tr hs.1 V2 (fun _ y => Or.inl y)).weak (fun q hq => by rw [hq]; exact hGc)
    -- what the new way delays
    have wy1 : WyN h2 B1 (nt r (wp c 1)) (rwD r (wp c 1)) := by
      obtain ⟨y1, y2, y3, y4, y5⟩ := hWay1.wyn hW1.1
      exact ⟨by rw [k2, k1]; exact y1, by rw [o2 _ _ _ (by simp), o1 _ _ _ (by simp)]; exact y2, y3, by rw [L2, L1]; exact y4, fun i hi => by rw [I2, I1]; exact y5 i hi⟩
    have lo : ∀ j, j ≤ 3 ∨ (14 ≤ j ∧ j < 104) → rr j = r j := fun j hj => rcell j (by omega) (by omega)
    have leg1 : Leg rr (nt r (wp c 1)) (rwD r (wp c 1)) := fun i hi => by
      rw [lk_row lo hA, nt_eq (lo 3 (by omega))]; exact hW1.leg i hi
    have d1 : Net_delayOf h2 a (some B1) = some (dly r (nt r (wp c 1)) (rwD r (wp c 1))) := by
      rw [c_delayOf w2 s2.2.1 hI'.1 wy1 leg1, dly_row hA lo hW1.leg]
    have d0 : Net_delayOf h a (some B0) = some (Int32.ofNat d) := by rw [c_delayOf hs.1 hs.2.1 hA wy0 hW0.leg, hd]
    -- the end: held
    have fin : ∀ v : Int32, ∃ (h' : g_AH) (M' : g_MD) (r' : tR), Building_tick_79 h2 v (C c) = some h' ∧ Mod_build_97 M2 v (4 : Int32) (Int32.ofNat c) = some M' ∧ RS h' G a r' N L C K ∧ nt r' 4 = nt r 4 ∧ Mr M M' r' ∧ VF h h' G ∧ Co h h' 0 0 ∧ (∀ q, cl h' q = cl h q) := by
      intro v
      obtain ⟨h3, e3', s3, V3, m3, k3⟩ := s2.stepC hc2 (f := 7) (by omega) (by omega) v
      obtain ⟨M3, t3, q3⟩ := t_put (M := M2) (c := c) (f := 4) (v := v) (by omega) (by omega)
      rw [q12.1] at q3
      refine ⟨h3, M3, _, ?_, ?_, s3, (nt_eq (upd_ne (by omega))).trans n4, q12.tr q3, V12.tr hs.1 V3 (fun _ y => Or.inl y), Co.of (by rw [m3, m2, m1]), fun q => by rw [k3, k2, k1]⟩
      · unfold Building_tick_79; rw [e3']
      · unfold Mod_build_97; rw [e_b (show Mod_put M2 (Int32.ofNat c) (4 : Int32) v = some M3 from t3)]
    have front : Building_tick h x (some a) (Int32.ofNat c) = if r 1 = 1 then Building_tick_79 h2 (if (0 : Int32) < Int32.ofNat d - dly r (nt r (wp c 1)) (rwD r (wp c 1)) then Int32.ofNat d - dly r (nt r (wp c 1)) (rwD r (wp c 1)) else 0) (C c) else Building_tick_79 h2 0 (C c) := by
      unfold Building_tick
      rw [e_nn, net_get hs.1 ha (by omega) (by omega) (hl 3 (by omega) (by omega)) hCs rfl hc, v_ck hcc, e_nn, v_gI hs.1 hcc rfl, j5, v_gR hs.1 hcc rfl, hB1, e_nn, v_gI hs.1 hWay1.1.1 rfl, hWay1.2.1, hW1.1.1, i_sub1 (by omega)]
      rw [if_pos (by rw [hz]; rfl), v_gR hs.1 hcc rfl, hB0, v_is ha, e_b d0, e1, e2]
      rw [show (1 : Int32) = Int32.ofNat 1 from rfl, net_set w2 s2.2.1.1 (j := 1) (by omega), rcell 1 (by omega) (by omega)]
      by_cases y : r 1 = 1
      · rw [if_pos (show r 1 = Int32.ofNat 1 from y), if_pos (show r 1 = Int32.ofNat 1 from y), v_gR w2 (by rw [k2, k1]; exact hcc) rfl, R2, R1, hB1, v_is (by rw [k2, k1]; exact ha), e_b d1]
      · rw [if_neg (show ¬ r 1 = Int32.ofNat 1 from y), if_neg (show ¬ r 1 = Int32.ofNat 1 from y)]
    have hwp0 : wp c 0 + 25 ≤ 1112 := by unfold wp; omega
    have hwp1 : wp c 1 + 25 ≤ 1112 := by unfold wp; omega
    have td0 := t_delayOf (M := M) (p := wp c 0) (by rw [hr]; exact hA) (by rw [hr]; exact hW0.1) hwp0 (by rw [hr]; exact hW0.leg)
    have td1 := t_delayOf (M := M) (p := wp c 1) (by rw [hr]; exact hA) (by rw [hr]; exact hW1.1) hwp1 (by rw [hr]; exact hW1.leg)
    rw [hr] at td0 td1
    rw [hd] at td0
    have tfront : Mod_build M (Int32.ofNat c) = if r 1 = 1 then Mod_build_97 M2 (if (0 : Int32) < Int32.ofNat d - dly r (nt r (wp c 1)) (rwD r (wp c 1)) then Int32.ofNat d - dly r (nt r (wp c 1)) (rwD r (wp c 1)) else 0) (4 : Int32) (Int32.ofNat c) else Mod_build_97 M2 0 (4 : Int32) (Int32.ofNat c) := by
      unfold Mod_build
      rw [e_b (show Mod_of M (Int32.ofNat c) (3 : Int32) = some (Int32.ofNat st) by rw [show (3 : Int32) = Int32.ofNat 3 from rfl, t_of (by omega) (by omega), hr, e3]), if_pos (by rw [hz]; decide)]
      rw [e_b (show Mod_wayPlace (Int32.ofNat c) (0 : Int32) = some (Int32.ofNat (wp c 0)) from t_wayPlace (w := 0)), e_b td0, e_b (show Mod_wayPlace (Int32.ofNat c) (1 : Int32) = some (Int32.ofNat (wp c 1)) from t_wayPlace (w := 1)), e_b td1]
      rw [e_b (show Mod_put M (Int32.ofNat c) (2 : Int32) 2 = some M1 from t1), e_b (show Mod_put M1 (Int32.ofNat c) (3 : Int32) _ = some M2 from t2), e_r' (i := 1) (j := (1 : Int32)) rfl (by decide), q12.1, rcell 1 (by omega) (by omega)]
    by_cases y : r 1 = 1
    · rw [front, tfront, if_pos y, if_pos y]; exact fin _
    · rw [front, tfront, if_neg y, if_neg y]; exact fin _
  · -- one entry more
    have hst46 : st < 46 := by rw [← hst]; exact c2.2
    obtain ⟨h1, e1, w1, k1, o1, j1, R1, L1, A1, I1, V1, m1⟩ := setC hs.1 hcc (f := 5) (by decide) (Int32.ofNat (nt r (wp c 1) - 1 - st + 1))
    have ag1 : ∀ j, j < 104 + 66 * c ∨ 104 + 66 * c + 66 ≤ j → upd r (104 + 66 * c + 3) (Int32.ofNat (st - 1)) j = r j := upd3_hag (by omega) (by omega) (fun _ _ => rfl)
    generalize hrr : upd r (104 + 66 * c + 3) (Int32.ofNat (st - 1)) = rr at ag1
    have rcell : ∀ j, j ≠ 104 + 66 * c + 3 → rr j = r j := fun j y2 => by rw [← hrr, upd_ne y2]
    have r3 : rr (104 + 66 * c + 3) = Int32.ofNat (st - 1) := by rw [← hrr, upd_eq]
    have nr2 : nt rr (104 + 66 * c + 2) = 1 := (nt_eq (rcell _ (by omega))).trans hph
    have nr3 : nt rr (104 + 66 * c + 3) = st - 1 := nt_of r3 (by omega)
    have wcell : ∀ w j, w < 2 → wp c w ≤ j → j < wp c w + 25 → rr j = r j := fun w j hw y1 y2 => by
      have := wp_in hw y1 y2
      exact rcell j (by omega)
    have nw : ∀ w, w < 2 → nt rr (wp c w) = nt r (wp c w) := fun w hw => nt_eq (wcell w _ hw (by omega) (by omega))
    have hI' : Inv4 rr := by
      refine hI4.ci hc ag1 (fun w hw => WyI.same hI4 hc hw (fun j hj => ag1 j (by omega)) (fun j y1 y2 => wcell w j hw y1 y2)) ?_ (rcell _ (by omega))
      unfold ICc
      rw [nr2, nr3, nw 0 (by omega), nw 1 (by omega)]
      refine ⟨⟨(nm_same (rcell _ (by omega))).mpr c1, (nm.of r3 (by omega) (by omega)).1⟩, c3, fun z => by omega, fun _ => c5 (by omega), fun _ => by omega, fun z => by omega, fun z => by omega, fun w i hw hi0 hi => ?_⟩
      rw [nw w hw] at hi
      have l6 := hI4.len hc hw
      rw [wcell w _ hw (by omega) (by omega)]
      have := c9 w i hw hi0 hi
      constructor
      · intro z; have := (this.mp z).2.1; omega
      · intro z; omega
    have s1 : RS h1 G a rr N L C K := by
      refine hs.phase hc w1 k1 o1 R1 L1 A1 (fun ci f q i _ _ => I1 ci f q i) ag1 (fun w f i hw hf hi => ⟨wcell w _ hw (by omega) (by omega), wcell w _ hw (by omega) (by omega)⟩) (fun f hf => ?_) (by rw [nr2, hph]) ?_ ?_ hI'
      · obtain ⟨y1, y2, y3, y4, y5⟩ := hcf f hf
        rw [j1, if_neg y4, rcell _ (by omega)]
        exact z2 f hf
      · rw [nr2, nr3, nw 1 (by omega)]
        exact ⟨fun _ => by rw [j1, if_pos rfl]; congr 1; omega, fun z => by omega, fun z => by omega⟩
      · exact hs.2.1.lab.row hA (rcell 4 (by omega)) (fun c w y1 y2 => hI4.len y1 y2) (fun j hj => rcell j (by omega)) (fun c' w' j y1 y2 y3 y4 => rcell j (by have := wp_in y2 y3 y4; omega)) (fun f q i _ _ => I1 _ _ _ _)
    have n4 : nt rr 4 = nt r 4 := nt_eq (rcell 4 (by omega))
    have hc1 : c < nt rr 4 := by rw [n4]; exact hc
    obtain ⟨D1, hD1, hWayD⟩ := s1.way hc1 (w := 1) (by omega) (fun _ => by omega)
    have eD : D1 = B1 := by rw [R1, hB1] at hD1; exact (Option.some.inj hD1).symm
    subst eD
    have hheld : rr (wp c 1 + 7 + st) ≠ -1 := fun z => by
      rw [wcell 1 _ (by omega) (by omega) (by omega)] at z
      have := (c9 1 st (by omega) (by omega) hstn).mp z
      omega
    obtain ⟨h2, e2, s2, V2, m2, k2, -, -⟩ := s1.make hc1 (w := 1) (by omega) (i := st) (by omega) (by rw [nw 1 (by omega)]; exact hstn) hheld hWayD
    have hwp1 : 104 ≤ wp c 1 ∧ wp c 1 + 25 ≤ 1112 := by unfold wp; omega
    have qa : Mr M (ms M 0 (wp c 1 + 19 + st) 1) (upd r (wp c 1 + 19 + st) 1) := by rw [← hr]; exact Mr.w
    obtain ⟨M2, t2, q2⟩ := t_put (M := ms M 0 (wp c 1 + 19 + st) 1) (c := c) (f := 3) (v := Int32.ofNat (st - 1)) (by omega) (by omega)
    rw [qa.1] at q2
    have hin := wp_in (c := c) (w := 1) (j := wp c 1 + 19 + st) (by omega) (by omega) (by omega)
    refine ⟨h2, M2, _, ?_, ?_, s2, (nt_eq (upd_ne (by omega))).trans n4, (qa.tr q2).eq (by rw [← hrr]; exact upd_comm (by omega)), (V1.weak (fun q hq => by rw [hq]; exact hGc)).tr hs.1 V2 (fun _ y => Or.inl y), Co.of (by rw [m2, m1]), fun q => by rw [k2, k1]⟩
    · unfold Building_tick
      rw [e_nn, net_get hs.1 ha (by omega) (by omega) (hl 3 (by omega) (by omega)) hCs rfl hc, v_ck hcc, e_nn, v_gI hs.1 hcc rfl, j5, v_gR hs.1 hcc rfl, hB1, e_nn, v_gI hs.1 hWay1.1.1 rfl, hWay1.2.1, hW1.1.1, i_sub1 (by omega)]
      rw [if_neg (fun y => by have := (i_eq (by omega) (by omega)).mp y; omega), v_gI hs.1 hcc rfl, j5, show Int32.ofNat (nt r (wp c 1) - 1 - st) + (1 : Int32) = Int32.ofNat (nt r (wp c 1) - 1 - st + 1) from i_add, e1]
      have hcc1 : cl h1 (C c) = some 12 := by rw [k1]; exact hcc
      rw [v_gR w1 hcc1 rfl, R1, hB1, v_gR w1 hcc1 rfl, R1, hB1, e_nn, v_gI w1 hWayD.1.1 rfl, hWayD.2.1, wcell 1 _ (by omega) (by omega) (by omega), hW1.1.1, v_gI w1 hcc1 rfl, j1, if_pos rfl]
      rw [show Int32.ofNat (nt r (wp c 1)) - Int32.ofNat (nt r (wp c 1) - 1 - st + 1) = Int32.ofNat st by rw [i_sub (by omega)]; congr 1; omega]
      rw [v_is (by rw [k1]; exact ha), e_b e2]
    · unfold Mod_build
      rw [e_b (show Mod_of M (Int32.ofNat c) (3 : Int32) = some (Int32.ofNat st) by rw [show (3 : Int32) = Int32.ofNat 3 from rfl, t_of (by omega) (by omega), hr, e3]), if_neg (show ¬ Int32.ofNat st ≤ 0 from fun y => by have := (i_le (b := 0) (by omega) (by omega)).mp y; omega)]
      rw [e_b (show Mod_wayPlace (Int32.ofNat c) (1 : Int32) = some (Int32.ofNat (wp c 1)) from t_wayPlace (w := 1)), e_w' (i := wp c 1 + 19 + st) (by show Int32.ofNat (wp c 1) + Int32.ofNat 19 + Int32.ofNat st = _; rw [i_add, i_add]) (by omega), i_sub1 (by omega)]
      rw [e_b (show Mod_put (ms M 0 (wp c 1 + 19 + st) 1) (Int32.ofNat c) (3 : Int32) _ = some M2 from t2)]
end BUILD
