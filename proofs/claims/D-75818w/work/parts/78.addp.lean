/-! LEVEL 2: loose packets, a packet comes into the list, waiting units -/
section ADDP
variable {h h0 h' : g_AH} {G G' O : Nat → Prop} {a : Nat} {r r' : tR} {N L C K : Nat → Nat} {mC x k p c w n s l i0 i q W cp b u : Nat} {M : g_MD}
theorem lt_9 {n : Nat} (h : n < 2147483648) : Int32.ofNat n < (9 : Int32) ↔ n < 9 := i_lt (b := 9) h (by omega)
theorem gt_9 {n : Nat} (h : n < 2147483648) : (9 : Int32) < Int32.ofNat n ↔ 9 < n := i_lt (a := 9) (by omega) h
theorem gt_0 {n : Nat} (h : n < 2147483648) : (0 : Int32) < Int32.ofNat n ↔ 0 < n := i_lt (a := 0) (by omega) h
theorem Inv4.slot (hI : Inv4 r) (hag : ∀ j, j < 632 + 8 * nt r 6 ∨ 632 + 8 * nt r 6 + 8 ≤ j → r' j = r j) : Inv4 r' := hI.pk (p := nt r 6) hag (fun z => by omega)
/-- a packet not in the list has changed -/
theorem RS.loose (hs : RS h G a r N L C K) (hW' : WF h') (hx : ∀ q, q < nt r 6 → K q ≠ x) (ecl : ∀ q k, cl h q = some k → cl h' q = some k) (eJ : ∀ ci f q, ¬ (ci = 14 ∧ q = x) → J h' ci f q = J h ci f q) (eR : ∀ ci f q, Rf h' ci f q = Rf h ci f q) (eL : ∀ ci f q, AL h' ci f q = AL h ci f q) (eA : ∀ ci f q i, RA h' ci f q i = RA h ci f q i) (eI : ∀ ci f q i, Ar h' ci f q i = Ar h ci f q i) (hag : ∀ j, j < 632 + 8 * nt r 6 ∨ 632 + 8 * nt r 6 + 8 ≤ j → r' j = r j) : RS h' G a r' N L C K := by
  have hA := hs.2.2.1
  have g4 := nm4 hA
  have n4 : nt r' 4 = nt r 4 := nt_eq (hag 4 (by omega))
  refine ⟨hW', ?_, hs.2.2.slot hag⟩
  rw [n4]
  exact (hs.2.1.six.pktx (p := nt r 6) hA (by omega) (fun q hq _ => hx q hq) (fun c w y1 y2 => hs.2.2.len y1 y2) ecl eJ eR eL eA eI hag (fun z => by omega)).rn (hs.2.1.lab.row hA (hag 4 (by omega)) (fun c w y1 y2 => hs.2.2.len y1 y2) (fun j hj => hag j (by omega)) (fun c w j y1 y2 y3 y4 => hag j (by have := wp_in y2 y3 y4; omega)) (fun f q i _ _ => eI _ _ _ _))
theorem RS.junk (hs : RS h G a r N L C K) (hag : ∀ j, j < 632 + 8 * nt r 6 ∨ 632 + 8 * nt r 6 + 8 ≤ j → r' j = r j) : RS h G a r' N L C K :=
  hs.loose (x := g_n h) hs.1 (fun q hq e => by have := hs.1.cl_lt (hs.clP hq); omega) (fun _ _ e => e) (fun _ _ _ _ => rfl) (fun _ _ _ => rfl) (fun _ _ _ => rfl) (fun _ _ _ _ => rfl) (fun _ _ _ _ => rfl) hag
theorem RS.sm (hs : RS h G a r N L C K) (hW' : WF h') (hsm : Sm h h') (hx : ∀ q, q < nt r 6 → K q ≠ x) (jo : ∀ f q, q ≠ x → J h' 14 f q = J h 14 f q) : RS h' G a r N L C K := by
  refine hs.loose hW' hx (fun q k e => by rw [hsm.1]; exact e) (fun ci f q hd => ?_) hsm.2.2.1 hsm.2.2.2.1 hsm.2.2.2.2.1 hsm.2.2.2.2.2 (fun _ _ => rfl)
  by_cases e : ci = 14
  · subst e; exact jo f q (fun z => hd ⟨rfl, z⟩)
  · exact hsm.2.1 ci f q e
theorem RS.nO (hs : RS h G a r N L C K) : RS (nO h 14 8) G a r N L C K :=
  hs.loose (x := g_n h) hs.1.pO (fun q hq e => by have := hs.1.cl_lt (hs.clP hq); omega) (fun q k e => by have := hs.1.cl_lt e; rw [cl_nO, if_neg (by omega)]; exact e) (fun _ _ _ _ => J_nO hs.1) (fun _ _ _ => Rf_nO hs.1) (fun _ _ _ => AL_nO hs.1) (fun _ _ _ _ => RA_nO hs.1) (fun _ _ _ _ => Ar_nO hs.1) (fun _ _ => rfl)
theorem Inv4.addP (hI : Inv4 r) (h60 : nt r 6 < 60) (hP : nm r (632 + 8 * nt r 6) (nt r 4) ∧ nm r (632 + 8 * nt r 6 + 4) (nt r 2) ∧ nm r (632 + 8 * nt r 6 + 5) (nt r (14 + nt r (632 + 8 * nt r 6 + 4))) ∧ r (632 + 8 * nt r 6 + 3) ≠ -1) : Inv4 (upd r 6 (Int32.ofNat (nt r 6 + 1))) := by
  obtain ⟨hA, hW, hC, hP0, hB⟩ := hI
  have g4 := nm4 hA
  have g2 := nm2 hA
  have lo : ∀ j, j ≠ 6 → upd r 6 (Int32.ofNat (nt r 6 + 1)) j = r j := fun j hj => upd_ne hj
  have n6 : nt (upd r 6 (Int32.ofNat (nt r 6 + 1))) 6 = nt r 6 + 1 := nt_of upd_eq (by omega)
  have n4 := nt_eq (lo 4 (by omega)); have n2 := nt_eq (lo 2 (by omega))
  refine ⟨hA.row (fun j hj => lo j (by omega)) ((nm_same (lo 4 (by omega))).mpr hA.1.2.2.1) (nm.of (n := nt r 6 + 1) upd_eq (by omega) (by omega)).1, fun c w hc hw => ?_, fun c hc => ?_, fun q hq => ?_, fun c hc => by rw [n4] at hc; exact (nm_same (lo (104 + 66 * c + 5) (by omega))).mpr (hB c hc)⟩
  · rw [n4] at hc
    exact (hW c w hc hw).row hA (fun j hj => lo j (by omega)) (fun j h1 h2 => lo j (by unfold wp at *; omega))
  · rw [n4] at hc
    have e2 := lo (104 + 66 * c + 2) (by omega)
    have e3 := lo (104 + 66 * c + 3) (by omega)
    obtain ⟨⟨c1, c2⟩, c3, c4, c5, c6, c7, c8, c9⟩ := hC c hc
    unfold ICc
    rw [nt_eq e2, nt_eq e3, nt_eq (lo (wp c 0) (by unfold wp; omega)), nt_eq (lo (wp c 1) (by unfold wp; omega))]
    refine ⟨⟨(nm_same e2).mpr c1, (nm_same e3).mpr c2⟩, c3, c4, c5, c6, c7, c8, fun w i hw hi0 hi => ?_⟩
    rw [nt_eq (lo (wp c w) (by unfold wp; omega))] at hi
    rw [lo _ (by unfold wp; omega)]
    exact c9 w i hw hi0 hi
  · rw [n6] at hq
    have hi : ∀ f, upd r 6 (Int32.ofNat (nt r 6 + 1)) (632 + 8 * q + f) = r (632 + 8 * q + f) := fun f => lo _ (by omega)
    have e0 : upd r 6 (Int32.ofNat (nt r 6 + 1)) (632 + 8 * q) = r (632 + 8 * q) := hi 0
    have hall : nm r (632 + 8 * q) (nt r 4) ∧ nm r (632 + 8 * q + 4) (nt r 2) ∧ nm r (632 + 8 * q + 5) (nt r (14 + nt r (632 + 8 * q + 4))) ∧ r (632 + 8 * q + 3) ≠ -1 := by
      by_cases e : q = nt r 6
      · subst e; exact hP
      · exact hP0 q (by omega)
    obtain ⟨x1, x2, x3, x4⟩ := hall
    rw [n4, n2, nt_eq (hi 4), nt_eq (lo (14 + nt r (632 + 8 * q + 4)) (by have := x2.2; omega)), hi 3]
    exact ⟨(nm_same e0).mpr x1, (nm_same (hi 4)).mpr x2, (nm_same (hi 5)).mpr x3, x4⟩
/-- a packet comes into the list -/
theorem RS.addP (hs : RS h G a r N L C K) (h60 : nt r 6 < 60) (hx : PktR h G r x (nt r 6)) (hfr : ∀ q, q < nt r 6 → K q ≠ x) (hP : nm r (632 + 8 * nt r 6) (nt r 4) ∧ nm r (632 + 8 * nt r 6 + 4) (nt r 2) ∧ nm r (632 + 8 * nt r 6 + 5) (nt r (14 + nt r (632 + 8 * nt r 6 + 4))) ∧ r (632 + 8 * nt r 6 + 3) ≠ -1) :
    ∃ h', ArrayList_add0 h (lA h a 4) (some x) = some (1, h') ∧ RS h' G a (upd r 6 (Int32.ofNat (nt r 6 + 1))) N L C (fun k => if k = nt r 6 then x else K k) ∧ VF h h' G ∧ Co h h' 1 96 ∧ (∀ q, cl h' q = cl h q) := by
  obtain ⟨hW, hR, hI⟩ := hs
  have hA := hI.1
  have g4 := nm4 hA
  have g2 := nm2 hA
  have g3 := nm3 hA
  obtain ⟨ha, hl, hN, hL, hC, hK⟩ := hR.lst
  obtain ⟨h', e1, e2, e3, e4, e5, e6⟩ := ls_add (b := x) (c := 14) hW hK (by omega) (fun k hk => ⟨14, (hR.2.2.2.2.2.1 k hk).1.1, by decide⟩) hx.1.1 (by decide)
  have hGl := (hR.2.1.1 4 (by omega) (by omega)).2
  refine ⟨h', e1, ⟨e2, ?_, hI.addP h60 hP⟩, e4.weak (fun q hq => by rw [hq]; exact hGl), e5, e6⟩
  obtain ⟨k1, k2, k3, k4, k5, k6, ⟨k7, k8⟩, k9, k10⟩ := hR.six.lkeep (i0 := 4) (by omega) (by omega) e4
  obtain ⟨j1, j2, j3, j4⟩ := hR.2.1.2.2.2
  have lo : ∀ j, j ≠ 6 → upd r 6 (Int32.ofNat (nt r 6 + 1)) j = r j := fun j h1 => upd_ne h1
  have n6 : nt (upd r 6 (Int32.ofNat (nt r 6 + 1))) 6 = nt r 6 + 1 := nt_of upd_eq (by omega)
  have n2 := nt_eq (lo 2 (by omega)); have n3 := nt_eq (lo 3 (by omega))
  have n4 := nt_eq (lo 4 (by omega))
  have hlab : LabR h' (upd r 6 (Int32.ofNat (nt r 6 + 1))) N := LabR.row (hR.lab.same k10) hA (lo 4 (by omega)) (fun c w hc hw => hI.len hc hw) (fun j hj => lo j (by omega)) (fun c w j hc hw h1 h2 => lo j (by unfold wp at *; omega)) (fun _ _ _ _ _ => rfl)
  rw [n4]
  refine ⟨k1.heap (fun q k e => e) (fun _ => rfl) (fun _ => rfl) (fun _ _ => rfl) (fun _ => rfl) (fun j hj => lo j (by omega)), ⟨fun i x1 x2 => by rw [k2]; exact k3 i x1 x2, fun i j x1 x2 x3 x4 => by rw [k2, k2]; exact hR.2.1.2.1 i j x1 x2 x3 x4, ?_, ?_⟩, fun k hk => ?_, fun k hk => ?_, ⟨fun c hc => ?_, k8⟩, fun q hq => ?_, hlab⟩
  · rw [n2, n3, n6, k2, k2, k2, k2]
    exact ⟨k4 1 _ _ (by omega) (by omega) (by omega) hN, k4 2 _ _ (by omega) (by omega) (by omega) hL, k4 3 _ _ (by omega) (by omega) (by omega) hC, e3⟩
  · rw [n2, n3, n6]
    refine ⟨j1, j2, j3, fun i j hi hj e => ?_⟩
    by_cases a1 : i = nt r 6 <;> by_cases a2 : j = nt r 6
    · omega
    · simp only [if_pos a1, if_neg a2] at e; exact absurd e.symm (hfr j (by omega))
    · simp only [if_neg a1, if_pos a2] at e; exact absurd e (hfr i (by omega))
    · simp only [if_neg a1, if_neg a2] at e; exact j4 i j (by omega) (by omega) e
  · rw [n2] at hk
    exact (k5 k hk).heap (fun q k e => e) (fun _ _ => rfl) (fun _ _ => rfl) (lo _ (by omega))
  · rw [n3] at hk
    exact (k6 k hk).heap (fun q k e => e) (fun _ _ => rfl) (fun f _ => lo _ (by omega))
  · exact (k7 c hc).heap (fun q k e => e) (fun _ => rfl) (fun _ => rfl) (fun _ _ => rfl) (fun _ _ => rfl) (fun _ _ _ _ _ _ _ => rfl) (fun f hf => lo _ (by omega)) (fun w hw => hI.len (by omega) hw)
  · rw [n6] at hq
    have hp : PktR h' G r (if q = nt r 6 then x else K q) q := by
      by_cases e : q = nt r 6
      · rw [if_pos e, e]
        obtain ⟨⟨x1, x2⟩, x3, x4, x5, x6⟩ := hx
        have ne : ¬ x = lA h a 4 := fun z => by rw [z] at x1; rw [hK.1] at x1; cases x1
        have ej : ∀ f, J h' 14 f x = J h 14 f x := fun f => e4.kJ ne (by rw [x1]; simp)
        exact ⟨⟨by rw [e6]; exact x1, x2⟩, by rw [ej]; exact x3, by rw [ej]; exact x4, by rw [ej]; exact x5, fun f y1 y2 => by rw [ej]; exact x6 f y1 y2⟩
      · rw [if_neg e]; exact k9 q (by omega)
    exact hp.heap (fun q k e => e) (fun _ => rfl) (fun f _ => lo _ (by omega))
theorem Inv4.ci2 (hI : Inv4 r) (hc : c < nt r 4) (hag : ∀ j, j < 104 + 66 * c ∨ 104 + 66 * c + 66 ≤ j → r' j = r j) (hW : ∀ w, w < 2 → WyI r' (wp c w)) (hC : ICc r' c) (h5 : nm r' (104 + 66 * c + 5) 10) : Inv4 r' := by
  obtain ⟨hA, hW0, hC0, hP0, hB⟩ := hI
  have g4 := nm4 hA
  have g2 := nm2 hA
  have lo : ∀ j, j < 104 → r' j = r j := fun j hj => hag j (by omega)
  have n4 := nt_eq (lo 4 (by omega)); have n6 := nt_eq (lo 6 (by omega)); have n2 := nt_eq (lo 2 (by omega))
  have oth : ∀ c' j, c' < 8 → c' ≠ c → 104 + 66 * c' ≤ j → j < 104 + 66 * c' + 66 → r' j = r j := fun c' j h1 h2 h3 h4 => hag j (by omega)
  refine ⟨hA.row (fun j hj => lo j (by omega)) ((nm_same (lo 4 (by omega))).mpr hA.1.2.2.1) ((nm_same (lo 6 (by omega))).mpr hA.1.2.2.2), fun c' w hc' hw => ?_, fun c' hc' => ?_, fun q hq => ?_, fun c' hc' => ?_⟩
  · rw [n4] at hc'
    by_cases e : c' = c
    · subst e; exact hW w hw
    · exact (hW0 c' w hc' hw).row hA (fun j hj => lo j (by omega)) (fun j h1 h2 => by have := wp_in hw h1 h2; exact oth c' j (by omega) e (by omega) (by omega))
  · rw [n4] at hc'
    by_cases e : c' = c
    · subst e; exact hC
    · have o := fun j => oth c' j (by omega) e
      have e2 := o (104 + 66 * c' + 2) (by omega) (by omega)
      have e3 := o (104 + 66 * c' + 3) (by omega) (by omega)
      obtain ⟨⟨c1, c2⟩, c3, c4, c5, c6, c7, c8, c9⟩ := hC0 c' hc'
      have w0 := o (wp c' 0) (by unfold wp; omega) (by unfold wp; omega)
      have w1 := o (wp c' 1) (by unfold wp; omega) (by unfold wp; omega)
      unfold ICc
      rw [nt_eq e2, nt_eq e3, nt_eq w0, nt_eq w1]
      refine ⟨⟨(nm_same e2).mpr c1, (nm_same e3).mpr c2⟩, c3, c4, c5, c6, c7, c8, fun w i hw hi0 hi => ?_⟩
      have hwl := (hW0 c' w hc' hw).1.2
      rw [nt_eq (o (wp c' w) (by unfold wp; omega) (by unfold wp; omega))] at hi
      rw [o _ (by unfold wp; omega) (by unfold wp; omega)]
      exact c9 w i hw hi0 hi
  · rw [n6] at hq
    obtain ⟨x1, x2, x3, x4⟩ := hP0 q hq
    have hi : ∀ f, r' (632 + 8 * q + f) = r (632 + 8 * q + f) := fun f => hag _ (by omega)
    have e0 : r' (632 + 8 * q) = r (632 + 8 * q) := hi 0
    rw [n4, n2, nt_eq (hi 4), nt_eq (lo (14 + nt r (632 + 8 * q + 4)) (by have := x2.2; omega)), hi 3]
    exact ⟨(nm_same e0).mpr x1, (nm_same (hi 4)).mpr x2, (nm_same (hi 5)).mpr x3, x4⟩
  · rw [n4] at hc'
    by_cases e : c' = c
    · subst e; exact h5
    · exact (nm_same (oth c' _ (by omega) e (by omega) (by omega))).mpr (hB c' hc')
/-- waiting units of a circuit -/
theorem RS.stepB (hs : RS h G a r N L C K) (hc : c < nt r 4) (hb : b < 10) : ∃ h', (∀ {α : Type} (k : g_AH → Option α), g_pF h (C c) 12 8 (.int (Int32.ofNat b)) k = k h') ∧ RS h' G a (upd r (104 + 66 * c + 5) (Int32.ofNat b)) N L C K ∧ VF h h' G ∧ h'.2 = h.2 ∧ (∀ q, cl h' q = cl h q) := by
  have g4 := nm4 hs.2.2.1
  have hag : ∀ j, j ≠ 104 + 66 * c + 5 → upd r (104 + 66 * c + 5) (Int32.ofNat b) j = r j := fun j hj => upd_ne hj
  have n4 : nt (upd r (104 + 66 * c + 5) (Int32.ofNat b)) 4 = nt r 4 := nt_eq (hag 4 (by omega))
  have wc : ∀ w j, w < 2 → wp c w ≤ j → j < wp c w + 25 → upd r (104 + 66 * c + 5) (Int32.ofNat b) j = r j := fun w j y1 y2 y3 => hag j (by have := wp_in y1 y2 y3; omega)
  refine ⟨wJ h 12 8 (C c) (Int32.ofNat b), fun k => v_pJ hs.1 (hs.clC hc) rfl, ⟨hs.1.pJ rfl, ?_, ?_⟩, VF.pJ hs.1 (hs.2.1.2.2.2.2.1.1 c hc).1.2, wV_meta, fun q => cl_wJ⟩
  · rw [n4]
    exact (R6.jc hs.1 hs.2.1.six hs.2.2 (Nat.le_refl _) hc (f := 8) (by omega) (by omega)).rn (hs.2.1.lab.row hs.2.2.1 (hag 4 (by omega)) (fun c w y1 y2 => hs.2.2.len y1 y2) (fun j hj => hag j (by omega)) (fun c' w j y1 y2 y3 y4 => hag j (by have := wp_in y2 y3 y4; omega)) (fun f q i _ _ => Ar_wJ rfl hs.1))
  · refine hs.2.2.ci2 hc (fun j hj => hag j (by omega)) (fun w hw => WyI.same hs.2.2 hc hw (fun j hj => hag j (by omega)) (fun j y1 y2 => wc w j hw y1 y2)) ?_ (nm.of upd_eq hb (by omega)).1
    obtain ⟨⟨c1, c2⟩, c3, c4, c5, c6, c7, c8, c9⟩ := hs.2.2.2.2.1 c hc
    have e2 := hag (104 + 66 * c + 2) (by omega)
    have e3 := hag (104 + 66 * c + 3) (by omega)
    have ew : ∀ w, w < 2 → nt (upd r (104 + 66 * c + 5) (Int32.ofNat b)) (wp c w) = nt r (wp c w) := fun w hw => nt_eq (wc w _ hw (Nat.le_refl _) (by omega))
    unfold ICc
    rw [nt_eq e2, nt_eq e3, ew 0 (by omega), ew 1 (by omega)]
    refine ⟨⟨(nm_same e2).mpr c1, (nm_same e3).mpr c2⟩, c3, c4, c5, c6, c7, c8, fun w i hw hi0 hi => ?_⟩
    rw [ew w hw] at hi
    have := hs.2.2.len hc hw
    rw [wc w _ hw (by omega) (by omega)]
    exact c9 w i hw hi0 hi
theorem RS.jB (hs : RS h G a r N L C K) (hc : c < nt r 4) : J h 12 8 (C c) = Int32.ofNat (nt r (104 + 66 * c + 5)) ∧ r (104 + 66 * c + 5) = Int32.ofNat (nt r (104 + 66 * c + 5)) ∧ nt r (104 + 66 * c + 5) < 10 := by
  have := hs.2.2.2.2.2.2 c hc
  exact ⟨(hs.jC hc (f := 8) (by omega) (by omega)).trans this.1, this.1, this.2⟩
/-- units are offered -/
theorem offer_c (hs : RS h G a r N L C K) (hc : c < nt r 4) (hu : u < 1000) : ∃ h', Circuit_offer h (C c) (Int32.ofNat u) = some (Int32.ofNat (nt r (104 + 66 * c + 5) + u - 9), h') ∧ RS h' G a (upd r (104 + 66 * c + 5) (Int32.ofNat (if nt r (104 + 66 * c + 5) + u < 9 then nt r (104 + 66 * c + 5) + u else 9))) N L C K ∧ VF h h' G ∧ h'.2 = h.2 ∧ (∀ q, cl h' q = cl h q) := by
  have g4 := nm4 hs.2.2.1
  obtain ⟨j1, j2, j3⟩ := hs.jB hc
  generalize hb : nt r (104 + 66 * c + 5) = b at *
  obtain ⟨h1, e1, s1, V1, m1, k1⟩ := hs.stepB hc (b := if b + u < 9 then b + u else 9) (by split <;> omega)
  have hv : (if Int32.ofNat b + Int32.ofNat u < (9 : Int32) then Int32.ofNat b + Int32.ofNat u else (9 : Int32)) = Int32.ofNat (if b + u < 9 then b + u else 9) := by
    rw [i_add]
    by_cases z : b + u < 9
    · rw [if_pos ((lt_9 (by omega)).mpr z), if_pos z]
    · rw [if_neg (fun y => z ((lt_9 (by omega)).mp y)), if_neg z]; rfl
  refine ⟨h1, ?_, s1, V1, m1, k1⟩
  have jn : J h1 12 8 (C c) = Int32.ofNat (if b + u < 9 then b + u else 9) := by
    have n4 : nt (upd r (104 + 66 * c + 5) (Int32.ofNat (if b + u < 9 then b + u else 9))) 4 = nt r 4 := nt_eq (upd_ne (by omega))
    rw [s1.jC (by rw [n4]; exact hc) (f := 8) (by omega) (by omega)]
    exact upd_eq
  unfold Circuit_offer
  rw [v_gI hs.1 (hs.clC hc) rfl, j1, hv, e1, v_gI s1.1 (by rw [k1]; exact hs.clC hc) rfl, jn, i_add]
  by_cases z : b + u < 9
  · rw [if_pos z, i_sub (by omega)]; congr 3; omega
  · rw [if_neg z, i_sub (by omega)]
theorem offer_t (hr : M.1 0 = r) (hI : Inv4 r) (hc : c < nt r 4) (hu : u < 1000) : ∃ M', Mod_growBacklog M (Int32.ofNat c) (Int32.ofNat u) = some M' ∧ Mr M M' (upd (upd r 10 (r 10 + Int32.ofNat (nt r (104 + 66 * c + 5) + u - 9))) (104 + 66 * c + 5) (Int32.ofNat (if nt r (104 + 66 * c + 5) + u < 9 then nt r (104 + 66 * c + 5) + u else 9))) := by
  have g4 := nm4 hI.1
  obtain ⟨j2, j3⟩ := hI.2.2.2.2 c hc
  generalize hb : nt r (104 + 66 * c + 5) = b at *
  have q1 : Mr M (ms M 0 10 (r 10 + Int32.ofNat (b + u - 9))) (upd r 10 (r 10 + Int32.ofNat (b + u - 9))) := by rw [← hr]; exact Mr.w
  obtain ⟨M2, t2, q2⟩ := t_put (M := ms M 0 10 (r 10 + Int32.ofNat (b + u - 9))) (c := c) (f := 5) (v := Int32.ofNat (if b + u < 9 then b + u else 9)) (by omega) (by omega)
  rw [q1.1] at q2
  have hd : (if (0 : Int32) < Int32.ofNat (b + u) - (9 : Int32) then Int32.ofNat (b + u) - (9 : Int32) else (0 : Int32)) = Int32.ofNat (b + u - 9) := by
    by_cases z : 9 ≤ b + u
    · rw [show Int32.ofNat (b + u) - (9 : Int32) = Int32.ofNat (b + u - 9) from i_sub (b := 9) z]
      by_cases z2 : 0 < b + u - 9
      · rw [if_pos ((gt_0 (by omega)).mpr z2)]
      · rw [if_neg (fun y => z2 ((gt_0 (by omega)).mp y)), show b + u - 9 = 0 by omega]; rfl
    · rw [show b + u - 9 = 0 by omega]
      rcases (show b + u = 0 ∨ b + u = 1 ∨ b + u = 2 ∨ b + u = 3 ∨ b + u = 4 ∨ b + u = 5 ∨ b + u = 6 ∨ b + u = 7 ∨ b + u = 8 by omega) with e | e | e | e | e | e | e | e | e <;> rw [e] <;> decide
  have hv : (if (9 : Int32) < Int32.ofNat (b + u) then (9 : Int32) else Int32.ofNat (b + u)) = Int32.ofNat (if b + u < 9 then b + u else 9) := by
    by_cases z : 9 < b + u
    · rw [if_pos ((gt_9 (by omega)).mpr z), if_neg (by omega)]; rfl
    · rw [if_neg (fun y => z ((gt_9 (by omega)).mp y))]
      congr 1; split <;> omega
  refine ⟨M2, ?_, q1.tr q2⟩
  unfold Mod_growBacklog
  rw [e_b (show Mod_of M (Int32.ofNat c) (5 : Int32) = some (Int32.ofNat b) by rw [show (5 : Int32) = Int32.ofNat 5 from rfl, t_of (by omega) (by omega), hr, j2]), e_r' (i := 10) (j := (10 : Int32)) rfl (by decide), hr, i_add, hd, e_w' (i := 10) (j := (10 : Int32)) rfl (by decide), hv]
  rw [e_b (show Mod_put _ (Int32.ofNat c) (5 : Int32) _ = some M2 from t2)]
end ADDP
