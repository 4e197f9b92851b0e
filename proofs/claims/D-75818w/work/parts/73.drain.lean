/-! LEVEL 2: draining, building -/
section DRAIN
variable {h h0 h' : g_AH} {G G' O : Nat → Prop} {a : Nat} {r r' : tR} {N L C K : Nat → Nat} {mC x k p c w n s l i0 i q W cp : Nat} {M : g_MD}
theorem RS.jph (hs : RS h G a r N L C K) (hc : c < nt r 4) : J h 12 4 (C c) = r (104 + 66 * c + 2) := (hs.2.1.2.2.2.2.1.1 c hc).2.1 4 (by decide)
theorem WyI.same (hI : Inv4 r) (hc : c < nt r 4) (hw : w < 2) (hag : ∀ j, j < 104 → r' j = r j) (hagw : ∀ j, wp c w ≤ j → j < wp c w + 25 → r' j = r j) : WyI r' (wp c w) := (hI.2.1 c w hc hw).row hI.1 (fun j hj => hag j (by omega)) hagw
/-- a circuit's phase numbers have changed: heap views and the row -/
theorem RS.phase (hs : RS h G a r N L C K) (hc : c < nt r 4) (hW' : WF h') (ecl : ∀ q, cl h' q = cl h q) (eJ : ∀ ci f q, ¬ (ci = 12 ∧ q = C c) → J h' ci f q = J h ci f q) (eR : ∀ ci f q, Rf h' ci f q = Rf h ci f q) (eL : ∀ ci f q, AL h' ci f q = AL h ci f q) (eA : ∀ ci f q i, RA h' ci f q i = RA h ci f q i) (eI : ∀ ci f q i, 3 ≤ kd ci f → ¬ (ci = 10 ∧ f = 4) → Ar h' ci f q i = Ar h ci f q i)
    (hag : ∀ j, j < 104 + 66 * c ∨ 104 + 66 * c + 66 ≤ j → r' j = r j) (hagw : ∀ w f i, w < 2 → f < 3 → i < 6 → r' (wp c w) = r (wp c w) ∧ r' (wp c w + 1 + 6 * f + i) = r (wp c w + 1 + 6 * f + i)) (hplain : ∀ f, f ∈ [0, 1, 4, 7, 8, 9, 10, 11, 12, 13, 14] → J h' 12 f (C c) = r' (104 + 66 * c + cf f)) (hph : nt r (104 + 66 * c + 2) = 0 ↔ nt r' (104 + 66 * c + 2) = 0)
    (hst : (nt r' (104 + 66 * c + 2) = 1 → J h' 12 5 (C c) = Int32.ofNat (nt r' (wp c 1) - 1 - nt r' (104 + 66 * c + 3))) ∧ (nt r' (104 + 66 * c + 2) = 2 → J h' 12 6 (C c) = r' (104 + 66 * c + 3)) ∧ (nt r' (104 + 66 * c + 2) = 3 → J h' 12 5 (C c) = Int32.ofNat (nt r' (104 + 66 * c + 3) - 1)))
    (hLab : LabR h' r' N) (hI' : Inv4 r') : RS h' G a r' N L C K := by
  have hA := hs.2.2.1
  have g4 := nm4 hA
  have n4 : nt r' 4 = nt r 4 := nt_eq (hag 4 (by omega))
  obtain ⟨⟨x1, x2⟩, x3, ⟨w0, x4, x5⟩, x6, x7⟩ := hs.2.1.2.2.2.2.1.1 c hc
  have hWap := hs.2.1.2.2.2.2.1.2
  have wayk : ∀ w q, w < 2 → WayR h G r q (wp c w) → WayR h' G r' q (wp c w) := fun w q hw hq => by
    have l6 := hs.2.2.len hc hw
    obtain ⟨⟨y1, y2⟩, y3, y4, y5⟩ := hq
    have e0 := (hagw w 0 0 hw (by omega) (by omega)).1
    refine ⟨⟨by rw [ecl]; exact y1, y2⟩, by rw [eJ _ _ _ (by simp), e0]; exact y3, fun f hf => by rw [eL]; exact y4 f hf, fun f i hf hi => ?_⟩
    rw [nt_eq e0] at hi
    rw [eI _ _ _ _ (by rw [kd6 hf]; omega) (by simp), (hagw w f i hw hf (by omega)).2]
    exact y5 f i hf hi
  refine ⟨hW', ?_, hI'⟩
  rw [n4]
  refine (hs.2.1.six.circ hA (by omega) hc (fun c w y1 y2 => hs.2.2.len y1 y2) (fun q k e => by rw [ecl]; exact e) eJ (fun ci f q _ => eR ci f q) eL eA (fun i => eI _ _ _ _ (by decide) (by simp)) (fun c' w' q _ _ _ _ f i hf => eI _ _ _ _ (by rw [kd6 hf]; omega) (by simp)) hag ⟨⟨by rw [ecl]; exact x1, x2⟩, hplain, ⟨w0, by rw [eR]; exact x4, wayk 0 w0 (by omega) x5⟩, ?_, hst⟩ (fun c1 c2 w1 w2 q y1 y2 y3 y4 y5 y6 => ?_)).rn hLab
  · by_cases e : nt r (104 + 66 * c + 2) = 0
    · rw [if_pos e] at x6
      rw [if_pos (hph.mp e), eR]; exact x6
    · rw [if_neg e] at x6
      rw [if_neg (fun z => e (hph.mpr z))]
      obtain ⟨w1, y1, y2⟩ := x6
      exact ⟨w1, by rw [eR]; exact y1, wayk 1 w1 (by omega) y2⟩
  · rw [eR] at y5 y6
    exact hWap c1 c2 w1 w2 q y1 y2 y3 y4 y5 y6
/-- fields of one circuit are written: views -/
theorem setC (hW : WF h) (hx : cl h x = some 12) {f : Nat} (hf : f ∈ [0, 1, 4, 5, 6, 7, 8, 9, 10, 11, 12, 13, 14]) (v : Int32) : ∃ h', (∀ {α : Type} (k : g_AH → Option α), g_pF h x 12 f (.int v) k = k h') ∧ WF h' ∧ (∀ q, cl h' q = cl h q) ∧ (∀ ci f' q, ¬ (ci = 12 ∧ q = x) → J h' ci f' q = J h ci f' q) ∧ (∀ f', J h' 12 f' x = if f' = f then v else J h 12 f' x) ∧ (∀ ci f q, Rf h' ci f q = Rf h ci f q) ∧ (∀ ci f q, AL h' ci f q = AL h ci f q) ∧ (∀ ci f q i, RA h' ci f q i = RA h ci f q i) ∧ (∀ ci f q i, Ar h' ci f q i = Ar h ci f q i) ∧ VF h h' (fun q => q = x) ∧ h'.2 = h.2 := by
  have hk : kd 12 f = 1 := kd12 hf
  refine ⟨wJ h 12 f x v, fun k => v_pJ hW hx hk, hW.pJ hk, fun q => cl_wJ, fun ci f' q hd => ?_, fun f' => ?_, fun ci f' q => Rf_wJ hk hW, fun ci f' q => AL_wJ hk hW, fun ci f' q i => RA_wJ hk hW, fun ci f' q i => Ar_wJ hk hW, VF.pJ hW rfl, wV_meta⟩
  · by_cases e : ci = 12
    · exact J_wJa (fun q2 => hd ⟨e, q2⟩)
    · exact J_wJn (by simp [e])
  · by_cases e : f' = f
    · subst e; rw [J_wJ hW hx hk, if_pos rfl, if_pos rfl]
    · rw [J_wJn (by simp [e]), if_neg e]
theorem upd3_hag {j0 : Nat} {v : Int32} (h1 : 104 + 66 * c ≤ j0) (h2 : j0 < 104 + 66 * c + 66) (hag : ∀ j, j < 104 + 66 * c ∨ 104 + 66 * c + 66 ≤ j → r' j = r j) : ∀ j, j < 104 + 66 * c ∨ 104 + 66 * c + 66 ≤ j → upd r' j0 v j = r j := fun j hj => by rw [upd_ne (by omega)]; exact hag j hj
theorem drain_both (hs : RS h G a r N L C K) (hr : M.1 0 = r) (hc : c < nt r 4) (hph : nt r (104 + 66 * c + 2) = 2) : ∃ (h' : g_AH) (M' : g_MD) (r' : tR), Draining_tick h x (some a) (Int32.ofNat c) = some h' ∧ Mod_drain M (Int32.ofNat c) = some M' ∧ RS h' G a r' N L C K ∧ nt r' 4 = nt r 4 ∧ Mr M M' r' ∧ VF h h' G ∧ Co h h' 0 0 ∧ (∀ q, cl h' q = cl h q) := by
  have hI4 := hs.2.2
  have hA := hI4.1
  have g4 := nm4 hA
  obtain ⟨ha, hl, -, -, hCs, -⟩ := hs.2.1.lst
  have hcc := hs.clC hc
  have hGc := (hs.2.1.2.2.2.2.1.1 c hc).1.2
  obtain ⟨z1, z2, ⟨z3, -, -⟩, z4, z5, z6, z7⟩ := hs.2.1.2.2.2.2.1.1 c hc
  have hC := hI4.2.2.1 c hc
  obtain ⟨⟨c1, c2⟩, c3, c4, c5, c6, c7, c8, c9⟩ := id hC
  have hst0 := c7 hph
  have e3 := c2.1
  generalize hst : nt r (104 + 66 * c + 3) = st at *
  have hst46 : st < 46 := by rw [← hst]; exact c2.2
  have j6 : J h 12 6 (C c) = Int32.ofNat st := by rw [z6 hph, e3]
  obtain ⟨h1, e1, w1, l1, o1, j1, R1, L1, A1, I1, V1, m1⟩ := setC hs.1 hcc (f := 6) (by decide) (Int32.ofNat (st - 1))
  obtain ⟨M1, t1, q1⟩ := t_put (M := M) (c := c) (f := 3) (v := Int32.ofNat (st - 1)) (by omega) (by omega)
  rw [hr] at q1
  have ag1 : ∀ j, j < 104 + 66 * c ∨ 104 + 66 * c + 66 ≤ j → upd r (104 + 66 * c + 3) (Int32.ofNat (st - 1)) j = r j := upd3_hag (by omega) (by omega) (fun _ _ => rfl)
  have hcf : ∀ f, f ∈ [0, 1, 4, 7, 8, 9, 10, 11, 12, 13, 14] → cf f < 12 ∧ cf f ≠ 3 ∧ (cf f = 2 ↔ f = 4) ∧ f ≠ 5 ∧ f ≠ 6 := by decide
  have front : Draining_tick h x (some a) (Int32.ofNat c) = if Int32.ofNat (st - 1) = 0 then (g_pF h1 (C c) 12 4 (.int (3 : Int32)) fun h30 => g_pF h30 (C c) 12 5 (.int (0 : Int32)) fun h34 => some h34) else some h1 := by
    unfold Draining_tick
    rw [e_nn, net_get hs.1 ha (by omega) (by omega) (hl 3 (by omega) (by omega)) hCs rfl hc, v_ck hcc, e_nn, v_gI hs.1 hcc rfl, j6, i_sub1 (by omega), e1, v_gI w1 (by rw [l1]; exact hcc) rfl, j1, if_pos rfl]
  have tfront : Mod_drain M (Int32.ofNat c) = if Int32.ofNat (st - 1) = 0 then (g_b (Mod_put M1 (Int32.ofNat c) (2 : Int32) (3 : Int32)) fun M12 => g_b (Mod_put M12 (Int32.ofNat c) (3 : Int32) (1 : Int32)) fun M15 => some M15) else some M1 := by
    unfold Mod_drain
    rw [e_b (show Mod_of M (Int32.ofNat c) (3 : Int32) = some (Int32.ofNat st) by rw [show (3 : Int32) = Int32.ofNat 3 from rfl, t_of (by omega) (by omega), hr, e3]), i_sub1 (by omega)]
    rw [e_b (show Mod_put M (Int32.ofNat c) (3 : Int32) _ = some M1 from t1)]
    rw [e_b (show Mod_of M1 (Int32.ofNat c) (3 : Int32) = some (Int32.ofNat (st - 1)) by rw [show (3 : Int32) = Int32.ofNat 3 from rfl, t_of (by omega) (by omega), q1.1, upd_eq])]
  by_cases hz : st = 1
  · have ez : Int32.ofNat (st - 1) = 0 := by rw [hz]; rfl
    rw [if_pos ez] at front tfront
    obtain ⟨h2, e2, w2, l2, o2, j2, R2, L2, A2, I2, V2, m2⟩ := setC w1 (by rw [l1]; exact hcc) (f := 4) (by decide) 3
    obtain ⟨h3, e3', w3, l3, o3, j3, R3, L3, A3, I3, V3, m3⟩ := setC w2 (by rw [l2, l1]; exact hcc) (f := 5) (by decide) 0
    obtain ⟨M2, t2, q2⟩ := t_put (M := M1) (c := c) (f := 2) (v := 3) (by omega) (by omega)
    rw [q1.1] at q2
    obtain ⟨M3, t3, q3⟩ := t_put (M := M2) (c := c) (f := 3) (v := 1) (by omega) (by omega)
    rw [q2.1] at q3
    have ag2 := upd3_hag (v := 3) (j0 := 104 + 66 * c + 2) (by omega) (by omega) ag1
    have ag3 := upd3_hag (v := 1) (j0 := 104 + 66 * c + 3) (by omega) (by omega) ag2
    generalize hrr : upd (upd (upd r (104 + 66 * c + 3) (Int32.ofNat (st - 1))) (104 + 66 * c + 2) 3) (104 + 66 * c + 3) 1 = rr at q3 ag3
    have rcell : ∀ j, j ≠ 104 + 66 * c + 2 → j ≠ 104 + 66 * c + 3 → rr j = r j := fun j y1 y2 => by rw [← hrr, upd_ne y2, upd_ne y1, upd_ne y2]
    have r2 : rr (104 + 66 * c + 2) = Int32.ofNat 3 := by rw [← hrr, upd_ne (by omega), upd_eq]; rfl
    have r3 : rr (104 + 66 * c + 3) = Int32.ofNat 1 := by rw [← hrr, upd_eq]; rfl
    have nr2 : nt rr (104 + 66 * c + 2) = 3 := nt_of r2 (by omega)
    have nr3 : nt rr (104 + 66 * c + 3) = 1 := nt_of r3 (by omega)
    have wcell : ∀ w j, w < 2 → wp c w ≤ j → j < wp c w + 25 → rr j = r j := fun w j hw y1 y2 => by
      have := wp_in hw y1 y2
      exact rcell j (by omega) (by omega)
    have nw : ∀ w, w < 2 → nt rr (wp c w) = nt r (wp c w) := fun w hw => nt_eq (wcell w _ hw (by omega) (by omega))
    have hI' : Inv4 rr := by
      refine hI4.ci hc ag3 (fun w hw => WyI.same hI4 hc hw (fun j hj => ag3 j (by omega)) (fun j y1 y2 => wcell w j hw y1 y2)) ?_ (rcell _ (by omega) (by omega))
      unfold ICc
      rw [nr2, nr3, nw 0 (by omega), nw 1 (by omega)]
      refine ⟨⟨(nm.of r2 (by omega) (by omega)).1, (nm.of r3 (by omega) (by omega)).1⟩, c3, fun z => by omega, fun _ => c5 (by omega), fun z => by omega, fun z => by omega, fun _ => ⟨by omega, by omega⟩, fun w i hw hi0 hi => ?_⟩
      rw [nw w hw] at hi
      have l6 := hI4.len hc hw
      rw [wcell w _ hw (by omega) (by omega)]
      have := c9 w i hw hi0 hi
      constructor
      · intro z; have := (this.mp z).2.1; omega
      · intro z; omega
    have hJ : ∀ f, J h3 12 f (C c) = if f = 5 then 0 else if f = 4 then 3 else if f = 6 then Int32.ofNat (st - 1) else J h 12 f (C c) := fun f => by rw [j3, j2, j1]
    refine ⟨h3, M3, rr, ?_, ?_, ?_, nt_eq (rcell 4 (by omega) (by omega)), (q1.tr q2).tr q3, ((V1.tr hs.1 V2 (fun _ y => Or.inl y)).tr hs.1 V3 (fun _ y => Or.inl y)).weak (fun q hq => by rw [hq]; exact hGc), Co.of (by rw [m3, m2, m1]), fun q => by rw [l3, l2, l1]⟩
    · rw [front, e2, e3']
    · rw [tfront, e_b (show Mod_put M1 (Int32.ofNat c) (2 : Int32) (3 : Int32) = some M2 from t2), e_b (show Mod_put M2 (Int32.ofNat c) (3 : Int32) (1 : Int32) = some M3 from t3)]
    · refine hs.phase hc w3 (fun q => by rw [l3, l2, l1]) (fun ci f q hd => by rw [o3 ci f q hd, o2 ci f q hd, o1 ci f q hd]) (fun ci f q => by rw [R3, R2, R1]) (fun ci f q => by rw [L3, L2, L1]) (fun ci f q i => by rw [A3, A2, A1]) (fun ci f q i _ _ => by rw [I3, I2, I1]) ag3 (fun w f i hw hf hi => ⟨wcell w _ hw (by omega) (by omega), wcell w _ hw (by omega) (by omega)⟩) (fun f hf => ?_) (by rw [nr2, hph]; omega) ?_ ?_ hI'
      · obtain ⟨y1, y2, y3, y4, y5⟩ := hcf f hf
        rw [hJ, if_neg y4]
        by_cases e4 : f = 4
        · rw [if_pos e4, y3.mpr e4, r2]; rfl
        · rw [if_neg e4, if_neg y5, rcell _ (by have : cf f ≠ 2 := fun z => e4 (y3.mp z); omega) (by omega)]
          exact z2 f hf
      · rw [nr2, nr3]
        refine ⟨fun z => by omega, fun z => by omega, fun _ => ?_⟩
        rw [hJ, if_pos rfl]; rfl
      · exact hs.2.1.lab.row hA (rcell 4 (by omega) (by omega)) (fun c w y1 y2 => hI4.len y1 y2) (fun j hj => rcell j (by omega) (by omega)) (fun c' w' j y1 y2 y3 y4 => rcell j (by have := wp_in y2 y3 y4; omega) (by have := wp_in y2 y3 y4; omega)) (fun f q i _ _ => by rw [I3, I2, I1])
  · have ez : ¬ Int32.ofNat (st - 1) = 0 := fun z => by
      have := (i_eq (a := st - 1) (b := 0) (by omega) (by omega)).mp z; omega
    rw [if_neg ez] at front tfront
    generalize hrr : upd r (104 + 66 * c + 3) (Int32.ofNat (st - 1)) = rr at q1 ag1
    have rcell : ∀ j, j ≠ 104 + 66 * c + 3 → rr j = r j := fun j y2 => by rw [← hrr, upd_ne y2]
    have r3 : rr (104 + 66 * c + 3) = Int32.ofNat (st - 1) := by rw [← hrr, upd_eq]
    have nr2 : nt rr (104 + 66 * c + 2) = 2 := (nt_eq (rcell _ (by omega))).trans hph
    have nr3 : nt rr (104 + 66 * c + 3) = st - 1 := nt_of r3 (by omega)
    have wcell : ∀ w j, w < 2 → wp c w ≤ j → j < wp c w + 25 → rr j = r j := fun w j hw y1 y2 => by
      have := wp_in hw y1 y2
      exact rcell j (by omega)
    have nw : ∀ w, w < 2 → nt rr (wp c w) = nt r (wp c w) := fun w hw => nt_eq (wcell w _ hw (by omega) (by omega))
    have hI' : Inv4 rr := by
      refine hI4.ci hc ag1 (fun w hw => WyI.same hI4 hc hw (fun j hj => ag1 j (by omega)) (fun j y1 y2 => wcell w j hw y1 y2)) ?_ (rcell _ (by omega))
      unfold ICc
      rw [nr2, nr3, nw 0 (by omega), nw 1 (by omega)]
      refine ⟨⟨(nm_same (rcell _ (by omega))).mpr c1, (nm.of r3 (by omega) (by omega)).1⟩, c3, fun z => by omega, fun _ => c5 (by omega), fun z => by omega, fun z => by omega, fun z => by omega, fun w i hw hi0 hi => ?_⟩
      rw [nw w hw] at hi
      have l6 := hI4.len hc hw
      rw [wcell w _ hw (by omega) (by omega)]
      have := c9 w i hw hi0 hi
      constructor
      · intro z; have := (this.mp z).2.1; omega
      · intro z; omega
    refine ⟨h1, M1, rr, front, tfront, ?_, nt_eq (rcell 4 (by omega)), q1, V1.weak (fun q hq => by rw [hq]; exact hGc), Co.of (by rw [m1]), fun q => by rw [l1]⟩
    refine hs.phase hc w1 l1 o1 R1 L1 A1 (fun ci f q i _ _ => I1 ci f q i) ag1 (fun w f i hw hf hi => ⟨wcell w _ hw (by omega) (by omega), wcell w _ hw (by omega) (by omega)⟩) (fun f hf => ?_) (by rw [nr2, hph]) ?_ ?_ hI'
    · obtain ⟨y1, y2, y3, y4, y5⟩ := hcf f hf
      rw [j1, if_neg y5, rcell _ (by omega)]
      exact z2 f hf
    · rw [nr2, nr3]
      exact ⟨fun z => by omega, fun _ => by rw [j1, if_pos rfl, r3], fun z => by omega⟩
    · exact hs.2.1.lab.row hA (rcell 4 (by omega)) (fun c w y1 y2 => hI4.len y1 y2) (fun j hj => rcell j (by omega)) (fun c' w' j y1 y2 y3 y4 => rcell j (by have := wp_in y2 y3 y4; omega)) (fun f q i _ _ => I1 _ _ _ _)
end DRAIN
