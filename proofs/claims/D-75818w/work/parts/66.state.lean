/-! LEVEL 2: a net with its invariants; steps; a packet leaves the list -/
def gG (G : Nat → Prop) (h0 : g_AH) (q : Nat) : Prop := G q ∨ g_n h0 ≤ q
def NS (h : g_AH) (G : Nat → Prop) (a : Nat) (r : tR) : Prop := WF h ∧ (∃ N L C K, RN h G a r N L C K (nt r 4)) ∧ Inv4 r
/-- from h0 to h: the net of G at a stands for r then; c cells, s slots -/
def Ev (h0 h : g_AH) (G : Nat → Prop) (a : Nat) (r : tR) (c s : Nat) : Prop := VF h0 h G ∧ NS h (gG G h0) a r ∧ Co h0 h c s
section STATE
variable {h h0 h' : g_AH} {G G' O : Nat → Prop} {a : Nat} {r r' : tR} {N L C K : Nat → Nat} {mC x k p c w n s l i0 : Nat} {M : g_MD}
theorem WayR.mono (hx : WayR h G r x p) (hG : ∀ q, G q → G' q) : WayR h G' r x p := ⟨⟨hx.1.1, hG _ hx.1.2⟩, hx.2⟩
theorem RN.mono (hR : RN h G a r N L C K mC) (hG : ∀ q, G q → G' q) : RN h G' a r N L C K mC := by
  obtain ⟨⟨⟨h1, h2⟩, h3, h4, h8, h9⟩, ⟨k1, k2⟩, m1, m2, ⟨m3, m4⟩, m5, m6⟩ := hR
  refine ⟨⟨⟨h1, hG _ h2⟩, h3, h4, h8, fun i hi => ?_⟩, ⟨fun i x1 x2 => ⟨(k1 i x1 x2).1, hG _ (k1 i x1 x2).2⟩, k2⟩, fun k hk => ⟨⟨(m1 k hk).1.1, hG _ (m1 k hk).1.2⟩, (m1 k hk).2⟩, fun k hk => ⟨⟨(m2 k hk).1.1, hG _ (m2 k hk).1.2⟩, (m2 k hk).2⟩, ⟨fun c hc => ?_, m4⟩, fun p hp => ⟨⟨(m5 p hp).1.1, hG _ (m5 p hp).1.2⟩, (m5 p hp).2⟩, m6⟩
  · obtain ⟨q, x1, x2, x3⟩ := h9 i hi
    exact ⟨q, x1, x2, hG _ x3⟩
  · obtain ⟨⟨x1, x2⟩, x3, ⟨w0, x4, x5⟩, x6, x7⟩ := m3 c hc
    refine ⟨⟨x1, hG _ x2⟩, x3, ⟨w0, x4, x5.mono hG⟩, ?_, x7⟩
    split
    · rename_i e; rw [if_pos e] at x6; exact x6
    · rename_i e; rw [if_neg e] at x6
      obtain ⟨w1, y1, y2⟩ := x6
      exact ⟨w1, y1, y2.mono hG⟩
theorem NS.mono (hS : NS h G a r) (hG : ∀ q, G q → G' q) : NS h G' a r := by
  obtain ⟨h1, ⟨N, L, C, K, h2⟩, h3⟩ := hS
  exact ⟨h1, ⟨N, L, C, K, h2.mono hG⟩, h3⟩
theorem Ev.of (hV : VF h h' G) (hS : NS h' G a r) (hC : Co h h' c s) : Ev h h' G a r c s := ⟨hV, hS.mono (fun _ q => Or.inl q), hC⟩
theorem Ev.rf (hS : NS h G a r) : Ev h h G a r 0 0 := Ev.of VF.rf hS Co.rf
theorem Ev.tr {c' s' : Nat} (hW0 : WF h0) (x : Ev h0 h G a r c s) (y : Ev h h' (gG G h0) a r' c' s') : Ev h0 h' G a r' (c + c') (s + s') := by
  obtain ⟨x1, x2, x3⟩ := x
  obtain ⟨y1, y2, y3⟩ := y
  have hle := x1.1
  refine ⟨x1.tr hW0 y1 (fun q hq => hq), y2.mono (fun q hq => ?_), x3.tr y3⟩
  rcases hq with q1 | q1
  · exact q1
  · exact Or.inr (Nat.le_trans hle q1)
theorem Ev.le {c' s' : Nat} (x : Ev h h' G a r c s) (hc : c ≤ c') (hs : s ≤ s') : Ev h h' G a r c' s' := ⟨x.1, x.2.1, x.2.2.le hc hs⟩
/-- one list of the net's has changed: what stays -/
theorem R6.lkeep (hR : R6 h G a r N L C K mC) (h1 : 1 ≤ i0) (h4 : i0 ≤ 4) (hV : VF h h' (fun q => q = lA h a i0)) : RNa h' G a r ∧ (∀ i, lA h' a i = lA h a i) ∧ (∀ i, 1 ≤ i → i ≤ 4 → Rf h' 1 i a = some (lA h a i) ∧ G (lA h a i)) ∧ (∀ i n X, 1 ≤ i → i ≤ 4 → i ≠ i0 → Lst h (lA h a i) n X → Lst h' (lA h a i) n X) ∧
    (∀ k, k < nt r 2 → NodeR h' G r (N k) k) ∧ (∀ k, k < nt r 3 → LinkR h' G r (L k) k) ∧ ((∀ c, c < mC → CircR h' G r (C c) c) ∧ WapR h' C mC) ∧ (∀ p, p < nt r 6 → PktR h' G r (K p) p) ∧ (∀ k f, k < nt r 2 → 1 ≤ f → f ≤ 4 → Ar h' 10 f (N k) = Ar h 10 f (N k)) := by
  obtain ⟨p1, p2, p3, p4, ⟨p5, p7⟩, p6⟩ := hR
  have hcl : cl h (lA h a i0) = some 15 := by
    rcases (show i0 = 1 ∨ i0 = 2 ∨ i0 = 3 ∨ i0 = 4 by omega) with rfl | rfl | rfl | rfl
    · exact p2.2.2.1.1.1
    · exact p2.2.2.1.2.1.1
    · exact p2.2.2.1.2.2.1.1
    · exact p2.2.2.1.2.2.2.1
  have hO : ∀ q k, G q → cl h q = some k → k ≠ 15 → ¬ (fun q => q = lA h a i0) q := fun q k _ e hk e2 => by
    rw [e2, hcl] at e; cases e; exact hk rfl
  have ha := hO a 1 p1.1.2 p1.1.1 (by decide)
  have hn := cl_ne p1.1.1
  have e : ∀ i, lA h' a i = lA h a i := fun i => by unfold lA; rw [hV.kRf ha hn]
  refine ⟨p1.keep hV hO, e, fun i x1 x2 => ⟨by rw [hV.kRf ha hn]; exact (p2.1 i x1 x2).1, (p2.1 i x1 x2).2⟩, fun i n X x1 x2 x3 x4 => x4.keep hV (fun q => x3 (p2.2.1 i i0 x1 x2 h1 h4 q)), fun k hk => (p3 k hk).keep hV hO, fun k hk => (p4 k hk).keep hV hO, ⟨fun c hc => (p5 c hc).keep hV hO, fun c c' w w' q x1 x2 x3 x4 x5 x6 => ?_⟩, fun p hp => (p6 p hp).keep hV hO, fun k f hk x1 x2 => ?_⟩
  · have g1 := (p5 c x1).1
    have g2 := (p5 c' x2).1
    rw [hV.kRf (hO _ _ g1.2 g1.1 (by decide)) (cl_ne g1.1)] at x5
    rw [hV.kRf (hO _ _ g2.2 g2.1 (by decide)) (cl_ne g2.1)] at x6
    exact p7 c c' w w' q x1 x2 x3 x4 x5 x6
  · have g1 := (p3 k hk).1
    exact hV.kAr (hO _ _ g1.2 g1.1 (by decide)) (cl_ne g1.1) (by rw [kd10 x1 x2]; split <;> omega)
theorem LabR.same (hL : LabR h r N) (eI : ∀ k f, k < nt r 2 → 1 ≤ f → f ≤ 4 → Ar h' 10 f (N k) = Ar h 10 f (N k)) : LabR h' r N := by
  refine ⟨fun c w i s l x1 x2 x3 => ?_, fun s l x1 x2 => ?_⟩
  · rw [eI s 1 x2 (by omega) (by omega), eI s 2 x2 (by omega) (by omega), eI s 3 x2 (by omega) (by omega), eI s 4 x2 (by omega) (by omega)]
    exact hL.1 c w i s l x1 x2 x3
  · rw [eI s 1 x1 (by omega) (by omega)]
    exact hL.2 s l x1 x2
/-! a packet leaves -/
def rrem (r : tR) (p : Nat) : tR := fun j => if j = 6 then Int32.ofNat (nt r 6 - 1) else if 632 + 8 * p ≤ j ∧ j < 632 + 8 * (nt r 6 - 1) then r (j + 8) else r j
theorem rrem_lo {j : Nat} (h1 : j < 632) (h6 : j ≠ 6) : rrem r p j = r j := by unfold rrem; rw [if_neg h6, if_neg (by omega)]
theorem rrem_pk {q f : Nat} (hq : q < nt r 6 - 1) (hf : f < 8) : rrem r p (632 + 8 * q + f) = if q < p then r (632 + 8 * q + f) else r (632 + 8 * (q + 1) + f) := by
  unfold rrem
  rw [if_neg (by omega)]
  by_cases e : q < p
  · rw [if_neg (by omega), if_pos e]
  · rw [if_pos (by omega), if_neg e]
    congr 1
    omega
theorem rrem_n6 (h6 : nt r 6 < 61) : nt (rrem r p) 6 = nt r 6 - 1 := nt_of (by unfold rrem; rw [if_pos rfl]) (by omega)
theorem Inv4.rem (hI : Inv4 r) (hp : p < nt r 6) : Inv4 (rrem r p) := by
  obtain ⟨hA, hW, hC, hP, hB⟩ := hI
  have g6 := nm6 hA
  have g4 := nm4 hA
  have g2 := nm2 hA
  have lo : ∀ j, j < 632 → j ≠ 6 → rrem r p j = r j := fun j h1 h2 => rrem_lo h1 h2
  have n6 := rrem_n6 (r := r) (p := p) g6
  have n4 := nt_eq (lo 4 (by omega) (by omega)); have n2 := nt_eq (lo 2 (by omega) (by omega))
  refine ⟨hA.row (fun j hj => lo j (by omega) (by omega)) ((nm_same (lo 4 (by omega) (by omega))).mpr hA.1.2.2.1) (nm.of (n := nt r 6 - 1) (by unfold rrem; rw [if_pos rfl]) (by omega) (by omega)).1, fun c w hc hw => ?_, fun c hc => ?_, fun q hq => ?_, fun c hc => by rw [n4] at hc; exact (nm_same (lo (104 + 66 * c + 5) (by omega) (by omega))).mpr (hB c hc)⟩
  · rw [n4] at hc
    exact (hW c w hc hw).row hA (fun j hj => lo j (by omega) (by omega)) (fun j h1 h2 => lo j (by unfold wp at *; omega) (by unfold wp at *; omega))
  · rw [n4] at hc
    have e2 := lo (104 + 66 * c + 2) (by omega) (by omega)
    have e3 := lo (104 + 66 * c + 3) (by omega) (by omega)
    have e0 := lo (wp c 0) (by unfold wp; omega) (by unfold wp; omega)
    have e1 := lo (wp c 1) (by unfold wp; omega) (by unfold wp; omega)
    obtain ⟨⟨c1, c2⟩, c3, c4, c5, c6, c7, c8, c9⟩ := hC c hc
    unfold ICc
    rw [nt_eq e2, nt_eq e3, nt_eq e0, nt_eq e1]
    refine ⟨⟨(nm_same e2).mpr c1, (nm_same e3).mpr c2⟩, c3, c4, c5, c6, c7, c8, fun w i hw hi0 hi => ?_⟩
    have hwl := (hW c w hc hw).1.2
    rw [nt_eq (lo (wp c w) (by unfold wp; omega) (by unfold wp; omega))] at hi
    rw [lo _ (by unfold wp; omega) (by unfold wp; omega)]
    exact c9 w i hw hi0 hi
  · rw [n6] at hq
    have hh : ∀ f, f < 8 → rrem r p (632 + 8 * q + f) = r (632 + 8 * (if q < p then q else q + 1) + f) := fun f hf => by
      rw [rrem_pk hq hf]; split <;> rfl
    have hq' : (if q < p then q else q + 1) < nt r 6 := by split <;> omega
    obtain ⟨p1, p2, p3, p4⟩ := hP _ hq'
    have e0 : rrem r p (632 + 8 * q) = r (632 + 8 * (if q < p then q else q + 1)) := hh 0 (by omega)
    have e4 := hh 4 (by omega)
    have e5 := hh 5 (by omega)
    have hp2 := p2.2
    rw [n4, n2, nt_eq e4, nt_eq (lo (14 + nt r (632 + 8 * (if q < p then q else q + 1) + 4)) (by omega) (by omega))]
    unfold nm at *
    rw [nt_eq e0, e0, nt_eq e4, e4, nt_eq e5, e5]
    exact ⟨p1, p2, p3, by rw [hh 3 (by omega)]; exact p4⟩
theorem c_rem (hW : WF h) (hR : RN h G a r N L C K mC) (hI : Inv4 r) (hm : mC ≤ nt r 4) (hp : p < nt r 6) : ∃ h', ArrayList_remove h (lA h a 4) (Int32.ofNat p) = some (some (K p), h') ∧ WF h' ∧ RN h' G a (rrem r p) N L C (fun j => if j < p then K j else K (j + 1)) mC ∧ VF h h' G ∧ Co h h' 0 0 ∧ (∀ q, cl h' q = cl h q) := by
  have hA := hI.1
  have g6 := nm6 hA
  have g4 := nm4 hA
  have g2 := nm2 hA
  have g3 := nm3 hA
  obtain ⟨ha, hl, hN, hL, hC, hK⟩ := hR.lst
  obtain ⟨h', e1, e2, e3, e4, e5, e6⟩ := ls_remove hW hK hp (fun k hk => ⟨14, (hR.2.2.2.2.2.1 k hk).1.1, by decide⟩)
  have hGl := (hR.2.1.1 4 (by omega) (by omega)).2
  refine ⟨h', e1, e2, ?_, e4.weak (fun q hq => by rw [hq]; exact hGl), e5, e6⟩
  obtain ⟨k1, k2, k3, k4, k5, k6, ⟨k7, k8⟩, k9, k10⟩ := hR.six.lkeep (i0 := 4) (by omega) (by omega) e4
  obtain ⟨j1, j2, j3, j4⟩ := hR.2.1.2.2.2
  have lo : ∀ j, j < 632 → j ≠ 6 → rrem r p j = r j := fun j h1 h2 => rrem_lo h1 h2
  have n6 := rrem_n6 (r := r) (p := p) g6
  have n2 := nt_eq (lo 2 (by omega) (by omega)); have n3 := nt_eq (lo 3 (by omega) (by omega))
  have hlab : LabR h' (rrem r p) N := LabR.row (r' := rrem r p) (hR.lab.same k10) hA (lo 4 (by omega) (by omega)) (fun c w hc hw => hI.len hc hw) (fun j hj => lo j (by omega) (by omega)) (fun c w j hc hw h1 h2 => lo j (by unfold wp at *; omega) (by unfold wp at *; omega)) (fun _ _ _ _ _ => rfl)
  refine ⟨k1.heap (fun q k e => e) (fun _ => rfl) (fun _ => rfl) (fun _ _ => rfl) (fun _ => rfl) (fun j hj => lo j (by omega) (by omega)), ⟨fun i x1 x2 => by rw [k2]; exact k3 i x1 x2, fun i j x1 x2 x3 x4 => by rw [k2, k2]; exact hR.2.1.2.1 i j x1 x2 x3 x4, ?_, ?_⟩, fun k hk => ?_, fun k hk => ?_, ⟨fun c hc => ?_, k8⟩, fun q hq => ?_, hlab⟩
  · rw [n2, n3, n6, k2, k2, k2, k2]
    exact ⟨k4 1 _ _ (by omega) (by omega) (by omega) hN, k4 2 _ _ (by omega) (by omega) (by omega) hL, k4 3 _ _ (by omega) (by omega) (by omega) hC, e3⟩
  · rw [n2, n3, n6]
    refine ⟨j1, j2, j3, fun i j hi hj e => ?_⟩
    by_cases a1 : i < p <;> by_cases a2 : j < p
    · simp only [if_pos a1, if_pos a2] at e; exact j4 i j (by omega) (by omega) e
    · simp only [if_pos a1, if_neg a2] at e; have := j4 i (j + 1) (by omega) (by omega) e; omega
    · simp only [if_neg a1, if_pos a2] at e; have := j4 (i + 1) j (by omega) (by omega) e; omega
    · simp only [if_neg a1, if_neg a2] at e; have := j4 (i + 1) (j + 1) (by omega) (by omega) e; omega
  · rw [n2] at hk
    exact (k5 k hk).heap (fun q k e => e) (fun _ _ => rfl) (fun _ _ => rfl) (lo _ (by omega) (by omega))
  · rw [n3] at hk
    exact (k6 k hk).heap (fun q k e => e) (fun _ _ => rfl) (fun f _ => lo _ (by omega) (by omega))
  · exact (k7 c hc).heap (fun q k e => e) (fun _ => rfl) (fun _ => rfl) (fun _ _ => rfl) (fun _ _ => rfl) (fun _ _ _ _ _ _ _ => rfl) (fun f hf => lo _ (by omega) (by omega)) (fun w hw => hI.len (by omega) hw)
  · rw [n6] at hq
    have hh : ∀ f, f < 8 → rrem r p (632 + 8 * q + f) = r (632 + 8 * (if q < p then q else q + 1) + f) := fun f hf => by
      rw [rrem_pk hq hf]; split <;> rfl
    have hq' : (if q < p then q else q + 1) < nt r 6 := by split <;> omega
    obtain ⟨x1, x3, x4, x5, x6⟩ := k9 _ hq'
    have eK : (if q < p then K q else K (q + 1)) = K (if q < p then q else q + 1) := by split <;> rfl
    show PktR h' G (rrem r p) (if q < p then K q else K (q + 1)) q
    rw [eK]
    have e0 : rrem r p (632 + 8 * q) = r (632 + 8 * (if q < p then q else q + 1)) := hh 0 (by omega)
    exact ⟨x1, by rw [e0]; exact x3, by rw [hh 1 (by omega)]; exact x4, by rw [hh 7 (by omega)]; exact x5, fun f y1 y2 => by rw [hh _ (by omega)]; exact x6 f y1 y2⟩
theorem t_removePacket (hA : InvA (M.1 0)) (hp : p < nt (M.1 0) 6) : ∃ M', Mod_removePacket M (Int32.ofNat p) = some M' ∧ Mr M M' (rrem (M.1 0) p) := by
  have g6 := nm6 hA
  have loop : ∀ m j (M1 : g_MD), Mr M M1 (fun i => if i = 6 then Int32.ofNat (nt (M.1 0) 6 - 1) else if 632 + 8 * p ≤ i ∧ i < j then M.1 0 (i + 8) else M.1 0 i) → 632 + 8 * p ≤ j → j ≤ 632 + 8 * (nt (M.1 0) 6 - 1) → 632 + 8 * (nt (M.1 0) 6 - 1) - j < m → ∃ M', Mod_removePacket_20 m M1 (Int32.ofNat j) = some M' ∧ Mr M M' (rrem (M.1 0) p) := by
    intro m
    induction m with
    | zero => intro j _ _ _ _ h; omega
    | succ m ih =>
      intro j M1 hM h1 h2 hm
      have e6 : M1.1 0 6 = Int32.ofNat (nt (M.1 0) 6 - 1) := by rw [hM.1]; exact if_pos rfl
      rw [Mod_removePacket_20, e_r' (i := 6) (j := (6 : Int32)) rfl (by decide), e6]
      rw [show (632 : Int32) + (8 : Int32) * Int32.ofNat (nt (M.1 0) 6 - 1) = Int32.ofNat (632 + 8 * (nt (M.1 0) 6 - 1)) by show Int32.ofNat 632 + Int32.ofNat 8 * _ = _; rw [i_mul, i_add]]
      by_cases hc : 632 + 8 * (nt (M.1 0) 6 - 1) ≤ j
      · rw [if_pos ((i_le (by omega) (by omega)).mpr hc)]
        refine ⟨M1, rfl, hM.eq ?_⟩
        funext i
        unfold rrem
        rw [show j = 632 + 8 * (nt (M.1 0) 6 - 1) by omega]
      · rw [if_neg (fun q => hc ((i_le (by omega) (by omega)).mp q))]
        rw [e_r' (i := j + 8) (by show Int32.ofNat j + Int32.ofNat 8 = _; rw [i_add]) (by omega), e_w (by omega)]
        rw [show Int32.ofNat j + (1 : Int32) = Int32.ofNat (j + 1) from i_add]
        refine ih (j + 1) _ ((hM.tr Mr.w).eq ?_) (by omega) (by omega) (by omega)
        rw [hM.1]
        funext i
        unfold upd
        dsimp only
        by_cases ei : i = j
        · subst ei
          rw [if_pos rfl, if_neg (show ¬ i + 8 = 6 by omega), if_neg (show ¬ (632 + 8 * p ≤ i + 8 ∧ i + 8 < i) by omega), if_neg (show ¬ i = 6 by omega), if_pos (by omega)]
        · rw [if_neg ei]
          by_cases e6' : i = 6
          · rw [if_pos e6', if_pos e6']
          · rw [if_neg e6', if_neg e6']
            by_cases c1 : 632 + 8 * p ≤ i ∧ i < j
            · rw [if_pos c1, if_pos (by omega)]
            · rw [if_neg c1, if_neg (by omega)]
  unfold Mod_removePacket
  rw [e_r' (i := 6) (j := (6 : Int32)) rfl (by decide), hA.1.2.2.2.1, i_sub1 (by omega), e_w' (i := 6) (j := (6 : Int32)) rfl (by decide)]
  rw [show (632 : Int32) + (8 : Int32) * Int32.ofNat p = Int32.ofNat (632 + 8 * p) by show Int32.ofNat 632 + Int32.ofNat 8 * _ = _; rw [i_mul, i_add]]
  refine loop gFU (632 + 8 * p) _ ((Mr.w).eq ?_) (by omega) (by omega) (by unfold gFU; omega)
  funext i
  unfold upd
  by_cases e : i = 6
  · rw [if_pos e, if_pos e]
  · rw [if_neg e, if_neg e, if_neg (by omega)]
end STATE
