/-! LEVEL 2: Net.goesOn -/
/-- nothing but packets' numbers has changed -/
def Sm (h h' : g_AH) : Prop := (∀ q, cl h' q = cl h q) ∧ (∀ ci f q, ci ≠ 14 → J h' ci f q = J h ci f q) ∧ (∀ ci f q, Rf h' ci f q = Rf h ci f q) ∧ (∀ ci f q, AL h' ci f q = AL h ci f q) ∧ (∀ ci f q i, RA h' ci f q i = RA h ci f q i) ∧ ∀ ci f q i, Ar h' ci f q i = Ar h ci f q i
theorem Sm.tr {h h1 h2 : g_AH} (x : Sm h h1) (y : Sm h1 h2) : Sm h h2 := ⟨fun q => (y.1 q).trans (x.1 q), fun ci f q e => (y.2.1 ci f q e).trans (x.2.1 ci f q e), fun ci f q => (y.2.2.1 ci f q).trans (x.2.2.1 ci f q), fun ci f q => (y.2.2.2.1 ci f q).trans (x.2.2.2.1 ci f q), fun ci f q i => (y.2.2.2.2.1 ci f q i).trans (x.2.2.2.2.1 ci f q i), fun ci f q i => (y.2.2.2.2.2 ci f q i).trans (x.2.2.2.2.2 ci f q i)⟩
section GOESON
variable {h h0 h' : g_AH} {G G' O : Nat → Prop} {a : Nat} {r r' : tR} {N L C K : Nat → Nat} {mC x k p c w n s l i0 i q W cp : Nat} {M : g_MD}
theorem stepX (hW : WF h) (hx : cl h x = some 14) {f : Nat} (hf : f < 8) (v : Int32) : ∃ h', (∀ {α : Type} (k : g_AH → Option α), g_pF h x 14 f (.int v) k = k h') ∧ WF h' ∧ Sm h h' ∧ (∀ f', J h' 14 f' x = if f' = f then v else J h 14 f' x) ∧ (∀ f' q, q ≠ x → J h' 14 f' q = J h 14 f' q) ∧ VF h h' (fun q => q = x) ∧ h'.2 = h.2 := by
  have hk : kd 14 f = 1 := kd14 hf
  refine ⟨wJ h 14 f x v, fun k => v_pJ hW hx hk, hW.pJ hk, ⟨fun q => cl_wJ, fun ci f' q e => J_wJn (by simp [e]), fun ci f' q => Rf_wJ hk hW, fun ci f' q => AL_wJ hk hW, fun ci f' q i => RA_wJ hk hW, fun ci f' q i => Ar_wJ hk hW⟩, fun f' => ?_, fun f' q e => J_wJa e, VF.pJ hW rfl, wV_meta⟩
  by_cases e : f' = f
  · subst e; rw [J_wJ hW hx hk, if_pos rfl, if_pos rfl]
  · rw [J_wJn (by simp [e]), if_neg e]
theorem Sm.way (y : Sm h h') (hx : WayR h G r x p) : WayR h' G r x p := hx.heap' (fun q k e => by rw [y.1]; exact e) (fun f q => y.2.1 _ _ _ (by decide)) (fun f q => y.2.2.2.1 _ _ _) (fun f i _ => y.2.2.2.2.2 _ _ _ _)
theorem Sm.lst {la : Nat} {X : Nat → Nat} (y : Sm h h') (hx : Lst h la n X) : Lst h' la n X := hx.heap' (fun q k e => by rw [y.1]; exact e) (fun f q => y.2.1 _ _ _ (by decide)) (fun f q => y.2.2.2.1 _ _ _) (fun f q i => y.2.2.2.2.1 _ _ _ _)
theorem way_f (hW : WF h) {α : Type} {K1 : Nat → Int32 → Option α} {f : Nat} (hx : WayR h G r W q) (hf : f < 3) (hi : i < nt r q) (h6 : i < 6) : (g_gR h W 6 f fun y => g_nn y fun z => g_aI h 0 z (Int32.ofNat i) fun u => K1 z u) = K1 ((Rf h 6 f W).getD 0) (r (q + 1 + 6 * f + i)) := by
  obtain ⟨⟨h1, -⟩, h3, h4, h5⟩ := hx
  obtain ⟨z, hz⟩ := AL_ref (h4 f hf) (by omega)
  have hk : (2 ≤ kd 6 f && kd 6 f ≤ 8) = true ∧ (3 ≤ kd 6 f && kd 6 f ≤ 5) = true ∧ kd 6 f - 3 = 0 := by rw [kd6 hf]; decide
  rw [v_gR hW h1 hk.1, hz, e_nn, v_aI (t := 0) hW hz hk.2.1 hk.2.2 (by rw [h4 f hf]; exact i_in h6 (by omega)), i_cl (by omega), h5 f i hf hi]
  rfl
theorem net_get (hW : WF h) {α : Type} {K1 : Option Nat → Option α} {j : Nat} {X : Nat → Nat} {ix : Int32} (ha : cl h a = some 1) (hi0 : 1 ≤ i0) (h4 : i0 ≤ 4) (hl : Rf h 1 i0 a = some (lA h a i0)) (hL : Lst h (lA h a i0) n X) (e : ix = Int32.ofNat j) (hj : j < n) : (g_gR h a 1 i0 fun y => g_nn y fun z => g_is h z 15 <| g_b (ArrayList_get h z ix) K1) = K1 (some (X j)) := by
  have hk : (2 ≤ kd 1 i0 && kd 1 i0 ≤ 8) = true := by
    rcases (show i0 = 1 ∨ i0 = 2 ∨ i0 = 3 ∨ i0 = 4 by omega) with rfl | rfl | rfl | rfl <;> rfl
  rw [v_gR hW ha hk, hl, e_nn, v_is hL.1, e, e_b (ls_get hW hL hj)]
theorem c_goesOn (hs : RS h G a r N L C K) (hx : cl h x = some 14) (hG : G x) (hp : p < 60) (hfr : ∀ q, q < nt r 6 → q ≠ p → K q ≠ x) (hin : p < nt r 6 → K p = x) (hc : c < nt r 4) (hw : w < 2) (hWay : WayR h G r W (wp c w)) (hi0 : 0 < i) (hi : i < nt r (wp c w)) (hheld : r (wp c w + 7 + i) ≠ -1) (hcp : J h 14 0 x = Int32.ofNat cp) (hcp4 : cp < nt r 4) :
    lk r (r (wp c w + 1 + (i - 1))) (r (wp c w + 1 + i)) < nt r 3 ∧ ∃ h', Net_goesOn h a (some x) (some W) (Int32.ofNat i) = some (b32 (decide (r (24 + 5 * lk r (r (wp c w + 1 + (i - 1))) (r (wp c w + 1 + i)) + 4) = 1)), h') ∧
      RS h' G a (if r (24 + 5 * lk r (r (wp c w + 1 + (i - 1))) (r (wp c w + 1 + i)) + 4) = 1 then rgo r p (wp c w) i else rlo (rgo r p (wp c w) i) cp) N L C K ∧ VF h h' G ∧ h'.2 = h.2 ∧ (∀ q, cl h' q = cl h q) ∧
      (r (24 + 5 * lk r (r (wp c w + 1 + (i - 1))) (r (wp c w + 1 + i)) + 4) = 1 → (∀ f, f < 3 → J h' 14 f x = J h 14 f x) ∧ ∀ f, 3 ≤ f → f ≤ 7 → J h' 14 f x = rgo r p (wp c w) i (632 + 8 * p + (f - 1))) := by
  have hA := hs.2.2.1
  have hI := hs.2.2.2.1 c w hc hw
  have g4 := nm4 hA
  have g3 := nm3 hA
  have g6 := nm6 hA
  have h16 := hI.1.2
  have hwp : 104 ≤ wp c w ∧ wp c w + 25 ≤ 632 := by unfold wp; omega
  obtain ⟨ha, hl, hN, hLs, hCs, hKs⟩ := hs.2.1.lst
  have hlt : lk r (r (wp c w + 1 + (i - 1))) (r (wp c w + 1 + i)) < nt r 3 := by
    have := hI.2.2.2.1 (i - 1) (by omega)
    rw [show i - 1 + 1 = i by omega] at this
    exact this
  obtain ⟨ps, pl1, pl2⟩ := Pos.rng hs.2.2.2.1 hA hc hw hi0 hi hheld
  refine ⟨hlt, ?_⟩
  have hwy := hWay.wyn hI.1
  have hxa : x ≠ a := fun e => by rw [e, ha] at hx; cases hx
  generalize hkk : lk r (r (wp c w + 1 + (i - 1))) (r (wp c w + 1 + i)) = kk at hlt
  obtain ⟨h1, e1, w1, sm1, j1, o1, V1, m1⟩ := stepX hs.1 hx (f := 3) (by omega) (Int32.ofNat kk)
  obtain ⟨h2, e2, w2, sm2, j2, o2, V2, m2⟩ := stepX w1 (by rw [sm1.1]; exact hx) (f := 4) (by omega) (r (wp c w + 1 + i))
  have sm12 := sm1.tr sm2
  obtain ⟨h3, e3, w3, sm3, j3, o3, V3, m3⟩ := stepX w2 (by rw [sm12.1]; exact hx) (f := 5) (by omega) (r (wp c w + 7 + i))
  have sm13 := sm12.tr sm3
  obtain ⟨h4, e4, w4, sm4, j4, o4, V4, m4⟩ := stepX w3 (by rw [sm13.1]; exact hx) (f := 6) (by omega) (r (wp c w + 13 + i))
  have sm14 := sm13.tr sm4
  obtain ⟨h5, e5, w5, sm5, j5, o5, V5, m5⟩ := stepX w4 (by rw [sm14.1]; exact hx) (f := 7) (by omega) (r (24 + 5 * kk + 3))
  have sm15 := sm14.tr sm5
  have hV : VF h h5 (fun q => q = x) := (((V1.tr hs.1 V2 (fun _ z => Or.inl z)).tr hs.1 V3 (fun _ z => Or.inl z)).tr hs.1 V4 (fun _ z => Or.inl z)).tr hs.1 V5 (fun _ z => Or.inl z)
  have hm : h5.2 = h.2 := m5.trans (m4.trans (m3.trans (m2.trans m1)))
  have jv : ∀ f, J h5 14 f x = if f = 7 then r (24 + 5 * kk + 3) else if f = 6 then r (wp c w + 13 + i) else if f = 5 then r (wp c w + 7 + i) else if f = 4 then r (wp c w + 1 + i) else if f = 3 then Int32.ofNat kk else J h 14 f x := fun f => by
    rw [j5, j4, j3, j2, j1]
  have jo : ∀ f q, q ≠ x → J h5 14 f q = J h 14 f q := fun f q hq => by rw [o5 f q hq, o4 f q hq, o3 f q hq, o2 f q hq, o1 f q hq]
  have hrow : ∀ j, j < 632 + 8 * p ∨ 632 + 8 * p + 8 ≤ j → rgo r p (wp c w) i j = r j := fun j hj => by
    unfold rgo
    rw [upd_ne (by omega), upd_ne (by omega), upd_ne (by omega), upd_ne (by omega), upd_ne (by omega)]
  have hcell : ∀ f, f < 8 → rgo r p (wp c w) i (632 + 8 * p + f) = if f = 6 then r (24 + 5 * kk + 3) else if f = 5 then r (wp c w + 13 + i) else if f = 4 then r (wp c w + 7 + i) else if f = 3 then r (wp c w + 1 + i) else if f = 2 then Int32.ofNat kk else r (632 + 8 * p + f) := fun f hf => by
    unfold rgo upd
    rw [hkk]
    by_cases a6 : f = 6
    · rw [if_pos (by omega), if_pos a6]
    · rw [if_neg (show ¬ 632 + 8 * p + f = 632 + 8 * p + 6 by omega), if_neg a6]
      by_cases a5 : f = 5
      · rw [if_pos (by omega), if_pos a5]
      · rw [if_neg (show ¬ 632 + 8 * p + f = 632 + 8 * p + 5 by omega), if_neg a5]
        by_cases a4 : f = 4
        · rw [if_pos (by omega), if_pos a4]
        · rw [if_neg (show ¬ 632 + 8 * p + f = 632 + 8 * p + 4 by omega), if_neg a4]
          by_cases a3 : f = 3
          · rw [if_pos (by omega), if_pos a3]
          · rw [if_neg (show ¬ 632 + 8 * p + f = 632 + 8 * p + 3 by omega), if_neg a3]
            by_cases a2 : f = 2
            · rw [if_pos (by omega), if_pos a2]
            · rw [if_neg (by omega), if_neg a2]
  have hc3 : ∀ f, 3 ≤ f → f ≤ 7 → J h5 14 f x = rgo r p (wp c w) i (632 + 8 * p + (f - 1)) := fun f y1 y2 => by
    rw [jv, hcell _ (by omega)]
    rcases (show f = 3 ∨ f = 4 ∨ f = 5 ∨ f = 6 ∨ f = 7 by omega) with rfl | rfl | rfl | rfl | rfl <;> rfl
  have hc0 : ∀ f, f < 3 → J h5 14 f x = J h 14 f x := fun f y1 => by
    rw [jv, if_neg (by omega), if_neg (by omega), if_neg (by omega), if_neg (by omega), if_neg (by omega)]
  have n4 : nt (rgo r p (wp c w) i) 4 = nt r 4 := nt_eq (hrow 4 (by omega))
  have hP : p < nt r 6 → PktR h5 G (rgo r p (wp c w) i) (K p) p := fun hp6 => by
    obtain ⟨⟨x1, x2⟩, x3, x4, x5, x6⟩ := hs.2.1.2.2.2.2.2.1 p hp6
    have ek := hin hp6
    rw [ek] at x1 x2 x3 x4 x5 ⊢
    refine ⟨⟨by rw [sm15.1]; exact x1, x2⟩, ?_, ?_, ?_, hc3⟩
    · rw [hc0 0 (by omega), x3]; exact (hcell 0 (by omega)).symm
    · rw [hc0 1 (by omega), x4]; exact (hcell 1 (by omega)).symm
    · rw [hc0 2 (by omega), x5]; exact (hcell 7 (by omega)).symm
  have hs5 : RS h5 G a (rgo r p (wp c w) i) N L C K := by
    refine ⟨w5, ?_, hs.2.2.pk hrow (fun hp6 => ?_)⟩
    · rw [n4]
      refine (hs.2.1.six.pktx hA (by omega) (fun q hq hne => hfr q hq hne) (fun c w y1 y2 => hs.2.2.len y1 y2) (fun q k e => by rw [sm15.1]; exact e) (fun ci f q hd => ?_) sm15.2.2.1 sm15.2.2.2.1 sm15.2.2.2.2.1 sm15.2.2.2.2.2 hrow hP).rn ?_
      · by_cases e : ci = 14
        · subst e; exact jo f q (fun z => hd ⟨rfl, z⟩)
        · exact sm15.2.1 ci f q e
      · exact hs.2.1.lab.row hA (hrow 4 (by omega)) (fun c w y1 y2 => hs.2.2.len y1 y2) (fun j hj => hrow j (by omega)) (fun c w j y1 y2 y3 y4 => hrow j (by unfold wp at *; omega)) (fun f q i _ _ => sm15.2.2.2.2.2 _ _ _ _)
    · have e4 : rgo r p (wp c w) i (632 + 8 * p + 4) = r (wp c w + 7 + i) := hcell 4 (by omega)
      have e5 : rgo r p (wp c w) i (632 + 8 * p + 5) = r (wp c w + 13 + i) := hcell 5 (by omega)
      have e0 : rgo r p (wp c w) i (632 + 8 * p) = r (632 + 8 * p) := hcell 0 (by omega)
      have q7 := ps.2.2.2.2.1
      have q13 := ps.2.2.2.2.2
      have z4 := nm.of (e4.trans q7) pl1 (by have := nm2 hA; omega)
      have z5 := nm.of (e5.trans q13) pl2 (by have := (nm_sp hA pl1).2; omega)
      refine ⟨?_, z4.1, ?_, ?_⟩
      · unfold nm; rw [nt_eq e0, e0]; exact (hs.2.2.2.2.2.1 p hp6).1
      · rw [z4.2]; exact z5.1
      · have e3 : rgo r p (wp c w) i (632 + 8 * p + 3) = r (wp c w + 1 + i) := hcell 3 (by omega)
        have := hI.2.1 i hi
        rw [e3, this.1]
        exact m1_ne (by have := this.2; have := nm2 hA; omega)
  have hlk5 := hs5.2.1.2.2.2.1 kk (by rw [nt_eq (hrow 3 (by omega))]; exact hlt)
  obtain ⟨ha5, hl5, -, hLs5, hCs5, -⟩ := hs5.2.1.lst
  have n3 : nt (rgo r p (wp c w) i) 3 = nt r 3 := nt_eq (hrow 3 (by omega))
  have up5 : J h5 11 4 (L kk) = r (24 + 5 * kk + 4) := by rw [hlk5.2 4 (by omega), hrow _ (by omega)]
  have up01 := up01 (hA.2.2.2.1 kk hlt).2.2.2.2
  -- the last question, from any heap behind
  have last : ∀ (hh : g_AH) (rr : tR), RS hh G a rr N L C K → nt rr 3 = nt r 3 → rr (24 + 5 * kk + 4) = r (24 + 5 * kk + 4) → Net_goesOn_111 hh a (Int32.ofNat kk) = some (b32 (decide (r (24 + 5 * kk + 4) = 1)), hh) := by
    intro hh rr hsr hn3 hup
    obtain ⟨ya, yl, -, yL, -, -⟩ := hsr.2.1.lst
    have hlk := hsr.2.1.2.2.2.1 kk (by rw [hn3]; exact hlt)
    unfold Net_goesOn_111
    rw [net_get hsr.1 ya (by omega) (by omega) (yl 2 (by omega) (by omega)) yL rfl (by rw [hn3]; exact hlt), v_ck hlk.1.1, e_nn, v_gI hsr.1 hlk.1.1 rfl, hlk.2 4 (by omega), hup, e_rq up01]
    rcases up01 with z | z
    · rw [z]; rfl
    · rw [z]; rfl
  have front : Net_goesOn h a (some x) (some W) (Int32.ofNat i) = if r (24 + 5 * kk + 4) = 0 then (g_gR h5 a 1 3 fun x129 => g_gI h5 x 14 0 fun x133 => g_nn x129 fun a136 => g_is h5 a136 15 <| g_b (ArrayList_get h5 a136 x133) fun x139 => g_ck h5 x139 12 <| g_is h5 a 1 <| g_b (Net_lose h5 a x139) fun h146 => Net_goesOn_111 h146 a (Int32.ofNat kk)) else Net_goesOn_111 h5 a (Int32.ofNat kk) := by
    unfold Net_goesOn
    rw [e_nn, i_sub1 (by omega), way_node hs.1 hwy (i := i - 1) (by omega), way_node hs.1 hwy (i := i) (by omega), v_is ha, e_b (c_linkOf hs.1 hs.2.1 hA)]
    rw [show lk r (rwD r (wp c w) (i - 1)) (rwD r (wp c w) i) = kk from hkk, ixI_lt hlt, e_nn, e1]
    rw [way_f w1 (sm1.way hWay) (f := 0) (by omega) hi (by omega), show wp c w + 1 + 6 * 0 + i = wp c w + 1 + i by omega, e2]
    rw [way_f w2 (sm12.way hWay) (f := 1) (by omega) hi (by omega), show wp c w + 1 + 6 * 1 + i = wp c w + 7 + i by omega, e3]
    rw [way_f w3 (sm13.way hWay) (f := 2) (by omega) hi (by omega), show wp c w + 1 + 6 * 2 + i = wp c w + 13 + i by omega, e4]
    have hlk0 := hs.2.1.2.2.2.1 kk hlt
    have eA4 : lA h4 a 2 = lA h a 2 := by unfold lA; rw [sm14.2.2.1]
    rw [net_get w4 (i0 := 2) (by rw [sm14.1]; exact ha) (by omega) (by omega) (by rw [sm14.2.2.1, eA4]; exact hl 2 (by omega) (by omega)) (by rw [eA4]; exact sm14.lst hLs) rfl hlt]
    rw [v_ck (by rw [sm14.1]; exact hlk0.1.1), e_nn, v_gI w4 (by rw [sm14.1]; exact hlk0.1.1) rfl, sm14.2.1 11 3 _ (by decide), hlk0.2 3 (by omega), e5]
    rw [net_get w5 (i0 := 2) ha5 (by omega) (by omega) (hl5 2 (by omega) (by omega)) hLs5 rfl (by rw [n3]; exact hlt), v_ck hlk5.1.1, e_nn, v_gI w5 hlk5.1.1 rfl, up5]
  rcases up01 with z | z
  · have hne : ¬ r (24 + 5 * kk + 4) = 1 := by rw [z]; decide
    obtain ⟨h6, e6, s6, V6, m6, l6⟩ := c_lose (c := cp) hs5 (by rw [n4]; exact hcp4)
    refine ⟨h6, ?_, by rw [if_neg hne]; exact s6, (hV.weak (fun q hq => by rw [hq]; exact hG)).tr hs.1 V6 (fun _ y => Or.inl y), m6.trans hm, fun q => (l6 q).trans (sm15.1 q), fun y => absurd y hne⟩
    rw [front, if_pos z, v_gR w5 ha5 rfl, hl5 3 (by omega) (by omega), v_gI w5 (by rw [sm15.1]; exact hx) rfl, hc0 0 (by omega), hcp, e_nn, v_is hCs5.1, e_b (ls_get w5 hCs5 (by rw [n4]; exact hcp4))]
    rw [v_ck (hs5.clC (by rw [n4]; exact hcp4)), v_is ha5, e_b e6]
    refine last h6 _ s6 ?_ ?_
    · exact (nt_eq (rlo_pl (by omega) 3 (pl_low (by omega)))).trans n3
    · rw [rlo_pl (by omega) _ (pl_low (by omega)), hrow _ (by omega)]
  · refine ⟨h5, ?_, by rw [if_pos z]; exact hs5, hV.weak (fun q hq => by rw [hq]; exact hG), hm, sm15.1, fun _ => ⟨hc0, hc3⟩⟩
    rw [front, if_neg (by rw [z]; decide)]
    exact last h5 _ hs5 n3 (hrow _ (by omega))
end GOESON
