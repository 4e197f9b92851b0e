/-! LEVEL 2: packets arrive; all packets move -/
/-- circuits' phases and steps are the same -/
def PhE (r r' : tR) : Prop := ∀ c, c < 8 → r' (104 + 66 * c + 2) = r (104 + 66 * c + 2) ∧ r' (104 + 66 * c + 3) = r (104 + 66 * c + 3)
theorem PhE.rf {r : tR} : PhE r r := fun _ _ => ⟨rfl, rfl⟩
theorem PhE.tr {r r1 r2 : tR} (x : PhE r r1) (y : PhE r1 r2) : PhE r r2 := fun c hc => ⟨(y c hc).1.trans (x c hc).1, (y c hc).2.trans (x c hc).2⟩
theorem phe_hi {r r' : tR} (e : ∀ j, 104 ≤ j → j < 632 → r' j = r j) : PhE r r' := fun c hc => ⟨e _ (by omega) (by omega), e _ (by omega) (by omega)⟩
theorem phe_pl {r r' : tR} (e : ∀ j, ¬ pl j → r' j = r j) : PhE r r' := fun c hc => by
  have np : ∀ f, f = 2 ∨ f = 3 → ¬ pl (104 + 66 * c + f) := fun f hf z => by
    unfold pl at z
    rcases z with z | z | ⟨c', f', z1, z2, z3⟩ | ⟨p', f', z1, z2, z3⟩ <;> omega
  exact ⟨e _ (np 2 (Or.inl rfl)), e _ (np 3 (Or.inr rfl))⟩
theorem phe_rgo {r : tR} {p q i : Nat} : PhE r (rgo r p q i) := phe_hi (fun j h1 h2 => by unfold rgo; rw [upd_ne (by omega), upd_ne (by omega), upd_ne (by omega), upd_ne (by omega), upd_ne (by omega)])
section ARRIVE
variable {h h0 h' : g_AH} {G G' O : Nat → Prop} {a : Nat} {r r' : tR} {N L C K : Nat → Nat} {mC x k p c w n s l i0 i q W cp : Nat} {M : g_MD}
/-- the way object at a place of the row -/
theorem RS.way (hs : RS h G a r N L C K) (hc : c < nt r 4) (hw : w < 2) (h1 : w = 1 → 0 < nt r (104 + 66 * c + 2)) : ∃ W, Rf h 12 (2 + w) (C c) = some W ∧ WayR h G r W (wp c w) := by
  obtain ⟨-, -, ⟨w0, x4, x5⟩, x6, -⟩ := hs.2.1.2.2.2.2.1.1 c hc
  rcases (show w = 0 ∨ w = 1 by omega) with rfl | rfl
  · exact ⟨w0, x4, x5⟩
  · rw [if_neg (by have := h1 rfl; omega)] at x6
    exact x6
theorem arrive_both (hs : RS h G a r N L C K) (hr : M.1 0 = r) (hp : p < nt r 6) : ∃ (b : Bool) (h' : g_AH) (M' : g_MD) (r' : tR), Net_arrive h a (some (K p)) = some (b32 b, h') ∧ Mod_arrive M (Int32.ofNat p) = some (b32 b, M') ∧ RS h' G a r' N L C K ∧ nt r' 6 = nt r 6 ∧ Mr M M' (if b = true then r' else rrem r' p) ∧ VF h h' G ∧ h'.2 = h.2 ∧ (∀ q, cl h' q = cl h q) ∧ PhE r r' := by
  have hI4 := hs.2.2
  have hA := hI4.1
  have g4 := nm4 hA
  have g2 := nm2 hA
  have g6 := nm6 hA
  obtain ⟨ha, hl, hN, hLs, hCs, hKs⟩ := hs.2.1.lst
  obtain ⟨i1, i2, i3, i4⟩ := hI4.2.2.2.1 p hp
  generalize hcp : nt r (632 + 8 * p) = cp at i1
  have ecp : r (632 + 8 * p) = Int32.ofNat cp := by rw [← hcp]; exact i1.1
  have hcp4 : cp < nt r 4 := by rw [← hcp]; exact i1.2
  generalize hsv : nt r (632 + 8 * p + 4) = s at i2 i3
  have es : r (632 + 8 * p + 4) = Int32.ofNat s := by rw [← hsv]; exact i2.1
  have hs2 : s < nt r 2 := by rw [← hsv]; exact i2.2
  generalize hlv : nt r (632 + 8 * p + 5) = l at i3
  have el : r (632 + 8 * p + 5) = Int32.ofNat l := by rw [← hlv]; exact i3.1
  have hl2 : l < nt r (14 + s) := by rw [← hlv]; exact i3.2
  have gs := (nm_sp hA hs2).2
  have hnd := hs.2.1.2.2.1 s hs2
  have hLab := hs.2.1.lab
  have hhold := lab_m1 hLab hA hI4.2.1 hs2 hl2
  have hKc := hs.clP hp
  have jP : ∀ f, f < 8 → J h 14 f (K p) = r (632 + 8 * p + pf f) := fun f hf => hs.jP hp hf
  have j0 : J h 14 0 (K p) = Int32.ofNat cp := by rw [jP 0 (by omega)]; exact ecp
  have j5 : J h 14 5 (K p) = Int32.ofNat s := by rw [jP 5 (by omega)]; exact es
  have j6 : J h 14 6 (K p) = Int32.ofNat l := by rw [jP 6 (by omega)]; exact el
  have j4 : J h 14 4 (K p) = r (632 + 8 * p + 3) := jP 4 (by omega)
  have hcl := hs.clC hcp4
  obtain ⟨hL1, eL1, sL1, VL1, mL1, lL1⟩ := c_lose hs hcp4
  have na : ∀ f, 1 ≤ f → f ≤ 4 → AL h 10 f (N s) = nt r (14 + s) := hnd.2.2
  have op : ∀ (M1 : g_MD) (f : Nat), f < 8 → ∀ v, M1.1 0 (632 + 8 * p + f) = v → Mod_ofPacket M1 (Int32.ofNat p) (Int32.ofNat f) = some v := fun M1 f hf v hv => by rw [t_ofPacket (by omega) hf, hv]
  -- the component, up to the first comparison
  have front : Net_arrive h a (some (K p)) = if Ar h 10 1 (N s) l = r (632 + 8 * p + 3) then (if Ar h 10 4 (N s) l = 0 then Net_arrive_58 h a (some (C cp)) else (g_b (ArrayList_get h (lA h a 3) (Ar h 10 2 (N s) l)) fun x94 => g_ck h x94 12 <| g_nn x94 fun a112 => g_is h a112 12 <| g_b (Circuit_of h a112 (Ar h 10 3 (N s) l)) fun x115 => g_nn x115 fun a122 => g_is h a122 6 <| g_b (Way_indexOf h a122 (r (632 + 8 * p + 3))) fun x125 => g_gI h a122 6 3 fun x129 => if x125 = (x129 - (1 : Int32)) then (g_is h a 1 <| g_b (Net_deliver h a (some (K p)) (some (C cp))) fun h142 => some ((0 : Int32), h142)) else (g_is h a 1 <| g_b2 (Net_goesOn h a (some (K p)) (some a122) (x125 + (1 : Int32))) fun x135 h136 => g_rq (x135 = 0 ∨ x135 = 1) <| some (x135, h136)))) else Net_arrive_58 h a (some (C cp)) := by
    obtain ⟨q1, z1⟩ := AL_ref (na 1 (by omega) (by omega)) (by omega)
    obtain ⟨q2, z2⟩ := AL_ref (na 2 (by omega) (by omega)) (by omega)
    obtain ⟨q3, z3⟩ := AL_ref (na 3 (by omega) (by omega)) (by omega)
    obtain ⟨q4, z4⟩ := AL_ref (na 4 (by omega) (by omega)) (by omega)
    have hin : ∀ f, 1 ≤ f → f ≤ 4 → vp_in (Int32.ofNat l) (AL h 10 f (N s)) := fun f y1 y2 => by rw [na f y1 y2]; exact i_in hl2 (by omega)
    unfold Net_arrive
    rw [v_gR hs.1 ha rfl, hl 3 (by omega) (by omega), e_nn, v_gI hs.1 hKc rfl, j0, e_nn, v_is hCs.1, e_b (ls_get hs.1 hCs hcp4), v_ck hcl]
    rw [v_gR hs.1 ha rfl, hl 1 (by omega) (by omega), v_gI hs.1 hKc rfl, j5, e_nn, v_is hN.1, e_b (ls_get hs.1 hN hs2), v_ck hnd.1.1, e_nn]
    rw [v_gR hs.1 hnd.1.1 rfl, z1, v_gI hs.1 hKc rfl, j6, e_nn, v_aI (t := 0) hs.1 z1 rfl rfl (hin 1 (by omega) (by omega)), i_cl (by omega), v_gI hs.1 hKc rfl, j4]
    by_cases e1 : Ar h 10 1 (N s) l = r (632 + 8 * p + 3)
    · rw [if_pos e1, if_pos e1, v_gR hs.1 hnd.1.1 rfl, z4, v_gI hs.1 hKc rfl, j6, e_nn, v_aI (t := 1) hs.1 z4 rfl rfl (hin 4 (by omega) (by omega)), i_cl (by omega)]
      by_cases e2 : Ar h 10 4 (N s) l = 0
      · rw [if_pos e2, if_pos e2]
      · rw [if_neg e2, if_neg e2, v_gR hs.1 ha rfl, hl 3 (by omega) (by omega), v_gR hs.1 hnd.1.1 rfl, z2, v_gI hs.1 hKc rfl, j6, e_nn, v_aI (t := 0) hs.1 z2 rfl rfl (hin 2 (by omega) (by omega)), i_cl (by omega)]
        rw [e_nn, v_is hCs.1]
        congr 1
        funext x94
        cases x94 with
        | none => rw [e_ckN, e_ckN, v_gR hs.1 hnd.1.1 rfl, z3, v_gI hs.1 hKc rfl, j6, e_nn, v_aI (t := 1) hs.1 z3 rfl rfl (hin 3 (by omega) (by omega)), i_cl (by omega)]; rfl
        | some y =>
          congr 1
          rw [v_gR hs.1 hnd.1.1 rfl, z3, v_gI hs.1 hKc rfl, j6, e_nn, v_aI (t := 1) hs.1 z3 rfl rfl (hin 3 (by omega) (by omega)), i_cl (by omega)]
          simp only [e_nn]
          congr 2
          funext x115
          cases x115 with
          | none => rw [v_gI hs.1 hKc rfl, j4]
          | some z => rw [v_gI hs.1 hKc rfl, j4]
    · rw [if_neg e1, if_neg e1]
  have lose58 : Net_arrive_58 h a (some (C cp)) = some (0, hL1) := by
    unfold Net_arrive_58
    rw [v_is ha, e_b eL1]
  -- the twin, up to the search
  have tfront : Mod_arrive M (Int32.ofNat p) = g_bM (Mod_findHolder M (Int32.ofNat s) (Int32.ofNat l)) fun x7 M8 => if x7 = 0 then (Mod_arrive_36 M8 (Int32.ofNat p) x7 (0 : Int32)) else (g_b (Mod_wayPlace (M8.2.1 18) (M8.2.1 19)) fun x47 => Mod_arrive_36 M8 (Int32.ofNat p) x7 x47) := by
    unfold Mod_arrive
    rw [e_b (show Mod_ofPacket M (Int32.ofNat p) (4 : Int32) = some (Int32.ofNat s) from op M 4 (by omega) _ (by rw [hr]; exact es)), e_b (show Mod_ofPacket M (Int32.ofNat p) (5 : Int32) = some (Int32.ofNat l) from op M 5 (by omega) _ (by rw [hr]; exact el))]
  have hIM : InvW (M.1 0) := by rw [hr]; exact hI4.2.1
  have hAM : InvA (M.1 0) := by rw [hr]; exact hA
  have tlose : ∀ M8 : g_MD, Mq M M8 → ∃ M', Mod_arrive_82 M8 (Int32.ofNat p) = some (0, M') ∧ Mr M M' (rrem (rlo r cp) p) := fun M8 q8 => by
    have e8 : M8.1 0 = r := by rw [q8.1, hr]
    obtain ⟨M', e1, e2⟩ := t_losePacket (M := M8) (p := p) (c := cp) (by rw [e8]; exact hI4) (by rw [e8]; exact hp) (by rw [e8]; exact ecp) (by omega)
    rw [e8] at e2
    refine ⟨M', ?_, q8.mr.tr e2⟩
    unfold Mod_arrive_82
    rw [e_b e1]
  have n6l : nt (rlo r cp) 6 = nt r 6 := nt_eq (rlo_pl (by omega) 6 (pl_low (by omega)))
  cases eh : hld r s l with
  | false =>
    have em1 := hhold.mpr eh
    have hne : ¬ Ar h 10 1 (N s) l = r (632 + 8 * p + 3) := by rw [em1]; exact fun z => i4 z.symm
    obtain ⟨M', t1, t2⟩ := tlose M Mq.rf
    refine ⟨false, hL1, M', rlo r cp, ?_, ?_, sL1, n6l, by rw [if_neg (by decide)]; exact t2, VL1, mL1, lL1, phe_pl (rlo_pl (by omega))⟩
    · rw [front, if_neg hne]; exact lose58
    · rw [tfront, t_findHolder hAM hIM, hr, eh, if_neg (by decide)]
      rw [e_bM rfl, if_pos rfl]
      unfold Mod_arrive_36
      rw [if_pos rfl]
      exact t1
  | true =>
    have hpos := hld_pos eh
    generalize hfc : fC r s l = c at hpos
    generalize hfw : fW r s l = w at hpos
    generalize hfi : fI r s l = i at hpos
    obtain ⟨b1, b2, b3, b4⟩ := hLab.1 c w i s l hpos hs2 hl2
    obtain ⟨hc, hw, hi0, hi, -, -⟩ := id hpos
    have hWy := hI4.2.1 c w hc hw
    have h16 := hWy.1.2
    have hC := hI4.2.2.1 c hc
    have hwp : 104 ≤ wp c w ∧ wp c w + 25 ≤ 632 := by unfold wp; omega
    have q8 : Mq M (fnd M c w i) := fnd_q
    have e8 : (fnd M c w i).1 0 = r := by rw [q8.1, hr]
    have i18 : (fnd M c w i).2.1 18 = Int32.ofNat c := rfl
    have i19 : (fnd M c w i).2.1 19 = Int32.ofNat w := rfl
    have i20 : (fnd M c w i).2.1 20 = Int32.ofNat i := rfl
    have t36 : Mod_arrive M (Int32.ofNat p) = Mod_arrive_36 (fnd M c w i) (Int32.ofNat p) 1 (Int32.ofNat (wp c w)) := by
      rw [tfront, t_findHolder hAM hIM, hr, eh, if_pos rfl, hfc, hfw, hfi]
      rw [e_bM rfl, if_neg (by decide), i18, i19, e_b t_wayPlace]
    generalize fnd M c w i = M8 at q8 e8 i18 i19 i20 t36
    have tAT : Mod_arrive_36 M8 (Int32.ofNat p) 1 (Int32.ofNat (wp c w)) = if r (wp c w + 1 + i) = r (632 + 8 * p + 3) then (if r (wp c w + 19 + i) = 0 then (Mod_arrive_82 M8 (Int32.ofNat p)) else (if Int32.ofNat (i + 1) = Int32.ofNat (nt r (wp c w)) then (g_b (Mod_deliverPacket M8 (Int32.ofNat p)) fun M44 => some ((0 : Int32), M44)) else (g_b (Mod_setOut M8 (Int32.ofNat p) (Int32.ofNat (wp c w)) (Int32.ofNat (i + 1))) fun M29 => g_b (Mod_ofPacket M29 (Int32.ofNat p) (2 : Int32)) fun x31 => g_b (Mod_ofLink M29 x31 (4 : Int32)) fun x34 => if x34 = 0 then (g_b (Mod_losePacket M29 (Int32.ofNat p)) fun M40 => some ((0 : Int32), M40)) else (some ((1 : Int32), M29))))) else (Mod_arrive_82 M8 (Int32.ofNat p)) := by
      unfold Mod_arrive_36
      rw [if_neg (by decide), i20]
      rw [e_r' (i := wp c w + 1 + i) (by show Int32.ofNat (wp c w) + Int32.ofNat 1 + Int32.ofNat i = _; rw [i_add, i_add]) (by omega), e8]
      rw [e_b (show Mod_ofPacket M8 (Int32.ofNat p) (3 : Int32) = some (r (632 + 8 * p + 3)) from op M8 3 (by omega) _ (by rw [e8]))]
      rw [e_r' (i := wp c w + 19 + i) (by show Int32.ofNat (wp c w) + Int32.ofNat 19 + Int32.ofNat i = _; rw [i_add, i_add]) (by omega), e8]
      rw [e_r (by omega), e8, hWy.1.1, show Int32.ofNat i + (1 : Int32) = Int32.ofNat (i + 1) from i_add]
    rw [b1, b4] at front
    rw [b2, b3] at front
    by_cases e1 : r (wp c w + 1 + i) = r (632 + 8 * p + 3)
    · rw [if_pos e1] at front tAT
      by_cases e2 : r (wp c w + 19 + i) = 0
      · rw [if_pos e2] at front tAT
        obtain ⟨M', t1, t2⟩ := tlose M8 q8
        refine ⟨false, hL1, M', rlo r cp, ?_, ?_, sL1, n6l, by rw [if_neg (by decide)]; exact t2, VL1, mL1, lL1, phe_pl (rlo_pl (by omega))⟩
        · rw [front]; exact lose58
        · rw [t36, tAT]; exact t1
      · rw [if_neg e2] at front tAT
        have hph : w = 1 → 0 < nt r (104 + 66 * c + 2) := fun e => by
          subst e
          by_cases z : nt r (104 + 66 * c + 2) = 0
          · have := hC.2.2.1 z; omega
          · omega
        obtain ⟨W, hWr, hWay⟩ := hs.way hc hw hph
        have hwy := hWay.wyn hWy.1
        have hcc := hs.clC hc
        have hof : Circuit_of h (C c) (Int32.ofNat w) = some (some W) := by
          unfold Circuit_of
          rcases (show w = 0 ∨ w = 1 by omega) with rfl | rfl
          · rw [if_pos (by rfl), v_gR hs.1 hcc rfl, hWr]
          · rw [if_neg (by decide), v_gR hs.1 hcc rfl, hWr]
        have hix : fsN (fun j => decide (rwD r (wp c w) j = r (632 + 8 * p + 3))) 0 (nt r (wp c w)) = i := by
          have z1 := fsN_ex (p := fun j => decide (rwD r (wp c w) j = r (632 + 8 * p + 3))) (m := nt r (wp c w)) (k := 0) (j := i) (by omega) (by omega) (decide_eq_true e1)
          have z2 := fsN_is (p := fun j => decide (rwD r (wp c w) j = r (632 + 8 * p + 3))) (nt r (wp c w)) 0 (by omega)
          exact hWy.2.2.1 _ i (by omega) hi ((of_decide_eq_true z2).trans e1.symm)
        rw [e_b (ls_get hs.1 hCs hc), v_ck hcc, e_nn, v_is hcc, e_b hof, e_nn, v_is hWay.1.1, e_b (c_indexOf hs.1 hwy), hix, ixI_lt hi, v_gI hs.1 hWay.1.1 rfl, hWay.2.1, hWy.1.1, i_sub1 (by omega)] at front
        by_cases e3 : i + 1 = nt r (wp c w)
        · rw [if_pos (by rw [show i = nt r (wp c w) - 1 by omega])] at front
          rw [if_pos (by rw [e3])] at tAT
          obtain ⟨hd, d1, d2, d3, d4, d5⟩ := c_deliver hs hcp4 hp
          obtain ⟨Md, f1, f2⟩ := t_deliverPacket (M := M8) (p := p) (c := cp) (by rw [e8]; exact hI4) (by rw [e8]; exact hp) (by rw [e8]; exact ecp) (by omega)
          rw [e8] at f2
          refine ⟨false, hd, Md, rdl r cp p, ?_, ?_, d2, nt_eq (rdl_pl (by omega) 6 (pl_low (by omega))), by rw [if_neg (by decide)]; exact q8.mr.tr f2, d3, d4, d5, phe_pl (rdl_pl (by omega))⟩
          · rw [front, v_is ha, e_b d1]; rfl
          · rw [t36, tAT, e_b f1]; rfl
        · rw [if_neg (fun z => by have := (i_eq (by omega) (by omega)).mp z; omega)] at front
          rw [if_neg (fun z => by have := (i_eq (by omega) (by omega)).mp z; omega)] at tAT
          have hheld : r (wp c w + 7 + (i + 1)) ≠ -1 := fun z => by
            obtain ⟨y1, y2, y3⟩ := (hC.2.2.2.2.2.2.2 w (i + 1) hw (by omega) (by omega)).mp z
            have y4 : ¬ r (wp c w + 7 + i) = -1 := by rw [hpos.2.2.2.2.1]; exact m1_ne (by omega)
            have y5 : r (wp c w + 7 + i) = -1 ↔ _ := hC.2.2.2.2.2.2.2 w i hw hi0 hi
            exact y4 (y5.mpr ⟨y1, y2, by omega⟩)
          obtain ⟨hlt, hg, g1, g2', g3, g4', g5, -⟩ := c_goesOn hs hKc (hs.2.1.2.2.2.2.2.1 p hp).1.2 (by omega : p < 60) (fun q hq hne e => hne (hs.2.1.2.1.2.2.2.2.2.2 q p hq hp e)) (fun _ => rfl) hc hw hWay (by omega : 0 < i + 1) (by omega) hheld j0 hcp4
          obtain ⟨Ms, f1, f2⟩ := t_setOut (M := M8) (p := p) (q := wp c w) (i := i + 1) (by rw [e8]; exact hA) (by omega) hwp.2 hwp.1 (by omega) (by omega) (by rw [e8]; exact hlt)
          rw [e8] at f2
          have hrow : ∀ j, j < 632 + 8 * p ∨ 632 + 8 * p + 8 ≤ j → rgo r p (wp c w) (i + 1) j = r j := fun j hj => by
            unfold rgo
            rw [upd_ne (by omega), upd_ne (by omega), upd_ne (by omega), upd_ne (by omega), upd_ne (by omega)]
          have r2 : rgo r p (wp c w) (i + 1) (632 + 8 * p + 2) = Int32.ofNat (lk r (r (wp c w + 1 + (i + 1 - 1))) (r (wp c w + 1 + (i + 1)))) := by
            unfold rgo
            rw [upd_ne (by omega), upd_ne (by omega), upd_ne (by omega), upd_ne (by omega), upd_eq]
          have r0 : rgo r p (wp c w) (i + 1) (632 + 8 * p) = Int32.ofNat cp := by
            unfold rgo
            rw [upd_ne (by omega), upd_ne (by omega), upd_ne (by omega), upd_ne (by omega), upd_ne (by omega), ecp]
          have n6g : nt (rgo r p (wp c w) (i + 1)) 6 = nt r 6 := nt_eq (hrow 6 (by omega))
          generalize hkk : lk r (r (wp c w + 1 + (i + 1 - 1))) (r (wp c w + 1 + (i + 1))) = kk at *
          have h3 := nm3 hA
          have tend : Mod_arrive M (Int32.ofNat p) = if r (24 + 5 * kk + 4) = 0 then (g_b (Mod_losePacket Ms (Int32.ofNat p)) fun M40 => some ((0 : Int32), M40)) else (some ((1 : Int32), Ms)) := by
            rw [t36, tAT, e_b f1, e_b (show Mod_ofPacket Ms (Int32.ofNat p) (2 : Int32) = some (Int32.ofNat kk) from op Ms 2 (by omega) _ (by rw [f2.1]; exact r2))]
            rw [e_b (show Mod_ofLink Ms (Int32.ofNat kk) (4 : Int32) = some (r (24 + 5 * kk + 4)) by
              have := t_ofLink (M := Ms) (k := kk) (f := 4) (by omega) (by omega)
              rw [f2.1, hrow _ (by omega)] at this
              exact this)]
          rw [v_is ha, show Int32.ofNat i + (1 : Int32) = Int32.ofNat (i + 1) from i_add, e_b2 g1, e_rq b32_01] at front
          rcases up01 (hA.2.2.2.1 kk hlt).2.2.2.2 with z | z
          · have hne : ¬ r (24 + 5 * kk + 4) = 1 := by rw [z]; decide
            rw [if_neg hne] at g2'
            obtain ⟨Ml, f3, f4⟩ := t_losePacket (M := Ms) (p := p) (c := cp) (by
              rw [f2.1]
              refine hI4.pk hrow (fun _ => ?_)
              have hp6' := (g2'.2.2.2.2.2.1 p (by rw [show nt (rlo (rgo r p (wp c w) (i + 1)) cp) 6 = nt r 6 from (nt_eq (rlo_pl (by omega) 6 (pl_low (by omega)))).trans n6g]; exact hp))
              have el0 := rlo_pl (r := rgo r p (wp c w) (i + 1)) (c := cp) (by omega)
              have c0 : rlo (rgo r p (wp c w) (i + 1)) cp (632 + 8 * p) = rgo r p (wp c w) (i + 1) (632 + 8 * p) := el0 _ (pl_pkt (f := 0) (by omega) (by omega))
              have c3 := el0 _ (pl_pkt (p := p) (f := 3) (by omega) (by omega))
              have c4 := el0 _ (pl_pkt (p := p) (f := 4) (by omega) (by omega))
              have c5 := el0 _ (pl_pkt (p := p) (f := 5) (by omega) (by omega))
              have d4 : nt (rlo (rgo r p (wp c w) (i + 1)) cp) 4 = nt r 4 := (nt_eq (el0 4 (pl_low (by omega)))).trans (nt_eq (hrow 4 (by omega)))
              have d2 : nt (rlo (rgo r p (wp c w) (i + 1)) cp) 2 = nt r 2 := (nt_eq (el0 2 (pl_low (by omega)))).trans (nt_eq (hrow 2 (by omega)))
              obtain ⟨y1, y2, y3, y4⟩ := hp6'
              rw [d4] at y1
              rw [d2] at y2
              have y2' := y2.2
              rw [nt_eq c4] at y3 y2'
              have d14 : nt (rlo (rgo r p (wp c w) (i + 1)) cp) (14 + nt (rgo r p (wp c w) (i + 1)) (632 + 8 * p + 4)) = nt r (14 + nt (rgo r p (wp c w) (i + 1)) (632 + 8 * p + 4)) := (nt_eq (el0 _ (pl_low (by omega)))).trans (nt_eq (hrow _ (by omega)))
              rw [d14] at y3
              exact ⟨(nm_same c0).mp y1, (nm_same c4).mp y2, (nm_same c5).mp y3, by rw [← c3]; exact y4⟩) (by rw [f2.1, n6g]; exact hp) (by rw [f2.1]; exact r0) (by omega)
            rw [f2.1] at f4
            refine ⟨false, hg, Ml, rlo (rgo r p (wp c w) (i + 1)) cp, ?_, ?_, g2', (nt_eq (rlo_pl (by omega) 6 (pl_low (by omega)))).trans n6g, by rw [if_neg (by decide)]; exact (q8.mr.tr f2).tr f4, g3, g4', g5, phe_rgo.tr (phe_pl (rlo_pl (by omega)))⟩
            · rw [front, decide_eq_false hne]
            · rw [tend, if_pos z, e_b f3]; rfl
          · rw [if_pos z] at g2'
            refine ⟨true, hg, Ms, rgo r p (wp c w) (i + 1), ?_, ?_, g2', n6g, by rw [if_pos rfl]; exact q8.mr.tr f2, g3, g4', g5, phe_rgo⟩
            · rw [front, decide_eq_true z]
            · rw [tend, if_neg (by rw [z]; decide)]; rfl
    · rw [if_neg e1] at front tAT
      obtain ⟨M', t1, t2⟩ := tlose M8 q8
      refine ⟨false, hL1, M', rlo r cp, ?_, ?_, sL1, n6l, by rw [if_neg (by decide)]; exact t2, VL1, mL1, lL1, phe_pl (rlo_pl (by omega))⟩
      · rw [front]; exact lose58
      · rw [t36, tAT]; exact t1
end ARRIVE
