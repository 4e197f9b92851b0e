/-! LEVEL 2: Net.giveUp, Net.markOld -/
def unH (h : g_AH) (W i : Nat) : g_AH := wA (wA h 6 1 W i (-1)) 6 2 W i (-1)
/-- the net's nodes, as a heap shows them -/
def NB (h : g_AH) (a : Nat) (r : tR) (N : Nat → Nat) : Prop := cl h a = some 1 ∧ Rf h 1 1 a = some (lA h a 1) ∧ Lst h (lA h a 1) (nt r 2) N ∧ ∀ k, k < nt r 2 → cl h (N k) = some 10 ∧ ∀ f, 1 ≤ f → f ≤ 4 → AL h 10 f (N k) = nt r (14 + k)
section GIVEUP
variable {h h0 h' : g_AH} {G G' O : Nat → Prop} {a : Nat} {r r' : tR} {N L C K : Nat → Nat} {mC x k p c w n s l i0 i j q W cp : Nat} {M : g_MD} {D : Nat → Int32}
theorem R6.nb (hR : R6 h G a r N L C K mC) : NB h a r N := ⟨hR.1.1.1, (hR.2.1.1 1 (by omega) (by omega)).1, hR.2.1.2.2.1.1, fun k hk => ⟨(hR.2.2.1 k hk).1.1, (hR.2.2.1 k hk).2.2⟩⟩
theorem NB.heap (hB : NB h a r N) (ecl : ∀ q k, cl h q = some k → cl h' q = some k) (eR : ∀ f, Rf h' 1 f a = Rf h 1 f a) (eJ : ∀ f q, J h' 15 f q = J h 15 f q) (eL : ∀ ci f q, AL h' ci f q = AL h ci f q) (eA : ∀ f q i, RA h' 15 f q i = RA h 15 f q i) : NB h' a r N := by
  obtain ⟨b1, b2, b3, b4⟩ := hB
  have e : lA h' a 1 = lA h a 1 := by unfold lA; rw [eR]
  exact ⟨ecl _ _ b1, by rw [eR, e]; exact b2, by rw [e]; exact b3.heap' ecl eJ (fun _ _ => eL _ _ _) eA, fun k hk => ⟨ecl _ _ (b4 k hk).1, fun f y1 y2 => by rw [eL]; exact (b4 k hk).2 f y1 y2⟩⟩
theorem un_W1 (hW : WF h) : WF (wA h 6 1 W i (-1)) := hW.pA ⟨by decide, by decide⟩ (fun e => by cases e) (fun e => by cases e)
theorem un_W (hW : WF h) : WF (unH h W i) := (un_W1 hW).pA ⟨by decide, by decide⟩ (fun e => by cases e) (fun e => by cases e)
theorem un_cl {q : Nat} : cl (unH h W i) q = cl h q := by unfold unH; rw [cl_wA, cl_wA]
theorem un_J {ci f q : Nat} : J (unH h W i) ci f q = J h ci f q := by unfold unH; rw [J_wA, J_wA]
theorem un_R {ci f q : Nat} : Rf (unH h W i) ci f q = Rf h ci f q := by unfold unH; rw [Rf_wA, Rf_wA]
theorem un_L {ci f q : Nat} : AL (unH h W i) ci f q = AL h ci f q := by unfold unH; rw [AL_wA, AL_wA]
theorem un_A {ci f q j : Nat} : RA (unH h W i) ci f q j = RA h ci f q j := by unfold unH; rw [RA_wA, RA_wA]
theorem un_m : (unH h W i).2 = h.2 := by unfold unH; rw [wA_meta, wA_meta]
theorem un_Aro (hW : WF h) {ci f q j : Nat} (h3 : 3 ≤ kd ci f) (hd : ¬ (ci = 6 ∧ q = W)) : Ar (unH h W i) ci f q j = Ar h ci f q j := by
  unfold unH
  rw [Ar_wAn (un_W1 hW) (by decide) h3 (fun e => hd ⟨e.1, e.2.2⟩), Ar_wAn hW (by decide) h3 (fun e => hd ⟨e.1, e.2.2⟩)]
theorem un_Ar (hW : WF h) (hn : ∀ f, f < 3 → AL h 6 f W = 6) {f j : Nat} (hf : f < 3) : Ar (unH h W i) 6 f W j = if f = 0 then Ar h 6 0 W j else if j = i then -1 else Ar h 6 f W j := by
  unfold unH
  rcases (show f = 0 ∨ f = 1 ∨ f = 2 by omega) with rfl | rfl | rfl
  · rw [Ar_wAn (un_W1 hW) (by decide) (by decide) (fun e => by simp at e), Ar_wAn hW (by decide) (by decide) (fun e => by simp at e)]
    rfl
  · rw [Ar_wAn (un_W1 hW) (by decide) (by decide) (fun e => by simp at e), Ar_wAs hW ⟨by decide, by decide⟩ (by rw [hn 1 (by omega)]; omega)]
    rfl
  · rw [Ar_wAs (un_W1 hW) ⟨by decide, by decide⟩ (by rw [AL_wA, hn 2 (by omega)]; omega), Ar_wAn hW (by decide) (by decide) (fun e => by simp at e)]
    rfl
theorem un_V (hW : WF h) (hw : O W) : VF h (unH h W i) O := by
  unfold unH
  have v1 : VF h (wA h 6 1 W i (-1)) O := VF.pA hW hw (by decide)
  have v2 : VF (wA h 6 1 W i (-1)) (wA (wA h 6 1 W i (-1)) 6 2 W i (-1)) O := VF.pA (un_W1 hW) hw (by decide)
  exact v1.tr hW v2 (fun _ q => Or.inl q)
theorem c_un38 (hW : WF h) (hWc : cl h W = some 6) (hWL : ∀ f, f < 3 → AL h 6 f W = 6) (hi6 : i < 6) : Net_giveUp_38 h (some W) (Int32.ofNat i) = some (unH h W i) := by
  obtain ⟨q1, e1⟩ := AL_ref (hWL 1 (by omega)) (by omega)
  obtain ⟨q2, e2⟩ := AL_ref (hWL 2 (by omega)) (by omega)
  have hin : vp_in (Int32.ofNat i) 6 := i_in hi6 (by omega)
  unfold Net_giveUp_38 unH
  rw [e_nn, v_gR hW hWc rfl, e1, e_nn, v_sI (t := 0) (f := 1) hW e1 rfl rfl (by rw [hWL 1 (by omega)]; exact hin), i_cl (by omega)]
  rw [v_gR (un_W1 hW) (by rw [cl_wA]; exact hWc) rfl, Rf_wA, e2, e_nn, v_sI (t := 0) (f := 2) (un_W1 hW) (by rw [Rf_wA]; exact e2) rfl rfl (by rw [AL_wA, hWL 2 (by omega)]; exact hin), i_cl (by omega)]
theorem c_giveUpN (hW : WF h) (hWc : cl h W = some 6) (hWL : ∀ f, f < 3 → AL h 6 f W = 6) (hi6 : i < 6) (h1 : Ar h 6 1 W i = -1) : Net_giveUp h a (some W) (Int32.ofNat i) = some (unH h W i) := by
  obtain ⟨q1, e1⟩ := AL_ref (hWL 1 (by omega)) (by omega)
  unfold Net_giveUp
  rw [e_nn, v_gR hW hWc rfl, e1, e_nn, v_aI (t := 0) hW e1 rfl rfl (by rw [hWL 1 (by omega)]; exact i_in hi6 (by omega)), i_cl (by omega), h1, if_pos rfl]
  exact c_un38 hW hWc hWL hi6
theorem c_giveUpS (hW : WF h) (hB : NB h a r N) (hA : InvA r) (hWc : cl h W = some 6) (hWL : ∀ f, f < 3 → AL h 6 f W = 6) (hi6 : i < 6) (h1 : Ar h 6 1 W i = Int32.ofNat s) (h2 : Ar h 6 2 W i = Int32.ofNat l) (hs : s < nt r 2) (hl : l < nt r (14 + s)) : Net_giveUp h a (some W) (Int32.ofNat i) = some (unH (gvH h (N s) l (-1) (-1) 0) W i) := by
  obtain ⟨ha, hli, hN, hx⟩ := hB
  have g2 := nm2 hA
  have gs := (nm_sp hA hs).2
  obtain ⟨q1, e1⟩ := AL_ref (hWL 1 (by omega)) (by omega)
  obtain ⟨q2, e2⟩ := AL_ref (hWL 2 (by omega)) (by omega)
  have hin : vp_in (Int32.ofNat i) 6 := i_in hi6 (by omega)
  have hg := c_give (v := -1) (cc := -1) (bo := false) hW (hx s hs).1 (hx s hs).2 hl (by omega)
  unfold Net_giveUp
  rw [e_nn, v_gR hW hWc rfl, e1, e_nn, v_aI (t := 0) hW e1 rfl rfl (by rw [hWL 1 (by omega)]; exact hin), i_cl (by omega), h1, if_neg (m1_ne (by omega))]
  rw [v_gR hW ha rfl, hli, v_gR hW hWc rfl, e1, e_nn, v_aI (t := 0) hW e1 rfl rfl (by rw [hWL 1 (by omega)]; exact hin), i_cl (by omega), h1, e_nn, v_is hN.1, e_b (ls_get hW hN hs), v_ck (hx s hs).1]
  rw [v_gR hW hWc rfl, e2, e_nn, v_aI (t := 0) hW e2 rfl rfl (by rw [hWL 2 (by omega)]; exact hin), i_cl (by omega), h2, e_nn, v_is (hx s hs).1, e_b (show Node_give h (N s) (Int32.ofNat l) (-1) (-1) (0 : Int32) = some (gvH h (N s) l (-1) (-1) 0) from hg)]
  exact c_un38 (gv_W hW (Or.inl rfl)) (by rw [gv_cl]; exact hWc) (fun f hf => by rw [gv_L]; exact hWL f hf) hi6
/-- labels of a way are no more labels of a new one -/
theorem c_markOld (hW : WF h) (hB : NB h a r N) (hA : InvA r) (hG : ∀ k, k < nt r 2 → G (N k)) (hWc : cl h W = some 6) (hWL : ∀ f, f < 3 → AL h 6 f W = 6) (hn : J h 6 3 W = Int32.ofNat n) (hn6 : n ≤ 6) (hinj : InjN N (nt r 2)) {S T : Nat → Nat} (hS : ∀ k, 0 < k → k < n → Ar h 6 1 W k = Int32.ofNat (S k) ∧ Ar h 6 2 W k = Int32.ofNat (T k) ∧ S k < nt r 2 ∧ T k < nt r (14 + S k)) :
    ∃ h', Net_markOld h a (some W) = some h' ∧ WF h' ∧ (∀ q, cl h' q = cl h q) ∧ (∀ ci f q, J h' ci f q = J h ci f q) ∧ (∀ ci f q, Rf h' ci f q = Rf h ci f q) ∧ (∀ ci f q, AL h' ci f q = AL h ci f q) ∧ (∀ ci f q i, RA h' ci f q i = RA h ci f q i) ∧ (∀ ci f q i, 3 ≤ kd ci f → ¬ (ci = 10 ∧ f = 3) → Ar h' ci f q i = Ar h ci f q i) ∧
      (∀ s l, s < nt r 2 → ((∃ k, 0 < k ∧ k < n ∧ S k = s ∧ T k = l) → Ar h' 10 3 (N s) l = 0) ∧ ((¬ ∃ k, 0 < k ∧ k < n ∧ S k = s ∧ T k = l) → Ar h' 10 3 (N s) l = Ar h 10 3 (N s) l)) ∧ VF h h' G ∧ h'.2 = h.2 := by
  have g2 := nm2 hA
  have loop : ∀ m j (h1 : g_AH), 1 ≤ j → j ≤ 100 → n - j < m → WF h1 → (∀ q, cl h1 q = cl h q) → (∀ ci f q, J h1 ci f q = J h ci f q) → (∀ ci f q, Rf h1 ci f q = Rf h ci f q) → (∀ ci f q, AL h1 ci f q = AL h ci f q) → (∀ ci f q i, RA h1 ci f q i = RA h ci f q i) → (∀ ci f q i, 3 ≤ kd ci f → ¬ (ci = 10 ∧ f = 3) → Ar h1 ci f q i = Ar h ci f q i) →
      (∀ s l, s < nt r 2 → ((∃ k, 0 < k ∧ k < n ∧ k < j ∧ S k = s ∧ T k = l) → Ar h1 10 3 (N s) l = 0) ∧ ((¬ ∃ k, 0 < k ∧ k < n ∧ k < j ∧ S k = s ∧ T k = l) → Ar h1 10 3 (N s) l = Ar h 10 3 (N s) l)) → VF h h1 G → h1.2 = h.2 →
      ∃ h', Net_markOld_2 m h1 a (some W) (Int32.ofNat j) = some h' ∧ WF h' ∧ (∀ q, cl h' q = cl h q) ∧ (∀ ci f q, J h' ci f q = J h ci f q) ∧ (∀ ci f q, Rf h' ci f q = Rf h ci f q) ∧ (∀ ci f q, AL h' ci f q = AL h ci f q) ∧ (∀ ci f q i, RA h' ci f q i = RA h ci f q i) ∧ (∀ ci f q i, 3 ≤ kd ci f → ¬ (ci = 10 ∧ f = 3) → Ar h' ci f q i = Ar h ci f q i) ∧
        (∀ s l, s < nt r 2 → ((∃ k, 0 < k ∧ k < n ∧ S k = s ∧ T k = l) → Ar h' 10 3 (N s) l = 0) ∧ ((¬ ∃ k, 0 < k ∧ k < n ∧ S k = s ∧ T k = l) → Ar h' 10 3 (N s) l = Ar h 10 3 (N s) l)) ∧ VF h h' G ∧ h'.2 = h.2 := by
    intro m
    induction m with
    | zero => intro j _ _ _ h; omega
    | succ m ih =>
      intro j h1 hj hj2 hm w1 k1 o1 R1 L1 A1 I1 I3 V1 m1
      have hc1 : cl h1 W = some 6 := by rw [k1]; exact hWc
      rw [Net_markOld_2, e_nn, v_gI w1 hc1 rfl, o1, hn]
      by_cases hc : n ≤ j
      · rw [if_pos ((i_le (by omega) (by omega)).mpr hc)]
        refine ⟨h1, rfl, w1, k1, o1, R1, L1, A1, I1, fun s l hs => ⟨fun ⟨k, y1, y2, y3⟩ => (I3 s l hs).1 ⟨k, y1, y2, by omega, y3⟩, fun hne => (I3 s l hs).2 (fun ⟨k, y1, y2, _, y3⟩ => hne ⟨k, y1, y2, y3⟩)⟩, V1, m1⟩
      · rw [if_neg (fun q => hc ((i_le (by omega) (by omega)).mp q))]
        obtain ⟨s1, s2, s3, s4⟩ := hS j (by omega) (by omega)
        have gs := (nm_sp hA s3).2
        obtain ⟨b1, b2, b3, b4⟩ : NB h1 a r N := hB.heap (fun q k e => by rw [k1]; exact e) (fun f => R1 _ _ _) (fun f q => o1 _ _ _) L1 (fun f q i => A1 _ _ _ _)
        obtain ⟨q1, e1⟩ := AL_ref (n := 6) (h := h1) (a := W) (ci := 6) (f := 1) (by rw [L1]; exact hWL 1 (by omega)) (by omega)
        obtain ⟨q2, e2⟩ := AL_ref (n := 6) (h := h1) (a := W) (ci := 6) (f := 2) (by rw [L1]; exact hWL 2 (by omega)) (by omega)
        obtain ⟨q3, e3⟩ := AL_ref ((b4 (S j) s3).2 3 (by omega) (by omega)) (by omega)
        have hin : vp_in (Int32.ofNat j) 6 := i_in (by omega) (by omega)
        rw [v_gR w1 b1 rfl, b2, v_gR w1 hc1 rfl, e1, e_nn, v_aI (t := 0) w1 e1 rfl rfl (by rw [L1, hWL 1 (by omega)]; exact hin), i_cl (by omega), I1 6 1 _ _ (by decide) (by simp), s1]
        rw [e_nn, v_is b3.1, e_b (ls_get w1 b3 s3), v_ck (b4 _ s3).1, e_nn, v_gR w1 (b4 _ s3).1 rfl, e3, v_gR w1 hc1 rfl, e2, e_nn, v_aI (t := 0) w1 e2 rfl rfl (by rw [L1, hWL 2 (by omega)]; exact hin), i_cl (by omega), I1 6 2 _ _ (by decide) (by simp), s2]
        rw [e_nn, show vp_nar .boolean (0 : Int32) = 0 from rfl, v_sI (t := 1) (f := 3) w1 e3 rfl rfl (by rw [(b4 _ s3).2 3 (by omega) (by omega)]; exact i_in s4 (by omega)), i_cl (by omega), show Int32.ofNat j + (1 : Int32) = Int32.ofNat (j + 1) from i_add]
        have w2 : WF (wA h1 10 3 (N (S j)) (T j) 0) := w1.pA ⟨by decide, by decide⟩ (fun _ => Or.inl rfl) (fun e => by cases e)
        have al3 : 0 < AL h1 10 3 (N (S j)) := by rw [(b4 _ s3).2 3 (by omega) (by omega)]; omega
        refine ih (j + 1) _ (by omega) (by omega) (by omega) w2 (fun q => by rw [cl_wA]; exact k1 q) (fun ci f q => by rw [J_wA]; exact o1 ci f q) (fun ci f q => by rw [Rf_wA]; exact R1 ci f q) (fun ci f q => by rw [AL_wA]; exact L1 ci f q) (fun ci f q i => by rw [RA_wA]; exact A1 ci f q i) (fun ci f q i h3 hd => ?_) (fun s l hs => ?_) (V1.tr hW (VF.pA w1 (hG _ s3) (by decide)) (fun _ y => Or.inl y)) (by rw [wA_meta]; exact m1)
        · rw [Ar_wAn w1 (by decide) h3 (fun e => hd ⟨e.1, e.2.1⟩)]; exact I1 ci f q i h3 hd
        · rw [Ar_wA w1 ⟨by decide, by decide⟩ al3]
          by_cases e : N s = N (S j) ∧ l = T j
          · rw [if_pos e]
            have es := hinj _ _ hs s3 e.1
            exact ⟨fun _ => rfl, fun hne => absurd ⟨j, by omega, by omega, by omega, es.symm, e.2.symm⟩ hne⟩
          · rw [if_neg e]
            refine ⟨fun ⟨k, y1, y2, y3, y4, y5⟩ => (I3 s l hs).1 ⟨k, y1, y2, ?_, y4, y5⟩, fun hne => (I3 s l hs).2 (fun ⟨k, y1, y2, y3, y4, y5⟩ => hne ⟨k, y1, y2, by omega, y4, y5⟩)⟩
            by_cases z : k = j
            · subst z; exact absurd ⟨by rw [y4], y5.symm⟩ e
            · omega
  exact loop gFU 1 h (by omega) (by omega) (by unfold gFU; omega) hW (fun _ => rfl) (fun _ _ _ => rfl) (fun _ _ _ => rfl) (fun _ _ _ => rfl) (fun _ _ _ _ => rfl) (fun _ _ _ _ _ _ => rfl) (fun s l _ => ⟨fun ⟨k, y1, _, y3, _⟩ => by omega, fun _ => rfl⟩) VF.rf rfl
end GIVEUP
