/-! LEVEL 2: well-formedness is kept; own arrays' writes; new cells -/
section WFK
variable {h h' : g_AH} {a a' ci ci' f f' q t n i j : Nat} {x : Int32} {o : Option Nat} {v : Value} {α : Type} {G : (Nat → Option Nat) → Nat → Option Nat}
theorem okA_upd {k : Nat} {g : Nat → Int32} (hk : k ≤ 5) (hz : okA k (.inl g)) (h4 : k = 4 → x = 0 ∨ x = 1) (h5 : k = 5 → fits .byte (.int x) = true) : okA k (.inl (upd g i x)) := by
  unfold okA at hz ⊢
  rw [if_pos hk] at hz ⊢
  obtain ⟨g', e, h1, h2⟩ := hz
  cases e
  refine ⟨_, rfl, fun e j => ?_, fun e j => ?_⟩
  · unfold upd; split
    · exact h4 e
    · exact h1 e j
  · unfold upd; split
    · exact h5 e
    · exact h2 e j
theorem okV_mono {m m' : Nat → Option g_OB} {k : Nat} (hm : ∀ q n z, m q = some (.inl (tk k, n, z)) → okA k z → ∃ n' z', m' q = some (.inl (tk k, n', z')) ∧ okA k z') (hv : okV m k v) : okV m' k v := by
  unfold okV at hv ⊢
  split
  · rename_i h1; rw [if_pos h1] at hv; exact hv
  · rename_i h1
    rw [if_neg h1] at hv
    split
    · rename_i h2; rw [if_pos h2] at hv; exact hv
    · rename_i h2
      rw [if_neg h2] at hv
      split
      · rename_i h3; rw [if_pos h3] at hv; exact hv
      · rename_i h3
        rw [if_neg h3] at hv
        rcases hv with hv | ⟨q, n, z, e, hq, hz⟩
        · exact Or.inl hv
        · obtain ⟨n', z', e1, e2⟩ := hm q n z hq hz
          exact Or.inr ⟨q, n', z', e, e1, e2⟩
theorem g_n_wV : g_n (wV h ci f a v) = g_n h := by unfold g_n; rw [wV_meta]
theorem g_c_wV : g_c (wV h ci f a v) = g_c h := by unfold g_c; rw [wV_meta]
theorem g_s_wV : g_s (wV h ci f a v) = g_s h := by unfold g_s; rw [wV_meta]
theorem obj_wV {ci2 : Nat} {fs2 : List Value} (e2 : (wV h ci f a v).1 a' = some (.inr (ci2, fs2))) : ∃ fs, h.1 a' = some (.inr (ci2, fs)) ∧ (fs2 = fs ∨ (a' = a ∧ ci2 = ci ∧ fs2 = fs.set f v)) := by
  rcases wV_cases (h := h) (ci := ci) (f := f) (a := a) (v := v) with ⟨e, e1⟩ | ⟨fs, e0, e⟩
  · rw [e] at e2; exact ⟨fs2, e2, Or.inl rfl⟩
  · rw [e] at e2
    by_cases ha : a' = a
    · subst ha
      simp only [g_up, if_pos] at e2
      cases e2
      exact ⟨fs, e0, Or.inr ⟨rfl, rfl, rfl⟩⟩
    · simp only [g_up, if_neg ha] at e2
      exact ⟨fs2, e2, Or.inl rfl⟩
theorem WF.pV' (hW : WF h) (hv : okV h.1 (kd ci f) v) (hs : ∀ b c g b' c' g' q, 3 ≤ kd c g → 3 ≤ kd c' g' → Rf (wV h ci f a v) c g b = some q → Rf (wV h ci f a v) c' g' b' = some q → b = b' ∧ c = c' ∧ g = g') : WF (wV h ci f a v) := by
  have hm : ∀ k q n z, h.1 q = some (.inl (tk k, n, z)) → okA k z → ∃ n' z', (wV h ci f a v).1 q = some (.inl (tk k, n', z')) ∧ okA k z' := fun k q n z e hz => ⟨n, z, arr_wV.mpr e, hz⟩
  refine ⟨fun q y e => ?_, fun b c fs e => ?_, hs⟩
  · rw [g_n_wV]
    cases y with
    | inl y => exact hW.1 q _ (arr_wV.mp e)
    | inr y =>
      obtain ⟨c, fs⟩ := y
      obtain ⟨fs', e', -⟩ := obj_wV e
      exact hW.1 q _ e'
  · obtain ⟨fs', e', h1⟩ := obj_wV e
    obtain ⟨hl, hv'⟩ := hW.2.1 b c fs' e'
    rcases h1 with rfl | ⟨rfl, rfl, rfl⟩
    · exact ⟨hl, fun g w hg => okV_mono (fun q n z => hm _ q n z) (hv' g w hg)⟩
    · refine ⟨by rw [List.length_set]; exact hl, fun g w hg => ?_⟩
      rw [List.getElem?_set] at hg
      split at hg
      · rename_i hfg
        subst hfg
        split at hg
        · cases hg; exact okV_mono (fun q n z => hm _ q n z) hv
        · cases hg
      · exact okV_mono (fun q n z => hm _ q n z) (hv' g w hg)
theorem WF.pJ (hW : WF h) (hk : kd ci f = 1) : WF (wJ h ci f a x) := by
  refine hW.pV' (by unfold okV; rw [if_pos hk]; exact ⟨x, rfl⟩) fun b c g b' c' g' q h1 h2 e1 e2 => ?_
  have e1' := e1; have e2' := e2
  rw [show wV h ci f a (.int x) = wJ h ci f a x from rfl, Rf_wJ hk hW] at e1' e2'
  exact hW.2.2 b c g b' c' g' q h1 h2 e1' e2'
theorem WF.pR (hW : WF h) (hk : kd ci f = 2) : WF (wR h ci f a o) := by
  refine hW.pV' (by unfold okV; rw [if_neg (by omega), if_pos hk]; exact ⟨o, rfl⟩) fun b c g b' c' g' q h1 h2 e1 e2 => ?_
  have key : ∀ c g b, 3 ≤ kd c g → Rf (wV h ci f a (va_rf o)) c g b = Rf h c g b := fun c g b h3 => Rf_wRn (by
    cases e : (c == ci && g == f) with
    | false => rfl
    | true =>
      simp only [Bool.and_eq_true, beq_iff_eq] at e
      obtain ⟨rfl, rfl⟩ := e
      omega)
  rw [key _ _ _ h1] at e1
  rw [key _ _ _ h2] at e2
  exact hW.2.2 b c g b' c' g' q h1 h2 e1 e2
/-! views over wJ, wR -/
theorem cl_wJ : cl (wJ h ci f a x) a' = cl h a' := cl_wV
theorem cl_wR : cl (wR h ci f a o) a' = cl h a' := cl_wV
theorem Ar_wJ (hk : kd ci f = 1) (hW : WF h) : Ar (wJ h ci f a x) ci' f' a' i = Ar h ci' f' a' i := by
  unfold Ar; rw [Rf_wJ hk hW]; cases Rf h ci' f' a' with
  | none => rfl
  | some q => exact aI_wV
theorem AL_wJ (hk : kd ci f = 1) (hW : WF h) : AL (wJ h ci f a x) ci' f' a' = AL h ci' f' a' := by
  unfold AL; rw [Rf_wJ hk hW]; cases Rf h ci' f' a' with
  | none => rfl
  | some q => exact aL_wV
theorem RA_wJ (hk : kd ci f = 1) (hW : WF h) : RA (wJ h ci f a x) ci' f' a' i = RA h ci' f' a' i := by
  unfold RA; rw [Rf_wJ hk hW]; cases Rf h ci' f' a' with
  | none => rfl
  | some q => exact aR_wV
theorem Ar_wR (hd : (ci' == ci && f' == f) = false) : Ar (wR h ci f a o) ci' f' a' i = Ar h ci' f' a' i := by
  unfold Ar; rw [Rf_wRn hd]; cases Rf h ci' f' a' with
  | none => rfl
  | some q => exact aI_wV
theorem AL_wR (hd : (ci' == ci && f' == f) = false) : AL (wR h ci f a o) ci' f' a' = AL h ci' f' a' := by
  unfold AL; rw [Rf_wRn hd]; cases Rf h ci' f' a' with
  | none => rfl
  | some q => exact aL_wV
theorem RA_wR (hd : (ci' == ci && f' == f) = false) : RA (wR h ci f a o) ci' f' a' i = RA h ci' f' a' i := by
  unfold RA; rw [Rf_wRn hd]; cases Rf h ci' f' a' with
  | none => rfl
  | some q => exact aR_wV
/-! own arrays -/
/-- what a heap with one array's contents changed shows -/
theorem up_obj {y y0 : Nat × vp_A} (e : h.1 q = some (.inl y0)) {ci2 : Nat} {fs2 : List Value} : (g_up h q (.inl y)).1 a = some (.inr (ci2, fs2)) ↔ h.1 a = some (.inr (ci2, fs2)) := by
  by_cases ha : a = q
  · subst ha; rw [e]; simp [g_up]
  · simp [g_up, ha]
theorem fld_up {y y0 : Nat × vp_A} (e : h.1 q = some (.inl y0)) : fld (g_up h q (.inl y)) ci f a = fld h ci f a := by
  unfold fld
  by_cases ha : a = q
  · subst ha; rw [e]; simp [g_up]
  · simp [g_up, ha]
theorem cl_up {y y0 : Nat × vp_A} (e : h.1 q = some (.inl y0)) : cl (g_up h q (.inl y)) a = cl h a := by
  unfold cl
  by_cases ha : a = q
  · subst ha; rw [e]; simp [g_up]
  · simp [g_up, ha]
theorem WF.up (hW : WF h) {n' : Nat} {z z' : tZ} (e : h.1 q = some (.inl (t, n, z))) (hz : ∀ k, tk k = t → okA k z → okA k z') (hn : n' = n) : WF (g_up h q (.inl (t, n', z'))) := by
  subst hn
  have hR : ∀ c g b, Rf (g_up h q (.inl (t, n', z'))) c g b = Rf h c g b := fun c g b => by unfold Rf; rw [fld_up e]
  refine ⟨fun p y ep => ?_, fun b c fs eb => ?_, fun b c g b' c' g' p h1 h2 e1 e2 => ?_⟩
  · show p < g_n h
    by_cases hp : p = q
    · subst hp; exact hW.1 p _ e
    · simp only [g_up, if_neg hp] at ep; exact hW.1 p _ ep
  · obtain ⟨hl, hv⟩ := hW.2.1 b c fs ((up_obj e).mp eb)
    refine ⟨hl, fun g w hg => okV_mono (fun p m y ep hy => ?_) (hv g w hg)⟩
    by_cases hp : p = q
    · subst hp
      rw [e] at ep
      cases ep
      exact ⟨n', z', by simp [g_up], hz _ rfl hy⟩
    · exact ⟨m, y, by simp [g_up, hp, ep], hy⟩
  · rw [hR] at e1 e2
    exact hW.2.2 b c g b' c' g' p h1 h2 e1 e2
theorem wA_eq {g : Nat → Int32} (hr : Rf h ci f a = some q) (e : h.1 q = some (.inl (t, n, .inl g))) : wA h ci f a i x = g_up h q (.inl (t, n, .inl (upd g i x))) := by
  unfold wA; rw [hr]; simp only; rw [e]
theorem wG_eq {g : Nat → Option Nat} (hr : Rf h ci f a = some q) (e : h.1 q = some (.inl (t, n, .inr (.inr (.inr (.inr g)))))) : wG h ci f a G = g_up h q (.inl (t, n, .inr (.inr (.inr (.inr (G g)))))) := by
  unfold wG; rw [hr]; simp only; rw [e]
theorem wA_cases : wA h ci f a i x = h ∨ ∃ q t n g, Rf h ci f a = some q ∧ h.1 q = some (.inl (t, n, .inl g)) ∧ wA h ci f a i x = g_up h q (.inl (t, n, .inl (upd g i x))) := by
  cases e : Rf h ci f a with
  | none => left; unfold wA; rw [e]
  | some q =>
    by_cases hq : ∃ t n g, h.1 q = some (.inl (t, n, .inl g))
    · obtain ⟨t, n, g, e1⟩ := hq
      exact Or.inr ⟨q, t, n, g, rfl, e1, wA_eq e e1⟩
    · left; unfold wA; rw [e]; simp only
      split
      · rename_i t n g e1; exact absurd ⟨t, n, g, e1⟩ hq
      · rfl
theorem wG_cases : wG h ci f a G = h ∨ ∃ q t n g, Rf h ci f a = some q ∧ h.1 q = some (.inl (t, n, .inr (.inr (.inr (.inr g))))) ∧ wG h ci f a G = g_up h q (.inl (t, n, .inr (.inr (.inr (.inr (G g)))))) := by
  cases e : Rf h ci f a with
  | none => left; unfold wG; rw [e]
  | some q =>
    by_cases hq : ∃ t n g, h.1 q = some (.inl (t, n, .inr (.inr (.inr (.inr g)))))
    · obtain ⟨t, n, g, e1⟩ := hq
      exact Or.inr ⟨q, t, n, g, rfl, e1, wG_eq e e1⟩
    · left; unfold wG; rw [e]; simp only
      split
      · rename_i t n g e1; exact absurd ⟨t, n, g, e1⟩ hq
      · rfl
theorem wA_meta : (wA h ci f a i x).2 = h.2 := by
  rcases wA_cases (h := h) (ci := ci) (f := f) (a := a) (i := i) (x := x) with e | ⟨q, t, n, g, -, -, e⟩ <;> rw [e]
  rfl
theorem wG_meta : (wG h ci f a G).2 = h.2 := by
  rcases wG_cases (h := h) (ci := ci) (f := f) (a := a) (G := G) with e | ⟨q, t, n, g, -, -, e⟩ <;> rw [e]
  rfl
theorem fld_wA : fld (wA h ci f a i x) ci' f' a' = fld h ci' f' a' := by
  rcases wA_cases (h := h) (ci := ci) (f := f) (a := a) (i := i) (x := x) with e | ⟨q, t, n, g, -, e0, e⟩ <;> rw [e]
  exact fld_up e0
theorem fld_wG : fld (wG h ci f a G) ci' f' a' = fld h ci' f' a' := by
  rcases wG_cases (h := h) (ci := ci) (f := f) (a := a) (G := G) with e | ⟨q, t, n, g, -, e0, e⟩ <;> rw [e]
  exact fld_up e0
theorem cl_wA : cl (wA h ci f a i x) a' = cl h a' := by
  rcases wA_cases (h := h) (ci := ci) (f := f) (a := a) (i := i) (x := x) with e | ⟨q, t, n, g, -, e0, e⟩ <;> rw [e]
  exact cl_up e0
theorem cl_wG : cl (wG h ci f a G) a' = cl h a' := by
  rcases wG_cases (h := h) (ci := ci) (f := f) (a := a) (G := G) with e | ⟨q, t, n, g, -, e0, e⟩ <;> rw [e]
  exact cl_up e0
theorem J_wA : J (wA h ci f a i x) ci' f' a' = J h ci' f' a' := by unfold J; rw [fld_wA]
theorem Rf_wA : Rf (wA h ci f a i x) ci' f' a' = Rf h ci' f' a' := by unfold Rf; rw [fld_wA]
theorem J_wG : J (wG h ci f a G) ci' f' a' = J h ci' f' a' := by unfold J; rw [fld_wG]
theorem Rf_wG : Rf (wG h ci f a G) ci' f' a' = Rf h ci' f' a' := by unfold Rf; rw [fld_wG]
theorem AL_wA : AL (wA h ci f a i x) ci' f' a' = AL h ci' f' a' := by
  unfold AL; rw [Rf_wA]
  rcases wA_cases (h := h) (ci := ci) (f := f) (a := a) (i := i) (x := x) with e | ⟨q, t, n, g, -, e0, e⟩ <;> rw [e]
  cases Rf h ci' f' a' with
  | none => rfl
  | some p =>
    show aL _ p = aL h p
    unfold aL
    by_cases hp : p = q
    · subst hp; rw [e0]; simp [g_up]
    · simp [g_up, hp]
theorem AL_wG : AL (wG h ci f a G) ci' f' a' = AL h ci' f' a' := by
  unfold AL; rw [Rf_wG]
  rcases wG_cases (h := h) (ci := ci) (f := f) (a := a) (G := G) with e | ⟨q, t, n, g, -, e0, e⟩ <;> rw [e]
  cases Rf h ci' f' a' with
  | none => rfl
  | some p =>
    show aL _ p = aL h p
    unfold aL
    by_cases hp : p = q
    · subst hp; rw [e0]; simp [g_up]
    · simp [g_up, hp]
theorem RA_wA : RA (wA h ci f a i x) ci' f' a' j = RA h ci' f' a' j := by
  unfold RA; rw [Rf_wA]
  rcases wA_cases (h := h) (ci := ci) (f := f) (a := a) (i := i) (x := x) with e | ⟨q, t, n, g, -, e0, e⟩ <;> rw [e]
  cases Rf h ci' f' a' with
  | none => rfl
  | some p =>
    show aR _ p j = aR h p j
    unfold aR
    by_cases hp : p = q
    · subst hp; rw [e0]; simp [g_up]
    · simp [g_up, hp]
theorem Ar_wG : Ar (wG h ci f a G) ci' f' a' j = Ar h ci' f' a' j := by
  unfold Ar; rw [Rf_wG]
  rcases wG_cases (h := h) (ci := ci) (f := f) (a := a) (G := G) with e | ⟨q, t, n, g, -, e0, e⟩ <;> rw [e]
  cases Rf h ci' f' a' with
  | none => rfl
  | some p =>
    show aI _ p j = aI h p j
    unfold aI
    by_cases hp : p = q
    · subst hp; rw [e0]; simp [g_up]
    · simp [g_up, hp]
theorem Ar_wAn (hW : WF h) (h3 : 3 ≤ kd ci f) (h3' : 3 ≤ kd ci' f') (hd : ¬ (ci' = ci ∧ f' = f ∧ a' = a)) : Ar (wA h ci f a i x) ci' f' a' j = Ar h ci' f' a' j := by
  unfold Ar; rw [Rf_wA]
  rcases wA_cases (h := h) (ci := ci) (f := f) (a := a) (i := i) (x := x) with e | ⟨q, t, n, g, er, e0, e⟩ <;> rw [e]
  cases er' : Rf h ci' f' a' with
  | none => rfl
  | some p =>
    show aI _ p j = aI h p j
    unfold aI
    by_cases hp : p = q
    · subst hp
      obtain ⟨r1, r2, r3⟩ := hW.2.2 _ _ _ _ _ _ _ h3 h3' er er'
      exact absurd ⟨r2.symm, r3.symm, r1.symm⟩ hd
    · simp [g_up, hp]
theorem Ar_wAs (hW : WF h) (hk : 3 ≤ kd ci f ∧ kd ci f ≤ 5) (h0 : 0 < AL h ci f a) : Ar (wA h ci f a i x) ci f a j = if j = i then x else Ar h ci f a j := by
  obtain ⟨q, hr⟩ := AL_ref rfl h0
  obtain ⟨n, z, e0, hz⟩ := hW.arr hr hk.1 (by omega)
  obtain ⟨g, rfl⟩ := okA_int hk.2 hz
  rw [wA_eq hr e0, Ar_of hr e0]
  have hr' : Rf (g_up h q (.inl (tk (kd ci f), n, .inl (upd g i x)))) ci f a = some q := by unfold Rf; rw [fld_up e0]; exact hr
  rw [Ar_of (n := n) (t' := tk (kd ci f)) (g := upd g i x) hr' (by simp [g_up])]
  rfl
theorem RA_wGn (hW : WF h) (h3 : 3 ≤ kd ci f) (h3' : 3 ≤ kd ci' f') (hd : ¬ (ci' = ci ∧ f' = f ∧ a' = a)) : RA (wG h ci f a G) ci' f' a' j = RA h ci' f' a' j := by
  unfold RA; rw [Rf_wG]
  rcases wG_cases (h := h) (ci := ci) (f := f) (a := a) (G := G) with e | ⟨q, t, n, g, er, e0, e⟩ <;> rw [e]
  cases er' : Rf h ci' f' a' with
  | none => rfl
  | some p =>
    show aR _ p j = aR h p j
    unfold aR
    by_cases hp : p = q
    · subst hp
      obtain ⟨r1, r2, r3⟩ := hW.2.2 _ _ _ _ _ _ _ h3 h3' er er'
      exact absurd ⟨r2.symm, r3.symm, r1.symm⟩ hd
    · simp [g_up, hp]
theorem RA_wGs (hW : WF h) (hk : 6 ≤ kd ci f ∧ kd ci f ≤ 8) (h0 : 0 < AL h ci f a) : RA (wG h ci f a G) ci f a j = G (RA h ci f a) j := by
  obtain ⟨q, hr⟩ := AL_ref rfl h0
  obtain ⟨n, z, e0, hz⟩ := hW.arr hr (by omega) hk.2
  obtain ⟨g, rfl⟩ := okA_ref hk.1 hz
  rw [wG_eq hr e0, RA_of hr e0]
  have hr' : Rf (g_up h q (.inl (tk (kd ci f), n, .inr (.inr (.inr (.inr (G g))))))) ci f a = some q := by unfold Rf; rw [fld_up e0]; exact hr
  rw [RA_of (n := n) (t' := tk (kd ci f)) (g := G g) hr' (by simp [g_up])]
theorem WF.pA (hW : WF h) (hk : 3 ≤ kd ci f ∧ kd ci f ≤ 5) (h4 : kd ci f = 4 → x = 0 ∨ x = 1) (h5 : kd ci f = 5 → fits .byte (.int x) = true) : WF (wA h ci f a i x) := by
  cases er : Rf h ci f a with
  | none =>
    have : wA h ci f a i x = h := by unfold wA; rw [er]
    rw [this]; exact hW
  | some q =>
    obtain ⟨n, z, e0, hz⟩ := hW.arr er hk.1 (by omega)
    obtain ⟨g, rfl⟩ := okA_int hk.2 hz
    rw [wA_eq er e0]
    refine hW.up e0 (fun k ek hz' => ?_) rfl
    by_cases hk5 : k ≤ 5
    · by_cases hk3 : 3 ≤ k
      · have : k = kd ci f := by
          unfold tk at ek
          rw [if_pos hk5, if_pos hk.2] at ek
          omega
        subst this
        exact okA_upd hk.2 hz' h4 h5
      · exact okA_upd hk5 hz' (fun e => by omega) (fun e => by omega)
    · obtain ⟨g', e'⟩ := okA_ref (by omega) hz'
      cases e'
theorem WF.pG (hW : WF h) (hk : 6 ≤ kd ci f ∧ kd ci f ≤ 8) : WF (wG h ci f a G) := by
  cases er : Rf h ci f a with
  | none =>
    have : wG h ci f a G = h := by unfold wG; rw [er]
    rw [this]; exact hW
  | some q =>
    obtain ⟨n, z, e0, hz⟩ := hW.arr er (by omega) hk.2
    obtain ⟨g, rfl⟩ := okA_ref hk.1 hz
    rw [wG_eq er e0]
    refine hW.up e0 (fun k ek hz' => ?_) rfl
    by_cases hk5 : k ≤ 5
    · obtain ⟨g', e'⟩ := okA_int hk5 hz'
      cases e'
    · unfold okA; rw [if_neg hk5]; exact ⟨_, rfl⟩
theorem v_sI (hW : WF h) {k : g_AH → Option α} {p : Int32} (hr : Rf h ci f a = some q) (hk : (3 ≤ kd ci f && kd ci f ≤ 5) = true) (ht : kd ci f - 3 = t) (hi : vp_in p (AL h ci f a)) : g_sI h t q p x k = k (wA h ci f a p.toNatClampNeg x) := by
  have hk' : 3 ≤ kd ci f ∧ kd ci f ≤ 5 := by simpa using hk
  obtain ⟨n, z, e, hz⟩ := hW.arr hr hk'.1 (by omega)
  obtain ⟨g, rfl⟩ := okA_int hk'.2 hz
  have htk : tk (kd ci f) = t := by unfold tk; rw [if_pos hk'.2]; exact ht
  rw [htk] at e
  rw [AL_of hr e] at hi
  rw [e_sI e hi, wA_eq hr e]
theorem v_sA (hW : WF h) {k : g_AH → Option α} {p : Int32} (hr : Rf h ci f a = some q) (hk : (6 ≤ kd ci f && kd ci f ≤ 8) = true) (ht : kd ci f - 1 = t) (hi : vp_in p (AL h ci f a)) (ho : g_okE h t o = true) : g_sA h t q p o k = k (wG h ci f a (fun g => va_up g p.toNatClampNeg o)) := by
  have hk' : 6 ≤ kd ci f ∧ kd ci f ≤ 8 := by simpa using hk
  obtain ⟨n, z, e, hz⟩ := hW.arr hr (by omega) hk'.2
  obtain ⟨g, rfl⟩ := okA_ref hk'.1 hz
  have htk : tk (kd ci f) = t := by unfold tk; rw [if_neg (by omega)]; exact ht
  rw [htk] at e
  rw [AL_of hr e] at hi
  rw [e_sA e hi ho, wG_eq hr e]
theorem okE_of {b : Nat} {c : Nat} (hc : cl h b = some c) (hg : gCast t c = true) : g_okE h t (some b) = true := by
  obtain ⟨fs, e⟩ := cl_cell hc
  unfold g_okE; simp only; rw [v_look e]; exact hg
end WFK
