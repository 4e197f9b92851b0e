/-! LEVEL 2: new objects, new own arrays, frames -/
def dF (ci : Nat) : List Value := (kdL ci).map (fun k => if k = 1 then .int 0 else if k = 9 then .long 0 else .null)
def nO (h : g_AH) (ci sz : Nat) : g_AH := g_al h (.inr (ci, dF ci)) sz
/-- a new array that becomes an own array at once -/
def nZ (h : g_AH) (ci f a t n : Nat) (z : tZ) : g_AH := wV (g_al h (.inl (t, n, z)) n) ci f a (.ref (g_n h))
section NEWS
variable {h h' h1 : g_AH} {a a' b ci ci' f f' q t n i j sz : Nat} {x : Int32} {o : Option Nat} {v : Value} {z : tZ} {α : Type} {O O1 : Nat → Prop} {G : (Nat → Option Nat) → Nat → Option Nat}
theorem WF.nocell (hW : WF h) (hq : g_n h ≤ q) : h.1 q = none := by
  cases e : h.1 q with
  | none => rfl
  | some y => exact absurd (hW.1 q y e) (by omega)
theorem WF.cl_lt (hW : WF h) (hc : cl h a = some ci) : a < g_n h := by
  obtain ⟨fs, e⟩ := cl_cell hc
  exact hW.1 a _ e
theorem WF.cl_none (hW : WF h) (hq : g_n h ≤ q) : cl h q = none := by unfold cl; rw [hW.nocell hq]
theorem WF.own_lt (hW : WF h) (h3 : 3 ≤ kd ci f) (h8 : kd ci f ≤ 8) (hr : Rf h ci f a = some q) : q < g_n h := by
  obtain ⟨n, z, e, -⟩ := hW.arr hr h3 h8
  exact hW.1 q _ e
theorem kd_le9 : kd ci f ≤ 9 := by
  unfold kd
  cases e : (kdL ci)[f]? with
  | none => exact Nat.zero_le _
  | some k =>
    have h1 := List.mem_of_getElem? e
    have h2 : ∀ l ∈ kdT, ∀ k ∈ l, k ≤ 9 := by decide
    unfold kdL at h1
    cases e2 : kdT[ci]? with
    | none => rw [e2] at h1; cases h1
    | some l => rw [e2] at h1; exact h2 l (List.mem_of_getElem? e2) k h1
theorem Rf_long (hW : WF h) (hk : kd ci f = 9) : Rf h ci f a = none := by
  cases e : Rf h ci f a with
  | none => rfl
  | some q =>
    obtain ⟨w, e1, e2⟩ := hW.fldv (Rf_cl e) (by omega : kd ci f ≠ 0)
    unfold okV at e2
    rw [if_neg (by omega), if_neg (by omega), if_pos hk] at e2
    obtain ⟨y, rfl⟩ := e2
    unfold Rf at e
    rw [e1] at e
    cases e
theorem WF.own_lt' (hW : WF h) (h3 : 3 ≤ kd ci f) (hr : Rf h ci f a = some q) : q < g_n h := by
  by_cases h8 : kd ci f ≤ 8
  · exact hW.own_lt h3 h8 hr
  · have := kd_le9 (ci := ci) (f := f)
    rw [Rf_long hW (by omega)] at hr
    cases hr
theorem al_at {c : g_OB} : (g_al h c sz).1 q = if q = g_n h then some c else h.1 q := rfl
theorem okV_al {c : g_OB} (hW : WF h) {k : Nat} (hv : okV h.1 k v) : okV (g_al h c sz).1 k v := by
  refine okV_mono (fun p m y ep hy => ⟨m, y, ?_, hy⟩) hv
  rw [al_at, if_neg]
  · exact ep
  · intro e; rw [e, hW.nocell (Nat.le_refl _)] at ep; cases ep
theorem dF_vI : vI ((dF ci)[f]?) = 0 := by
  unfold dF
  rw [List.getElem?_map]
  cases (kdL ci)[f]? with
  | none => rfl
  | some k => simp only [Option.map_some]; split <;> (try rfl); split <;> rfl
theorem dF_vR : vR ((dF ci)[f]?) = none := by
  unfold dF
  rw [List.getElem?_map]
  cases (kdL ci)[f]? with
  | none => rfl
  | some k => simp only [Option.map_some]; split <;> (try rfl); split <;> rfl
theorem cl_nO : cl (nO h ci sz) a = if a = g_n h then some ci else cl h a := by
  unfold cl nO; rw [al_at]
  by_cases ha : a = g_n h
  · simp [ha]
  · simp [ha]
theorem fld_nO : fld (nO h ci sz) ci' f' a' = if a' = g_n h then (if ci = ci' then (dF ci)[f']? else none) else fld h ci' f' a' := by
  unfold fld nO; rw [al_at]
  by_cases ha : a' = g_n h
  · simp [ha]
  · simp [ha]
theorem fld_none (hW : WF h) : fld h ci f (g_n h) = none := by unfold fld; rw [hW.nocell (Nat.le_refl _)]
theorem J_nO (hW : WF h) : J (nO h ci sz) ci' f' a' = J h ci' f' a' := by
  unfold J; rw [fld_nO]
  by_cases ha : a' = g_n h
  · subst ha; rw [if_pos rfl, fld_none hW]
    split
    · exact dF_vI
    · rfl
  · rw [if_neg ha]
theorem Rf_nO (hW : WF h) : Rf (nO h ci sz) ci' f' a' = Rf h ci' f' a' := by
  unfold Rf; rw [fld_nO]
  by_cases ha : a' = g_n h
  · subst ha; rw [if_pos rfl, fld_none hW]
    split
    · exact dF_vR
    · rfl
  · rw [if_neg ha]
theorem aI_nO (hW : WF h) : aI (nO h ci sz) q i = aI h q i := by
  unfold aI nO; rw [al_at]
  by_cases ha : q = g_n h
  · subst ha; rw [hW.nocell (Nat.le_refl _)]; simp
  · simp [ha]
theorem aL_nO (hW : WF h) : aL (nO h ci sz) q = aL h q := by
  unfold aL nO; rw [al_at]
  by_cases ha : q = g_n h
  · subst ha; rw [hW.nocell (Nat.le_refl _)]; simp
  · simp [ha]
theorem aR_nO (hW : WF h) : aR (nO h ci sz) q i = aR h q i := by
  unfold aR nO; rw [al_at]
  by_cases ha : q = g_n h
  · subst ha; rw [hW.nocell (Nat.le_refl _)]; simp
  · simp [ha]
theorem Ar_nO (hW : WF h) : Ar (nO h ci sz) ci' f' a' i = Ar h ci' f' a' i := by
  unfold Ar; rw [Rf_nO hW]; cases Rf h ci' f' a' with
  | none => rfl
  | some q => exact aI_nO hW
theorem AL_nO (hW : WF h) : AL (nO h ci sz) ci' f' a' = AL h ci' f' a' := by
  unfold AL; rw [Rf_nO hW]; cases Rf h ci' f' a' with
  | none => rfl
  | some q => exact aL_nO hW
theorem RA_nO (hW : WF h) : RA (nO h ci sz) ci' f' a' i = RA h ci' f' a' i := by
  unfold RA; rw [Rf_nO hW]; cases Rf h ci' f' a' with
  | none => rfl
  | some q => exact aR_nO hW
theorem WF.pO (hW : WF h) : WF (nO h ci sz) := by
  refine ⟨fun q y e => ?_, fun b c fs e => ?_, fun b c g b' c' g' q h1 h2 e1 e2 => ?_⟩
  · show q < g_n h + 1
    unfold nO at e; rw [al_at] at e
    by_cases hq : q = g_n h
    · omega
    · rw [if_neg hq] at e; have := hW.1 q y e; omega
  · unfold nO at e; rw [al_at] at e
    by_cases hq : b = g_n h
    · rw [if_pos hq] at e
      cases e
      refine ⟨by unfold dF nf; rw [List.length_map], fun g w hg => ?_⟩
      unfold dF at hg
      rw [List.getElem?_map] at hg
      cases ek : (kdL ci)[g]? with
      | none => rw [ek] at hg; cases hg
      | some k =>
        rw [ek] at hg
        have hk : kd ci g = k := by unfold kd; rw [ek]; rfl
        rw [hk]
        simp only [Option.map_some, Option.some.injEq] at hg
        subst hg
        unfold okV
        by_cases k1 : k = 1
        · simp only [k1, if_true]; exact ⟨0, rfl⟩
        · by_cases k9 : k = 9
          · simp [k9]
          · simp only [if_neg k1, if_neg k9]
            by_cases k2 : k = 2
            · rw [if_pos k2]; exact ⟨none, rfl⟩
            · rw [if_neg k2]; exact Or.inl trivial
    · rw [if_neg hq] at e
      obtain ⟨hl, hv⟩ := hW.2.1 b c fs e
      exact ⟨hl, fun g w hg => okV_al hW (hv g w hg)⟩
  · rw [Rf_nO hW] at e1 e2
    exact hW.2.2 b c g b' c' g' q h1 h2 e1 e2
theorem v_mk {k : Nat → g_AH → Option α} {fs : List Value} (e : fs = dF ci) : g_mk h (.inr (ci, fs)) sz k = k (g_n h) (nO h ci sz) := by subst e; rfl
theorem g_n_nO : g_n (nO h ci sz) = g_n h + 1 := rfl
theorem g_c_nO : g_c (nO h ci sz) = g_c h + 1 := rfl
theorem g_s_nO : g_s (nO h ci sz) = g_s h + sz := rfl
/-! a new own array -/
theorem fld_ar (hW : WF h) : fld (g_al h (.inl (t, n, z)) n) ci' f' a' = fld h ci' f' a' := by
  unfold fld; rw [al_at]
  by_cases ha : a' = g_n h
  · subst ha; rw [if_pos rfl, hW.nocell (Nat.le_refl _)]
  · rw [if_neg ha]
theorem cl_ar (hW : WF h) : cl (g_al h (.inl (t, n, z)) n) a' = cl h a' := by
  unfold cl; rw [al_at]
  by_cases ha : a' = g_n h
  · subst ha; rw [if_pos rfl, hW.nocell (Nat.le_refl _)]
  · rw [if_neg ha]
theorem cl_nZ (hW : WF h) : cl (nZ h ci f a t n z) a' = cl h a' := by unfold nZ; rw [cl_wV, cl_ar hW]
theorem fld_nZ (hW : WF h) : fld (nZ h ci f a t n z) ci' f' a' = if (ci' = ci ∧ f' = f ∧ a' = a) ∧ (fld h ci f a).isSome = true then some (.ref (g_n h)) else fld h ci' f' a' := by
  unfold nZ; rw [fld_wV, fld_ar hW, fld_ar hW]
theorem J_nZ (hW : WF h) (h3 : 3 ≤ kd ci f) (h8 : kd ci f ≤ 8) : J (nZ h ci f a t n z) ci' f' a' = J h ci' f' a' := by
  unfold J; rw [fld_nZ hW]
  split
  · rename_i hc
    obtain ⟨⟨rfl, rfl, rfl⟩, hs⟩ := hc
    obtain ⟨y, e⟩ := Option.isSome_iff_exists.mp hs
    rw [(hW.own (fld_cl e) h3 h8).1]
    cases Rf h ci' f' a' <;> rfl
  · rfl
theorem Rf_nZ (hW : WF h) (hc : cl h a = some ci) (h3 : 3 ≤ kd ci f) (h8 : kd ci f ≤ 8) : Rf (nZ h ci f a t n z) ci' f' a' = if ci' = ci ∧ f' = f ∧ a' = a then some (g_n h) else Rf h ci' f' a' := by
  unfold Rf; rw [fld_nZ hW, (hW.own hc h3 h8).1]
  by_cases hd : ci' = ci ∧ f' = f ∧ a' = a
  · rw [if_pos ⟨hd, rfl⟩, if_pos hd]; rfl
  · rw [if_neg (fun q => hd q.1), if_neg hd]
theorem at_nZ : q ≠ a → (nZ h ci f a t n z).1 q = if q = g_n h then some (.inl (t, n, z)) else h.1 q := by
  intro hq
  unfold nZ
  rcases wV_cases (h := g_al h (.inl (t, n, z)) n) (ci := ci) (f := f) (a := a) (v := .ref (g_n h)) with ⟨e, -⟩ | ⟨fs, -, e⟩ <;> rw [e]
  · exact al_at
  · simp only [g_up, if_neg hq]; exact al_at
theorem nZ_old (hW : WF h) (hc : cl h a = some ci) {y : Nat × vp_A} (e : h.1 q = some (.inl y)) : (nZ h ci f a t n z).1 q = some (.inl y) := by
  have hq : q ≠ a := by
    intro e2; subst e2
    obtain ⟨fs, e3⟩ := cl_cell hc
    rw [e] at e3; cases e3
  rw [at_nZ hq, if_neg]
  · exact e
  · intro e2; rw [e2, hW.nocell (Nat.le_refl _)] at e; cases e
theorem nZ_new (hW : WF h) (hc : cl h a = some ci) : (nZ h ci f a t n z).1 (g_n h) = some (.inl (t, n, z)) := by
  rw [at_nZ, if_pos rfl]
  intro e
  have := hW.cl_lt hc
  omega
theorem aLIR_old (hW : WF h) (hc : cl h a = some ci) {n0 t0 : Nat} {z0 : tZ} (e : h.1 q = some (.inl (t0, n0, z0))) : aL (nZ h ci f a t n z) q = aL h q ∧ (∀ i, aI (nZ h ci f a t n z) q i = aI h q i) ∧ ∀ i, aR (nZ h ci f a t n z) q i = aR h q i := by
  have e1 := nZ_old (f := f) (t := t) (n := n) (z := z) hW hc e
  exact ⟨by unfold aL; rw [e1, e], fun i => by unfold aI; rw [e1, e], fun i => by unfold aR; rw [e1, e]⟩
theorem AL_nZ (hW : WF h) (hc : cl h a = some ci) (h3 : 3 ≤ kd ci f) (h8 : kd ci f ≤ 8) (h3' : 3 ≤ kd ci' f') (h8' : kd ci' f' ≤ 8) : AL (nZ h ci f a t n z) ci' f' a' = if ci' = ci ∧ f' = f ∧ a' = a then n else AL h ci' f' a' := by
  unfold AL; rw [Rf_nZ hW hc h3 h8]
  by_cases hd : ci' = ci ∧ f' = f ∧ a' = a
  · rw [if_pos hd, if_pos hd]
    show aL _ (g_n h) = n
    unfold aL; rw [nZ_new hW hc]
  · rw [if_neg hd, if_neg hd]
    cases er : Rf h ci' f' a' with
    | none => rfl
    | some q =>
      obtain ⟨m, y, e, -⟩ := hW.arr er h3' h8'
      exact (aLIR_old hW hc e).1
theorem Ar_nZ {g : Nat → Int32} (hW : WF h) (hc : cl h a = some ci) (h3 : 3 ≤ kd ci f) (h8 : kd ci f ≤ 8) (h3' : 3 ≤ kd ci' f') (h8' : kd ci' f' ≤ 8) : Ar (nZ h ci f a t n (.inl g)) ci' f' a' i = if ci' = ci ∧ f' = f ∧ a' = a then g i else Ar h ci' f' a' i := by
  unfold Ar; rw [Rf_nZ hW hc h3 h8]
  by_cases hd : ci' = ci ∧ f' = f ∧ a' = a
  · rw [if_pos hd, if_pos hd]
    show aI _ (g_n h) i = g i
    unfold aI; rw [nZ_new hW hc]
  · rw [if_neg hd, if_neg hd]
    cases er : Rf h ci' f' a' with
    | none => rfl
    | some q =>
      obtain ⟨m, y, e, -⟩ := hW.arr er h3' h8'
      exact (aLIR_old hW hc e).2.1 i
theorem RA_nZ {g : Nat → Option Nat} (hW : WF h) (hc : cl h a = some ci) (h3 : 3 ≤ kd ci f) (h8 : kd ci f ≤ 8) (h3' : 3 ≤ kd ci' f') (h8' : kd ci' f' ≤ 8) : RA (nZ h ci f a t n (.inr (.inr (.inr (.inr g))))) ci' f' a' i = if ci' = ci ∧ f' = f ∧ a' = a then g i else RA h ci' f' a' i := by
  unfold RA; rw [Rf_nZ hW hc h3 h8]
  by_cases hd : ci' = ci ∧ f' = f ∧ a' = a
  · rw [if_pos hd, if_pos hd]
    show aR _ (g_n h) i = g i
    unfold aR; rw [nZ_new hW hc]
  · rw [if_neg hd, if_neg hd]
    cases er : Rf h ci' f' a' with
    | none => rfl
    | some q =>
      obtain ⟨m, y, e, -⟩ := hW.arr er h3' h8'
      exact (aLIR_old hW hc e).2.2 i
/-- the other arrays' sort is left -/
theorem Ar_nZo (hW : WF h) (hc : cl h a = some ci) (h3 : 3 ≤ kd ci f) (h8 : kd ci f ≤ 8) (h3' : 3 ≤ kd ci' f') (h8' : kd ci' f' ≤ 8) (hd : ¬ (ci' = ci ∧ f' = f ∧ a' = a)) : Ar (nZ h ci f a t n z) ci' f' a' i = Ar h ci' f' a' i := by
  unfold Ar; rw [Rf_nZ hW hc h3 h8, if_neg hd]
  cases er : Rf h ci' f' a' with
  | none => rfl
  | some q =>
    obtain ⟨m, y, e, -⟩ := hW.arr er h3' h8'
    exact (aLIR_old hW hc e).2.1 i
theorem RA_nZo (hW : WF h) (hc : cl h a = some ci) (h3 : 3 ≤ kd ci f) (h8 : kd ci f ≤ 8) (h3' : 3 ≤ kd ci' f') (h8' : kd ci' f' ≤ 8) (hd : ¬ (ci' = ci ∧ f' = f ∧ a' = a)) : RA (nZ h ci f a t n z) ci' f' a' i = RA h ci' f' a' i := by
  unfold RA; rw [Rf_nZ hW hc h3 h8, if_neg hd]
  cases er : Rf h ci' f' a' with
  | none => rfl
  | some q =>
    obtain ⟨m, y, e, -⟩ := hW.arr er h3' h8'
    exact (aLIR_old hW hc e).2.2 i
theorem g_n_nZ : g_n (nZ h ci f a t n z) = g_n h + 1 := by unfold nZ; rw [g_n_wV]; rfl
theorem g_c_nZ : g_c (nZ h ci f a t n z) = g_c h + 1 := by unfold nZ; rw [g_c_wV]; rfl
theorem g_s_nZ : g_s (nZ h ci f a t n z) = g_s h + n := by unfold nZ; rw [g_s_wV]; rfl
theorem nZ_meta : (nZ h ci f a t n z).2.2 = h.2.2 := by unfold nZ; rw [wV_meta]; rfl
theorem WF.pZ (hW : WF h) (hc : cl h a = some ci) (h3 : 3 ≤ kd ci f) (h8 : kd ci f ≤ 8) (ht : tk (kd ci f) = t) (hz : okA (kd ci f) z) : WF (nZ h ci f a t n z) := by
  have hm : ∀ k q n0 z0, h.1 q = some (.inl (tk k, n0, z0)) → okA k z0 → ∃ n' z', (nZ h ci f a t n z).1 q = some (.inl (tk k, n', z')) ∧ okA k z' := fun k q n0 z0 e hz0 => ⟨n0, z0, nZ_old hW hc e, hz0⟩
  have hr : okV (nZ h ci f a t n z).1 (kd ci f) (.ref (g_n h)) := by
    unfold okV
    rw [if_neg (by omega), if_neg (by omega), if_neg (by omega)]
    exact Or.inr ⟨g_n h, n, z, rfl, by rw [ht]; exact nZ_new hW hc, hz⟩
  refine ⟨fun q y e => ?_, fun b c fs e => ?_, fun b c g b' c' g' q h1 h2 e1 e2 => ?_⟩
  · rw [g_n_nZ]
    by_cases hq : q = a
    · subst hq; have := hW.cl_lt hc; omega
    · rw [at_nZ hq] at e
      by_cases hq2 : q = g_n h
      · omega
      · rw [if_neg hq2] at e; have := hW.1 q y e; omega
  · have e0 := e
    unfold nZ at e
    obtain ⟨fs', e', h1⟩ := obj_wV e
    have e'' : h.1 b = some (.inr (c, fs')) := by
      rw [al_at] at e'
      by_cases hq : b = g_n h
      · rw [if_pos hq] at e'; cases e'
      · rw [if_neg hq] at e'; exact e'
    obtain ⟨hl, hv'⟩ := hW.2.1 b c fs' e''
    rcases h1 with rfl | ⟨rfl, rfl, rfl⟩
    · exact ⟨hl, fun g w hg => okV_mono (fun q n z => hm _ q n z) (hv' g w hg)⟩
    · refine ⟨by rw [List.length_set]; exact hl, fun g w hg => ?_⟩
      rw [List.getElem?_set] at hg
      split at hg
      · rename_i hfg
        subst hfg
        split at hg
        · cases hg; exact hr
        · cases hg
      · exact okV_mono (fun q n z => hm _ q n z) (hv' g w hg)
  · rw [Rf_nZ hW hc h3 h8] at e1 e2
    by_cases d1 : c = ci ∧ g = f ∧ b = a
    · rw [if_pos d1] at e1
      by_cases d2 : c' = ci ∧ g' = f ∧ b' = a
      · obtain ⟨rfl, rfl, rfl⟩ := d1; obtain ⟨rfl, rfl, rfl⟩ := d2; exact ⟨rfl, rfl, rfl⟩
      · rw [if_neg d2] at e2
        cases e1
        have := hW.own_lt' h2 e2
        omega
    · rw [if_neg d1] at e1
      by_cases d2 : c' = ci ∧ g' = f ∧ b' = a
      · rw [if_pos d2] at e2
        cases e2
        have := hW.own_lt' h1 e1
        omega
      · rw [if_neg d2] at e2
        exact hW.2.2 b c g b' c' g' q h1 h2 e1 e2
theorem e_pF_nZ {k : g_AH → Option α} (hW : WF h) (hc : cl h a = some ci) (h3 : 3 ≤ kd ci f) : g_pF (g_al h (.inl (t, n, z)) n) a ci f (.ref (g_n h)) k = k (nZ h ci f a t n z) := by
  obtain ⟨fs, e, hl, -⟩ := hW.cell hc
  have e1 : (g_al h (.inl (t, n, z)) n).1 a = some (.inr (ci, fs)) := by
    rw [al_at, if_neg]
    · exact e
    · have := hW.cl_lt hc; omega
  rw [e_pF e1 (by rw [hl]; exact kd_lt (by omega))]
  unfold nZ wV; rw [e1]; simp
theorem v_mkA {k : g_AH → Option α} {p : Int32} (hW : WF h) (hc : cl h a = some ci) (h3 : (3 ≤ kd ci f && kd ci f ≤ 5) = true) (h0 : ¬ p < 0) (h1 : p.toNatClampNeg ≤ 1000000) : g_mkA h t p (fun q h2 => g_pF h2 a ci f (.ref q) k) = k (nZ h ci f a t p.toNatClampNeg (.inl (fun _ => 0))) := by
  have h3' : 3 ≤ kd ci f ∧ kd ci f ≤ 5 := by simpa using h3
  rw [e_mkA h0 h1, e_pF_nZ hW hc h3'.1]
theorem v_mkQ {k : g_AH → Option α} {p : Int32} (hW : WF h) (hc : cl h a = some ci) (h3 : (6 ≤ kd ci f && kd ci f ≤ 8) = true) (h0 : ¬ p < 0) (h1 : p.toNatClampNeg ≤ 1000000) : g_mkQ h t p (fun q h2 => g_pF h2 a ci f (.ref q) k) = k (nZ h ci f a t p.toNatClampNeg (.inr (.inr (.inr (.inr (fun _ => none)))))) := by
  have h3' : 6 ≤ kd ci f ∧ kd ci f ≤ 8 := by simpa using h3
  rw [e_mkQ h0 h1, e_pF_nZ hW hc (by omega)]
/-- a clone of an own array becomes an own array -/
theorem v_cl {k : g_AH → Option α} {b ci' f' : Nat} (hW : WF h) (hc : cl h a = some ci) (h3 : (3 ≤ kd ci f && kd ci f ≤ 4) = true) (hk : kd ci' f' = kd ci f) (ht : kd ci f - 3 = t) (hr : Rf h ci' f' b = some q) :
    g_cl h t q (fun p h2 => g_isA h2 t p (g_pF h2 a ci f (.ref p) k)) = k (nZ h ci f a t (AL h ci' f' b) (.inl (Ar h ci' f' b))) := by
  have h3' : 3 ≤ kd ci f ∧ kd ci f ≤ 4 := by simpa using h3
  obtain ⟨n, z, e, hz⟩ := hW.arr hr (by omega) (by omega)
  obtain ⟨g, rfl⟩ := okA_int (by omega) hz
  have htk : tk (kd ci' f') = t := by unfold tk; rw [if_pos (by omega)]; omega
  rw [htk] at e
  rw [AL_of hr e, Ar_of hr e]
  rw [e_cl (v_look e) (fun j hj => ?_)]
  · rw [e_isA (h := g_al h (.inl (t, n, .inl g)) n) (a := g_n h) (t := t) (x := (n, .inl g)) (v_look (by rw [al_at, if_pos rfl])), e_pF_nZ hW hc h3'.1]
  · unfold okA at hz
    rw [if_pos (by omega)] at hz
    obtain ⟨g', e', h4, -⟩ := hz
    cases e'
    have h34 : t = 0 ∨ t = 1 := by omega
    rcases h34 with rfl | rfl
    · rfl
    · rcases h4 (by omega) j with e1 | e1 <;> rw [e1] <;> rfl
theorem okA_clone (hW : WF h) {b ci' f' : Nat} (h3 : 3 ≤ kd ci f) (h5 : kd ci f ≤ 5) (hk : kd ci' f' = kd ci f) (hr : Rf h ci' f' b = some q) : okA (kd ci f) (.inl (Ar h ci' f' b)) := by
  obtain ⟨n, z, e, hz⟩ := hW.arr hr (by omega) (by omega)
  obtain ⟨g, rfl⟩ := okA_int (by omega) hz
  rw [Ar_of hr e, ← hk]; exact hz
theorem okA_zero (h5 : kd ci f ≤ 5) : okA (kd ci f) (.inl (fun _ => 0)) := by
  unfold okA; rw [if_pos h5]
  exact ⟨_, rfl, fun _ _ => Or.inl rfl, fun _ _ => rfl⟩
theorem okA_none (h6 : 6 ≤ kd ci f) : okA (kd ci f) (.inr (.inr (.inr (.inr (fun _ => none))))) := by
  unfold okA; rw [if_neg (by omega)]
  exact ⟨_, rfl⟩
/-! frames: what a run that writes to the objects O alone leaves -/
def VF (h h' : g_AH) (O : Nat → Prop) : Prop := g_n h ≤ g_n h' ∧ h'.2.2 = h.2.2 ∧
  (∀ a, ¬ O a → cl h a ≠ none → h'.1 a = h.1 a ∧ ∀ ci f q, 3 ≤ kd ci f → Rf h ci f a = some q → h'.1 q = h.1 q) ∧
  (∀ q t y, h.1 q = some (.inl (t, y)) → t = 3 ∨ t = 4 → h'.1 q = h.1 q)
theorem VF.rf : VF h h O := ⟨Nat.le_refl _, rfl, fun _ _ _ => ⟨rfl, fun _ _ _ _ _ => rfl⟩, fun _ _ _ _ _ => rfl⟩
theorem VF.weak (h0 : VF h h' O) (hO : ∀ a, O a → O1 a) : VF h h' O1 := ⟨h0.1, h0.2.1, fun a ha hc => h0.2.2.1 a (fun q => ha (hO a q)) hc, h0.2.2.2⟩
theorem VF.kcl (h0 : VF h h' O) (hO : ¬ O a) (hc : cl h a = some ci) : cl h' a = some ci := by
  have := (h0.2.2.1 a hO (by rw [hc]; simp)).1
  unfold cl at hc ⊢; rw [this]; exact hc
theorem VF.kfld (h0 : VF h h' O) (hO : ¬ O a) (hc : cl h a ≠ none) : fld h' ci f a = fld h ci f a := by
  unfold fld; rw [(h0.2.2.1 a hO hc).1]
theorem VF.kJ (h0 : VF h h' O) (hO : ¬ O a) (hc : cl h a ≠ none) : J h' ci f a = J h ci f a := by unfold J; rw [h0.kfld hO hc]
theorem VF.kRf (h0 : VF h h' O) (hO : ¬ O a) (hc : cl h a ≠ none) : Rf h' ci f a = Rf h ci f a := by unfold Rf; rw [h0.kfld hO hc]
theorem VF.kAr (h0 : VF h h' O) (hO : ¬ O a) (hc : cl h a ≠ none) (h3 : 3 ≤ kd ci f) : Ar h' ci f a = Ar h ci f a := by
  funext i
  unfold Ar; rw [h0.kRf hO hc]
  cases e : Rf h ci f a with
  | none => rfl
  | some q => show aI h' q i = aI h q i; unfold aI; rw [(h0.2.2.1 a hO hc).2 ci f q h3 e]
theorem VF.kAL (h0 : VF h h' O) (hO : ¬ O a) (hc : cl h a ≠ none) (h3 : 3 ≤ kd ci f) : AL h' ci f a = AL h ci f a := by
  unfold AL; rw [h0.kRf hO hc]
  cases e : Rf h ci f a with
  | none => rfl
  | some q => show aL h' q = aL h q; unfold aL; rw [(h0.2.2.1 a hO hc).2 ci f q h3 e]
theorem VF.kRA (h0 : VF h h' O) (hO : ¬ O a) (hc : cl h a ≠ none) (h3 : 3 ≤ kd ci f) : RA h' ci f a = RA h ci f a := by
  funext i
  unfold RA; rw [h0.kRf hO hc]
  cases e : Rf h ci f a with
  | none => rfl
  | some q => show aR h' q i = aR h q i; unfold aR; rw [(h0.2.2.1 a hO hc).2 ci f q h3 e]
theorem VF.tr (hW : WF h) (h1 : VF h h' O) {h2 : g_AH} (h3 : VF h' h2 O1) (hO : ∀ a, O1 a → O a ∨ g_n h ≤ a) : VF h h2 O := by
  refine ⟨Nat.le_trans h1.1 h3.1, h3.2.1.trans h1.2.1, fun a ha hc => ?_, fun q t y e ht => ?_⟩
  · have hlt : a < g_n h := by
      cases e : cl h a with
      | none => exact absurd e hc
      | some c => exact hW.cl_lt e
    have ha1 : ¬ O1 a := fun q => (hO a q).elim ha (fun q => by omega)
    obtain ⟨e1, e2⟩ := h1.2.2.1 a ha hc
    have hc' : cl h' a ≠ none := by
      cases e : cl h a with
      | none => exact absurd e hc
      | some c => rw [h1.kcl ha e]; simp
    obtain ⟨e3, e4⟩ := h3.2.2.1 a ha1 hc'
    refine ⟨e3.trans e1, fun c g q hk hr => ?_⟩
    rw [e4 c g q hk (by rw [h1.kRf ha hc]; exact hr), e2 c g q hk hr]
  · have e1 := h1.2.2.2 q t y e ht
    rw [h3.2.2.2 q t y (by rw [e1]; exact e) ht, e1]
theorem WF.arr' (hW : WF h) (hk : 3 ≤ kd ci f) (hr : Rf h ci f a = some q) : kd ci f ≤ 8 ∧ ∃ n z, h.1 q = some (.inl (tk (kd ci f), n, z)) := by
  have h8 : kd ci f ≤ 8 := by
    have := kd_le9 (ci := ci) (f := f)
    by_cases h9 : kd ci f = 9
    · rw [Rf_long hW h9] at hr; cases hr
    · omega
  obtain ⟨n, z, e, -⟩ := hW.arr hr hk h8
  exact ⟨h8, n, z, e⟩
theorem tk_34 {k : Nat} (h3 : 3 ≤ k) (h8 : k ≤ 8) : ¬ (tk k = 3 ∨ tk k = 4) := by unfold tk; split <;> omega
theorem VF.pV (hW : WF h) (ha : O a) : VF h (wV h ci f a v) O := by
  refine ⟨by rw [g_n_wV]; exact Nat.le_refl _, by rw [wV_meta], fun b hb hc => ⟨?_, fun c g q hk hr => ?_⟩, fun q t y e ht => ?_⟩
  · rcases wV_cases (h := h) (ci := ci) (f := f) (a := a) (v := v) with ⟨e, -⟩ | ⟨fs, -, e⟩ <;> rw [e]
    have : b ≠ a := fun e => by subst e; exact hb ha
    simp [g_up, this]
  · obtain ⟨-, n, z, e1⟩ := hW.arr' hk hr
    rw [arr_wV.mpr e1, e1]
  · rw [arr_wV.mpr e, e]
theorem VF.pJ (hW : WF h) (ha : O a) : VF h (wJ h ci f a x) O := VF.pV hW ha
theorem VF.pR (hW : WF h) (ha : O a) : VF h (wR h ci f a o) O := VF.pV hW ha
theorem VF.upA (hW : WF h) (ha : O a) (h3 : 3 ≤ kd ci f) (hr : Rf h ci f a = some q) {y : Nat × vp_A} : VF h (g_up h q (.inl y)) O := by
  obtain ⟨h8, n, z, e0⟩ := hW.arr' h3 hr
  refine ⟨Nat.le_refl _, rfl, fun b hb hc => ⟨?_, fun c g p hk hr' => ?_⟩, fun p t y e ht => ?_⟩
  · have : b ≠ q := fun e => by
      subst e
      apply hc
      unfold cl; rw [e0]
    simp [g_up, this]
  · have : p ≠ q := fun e => by
      subst e
      obtain ⟨rfl, -, -⟩ := hW.2.2 _ _ _ _ _ _ _ h3 hk hr hr'
      exact hb ha
    simp [g_up, this]
  · have : p ≠ q := fun e2 => by
      subst e2
      rw [e0] at e
      cases e
      exact tk_34 h3 h8 ht
    simp [g_up, this]
theorem VF.pA (hW : WF h) (ha : O a) (h3 : 3 ≤ kd ci f) : VF h (wA h ci f a i x) O := by
  rcases wA_cases (h := h) (ci := ci) (f := f) (a := a) (i := i) (x := x) with e | ⟨q, t, n, g, er, -, e⟩ <;> rw [e]
  · exact VF.rf
  · exact VF.upA hW ha h3 er
theorem VF.pG (hW : WF h) (ha : O a) (h3 : 3 ≤ kd ci f) : VF h (wG h ci f a G) O := by
  rcases wG_cases (h := h) (ci := ci) (f := f) (a := a) (G := G) with e | ⟨q, t, n, g, er, -, e⟩ <;> rw [e]
  · exact VF.rf
  · exact VF.upA hW ha h3 er
theorem VF.al (hW : WF h) {c : g_OB} : VF h (g_al h c sz) O := by
  have key : ∀ q y, h.1 q = some y → (g_al h c sz).1 q = some y := fun q y e => by
    rw [al_at, if_neg]
    · exact e
    · have := hW.1 q y e; omega
  refine ⟨Nat.le_succ _, rfl, fun b hb hc => ⟨?_, fun c g q hk hr => ?_⟩, fun q t y e ht => ?_⟩
  · cases e : cl h b with
    | none => exact absurd e hc
    | some c1 => obtain ⟨fs, e1⟩ := cl_cell e; rw [key _ _ e1, e1]
  · obtain ⟨-, n, z, e1⟩ := hW.arr' hk hr
    rw [key _ _ e1, e1]
  · rw [key _ _ e, e]
theorem VF.pO (hW : WF h) : VF h (nO h ci sz) O := VF.al hW
theorem VF.pZ (hW : WF h) (hc : cl h a = some ci) (ha : O a) : VF h (nZ h ci f a t n z) O := by
  refine ⟨by rw [g_n_nZ]; exact Nat.le_succ _, nZ_meta, fun b hb hcb => ⟨?_, fun c g q hk hr => ?_⟩, fun q t y e ht => ?_⟩
  · have hba : b ≠ a := fun e => by subst e; exact hb ha
    rw [at_nZ hba, if_neg]
    intro e; rw [e, hW.cl_none (Nat.le_refl _)] at hcb; exact hcb rfl
  · obtain ⟨-, n, z, e1⟩ := hW.arr' hk hr
    rw [nZ_old hW hc e1, e1]
  · rw [nZ_old hW hc e, e]
end NEWS
