/-! LEVEL 2: the heap seen by classes and fields: J an int field, Rf a reference, Ar, AL, RA an own array's elements and length -/
/-- kinds of fields: 1 int, 2 a reference, own arrays: 3 int, 4 boolean, 5 byte, 6 Object, 7 Phase, 8 Net; 9 a long -/
def kdT : List (List Nat) := [[2, 2, 8, 5, 1, 1, 1], [3, 2, 2, 2, 2, 7, 1, 1, 1, 1, 1, 1, 1, 1], [], [], [], [], [3, 3, 3, 1],
  [3, 3, 3, 3, 4, 3, 1, 1, 3, 1, 1, 1, 1, 1, 1, 1, 1, 9, 1, 1, 1, 3, 3, 4, 1, 1, 1, 1, 3], [1, 2, 1, 1, 1, 1, 2, 2], [2, 2, 2, 2, 2, 1, 1, 1],
  [1, 3, 3, 4, 4], [1, 1, 1, 1, 1], [1, 1, 2, 2, 1, 1, 1, 1, 1, 1, 1, 1, 1, 1, 1], [2, 1, 4, 2, 1], [1, 1, 1, 1, 1, 1, 1, 1], [1, 6, 1], [1, 1, 1, 2], [5, 1, 1, 1], [5, 1, 1, 1]]
def kdL (ci : Nat) : List Nat := (kdT[ci]?).getD []
def nf (ci : Nat) : Nat := (kdL ci).length
def kd (ci f : Nat) : Nat := ((kdL ci)[f]?).getD 0
def tk (k : Nat) : Nat := if k ≤ 5 then k - 3 else k - 1
abbrev tZ : Type := (Nat → Int32) ⊕ (Nat → Int64) ⊕ (Nat → UInt32) ⊕ (Nat → UInt64) ⊕ (Nat → Option Nat)
def okA (k : Nat) (z : tZ) : Prop := if k ≤ 5 then ∃ g : Nat → Int32, z = .inl g ∧ (k = 4 → ∀ j, g j = 0 ∨ g j = 1) ∧ (k = 5 → ∀ j, fits .byte (.int (g j)) = true) else ∃ g : Nat → Option Nat, z = .inr (.inr (.inr (.inr g)))
def okV (m : Nat → Option g_OB) (k : Nat) (v : Value) : Prop :=
  if k = 1 then ∃ x, v = .int x else if k = 2 then ∃ o, v = va_rf o else if k = 9 then ∃ x, v = .long x
  else v = .null ∨ ∃ q n z, v = .ref q ∧ m q = some (.inl (tk k, n, z)) ∧ okA k z
def fld (h : g_AH) (ci f a : Nat) : Option Value := match h.1 a with
  | some (.inr (c, fs)) => if c = ci then fs[f]? else none
  | _ => none
def vI (o : Option Value) : Int32 := match o with
  | some (.int x) => x
  | _ => 0
def vR (o : Option Value) : Option Nat := match o with
  | some (.ref q) => some q
  | _ => none
def cl (h : g_AH) (a : Nat) : Option Nat := match h.1 a with
  | some (.inr (c, _)) => some c
  | _ => none
def J (h : g_AH) (ci f a : Nat) : Int32 := vI (fld h ci f a)
def Rf (h : g_AH) (ci f a : Nat) : Option Nat := vR (fld h ci f a)
def aI (h : g_AH) (q i : Nat) : Int32 := match h.1 q with
  | some (.inl (_, _, .inl g)) => g i
  | _ => 0
def aL (h : g_AH) (q : Nat) : Nat := match h.1 q with
  | some (.inl (_, n, _)) => n
  | _ => 0
def aR (h : g_AH) (q i : Nat) : Option Nat := match h.1 q with
  | some (.inl (_, _, .inr (.inr (.inr (.inr g))))) => g i
  | _ => none
def Ar (h : g_AH) (ci f a i : Nat) : Int32 := match Rf h ci f a with
  | some q => aI h q i
  | none => 0
def AL (h : g_AH) (ci f a : Nat) : Nat := match Rf h ci f a with
  | some q => aL h q
  | none => 0
def RA (h : g_AH) (ci f a i : Nat) : Option Nat := match Rf h ci f a with
  | some q => aR h q i
  | none => none
/-- well-formed: cells below the next one, fields as their classes say, own arrays apart -/
def WF (h : g_AH) : Prop := (∀ q x, h.1 q = some x → q < g_n h) ∧
  (∀ a ci fs, h.1 a = some (.inr (ci, fs)) → fs.length = nf ci ∧ ∀ f v, fs[f]? = some v → okV h.1 (kd ci f) v) ∧
  (∀ a ci f a' ci' f' q, 3 ≤ kd ci f → 3 ≤ kd ci' f' → Rf h ci f a = some q → Rf h ci' f' a' = some q → a = a' ∧ ci = ci' ∧ f = f')
section VIEW
variable {h : g_AH} {a ci f q t n : Nat} {x : Int32} {o : Option Nat} {α : Type}
theorem kd_lt (hk : kd ci f ≠ 0) : f < nf ci := by
  unfold kd at hk
  cases e : (kdL ci)[f]? with
  | none => rw [e] at hk; exact absurd rfl hk
  | some k => exact (List.getElem?_eq_some_iff.mp e).1
theorem vR_rf : vR (some (va_rf o)) = o := by cases o <;> rfl
theorem cl_cell (hc : cl h a = some ci) : ∃ fs, h.1 a = some (.inr (ci, fs)) := by
  unfold cl at hc
  split at hc
  · rename_i c fs e
    cases hc
    exact ⟨fs, e⟩
  · cases hc
theorem cl_of {fs : List Value} (e : h.1 a = some (.inr (ci, fs))) : cl h a = some ci := by unfold cl; rw [e]
theorem fld_of {fs : List Value} (e : h.1 a = some (.inr (ci, fs))) : fld h ci f a = fs[f]? := by unfold fld; rw [e]; simp
theorem fld_cl {v : Value} (e : fld h ci f a = some v) : cl h a = some ci := by
  unfold fld at e
  split at e
  · rename_i c fs e1
    split at e
    · rename_i hc; subst hc; exact cl_of e1
    · cases e
  · cases e
theorem Rf_cl (e : Rf h ci f a = some q) : cl h a = some ci := by
  unfold Rf at e
  cases e1 : fld h ci f a with
  | none => rw [e1] at e; cases e
  | some v => exact fld_cl e1
theorem WF.cell (hW : WF h) (hc : cl h a = some ci) : ∃ fs, h.1 a = some (.inr (ci, fs)) ∧ fs.length = nf ci ∧ ∀ f v, fs[f]? = some v → okV h.1 (kd ci f) v := by
  obtain ⟨fs, e⟩ := cl_cell hc
  exact ⟨fs, e, hW.2.1 a ci fs e⟩
theorem WF.fldv (hW : WF h) (hc : cl h a = some ci) (hk : kd ci f ≠ 0) : ∃ v, fld h ci f a = some v ∧ okV h.1 (kd ci f) v := by
  obtain ⟨fs, e, hl, hv⟩ := hW.cell hc
  have hlt : f < fs.length := by rw [hl]; exact kd_lt hk
  exact ⟨fs[f], by rw [fld_of e]; exact List.getElem?_eq_getElem hlt, hv f _ (List.getElem?_eq_getElem hlt)⟩
theorem WF.int (hW : WF h) (hc : cl h a = some ci) (hk : kd ci f = 1) : fld h ci f a = some (.int (J h ci f a)) := by
  obtain ⟨v, e, hv⟩ := hW.fldv hc (by omega : kd ci f ≠ 0)
  rw [hk] at hv
  obtain ⟨x, rfl⟩ : ∃ x, v = .int x := hv
  rw [e]; unfold J; rw [e]; rfl
theorem WF.ref (hW : WF h) (hc : cl h a = some ci) (hk : kd ci f = 2) : fld h ci f a = some (va_rf (Rf h ci f a)) := by
  obtain ⟨v, e, hv⟩ := hW.fldv hc (by omega : kd ci f ≠ 0)
  rw [hk] at hv
  obtain ⟨o, rfl⟩ : ∃ o, v = va_rf o := hv
  rw [e]; unfold Rf; rw [e, vR_rf]
theorem okV_own {m : Nat → Option g_OB} {k : Nat} {v : Value} (h3 : 3 ≤ k) (h8 : k ≤ 8) (hv : okV m k v) : v = .null ∨ ∃ q n z, v = .ref q ∧ m q = some (.inl (tk k, n, z)) ∧ okA k z := by
  unfold okV at hv
  rw [if_neg (by omega), if_neg (by omega), if_neg (by omega)] at hv
  exact hv
theorem WF.own (hW : WF h) (hc : cl h a = some ci) (h3 : 3 ≤ kd ci f) (h8 : kd ci f ≤ 8) : fld h ci f a = some (va_rf (Rf h ci f a)) ∧ ∀ q, Rf h ci f a = some q → ∃ n z, h.1 q = some (.inl (tk (kd ci f), n, z)) ∧ okA (kd ci f) z := by
  obtain ⟨v, e, hv⟩ := hW.fldv hc (by omega : kd ci f ≠ 0)
  rcases okV_own h3 h8 hv with rfl | ⟨q, n, z, rfl, hq, hz⟩
  · have hR : Rf h ci f a = none := by unfold Rf; rw [e]; rfl
    rw [hR]
    exact ⟨e, fun q hq => by cases hq⟩
  · have hR : Rf h ci f a = some q := by unfold Rf; rw [e]; rfl
    rw [hR]
    exact ⟨e, fun q' hq' => by cases hq'; exact ⟨n, z, hq, hz⟩⟩
theorem WF.arr (hW : WF h) (hr : Rf h ci f a = some q) (h3 : 3 ≤ kd ci f) (h8 : kd ci f ≤ 8) : ∃ n z, h.1 q = some (.inl (tk (kd ci f), n, z)) ∧ okA (kd ci f) z :=
  (hW.own (Rf_cl hr) h3 h8).2 q hr
theorem okA_int {k : Nat} {z : tZ} (hk : k ≤ 5) (hz : okA k z) : ∃ g, z = .inl g := by
  unfold okA at hz
  rw [if_pos hk] at hz
  obtain ⟨g, e, -⟩ := hz
  exact ⟨g, e⟩
theorem okA_ref {k : Nat} {z : tZ} (hk : 6 ≤ k) (hz : okA k z) : ∃ g, z = .inr (.inr (.inr (.inr g))) := by
  unfold okA at hz
  rw [if_neg (by omega)] at hz
  exact hz
/-- forward laws of the mirrors' operations -/
theorem v_look {y : g_OB} (e : h.1 a = some y) : g_look h a = some y := e_own e
theorem v_gI (hW : WF h) {k : Int32 → Option α} (hc : cl h a = some ci) (hk : kd ci f = 1) : g_gI h a ci f k = k (J h ci f a) := by
  obtain ⟨fs, e⟩ := cl_cell hc
  have h1 := hW.int hc hk
  rw [fld_of e] at h1
  exact e_gI (v_look e) h1
theorem v_gR (hW : WF h) {k : Option Nat → Option α} (hc : cl h a = some ci) (hk : (2 ≤ kd ci f && kd ci f ≤ 8) = true) : g_gR h a ci f k = k (Rf h ci f a) := by
  obtain ⟨fs, e⟩ := cl_cell hc
  have hk' : 2 ≤ kd ci f ∧ kd ci f ≤ 8 := by simpa using hk
  have h1 : fld h ci f a = some (va_rf (Rf h ci f a)) := by
    by_cases h2 : kd ci f = 2
    · exact hW.ref hc h2
    · exact (hW.own hc (by omega) hk'.2).1
  rw [fld_of e] at h1
  exact e_gR (v_look e) h1
theorem v_is {k : Option α} (hc : cl h a = some ci) : g_is h a ci k = k := by
  obtain ⟨fs, e⟩ := cl_cell hc
  exact e_is (v_look e)
theorem v_ck {k : Option α} (hc : cl h a = some ci) : g_ck h (some a) ci k = k := by
  obtain ⟨fs, e⟩ := cl_cell hc
  exact e_ck (v_look e)
theorem v_cls {k : Nat → Option α} (hc : cl h a = some ci) : g_cls h a k = k ci := by
  obtain ⟨fs, e⟩ := cl_cell hc
  unfold g_cls; rw [v_look e]
theorem AL_of {z : tZ} {t' : Nat} (hr : Rf h ci f a = some q) (e : h.1 q = some (.inl (t', n, z))) : AL h ci f a = n := by
  unfold AL; rw [hr]; show aL h q = n; unfold aL; rw [e]
theorem Ar_of {g : Nat → Int32} {t' : Nat} (hr : Rf h ci f a = some q) (e : h.1 q = some (.inl (t', n, .inl g))) : Ar h ci f a = g := by
  funext i
  unfold Ar; rw [hr]; show aI h q i = g i; unfold aI; rw [e]
theorem RA_of {g : Nat → Option Nat} {t' : Nat} (hr : Rf h ci f a = some q) (e : h.1 q = some (.inl (t', n, .inr (.inr (.inr (.inr g)))))) : RA h ci f a = g := by
  funext i
  unfold RA; rw [hr]; show aR h q i = g i; unfold aR; rw [e]
theorem AL_ref (hn : AL h ci f a = n) (h0 : 0 < n) : ∃ q, Rf h ci f a = some q := by
  unfold AL at hn
  cases e : Rf h ci f a with
  | none => rw [e] at hn; simp only at hn; omega
  | some q => exact ⟨q, rfl⟩
theorem v_aI (hW : WF h) {k : Int32 → Option α} {i : Int32} (hr : Rf h ci f a = some q) (hk : (3 ≤ kd ci f && kd ci f ≤ 5) = true) (ht : kd ci f - 3 = t) (hi : vp_in i (AL h ci f a)) : g_aI h t q i k = k (Ar h ci f a i.toNatClampNeg) := by
  have hk' : 3 ≤ kd ci f ∧ kd ci f ≤ 5 := by simpa using hk
  obtain ⟨n, z, e, hz⟩ := hW.arr hr hk'.1 (by omega)
  obtain ⟨g, rfl⟩ := okA_int hk'.2 hz
  have htk : tk (kd ci f) = t := by unfold tk; rw [if_pos hk'.2]; exact ht
  rw [htk] at e
  rw [AL_of hr e] at hi
  rw [Ar_of hr e]
  exact e_aI (v_look e) hi
theorem v_aA (hW : WF h) {k : Option Nat → Option α} {i : Int32} (hr : Rf h ci f a = some q) (hk : (6 ≤ kd ci f && kd ci f ≤ 8) = true) (ht : kd ci f - 1 = t) (hi : vp_in i (AL h ci f a)) : g_aA h t q i k = k (RA h ci f a i.toNatClampNeg) := by
  have hk' : 6 ≤ kd ci f ∧ kd ci f ≤ 8 := by simpa using hk
  obtain ⟨n, z, e, hz⟩ := hW.arr hr (by omega) hk'.2
  obtain ⟨g, rfl⟩ := okA_ref hk'.1 hz
  have htk : tk (kd ci f) = t := by unfold tk; rw [if_neg (by omega)]; exact ht
  rw [htk] at e
  rw [AL_of hr e] at hi
  rw [RA_of hr e]
  exact e_aA (v_look e) hi
theorem v_len (hW : WF h) {k : Int32 → Option α} (hr : Rf h ci f a = some q) (hk : (3 ≤ kd ci f && kd ci f ≤ 8) = true) : g_len h q k = k (Int32.ofNat (AL h ci f a)) := by
  have hk' : 3 ≤ kd ci f ∧ kd ci f ≤ 8 := by simpa using hk
  obtain ⟨n, z, e, hz⟩ := hW.arr hr hk'.1 hk'.2
  rw [AL_of hr e]
  exact e_len (v_look e) (by unfold tk; split <;> omega)
end VIEW
/-! writes -/
def wV (h : g_AH) (ci f a : Nat) (v : Value) : g_AH := match h.1 a with
  | some (.inr (c, fs)) => if c = ci then g_up h a (.inr (c, fs.set f v)) else h
  | _ => h
def wJ (h : g_AH) (ci f a : Nat) (x : Int32) : g_AH := wV h ci f a (.int x)
def wR (h : g_AH) (ci f a : Nat) (o : Option Nat) : g_AH := wV h ci f a (va_rf o)
def wA (h : g_AH) (ci f a i : Nat) (x : Int32) : g_AH := match Rf h ci f a with
  | some q => (match h.1 q with
    | some (.inl (t, n, .inl g)) => g_up h q (.inl (t, n, .inl (upd g i x)))
    | _ => h)
  | none => h
def wG (h : g_AH) (ci f a : Nat) (G : (Nat → Option Nat) → Nat → Option Nat) : g_AH := match Rf h ci f a with
  | some q => (match h.1 q with
    | some (.inl (t, n, .inr (.inr (.inr (.inr g))))) => g_up h q (.inl (t, n, .inr (.inr (.inr (.inr (G g))))))
    | _ => h)
  | none => h
section WRITE
variable {h : g_AH} {a a' ci ci' f f' q t n i j : Nat} {x : Int32} {o : Option Nat} {v : Value} {α : Type}
theorem wV_cases : wV h ci f a v = h ∧ fld h ci f a = none ∨ ∃ fs, h.1 a = some (.inr (ci, fs)) ∧ wV h ci f a v = g_up h a (.inr (ci, fs.set f v)) := by
  unfold wV fld
  cases e : h.1 a with
  | none => exact Or.inl ⟨rfl, rfl⟩
  | some y => cases y with
    | inl y => exact Or.inl ⟨rfl, rfl⟩
    | inr y =>
      obtain ⟨c, fs⟩ := y
      by_cases hc : c = ci
      · subst hc; exact Or.inr ⟨fs, rfl, by simp⟩
      · exact Or.inl ⟨by simp [hc], by simp [hc]⟩
theorem wV_meta : (wV h ci f a v).2 = h.2 := by
  rcases wV_cases (h := h) (ci := ci) (f := f) (a := a) (v := v) with ⟨e, -⟩ | ⟨fs, -, e⟩ <;> rw [e]
  rfl
theorem fld_wV : fld (wV h ci f a v) ci' f' a' = if (ci' = ci ∧ f' = f ∧ a' = a) ∧ (fld h ci f a).isSome = true then some v else fld h ci' f' a' := by
  rcases wV_cases (h := h) (ci := ci) (f := f) (a := a) (v := v) with ⟨e, e1⟩ | ⟨fs, e0, e⟩
  · rw [e, e1]; simp
  · rw [e, fld_of e0]
    by_cases ha : a' = a
    · subst ha
      have e2 : (g_up h a' (.inr (ci, fs.set f v))).1 a' = some (.inr (ci, fs.set f v)) := by simp [g_up]
      by_cases hc : ci' = ci
      · subst hc
        rw [fld_of e2, fld_of e0, List.getElem?_set]
        by_cases hf : f = f'
        · subst hf
          by_cases hl : f < fs.length
          · simp [hl]
          · simp [hl]
        · have hf' : ¬ f' = f := fun q => hf q.symm
          simp [hf, hf']
      · have e3 : fld (g_up h a' (.inr (ci, fs.set f v))) ci' f' a' = none := by unfold fld; rw [e2]; simp [show ¬ ci = ci' from fun q => hc q.symm]
        have e4 : fld h ci' f' a' = none := by unfold fld; rw [e0]; simp [show ¬ ci = ci' from fun q => hc q.symm]
        rw [e3, e4]; simp [hc]
    · have e2 : (g_up h a (.inr (ci, fs.set f v))).1 a' = h.1 a' := by simp [g_up, ha]
      have e3 : fld (g_up h a (.inr (ci, fs.set f v))) ci' f' a' = fld h ci' f' a' := by unfold fld; rw [e2]
      rw [e3]; simp [ha]
theorem cl_wV : cl (wV h ci f a v) a' = cl h a' := by
  rcases wV_cases (h := h) (ci := ci) (f := f) (a := a) (v := v) with ⟨e, e1⟩ | ⟨fs, e0, e⟩
  · rw [e]
  · rw [e]
    by_cases ha : a' = a
    · subst ha; unfold cl; rw [e0]; simp [g_up]
    · unfold cl; simp [g_up, ha]
theorem arr_wV {y : Nat × vp_A} : (wV h ci f a v).1 q = some (.inl y) ↔ h.1 q = some (.inl y) := by
  rcases wV_cases (h := h) (ci := ci) (f := f) (a := a) (v := v) with ⟨e, e1⟩ | ⟨fs, e0, e⟩
  · rw [e]
  · rw [e]
    by_cases ha : q = a
    · subst ha; rw [e0]; simp [g_up]
    · simp [g_up, ha]
theorem aI_wV : aI (wV h ci f a v) q i = aI h q i := by
  rcases wV_cases (h := h) (ci := ci) (f := f) (a := a) (v := v) with ⟨e, e1⟩ | ⟨fs, e0, e⟩
  · rw [e]
  · rw [e]; unfold aI
    by_cases ha : q = a
    · subst ha; rw [e0]; simp [g_up]
    · simp [g_up, ha]
theorem aL_wV : aL (wV h ci f a v) q = aL h q := by
  rcases wV_cases (h := h) (ci := ci) (f := f) (a := a) (v := v) with ⟨e, e1⟩ | ⟨fs, e0, e⟩
  · rw [e]
  · rw [e]; unfold aL
    by_cases ha : q = a
    · subst ha; rw [e0]; simp [g_up]
    · simp [g_up, ha]
theorem aR_wV : aR (wV h ci f a v) q i = aR h q i := by
  rcases wV_cases (h := h) (ci := ci) (f := f) (a := a) (v := v) with ⟨e, e1⟩ | ⟨fs, e0, e⟩
  · rw [e]
  · rw [e]; unfold aR
    by_cases ha : q = a
    · subst ha; rw [e0]; simp [g_up]
    · simp [g_up, ha]
/-- an int field -/
theorem J_wJ (hW : WF h) (hc : cl h a = some ci) (hk : kd ci f = 1) : J (wJ h ci f a x) ci f a' = if a' = a then x else J h ci f a' := by
  unfold J wJ
  rw [fld_wV, hW.int hc hk]
  by_cases ha : a' = a
  · simp [ha, vI]
  · simp [ha]
theorem J_wJn (hd : (ci' == ci && f' == f) = false) : J (wJ h ci f a x) ci' f' a' = J h ci' f' a' := by
  unfold J wJ
  rw [fld_wV, if_neg]
  rintro ⟨⟨rfl, rfl, -⟩, -⟩
  simp at hd
theorem J_wJa (ha : a' ≠ a) : J (wJ h ci f a x) ci' f' a' = J h ci' f' a' := by
  unfold J wJ
  rw [fld_wV, if_neg]
  rintro ⟨⟨-, -, rfl⟩, -⟩
  exact ha rfl
theorem Rf_wJ : kd ci f = 1 → WF h → Rf (wJ h ci f a x) ci' f' a' = Rf h ci' f' a' := by
  intro hk hW
  unfold Rf wJ
  rw [fld_wV]
  split
  · rename_i hc
    obtain ⟨⟨rfl, rfl, rfl⟩, hs⟩ := hc
    obtain ⟨y, e⟩ := Option.isSome_iff_exists.mp hs
    rw [hW.int (fld_cl e) hk]; rfl
  · rfl
theorem J_wR (hk : kd ci f = 2) (hW : WF h) : J (wR h ci f a o) ci' f' a' = J h ci' f' a' := by
  unfold J wR
  rw [fld_wV]
  split
  · rename_i hc
    obtain ⟨⟨rfl, rfl, rfl⟩, hs⟩ := hc
    obtain ⟨y, e⟩ := Option.isSome_iff_exists.mp hs
    rw [hW.ref (fld_cl e) hk]
    cases o <;> cases Rf h ci' f' a' <;> rfl
  · rfl
theorem Rf_wR (hW : WF h) (hc : cl h a = some ci) (hk : kd ci f = 2) : Rf (wR h ci f a o) ci f a' = if a' = a then o else Rf h ci f a' := by
  unfold Rf wR
  rw [fld_wV, hW.ref hc hk]
  by_cases ha : a' = a
  · simp [ha, vR_rf]
  · simp [ha]
theorem Rf_wRn (hd : (ci' == ci && f' == f) = false) : Rf (wR h ci f a o) ci' f' a' = Rf h ci' f' a' := by
  unfold Rf wR
  rw [fld_wV, if_neg]
  rintro ⟨⟨rfl, rfl, -⟩, -⟩
  simp at hd
theorem Rf_wRa (ha : a' ≠ a) : Rf (wR h ci f a o) ci' f' a' = Rf h ci' f' a' := by
  unfold Rf wR
  rw [fld_wV, if_neg]
  rintro ⟨⟨-, -, rfl⟩, -⟩
  exact ha rfl
theorem v_pJ {k : g_AH → Option α} (hW : WF h) (hc : cl h a = some ci) (hk : kd ci f = 1) : g_pF h a ci f (.int x) k = k (wJ h ci f a x) := by
  obtain ⟨fs, e, hl, -⟩ := hW.cell hc
  rw [e_pF e (by rw [hl]; exact kd_lt (by omega))]
  unfold wJ wV; rw [e]; simp
theorem v_pR {k : g_AH → Option α} (hW : WF h) (hc : cl h a = some ci) (hk : kd ci f = 2) : g_pF h a ci f (va_rf o) k = k (wR h ci f a o) := by
  obtain ⟨fs, e, hl, -⟩ := hW.cell hc
  rw [e_pF e (by rw [hl]; exact kd_lt (by omega))]
  unfold wR wV; rw [e]; simp
theorem v_pRs {k : g_AH → Option α} {b : Nat} (hW : WF h) (hc : cl h a = some ci) (hk : kd ci f = 2) : g_pF h a ci f (.ref b) k = k (wR h ci f a (some b)) := v_pR (o := some b) hW hc hk
theorem v_pRn {k : g_AH → Option α} (hW : WF h) (hc : cl h a = some ci) (hk : kd ci f = 2) : g_pF h a ci f .null k = k (wR h ci f a none) := v_pR (o := none) hW hc hk
end WRITE
