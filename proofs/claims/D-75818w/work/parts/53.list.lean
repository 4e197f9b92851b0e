/-! LEVEL 2: ArrayList: Lst h la n X, the list at la holds X 0 .. X (n-1) -/
def Lst (h : g_AH) (la n : Nat) (X : Nat → Nat) : Prop := cl h la = some 15 ∧ J h 15 2 la = Int32.ofNat n ∧ n ≤ AL h 15 1 la ∧ 0 < AL h 15 1 la ∧ AL h 15 1 la ≤ 96 ∧ ∀ k, k < n → RA h 15 1 la k = some (X k)
/-- the room that a run takes: cells, slots -/
def Co (h h' : g_AH) (c s : Nat) : Prop := g_c h ≤ g_c h' ∧ g_s h ≤ g_s h' ∧ g_c h' ≤ g_c h + c ∧ g_s h' ≤ g_s h + s
theorem Co.tr {h h1 h2 : g_AH} {a b c d : Nat} (x : Co h h1 a b) (y : Co h1 h2 c d) : Co h h2 (a + c) (b + d) := by
  unfold Co at *; omega
theorem Co.le {h h1 : g_AH} {a b c d : Nat} (x : Co h h1 a b) (hc : a ≤ c) (hs : b ≤ d) : Co h h1 c d := by
  unfold Co at *; omega
theorem Co.rf {h : g_AH} {a b : Nat} : Co h h a b := ⟨Nat.le_refl _, Nat.le_refl _, Nat.le_add_right _ _, Nat.le_add_right _ _⟩
theorem Co.of {h h1 : g_AH} {a b : Nat} (e : h1.2.1.2 = h.2.1.2) : Co h h1 a b := by
  have e1 : g_c h1 = g_c h := by unfold g_c; rw [e]
  have e2 : g_s h1 = g_s h := by unfold g_s; rw [e]
  unfold Co; omega
theorem i_sub1 {a : Nat} (h : 1 ≤ a) : Int32.ofNat a - (1 : Int32) = Int32.ofNat (a - 1) := i_sub (b := 1) h
theorem v_mk1 {α : Type} {h : g_AH} {k : Nat → g_AH → Option α} : g_mk h (.inr (1, [.null, .null, .null, .null, .null, .null, .int 0, .int 0, .int 0, .int 0, .int 0, .int 0, .int 0, .int 0])) 14 k = k (g_n h) (nO h 1 14) := v_mk (ci := 1) rfl
theorem v_mk2 {α : Type} {h : g_AH} {k : Nat → g_AH → Option α} : g_mk h (.inr (2, [])) 0 k = k (g_n h) (nO h 2 0) := v_mk (ci := 2) rfl
theorem v_mk3 {α : Type} {h : g_AH} {k : Nat → g_AH → Option α} : g_mk h (.inr (3, [])) 0 k = k (g_n h) (nO h 3 0) := v_mk (ci := 3) rfl
theorem v_mk4 {α : Type} {h : g_AH} {k : Nat → g_AH → Option α} : g_mk h (.inr (4, [])) 0 k = k (g_n h) (nO h 4 0) := v_mk (ci := 4) rfl
theorem v_mk5 {α : Type} {h : g_AH} {k : Nat → g_AH → Option α} : g_mk h (.inr (5, [])) 0 k = k (g_n h) (nO h 5 0) := v_mk (ci := 5) rfl
theorem v_mk6 {α : Type} {h : g_AH} {k : Nat → g_AH → Option α} : g_mk h (.inr (6, [.null, .null, .null, .int 0])) 4 k = k (g_n h) (nO h 6 4) := v_mk (ci := 6) rfl
theorem v_mk8 {α : Type} {h : g_AH} {k : Nat → g_AH → Option α} : g_mk h (.inr (8, [.int 0, .null, .int 0, .int 0, .int 0, .int 0, .null, .null])) 8 k = k (g_n h) (nO h 8 8) := v_mk (ci := 8) rfl
theorem v_mk10 {α : Type} {h : g_AH} {k : Nat → g_AH → Option α} : g_mk h (.inr (10, [.int 0, .null, .null, .null, .null])) 5 k = k (g_n h) (nO h 10 5) := v_mk (ci := 10) rfl
theorem v_mk11 {α : Type} {h : g_AH} {k : Nat → g_AH → Option α} : g_mk h (.inr (11, [.int 0, .int 0, .int 0, .int 0, .int 0])) 5 k = k (g_n h) (nO h 11 5) := v_mk (ci := 11) rfl
theorem v_mk12 {α : Type} {h : g_AH} {k : Nat → g_AH → Option α} : g_mk h (.inr (12, [.int 0, .int 0, .null, .null, .int 0, .int 0, .int 0, .int 0, .int 0, .int 0, .int 0, .int 0, .int 0, .int 0, .int 0])) 15 k = k (g_n h) (nO h 12 15) := v_mk (ci := 12) rfl
theorem v_mk13 {α : Type} {h : g_AH} {k : Nat → g_AH → Option α} : g_mk h (.inr (13, [.null, .int 0, .null, .null, .int 0])) 5 k = k (g_n h) (nO h 13 5) := v_mk (ci := 13) rfl
theorem v_mk14 {α : Type} {h : g_AH} {k : Nat → g_AH → Option α} : g_mk h (.inr (14, [.int 0, .int 0, .int 0, .int 0, .int 0, .int 0, .int 0, .int 0])) 8 k = k (g_n h) (nO h 14 8) := v_mk (ci := 14) rfl
theorem v_mk15 {α : Type} {h : g_AH} {k : Nat → g_AH → Option α} : g_mk h (.inr (15, [.int 0, .null, .int 0])) 3 k = k (g_n h) (nO h 15 3) := v_mk (ci := 15) rfl
theorem v_mk16 {α : Type} {h : g_AH} {k : Nat → g_AH → Option α} : g_mk h (.inr (16, [.int 0, .int 0, .int 0, .null])) 4 k = k (g_n h) (nO h 16 4) := v_mk (ci := 16) rfl
section LIST
variable {h h' : g_AH} {la n k b c : Nat} {X : Nat → Nat}
theorem Lst.len (hL : Lst h la n X) : n ≤ 96 := Nat.le_trans hL.2.2.1 hL.2.2.2.2.1
theorem Lst.val (hL : Lst h la n X) (hk : k < n) : RA h 15 1 la k = some (X k) := hL.2.2.2.2.2 k hk
theorem ls_size (hW : WF h) (hL : Lst h la n X) : ArrayList_size h la = some (Int32.ofNat n) := by
  unfold ArrayList_size
  rw [v_gI hW hL.1 rfl, hL.2.1]
theorem ls_ix {n k : Nat} (hk : k < n) (hn : n ≤ 96) : Objects_checkIndex (Int32.ofNat k) (Int32.ofNat n) = some (Int32.ofNat k) := by
  have h1 : Preconditions_checkIndex (Int32.ofNat k) (Int32.ofNat n) none = some (Int32.ofNat k) := by
    unfold Preconditions_checkIndex
    rw [if_neg (i_nn (by omega)), if_pos ((i_lt (by omega) (by omega)).mpr hk)]
  unfold Objects_checkIndex
  rw [e_b h1]
theorem ls_get (hW : WF h) (hL : Lst h la n X) (hk : k < n) : ArrayList_get h la (Int32.ofNat k) = some (some (X k)) := by
  have hn := hL.len
  obtain ⟨q, hq⟩ := AL_ref rfl hL.2.2.2.1
  have hi : vp_in (Int32.ofNat k) (AL h 15 1 la) := i_in (Nat.lt_of_lt_of_le hk hL.2.2.1) (by have := hL.2.2.2.2.1; omega)
  have h1 : ArrayList_elementData h la (Int32.ofNat k) = some (some (X k)) := by
    unfold ArrayList_elementData
    rw [v_gR hW hL.1 rfl, hq, e_nn, v_aA (t := 5) hW hq rfl rfl hi, i_cl (by omega), hL.val hk]
  unfold ArrayList_get
  rw [v_gI hW hL.1 rfl, hL.2.1, e_b (ls_ix hk hn), v_is hL.1, e_b h1]
/-- growing a full list -/
def growTo (c : Nat) : Nat := c + max 1 (c / 2)
theorem ls_newLength : ∀ c, c < 65 → 0 < c → ArraysSupport_newLength (Int32.ofNat c) (Int32.ofNat (c + 1) - Int32.ofNat c) (Int32.ofNat c >>> ((1 : Int32) &&& 31)) = some (Int32.ofNat (growTo c)) := by decide +kernel
theorem growTo_lt {c : Nat} (h0 : 0 < c) (h1 : c < 65) : c < growTo c ∧ growTo c ≤ 96 := by unfold growTo; omega
theorem up_al {c1 c2 : g_OB} {z : Nat} : g_up (g_al h c1 z) (g_n h) c2 = g_al h c2 z := by
  unfold g_up g_al
  congr 1
  funext q
  simp only
  split <;> rfl
theorem ls_grow (hW : WF h) (hL : Lst h la n X) (hf : n = AL h 15 1 la) (hn : n < 64) (hX : ∀ k, k < n → ∃ c, cl h (X k) = some c ∧ c < 19) :
    ∃ G : Nat → Option Nat, (∀ k, k < n → G k = some (X k)) ∧ ArrayList_grow0 h la = some (some (g_n h), nZ h 15 1 la 5 (growTo n) (.inr (.inr (.inr (.inr G))))) := by
  obtain ⟨hc, hs, h1, h2, h3, h4⟩ := hL
  obtain ⟨q, hq⟩ := AL_ref rfl h2
  obtain ⟨m, z, e, hz⟩ := hW.arr hq (by decide) (by decide)
  obtain ⟨g, rfl⟩ := okA_ref (by decide) hz
  have em := AL_of hq e
  have eg := RA_of hq e
  have htk : tk (kd 15 1) = 5 := rfl
  rw [htk] at e
  have hmn : m = n := by omega
  subst hmn
  obtain ⟨g1, g2⟩ := growTo_lt (c := m) (by omega) (by omega)
  have hne : q ≠ g_n h := by have := hW.own_lt (by decide) (by decide) hq; omega
  refine ⟨va_cpy g (fun _ => none) 0 0 m, fun k hk => ?_, ?_⟩
  · unfold va_cpy
    rw [if_pos (by omega)]
    have := h4 k hk
    rw [eg] at this
    simpa using this
  have e3 : (g_al h (.inl (5, growTo m, .inr (.inr (.inr (.inr (fun _ => none)))))) (growTo m)).1 q = some (.inl (5, m, .inr (.inr (.inr (.inr g))))) := by rw [al_at, if_neg hne]; exact e
  have e4 : (g_al h (.inl (5, growTo m, .inr (.inr (.inr (.inr (fun _ => none)))))) (growTo m)).1 (g_n h) = some (.inl (5, growTo m, .inr (.inr (.inr (.inr (fun _ => none)))))) := by rw [al_at, if_pos rfl]
  have hcp : Arrays_copyOf2_24 (g_al h (.inl (5, growTo m, .inr (.inr (.inr (.inr (fun _ => none)))))) (growTo m)) (some q) (Int32.ofNat (growTo m)) (g_n h) = some (some (g_n h), g_al h (.inl (5, growTo m, .inr (.inr (.inr (.inr (va_cpy g (fun _ => none) 0 0 m)))))) (growTo m)) := by
    unfold Arrays_copyOf2_24
    rw [e_nn, e_len (v_look e3) (by decide)]
    show g_cpQ _ q 0 (g_n h) 0 (if Int32.ofNat (growTo m) < Int32.ofNat m then _ else _) _ = _
    rw [if_neg (fun p => by have := (i_lt (by omega) (by omega)).mp p; omega)]
    have hcond : (¬ (0 : Int32) < 0 ∧ ¬ (0 : Int32) < 0 ∧ ¬ Int32.ofNat m < 0 ∧ (0 : Int32).toNatClampNeg + (Int32.ofNat m).toNatClampNeg ≤ m ∧ (0 : Int32).toNatClampNeg + (Int32.ofNat m).toNatClampNeg ≤ growTo m) ∧ (∀ i, i < (Int32.ofNat m).toNatClampNeg → g_okE (g_al h (.inl (5, growTo m, .inr (.inr (.inr (.inr (fun _ => none)))))) (growTo m)) 5 (g ((0 : Int32).toNatClampNeg + i)) = true) := by
      rw [i_cl (by omega), show (0 : Int32).toNatClampNeg = 0 from rfl]
      refine ⟨⟨by decide, by decide, i_nn (by omega), by omega, by omega⟩, fun i hi => ?_⟩
      have := h4 i hi
      rw [eg] at this
      rw [Nat.zero_add, this]
      obtain ⟨c, hc1, hc2⟩ := hX i hi
      refine okE_of (c := c) ?_ (by unfold gCast; simp [hc2])
      rw [cl_ar hW]; exact hc1
    unfold g_cpQ
    rw [v_look e3, e4]
    simp only
    rw [if_pos hcond, i_cl (by omega), show (0 : Int32).toNatClampNeg = 0 from rfl, up_al]
  have h5 : Arrays_copyOf1 h (some q) (Int32.ofNat (growTo m)) = some (some (g_n h), g_al h (.inl (5, growTo m, .inr (.inr (.inr (.inr (va_cpy g (fun _ => none) 0 0 m)))))) (growTo m)) := by
    unfold Arrays_copyOf1
    rw [e_nn, e_isA (v_look e)]
    have h6 : Arrays_copyOf2 h (some q) (Int32.ofNat (growTo m)) (some (g_str h 100)) = some (some (g_n h), g_al h (.inl (5, growTo m, .inr (.inr (.inr (.inr (va_cpy g (fun _ => none) 0 0 m)))))) (growTo m)) := by
      unfold Arrays_copyOf2
      rw [if_pos rfl, e_mkQ (i_nn (by omega)) (by rw [i_cl (by omega)]; omega), i_cl (by omega)]
      exact hcp
    rw [e_b2 h6]
  have h7 : ArrayList_grow1_20 h la (Int32.ofNat (m + 1)) (Int32.ofNat m) = some (some (g_n h), nZ h 15 1 la 5 (growTo m) (.inr (.inr (.inr (.inr (va_cpy g (fun _ => none) 0 0 m)))))) := by
    unfold ArrayList_grow1_20
    rw [e_b (ls_newLength m (by omega) (by omega)), v_gR hW hc rfl, hq, e_b2 h5]
    exact e_pF_nZ hW hc (by decide)
  have h8 : ArrayList_grow1 h la (Int32.ofNat (m + 1)) = some (some (g_n h), nZ h 15 1 la 5 (growTo m) (.inr (.inr (.inr (.inr (va_cpy g (fun _ => none) 0 0 m)))))) := by
    unfold ArrayList_grow1
    rw [v_gR hW hc rfl, hq, e_nn, e_len (v_look e) (by decide)]
    rw [if_pos (show (0 : Int32) < Int32.ofNat m from (i_lt (a := 0) (by omega) (by omega)).mpr (by omega))]
    exact h7
  unfold ArrayList_grow0
  rw [v_gI hW hc rfl, v_is hc, hs, show Int32.ofNat m + (1 : Int32) = Int32.ofNat (m + 1) from i_add, e_b2 h8]
/-- lists stand still where nothing of theirs is written -/
theorem Lst.keep {O : Nat → Prop} (hL : Lst h la n X) (hV : VF h h' O) (hO : ¬ O la) : Lst h' la n X := by
  have hc : cl h la ≠ none := by rw [hL.1]; simp
  obtain ⟨h0, h1, h2, h3, h4, h5⟩ := hL
  refine ⟨hV.kcl hO h0, by rw [hV.kJ hO hc]; exact h1, ?_, ?_, ?_, fun k hk => ?_⟩
  · rw [hV.kAL hO hc (by decide)]; exact h2
  · rw [hV.kAL hO hc (by decide)]; exact h3
  · rw [hV.kAL hO hc (by decide)]; exact h4
  · rw [hV.kRA hO hc (by decide)]; exact h5 k hk
theorem ls_add (hW : WF h) (hL : Lst h la n X) (hn : n < 64) (hX : ∀ k, k < n → ∃ c, cl h (X k) = some c ∧ c < 19) (hb : cl h b = some c) (hc19 : c < 19) :
    ∃ h', ArrayList_add0 h la (some b) = some (1, h') ∧ WF h' ∧ Lst h' la (n + 1) (fun k => if k = n then b else X k) ∧ VF h h' (fun q => q = la) ∧ Co h h' 1 96 ∧ (∀ q, cl h' q = cl h q) := by
  obtain ⟨hc, hs, h1, h2, h3, h4⟩ := hL
  have hW1 : WF (wJ h 15 0 la (J h 15 0 la + 1)) := hW.pJ rfl
  generalize e1 : wJ h 15 0 la (J h 15 0 la + 1) = ha at hW1
  have v1 : ∀ q, cl ha q = cl h q := fun q => by rw [← e1]; exact cl_wJ
  have hLa : Lst ha la n X := by
    rw [← e1]
    refine ⟨by rw [cl_wJ]; exact hc, by rw [J_wJn rfl]; exact hs, ?_, ?_, ?_, fun k hk => ?_⟩
    · rw [AL_wJ rfl hW]; exact h1
    · rw [AL_wJ rfl hW]; exact h2
    · rw [AL_wJ rfl hW]; exact h3
    · rw [RA_wJ rfl hW]; exact h4 k hk
  have hV1 : VF h ha (fun q => q = la) := by rw [← e1]; exact VF.pJ hW rfl
  have hC1 : ha.2 = h.2 := by rw [← e1]; exact wV_meta
  -- the last steps, from a heap with a place
  have last : ∀ (h2 : g_AH) (q : Nat), WF h2 → Lst h2 la n X → n < AL h2 15 1 la → Rf h2 15 1 la = some q → (∀ p, cl h2 p = cl h p) → VF h h2 (fun q => q = la) → Co h h2 1 96 →
      ∃ h', ArrayList_add1_11 h2 la (some b) (some q) (Int32.ofNat n) = some h' ∧ WF h' ∧ Lst h' la (n + 1) (fun k => if k = n then b else X k) ∧ VF h h' (fun q => q = la) ∧ Co h h' 1 96 ∧ (∀ p, cl h' p = cl h p) := by
    intro h2 q hW2 hL2 hlt hq hcl hV hCo
    obtain ⟨k0, k1, k2, k3, k4, k5⟩ := hL2
    have hW3 := hW2.pG (ci := 15) (f := 1) (a := la) (G := fun g => va_up g (Int32.ofNat n).toNatClampNeg (some b)) ⟨by decide, by decide⟩
    refine ⟨_, by
      unfold ArrayList_add1_11
      rw [e_nn, v_sA (t := 5) hW2 hq rfl rfl (i_in hlt (by omega)) (okE_of (c := c) (by rw [hcl]; exact hb) (by unfold gCast; simp [hc19])), v_pJ hW3 (by rw [cl_wG]; exact k0) rfl], hW3.pJ rfl, ?_, ?_, ?_, ?_⟩
    · rw [i_cl (by omega)] at hW3 ⊢
      refine ⟨by rw [cl_wJ, cl_wG]; exact k0, by rw [J_wJ hW3 (by rw [cl_wG]; exact k0) rfl, if_pos rfl]; exact i_add, ?_, ?_, ?_, fun k hk => ?_⟩
      · rw [AL_wJ rfl hW3, AL_wG]; omega
      · rw [AL_wJ rfl hW3, AL_wG]; omega
      · rw [AL_wJ rfl hW3, AL_wG]; omega
      · rw [RA_wJ rfl hW3, RA_wGs hW2 ⟨by decide, by decide⟩ k3]
        unfold va_up
        show _ = some (if k = n then b else X k)
        by_cases e : k = n
        · rw [if_pos e, if_pos e]
        · rw [if_neg e, if_neg e]; exact k5 k (by omega)
    · have hV2 : VF h2 (wG h2 15 1 la (fun g => va_up g (Int32.ofNat n).toNatClampNeg (some b))) (fun q => q = la) := VF.pG hW2 rfl (by decide)
      have hV3 := VF.pJ (h := wG h2 15 1 la (fun g => va_up g (Int32.ofNat n).toNatClampNeg (some b))) (ci := 15) (f := 2) (a := la) (x := Int32.ofNat n + 1) (O := fun q => q = la) hW3 rfl
      exact (hV.tr hW hV2 (fun a ha => Or.inl ha)).tr hW hV3 (fun a ha => Or.inl ha)
    · refine (hCo.tr (c := 0) (d := 0) (Co.of ?_)).le (by omega) (by omega)
      show (wV _ _ _ _ _).2.1.2 = _
      rw [wV_meta, wG_meta]
    · intro p; rw [cl_wJ, cl_wG]; exact hcl p
  obtain ⟨q, hq⟩ := AL_ref (h := ha) rfl hLa.2.2.2.1
  have hadd : ∃ h', ArrayList_add1 ha la (some b) (some q) (Int32.ofNat n) = some h' ∧ WF h' ∧ Lst h' la (n + 1) (fun k => if k = n then b else X k) ∧ VF h h' (fun q => q = la) ∧ Co h h' 1 96 ∧ (∀ p, cl h' p = cl h p) := by
    unfold ArrayList_add1
    rw [e_nn, v_len hW1 hq rfl]
    by_cases hf : n = AL ha 15 1 la
    · rw [if_pos (by rw [← hf]), v_is hLa.1]
      obtain ⟨G, hG, hgr⟩ := ls_grow hW1 hLa hf hn (fun k hk => by obtain ⟨c', x1, x2⟩ := hX k hk; exact ⟨c', by rw [v1]; exact x1, x2⟩)
      rw [e_b2 hgr]
      have hc' : cl ha la = some 15 := hLa.1
      have hWz := hW1.pZ (n := growTo n) (z := .inr (.inr (.inr (.inr G)))) (f := 1) hc' (by decide) (by decide) (t := 5) rfl ⟨G, rfl⟩
      obtain ⟨g1, g2⟩ := growTo_lt (c := n) (by have := hLa.2.2.2.1; omega) (by omega)
      refine last _ _ hWz ⟨by rw [cl_nZ hW1]; exact hc', by rw [J_nZ hW1 (by decide) (by decide)]; exact hLa.2.1, ?_, ?_, ?_, fun k hk => ?_⟩ ?_ ?_ (fun p => by rw [cl_nZ hW1]; exact v1 p) ?_ ?_
      · rw [AL_nZ hW1 hc' (by decide) (by decide) (by decide) (by decide), if_pos ⟨rfl, rfl, rfl⟩]; omega
      · rw [AL_nZ hW1 hc' (by decide) (by decide) (by decide) (by decide), if_pos ⟨rfl, rfl, rfl⟩]; omega
      · rw [AL_nZ hW1 hc' (by decide) (by decide) (by decide) (by decide), if_pos ⟨rfl, rfl, rfl⟩]; omega
      · rw [RA_nZ hW1 hc' (by decide) (by decide) (by decide) (by decide), if_pos ⟨rfl, rfl, rfl⟩]; exact hG k hk
      · rw [AL_nZ hW1 hc' (by decide) (by decide) (by decide) (by decide), if_pos ⟨rfl, rfl, rfl⟩]; omega
      · rw [Rf_nZ hW1 hc' (by decide) (by decide), if_pos ⟨rfl, rfl, rfl⟩]
      · exact hV1.tr hW (VF.pZ (O := fun q => q = la) hW1 hc' rfl) (fun a ha => Or.inl ha)
      · have e3 : g_c ha = g_c h := by unfold g_c; rw [hC1]
        have e4 : g_s ha = g_s h := by unfold g_s; rw [hC1]
        unfold Co; rw [g_c_nZ, g_s_nZ]; omega
    · rw [if_neg (fun p => hf ((i_eq (by omega) (by have := hLa.2.2.2.2.1; omega)).mp p))]
      exact last ha q hW1 hLa (by have := hLa.2.2.1; omega) hq v1 hV1 (Co.of (by rw [hC1]))
  obtain ⟨h', e2, r⟩ := hadd
  refine ⟨h', ?_, r⟩
  unfold ArrayList_add0
  rw [v_gI hW hc rfl, v_pJ hW hc rfl, e1, v_gR hW1 hLa.1 rfl, hq, v_gI hW1 hLa.1 rfl, hLa.2.1, v_is hLa.1, e_b e2]
theorem ls_remove (hW : WF h) (hL : Lst h la n X) (hk : k < n) (hX : ∀ k, k < n → ∃ c, cl h (X k) = some c ∧ c < 19) :
    ∃ h', ArrayList_remove h la (Int32.ofNat k) = some (some (X k), h') ∧ WF h' ∧ Lst h' la (n - 1) (fun j => if j < k then X j else X (j + 1)) ∧ VF h h' (fun q => q = la) ∧ Co h h' 0 0 ∧ (∀ q, cl h' q = cl h q) := by
  have hn96 := hL.len
  obtain ⟨hc, hs, h1, h2, h3, h4⟩ := hL
  obtain ⟨q, hq⟩ := AL_ref rfl h2
  have hW1 : WF (wJ h 15 0 la (J h 15 0 la + 1)) := hW.pJ rfl
  have c1 : cl (wJ h 15 0 la (J h 15 0 la + 1)) la = some 15 := by rw [cl_wJ]; exact hc
  have q1 : Rf (wJ h 15 0 la (J h 15 0 la + 1)) 15 1 la = some q := by rw [Rf_wJ rfl hW]; exact hq
  have a1 : AL (wJ h 15 0 la (J h 15 0 la + 1)) 15 1 la = AL h 15 1 la := AL_wJ rfl hW
  have hin : ∀ j, j < n → vp_in (Int32.ofNat j) (AL h 15 1 la) := fun j hj => i_in (Nat.lt_of_lt_of_le hj h1) (by omega)
  -- behind the shift
  have last : ∀ (h2 : g_AH), WF h2 → cl h2 la = some 15 → Rf h2 15 1 la = some q → AL h2 15 1 la = AL h 15 1 la → (∀ j, j < n - 1 → RA h2 15 1 la j = some (if j < k then X j else X (j + 1))) → (∀ p, cl h2 p = cl h p) → VF h h2 (fun q => q = la) → h2.2 = h.2 →
      ∃ h', ArrayList_fastRemove_34 h2 la (some q) (Int32.ofNat (n - 1)) = some h' ∧ WF h' ∧ Lst h' la (n - 1) (fun j => if j < k then X j else X (j + 1)) ∧ VF h h' (fun q => q = la) ∧ Co h h' 0 0 ∧ (∀ p, cl h' p = cl h p) := by
    intro h2 hW2 hc2 hq2 ha2 hR2 hcl hV hm
    have hW3 : WF (wJ h2 15 2 la (Int32.ofNat (n - 1))) := hW2.pJ rfl
    have hq3 : Rf (wJ h2 15 2 la (Int32.ofNat (n - 1))) 15 1 la = some q := by rw [Rf_wJ rfl hW2]; exact hq2
    have ha3 : AL (wJ h2 15 2 la (Int32.ofNat (n - 1))) 15 1 la = AL h 15 1 la := by rw [AL_wJ rfl hW2]; exact ha2
    refine ⟨_, by
      unfold ArrayList_fastRemove_34
      rw [v_pJ hW2 hc2 rfl, e_nn, v_sA (t := 5) hW3 hq3 rfl rfl (by rw [ha3]; exact hin _ (by omega)) rfl], hW3.pG ⟨by decide, by decide⟩, ?_, ?_, ?_, ?_⟩
    · rw [i_cl (by omega)]
      refine ⟨by rw [cl_wG, cl_wJ]; exact hc2, by rw [J_wG, J_wJ hW2 hc2 rfl, if_pos rfl], ?_, ?_, ?_, fun j hj => ?_⟩
      · rw [AL_wG, ha3]; omega
      · rw [AL_wG, ha3]; omega
      · rw [AL_wG, ha3]; omega
      · rw [RA_wGs hW3 ⟨by decide, by decide⟩ (by rw [ha3]; exact ‹0 < AL h 15 1 la›)]
        unfold va_up
        rw [if_neg (by omega), RA_wJ rfl hW2]
        exact hR2 j hj
    · have hV3 : VF h2 (wJ h2 15 2 la (Int32.ofNat (n - 1))) (fun q => q = la) := VF.pJ hW2 rfl
      exact (hV.tr hW hV3 (fun a ha => Or.inl ha)).tr hW (VF.pG (O := fun q => q = la) hW3 rfl (by decide)) (fun a ha => Or.inl ha)
    · refine Co.of ?_
      rw [wG_meta]
      show (wV _ _ _ _ _).2.1.2 = _
      rw [wV_meta, hm]
    · intro p; rw [cl_wG, cl_wJ]; exact hcl p
  have hfast : ∃ h', ArrayList_fastRemove h la (some q) (Int32.ofNat k) = some h' ∧ WF h' ∧ Lst h' la (n - 1) (fun j => if j < k then X j else X (j + 1)) ∧ VF h h' (fun q => q = la) ∧ Co h h' 0 0 ∧ (∀ p, cl h' p = cl h p) := by
    unfold ArrayList_fastRemove
    rw [v_gI hW hc rfl, v_pJ hW hc rfl, v_gI hW1 c1 rfl, J_wJn rfl, hs]
    rw [show Int32.ofNat n - (1 : Int32) = Int32.ofNat (n - 1) from i_sub1 (by omega)]
    by_cases hlast : n - 1 ≤ k
    · rw [if_pos ((i_le (by omega) (by omega)).mpr hlast)]
      refine last _ hW1 c1 q1 a1 (fun j hj => ?_) (fun p => cl_wJ) (VF.pJ hW rfl) wV_meta
      rw [RA_wJ rfl hW, if_pos (by omega)]
      exact h4 j (by omega)
    · rw [if_neg (fun p => hlast ((i_le (by omega) (by omega)).mp p)), e_nn]
      rw [show Int32.ofNat k + (1 : Int32) = Int32.ofNat (k + 1) from i_add, show Int32.ofNat (n - 1) - Int32.ofNat k = Int32.ofNat (n - 1 - k) from i_sub (by omega)]
      obtain ⟨m, z, e, hz⟩ := hW1.arr q1 (by decide) (by decide)
      obtain ⟨g, rfl⟩ := okA_ref (by decide) hz
      have em := AL_of q1 e
      have eg := RA_of q1 e
      have e' : (wJ h 15 0 la (J h 15 0 la + 1)).1 q = some (.inl (5, m, .inr (.inr (.inr (.inr g))))) := e
      have hgv : ∀ j, j < n → g j = some (X j) := fun j hj => by rw [← eg, RA_wJ rfl hW]; exact h4 j hj
      have hcond : (¬ Int32.ofNat (k + 1) < 0 ∧ ¬ Int32.ofNat k < 0 ∧ ¬ Int32.ofNat (n - 1 - k) < 0 ∧ (Int32.ofNat (k + 1)).toNatClampNeg + (Int32.ofNat (n - 1 - k)).toNatClampNeg ≤ m ∧ (Int32.ofNat k).toNatClampNeg + (Int32.ofNat (n - 1 - k)).toNatClampNeg ≤ m) ∧ (∀ i, i < (Int32.ofNat (n - 1 - k)).toNatClampNeg → g_okE (wJ h 15 0 la (J h 15 0 la + 1)) 5 (g ((Int32.ofNat (k + 1)).toNatClampNeg + i)) = true) := by
        rw [i_cl (by omega), i_cl (by omega), i_cl (by omega)]
        refine ⟨⟨i_nn (by omega), i_nn (by omega), i_nn (by omega), by omega, by omega⟩, fun i hi => ?_⟩
        rw [hgv _ (by omega)]
        obtain ⟨c', x1, x2⟩ := hX (k + 1 + i) (by omega)
        exact okE_of (c := c') (by rw [cl_wJ]; exact x1) (by unfold gCast; simp [x2])
      have hcp : ∀ K : g_AH → Option g_AH, g_cpQ (wJ h 15 0 la (J h 15 0 la + 1)) q (Int32.ofNat (k + 1)) q (Int32.ofNat k) (Int32.ofNat (n - 1 - k)) K = K (wG (wJ h 15 0 la (J h 15 0 la + 1)) 15 1 la (fun g => va_cpy g g (k + 1) k (n - 1 - k))) := by
        intro K
        rw [wG_eq q1 e']
        unfold g_cpQ
        rw [v_look e', e']
        simp only
        rw [if_pos hcond, i_cl (by omega), i_cl (by omega), i_cl (by omega)]
      rw [hcp]
      refine last _ (hW1.pG ⟨by decide, by decide⟩) (by rw [cl_wG]; exact c1) (by rw [Rf_wG]; exact q1) (by rw [AL_wG]; exact a1) (fun j hj => ?_) (fun p => by rw [cl_wG, cl_wJ]) ?_ ?_
      · rw [RA_wGs hW1 ⟨by decide, by decide⟩ (by rw [a1]; exact h2)]
        unfold va_cpy
        by_cases hj2 : j < k
        · rw [if_neg (by omega), if_pos hj2, RA_wJ rfl hW]; exact h4 j (by omega)
        · rw [if_pos (by omega), if_neg hj2, RA_wJ rfl hW, show k + 1 + (j - k) = j + 1 by omega]; exact h4 (j + 1) (by omega)
      · exact VF.tr hW (VF.pJ (O := fun q => q = la) hW rfl) (VF.pG (O := fun q => q = la) hW1 rfl (by decide)) (fun a ha => Or.inl ha)
      · rw [wG_meta]; exact wV_meta
  obtain ⟨h', e2, r⟩ := hfast
  refine ⟨h', ?_, r⟩
  unfold ArrayList_remove
  rw [v_gI hW hc rfl, hs, e_b (ls_ix hk hn96), v_gR hW hc rfl, hq, e_nn, v_aA (t := 5) hW hq rfl rfl (hin k hk), i_cl (by omega), h4 k hk, v_is hc, e_b e2]
/-- iterators: Itr h it la k: the iterator it of the list la stands at k -/
def Itr (h : g_AH) (it la k : Nat) : Prop := cl h it = some 16 ∧ J h 16 0 it = Int32.ofNat k ∧ J h 16 2 it = J h 15 0 la ∧ Rf h 16 3 it = some la
theorem ls_iter (hW : WF h) (hL : Lst h la n X) : ∃ h', ArrayList_iterator h la = some (some (g_n h), h') ∧ WF h' ∧ Lst h' la n X ∧ Itr h' (g_n h) la 0 ∧ VF h h' (fun _ => False) ∧ g_c h' = g_c h + 1 ∧ g_s h' = g_s h + 4 ∧ g_n h' = g_n h + 1 ∧ (∀ q, cl h' q = if q = g_n h then some 16 else cl h q) := by
  have hla := hW.cl_lt hL.1
  have hW1 : WF (nO h 16 4) := hW.pO
  have k1 : cl (nO h 16 4) (g_n h) = some 16 := by rw [cl_nO, if_pos rfl]
  have hW2 : WF (wR (nO h 16 4) 16 3 (g_n h) (some la)) := hW1.pR rfl
  have k2 : cl (wR (nO h 16 4) 16 3 (g_n h) (some la)) (g_n h) = some 16 := by rw [cl_wR]; exact k1
  have hW3 : WF (wJ (wR (nO h 16 4) 16 3 (g_n h) (some la)) 16 1 (g_n h) (-1)) := hW2.pJ rfl
  have k3 : cl (wJ (wR (nO h 16 4) 16 3 (g_n h) (some la)) 16 1 (g_n h) (-1)) (g_n h) = some 16 := by rw [cl_wJ]; exact k2
  have l3 : cl (wJ (wR (nO h 16 4) 16 3 (g_n h) (some la)) 16 1 (g_n h) (-1)) la = some 15 := by rw [cl_wJ, cl_wR, cl_nO, if_neg (by omega)]; exact hL.1
  have r3 : Rf (wJ (wR (nO h 16 4) 16 3 (g_n h) (some la)) 16 1 (g_n h) (-1)) 16 3 (g_n h) = some la := by rw [Rf_wJ rfl hW2, Rf_wR hW1 k1 rfl, if_pos rfl]
  have j3 : J (wJ (wR (nO h 16 4) 16 3 (g_n h) (some la)) 16 1 (g_n h) (-1)) 15 0 la = J h 15 0 la := by rw [J_wJn rfl, J_wR rfl hW1, J_nO hW]
  have hV : VF h (wJ (wJ (wR (nO h 16 4) 16 3 (g_n h) (some la)) 16 1 (g_n h) (-1)) 16 2 (g_n h) (J h 15 0 la)) (fun _ => False) := by
    have a0 : VF h (nO h 16 4) (fun _ => False) := VF.pO hW
    have a1 : VF (nO h 16 4) (wR (nO h 16 4) 16 3 (g_n h) (some la)) (fun q => q = g_n h) := VF.pR hW1 rfl
    have a2 : VF (wR (nO h 16 4) 16 3 (g_n h) (some la)) (wJ (wR (nO h 16 4) 16 3 (g_n h) (some la)) 16 1 (g_n h) (-1)) (fun q => q = g_n h) := VF.pJ hW2 rfl
    have a3 := VF.pJ (h := wJ (wR (nO h 16 4) 16 3 (g_n h) (some la)) 16 1 (g_n h) (-1)) (ci := 16) (f := 2) (a := g_n h) (x := J h 15 0 la) (O := fun q => q = g_n h) hW3 rfl
    exact ((a0.tr hW a1 (fun a ha => Or.inr (by omega))).tr hW a2 (fun a ha => Or.inr (by omega))).tr hW a3 (fun a ha => Or.inr (by omega))
  refine ⟨_, ?_, hW3.pJ rfl, hL.keep hV (fun q => q), ⟨by rw [cl_wJ]; exact k3, ?_, ?_, ?_⟩, hV, ?_, ?_, ?_, fun q => ?_⟩
  · unfold ArrayList_iterator
    rw [v_mk16]
    have hi : ArrayListItr_init (nO h 16 4) (g_n h) (some la) = some (wJ (wJ (wR (nO h 16 4) 16 3 (g_n h) (some la)) 16 1 (g_n h) (-1)) 16 2 (g_n h) (J h 15 0 la)) := by
      unfold ArrayListItr_init
      rw [v_pR hW1 k1 rfl, v_pJ hW2 k2 rfl, v_gR hW3 k3 rfl, r3, e_nn, v_gI hW3 l3 rfl, j3, v_pJ hW3 k3 rfl]
    rw [e_b hi]
  · rw [J_wJn rfl, J_wJn rfl, J_wR rfl hW1, J_nO hW]
    unfold J; unfold fld; rw [hW.nocell (Nat.le_refl _)]; rfl
  · rw [J_wJ hW3 k3 rfl, if_pos rfl, J_wJn rfl, j3]
  · rw [Rf_wJ rfl hW3]; exact r3
  · show g_c (wV _ _ _ _ _) = _; rw [g_c_wV]; show g_c (wV _ _ _ _ _) = _; rw [g_c_wV]; show g_c (wV _ _ _ _ _) = _; rw [g_c_wV]; rfl
  · show g_s (wV _ _ _ _ _) = _; rw [g_s_wV]; show g_s (wV _ _ _ _ _) = _; rw [g_s_wV]; show g_s (wV _ _ _ _ _) = _; rw [g_s_wV]; rfl
  · show g_n (wV _ _ _ _ _) = _; rw [g_n_wV]; show g_n (wV _ _ _ _ _) = _; rw [g_n_wV]; show g_n (wV _ _ _ _ _) = _; rw [g_n_wV]; rfl
  · rw [cl_wJ, cl_wJ, cl_wR, cl_nO]
theorem ls_hasNext (hW : WF h) (hL : Lst h la n X) (hI : Itr h b la k) (hk : k ≤ n) : ArrayListItr_hasNext h b = some (if k = n then 0 else 1) := by
  have hn := hL.len
  unfold ArrayListItr_hasNext
  rw [v_gI hW hI.1 rfl, v_gR hW hI.1 rfl, hI.2.2.2, e_nn, v_gI hW hL.1 rfl, hI.2.1, hL.2.1]
  by_cases e : k = n
  · rw [if_pos (by rw [e]), if_pos e]
  · rw [if_neg (fun q => e ((i_eq (by omega) (by omega)).mp q)), if_neg e]
theorem ls_next (hW : WF h) (hL : Lst h la n X) (hI : Itr h b la k) (hk : k < n) : ∃ h', ArrayListItr_next h b = some (some (X k), h') ∧ WF h' ∧ Lst h' la n X ∧ Itr h' b la (k + 1) ∧ VF h h' (fun q => q = b) ∧ h'.2 = h.2 ∧ (∀ q, cl h' q = cl h q) := by
  have hn := hL.len
  obtain ⟨i1, i2, i3, i4⟩ := hI
  have hne : la ≠ b := by intro e; subst e; rw [hL.1] at i1; cases i1
  obtain ⟨q, hq⟩ := AL_ref rfl hL.2.2.2.1
  have hW1 : WF (wJ h 16 0 b (Int32.ofNat (k + 1))) := hW.pJ rfl
  have c1 : cl (wJ h 16 0 b (Int32.ofNat (k + 1))) b = some 16 := by rw [cl_wJ]; exact i1
  have hW2 : WF (wJ (wJ h 16 0 b (Int32.ofNat (k + 1))) 16 1 b (Int32.ofNat k)) := hW1.pJ rfl
  have q2 : Rf (wJ (wJ h 16 0 b (Int32.ofNat (k + 1))) 16 1 b (Int32.ofNat k)) 15 1 la = some q := by rw [Rf_wJ rfl hW1, Rf_wJ rfl hW]; exact hq
  have a2 : AL (wJ (wJ h 16 0 b (Int32.ofNat (k + 1))) 16 1 b (Int32.ofNat k)) 15 1 la = AL h 15 1 la := by rw [AL_wJ rfl hW1, AL_wJ rfl hW]
  have hV : VF h (wJ (wJ h 16 0 b (Int32.ofNat (k + 1))) 16 1 b (Int32.ofNat k)) (fun q => q = b) :=
    VF.tr hW (VF.pJ (O := fun q => q = b) hW rfl) (VF.pJ (O := fun q => q = b) hW1 rfl) (fun a ha => Or.inl ha)
  refine ⟨_, ?_, hW2, hL.keep hV hne, ⟨by rw [cl_wJ]; exact c1, ?_, ?_, ?_⟩, hV, ?_, fun q => by rw [cl_wJ, cl_wJ]⟩
  · have hck : ArrayListItr_checkForComodification h b = some () := by
      unfold ArrayListItr_checkForComodification
      rw [v_gR hW i1 rfl, i4, e_nn, v_gI hW hL.1 rfl, v_gI hW i1 rfl, i3, if_pos rfl]
    unfold ArrayListItr_next
    rw [v_is i1, e_b hck, v_gI hW i1 rfl, v_gR hW i1 rfl, i4, e_nn, v_gI hW hL.1 rfl, i2, hL.2.1]
    rw [if_pos ((i_lt (by omega) (by omega)).mpr hk)]
    rw [v_gR hW i1 rfl, i4, e_nn, v_gR hW hL.1 rfl, hq, e_nn, v_len hW hq rfl]
    rw [if_pos ((i_lt (by omega) (by have := hL.2.2.2.2.1; omega)).mpr (Nat.lt_of_lt_of_le hk hL.2.2.1))]
    rw [show Int32.ofNat k + (1 : Int32) = Int32.ofNat (k + 1) from i_add, v_pJ hW i1 rfl, v_pJ hW1 c1 rfl]
    rw [v_aA (t := 5) hW2 q2 rfl rfl (by rw [a2]; exact i_in (Nat.lt_of_lt_of_le hk hL.2.2.1) (by have := hL.2.2.2.2.1; omega)), i_cl (by omega), RA_wJ rfl hW1, RA_wJ rfl hW, hL.val hk]
  · rw [J_wJn rfl, J_wJ hW i1 rfl, if_pos rfl]
  · rw [J_wJn rfl, J_wJn rfl, J_wJn rfl, J_wJn rfl]; exact i3
  · rw [Rf_wJ rfl hW1, Rf_wJ rfl hW]; exact i4
  · show (wV _ _ _ _ _).2 = _; rw [wV_meta]; exact wV_meta
end LIST
