/-! LEVEL 2: the row of numbers (the twin's state), what holds of it, and what the component's heap holds of it -/
abbrev tR : Type := Nat → Int32
def nt (r : tR) (j : Nat) : Nat := (r j).toNatClampNeg
/-- a number below b stands at j -/
def nm (r : tR) (j b : Nat) : Prop := r j = Int32.ofNat (nt r j) ∧ nt r j < b
/-- the first of k .. k + m - 1 with p, or k + m -/
def fsN (p : Nat → Bool) : Nat → Nat → Nat
  | k, 0 => k
  | k, m + 1 => if p k = true then k else fsN p (k + 1) m
theorem fsN_le {p : Nat → Bool} : ∀ m k, k ≤ fsN p k m ∧ fsN p k m ≤ k + m
  | 0, k => ⟨Nat.le_refl _, Nat.le_refl _⟩
  | m + 1, k => by
    unfold fsN
    split
    · omega
    · have := fsN_le (p := p) m (k + 1); omega
theorem fsN_is {p : Nat → Bool} : ∀ m k, fsN p k m < k + m → p (fsN p k m) = true
  | 0, k => fun h => by unfold fsN at h; omega
  | m + 1, k => fun h => by
    unfold fsN at h ⊢
    split
    · assumption
    · rename_i hp
      rw [if_neg hp] at h
      exact fsN_is m (k + 1) (by omega)
theorem fsN_not {p : Nat → Bool} : ∀ m k j, k ≤ j → j < fsN p k m → p j = false
  | 0, k, j => fun h1 h2 => by unfold fsN at h2; omega
  | m + 1, k, j => fun h1 h2 => by
    unfold fsN at h2
    split at h2
    · omega
    · rename_i hp
      by_cases e : j = k
      · subst e; simpa using hp
      · exact fsN_not m (k + 1) j (by omega) h2
theorem fsN_ex {p : Nat → Bool} {m k j : Nat} (h1 : k ≤ j) (h2 : j < k + m) (hp : p j = true) : fsN p k m ≤ j := by
  by_cases h : fsN p k m ≤ j
  · exact h
  · have := fsN_not (p := p) m k j h1 (by omega)
    rw [hp] at this; cases this
/-- link k joins x and y -/
def jn (r : tR) (k : Nat) (x y : Int32) : Bool := (decide (r (24 + 5 * k) = x) && decide (r (24 + 5 * k + 1) = y)) || (decide (r (24 + 5 * k) = y) && decide (r (24 + 5 * k + 1) = x))
def lk (r : tR) (x y : Int32) : Nat := fsN (fun k => jn r k x y) 0 (nt r 3)
/-- an index below n, or none: -1 -/
def ixI (n k : Nat) : Int32 := if k < n then Int32.ofNat k else -1
abbrev wp (c w : Nat) : Nat := 104 + 66 * c + 16 + 25 * w
/-- a way at p: its length at p, nodes from p + 1, label's space from p + 7, label from p + 13, made from p + 19 -/
def WyI (r : tR) (p : Nat) : Prop := nm r p 7 ∧ (∀ i, i < nt r p → nm r (p + 1 + i) (nt r 2)) ∧ (∀ i j, i < nt r p → j < nt r p → r (p + 1 + i) = r (p + 1 + j) → i = j) ∧
  (∀ i, i + 1 < nt r p → lk r (r (p + 1 + i)) (r (p + 1 + (i + 1))) < nt r 3) ∧
  (∀ i, i < nt r p → (r (p + 7 + i) = -1 ∧ r (p + 13 + i) = -1) ∨ (0 < i ∧ nm r (p + 7 + i) (nt r 2) ∧ nm r (p + 13 + i) (nt r (14 + nt r (p + 7 + i))))) ∧ ∀ i, i < nt r p → nm r (p + 19 + i) 2
/-- the label l of the space s is held at place i of the way w of circuit c -/
def Pos (r : tR) (c w i s l : Nat) : Prop := c < nt r 4 ∧ w < 2 ∧ 0 < i ∧ i < nt r (wp c w) ∧ r (wp c w + 7 + i) = Int32.ofNat s ∧ r (wp c w + 13 + i) = Int32.ofNat l
/-- numbers, nodes, links -/
def InvA (r : tR) : Prop := (nm r 2 11 ∧ nm r 3 17 ∧ nm r 4 9 ∧ nm r 6 61) ∧ (nm r 0 5 ∧ nm r 1 2) ∧ (∀ k, k < nt r 2 → nm r (14 + k) 13 ∧ 0 < nt r (14 + k)) ∧
  (∀ k, k < nt r 3 → nm r (24 + 5 * k) (nt r 2) ∧ nm r (24 + 5 * k + 1) (nt r 2) ∧ nm r (24 + 5 * k + 2) 100 ∧ (nm r (24 + 5 * k + 3) 10 ∧ 0 < nt r (24 + 5 * k + 3)) ∧ nm r (24 + 5 * k + 4) 2) ∧
  (∀ k k' x y, k < nt r 3 → k' < nt r 3 → jn r k x y = true → jn r k' x y = true → k = k')
/-- circuits' ways -/
def InvW (r : tR) : Prop := ∀ c w, c < nt r 4 → w < 2 → WyI r (wp c w)
/-- circuits -/
def ICc (r : tR) (c : Nat) : Prop := (nm r (104 + 66 * c + 2) 4 ∧ nm r (104 + 66 * c + 3) 46) ∧ 2 ≤ nt r (wp c 0) ∧
  (nt r (104 + 66 * c + 2) = 0 → nt r (wp c 1) = 0) ∧ (0 < nt r (104 + 66 * c + 2) → 2 ≤ nt r (wp c 1)) ∧
  (nt r (104 + 66 * c + 2) = 1 → nt r (104 + 66 * c + 3) < nt r (wp c 1)) ∧ (nt r (104 + 66 * c + 2) = 2 → 0 < nt r (104 + 66 * c + 3)) ∧
  (nt r (104 + 66 * c + 2) = 3 → 0 < nt r (104 + 66 * c + 3) ∧ nt r (104 + 66 * c + 3) < nt r (wp c 0)) ∧
  (∀ w i, w < 2 → 0 < i → i < nt r (wp c w) → (r (wp c w + 7 + i) = -1 ↔ (w = 0 ∧ nt r (104 + 66 * c + 2) = 3 ∧ i < nt r (104 + 66 * c + 3))))
def InvC (r : tR) : Prop := ∀ c, c < nt r 4 → ICc r c
/-- packets -/
def InvP (r : tR) : Prop := ∀ p, p < nt r 6 → nm r (632 + 8 * p) (nt r 4) ∧ nm r (632 + 8 * p + 4) (nt r 2) ∧ nm r (632 + 8 * p + 5) (nt r (14 + nt r (632 + 8 * p + 4))) ∧ r (632 + 8 * p + 3) ≠ -1
/-! the component's heap: a the net; N, L, C, K its nodes, links, circuits, packets; all its objects in the set G -/
def lA (h : g_AH) (a i : Nat) : Nat := (Rf h 1 i a).getD 0
def InjN (X : Nat → Nat) (n : Nat) : Prop := ∀ i j, i < n → j < n → X i = X j → i = j
/-- the net's own fields and its phases -/
def RNa (h : g_AH) (G : Nat → Prop) (a : Nat) (r : tR) : Prop := (cl h a = some 1 ∧ G a) ∧ (AL h 1 0 a = 2 ∧ Ar h 1 0 a 0 = r 0 ∧ Ar h 1 0 a 1 = r 1) ∧ (J h 1 6 a = r 5 ∧ ∀ f, 7 ≤ f → f ≤ 13 → J h 1 f a = r f) ∧
  (AL h 1 5 a = 4 ∧ ∀ i, i < 4 → ∃ p, RA h 1 5 a i = some p ∧ cl h p = some (2 + i) ∧ G p)
/-- its lists -/
def RNl (h : g_AH) (G : Nat → Prop) (a : Nat) (r : tR) (N L C K : Nat → Nat) (mC : Nat) : Prop := (∀ i, 1 ≤ i → i ≤ 4 → Rf h 1 i a = some (lA h a i) ∧ G (lA h a i)) ∧ (∀ i j, 1 ≤ i → i ≤ 4 → 1 ≤ j → j ≤ 4 → lA h a i = lA h a j → i = j) ∧
  (Lst h (lA h a 1) (nt r 2) N ∧ Lst h (lA h a 2) (nt r 3) L ∧ Lst h (lA h a 3) mC C ∧ Lst h (lA h a 4) (nt r 6) K) ∧ (InjN N (nt r 2) ∧ InjN L (nt r 3) ∧ InjN C mC ∧ InjN K (nt r 6))
def NodeR (h : g_AH) (G : Nat → Prop) (r : tR) (x k : Nat) : Prop := (cl h x = some 10 ∧ G x) ∧ J h 10 0 x = r (14 + k) ∧ ∀ f, 1 ≤ f → f ≤ 4 → AL h 10 f x = nt r (14 + k)
def LinkR (h : g_AH) (G : Nat → Prop) (r : tR) (x k : Nat) : Prop := (cl h x = some 11 ∧ G x) ∧ ∀ f, f < 5 → J h 11 f x = r (24 + 5 * k + f)
def WayR (h : g_AH) (G : Nat → Prop) (r : tR) (x p : Nat) : Prop := (cl h x = some 6 ∧ G x) ∧ J h 6 3 x = r p ∧ (∀ f, f < 3 → AL h 6 f x = 6) ∧ ∀ f i, f < 3 → i < nt r p → Ar h 6 f x i = r (p + 1 + 6 * f + i)
/-- the place in the row of a circuit's field -/
def cf (f : Nat) : Nat := if f ≤ 1 then f else if f = 4 then 2 else f - 3
def CircR (h : g_AH) (G : Nat → Prop) (r : tR) (x c : Nat) : Prop := (cl h x = some 12 ∧ G x) ∧ (∀ f, f ∈ [0, 1, 4, 7, 8, 9, 10, 11, 12, 13, 14] → J h 12 f x = r (104 + 66 * c + cf f)) ∧
  (∃ w, Rf h 12 2 x = some w ∧ WayR h G r w (wp c 0)) ∧
  (if nt r (104 + 66 * c + 2) = 0 then Rf h 12 3 x = none else ∃ w, Rf h 12 3 x = some w ∧ WayR h G r w (wp c 1)) ∧
  ((nt r (104 + 66 * c + 2) = 1 → J h 12 5 x = Int32.ofNat (nt r (wp c 1) - 1 - nt r (104 + 66 * c + 3))) ∧ (nt r (104 + 66 * c + 2) = 2 → J h 12 6 x = r (104 + 66 * c + 3)) ∧ (nt r (104 + 66 * c + 2) = 3 → J h 12 5 x = Int32.ofNat (nt r (104 + 66 * c + 3) - 1)))
def PktR (h : g_AH) (G : Nat → Prop) (r : tR) (x p : Nat) : Prop := (cl h x = some 14 ∧ G x) ∧ J h 14 0 x = r (632 + 8 * p) ∧ J h 14 1 x = r (632 + 8 * p + 1) ∧ J h 14 2 x = r (632 + 8 * p + 7) ∧ ∀ f, 3 ≤ f → f ≤ 7 → J h 14 f x = r (632 + 8 * p + (f - 1))
/-- who holds which label -/
def LabR (h : g_AH) (r : tR) (N : Nat → Nat) : Prop := (∀ c w i s l, Pos r c w i s l → s < nt r 2 → l < nt r (14 + s) → Ar h 10 1 (N s) l = r (wp c w + 1 + i) ∧ Ar h 10 2 (N s) l = Int32.ofNat c ∧ Ar h 10 3 (N s) l = Int32.ofNat w ∧ Ar h 10 4 (N s) l = r (wp c w + 19 + i)) ∧
  ∀ s l, s < nt r 2 → l < nt r (14 + s) → Ar h 10 1 (N s) l = -1 ∨ ∃ c w i, Pos r c w i s l
/-- circuits' ways are apart -/
def WapR (h : g_AH) (C : Nat → Nat) (mC : Nat) : Prop := ∀ c c' w w' q, c < mC → c' < mC → w < 2 → w' < 2 → Rf h 12 (2 + w) (C c) = some q → Rf h 12 (2 + w') (C c') = some q → c = c' ∧ w = w'
def RN (h : g_AH) (G : Nat → Prop) (a : Nat) (r : tR) (N L C K : Nat → Nat) (mC : Nat) : Prop := RNa h G a r ∧ RNl h G a r N L C K mC ∧ (∀ k, k < nt r 2 → NodeR h G r (N k) k) ∧ (∀ k, k < nt r 3 → LinkR h G r (L k) k) ∧ ((∀ c, c < mC → CircR h G r (C c) c) ∧ WapR h C mC) ∧ (∀ p, p < nt r 6 → PktR h G r (K p) p) ∧ LabR h r N
section RNF
variable {h h' : g_AH} {G O : Nat → Prop} {a : Nat} {r : tR} {N L C K : Nat → Nat} {mC x k p c : Nat}
theorem cl_ne (hc : cl h a = some c) : cl h a ≠ none := by rw [hc]; simp
theorem WayR.keep (hx : WayR h G r x p) (hV : VF h h' O) (hO : ∀ q k, G q → cl h q = some k → k ≠ 15 → ¬ O q) : WayR h' G r x p := by
  obtain ⟨⟨h1, h2⟩, h3, h4, h5⟩ := hx
  have hn := cl_ne h1
  have ho := hO _ _ h2 h1 (by decide)
  refine ⟨⟨hV.kcl ho h1, h2⟩, by rw [hV.kJ ho hn]; exact h3, fun f hf => ?_, fun f i hf hi => ?_⟩
  · rw [hV.kAL ho hn (by rcases (show f = 0 ∨ f = 1 ∨ f = 2 by omega) with rfl | rfl | rfl <;> decide)]; exact h4 f hf
  · rw [hV.kAr ho hn (by rcases (show f = 0 ∨ f = 1 ∨ f = 2 by omega) with rfl | rfl | rfl <;> decide)]; exact h5 f i hf hi
theorem NodeR.keep (hx : NodeR h G r x k) (hV : VF h h' O) (hO : ∀ q k, G q → cl h q = some k → k ≠ 15 → ¬ O q) : NodeR h' G r x k := by
  obtain ⟨⟨h1, h2⟩, h3, h4⟩ := hx
  have hn := cl_ne h1
  have ho := hO _ _ h2 h1 (by decide)
  refine ⟨⟨hV.kcl ho h1, h2⟩, by rw [hV.kJ ho hn]; exact h3, fun f h5 h6 => ?_⟩
  rw [hV.kAL ho hn (by rcases (show f = 1 ∨ f = 2 ∨ f = 3 ∨ f = 4 by omega) with rfl | rfl | rfl | rfl <;> decide)]; exact h4 f h5 h6
theorem LinkR.keep (hx : LinkR h G r x k) (hV : VF h h' O) (hO : ∀ q k, G q → cl h q = some k → k ≠ 15 → ¬ O q) : LinkR h' G r x k := by
  obtain ⟨⟨h1, h2⟩, h3⟩ := hx
  have hn := cl_ne h1
  have ho := hO _ _ h2 h1 (by decide)
  exact ⟨⟨hV.kcl ho h1, h2⟩, fun f hf => by rw [hV.kJ ho hn]; exact h3 f hf⟩
theorem CircR.keep (hx : CircR h G r x c) (hV : VF h h' O) (hO : ∀ q k, G q → cl h q = some k → k ≠ 15 → ¬ O q) : CircR h' G r x c := by
  obtain ⟨⟨h1, h2⟩, h3, ⟨w, h4, h5⟩, h6, h7⟩ := hx
  have hn := cl_ne h1
  have ho := hO _ _ h2 h1 (by decide)
  refine ⟨⟨hV.kcl ho h1, h2⟩, fun f hf => by rw [hV.kJ ho hn]; exact h3 f hf, ⟨w, by rw [hV.kRf ho hn]; exact h4, h5.keep hV hO⟩, ?_, ?_⟩
  · split
    · rename_i e; rw [if_pos e] at h6; rw [hV.kRf ho hn]; exact h6
    · rename_i e; rw [if_neg e] at h6
      obtain ⟨w', h8, h9⟩ := h6
      exact ⟨w', by rw [hV.kRf ho hn]; exact h8, h9.keep hV hO⟩
  · rw [hV.kJ ho hn, hV.kJ ho hn]; exact h7
theorem PktR.keep (hx : PktR h G r x p) (hV : VF h h' O) (hO : ∀ q k, G q → cl h q = some k → k ≠ 15 → ¬ O q) : PktR h' G r x p := by
  obtain ⟨⟨h1, h2⟩, h3, h4, h5, h6⟩ := hx
  have hn := cl_ne h1
  have ho := hO _ _ h2 h1 (by decide)
  exact ⟨⟨hV.kcl ho h1, h2⟩, by rw [hV.kJ ho hn]; exact h3, by rw [hV.kJ ho hn]; exact h4, by rw [hV.kJ ho hn]; exact h5, fun f h7 h8 => by rw [hV.kJ ho hn]; exact h6 f h7 h8⟩
theorem RNa.keep (hx : RNa h G a r) (hV : VF h h' O) (hO : ∀ q k, G q → cl h q = some k → k ≠ 15 → ¬ O q) : RNa h' G a r := by
  obtain ⟨⟨h1, h2⟩, ⟨h3, h4, h5⟩, ⟨h6, h7⟩, h8, h9⟩ := hx
  have hn := cl_ne h1
  have ho := hO _ _ h2 h1 (by decide)
  refine ⟨⟨hV.kcl ho h1, h2⟩, ⟨by rw [hV.kAL ho hn (by decide)]; exact h3, by rw [hV.kAr ho hn (by decide)]; exact h4, by rw [hV.kAr ho hn (by decide)]; exact h5⟩, ⟨by rw [hV.kJ ho hn]; exact h6, fun f x1 x2 => by rw [hV.kJ ho hn]; exact h7 f x1 x2⟩, by rw [hV.kAL ho hn (by decide)]; exact h8, fun i hi => ?_⟩
  obtain ⟨q, x1, x2, x3⟩ := h9 i hi
  exact ⟨q, by rw [hV.kRA ho hn (by decide)]; exact x1, hV.kcl (hO _ _ x3 x2 (by omega)) x2, x3⟩
theorem RNl.keep (ha : cl h a = some 1 ∧ G a) (hx : RNl h G a r N L C K mC) (hV : VF h h' O) (hO : ∀ q, G q → ¬ O q) : RNl h' G a r N L C K mC := by
  obtain ⟨h1, h2, ⟨h3, h4, h5, h6⟩, h7⟩ := hx
  have hn := cl_ne ha.1
  have ho := hO _ ha.2
  have e : ∀ i, lA h' a i = lA h a i := fun i => by unfold lA; rw [hV.kRf ho hn]
  refine ⟨fun i x1 x2 => by rw [e, hV.kRf ho hn]; exact h1 i x1 x2, fun i j x1 x2 x3 x4 => by rw [e, e]; exact h2 i j x1 x2 x3 x4, ⟨?_, ?_, ?_, ?_⟩, h7⟩
  · rw [e]; exact h3.keep hV (hO _ (h1 1 (by omega) (by omega)).2)
  · rw [e]; exact h4.keep hV (hO _ (h1 2 (by omega) (by omega)).2)
  · rw [e]; exact h5.keep hV (hO _ (h1 3 (by omega) (by omega)).2)
  · rw [e]; exact h6.keep hV (hO _ (h1 4 (by omega) (by omega)).2)
theorem RN.keep (hx : RN h G a r N L C K mC) (hV : VF h h' O) (hO : ∀ q, G q → ¬ O q) : RN h' G a r N L C K mC := by
  obtain ⟨h1, h2, h3, h4, ⟨h5, h6⟩, h7, h8, h9⟩ := hx
  have key : ∀ s f, s < nt r 2 → 1 ≤ f → f ≤ 4 → Ar h' 10 f (N s) = Ar h 10 f (N s) := fun s f hs x1 x2 => by
    have hc := (h3 s hs).1
    exact hV.kAr (hO _ hc.2) (cl_ne hc.1) (by rcases (show f = 1 ∨ f = 2 ∨ f = 3 ∨ f = 4 by omega) with rfl | rfl | rfl | rfl <;> decide)
  have hO' : ∀ q k, G q → cl h q = some k → k ≠ 15 → ¬ O q := fun q k hg _ _ => hO q hg
  refine ⟨h1.keep hV hO', h2.keep h1.1 hV hO, fun k hk => (h3 k hk).keep hV hO', fun k hk => (h4 k hk).keep hV hO', ⟨fun c hc => (h5 c hc).keep hV hO', fun c c' w w' q x1 x2 x3 x4 x5 x6 => ?_⟩, fun p hp => (h7 p hp).keep hV hO', fun c w i s l x1 x2 x3 => ?_, fun s l x1 x2 => ?_⟩
  · have g1 := (h5 c x1).1
    have g2 := (h5 c' x2).1
    rw [hV.kRf (hO _ g1.2) (cl_ne g1.1)] at x5
    rw [hV.kRf (hO _ g2.2) (cl_ne g2.1)] at x6
    exact h6 c c' w w' q x1 x2 x3 x4 x5 x6
  · rw [key s 1 x2 (by omega) (by omega), key s 2 x2 (by omega) (by omega), key s 3 x2 (by omega) (by omega), key s 4 x2 (by omega) (by omega)]
    exact h8 c w i s l x1 x2 x3
  · rw [key s 1 x1 (by omega) (by omega)]
    exact h9 s l x1 x2
theorem nm.lt {j b : Nat} (e : nm r j b) : nt r j < b := e.2
theorem nm.of {j b n : Nat} (e : r j = Int32.ofNat n) (hn : n < b) (hb : b ≤ 1000) : nm r j b ∧ nt r j = n := by
  have h1 : nt r j = n := by unfold nt; rw [e]; exact i_cl (by omega)
  exact ⟨⟨by rw [h1]; exact e, by omega⟩, h1⟩
theorem nt_of {j n : Nat} (e : r j = Int32.ofNat n) (hn : n < 2147483648) : nt r j = n := by unfold nt; rw [e]; exact i_cl hn
theorem m1_ne {n : Nat} (hn : n < 2147483648) : Int32.ofNat n ≠ -1 := by
  intro e
  have h1 : (Int32.ofNat n).toInt = (-1 : Int32).toInt := by rw [e]
  rw [i_toInt hn] at h1
  have h2 : (-1 : Int32).toInt = -1 := by decide
  omega
/-- labels are held once -/
theorem Pos.uniq (hL : LabR h r N) (hA : InvA r) (hW : InvW r) {c w i c' w' i' s l : Nat} (x : Pos r c w i s l) (y : Pos r c' w' i' s l) (hs : s < nt r 2) (hl : l < nt r (14 + s)) : c = c' ∧ w = w' ∧ i = i' := by
  obtain ⟨a1, a2, a3, -⟩ := hL.1 c w i s l x hs hl
  obtain ⟨b1, b2, b3, -⟩ := hL.1 c' w' i' s l y hs hl
  have h4 := hA.1.2.2.1.2
  have e1 : c = c' := (i_eq (by have := x.1; omega) (by have := y.1; omega)).mp (a2.symm.trans b2)
  have e2 : w = w' := (i_eq (by have := x.2.1; omega) (by have := y.2.1; omega)).mp (a3.symm.trans b3)
  subst e1; subst e2
  exact ⟨rfl, rfl, (hW c w x.1 x.2.1).2.2.1 i i' x.2.2.2.1 y.2.2.2.1 (a1.symm.trans b1)⟩
theorem Pos.rng (hW : InvW r) (hA : InvA r) {c w i : Nat} (h1 : c < nt r 4) (h2 : w < 2) (h3 : 0 < i) (h4 : i < nt r (wp c w)) (hne : r (wp c w + 7 + i) ≠ -1) : Pos r c w i (nt r (wp c w + 7 + i)) (nt r (wp c w + 13 + i)) ∧ nt r (wp c w + 7 + i) < nt r 2 ∧ nt r (wp c w + 13 + i) < nt r (14 + nt r (wp c w + 7 + i)) := by
  rcases (hW c w h1 h2).2.2.2.2.1 i h4 with e | ⟨-, e1, e2⟩
  · exact absurd e.1 hne
  · exact ⟨⟨h1, h2, h3, h4, e1.1, e2.1⟩, e1.2, e2.2⟩
end RNF
