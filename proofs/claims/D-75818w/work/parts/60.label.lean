/-! LEVEL 2: a label is given -/
/-- a net but for who holds which label -/
def R6 (h : g_AH) (G : Nat → Prop) (a : Nat) (r : tR) (N L C K : Nat → Nat) (mC : Nat) : Prop := RNa h G a r ∧ RNl h G a r N L C K mC ∧ (∀ k, k < nt r 2 → NodeR h G r (N k) k) ∧ (∀ k, k < nt r 3 → LinkR h G r (L k) k) ∧ ((∀ c, c < mC → CircR h G r (C c) c) ∧ WapR h C mC) ∧ (∀ p, p < nt r 6 → PktR h G r (K p) p)
theorem RN.six {h : g_AH} {G : Nat → Prop} {a : Nat} {r : tR} {N L C K : Nat → Nat} {mC : Nat} (x : RN h G a r N L C K mC) : R6 h G a r N L C K mC := ⟨x.1, x.2.1, x.2.2.1, x.2.2.2.1, x.2.2.2.2.1, x.2.2.2.2.2.1⟩
theorem RN.lab {h : g_AH} {G : Nat → Prop} {a : Nat} {r : tR} {N L C K : Nat → Nat} {mC : Nat} (x : RN h G a r N L C K mC) : LabR h r N := x.2.2.2.2.2.2
theorem R6.rn {h : g_AH} {G : Nat → Prop} {a : Nat} {r : tR} {N L C K : Nat → Nat} {mC : Nat} (x : R6 h G a r N L C K mC) (y : LabR h r N) : RN h G a r N L C K mC := ⟨x.1, x.2.1, x.2.2.1, x.2.2.2.1, x.2.2.2.2.1, x.2.2.2.2.2, y⟩
theorem Ar_wA {h : g_AH} {ci f a a' i j : Nat} {x : Int32} (hW : WF h) (hk : 3 ≤ kd ci f ∧ kd ci f ≤ 5) (h0 : 0 < AL h ci f a) : Ar (wA h ci f a i x) ci f a' j = if a' = a ∧ j = i then x else Ar h ci f a' j := by
  by_cases ha : a' = a
  · subst ha
    rw [Ar_wAs hW hk h0]
    by_cases hj : j = i
    · rw [if_pos hj, if_pos ⟨rfl, hj⟩]
    · rw [if_neg hj, if_neg (fun q => hj q.2)]
  · rw [Ar_wAn hW hk.1 hk.1 (fun q => ha q.2.2), if_neg (fun q => ha q.1)]
theorem kd6 {f : Nat} (hf : f < 3) : kd 6 f = 3 := by
  rcases (show f = 0 ∨ f = 1 ∨ f = 2 by omega) with rfl | rfl | rfl <;> rfl
theorem kd10 {f : Nat} (h1 : 1 ≤ f) (h2 : f ≤ 4) : kd 10 f = if f ≤ 2 then 3 else 4 := by
  rcases (show f = 1 ∨ f = 2 ∨ f = 3 ∨ f = 4 by omega) with rfl | rfl | rfl | rfl <;> rfl
theorem vn_b32 {b : Bool} : vp_nar .boolean (b32 b) = b32 b := by cases b <;> rfl
theorem wp_disj {c w c1 w1 j : Nat} (hw : w < 2) (hw1 : w1 < 2) (hd : ¬ (c1 = c ∧ w1 = w)) (h1 : wp c1 w1 ≤ j) (h2 : j < wp c1 w1 + 25) : j < wp c w ∨ wp c w + 25 ≤ j := by
  unfold wp at *
  rcases Nat.lt_trichotomy c1 c with q | q | q
  · omega
  · subst q
    rcases (show w = 0 ∨ w = 1 by omega) with rfl | rfl <;> rcases (show w1 = 0 ∨ w1 = 1 by omega) with rfl | rfl <;> omega
  · omega
section LABEL
variable {h h' : g_AH} {G : Nat → Prop} {a : Nat} {r r' : tR} {N L C K : Nat → Nat} {mC x k p c w n s l : Nat} {M : g_MD} {D : Nat → Int32}
theorem WayR.heap (hx : WayR h G r x p) (ecl : ∀ q, cl h' q = cl h q) (eJ : ∀ ci f q, J h' ci f q = J h ci f q) (eL : ∀ ci f q, AL h' ci f q = AL h ci f q) (e6 : ∀ f i, f < 3 → Ar h' 6 f x i = Ar h 6 f x i) : WayR h' G r x p := by
  obtain ⟨⟨h1, h2⟩, h3, h4, h5⟩ := hx
  exact ⟨⟨by rw [ecl]; exact h1, h2⟩, by rw [eJ]; exact h3, fun f hf => by rw [eL]; exact h4 f hf, fun f i hf hi => by rw [e6 f i hf]; exact h5 f i hf hi⟩
theorem Lst.heap {la : Nat} {X : Nat → Nat} (hx : Lst h la n X) (ecl : ∀ q, cl h' q = cl h q) (eJ : ∀ ci f q, J h' ci f q = J h ci f q) (eL : ∀ ci f q, AL h' ci f q = AL h ci f q) (eA : ∀ ci f q i, RA h' ci f q i = RA h ci f q i) : Lst h' la n X := by
  obtain ⟨h0, h1, h2, h3, h4, h5⟩ := hx
  exact ⟨by rw [ecl]; exact h0, by rw [eJ]; exact h1, by rw [eL]; exact h2, by rw [eL]; exact h3, by rw [eL]; exact h4, fun k hk => by rw [eA]; exact h5 k hk⟩
/-- arrays' ints alone have changed: of node arrays, and of ways that no circuit has -/
theorem R6.heap (hR : R6 h G a r N L C K mC) (ecl : ∀ q, cl h' q = cl h q) (eJ : ∀ ci f q, J h' ci f q = J h ci f q) (eR : ∀ ci f q, Rf h' ci f q = Rf h ci f q) (eL : ∀ ci f q, AL h' ci f q = AL h ci f q) (eA : ∀ ci f q i, RA h' ci f q i = RA h ci f q i) (e1 : ∀ i, Ar h' 1 0 a i = Ar h 1 0 a i)
    (e6 : ∀ c w q, c < mC → w < 2 → Rf h 12 (2 + w) (C c) = some q → ∀ f i, f < 3 → Ar h' 6 f q i = Ar h 6 f q i) : R6 h' G a r N L C K mC := by
  obtain ⟨⟨⟨h1, h2⟩, ⟨h3, h4, h5⟩, ⟨h6, h7⟩, h8, h9⟩, ⟨k1, k2, ⟨k3, k4, k5, k6⟩, k7⟩, m1, m2, ⟨m3, m4⟩, m5⟩ := hR
  have elA : ∀ i, lA h' a i = lA h a i := fun i => by unfold lA; rw [eR]
  refine ⟨⟨⟨by rw [ecl]; exact h1, h2⟩, ⟨by rw [eL]; exact h3, by rw [e1]; exact h4, by rw [e1]; exact h5⟩, ⟨by rw [eJ]; exact h6, fun f x1 x2 => by rw [eJ]; exact h7 f x1 x2⟩, by rw [eL]; exact h8, fun i hi => ?_⟩, ⟨fun i x1 x2 => by rw [elA, eR]; exact k1 i x1 x2, fun i j x1 x2 x3 x4 => by rw [elA, elA]; exact k2 i j x1 x2 x3 x4, ⟨?_, ?_, ?_, ?_⟩, k7⟩, fun k hk => ?_, fun k hk => ?_, ⟨fun c hc => ?_, fun c c' w w' q x1 x2 x3 x4 x5 x6 => ?_⟩, fun p hp => ?_⟩
  · obtain ⟨q, x1, x2, x3⟩ := h9 i hi
    exact ⟨q, by rw [eA]; exact x1, by rw [ecl]; exact x2, x3⟩
  · rw [elA]; exact k3.heap ecl eJ eL eA
  · rw [elA]; exact k4.heap ecl eJ eL eA
  · rw [elA]; exact k5.heap ecl eJ eL eA
  · rw [elA]; exact k6.heap ecl eJ eL eA
  · obtain ⟨⟨x1, x2⟩, x3, x4⟩ := m1 k hk
    exact ⟨⟨by rw [ecl]; exact x1, x2⟩, by rw [eJ]; exact x3, fun f y1 y2 => by rw [eL]; exact x4 f y1 y2⟩
  · obtain ⟨⟨x1, x2⟩, x3⟩ := m2 k hk
    exact ⟨⟨by rw [ecl]; exact x1, x2⟩, fun f y1 => by rw [eJ]; exact x3 f y1⟩
  · obtain ⟨⟨x1, x2⟩, x3, ⟨w0, x4, x5⟩, x6, x7⟩ := m3 c hc
    refine ⟨⟨by rw [ecl]; exact x1, x2⟩, fun f y1 => by rw [eJ]; exact x3 f y1, ⟨w0, by rw [eR]; exact x4, x5.heap ecl eJ eL (fun f i hf => e6 c 0 w0 hc (by omega) x4 f i hf)⟩, ?_, by rw [eJ, eJ]; exact x7⟩
    split
    · rename_i e; rw [if_pos e] at x6; rw [eR]; exact x6
    · rename_i e; rw [if_neg e] at x6
      obtain ⟨w1, y1, y2⟩ := x6
      exact ⟨w1, by rw [eR]; exact y1, y2.heap ecl eJ eL (fun f i hf => e6 c 1 w1 hc (by omega) y1 f i hf)⟩
  · rw [eR] at x5 x6
    exact m4 c c' w w' q x1 x2 x3 x4 x5 x6
  · obtain ⟨⟨x1, x2⟩, x3, x4, x5, x6⟩ := m5 p hp
    exact ⟨⟨by rw [ecl]; exact x1, x2⟩, by rw [eJ]; exact x3, by rw [eJ]; exact x4, by rw [eJ]; exact x5, fun f y1 y2 => by rw [eJ]; exact x6 f y1 y2⟩
theorem nt_eq {j j' : Nat} (e : r' j = r j') : nt r' j = nt r j' := by unfold nt; rw [e]
theorem WayR.row (hx : WayR h G r x p) (e : ∀ j, p ≤ j → j < p + 25 → r' j = r j) (hp : nt r p ≤ 6) : WayR h G r' x p := by
  obtain ⟨h1, h3, h4, h5⟩ := hx
  have e0 := e p (by omega) (by omega)
  refine ⟨h1, by rw [e0]; exact h3, h4, fun f i hf hi => ?_⟩
  rw [nt_eq e0] at hi
  rw [e _ (by omega) (by omega)]
  exact h5 f i hf hi
/-- the row has changed in one way's place alone, which the component doesn't show -/
theorem R6.row (hR : R6 h G a r N L C K mC) (hA : InvA r) (hm : mC ≤ 8) (hag : ∀ j, j < wp c w ∨ wp c w + 25 ≤ j → r' j = r j) (hw : w < 2) (hcw : mC ≤ c ∨ (w = 1 ∧ nt r (104 + 66 * c + 2) = 0)) (hc8 : c < 8) (hlen : ∀ c w, c < mC → w < 2 → nt r (wp c w) ≤ 6) : R6 h G a r' N L C K mC := by
  obtain ⟨⟨h12, ⟨h3, h4, h5⟩, ⟨h6, h7⟩, h89⟩, ⟨k1, k2, ⟨k3, k4, k5, k6⟩, k7⟩, m1, m2, ⟨m3, m4⟩, m5⟩ := hR
  have lo : ∀ j, j < 104 → r' j = r j := fun j hj => hag j (Or.inl (by unfold wp; omega))
  have hi : ∀ j, 632 ≤ j → r' j = r j := fun j hj => hag j (Or.inr (by unfold wp; omega))
  have n2 := nt_eq (lo 2 (by omega)); have n3 := nt_eq (lo 3 (by omega)); have n6 := nt_eq (lo 6 (by omega))
  refine ⟨⟨h12, ⟨h3, by rw [lo 0 (by omega)]; exact h4, by rw [lo 1 (by omega)]; exact h5⟩, ⟨by rw [lo 5 (by omega)]; exact h6, fun f x1 x2 => by rw [lo f (by omega)]; exact h7 f x1 x2⟩, h89⟩, ⟨k1, k2, by rw [n2, n3, n6]; exact ⟨k3, k4, k5, k6⟩, by rw [n2, n3, n6]; exact k7⟩, fun k hk => ?_, fun k hk => ?_, ⟨fun c' hc => ?_, m4⟩, fun p hp => ?_⟩
  · rw [n2] at hk
    obtain ⟨x1, x3, x4⟩ := m1 k hk
    have h2 := nm2 hA
    exact ⟨x1, by rw [lo _ (by omega)]; exact x3, fun f y1 y2 => by rw [nt_eq (lo (14 + k) (by omega))]; exact x4 f y1 y2⟩
  · rw [n3] at hk
    obtain ⟨x1, x3⟩ := m2 k hk
    have h3 := nm3 hA
    exact ⟨x1, fun f y1 => by rw [lo _ (by omega)]; exact x3 f y1⟩
  · obtain ⟨x1, x3, ⟨w0, x4, x5⟩, x6, x7⟩ := m3 c' hc
    have l0 := hlen c' 0 hc (by omega)
    have l1 := hlen c' 1 hc (by omega)
    have hcf : ∀ f, f ∈ [0, 1, 4, 7, 8, 9, 10, 11, 12, 13, 14] → cf f < 12 := by decide
    have low : ∀ j, 104 + 66 * c' ≤ j → j < 104 + 66 * c' + 16 → r' j = r j := fun j y1 y2 => hag j (by unfold wp; omega)
    have ph : nt r' (104 + 66 * c' + 2) = nt r (104 + 66 * c' + 2) := nt_eq (low _ (by omega) (by omega))
    have w0k : ∀ j, wp c' 0 ≤ j → j < wp c' 0 + 25 → r' j = r j := fun j y1 y2 => hag j (by unfold wp at *; omega)
    refine ⟨x1, fun f y1 => ?_, ⟨w0, x4, x5.row w0k l0⟩, ?_, ?_⟩
    · rw [low _ (by omega) (by have := hcf f y1; omega)]; exact x3 f y1
    · rw [ph]
      split
      · rename_i e; rw [if_pos e] at x6; exact x6
      · rename_i e; rw [if_neg e] at x6
        obtain ⟨w1, y1, y2⟩ := x6
        refine ⟨w1, y1, y2.row (fun j z1 z2 => hag j ?_) l1⟩
        by_cases q : c' = c
        · subst q; omega
        · unfold wp at *; omega
    · rw [ph, low _ (by omega) (by omega), nt_eq (low (104 + 66 * c' + 3) (by omega) (by omega))]
      refine ⟨fun e => ?_, x7.2⟩
      have : r' (wp c' 1) = r (wp c' 1) := hag _ (by
        by_cases q : c' = c
        · subst q; omega
        · unfold wp at *; omega)
      rw [nt_eq this]; exact x7.1 e
  · rw [n6] at hp
    obtain ⟨x1, x3, x4, x5, x6⟩ := m5 p hp
    exact ⟨x1, by rw [hi _ (by omega)]; exact x3, by rw [hi _ (by omega)]; exact x4, by rw [hi _ (by omega)]; exact x5, fun f y1 y2 => by rw [hi _ (by omega)]; exact x6 f y1 y2⟩
/-! a row's questions rest on few of its cells -/
theorem lk_row (e : ∀ j, j ≤ 3 ∨ (14 ≤ j ∧ j < 104) → r' j = r j) (hA : InvA r) {u v : Int32} : lk r' u v = lk r u v := by
  have h3 := nm3 hA
  unfold lk
  rw [nt_eq (e 3 (by omega))]
  refine fsN_congr _ _ (fun k _ hk => ?_)
  unfold jn
  rw [e _ (by omega), e _ (by omega)]
theorem InvA.row (hA : InvA r) (e : ∀ j, j ≤ 3 ∨ (14 ≤ j ∧ j < 104) → r' j = r j) (e4 : nm r' 4 9) (e6 : nm r' 6 61) : InvA r' := by
  have hA0 := hA
  have g2 := nm2 hA
  have g3 := nm3 hA
  have nmr : ∀ j b, j ≤ 3 ∨ (14 ≤ j ∧ j < 104) → nm r j b → nm r' j b := fun j b hj q => by unfold nm at *; rw [nt_eq (e j hj), e j hj]; exact q
  obtain ⟨⟨h2, h3, h4, h6⟩, ⟨h0, h1⟩, hn, hl, hu⟩ := hA
  have n2 := nt_eq (e 2 (by omega)); have n3 := nt_eq (e 3 (by omega))
  refine ⟨⟨nmr 2 _ (by omega) h2, nmr 3 _ (by omega) h3, e4, e6⟩, ⟨nmr 0 _ (by omega) h0, nmr 1 _ (by omega) h1⟩, fun k hk => ?_, fun k hk => ?_, fun k k' x y hk hk' e1 e2 => ?_⟩
  · rw [n2] at hk
    exact ⟨nmr _ _ (by omega) (hn k hk).1, by rw [nt_eq (e _ (by omega))]; exact (hn k hk).2⟩
  · rw [n3] at hk
    obtain ⟨a1, a2, a3, ⟨a4, a5⟩, a6⟩ := hl k hk
    rw [n2]
    exact ⟨nmr _ _ (by omega) a1, nmr _ _ (by omega) a2, nmr _ _ (by omega) a3, ⟨nmr _ _ (by omega) a4, by rw [nt_eq (e _ (by omega))]; exact a5⟩, nmr _ _ (by omega) a6⟩
  · rw [n3] at hk hk'
    refine hu k k' x y hk hk' ?_ ?_
    · unfold jn at *; rw [e _ (by omega), e _ (by omega)] at e1; exact e1
    · unfold jn at *; rw [e _ (by omega), e _ (by omega)] at e2; exact e2
theorem WyI.row (hx : WyI r p) (hA : InvA r) (e : ∀ j, j ≤ 3 ∨ (14 ≤ j ∧ j < 104) → r' j = r j) (ep : ∀ j, p ≤ j → j < p + 25 → r' j = r j) : WyI r' p := by
  have g2 := nm2 hA
  obtain ⟨h1, h2, h3, h4, h5, h6⟩ := hx
  have n2 := nt_eq (e 2 (by omega)); have n3 := nt_eq (e 3 (by omega))
  have e0 := ep p (by omega) (by omega)
  have np := nt_eq e0
  have h16 := h1.2
  refine ⟨by unfold nm at *; rw [np, e0]; exact h1, fun i hi => ?_, fun i j hi hj q => ?_, fun i hi => ?_, fun i hi => ?_, fun i hi => ?_⟩
  · rw [np] at hi; unfold nm at *; rw [n2, nt_eq (ep (p + 1 + i) (by omega) (by omega)), ep (p + 1 + i) (by omega) (by omega)]; exact h2 i hi
  · rw [np] at hi hj; rw [ep _ (by omega) (by omega), ep _ (by omega) (by omega)] at q; exact h3 i j hi hj q
  · rw [np] at hi; rw [lk_row e hA, n3, ep _ (by omega) (by omega), ep _ (by omega) (by omega)]; exact h4 i hi
  · rw [np] at hi
    have q7 := ep (p + 7 + i) (by omega) (by omega)
    have q13 := ep (p + 13 + i) (by omega) (by omega)
    rcases h5 i hi with ⟨a1, a2⟩ | ⟨a1, a2, a3⟩
    · exact Or.inl ⟨by rw [q7]; exact a1, by rw [q13]; exact a2⟩
    · have hs := a2.2
      refine Or.inr ⟨a1, ?_, ?_⟩
      · unfold nm at *; rw [n2, nt_eq q7, q7]; exact a2
      · unfold nm at *; rw [nt_eq q7, nt_eq q13, q13, nt_eq (e (14 + nt r (p + 7 + i)) (by omega))]; exact a3
  · rw [np] at hi; unfold nm at *; rw [nt_eq (ep (p + 19 + i) (by omega) (by omega)), ep (p + 19 + i) (by omega) (by omega)]; exact h6 i hi
/-- a node with its label is appended at the place p -/
def setL (r : tR) (p i u s l : Nat) (m : Int32) : tR := fun j => if j = p then Int32.ofNat (i + 1) else if j = p + 1 + i then Int32.ofNat u else if j = p + 7 + i then Int32.ofNat s else if j = p + 13 + i then Int32.ofNat l else if j = p + 19 + i then m else r j
theorem setL_out {i u j : Nat} {m : Int32} (hi : i < 6) (hj : j < p ∨ p + 25 ≤ j) : setL r p i u s l m j = r j := by
  unfold setL
  rw [if_neg (by omega), if_neg (by omega), if_neg (by omega), if_neg (by omega), if_neg (by omega)]
theorem setL_old {i u k b : Nat} {m : Int32} (hi : i < 6) (hk : k < i) (hb : b = 1 ∨ b = 7 ∨ b = 13 ∨ b = 19) : setL r p i u s l m (p + b + k) = r (p + b + k) := by
  unfold setL
  rw [if_neg (by omega), if_neg (by omega), if_neg (by omega), if_neg (by omega), if_neg (by omega)]
theorem setL_0 {i u : Nat} {m : Int32} : setL r p i u s l m p = Int32.ofNat (i + 1) := by unfold setL; rw [if_pos rfl]
theorem setL_1 {i u : Nat} {m : Int32} : setL r p i u s l m (p + 1 + i) = Int32.ofNat u := by unfold setL; rw [if_neg (by omega), if_pos rfl]
theorem setL_7 {i u : Nat} {m : Int32} : setL r p i u s l m (p + 7 + i) = Int32.ofNat s := by unfold setL; rw [if_neg (by omega), if_neg (by omega), if_pos rfl]
theorem setL_13 {i u : Nat} {m : Int32} : setL r p i u s l m (p + 13 + i) = Int32.ofNat l := by unfold setL; rw [if_neg (by omega), if_neg (by omega), if_neg (by omega), if_pos rfl]
theorem setL_19 {i u : Nat} {m : Int32} : setL r p i u s l m (p + 19 + i) = m := by unfold setL; rw [if_neg (by omega), if_neg (by omega), if_neg (by omega), if_neg (by omega), if_pos rfl]
theorem WyI_setL (hx : WyI r p) (hA : InvA r) {i u : Nat} {m : Int32} (hp : 104 ≤ p) (hi : nt r p = i) (hi6 : i < 6) (hu : u < nt r 2) (hnew : ∀ k, k < i → r (p + 1 + k) ≠ Int32.ofNat u) (hj : 0 < i → lk r (r (p + 1 + (i - 1))) (Int32.ofNat u) < nt r 3)
    (hs : 0 < i ∧ s < nt r 2 ∧ l < nt r (14 + s)) (hm : m = 0 ∨ m = 1) : WyI (setL r p i u s l m) p := by
  have g2 := nm2 hA
  obtain ⟨h1, h2, h3, h4, h5, h6⟩ := hx
  subst hi
  have lo : ∀ j, j < 104 → setL r p (nt r p) u s l m j = r j := fun j hj => setL_out hi6 (Or.inl (by omega))
  have n2 := nt_eq (lo 2 (by omega)); have n3 := nt_eq (lo 3 (by omega))
  have np : nt (setL r p (nt r p) u s l m) p = nt r p + 1 := nt_of setL_0 (by omega)
  have hsp := nm_sp hA hs.2.1
  refine ⟨⟨by rw [np]; exact setL_0, by rw [np]; omega⟩, fun k hk => ?_, fun k k' hk hk' q => ?_, fun k hk => ?_, fun k hk => ?_, fun k hk => ?_⟩
  · rw [np] at hk; rw [n2]
    by_cases e : k = nt r p
    · subst e; exact (nm.of setL_1 hu (by omega)).1
    · have q := setL_old (r := r) (p := p) (s := s) (l := l) (u := u) (m := m) (b := 1) hi6 (show k < nt r p by omega) (by omega)
      unfold nm; rw [nt_eq q, q]; exact h2 k (by omega)
  · rw [np] at hk hk'
    by_cases e : k = nt r p <;> by_cases e' : k' = nt r p
    · omega
    · rw [e, setL_1, setL_old hi6 (show k' < nt r p by omega) (by omega)] at q
      exact absurd q.symm (hnew k' (by omega))
    · rw [e', setL_1, setL_old hi6 (show k < nt r p by omega) (by omega)] at q
      exact absurd q (hnew k (by omega))
    · rw [setL_old hi6 (show k < nt r p by omega) (by omega), setL_old hi6 (show k' < nt r p by omega) (by omega)] at q
      exact h3 k k' (by omega) (by omega) q
  · rw [np] at hk
    rw [lk_row (fun j hj => lo j (by omega)) hA, n3, setL_old hi6 (show k < nt r p by omega) (by omega)]
    by_cases e : k + 1 = nt r p
    · rw [e, setL_1]
      have := hj (by omega)
      rw [show nt r p - 1 = k by omega] at this
      exact this
    · rw [setL_old hi6 (show k + 1 < nt r p by omega) (by omega)]
      exact h4 k (by omega)
  · rw [np] at hk
    by_cases e : k = nt r p
    · subst e
      have q7 := nm.of (r := setL r p (nt r p) u s l m) (j := p + 7 + nt r p) (b := nt r 2) setL_7 hs.2.1 (by omega)
      have q13 := nm.of (r := setL r p (nt r p) u s l m) (j := p + 13 + nt r p) (b := nt r (14 + s)) setL_13 hs.2.2 (by omega)
      refine Or.inr ⟨hs.1, by rw [n2]; exact q7.1, ?_⟩
      rw [q7.2, nt_eq (lo (14 + s) (by omega))]; exact q13.1
    · have q7 := setL_old (r := r) (p := p) (s := s) (l := l) (u := u) (m := m) (b := 7) hi6 (show k < nt r p by omega) (by omega)
      have q13 := setL_old (r := r) (p := p) (s := s) (l := l) (u := u) (m := m) (b := 13) hi6 (show k < nt r p by omega) (by omega)
      rcases h5 k (by omega) with ⟨a1, a2⟩ | ⟨a1, a2, a3⟩
      · exact Or.inl ⟨by rw [q7]; exact a1, by rw [q13]; exact a2⟩
      · have hs2 := a2.2
        refine Or.inr ⟨a1, ?_, ?_⟩
        · unfold nm at *; rw [n2, nt_eq q7, q7]; exact a2
        · unfold nm at *; rw [nt_eq q7, nt_eq q13, q13, nt_eq (lo (14 + nt r (p + 7 + k)) (by omega))]; exact a3
  · rw [np] at hk
    by_cases e : k = nt r p
    · subst e
      rcases hm with rfl | rfl
      · exact (nm.of (n := 0) setL_19 (by omega) (by omega)).1
      · exact (nm.of (n := 1) setL_19 (by omega) (by omega)).1
    · have q := setL_old (r := r) (p := p) (s := s) (l := l) (u := u) (m := m) (b := 19) hi6 (show k < nt r p by omega) (by omega)
      unfold nm; rw [nt_eq q, q]; exact h6 k (by omega)
theorem Pos_setL (hc : c < nt r 4) (hw : w < 2) {i u : Nat} {m : Int32} (hi : nt r (wp c w) = i) (hi0 : 0 < i) (hi6 : i < 6) {c1 w1 i1 s1 l1 : Nat} (hs : s < 1000) (hl : l < 1000) (hs1 : s1 < 1000) (hl1 : l1 < 1000) (hlen : ∀ c w, c < nt r 4 → w < 2 → nt r (wp c w) ≤ 6) :
    Pos (setL r (wp c w) i u s l m) c1 w1 i1 s1 l1 ↔ (Pos r c1 w1 i1 s1 l1 ∨ (c1 = c ∧ w1 = w ∧ i1 = i ∧ s1 = s ∧ l1 = l)) := by
  have e4 : nt (setL r (wp c w) i u s l m) 4 = nt r 4 := nt_eq (setL_out hi6 (Or.inl (by unfold wp; omega)))
  unfold Pos
  rw [e4]
  by_cases hsame : c1 = c ∧ w1 = w
  · obtain ⟨rfl, rfl⟩ := hsame
    have np : nt (setL r (wp c1 w1) i u s l m) (wp c1 w1) = i + 1 := nt_of setL_0 (by omega)
    rw [np]
    constructor
    · rintro ⟨x1, x2, x3, x4, x5, x6⟩
      by_cases e : i1 = i
      · subst e
        rw [setL_7] at x5
        rw [setL_13] at x6
        exact Or.inr ⟨rfl, rfl, rfl, ((i_eq (by omega) (by omega)).mp x5).symm, ((i_eq (by omega) (by omega)).mp x6).symm⟩
      · rw [setL_old hi6 (show i1 < i by omega) (by omega)] at x5 x6
        exact Or.inl ⟨x1, x2, x3, by omega, x5, x6⟩
    · rintro (⟨x1, x2, x3, x4, x5, x6⟩ | ⟨-, -, rfl, rfl, rfl⟩)
      · rw [setL_old hi6 (show i1 < i by omega) (by omega), setL_old hi6 (show i1 < i by omega) (by omega)]
        exact ⟨x1, x2, x3, by omega, x5, x6⟩
      · exact ⟨hc, hw, hi0, by omega, setL_7, setL_13⟩
  · have hno : ¬ (c1 = c ∧ w1 = w ∧ i1 = i ∧ s1 = s ∧ l1 = l) := fun q => hsame ⟨q.1, q.2.1⟩
    constructor
    · rintro ⟨x1, x2, x3, x4, x5, x6⟩
      have hout : ∀ j, wp c1 w1 ≤ j → j < wp c1 w1 + 25 → setL r (wp c w) i u s l m j = r j := fun j y1 y2 => setL_out hi6 (wp_disj hw x2 hsame y1 y2)
      rw [nt_eq (hout _ (by omega) (by omega))] at x4
      have := hlen c1 w1 x1 x2
      rw [hout _ (by omega) (by omega)] at x5 x6
      exact Or.inl ⟨x1, x2, x3, x4, x5, x6⟩
    · rintro (⟨x1, x2, x3, x4, x5, x6⟩ | q)
      · have hout : ∀ j, wp c1 w1 ≤ j → j < wp c1 w1 + 25 → setL r (wp c w) i u s l m j = r j := fun j y1 y2 => setL_out hi6 (wp_disj hw x2 hsame y1 y2)
        have := hlen c1 w1 x1 x2
        rw [nt_eq (hout _ (by omega) (by omega)), hout _ (by omega) (by omega), hout _ (by omega) (by omega)]
        exact ⟨x1, x2, x3, x4, x5, x6⟩
      · exact absurd q hno
end LABEL
