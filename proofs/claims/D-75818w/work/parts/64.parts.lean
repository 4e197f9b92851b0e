/-! LEVEL 2: a circuit, a packet, the net's own numbers change -/
section PARTS
variable {h h' : g_AH} {G O : Nat → Prop} {a : Nat} {r r' : tR} {N L C K : Nat → Nat} {mC x k p c w n s l : Nat} {M : g_MD} {D : Nat → Int32}
theorem WayR.heap' (hx : WayR h G r x p) (ecl : ∀ q k, cl h q = some k → cl h' q = some k) (eJ : ∀ f q, J h' 6 f q = J h 6 f q) (eL : ∀ f q, AL h' 6 f q = AL h 6 f q) (e6 : ∀ f i, f < 3 → Ar h' 6 f x i = Ar h 6 f x i) : WayR h' G r x p := by
  obtain ⟨⟨h1, h2⟩, h3, h4, h5⟩ := hx
  exact ⟨⟨ecl _ _ h1, h2⟩, by rw [eJ]; exact h3, fun f hf => by rw [eL]; exact h4 f hf, fun f i hf hi => by rw [e6 f i hf]; exact h5 f i hf hi⟩
theorem Lst.heap' {la : Nat} {X : Nat → Nat} (hx : Lst h la n X) (ecl : ∀ q k, cl h q = some k → cl h' q = some k) (eJ : ∀ f q, J h' 15 f q = J h 15 f q) (eL : ∀ f q, AL h' 15 f q = AL h 15 f q) (eA : ∀ f q i, RA h' 15 f q i = RA h 15 f q i) : Lst h' la n X := by
  obtain ⟨h0, h1, h2, h3, h4, h5⟩ := hx
  exact ⟨ecl _ _ h0, by rw [eJ]; exact h1, by rw [eL]; exact h2, by rw [eL]; exact h3, by rw [eL]; exact h4, fun k hk => by rw [eA]; exact h5 k hk⟩
theorem NodeR.heap (hx : NodeR h G r x k) (ecl : ∀ q k, cl h q = some k → cl h' q = some k) (eJ : ∀ f q, J h' 10 f q = J h 10 f q) (eL : ∀ f q, AL h' 10 f q = AL h 10 f q) (er : r' (14 + k) = r (14 + k)) : NodeR h' G r' x k := by
  obtain ⟨⟨h1, h2⟩, h3, h4⟩ := hx
  exact ⟨⟨ecl _ _ h1, h2⟩, by rw [eJ, er]; exact h3, fun f y1 y2 => by rw [eL, nt_eq er]; exact h4 f y1 y2⟩
theorem LinkR.heap (hx : LinkR h G r x k) (ecl : ∀ q k, cl h q = some k → cl h' q = some k) (eJ : ∀ f, f < 5 → J h' 11 f x = J h 11 f x) (er : ∀ f, f < 5 → r' (24 + 5 * k + f) = r (24 + 5 * k + f)) : LinkR h' G r' x k := by
  obtain ⟨⟨h1, h2⟩, h3⟩ := hx
  exact ⟨⟨ecl _ _ h1, h2⟩, fun f y1 => by rw [eJ f y1, er f y1]; exact h3 f y1⟩
theorem PktR.heap (hx : PktR h G r x p) (ecl : ∀ q k, cl h q = some k → cl h' q = some k) (eJ : ∀ f, J h' 14 f x = J h 14 f x) (er : ∀ f, f < 8 → r' (632 + 8 * p + f) = r (632 + 8 * p + f)) : PktR h' G r' x p := by
  obtain ⟨⟨h1, h2⟩, h3, h4, h5, h6⟩ := hx
  exact ⟨⟨ecl _ _ h1, h2⟩, by rw [eJ]; exact h3.trans (er 0 (by omega)).symm, by rw [eJ, er 1 (by omega)]; exact h4, by rw [eJ, er 7 (by omega)]; exact h5, fun f y1 y2 => by rw [eJ, er _ (by omega)]; exact h6 f y1 y2⟩
theorem CircR.heap (hx : CircR h G r x c) (ecl : ∀ q k, cl h q = some k → cl h' q = some k) (eJ : ∀ f, J h' 12 f x = J h 12 f x) (eR : ∀ f, Rf h' 12 f x = Rf h 12 f x) (eJ6 : ∀ f q, J h' 6 f q = J h 6 f q) (eL6 : ∀ f q, AL h' 6 f q = AL h 6 f q) (e6 : ∀ w q, w < 2 → Rf h 12 (2 + w) x = some q → ∀ f i, f < 3 → Ar h' 6 f q i = Ar h 6 f q i)
    (er : ∀ f, f < 66 → r' (104 + 66 * c + f) = r (104 + 66 * c + f)) (hl : ∀ w, w < 2 → nt r (wp c w) ≤ 6) : CircR h' G r' x c := by
  obtain ⟨⟨h1, h2⟩, h3, ⟨w0, h4, h5⟩, h6, h7⟩ := hx
  have hcf : ∀ f, f ∈ [0, 1, 4, 7, 8, 9, 10, 11, 12, 13, 14] → cf f < 12 := by decide
  have eph : nt r' (104 + 66 * c + 2) = nt r (104 + 66 * c + 2) := nt_eq (er 2 (by omega))
  have ew : ∀ w, w < 2 → ∀ j, wp c w ≤ j → j < wp c w + 25 → r' j = r j := fun w hw j y1 y2 => by
    have := er (j - (104 + 66 * c)) (by unfold wp at *; omega)
    rw [show 104 + 66 * c + (j - (104 + 66 * c)) = j by unfold wp at *; omega] at this
    exact this
  refine ⟨⟨ecl _ _ h1, h2⟩, fun f y1 => by rw [eJ, er _ (by have := hcf f y1; omega)]; exact h3 f y1, ⟨w0, by rw [eR]; exact h4, (h5.heap' ecl eJ6 eL6 (fun f i hf => e6 0 w0 (by omega) h4 f i hf)).row (ew 0 (by omega)) (hl 0 (by omega))⟩, ?_, ?_⟩
  · rw [eph]
    split
    · rename_i e; rw [if_pos e] at h6; rw [eR]; exact h6
    · rename_i e; rw [if_neg e] at h6
      obtain ⟨w1, y1, y2⟩ := h6
      exact ⟨w1, by rw [eR]; exact y1, (y2.heap' ecl eJ6 eL6 (fun f i hf => e6 1 w1 (by omega) y1 f i hf)).row (ew 1 (by omega)) (hl 1 (by omega))⟩
  · rw [eph, eJ, eJ, er 3 (by omega), nt_eq (er 3 (by omega)), nt_eq (ew 1 (by omega) (wp c 1) (by omega) (by omega))]
    exact h7
/-- lists and net: nothing of theirs has changed -/
theorem RNl.heap (hx : RNl h G a r N L C K mC) (ecl : ∀ q k, cl h q = some k → cl h' q = some k) (eR : ∀ f, Rf h' 1 f a = Rf h 1 f a) (eJ : ∀ f q, J h' 15 f q = J h 15 f q) (eL : ∀ f q, AL h' 15 f q = AL h 15 f q) (eA : ∀ f q i, RA h' 15 f q i = RA h 15 f q i) (e2 : r' 2 = r 2) (e3 : r' 3 = r 3) (e6 : r' 6 = r 6) : RNl h' G a r' N L C K mC := by
  obtain ⟨k1, k2, ⟨k3, k4, k5, k6⟩, k7⟩ := hx
  have elA : ∀ i, lA h' a i = lA h a i := fun i => by unfold lA; rw [eR]
  rw [show RNl h' G a r' N L C K mC = RNl h' G a r' N L C K mC from rfl]
  unfold RNl
  rw [nt_eq e2, nt_eq e3, nt_eq e6]
  refine ⟨fun i x1 x2 => by rw [elA, eR]; exact k1 i x1 x2, fun i j x1 x2 x3 x4 => by rw [elA, elA]; exact k2 i j x1 x2 x3 x4, ⟨?_, ?_, ?_, ?_⟩, k7⟩
  · rw [elA]; exact k3.heap' ecl eJ eL eA
  · rw [elA]; exact k4.heap' ecl eJ eL eA
  · rw [elA]; exact k5.heap' ecl eJ eL eA
  · rw [elA]; exact k6.heap' ecl eJ eL eA
theorem RNa.heap (hx : RNa h G a r) (ecl : ∀ q k, cl h q = some k → cl h' q = some k) (eJ : ∀ f, J h' 1 f a = J h 1 f a) (eL : ∀ f, AL h' 1 f a = AL h 1 f a) (eA : ∀ f i, RA h' 1 f a i = RA h 1 f a i) (e1 : ∀ i, Ar h' 1 0 a i = Ar h 1 0 a i) (er : ∀ j, j ≤ 1 ∨ j = 5 ∨ (7 ≤ j ∧ j ≤ 13) → r' j = r j) : RNa h' G a r' := by
  obtain ⟨⟨h1, h2⟩, ⟨h3, h4, h5⟩, ⟨h6, h7⟩, h8, h9⟩ := hx
  refine ⟨⟨ecl _ _ h1, h2⟩, ⟨by rw [eL]; exact h3, by rw [e1, er 0 (by omega)]; exact h4, by rw [e1, er 1 (by omega)]; exact h5⟩, ⟨by rw [eJ, er 5 (by omega)]; exact h6, fun f x1 x2 => by rw [eJ, er f (by omega)]; exact h7 f x1 x2⟩, by rw [eL]; exact h8, fun i hi => ?_⟩
  obtain ⟨q, x1, x2, x3⟩ := h9 i hi
  exact ⟨q, by rw [eA]; exact x1, ecl _ _ x2, x3⟩
/-- one circuit has changed, in the heap and in the row -/
theorem R6.circ (hR : R6 h G a r N L C K mC) (hA : InvA r) (hm : mC ≤ 8) (hc : c < mC) (hlen : ∀ c w, c < mC → w < 2 → nt r (wp c w) ≤ 6) (ecl : ∀ q k, cl h q = some k → cl h' q = some k) (eJ : ∀ ci f q, ¬ (ci = 12 ∧ q = C c) → J h' ci f q = J h ci f q) (eR : ∀ ci f q, ¬ (ci = 12 ∧ q = C c) → Rf h' ci f q = Rf h ci f q) (eL : ∀ ci f q, AL h' ci f q = AL h ci f q) (eA : ∀ ci f q i, RA h' ci f q i = RA h ci f q i) (e1 : ∀ i, Ar h' 1 0 a i = Ar h 1 0 a i)
    (e6 : ∀ c' w' q, c' < mC → c' ≠ c → w' < 2 → Rf h 12 (2 + w') (C c') = some q → ∀ f i, f < 3 → Ar h' 6 f q i = Ar h 6 f q i) (hag : ∀ j, j < 104 + 66 * c ∨ 104 + 66 * c + 66 ≤ j → r' j = r j) (hC' : CircR h' G r' (C c) c) (hW' : WapR h' C mC) : R6 h' G a r' N L C K mC := by
  obtain ⟨p1, p2, p3, p4, ⟨p5, -⟩, p6⟩ := hR
  have g2 := nm2 hA
  have g3 := nm3 hA
  have g6 := nm6 hA
  have n2 := nt_eq (hag 2 (by omega)); have n3 := nt_eq (hag 3 (by omega)); have n6 := nt_eq (hag 6 (by omega))
  refine ⟨p1.heap ecl (fun f => eJ _ _ _ (by simp)) (fun f => eL _ _ _) (fun f i => eA _ _ _ _) e1 (fun j hj => hag j (by omega)), p2.heap ecl (fun f => eR _ _ _ (by simp)) (fun f q => eJ _ _ _ (by simp)) (fun f q => eL _ _ _) (fun f q i => eA _ _ _ _) (hag 2 (by omega)) (hag 3 (by omega)) (hag 6 (by omega)), fun k hk => ?_, fun k hk => ?_, ⟨fun c' hc' => ?_, hW'⟩, fun p hp => ?_⟩
  · rw [n2] at hk
    exact (p3 k hk).heap ecl (fun f q => eJ _ _ _ (by simp)) (fun f q => eL _ _ _) (hag _ (by omega))
  · rw [n3] at hk
    exact (p4 k hk).heap ecl (fun f _ => eJ _ _ _ (by simp)) (fun f _ => hag _ (by omega))
  · by_cases e : c' = c
    · subst e; exact hC'
    · have hne : C c' ≠ C c := fun q => e (p2.2.2.2.2.2.1 c' c hc' hc q)
      exact (p5 c' hc').heap ecl (fun f => eJ _ _ _ (fun q => hne q.2)) (fun f => eR _ _ _ (fun q => hne q.2)) (fun f q => eJ _ _ _ (by simp)) (fun f q => eL _ _ _) (fun w q hw x1 f i hf => e6 c' w q hc' e hw x1 f i hf) (fun f hf => hag _ (by omega)) (fun w hw => hlen c' w hc' hw)
  · rw [n6] at hp
    exact (p6 p hp).heap ecl (fun f => eJ _ _ _ (by simp)) (fun f _ => hag _ (by omega))
/-- one packet has changed -/
theorem R6.pkt (hR : R6 h G a r N L C K mC) (hA : InvA r) (hm : mC ≤ 8) (hp : p < nt r 6) (hlen : ∀ c w, c < mC → w < 2 → nt r (wp c w) ≤ 6) (ecl : ∀ q k, cl h q = some k → cl h' q = some k) (eJ : ∀ ci f q, ¬ (ci = 14 ∧ q = K p) → J h' ci f q = J h ci f q) (eR : ∀ ci f q, Rf h' ci f q = Rf h ci f q) (eL : ∀ ci f q, AL h' ci f q = AL h ci f q) (eA : ∀ ci f q i, RA h' ci f q i = RA h ci f q i) (eI : ∀ ci f q i, Ar h' ci f q i = Ar h ci f q i)
    (hag : ∀ j, j < 632 + 8 * p ∨ 632 + 8 * p + 8 ≤ j → r' j = r j) (hP' : PktR h' G r' (K p) p) : R6 h' G a r' N L C K mC := by
  obtain ⟨p1, p2, p3, p4, ⟨p5, p7⟩, p6⟩ := hR
  have g2 := nm2 hA
  have g3 := nm3 hA
  have g6 := nm6 hA
  have n2 := nt_eq (hag 2 (by omega)); have n3 := nt_eq (hag 3 (by omega)); have n6 := nt_eq (hag 6 (by omega))
  refine ⟨p1.heap ecl (fun f => eJ _ _ _ (by simp)) (fun f => eL _ _ _) (fun f i => eA _ _ _ _) (fun i => eI _ _ _ _) (fun j hj => hag j (by omega)), p2.heap ecl (fun f => eR _ _ _) (fun f q => eJ _ _ _ (by simp)) (fun f q => eL _ _ _) (fun f q i => eA _ _ _ _) (hag 2 (by omega)) (hag 3 (by omega)) (hag 6 (by omega)), fun k hk => ?_, fun k hk => ?_, ⟨fun c' hc' => ?_, fun c c' w w' q x1 x2 x3 x4 x5 x6 => ?_⟩, fun p' hp' => ?_⟩
  · rw [n2] at hk
    exact (p3 k hk).heap ecl (fun f q => eJ _ _ _ (by simp)) (fun f q => eL _ _ _) (hag _ (by omega))
  · rw [n3] at hk
    exact (p4 k hk).heap ecl (fun f _ => eJ _ _ _ (by simp)) (fun f _ => hag _ (by omega))
  · exact (p5 c' hc').heap ecl (fun f => eJ _ _ _ (by simp)) (fun f => eR _ _ _) (fun f q => eJ _ _ _ (by simp)) (fun f q => eL _ _ _) (fun w q hw x1 f i hf => eI _ _ _ _) (fun f hf => hag _ (by omega)) (fun w hw => hlen c' w hc' hw)
  · rw [eR] at x5 x6
    exact p7 c c' w w' q x1 x2 x3 x4 x5 x6
  · rw [n6] at hp'
    by_cases e : p' = p
    · subst e; exact hP'
    · have hne : K p' ≠ K p := fun q => e (p2.2.2.2.2.2.2 p' p hp' hp q)
      exact (p6 p' hp').heap ecl (fun f => eJ _ _ _ (fun q => hne q.2)) (fun f hf => hag _ (by omega))
/-- the net's own numbers have changed -/
theorem R6.net (hR : R6 h G a r N L C K mC) (hA : InvA r) (hm : mC ≤ 8) (hlen : ∀ c w, c < mC → w < 2 → nt r (wp c w) ≤ 6) (ecl : ∀ q k, cl h q = some k → cl h' q = some k) (eJ : ∀ ci f q, ci ≠ 1 → J h' ci f q = J h ci f q) (eR : ∀ ci f q, Rf h' ci f q = Rf h ci f q) (eL : ∀ ci f q, AL h' ci f q = AL h ci f q) (eA : ∀ ci f q i, RA h' ci f q i = RA h ci f q i) (eI : ∀ ci f q i, Ar h' ci f q i = Ar h ci f q i)
    (hag : ∀ j, j ≤ 3 ∨ j = 6 ∨ 14 ≤ j → r' j = r j) (h5 : J h' 1 6 a = r' 5) (h7 : ∀ f, 7 ≤ f → f ≤ 13 → J h' 1 f a = r' f) : R6 h' G a r' N L C K mC := by
  obtain ⟨⟨⟨q1, q2⟩, ⟨q3, q4, q5⟩, q6, q8, q9⟩, p2, p3, p4, ⟨p5, p7⟩, p6⟩ := hR
  have n2 := nt_eq (hag 2 (by omega)); have n3 := nt_eq (hag 3 (by omega)); have n6 := nt_eq (hag 6 (by omega))
  refine ⟨⟨⟨ecl _ _ q1, q2⟩, ⟨by rw [eL]; exact q3, by rw [eI, hag 0 (by omega)]; exact q4, by rw [eI, hag 1 (by omega)]; exact q5⟩, ⟨h5, h7⟩, by rw [eL]; exact q8, fun i hi => ?_⟩, p2.heap ecl (fun f => eR _ _ _) (fun f q => eJ _ _ _ (by simp)) (fun f q => eL _ _ _) (fun f q i => eA _ _ _ _) (hag 2 (by omega)) (hag 3 (by omega)) (hag 6 (by omega)), fun k hk => ?_, fun k hk => ?_, ⟨fun c' hc' => ?_, fun c c' w w' q x1 x2 x3 x4 x5 x6 => ?_⟩, fun p' hp' => ?_⟩
  · obtain ⟨q, x1, x2, x3⟩ := q9 i hi
    exact ⟨q, by rw [eA]; exact x1, ecl _ _ x2, x3⟩
  · rw [n2] at hk
    exact (p3 k hk).heap ecl (fun f q => eJ _ _ _ (by simp)) (fun f q => eL _ _ _) (hag _ (by omega))
  · rw [n3] at hk
    exact (p4 k hk).heap ecl (fun f _ => eJ _ _ _ (by simp)) (fun f _ => hag _ (by omega))
  · exact (p5 c' hc').heap ecl (fun f => eJ _ _ _ (by simp)) (fun f => eR _ _ _) (fun f q => eJ _ _ _ (by simp)) (fun f q => eL _ _ _) (fun w q hw x1 f i hf => eI _ _ _ _) (fun f hf => hag _ (by omega)) (fun w hw => hlen c' w hc' hw)
  · rw [eR] at x5 x6
    exact p7 c c' w w' q x1 x2 x3 x4 x5 x6
  · rw [n6] at hp'
    exact (p6 p' hp').heap ecl (fun f => eJ _ _ _ (by simp)) (fun f hf => hag _ (by omega))
/-- who holds which label rests on the ways alone -/
theorem LabR.row (hL : LabR h r N) (hA : InvA r) (hm4 : r' 4 = r 4) (hlen : ∀ c w, c < nt r 4 → w < 2 → nt r (wp c w) ≤ 6) (e2 : ∀ j, j = 2 ∨ (14 ≤ j ∧ j < 24) → r' j = r j) (ew : ∀ c w j, c < nt r 4 → w < 2 → wp c w ≤ j → j < wp c w + 25 → r' j = r j) (eI : ∀ f q i, 1 ≤ f → f ≤ 4 → Ar h' 10 f q i = Ar h 10 f q i) : LabR h' r' N := by
  have g2 := nm2 hA
  have n4 := nt_eq hm4
  have n2 := nt_eq (e2 2 (by omega))
  have hpos : ∀ c w i s l, Pos r' c w i s l ↔ Pos r c w i s l := fun c w i s l => by
    unfold Pos
    rw [n4]
    constructor
    · rintro ⟨x1, x2, x3, x4, x5, x6⟩
      have := hlen c w x1 x2
      rw [nt_eq (ew c w _ x1 x2 (by omega) (by omega))] at x4
      rw [ew c w _ x1 x2 (by omega) (by omega)] at x5 x6
      exact ⟨x1, x2, x3, x4, x5, x6⟩
    · rintro ⟨x1, x2, x3, x4, x5, x6⟩
      have := hlen c w x1 x2
      rw [nt_eq (ew c w _ x1 x2 (by omega) (by omega)), ew c w _ x1 x2 (by omega) (by omega), ew c w _ x1 x2 (by omega) (by omega)]
      exact ⟨x1, x2, x3, x4, x5, x6⟩
  refine ⟨fun c w i s l hp x1 x2 => ?_, fun s l x1 x2 => ?_⟩
  · rw [n2] at x1
    rw [nt_eq (e2 (14 + s) (by omega))] at x2
    have hp' := (hpos c w i s l).mp hp
    have := hlen c w hp'.1 hp'.2.1
    have h4 := hp'.2.2.2.1
    rw [eI 1 _ _ (by omega) (by omega), eI 2 _ _ (by omega) (by omega), eI 3 _ _ (by omega) (by omega), eI 4 _ _ (by omega) (by omega), ew c w _ hp'.1 hp'.2.1 (by omega) (by omega), ew c w _ hp'.1 hp'.2.1 (by omega) (by omega)]
    exact hL.1 c w i s l hp' x1 x2
  · rw [n2] at x1
    rw [nt_eq (e2 (14 + s) (by omega))] at x2
    rw [eI 1 _ _ (by omega) (by omega)]
    rcases hL.2 s l x1 x2 with q | ⟨c, w, i, q⟩
    · exact Or.inl q
    · exact Or.inr ⟨c, w, i, (hpos c w i s l).mpr q⟩
end PARTS
