/-! LEVEL 2: clearing -/
section CLEAR
variable {h h0 h' : g_AH} {G G' O : Nat → Prop} {a : Nat} {r r' : tR} {N L C K : Nat → Nat} {mC x k p p' c c' w n s l i0 i j q W cp st : Nat} {M : g_MD}
theorem un_o (h7 : j ≠ p + 7 + i) (h13 : j ≠ p + 13 + i) (h19 : j ≠ p + 19 + i) : unL r p i j = r j := by unfold unL; rw [upd_ne h19, upd_ne h13, upd_ne h7]
theorem un_7 : unL r p i (p + 7 + i) = -1 := by unfold unL; rw [upd_ne (by omega), upd_ne (by omega), upd_eq]
theorem un_13 : unL r p i (p + 13 + i) = -1 := by unfold unL; rw [upd_ne (by omega), upd_eq]
theorem un_19 : unL r p i (p + 19 + i) = 0 := by unfold unL; rw [upd_eq]
theorem WyI_un (hx : WyI r p) (hA : InvA r) (hp : 104 ≤ p) (hi : i < nt r p) : WyI (unL r p i) p := by
  have g2 := nm2 hA
  obtain ⟨h1, h2, h3, h4, h5, h6⟩ := hx
  have h16 := h1.2
  have lo : ∀ j, j < 104 → unL r p i j = r j := fun j hj => un_o (by omega) (by omega) (by omega)
  have n2 := nt_eq (lo 2 (by omega)); have n3 := nt_eq (lo 3 (by omega))
  have e0 : unL r p i p = r p := un_o (by omega) (by omega) (by omega)
  have np := nt_eq e0
  have e1 : ∀ k, k < nt r p → unL r p i (p + 1 + k) = r (p + 1 + k) := fun k hk => un_o (by omega) (by omega) (by omega)
  refine ⟨(nm_same e0).mpr h1, fun k hk => ?_, fun k m hk hm q => ?_, fun k hk => ?_, fun k hk => ?_, fun k hk => ?_⟩
  · rw [np] at hk; rw [n2]; exact (nm_same (e1 k hk)).mpr (h2 k hk)
  · rw [np] at hk hm; rw [e1 k hk, e1 m hm] at q; exact h3 k m hk hm q
  · rw [np] at hk; rw [lk_row (fun j hj => lo j (by omega)) hA, n3, e1 _ (by omega), e1 _ hk]; exact h4 k hk
  · rw [np] at hk
    by_cases e : k = i
    · subst e; exact Or.inl ⟨un_7, un_13⟩
    · have q7 : unL r p i (p + 7 + k) = r (p + 7 + k) := un_o (by omega) (by omega) (by omega)
      have q13 : unL r p i (p + 13 + k) = r (p + 13 + k) := un_o (by omega) (by omega) (by omega)
      rcases h5 k hk with ⟨a1, a2⟩ | ⟨a1, a2, a3⟩
      · exact Or.inl ⟨by rw [q7]; exact a1, by rw [q13]; exact a2⟩
      · have hs := a2.2
        refine Or.inr ⟨a1, by rw [n2]; exact (nm_same q7).mpr a2, ?_⟩
        rw [nt_eq q7, nt_eq (lo (14 + nt r (p + 7 + k)) (by omega))]; exact (nm_same q13).mpr a3
  · rw [np] at hk
    by_cases e : k = i
    · subst e; exact (nm.of (n := 0) (by rw [un_19]; rfl) (by omega) (by omega)).1
    · exact (nm_same (un_o (by omega) (by omega) (by omega))).mpr (h6 k hk)
theorem nm_sh {j j' b : Nat} (e : r' j' = r j) : nm r' j' b ↔ nm r j b := by unfold nm; rw [nt_eq e, e]
/-- a way seen at another place -/
theorem WyI.shift (hx : WyI r p) (hA : InvA r) (e : ∀ j, j < 104 → r' j = r j) (e0 : r' p' = r p) (ep : ∀ b i, b + i < 25 → r' (p' + b + i) = r (p + b + i)) : WyI r' p' := by
  have g2 := nm2 hA
  obtain ⟨h1, h2, h3, h4, h5, h6⟩ := hx
  have n2 := nt_eq (e 2 (by omega)); have n3 := nt_eq (e 3 (by omega))
  have np := nt_eq e0
  have h16 := h1.2
  refine ⟨(nm_sh e0).mpr h1, fun i hi => ?_, fun i j hi hj q => ?_, fun i hi => ?_, fun i hi => ?_, fun i hi => ?_⟩
  · rw [np] at hi; rw [n2]; exact (nm_sh (ep 1 i (by omega))).mpr (h2 i hi)
  · rw [np] at hi hj; rw [ep 1 i (by omega), ep 1 j (by omega)] at q; exact h3 i j hi hj q
  · rw [np] at hi; rw [lk_row (fun j hj => e j (by omega)) hA, n3, ep 1 _ (by omega), ep 1 _ (by omega)]; exact h4 i hi
  · rw [np] at hi
    have q7 := ep 7 i (by omega)
    have q13 := ep 13 i (by omega)
    rcases h5 i hi with ⟨a1, a2⟩ | ⟨a1, a2, a3⟩
    · exact Or.inl ⟨by rw [q7]; exact a1, by rw [q13]; exact a2⟩
    · have hs := a2.2
      refine Or.inr ⟨a1, by rw [n2]; exact (nm_sh q7).mpr a2, ?_⟩
      rw [nt_eq q7, nt_eq (e (14 + nt r (p + 7 + i)) (by omega))]; exact (nm_sh q13).mpr a3
  · rw [np] at hi; exact (nm_sh (ep 19 i (by omega))).mpr (h6 i hi)
/-- the new way is the way -/
def mvR (r : tR) (c : Nat) : tR := fun j => if wp c 0 ≤ j ∧ j < wp c 0 + 25 then r (j + 25) else if j = wp c 1 ∨ j = 104 + 66 * c + 2 ∨ j = 104 + 66 * c + 3 then 0 else r j
theorem mv_0 {b i : Nat} (h : b + i < 25) : mvR r c (wp c 0 + b + i) = r (wp c 1 + b + i) := by
  unfold mvR
  rw [if_pos (by unfold wp; omega)]
  congr 1; unfold wp; omega
theorem mv_1 : mvR r c (wp c 1) = 0 := by unfold mvR; rw [if_neg (by unfold wp; omega), if_pos (Or.inl rfl)]
theorem mv_ag (h : j < 104 + 66 * c ∨ 104 + 66 * c + 66 ≤ j) : mvR r c j = r j := by unfold mvR; rw [if_neg (by unfold wp; omega), if_neg (by unfold wp; omega)]
theorem mv_lo (h : j < 16) (h2 : j ≠ 2) (h3 : j ≠ 3) : mvR r c (104 + 66 * c + j) = r (104 + 66 * c + j) := by unfold mvR; rw [if_neg (by unfold wp; omega), if_neg (by unfold wp; omega)]
theorem mv_2 : mvR r c (104 + 66 * c + 2) = 0 := by unfold mvR; rw [if_neg (by unfold wp; omega), if_pos (Or.inr (Or.inl rfl))]
theorem mv_3 : mvR r c (104 + 66 * c + 3) = 0 := by unfold mvR; rw [if_neg (by unfold wp; omega), if_pos (Or.inr (Or.inr rfl))]
theorem mv_o (hd : c' ≠ c) (hw : w < 2) (hj : i < 25) (e : j = wp c' w + i) : mvR r c j = r j := by
  subst e
  refine mv_ag ?_
  have := wp_in (c := c') (w := w) (j := wp c' w + i) hw (by omega) (by omega)
  omega
theorem Pos_mv (hlen : ∀ c w, c < nt r 4 → w < 2 → nt r (wp c w) ≤ 6) : Pos (mvR r c) c' w i s l ↔ (c' ≠ c ∧ Pos r c' w i s l) ∨ (c' = c ∧ w = 0 ∧ Pos r c 1 i s l) := by
  have e4 : mvR r c 4 = r 4 := mv_ag (by omega)
  have e0 : mvR r c (wp c 0) = r (wp c 1) := mv_0 (b := 0) (i := 0) (by omega)
  unfold Pos
  rw [nt_eq e4]
  constructor
  · rintro ⟨x1, x2, x3, x4, x5, x6⟩
    by_cases e : c' = c
    · subst e
      rcases (show w = 0 ∨ w = 1 by omega) with rfl | rfl
      · rw [nt_eq e0] at x4
        have := hlen c' 1 x1 (by omega)
        rw [mv_0 (by omega)] at x5 x6
        exact Or.inr ⟨rfl, rfl, x1, by omega, x3, x4, x5, x6⟩
      · rw [nt_of (n := 0) (by rw [mv_1]; rfl) (by omega)] at x4
        omega
    · rw [nt_eq (mv_o (j := wp c' w) e x2 (i := 0) (by omega) rfl)] at x4
      have := hlen c' w x1 x2
      rw [mv_o e x2 (i := 7 + i) (by omega) (by omega)] at x5
      rw [mv_o e x2 (i := 13 + i) (by omega) (by omega)] at x6
      exact Or.inl ⟨e, x1, x2, x3, x4, x5, x6⟩
  · rintro (⟨e, x1, x2, x3, x4, x5, x6⟩ | ⟨rfl, rfl, x1, x2, x3, x4, x5, x6⟩)
    · have := hlen c' w x1 x2
      exact ⟨x1, x2, x3, by rw [nt_eq (mv_o (j := wp c' w) e x2 (i := 0) (by omega) rfl)]; exact x4, by rw [mv_o e x2 (i := 7 + i) (by omega) (by omega)]; exact x5, by rw [mv_o e x2 (i := 13 + i) (by omega) (by omega)]; exact x6⟩
    · have := hlen c' 1 x1 (by omega)
      exact ⟨x1, by omega, x3, by rw [nt_eq e0]; exact x4, by rw [mv_0 (by omega)]; exact x5, by rw [mv_0 (by omega)]; exact x6⟩
theorem LabR_mv (hL : LabR h r N) (hA : InvA r) (hWr : InvW r) (hc : c < nt r 4) (hold : ∀ i, 0 < i → i < nt r (wp c 0) → r (wp c 0 + 7 + i) = -1) (hlab : ∀ i, 0 < i → i < nt r (wp c 1) → r (wp c 1 + 7 + i) ≠ -1) (o : ∀ s l f, s < nt r 2 → 1 ≤ f → f ≤ 4 → f ≠ 3 → Ar h' 10 f (N s) l = Ar h 10 f (N s) l)
    (hm : ∀ s l, s < nt r 2 → ((∃ k, 0 < k ∧ k < nt r (wp c 1) ∧ nt r (wp c 1 + 7 + k) = s ∧ nt r (wp c 1 + 13 + k) = l) → Ar h' 10 3 (N s) l = 0) ∧ ((¬ ∃ k, 0 < k ∧ k < nt r (wp c 1) ∧ nt r (wp c 1 + 7 + k) = s ∧ nt r (wp c 1 + 13 + k) = l) → Ar h' 10 3 (N s) l = Ar h 10 3 (N s) l)) : LabR h' (mvR r c) N := by
  have g2 := nm2 hA
  have hlen : ∀ c w, c < nt r 4 → w < 2 → nt r (wp c w) ≤ 6 := fun c w hc hw => by have := (hWr c w hc hw).1.2; omega
  have ln1 := hlen c 1 hc (by omega)
  have hpos : ∀ {c1 w1 i1 s1 l1}, Pos (mvR r c) c1 w1 i1 s1 l1 ↔ _ := fun {c1 w1 i1 s1 l1} => Pos_mv (r := r) (c := c) (c' := c1) (w := w1) (i := i1) (s := s1) (l := l1) hlen
  have n2 : nt (mvR r c) 2 = nt r 2 := nt_eq (mv_ag (by omega))
  have nsp : ∀ k, k < nt r 2 → nt (mvR r c) (14 + k) = nt r (14 + k) := fun k hk => nt_eq (mv_ag (by omega))
  have mark : ∀ k, 0 < k → k < nt r (wp c 1) → Pos r c 1 k (nt r (wp c 1 + 7 + k)) (nt r (wp c 1 + 13 + k)) := fun k y1 y2 => by
    rcases (hWr c 1 hc (by omega)).2.2.2.2.1 k y2 with ⟨z, -⟩ | ⟨-, z1, z2⟩
    · exact absurd z (hlab k y1 y2)
    · exact ⟨hc, by omega, y1, y2, z1.1, z2.1⟩
  refine ⟨fun c1 w1 i1 s1 l1 x1 x2 x3 => ?_, fun s1 l1 x1 x2 => ?_⟩
  · rw [n2] at x2
    rw [nsp s1 x2] at x3
    have gs := (nm_sp hA x2).2
    rcases hpos.mp x1 with ⟨e, y⟩ | ⟨rfl, rfl, y⟩
    · obtain ⟨a1, a2, a3, a4⟩ := hL.1 c1 w1 i1 s1 l1 y x2 x3
      have y6 := hlen c1 w1 y.1 y.2.1
      have y4 := y.2.2.2.1
      rw [o s1 l1 1 x2 (by omega) (by omega) (by omega), o s1 l1 2 x2 (by omega) (by omega) (by omega), o s1 l1 4 x2 (by omega) (by omega) (by omega), mv_o e y.2.1 (i := 1 + i1) (by omega) (by omega), mv_o e y.2.1 (i := 19 + i1) (by omega) (by omega)]
      refine ⟨a1, a2, ?_, a4⟩
      rw [(hm s1 l1 x2).2 ?_]
      · exact a3
      · rintro ⟨k, z1, z2, rfl, rfl⟩
        exact e (Pos.uniq hL hA hWr y (mark k z1 z2) x2 x3).1
    · obtain ⟨a1, a2, a3, a4⟩ := hL.1 c1 1 i1 s1 l1 y x2 x3
      have y4 := y.2.2.2.1
      rw [o s1 l1 1 x2 (by omega) (by omega) (by omega), o s1 l1 2 x2 (by omega) (by omega) (by omega), o s1 l1 4 x2 (by omega) (by omega) (by omega), mv_0 (by omega), mv_0 (by omega)]
      refine ⟨a1, a2, ?_, a4⟩
      rw [(hm s1 l1 x2).1 ⟨i1, y.2.2.1, y4, nt_of y.2.2.2.2.1 (by omega), nt_of y.2.2.2.2.2 (by omega)⟩]
      rfl
  · rw [n2] at x1
    rw [nsp s1 x1] at x2
    rw [o s1 l1 1 x1 (by omega) (by omega) (by omega)]
    rcases hL.2 s1 l1 x1 x2 with z | ⟨c1, w1, i1, z⟩
    · exact Or.inl z
    · refine Or.inr ?_
      by_cases e : c1 = c
      · subst e
        rcases (show w1 = 0 ∨ w1 = 1 by have := z.2.1; omega) with rfl | rfl
        · exact absurd ((hold i1 z.2.2.1 z.2.2.2.1).symm.trans z.2.2.2.2.1) (fun y => m1_ne (by omega) y.symm)
        · exact ⟨c1, 0, i1, hpos.mpr (Or.inr ⟨rfl, rfl, z⟩)⟩
      · exact ⟨c1, w1, i1, hpos.mpr (Or.inl ⟨e, z⟩)⟩
theorem Inv4.mv (hI : Inv4 r) (hc : c < nt r 4) (hag : ∀ j, j < 104 + 66 * c ∨ 104 + 66 * c + 66 ≤ j → r' j = r j) (h5 : r' (104 + 66 * c + 5) = r (104 + 66 * c + 5)) (h1 : WyI r' (wp c 1)) (h2 : 2 ≤ nt r' (wp c 1)) (hlab : ∀ i, 0 < i → i < nt r' (wp c 1) → r' (wp c 1 + 7 + i) ≠ -1) : Inv4 (mvR r' c) := by
  have g4 := nm4 hI.1
  have hA' : InvA r' := hI.1.row (fun j hj => hag j (by omega)) ((nm_same (hag 4 (by omega))).mpr hI.1.1.2.2.1) ((nm_same (hag 6 (by omega))).mpr hI.1.1.2.2.2)
  have e0 : mvR r' c (wp c 0) = r' (wp c 1) := mv_0 (b := 0) (i := 0) (by omega)
  have e1 : nt (mvR r' c) (wp c 1) = 0 := nt_of (n := 0) (by rw [mv_1]; rfl) (by omega)
  have e2 : nt (mvR r' c) (104 + 66 * c + 2) = 0 := nt_of (n := 0) (by rw [mv_2]; rfl) (by omega)
  have e3 : nt (mvR r' c) (104 + 66 * c + 3) = 0 := nt_of (n := 0) (by rw [mv_3]; rfl) (by omega)
  have l1 := h1.1.2
  refine hI.ci hc (fun j hj => (mv_ag hj).trans (hag j hj)) (fun w hw => ?_) ?_ ((mv_lo (by omega) (by omega) (by omega)).trans h5)
  · rcases (show w = 0 ∨ w = 1 by omega) with rfl | rfl
    · exact h1.shift hA' (fun j hj => mv_ag (by omega)) e0 (fun b i hb => mv_0 hb)
    · refine ⟨(nm.of (n := 0) (by rw [mv_1]; rfl) (by omega) (by omega)).1, fun i hi => ?_, fun i j hi hj => ?_, fun i hi => ?_, fun i hi => ?_, fun i hi => ?_⟩ <;> rw [e1] at hi <;> omega
  · unfold ICc
    rw [nt_eq e0, e1, e2, e3]
    refine ⟨⟨(nm.of (n := 0) (by rw [mv_2]; rfl) (by omega) (by omega)).1, (nm.of (n := 0) (by rw [mv_3]; rfl) (by omega) (by omega)).1⟩, h2, fun _ => rfl, fun z => by omega, fun z => by omega, fun z => by omega, fun z => by omega, fun w i hw hi0 hi => ?_⟩
    rcases (show w = 0 ∨ w = 1 by omega) with rfl | rfl
    · rw [nt_eq e0] at hi
      rw [mv_0 (by omega)]
      exact ⟨fun z => absurd z (hlab i hi0 hi), fun z => by omega⟩
    · rw [e1] at hi; omega
theorem R6.circ2 (hR : R6 h G a r N L C K mC) (hA : InvA r) (hm : mC ≤ 8) (hc : c < mC) (hlen : ∀ c w, c < mC → w < 2 → nt r (wp c w) ≤ 6) (ecl : ∀ q k, cl h q = some k → cl h' q = some k) (eJ : ∀ ci f q, ¬ (ci = 12 ∧ q = C c) → J h' ci f q = J h ci f q) (eR : ∀ ci f q, ¬ (ci = 12 ∧ q = C c) → Rf h' ci f q = Rf h ci f q) (eL : ∀ ci f q, ci ≠ 12 → AL h' ci f q = AL h ci f q) (eA : ∀ ci f q i, ci ≠ 12 → RA h' ci f q i = RA h ci f q i) (e1 : ∀ i, Ar h' 1 0 a i = Ar h 1 0 a i)
    (e6 : ∀ c' w' q, c' < mC → c' ≠ c → w' < 2 → Rf h 12 (2 + w') (C c') = some q → ∀ f i, f < 3 → Ar h' 6 f q i = Ar h 6 f q i) (hag : ∀ j, j < 104 + 66 * c ∨ 104 + 66 * c + 66 ≤ j → r' j = r j) (hC' : CircR h' G r' (C c) c) (hW' : WapR h' C mC) : R6 h' G a r' N L C K mC := by
  obtain ⟨p1, p2, p3, p4, ⟨p5, -⟩, p6⟩ := hR
  have g2 := nm2 hA
  have g3 := nm3 hA
  have g6 := nm6 hA
  have n2 := nt_eq (hag 2 (by omega)); have n3 := nt_eq (hag 3 (by omega)); have n6 := nt_eq (hag 6 (by omega))
  refine ⟨p1.heap ecl (fun f => eJ _ _ _ (by simp)) (fun f => eL _ _ _ (by decide)) (fun f i => eA _ _ _ _ (by decide)) e1 (fun j hj => hag j (by omega)), p2.heap ecl (fun f => eR _ _ _ (by simp)) (fun f q => eJ _ _ _ (by simp)) (fun f q => eL _ _ _ (by decide)) (fun f q i => eA _ _ _ _ (by decide)) (hag 2 (by omega)) (hag 3 (by omega)) (hag 6 (by omega)), fun k hk => ?_, fun k hk => ?_, ⟨fun c' hc' => ?_, hW'⟩, fun p hp => ?_⟩
  · rw [n2] at hk
    exact (p3 k hk).heap ecl (fun f q => eJ _ _ _ (by simp)) (fun f q => eL _ _ _ (by decide)) (hag _ (by omega))
  · rw [n3] at hk
    exact (p4 k hk).heap ecl (fun f _ => eJ _ _ _ (by simp)) (fun f _ => hag _ (by omega))
  · by_cases e : c' = c
    · subst e; exact hC'
    · have hne : C c' ≠ C c := fun q => e (p2.2.2.2.2.2.1 c' c hc' hc q)
      exact (p5 c' hc').heap ecl (fun f => eJ _ _ _ (fun q => hne q.2)) (fun f => eR _ _ _ (fun q => hne q.2)) (fun f q => eJ _ _ _ (by simp)) (fun f q => eL _ _ _ (by decide)) (fun w q hw x1 f i hf => e6 c' w q hc' e hw x1 f i hf) (fun f hf => hag _ (by omega)) (fun w hw => hlen c' w hc' hw)
  · rw [n6] at hp
    exact (p6 p hp).heap ecl (fun f => eJ _ _ _ (by simp)) (fun f _ => hag _ (by omega))
theorem NB.heap2 (hB : NB h a r N) (ecl : ∀ q k, cl h q = some k → cl h' q = some k) (eR : ∀ f, Rf h' 1 f a = Rf h 1 f a) (eJ : ∀ f q, J h' 15 f q = J h 15 f q) (eL : ∀ ci f q, ci ≠ 12 → AL h' ci f q = AL h ci f q) (eA : ∀ f q i, RA h' 15 f q i = RA h 15 f q i) : NB h' a r N := by
  obtain ⟨b1, b2, b3, b4⟩ := hB
  have e : lA h' a 1 = lA h a 1 := by unfold lA; rw [eR]
  exact ⟨ecl _ _ b1, by rw [eR, e]; exact b2, by rw [e]; exact b3.heap' ecl eJ (fun _ _ => eL _ _ _ (by decide)) eA, fun k hk => ⟨ecl _ _ (b4 k hk).1, fun f y1 y2 => by rw [eL _ _ _ (by decide)]; exact (b4 k hk).2 f y1 y2⟩⟩
/-- a circuit's reference is written: views -/
theorem setR (hW : WF h) (hx : cl h x = some 12) {f : Nat} (hf : kd 12 f = 2) (o : Option Nat) : ∃ h', (∀ {α : Type} (k : g_AH → Option α), g_pF h x 12 f (va_rf o) k = k h') ∧ WF h' ∧ (∀ q, cl h' q = cl h q) ∧ (∀ ci f' q, J h' ci f' q = J h ci f' q) ∧ (∀ ci f' q, ¬ (ci = 12 ∧ q = x) → Rf h' ci f' q = Rf h ci f' q) ∧ (∀ f', Rf h' 12 f' x = if f' = f then o else Rf h 12 f' x) ∧ (∀ ci f q, ci ≠ 12 → AL h' ci f q = AL h ci f q) ∧ (∀ ci f q i, ci ≠ 12 → RA h' ci f q i = RA h ci f q i) ∧ (∀ ci f q i, ci ≠ 12 → Ar h' ci f q i = Ar h ci f q i) ∧ VF h h' (fun q => q = x) ∧ h'.2 = h.2 := by
  refine ⟨wR h 12 f x o, fun k => v_pR hW hx hf, hW.pR hf, fun q => cl_wR, fun ci f' q => J_wR hf hW, fun ci f' q hd => ?_, fun f' => ?_, fun ci f' q hd => AL_wR (by simp [hd]), fun ci f' q i hd => RA_wR (by simp [hd]), fun ci f' q i hd => Ar_wR (by simp [hd]), VF.pR hW rfl, wV_meta⟩
  · by_cases e : ci = 12
    · exact Rf_wRa (fun q2 => hd ⟨e, q2⟩)
    · exact Rf_wRn (by simp [e])
  · by_cases e : f' = f
    · subst e; rw [Rf_wR hW hx hf, if_pos rfl, if_pos rfl]
    · rw [Rf_wRn (by simp [e]), if_neg e]
/-- one circuit's object and way have changed -/
theorem RS.circ (hs : RS h G a r N L C K) (hc : c < nt r 4) {w0 : Nat} (hw0 : w0 < 2) (hB : Rf h 12 (2 + w0) (C c) = some W) (hW' : WF h') (ecl : ∀ q, cl h' q = cl h q) (eJ : ∀ ci f q, ¬ (ci = 12 ∧ q = C c) → J h' ci f q = J h ci f q) (eR : ∀ ci f q, ¬ (ci = 12 ∧ q = C c) → Rf h' ci f q = Rf h ci f q) (eL : ∀ ci f q, ci ≠ 12 → AL h' ci f q = AL h ci f q) (eA : ∀ ci f q i, ci ≠ 12 → RA h' ci f q i = RA h ci f q i) (e1 : ∀ i, Ar h' 1 0 a i = Ar h 1 0 a i) (e6 : ∀ q, q ≠ W → ∀ f i, f < 3 → Ar h' 6 f q i = Ar h 6 f q i)
    (hag : ∀ j, j < 104 + 66 * c ∨ 104 + 66 * c + 66 ≤ j → r' j = r j) (hC' : CircR h' G r' (C c) c) (hw2 : ∀ w q, w < 2 → Rf h' 12 (2 + w) (C c) = some q → ∃ w', w' < 2 ∧ Rf h 12 (2 + w') (C c) = some q) (hw3 : ∀ q, Rf h' 12 2 (C c) = some q → Rf h' 12 3 (C c) = some q → False) (hLab : LabR h' r' N) (hI' : Inv4 r') : RS h' G a r' N L C K := by
  have hA := hs.2.2.1
  have g4 := nm4 hA
  have n4 : nt r' 4 = nt r 4 := nt_eq (hag 4 (by omega))
  have hWap := hs.2.1.2.2.2.2.1.2
  have hCj : InjN C (nt r 4) := hs.2.1.2.1.2.2.2.2.2.1
  refine ⟨hW', ?_, hI'⟩
  rw [n4]
  refine (hs.2.1.six.circ2 hA (by omega) hc (fun c w y1 y2 => hs.2.2.len y1 y2) (fun q k e => by rw [ecl]; exact e) eJ eR eL eA e1 (fun c' w' q y1 y2 y3 y4 => e6 q (fun e => ?_)) hag hC' (fun c1 c2 w1 w2 q y1 y2 y3 y4 y5 y6 => ?_)).rn hLab
  · subst e
    exact y2 (hWap c' c w' w0 q y1 hc y3 hw0 y4 hB).1
  · by_cases z1 : c1 = c
    · by_cases z2 : c2 = c
      · subst z1; subst z2
        refine ⟨rfl, ?_⟩
        rcases (show w1 = 0 ∨ w1 = 1 by omega) with rfl | rfl <;> rcases (show w2 = 0 ∨ w2 = 1 by omega) with rfl | rfl
        · rfl
        · exact absurd (hw3 q y5 y6) id
        · exact absurd (hw3 q y6 y5) id
        · rfl
      · subst z1
        obtain ⟨w', u1, u2⟩ := hw2 w1 q y3 y5
        rw [eR _ _ _ (fun z => z2 (hCj _ _ y2 hc z.2))] at y6
        exact absurd (hWap _ _ _ _ q y1 y2 u1 y4 u2 y6).1.symm z2
    · rw [eR _ _ _ (fun z => z1 (hCj _ _ y1 hc z.2))] at y5
      by_cases z2 : c2 = c
      · subst z2
        obtain ⟨w', u1, u2⟩ := hw2 w2 q y4 y6
        exact absurd (hWap _ _ _ _ q y1 y2 y3 u1 y5 u2).1 z1
      · rw [eR _ _ _ (fun z => z2 (hCj _ _ y2 hc z.2))] at y6
        exact hWap _ _ _ _ q y1 y2 y3 y4 y5 y6
/-- the twin moves the new way -/
def mvk (r : tR) (c j : Nat) : tR := fun q => if wp c 0 ≤ q ∧ q < wp c 0 + j then r (q + 25) else r q
theorem t_mvloop (hc : c < 8) : ∀ (m j : Nat) (M : g_MD), j ≤ 25 → 25 - j < m → M.1 0 = mvk r c j → ∃ M', Mod_clearWay_44 m M (Int32.ofNat c) (Int32.ofNat (wp c 0)) (Int32.ofNat j) = some M' ∧ Mr M M' (upd (mvR r c) 12 (mvR r c 12 + 1)) := by
  intro m
  induction m with
  | zero => intro j M _ h; omega
  | succ m ih =>
    intro j M hj hm hr
    rw [Mod_clearWay_44]
    have hwp : wp c 0 + 50 ≤ 632 := by unfold wp; omega
    by_cases e : j = 25
    · subst e
      rw [if_pos (by decide), e_w' (i := wp c 0 + 25) (by show Int32.ofNat (wp c 0) + Int32.ofNat 25 = _; rw [i_add]) (by omega)]
      have q1 : Mr M (ms M 0 (wp c 0 + 25) 0) (upd (mvk r c 25) (wp c 0 + 25) 0) := by rw [← hr]; exact Mr.w
      obtain ⟨M2, t2, q2⟩ := t_put (M := ms M 0 (wp c 0 + 25) 0) (c := c) (f := 2) (v := 0) hc (by omega)
      obtain ⟨M3, t3, q3⟩ := t_put (M := M2) (c := c) (f := 3) (v := 0) hc (by omega)
      rw [q1.1] at q2
      rw [q2.1] at q3
      have eq : upd (upd (upd (mvk r c 25) (wp c 0 + 25) 0) (104 + 66 * c + 2) 0) (104 + 66 * c + 3) 0 = mvR r c := by
        funext k
        unfold upd mvk mvR
        by_cases k3 : k = 104 + 66 * c + 3
        · rw [if_pos k3, if_neg (by unfold wp; omega), if_pos (Or.inr (Or.inr k3))]
        · rw [if_neg k3]
          by_cases k2 : k = 104 + 66 * c + 2
          · rw [if_pos k2, if_neg (by unfold wp; omega), if_pos (Or.inr (Or.inl k2))]
          · rw [if_neg k2]
            by_cases k1 : k = wp c 0 + 25
            · rw [if_pos k1, if_neg (by omega), if_pos (Or.inl (by rw [k1]))]
            · rw [if_neg k1]
              by_cases k0 : wp c 0 ≤ k ∧ k < wp c 0 + 25
              · rw [if_pos k0, if_pos k0]
              · rw [if_neg k0, if_neg k0, if_neg (fun z => by unfold wp at *; omega)]
      rw [eq] at q3
      rw [e_b (show Mod_put _ (Int32.ofNat c) (2 : Int32) (0 : Int32) = some M2 from t2), e_b (show Mod_put M2 (Int32.ofNat c) (3 : Int32) (0 : Int32) = some M3 from t3), e_r' (i := 12) (j := (12 : Int32)) rfl (by decide), e_w' (i := 12) (j := (12 : Int32)) rfl (by decide), q3.1]
      refine ⟨_, rfl, ((q1.tr q2).tr q3).tr ?_⟩
      rw [← q3.1]; exact Mr.w
    · rw [if_neg (fun y => e (by have := (i_le (a := 25) (by omega) (by omega)).mp y; omega))]
      rw [e_r' (i := wp c 0 + 25 + j) (by show Int32.ofNat (wp c 0) + Int32.ofNat 25 + Int32.ofNat j = _; rw [i_add, i_add]) (by omega), e_w' (i := wp c 0 + j) i_add (by omega)]
      have q1 : Mr M (ms M 0 (wp c 0 + j) (M.1 0 (wp c 0 + 25 + j))) (upd (M.1 0) (wp c 0 + j) (M.1 0 (wp c 0 + 25 + j))) := Mr.w
      have eq : upd (M.1 0) (wp c 0 + j) (M.1 0 (wp c 0 + 25 + j)) = mvk r c (j + 1) := by
        rw [hr]
        funext k
        unfold upd mvk
        by_cases k1 : k = wp c 0 + j
        · rw [if_pos k1, if_neg (by omega), if_pos (by omega)]
          congr 1; omega
        · rw [if_neg k1]
          by_cases k0 : wp c 0 ≤ k ∧ k < wp c 0 + j
          · rw [if_pos k0, if_pos (by omega)]
          · rw [if_neg k0, if_neg (by omega)]
      rw [eq] at q1
      obtain ⟨M', t, q⟩ := ih (j + 1) _ (by omega) (by omega) q1.1
      rw [show Int32.ofNat j + (1 : Int32) = Int32.ofNat (j + 1) from i_add]
      exact ⟨M', t, q1.tr q⟩
end CLEAR
