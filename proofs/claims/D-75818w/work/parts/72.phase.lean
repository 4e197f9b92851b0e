/-! LEVEL 2: circuits in their phases -/
def unL (r : tR) (p i : Nat) : tR := upd (upd (upd r (p + 7 + i) (-1)) (p + 13 + i) (-1)) (p + 19 + i) 0
section PHASE
variable {h h0 h' : g_AH} {G G' O : Nat → Prop} {a : Nat} {r r' : tR} {N L C K : Nat → Nat} {mC x k p c w n s l i0 i q W cp : Nat} {M : g_MD}
theorem wp_in {c w j : Nat} (hw : w < 2) (h1 : wp c w ≤ j) (h2 : j < wp c w + 25) : 104 + 66 * c + 16 ≤ j ∧ j < 104 + 66 * c + 66 := by unfold wp at *; omega
/-- one circuit's cells have changed -/
theorem Inv4.ci (hI : Inv4 r) (hc : c < nt r 4) (hag : ∀ j, j < 104 + 66 * c ∨ 104 + 66 * c + 66 ≤ j → r' j = r j) (hW : ∀ w, w < 2 → WyI r' (wp c w)) (hC : ICc r' c) (h5 : r' (104 + 66 * c + 5) = r (104 + 66 * c + 5)) : Inv4 r' := by
  obtain ⟨hA, hW0, hC0, hP0, hB⟩ := hI
  have g4 := nm4 hA
  have g2 := nm2 hA
  have lo : ∀ j, j < 104 → r' j = r j := fun j hj => hag j (by omega)
  have n4 := nt_eq (lo 4 (by omega)); have n6 := nt_eq (lo 6 (by omega)); have n2 := nt_eq (lo 2 (by omega))
  have oth : ∀ c' j, c' < 8 → c' ≠ c → 104 + 66 * c' ≤ j → j < 104 + 66 * c' + 66 → r' j = r j := fun c' j h1 h2 h3 h4 => hag j (by omega)
  refine ⟨hA.row (fun j hj => lo j (by omega)) ((nm_same (lo 4 (by omega))).mpr hA.1.2.2.1) ((nm_same (lo 6 (by omega))).mpr hA.1.2.2.2), fun c' w hc' hw => ?_, fun c' hc' => ?_, fun q hq => ?_, fun c' hc' => ?_⟩
  · rw [n4] at hc'
    by_cases e : c' = c
    · subst e; exact hW w hw
    · exact (hW0 c' w hc' hw).row hA (fun j hj => lo j (by omega)) (fun j h1 h2 => by have := wp_in hw h1 h2; exact oth c' j (by omega) e (by omega) (by omega))
  · rw [n4] at hc'
    by_cases e : c' = c
    · subst e; exact hC
    · have o := fun j => oth c' j (by omega) e
      have e2 := o (104 + 66 * c' + 2) (by omega) (by omega)
      have e3 := o (104 + 66 * c' + 3) (by omega) (by omega)
      obtain ⟨⟨c1, c2⟩, c3, c4, c5, c6, c7, c8, c9⟩ := hC0 c' hc'
      have w0 := o (wp c' 0) (by unfold wp; omega) (by unfold wp; omega)
      have w1 := o (wp c' 1) (by unfold wp; omega) (by unfold wp; omega)
      unfold ICc
      rw [nt_eq e2, nt_eq e3, nt_eq w0, nt_eq w1]
      refine ⟨⟨(nm_same e2).mpr c1, (nm_same e3).mpr c2⟩, c3, c4, c5, c6, c7, c8, fun w i hw hi0 hi => ?_⟩
      have hwl := (hW0 c' w hc' hw).1.2
      rw [nt_eq (o (wp c' w) (by unfold wp; omega) (by unfold wp; omega))] at hi
      rw [o _ (by unfold wp; omega) (by unfold wp; omega)]
      exact c9 w i hw hi0 hi
  · rw [n6] at hq
    obtain ⟨x1, x2, x3, x4⟩ := hP0 q hq
    have hi : ∀ f, r' (632 + 8 * q + f) = r (632 + 8 * q + f) := fun f => hag _ (by omega)
    have e0 : r' (632 + 8 * q) = r (632 + 8 * q) := hi 0
    rw [n4, n2, nt_eq (hi 4), nt_eq (lo (14 + nt r (632 + 8 * q + 4)) (by have := x2.2; omega)), hi 3]
    exact ⟨(nm_same e0).mpr x1, (nm_same (hi 4)).mpr x2, (nm_same (hi 5)).mpr x3, x4⟩
  · rw [n4] at hc'
    by_cases e : c' = c
    · subst e; exact (nm_same h5).mpr (hB c' hc')
    · exact (nm_same (oth c' _ (by omega) e (by omega) (by omega))).mpr (hB c' hc')
/-- who has a label is told by the ways' lengths, spaces and labels -/
theorem Pos_same (h4 : r' 4 = r 4) (e : ∀ c w, c < nt r 4 → w < 2 → r' (wp c w) = r (wp c w) ∧ ∀ i, 0 < i → i < nt r (wp c w) → r' (wp c w + 7 + i) = r (wp c w + 7 + i) ∧ r' (wp c w + 13 + i) = r (wp c w + 13 + i)) {c w i s l : Nat} : Pos r' c w i s l ↔ Pos r c w i s l := by
  unfold Pos
  rw [nt_eq h4]
  constructor
  · rintro ⟨x1, x2, x3, x4, x5, x6⟩
    obtain ⟨y1, y2⟩ := e c w x1 x2
    rw [nt_eq y1] at x4
    obtain ⟨y3, y4⟩ := y2 i x3 x4
    exact ⟨x1, x2, x3, x4, by rw [← y3]; exact x5, by rw [← y4]; exact x6⟩
  · rintro ⟨x1, x2, x3, x4, x5, x6⟩
    obtain ⟨y1, y2⟩ := e c w x1 x2
    obtain ⟨y3, y4⟩ := y2 i x3 x4
    exact ⟨x1, x2, x3, by rw [nt_eq y1]; exact x4, by rw [y3]; exact x5, by rw [y4]; exact x6⟩
theorem way_cell {c1 w1 c2 w2 b i j : Nat} (hw1 : w1 < 2) (hw2 : w2 < 2) (hb : b + i < 25) (hj : j < 25) (e : wp c1 w1 + b + i = wp c2 w2 + j) : c1 = c2 ∧ w1 = w2 := by
  by_cases hd : c1 = c2 ∧ w1 = w2
  · exact hd
  · have := wp_disj (c := c2) (w := w2) (c1 := c1) (w1 := w1) (j := wp c2 w2 + j) hw2 hw1 hd (by omega) (by omega)
    omega
theorem LabR_make (hW : WF h) (hL : LabR h r N) (hI : Inv4 r) (hp : Pos r c w i s l) (hs : s < nt r 2) (hl : l < nt r (14 + s)) (hn : 0 < AL h 10 4 (N s)) (hinj : InjN N (nt r 2)) : LabR (wA h 10 4 (N s) l 1) (upd r (wp c w + 19 + i) 1) N := by
  have g2 := nm2 hI.1
  obtain ⟨hc, hw, hi0, hi, -, -⟩ := id hp
  have h16 := hI.len hc hw
  have far : ∀ j, j < 104 → upd r (wp c w + 19 + i) 1 j = r j := fun j hj => upd_ne (by unfold wp; omega)
  have wcell : ∀ c' w' b j, w' < 2 → b + j < 25 → ¬ (c' = c ∧ w' = w ∧ b + j = 19 + i) → upd r (wp c w + 19 + i) 1 (wp c' w' + b + j) = r (wp c' w' + b + j) := fun c' w' b j hw' hb hne => upd_ne (fun e => by
    obtain ⟨rfl, rfl⟩ := way_cell (c1 := c') (c2 := c) (b := b) (i := j) (j := 19 + i) hw' hw hb (by omega) (by omega)
    exact hne ⟨rfl, rfl, by omega⟩)
  have hpos : ∀ {c1 w1 i1 s1 l1}, Pos (upd r (wp c w + 19 + i) 1) c1 w1 i1 s1 l1 ↔ Pos r c1 w1 i1 s1 l1 := fun {c1 w1 i1 s1 l1} => Pos_same (far 4 (by omega)) (fun c' w' hc' hw' => by
    have := hI.len hc' hw'
    exact ⟨wcell c' w' 0 0 hw' (by omega) (fun z => by omega), fun j _ hj => ⟨wcell c' w' 7 j hw' (by omega) (fun z => by omega), wcell c' w' 13 j hw' (by omega) (fun z => by omega)⟩⟩)
  have n2 := nt_eq (far 2 (by omega))
  have nsp : ∀ k, k < nt r 2 → nt (upd r (wp c w + 19 + i) 1) (14 + k) = nt r (14 + k) := fun k hk => nt_eq (far _ (by omega))
  have o1 : ∀ f q j, 1 ≤ f → f < 4 → Ar (wA h 10 4 (N s) l 1) 10 f q j = Ar h 10 f q j := fun f q j y1 y2 => Ar_wAn hW (by decide) (by rw [kd10 y1 (by omega)]; split <;> omega) (fun z => by omega)
  refine ⟨fun c1 w1 i1 s1 l1 x1 x2 x3 => ?_, fun s1 l1 x1 x2 => ?_⟩
  · rw [n2] at x2
    rw [nsp s1 x2] at x3
    have hq := hpos.mp x1
    obtain ⟨a1, a2, a3, a4⟩ := hL.1 c1 w1 i1 s1 l1 hq x2 x3
    have hq6 := hI.len hq.1 hq.2.1
    have hq4 := hq.2.2.2.1
    rw [o1 1 _ _ (by omega) (by omega), o1 2 _ _ (by omega) (by omega), o1 3 _ _ (by omega) (by omega), wcell c1 w1 1 i1 hq.2.1 (by omega) (fun z => by omega)]
    refine ⟨a1, a2, a3, ?_⟩
    rw [Ar_wA hW ⟨by decide, by decide⟩ hn]
    by_cases e : N s1 = N s ∧ l1 = l
    · have es : s1 = s := hinj s1 s x2 hs e.1
      obtain ⟨-, rfl⟩ := e
      subst es
      obtain ⟨rfl, rfl, rfl⟩ := Pos.uniq hL hI.1 hI.2.1 hq hp hs hl
      rw [if_pos ⟨rfl, rfl⟩, upd_eq]
    · rw [if_neg e, a4, wcell c1 w1 19 i1 hq.2.1 (by omega) (fun z => ?_)]
      obtain ⟨rfl, rfl, z3⟩ := z
      have : i1 = i := by omega
      subst this
      have e1 := (i_eq (by have := nm2 hI.1; omega) (by omega)).mp (hq.2.2.2.2.1.symm.trans hp.2.2.2.2.1)
      have g1 := (nm_sp hI.1 hs).2
      have g3 := (nm_sp hI.1 x2).2
      have e2 := (i_eq (by omega) (by omega)).mp (hq.2.2.2.2.2.symm.trans hp.2.2.2.2.2)
      exact e ⟨by rw [e1], e2⟩
  · rw [n2] at x1
    rw [nsp s1 x1] at x2
    rw [o1 1 _ _ (by omega) (by omega)]
    rcases hL.2 s1 l1 x1 x2 with z | ⟨c1, w1, i1, z⟩
    · exact Or.inl z
    · exact Or.inr ⟨c1, w1, i1, hpos.mpr z⟩
theorem LabR_un (hW : WF h) (hL : LabR h r N) (hI : Inv4 r) (hp : Pos r c w i s l) (hs : s < nt r 2) (hl : l < nt r (14 + s)) (hn : ∀ f, 1 ≤ f → f ≤ 4 → 0 < AL h 10 f (N s)) (hinj : InjN N (nt r 2)) : LabR (gvH h (N s) l (-1) (-1) 0) (unL r (wp c w) i) N := by
  have g2 := nm2 hI.1
  obtain ⟨hc, hw, hi0, hi, -, -⟩ := id hp
  have h16 := hI.len hc hw
  have far : ∀ j, j < 104 → unL r (wp c w) i j = r j := fun j hj => by unfold unL; rw [upd_ne (by unfold wp; omega), upd_ne (by unfold wp; omega), upd_ne (by unfold wp; omega)]
  have wcell : ∀ c' w' b j, w' < 2 → b + j < 25 → ¬ (c' = c ∧ w' = w ∧ (b + j = 7 + i ∨ b + j = 13 + i ∨ b + j = 19 + i)) → unL r (wp c w) i (wp c' w' + b + j) = r (wp c' w' + b + j) := fun c' w' b j hw' hb hne => by
    have key : ∀ d, d = 7 ∨ d = 13 ∨ d = 19 → wp c' w' + b + j ≠ wp c w + d + i := fun d hd e => by
      obtain ⟨rfl, rfl⟩ := way_cell (c1 := c') (c2 := c) (b := b) (i := j) (j := d + i) hw' hw hb (by omega) (by omega)
      exact hne ⟨rfl, rfl, by omega⟩
    unfold unL
    rw [upd_ne (key 19 (by omega)), upd_ne (key 13 (by omega)), upd_ne (key 7 (by omega))]
  have c7 : unL r (wp c w) i (wp c w + 7 + i) = -1 := by unfold unL; rw [upd_ne (by omega), upd_ne (by omega), upd_eq]
  have hpos : ∀ {c1 w1 i1 s1 l1}, s1 < 1000 → (Pos (unL r (wp c w) i) c1 w1 i1 s1 l1 ↔ (Pos r c1 w1 i1 s1 l1 ∧ ¬ (c1 = c ∧ w1 = w ∧ i1 = i))) := fun {c1 w1 i1 s1 l1} hs1 => by
    unfold Pos
    rw [nt_eq (far 4 (by omega))]
    constructor
    · rintro ⟨x1, x2, x3, x4, x5, x6⟩
      have l6 := hI.len x1 x2
      have el : unL r (wp c w) i (wp c1 w1) = r (wp c1 w1) := wcell c1 w1 0 0 x2 (by omega) (fun z => by omega)
      rw [nt_eq el] at x4
      by_cases e : c1 = c ∧ w1 = w ∧ i1 = i
      · obtain ⟨rfl, rfl, rfl⟩ := e
        rw [c7] at x5
        exact absurd x5.symm (m1_ne (by omega))
      · rw [wcell c1 w1 7 i1 x2 (by omega) (fun z => e ⟨z.1, z.2.1, by omega⟩)] at x5
        rw [wcell c1 w1 13 i1 x2 (by omega) (fun z => e ⟨z.1, z.2.1, by omega⟩)] at x6
        exact ⟨⟨x1, x2, x3, x4, x5, x6⟩, e⟩
    · rintro ⟨⟨x1, x2, x3, x4, x5, x6⟩, e⟩
      have l6 := hI.len x1 x2
      have el : unL r (wp c w) i (wp c1 w1) = r (wp c1 w1) := wcell c1 w1 0 0 x2 (by omega) (fun z => by omega)
      rw [nt_eq el, wcell c1 w1 7 i1 x2 (by omega) (fun z => e ⟨z.1, z.2.1, by omega⟩), wcell c1 w1 13 i1 x2 (by omega) (fun z => e ⟨z.1, z.2.1, by omega⟩)]
      exact ⟨x1, x2, x3, x4, x5, x6⟩
  have n2 := nt_eq (far 2 (by omega))
  have nsp : ∀ k, k < nt r 2 → nt (unL r (wp c w) i) (14 + k) = nt r (14 + k) := fun k hk => nt_eq (far _ (by omega))
  have hb0 : (0 : Int32) = 0 ∨ (0 : Int32) = 1 := Or.inl rfl
  have oth : ∀ f s1 l1, 1 ≤ f → f ≤ 4 → s1 < nt r 2 → ¬ (s1 = s ∧ l1 = l) → Ar (gvH h (N s) l (-1) (-1) 0) 10 f (N s1) l1 = Ar h 10 f (N s1) l1 := fun f s1 l1 x1 x2 x3 x4 => by
    by_cases e : s1 = s
    · subst e
      rw [gv_Ar hW hb0 hn x1 x2, if_neg (fun q => x4 ⟨rfl, q⟩)]
    · rw [gv_Aro hW hb0 (by rw [kd10 x1 x2]; split <;> omega) (fun q => e (hinj _ _ x3 hs q.2))]
  refine ⟨fun c1 w1 i1 s1 l1 x1 x2 x3 => ?_, fun s1 l1 x1 x2 => ?_⟩
  · rw [n2] at x2
    rw [nsp s1 x2] at x3
    obtain ⟨hq, hne⟩ := (hpos (by omega)).mp x1
    have hne2 : ¬ (s1 = s ∧ l1 = l) := fun e => by
      obtain ⟨rfl, rfl⟩ := e
      exact hne (Pos.uniq hL hI.1 hI.2.1 hq hp hs hl)
    have hq6 := hI.len hq.1 hq.2.1
    have hq4 := hq.2.2.2.1
    rw [oth 1 s1 l1 (by omega) (by omega) x2 hne2, oth 2 s1 l1 (by omega) (by omega) x2 hne2, oth 3 s1 l1 (by omega) (by omega) x2 hne2, oth 4 s1 l1 (by omega) (by omega) x2 hne2]
    rw [wcell c1 w1 1 i1 hq.2.1 (by omega) (fun z => by omega), wcell c1 w1 19 i1 hq.2.1 (by omega) (fun z => hne ⟨z.1, z.2.1, by omega⟩)]
    exact hL.1 c1 w1 i1 s1 l1 hq x2 x3
  · rw [n2] at x1
    rw [nsp s1 x1] at x2
    by_cases e : s1 = s ∧ l1 = l
    · obtain ⟨rfl, rfl⟩ := e
      left
      rw [gv_Ar hW hb0 hn (by omega) (by omega), if_pos rfl, if_pos rfl]
    · rw [oth 1 s1 l1 (by omega) (by omega) x1 e]
      rcases hL.2 s1 l1 x1 x2 with z | ⟨c1, w1, i1, z⟩
      · exact Or.inl z
      · refine Or.inr ⟨c1, w1, i1, (hpos (by omega)).mpr ⟨z, fun y => e ?_⟩⟩
        obtain ⟨rfl, rfl, rfl⟩ := y
        have g1 := (nm_sp hI.1 hs).2
        have g3 := (nm_sp hI.1 x1).2
        exact ⟨(i_eq (by omega) (by omega)).mp (z.2.2.2.2.1.symm.trans hp.2.2.2.2.1), (i_eq (by omega) (by omega)).mp (z.2.2.2.2.2.symm.trans hp.2.2.2.2.2)⟩
end PHASE
