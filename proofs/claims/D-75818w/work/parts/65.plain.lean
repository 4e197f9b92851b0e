/-! LEVEL 2: changes of numbers that no index rests on -/
/-- waiting units -/
def InvB (r : tR) : Prop := ∀ c, c < nt r 4 → nm r (104 + 66 * c + 5) 10
def Inv4 (r : tR) : Prop := InvA r ∧ InvW r ∧ InvC r ∧ InvP r ∧ InvB r
/-- cells that no index rests on -/
def pl (j : Nat) : Prop := j = 5 ∨ (7 ≤ j ∧ j ≤ 13) ∨ (∃ c f, j = 104 + 66 * c + f ∧ c < 8 ∧ (f < 2 ∨ f = 4 ∨ (6 ≤ f ∧ f < 16))) ∨ (∃ p f, j = 632 + 8 * p + f ∧ p < 60 ∧ (f = 1 ∨ f = 2 ∨ f = 6 ∨ f = 7))
theorem pl_low {j : Nat} (h : j ≤ 4 ∨ j = 6 ∨ (14 ≤ j ∧ j < 104)) : ¬ pl j := by
  rintro (q | q | ⟨c, f, q1, q2, q3⟩ | ⟨p, f, q1, q2, q3⟩) <;> omega
theorem pl_circ {c f : Nat} (hc : c < 8) (hf : f = 2 ∨ f = 3 ∨ f = 5 ∨ (16 ≤ f ∧ f < 66)) : ¬ pl (104 + 66 * c + f) := by
  rintro (q | q | ⟨c', f', q1, q2, q3⟩ | ⟨p, f', q1, q2, q3⟩)
  · omega
  · omega
  · have : c = c' := by omega
    omega
  · omega
theorem pl_way {c w j : Nat} (hc : c < 8) (hw : w < 2) (h1 : wp c w ≤ j) (h2 : j < wp c w + 25) : ¬ pl j := by
  have := pl_circ (c := c) (f := j - (104 + 66 * c)) hc (by unfold wp at *; omega)
  rw [show 104 + 66 * c + (j - (104 + 66 * c)) = j by unfold wp at *; omega] at this
  exact this
theorem pl_pkt {p f : Nat} (hp : p < 60) (hf : f = 0 ∨ f = 3 ∨ f = 4 ∨ f = 5) : ¬ pl (632 + 8 * p + f) := by
  rintro (q | q | ⟨c', f', q1, q2, q3⟩ | ⟨p', f', q1, q2, q3⟩) <;> omega
section PLAIN
variable {h h' : g_AH} {G O : Nat → Prop} {a : Nat} {r r' : tR} {N L C K : Nat → Nat} {mC x k p c w n s l : Nat} {M : g_MD}
theorem nm_same {j b : Nat} (e : r' j = r j) : nm r' j b ↔ nm r j b := by unfold nm; rw [nt_eq e, e]
theorem Inv4.plain (hI : Inv4 r) (e : ∀ j, ¬ pl j → r' j = r j) : Inv4 r' := by
  obtain ⟨hA, hW, hC, hP, hB⟩ := hI
  have g4 := nm4 hA
  have g6 := nm6 hA
  have g2 := nm2 hA
  have lo : ∀ j, j ≤ 4 ∨ j = 6 ∨ (14 ≤ j ∧ j < 104) → r' j = r j := fun j hj => e j (pl_low hj)
  have n4 := nt_eq (lo 4 (by omega)); have n6 := nt_eq (lo 6 (by omega)); have n2 := nt_eq (lo 2 (by omega))
  refine ⟨hA.row (fun j hj => lo j (by omega)) ((nm_same (lo 4 (by omega))).mpr hA.1.2.2.1) ((nm_same (lo 6 (by omega))).mpr hA.1.2.2.2), fun c w hc hw => ?_, fun c hc => ?_, fun p hp => ?_, fun c hc => by rw [n4] at hc; exact (nm_same (e _ (pl_circ (f := 5) (by omega) (by omega)))).mpr (hB c hc)⟩
  · rw [n4] at hc
    exact (hW c w hc hw).row hA (fun j hj => lo j (by omega)) (fun j h1 h2 => e j (pl_way (by omega) hw h1 h2))
  · rw [n4] at hc
    obtain ⟨⟨c1, c2⟩, c3, c4, c5, c6, c7, c8, c9⟩ := hC c hc
    have e2 := e _ (pl_circ (c := c) (f := 2) (by omega) (by omega))
    have e3 := e _ (pl_circ (c := c) (f := 3) (by omega) (by omega))
    have ew : ∀ w, w < 2 → nt r' (wp c w) = nt r (wp c w) := fun w hw => nt_eq (e _ (pl_way (c := c) (w := w) (by omega) hw (Nat.le_refl _) (by omega)))
    unfold ICc
    rw [nt_eq e2, nt_eq e3, ew 0 (by omega), ew 1 (by omega)]
    refine ⟨⟨(nm_same e2).mpr c1, (nm_same e3).mpr c2⟩, c3, c4, c5, c6, c7, c8, fun w i hw hi0 hi => ?_⟩
    rw [ew w hw] at hi
    have := (hW c w hc hw).1.2
    rw [e _ (pl_way (c := c) (w := w) (j := wp c w + 7 + i) (by omega) hw (by omega) (by omega))]
    exact c9 w i hw hi0 hi
  · rw [n6] at hp
    obtain ⟨p1, p2, p3, p4⟩ := hP p hp
    have e3 := e _ (pl_pkt (p := p) (f := 3) (by omega) (by omega))
    have e0 : r' (632 + 8 * p) = r (632 + 8 * p) := e (632 + 8 * p + 0) (pl_pkt (by omega) (by omega))
    have e4 := e _ (pl_pkt (p := p) (f := 4) (by omega) (by omega))
    have e5 := e _ (pl_pkt (p := p) (f := 5) (by omega) (by omega))
    rw [n4, n2, nt_eq e4, nt_eq (lo (14 + nt r (632 + 8 * p + 4)) (by have := p2.2; omega))]
    exact ⟨(nm_same e0).mpr p1, (nm_same e4).mpr p2, (nm_same e5).mpr p3, by rw [e3]; exact p4⟩
theorem Inv4.len (hI : Inv4 r) {c w : Nat} (hc : c < nt r 4) (hw : w < 2) : nt r (wp c w) ≤ 6 := by
  have := (hI.2.1 c w hc hw).1.2; omega
theorem LabR.plain (hL : LabR h r N) (hI : Inv4 r) (e : ∀ j, ¬ pl j → r' j = r j) (eI : ∀ f q i, 1 ≤ f → f ≤ 4 → Ar h' 10 f q i = Ar h 10 f q i) : LabR h' r' N := by
  have g4 := nm4 hI.1
  exact hL.row hI.1 (e 4 (pl_low (by omega))) (fun c w hc hw => hI.len hc hw) (fun j hj => e j (pl_low (by omega))) (fun c w j hc hw h1 h2 => e j (pl_way (by omega) hw h1 h2)) eI
theorem kd12 {f : Nat} (hf : f ∈ [0, 1, 4, 5, 6, 7, 8, 9, 10, 11, 12, 13, 14]) : kd 12 f = 1 := by
  simp only [List.mem_cons, List.not_mem_nil, or_false] at hf
  rcases hf with rfl | rfl | rfl | rfl | rfl | rfl | rfl | rfl | rfl | rfl | rfl | rfl | rfl <;> rfl
theorem kd14 {f : Nat} (hf : f < 8) : kd 14 f = 1 := by
  rcases (show f = 0 ∨ f = 1 ∨ f = 2 ∨ f = 3 ∨ f = 4 ∨ f = 5 ∨ f = 6 ∨ f = 7 by omega) with rfl | rfl | rfl | rfl | rfl | rfl | rfl | rfl <;> rfl
theorem kd1 {f : Nat} (h6 : 6 ≤ f) (hf : f ≤ 13) : kd 1 f = 1 := by
  rcases (show f = 6 ∨ f = 7 ∨ f = 8 ∨ f = 9 ∨ f = 10 ∨ f = 11 ∨ f = 12 ∨ f = 13 by omega) with rfl | rfl | rfl | rfl | rfl | rfl | rfl | rfl <;> rfl
/-- a number of a circuit -/
theorem R6.jc (hW : WF h) (hR : R6 h G a r N L C K mC) (hI : Inv4 r) (hm : mC ≤ nt r 4) (hc : c < mC) {f : Nat} {v : Int32} (h7 : 7 ≤ f) (h14 : f ≤ 14) : R6 (wJ h 12 f (C c) v) G a (upd r (104 + 66 * c + (f - 3)) v) N L C K mC := by
  have g4 := nm4 hI.1
  have hk : kd 12 f = 1 := kd12 (by simp only [List.mem_cons, List.not_mem_nil, or_false]; omega)
  obtain ⟨⟨x1, x2⟩, x3, ⟨w0, x4, x5⟩, x6, x7⟩ := hR.2.2.2.2.1.1 c hc
  have hcf : ∀ f, f ∈ [0, 1, 4, 7, 8, 9, 10, 11, 12, 13, 14] → cf f < 12 := by decide
  have ag : ∀ j, j ≠ 104 + 66 * c + (f - 3) → upd r (104 + 66 * c + (f - 3)) v j = r j := fun j hj => upd_ne hj
  have eph := nt_eq (ag (104 + 66 * c + 2) (by omega))
  have est := ag (104 + 66 * c + 3) (by omega)
  have wayk : ∀ w q, w < 2 → WayR h G r q (wp c w) → WayR (wJ h 12 f (C c) v) G (upd r (104 + 66 * c + (f - 3)) v) q (wp c w) := fun w q hw hq => by
    have := hI.len (c := c) (w := w) (by omega) hw
    exact (hq.heap' (fun q k e => by rw [cl_wJ]; exact e) (fun f q => J_wJn (by simp)) (fun f q => AL_wJ hk hW) (fun f i _ => Ar_wJ hk hW)).row (fun j h1 h2 => ag j (by unfold wp at *; omega)) (by omega)
  refine hR.circ hI.1 (by omega) hc (fun c w h1 h2 => hI.len (by omega) h2) (fun q k e => by rw [cl_wJ]; exact e) (fun ci f' q hd => ?_) (fun ci f' q _ => Rf_wJ hk hW) (fun ci f' q => AL_wJ hk hW) (fun ci f' q i => RA_wJ hk hW) (fun i => Ar_wJ hk hW) (fun c' w' q _ _ _ _ f' i _ => Ar_wJ hk hW) (fun j hj => ag j (by omega)) ⟨⟨by rw [cl_wJ]; exact x1, x2⟩, fun f' hf' => ?_, ⟨w0, by rw [Rf_wJ hk hW]; exact x4, wayk 0 w0 (by omega) x5⟩, ?_, ?_⟩ (fun c1 c2 w1 w2 q y1 y2 y3 y4 y5 y6 => ?_)
  · by_cases e : ci = 12
    · exact J_wJa (fun q2 => hd ⟨e, q2⟩)
    · exact J_wJn (by simp [e])
  · by_cases e : f' = f
    · subst e
      rw [J_wJ hW x1 hk, if_pos rfl]
      have : cf f' = f' - 3 := by unfold cf; rw [if_neg (by omega), if_neg (by omega)]
      rw [this, upd_eq]
    · rw [J_wJn (by simp [e]), x3 f' hf', ag]
      intro q
      have : cf f' = f - 3 := by omega
      simp only [List.mem_cons, List.not_mem_nil, or_false] at hf'
      unfold cf at this
      split at this
      · omega
      · split at this <;> omega
  · rw [eph]
    split
    · rename_i e; rw [if_pos e] at x6; rw [Rf_wJ hk hW]; exact x6
    · rename_i e; rw [if_neg e] at x6
      obtain ⟨w1, y1, y2⟩ := x6
      exact ⟨w1, by rw [Rf_wJ hk hW]; exact y1, wayk 1 w1 (by omega) y2⟩
  · rw [eph, nt_eq est, est, nt_eq (ag (wp c 1) (by unfold wp; omega)), J_wJn (by simp; omega), J_wJn (by simp; omega)]
    exact x7
  · rw [Rf_wJ hk hW] at y5 y6
    exact hR.2.2.2.2.1.2 c1 c2 w1 w2 q y1 y2 y3 y4 y5 y6
/-- one of the net's numbers -/
theorem R6.jn (hW : WF h) (hR : R6 h G a r N L C K mC) (hI : Inv4 r) (hm : mC ≤ nt r 4) {f : Nat} {v : Int32} (h6 : 6 ≤ f) (h13 : f ≤ 13) : R6 (wJ h 1 f a v) G a (upd r (if f = 6 then 5 else f) v) N L C K mC := by
  have g4 := nm4 hI.1
  have hk : kd 1 f = 1 := kd1 h6 h13
  obtain ⟨⟨x1, x2⟩, -, ⟨x3, x4⟩, -⟩ := hR.1
  refine hR.net hI.1 (by omega) (fun c w h1 h2 => hI.len (by omega) h2) (fun q k e => by rw [cl_wJ]; exact e) (fun ci f' q hd => J_wJn (by simp [hd])) (fun ci f' q => Rf_wJ hk hW) (fun ci f' q => AL_wJ hk hW) (fun ci f' q i => RA_wJ hk hW) (fun ci f' q i => Ar_wJ hk hW) (fun j hj => upd_ne (by split <;> omega)) ?_ (fun f' y1 y2 => ?_)
  · by_cases e : f = 6
    · subst e; rw [J_wJ hW x1 hk, if_pos rfl, if_pos rfl, upd_eq]
    · rw [J_wJn (by simp; omega), if_neg e, upd_ne (by omega)]; exact x3
  · by_cases e : f' = f
    · subst e; rw [J_wJ hW x1 hk, if_pos rfl, if_neg (by omega), upd_eq]
    · rw [J_wJn (by simp [e]), upd_ne (by split <;> omega)]; exact x4 f' y1 y2
/-- a number of a packet -/
def pf (f : Nat) : Nat := if f ≤ 1 then f else if f = 2 then 7 else f - 1
theorem R6.jp (hW : WF h) (hR : R6 h G a r N L C K mC) (hI : Inv4 r) (hm : mC ≤ nt r 4) (hp : p < nt r 6) {f : Nat} {v : Int32} (hf : f < 8) : R6 (wJ h 14 f (K p) v) G a (upd r (632 + 8 * p + pf f) v) N L C K mC := by
  have g4 := nm4 hI.1
  have hk : kd 14 f = 1 := kd14 hf
  obtain ⟨⟨x1, x2⟩, x3, x4, x5, x6⟩ := hR.2.2.2.2.2 p hp
  have hpf : pf f < 8 := by unfold pf; split <;> (try split) <;> omega
  have all : ∀ f', f' < 8 → J h 14 f' (K p) = r (632 + 8 * p + pf f') := fun f' h' => by
    rcases (show f' = 0 ∨ f' = 1 ∨ f' = 2 ∨ 3 ≤ f' by omega) with rfl | rfl | rfl | q
    · exact x3
    · exact x4
    · exact x5
    · rw [x6 f' q (by omega)]; unfold pf; rw [if_neg (by omega), if_neg (by omega)]
  have inj : ∀ f', f' < 8 → f' ≠ f → pf f' ≠ pf f := fun f' h' hne q => by unfold pf at q; split at q <;> split at q <;> (try split at q) <;> (try split at q) <;> omega
  have new : ∀ f', f' < 8 → J (wJ h 14 f (K p) v) 14 f' (K p) = upd r (632 + 8 * p + pf f) v (632 + 8 * p + pf f') := fun f' h' => by
    by_cases e : f' = f
    · subst e; rw [J_wJ hW x1 hk, if_pos rfl, upd_eq]
    · rw [J_wJn (by simp [e]), upd_ne (by have := inj f' h' e; omega)]; exact all f' h'
  refine hR.pkt hI.1 (by omega) hp (fun c w h1 h2 => hI.len (by omega) h2) (fun q k e => by rw [cl_wJ]; exact e) (fun ci f' q hd => ?_) (fun ci f' q => Rf_wJ hk hW) (fun ci f' q => AL_wJ hk hW) (fun ci f' q i => RA_wJ hk hW) (fun ci f' q i => Ar_wJ hk hW) (fun j hj => upd_ne (by omega)) ⟨⟨by rw [cl_wJ]; exact x1, x2⟩, new 0 (by omega), new 1 (by omega), new 2 (by omega), fun f' y1 y2 => ?_⟩
  · by_cases e : ci = 14
    · exact J_wJa (fun q2 => hd ⟨e, q2⟩)
    · exact J_wJn (by simp [e])
  · rw [new f' (by omega)]; unfold pf; rw [if_neg (show ¬ f' ≤ 1 by omega), if_neg (show ¬ f' = 2 by omega)]
end PLAIN
