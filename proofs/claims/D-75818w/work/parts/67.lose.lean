/-! LEVEL 2: packets are lost and delivered -/
def RS (h : g_AH) (G : Nat → Prop) (a : Nat) (r : tR) (N L C K : Nat → Nat) : Prop := WF h ∧ RN h G a r N L C K (nt r 4) ∧ Inv4 r
theorem upd_comm {f : Nat → Int32} {a b : Nat} {x y : Int32} (h : a ≠ b) : upd (upd f a x) b y = upd (upd f b y) a x := by
  funext j
  unfold upd
  by_cases e : j = b
  · rw [if_pos e, if_neg (by omega), if_pos e]
  · rw [if_neg e, if_neg e]
theorem upd_self {f : Nat → Int32} {a : Nat} : upd f a (f a) = f := by
  funext j
  unfold upd
  split
  · rename_i e; rw [e]
  · rfl
section LOSE
variable {h h0 h' : g_AH} {G G' O : Nat → Prop} {a : Nat} {r r' : tR} {N L C K : Nat → Nat} {mC x k p c w n s l i0 : Nat} {M : g_MD}
theorem RS.clC (hs : RS h G a r N L C K) (hc : c < nt r 4) : cl h (C c) = some 12 := (hs.2.1.2.2.2.2.1.1 c hc).1.1
theorem RS.clP (hs : RS h G a r N L C K) (hp : p < nt r 6) : cl h (K p) = some 14 := (hs.2.1.2.2.2.2.2.1 p hp).1.1
theorem RS.cla (hs : RS h G a r N L C K) : cl h a = some 1 := hs.2.1.1.1.1
theorem RS.jC (hs : RS h G a r N L C K) (hc : c < nt r 4) {f : Nat} (h7 : 7 ≤ f) (h14 : f ≤ 14) : J h 12 f (C c) = r (104 + 66 * c + (f - 3)) := by
  have := (hs.2.1.2.2.2.2.1.1 c hc).2.1 f (by simp only [List.mem_cons, List.not_mem_nil, or_false]; omega)
  rw [this]; unfold cf; rw [if_neg (by omega), if_neg (by omega)]
theorem RS.jN (hs : RS h G a r N L C K) {f : Nat} (h7 : 7 ≤ f) (h13 : f ≤ 13) : J h 1 f a = r f := hs.2.1.1.2.2.1.2 f h7 h13
theorem RS.jT (hs : RS h G a r N L C K) : J h 1 6 a = r 5 := hs.2.1.1.2.2.1.1
theorem RS.jP (hs : RS h G a r N L C K) (hp : p < nt r 6) {f : Nat} (hf : f < 8) : J h 14 f (K p) = r (632 + 8 * p + pf f) := by
  obtain ⟨-, x3, x4, x5, x6⟩ := hs.2.1.2.2.2.2.2.1 p hp
  rcases (show f = 0 ∨ f = 1 ∨ f = 2 ∨ 3 ≤ f by omega) with rfl | rfl | rfl | q
  · exact x3
  · exact x4
  · exact x5
  · rw [x6 f q (by omega)]; unfold pf; rw [if_neg (by omega), if_neg (by omega)]
theorem pl_C {c f : Nat} (hc : c < 8) (hf : f < 2 ∨ f = 4 ∨ (6 ≤ f ∧ f < 16)) : pl (104 + 66 * c + f) := Or.inr (Or.inr (Or.inl ⟨c, f, rfl, hc, hf⟩))
theorem upd_pl {j0 : Nat} {v : Int32} (hj : pl j0) : ∀ j, ¬ pl j → upd r j0 v j = r j := fun j hn => upd_ne (fun e => hn (by rw [e]; exact hj))
theorem RS.stepC (hs : RS h G a r N L C K) (hc : c < nt r 4) {f : Nat} (h7 : 7 ≤ f) (h14 : f ≤ 14) (v : Int32) (h8 : f ≠ 8 := by omega) : ∃ h', (∀ k : g_AH → Option g_AH, g_pF h (C c) 12 f (.int v) k = k h') ∧ RS h' G a (upd r (104 + 66 * c + (f - 3)) v) N L C K ∧ VF h h' G ∧ h'.2 = h.2 ∧ (∀ q, cl h' q = cl h q) := by
  have g4 := nm4 hs.2.2.1
  have hk : kd 12 f = 1 := kd12 (by simp only [List.mem_cons, List.not_mem_nil, or_false]; omega)
  have hpl : pl (104 + 66 * c + (f - 3)) := pl_C (by omega) (by omega)
  have hag := upd_pl (r := r) (v := v) hpl
  have n4 : nt (upd r (104 + 66 * c + (f - 3)) v) 4 = nt r 4 := nt_eq (hag 4 (pl_low (by omega)))
  refine ⟨wJ h 12 f (C c) v, fun k => v_pJ hs.1 (hs.clC hc) hk, ⟨hs.1.pJ hk, ?_, hs.2.2.plain hag⟩, VF.pJ hs.1 (hs.2.1.2.2.2.2.1.1 c hc).1.2, wV_meta, fun q => cl_wJ⟩
  rw [n4]
  exact (R6.jc hs.1 hs.2.1.six hs.2.2 (Nat.le_refl _) hc h7 h14).rn (hs.2.1.lab.plain hs.2.2 hag (fun f' q i x1 x2 => Ar_wJ hk hs.1))
theorem RS.stepN (hs : RS h G a r N L C K) {f : Nat} (h6 : 6 ≤ f) (h13 : f ≤ 13) (v : Int32) : ∃ h', (∀ k : g_AH → Option g_AH, g_pF h a 1 f (.int v) k = k h') ∧ RS h' G a (upd r (if f = 6 then 5 else f) v) N L C K ∧ VF h h' G ∧ h'.2 = h.2 ∧ (∀ q, cl h' q = cl h q) := by
  have hk : kd 1 f = 1 := kd1 h6 h13
  have hpl : pl (if f = 6 then 5 else f) := by
    split
    · exact Or.inl rfl
    · exact Or.inr (Or.inl ⟨by omega, by omega⟩)
  have hag := upd_pl (r := r) (v := v) hpl
  have n4 : nt (upd r (if f = 6 then 5 else f) v) 4 = nt r 4 := nt_eq (hag 4 (pl_low (by omega)))
  refine ⟨wJ h 1 f a v, fun k => v_pJ hs.1 hs.cla hk, ⟨hs.1.pJ hk, ?_, hs.2.2.plain hag⟩, VF.pJ hs.1 hs.2.1.1.1.2, wV_meta, fun q => cl_wJ⟩
  rw [n4]
  exact (R6.jn hs.1 hs.2.1.six hs.2.2 (Nat.le_refl _) h6 h13).rn (hs.2.1.lab.plain hs.2.2 hag (fun f' q i x1 x2 => Ar_wJ hk hs.1))
def rlo (r : tR) (c : Nat) : tR := upd (upd r (104 + 66 * c + 8) (r (104 + 66 * c + 8) + 1)) 9 (r 9 + 1)
theorem rlo_pl (hc : c < 8) : ∀ j, ¬ pl j → rlo r c j = r j := fun j hj => by
  unfold rlo
  rw [upd_pl (Or.inr (Or.inl ⟨by omega, by omega⟩)) j hj, upd_pl (pl_C hc (by omega)) j hj]
theorem c_lose (hs : RS h G a r N L C K) (hc : c < nt r 4) : ∃ h', Net_lose h a (some (C c)) = some h' ∧ RS h' G a (rlo r c) N L C K ∧ VF h h' G ∧ h'.2 = h.2 ∧ (∀ q, cl h' q = cl h q) := by
  have g4 := nm4 hs.2.2.1
  obtain ⟨h1, e1, s1, V1, m1, l1⟩ := hs.stepC hc (f := 11) (by omega) (by omega) (r (104 + 66 * c + 8) + 1)
  obtain ⟨h2, e2, s2, V2, m2, l2⟩ := s1.stepN (f := 9) (by omega) (by omega) (r 9 + 1)
  refine ⟨h2, ?_, s2, V1.tr hs.1 V2 (fun _ q => Or.inl q), m2.trans m1, fun q => (l2 q).trans (l1 q)⟩
  unfold Net_lose
  rw [e_nn, v_gI hs.1 (hs.clC hc) rfl, hs.jC hc (by omega) (by omega), e1, v_gI s1.1 s1.cla rfl, s1.jN (by omega) (by omega), upd_ne (by omega), e2]
theorem t_ofPacket {f : Nat} (hp : p < 60) (hf : f < 8) : Mod_ofPacket M (Int32.ofNat p) (Int32.ofNat f) = some (M.1 0 (632 + 8 * p + f)) := by
  unfold Mod_ofPacket
  rw [e_r' (i := 632 + 8 * p + f) (by show (Int32.ofNat 632 + Int32.ofNat 8 * Int32.ofNat p) + Int32.ofNat f = _; rw [i_mul, i_add, i_add]) (by omega)]
theorem t_grow {f : Nat} {v : Int32} (hc : c < 8) (hf : f < 66) : ∃ M', Mod_grow M (Int32.ofNat c) (Int32.ofNat f) v = some M' ∧ Mr M M' (upd (M.1 0) (104 + 66 * c + f) (M.1 0 (104 + 66 * c + f) + v)) := by
  have e : (104 : Int32) + (66 : Int32) * Int32.ofNat c + Int32.ofNat f = Int32.ofNat (104 + 66 * c + f) := by show (Int32.ofNat 104 + Int32.ofNat 66 * Int32.ofNat c) + Int32.ofNat f = _; rw [i_mul, i_add, i_add]
  unfold Mod_grow
  rw [e_r' e (by omega), e_w' e (by omega)]
  exact ⟨_, rfl, Mr.w⟩
theorem t_put {f : Nat} {v : Int32} (hc : c < 8) (hf : f < 66) : ∃ M', Mod_put M (Int32.ofNat c) (Int32.ofNat f) v = some M' ∧ Mr M M' (upd (M.1 0) (104 + 66 * c + f) v) := by
  have e : (104 : Int32) + (66 : Int32) * Int32.ofNat c + Int32.ofNat f = Int32.ofNat (104 + 66 * c + f) := by show (Int32.ofNat 104 + Int32.ofNat 66 * Int32.ofNat c) + Int32.ofNat f = _; rw [i_mul, i_add, i_add]
  unfold Mod_put
  rw [e_w' e (by omega)]
  exact ⟨_, rfl, Mr.w⟩
theorem t_w {j : Nat} {v ix : Int32} {α : Type} {K1 : g_MD → Option α} (e : ix = Int32.ofNat j) (hj : j < 1112) (hj2 : j ≠ 2 ∧ j ≠ 3 ∧ (j < 24 ∨ 104 ≤ j ∨ (j - 24) % 5 = 4) := by first | omega | (unfold wp; omega)) : ∃ M', g_mS M 0 0 ix v K1 = K1 M' ∧ Mr M M' (upd (M.1 0) j v) := ⟨_, e_w' e hj, Mr.w hj2⟩
theorem t_losePacket (hI : Inv4 (M.1 0)) (hp : p < nt (M.1 0) 6) (hc : M.1 0 (632 + 8 * p) = Int32.ofNat c) (hc8 : c < 8) : ∃ M', Mod_losePacket M (Int32.ofNat p) = some M' ∧ Mr M M' (rrem (rlo (M.1 0) c) p) := by
  have g6 := nm6 hI.1
  have e1 : ∀ K1 : g_MD → Option g_MD, g_mS M 0 0 (9 : Int32) (M.1 0 9 + 1) K1 = K1 (ms M 0 9 (M.1 0 9 + 1)) := fun K1 => e_w' (i := 9) rfl (by decide)
  have q1 : Mr M (ms M 0 9 (M.1 0 9 + 1)) (upd (M.1 0) 9 (M.1 0 9 + 1)) := Mr.w
  obtain ⟨M2, e2, q2⟩ := t_grow (M := ms M 0 9 (M.1 0 9 + 1)) (c := c) (f := 8) (v := 1) hc8 (by omega)
  rw [q1.1, upd_ne (show 104 + 66 * c + 8 ≠ 9 by omega)] at q2
  have q12 : Mr M M2 (rlo (M.1 0) c) := (q1.tr q2).eq (upd_comm (by omega))
  have hI2 : Inv4 (M2.1 0) := by rw [q12.1]; exact hI.plain (rlo_pl hc8)
  have n6 : nt (M2.1 0) 6 = nt (M.1 0) 6 := by rw [q12.1]; exact nt_eq (rlo_pl hc8 6 (pl_low (by omega)))
  obtain ⟨M3, e3, q3⟩ := t_removePacket (M := M2) (p := p) hI2.1 (by rw [n6]; exact hp)
  rw [q12.1] at q3
  refine ⟨M3, ?_, q12.tr q3⟩
  unfold Mod_losePacket
  rw [e_r' (i := 9) (j := (9 : Int32)) rfl (by decide), e1]
  rw [e_b (show Mod_ofPacket (ms M 0 9 (M.1 0 9 + 1)) (Int32.ofNat p) (0 : Int32) = some (Int32.ofNat c) by
    rw [show (0 : Int32) = Int32.ofNat 0 from rfl, t_ofPacket (by omega) (by omega), q1.1, upd_ne (by omega)]; exact congrArg some hc)]
  rw [e_b (show Mod_grow (ms M 0 9 (M.1 0 9 + 1)) (Int32.ofNat c) (8 : Int32) 1 = some M2 from e2), e_b e3]
/-! delivered -/
def rdl (r : tR) (c p : Nat) : tR :=
  let r1 := upd r (104 + 66 * c + 7) (r (104 + 66 * c + 7) + 1)
  let r2 := upd r1 8 (r 8 + 1)
  let r3 := upd r2 (104 + 66 * c + 11) (r (104 + 66 * c + 11) + (r 5 + 1 - r (632 + 8 * p + 7)))
  let b : Int32 := if r (104 + 66 * c + 10) ≤ r (632 + 8 * p + 1) then 0 else 1
  let r4 := upd r3 (104 + 66 * c + 9) (r (104 + 66 * c + 9) + b)
  let r5 := upd r4 11 (r 11 + b)
  upd r5 (104 + 66 * c + 10) (if r (104 + 66 * c + 10) < r (632 + 8 * p + 1) then r (632 + 8 * p + 1) else r (104 + 66 * c + 10))
theorem rdl_pl (hc : c < 8) : ∀ j, ¬ pl j → rdl r c p j = r j := fun j hj => by
  unfold rdl
  rw [upd_pl (pl_C hc (by omega)) j hj, upd_pl (Or.inr (Or.inl ⟨by omega, by omega⟩)) j hj, upd_pl (pl_C hc (by omega)) j hj, upd_pl (pl_C hc (by omega)) j hj, upd_pl (Or.inr (Or.inl ⟨by omega, by omega⟩)) j hj, upd_pl (pl_C hc (by omega)) j hj]
theorem c_deliver (hs : RS h G a r N L C K) (hc : c < nt r 4) (hp : p < nt r 6) : ∃ h', Net_deliver h a (some (K p)) (some (C c)) = some h' ∧ RS h' G a (rdl r c p) N L C K ∧ VF h h' G ∧ h'.2 = h.2 ∧ (∀ q, cl h' q = cl h q) := by
  have g4 := nm4 hs.2.2.1
  have g6 := nm6 hs.2.2.1
  obtain ⟨h1, e1, s1, V1, m1, l1⟩ := hs.stepC hc (f := 10) (by omega) (by omega) (r (104 + 66 * c + 7) + 1)
  have n41 : nt (upd r (104 + 66 * c + (10 - 3)) (r (104 + 66 * c + 7) + 1)) 4 = nt r 4 := nt_eq (upd_ne (by omega))
  have n61 : nt (upd r (104 + 66 * c + (10 - 3)) (r (104 + 66 * c + 7) + 1)) 6 = nt r 6 := nt_eq (upd_ne (by omega))
  obtain ⟨h2, e2, s2, V2, m2, l2⟩ := s1.stepN (f := 8) (by omega) (by omega) (r 8 + 1)
  have n42 : nt (upd (upd r (104 + 66 * c + (10 - 3)) (r (104 + 66 * c + 7) + 1)) (if 8 = 6 then 5 else 8) (r 8 + 1)) 4 = nt r 4 := (nt_eq (upd_ne (by decide))).trans n41
  have n62 : nt (upd (upd r (104 + 66 * c + (10 - 3)) (r (104 + 66 * c + 7) + 1)) (if 8 = 6 then 5 else 8) (r 8 + 1)) 6 = nt r 6 := (nt_eq (upd_ne (by decide))).trans n61
  obtain ⟨h3, e3, s3, V3, m3, l3⟩ := s2.stepC (c := c) (by rw [n42]; exact hc) (f := 14) (by omega) (by omega) (r (104 + 66 * c + 11) + (r 5 + 1 - r (632 + 8 * p + 7)))
  have n43 := (nt_eq (upd_ne (f := upd (upd r (104 + 66 * c + (10 - 3)) (r (104 + 66 * c + 7) + 1)) (if 8 = 6 then 5 else 8) (r 8 + 1)) (a := 104 + 66 * c + (14 - 3)) (x := r (104 + 66 * c + 11) + (r 5 + 1 - r (632 + 8 * p + 7))) (b := 4) (by omega))).trans n42
  have n63 := (nt_eq (upd_ne (f := upd (upd r (104 + 66 * c + (10 - 3)) (r (104 + 66 * c + 7) + 1)) (if 8 = 6 then 5 else 8) (r 8 + 1)) (a := 104 + 66 * c + (14 - 3)) (x := r (104 + 66 * c + 11) + (r 5 + 1 - r (632 + 8 * p + 7))) (b := 6) (by omega))).trans n62
  -- the late ones
  have tail : ∀ b : Int32, b = (if r (104 + 66 * c + 10) ≤ r (632 + 8 * p + 1) then 0 else 1) → ∃ h', Net_deliver_56 h3 a (some (K p)) (some (C c)) b = some h' ∧ RS h' G a (rdl r c p) N L C K ∧ VF h3 h' G ∧ h'.2 = h3.2 ∧ (∀ q, cl h' q = cl h3 q) := by
    intro b hb
    obtain ⟨h4, e4, s4, V4, m4, l4⟩ := s3.stepC (c := c) (by rw [n43]; exact hc) (f := 12) (by omega) (by omega) (r (104 + 66 * c + 9) + b)
    obtain ⟨h5, e5, s5, V5, m5, l5⟩ := s4.stepN (f := 11) (by omega) (by omega) (r 11 + b)
    have n44 := (nt_eq (upd_ne (f := upd (upd (upd r (104 + 66 * c + (10 - 3)) (r (104 + 66 * c + 7) + 1)) (if 8 = 6 then 5 else 8) (r 8 + 1)) (104 + 66 * c + (14 - 3)) (r (104 + 66 * c + 11) + (r 5 + 1 - r (632 + 8 * p + 7)))) (a := 104 + 66 * c + (12 - 3)) (x := r (104 + 66 * c + 9) + b) (b := 4) (by omega))).trans n43
    have n64 := (nt_eq (upd_ne (f := upd (upd (upd r (104 + 66 * c + (10 - 3)) (r (104 + 66 * c + 7) + 1)) (if 8 = 6 then 5 else 8) (r 8 + 1)) (104 + 66 * c + (14 - 3)) (r (104 + 66 * c + 11) + (r 5 + 1 - r (632 + 8 * p + 7)))) (a := 104 + 66 * c + (12 - 3)) (x := r (104 + 66 * c + 9) + b) (b := 6) (by omega))).trans n63
    have n45 := (nt_eq (upd_ne (f := upd (upd (upd (upd r (104 + 66 * c + (10 - 3)) (r (104 + 66 * c + 7) + 1)) (if 8 = 6 then 5 else 8) (r 8 + 1)) (104 + 66 * c + (14 - 3)) (r (104 + 66 * c + 11) + (r 5 + 1 - r (632 + 8 * p + 7)))) (104 + 66 * c + (12 - 3)) (r (104 + 66 * c + 9) + b)) (a := if 11 = 6 then 5 else 11) (x := r 11 + b) (b := 4) (by decide))).trans n44
    have n65 := (nt_eq (upd_ne (f := upd (upd (upd (upd r (104 + 66 * c + (10 - 3)) (r (104 + 66 * c + 7) + 1)) (if 8 = 6 then 5 else 8) (r 8 + 1)) (104 + 66 * c + (14 - 3)) (r (104 + 66 * c + 11) + (r 5 + 1 - r (632 + 8 * p + 7)))) (104 + 66 * c + (12 - 3)) (r (104 + 66 * c + 9) + b)) (a := if 11 = 6 then 5 else 11) (x := r 11 + b) (b := 6) (by decide))).trans n64
    obtain ⟨h6, e6, s6, V6, m6, l6⟩ := s5.stepC (c := c) (by rw [n45]; exact hc) (f := 13) (by omega) (by omega) (if r (104 + 66 * c + 10) < r (632 + 8 * p + 1) then r (632 + 8 * p + 1) else r (104 + 66 * c + 10))
    refine ⟨h6, ?_, ?_, (V4.tr s3.1 V5 (fun _ q => Or.inl q)).tr s3.1 V6 (fun _ q => Or.inl q), m6.trans (m5.trans m4), fun q => (l6 q).trans ((l5 q).trans (l4 q))⟩
    · have r12 : J h3 12 12 (C c) = r (104 + 66 * c + 9) := by
        rw [s3.jC (c := c) (by rw [n43]; exact hc) (by omega) (by omega), upd_ne (by omega), upd_ne (by show 104 + 66 * c + 9 ≠ 8; omega), upd_ne (by omega)]
      have r11 : J h4 1 11 a = r 11 := by
        rw [s4.jN (by omega) (by omega), upd_ne (by omega), upd_ne (by omega), upd_ne (by decide), upd_ne (by omega)]
      have r13 : J h5 12 13 (C c) = r (104 + 66 * c + 10) := by
        rw [s5.jC (c := c) (by rw [n45]; exact hc) (by omega) (by omega), upd_ne (by show 104 + 66 * c + 10 ≠ 11; omega), upd_ne (by omega), upd_ne (by omega), upd_ne (by show 104 + 66 * c + 10 ≠ 8; omega), upd_ne (by omega)]
      have rn : J h5 14 1 (K p) = r (632 + 8 * p + 1) := by
        rw [s5.jP (p := p) (by rw [n65]; exact hp) (by omega)]
        show upd _ _ _ (632 + 8 * p + 1) = _
        rw [upd_ne (by show 632 + 8 * p + 1 ≠ 11; omega), upd_ne (by omega), upd_ne (by omega), upd_ne (by show 632 + 8 * p + 1 ≠ 8; omega), upd_ne (by omega)]
      have t89 : Net_deliver_89 h4 (some (K p)) (some (C c)) b (r 11) a = some h6 := by
        unfold Net_deliver_89
        rw [e5, e_nn, v_gI s5.1 (s5.clC (by rw [n45]; exact hc)) rfl, r13, e_nn, v_gI s5.1 (s5.clP (by rw [n65]; exact hp)) rfl, rn, e6]
      unfold Net_deliver_56 Net_deliver_71
      rw [e_nn, v_gI s3.1 (s3.clC (by rw [n43]; exact hc)) rfl, r12]
      by_cases hle : r (104 + 66 * c + 10) ≤ r (632 + 8 * p + 1)
      · rw [if_pos hle] at hb
        subst hb
        rw [if_pos rfl, e4, v_gI s4.1 s4.cla rfl, r11, if_pos rfl]
        exact t89
      · rw [if_neg hle] at hb
        subst hb
        rw [if_neg (by decide), e4, v_gI s4.1 s4.cla rfl, r11, if_neg (by decide)]
        exact t89
    · have : rdl r c p = upd (upd (upd (upd (upd (upd r (104 + 66 * c + (10 - 3)) (r (104 + 66 * c + 7) + 1)) (if 8 = 6 then 5 else 8) (r 8 + 1)) (104 + 66 * c + (14 - 3)) (r (104 + 66 * c + 11) + (r 5 + 1 - r (632 + 8 * p + 7)))) (104 + 66 * c + (12 - 3)) (r (104 + 66 * c + 9) + b)) (if 11 = 6 then 5 else 11) (r 11 + b)) (104 + 66 * c + (13 - 3)) (if r (104 + 66 * c + 10) < r (632 + 8 * p + 1) then r (632 + 8 * p + 1) else r (104 + 66 * c + 10)) := by
        rw [hb]; rfl
      rw [this]; exact s6
  obtain ⟨h', e4, s4, V4, m4, l4⟩ := tail _ rfl
  refine ⟨h', ?_, s4, ((V1.tr hs.1 V2 (fun _ q => Or.inl q)).tr hs.1 V3 (fun _ q => Or.inl q)).tr hs.1 V4 (fun _ q => Or.inl q), m4.trans (m3.trans (m2.trans m1)), fun q => (l4 q).trans ((l3 q).trans ((l2 q).trans (l1 q)))⟩
  have r8 : J h1 1 8 a = r 8 := by rw [s1.jN (by omega) (by omega), upd_ne (by omega)]
  have r14 : J h2 12 14 (C c) = r (104 + 66 * c + 11) := by
    rw [s2.jC (c := c) (by rw [n42]; exact hc) (by omega) (by omega), upd_ne (by show 104 + 66 * c + 11 ≠ 8; omega), upd_ne (by omega)]
  have r5 : J h2 1 6 a = r 5 := by rw [s2.jT, upd_ne (by decide), upd_ne (by omega)]
  have rb : J h2 14 2 (K p) = r (632 + 8 * p + 7) := by
    rw [s2.jP (p := p) (by rw [n62]; exact hp) (by omega)]
    show upd _ _ _ (632 + 8 * p + 7) = _
    rw [upd_ne (by show 632 + 8 * p + 7 ≠ 8; omega), upd_ne (by omega)]
  have r13 : J h3 12 13 (C c) = r (104 + 66 * c + 10) := by
    rw [s3.jC (c := c) (by rw [n43]; exact hc) (by omega) (by omega), upd_ne (by omega), upd_ne (by show 104 + 66 * c + 10 ≠ 8; omega), upd_ne (by omega)]
  have rn : J h3 14 1 (K p) = r (632 + 8 * p + 1) := by
    rw [s3.jP (p := p) (by rw [n63]; exact hp) (by omega)]
    show upd _ _ _ (632 + 8 * p + 1) = _
    rw [upd_ne (by omega), upd_ne (by show 632 + 8 * p + 1 ≠ 8; omega), upd_ne (by omega)]
  unfold Net_deliver
  rw [e_nn, v_gI hs.1 (hs.clC hc) rfl, hs.jC hc (by omega) (by omega), e1, v_gI s1.1 s1.cla rfl, r8, e2]
  rw [v_gI s2.1 (s2.clC (by rw [n42]; exact hc)) rfl, r14, v_gI s2.1 s2.cla rfl, r5, e_nn, v_gI s2.1 (s2.clP (by rw [n62]; exact hp)) rfl, rb, e3]
  rw [v_gI s3.1 (s3.clP (by rw [n63]; exact hp)) rfl, rn, v_gI s3.1 (s3.clC (by rw [n43]; exact hc)) rfl, r13]
  by_cases hle : r (104 + 66 * c + 10) ≤ r (632 + 8 * p + 1)
  · rw [if_pos hle] at e4 ⊢; exact e4
  · rw [if_neg hle] at e4 ⊢; exact e4
end LOSE
