/-! LEVEL 2: a packet is sent -/
section SEND
variable {h h0 h' : g_AH} {G G' O : Nat → Prop} {a : Nat} {r r' : tR} {N L C K : Nat → Nat} {mC x k p c w n s l i0 i q W cp b u : Nat} {M : g_MD}
theorem lt_2 {n : Nat} (h : n < 2147483648) : Int32.ofNat n < (2 : Int32) ↔ n < 2 := i_lt (b := 2) h (by omega)
theorem le_1 {n : Nat} (h : n < 2147483648) : Int32.ofNat n ≤ (1 : Int32) ↔ n ≤ 1 := i_le (b := 1) h (by omega)
theorem upd4 {f : Nat → Int32} {a b c d : Nat} {x y z v : Int32} (h1 : a ≠ b) (h2 : a ≠ c) (h3 : a ≠ d) (h4 : b ≠ c) (h5 : b ≠ d) (h6 : c ≠ d) : upd (upd (upd (upd f a x) b y) c z) d v = upd (upd (upd (upd f d v) c z) b y) a x := by
  funext j
  unfold upd
  by_cases e1 : j = a
  · rw [if_neg (by omega), if_neg (by omega), if_neg (by omega), if_pos e1, if_pos e1]
  · by_cases e2 : j = b
    · rw [if_neg (by omega), if_neg (by omega), if_pos e2, if_neg e1, if_pos e2]
    · by_cases e3 : j = c
      · rw [if_neg (by omega), if_pos e3, if_neg e1, if_neg e2, if_pos e3]
      · by_cases e4 : j = d
        · rw [if_pos e4, if_neg e1, if_neg e2, if_neg e3, if_pos e4]
        · rw [if_neg e4, if_neg e3, if_neg e2, if_neg e1, if_neg e1, if_neg e2, if_neg e3, if_neg e4]
theorem rgo_upd6 {v : Int32} (hA : InvA r) (hlt : lk r (r (q + 1 + (i - 1))) (r (q + 1 + i)) < 17) (hq : 104 ≤ q) : rgo (upd r 6 v) p q i = upd (rgo r p q i) 6 v := by
  unfold rgo
  rw [upd_ne (show q + 1 + (i - 1) ≠ 6 by omega), upd_ne (show q + 1 + i ≠ 6 by omega), upd_ne (show q + 7 + i ≠ 6 by omega), upd_ne (show q + 13 + i ≠ 6 by omega), lk_row (r' := upd r 6 v) (fun j hj => upd_ne (by omega)) hA, upd_ne (show 24 + 5 * lk r (r (q + 1 + (i - 1))) (r (q + 1 + i)) + 3 ≠ 6 by omega)]
  rw [upd_comm (show 6 ≠ 632 + 8 * p + 2 by omega), upd_comm (show 6 ≠ 632 + 8 * p + 3 by omega), upd_comm (show 6 ≠ 632 + 8 * p + 4 by omega), upd_comm (show 6 ≠ 632 + 8 * p + 5 by omega), upd_comm (show 6 ≠ 632 + 8 * p + 6 by omega)]
theorem rlo_upd6 {v : Int32} : rlo (upd r 6 v) c = upd (rlo r c) 6 v := by
  unfold rlo
  rw [upd_ne (show 104 + 66 * c + 8 ≠ 6 by omega), upd_ne (show (9 : Nat) ≠ 6 by omega), upd_comm (show 6 ≠ 104 + 66 * c + 8 by omega), upd_comm (show (6 : Nat) ≠ 9 by omega)]
theorem rrem_last (h : r 6 = Int32.ofNat p) (hp : p < 60) : rrem (upd r 6 (Int32.ofNat (p + 1))) p = r := by
  have n6 : nt (upd r 6 (Int32.ofNat (p + 1))) 6 = p + 1 := nt_of upd_eq (by omega)
  funext j
  unfold rrem
  rw [n6]
  by_cases e : j = 6
  · rw [if_pos e, e, h]; rfl
  · rw [if_neg e, if_neg (by omega), upd_ne e]
/-- the active way's number -/
def aw (r : tR) (c : Nat) : Nat := if nt r (104 + 66 * c + 2) ≤ 1 then 0 else 1
theorem aw_2 : aw r c < 2 := by unfold aw; split <;> omega
theorem c_active (hs : RS h G a r N L C K) (hc : c < nt r 4) : ∃ W, Circuit_active h (C c) = some (some W) ∧ WayR h G r W (wp c (aw r c)) := by
  have h2 := (hs.2.2.2.2.1 c hc).1.1
  have h22 := h2.2
  obtain ⟨W, hW1, hW2⟩ := hs.way hc (w := aw r c) aw_2 (fun z => by unfold aw at z; split at z <;> omega)
  refine ⟨W, ?_, hW2⟩
  have hcc := hs.clC hc
  unfold Circuit_active
  rw [v_gI hs.1 hcc rfl, hs.jph hc, h2.1]
  unfold aw at hW1
  by_cases e : nt r (104 + 66 * c + 2) ≤ 1
  · rw [if_pos e] at hW1
    rw [if_pos ((lt_2 (by omega)).mpr (by omega)), v_gR hs.1 hcc rfl, hW1]
  · rw [if_neg e] at hW1
    rw [if_neg (fun y => e (by have := (lt_2 (by omega)).mp y; omega)), v_gR hs.1 hcc rfl, hW1]
theorem t_active (hv : M.1 0 (104 + 66 * c + 2) = r (104 + 66 * c + 2)) (hI : Inv4 r) (hc : c < nt r 4) : Mod_activePlace M (Int32.ofNat c) = some (Int32.ofNat (wp c (aw r c))) := by
  have g4 := nm4 hI.1
  have h2 := (hI.2.2.1 c hc).1.1
  have h22 := h2.2
  unfold Mod_activePlace Mod_activePlace_16
  rw [e_b (show Mod_of M (Int32.ofNat c) (2 : Int32) = some (Int32.ofNat (nt r (104 + 66 * c + 2))) by rw [show (2 : Int32) = Int32.ofNat 2 from rfl, t_of (by omega) (by omega), hv]; exact congrArg some h2.1)]
  unfold aw
  by_cases e : nt r (104 + 66 * c + 2) ≤ 1
  · rw [if_pos ((le_1 (by omega)).mpr e), if_pos e, e_b (show Mod_wayPlace (Int32.ofNat c) (0 : Int32) = some (Int32.ofNat (wp c 0)) from t_wayPlace (w := 0))]
  · rw [if_neg (fun y => e ((le_1 (by omega)).mp y)), if_neg e, e_b (show Mod_wayPlace (Int32.ofNat c) (1 : Int32) = some (Int32.ofNat (wp c 1)) from t_wayPlace (w := 1))]
theorem aw_held (hI : Inv4 r) (hc : c < nt r 4) : 1 < nt r (wp c (aw r c)) ∧ r (wp c (aw r c) + 7 + 1) ≠ -1 := by
  obtain ⟨-, c3, c4, c5, c6, c7, c8, c9⟩ := hI.2.2.1 c hc
  have l1 : 1 < nt r (wp c (aw r c)) := by
    unfold aw
    split
    · omega
    · have := c5 (by omega); omega
  refine ⟨l1, fun z => ?_⟩
  have y := (c9 (aw r c) 1 aw_2 (by omega) l1).mp z
  have y1 := y.1
  unfold aw at y1
  split at y1 <;> omega
theorem send_both (hs : RS h G a r N L C K) (hr : M.1 0 = r) (hc : c < nt r 4) (h60 : nt r 6 < 60) (hb : 0 < nt r (104 + 66 * c + 5)) (hGn : ∀ q, g_n h ≤ q → G q) : ∃ (h' : g_AH) (M' : g_MD) (r' : tR) (K' : Nat → Nat), Net_send h a (Int32.ofNat c) = some h' ∧ Mod_sendPacket M (Int32.ofNat c) = some M' ∧ RS h' G a r' N L C K' ∧ nt r' 4 = nt r 4 ∧ Mr M M' r' ∧ VF h h' G ∧ Co h h' 2 104 ∧ (∀ q k, cl h q = some k → cl h' q = some k) := by
  have hI4 := hs.2.2
  have hA := hI4.1
  have g4 := nm4 hA
  have g2 := nm2 hA
  obtain ⟨jb, rb, b10⟩ := hs.jB hc
  generalize hbb : nt r (104 + 66 * c + 5) = b at *
  generalize hpp : nt r 6 = p at *
  have r6 : r 6 = Int32.ofNat p := by rw [← hpp]; exact hA.1.2.2.2.1
  obtain ⟨ha, hl, -, -, hCs, -⟩ := hs.2.1.lst
  have hcc := hs.clC hc
  -- the row with the new packet's own numbers
  have ag1 : ∀ j, j < 632 + 8 * p ∨ 632 + 8 * p + 8 ≤ j → upd (upd (upd r (632 + 8 * p) (Int32.ofNat c)) (632 + 8 * p + 1) (r (104 + 66 * c + 6))) (632 + 8 * p + 7) (r 5 + 1) j = r j := fun j hj => by rw [upd_ne (by omega), upd_ne (by omega), upd_ne (by omega)]
  have s0 := hs.junk (by rw [hpp]; exact ag1)
  have d0 : upd (upd (upd r (632 + 8 * p) (Int32.ofNat c)) (632 + 8 * p + 1) (r (104 + 66 * c + 6))) (632 + 8 * p + 7) (r 5 + 1) (632 + 8 * p) = Int32.ofNat c := by rw [upd_ne (by omega), upd_ne (by omega), upd_eq]
  have d1 : upd (upd (upd r (632 + 8 * p) (Int32.ofNat c)) (632 + 8 * p + 1) (r (104 + 66 * c + 6))) (632 + 8 * p + 7) (r 5 + 1) (632 + 8 * p + 1) = r (104 + 66 * c + 6) := by rw [upd_ne (by omega), upd_eq]
  have d7 : upd (upd (upd r (632 + 8 * p) (Int32.ofNat c)) (632 + 8 * p + 1) (r (104 + 66 * c + 6))) (632 + 8 * p + 7) (r 5 + 1) (632 + 8 * p + 7) = r 5 + 1 := upd_eq
  -- the twin's first writes
  obtain ⟨M3, t3, q3⟩ : ∃ M3, (∀ k : g_MD → Option g_MD, (g_mS M 0 0 (((632 : Int32) + ((8 : Int32) * Int32.ofNat p)) + (0 : Int32)) (Int32.ofNat c) fun M3 => g_b (Mod_of M3 (Int32.ofNat c) (6 : Int32)) fun x5 => g_mS M3 0 0 (((632 : Int32) + ((8 : Int32) * Int32.ofNat p)) + (1 : Int32)) x5 fun M8 => g_mA M8 0 0 (5 : Int32) fun x10 => g_mS M8 0 0 (((632 : Int32) + ((8 : Int32) * Int32.ofNat p)) + (7 : Int32)) (x10 + (1 : Int32)) k) = k M3) ∧ Mr M M3 (upd (upd (upd r (632 + 8 * p) (Int32.ofNat c)) (632 + 8 * p + 1) (r (104 + 66 * c + 6))) (632 + 8 * p + 7) (r 5 + 1)) := by
    have c1 : ∀ f, (632 : Int32) + (8 : Int32) * Int32.ofNat p + Int32.ofNat f = Int32.ofNat (632 + 8 * p + f) := fun f => by show (Int32.ofNat 632 + Int32.ofNat 8 * Int32.ofNat p) + Int32.ofNat f = _; rw [i_mul, i_add, i_add]
    have c10 : (632 : Int32) + (8 : Int32) * Int32.ofNat p + (0 : Int32) = Int32.ofNat (632 + 8 * p) := c1 0
    have c11 : (632 : Int32) + (8 : Int32) * Int32.ofNat p + (1 : Int32) = Int32.ofNat (632 + 8 * p + 1) := c1 1
    have c17 : (632 : Int32) + (8 : Int32) * Int32.ofNat p + (7 : Int32) = Int32.ofNat (632 + 8 * p + 7) := c1 7
    refine ⟨ms (ms (ms M 0 (632 + 8 * p) (Int32.ofNat c)) 0 (632 + 8 * p + 1) (r (104 + 66 * c + 6))) 0 (632 + 8 * p + 7) (r 5 + 1), fun k => ?_, by rw [← hr]; exact ((Mr.w).tr Mr.w).tr Mr.w⟩
    have q1 : Mr M (ms M 0 (632 + 8 * p) (Int32.ofNat c)) (upd r (632 + 8 * p) (Int32.ofNat c)) := by rw [← hr]; exact Mr.w
    rw [e_w' (i := 632 + 8 * p) c10 (by omega), e_b (show Mod_of (ms M 0 (632 + 8 * p) (Int32.ofNat c)) (Int32.ofNat c) (6 : Int32) = some (r (104 + 66 * c + 6)) by rw [show (6 : Int32) = Int32.ofNat 6 from rfl, t_of (by omega) (by omega), q1.1, upd_ne (by omega)])]
    have q2 : Mr M (ms (ms M 0 (632 + 8 * p) (Int32.ofNat c)) 0 (632 + 8 * p + 1) (r (104 + 66 * c + 6))) (upd (upd r (632 + 8 * p) (Int32.ofNat c)) (632 + 8 * p + 1) (r (104 + 66 * c + 6))) := by rw [← hr]; exact (Mr.w).tr Mr.w
    rw [e_w' (i := 632 + 8 * p + 1) c11 (by omega), e_r' (i := 5) (j := (5 : Int32)) rfl (by decide), q2.1, upd_ne (by omega), upd_ne (by omega), e_w' (i := 632 + 8 * p + 7) c17 (by omega)]
  generalize hr1 : upd (upd (upd r (632 + 8 * p) (Int32.ofNat c)) (632 + 8 * p + 1) (r (104 + 66 * c + 6))) (632 + 8 * p + 7) (r 5 + 1) = r1 at s0 q3 ag1 d0 d1 d7
  have lo1 : ∀ j, j < 632 → r1 j = r j := fun j hj => ag1 j (by omega)
  have n41 : nt r1 4 = nt r 4 := nt_eq (lo1 4 (by omega))
  have n61 : nt r1 6 = p := (nt_eq (lo1 6 (by omega))).trans hpp
  -- the component's writes
  obtain ⟨h1, e1, s1, V1, m1, k1⟩ := s0.stepB (c := c) (by rw [n41]; exact hc) (b := b - 1) (by omega)
  have s2 := s1.nO
  have hxn : cl (nO h1 14 8) (g_n h1) = some 14 := by rw [cl_nO, if_pos rfl]
  have k2 : ∀ q k, cl h q = some k → cl (nO h1 14 8) q = some k := fun q k e => by rw [cl_nO, if_neg (by have := s1.1.cl_lt (show cl h1 q = some k by rw [k1]; exact e); omega), k1]; exact e
  have hxf : ∀ q, q < p → K q ≠ g_n h1 := fun q hq e => by
    have := s1.1.cl_lt (show cl h1 (K q) = some 14 by rw [k1]; exact hs.clP (by omega))
    omega
  have n62 : nt (upd r1 (104 + 66 * c + 5) (Int32.ofNat (b - 1))) 6 = p := (nt_eq (upd_ne (by omega))).trans n61
  have n42 : nt (upd r1 (104 + 66 * c + 5) (Int32.ofNat (b - 1))) 4 = nt r 4 := (nt_eq (upd_ne (by omega))).trans n41
  generalize hr2 : upd r1 (104 + 66 * c + 5) (Int32.ofNat (b - 1)) = r2 at s1 s2 n62 n42
  have c2 : ∀ j, j ≠ 104 + 66 * c + 5 → r2 j = r1 j := fun j hj => by rw [← hr2]; exact upd_ne hj
  generalize hh2 : nO h1 14 8 = h2 at s2 hxn k2
  generalize hx1 : g_n h1 = x1 at hxn hxf
  obtain ⟨h3, e3, w3, sm3, j3, o3, V3, m3⟩ := stepX s2.1 hxn (f := 0) (by omega) (Int32.ofNat c)
  obtain ⟨h4, e4, w4, sm4, j4, o4, V4, m4⟩ := stepX w3 (by rw [sm3.1]; exact hxn) (f := 1) (by omega) (r (104 + 66 * c + 6))
  have sm34 := sm3.tr sm4
  obtain ⟨h5, e5, w5, sm5, j5, o5, V5, m5⟩ := stepX w4 (by rw [sm34.1]; exact hxn) (f := 2) (by omega) (r 5 + 1)
  have sm35 := sm34.tr sm5
  have s5 : RS h5 G a r2 N L C K := s2.sm (x := x1) w5 sm35 (fun q hq => hxf q (by omega)) (fun f q hq => by rw [o5 f q hq, o4 f q hq, o3 f q hq])
  have jx5 : ∀ f, J h5 14 f x1 = if f = 2 then r 5 + 1 else if f = 1 then r (104 + 66 * c + 6) else if f = 0 then Int32.ofNat c else J h2 14 f x1 := fun f => by rw [j5, j4, j3]
  obtain ⟨h6, e6, s6, V6, m6, k6⟩ := s5.stepC (c := c) (by rw [n42]; exact hc) (f := 9) (by omega) (by omega) (r (104 + 66 * c + 6) + 1)
  have E6 : h6 = wJ h5 12 9 (C c) (r (104 + 66 * c + 6) + 1) := Option.some.inj ((e6 some).symm.trans (v_pJ s5.1 (s5.clC (by rw [n42]; exact hc)) rfl))
  obtain ⟨h7, e7, s7, V7, m7, k7⟩ := s6.stepN (f := 7) (by omega) (by omega) (r 7 + 1)
  have E7 : h7 = wJ h6 1 7 a (r 7 + 1) := Option.some.inj ((e7 some).symm.trans (v_pJ s6.1 s6.cla rfl))
  have jx7 : ∀ f, J h7 14 f x1 = J h5 14 f x1 := fun f => by rw [E7, J_wJn (by simp), E6, J_wJn (by simp)]
  have er4 : upd (upd r2 (104 + 66 * c + (9 - 3)) (r (104 + 66 * c + 6) + 1)) (if (7 : Nat) = 6 then 5 else 7) (r 7 + 1) = upd (upd r2 (104 + 66 * c + 6) (r (104 + 66 * c + 6) + 1)) 7 (r 7 + 1) := rfl
  rw [er4] at s7
  have c4' : ∀ j, j ≠ 104 + 66 * c + 5 → j ≠ 104 + 66 * c + 6 → j ≠ 7 → upd (upd r2 (104 + 66 * c + 6) (r (104 + 66 * c + 6) + 1)) 7 (r 7 + 1) j = r1 j := fun j y1 y2 y3 => by rw [upd_ne y3, upd_ne y2, c2 j y1]
  -- the twin's numbers
  obtain ⟨M7, t7, q7⟩ : ∃ M7, (∀ k : g_MD → Option g_MD, (g_mA M3 0 0 (6 : Int32) fun x14 => g_mS M3 0 0 (6 : Int32) (x14 + (1 : Int32)) fun M16 => g_mA M16 0 0 (7 : Int32) fun x18 => g_mS M16 0 0 (7 : Int32) (x18 + (1 : Int32)) fun M20 => g_b (Mod_grow M20 (Int32.ofNat c) (6 : Int32) (1 : Int32)) fun M23 => g_b (Mod_grow M23 (Int32.ofNat c) (5 : Int32) (-1 : Int32)) k) = k M7) ∧ Mr M M7 (upd (upd (upd r2 (104 + 66 * c + 6) (r (104 + 66 * c + 6) + 1)) 7 (r 7 + 1)) 6 (Int32.ofNat (p + 1))) := by
    have qa : Mr M3 (ms M3 0 6 (Int32.ofNat (p + 1))) (upd r1 6 (Int32.ofNat (p + 1))) := by rw [← q3.1]; exact Mr.w
    have qb : Mr (ms M3 0 6 (Int32.ofNat (p + 1))) (ms (ms M3 0 6 (Int32.ofNat (p + 1))) 0 7 (r 7 + 1)) (upd (upd r1 6 (Int32.ofNat (p + 1))) 7 (r 7 + 1)) := by rw [← qa.1]; exact Mr.w
    obtain ⟨M23, t23, q23⟩ := t_grow (M := ms (ms M3 0 6 (Int32.ofNat (p + 1))) 0 7 (r 7 + 1)) (c := c) (f := 6) (v := 1) (by omega) (by omega)
    rw [qb.1, upd_ne (by omega), upd_ne (by omega), lo1 _ (by omega)] at q23
    obtain ⟨M24, t24, q24⟩ := t_grow (M := M23) (c := c) (f := 5) (v := -1) (by omega) (by omega)
    rw [q23.1, upd_ne (by omega), upd_ne (by omega), upd_ne (by omega), lo1 _ (by omega), rb, show Int32.ofNat b + (-1 : Int32) = Int32.ofNat (b - 1) from (Int32.sub_eq_add_neg ..).symm.trans (i_sub1 (by omega))] at q24
    refine ⟨M24, fun k => ?_, (((q3.tr qa).tr qb).tr (q23.tr q24)).eq ?_⟩
    · rw [e_r' (i := 6) (j := (6 : Int32)) rfl (by decide), q3.1, lo1 6 (by omega), r6, show Int32.ofNat p + (1 : Int32) = Int32.ofNat (p + 1) from i_add, e_w' (i := 6) (j := (6 : Int32)) rfl (by decide), e_r' (i := 7) (j := (7 : Int32)) rfl (by decide), qa.1, upd_ne (by omega), lo1 7 (by omega), e_w' (i := 7) (j := (7 : Int32)) rfl (by decide)]
      rw [e_b (show Mod_grow _ (Int32.ofNat c) (6 : Int32) 1 = some M23 from t23), e_b (show Mod_grow M23 (Int32.ofNat c) (5 : Int32) (-1) = some M24 from t24)]
    · rw [← hr2]
      exact upd4 (by omega) (by omega) (by omega) (by omega) (by omega) (by omega)
  have hcell : upd (upd r2 (104 + 66 * c + 6) (r (104 + 66 * c + 6) + 1)) 7 (r 7 + 1) (632 + 8 * p) = Int32.ofNat c ∧ upd (upd r2 (104 + 66 * c + 6) (r (104 + 66 * c + 6) + 1)) 7 (r 7 + 1) (632 + 8 * p + 1) = r (104 + 66 * c + 6) ∧ upd (upd r2 (104 + 66 * c + 6) (r (104 + 66 * c + 6) + 1)) 7 (r 7 + 1) (632 + 8 * p + 7) = r 5 + 1 :=
    ⟨by rw [c4' _ (by omega) (by omega) (by omega)]; exact d0, by rw [c4' _ (by omega) (by omega) (by omega)]; exact d1, by rw [c4' _ (by omega) (by omega) (by omega)]; exact d7⟩
  generalize hr4 : upd (upd r2 (104 + 66 * c + 6) (r (104 + 66 * c + 6) + 1)) 7 (r 7 + 1) = r4 at s7 q7 c4' hcell
  have n44 : nt r4 4 = nt r 4 := (nt_eq (c4' 4 (by omega) (by omega) (by omega))).trans n41
  have n64 : nt r4 6 = p := (nt_eq (c4' 6 (by omega) (by omega) (by omega))).trans n61
  have r46 : r4 6 = Int32.ofNat p := by rw [c4' 6 (by omega) (by omega) (by omega), lo1 6 (by omega)]; exact r6
  have hc4 : c < nt r4 4 := by rw [n44]; exact hc
  have hA4 := s7.2.2.1
  have hGx : G x1 := hGn x1 (by rw [← hx1]; exact V1.1)
  obtain ⟨W, hact, hWay⟩ := c_active s7 hc4
  obtain ⟨hl1, hheld⟩ := aw_held s7.2.2 hc4
  have k7' : ∀ q, cl h7 q = cl h2 q := fun q => by rw [k7, k6, sm35.1]
  have hx7 : cl h7 x1 = some 14 := by rw [k7']; exact hxn
  have hw2 : aw r4 c < 2 := aw_2
  generalize hww : aw r4 c = w at hWay hl1 hheld hw2
  have hwp : 104 ≤ wp c w ∧ wp c w + 25 ≤ 632 := by unfold wp; omega
  have hWy := s7.2.2.2.1 c w hc4 hw2
  obtain ⟨hlt, h8, g1, g2', g3, g4', g5, g6'⟩ := c_goesOn (p := p) s7 hx7 hGx (by omega) (fun q hq _ => hxf q (by omega)) (fun z => by omega) hc4 hw2 hWay (by omega : 0 < 1) hl1 hheld (by rw [jx7, jx5, if_neg (by omega), if_neg (by omega), if_pos rfl]) hc4
  have g34 := nm3 hA4
  have V17 : VF h h7 G := by
    have v2 : VF h1 h2 G := by rw [← hh2]; exact VF.pO s1.1
    have v3 : VF h2 h3 G := V3.weak (fun q hq => by rw [hq]; exact hGx)
    have v4 : VF h3 h4 G := V4.weak (fun q hq => by rw [hq]; exact hGx)
    have v5 : VF h4 h5 G := V5.weak (fun q hq => by rw [hq]; exact hGx)
    exact (((((V1.tr hs.1 v2 (fun _ y => Or.inl y)).tr hs.1 v3 (fun _ y => Or.inl y)).tr hs.1 v4 (fun _ y => Or.inl y)).tr hs.1 v5 (fun _ y => Or.inl y)).tr hs.1 V6 (fun _ y => Or.inl y)).tr hs.1 V7 (fun _ y => Or.inl y)
  have C18 : Co h h8 1 8 := by
    have ca : Co h h1 0 0 := Co.of (by rw [m1])
    have cb : Co h1 h2 1 8 := by rw [← hh2]; exact ⟨Nat.le_succ _, Nat.le_add_right _ _, Nat.le_refl _, Nat.le_refl _⟩
    have cc : Co h2 h8 0 0 := Co.of (by rw [g4', m7, m6, m5, m4, m3])
    exact (ca.tr cb).tr cc
  have V18 : VF h h8 G := V17.tr hs.1 g3 (fun _ y => Or.inl y)
  have k8 : ∀ q k, cl h q = some k → cl h8 q = some k := fun q k e => by rw [g5, k7']; exact k2 q k e
  -- the component's way there
  have front : Net_send h a (Int32.ofNat c) = if b32 (decide (r4 (24 + 5 * lk r4 (r4 (wp c w + 1 + (1 - 1))) (r4 (wp c w + 1 + 1)) + 4) = 1)) = 0 then some h8 else (g_gR h8 a 1 4 fun x62 => g_nn x62 fun a65 => g_is h8 a65 15 <| g_b2 (ArrayList_add0 h8 a65 (some x1)) fun x68 h69 => some h69) := by
    unfold Net_send
    rw [net_get hs.1 ha (by omega) (by omega) (hl 3 (by omega) (by omega)) hCs rfl hc, v_ck hcc, e_nn, v_gI hs.1 hcc rfl, jb, i_sub1 (by omega), e1]
    rw [v_mk14, hh2, hx1]
    rw [v_gI s2.1 (k2 _ _ hcc) rfl, s2.jC (by rw [n42]; exact hc) (f := 9) (by omega) (by omega), c2 _ (by omega), lo1 _ (by omega)]
    rw [v_gI s2.1 s2.cla rfl, s2.jT, c2 _ (by omega), lo1 _ (by omega)]
    rw [e_b (show Packet_init h2 x1 (Int32.ofNat c) (r (104 + 66 * c + (9 - 3))) (r 5 + 1) = some h5 by unfold Packet_init; rw [e3, e4, e5])]
    rw [v_gI s5.1 (s5.clC (by rw [n42]; exact hc)) rfl, s5.jC (by rw [n42]; exact hc) (f := 9) (by omega) (by omega), c2 _ (by omega), lo1 _ (by omega), e6]
    rw [v_gI s6.1 s6.cla rfl, s6.jN (f := 7) (by omega) (by omega), upd_ne (by omega), c2 _ (by omega), lo1 _ (by omega), e7]
    rw [v_is (s7.clC hc4), e_b hact, v_is s7.cla, show (1 : Int32) = Int32.ofNat 1 from rfl, e_b2 g1]; rfl
  -- the twin's
  have hlt17 : lk r4 (r4 (wp c w + 1 + (1 - 1))) (r4 (wp c w + 1 + 1)) < 17 := by omega
  have I4g : Inv4 (rgo r4 p (wp c w) 1) := s7.2.2.slot (by
    rw [n64]; intro j hj
    unfold rgo
    rw [upd_ne (by omega), upd_ne (by omega), upd_ne (by omega), upd_ne (by omega), upd_ne (by omega)])
  have gcell : ∀ j, j < 632 + 8 * p + 2 ∨ j = 632 + 8 * p + 7 → rgo r4 p (wp c w) 1 j = r4 j := fun j hj => by
    unfold rgo
    rw [upd_ne (by omega), upd_ne (by omega), upd_ne (by omega), upd_ne (by omega), upd_ne (by omega)]
  have ng6 : nt (rgo r4 p (wp c w) 1) 6 = p := (nt_eq (gcell 6 (by omega))).trans n64
  have ng2 : nt (rgo r4 p (wp c w) 1) 2 = nt r4 2 := nt_eq (gcell 2 (by omega))
  have ng4 : nt (rgo r4 p (wp c w) 1) 4 = nt r 4 := (nt_eq (gcell 4 (by omega))).trans n44
  have hP : nm (rgo r4 p (wp c w) 1) (632 + 8 * p) (nt (rgo r4 p (wp c w) 1) 4) ∧ nm (rgo r4 p (wp c w) 1) (632 + 8 * p + 4) (nt (rgo r4 p (wp c w) 1) 2) ∧ nm (rgo r4 p (wp c w) 1) (632 + 8 * p + 5) (nt (rgo r4 p (wp c w) 1) (14 + nt (rgo r4 p (wp c w) 1) (632 + 8 * p + 4))) ∧ rgo r4 p (wp c w) 1 (632 + 8 * p + 3) ≠ -1 := by
    have x3 : rgo r4 p (wp c w) 1 (632 + 8 * p + 3) = r4 (wp c w + 1 + 1) := by unfold rgo; rw [upd_ne (by omega), upd_ne (by omega), upd_ne (by omega), upd_eq]
    have x4 : rgo r4 p (wp c w) 1 (632 + 8 * p + 4) = r4 (wp c w + 7 + 1) := by unfold rgo; rw [upd_ne (by omega), upd_ne (by omega), upd_eq]
    have x5 : rgo r4 p (wp c w) 1 (632 + 8 * p + 5) = r4 (wp c w + 13 + 1) := by unfold rgo; rw [upd_ne (by omega), upd_eq]
    rw [ng4, ng2]
    rcases hWy.2.2.2.2.1 1 hl1 with ⟨z, -⟩ | ⟨-, z1, z2⟩
    · exact absurd z hheld
    · have z1b := z1.2
      refine ⟨(nm.of ((gcell _ (by omega)).trans hcell.1) hc (by omega)).1, (nm_sh x4).mpr z1, ?_, ?_⟩
      · rw [nt_eq x4, nt_eq (gcell _ (by have := nm2 hA4; omega))]
        exact (nm_sh x5).mpr z2
      · have := hWy.2.1 1 hl1
        rw [x3, this.1]
        exact m1_ne (by have := this.2; have := nm2 hA4; omega)
  obtain ⟨M8, t8, q8⟩ : ∃ M8, Mod_setOut M7 (Int32.ofNat p) (Int32.ofNat (wp c w)) (1 : Int32) = some M8 ∧ Mr M M8 (upd (rgo r4 p (wp c w) 1) 6 (Int32.ofNat (p + 1))) := by
    have hA7 : InvA (M7.1 0) := by
      rw [q7.1]
      exact hA4.row (fun j hj => upd_ne (by omega)) ((nm_same (upd_ne (by omega))).mpr hA4.1.2.2.1) (nm.of upd_eq (by omega) (by omega)).1
    obtain ⟨M8, u1, u2⟩ := t_setOut (M := M7) (p := p) (q := wp c w) (i := 1) hA7 (by omega) hwp.2 hwp.1 (by omega) (by omega) (by
      rw [q7.1, lk_row (r' := upd r4 6 (Int32.ofNat (p + 1))) (fun j hj => upd_ne (by omega)) hA4, upd_ne (by omega), upd_ne (by omega), nt_eq (upd_ne (show (3 : Nat) ≠ 6 by omega))]
      exact hlt)
    rw [q7.1, rgo_upd6 hA4 hlt17 hwp.1] at u2
    exact ⟨M8, u1, q7.tr u2⟩
  have tfront : Mod_sendPacket M (Int32.ofNat c) = if r4 (24 + 5 * lk r4 (r4 (wp c w + 1 + (1 - 1))) (r4 (wp c w + 1 + 1)) + 4) = 0 then (g_b (Mod_losePacket M8 (Int32.ofNat p)) fun M42 => some M42) else some M8 := by
    unfold Mod_sendPacket
    rw [e_r' (i := 6) (j := (6 : Int32)) rfl (by decide), hr, r6, t3, t7]
    have I47 : ∀ K1 : Int32 → Option g_MD, g_b (Mod_activePlace M7 (Int32.ofNat c)) K1 = K1 (Int32.ofNat (wp c w)) := fun K1 => by
      have hv : M7.1 0 (104 + 66 * c + 2) = r4 (104 + 66 * c + 2) := by rw [q7.1, upd_ne (by omega)]
      rw [e_b (t_active hv s7.2.2 hc4), hww]
    rw [I47, e_b t8, e_b (show Mod_ofPacket M8 (Int32.ofNat p) (2 : Int32) = some (Int32.ofNat (lk r4 (r4 (wp c w + 1 + (1 - 1))) (r4 (wp c w + 1 + 1)))) by
      rw [show (2 : Int32) = Int32.ofNat 2 from rfl, t_ofPacket (by omega) (by omega), q8.1, upd_ne (by omega)]
      unfold rgo
      rw [upd_ne (by omega), upd_ne (by omega), upd_ne (by omega), upd_ne (by omega), upd_eq])]
    rw [e_b (show Mod_ofLink M8 (Int32.ofNat (lk r4 (r4 (wp c w + 1 + (1 - 1))) (r4 (wp c w + 1 + 1)))) (4 : Int32) = some (r4 (24 + 5 * lk r4 (r4 (wp c w + 1 + (1 - 1))) (r4 (wp c w + 1 + 1)) + 4)) by
      rw [show (4 : Int32) = Int32.ofNat 4 from rfl, t_ofLink (by omega) (by omega), q8.1, upd_ne (by omega), gcell _ (by omega)])]
  generalize hkk : lk r4 (r4 (wp c w + 1 + (1 - 1))) (r4 (wp c w + 1 + 1)) = kk at *
  rcases up01 (hA4.2.2.2.1 kk hlt).2.2.2.2 with z | z
  · have hne : ¬ r4 (24 + 5 * kk + 4) = 1 := by rw [z]; decide
    rw [if_neg hne] at g2'
    obtain ⟨M9, t9, q9⟩ := t_losePacket (M := M8) (p := p) (c := c) (by rw [q8.1]; have := I4g.addP (by rw [ng6]; exact h60) (by rw [ng6]; exact hP); rw [ng6] at this; exact this) (by rw [q8.1, nt_of (n := p + 1) upd_eq (by omega)]; omega) (by rw [q8.1, upd_ne (by omega), gcell _ (by omega)]; exact hcell.1) (by omega)
    rw [q8.1, rlo_upd6, rrem_last (by unfold rlo; rw [upd_ne (by omega), upd_ne (by omega), gcell 6 (by omega)]; exact r46) h60] at q9
    refine ⟨h8, M9, _, K, ?_, ?_, g2', ?_, q8.tr q9, V18, C18.le (by omega) (by omega), k8⟩
    · rw [front, decide_eq_false hne]; rfl
    · rw [tfront, if_pos z, e_b t9]
    · exact (nt_eq (rlo_pl (by omega) 4 (pl_low (by omega)))).trans ng4
  · rw [if_pos z] at g2'
    obtain ⟨y0, y3⟩ := g6' z
    have hPk : PktR h8 G (rgo r4 p (wp c w) 1) x1 (nt (rgo r4 p (wp c w) 1) 6) := by
      rw [ng6]
      refine ⟨⟨by rw [g5]; exact hx7, hGx⟩, ?_, ?_, ?_, y3⟩
      · rw [y0 0 (by omega), jx7, jx5, if_neg (by omega), if_neg (by omega), if_pos rfl, gcell _ (by omega)]; exact hcell.1.symm
      · rw [y0 1 (by omega), jx7, jx5, if_neg (by omega), if_pos rfl, gcell _ (by omega)]; exact hcell.2.1.symm
      · rw [y0 2 (by omega), jx7, jx5, if_pos rfl, gcell _ (by omega)]; exact hcell.2.2.symm
    obtain ⟨h9, e9, s9, V9, C9, k9⟩ := g2'.addP (by rw [ng6]; exact h60) hPk (fun q hq => hxf q (by omega)) (by rw [ng6]; exact hP)
    rw [ng6] at s9
    obtain ⟨ha8, hl8, -, -, -, hK8⟩ := g2'.2.1.lst
    refine ⟨h9, M8, _, _, ?_, ?_, s9, ?_, q8, V18.tr hs.1 V9 (fun _ y => Or.inl y), (C18.tr C9).le (by omega) (by omega), fun q k e => by rw [k9]; exact k8 q k e⟩
    · rw [front, decide_eq_true z, if_neg (by decide), v_gR g2'.1 ha8 rfl, hl8 4 (by omega) (by omega), e_nn, v_is hK8.1, e_b2 e9]
    · rw [tfront, if_neg (by rw [z]; decide)]
    · exact (nt_eq (upd_ne (by omega))).trans ng4
end SEND
