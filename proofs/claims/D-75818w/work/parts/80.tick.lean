/-! LEVEL 2: a tick -/
section TICK
variable {h h0 h' : g_AH} {G G' O : Nat → Prop} {a : Nat} {r r' : tR} {N L C K : Nat → Nat} {mC x k p c w n s l i0 i q W cp b u : Nat} {M : g_MD}
theorem le_0 {n : Nat} (h : n < 2147483648) : Int32.ofNat n ≤ (0 : Int32) ↔ n ≤ 0 := i_le (b := 0) h (by omega)
theorem ge_60 {n : Nat} (h : n < 2147483648) : (60 : Int32) ≤ Int32.ofNat n ↔ 60 ≤ n := i_le (a := 60) (by omega) h
theorem i_m1 {v : Int32} : v + (-1 : Int32) = v - 1 := (Int32.sub_eq_add_neg ..).symm
theorem i_ne0 {v : Int32} (h : ¬ v ≤ 0) : ¬ v = 0 := fun e => h (by rw [e]; exact Int32.le_refl _)
/-- the phases of all circuits move -/
theorem phases_loop : ∀ (m c : Nat) (h : g_AH) (M : g_MD) (r : tR), RS h G a r N L C K → M.1 0 = r → c ≤ nt r 4 → nt r 4 - c < m → ∃ (h' : g_AH) (M' : g_MD) (r' : tR), Net_tick_6 m h a (Int32.ofNat c) = (g_is h' a 1 <| g_b (Net_sendAll h' a) fun h20 => g_gI h20 a 1 6 fun x23 => g_pF h20 a 1 6 (.int (x23 + (1 : Int32))) fun h29 => some h29) ∧ Mod_moveCircuits_2 m M (Int32.ofNat c) = some M' ∧ RS h' G a r' N L C K ∧ nt r' 4 = nt r 4 ∧ Mr M M' r' ∧ VF h h' G ∧ Co h h' 0 0 ∧ (∀ q, cl h' q = cl h q) := by
  intro m
  induction m with
  | zero => intro c _ _ _ _ _ _ h; omega
  | succ m ih =>
    intro c h M r hs hr hc hm
    have hA := hs.2.2.1
    have g4 := nm4 hA
    obtain ⟨ha, hl, -, -, hCs, -⟩ := hs.2.1.lst
    rw [Net_tick_6, Mod_moveCircuits_2]
    rw [v_gR hs.1 ha rfl, hl 3 (by omega) (by omega), e_nn, v_is hCs.1, e_b (ls_size hs.1 hCs), e_r' (i := 4) (j := (4 : Int32)) rfl (by decide), hr, hA.1.2.2.1.1]
    by_cases e : nt r 4 ≤ c
    · rw [if_pos ((i_le (by omega) (by omega)).mpr e), if_pos ((i_le (by omega) (by omega)).mpr e)]
      exact ⟨h, M, r, rfl, rfl, hs, rfl, by rw [← hr]; exact Mr.rf, VF.rf, Co.rf, fun _ => rfl⟩
    · have hc4 : c < nt r 4 := by omega
      rw [if_neg (fun q => e ((i_le (by omega) (by omega)).mp q)), if_neg (fun q => e ((i_le (by omega) (by omega)).mp q))]
      have hcc := hs.clC hc4
      have h2 := (hs.2.2.2.2.1 c hc4).1.1
      have h22 := h2.2
      have hP := hs.2.1.1.2.2.2
      obtain ⟨z, hz⟩ := AL_ref (n := 4) hP.1 (by omega)
      obtain ⟨q, hq1, hq2, -⟩ := hP.2 (nt r (104 + 66 * c + 2)) h22
      have lv : ∀ ci : Nat, ci = 2 + nt r (104 + 66 * c + 2) → ∀ (k1 : Nat → Nat → Option g_AH), (g_gR h a 1 5 fun x31 => g_gR h a 1 3 fun x35 => g_nn x35 fun a38 => g_is h a38 15 <| g_b (ArrayList_get h a38 (Int32.ofNat c)) fun x41 => g_ck h x41 12 <| g_nn x41 fun a45 => g_gI h a45 12 4 fun x47 => g_nn x31 fun a50 => g_aA h 6 a50 x47 fun x51 => g_nn x51 fun a56 => g_cls h a56 fun ci57 => k1 a56 ci57) = k1 q ci := fun ci hci k1 => by
        rw [v_gR hs.1 ha rfl, hz, net_get hs.1 ha (by omega) (by omega) (hl 3 (by omega) (by omega)) hCs rfl hc4, v_ck hcc, e_nn, v_gI hs.1 hcc rfl, hs.jph hc4, h2.1, e_nn, v_aA (t := 6) hs.1 hz rfl rfl (by rw [hP.1]; exact i_in h22 (by omega)), i_cl (by omega), hq1, e_nn, v_cls hq2, hci]
      rw [e_b (show Mod_of M (Int32.ofNat c) (2 : Int32) = some (Int32.ofNat (nt r (104 + 66 * c + 2))) by rw [show (2 : Int32) = Int32.ofNat 2 from rfl, t_of (by omega) (by omega), hr]; exact congrArg some h2.1)]
      have go : ∀ (h1 : g_AH) (M1 : g_MD) (r1 : tR), RS h1 G a r1 N L C K → nt r1 4 = nt r 4 → Mr M M1 r1 → VF h h1 G → Co h h1 0 0 → (∀ q, cl h1 q = cl h q) → ∃ (h' : g_AH) (M' : g_MD) (r' : tR), Net_tick_45 (Net_tick_6 m) h1 a (Int32.ofNat c) = (g_is h' a 1 <| g_b (Net_sendAll h' a) fun h20 => g_gI h20 a 1 6 fun x23 => g_pF h20 a 1 6 (.int (x23 + (1 : Int32))) fun h29 => some h29) ∧ Mod_moveCircuits_68 (Mod_moveCircuits_2 m) M1 (Int32.ofNat c) = some M' ∧ RS h' G a r' N L C K ∧ nt r' 4 = nt r 4 ∧ Mr M M' r' ∧ VF h h' G ∧ Co h h' 0 0 ∧ (∀ q, cl h' q = cl h q) := by
        intro h1 M1 r1 s1 n1 q1 V1 C1 k1
        obtain ⟨h', M', r', u1, u2, u3, u4, u5, u6, u7, u8⟩ := ih (c + 1) h1 M1 r1 s1 q1.1 (by omega) (by omega)
        refine ⟨h', M', r', ?_, ?_, u3, u4.trans n1, q1.tr u5, V1.tr hs.1 u6 (fun _ y => Or.inl y), C1.tr u7, fun q => by rw [u8, k1]⟩
        · unfold Net_tick_45; rw [show Int32.ofNat c + (1 : Int32) = Int32.ofNat (c + 1) from i_add]; exact u1
        · unfold Mod_moveCircuits_68; rw [show Int32.ofNat c + (1 : Int32) = Int32.ofNat (c + 1) from i_add]; exact u2
      rcases (show nt r (104 + 66 * c + 2) = 0 ∨ nt r (104 + 66 * c + 2) = 1 ∨ nt r (104 + 66 * c + 2) = 2 ∨ nt r (104 + 66 * c + 2) = 3 by omega) with f | f | f | f
      · rw [lv 2 (by omega), f, if_pos rfl, if_neg (by decide), if_neg (by decide), if_neg (by decide), e_b (show Resting_tick q (some a) (Int32.ofNat c) = some () from rfl)]
        exact go h M r hs rfl (by rw [← hr]; exact Mr.rf) VF.rf Co.rf (fun _ => rfl)
      · obtain ⟨h1, M1, r1, u1, u2, u3, u4, u5, u6, u7, u8⟩ := build_both (x := q) hs hr hc4 f
        rw [lv 3 (by omega), f, if_neg (by decide), if_pos rfl, if_pos (by decide), e_b u1, e_b u2]
        exact go h1 M1 r1 u3 u4 u5 u6 u7 u8
      · obtain ⟨h1, M1, r1, u1, u2, u3, u4, u5, u6, u7, u8⟩ := drain_both (x := q) hs hr hc4 f
        rw [lv 4 (by omega), f, if_neg (by decide), if_neg (by decide), if_pos rfl, if_neg (by decide), if_pos (by decide), e_b u1, e_b u2]
        exact go h1 M1 r1 u3 u4 u5 u6 u7 u8
      · obtain ⟨h1, M1, r1, u1, u2, u3, u4, u5, u6, u7, u8⟩ := clear_both (x := q) hs hr hc4 f
        rw [lv 5 (by omega), f, if_neg (by decide), if_neg (by decide), if_neg (by decide), if_pos rfl, if_neg (by decide), if_neg (by decide), if_pos (by decide), e_b u1, e_b u2]
        exact go h1 M1 r1 u3 u4 u5 u6 u7 u8
theorem from_both (hs : RS h G a r N L C K) (hr : M.1 0 = r) (hc : c < nt r 4) (hGn : ∀ q, g_n h ≤ q → G q) : ∃ (h' : g_AH) (M' : g_MD) (r' : tR) (K' : Nat → Nat), (∀ k2 : g_AH → Nat → Int32 → Option g_AH, Net_sendAll_60 k2 h a (Int32.ofNat c) (some (C c)) = k2 h' a (Int32.ofNat (c + 1))) ∧ Mod_sendFrom_33 M (Int32.ofNat c) = some M' ∧ RS h' G a r' N L C K' ∧ nt r' 4 = nt r 4 ∧ Mr M M' r' ∧ VF h h' G ∧ Co h h' 2 104 := by
  have hA := hs.2.2.1
  have g4 := nm4 hA
  have g6 := nm6 hA
  obtain ⟨ha, hl, -, -, -, hKs⟩ := hs.2.1.lst
  have hcc := hs.clC hc
  obtain ⟨jb, rb, b10⟩ := hs.jB hc
  have j7 := hs.jC hc (f := 7) (by omega) (by omega)
  rw [show 104 + 66 * c + (7 - 3) = 104 + 66 * c + 4 by omega] at j7
  have stay : ∀ k2 : g_AH → Nat → Int32 → Option g_AH, Net_sendAll_104 k2 h a (Int32.ofNat c) = k2 h a (Int32.ofNat (c + 1)) := fun k2 => by unfold Net_sendAll_104; rw [show Int32.ofNat c + (1 : Int32) = Int32.ofNat (c + 1) from i_add]
  have m0 : Mr M M r := by rw [← hr]; exact Mr.rf
  have tw : Mod_sendFrom_33 M (Int32.ofNat c) = if r (104 + 66 * c + 4) ≤ 0 then (if Int32.ofNat (nt r (104 + 66 * c + 5)) ≤ 0 then (some M) else if (60 : Int32) ≤ Int32.ofNat (nt r 6) then (some M) else (g_b (Mod_sendPacket M (Int32.ofNat c)) fun M17 => some M17)) else (g_b (Mod_grow M (Int32.ofNat c) (4 : Int32) (-1 : Int32)) fun M20 => some M20) := by
    unfold Mod_sendFrom_33
    rw [e_b (show Mod_of M (Int32.ofNat c) (4 : Int32) = some (r (104 + 66 * c + 4)) by rw [show (4 : Int32) = Int32.ofNat 4 from rfl, t_of (by omega) (by omega), hr])]
    rw [e_b (show Mod_of M (Int32.ofNat c) (5 : Int32) = some (Int32.ofNat (nt r (104 + 66 * c + 5))) by rw [show (5 : Int32) = Int32.ofNat 5 from rfl, t_of (by omega) (by omega), hr]; exact congrArg some rb), e_r' (i := 6) (j := (6 : Int32)) rfl (by decide), hr, hA.1.2.2.2.1]
  have co : ∀ k2 : g_AH → Nat → Int32 → Option g_AH, Net_sendAll_60 k2 h a (Int32.ofNat c) (some (C c)) = if r (104 + 66 * c + 4) ≤ 0 then (if Int32.ofNat (nt r (104 + 66 * c + 5)) ≤ 0 then (Net_sendAll_104 k2 h a (Int32.ofNat c)) else if (60 : Int32) ≤ Int32.ofNat (nt r 6) then (Net_sendAll_104 k2 h a (Int32.ofNat c)) else (g_b (Net_send h a (Int32.ofNat c)) fun h54 => Net_sendAll_104 k2 h54 a (Int32.ofNat c))) else (g_pF h (C c) 12 7 (.int (r (104 + 66 * c + 4) - (1 : Int32))) fun h63 => Net_sendAll_104 k2 h63 a (Int32.ofNat c)) := fun k2 => by
    unfold Net_sendAll_60
    rw [e_nn, v_gI hs.1 hcc rfl, j7, v_gI hs.1 hcc rfl, jb, v_gR hs.1 ha rfl, hl 4 (by omega) (by omega), e_nn, v_is hKs.1, e_b (ls_size hs.1 hKs), v_is ha, v_gI hs.1 hcc rfl, j7]
  rw [tw]
  by_cases y1 : r (104 + 66 * c + 4) ≤ 0
  · rw [if_pos y1]
    by_cases y2 : nt r (104 + 66 * c + 5) ≤ 0
    · rw [if_pos ((le_0 (by omega)).mpr y2)]
      exact ⟨h, M, r, K, fun k2 => by rw [co, if_pos y1, if_pos ((le_0 (by omega)).mpr y2)]; exact stay k2, rfl, hs, rfl, m0, VF.rf, Co.rf⟩
    · rw [if_neg (fun z => y2 ((le_0 (by omega)).mp z))]
      by_cases y3 : 60 ≤ nt r 6
      · rw [if_pos ((ge_60 (by omega)).mpr y3)]
        exact ⟨h, M, r, K, fun k2 => by rw [co, if_pos y1, if_neg (fun z => y2 ((le_0 (by omega)).mp z)), if_pos ((ge_60 (by omega)).mpr y3)]; exact stay k2, rfl, hs, rfl, m0, VF.rf, Co.rf⟩
      · rw [if_neg (fun z => y3 ((ge_60 (by omega)).mp z))]
        obtain ⟨h', M', r', K', u1, u2, u3, u4, u5, u6, u7, -⟩ := send_both hs hr hc (by omega) (by omega) hGn
        refine ⟨h', M', r', K', fun k2 => ?_, by rw [e_b u2], u3, u4, u5, u6, u7⟩
        rw [co, if_pos y1, if_neg (fun z => y2 ((le_0 (by omega)).mp z)), if_neg (fun z => y3 ((ge_60 (by omega)).mp z)), e_b u1]
        unfold Net_sendAll_104; rw [show Int32.ofNat c + (1 : Int32) = Int32.ofNat (c + 1) from i_add]
  · rw [if_neg y1]
    obtain ⟨h1, e1, s1, V1, m1, k1⟩ := hs.stepC hc (f := 7) (by omega) (by omega) (r (104 + 66 * c + 4) - 1)
    have E1 : h1 = wJ h 12 7 (C c) (r (104 + 66 * c + 4) - 1) := Option.some.inj ((e1 some).symm.trans (v_pJ hs.1 hcc rfl))
    obtain ⟨M1, t1, q1⟩ := t_grow (M := M) (c := c) (f := 4) (v := -1) (by omega) (by omega)
    rw [hr, i_m1] at q1
    refine ⟨h1, M1, _, K, fun k2 => ?_, by rw [e_b (show Mod_grow M (Int32.ofNat c) (4 : Int32) (-1) = some M1 from t1)], s1, nt_eq (upd_ne (by omega)), q1, V1, Co.of (by rw [m1])⟩
    rw [co, if_neg y1, v_pJ hs.1 hcc rfl, ← E1]
    unfold Net_sendAll_104; rw [show Int32.ofNat c + (1 : Int32) = Int32.ofNat (c + 1) from i_add]
theorem each_both (hs : RS h G a r N L C K) (hr : M.1 0 = r) (hc : c < nt r 4) (hGn : ∀ q, g_n h ≤ q → G q) (m : Nat) : ∃ (h' : g_AH) (M' : g_MD) (r' : tR) (K' : Nat → Nat), Net_sendAll_2 (m + 1) h a (Int32.ofNat c) = Net_sendAll_2 m h' a (Int32.ofNat (c + 1)) ∧ Mod_sendFrom M (Int32.ofNat c) = some M' ∧ RS h' G a r' N L C K' ∧ nt r' 4 = nt r 4 ∧ Mr M M' r' ∧ VF h h' G ∧ Co h h' 2 104 := by
  have hA := hs.2.2.1
  have g4 := nm4 hA
  obtain ⟨ha, hl, -, -, hCs, -⟩ := hs.2.1.lst
  have hcc := hs.clC hc
  have j1 : J h 12 1 (C c) = r (104 + 66 * c + 1) := (hs.2.1.2.2.2.2.1.1 c hc).2.1 1 (by decide)
  have tw : Mod_sendFrom M (Int32.ofNat c) = if r (104 + 66 * c + 1) ≤ 0 then (Mod_sendFrom_33 M (Int32.ofNat c)) else (g_rq (¬ r (104 + 66 * c + 1) = 0) <| if ((r 5 + (1 : Int32)) - (r 5 + (1 : Int32)) / r (104 + 66 * c + 1) * r (104 + 66 * c + 1)) = 0 then (g_b (Mod_growBacklog M (Int32.ofNat c) (1 : Int32)) fun M30 => Mod_sendFrom_33 M30 (Int32.ofNat c)) else (Mod_sendFrom_33 M (Int32.ofNat c))) := by
    have hv : Mod_of M (Int32.ofNat c) (1 : Int32) = some (r (104 + 66 * c + 1)) := by rw [show (1 : Int32) = Int32.ofNat 1 from rfl, t_of (by omega) (by omega), hr]
    unfold Mod_sendFrom
    rw [e_b hv, e_r' (i := 5) (j := (5 : Int32)) rfl (by decide), hr, e_b hv]
  have co : Net_sendAll_2 (m + 1) h a (Int32.ofNat c) = if r (104 + 66 * c + 1) ≤ 0 then (Net_sendAll_60 (Net_sendAll_2 m) h a (Int32.ofNat c) (some (C c))) else (g_rq (¬ r (104 + 66 * c + 1) = 0) <| if ((r 5 + (1 : Int32)) - (r 5 + (1 : Int32)) / r (104 + 66 * c + 1) * r (104 + 66 * c + 1)) = 0 then (g_b2 (Circuit_offer h (C c) (1 : Int32)) fun x80 h81 => g_pF h81 a 1 10 (.int (r 10 + x80)) fun h86 => Net_sendAll_60 (Net_sendAll_2 m) h86 a (Int32.ofNat c) (some (C c))) else (Net_sendAll_60 (Net_sendAll_2 m) h a (Int32.ofNat c) (some (C c)))) := by
    rw [Net_sendAll_2, v_gR hs.1 ha rfl, hl 3 (by omega) (by omega), e_nn, v_is hCs.1, e_b (ls_size hs.1 hCs), if_neg (fun z => by have := (i_le (by omega) (by omega)).mp z; omega)]
    rw [net_get hs.1 ha (by omega) (by omega) (hl 3 (by omega) (by omega)) hCs rfl hc, v_ck hcc, e_nn, v_gI hs.1 hcc rfl, j1, v_gI hs.1 ha rfl, hs.jT, v_gI hs.1 hcc rfl, j1, v_gI hs.1 ha rfl, hs.jN (f := 10) (by omega) (by omega), v_is hcc]
  rw [tw, co]
  by_cases y1 : r (104 + 66 * c + 1) ≤ 0
  · rw [if_pos y1, if_pos y1]
    obtain ⟨h', M', r', K', u1, u2, u3, u4, u5, u6, u7⟩ := from_both hs hr hc hGn
    exact ⟨h', M', r', K', u1 _, u2, u3, u4, u5, u6, u7⟩
  · rw [if_neg y1, if_neg y1, e_rq (i_ne0 y1), e_rq (i_ne0 y1)]
    by_cases y2 : ((r 5 + (1 : Int32)) - (r 5 + (1 : Int32)) / r (104 + 66 * c + 1) * r (104 + 66 * c + 1)) = 0
    · rw [if_pos y2, if_pos y2]
      obtain ⟨h1, e1, s1, V1, m1, k1⟩ := offer_c hs hc (u := 1) (by omega)
      obtain ⟨M1, t1, q1⟩ := offer_t hr hs.2.2 hc (u := 1) (by omega)
      generalize nt r (104 + 66 * c + 5) + 1 - 9 = d at e1 q1
      generalize (if nt r (104 + 66 * c + 5) + 1 < 9 then nt r (104 + 66 * c + 5) + 1 else 9) = bb at s1 q1
      obtain ⟨h2, e2, s2, V2, m2, k2⟩ := s1.stepN (f := 10) (by omega) (by omega) (r 10 + Int32.ofNat d)
      have e2' : upd (upd r (104 + 66 * c + 5) (Int32.ofNat bb)) (if (10 : Nat) = 6 then 5 else 10) (r 10 + Int32.ofNat d) = upd (upd r 10 (r 10 + Int32.ofNat d)) (104 + 66 * c + 5) (Int32.ofNat bb) := upd_comm (by show 104 + 66 * c + 5 ≠ 10; omega)
      rw [e2'] at s2
      have n4 : nt (upd (upd r 10 (r 10 + Int32.ofNat d)) (104 + 66 * c + 5) (Int32.ofNat bb)) 4 = nt r 4 := (nt_eq (upd_ne (by omega))).trans (nt_eq (upd_ne (by omega)))
      have V12 : VF h h2 G := V1.tr hs.1 V2 (fun _ y => Or.inl y)
      obtain ⟨h', M', r', K', u1, u2, u3, u4, u5, u6, u7⟩ := from_both s2 q1.1 (by rw [n4]; exact hc) (fun q hq => hGn q (Nat.le_trans V12.1 hq))
      have C12 : Co h h2 0 0 := Co.of (by rw [m2, m1])
      refine ⟨h', M', r', K', ?_, ?_, u3, u4.trans n4, q1.tr u5, V12.tr hs.1 u6 (fun _ y => Or.inl y), (C12.tr u7).le (by omega) (by omega)⟩
      · rw [show (1 : Int32) = Int32.ofNat 1 from rfl, e_b2 e1, e2, u1]
      · rw [e_b (show Mod_growBacklog M (Int32.ofNat c) (1 : Int32) = some M1 from t1)]; exact u2
    · rw [if_neg y2, if_neg y2]
      obtain ⟨h', M', r', K', u1, u2, u3, u4, u5, u6, u7⟩ := from_both hs hr hc hGn
      exact ⟨h', M', r', K', u1 _, u2, u3, u4, u5, u6, u7⟩
theorem sendAll_loop : ∀ (m c : Nat) (h : g_AH) (M : g_MD) (r : tR) (K : Nat → Nat), RS h G a r N L C K → M.1 0 = r → c ≤ nt r 4 → nt r 4 - c < m → (∀ q, g_n h ≤ q → G q) → ∃ (h' : g_AH) (M' : g_MD) (r' : tR) (K' : Nat → Nat), Net_sendAll_2 m h a (Int32.ofNat c) = some h' ∧ Mod_passTick_10 m M (Int32.ofNat c) = (g_mA M' 0 0 (5 : Int32) fun x10 => g_mS M' 0 0 (5 : Int32) (x10 + (1 : Int32)) fun M12 => some M12) ∧ RS h' G a r' N L C K' ∧ Mr M M' r' ∧ VF h h' G ∧ Co h h' (2 * (nt r 4 - c)) (104 * (nt r 4 - c)) := by
  intro m
  induction m with
  | zero => intro c _ _ _ _ _ _ _ h; omega
  | succ m ih =>
    intro c h M r K hs hr hc hm hGn
    have hA := hs.2.2.1
    have g4 := nm4 hA
    obtain ⟨ha, hl, -, -, hCs, -⟩ := hs.2.1.lst
    rw [Mod_passTick_10, e_r' (i := 4) (j := (4 : Int32)) rfl (by decide), hr, hA.1.2.2.1.1]
    by_cases e : nt r 4 ≤ c
    · rw [if_pos ((i_le (by omega) (by omega)).mpr e)]
      refine ⟨h, M, r, K, ?_, rfl, hs, by rw [← hr]; exact Mr.rf, VF.rf, Co.rf⟩
      rw [Net_sendAll_2, v_gR hs.1 ha rfl, hl 3 (by omega) (by omega), e_nn, v_is hCs.1, e_b (ls_size hs.1 hCs), if_pos ((i_le (by omega) (by omega)).mpr e)]
    · rw [if_neg (fun q => e ((i_le (by omega) (by omega)).mp q))]
      obtain ⟨h1, M1, r1, K1, u1, u2, u3, u4, u5, u6, u7⟩ := each_both hs hr (by omega : c < nt r 4) hGn m
      obtain ⟨h', M', r', K', v1, v2, v3, v4, v5, v6⟩ := ih (c + 1) h1 M1 r1 K1 u3 u5.1 (by omega) (by omega) (fun q hq => hGn q (Nat.le_trans u6.1 hq))
      refine ⟨h', M', r', K', by rw [u1]; exact v1, ?_, v3, u5.tr v4, u6.tr hs.1 v5 (fun _ y => Or.inl y), (u7.tr v6).le (by omega) (by omega)⟩
      rw [e_b u2, show Int32.ofNat c + (1 : Int32) = Int32.ofNat (c + 1) from i_add]; exact v2
/-- one tick -/
theorem tick_both (hs : RS h G a r N L C K) (hr : M.1 0 = r) (hGn : ∀ q, g_n h ≤ q → G q) : ∃ (h' : g_AH) (M' : g_MD) (r' : tR) (K' : Nat → Nat), Net_tick h a = some h' ∧ Mod_passTick M = some M' ∧ RS h' G a r' N L C K' ∧ Mr M M' r' ∧ VF h h' G ∧ Co h h' 16 832 := by
  obtain ⟨h1, M1, r1, K1, a1, a2, a3, a4, a5, a6, a7, a8⟩ := run_both hs hr
  have g4 := nm4 a3.2.2.1
  obtain ⟨h2, M2, r2, b1, b2, b3, b4, b5, b6, b7, b8⟩ := phases_loop gFU 0 h1 M1 r1 a3 a4.1 (by omega) (by unfold gFU; omega)
  have V2 : VF h h2 G := a5.tr hs.1 b6 (fun _ y => Or.inl y)
  have g42 := nm4 b3.2.2.1
  obtain ⟨h3, M3, r3, K3, c1, c2, c3, c4, c5, c6⟩ := sendAll_loop gFU 0 h2 M2 r2 K1 b3 b5.1 (by omega) (by unfold gFU; omega) (fun q hq => hGn q (Nat.le_trans V2.1 hq))
  obtain ⟨h4, e4, s4, V4, m4, k4⟩ := c3.stepN (f := 6) (by omega) (by omega) (r3 5 + 1)
  have C4 : Co h3 h4 0 0 := Co.of (by rw [m4])
  have q4 : Mr M3 (ms M3 0 5 (r3 5 + 1)) (upd r3 5 (r3 5 + 1)) := by rw [← c4.1]; exact Mr.w
  refine ⟨h4, ms M3 0 5 (r3 5 + 1), upd r3 5 (r3 5 + 1), K3, ?_, ?_, s4, ((a4.tr b5).tr c4).tr q4, (V2.tr hs.1 c5 (fun _ y => Or.inl y)).tr hs.1 V4 (fun _ y => Or.inl y), (((a6.tr b7).tr c6).tr C4).le (by omega) (by omega)⟩
  · unfold Net_tick
    rw [v_is hs.cla, e_b a1]
    refine b1.trans ?_
    rw [v_is b3.cla, e_b (show Net_sendAll h2 a = some h3 from c1), v_gI c3.1 c3.cla rfl, c3.jT, e4]
  · unfold Mod_passTick
    rw [e_b a2, e_b (show Mod_moveCircuits M1 = some M2 from b2)]
    refine c2.trans ?_
    rw [e_r' (i := 5) (j := (5 : Int32)) rfl (by decide), c4.1, e_w' (i := 5) (j := (5 : Int32)) rfl (by decide)]
theorem ticks_loop (n : Nat) (hn : n < 1000000) : ∀ (m j : Nat) (h : g_AH) (M : g_MD) (r : tR) (K : Nat → Nat), RS h G a r N L C K → M.1 0 = r → j ≤ n → n - j < m → (∀ q, g_n h ≤ q → G q) → ∃ (h' : g_AH) (M' : g_MD) (r' : tR) (K' : Nat → Nat), Net_run_2 m h a (Int32.ofNat n) (Int32.ofNat j) = some h' ∧ Mod_passTicks_2 m M (Int32.ofNat n) (Int32.ofNat j) = some M' ∧ RS h' G a r' N L C K' ∧ Mr M M' r' ∧ VF h h' G ∧ Co h h' (16 * (n - j)) (832 * (n - j)) := by
  intro m
  induction m with
  | zero => intro j _ _ _ _ _ _ _ h; omega
  | succ m ih =>
    intro j h M r K hs hr hj hm hGn
    rw [Net_run_2, Mod_passTicks_2]
    by_cases e : n ≤ j
    · rw [if_pos ((i_le (by omega) (by omega)).mpr e), if_pos ((i_le (by omega) (by omega)).mpr e)]
      exact ⟨h, M, r, K, rfl, rfl, hs, by rw [← hr]; exact Mr.rf, VF.rf, Co.rf⟩
    · rw [if_neg (fun q => e ((i_le (by omega) (by omega)).mp q)), if_neg (fun q => e ((i_le (by omega) (by omega)).mp q))]
      obtain ⟨h1, M1, r1, K1, u1, u2, u3, u4, u5, u6⟩ := tick_both hs hr hGn
      obtain ⟨h', M', r', K', v1, v2, v3, v4, v5, v6⟩ := ih (j + 1) h1 M1 r1 K1 u3 u4.1 (by omega) (by omega) (fun q hq => hGn q (Nat.le_trans u5.1 hq))
      refine ⟨h', M', r', K', ?_, ?_, v3, u4.tr v4, u5.tr hs.1 v5 (fun _ y => Or.inl y), (u6.tr v6).le (by omega) (by omega)⟩
      · rw [v_is hs.cla, e_b u1, show Int32.ofNat j + (1 : Int32) = Int32.ofNat (j + 1) from i_add]; exact v1
      · rw [e_b u2, show Int32.ofNat j + (1 : Int32) = Int32.ofNat (j + 1) from i_add]; exact v2
/-- n ticks -/
theorem ticks_both (hs : RS h G a r N L C K) (hr : M.1 0 = r) (hn : n < 1000000) (hGn : ∀ q, g_n h ≤ q → G q) : ∃ (h' : g_AH) (M' : g_MD) (r' : tR) (K' : Nat → Nat), Net_run h a (Int32.ofNat n) = some h' ∧ Mod_passTicks M (Int32.ofNat n) = some M' ∧ RS h' G a r' N L C K' ∧ Mr M M' r' ∧ VF h h' G ∧ Co h h' (16 * n) (832 * n) :=
  ticks_loop n hn gFU 0 h M r K hs hr (by omega) (by unfold gFU; omega) hGn
end TICK
