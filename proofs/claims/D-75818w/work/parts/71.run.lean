/-! LEVEL 2: all packets move -/
section RUNP
variable {h h0 h' : g_AH} {G G' O : Nat → Prop} {a : Nat} {r r' : tR} {N L C K : Nat → Nat} {mC x k p c w n s l i0 i q W cp : Nat} {M : g_MD}
theorem pl_P {p f : Nat} (hp : p < 60) (hf : f = 1 ∨ f = 2 ∨ f = 6 ∨ f = 7) : pl (632 + 8 * p + f) := Or.inr (Or.inr (Or.inr ⟨p, f, rfl, hp, hf⟩))
theorem RS.stepP (hs : RS h G a r N L C K) (hp : p < nt r 6) (v : Int32) : ∃ h', (∀ {α : Type} (k : g_AH → Option α), g_pF h (K p) 14 7 (.int v) k = k h') ∧ RS h' G a (upd r (632 + 8 * p + 6) v) N L C K ∧ VF h h' G ∧ h'.2 = h.2 ∧ (∀ q, cl h' q = cl h q) := by
  have g6 := nm6 hs.2.2.1
  have hpl : pl (632 + 8 * p + 6) := pl_P (by omega) (by omega)
  have hag := upd_pl (r := r) (v := v) hpl
  have n4 : nt (upd r (632 + 8 * p + 6) v) 4 = nt r 4 := nt_eq (hag 4 (pl_low (by omega)))
  refine ⟨wJ h 14 7 (K p) v, fun k => v_pJ hs.1 (hs.clP hp) rfl, ⟨hs.1.pJ rfl, ?_, hs.2.2.plain hag⟩, VF.pJ hs.1 (hs.2.1.2.2.2.2.2.1 p hp).1.2, wV_meta, fun q => cl_wJ⟩
  rw [n4]
  exact (R6.jp hs.1 hs.2.1.six hs.2.2 (Nat.le_refl _) hp (f := 7) (by omega)).rn (hs.2.1.lab.plain hs.2.2 hag (fun f' q i x1 x2 => Ar_wJ rfl hs.1))
theorem run_both_loop : ∀ (m p : Nat) (h : g_AH) (M : g_MD) (r : tR) (K : Nat → Nat), RS h G a r N L C K → M.1 0 = r → p ≤ nt r 6 → nt r 6 - p < m → ∃ (h' : g_AH) (M' : g_MD) (r' : tR) (K' : Nat → Nat), Net_runPackets_2 m h a (Int32.ofNat p) = some h' ∧ Mod_movePackets_2 m M (Int32.ofNat p) = some M' ∧ RS h' G a r' N L C K' ∧ Mr M M' r' ∧ VF h h' G ∧ Co h h' 0 0 ∧ (∀ q, cl h' q = cl h q) ∧ PhE r r' := by
  intro m
  induction m with
  | zero => intro p _ _ _ _ _ _ _ h; omega
  | succ m ih =>
    intro p h M r K hs hr hp hm
    have hA := hs.2.2.1
    have g6 := nm6 hA
    obtain ⟨ha, hl, -, -, -, hKs⟩ := hs.2.1.lst
    rw [Net_runPackets_2, Mod_movePackets_2]
    rw [v_gR hs.1 ha rfl, hl 4 (by omega) (by omega), e_nn, v_is hKs.1, e_b (ls_size hs.1 hKs), e_r' (i := 6) (j := (6 : Int32)) rfl (by decide), hr, hA.1.2.2.2.1]
    by_cases hc : nt r 6 ≤ p
    · rw [if_pos ((i_le (by omega) (by omega)).mpr hc), if_pos ((i_le (by omega) (by omega)).mpr hc)]
      exact ⟨h, M, r, K, rfl, rfl, hs, by rw [← hr]; exact Mr.rf, VF.rf, Co.rf, fun _ => rfl, PhE.rf⟩
    · have hp6 : p < nt r 6 := by omega
      rw [if_neg (fun q => hc ((i_le (by omega) (by omega)).mp q)), if_neg (fun q => hc ((i_le (by omega) (by omega)).mp q))]
      have c6 : (632 : Int32) + (8 : Int32) * Int32.ofNat p + (6 : Int32) = Int32.ofNat (632 + 8 * p + 6) := by show (Int32.ofNat 632 + Int32.ofNat 8 * Int32.ofNat p) + Int32.ofNat 6 = _; rw [i_mul, i_add, i_add]
      rw [net_get hs.1 ha (by omega) (by omega) (hl 4 (by omega) (by omega)) hKs rfl hp6, v_ck (hs.clP hp6), e_nn, v_gI hs.1 (hs.clP hp6) rfl, hs.jP hp6 (f := 7) (by omega)]
      rw [e_r' c6 (by omega), e_w' c6 (by omega), hr]
      have q1 : Mr M (ms M 0 (632 + 8 * p + 6) (r (632 + 8 * p + 6) - 1)) (upd r (632 + 8 * p + 6) (r (632 + 8 * p + 6) - 1)) := by rw [← hr]; exact Mr.w
      generalize ms M 0 (632 + 8 * p + 6) (r (632 + 8 * p + 6) - 1) = M1 at q1 ⊢
      rw [e_r' c6 (by omega), q1.1, upd_eq]
      have P1 : PhE r (upd r (632 + 8 * p + 6) (r (632 + 8 * p + 6) - 1)) := phe_hi (fun j h1 h2 => upd_ne (by omega))
      obtain ⟨h1, e1, s1, V1, m1, l1⟩ := hs.stepP hp6 (r (632 + 8 * p + 6) - 1)
      have n6 : nt (upd r (632 + 8 * p + 6) (r (632 + 8 * p + 6) - 1)) 6 = nt r 6 := nt_eq (upd_ne (by omega))
      show ∃ h' M' r' K', (g_pF h (K p) 14 7 (.int (r (632 + 8 * p + 6) - 1)) _) = some h' ∧ _
      rw [e1, v_gI s1.1 (s1.clP (by rw [n6]; exact hp6)) rfl, s1.jP (p := p) (by rw [n6]; exact hp6) (by omega)]
      rw [show upd r (632 + 8 * p + 6) (r (632 + 8 * p + 6) - 1) (632 + 8 * p + pf 7) = r (632 + 8 * p + 6) - 1 from upd_eq]
      unfold Mod_movePackets_53 Mod_movePackets_58 Net_runPackets_50 Net_runPackets_68
      have goon : ∀ (h2 : g_AH) (M2 : g_MD) (r2 : tR), RS h2 G a r2 N L C K → M2.1 0 = r2 → nt r2 6 = nt r 6 → VF h h2 G → Co h h2 0 0 → (∀ q, cl h2 q = cl h q) → Mr M M2 r2 → PhE r r2 → ∃ (h' : g_AH) (M' : g_MD) (r' : tR) (K' : Nat → Nat), Net_runPackets_2 m h2 a (Int32.ofNat p + 1) = some h' ∧ Mod_movePackets_2 m M2 (Int32.ofNat p + 1) = some M' ∧ RS h' G a r' N L C K' ∧ Mr M M' r' ∧ VF h h' G ∧ Co h h' 0 0 ∧ (∀ q, cl h' q = cl h q) ∧ PhE r r' := by
        intro h2 M2 r2 s2 e2 n2 V2 C2 l2 q2 P2
        rw [show Int32.ofNat p + (1 : Int32) = Int32.ofNat (p + 1) from i_add]
        obtain ⟨h', M', r', K', x1, x2, x3, x4, x5, x6, x7, x8⟩ := ih (p + 1) h2 M2 r2 K s2 e2 (by omega) (by omega)
        exact ⟨h', M', r', K', x1, x2, x3, q2.tr x4, V2.tr hs.1 x5 (fun _ z => Or.inl z), (C2.tr x6), fun q => (x7 q).trans (l2 q), P2.tr x8⟩
      by_cases hpos : 0 < r (632 + 8 * p + 6) - 1
      · rw [if_pos hpos, if_pos hpos]
        exact goon h1 M1 _ s1 q1.1 n6 V1 (Co.of (by rw [m1])) l1 q1 P1
      · rw [if_neg hpos, if_neg hpos]
        obtain ⟨b, h2, M2, r2, y1, y2, y3, y4, y5, y6, y7, y8, y9⟩ := arrive_both s1 q1.1 (by rw [n6]; exact hp6)
        have V12 := V1.tr hs.1 y6 (fun _ z => Or.inl z)
        rw [v_is s1.cla, e_b2 y1, e_bM y2]
        cases b with
        | true =>
          rw [if_pos rfl] at y5
          rw [if_neg (by decide), if_neg (by decide)]
          exact goon h2 M2 r2 y3 y5.1 (y4.trans n6) V12 (Co.of (by rw [y7, m1])) (fun q => (y8 q).trans (l1 q)) (q1.tr y5) (P1.tr y9)
        | false =>
          rw [if_neg (by decide)] at y5
          rw [if_pos (by rfl), if_pos (by rfl)]
          have hp2 : p < nt r2 6 := by rw [y4, n6]; exact hp6
          obtain ⟨h3, z1, z2, z3, z4, z5, z6⟩ := c_rem y3.1 y3.2.1 y3.2.2 (Nat.le_refl _) hp2
          obtain ⟨ha2, hl2, -, -, -, hK2⟩ := y3.2.1.lst
          have g62 := nm6 y3.2.2.1
          have n4 : nt (rrem r2 p) 4 = nt r2 4 := nt_eq (rrem_lo (by omega) (by omega))
          have s3 : RS h3 G a (rrem r2 p) N L C (fun j => if j < p then K j else K (j + 1)) := ⟨z2, by rw [n4]; exact z3, y3.2.2.rem hp2⟩
          have n63 := rrem_n6 (r := r2) (p := p) g62
          rw [v_gR y3.1 ha2 rfl, hl2 4 (by omega) (by omega), e_nn, v_is hK2.1, e_b2 z1, v_ck (by rw [z6]; exact y3.clP hp2)]
          rw [show Int32.ofNat p + (0 : Int32) = Int32.ofNat p from Int32.add_zero _]
          obtain ⟨h', M', r', K', x1, x2, x3, x4, x5, x6, x7, x8⟩ := ih p h3 M2 (rrem r2 p) _ s3 y5.1 (by omega) (by omega)
          exact ⟨h', M', r', K', x1, x2, x3, (q1.tr y5).tr x4, (V12.tr hs.1 z4 (fun _ z => Or.inl z)).tr hs.1 x5 (fun _ z => Or.inl z), ((Co.of (a := 0) (b := 0) (by rw [y7, m1])).tr z5).tr x6, fun q => (x7 q).trans ((z6 q).trans ((y8 q).trans (l1 q))), ((P1.tr y9).tr (phe_hi (fun j h1 h2 => rrem_lo (by omega) (by omega)))).tr x8⟩
theorem run_both (hs : RS h G a r N L C K) (hr : M.1 0 = r) : ∃ (h' : g_AH) (M' : g_MD) (r' : tR) (K' : Nat → Nat), Net_runPackets h a = some h' ∧ Mod_movePackets M = some M' ∧ RS h' G a r' N L C K' ∧ Mr M M' r' ∧ VF h h' G ∧ Co h h' 0 0 ∧ (∀ q, cl h' q = cl h q) ∧ PhE r r' := by
  have g6 := nm6 hs.2.2.1
  exact run_both_loop gFU 0 h M r K hs hr (by omega) (by unfold gFU; omega)
end RUNP
