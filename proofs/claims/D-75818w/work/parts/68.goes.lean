/-! LEVEL 2: packets go on -/
theorem upd_id {f : Nat → Int32} {a : Nat} {x : Int32} (h : f a = x) : upd f a x = f := by subst h; exact upd_self
def rgo (r : tR) (p q i : Nat) : tR := upd (upd (upd (upd (upd r (632 + 8 * p + 2) (Int32.ofNat (lk r (r (q + 1 + (i - 1))) (r (q + 1 + i))))) (632 + 8 * p + 3) (r (q + 1 + i))) (632 + 8 * p + 4) (r (q + 7 + i))) (632 + 8 * p + 5) (r (q + 13 + i))) (632 + 8 * p + 6) (r (24 + 5 * lk r (r (q + 1 + (i - 1))) (r (q + 1 + i)) + 3))
section GOES
variable {h h0 h' : g_AH} {G G' O : Nat → Prop} {a : Nat} {r r' : tR} {N L C K : Nat → Nat} {mC x k p c w n s l i0 i q W cp : Nat} {M : g_MD}
theorem t_deliverPacket (hI : Inv4 (M.1 0)) (hp : p < nt (M.1 0) 6) (hc : M.1 0 (632 + 8 * p) = Int32.ofNat c) (hc8 : c < 8) : ∃ M', Mod_deliverPacket M (Int32.ofNat p) = some M' ∧ Mr M M' (rrem (rdl (M.1 0) c p) p) := by
  have g6 := nm6 hI.1
  have op : ∀ (M1 : g_MD) (f : Nat), f < 8 → ∀ v, M1.1 0 (632 + 8 * p + f) = v → Mod_ofPacket M1 (Int32.ofNat p) (Int32.ofNat f) = some v := fun M1 f hf v hv => by rw [t_ofPacket (by omega) hf, hv]
  have e1 : ∀ K1 : g_MD → Option g_MD, g_mS M 0 0 (8 : Int32) (M.1 0 8 + 1) K1 = K1 (ms M 0 8 (M.1 0 8 + 1)) := fun K1 => e_w' (i := 8) rfl (by decide)
  have q1 : Mr M (ms M 0 8 (M.1 0 8 + 1)) (upd (M.1 0) 8 (M.1 0 8 + 1)) := Mr.w
  generalize ms M 0 8 (M.1 0 8 + 1) = M1 at e1 q1
  obtain ⟨M2, e2, q2⟩ := t_grow (M := M1) (c := c) (f := 7) (v := 1) hc8 (by omega)
  rw [q1.1, upd_ne (show 104 + 66 * c + 7 ≠ 8 by omega)] at q2
  obtain ⟨M3, e3, q3⟩ := t_grow (M := M2) (c := c) (f := 11) (v := M.1 0 5 + 1 - M.1 0 (632 + 8 * p + 7)) hc8 (by omega)
  rw [q2.1, upd_ne (show 104 + 66 * c + 11 ≠ 104 + 66 * c + 7 by omega), upd_ne (show 104 + 66 * c + 11 ≠ 8 by omega)] at q3
  have q13 := (q1.tr q2).tr q3
  have rd10 : M3.1 0 (104 + 66 * c + 10) = M.1 0 (104 + 66 * c + 10) := by rw [q13.1, upd_ne (by omega), upd_ne (by omega), upd_ne (by omega)]
  have tail : ∀ (M4 : g_MD) (b : Int32), b = (if M.1 0 (104 + 66 * c + 10) ≤ M.1 0 (632 + 8 * p + 1) then 0 else 1) → Mr M M4 (upd (upd (upd (upd (upd (M.1 0) (104 + 66 * c + 7) (M.1 0 (104 + 66 * c + 7) + 1)) 8 (M.1 0 8 + 1)) (104 + 66 * c + 11) (M.1 0 (104 + 66 * c + 11) + (M.1 0 5 + 1 - M.1 0 (632 + 8 * p + 7)))) (104 + 66 * c + 9) (M.1 0 (104 + 66 * c + 9) + b)) 11 (M.1 0 11 + b)) →
      ∃ M', Mod_deliverPacket_86 M4 (Int32.ofNat p) (Int32.ofNat c) (M.1 0 (632 + 8 * p + 1)) = some M' ∧ Mr M M' (rrem (rdl (M.1 0) c p) p) := by
    intro M4 b hb q4
    have r10 : M4.1 0 (104 + 66 * c + 10) = M.1 0 (104 + 66 * c + 10) := by rw [q4.1, upd_ne (by omega), upd_ne (by omega), upd_ne (by omega), upd_ne (by omega), upd_ne (by omega)]
    obtain ⟨M5, e5, q5⟩ := t_put (M := M4) (c := c) (f := 10) (v := if M.1 0 (632 + 8 * p + 1) < M.1 0 (104 + 66 * c + 10) then M.1 0 (104 + 66 * c + 10) else M.1 0 (632 + 8 * p + 1)) hc8 (by omega)
    have hmax : (if M.1 0 (632 + 8 * p + 1) < M.1 0 (104 + 66 * c + 10) then M.1 0 (104 + 66 * c + 10) else M.1 0 (632 + 8 * p + 1)) = (if M.1 0 (104 + 66 * c + 10) < M.1 0 (632 + 8 * p + 1) then M.1 0 (632 + 8 * p + 1) else M.1 0 (104 + 66 * c + 10)) := by
      by_cases z1 : M.1 0 (632 + 8 * p + 1) < M.1 0 (104 + 66 * c + 10)
      · rw [if_pos z1, if_neg (fun z2 => by rw [Int32.lt_iff_toInt_lt] at z1 z2; omega)]
      · by_cases z2 : M.1 0 (104 + 66 * c + 10) < M.1 0 (632 + 8 * p + 1)
        · rw [if_neg z1, if_pos z2]
        · rw [if_neg z1, if_neg z2]
          apply Int32.toInt_inj.mp
          rw [Int32.lt_iff_toInt_lt] at z1 z2
          omega
    have q45 : Mr M M5 (rdl (M.1 0) c p) := (q4.tr q5).eq (by rw [q4.1, hmax, hb]; rfl)
    have hI5 : Inv4 (M5.1 0) := by rw [q45.1]; exact hI.plain (rdl_pl hc8)
    have n6 : nt (M5.1 0) 6 = nt (M.1 0) 6 := by rw [q45.1]; exact nt_eq (rdl_pl hc8 6 (pl_low (by omega)))
    obtain ⟨M6, e6, q6⟩ := t_removePacket (M := M5) (p := p) hI5.1 (by rw [n6]; exact hp)
    rw [q45.1] at q6
    refine ⟨M6, ?_, q45.tr q6⟩
    unfold Mod_deliverPacket_86
    rw [e_b (show Mod_of M4 (Int32.ofNat c) (10 : Int32) = some (M.1 0 (104 + 66 * c + 10)) by rw [← r10]; exact t_of (c := c) (f := 10) hc8 (by omega))]
    rw [e_b (show Mod_put M4 (Int32.ofNat c) (10 : Int32) _ = some M5 from e5), e_b e6]
  have swap1 : upd (upd (M.1 0) 8 (M.1 0 8 + 1)) (104 + 66 * c + 7) (M.1 0 (104 + 66 * c + 7) + 1) = upd (upd (M.1 0) (104 + 66 * c + 7) (M.1 0 (104 + 66 * c + 7) + 1)) 8 (M.1 0 8 + 1) := upd_comm (by omega)
  unfold Mod_deliverPacket
  rw [e_b (show Mod_ofPacket M (Int32.ofNat p) (0 : Int32) = some (Int32.ofNat c) from op M 0 (by omega) _ hc), e_b (show Mod_ofPacket M (Int32.ofNat p) (1 : Int32) = some _ from op M 1 (by omega) _ rfl)]
  rw [e_r' (i := 8) (j := (8 : Int32)) rfl (by decide), e1, e_b (show Mod_grow M1 (Int32.ofNat c) (7 : Int32) 1 = some M2 from e2), e_r' (i := 5) (j := (5 : Int32)) rfl (by decide)]
  have q12 := q1.tr q2
  have r5 : M2.1 0 5 = M.1 0 5 := by rw [q12.1, upd_ne (by omega), upd_ne (by omega)]
  rw [r5, e_b (show Mod_ofPacket M2 (Int32.ofNat p) (7 : Int32) = some (M.1 0 (632 + 8 * p + 7)) from op M2 7 (by omega) _ (by rw [q12.1, upd_ne (by omega), upd_ne (by omega)]))]
  rw [e_b (show Mod_grow M2 (Int32.ofNat c) (11 : Int32) _ = some M3 from e3)]
  rw [e_b (show Mod_of M3 (Int32.ofNat c) (10 : Int32) = some (M.1 0 (104 + 66 * c + 10)) by rw [← rd10]; exact t_of (c := c) (f := 10) hc8 (by omega))]
  by_cases hle : M.1 0 (104 + 66 * c + 10) ≤ M.1 0 (632 + 8 * p + 1)
  · rw [if_pos hle]
    refine tail M3 0 (by rw [if_pos hle]) (q13.eq ?_)
    rw [swap1, Int32.add_zero, Int32.add_zero]
    rw [upd_id (a := 104 + 66 * c + 9), upd_id (a := 11)]
    · rw [upd_ne (by omega), upd_ne (by omega), upd_ne (by omega)]
    · rw [upd_ne (by omega), upd_ne (by omega), upd_ne (by omega)]
  · rw [if_neg hle]
    have r11 : M3.1 0 11 = M.1 0 11 := by rw [q13.1, upd_ne (by omega), upd_ne (by omega), upd_ne (by omega)]
    rw [e_r' (i := 11) (j := (11 : Int32)) rfl (by decide), r11, e_w' (i := 11) (j := (11 : Int32)) rfl (by decide)]
    have q4 : Mr M3 (ms M3 0 11 (M.1 0 11 + 1)) (upd (M3.1 0) 11 (M.1 0 11 + 1)) := Mr.w
    obtain ⟨M5, e5, q5⟩ := t_grow (M := ms M3 0 11 (M.1 0 11 + 1)) (c := c) (f := 9) (v := 1) hc8 (by omega)
    rw [e_b (show Mod_grow (ms M3 0 11 (M.1 0 11 + 1)) (Int32.ofNat c) (9 : Int32) 1 = some M5 from e5)]
    refine tail M5 1 (by rw [if_neg hle]) (((q13.tr q4).tr q5).eq ?_)
    rw [q4.1, q13.1, swap1]
    rw [upd_ne (show 104 + 66 * c + 9 ≠ 11 by omega), upd_ne (show 104 + 66 * c + 9 ≠ 104 + 66 * c + 11 by omega), upd_ne (show 104 + 66 * c + 9 ≠ 8 by omega), upd_ne (show 104 + 66 * c + 9 ≠ 104 + 66 * c + 7 by omega)]
    exact upd_comm (by omega)
theorem t_setOut (hA : InvA (M.1 0)) (hp : p < 60) (hq : q + 25 ≤ 632) (h104 : 104 ≤ q) (hi0 : 0 < i) (hi6 : i < 6) (hlt : lk (M.1 0) (M.1 0 (q + 1 + (i - 1))) (M.1 0 (q + 1 + i)) < nt (M.1 0) 3) : ∃ M', Mod_setOut M (Int32.ofNat p) (Int32.ofNat q) (Int32.ofNat i) = some M' ∧ Mr M M' (rgo (M.1 0) p q i) := by
  have h3 := nm3 hA
  have c1 : ∀ f, f < 8 → (632 : Int32) + (8 : Int32) * Int32.ofNat p + Int32.ofNat f = Int32.ofNat (632 + 8 * p + f) := fun f _ => by show (Int32.ofNat 632 + Int32.ofNat 8 * Int32.ofNat p) + Int32.ofNat f = _; rw [i_mul, i_add, i_add]
  have c2 : ∀ f, Int32.ofNat q + Int32.ofNat f + Int32.ofNat i = Int32.ofNat (q + f + i) := fun f => by rw [i_add, i_add]
  have c12 : (632 : Int32) + (8 : Int32) * Int32.ofNat p + (2 : Int32) = Int32.ofNat (632 + 8 * p + 2) := c1 2 (by omega)
  have c13 : (632 : Int32) + (8 : Int32) * Int32.ofNat p + (3 : Int32) = Int32.ofNat (632 + 8 * p + 3) := c1 3 (by omega)
  have c14 : (632 : Int32) + (8 : Int32) * Int32.ofNat p + (4 : Int32) = Int32.ofNat (632 + 8 * p + 4) := c1 4 (by omega)
  have c15 : (632 : Int32) + (8 : Int32) * Int32.ofNat p + (5 : Int32) = Int32.ofNat (632 + 8 * p + 5) := c1 5 (by omega)
  have c16 : (632 : Int32) + (8 : Int32) * Int32.ofNat p + (6 : Int32) = Int32.ofNat (632 + 8 * p + 6) := c1 6 (by omega)
  have c21 : Int32.ofNat q + (1 : Int32) + Int32.ofNat i = Int32.ofNat (q + 1 + i) := c2 1
  have c27 : Int32.ofNat q + (7 : Int32) + Int32.ofNat i = Int32.ofNat (q + 7 + i) := c2 7
  have c213 : Int32.ofNat q + (13 : Int32) + Int32.ofNat i = Int32.ofNat (q + 13 + i) := c2 13
  unfold Mod_setOut
  rw [e_r' (i := q + 1 + (i - 1)) (by show (Int32.ofNat q + Int32.ofNat 1 + Int32.ofNat i) - Int32.ofNat 1 = _; rw [i_add, i_add, i_sub (by omega)]; congr 1; omega) (by omega), e_r' c21 (by omega), e_b (t_linkOf hA), ixI_lt hlt]
  rw [e_w' c12 (by omega)]
  have q1 : Mr M (ms M 0 (632 + 8 * p + 2) (Int32.ofNat (lk (M.1 0) (M.1 0 (q + 1 + (i - 1))) (M.1 0 (q + 1 + i))))) _ := Mr.w
  generalize ms M 0 (632 + 8 * p + 2) (Int32.ofNat (lk (M.1 0) (M.1 0 (q + 1 + (i - 1))) (M.1 0 (q + 1 + i)))) = M1 at q1 ⊢
  rw [e_r' c21 (by omega), e_w' c13 (by omega)]
  have v1 : M1.1 0 (q + 1 + i) = M.1 0 (q + 1 + i) := by rw [q1.1, upd_ne (by omega)]
  rw [v1]
  have q2 : Mr M1 (ms M1 0 (632 + 8 * p + 3) (M.1 0 (q + 1 + i))) _ := Mr.w
  have q12 := q1.tr q2
  generalize ms M1 0 (632 + 8 * p + 3) (M.1 0 (q + 1 + i)) = M2 at q2 q12 ⊢
  rw [e_r' c27 (by omega), e_w' c14 (by omega)]
  have v2 : M2.1 0 (q + 7 + i) = M.1 0 (q + 7 + i) := by rw [q12.1, upd_ne (by omega), q1.1, upd_ne (by omega)]
  rw [v2]
  have q3 : Mr M2 (ms M2 0 (632 + 8 * p + 4) (M.1 0 (q + 7 + i))) _ := Mr.w
  have q13 := q12.tr q3
  generalize ms M2 0 (632 + 8 * p + 4) (M.1 0 (q + 7 + i)) = M3 at q3 q13 ⊢
  rw [e_r' c213 (by omega), e_w' c15 (by omega)]
  have v3 : M3.1 0 (q + 13 + i) = M.1 0 (q + 13 + i) := by rw [q13.1, upd_ne (by omega), q12.1, upd_ne (by omega), q1.1, upd_ne (by omega)]
  rw [v3]
  have q4 : Mr M3 (ms M3 0 (632 + 8 * p + 5) (M.1 0 (q + 13 + i))) _ := Mr.w
  have q14 := q13.tr q4
  generalize ms M3 0 (632 + 8 * p + 5) (M.1 0 (q + 13 + i)) = M4 at q4 q14 ⊢
  rw [e_b (show Mod_ofLink M4 (Int32.ofNat (lk (M.1 0) (M.1 0 (q + 1 + (i - 1))) (M.1 0 (q + 1 + i)))) (3 : Int32) = _ from t_ofLink (M := M4) (f := 3) (by omega) (by omega)), e_w' c16 (by omega)]
  have v4 : M4.1 0 (24 + 5 * lk (M.1 0) (M.1 0 (q + 1 + (i - 1))) (M.1 0 (q + 1 + i)) + 3) = M.1 0 (24 + 5 * lk (M.1 0) (M.1 0 (q + 1 + (i - 1))) (M.1 0 (q + 1 + i)) + 3) := by rw [q14.1, upd_ne (by omega), q13.1, upd_ne (by omega), q12.1, upd_ne (by omega), q1.1, upd_ne (by omega)]
  rw [v4]
  refine ⟨_, rfl, (q14.tr Mr.w).eq ?_⟩
  rw [q14.1, q13.1, q12.1, q1.1]
  rfl
/-- one packet's object has changed, in the list (at p) or not yet in it -/
theorem R6.pktx (hR : R6 h G a r N L C K mC) (hA : InvA r) (hm : mC ≤ 8) (hx : ∀ q, q < nt r 6 → q ≠ p → K q ≠ x) (hlen : ∀ c w, c < mC → w < 2 → nt r (wp c w) ≤ 6) (ecl : ∀ q k, cl h q = some k → cl h' q = some k) (eJ : ∀ ci f q, ¬ (ci = 14 ∧ q = x) → J h' ci f q = J h ci f q) (eR : ∀ ci f q, Rf h' ci f q = Rf h ci f q) (eL : ∀ ci f q, AL h' ci f q = AL h ci f q) (eA : ∀ ci f q i, RA h' ci f q i = RA h ci f q i) (eI : ∀ ci f q i, Ar h' ci f q i = Ar h ci f q i)
    (hag : ∀ j, j < 632 + 8 * p ∨ 632 + 8 * p + 8 ≤ j → r' j = r j) (hP' : p < nt r 6 → PktR h' G r' (K p) p) : R6 h' G a r' N L C K mC := by
  obtain ⟨p1, p2, p3, p4, ⟨p5, p7⟩, p6⟩ := hR
  have g2 := nm2 hA
  have g3 := nm3 hA
  have g6 := nm6 hA
  have n2 := nt_eq (hag 2 (by omega)); have n3 := nt_eq (hag 3 (by omega)); have n6 := nt_eq (hag 6 (by omega))
  refine ⟨p1.heap ecl (fun f => eJ _ _ _ (by simp)) (fun f => eL _ _ _) (fun f i => eA _ _ _ _) (fun i => eI _ _ _ _) (fun j hj => hag j (by omega)), p2.heap ecl (fun f => eR _ _ _) (fun f q => eJ _ _ _ (by simp)) (fun f q => eL _ _ _) (fun f q i => eA _ _ _ _) (hag 2 (by omega)) (hag 3 (by omega)) (hag 6 (by omega)), fun k hk => ?_, fun k hk => ?_, ⟨fun c' hc' => ?_, fun c c' w w' q x1 x2 x3 x4 x5 x6 => ?_⟩, fun p' hp' => ?_⟩
  · rw [n2] at hk
    exact (p3 k hk).heap ecl (fun f q => eJ _ _ _ (by simp)) (fun f q => eL _ _ _) (hag _ (by omega))
  · rw [n3] at hk
    exact (p4 k hk).heap ecl (fun f _ => eJ _ _ _ (by simp)) (fun f _ => hag _ (by omega))
  · exact (p5 c' hc').heap ecl (fun f => eJ _ _ _ (by simp)) (fun f => eR _ _ _) (fun f q => eJ _ _ _ (by simp)) (fun f q => eL _ _ _) (fun w q hw x1 f i hf => eI _ _ _ _) (fun f hf => hag _ (by omega)) (fun w hw => hlen c' w hc' hw)
  · rw [eR] at x5 x6
    exact p7 c c' w w' q x1 x2 x3 x4 x5 x6
  · rw [n6] at hp'
    by_cases e : p' = p
    · subst e; exact hP' hp'
    · exact (p6 p' hp').heap ecl (fun f => eJ _ _ _ (fun z => hx p' hp' e z.2)) (fun f hf => hag _ (by omega))
/-- the row of a packet has changed alone: what rests on ways and circuits stays -/
theorem Inv4.pk (hI : Inv4 r) (hag : ∀ j, j < 632 + 8 * p ∨ 632 + 8 * p + 8 ≤ j → r' j = r j) (hP : p < nt r 6 → nm r' (632 + 8 * p) (nt r 4) ∧ nm r' (632 + 8 * p + 4) (nt r 2) ∧ nm r' (632 + 8 * p + 5) (nt r (14 + nt r' (632 + 8 * p + 4))) ∧ r' (632 + 8 * p + 3) ≠ -1) : Inv4 r' := by
  obtain ⟨hA, hW, hC, hP0, hB⟩ := hI
  have g4 := nm4 hA
  have g2 := nm2 hA
  have lo : ∀ j, j < 632 → r' j = r j := fun j hj => hag j (by omega)
  have n4 := nt_eq (lo 4 (by omega)); have n6 := nt_eq (lo 6 (by omega)); have n2 := nt_eq (lo 2 (by omega))
  refine ⟨hA.row (fun j hj => lo j (by omega)) ((nm_same (lo 4 (by omega))).mpr hA.1.2.2.1) ((nm_same (lo 6 (by omega))).mpr hA.1.2.2.2), fun c w hc hw => ?_, fun c hc => ?_, fun q hq => ?_, fun c hc => by rw [n4] at hc; exact (nm_same (lo (104 + 66 * c + 5) (by omega))).mpr (hB c hc)⟩
  · rw [n4] at hc
    exact (hW c w hc hw).row hA (fun j hj => lo j (by omega)) (fun j h1 h2 => lo j (by unfold wp at *; omega))
  · rw [n4] at hc
    have e2 := lo (104 + 66 * c + 2) (by omega)
    have e3 := lo (104 + 66 * c + 3) (by omega)
    obtain ⟨⟨c1, c2⟩, c3, c4, c5, c6, c7, c8, c9⟩ := hC c hc
    unfold ICc
    rw [nt_eq e2, nt_eq e3, nt_eq (lo (wp c 0) (by unfold wp; omega)), nt_eq (lo (wp c 1) (by unfold wp; omega))]
    refine ⟨⟨(nm_same e2).mpr c1, (nm_same e3).mpr c2⟩, c3, c4, c5, c6, c7, c8, fun w i hw hi0 hi => ?_⟩
    have hwl := (hW c w hc hw).1.2
    rw [nt_eq (lo (wp c w) (by unfold wp; omega))] at hi
    rw [lo _ (by unfold wp; omega)]
    exact c9 w i hw hi0 hi
  · rw [n6] at hq
    rw [n4, n2]
    by_cases e : q = p
    · subst e
      obtain ⟨x1, x2, x3, x4⟩ := hP hq
      refine ⟨x1, x2, ?_, x4⟩
      rw [nt_eq (lo (14 + nt r' (632 + 8 * q + 4)) (by have := x2.2; omega))]; exact x3
    · obtain ⟨x1, x2, x3, x4⟩ := hP0 q hq
      have e3 : r' (632 + 8 * q + 3) = r (632 + 8 * q + 3) := hag _ (by omega)
      have e0 : r' (632 + 8 * q) = r (632 + 8 * q) := hag _ (by omega)
      have e4 : r' (632 + 8 * q + 4) = r (632 + 8 * q + 4) := hag _ (by omega)
      have e5 : r' (632 + 8 * q + 5) = r (632 + 8 * q + 5) := hag _ (by omega)
      refine ⟨(nm_same e0).mpr x1, (nm_same e4).mpr x2, ?_, by rw [e3]; exact x4⟩
      rw [nt_eq e4, nt_eq (lo (14 + nt r (632 + 8 * q + 4)) (by have := x2.2; omega))]
      exact (nm_same e5).mpr x3
end GOES
