/-! LEVEL 2: the twin's appendToWay -/
/-- the first node of a way at p -/
def set0 (r : tR) (p u : Nat) (m : Int32) : tR := fun j => if j = p then 1 else if j = p + 1 then Int32.ofNat u else if j = p + 7 then -1 else if j = p + 13 then -1 else if j = p + 19 then m else r j
section APP
variable {r : tR} {k p c w n s l u i : Nat} {M : g_MD} {m : Int32}
theorem e_wr {j : Nat} {x : Int32} {ix : Int32} {α : Type} {K1 : g_MD → Option α} (e : ix = Int32.ofNat j) (hj : j < 1112) : g_mS M 0 0 ix x K1 = K1 (ms M 0 j x) := e_w' e hj
theorem upd_ne {f : Nat → Int32} {a b : Nat} {x : Int32} (h : b ≠ a) : upd f a x b = f b := by unfold upd; rw [if_neg h]
theorem upd_eq {f : Nat → Int32} {a : Nat} {x : Int32} : upd f a x a = x := by unfold upd; rw [if_pos rfl]
theorem t_app97 (hp0 : 104 ≤ p) (hp : p + 25 ≤ 1112) (hi6 : i < 6) (h0 : M.1 0 p = Int32.ofNat i) {su sl : Int32} : ∃ M', Mod_appendToWay_97 M (Int32.ofNat u) m (Int32.ofNat p) (Int32.ofNat i) su sl = some (1, M') ∧
    Mr M M' (fun j => if j = p then Int32.ofNat (i + 1) else if j = p + 1 + i then Int32.ofNat u else if j = p + 7 + i then su else if j = p + 13 + i then sl else if j = p + 19 + i then m else M.1 0 j) := by
  unfold Mod_appendToWay_97
  rw [e_wr (j := p + 1 + i) (by show Int32.ofNat p + Int32.ofNat 1 + Int32.ofNat i = _; rw [i_add, i_add]) (by omega)]
  rw [e_wr (j := p + 7 + i) (by show Int32.ofNat p + Int32.ofNat 7 + Int32.ofNat i = _; rw [i_add, i_add]) (by omega)]
  rw [e_wr (j := p + 13 + i) (by show Int32.ofNat p + Int32.ofNat 13 + Int32.ofNat i = _; rw [i_add, i_add]) (by omega)]
  rw [e_wr (j := p + 19 + i) (by show Int32.ofNat p + Int32.ofNat 19 + Int32.ofNat i = _; rw [i_add, i_add]) (by omega)]
  rw [e_r (by omega)]
  have m1 := Mr.w (M := M) (i := p + 1 + i) (x := Int32.ofNat u)
  have m2 := Mr.w (M := ms M 0 (p + 1 + i) (Int32.ofNat u)) (i := p + 7 + i) (x := su)
  have m3 := Mr.w (M := ms (ms M 0 (p + 1 + i) (Int32.ofNat u)) 0 (p + 7 + i) su) (i := p + 13 + i) (x := sl)
  have m4 := Mr.w (M := ms (ms (ms M 0 (p + 1 + i) (Int32.ofNat u)) 0 (p + 7 + i) su) 0 (p + 13 + i) sl) (i := p + 19 + i) (x := m)
  have e0 : (ms (ms (ms (ms M 0 (p + 1 + i) (Int32.ofNat u)) 0 (p + 7 + i) su) 0 (p + 13 + i) sl) 0 (p + 19 + i) m).1 0 p = Int32.ofNat i := by
    rw [m4.1, upd_ne (by omega), m3.1, upd_ne (by omega), m2.1, upd_ne (by omega), m1.1, upd_ne (by omega), h0]
  rw [e0, show Int32.ofNat i + (1 : Int32) = Int32.ofNat (i + 1) from i_add, e_w (by omega)]
  have m5 := Mr.w (M := ms (ms (ms (ms M 0 (p + 1 + i) (Int32.ofNat u)) 0 (p + 7 + i) su) 0 (p + 13 + i) sl) 0 (p + 19 + i) m) (i := p) (x := Int32.ofNat (i + 1))
  refine ⟨_, rfl, ((((m1.tr m2).tr m3).tr m4).tr m5).eq ?_⟩
  rw [m4.1, m3.1, m2.1, m1.1]
  funext j
  unfold upd
  by_cases a1 : j = p
  · rw [if_pos a1, if_pos a1]
  · rw [if_neg a1, if_neg a1]
    by_cases a2 : j = p + 1 + i
    · rw [if_neg (show ¬ j = p + 19 + i by omega), if_neg (show ¬ j = p + 13 + i by omega), if_neg (show ¬ j = p + 7 + i by omega), if_pos a2, if_pos a2]
    · by_cases a3 : j = p + 7 + i
      · rw [if_neg (show ¬ j = p + 19 + i by omega), if_neg (show ¬ j = p + 13 + i by omega), if_pos a3, if_neg a2, if_pos a3]
      · by_cases a4 : j = p + 13 + i
        · rw [if_neg (show ¬ j = p + 19 + i by omega), if_pos a4, if_neg a2, if_neg a3, if_pos a4]
        · by_cases a5 : j = p + 19 + i
          · rw [if_pos a5, if_neg a2, if_neg a3, if_neg a4, if_pos a5]
          · rw [if_neg a5, if_neg a4, if_neg a3, if_neg a2, if_neg a2, if_neg a3, if_neg a4, if_neg a5]
theorem t_append0 (hc : c < 8) (hw : w < 2) (h0 : M.1 0 (wp c w) = 0) : ∃ M', Mod_appendToWay M (Int32.ofNat c) (Int32.ofNat w) (Int32.ofNat u) m = some (1, M') ∧ Mr M M' (set0 (M.1 0) (wp c w) u m) := by
  have hp : wp c w + 25 ≤ 1112 := by unfold wp; omega
  unfold Mod_appendToWay
  rw [e_b t_wayPlace, e_r (by omega), h0, if_pos (by decide)]
  obtain ⟨M', e1, e2⟩ := t_app97 (M := M) (p := wp c w) (i := 0) (u := u) (m := m) (su := -1) (sl := -1) (by unfold wp; omega) hp (by omega) h0
  exact ⟨M', e1, e2.eq rfl⟩
theorem Mr.inv {M' : g_MD} {r' : tR} (x : Mr M M' r') (h : M.1 0 = r') : Mq M M' := ⟨by
  funext k
  by_cases e : k = 0
  · subst e; rw [x.1, h]
  · exact x.2.1 k e, x.2.2.1, x.2.2.2.1⟩
theorem t_append (hA : InvA (M.1 0)) (hI : InvW (M.1 0)) (hc : c < 8) (hw : w < 2) (hix : M.1 0 (wp c w) = Int32.ofNat i) (hi0 : 0 < i) (hi6 : i < 6) (hu : u < nt (M.1 0) 2) :
    match spF (M.1 0) u with
    | none => ∃ M', Mod_appendToWay M (Int32.ofNat c) (Int32.ofNat w) (Int32.ofNat u) m = some (0, M') ∧ Mq M M'
    | some s => ∃ M', Mod_appendToWay M (Int32.ofNat c) (Int32.ofNat w) (Int32.ofNat u) m = some (1, M') ∧ Mr M M' (setL (M.1 0) (wp c w) i u s (lbF (M.1 0) u s) m) := by
  have hp : wp c w + 25 ≤ 1112 := by unfold wp; omega
  have g2 := nm2 hA
  have gu := (nm_sp hA hu).2
  have head : Mod_appendToWay M (Int32.ofNat c) (Int32.ofNat w) (Int32.ofNat u) m = g_bM (Mod_lowestFree M (Int32.ofNat u)) fun x20 M21 => if x20 = (-1 : Int32) then (g_b (Mod_countLabels M21 (Int32.ofNat u) (1 : Int32)) fun x24 => g_mA M21 0 0 (0 : Int32) fun x27 => if x27 ≤ x24 then (Mod_appendToWay_68 M21 (Int32.ofNat u) m (Int32.ofNat (wp c w)) (Int32.ofNat i) x20 (-1 : Int32)) else (g_bM (Mod_lenderFor M21 (Int32.ofNat u)) fun x36 M37 => Mod_appendToWay_68 M37 (Int32.ofNat u) m (Int32.ofNat (wp c w)) (Int32.ofNat i) x20 x36)) else (Mod_appendToWay_68 M21 (Int32.ofNat u) m (Int32.ofNat (wp c w)) (Int32.ofNat i) x20 (Int32.ofNat u)) := by
    unfold Mod_appendToWay
    rw [e_b t_wayPlace, e_r (by omega), hix, if_neg (show ¬ Int32.ofNat i ≤ 0 from fun q => by have := (i_le (b := 0) (by omega) (by omega)).mp q; omega)]
  rw [head]
  obtain ⟨M1, e1, q1⟩ := t_lowestFree hA hI hu
  rw [e_bM e1]
  have fin : ∀ (M2 : g_MD) su sl, Mq M M2 → ∃ M', Mod_appendToWay_95 M2 (Int32.ofNat u) m (Int32.ofNat (wp c w)) (Int32.ofNat i) su sl = some (1, M') ∧ Mr M M' (fun j => if j = wp c w then Int32.ofNat (i + 1) else if j = wp c w + 1 + i then Int32.ofNat u else if j = wp c w + 7 + i then su else if j = wp c w + 13 + i then sl else if j = wp c w + 19 + i then m else M.1 0 j) := by
    intro M2 su sl q2
    unfold Mod_appendToWay_95
    obtain ⟨M', x1, x2⟩ := t_app97 (M := M2) (p := wp c w) (i := i) (u := u) (m := m) (su := su) (sl := sl) (by unfold wp; omega) hp hi6 (by rw [q2.1]; exact hix)
    refine ⟨M', x1, ?_⟩
    rw [q2.1] at x2
    exact q2.mr.tr x2
  unfold spF lbF
  by_cases f0 : 0 < fr (M.1 0) u
  · have hlo := fr_lo.mp f0
    rw [ixI_lt hlo, if_neg (m1_ne (by omega)), if_pos f0]
    unfold Mod_appendToWay_68
    rw [if_neg (m1_ne (by omega)), if_neg (m1_ne (by omega))]
    simp only [if_pos f0]
    exact fin M1 _ _ q1
  · have hlo : ¬ lo (M.1 0) u < nt (M.1 0) (14 + u) := fun q => f0 (fr_lo.mpr q)
    have hm1 : ixI (nt (M.1 0) (14 + u)) (lo (M.1 0) u) = -1 := (ixI_m1 (by omega)).mpr (by omega)
    rw [hm1, if_pos rfl, if_neg f0]
    have hA1 : InvA (M1.1 0) := by rw [q1.1]; exact hA
    have hI1 : InvW (M1.1 0) := by rw [q1.1]; exact hI
    rw [e_b (show Mod_countLabels M1 (Int32.ofNat u) (1 : Int32) = _ from t_countLabels (M := M1) (sort := 1) hA1 hI1 (by omega)), e_r' (i := 0) (j := (0 : Int32)) rfl (by decide), q1.1]
    have hcl := ct_le hA hI (φ := fun p i => bN (cq (M.1 0) (Int32.ofNat u) 1 p i)) (fun _ _ => bN_le)
    rw [hA.2.1.1.1]
    have hb0 := hA.2.1.1.2
    by_cases q : ct (M.1 0) (fun p i => bN (cq (M.1 0) (Int32.ofNat u) 1 p i)) < nt (M.1 0) 0
    · rw [if_pos q, if_neg (fun z => by have := (i_le (by omega) (by omega)).mp z; omega)]
      obtain ⟨M2, e2, q2⟩ := t_lenderFor (M := M1) hA1 hI1 (u := Int32.ofNat u)
      rw [e_bM e2, q1.1]
      cases el : lnd (M.1 0) (Int32.ofNat u) with
      | none =>
        unfold Mod_appendToWay_68
        rw [if_pos (show o32 none = -1 from rfl)]
        exact ⟨M2, rfl, q1.tr q2⟩
      | some s =>
        obtain ⟨hs, hs0⟩ := lnd_ok s el
        have q12 := q1.tr q2
        unfold Mod_appendToWay_68
        rw [if_neg (show ¬ o32 (some s) = -1 from m1_ne (by omega)), if_pos rfl]
        obtain ⟨M3, e3, q3⟩ := t_highestFree (M := M2) (s := s) (by rw [q12.1]; exact hA) (by rw [q12.1]; exact hI) (by rw [q12.1]; exact hs)
        rw [e_bM (show Mod_highestFree M2 (o32 (some s)) = _ from e3), q12.1]
        have hh := fr_hi hs0
        have eh : hiI (hi (M.1 0) s) = Int32.ofNat (hi (M.1 0) s - 1) := by unfold hiI; rw [if_neg (by omega)]
        rw [eh]
        simp only [if_neg f0]
        exact fin M3 _ _ (q12.tr q3)
    · rw [if_neg q, if_pos ((i_le (by omega) (by omega)).mpr (by omega))]
      unfold Mod_appendToWay_68
      rw [if_pos rfl]
      exact ⟨M1, rfl, q1⟩
end APP
