/-! LEVEL 2: room, delays, counts -/
section ROOM
variable {h : g_AH} {G : Nat → Prop} {a : Nat} {r : tR} {N L C K : Nat → Nat} {mC x k p c w n : Nat} {M : g_MD} {D : Nat → Int32}
theorem nm_pos {j b : Nat} (e : nm r j b) (hb : b ≤ 1000) : (r j ≤ 0 ↔ nt r j = 0) ∧ (0 < r j ↔ 0 < nt r j) ∧ (r j = 0 ↔ nt r j = 0) := by
  have h1 := e.2
  have h2 : r j = Int32.ofNat (nt r j) := e.1
  have h3 := i_le (a := nt r j) (b := 0) (by omega) (by omega)
  have h4 := i_lt (a := 0) (b := nt r j) (by omega) (by omega)
  have h5 := i_eq (a := nt r j) (b := 0) (by omega) (by omega)
  rw [h2]
  refine ⟨h3.trans (by omega), h4, h5⟩
theorem t_reserved (hA : InvA (M.1 0)) (hI : InvW (M.1 0)) (hph : ∀ c, c < nt (M.1 0) 4 → nm (M.1 0) (104 + 66 * c + 2) 4) (hk : k < nt (M.1 0) 3) {but : Int32} : Mod_reserved M (Int32.ofNat k) but = some (rsv (M.1 0) k but (nt (M.1 0) 4)) := by
  have h4 := nm4 hA
  have loop : ∀ m j s, j ≤ nt (M.1 0) 4 → nt (M.1 0) 4 - j < m → Mod_reserved_5 M m (Int32.ofNat k) but s (Int32.ofNat j) = some (smN (fun c => if Int32.ofNat c = but then 0 else if (us (M.1 0) (nt (M.1 0) (wp c 0)) (rwD (M.1 0) (wp c 0)) k || (decide (0 < nt (M.1 0) (104 + 66 * c + 2)) && us (M.1 0) (nt (M.1 0) (wp c 1)) (rwD (M.1 0) (wp c 1)) k)) = true then M.1 0 (104 + 66 * c) else 0) j (nt (M.1 0) 4 - j) s) := by
    intro m
    induction m with
    | zero => intro j _ _ h; omega
    | succ m ih =>
      intro j s hj hm
      rw [Mod_reserved_5, e_r' (i := 4) (j := (4 : Int32)) rfl (by decide), hA.1.2.2.1.1]
      by_cases hc : nt (M.1 0) 4 ≤ j
      · have : j = nt (M.1 0) 4 := by omega
        subst this
        rw [if_pos ((i_le (by omega) (by omega)).mpr hc), smN_end]
      · rw [if_neg (fun q => hc ((i_le (by omega) (by omega)).mp q)), smN_step (by omega)]
        have next : ∀ y : Int32, Mod_reserved_84 M (Mod_reserved_5 M m) (Int32.ofNat k) but (Int32.ofNat j) y s = some (smN (fun c => if Int32.ofNat c = but then 0 else if (us (M.1 0) (nt (M.1 0) (wp c 0)) (rwD (M.1 0) (wp c 0)) k || (decide (0 < nt (M.1 0) (104 + 66 * c + 2)) && us (M.1 0) (nt (M.1 0) (wp c 1)) (rwD (M.1 0) (wp c 1)) k)) = true then M.1 0 (104 + 66 * c) else 0) (j + 1) (nt (M.1 0) 4 - (j + 1)) (s + y)) := by
          intro y
          unfold Mod_reserved_84
          rw [show Int32.ofNat j + (1 : Int32) = Int32.ofNat (j + 1) from i_add]
          exact ih (j + 1) (s + y) (by omega) (by omega)
        have h64 : Mod_reserved_64 M (Mod_reserved_5 M m) (Int32.ofNat k) but s (Int32.ofNat j) = some (smN (fun c => if Int32.ofNat c = but then 0 else if (us (M.1 0) (nt (M.1 0) (wp c 0)) (rwD (M.1 0) (wp c 0)) k || (decide (0 < nt (M.1 0) (104 + 66 * c + 2)) && us (M.1 0) (nt (M.1 0) (wp c 1)) (rwD (M.1 0) (wp c 1)) k)) = true then M.1 0 (104 + 66 * c) else 0) (j + 1) (nt (M.1 0) 4 - (j + 1)) (s + 0)) := by
          unfold Mod_reserved_64 Mod_reserved_65
          rw [if_pos rfl]; exact next 0
        have h60 : Mod_reserved_60 M (Mod_reserved_5 M m) (Int32.ofNat k) but s (Int32.ofNat j) = some (smN (fun c => if Int32.ofNat c = but then 0 else if (us (M.1 0) (nt (M.1 0) (wp c 0)) (rwD (M.1 0) (wp c 0)) k || (decide (0 < nt (M.1 0) (104 + 66 * c + 2)) && us (M.1 0) (nt (M.1 0) (wp c 1)) (rwD (M.1 0) (wp c 1)) k)) = true then M.1 0 (104 + 66 * c) else 0) (j + 1) (nt (M.1 0) 4 - (j + 1)) (s + M.1 0 (104 + 66 * j))) := by
          unfold Mod_reserved_60 Mod_reserved_65
          rw [if_neg (by decide), e_b (f := Mod_of M (Int32.ofNat j) (0 : Int32)) (t_of (c := j) (f := 0) (by omega) (by decide))]; exact next _
        by_cases hb : Int32.ofNat j = but
        · rw [if_pos hb, if_pos hb, h64]
        · rw [if_neg hb, if_neg hb]
          rw [e_b (show Mod_wayPlace (Int32.ofNat j) (0 : Int32) = some (Int32.ofNat (wp j 0)) from t_wayPlace (w := 0))]
          rw [e_b (t_usesLink hA hk (hI j 0 (by omega) (by omega)).1 (by unfold wp; omega))]
          by_cases h1 : us (M.1 0) (nt (M.1 0) (wp j 0)) (rwD (M.1 0) (wp j 0)) k = true
          · rw [if_neg (fun q => by rw [b32_eq0.mp q] at h1; cases h1), h60, if_pos (by simp [h1])]
          · have h1' : us (M.1 0) (nt (M.1 0) (wp j 0)) (rwD (M.1 0) (wp j 0)) k = false := by simpa using h1
            rw [if_pos (b32_eq0.mpr h1'), e_b (f := Mod_of M (Int32.ofNat j) (2 : Int32)) (t_of (c := j) (f := 2) (by omega) (by decide))]
            have hp := nm_pos (hph j (by omega)) (by omega)
            by_cases h0 : nt (M.1 0) (104 + 66 * j + 2) = 0
            · rw [if_pos (hp.1.mpr h0), h64, if_neg (by simp [h1', h0])]
            · rw [if_neg (fun q => h0 (hp.1.mp q))]
              rw [e_b (show Mod_wayPlace (Int32.ofNat j) (1 : Int32) = some (Int32.ofNat (wp j 1)) from t_wayPlace (w := 1))]
              rw [e_b (t_usesLink hA hk (hI j 1 (by omega) (by omega)).1 (by unfold wp; omega))]
              by_cases h2 : us (M.1 0) (nt (M.1 0) (wp j 1)) (rwD (M.1 0) (wp j 1)) k = true
              · rw [if_neg (fun q => by rw [b32_eq0.mp q] at h2; cases h2), h60, if_pos (by simp [h2, Nat.pos_of_ne_zero h0])]
              · have h2' : us (M.1 0) (nt (M.1 0) (wp j 1)) (rwD (M.1 0) (wp j 1)) k = false := by simpa using h2
                rw [if_pos (b32_eq0.mpr h2'), h64, if_neg (by simp [h1', h2'])]
  have := loop gFU 0 0 (by omega) (by unfold gFU; omega)
  unfold Mod_reserved rsv
  exact this
/-- up is 0 or 1 -/
theorem up01 {j : Nat} (e : nm r j 2) : r j = 0 ∨ r j = 1 := by
  have h1 := e.2
  have h2 : r j = Int32.ofNat (nt r j) := e.1
  rcases (show nt r j = 0 ∨ nt r j = 1 by omega) with q | q <;> rw [h2, q]
  · exact Or.inl rfl
  · exact Or.inr rfl
theorem c_hasRoom0 (hW : WF h) (hR : RN h G a r N L C K mC) (hA : InvA r) (hI : InvW r) (hm : mC ≤ nt r 4) (hk : k < nt r 3) {but band : Int32} : Net_hasRoom0 h a (Int32.ofNat k) band but = some (b32 (hro r k but band mC)) := by
  obtain ⟨ha, hl, -, hL, -, -⟩ := hR.lst
  obtain ⟨⟨k1, -⟩, k2⟩ := hR.2.2.2.1 k hk
  have e4 : J h 11 4 (L k) = r (24 + 5 * k + 4) := k2 4 (by omega)
  have e2 : J h 11 2 (L k) = r (24 + 5 * k + 2) := k2 2 (by omega)
  unfold Net_hasRoom0 hro
  rw [v_gR hW ha rfl, hl 2 (by omega) (by omega), e_nn, v_is hL.1, e_b (ls_get hW hL hk), v_ck k1, e_nn, v_gI hW k1 rfl, e4]
  rcases up01 (hA.2.2.2.1 k hk).2.2.2.2 with q | q
  · rw [if_pos q, q]; rfl
  · rw [if_neg (by rw [q]; decide), v_is ha, e_b (c_reserved hW hR hA hI hm hk), v_gI hW k1 rfl, e2, q]
    by_cases hc : r (24 + 5 * k + 2) < rsv r k but mC + band
    · rw [if_pos hc]; simp [hc, b32]
    · rw [if_neg hc]; simp [hc, b32]
theorem t_hasRoom (hA : InvA (M.1 0)) (hI : InvW (M.1 0)) (hph : ∀ c, c < nt (M.1 0) 4 → nm (M.1 0) (104 + 66 * c + 2) 4) (hk : k < nt (M.1 0) 3) {but band : Int32} : Mod_hasRoom M (Int32.ofNat k) but band = some (b32 (hro (M.1 0) k but band (nt (M.1 0) 4))) := by
  have h3 := nm3 hA
  unfold Mod_hasRoom hro
  rw [e_b (f := Mod_ofLink M (Int32.ofNat k) (4 : Int32)) (t_ofLink (k := k) (f := 4) (by omega) (by decide))]
  by_cases q : M.1 0 (24 + 5 * k + 4) = 1
  · rw [if_pos q, e_b (t_reserved hA hI hph hk), e_b (f := Mod_ofLink M (Int32.ofNat k) (2 : Int32)) (t_ofLink (k := k) (f := 2) (by omega) (by decide)), q]
    by_cases hc : M.1 0 (24 + 5 * k + 2) < rsv (M.1 0) k but (nt (M.1 0) 4) + band
    · rw [if_pos hc]; simp [hc, b32]
    · rw [if_neg hc]; simp [hc, b32]
  · rw [if_neg q]; simp [q, b32]
theorem b32_and {b c : Bool} : b32 b &&& b32 c = b32 (b && c) := by cases b <;> cases c <;> rfl
/-- room along a way -/
theorem c_hasRoom1 (hW : WF h) (hR : RN h G a r N L C K mC) (hA : InvA r) (hI : InvW r) (hm : mC ≤ nt r 4) (hw : WyN h w n D) (hLeg : Leg r n D) {but band : Int32} : Net_hasRoom1 h a (some w) band but = some (b32 (hrW r n D but band mC)) := by
  obtain ⟨ha, hl, -, hL, -, -⟩ := hR.lst
  have h3 := nm3 hA
  have hn6 := hw.2.2.1
  have loop : ∀ m j b, 1 ≤ j → j ≤ 100 → n - j < m → Net_hasRoom1_6 h m a (some w) band but (b32 b) (Int32.ofNat j) = some (b32 (b && decide (n ≤ fsN (fun j => !hro r (lk r (D (j - 1)) (D j)) but band mC) j (n - j)))) := by
    intro m
    induction m with
    | zero => intro j _ _ _ h; omega
    | succ m ih =>
      intro j b hj hj2 hm
      rw [Net_hasRoom1_6, e_nn, v_gI hW hw.1 rfl, hw.2.1]
      by_cases hc : n ≤ j
      · rw [if_pos ((i_le (by omega) (by omega)).mpr hc), e_rq b32_01, show n - j = 0 by omega]
        simp [fsN, hc]
      · rw [if_neg (fun q => hc ((i_le (by omega) (by omega)).mp q))]
        rw [show Int32.ofNat j - (1 : Int32) = Int32.ofNat (j - 1) from i_sub1 (by omega)]
        rw [way_node hW hw (i := j - 1) (by omega), way_node hW hw (i := j) (by omega), v_is ha, e_b (c_linkOf hW hR hA), v_is ha]
        have hlt : lk r (D (j - 1)) (D j) < nt r 3 := by
          have := hLeg (j - 1) (by omega)
          rw [show j - 1 + 1 = j by omega] at this
          exact this
        rw [ixI_lt hlt, e_b (c_hasRoom0 hW hR hA hI ‹mC ≤ nt r 4› hlt), b32_and, show Int32.ofNat j + (1 : Int32) = Int32.ofNat (j + 1) from i_add, ih (j + 1) _ (by omega) (by omega) (by omega), fsN_step (j := j) (n := n) (by omega)]
        cases e : hro r (lk r (D (j - 1)) (D j)) but band mC with
        | true => simp
        | false => simp [show ¬ n ≤ j by omega]
  have := loop gFU 1 true (by omega) (by omega) (by unfold gFU; omega)
  unfold Net_hasRoom1 hrW
  rw [Bool.true_and] at this
  exact this
theorem t_draftHasRoom (hA : InvA (M.1 0)) (hI : InvW (M.1 0)) (hph : ∀ c, c < nt (M.1 0) 4 → nm (M.1 0) (104 + 66 * c + 2) 4) (hn : M.2.1 6 = Int32.ofNat n) (hn6 : n ≤ 6) (hD : ∀ i, i < n → M.1 5 i = D i) (hLeg : Leg (M.1 0) n D) {but band : Int32} : Mod_draftHasRoom M but band = some (b32 (hrW (M.1 0) n D but band (nt (M.1 0) 4))) := by
  have loop : ∀ m j, 1 ≤ j → j ≤ 100 → n - j < m → Mod_draftHasRoom_2 M m but band (Int32.ofNat j) = some (b32 (decide (n ≤ fsN (fun j => !hro (M.1 0) (lk (M.1 0) (D (j - 1)) (D j)) but band (nt (M.1 0) 4)) j (n - j)))) := by
    intro m
    induction m with
    | zero => intro j _ _ h; omega
    | succ m ih =>
      intro j hj hj2 hm
      rw [Mod_draftHasRoom_2, hn]
      by_cases hc : n ≤ j
      · rw [if_pos ((i_le (by omega) (by omega)).mpr hc), show n - j = 0 by omega]
        simp [fsN, hc, b32]
      · rw [if_neg (fun q => hc ((i_le (by omega) (by omega)).mp q))]
        rw [show Int32.ofNat j - (1 : Int32) = Int32.ofNat (j - 1) from i_sub1 (by omega)]
        rw [e_mA (by decide) (show j - 1 < mL 5 by show j - 1 < 6; omega) (by decide), e_mA (by decide) (show j < mL 5 by show j < 6; omega) (by decide), hD (j - 1) (by omega), hD j (by omega), e_b (t_linkOf hA)]
        have hlt : lk (M.1 0) (D (j - 1)) (D j) < nt (M.1 0) 3 := by
          have := hLeg (j - 1) (by omega)
          rw [show j - 1 + 1 = j by omega] at this
          exact this
        rw [ixI_lt hlt, e_b (t_hasRoom hA hI hph hlt), fsN_step (j := j) (n := n) (by omega)]
        cases e : hro (M.1 0) (lk (M.1 0) (D (j - 1)) (D j)) but band (nt (M.1 0) 4) with
        | true =>
          rw [if_neg (by decide), show Int32.ofNat j + (1 : Int32) = Int32.ofNat (j + 1) from i_add, ih (j + 1) (by omega) (by omega) (by omega)]
          simp
        | false =>
          rw [if_pos (by decide)]
          simp [show ¬ n ≤ j by omega, b32]
  have := loop gFU 1 (by omega) (by omega) (by unfold gFU; omega)
  unfold Mod_draftHasRoom hrW
  exact this
/-- delays -/
theorem c_delayOf (hW : WF h) (hR : RN h G a r N L C K mC) (hA : InvA r) (hw : WyN h w n D) (hLeg : Leg r n D) : Net_delayOf h a (some w) = some (dly r n D) := by
  obtain ⟨ha, hl, -, hL, -, -⟩ := hR.lst
  have h3 := nm3 hA
  have hn6 := hw.2.2.1
  have loop : ∀ m j s, 1 ≤ j → j ≤ 100 → n - j < m → Net_delayOf_4 h m a (some w) s (Int32.ofNat j) = some (smN (fun j => r (24 + 5 * lk r (D (j - 1)) (D j) + 3)) j (n - j) s) := by
    intro m
    induction m with
    | zero => intro j _ _ _ h; omega
    | succ m ih =>
      intro j s hj hj2 hm
      rw [Net_delayOf_4, e_nn, v_gI hW hw.1 rfl, hw.2.1]
      by_cases hc : n ≤ j
      · rw [if_pos ((i_le (by omega) (by omega)).mpr hc), show n - j = 0 by omega]
        rfl
      · rw [if_neg (fun q => hc ((i_le (by omega) (by omega)).mp q)), v_gR hW ha rfl, hl 2 (by omega) (by omega)]
        rw [show Int32.ofNat j - (1 : Int32) = Int32.ofNat (j - 1) from i_sub1 (by omega)]
        rw [way_node hW hw (i := j - 1) (by omega), way_node hW hw (i := j) (by omega), v_is ha, e_b (c_linkOf hW hR hA)]
        have hlt : lk r (D (j - 1)) (D j) < nt r 3 := by
          have := hLeg (j - 1) (by omega)
          rw [show j - 1 + 1 = j by omega] at this
          exact this
        obtain ⟨⟨k1, -⟩, k2⟩ := hR.2.2.2.1 _ hlt
        rw [ixI_lt hlt, e_nn, v_is hL.1, e_b (ls_get hW hL hlt), v_ck k1, e_nn, v_gI hW k1 rfl, k2 3 (by omega), show Int32.ofNat j + (1 : Int32) = Int32.ofNat (j + 1) from i_add, ih (j + 1) _ (by omega) (by omega) (by omega), smN_step (j := j) (n := n) (by omega)]
  exact loop gFU 1 0 (by omega) (by omega) (by unfold gFU; omega)
theorem t_delayOf (hA : InvA (M.1 0)) (hp : nm (M.1 0) p 7) (hp2 : p + 25 ≤ 1112) (hLeg : Leg (M.1 0) (nt (M.1 0) p) (rwD (M.1 0) p)) : Mod_delayOf M (Int32.ofNat p) = some (dly (M.1 0) (nt (M.1 0) p) (rwD (M.1 0) p)) := by
  have h3 := nm3 hA
  have hn6 := hp.2
  have loop : ∀ m j s, 1 ≤ j → j ≤ 100 → nt (M.1 0) p - j < m → Mod_delayOf_4 M m (Int32.ofNat p) s (Int32.ofNat j) = some (smN (fun j => M.1 0 (24 + 5 * lk (M.1 0) (rwD (M.1 0) p (j - 1)) (rwD (M.1 0) p j) + 3)) j (nt (M.1 0) p - j) s) := by
    intro m
    induction m with
    | zero => intro j _ _ _ h; omega
    | succ m ih =>
      intro j s hj hj2 hm
      rw [Mod_delayOf_4, e_r (by omega), hp.1]
      by_cases hc : nt (M.1 0) p ≤ j
      · rw [if_pos ((i_le (by omega) (by omega)).mpr hc), show nt (M.1 0) p - j = 0 by omega]
        rfl
      · rw [if_neg (fun q => hc ((i_le (by omega) (by omega)).mp q))]
        rw [e_r' (i := p + 1 + (j - 1)) (by show (Int32.ofNat p + Int32.ofNat 1 + Int32.ofNat j) - Int32.ofNat 1 = _; rw [i_add, i_add, i_sub (by omega)]; congr 1; omega) (by omega)]
        rw [e_r' (i := p + 1 + j) (by show Int32.ofNat p + Int32.ofNat 1 + Int32.ofNat j = _; rw [i_add, i_add]) (by omega)]
        have hlt : lk (M.1 0) (M.1 0 (p + 1 + (j - 1))) (M.1 0 (p + 1 + j)) < nt (M.1 0) 3 := by
          have := hLeg (j - 1) (by omega)
          rw [show j - 1 + 1 = j by omega] at this
          exact this
        rw [e_b (t_linkOf hA), ixI_lt hlt, e_b (f := Mod_ofLink M (Int32.ofNat (lk (M.1 0) (M.1 0 (p + 1 + (j - 1))) (M.1 0 (p + 1 + j)))) (3 : Int32)) (t_ofLink (f := 3) (by omega) (by decide)), show Int32.ofNat j + (1 : Int32) = Int32.ofNat (j + 1) from i_add, ih (j + 1) _ (by omega) (by omega) (by omega), smN_step (j := j) (n := nt (M.1 0) p) (by omega)]
  exact loop gFU 1 0 (by omega) (by omega) (by unfold gFU; omega)
/-- a node's place in a way -/
theorem c_indexOf (hW : WF h) (hw : WyN h w n D) {u : Int32} : Way_indexOf h w u = some (ixI n (fsN (fun i => decide (D i = u)) 0 n)) := by
  have hn6 := hw.2.2.1
  have loop : ∀ m j, j ≤ n → n - j < m → Way_indexOf_2 h m w u (Int32.ofNat j) = some (ixI n (fsN (fun i => decide (D i = u)) j (n - j))) := by
    intro m
    induction m with
    | zero => intro j _ h; omega
    | succ m ih =>
      intro j hj hm
      rw [Way_indexOf_2, v_gI hW hw.1 rfl, hw.2.1]
      by_cases hc : n ≤ j
      · have : j = n := by omega
        subst this
        rw [if_pos ((i_le (by omega) (by omega)).mpr hc), fsN_end]
        simp [ixI]
      · rw [if_neg (fun q => hc ((i_le (by omega) (by omega)).mp q)), way_node hW hw (i := j) (by omega), fsN_step (j := j) (n := n) (by omega)]
        by_cases hj2 : D j = u
        · rw [if_pos hj2, if_pos (by simpa using hj2), ixI_lt (by omega)]
        · rw [if_neg hj2, if_neg (by simpa using hj2), show Int32.ofNat j + (1 : Int32) = Int32.ofNat (j + 1) from i_add]
          exact ih (j + 1) (by omega) (by omega)
  exact loop gFU 0 (by omega) (by unfold gFU; omega)
theorem c_last (hW : WF h) (hw : WyN h w n D) (h0 : 0 < n) : Way_last h w = some (D (n - 1)) := by
  have hn6 := hw.2.2.1
  obtain ⟨h1, h2, h3, h4, h5⟩ := hw
  obtain ⟨q, hq⟩ := AL_ref h4 (by omega)
  unfold Way_last
  rw [v_gR hW h1 rfl, hq, v_gI hW h1 rfl, h2, e_nn, show Int32.ofNat n - (1 : Int32) = Int32.ofNat (n - 1) from i_sub1 (by omega), v_aI (t := 0) hW hq rfl rfl (by rw [h4]; exact i_in (by omega) (by omega)), i_cl (by omega), h5 (n - 1) (by omega)]
theorem c_goes (hW : WF h) (hw : WyN h w n D) {u v : Int32} : Way_goes h w u v = some (b32 (decide (2 ≤ n) && decide (D 0 = u) && decide (D (n - 1) = v))) := by
  have hn6 := hw.2.2.1
  have hw0 := hw
  obtain ⟨h1, h2, h3, h4, h5⟩ := hw
  obtain ⟨q, hq⟩ := AL_ref h4 (by omega)
  unfold Way_goes
  rw [v_gI hW h1 rfl, h2]
  by_cases hc : n ≤ 1
  · rw [if_pos (show Int32.ofNat n ≤ 1 from (i_le (b := 1) (by omega) (by omega)).mpr hc)]
    simp [show ¬ 2 ≤ n by omega, b32]
  · rw [if_neg (show ¬ Int32.ofNat n ≤ (1 : Int32) from fun q => hc ((i_le (b := 1) (by omega) (by omega)).mp q))]
    rw [show (0 : Int32) = Int32.ofNat 0 from rfl, way_node hW hw0 (i := 0) (by omega)]
    by_cases hu : D 0 = u
    · rw [if_pos hu, v_gR hW h1 rfl, hq, v_gI hW h1 rfl, h2, e_nn, show Int32.ofNat n - (1 : Int32) = Int32.ofNat (n - 1) from i_sub1 (by omega), v_aI (t := 0) hW hq rfl rfl (by rw [h4]; exact i_in (by omega) (by omega)), i_cl (by omega), h5 (n - 1) (by omega)]
      by_cases hv : D (n - 1) = v
      · rw [if_pos hv]; simp [hu, hv, show 2 ≤ n by omega, b32]
      · rw [if_neg hv]; simp [hu, hv, b32]
    · rw [if_neg hu]; simp [hu, b32]
/-- two ways alike -/
def lik (n : Nat) (D : Nat → Int32) (n' : Nat) (D' : Nat → Int32) : Bool := decide (n = n') && decide (n ≤ fsN (fun i => !decide (D i = D' i)) 0 n)
theorem c_isLike (hW : WF h) (hw : WyN h w n D) {w' n' : Nat} {D' : Nat → Int32} (hw' : WyN h w' n' D') : Way_isLike h w (some w') = some (b32 (lik n D n' D')) := by
  have hn6 := hw.2.2.1
  have hn6' := hw'.2.2.1
  have loop : ∀ m j b, (b = true → n = n') → j ≤ n → n - j < m → Way_isLike_19 h m w (some w') (b32 b) (Int32.ofNat j) = some (b32 (b && decide (n ≤ fsN (fun i => !decide (D i = D' i)) j (n - j)))) := by
    intro m
    induction m with
    | zero => intro j _ _ _ h; omega
    | succ m ih =>
      intro j b hb hj hm
      rw [Way_isLike_19, v_gI hW hw.1 rfl, hw.2.1]
      by_cases hc : n ≤ j
      · have : j = n := by omega
        subst this
        rw [if_pos ((i_le (by omega) (by omega)).mpr hc), e_rq b32_01, fsN_end]
        simp
      · rw [if_neg (fun q => hc ((i_le (by omega) (by omega)).mp q))]
        cases b with
        | false => rw [if_pos (show b32 false = 0 from rfl), e_rq b32_01]; rfl
        | true =>
          have := hb rfl
          subst this
          rw [if_neg (by decide), way_node hW hw (i := j) (by omega), e_nn, way_node hW hw' (i := j) (by omega), fsN_step (j := j) (n := n) (by omega)]
          unfold Way_isLike_51
          rw [show Int32.ofNat j + (1 : Int32) = Int32.ofNat (j + 1) from i_add]
          by_cases hd : D j = D' j
          · rw [if_pos hd, show (1 : Int32) = b32 true from rfl, ih (j + 1) true (fun _ => rfl) (by omega) (by omega)]
            simp [hd]
          · rw [if_neg hd, show (0 : Int32) = b32 false from rfl, ih (j + 1) false (fun q => by cases q) (by omega) (by omega)]
            simp [hd, show ¬ n ≤ j by omega]
  unfold Way_isLike lik
  rw [v_gI hW hw.1 rfl, hw.2.1, e_nn, v_gI hW hw'.1 rfl, hw'.2.1]
  unfold Way_isLike_16
  by_cases e : n = n'
  · rw [if_pos (by rw [e]), show (1 : Int32) = b32 true from rfl, show (0 : Int32) = Int32.ofNat 0 from rfl, loop gFU 0 true (fun _ => e) (by omega) (by unfold gFU; omega)]
    simp [e]
  · rw [if_neg (fun q => e ((i_eq (by omega) (by omega)).mp q)), show (Way_isLike_19 h gFU w (some w') (0 : Int32) (0 : Int32)) = Way_isLike_19 h gFU w (some w') (b32 false) (Int32.ofNat 0) from rfl, loop gFU 0 false (fun q => by cases q) (by omega) (by unfold gFU; omega)]
    simp [e]
theorem t_isDraftWay {c : Nat} (hc8 : c < 8) (hp : nm (M.1 0) (wp c 0) 7) (hn : M.2.1 6 = Int32.ofNat n) (hn6 : n ≤ 6) (hD : ∀ i, i < n → M.1 5 i = D i) : Mod_isDraftWay M (Int32.ofNat c) = some (b32 (lik n D (nt (M.1 0) (wp c 0)) (rwD (M.1 0) (wp c 0)))) := by
  have hp6 := hp.2
  have hwp : wp c 0 + 25 ≤ 1112 := by unfold wp; omega
  obtain ⟨p, hpe⟩ : ∃ p, wp c 0 = p := ⟨_, rfl⟩
  rw [hpe] at hp hp6 hwp
  have loop : ∀ m j b, (b = true → n = nt (M.1 0) p) → j ≤ n → n - j < m → Mod_isDraftWay_28 M m (Int32.ofNat p) (b32 b) (Int32.ofNat j) = some (b32 (b && decide (n ≤ fsN (fun i => !decide (D i = rwD (M.1 0) p i)) j (n - j)))) := by
    intro m
    induction m with
    | zero => intro j _ _ _ h; omega
    | succ m ih =>
      intro j b hb hj hm
      rw [Mod_isDraftWay_28, hn]
      by_cases hc : n ≤ j
      · have : j = n := by omega
        subst this
        rw [if_pos ((i_le (by omega) (by omega)).mpr hc), e_rq b32_01, fsN_end]
        simp
      · rw [if_neg (fun q => hc ((i_le (by omega) (by omega)).mp q))]
        cases b with
        | false => rw [if_pos (show b32 false = 0 from rfl), e_rq b32_01]; rfl
        | true =>
          rw [if_neg (by decide), e_r' (i := p + 1 + j) (by show Int32.ofNat p + Int32.ofNat 1 + Int32.ofNat j = _; rw [i_add, i_add]) (by omega), e_mA (by decide) (show j < mL 5 by show j < 6; omega) (by decide), hD j (by omega), fsN_step (j := j) (n := n) (by omega)]
          unfold Mod_isDraftWay_67
          rw [show Int32.ofNat j + (1 : Int32) = Int32.ofNat (j + 1) from i_add]
          by_cases hd : M.1 0 (p + 1 + j) = D j
          · rw [if_pos hd, show (1 : Int32) = b32 true from rfl, ih (j + 1) true hb (by omega) (by omega)]
            simp [rwD, hd]
          · have hd' : ¬ D j = M.1 0 (p + 1 + j) := fun q => hd q.symm
            rw [if_neg hd, show (0 : Int32) = b32 false from rfl, ih (j + 1) false (fun q => by cases q) (by omega) (by omega)]
            simp [rwD, hd', show ¬ n ≤ j by omega]
  unfold Mod_isDraftWay lik
  rw [e_b (show Mod_wayPlace (Int32.ofNat c) (0 : Int32) = some (Int32.ofNat (wp c 0)) from t_wayPlace (w := 0)), hpe, e_r (by omega), hp.1, hn]
  unfold Mod_isDraftWay_24
  by_cases e : n = nt (M.1 0) p
  · rw [if_pos (by rw [e]), show (1 : Int32) = b32 true from rfl, show (0 : Int32) = Int32.ofNat 0 from rfl, loop gFU 0 true (fun _ => e) (by omega) (by unfold gFU; omega)]
    simp [e]
  · rw [if_neg (fun q => e ((i_eq (by omega) (by omega)).mp q).symm), show (Mod_isDraftWay_28 M gFU (Int32.ofNat p) (0 : Int32) (0 : Int32)) = Mod_isDraftWay_28 M gFU (Int32.ofNat p) (b32 false) (Int32.ofNat 0) from rfl, loop gFU 0 false (fun q => by cases q) (by omega) (by unfold gFU; omega)]
    simp [e]
end ROOM
