/-! LEVEL 2: counting labels by holders and by ways -/
def ctw (φ : Nat → Nat) (n : Nat) : Nat := sumN φ 1 (n - 1)
def ct (r : tR) (φ : Nat → Nat → Nat) : Nat := sumN (fun c => ctw (φ (wp c 0)) (nt r (wp c 0)) + ctw (φ (wp c 1)) (nt r (wp c 1))) 0 (nt r 4)
theorem ct_congr {r : tR} {φ ψ : Nat → Nat → Nat} (h : ∀ c w i, c < nt r 4 → w < 2 → 0 < i → i < nt r (wp c w) → φ (wp c w) i = ψ (wp c w) i) : ct r φ = ct r ψ := by
  unfold ct ctw
  refine sumN_congr _ _ (fun c _ hc => ?_)
  rw [sumN_congr _ _ (fun i h1 h2 => h c 0 i (by omega) (by omega) (by omega) (by omega)), sumN_congr _ _ (fun i h1 h2 => h c 1 i (by omega) (by omega) (by omega) (by omega))]
theorem ct_zero {r : tR} {φ : Nat → Nat → Nat} (h : ∀ c w i, c < nt r 4 → w < 2 → 0 < i → i < nt r (wp c w) → φ (wp c w) i = 0) : ct r φ = 0 := by
  unfold ct ctw
  refine sumN_zero _ _ (fun c _ hc => ?_)
  rw [sumN_zero _ _ (fun i h1 h2 => h c 0 i (by omega) (by omega) (by omega) (by omega)), sumN_zero _ _ (fun i h1 h2 => h c 1 i (by omega) (by omega) (by omega) (by omega))]
theorem ct_single {r : tR} {φ : Nat → Nat → Nat} {c0 w0 i0 : Nat} (hc : c0 < nt r 4) (hw : w0 < 2) (hi0 : 0 < i0) (hi : i0 < nt r (wp c0 w0)) (h : ∀ c w i, c < nt r 4 → w < 2 → 0 < i → i < nt r (wp c w) → ¬ (c = c0 ∧ w = w0 ∧ i = i0) → φ (wp c w) i = 0) : ct r φ = φ (wp c0 w0) i0 := by
  unfold ct
  rw [sumN_single (j0 := c0) _ _ (by omega) (by omega) (fun c _ h2 h3 => ?_)]
  · unfold ctw
    rcases (show w0 = 0 ∨ w0 = 1 by omega) with rfl | rfl
    · rw [sumN_single (j0 := i0) _ _ (by omega) (by omega) (fun i x1 x2 x3 => h c0 0 i hc (by omega) (by omega) (by omega) (fun q => x3 q.2.2)), sumN_zero _ _ (fun i x1 x2 => h c0 1 i hc (by omega) (by omega) (by omega) (fun q => by omega))]
      omega
    · rw [sumN_single (f := φ (wp c0 1)) (j0 := i0) _ _ (by omega) (by omega) (fun i x1 x2 x3 => h c0 1 i hc (by omega) (by omega) (by omega) (fun q => x3 q.2.2)), sumN_zero _ _ (fun i x1 x2 => h c0 0 i hc (by omega) (by omega) (by omega) (fun q => by omega))]
      omega
  · show ctw _ _ + ctw _ _ = 0
    unfold ctw
    rw [sumN_zero _ _ (fun i x1 x2 => h c 0 i (by omega) (by omega) (by omega) (by omega) (fun q => h3 q.1)), sumN_zero _ _ (fun i x1 x2 => h c 1 i (by omega) (by omega) (by omega) (by omega) (fun q => h3 q.1))]
theorem ct_swap {r : tR} {φ : Nat → Nat → Nat → Nat} {k m : Nat} : sumN (fun l => ct r (φ l)) k m = ct r (fun p i => sumN (fun l => φ l p i) k m) := by
  unfold ct
  rw [sumN_swap]
  refine sumN_congr _ _ (fun c _ _ => ?_)
  show sumN (fun i => ctw (φ i (wp c 0)) (nt r (wp c 0)) + ctw (φ i (wp c 1)) (nt r (wp c 1))) k m = _
  rw [sumN_add]
  unfold ctw
  have g0 := sumN_swap (f := fun l i => φ l (wp c 0) i) (k' := 1) (m' := nt r (wp c 0) - 1) m k
  have g1 := sumN_swap (f := fun l i => φ l (wp c 1) i) (k' := 1) (m' := nt r (wp c 1) - 1) m k
  show sumN (fun j => sumN (fun i => φ j (wp c 0) i) 1 (nt r (wp c 0) - 1)) k m + sumN (fun j => sumN (fun i => φ j (wp c 1) i) 1 (nt r (wp c 1) - 1)) k m = _
  rw [g0, g1]
theorem bN_and {b c : Bool} : bN (b && c) = if b = true then bN c else 0 := by cases b <;> rfl
section COUNT
variable {h : g_AH} {G : Nat → Prop} {a : Nat} {r : tR} {N L C K : Nat → Nat} {mC x k p c w n s l : Nat} {M : g_MD} {D : Nat → Int32}
/-- labels of a space held so that ψ (node, made) is true, counted by labels and by places of ways -/
theorem lab_count (hL : LabR h r N) (hA : InvA r) (hI : InvW r) (hs : s < nt r 2) (ψ : Int32 → Int32 → Bool) :
    sumN (fun l => bN (hld r s l && ψ (Ar h 10 1 (N s) l) (Ar h 10 4 (N s) l))) 0 (nt r (14 + s)) = ct r (fun p i => bN (decide (r (p + 7 + i) = Int32.ofNat s) && ψ (r (p + 1 + i)) (r (p + 19 + i)))) := by
  have hsp := nm_sp hA hs
  have h2 := nm2 hA
  have e1 : sumN (fun l => bN (hld r s l && ψ (Ar h 10 1 (N s) l) (Ar h 10 4 (N s) l))) 0 (nt r (14 + s)) = sumN (fun l => ct r (fun p i => bN (decide (r (p + 7 + i) = Int32.ofNat s) && (decide (r (p + 13 + i) = Int32.ofNat l) && ψ (r (p + 1 + i)) (r (p + 19 + i)))))) 0 (nt r (14 + s)) := by
    refine sumN_congr _ _ (fun l _ hl => ?_)
    cases e : hld r s l with
    | true =>
      have hp := hld_pos e
      obtain ⟨x1, -, -, x4⟩ := hL.1 _ _ _ _ _ hp hs (by omega)
      rw [ct_single hp.1 hp.2.1 hp.2.2.1 hp.2.2.2.1 (fun c w i y1 y2 y3 y4 y5 => ?_)]
      · rw [x1, x4, decide_eq_true hp.2.2.2.2.1, decide_eq_true hp.2.2.2.2.2]
        rfl
      · rw [bN_and, bN_and]
        split
        · split
          · rename_i q1 q2
            exact absurd (Pos.uniq hL hA hI ⟨y1, y2, y3, y4, of_decide_eq_true q1, of_decide_eq_true q2⟩ hp hs (by omega)) y5
          · rfl
        · rfl
    | false =>
      rw [ct_zero (fun c w i y1 y2 y3 y4 => ?_)]
      · rfl
      · rw [bN_and, bN_and]
        split
        · split
          · rename_i q1 q2
            have := hld_of (r := r) (c := c) (w := w) (i := i) (s := s) (l := l) ⟨y1, y2, y3, y4, of_decide_eq_true q1, of_decide_eq_true q2⟩
            rw [this] at e; cases e
          · rfl
        · rfl
  rw [e1, ct_swap]
  refine ct_congr (fun c w i y1 y2 y3 y4 => ?_)
  by_cases q : r (wp c w + 7 + i) = Int32.ofNat s
  · have hne : r (wp c w + 7 + i) ≠ -1 := by rw [q]; exact m1_ne (by omega)
    obtain ⟨p1, p2, p3⟩ := Pos.rng hI hA y1 y2 y3 y4 hne
    have es : nt r (wp c w + 7 + i) = s := nt_of q (by omega)
    rw [es] at p3
    rw [sumN_single (j0 := nt r (wp c w + 13 + i)) _ _ (by omega) (by omega) (fun l _ hl hne2 => ?_)]
    · rw [decide_eq_true q, decide_eq_true p1.2.2.2.2.2]
      rfl
    · rw [bN_and, bN_and]
      split
      · split
        · rename_i q1 q2
          have := of_decide_eq_true q2
          rw [p1.2.2.2.2.2] at this
          exact absurd ((i_eq (by omega) (by omega)).mp this).symm hne2
        · rfl
      · rfl
  · rw [sumN_zero _ _ (fun l _ _ => ?_)]
    · rw [decide_eq_false q]; rfl
    · rw [decide_eq_false q]; rfl
/-- how many labels of its own space s, or of another, a node has -/
def hb (r : tR) (s : Nat) (u : Int32) : Nat := ct r (fun p i => bN (decide (r (p + 7 + i) = Int32.ofNat s) && decide (r (p + 1 + i) = u)))
theorem heldBy_ct (hL : LabR h r N) (hA : InvA r) (hI : InvW r) (hs : s < nt r 2) {u : Nat} (hu : u < nt r 2) : sumN (fun l => bN (decide (Ar h 10 1 (N s) l = Int32.ofNat u))) 0 (nt r (14 + s)) = hb r s (Int32.ofNat u) := by
  have h2 := nm2 hA
  unfold hb
  rw [← lab_count hL hA hI hs (fun x _ => decide (x = Int32.ofNat u))]
  refine sumN_congr _ _ (fun l _ hl => ?_)
  have := lab_m1 hL hA hI hs (l := l) (by omega)
  cases e : hld r s l with
  | true => rfl
  | false =>
    rw [this.mpr e, decide_eq_false (fun q => m1_ne (by omega) q.symm)]
    rfl
/-- the twin's sorts -/
def cq (r : tR) (v : Int32) (sort p i : Nat) : Bool :=
  if sort = 0 then decide (r (p + 1 + i) = v) && decide (r (p + 7 + i) = v)
  else if sort = 1 then decide (r (p + 1 + i) = v) && (!decide (r (p + 7 + i) = v) && !decide (r (p + 7 + i) = -1))
  else if sort = 2 then decide (r (p + 1 + i) = v) && (!decide (r (p + 7 + i) = -1) && decide (r (p + 19 + i) = 1))
  else !decide (r (p + 1 + i) = v) && decide (r (p + 7 + i) = v)
theorem t_count70 {v : Int32} {sort i b : Nat} (hso : sort < 4) (hp2 : p + 25 ≤ 1112) (hi : i < 6) {k5 : Int32 → Int32 → Int32 → Int32 → Option (Int32)} {k19 : Int32 → Int32 → Int32 → Int32 → Int32 → Option (Int32)} {k37 : Int32 → Int32 → Int32 → Int32 → Int32 → Int32 → Int32 → Option (Int32)} {c' w' : Int32} :
    Mod_countLabels_70 M k5 k19 k37 v (Int32.ofNat sort) (Int32.ofNat b) c' w' (Int32.ofNat p) (Int32.ofNat i) (b32 (decide (M.1 0 (p + 1 + i) = v))) = k37 v (Int32.ofNat sort) (Int32.ofNat (b + bN (cq (M.1 0) v sort p i))) c' w' (Int32.ofNat p) (Int32.ofNat (i + 1)) := by
  have e7 : ∀ K1 : Int32 → Option Int32, g_mA M 0 0 (Int32.ofNat p + (7 : Int32) + Int32.ofNat i) K1 = K1 (M.1 0 (p + 7 + i)) := fun K1 => e_r' (i := p + 7 + i) (by show Int32.ofNat p + Int32.ofNat 7 + Int32.ofNat i = _; rw [i_add, i_add]) (by omega)
  have e19 : ∀ K1 : Int32 → Option Int32, g_mA M 0 0 (Int32.ofNat p + (19 : Int32) + Int32.ofNat i) K1 = K1 (M.1 0 (p + 19 + i)) := fun K1 => e_r' (i := p + 19 + i) (by show Int32.ofNat p + Int32.ofNat 19 + Int32.ofNat i = _; rw [i_add, i_add]) (by omega)
  have ei : Int32.ofNat i + (1 : Int32) = Int32.ofNat (i + 1) := i_add
  have hb0 : Int32.ofNat b + (0 : Int32) = Int32.ofNat (b + 0) := i_add
  have hb1 : Int32.ofNat b + (1 : Int32) = Int32.ofNat (b + 1) := i_add
  have q0 : (0 : Int32) = Int32.ofNat 0 := rfl
  unfold Mod_countLabels_70 Mod_countLabels_106 Mod_countLabels_136 Mod_countLabels_177 Mod_countLabels_196 Mod_countLabels_197 Mod_countLabels_210
  rw [e7]
  simp only [e19, ei, hb0, hb1, if_pos (rfl : (0 : Int32) = 0), if_neg (by decide : ¬ (1 : Int32) = 0)]
  rcases (show sort = 0 ∨ sort = 1 ∨ sort = 2 ∨ sort = 3 by omega) with rfl | rfl | rfl | rfl
  · rw [if_pos (by rfl)]
    unfold cq
    by_cases a1 : M.1 0 (p + 1 + i) = v <;> by_cases a2 : M.1 0 (p + 7 + i) = v <;> simp [a1, a2, b32, bN]
  · rw [if_neg (by decide), if_pos (by rfl)]
    unfold cq
    by_cases a1 : M.1 0 (p + 1 + i) = v
    · by_cases a2 : M.1 0 (p + 7 + i) = v
      · simp [a1, a2, b32, bN]
      · by_cases a3 : M.1 0 (p + 7 + i) = -1
        · simp [a1, a3, b32, bN]
        · simp [a1, a2, a3, b32, bN]
    · simp [a1, b32, bN]
  · rw [if_neg (by decide), if_neg (by decide), if_pos (by rfl)]
    unfold cq
    by_cases a1 : M.1 0 (p + 1 + i) = v
    · by_cases a3 : M.1 0 (p + 7 + i) = -1
      · simp [a1, a3, b32, bN]
      · by_cases a4 : M.1 0 (p + 19 + i) = 1 <;> simp [a1, a3, a4, b32, bN]
    · simp [a1, b32, bN]
  · rw [if_neg (by decide), if_neg (by decide), if_neg (by decide)]
    unfold cq
    by_cases a1 : M.1 0 (p + 1 + i) = v <;> by_cases a2 : M.1 0 (p + 7 + i) = v <;> simp [a1, a2, b32, bN]
theorem t_count37 {v : Int32} {sort : Nat} (hso : sort < 4) (hp : nm (M.1 0) p 7) (hp2 : p + 25 ≤ 1112) {k5 : Int32 → Int32 → Int32 → Int32 → Option (Int32)} {k19 : Int32 → Int32 → Int32 → Int32 → Int32 → Option (Int32)} : ∀ m j b, 1 ≤ j → j ≤ 100 → nt (M.1 0) p - j < m →
    Mod_countLabels_37 M k5 k19 m v (Int32.ofNat sort) (Int32.ofNat b) (Int32.ofNat c) (Int32.ofNat w) (Int32.ofNat p) (Int32.ofNat j) = k19 v (Int32.ofNat sort) (Int32.ofNat (b + sumN (fun i => bN (cq (M.1 0) v sort p i)) j (nt (M.1 0) p - j))) (Int32.ofNat c) (Int32.ofNat (w + 1)) := by
  have hp6 := hp.2
  intro m
  induction m with
  | zero => intro j _ _ _ h; omega
  | succ m ih =>
    intro j b hj hj2 hm
    rw [Mod_countLabels_37, e_r (by omega), hp.1]
    by_cases hc : nt (M.1 0) p ≤ j
    · rw [if_pos ((i_le (by omega) (by omega)).mpr hc), show nt (M.1 0) p - j = 0 by omega, show Int32.ofNat w + (1 : Int32) = Int32.ofNat (w + 1) from i_add]
      rfl
    · rw [if_neg (fun q => hc ((i_le (by omega) (by omega)).mp q)), e_r' (i := p + 1 + j) (by show Int32.ofNat p + Int32.ofNat 1 + Int32.ofNat j = _; rw [i_add, i_add]) (by omega)]
      have h70 := t_count70 (M := M) (v := v) (sort := sort) (i := j) (b := b) (p := p) hso hp2 (by omega) (k5 := k5) (k19 := k19) (k37 := Mod_countLabels_37 M k5 k19 m) (c' := Int32.ofNat c) (w' := Int32.ofNat w)
      rw [ih (j + 1) _ (by omega) (by omega) (by omega)] at h70
      rw [sumN_step (j := j) (n := nt (M.1 0) p) (by omega), ← Nat.add_assoc, ← h70]
      by_cases e : M.1 0 (p + 1 + j) = v
      · rw [if_pos e, decide_eq_true e]; rfl
      · rw [if_neg e, decide_eq_false e]; rfl
theorem t_countLabels (hA : InvA (M.1 0)) (hI : InvW (M.1 0)) {v : Int32} {sort : Nat} (hso : sort < 4) : Mod_countLabels M v (Int32.ofNat sort) = some (Int32.ofNat (ct (M.1 0) (fun p i => bN (cq (M.1 0) v sort p i)))) := by
  have h4 := nm4 hA
  have loop : ∀ m j b, j ≤ nt (M.1 0) 4 → nt (M.1 0) 4 - j < m → Mod_countLabels_5 M m v (Int32.ofNat sort) (Int32.ofNat b) (Int32.ofNat j) = some (Int32.ofNat (b + sumN (fun c => ctw (fun i => bN (cq (M.1 0) v sort (wp c 0) i)) (nt (M.1 0) (wp c 0)) + ctw (fun i => bN (cq (M.1 0) v sort (wp c 1) i)) (nt (M.1 0) (wp c 1))) j (nt (M.1 0) 4 - j))) := by
    intro m
    induction m with
    | zero => intro j _ _ h; omega
    | succ m ih =>
      intro j b hj hm
      rw [Mod_countLabels_5, e_r' (i := 4) (j := (4 : Int32)) rfl (by decide), hA.1.2.2.1.1]
      by_cases hc : nt (M.1 0) 4 ≤ j
      · have : j = nt (M.1 0) 4 := by omega
        subst this
        rw [if_pos ((i_le (by omega) (by omega)).mpr hc), sumN_end]
        rfl
      · rw [if_neg (fun q => hc ((i_le (by omega) (by omega)).mp q)), sumN_step (by omega)]
        have b0 := (hI j 0 (by omega) (by omega)).1
        have b1 := (hI j 1 (by omega) (by omega)).1
        have b0' := b0.2
        have b1' := b1.2
        rw [show gFU = 999997 + 3 from rfl, Mod_countLabels_19, if_neg (by decide), e_b (show Mod_wayPlace (Int32.ofNat j) (0 : Int32) = some (Int32.ofNat (wp j 0)) from t_wayPlace (w := 0))]
        rw [show (0 : Int32) = Int32.ofNat 0 from rfl, show (1 : Int32) = Int32.ofNat 1 from rfl, t_count37 hso b0 (by unfold wp; omega) gFU 1 _ (by omega) (by omega) (by unfold gFU; omega)]
        rw [Mod_countLabels_19, if_neg (by decide), e_b (t_wayPlace (w := 1))]
        rw [show (1 : Int32) = Int32.ofNat 1 from rfl, t_count37 hso b1 (by unfold wp; omega) gFU 1 _ (by omega) (by omega) (by unfold gFU; omega)]
        rw [Mod_countLabels_19, if_pos (by decide), show Int32.ofNat j + (1 : Int32) = Int32.ofNat (j + 1) from i_add]
        rw [ih (j + 1) _ (by omega) (by omega)]
        congr 2
        unfold ctw
        omega
  have := loop gFU 0 0 (by omega) (by unfold gFU; omega)
  rw [Nat.zero_add] at this
  exact this
/-- borrowed labels -/
theorem c_borrowedBy (hW : WF h) (hR : RN h G a r N L C K mC) (hA : InvA r) (hI : InvW r) {u : Nat} (hu : u < nt r 2) : Net_borrowedBy h a (Int32.ofNat u) = some (Int32.ofNat (ct r (fun p i => bN (cq r (Int32.ofNat u) 1 p i)))) := by
  obtain ⟨ha, hl, hN, -, -, -⟩ := hR.lst
  have h2 := nm2 hA
  have hLab := hR.2.2.2.2.2.2
  have loop : ∀ m j b, j ≤ nt r 2 → nt r 2 - j < m → Net_borrowedBy_4 h m a (Int32.ofNat u) (Int32.ofNat b) (Int32.ofNat j) = some (Int32.ofNat (b + sumN (fun k => if k = u then 0 else hb r k (Int32.ofNat u)) j (nt r 2 - j))) := by
    intro m
    induction m with
    | zero => intro j _ _ h; omega
    | succ m ih =>
      intro j b hj hm
      rw [Net_borrowedBy_4, v_gR hW ha rfl, hl 1 (by omega) (by omega), e_nn, v_is hN.1, e_b (ls_size hW hN)]
      by_cases hc : nt r 2 ≤ j
      · have : j = nt r 2 := by omega
        subst this
        rw [if_pos ((i_le (by omega) (by omega)).mpr hc), sumN_end]
        rfl
      · rw [if_neg (fun q => hc ((i_le (by omega) (by omega)).mp q)), sumN_step (by omega)]
        unfold Net_borrowedBy_40
        rw [show Int32.ofNat j + (1 : Int32) = Int32.ofNat (j + 1) from i_add]
        by_cases e : j = u
        · rw [if_pos (by rw [e]), if_pos e, show Int32.ofNat b + (0 : Int32) = Int32.ofNat (b + 0) from i_add, ih (j + 1) (b + 0) (by omega) (by omega), Nat.add_assoc]
        · rw [if_neg (fun q => e ((i_eq (by omega) (by omega)).mp q)), if_neg e]
          have hx := hR.2.2.1 j (by omega)
          rw [v_gR hW ha rfl, hl 1 (by omega) (by omega), e_nn, v_is hN.1, e_b (ls_get hW hN (by omega)), v_ck hx.1.1, e_nn, v_is hx.1.1, e_b (c_heldBy hW hx hA (by omega)), heldBy_ct hLab hA hI (by omega) hu, i_add, ih (j + 1) _ (by omega) (by omega), Nat.add_assoc]
  have := loop gFU 0 0 (by omega) (by unfold gFU; omega)
  rw [Nat.zero_add] at this
  unfold Net_borrowedBy
  refine Eq.trans this ?_
  congr 2
  have e1 : sumN (fun k => if k = u then 0 else hb r k (Int32.ofNat u)) 0 (nt r 2 - 0) = sumN (fun k => ct r (fun p i => if k = u then 0 else bN (decide (r (p + 7 + i) = Int32.ofNat k) && decide (r (p + 1 + i) = Int32.ofNat u)))) 0 (nt r 2) := by
    refine sumN_congr _ _ (fun k _ _ => ?_)
    by_cases e : k = u
    · rw [if_pos e, ct_zero (fun c w i _ _ _ _ => if_pos e)]
    · rw [if_neg e]
      unfold hb
      refine ct_congr (fun c w i _ _ _ _ => ?_)
      rw [if_neg e]
  rw [e1, ct_swap]
  refine ct_congr (fun c w i y1 y2 y3 y4 => ?_)
  unfold cq
  rw [if_neg (by decide), if_pos rfl]
  by_cases hat : r (wp c w + 1 + i) = Int32.ofNat u
  · by_cases hm1 : r (wp c w + 7 + i) = -1
    · rw [sumN_zero _ _ (fun k _ hk => ?_)]
      · simp [hm1, bN]
      · split
        · rfl
        · rw [hm1, decide_eq_false (fun q => m1_ne (by omega) q.symm)]; rfl
    · obtain ⟨p1, p2, p3⟩ := Pos.rng hI hA y1 y2 y3 y4 hm1
      have ef := p1.2.2.2.2.1
      rw [sumN_single (j0 := nt r (wp c w + 7 + i)) _ _ (by omega) (by omega) (fun k _ hk hne => ?_)]
      · rw [decide_eq_true hat, decide_eq_true ef, decide_eq_false hm1]
        by_cases e : nt r (wp c w + 7 + i) = u
        · rw [if_pos e, decide_eq_true (show r (wp c w + 7 + i) = Int32.ofNat u by rw [ef, e])]; rfl
        · rw [if_neg e, decide_eq_false (show ¬ r (wp c w + 7 + i) = Int32.ofNat u by rw [ef]; intro q; exact e ((i_eq (by omega) (by omega)).mp q))]; rfl
      · split
        · rfl
        · rw [decide_eq_false (show ¬ r (wp c w + 7 + i) = Int32.ofNat k by rw [ef]; intro q; exact hne ((i_eq (by omega) (by omega)).mp q).symm)]; rfl
  · rw [sumN_zero _ _ (fun k _ hk => ?_)]
    · rw [decide_eq_false hat]; rfl
    · split
      · rfl
      · rw [decide_eq_false hat, Bool.and_false]; rfl
end COUNT
