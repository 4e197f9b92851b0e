/-! LEVEL 2: who holds a label (the twin's search); sums -/
def sumN (f : Nat → Nat) : Nat → Nat → Nat
  | _, 0 => 0
  | k, m + 1 => f k + sumN f (k + 1) m
theorem sumN_congr {f g : Nat → Nat} : ∀ m k, (∀ j, k ≤ j → j < k + m → f j = g j) → sumN f k m = sumN g k m
  | 0, _, _ => rfl
  | m + 1, k, h => by
    unfold sumN
    rw [h k (Nat.le_refl _) (by omega), sumN_congr m (k + 1) (fun j h1 h2 => h j (by omega) (by omega))]
theorem sumN_zero {f : Nat → Nat} : ∀ m k, (∀ j, k ≤ j → j < k + m → f j = 0) → sumN f k m = 0
  | 0, _, _ => rfl
  | m + 1, k, h => by
    unfold sumN
    rw [h k (Nat.le_refl _) (by omega), sumN_zero m (k + 1) (fun j h1 h2 => h j (by omega) (by omega))]
theorem sumN_add {f g : Nat → Nat} : ∀ m k, sumN (fun j => f j + g j) k m = sumN f k m + sumN g k m
  | 0, _ => rfl
  | m + 1, k => by
    unfold sumN
    rw [sumN_add m (k + 1)]; omega
theorem sumN_swap {f : Nat → Nat → Nat} {k' m' : Nat} : ∀ m k, sumN (fun i => sumN (fun j => f i j) k' m') k m = sumN (fun j => sumN (fun i => f i j) k m) k' m'
  | 0, _ => (sumN_zero _ _ (fun _ _ _ => rfl)).symm
  | m + 1, k => by
    rw [show sumN (fun i => sumN (fun j => f i j) k' m') k (m + 1) = sumN (fun j => f k j) k' m' + sumN (fun i => sumN (fun j => f i j) k' m') (k + 1) m from rfl, sumN_swap m (k + 1), ← sumN_add]
    rfl
theorem sumN_single {f : Nat → Nat} {j0 : Nat} : ∀ m k, k ≤ j0 → j0 < k + m → (∀ j, k ≤ j → j < k + m → j ≠ j0 → f j = 0) → sumN f k m = f j0
  | 0, k, h1, h2, _ => by omega
  | m + 1, k, h1, h2, h => by
    unfold sumN
    by_cases e : k = j0
    · subst e
      rw [sumN_zero m (k + 1) (fun j x1 x2 => h j (by omega) (by omega) (by omega))]; omega
    · rw [h k (Nat.le_refl _) (by omega) e, sumN_single m (k + 1) (by omega) (by omega) (fun j x1 x2 x3 => h j (by omega) (by omega) x3)]; omega
theorem sumN_le {f : Nat → Nat} {b : Nat} : ∀ m k, (∀ j, k ≤ j → j < k + m → f j ≤ b) → sumN f k m ≤ m * b
  | 0, _, _ => Nat.zero_le _
  | m + 1, k, h => by
    unfold sumN
    have h1 := h k (Nat.le_refl _) (by omega)
    have h2 := sumN_le m (k + 1) (fun j x1 x2 => h j (by omega) (by omega))
    rw [Nat.add_mul]; omega
theorem sumN_end {f : Nat → Nat} {n : Nat} : sumN f n (n - n) = 0 := by rw [Nat.sub_self]; rfl
theorem sumN_step {f : Nat → Nat} {j n : Nat} (h : j < n) : sumN f j (n - j) = f j + sumN f (j + 1) (n - (j + 1)) := by
  rw [show n - j = (n - (j + 1)) + 1 by omega]
  rfl
def bN (b : Bool) : Nat := if b then 1 else 0
theorem b32_bN {b : Bool} : b32 b = Int32.ofNat (bN b) := by cases b <;> rfl
theorem bN_le {b : Bool} : bN b ≤ 1 := by cases b <;> decide
theorem sumN_pos {p : Nat → Bool} : ∀ m k, 0 < sumN (fun j => bN (p j)) k m ↔ fsN p k m < k + m
  | 0, k => by unfold sumN fsN; omega
  | m + 1, k => by
    unfold sumN fsN
    have := sumN_pos (p := p) m (k + 1)
    cases e : p k with
    | true =>
      have hb : bN true = 1 := rfl
      rw [if_pos rfl]; omega
    | false =>
      have hb : bN false = 0 := rfl
      rw [if_neg (by decide)]; omega
/-- only the places where a label was found change -/
def Mq (M M' : g_MD) : Prop := M'.1 = M.1 ∧ (∀ j, j ≠ 18 → j ≠ 19 → j ≠ 20 → M'.2.1 j = M.2.1 j) ∧ M'.2.2 = M.2.2
theorem Mq.rf {M : g_MD} : Mq M M := ⟨rfl, fun _ _ _ _ => rfl, rfl⟩
theorem Mq.tr {A B C : g_MD} (x : Mq A B) (y : Mq B C) : Mq A C := ⟨y.1.trans x.1, fun j a b c => (y.2.1 j a b c).trans (x.2.1 j a b c), y.2.2.trans x.2.2⟩
def fnd (M : g_MD) (c w i : Nat) : g_MD := mp (mp (mp M 18 (Int32.ofNat c)) 19 (Int32.ofNat w)) 20 (Int32.ofNat i)
theorem fnd_q {M : g_MD} {c w i : Nat} : Mq M (fnd M c w i) := by
  refine ⟨rfl, fun j a b c => ?_, rfl⟩
  show (if j = 20 then _ else if j = 19 then _ else if j = 18 then _ else _) = _
  rw [if_neg c, if_neg b, if_neg a]
/-- the first place of the way at p with the label (s, l) -/
def mI (r : tR) (p s l : Nat) : Nat := fsN (fun i => decide (r (p + 7 + i) = Int32.ofNat s) && decide (r (p + 13 + i) = Int32.ofNat l)) 1 (nt r p - 1)
def mF0 (r : tR) (p s l : Nat) : Bool := decide (mI r p s l < nt r p)
def hC (r : tR) (s l c : Nat) : Bool := mF0 r (wp c 0) s l || mF0 r (wp c 1) s l
def fC (r : tR) (s l : Nat) : Nat := fsN (hC r s l) 0 (nt r 4)
def hld (r : tR) (s l : Nat) : Bool := decide (fC r s l < nt r 4)
def fW (r : tR) (s l : Nat) : Nat := if mF0 r (wp (fC r s l) 0) s l = true then 0 else 1
def fI (r : tR) (s l : Nat) : Nat := mI r (wp (fC r s l) (fW r s l)) s l
section HOLD
variable {h : g_AH} {G : Nat → Prop} {a : Nat} {r : tR} {N L C K : Nat → Nat} {mC x k p c w n s l : Nat} {M : g_MD} {D : Nat → Int32}
theorem mF0_pos (hp : 1 ≤ nt r p) (e : mF0 r p s l = true) : 0 < mI r p s l ∧ mI r p s l < nt r p ∧ r (p + 7 + mI r p s l) = Int32.ofNat s ∧ r (p + 13 + mI r p s l) = Int32.ofNat l := by
  have h1 : mI r p s l < nt r p := of_decide_eq_true e
  have h2 := fsN_le (p := fun i => decide (r (p + 7 + i) = Int32.ofNat s) && decide (r (p + 13 + i) = Int32.ofNat l)) (nt r p - 1) 1
  have h3 := fsN_is (p := fun i => decide (r (p + 7 + i) = Int32.ofNat s) && decide (r (p + 13 + i) = Int32.ofNat l)) (nt r p - 1) 1 (by unfold mI at h1; omega)
  simp only [Bool.and_eq_true, decide_eq_true_eq] at h3
  exact ⟨h2.1, h1, h3⟩
theorem mF0_of {i : Nat} (h0 : 0 < i) (hi : i < nt r p) (h1 : r (p + 7 + i) = Int32.ofNat s) (h2 : r (p + 13 + i) = Int32.ofNat l) : mF0 r p s l = true := by
  have := fsN_ex (p := fun i => decide (r (p + 7 + i) = Int32.ofNat s) && decide (r (p + 13 + i) = Int32.ofNat l)) (m := nt r p - 1) (k := 1) (j := i) (by omega) (by omega) (by simp [h1, h2])
  unfold mF0 mI
  exact decide_eq_true (by omega)
theorem mF0_len (e : mF0 r p s l = true) : 1 ≤ nt r p := by
  have h1 : mI r p s l < nt r p := of_decide_eq_true e
  omega
theorem hld_pos (e : hld r s l = true) : Pos r (fC r s l) (fW r s l) (fI r s l) s l := by
  have h1 : fC r s l < nt r 4 := of_decide_eq_true e
  have h2 := fsN_is (p := hC r s l) (nt r 4) 0 (by unfold fC at h1; omega)
  have h2' : hC r s l (fC r s l) = true := h2
  unfold fI fW
  by_cases h3 : mF0 r (wp (fC r s l) 0) s l = true
  · rw [if_pos h3]
    obtain ⟨x1, x2, x3, x4⟩ := mF0_pos (mF0_len h3) h3
    exact ⟨h1, by omega, x1, x2, x3, x4⟩
  · rw [if_neg h3]
    have h4 : mF0 r (wp (fC r s l) 1) s l = true := by
      unfold hC at h2'
      rcases Bool.or_eq_true_iff.mp h2' with q | q
      · exact absurd q h3
      · exact q
    obtain ⟨x1, x2, x3, x4⟩ := mF0_pos (mF0_len h4) h4
    exact ⟨h1, by omega, x1, x2, x3, x4⟩
theorem hld_of {i : Nat} (e : Pos r c w i s l) : hld r s l = true := by
  obtain ⟨h1, h2, h3, h4, h5, h6⟩ := e
  have h7 : hC r s l c = true := by
    unfold hC
    rcases (show w = 0 ∨ w = 1 by omega) with rfl | rfl
    · rw [mF0_of h3 h4 h5 h6, Bool.true_or]
    · rw [mF0_of h3 h4 h5 h6, Bool.or_true]
  have := fsN_ex (p := hC r s l) (m := nt r 4) (k := 0) (j := c) (by omega) (by omega) h7
  unfold hld fC
  exact decide_eq_true (by omega)
theorem hld_iff : hld r s l = true ↔ ∃ c w i, Pos r c w i s l := ⟨fun e => ⟨_, _, _, hld_pos e⟩, fun ⟨_, _, _, e⟩ => hld_of e⟩
theorem t_find32 (hp : nm (M.1 0) p 7) (hp2 : p + 25 ≤ 1112) {k2 : g_MD → Int32 → Int32 → Int32 → Option (Int32 × g_MD)} {k15 : g_MD → Int32 → Int32 → Int32 → Int32 → Option (Int32 × g_MD)} : ∀ m j, 1 ≤ j → j ≤ 100 → nt (M.1 0) p - j < m →
    Mod_findHolder_32 k2 k15 m M (Int32.ofNat s) (Int32.ofNat l) (Int32.ofNat c) (Int32.ofNat w) (Int32.ofNat p) (Int32.ofNat j) =
      if fsN (fun i => decide (M.1 0 (p + 7 + i) = Int32.ofNat s) && decide (M.1 0 (p + 13 + i) = Int32.ofNat l)) j (nt (M.1 0) p - j) < nt (M.1 0) p then some (1, fnd M c w (fsN (fun i => decide (M.1 0 (p + 7 + i) = Int32.ofNat s) && decide (M.1 0 (p + 13 + i) = Int32.ofNat l)) j (nt (M.1 0) p - j))) else k15 M (Int32.ofNat s) (Int32.ofNat l) (Int32.ofNat c) (Int32.ofNat (w + 1)) := by
  have hp6 := hp.2
  intro m
  induction m with
  | zero => intro j _ _ h; omega
  | succ m ih =>
    intro j hj hj2 hm
    rw [Mod_findHolder_32, e_r (by omega), hp.1]
    by_cases hc : nt (M.1 0) p ≤ j
    · rw [if_pos ((i_le (by omega) (by omega)).mpr hc), show nt (M.1 0) p - j = 0 by omega]
      rw [if_neg (by unfold fsN; omega), show Int32.ofNat w + (1 : Int32) = Int32.ofNat (w + 1) from i_add]
    · rw [if_neg (fun q => hc ((i_le (by omega) (by omega)).mp q)), fsN_step (j := j) (n := nt (M.1 0) p) (by omega)]
      rw [e_r' (i := p + 7 + j) (by show Int32.ofNat p + Int32.ofNat 7 + Int32.ofNat j = _; rw [i_add, i_add]) (by omega)]
      unfold Mod_findHolder_97
      rw [show Int32.ofNat j + (1 : Int32) = Int32.ofNat (j + 1) from i_add, ih (j + 1) (by omega) (by omega) (by omega)]
      by_cases h1 : M.1 0 (p + 7 + j) = Int32.ofNat s
      · rw [if_pos h1, e_r' (i := p + 13 + j) (by show Int32.ofNat p + Int32.ofNat 13 + Int32.ofNat j = _; rw [i_add, i_add]) (by omega)]
        by_cases h2 : M.1 0 (p + 13 + j) = Int32.ofNat l
        · rw [if_pos h2, if_pos (show (decide (M.1 0 (p + 7 + j) = Int32.ofNat s) && decide (M.1 0 (p + 13 + j) = Int32.ofNat l)) = true by simp [h1, h2]), if_pos (by omega)]
          rfl
        · rw [if_neg h2, if_neg (show ¬ (decide (M.1 0 (p + 7 + j) = Int32.ofNat s) && decide (M.1 0 (p + 13 + j) = Int32.ofNat l)) = true by simp [h2])]
      · rw [if_neg h1, if_neg (show ¬ (decide (M.1 0 (p + 7 + j) = Int32.ofNat s) && decide (M.1 0 (p + 13 + j) = Int32.ofNat l)) = true by simp [h1])]
theorem t_find15 (hI : InvW (M.1 0)) (hc : c < nt (M.1 0) 4) (hc8 : c < 8) {k2 : g_MD → Int32 → Int32 → Int32 → Option (Int32 × g_MD)} {m : Nat} : Mod_findHolder_15 k2 (m + 3) M (Int32.ofNat s) (Int32.ofNat l) (Int32.ofNat c) (0 : Int32) =
    if mF0 (M.1 0) (wp c 0) s l = true then some (1, fnd M c 0 (mI (M.1 0) (wp c 0) s l)) else if mF0 (M.1 0) (wp c 1) s l = true then some (1, fnd M c 1 (mI (M.1 0) (wp c 1) s l)) else k2 M (Int32.ofNat s) (Int32.ofNat l) (Int32.ofNat (c + 1)) := by
  have b0 := (hI c 0 hc (by omega)).1.2
  have b1 := (hI c 1 hc (by omega)).1.2
  rw [Mod_findHolder_15, if_neg (by decide), e_b (show Mod_wayPlace (Int32.ofNat c) (0 : Int32) = some (Int32.ofNat (wp c 0)) from t_wayPlace (w := 0))]
  rw [show (0 : Int32) = Int32.ofNat 0 from rfl, show (1 : Int32) = Int32.ofNat 1 from rfl, t_find32 (hI c 0 hc (by omega)).1 (by unfold wp; omega) gFU 1 (by omega) (by omega) (by unfold gFU; omega)]
  show (if mI (M.1 0) (wp c 0) s l < nt (M.1 0) (wp c 0) then _ else _) = _
  by_cases h1 : mF0 (M.1 0) (wp c 0) s l = true
  · rw [if_pos h1, if_pos (of_decide_eq_true h1)]; rfl
  · rw [if_neg h1, if_neg (fun q => h1 (decide_eq_true q))]
    rw [Mod_findHolder_15, if_neg (by decide), e_b (t_wayPlace (w := 1))]
    rw [show (1 : Int32) = Int32.ofNat 1 from rfl, t_find32 (hI c 1 hc (by omega)).1 (by unfold wp; omega) gFU 1 (by omega) (by omega) (by unfold gFU; omega)]
    show (if mI (M.1 0) (wp c 1) s l < nt (M.1 0) (wp c 1) then _ else _) = _
    by_cases h2 : mF0 (M.1 0) (wp c 1) s l = true
    · rw [if_pos h2, if_pos (of_decide_eq_true h2)]; rfl
    · rw [if_neg h2, if_neg (fun q => h2 (decide_eq_true q))]
      rw [Mod_findHolder_15, if_pos (by decide)]
      rw [show Int32.ofNat c + (1 : Int32) = Int32.ofNat (c + 1) from i_add]
theorem t_findHolder (hA : InvA (M.1 0)) (hI : InvW (M.1 0)) : Mod_findHolder M (Int32.ofNat s) (Int32.ofNat l) = if hld (M.1 0) s l = true then some (1, fnd M (fC (M.1 0) s l) (fW (M.1 0) s l) (fI (M.1 0) s l)) else some (0, M) := by
  have h4 := nm4 hA
  have loop : ∀ m j, j ≤ nt (M.1 0) 4 → nt (M.1 0) 4 - j < m → (∀ i, i < j → hC (M.1 0) s l i = false) → Mod_findHolder_2 m M (Int32.ofNat s) (Int32.ofNat l) (Int32.ofNat j) = if hld (M.1 0) s l = true then some (1, fnd M (fC (M.1 0) s l) (fW (M.1 0) s l) (fI (M.1 0) s l)) else some (0, M) := by
    intro m
    induction m with
    | zero => intro j _ h; omega
    | succ m ih =>
      intro j hj hm hno
      rw [Mod_findHolder_2, e_r' (i := 4) (j := (4 : Int32)) rfl (by decide), hA.1.2.2.1.1]
      by_cases hc : nt (M.1 0) 4 ≤ j
      · rw [if_pos ((i_le (by omega) (by omega)).mpr hc), if_neg]
        intro q
        have q1 : fC (M.1 0) s l < nt (M.1 0) 4 := of_decide_eq_true q
        have q2 := fsN_is (p := hC (M.1 0) s l) (nt (M.1 0) 4) 0 (by unfold fC at q1; omega)
        have q3 := hno (fC (M.1 0) s l) (by omega)
        unfold fC at q3
        rw [q2] at q3; cases q3
      · rw [if_neg (fun q => hc ((i_le (by omega) (by omega)).mp q))]
        rw [show gFU = 999997 + 3 from rfl, t_find15 hI (by omega) (by omega)]
        by_cases hx : hC (M.1 0) s l j = true
        · have e1 : fC (M.1 0) s l = j := by
            have a1 := fsN_ex (p := hC (M.1 0) s l) (m := nt (M.1 0) 4) (k := 0) (j := j) (by omega) (by omega) hx
            by_cases a2 : fC (M.1 0) s l < j
            · have a3 := hno _ a2
              have a4 := fsN_is (p := hC (M.1 0) s l) (nt (M.1 0) 4) 0 (by unfold fC at a2; omega)
              unfold fC at a3
              rw [a4] at a3; cases a3
            · unfold fC at a2 ⊢; omega
          rw [if_pos (show hld (M.1 0) s l = true from decide_eq_true (by omega))]
          unfold fI fW
          rw [e1]
          by_cases h1 : mF0 (M.1 0) (wp j 0) s l = true
          · rw [if_pos h1, if_pos h1]
          · have h2 : mF0 (M.1 0) (wp j 1) s l = true := by
              unfold hC at hx
              rcases Bool.or_eq_true_iff.mp hx with q | q
              · exact absurd q h1
              · exact q
            rw [if_neg h1, if_neg h1, if_pos h2]
        · have hx' : hC (M.1 0) s l j = false := by simpa using hx
          unfold hC at hx'
          obtain ⟨y1, y2⟩ := Bool.or_eq_false_iff.mp hx'
          rw [if_neg (by rw [y1]; decide), if_neg (by rw [y2]; decide)]
          refine ih (j + 1) (by omega) (by omega) (fun i hi => ?_)
          by_cases e : i = j
          · subst e; simpa using hx
          · exact hno i (by omega)
  exact loop gFU 0 (by omega) (by unfold gFU; omega) (fun i hi => by omega)
/-- what the twin's search answers, and what it leaves -/
theorem t_find (hA : InvA (M.1 0)) (hI : InvW (M.1 0)) : ∃ M', Mod_findHolder M (Int32.ofNat s) (Int32.ofNat l) = some (b32 (hld (M.1 0) s l), M') ∧ Mq M M' := by
  rw [t_findHolder hA hI]
  cases e : hld (M.1 0) s l with
  | true => exact ⟨_, by rw [if_pos rfl]; rfl, fnd_q⟩
  | false => exact ⟨M, by rw [if_neg (by decide)]; rfl, Mq.rf⟩
end HOLD
