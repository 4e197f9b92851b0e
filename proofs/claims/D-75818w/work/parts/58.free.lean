/-! LEVEL 2: free labels, lenders -/
def fr (r : tR) (s : Nat) : Nat := sumN (fun l => bN (!hld r s l)) 0 (nt r (14 + s))
def lo (r : tR) (s : Nat) : Nat := fsN (fun l => !hld r s l) 0 (nt r (14 + s))
/-- one above the last of 0 .. n - 1 with p, or 0 -/
def hiN (p : Nat → Bool) : Nat → Nat
  | 0 => 0
  | n + 1 => if p n = true then n + 1 else hiN p n
theorem hiN_le {p : Nat → Bool} : ∀ n, hiN p n ≤ n
  | 0 => Nat.le_refl _
  | n + 1 => by
    unfold hiN
    split
    · exact Nat.le_refl _
    · have := hiN_le (p := p) n; omega
theorem hiN_is {p : Nat → Bool} : ∀ n, 0 < hiN p n → p (hiN p n - 1) = true
  | 0 => fun h => by unfold hiN at h; omega
  | n + 1 => fun h => by
    unfold hiN at h ⊢
    split
    · rename_i e; simpa using e
    · rename_i e; rw [if_neg e] at h; exact hiN_is n h
theorem hiN_pos {p : Nat → Bool} {j : Nat} : ∀ n, j < n → p j = true → 0 < hiN p n
  | 0 => fun h => by omega
  | n + 1 => fun h e => by
    unfold hiN
    split
    · omega
    · rename_i e1
      by_cases q : j = n
      · subst q; exact absurd e e1
      · exact hiN_pos n (by omega) e
def hi (r : tR) (s : Nat) : Nat := hiN (fun l => !hld r s l) (nt r (14 + s))
theorem fr_lo {r : tR} {s : Nat} : 0 < fr r s ↔ lo r s < nt r (14 + s) := by
  have := sumN_pos (p := fun l => !hld r s l) (nt r (14 + s)) 0
  unfold fr lo
  rw [this]; omega
theorem fr_hi {r : tR} {s : Nat} (h : 0 < fr r s) : 0 < hi r s := by
  have h1 := fr_lo.mp h
  have h2 := fsN_is (p := fun l => !hld r s l) (nt r (14 + s)) 0 (by unfold lo at h1; omega)
  exact hiN_pos _ h1 h2
theorem fr_le {r : tR} {s : Nat} : fr r s ≤ nt r (14 + s) := by
  have := sumN_le (f := fun l => bN (!hld r s l)) (b := 1) (nt r (14 + s)) 0 (fun j _ _ => bN_le)
  unfold fr; omega
def hiI (n : Nat) : Int32 := if n = 0 then -1 else Int32.ofNat (n - 1)
section FREE
variable {h : g_AH} {G : Nat → Prop} {a : Nat} {r : tR} {N L C K : Nat → Nat} {mC x k p c w n s l : Nat} {M : g_MD} {D : Nat → Int32}
theorem node_arr (hW : WF h) {α : Type} {K1 : Nat → Int32 → Option α} {i f t : Nat} (hc : cl h x = some 10) (hf : 1 ≤ f ∧ f ≤ 4) (ht : t = if f ≤ 2 then 0 else 1) (hn : AL h 10 f x = n) (hi : i < n) (hn2 : n < 1000) : (g_gR h x 10 f fun y => g_nn y fun q => g_aI h t q (Int32.ofNat i) fun z => K1 q z) = K1 ((Rf h 10 f x).getD 0) (Ar h 10 f x i) := by
  obtain ⟨q, hq⟩ := AL_ref hn (by omega)
  have hk : (2 ≤ kd 10 f && kd 10 f ≤ 8) = true ∧ (3 ≤ kd 10 f && kd 10 f ≤ 5) = true ∧ kd 10 f - 3 = t := by
    rcases (show f = 1 ∨ f = 2 ∨ f = 3 ∨ f = 4 by omega) with rfl | rfl | rfl | rfl <;> subst ht <;> decide
  rw [v_gR hW hc hk.1, hq, e_nn, v_aI (t := t) hW hq hk.2.1 hk.2.2 (by rw [hn]; exact i_in hi (by omega)), i_cl (by omega)]
  rfl
theorem nm_sp (hA : InvA r) (hs : s < nt r 2) : r (14 + s) = Int32.ofNat (nt r (14 + s)) ∧ nt r (14 + s) < 13 := (hA.2.2.1 s hs).1
theorem lab_m1 (hL : LabR h r N) (hA : InvA r) (hI : InvW r) (hs : s < nt r 2) (hl : l < nt r (14 + s)) : Ar h 10 1 (N s) l = -1 ↔ hld r s l = false := by
  constructor
  · intro e
    cases e1 : hld r s l with
    | false => rfl
    | true =>
      have hp := hld_pos e1
      obtain ⟨x1, -⟩ := hL.1 _ _ _ _ _ hp hs hl
      have h2 := (hI _ _ hp.1 hp.2.1).2.1 _ hp.2.2.2.1
      rw [e] at x1
      rw [h2.1] at x1
      have := nm2 hA
      exact absurd x1.symm (m1_ne (by have := h2.2; omega))
  · intro e
    rcases hL.2 s l hs hl with q | ⟨c, w, i, q⟩
    · exact q
    · rw [hld_of q] at e; cases e
theorem c_heldBy (hW : WF h) (hx : NodeR h G r x s) (hA : InvA r) (hs : s < nt r 2) {u : Int32} : Node_heldBy h x u = some (Int32.ofNat (sumN (fun l => bN (decide (Ar h 10 1 x l = u))) 0 (nt r (14 + s)))) := by
  obtain ⟨⟨h1, -⟩, h2, h3⟩ := hx
  obtain ⟨h4, h5⟩ := nm_sp hA hs
  have loop : ∀ m j b, j ≤ nt r (14 + s) → nt r (14 + s) - j < m → Node_heldBy_4 h m x u (Int32.ofNat b) (Int32.ofNat j) = some (Int32.ofNat (b + sumN (fun l => bN (decide (Ar h 10 1 x l = u))) j (nt r (14 + s) - j))) := by
    intro m
    induction m with
    | zero => intro j _ _ h; omega
    | succ m ih =>
      intro j b hj hm
      rw [Node_heldBy_4, v_gI hW h1 rfl, h2, h4]
      by_cases hc : nt r (14 + s) ≤ j
      · have : j = nt r (14 + s) := by omega
        subst this
        rw [if_pos ((i_le (by omega) (by omega)).mpr hc), sumN_end]
        rfl
      · rw [if_neg (fun q => hc ((i_le (by omega) (by omega)).mp q)), node_arr (t := 0) (i := j) hW h1 (by omega) rfl (h3 1 (by omega) (by omega)) (by omega) (by omega), sumN_step (by omega)]
        unfold Node_heldBy_28
        rw [show Int32.ofNat j + (1 : Int32) = Int32.ofNat (j + 1) from i_add]
        by_cases e : Ar h 10 1 x j = u
        · rw [if_pos e, show Int32.ofNat b + (1 : Int32) = Int32.ofNat (b + 1) from i_add, ih (j + 1) (b + 1) (by omega) (by omega), show bN (decide (Ar h 10 1 x j = u)) = 1 by simp [e, bN], Nat.add_assoc]
        · rw [if_neg e, show Int32.ofNat b + (0 : Int32) = Int32.ofNat (b + 0) from i_add, ih (j + 1) (b + 0) (by omega) (by omega), show bN (decide (Ar h 10 1 x j = u)) = 0 by simp [e, bN], Nat.add_assoc]
  have := loop gFU 0 0 (by omega) (by unfold gFU; omega)
  rw [Nat.zero_add] at this
  exact this
theorem c_free (hW : WF h) (hR : RN h G a r N L C K mC) (hA : InvA r) (hI : InvW r) (hs : s < nt r 2) : Node_free h (N s) = some (Int32.ofNat (fr r s)) := by
  have hx := hR.2.2.1 s hs
  unfold Node_free
  rw [v_is hx.1.1, e_b (c_heldBy hW hx hA hs)]
  congr 2
  unfold fr
  refine sumN_congr _ _ (fun j _ hj => ?_)
  have := lab_m1 hR.2.2.2.2.2.2 hA hI hs (l := j) (by omega)
  cases e : hld r s j with
  | true =>
    have h1 : ¬ Ar h 10 1 (N s) j = -1 := fun q => by rw [this.mp q] at e; cases e
    simp [h1]
  | false => simp [this.mpr e]
theorem c_lowestFree (hW : WF h) (hR : RN h G a r N L C K mC) (hA : InvA r) (hI : InvW r) (hs : s < nt r 2) (hf : lo r s < nt r (14 + s)) : Node_lowestFree h (N s) = some (Int32.ofNat (lo r s)) := by
  obtain ⟨⟨h1, -⟩, h2, h3⟩ := hR.2.2.1 s hs
  obtain ⟨h4, h5⟩ := nm_sp hA hs
  have loop : ∀ m j, j ≤ lo r s → lo r s - j < m → Node_lowestFree_2 h m (N s) (Int32.ofNat j) = some (Int32.ofNat (lo r s)) := by
    intro m
    induction m with
    | zero => intro j _ h; omega
    | succ m ih =>
      intro j hj hm
      rw [Node_lowestFree_2, node_arr (t := 0) (i := j) hW h1 (by omega) rfl (h3 1 (by omega) (by omega)) (by omega) (by omega)]
      have hl := lab_m1 hR.2.2.2.2.2.2 hA hI hs (l := j) (by omega)
      by_cases e : j = lo r s
      · have h6 := fsN_is (p := fun l => !hld r s l) (nt r (14 + s)) 0 (by unfold lo at hf; omega)
        have h7 : hld r s j = false := by rw [e]; simpa [lo] using h6
        rw [if_pos (hl.mpr h7), e]
      · have h6 := fsN_not (p := fun l => !hld r s l) (nt r (14 + s)) 0 j (by omega) (by show j < lo r s; omega)
        rw [if_neg (fun q => by rw [hl.mp q] at h6; cases h6), show Int32.ofNat j + (1 : Int32) = Int32.ofNat (j + 1) from i_add]
        exact ih (j + 1) (by omega) (by omega)
  exact loop gFU 0 (by omega) (by unfold gFU; omega)
theorem c_highestFree (hW : WF h) (hR : RN h G a r N L C K mC) (hA : InvA r) (hI : InvW r) (hs : s < nt r 2) (hf : 0 < hi r s) : Node_highestFree h (N s) = some (Int32.ofNat (hi r s - 1)) := by
  obtain ⟨⟨h1, -⟩, h2, h3⟩ := hR.2.2.1 s hs
  obtain ⟨h4, h5⟩ := nm_sp hA hs
  have loop : ∀ m j, j < nt r (14 + s) → j < m → 0 < hiN (fun l => !hld r s l) (j + 1) → Node_highestFree_7 h m (N s) (Int32.ofNat j) = some (Int32.ofNat (hiN (fun l => !hld r s l) (j + 1) - 1)) := by
    intro m
    induction m with
    | zero => intro j _ h; omega
    | succ m ih =>
      intro j hj hm h0
      rw [Node_highestFree_7, node_arr (t := 0) (i := j) hW h1 (by omega) rfl (h3 1 (by omega) (by omega)) (by omega) (by omega)]
      have hl := lab_m1 hR.2.2.2.2.2.2 hA hI hs (l := j) (by omega)
      unfold hiN at h0 ⊢
      cases e : hld r s j with
      | false =>
        rw [if_pos (hl.mpr e), if_pos (by rfl)]
        rfl
      | true =>
        rw [e, if_neg (by decide)] at h0
        rw [if_neg (fun q => by rw [hl.mp q] at e; cases e), if_neg (by decide)]
        cases j with
        | zero => unfold hiN at h0; omega
        | succ j =>
          rw [show Int32.ofNat (j + 1) + (-1 : Int32) = Int32.ofNat j by rw [← i_add, Int32.add_assoc]; exact Int32.add_zero _]
          exact ih j (by omega) (by omega) h0
  have hsp : 0 < nt r (14 + s) := by have := hiN_le (p := fun l => !hld r s l) (nt r (14 + s)); unfold hi at hf; omega
  unfold Node_highestFree hi
  rw [v_gI hW h1 rfl, h2, h4, i_sub1 hsp]
  have h8 : nt r (14 + s) - 1 + 1 = nt r (14 + s) := by omega
  have := loop gFU (nt r (14 + s) - 1) (by omega) (by unfold gFU; omega) (by rw [h8]; exact hf)
  rw [h8] at this
  exact this
/-! the twin -/
theorem t_freeLabels (hA : InvA (M.1 0)) (hI : InvW (M.1 0)) (hs : s < nt (M.1 0) 2) : ∃ M', Mod_freeLabels M (Int32.ofNat s) = some (Int32.ofNat (fr (M.1 0) s), M') ∧ Mq M M' := by
  obtain ⟨h4, h5⟩ := nm_sp hA hs
  have h2 := nm2 hA
  have loop : ∀ m j b (M1 : g_MD), Mq M M1 → j ≤ nt (M.1 0) (14 + s) → nt (M.1 0) (14 + s) - j < m → ∃ M', Mod_freeLabels_4 m M1 (Int32.ofNat s) (Int32.ofNat b) (Int32.ofNat j) = some (Int32.ofNat (b + sumN (fun l => bN (!hld (M.1 0) s l)) j (nt (M.1 0) (14 + s) - j)), M') ∧ Mq M M' := by
    intro m
    induction m with
    | zero => intro j _ _ _ _ h; omega
    | succ m ih =>
      intro j b M1 hq hj hm
      rw [Mod_freeLabels_4, e_r' (i := 14 + s) (by show Int32.ofNat 14 + Int32.ofNat s = _; rw [i_add]) (by omega), hq.1, h4]
      by_cases hc : nt (M.1 0) (14 + s) ≤ j
      · have : j = nt (M.1 0) (14 + s) := by omega
        subst this
        rw [if_pos ((i_le (by omega) (by omega)).mpr hc), sumN_end]
        exact ⟨M1, rfl, hq⟩
      · rw [if_neg (fun q => hc ((i_le (by omega) (by omega)).mp q)), sumN_step (by omega)]
        obtain ⟨M2, e2, q2⟩ := t_find (M := M1) (s := s) (l := j) (by rw [hq.1]; exact hA) (by rw [hq.1]; exact hI)
        rw [e_bM e2, hq.1]
        unfold Mod_freeLabels_32
        rw [show Int32.ofNat j + (1 : Int32) = Int32.ofNat (j + 1) from i_add]
        cases e : hld (M.1 0) s j with
        | false =>
          rw [if_pos (by rfl), show Int32.ofNat b + (1 : Int32) = Int32.ofNat (b + 1) from i_add, ← Nat.add_assoc]
          exact ih (j + 1) (b + 1) M2 (hq.tr q2) (by omega) (by omega)
        | true =>
          rw [if_neg (by decide), show Int32.ofNat b + (0 : Int32) = Int32.ofNat (b + 0) from i_add, ← Nat.add_assoc]
          exact ih (j + 1) (b + 0) M2 (hq.tr q2) (by omega) (by omega)
  have := loop gFU 0 0 M Mq.rf (by omega) (by unfold gFU; omega)
  rw [Nat.zero_add] at this
  exact this
theorem t_lowestFree (hA : InvA (M.1 0)) (hI : InvW (M.1 0)) (hs : s < nt (M.1 0) 2) : ∃ M', Mod_lowestFree M (Int32.ofNat s) = some (ixI (nt (M.1 0) (14 + s)) (lo (M.1 0) s), M') ∧ Mq M M' := by
  obtain ⟨h4, h5⟩ := nm_sp hA hs
  have h2 := nm2 hA
  have loop : ∀ m j (M1 : g_MD), Mq M M1 → j ≤ nt (M.1 0) (14 + s) → nt (M.1 0) (14 + s) - j < m → ∃ M', Mod_lowestFree_2 m M1 (Int32.ofNat s) (Int32.ofNat j) = some (ixI (nt (M.1 0) (14 + s)) (fsN (fun l => !hld (M.1 0) s l) j (nt (M.1 0) (14 + s) - j)), M') ∧ Mq M M' := by
    intro m
    induction m with
    | zero => intro j _ _ _ h; omega
    | succ m ih =>
      intro j M1 hq hj hm
      rw [Mod_lowestFree_2, e_r' (i := 14 + s) (by show Int32.ofNat 14 + Int32.ofNat s = _; rw [i_add]) (by omega), hq.1, h4]
      by_cases hc : nt (M.1 0) (14 + s) ≤ j
      · have : j = nt (M.1 0) (14 + s) := by omega
        subst this
        rw [if_pos ((i_le (by omega) (by omega)).mpr hc), fsN_end]
        exact ⟨M1, by rw [(ixI_m1 (by omega)).mpr (Nat.le_refl _)], hq⟩
      · rw [if_neg (fun q => hc ((i_le (by omega) (by omega)).mp q)), fsN_step (j := j) (by omega)]
        obtain ⟨M2, e2, q2⟩ := t_find (M := M1) (s := s) (l := j) (by rw [hq.1]; exact hA) (by rw [hq.1]; exact hI)
        rw [e_bM e2, hq.1]
        cases e : hld (M.1 0) s j with
        | false =>
          rw [if_pos (by rfl), if_pos (by rfl), ixI_lt (by omega)]
          exact ⟨M2, rfl, hq.tr q2⟩
        | true =>
          rw [if_neg (by decide), if_neg (by decide), show Int32.ofNat j + (1 : Int32) = Int32.ofNat (j + 1) from i_add]
          exact ih (j + 1) M2 (hq.tr q2) (by omega) (by omega)
  exact loop gFU 0 M Mq.rf (by omega) (by unfold gFU; omega)
theorem t_highestFree (hA : InvA (M.1 0)) (hI : InvW (M.1 0)) (hs : s < nt (M.1 0) 2) : ∃ M', Mod_highestFree M (Int32.ofNat s) = some (hiI (hi (M.1 0) s), M') ∧ Mq M M' := by
  obtain ⟨h4, h5⟩ := nm_sp hA hs
  have h0 := (hA.2.2.1 s hs).2
  have h2 := nm2 hA
  have m1 : (-1 : Int32) < 0 := by decide
  have loop : ∀ m j (M1 : g_MD), Mq M M1 → j ≤ nt (M.1 0) (14 + s) → j < m → ∃ M', Mod_highestFree_12 m M1 (Int32.ofNat s) (hiI j) = some (hiI (hiN (fun l => !hld (M.1 0) s l) j), M') ∧ Mq M M' := by
    intro m
    induction m with
    | zero => intro j _ _ _ h; omega
    | succ m ih =>
      intro j M1 hq hj hm
      rw [Mod_highestFree_12]
      cases j with
      | zero =>
        rw [if_pos (show hiI 0 < 0 from m1)]
        exact ⟨M1, rfl, hq⟩
      | succ j =>
        have ej : hiI (j + 1) = Int32.ofNat j := by unfold hiI; rw [if_neg (by omega)]; rfl
        rw [ej, if_neg (i_nn (by omega))]
        obtain ⟨M2, e2, q2⟩ := t_find (M := M1) (s := s) (l := j) (by rw [hq.1]; exact hA) (by rw [hq.1]; exact hI)
        rw [e_bM e2, hq.1]
        unfold hiN
        cases e : hld (M.1 0) s j with
        | false =>
          rw [if_pos (by rfl), if_pos (by rfl), ej]
          exact ⟨M2, rfl, hq.tr q2⟩
        | true =>
          rw [if_neg (by decide), if_neg (by decide)]
          have e3 : Int32.ofNat j + (-1 : Int32) = hiI j := by
            cases j with
            | zero => rfl
            | succ j =>
              unfold hiI
              rw [if_neg (by omega), ← i_add, Int32.add_assoc]; exact Int32.add_zero _
          rw [e3]
          exact ih j M2 (hq.tr q2) (by omega) (by omega)
  unfold Mod_highestFree
  rw [e_r' (i := 14 + s) (by show Int32.ofNat 14 + Int32.ofNat s = _; rw [i_add]) (by omega), h4, i_sub1 h0]
  have := loop gFU (nt (M.1 0) (14 + s)) M Mq.rf (by omega) (by unfold gFU; omega)
  unfold hiI at this
  rw [if_neg (by omega)] at this
  exact this
/-! lenders -/
def jl (r : tR) (u : Int32) (k : Nat) : Bool := decide (lk r u (Int32.ofNat k) < nt r 3)
def frO (r : tR) (o : Option Nat) : Nat := match o with
  | none => 0
  | some b => fr r b
def lnF (r : tR) (u : Int32) : Nat → Nat → Option Nat → Option Nat
  | _, 0, o => o
  | k, m + 1, o => lnF r u (k + 1) m (if (jl r u k && decide (frO r o < fr r k)) = true then some k else o)
theorem lnF_step {u : Int32} {j n : Nat} {o : Option Nat} (h : j < n) : lnF r u j (n - j) o = lnF r u (j + 1) (n - (j + 1)) (if (jl r u j && decide (frO r o < fr r j)) = true then some j else o) := by
  rw [show n - j = (n - (j + 1)) + 1 by omega]
  rfl
def o32 (o : Option Nat) : Int32 := match o with
  | some n => Int32.ofNat n
  | none => -1
def lnd (r : tR) (u : Int32) : Option Nat := lnF r u 0 (nt r 2) none
/-- a lender has a label -/
def lnOK (r : tR) (o : Option Nat) : Prop := ∀ b, o = some b → b < nt r 2 ∧ 0 < fr r b
theorem lnOK_step {u : Int32} {j : Nat} {o : Option Nat} (hj : j < nt r 2) (ho : lnOK r o) : lnOK r (if (jl r u j && decide (frO r o < fr r j)) = true then some j else o) := by
  split
  · rename_i e
    simp only [Bool.and_eq_true, decide_eq_true_eq] at e
    intro b hb
    cases hb
    exact ⟨hj, by omega⟩
  · exact ho
theorem lnF_ok {u : Int32} : ∀ m k o, k + m ≤ nt r 2 → lnOK r o → lnOK r (lnF r u k m o)
  | 0, _, _, _, ho => ho
  | m + 1, k, o, hk, ho => by
    unfold lnF
    exact lnF_ok m (k + 1) _ (by omega) (lnOK_step (by omega) ho)
theorem lnd_ok {u : Int32} : lnOK r (lnd r u) := lnF_ok _ _ _ (by omega) (fun b hb => by cases hb)
theorem c_areJoined (hW : WF h) (hR : RN h G a r N L C K mC) (hA : InvA r) {u v : Int32} : Net_areJoined h a u v = some (b32 (decide (lk r u v < nt r 3))) := by
  have h3 := nm3 hA
  unfold Net_areJoined
  rw [v_is hR.1.1.1, e_b (c_linkOf hW hR hA)]
  by_cases e : lk r u v < nt r 3
  · rw [if_neg (fun q => by have := (ixI_m1 (by omega)).mp q; omega)]; simp [e, b32]
  · rw [if_pos ((ixI_m1 (by omega)).mpr (by omega))]; simp [e, b32]
theorem c_lenderTo (hW : WF h) (hR : RN h G a r N L C K mC) (hA : InvA r) (hI : InvW r) {u : Int32} : Net_lenderTo h a u = some (o32 (lnd r u)) := by
  obtain ⟨ha, hl, hN, -, -, -⟩ := hR.lst
  have h2 := nm2 hA
  have hnc : ∀ s, s < nt r 2 → cl h (N s) = some 10 := fun s hs => (hR.2.2.1 s hs).1.1
  have hfr : ∀ s, s < nt r 2 → fr r s < 13 := fun s hs => Nat.lt_of_le_of_lt fr_le (nm_sp hA hs).2
  have loop : ∀ m j o, lnOK r o → j ≤ nt r 2 → nt r 2 - j < m → Net_lenderTo_4 h m a u (o32 o) (Int32.ofNat j) = some (o32 (lnF r u j (nt r 2 - j) o)) := by
    intro m
    induction m with
    | zero => intro j _ _ _ h; omega
    | succ m ih =>
      intro j o ho hj hm
      rw [Net_lenderTo_4, v_gR hW ha rfl, hl 1 (by omega) (by omega), e_nn, v_is hN.1, e_b (ls_size hW hN)]
      by_cases hc : nt r 2 ≤ j
      · have : j = nt r 2 := by omega
        subst this
        rw [if_pos ((i_le (by omega) (by omega)).mpr hc), Nat.sub_self]
        rfl
      · rw [if_neg (fun q => hc ((i_le (by omega) (by omega)).mp q)), v_is ha, e_b (c_areJoined hW hR hA), lnF_step (by omega)]
        have hst := lnOK_step (u := u) (j := j) (by omega) ho
        have go : ∀ o', o' = (if (jl r u j && decide (frO r o < fr r j)) = true then some j else o) → Net_lenderTo_75 h (Net_lenderTo_4 h m) a u (o32 o') (Int32.ofNat j) = some (o32 (lnF r u (j + 1) (nt r 2 - (j + 1)) (if (jl r u j && decide (frO r o < fr r j)) = true then some j else o))) := by
          intro o' e
          unfold Net_lenderTo_75
          rw [show Int32.ofNat j + (1 : Int32) = Int32.ofNat (j + 1) from i_add, e]
          exact ih (j + 1) _ hst (by omega) (by omega)
        by_cases e : jl r u j = true
        · rw [if_neg (fun q => by unfold jl at e; rw [b32_eq0.mp q] at e; cases e)]
          rw [v_gR hW ha rfl, hl 1 (by omega) (by omega), e_nn, v_is hN.1, e_b (ls_get hW hN (by omega)), v_ck (hnc j (by omega)), e_nn, v_is (hnc j (by omega)), e_b (c_free hW hR hA hI (by omega))]
          have hfj := hfr j (by omega)
          unfold Net_lenderTo_42
          by_cases f0 : fr r j = 0
          · rw [if_pos (show Int32.ofNat (fr r j) ≤ 0 from (i_le (b := 0) (by omega) (by omega)).mpr (by omega))]
            exact go o (by rw [if_neg (by simp [f0])])
          · rw [if_neg (show ¬ Int32.ofNat (fr r j) ≤ 0 from fun q => by have := (i_le (b := 0) (by omega) (by omega)).mp q; omega)]
            cases o with
            | none =>
              rw [if_pos (show o32 none = -1 from rfl)]
              exact go (some j) (by rw [if_pos (by rw [e, Bool.true_and]; exact decide_eq_true (show 0 < fr r j by omega))])
            | some b =>
              obtain ⟨hb, hb0⟩ := ho b rfl
              have hfb := hfr b hb
              rw [if_neg (show ¬ o32 (some b) = -1 from m1_ne (by omega))]
              rw [v_gR hW ha rfl, hl 1 (by omega) (by omega), e_nn, v_is hN.1, e_b (show ArrayList_get h (lA h a 1) (o32 (some b)) = some (some (N b)) from ls_get hW hN hb), v_ck (hnc b hb), e_nn, v_is (hnc b hb), e_b (c_free hW hR hA hI hb)]
              by_cases q : fr r j ≤ fr r b
              · rw [if_pos ((i_le (by omega) (by omega)).mpr q)]
                exact go (some b) (by rw [if_neg (by rw [e, Bool.true_and]; intro z; have z2 : fr r b < fr r j := of_decide_eq_true z; omega)])
              · rw [if_neg (fun z => q ((i_le (by omega) (by omega)).mp z))]
                exact go (some j) (by rw [if_pos (by rw [e, Bool.true_and]; exact decide_eq_true (show fr r b < fr r j by omega))])
        · rw [if_pos (b32_eq0.mpr (by simpa [jl] using e))]
          unfold Net_lenderTo_42
          rw [if_pos (by decide)]
          exact go o (by rw [if_neg (by simp [e])])
  exact loop gFU 0 none (fun b hb => by cases hb) (by omega) (by unfold gFU; omega)
theorem t_lenderFor (hA : InvA (M.1 0)) (hI : InvW (M.1 0)) {u : Int32} : ∃ M', Mod_lenderFor M u = some (o32 (lnd (M.1 0) u), M') ∧ Mq M M' := by
  have h2 := nm2 hA
  have h3 := nm3 hA
  have hfr : ∀ s, s < nt (M.1 0) 2 → fr (M.1 0) s < 13 := fun s hs => Nat.lt_of_le_of_lt fr_le (nm_sp hA hs).2
  have loop : ∀ m j o (M1 : g_MD), Mq M M1 → lnOK (M.1 0) o → j ≤ nt (M.1 0) 2 → nt (M.1 0) 2 - j < m → ∃ M', Mod_lenderFor_7 m M1 u (o32 o) (Int32.ofNat (frO (M.1 0) o)) (Int32.ofNat j) = some (o32 (lnF (M.1 0) u j (nt (M.1 0) 2 - j) o), M') ∧ Mq M M' := by
    intro m
    induction m with
    | zero => intro j _ _ _ _ _ h; omega
    | succ m ih =>
      intro j o M1 hq ho hj hm
      rw [Mod_lenderFor_7, e_r' (i := 2) (j := (2 : Int32)) rfl (by decide), hq.1, hA.1.1.1]
      by_cases hc : nt (M.1 0) 2 ≤ j
      · have : j = nt (M.1 0) 2 := by omega
        subst this
        rw [if_pos ((i_le (by omega) (by omega)).mpr hc), Nat.sub_self]
        exact ⟨M1, rfl, hq⟩
      · rw [if_neg (fun q => hc ((i_le (by omega) (by omega)).mp q)), e_b (t_linkOf (M := M1) (by rw [hq.1]; exact hA)), hq.1, lnF_step (by omega)]
        have hst := lnOK_step (u := u) (j := j) (by omega) ho
        have hfo : frO (M.1 0) o < 13 := by
          cases o with
          | none => show 0 < 13; omega
          | some b => exact hfr b (ho b rfl).1
        have go : ∀ f (M2 : g_MD), Mq M M2 → f < 13 → ((jl (M.1 0) u j && decide (frO (M.1 0) o < fr (M.1 0) j)) = true ↔ frO (M.1 0) o < f) → (frO (M.1 0) o < f → f = fr (M.1 0) j) → ∃ M', Mod_lenderFor_39 (Mod_lenderFor_7 m) M2 u (o32 o) (Int32.ofNat (frO (M.1 0) o)) (Int32.ofNat j) (Int32.ofNat f) = some (o32 (lnF (M.1 0) u (j + 1) (nt (M.1 0) 2 - (j + 1)) (if (jl (M.1 0) u j && decide (frO (M.1 0) o < fr (M.1 0) j)) = true then some j else o)), M') ∧ Mq M M' := by
          intro f M2 hq2 hf hiff hfe
          unfold Mod_lenderFor_39 Mod_lenderFor_53
          rw [show Int32.ofNat j + (1 : Int32) = Int32.ofNat (j + 1) from i_add]
          by_cases z : frO (M.1 0) o < f
          · rw [if_neg (fun q => by have := (i_le (by omega) (by omega)).mp q; omega)]
            rw [if_pos (hiff.mpr z)] at hst ⊢
            have := ih (j + 1) (some j) M2 hq2 hst (by omega) (by omega)
            rw [hfe z]
            exact this
          · rw [if_pos ((i_le (by omega) (by omega)).mpr (by omega))]
            rw [if_neg (fun q => z (hiff.mp q))] at hst ⊢
            exact ih (j + 1) o M2 hq2 hst (by omega) (by omega)
        by_cases e : jl (M.1 0) u j = true
        · have e' : lk (M.1 0) u (Int32.ofNat j) < nt (M.1 0) 3 := of_decide_eq_true e
          rw [if_neg (fun q => by have := (ixI_m1 (by omega)).mp q; omega)]
          obtain ⟨M2, e2, q2⟩ := t_freeLabels (M := M1) (s := j) (by rw [hq.1]; exact hA) (by rw [hq.1]; exact hI) (by rw [hq.1]; omega)
          rw [e_bM e2, hq.1]
          exact go _ M2 (hq.tr q2) (hfr j (by omega)) (by simp [e]) (fun _ => rfl)
        · have e' : ¬ lk (M.1 0) u (Int32.ofNat j) < nt (M.1 0) 3 := fun q => e (decide_eq_true q)
          rw [if_pos ((ixI_m1 (by omega)).mpr (by omega))]
          exact go 0 M1 hq (by omega) (by simp [e]) (fun q => by omega)
  exact loop gFU 0 none M Mq.rf (fun b hb => by cases hb) (by omega) (by unfold gFU; omega)
end FREE
