/-! LEVEL 2: Node.give, Net.label, the twin's appendToWay -/
def gvH (h : g_AH) (x l : Nat) (v cc b : Int32) : g_AH := wA (wA (wA (wA h 10 1 x l v) 10 2 x l cc) 10 3 x l b) 10 4 x l 0
section GIVE
variable {h h' : g_AH} {G O : Nat → Prop} {a : Nat} {r r' : tR} {N L C K : Nat → Nat} {mC x k p c w n s l : Nat} {M : g_MD} {D : Nat → Int32} {v cc b : Int32}
theorem gv_cl {q : Nat} : cl (gvH h x l v cc b) q = cl h q := by unfold gvH; rw [cl_wA, cl_wA, cl_wA, cl_wA]
theorem gv_J {ci f q : Nat} : J (gvH h x l v cc b) ci f q = J h ci f q := by unfold gvH; rw [J_wA, J_wA, J_wA, J_wA]
theorem gv_R {ci f q : Nat} : Rf (gvH h x l v cc b) ci f q = Rf h ci f q := by unfold gvH; rw [Rf_wA, Rf_wA, Rf_wA, Rf_wA]
theorem gv_L {ci f q : Nat} : AL (gvH h x l v cc b) ci f q = AL h ci f q := by unfold gvH; rw [AL_wA, AL_wA, AL_wA, AL_wA]
theorem gv_A {ci f q i : Nat} : RA (gvH h x l v cc b) ci f q i = RA h ci f q i := by unfold gvH; rw [RA_wA, RA_wA, RA_wA, RA_wA]
theorem gv_m : (gvH h x l v cc b).2 = h.2 := by unfold gvH; rw [wA_meta, wA_meta, wA_meta, wA_meta]
theorem gv_W1 (hW : WF h) : WF (wA h 10 1 x l v) := hW.pA ⟨by decide, by decide⟩ (fun e => by cases e) (fun e => by cases e)
theorem gv_W2 (hW : WF h) : WF (wA (wA h 10 1 x l v) 10 2 x l cc) := (gv_W1 hW).pA ⟨by decide, by decide⟩ (fun e => by cases e) (fun e => by cases e)
theorem gv_W3 (hW : WF h) (hb : b = 0 ∨ b = 1) : WF (wA (wA (wA h 10 1 x l v) 10 2 x l cc) 10 3 x l b) := (gv_W2 hW).pA ⟨by decide, by decide⟩ (fun _ => hb) (fun e => by cases e)
theorem gv_W (hW : WF h) (hb : b = 0 ∨ b = 1) : WF (gvH h x l v cc b) := (gv_W3 hW hb).pA ⟨by decide, by decide⟩ (fun _ => Or.inl rfl) (fun e => by cases e)
theorem gv_Aro (hW : WF h) (hb : b = 0 ∨ b = 1) {ci f q i : Nat} (h3 : 3 ≤ kd ci f) (hd : ¬ (ci = 10 ∧ q = x)) : Ar (gvH h x l v cc b) ci f q i = Ar h ci f q i := by
  unfold gvH
  rw [Ar_wAn (gv_W3 hW hb) (by decide) h3 (fun e => hd ⟨e.1, e.2.2⟩), Ar_wAn (gv_W2 hW) (by decide) h3 (fun e => hd ⟨e.1, e.2.2⟩), Ar_wAn (gv_W1 hW) (by decide) h3 (fun e => hd ⟨e.1, e.2.2⟩), Ar_wAn hW (by decide) h3 (fun e => hd ⟨e.1, e.2.2⟩)]
theorem gv_Ar (hW : WF h) (hb : b = 0 ∨ b = 1) (hn : ∀ f, 1 ≤ f → f ≤ 4 → 0 < AL h 10 f x) {f i : Nat} (h1 : 1 ≤ f) (h4 : f ≤ 4) : Ar (gvH h x l v cc b) 10 f x i = if i = l then (if f = 1 then v else if f = 2 then cc else if f = 3 then b else 0) else Ar h 10 f x i := by
  unfold gvH
  rcases (show f = 1 ∨ f = 2 ∨ f = 3 ∨ f = 4 by omega) with rfl | rfl | rfl | rfl
  · rw [Ar_wAn (gv_W3 hW hb) (by decide) (by decide) (fun e => by simp at e), Ar_wAn (gv_W2 hW) (by decide) (by decide) (fun e => by simp at e), Ar_wAn (gv_W1 hW) (by decide) (by decide) (fun e => by simp at e), Ar_wAs hW ⟨by decide, by decide⟩ (hn 1 (by omega) (by omega))]
    rfl
  · rw [Ar_wAn (gv_W3 hW hb) (by decide) (by decide) (fun e => by simp at e), Ar_wAn (gv_W2 hW) (by decide) (by decide) (fun e => by simp at e), Ar_wAs (gv_W1 hW) ⟨by decide, by decide⟩ (by rw [AL_wA]; exact hn 2 (by omega) (by omega)), Ar_wAn hW (by decide) (by decide) (fun e => by simp at e)]
    rfl
  · rw [Ar_wAn (gv_W3 hW hb) (by decide) (by decide) (fun e => by simp at e), Ar_wAs (gv_W2 hW) ⟨by decide, by decide⟩ (by rw [AL_wA, AL_wA]; exact hn 3 (by omega) (by omega)), Ar_wAn (gv_W1 hW) (by decide) (by decide) (fun e => by simp at e), Ar_wAn hW (by decide) (by decide) (fun e => by simp at e)]
    rfl
  · rw [Ar_wAs (gv_W3 hW hb) ⟨by decide, by decide⟩ (by rw [AL_wA, AL_wA, AL_wA]; exact hn 4 (by omega) (by omega)), Ar_wAn (gv_W2 hW) (by decide) (by decide) (fun e => by simp at e), Ar_wAn (gv_W1 hW) (by decide) (by decide) (fun e => by simp at e), Ar_wAn hW (by decide) (by decide) (fun e => by simp at e)]
    rfl
theorem gv_V (hW : WF h) (hb : b = 0 ∨ b = 1) (hx : O x) : VF h (gvH h x l v cc b) O := by
  unfold gvH
  have v1 : VF h (wA h 10 1 x l v) O := VF.pA hW hx (by decide)
  have v2 : VF (wA h 10 1 x l v) (wA (wA h 10 1 x l v) 10 2 x l cc) O := VF.pA (gv_W1 hW) hx (by decide)
  have v3 : VF (wA (wA h 10 1 x l v) 10 2 x l cc) (wA (wA (wA h 10 1 x l v) 10 2 x l cc) 10 3 x l b) O := VF.pA (gv_W2 hW) hx (by decide)
  have v4 : VF (wA (wA (wA h 10 1 x l v) 10 2 x l cc) 10 3 x l b) (wA (wA (wA (wA h 10 1 x l v) 10 2 x l cc) 10 3 x l b) 10 4 x l 0) O := VF.pA (gv_W3 hW hb) hx (by decide)
  exact ((v1.tr hW v2 (fun _ q => Or.inl q)).tr hW v3 (fun _ q => Or.inl q)).tr hW v4 (fun _ q => Or.inl q)
theorem c_give (hW : WF h) (hc : cl h x = some 10) (hn : ∀ f, 1 ≤ f → f ≤ 4 → AL h 10 f x = n) (hl : l < n) (hn2 : n < 1000) {bo : Bool} : Node_give h x (Int32.ofNat l) v cc (b32 bo) = some (gvH h x l v cc (b32 bo)) := by
  have ref : ∀ f, 1 ≤ f → f ≤ 4 → ∃ q, Rf h 10 f x = some q := fun f x1 x2 => AL_ref (hn f x1 x2) (by omega)
  obtain ⟨q1, e1⟩ := ref 1 (by omega) (by omega)
  obtain ⟨q2, e2⟩ := ref 2 (by omega) (by omega)
  obtain ⟨q3, e3⟩ := ref 3 (by omega) (by omega)
  obtain ⟨q4, e4⟩ := ref 4 (by omega) (by omega)
  have hin : vp_in (Int32.ofNat l) n := i_in hl (by omega)
  have hb : b32 bo = 0 ∨ b32 bo = 1 := b32_01
  unfold Node_give gvH
  rw [v_gR hW hc rfl, e1, e_nn, v_sI (t := 0) hW e1 rfl rfl (by rw [hn 1 (by omega) (by omega)]; exact hin), i_cl (by omega)]
  rw [v_gR (gv_W1 hW) (by rw [cl_wA]; exact hc) rfl, Rf_wA, e2, e_nn, v_sI (t := 0) (f := 2) (gv_W1 hW) (by rw [Rf_wA]; exact e2) rfl rfl (by rw [AL_wA, hn 2 (by omega) (by omega)]; exact hin), i_cl (by omega)]
  rw [v_gR (gv_W2 hW) (by rw [cl_wA, cl_wA]; exact hc) rfl, Rf_wA, Rf_wA, e3, e_nn, vn_b32, v_sI (t := 1) (f := 3) (gv_W2 hW) (by rw [Rf_wA, Rf_wA]; exact e3) rfl rfl (by rw [AL_wA, AL_wA, hn 3 (by omega) (by omega)]; exact hin), i_cl (by omega)]
  rw [v_gR (gv_W3 hW hb) (by rw [cl_wA, cl_wA, cl_wA]; exact hc) rfl, Rf_wA, Rf_wA, Rf_wA, e4, e_nn, show vp_nar .boolean (0 : Int32) = 0 from rfl, v_sI (t := 1) (f := 4) (gv_W3 hW hb) (by rw [Rf_wA, Rf_wA, Rf_wA]; exact e4) rfl rfl (by rw [AL_wA, AL_wA, AL_wA, hn 4 (by omega) (by omega)]; exact hin), i_cl (by omega)]
/-- the labels' holders behind a label given: heap and row together -/
theorem LabR_setL (hW : WF h) (hL : LabR h r N) (hA : InvA r) (hI : InvW r) (hc : c < nt r 4) (hw : w < 2) {i u : Nat} {bo : Bool} (hi : nt r (wp c w) = i) (hi0 : 0 < i) (hi6 : i < 6) (hs : s < nt r 2) (hl : l < nt r (14 + s)) (hu : u < nt r 2) (hfree : hld r s l = false) (hbo : b32 bo = Int32.ofNat w)
    (hn : ∀ k, k < nt r 2 → ∀ f, 1 ≤ f → f ≤ 4 → AL h 10 f (N k) = nt r (14 + k)) (hinj : InjN N (nt r 2)) :
    LabR (gvH h (N s) l (Int32.ofNat u) (Int32.ofNat c) (b32 bo)) (setL r (wp c w) i u s l 0) N := by
  have g2 := nm2 hA
  have gs := (nm_sp hA hs).2
  have hlen : ∀ c w, c < nt r 4 → w < 2 → nt r (wp c w) ≤ 6 := fun c w y1 y2 => by have := (hI c w y1 y2).1.2; omega
  have lo : ∀ j, j < 104 → setL r (wp c w) i u s l 0 j = r j := fun j hj => setL_out hi6 (Or.inl (by unfold wp; omega))
  have n2 := nt_eq (lo 2 (by omega))
  have nsp : ∀ k, k < nt r 2 → nt (setL r (wp c w) i u s l 0) (14 + k) = nt r (14 + k) := fun k hk => nt_eq (lo _ (by omega))
  have hb : b32 bo = 0 ∨ b32 bo = 1 := b32_01
  have same : ∀ f, 1 ≤ f → f ≤ 4 → Ar (gvH h (N s) l (Int32.ofNat u) (Int32.ofNat c) (b32 bo)) 10 f (N s) l = (if f = 1 then Int32.ofNat u else if f = 2 then Int32.ofNat c else if f = 3 then b32 bo else 0) := fun f x1 x2 => by
    rw [gv_Ar hW hb (fun f y1 y2 => by rw [hn s hs f y1 y2]; omega) x1 x2, if_pos rfl]
  have oth : ∀ f s1 l1, 1 ≤ f → f ≤ 4 → s1 < nt r 2 → ¬ (s1 = s ∧ l1 = l) → Ar (gvH h (N s) l (Int32.ofNat u) (Int32.ofNat c) (b32 bo)) 10 f (N s1) l1 = Ar h 10 f (N s1) l1 := fun f s1 l1 x1 x2 x3 x4 => by
    by_cases e : s1 = s
    · subst e
      rw [gv_Ar hW hb (fun f y1 y2 => by rw [hn s1 hs f y1 y2]; omega) x1 x2, if_neg (fun q => x4 ⟨rfl, q⟩)]
    · rw [gv_Aro hW hb (by rw [kd10 x1 x2]; split <;> omega) (fun q => e (hinj _ _ x3 hs q.2))]
  refine ⟨fun c1 w1 i1 s1 l1 hp x1 x2 => ?_, fun s1 l1 x1 x2 => ?_⟩
  · rw [n2] at x1
    rw [nsp s1 x1] at x2
    have g1 := (nm_sp hA x1).2
    rcases (Pos_setL hc hw hi hi0 hi6 (by omega) (by omega) (by omega) (by omega) hlen).mp hp with q | ⟨rfl, rfl, rfl, rfl, rfl⟩
    · have hne : ¬ (s1 = s ∧ l1 = l) := fun e => by
        obtain ⟨rfl, rfl⟩ := e
        rw [hld_of q] at hfree; cases hfree
      rw [oth 1 s1 l1 (by omega) (by omega) x1 hne, oth 2 s1 l1 (by omega) (by omega) x1 hne, oth 3 s1 l1 (by omega) (by omega) x1 hne, oth 4 s1 l1 (by omega) (by omega) x1 hne]
      obtain ⟨a1, a2, a3, a4⟩ := hL.1 c1 w1 i1 s1 l1 q x1 x2
      have hpl := hlen c1 w1 q.1 q.2.1
      have q4 := q.2.2.2.1
      have cell : ∀ b, (b = 1 ∨ b = 19) → setL r (wp c w) i u s l 0 (wp c1 w1 + b + i1) = r (wp c1 w1 + b + i1) := fun b hb => by
        by_cases hsame : c1 = c ∧ w1 = w
        · obtain ⟨rfl, rfl⟩ := hsame
          exact setL_old hi6 (by omega) (by omega)
        · exact setL_out hi6 (wp_disj hw q.2.1 hsame (by omega) (by omega))
      rw [cell 1 (by omega), cell 19 (by omega)]
      exact ⟨a1, a2, a3, a4⟩
    · rw [same 1 (by omega) (by omega), same 2 (by omega) (by omega), same 3 (by omega) (by omega), same 4 (by omega) (by omega), setL_1, setL_19]
      exact ⟨rfl, rfl, hbo, rfl⟩
  · rw [n2] at x1
    rw [nsp s1 x1] at x2
    have g1 := (nm_sp hA x1).2
    by_cases e : s1 = s ∧ l1 = l
    · obtain ⟨rfl, rfl⟩ := e
      exact Or.inr ⟨c, w, i, (Pos_setL hc hw hi hi0 hi6 (by omega) (by omega) (by omega) (by omega) hlen).mpr (Or.inr ⟨rfl, rfl, rfl, rfl, rfl⟩)⟩
    · rw [oth 1 s1 l1 (by omega) (by omega) x1 e]
      rcases hL.2 s1 l1 x1 x2 with q | ⟨c1, w1, i1, q⟩
      · exact Or.inl q
      · exact Or.inr ⟨c1, w1, i1, (Pos_setL hc hw hi hi0 hi6 (by omega) (by omega) (by omega) (by omega) hlen).mpr (Or.inl q)⟩
/-- where a label for the node u comes from, and which -/
def spF (r : tR) (u : Nat) : Option Nat := if 0 < fr r u then some u else if ct r (fun p i => bN (cq r (Int32.ofNat u) 1 p i)) < nt r 0 then lnd r (Int32.ofNat u) else none
def lbF (r : tR) (u s : Nat) : Nat := if 0 < fr r u then lo r u else hi r s - 1
theorem spF_ok {u : Nat} (hu : u < nt r 2) (e : spF r u = some s) : s < nt r 2 ∧ lbF r u s < nt r (14 + s) ∧ hld r s (lbF r u s) = false := by
  unfold spF at e
  unfold lbF
  by_cases h0 : 0 < fr r u
  · rw [if_pos h0] at e
    cases e
    rw [if_pos h0]
    have h1 := fr_lo.mp h0
    have h2 := fsN_is (p := fun l => !hld r s l) (nt r (14 + s)) 0 (by unfold lo at h1; omega)
    refine ⟨hu, h1, ?_⟩
    simpa [lo] using h2
  · rw [if_neg h0] at e
    rw [if_neg h0]
    split at e
    · obtain ⟨h1, h2⟩ := lnd_ok s e
      have h3 := fr_hi h2
      have h4 := hiN_le (p := fun l => !hld r s l) (nt r (14 + s))
      have h5 := hiN_is (p := fun l => !hld r s l) (nt r (14 + s)) h3
      refine ⟨h1, by unfold hi; unfold hi at h3; omega, ?_⟩
      simpa [hi] using h5
    · cases e
end GIVE
