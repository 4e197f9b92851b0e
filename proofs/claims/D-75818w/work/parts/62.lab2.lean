/-! LEVEL 2: Net.label, the twin's appendToWay -/
def lbH (h : g_AH) (x l u c : Nat) (b : Int32) (W i s : Nat) : g_AH := wA (wA (gvH h x l (Int32.ofNat u) (Int32.ofNat c) b) 6 1 W i (Int32.ofNat s)) 6 2 W i (Int32.ofNat l)
/-- nodes' and links' numbers and the links' ends stand still -/
def St (r r' : tR) : Prop := r' 2 = r 2 ∧ r' 3 = r 3 ∧ ∀ k, k < 16 → r' (24 + 5 * k) = r (24 + 5 * k) ∧ r' (24 + 5 * k + 1) = r (24 + 5 * k + 1)
theorem St.rf {r : tR} : St r r := ⟨rfl, rfl, fun _ _ => ⟨rfl, rfl⟩⟩
theorem St.tr {r r1 r2 : tR} (x : St r r1) (y : St r1 r2) : St r r2 := ⟨y.1.trans x.1, y.2.1.trans x.2.1, fun k hk => ⟨(y.2.2 k hk).1.trans (x.2.2 k hk).1, (y.2.2 k hk).2.trans (x.2.2 k hk).2⟩⟩
/-- the twin's row has become r' -/
def Mr (M M' : g_MD) (r' : tR) : Prop := M'.1 0 = r' ∧ (∀ k, k ≠ 0 → M'.1 k = M.1 k) ∧ (∀ j, j ≠ 18 → j ≠ 19 → j ≠ 20 → M'.2.1 j = M.2.1 j) ∧ M'.2.2 = M.2.2 ∧ St (M.1 0) r'
theorem Mq.mr {M M' : g_MD} (q : Mq M M') : Mr M M' (M.1 0) := ⟨by rw [q.1], fun k _ => by rw [q.1], q.2.1, q.2.2, St.rf⟩
theorem Mr.rf {M : g_MD} : Mr M M (M.1 0) := Mq.mr Mq.rf
theorem Mr.tr {A B C : g_MD} {r1 r2 : tR} (x : Mr A B r1) (y : Mr B C r2) : Mr A C r2 := ⟨y.1, fun k hk => (y.2.1 k hk).trans (x.2.1 k hk), fun j a b c => (y.2.2.1 j a b c).trans (x.2.2.1 j a b c), y.2.2.2.1.trans x.2.2.2.1, x.2.2.2.2.tr (by have := y.2.2.2.2; rw [x.1] at this; exact this)⟩
theorem Mr.eq {M M' : g_MD} {r1 r2 : tR} (x : Mr M M' r1) (e : r1 = r2) : Mr M M' r2 := e ▸ x
theorem Mr.w {M : g_MD} {i : Nat} {x : Int32} (hi : i ≠ 2 ∧ i ≠ 3 ∧ (i < 24 ∨ 104 ≤ i ∨ (i - 24) % 5 = 4) := by first | omega | (unfold wp; omega)) : Mr M (ms M 0 i x) (upd (M.1 0) i x) := by
  have key : ∀ j, j ≠ i → upd (M.1 0) i x j = M.1 0 j := fun j hj => by unfold upd; rw [if_neg hj]
  refine ⟨?_, fun k hk => ?_, fun _ _ _ _ => rfl, rfl, key 2 (by omega), key 3 (by omega), fun k hk => ⟨key _ (by omega), key _ (by omega)⟩⟩
  · unfold ms; simp
  · unfold ms; simp [hk]
section LAB2
variable {h h' : g_AH} {G O : Nat → Prop} {a : Nat} {r r' : tR} {N L C K : Nat → Nat} {mC x k p c w n s l u i W : Nat} {M : g_MD} {D : Nat → Int32} {b : Int32} {bo : Bool}
theorem lb_W1 (hW : WF h) (hb : b = 0 ∨ b = 1) : WF (wA (gvH h x l (Int32.ofNat u) (Int32.ofNat c) b) 6 1 W i (Int32.ofNat s)) := (gv_W hW hb).pA ⟨by decide, by decide⟩ (fun e => by cases e) (fun e => by cases e)
theorem lb_W (hW : WF h) (hb : b = 0 ∨ b = 1) : WF (lbH h x l u c b W i s) := (lb_W1 hW hb).pA ⟨by decide, by decide⟩ (fun e => by cases e) (fun e => by cases e)
theorem lb_cl {q : Nat} : cl (lbH h x l u c b W i s) q = cl h q := by unfold lbH; rw [cl_wA, cl_wA, gv_cl]
theorem lb_J {ci f q : Nat} : J (lbH h x l u c b W i s) ci f q = J h ci f q := by unfold lbH; rw [J_wA, J_wA, gv_J]
theorem lb_R {ci f q : Nat} : Rf (lbH h x l u c b W i s) ci f q = Rf h ci f q := by unfold lbH; rw [Rf_wA, Rf_wA, gv_R]
theorem lb_L {ci f q : Nat} : AL (lbH h x l u c b W i s) ci f q = AL h ci f q := by unfold lbH; rw [AL_wA, AL_wA, gv_L]
theorem lb_A {ci f q i1 : Nat} : RA (lbH h x l u c b W i s) ci f q i1 = RA h ci f q i1 := by unfold lbH; rw [RA_wA, RA_wA, gv_A]
theorem lb_m : (lbH h x l u c b W i s).2 = h.2 := by unfold lbH; rw [wA_meta, wA_meta, gv_m]
theorem lb_Aro (hW : WF h) (hb : b = 0 ∨ b = 1) {ci f q i1 : Nat} (h3 : 3 ≤ kd ci f) (hd : ¬ (ci = 6 ∧ q = W)) : Ar (lbH h x l u c b W i s) ci f q i1 = Ar (gvH h x l (Int32.ofNat u) (Int32.ofNat c) b) ci f q i1 := by
  unfold lbH
  rw [Ar_wAn (lb_W1 hW hb) (by decide) h3 (fun e => hd ⟨e.1, e.2.2⟩), Ar_wAn (gv_W hW hb) (by decide) h3 (fun e => hd ⟨e.1, e.2.2⟩)]
theorem lb_Ar (hW : WF h) (hb : b = 0 ∨ b = 1) (hn : ∀ f, f < 3 → AL h 6 f W = 6) {f i1 : Nat} (hf : f < 3) : Ar (lbH h x l u c b W i s) 6 f W i1 = if f = 0 then Ar h 6 0 W i1 else if i1 = i then (if f = 1 then Int32.ofNat s else Int32.ofNat l) else Ar h 6 f W i1 := by
  unfold lbH
  rcases (show f = 0 ∨ f = 1 ∨ f = 2 by omega) with rfl | rfl | rfl
  · rw [Ar_wAn (lb_W1 hW hb) (by decide) (by decide) (fun e => by simp at e), Ar_wAn (gv_W hW hb) (by decide) (by decide) (fun e => by simp at e), gv_Aro hW hb (by decide) (fun e => by simp at e)]
    rfl
  · rw [Ar_wAn (lb_W1 hW hb) (by decide) (by decide) (fun e => by simp at e), Ar_wAs (gv_W hW hb) ⟨by decide, by decide⟩ (by rw [gv_L, hn 1 (by omega)]; omega), gv_Aro hW hb (by decide) (fun e => by simp at e)]
    rfl
  · rw [Ar_wAs (lb_W1 hW hb) ⟨by decide, by decide⟩ (by rw [AL_wA, gv_L, hn 2 (by omega)]; omega), Ar_wAn (gv_W hW hb) (by decide) (by decide) (fun e => by simp at e), gv_Aro hW hb (by decide) (fun e => by simp at e)]
    rfl
theorem lb_V (hW : WF h) (hb : b = 0 ∨ b = 1) (hx : O x) (hw : O W) : VF h (lbH h x l u c b W i s) O := by
  unfold lbH
  have v1 : VF h (gvH h x l (Int32.ofNat u) (Int32.ofNat c) b) O := gv_V hW hb hx
  have v2 : VF (gvH h x l (Int32.ofNat u) (Int32.ofNat c) b) (wA (gvH h x l (Int32.ofNat u) (Int32.ofNat c) b) 6 1 W i (Int32.ofNat s)) O := VF.pA (gv_W hW hb) hw (by decide)
  have v3 : VF (wA (gvH h x l (Int32.ofNat u) (Int32.ofNat c) b) 6 1 W i (Int32.ofNat s)) (wA (wA (gvH h x l (Int32.ofNat u) (Int32.ofNat c) b) 6 1 W i (Int32.ofNat s)) 6 2 W i (Int32.ofNat l)) O := VF.pA (lb_W1 hW hb) hw (by decide)
  exact (v1.tr hW v2 (fun _ q => Or.inl q)).tr hW v3 (fun _ q => Or.inl q)
theorem net_set (hW : WF h) (hx : RNa h G a r) {α : Type} {K1 : Nat → Int32 → Option α} {j : Nat} (hj : j < 2) : (g_gR h a 1 0 fun y => g_nn y fun q => g_aI h 0 q (Int32.ofNat j) fun z => K1 q z) = K1 ((Rf h 1 0 a).getD 0) (r j) := by
  obtain ⟨⟨h1, -⟩, ⟨h2, h3, h4⟩, -⟩ := hx
  obtain ⟨q, hq⟩ := AL_ref h2 (by omega)
  rw [v_gR hW h1 rfl, hq, e_nn, v_aI (t := 0) hW hq rfl rfl (by rw [h2]; exact i_in (by omega) (by omega)), i_cl (by omega)]
  rcases (show j = 0 ∨ j = 1 by omega) with rfl | rfl
  · rw [h3]; rfl
  · rw [h4]; rfl
theorem ct_le (hA : InvA r) (hI : InvW r) {φ : Nat → Nat → Nat} (hφ : ∀ p i, φ p i ≤ 1) : ct r φ ≤ 1000 := by
  have h4 := nm4 hA
  unfold ct
  have := sumN_le (f := fun c => ctw (φ (wp c 0)) (nt r (wp c 0)) + ctw (φ (wp c 1)) (nt r (wp c 1))) (b := 100) (nt r 4) 0 (fun c _ hc => ?_)
  · omega
  · have b0 := (hI c 0 (by omega) (by omega)).1.2
    have b1 := (hI c 1 (by omega) (by omega)).1.2
    have s0 := sumN_le (f := φ (wp c 0)) (b := 1) (nt r (wp c 0) - 1) 1 (fun _ _ _ => hφ _ _)
    have s1 := sumN_le (f := φ (wp c 1)) (b := 1) (nt r (wp c 1) - 1) 1 (fun _ _ _ => hφ _ _)
    unfold ctw
    omega
theorem c_label (hW : WF h) (hR : RN h G a r N L C K mC) (hA : InvA r) (hI : InvW r) (hWc : cl h W = some 6) (hWL : ∀ f, f < 3 → AL h 6 f W = 6) (hi6 : i < 6) (hWn : Ar h 6 0 W i = Int32.ofNat u) (hu : u < nt r 2) :
    Net_label h a (some W) (Int32.ofNat i) (Int32.ofNat c) (b32 bo) = match spF r u with
      | none => some (0, h)
      | some s => some (1, lbH h (N s) (lbF r u s) u c (b32 bo) W i s) := by
  obtain ⟨ha, hl, hN, -, -, -⟩ := hR.lst
  have g2 := nm2 hA
  have hnd := hR.2.2.1
  have hb : b32 bo = 0 ∨ b32 bo = 1 := b32_01
  obtain ⟨q0, e0⟩ := AL_ref (hWL 0 (by omega)) (by omega)
  obtain ⟨q1, e1⟩ := AL_ref (hWL 1 (by omega)) (by omega)
  obtain ⟨q2, e2⟩ := AL_ref (hWL 2 (by omega)) (by omega)
  have hfr : ∀ s, s < nt r 2 → fr r s < 13 := fun s hs => Nat.lt_of_le_of_lt fr_le (nm_sp hA hs).2
  have hin : vp_in (Int32.ofNat i) 6 := i_in hi6 (by omega)
  have h110 : ∀ s l, s < nt r 2 → l < nt r (14 + s) → Net_label_110 h (some W) (Int32.ofNat i) (Int32.ofNat c) (b32 bo) (Int32.ofNat u) (Int32.ofNat s) (some (N s)) (Int32.ofNat l) = some (1, lbH h (N s) l u c (b32 bo) W i s) := by
    intro s l hs hl9
    have hx := hnd s hs
    have gs := (nm_sp hA hs).2
    unfold Net_label_110 lbH
    rw [e_nn, v_is hx.1.1, e_b (c_give hW hx.1.1 hx.2.2 hl9 (by omega)), e_nn]
    rw [v_gR (gv_W hW hb) (by rw [gv_cl]; exact hWc) rfl, gv_R, e1, e_nn, v_sI (t := 0) (f := 1) (gv_W hW hb) (by rw [gv_R]; exact e1) rfl rfl (by rw [gv_L, hWL 1 (by omega)]; exact hin), i_cl (by omega)]
    rw [v_gR (lb_W1 hW hb) (by rw [cl_wA, gv_cl]; exact hWc) rfl, Rf_wA, gv_R, e2, e_nn, v_sI (t := 0) (f := 2) (lb_W1 hW hb) (by rw [Rf_wA, gv_R]; exact e2) rfl rfl (by rw [AL_wA, gv_L, hWL 2 (by omega)]; exact hin), i_cl (by omega)]
  have h68 : ∀ s v6 (o : Option Nat), o = some s → s < nt r 2 → (v6 = 0 → 0 < hi r s) → (v6 ≠ 0 → lo r s < nt r (14 + s)) → Net_label_68 h a (some W) (Int32.ofNat i) (Int32.ofNat c) (b32 bo) (Int32.ofNat u) v6 (Int32.ofNat s) = some (1, lbH h (N s) (if v6 = 0 then hi r s - 1 else lo r s) u c (b32 bo) W i s) := by
    intro s v6 o _ hs hv0 hv1
    have hx := hnd s hs
    have gs := (nm_sp hA hs).2
    unfold Net_label_68
    rw [if_neg (m1_ne (by omega)), v_gR hW ha rfl, hl 1 (by omega) (by omega), e_nn, v_is hN.1, e_b (ls_get hW hN hs), v_ck hx.1.1]
    by_cases e : v6 = 0
    · rw [if_pos e, if_pos e, e_nn, v_is hx.1.1, e_b (c_highestFree hW hR hA hI hs (hv0 e))]
      have := hiN_le (p := fun l => !hld r s l) (nt r (14 + s))
      have h0 := hv0 e
      exact h110 s _ hs (by unfold hi at *; omega)
    · rw [if_neg e, if_neg e, e_nn, v_is hx.1.1, e_b (c_lowestFree hW hR hA hI hs (hv1 e))]
      exact h110 s _ hs (hv1 e)
  have hxu := hnd u hu
  have hfu := hfr u hu
  unfold Net_label
  rw [e_nn, v_gR hW hWc rfl, e0, e_nn, v_aI (t := 0) hW e0 rfl rfl (by rw [hWL 0 (by omega)]; exact hin), i_cl (by omega), hWn]
  rw [v_gR hW ha rfl, hl 1 (by omega) (by omega), e_nn, v_is hN.1, e_b (ls_get hW hN hu), v_ck hxu.1.1, e_nn, v_is hxu.1.1, e_b (c_free hW hR hA hI hu)]
  unfold Net_label_31 spF lbF
  by_cases f0 : 0 < fr r u
  · rw [if_neg (show ¬ Int32.ofNat (fr r u) ≤ 0 from fun q => by have := (i_le (b := 0) (by omega) (by omega)).mp q; omega), if_neg (by decide), if_pos f0]
    rw [h68 u 1 (some u) rfl hu (fun q => by cases q) (fun _ => fr_lo.mp f0), if_neg (by decide)]
    simp only [if_pos f0]
  · rw [if_pos (show Int32.ofNat (fr r u) ≤ 0 from (i_le (b := 0) (by omega) (by omega)).mpr (by omega)), if_pos rfl, if_neg f0]
    rw [v_is ha, e_b (c_borrowedBy hW hR hA hI hu)]
    have hcl := ct_le hA hI (φ := fun p i => bN (cq r (Int32.ofNat u) 1 p i)) (fun _ _ => bN_le)
    rw [show (0 : Int32) = Int32.ofNat 0 from rfl, net_set hW hR.1 (j := 0) (by omega), hA.2.1.1.1]
    have hb0 := hA.2.1.1.2
    by_cases q : ct r (fun p i => bN (cq r (Int32.ofNat u) 1 p i)) < nt r 0
    · rw [if_neg (fun z => by have := (i_le (by omega) (by omega)).mp z; omega), if_pos q, v_is ha, e_b (c_lenderTo hW hR hA hI)]
      cases el : lnd r (Int32.ofNat u) with
      | none => unfold Net_label_68; rw [if_pos (show o32 none = -1 from rfl)]; rfl
      | some s =>
        obtain ⟨hs, hs0⟩ := lnd_ok s el
        show Net_label_68 h a (some W) (Int32.ofNat i) (Int32.ofNat c) (b32 bo) (Int32.ofNat u) 0 (Int32.ofNat s) = _
        rw [h68 s 0 (some s) rfl hs (fun _ => fr_hi hs0) (fun z => absurd rfl z), if_pos rfl]
        simp only [if_neg f0]
    · rw [if_pos ((i_le (by omega) (by omega)).mpr (by omega)), if_neg q]
      unfold Net_label_68
      rw [if_pos rfl]
      rfl
/-- net and row behind a label given -/
theorem lb_RN (hW : WF h) (hR : RN h G a r N L C K mC) (hA : InvA r) (hI : InvW r) (hm : mC ≤ nt r 4) (hc : c < nt r 4) (hw : w < 2) (hcw : mC ≤ c ∨ (w = 1 ∧ nt r (104 + 66 * c + 2) = 0)) (hi : nt r (wp c w) = i) (hi0 : 0 < i) (hi6 : i < 6) (hbo : b32 bo = Int32.ofNat w)
    (hs : s < nt r 2) (hl : l < nt r (14 + s)) (hu : u < nt r 2) (hfree : hld r s l = false) (hloose : ∀ c' w', c' < mC → w' < 2 → Rf h 12 (2 + w') (C c') ≠ some W) : RN (lbH h (N s) l u c (b32 bo) W i s) G a (setL r (wp c w) i u s l 0) N L C K mC := by
  have hb : b32 bo = 0 ∨ b32 bo = 1 := b32_01
  have h4 := nm4 hA
  have hlen : ∀ c w, c < mC → w < 2 → nt r (wp c w) ≤ 6 := fun c w y1 y2 => by have := (hI c w (by omega) y2).1.2; omega
  have hLab := LabR_setL (bo := bo) hW hR.2.2.2.2.2.2 hA hI hc hw hi hi0 hi6 hs hl hu hfree hbo (fun k hk f x1 x2 => (hR.2.2.1 k hk).2.2 f x1 x2) hR.2.1.2.2.2.1
  have hLab' : LabR (lbH h (N s) l u c (b32 bo) W i s) (setL r (wp c w) i u s l 0) N := by
    have key : ∀ f q, 1 ≤ f → f ≤ 4 → ∀ j, Ar (lbH h (N s) l u c (b32 bo) W i s) 10 f q j = Ar (gvH h (N s) l (Int32.ofNat u) (Int32.ofNat c) (b32 bo)) 10 f q j := fun f q x1 x2 j => lb_Aro hW hb (by rw [kd10 x1 x2]; split <;> omega) (fun e => by simp at e)
    refine ⟨fun c1 w1 i1 s1 l1 x1 x2 x3 => ?_, fun s1 l1 x1 x2 => ?_⟩
    · rw [key 1 _ (by omega) (by omega), key 2 _ (by omega) (by omega), key 3 _ (by omega) (by omega), key 4 _ (by omega) (by omega)]
      exact hLab.1 c1 w1 i1 s1 l1 x1 x2 x3
    · rw [key 1 _ (by omega) (by omega)]
      exact hLab.2 s1 l1 x1 x2
  refine R6.rn (R6.row (R6.heap hR.six (fun _ => lb_cl) (fun _ _ _ => lb_J) (fun _ _ _ => lb_R) (fun _ _ _ => lb_L) (fun _ _ _ _ => lb_A) (fun i => ?_) (fun c' w' q x1 x2 x3 f i hf => ?_)) hA (by omega) (fun j hj => setL_out hi6 hj) hw hcw (by omega) hlen) hLab'
  · rw [lb_Aro hW hb (by decide) (fun e => by simp at e), gv_Aro hW hb (by decide) (fun e => by simp at e)]
  · rw [lb_Aro hW hb (by rw [kd6 hf]; omega) (fun e => hloose c' w' x1 x2 (by rw [x3, e.2])), gv_Aro hW hb (by rw [kd6 hf]; omega) (fun e => by simp at e)]
end LAB2
