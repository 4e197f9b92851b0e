/-! the state of the model: arrays by field number, int fields by field number, the long; fields: 0 state, 1 backup, 2 aside, 3 saved, 4 isSaved, 5 draftRow, 6 draftLength, 7 thrown, 8 text, 9 textLength, 10 position, 11 tokenStart, 12 token, 13 letters, 14 number, 15 errorCode, 16 errorPosition, 17 word, 18 holder, 19 holderWay, 20 holderIndex, 21 tried, 22 best, 23 isRoomy, 24 triedLength, 25 triedDelay, 26 bestLength, 27 bestDelay, 28 keptDraft -/
abbrev g_MD : Type := (Nat → Nat → Int32) × (Nat → Int32) × Int64
def mT (k : Nat) : Nat := if k = 4 then 1 else if k = 23 then 1 else 0
def mL (k : Nat) : Nat := match k with
  | 0 => 1112
  | 1 => 1112
  | 2 => 1112
  | 3 => 2224
  | 4 => 2
  | 5 => 6
  | 8 => 800
  | 21 => 6
  | 22 => 6
  | 23 => 16
  | 28 => 6
  | _ => 0
def mAr : List Nat := [0, 1, 2, 3, 4, 5, 8, 21, 22, 23, 28]
def mF (ad : Nat → Nat) (M : g_MD) : List Value := [.ref (ad 0), .ref (ad 1), .ref (ad 2), .ref (ad 3), .ref (ad 4), .ref (ad 5), .int (M.2.1 6), .int (M.2.1 7), .ref (ad 8), .int (M.2.1 9), .int (M.2.1 10), .int (M.2.1 11), .int (M.2.1 12), .int (M.2.1 13), .int (M.2.1 14), .int (M.2.1 15), .int (M.2.1 16), .long M.2.2, .int (M.2.1 18), .int (M.2.1 19), .int (M.2.1 20), .ref (ad 21), .ref (ad 22), .ref (ad 23), .int (M.2.1 24), .int (M.2.1 25), .int (M.2.1 26), .int (M.2.1 27), .ref (ad 28)]
def mFd (ad : Nat → Nat) (l : List Nat) (q : Nat) : Option Nat := match l with
  | [] => none
  | k :: l => if q = ad k then some k else mFd ad l q
def mH (h0 : g_AH) (a0 : Nat) (ad : Nat → Nat) (M : g_MD) : g_AH := (fun q => if q = a0 then some (.inr (7, mF ad M)) else match mFd ad mAr q with
  | some k => some (.inl (mT k, mL k, .inl (M.1 k)))
  | none => h0.1 q, h0.2)
def mOK (a0 : Nat) (ad : Nat → Nat) : Prop := (∀ k ∈ mAr, ad k ≠ a0) ∧ ∀ j ∈ mAr, ∀ k ∈ mAr, ad j = ad k → j = k
def mp (M : g_MD) (k : Nat) (x : Int32) : g_MD := (M.1, fun j => if j = k then x else M.2.1 j, M.2.2)
def ms (M : g_MD) (k i : Nat) (x : Int32) : g_MD := (fun j => if j = k then upd (M.1 k) i x else M.1 j, M.2)
section MOPS
variable {α : Type} {M : g_MD} {t k : Nat} {i x : Int32} {z : α}
def g_mA (M : g_MD) (t k : Nat) (i : Int32) (c : Int32 → Option α) : Option α := if (k ∈ mAr ∧ mT k = t) ∧ ¬ (i < 0 ∨ mL k ≤ i.toNatClampNeg) then c (M.1 k i.toNatClampNeg) else none
def g_mS (M : g_MD) (t k : Nat) (i x : Int32) (c : g_MD → Option α) : Option α := if (k ∈ mAr ∧ mT k = t) ∧ ¬ (i < 0 ∨ mL k ≤ i.toNatClampNeg) then c (ms M k i.toNatClampNeg x) else none
theorem g_mA_inv {c : Int32 → Option α} (e : g_mA M t k i c = some z) : ∃ y, (((k ∈ mAr ∧ mT k = t) ∧ vp_in i (mL k)) ∧ M.1 k i.toNatClampNeg = y) ∧ c y = some z := by
  unfold g_mA at e
  split at e
  · rename_i hc; exact ⟨_, ⟨hc, rfl⟩, e⟩
  · cases e
theorem g_mS_inv {c : g_MD → Option α} (e : g_mS M t k i x c = some z) : ((k ∈ mAr ∧ mT k = t) ∧ vp_in i (mL k)) ∧ c (ms M k i.toNatClampNeg x) = some z := by
  unfold g_mS at e
  split at e
  · rename_i hc; exact ⟨hc, e⟩
  · cases e
end MOPS
theorem mFd_ok {a0 : Nat} {ad : Nat → Nat} (ok : mOK a0 ad) {k : Nat} (hk : k ∈ mAr) : mFd ad mAr (ad k) = some k := by
  have key : ∀ l : List Nat, (∀ j ∈ l, j ∈ mAr) → k ∈ l → mFd ad l (ad k) = some k := by
    intro l
    induction l with
    | nil => intro _ h; cases h
    | cons j l ih =>
      intro hl h
      unfold mFd
      by_cases e : ad k = ad j
      · rw [if_pos e, ok.2 k hk j (hl j List.mem_cons_self) e]
      · rw [if_neg e]
        refine ih (fun x hx => hl x (List.mem_cons_of_mem _ hx)) ?_
        rcases List.mem_cons.mp h with q | q
        · exact absurd (by rw [q]) e
        · exact q
  exact key mAr (fun _ h => h) hk
theorem mFd_some {ad : Nat → Nat} {q k : Nat} : ∀ l : List Nat, mFd ad l q = some k → q = ad k ∧ k ∈ l := by
  intro l
  induction l with
  | nil => intro h; cases h
  | cons j l ih =>
    intro h
    unfold mFd at h
    by_cases e : q = ad j
    · rw [if_pos e] at h; cases h; exact ⟨e, List.mem_cons_self⟩
    · rw [if_neg e] at h; exact ⟨(ih h).1, List.mem_cons_of_mem _ (ih h).2⟩
theorem mH_obj {h0 : g_AH} {a0 : Nat} {ad : Nat → Nat} {M : g_MD} (_ : mOK a0 ad) : (mH h0 a0 ad M).1 a0 = some (.inr (7, mF ad M)) := by simp [mH]
theorem mH_look {h0 : g_AH} {a0 : Nat} {ad : Nat → Nat} {M : g_MD} (ok : mOK a0 ad) : g_look (mH h0 a0 ad M) a0 = some (.inr (7, mF ad M)) := g_own (mH_obj ok)
theorem mH_arr {h0 : g_AH} {a0 : Nat} {ad : Nat → Nat} {M : g_MD} (ok : mOK a0 ad) {k : Nat} (hk : k ∈ mAr) : (mH h0 a0 ad M).1 (ad k) = some (.inl (mT k, mL k, .inl (M.1 k))) := by
  simp only [mH, if_neg (ok.1 k hk), mFd_ok ok hk]
theorem mH_set {h0 : g_AH} {a0 : Nat} {ad : Nat → Nat} {M : g_MD} (ok : mOK a0 ad) {k : Nat} (hk : k ∈ mAr) (i : Nat) (x : Int32) : g_up (mH h0 a0 ad M) (ad k) (.inl (mT k, mL k, .inl (upd (M.1 k) i x))) = mH h0 a0 ad (ms M k i x) := by
  unfold g_up
  refine Prod.ext ?_ rfl
  funext q
  show (if q = ad k then _ else (mH h0 a0 ad M).1 q) = (mH h0 a0 ad (ms M k i x)).1 q
  by_cases hq : q = ad k
  · subst hq
    rw [if_pos rfl, mH_arr ok hk]
    simp [ms]
  · rw [if_neg hq]
    simp only [mH]
    by_cases h1 : q = a0
    · rw [if_pos h1, if_pos h1]; rfl
    · rw [if_neg h1, if_neg h1]
      cases e : mFd ad mAr q with
      | none => rfl
      | some j =>
        have hj : j ≠ k := fun z => hq (by rw [← z]; exact (mFd_some _ e).1)
        simp [ms, hj]
theorem mH_put6 {h0 : g_AH} {a0 : Nat} {ad : Nat → Nat} {M : g_MD} (x : Int32) : g_up (mH h0 a0 ad M) a0 (.inr (7, (mF ad M).set 6 (.int x))) = mH h0 a0 ad (mp M 6 x) := by
  refine Prod.ext ?_ rfl
  funext q
  by_cases h1 : q = a0
  · simp [g_up, mH, h1, mF, mp]
  · simp [g_up, mH, h1, mp]
theorem mH_put7 {h0 : g_AH} {a0 : Nat} {ad : Nat → Nat} {M : g_MD} (x : Int32) : g_up (mH h0 a0 ad M) a0 (.inr (7, (mF ad M).set 7 (.int x))) = mH h0 a0 ad (mp M 7 x) := by
  refine Prod.ext ?_ rfl
  funext q
  by_cases h1 : q = a0
  · simp [g_up, mH, h1, mF, mp]
  · simp [g_up, mH, h1, mp]
theorem mH_put9 {h0 : g_AH} {a0 : Nat} {ad : Nat → Nat} {M : g_MD} (x : Int32) : g_up (mH h0 a0 ad M) a0 (.inr (7, (mF ad M).set 9 (.int x))) = mH h0 a0 ad (mp M 9 x) := by
  refine Prod.ext ?_ rfl
  funext q
  by_cases h1 : q = a0
  · simp [g_up, mH, h1, mF, mp]
  · simp [g_up, mH, h1, mp]
theorem mH_put10 {h0 : g_AH} {a0 : Nat} {ad : Nat → Nat} {M : g_MD} (x : Int32) : g_up (mH h0 a0 ad M) a0 (.inr (7, (mF ad M).set 10 (.int x))) = mH h0 a0 ad (mp M 10 x) := by
  refine Prod.ext ?_ rfl
  funext q
  by_cases h1 : q = a0
  · simp [g_up, mH, h1, mF, mp]
  · simp [g_up, mH, h1, mp]
theorem mH_put11 {h0 : g_AH} {a0 : Nat} {ad : Nat → Nat} {M : g_MD} (x : Int32) : g_up (mH h0 a0 ad M) a0 (.inr (7, (mF ad M).set 11 (.int x))) = mH h0 a0 ad (mp M 11 x) := by
  refine Prod.ext ?_ rfl
  funext q
  by_cases h1 : q = a0
  · simp [g_up, mH, h1, mF, mp]
  · simp [g_up, mH, h1, mp]
theorem mH_put12 {h0 : g_AH} {a0 : Nat} {ad : Nat → Nat} {M : g_MD} (x : Int32) : g_up (mH h0 a0 ad M) a0 (.inr (7, (mF ad M).set 12 (.int x))) = mH h0 a0 ad (mp M 12 x) := by
  refine Prod.ext ?_ rfl
  funext q
  by_cases h1 : q = a0
  · simp [g_up, mH, h1, mF, mp]
  · simp [g_up, mH, h1, mp]
theorem mH_put13 {h0 : g_AH} {a0 : Nat} {ad : Nat → Nat} {M : g_MD} (x : Int32) : g_up (mH h0 a0 ad M) a0 (.inr (7, (mF ad M).set 13 (.int x))) = mH h0 a0 ad (mp M 13 x) := by
  refine Prod.ext ?_ rfl
  funext q
  by_cases h1 : q = a0
  · simp [g_up, mH, h1, mF, mp]
  · simp [g_up, mH, h1, mp]
theorem mH_put14 {h0 : g_AH} {a0 : Nat} {ad : Nat → Nat} {M : g_MD} (x : Int32) : g_up (mH h0 a0 ad M) a0 (.inr (7, (mF ad M).set 14 (.int x))) = mH h0 a0 ad (mp M 14 x) := by
  refine Prod.ext ?_ rfl
  funext q
  by_cases h1 : q = a0
  · simp [g_up, mH, h1, mF, mp]
  · simp [g_up, mH, h1, mp]
theorem mH_put15 {h0 : g_AH} {a0 : Nat} {ad : Nat → Nat} {M : g_MD} (x : Int32) : g_up (mH h0 a0 ad M) a0 (.inr (7, (mF ad M).set 15 (.int x))) = mH h0 a0 ad (mp M 15 x) := by
  refine Prod.ext ?_ rfl
  funext q
  by_cases h1 : q = a0
  · simp [g_up, mH, h1, mF, mp]
  · simp [g_up, mH, h1, mp]
theorem mH_put16 {h0 : g_AH} {a0 : Nat} {ad : Nat → Nat} {M : g_MD} (x : Int32) : g_up (mH h0 a0 ad M) a0 (.inr (7, (mF ad M).set 16 (.int x))) = mH h0 a0 ad (mp M 16 x) := by
  refine Prod.ext ?_ rfl
  funext q
  by_cases h1 : q = a0
  · simp [g_up, mH, h1, mF, mp]
  · simp [g_up, mH, h1, mp]
theorem mH_put17 {h0 : g_AH} {a0 : Nat} {ad : Nat → Nat} {M : g_MD} (w : Int64) : g_up (mH h0 a0 ad M) a0 (.inr (7, (mF ad M).set 17 (.long w))) = mH h0 a0 ad (M.1, M.2.1, w) := by
  refine Prod.ext ?_ rfl
  funext q
  by_cases h1 : q = a0
  · simp [g_up, mH, h1, mF]
  · simp [g_up, mH, h1]
theorem mH_put18 {h0 : g_AH} {a0 : Nat} {ad : Nat → Nat} {M : g_MD} (x : Int32) : g_up (mH h0 a0 ad M) a0 (.inr (7, (mF ad M).set 18 (.int x))) = mH h0 a0 ad (mp M 18 x) := by
  refine Prod.ext ?_ rfl
  funext q
  by_cases h1 : q = a0
  · simp [g_up, mH, h1, mF, mp]
  · simp [g_up, mH, h1, mp]
theorem mH_put19 {h0 : g_AH} {a0 : Nat} {ad : Nat → Nat} {M : g_MD} (x : Int32) : g_up (mH h0 a0 ad M) a0 (.inr (7, (mF ad M).set 19 (.int x))) = mH h0 a0 ad (mp M 19 x) := by
  refine Prod.ext ?_ rfl
  funext q
  by_cases h1 : q = a0
  · simp [g_up, mH, h1, mF, mp]
  · simp [g_up, mH, h1, mp]
theorem mH_put20 {h0 : g_AH} {a0 : Nat} {ad : Nat → Nat} {M : g_MD} (x : Int32) : g_up (mH h0 a0 ad M) a0 (.inr (7, (mF ad M).set 20 (.int x))) = mH h0 a0 ad (mp M 20 x) := by
  refine Prod.ext ?_ rfl
  funext q
  by_cases h1 : q = a0
  · simp [g_up, mH, h1, mF, mp]
  · simp [g_up, mH, h1, mp]
theorem mH_put24 {h0 : g_AH} {a0 : Nat} {ad : Nat → Nat} {M : g_MD} (x : Int32) : g_up (mH h0 a0 ad M) a0 (.inr (7, (mF ad M).set 24 (.int x))) = mH h0 a0 ad (mp M 24 x) := by
  refine Prod.ext ?_ rfl
  funext q
  by_cases h1 : q = a0
  · simp [g_up, mH, h1, mF, mp]
  · simp [g_up, mH, h1, mp]
theorem mH_put25 {h0 : g_AH} {a0 : Nat} {ad : Nat → Nat} {M : g_MD} (x : Int32) : g_up (mH h0 a0 ad M) a0 (.inr (7, (mF ad M).set 25 (.int x))) = mH h0 a0 ad (mp M 25 x) := by
  refine Prod.ext ?_ rfl
  funext q
  by_cases h1 : q = a0
  · simp [g_up, mH, h1, mF, mp]
  · simp [g_up, mH, h1, mp]
theorem mH_put26 {h0 : g_AH} {a0 : Nat} {ad : Nat → Nat} {M : g_MD} (x : Int32) : g_up (mH h0 a0 ad M) a0 (.inr (7, (mF ad M).set 26 (.int x))) = mH h0 a0 ad (mp M 26 x) := by
  refine Prod.ext ?_ rfl
  funext q
  by_cases h1 : q = a0
  · simp [g_up, mH, h1, mF, mp]
  · simp [g_up, mH, h1, mp]
theorem mH_put27 {h0 : g_AH} {a0 : Nat} {ad : Nat → Nat} {M : g_MD} (x : Int32) : g_up (mH h0 a0 ad M) a0 (.inr (7, (mF ad M).set 27 (.int x))) = mH h0 a0 ad (mp M 27 x) := by
  refine Prod.ext ?_ rfl
  funext q
  by_cases h1 : q = a0
  · simp [g_up, mH, h1, mF, mp]
  · simp [g_up, mH, h1, mp]
theorem mH_put {h0 : g_AH} {a0 : Nat} {ad : Nat → Nat} {M : g_MD} {k : Nat} (hk : k ∈ ([6, 7, 9, 10, 11, 12, 13, 14, 15, 16, 18, 19, 20, 24, 25, 26, 27] : List Nat)) (x : Int32) : g_up (mH h0 a0 ad M) a0 (.inr (7, (mF ad M).set k (.int x))) = mH h0 a0 ad (mp M k x) := by
  simp only [List.mem_cons, List.not_mem_nil, or_false] at hk
  rcases hk with rfl | rfl | rfl | rfl | rfl | rfl | rfl | rfl | rfl | rfl | rfl | rfl | rfl | rfl | rfl | rfl | rfl
  · exact mH_put6 x
  · exact mH_put7 x
  · exact mH_put9 x
  · exact mH_put10 x
  · exact mH_put11 x
  · exact mH_put12 x
  · exact mH_put13 x
  · exact mH_put14 x
  · exact mH_put15 x
  · exact mH_put16 x
  · exact mH_put18 x
  · exact mH_put19 x
  · exact mH_put20 x
  · exact mH_put24 x
  · exact mH_put25 x
  · exact mH_put26 x
  · exact mH_put27 x
section GM
variable {X : g_X} {K : g_M} {r : g_RV} {he h0 : g_AH} {a0 : Nat} {ad : Nat → Nat} {M : g_MD} {pc pc' : Nat} {Lc : List (Nat × Value)} {rest : List Value} {i : Nat}
theorem gm_getA (ok : mOK a0 ad) (kf : Nat) {v : Value} (d : decode (k_cc K) pc = .ok (.getfield i, 3)) (hv : (mF ad M)[kf]? = some v) (hl : Jvm.Cond.fieldLink (k_own K) i "CircuitDeskModel" (gT_7 kf).2.1 (gT_7 kf).2.2.1 ∈ lw_all) (hs : (gT_7 kf).1 = "CircuitDeskModel") (p : pc + 3 = pc') (k : G X K r he (mH h0 a0 ad M) pc' Lc (v :: rest)) : G X K r he (mH h0 a0 ad M) pc Lc (.ref a0 :: rest) := by
  have hk : kf < 29 := (List.getElem?_eq_some_iff.mp hv).1
  exact g_getf d (mH_look ok) (q := ("CircuitDeskModel", gT_7, 29)) rfl hk hv hl (Or.inl hs) p k
theorem gm_put (ok : mOK a0 ad) (kf : Nat) {x : Int32} (d : decode (k_cc K) pc = .ok (.putfield i, 3)) (hfin : (gT_7 kf).2.2.2 = false) (hk : kf ∈ ([6, 7, 9, 10, 11, 12, 13, 14, 15, 16, 18, 19, 20, 24, 25, 26, 27] : List Nat)) (hl : Jvm.Cond.fieldLink (k_own K) i "CircuitDeskModel" (gT_7 kf).2.1 (gT_7 kf).2.2.1 ∈ lw_all) (p : pc + 3 = pc') (k : G X K r he (mH h0 a0 ad (mp M kf x)) pc' Lc rest) : G X K r he (mH h0 a0 ad M) pc Lc (.int x :: .ref a0 :: rest) := by
  have hs : (gT_7 kf).1 = "CircuitDeskModel" := by
    simp only [List.mem_cons, List.not_mem_nil, or_false] at hk
    rcases hk with rfl | rfl | rfl | rfl | rfl | rfl | rfl | rfl | rfl | rfl | rfl | rfl | rfl | rfl | rfl | rfl | rfl <;> rfl
  have ht : gty 7 kf = .int := by
    simp only [List.mem_cons, List.not_mem_nil, or_false] at hk
    rcases hk with rfl | rfl | rfl | rfl | rfl | rfl | rfl | rfl | rfl | rfl | rfl | rfl | rfl | rfl | rfl | rfl | rfl <;> rfl
  have hlt : kf < 29 := by
    simp only [List.mem_cons, List.not_mem_nil, or_false] at hk
    omega
  rw [← mH_put hk x] at k
  exact g_putf d (mH_obj ok) (q := ("CircuitDeskModel", gT_7, 29)) rfl hlt (by exact hlt) hfin (by rw [ht]; rfl) (by rw [ht]; rfl) hl (Or.inl hs) p k
theorem gm_putW (ok : mOK a0 ad) (kf : Nat) {w : Int64} (d : decode (k_cc K) pc = .ok (.putfield i, 3)) (hfin : (gT_7 kf).2.2.2 = false) (hk : kf = 17) (hl : Jvm.Cond.fieldLink (k_own K) i "CircuitDeskModel" (gT_7 kf).2.1 (gT_7 kf).2.2.1 ∈ lw_all) (p : pc + 3 = pc') (k : G X K r he (mH h0 a0 ad (M.1, M.2.1, w)) pc' Lc rest) : G X K r he (mH h0 a0 ad M) pc Lc (.long w :: .ref a0 :: rest) := by
  subst hk
  rw [← mH_put17 w] at k
  exact g_putf d (mH_obj ok) (q := ("CircuitDeskModel", gT_7, 29)) rfl (by decide) (show 17 < 29 by decide) hfin rfl rfl hl (Or.inl rfl) p k
theorem gm_ald0 (ok : mOK a0 ad) {k9 : Nat} {i9 y : Int32} (d : decode (k_cc K) pc = .ok (.iaload, 1)) (c : ((k9 ∈ mAr ∧ mT k9 = 0) ∧ vp_in i9 (mL k9)) ∧ M.1 k9 i9.toNatClampNeg = y) (p : pc + 1 = pc') (k : G X K r he (mH h0 a0 ad M) pc' Lc (.int y :: rest)) : G X K r he (mH h0 a0 ad M) pc Lc (.int i9 :: .ref (ad k9) :: rest) := by
  obtain ⟨⟨⟨hk, ht⟩, hi⟩, rfl⟩ := c
  have e := mH_arr (h0 := h0) (M := M) ok hk
  rw [ht] at e
  exact g_iald d (g_own e) hi p k
theorem gm_ald1 (ok : mOK a0 ad) {k9 : Nat} {i9 y : Int32} (d : decode (k_cc K) pc = .ok (.baload, 1)) (c : ((k9 ∈ mAr ∧ mT k9 = 1) ∧ vp_in i9 (mL k9)) ∧ M.1 k9 i9.toNatClampNeg = y) (p : pc + 1 = pc') (k : G X K r he (mH h0 a0 ad M) pc' Lc (.int y :: rest)) : G X K r he (mH h0 a0 ad M) pc Lc (.int i9 :: .ref (ad k9) :: rest) := by
  obtain ⟨⟨⟨hk, ht⟩, hi⟩, rfl⟩ := c
  have e := mH_arr (h0 := h0) (M := M) ok hk
  rw [ht] at e
  exact g_zald d (g_own e) hi p k
theorem gm_ast0 (ok : mOK a0 ad) {k9 : Nat} {i9 x : Int32} (d : decode (k_cc K) pc = .ok (.iastore, 1)) (c : (k9 ∈ mAr ∧ mT k9 = 0) ∧ vp_in i9 (mL k9)) (p : pc + 1 = pc') (k : G X K r he (mH h0 a0 ad (ms M k9 i9.toNatClampNeg x)) pc' Lc rest) : G X K r he (mH h0 a0 ad M) pc Lc (.int x :: .int i9 :: .ref (ad k9) :: rest) := by
  obtain ⟨⟨hk, ht⟩, hi⟩ := c
  have e := mH_arr (h0 := h0) (M := M) ok hk
  rw [← mH_set ok hk, ht] at k
  rw [ht] at e
  exact g_iast d e hi p k
theorem gm_ast1 (ok : mOK a0 ad) {k9 : Nat} {i9 x : Int32} (d : decode (k_cc K) pc = .ok (.bastore, 1)) (c : (k9 ∈ mAr ∧ mT k9 = 1) ∧ vp_in i9 (mL k9)) (p : pc + 1 = pc') (k : G X K r he (mH h0 a0 ad (ms M k9 i9.toNatClampNeg (vp_nar .boolean x))) pc' Lc rest) : G X K r he (mH h0 a0 ad M) pc Lc (.int x :: .int i9 :: .ref (ad k9) :: rest) := by
  obtain ⟨⟨hk, ht⟩, hi⟩ := c
  have e := mH_arr (h0 := h0) (M := M) ok hk
  rw [← mH_set ok hk, ht] at k
  rw [ht] at e
  exact g_zast d e hi p k
end GM
def g_bM {α β : Type} (f : Option (β × g_MD)) (k : β → g_MD → Option α) : Option α := match f with
  | some x => k x.1 x.2
  | none => none
theorem g_bM_inv {α β : Type} {f : Option (β × g_MD)} {k : β → g_MD → Option α} {z : α} (e : g_bM f k = some z) : ∃ x h', f = some (x, h') ∧ k x h' = some z := by
  unfold g_bM at e; split at e
  · exact ⟨_, _, rfl, e⟩
  · cases e
