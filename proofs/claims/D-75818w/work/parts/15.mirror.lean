/-! THE MIRRORS' OPERATIONS (continuation style, none: not covered) and how each is read backwards in a walk -/
section MIRROR
variable {α : Type} {h : g_AH} {a ci kf t : Nat} {i : Int32} {z : α}
/-- loops: as many turns -/
def gFU : Nat := 1000000
abbrev g_EX : Type := String × Option Nat
def g_rq (c : Prop) [Decidable c] (k : Option α) : Option α := if c then k else none
theorem g_rq_inv {c : Prop} [Decidable c] {k : Option α} (e : g_rq c k = some z) : c ∧ k = some z := by
  unfold g_rq at e; split at e
  · exact ⟨by assumption, e⟩
  · cases e
def g_let {β : Type} (x : β) (k : β → Option α) : Option α := k x
def g_gI (h : g_AH) (a ci kf : Nat) (k : Int32 → Option α) : Option α := match g_look h a with
  | some (.inr (c, fs)) => if c = ci then (match fs[kf]? with
    | some (.int x) => k x
    | _ => none) else none
  | _ => none
theorem g_gI_inv {k : Int32 → Option α} (e : g_gI h a ci kf k = some z) : ∃ fs x, g_look h a = some (.inr (ci, fs)) ∧ fs[kf]? = some (.int x) ∧ k x = some z := by
  unfold g_gI at e
  split at e
  · split at e
    · split at e
      · rename_i c fs hl hc _ x hx
        subst hc
        exact ⟨fs, x, hl, hx, e⟩
      · cases e
    · cases e
  · cases e
def g_gR (h : g_AH) (a ci kf : Nat) (k : Option Nat → Option α) : Option α := match g_look h a with
  | some (.inr (c, fs)) => if c = ci then (match fs[kf]? with
    | some (.ref x) => k (some x)
    | some .null => k none
    | _ => none) else none
  | _ => none
theorem g_gR_inv {k : Option Nat → Option α} (e : g_gR h a ci kf k = some z) : ∃ fs x, g_look h a = some (.inr (ci, fs)) ∧ fs[kf]? = some (va_rf x) ∧ k x = some z := by
  unfold g_gR at e
  split at e
  · split at e
    · split at e
      · rename_i c fs hl hc _ x hx
        subst hc
        exact ⟨fs, some x, hl, hx, e⟩
      · rename_i c fs hl hc _ hx
        subst hc
        exact ⟨fs, none, hl, hx, e⟩
      · cases e
    · cases e
  · cases e
/-- a field's store -/
def g_pF (h : g_AH) (a ci kf : Nat) (v : Value) (k : g_AH → Option α) : Option α := match h.1 a with
  | some (.inr (c, fs)) => if c = ci ∧ kf < fs.length then k (g_up h a (.inr (c, fs.set kf v))) else none
  | _ => none
theorem g_pF_inv {v : Value} {k : g_AH → Option α} (e : g_pF h a ci kf v k = some z) : ∃ fs, h.1 a = some (.inr (ci, fs)) ∧ kf < fs.length ∧ k (g_up h a (.inr (ci, fs.set kf v))) = some z := by
  unfold g_pF at e
  split at e
  · split at e
    · rename_i c fs hl hc
      obtain ⟨hc1, hc2⟩ := hc
      subst hc1
      exact ⟨fs, hl, hc2, e⟩
    · cases e
  · cases e
/-- a reference that isn't null -/
def g_nn (o : Option Nat) (k : Nat → Option α) : Option α := match o with
  | some a => k a
  | none => none
theorem g_nn_inv {o : Option Nat} {k : Nat → Option α} (e : g_nn o k = some z) : ∃ a, o = some a ∧ k a = some z := by
  unfold g_nn at e; split at e
  · exact ⟨_, rfl, e⟩
  · cases e
/-- arrays of int, boolean (t 1), byte (t 2) -/
def g_aI (h : g_AH) (t a : Nat) (i : Int32) (k : Int32 → Option α) : Option α := match g_look h a with
  | some (.inl (t', n, .inl f)) => if t' = t ∧ ¬ (i < 0 ∨ n ≤ i.toNatClampNeg) then k (f i.toNatClampNeg) else none
  | _ => none
theorem g_aI_inv {k : Int32 → Option α} (e : g_aI h t a i k = some z) : ∃ n f, g_look h a = some (.inl (t, n, .inl f)) ∧ vp_in i n ∧ k (f i.toNatClampNeg) = some z := by
  unfold g_aI at e
  split at e
  · split at e
    · rename_i t' n f hl hc
      obtain ⟨hc1, hc2⟩ := hc
      subst hc1
      exact ⟨n, f, hl, hc2, e⟩
    · cases e
  · cases e
def g_sI (h : g_AH) (t a : Nat) (i x : Int32) (k : g_AH → Option α) : Option α := match h.1 a with
  | some (.inl (t', n, .inl f)) => if t' = t ∧ ¬ (i < 0 ∨ n ≤ i.toNatClampNeg) then k (g_up h a (.inl (t, n, .inl (upd f i.toNatClampNeg x)))) else none
  | _ => none
theorem g_sI_inv {x : Int32} {k : g_AH → Option α} (e : g_sI h t a i x k = some z) : ∃ n f, h.1 a = some (.inl (t, n, .inl f)) ∧ vp_in i n ∧ k (g_up h a (.inl (t, n, .inl (upd f i.toNatClampNeg x)))) = some z := by
  unfold g_sI at e
  split at e
  · split at e
    · rename_i t' n f hl hc
      obtain ⟨hc1, hc2⟩ := hc
      subst hc1
      exact ⟨n, f, hl, hc2, e⟩
    · cases e
  · cases e
def g_aL (h : g_AH) (a : Nat) (i : Int32) (k : Int64 → Option α) : Option α := match g_look h a with
  | some (.inl (3, n, .inr (.inl f))) => if ¬ (i < 0 ∨ n ≤ i.toNatClampNeg) then k (f i.toNatClampNeg) else none
  | _ => none
theorem g_aL_inv {k : Int64 → Option α} (e : g_aL h a i k = some z) : ∃ n f, g_look h a = some (.inl (3, n, .inr (.inl f))) ∧ vp_in i n ∧ k (f i.toNatClampNeg) = some z := by
  unfold g_aL at e
  split at e
  · split at e
    · rename_i n f hl hc; exact ⟨n, f, hl, hc, e⟩
    · cases e
  · cases e
def g_sL (h : g_AH) (a : Nat) (i : Int32) (x : Int64) (k : g_AH → Option α) : Option α := match h.1 a with
  | some (.inl (3, n, .inr (.inl f))) => if ¬ (i < 0 ∨ n ≤ i.toNatClampNeg) then k (g_up h a (.inl (3, n, .inr (.inl (vp_updL f i.toNatClampNeg x))))) else none
  | _ => none
theorem g_sL_inv {x : Int64} {k : g_AH → Option α} (e : g_sL h a i x k = some z) : ∃ n f, h.1 a = some (.inl (3, n, .inr (.inl f))) ∧ vp_in i n ∧ k (g_up h a (.inl (3, n, .inr (.inl (vp_updL f i.toNatClampNeg x))))) = some z := by
  unfold g_sL at e
  split at e
  · split at e
    · rename_i n f hl hc; exact ⟨n, f, hl, hc, e⟩
    · cases e
  · cases e
def g_aD (h : g_AH) (a : Nat) (i : Int32) (k : UInt64 → Option α) : Option α := match g_look h a with
  | some (.inl (4, n, .inr (.inr (.inr (.inl f))))) => if ¬ (i < 0 ∨ n ≤ i.toNatClampNeg) then k (f i.toNatClampNeg) else none
  | _ => none
theorem g_aD_inv {k : UInt64 → Option α} (e : g_aD h a i k = some z) : ∃ n f, g_look h a = some (.inl (4, n, .inr (.inr (.inr (.inl f))))) ∧ vp_in i n ∧ k (f i.toNatClampNeg) = some z := by
  unfold g_aD at e
  split at e
  · split at e
    · rename_i n f hl hc; exact ⟨n, f, hl, hc, e⟩
    · cases e
  · cases e
def g_sD (h : g_AH) (a : Nat) (i : Int32) (x : UInt64) (k : g_AH → Option α) : Option α := match h.1 a with
  | some (.inl (4, n, .inr (.inr (.inr (.inl f))))) => if ¬ (i < 0 ∨ n ≤ i.toNatClampNeg) then k (g_up h a (.inl (4, n, .inr (.inr (.inr (.inl (vf_upd f i.toNatClampNeg x))))))) else none
  | _ => none
theorem g_sD_inv {x : UInt64} {k : g_AH → Option α} (e : g_sD h a i x k = some z) : ∃ n f, h.1 a = some (.inl (4, n, .inr (.inr (.inr (.inl f))))) ∧ vp_in i n ∧ k (g_up h a (.inl (4, n, .inr (.inr (.inr (.inl (vf_upd f i.toNatClampNeg x))))))) = some z := by
  unfold g_sD at e
  split at e
  · split at e
    · rename_i n f hl hc; exact ⟨n, f, hl, hc, e⟩
    · cases e
  · cases e
/-- arrays of references (t 5 Object, 6 Phase, 7 Net) -/
def g_aA (h : g_AH) (t a : Nat) (i : Int32) (k : Option Nat → Option α) : Option α := match g_look h a with
  | some (.inl (t', n, .inr (.inr (.inr (.inr f))))) => if t' = t ∧ ¬ (i < 0 ∨ n ≤ i.toNatClampNeg) then k (f i.toNatClampNeg) else none
  | _ => none
theorem g_aA_inv {k : Option Nat → Option α} (e : g_aA h t a i k = some z) : ∃ n f, g_look h a = some (.inl (t, n, .inr (.inr (.inr (.inr f))))) ∧ vp_in i n ∧ k (f i.toNatClampNeg) = some z := by
  unfold g_aA at e
  split at e
  · split at e
    · rename_i t' n f hl hc
      obtain ⟨hc1, hc2⟩ := hc
      subst hc1
      exact ⟨n, f, hl, hc2, e⟩
    · cases e
  · cases e
def g_len (h : g_AH) (a : Nat) (k : Int32 → Option α) : Option α := match g_look h a with
  | some (.inl (t, x)) => if t < 8 then k (Int32.ofNat x.1) else none
  | _ => none
theorem g_len_inv {k : Int32 → Option α} (e : g_len h a k = some z) : ∃ t x, g_look h a = some (.inl (t, x)) ∧ t < 8 ∧ k (Int32.ofNat x.1) = some z := by
  unfold g_len at e
  split at e
  · split at e
    · rename_i t x hl hc; exact ⟨t, x, hl, hc, e⟩
    · cases e
  · cases e
/-- a reference to an object of class ci (or null): checkcast, and the class of a receiver -/
def g_ck (h : g_AH) (o : Option Nat) (ci : Nat) (k : Option α) : Option α := match o with
  | none => k
  | some a => match g_look h a with
    | some (.inr (c, _)) => if c = ci then k else none
    | _ => none
theorem g_ck_inv {o : Option Nat} {k : Option α} (e : g_ck h o ci k = some z) : (o = none ∨ ∃ a fs, o = some a ∧ g_look h a = some (.inr (ci, fs))) ∧ k = some z := by
  unfold g_ck at e
  split at e
  · exact ⟨Or.inl rfl, e⟩
  · split at e
    · split at e
      · rename_i a _ c fs hl hc; subst hc; exact ⟨Or.inr ⟨a, fs, rfl, hl⟩, e⟩
      · cases e
    · cases e
def g_is (h : g_AH) (a ci : Nat) (k : Option α) : Option α := match g_look h a with
  | some (.inr (c, _)) => if c = ci then k else none
  | _ => none
theorem g_is_inv {k : Option α} (e : g_is h a ci k = some z) : ∃ fs, g_look h a = some (.inr (ci, fs)) ∧ k = some z := by
  unfold g_is at e
  split at e
  · split at e
    · rename_i c fs hl hc; subst hc; exact ⟨fs, hl, e⟩
    · cases e
  · cases e
/-- new cells: the address, the heap -/
def g_mk (h : g_AH) (c : g_OB) (sz : Nat) (k : Nat → g_AH → Option α) : Option α := k (g_n h) (g_al h c sz)
def g_mkA (h : g_AH) (t : Nat) (n : Int32) (k : Nat → g_AH → Option α) : Option α := if n < 0 ∨ 1000000 < n.toNatClampNeg then none else k (g_n h) (g_al h (.inl (t, n.toNatClampNeg, .inl (fun _ => 0))) n.toNatClampNeg)
theorem g_mkA_inv {n : Int32} {k : Nat → g_AH → Option α} (e : g_mkA h t n k = some z) : ¬ n < 0 ∧ n.toNatClampNeg ≤ 1000000 ∧ k (g_n h) (g_al h (.inl (t, n.toNatClampNeg, .inl (fun _ => 0))) n.toNatClampNeg) = some z := by
  unfold g_mkA at e
  split at e
  · cases e
  · rename_i hc
    refine ⟨fun q => hc (Or.inl q), ?_, e⟩
    exact Nat.le_of_not_lt fun q => hc (Or.inr q)
/-- a call's answer -/
def g_b {β : Type} (f : Option β) (k : β → Option α) : Option α := match f with
  | some x => k x
  | none => none
theorem g_b_inv {β : Type} {f : Option β} {k : β → Option α} (e : g_b f k = some z) : ∃ x, f = some x ∧ k x = some z := by
  unfold g_b at e; split at e
  · exact ⟨_, rfl, e⟩
  · cases e
def g_b2 {β : Type} (f : Option (β × g_AH)) (k : β → g_AH → Option α) : Option α := match f with
  | some x => k x.1 x.2
  | none => none
theorem g_b2_inv {β : Type} {f : Option (β × g_AH)} {k : β → g_AH → Option α} (e : g_b2 f k = some z) : ∃ x h', f = some (x, h') ∧ k x h' = some z := by
  unfold g_b2 at e; split at e
  · exact ⟨_, _, rfl, e⟩
  · cases e
end MIRROR
/-- a call that may throw, in a method that may throw -/
def g_bx {α β : Type} (f : Option ((β ⊕ g_EX) × g_AH)) (k : β → g_AH → Option ((α ⊕ g_EX) × g_AH)) : Option ((α ⊕ g_EX) × g_AH) := match f with
  | some (.inl x, h) => k x h
  | some (.inr e, h) => some (.inr e, h)
  | none => none
theorem g_bx_inv {α β : Type} {f : Option ((β ⊕ g_EX) × g_AH)} {k : β → g_AH → Option ((α ⊕ g_EX) × g_AH)} {z : (α ⊕ g_EX) × g_AH} (e : g_bx f k = some z) : (∃ x h', f = some (.inl x, h') ∧ k x h' = some z) ∨ ∃ ex h', f = some (.inr ex, h') ∧ z = (.inr ex, h') := by
  unfold g_bx at e; split at e
  · exact Or.inl ⟨_, _, rfl, e⟩
  · exact Or.inr ⟨_, _, rfl, (Option.some.inj e).symm⟩
  · cases e
/-- results as the contract has them -/
def g_rI (x : Int32 ⊕ g_EX) : g_RV := match x with
  | .inl x => .inl (some (.int x))
  | .inr e => .inr e
def g_rD (x : UInt64 ⊕ g_EX) : g_RV := match x with
  | .inl x => .inl (some (.double x))
  | .inr e => .inr e
def g_rF (x : UInt32 ⊕ g_EX) : g_RV := match x with
  | .inl x => .inl (some (.float x))
  | .inr e => .inr e
def g_rR (x : Option Nat ⊕ g_EX) : g_RV := match x with
  | .inl x => .inl (some (va_rf x))
  | .inr e => .inr e
def g_rV (x : Unit ⊕ g_EX) : g_RV := match x with
  | .inl _ => .inl none
  | .inr e => .inr e
def g_th (h : g_AH) : g_AH := (h.1, (g_n h, g_c h + 1, g_s h + 6), h.2.2)
def g_isZ (x : Int32) : Prop := x = 0 ∨ x = 1
theorem g_nar_int {x : Int32} : narrow .int (.int x) = .int x := rfl
theorem g_nar_z {x : Int32} (e : x = 0 ∨ x = 1) : narrow .boolean (.int x) = .int x ∧ fits .boolean (.int x) = true := by
  rcases e with rfl | rfl <;> exact ⟨rfl, rfl⟩
theorem g_nar_rf {ty : FieldType} {o : Option Nat} : narrow ty (va_rf o) = va_rf o := by
  cases o <;> cases ty <;> rfl
theorem g_fit_o {C : String} {o : Option Nat} : fits (.object C) (va_rf o) = true := by cases o <;> rfl
theorem g_fit_a {t : FieldType} {o : Option Nat} : fits (.array t) (va_rf o) = true := by cases o <;> rfl
theorem g_cat_rf {o : Option Nat} : (va_rf o).category = 1 := by cases o <;> rfl
