/-! G: arrays of references, clones, copies, inherited and interface calls -/
/-- which objects an array of references takes: t 5 Object, 6 Phase, 7 Net -/
def gCast (t ci : Nat) : Bool := (decide (t = 5) && decide (ci < 19)) || (decide (t = 6) && decide (2 ≤ ci ∧ ci ≤ 5)) || (decide (t = 7) && decide (ci = 1))
theorem g_co5 : ∀ ci, ci < 19 → ∃ q, gCL[ci]? = some q ∧ Jvm.Cond.castable q.1 "java/lang/Object" ∈ lw_tbl := by
  intro ci h
  rcases (show ci = 0 ∨ ci = 1 ∨ ci = 2 ∨ ci = 3 ∨ ci = 4 ∨ ci = 5 ∨ ci = 6 ∨ ci = 7 ∨ ci = 8 ∨ ci = 9 ∨ ci = 10 ∨ ci = 11 ∨ ci = 12 ∨ ci = 13 ∨ ci = 14 ∨ ci = 15 ∨ ci = 16 ∨ ci = 17 ∨ ci = 18 by omega) with rfl | rfl | rfl | rfl | rfl | rfl | rfl | rfl | rfl | rfl | rfl | rfl | rfl | rfl | rfl | rfl | rfl | rfl | rfl
  · exact ⟨_, rfl, q2554⟩
  · exact ⟨_, rfl, q2553⟩
  · exact ⟨_, rfl, q2559⟩
  · exact ⟨_, rfl, q2560⟩
  · exact ⟨_, rfl, q2561⟩
  · exact ⟨_, rfl, q2562⟩
  · exact ⟨_, rfl, q2563⟩
  · exact ⟨_, rfl, q2564⟩
  · exact ⟨_, rfl, q2566⟩
  · exact ⟨_, rfl, q2568⟩
  · exact ⟨_, rfl, q2569⟩
  · exact ⟨_, rfl, q2570⟩
  · exact ⟨_, rfl, q2571⟩
  · exact ⟨_, rfl, q2575⟩
  · exact ⟨_, rfl, q2576⟩
  · exact ⟨_, rfl, q2555⟩
  · exact ⟨_, rfl, q2574⟩
  · exact ⟨_, rfl, q2557⟩
  · exact ⟨_, rfl, q2558⟩
theorem g_co6 : ∀ ci, 2 ≤ ci ∧ ci ≤ 5 → ∃ q, gCL[ci]? = some q ∧ Jvm.Cond.castable q.1 "CircuitDesk$Phase" ∈ lw_tbl := by
  intro ci h
  rcases (show ci = 2 ∨ ci = 3 ∨ ci = 4 ∨ ci = 5 by omega) with rfl | rfl | rfl | rfl
  · exact ⟨_, rfl, q1522⟩
  · exact ⟨_, rfl, q1513⟩
  · exact ⟨_, rfl, q1520⟩
  · exact ⟨_, rfl, q1518⟩
section MIR18
variable {α : Type} {h : g_AH} {t a : Nat} {i n : Int32} {z : α}
def g_okE (h : g_AH) (t : Nat) (o : Option Nat) : Bool := match o with
  | none => true
  | some v => match g_look h v with
    | some (.inr (ci, _)) => gCast t ci
    | _ => false
theorem g_okE_inv {v : Nat} (e : g_okE h t (some v) = true) : ∃ ci fs, g_look h v = some (.inr (ci, fs)) ∧ gCast t ci = true := by
  unfold g_okE at e
  split at e
  · rename_i h9; cases h9
  · rename_i w h9
    cases h9
    split at e
    · rename_i ci fs hl; exact ⟨ci, fs, hl, e⟩
    · cases e
/-- a reference's store -/
def g_sA (h : g_AH) (t a : Nat) (i : Int32) (o : Option Nat) (k : g_AH → Option α) : Option α := match h.1 a with
  | some (.inl (t', n, .inr (.inr (.inr (.inr f))))) => if (t' = t ∧ ¬ (i < 0 ∨ n ≤ i.toNatClampNeg)) ∧ g_okE h t o = true then k (g_up h a (.inl (t, n, .inr (.inr (.inr (.inr (va_up f i.toNatClampNeg o))))))) else none
  | _ => none
theorem g_sA_inv {o : Option Nat} {k : g_AH → Option α} (e : g_sA h t a i o k = some z) : ∃ n f, h.1 a = some (.inl (t, n, .inr (.inr (.inr (.inr f))))) ∧ vp_in i n ∧ g_okE h t o = true ∧ k (g_up h a (.inl (t, n, .inr (.inr (.inr (.inr (va_up f i.toNatClampNeg o))))))) = some z := by
  unfold g_sA at e
  split at e
  · split at e
    · rename_i t' n f hl hc
      obtain ⟨⟨hc1, hc2⟩, hc3⟩ := hc
      subst hc1
      exact ⟨n, f, hl, hc2, hc3, e⟩
    · cases e
  · cases e
def g_mkQ (h : g_AH) (t : Nat) (n : Int32) (k : Nat → g_AH → Option α) : Option α := if n < 0 ∨ 1000000 < n.toNatClampNeg then none else k (g_n h) (g_al h (.inl (t, n.toNatClampNeg, .inr (.inr (.inr (.inr (fun _ => none)))))) n.toNatClampNeg)
theorem g_mkQ_inv {k : Nat → g_AH → Option α} (e : g_mkQ h t n k = some z) : ¬ n < 0 ∧ n.toNatClampNeg ≤ 1000000 ∧ k (g_n h) (g_al h (.inl (t, n.toNatClampNeg, .inr (.inr (.inr (.inr (fun _ => none)))))) n.toNatClampNeg) = some z := by
  unfold g_mkQ at e
  split at e
  · cases e
  · rename_i hc
    exact ⟨fun q => hc (Or.inl q), Nat.le_of_not_lt fun q => hc (Or.inr q), e⟩
/-- clone of an array of int-like values (t 0 int, 1 boolean, 2 byte) -/
def g_fitT (t : Nat) (x : Int32) : Bool := match t with
  | 0 => true
  | 1 => fits .boolean (.int x)
  | 2 => fits .byte (.int x)
  | _ => false
def g_cl (h : g_AH) (t a : Nat) (k : Nat → g_AH → Option α) : Option α := match g_look h a with
  | some (.inl (t', n, .inl f)) => if t' = t ∧ ∀ i, i < n → g_fitT t (f i) = true then k (g_n h) (g_al h (.inl (t, n, .inl f)) n) else none
  | _ => none
theorem g_cl_inv {k : Nat → g_AH → Option α} (e : g_cl h t a k = some z) : ∃ n f, g_look h a = some (.inl (t, n, .inl f)) ∧ (∀ i, i < n → g_fitT t (f i) = true) ∧ k (g_n h) (g_al h (.inl (t, n, .inl f)) n) = some z := by
  unfold g_cl at e
  split at e
  · split at e
    · rename_i t' n f hl hc
      obtain ⟨hc1, hc2⟩ := hc
      subst hc1
      exact ⟨n, f, hl, hc2, e⟩
    · cases e
  · cases e
/-- System.arraycopy of bytes; of references within arrays of Object -/
def g_cpB (h : g_AH) (a : Nat) (sp : Int32) (b : Nat) (dp n : Int32) (k : g_AH → Option α) : Option α := match g_look h a, h.1 b with
  | some (.inl (2, n0, .inl f)), some (.inl (2, n1, .inl g)) => if (¬ sp < 0 ∧ ¬ dp < 0 ∧ ¬ n < 0 ∧ sp.toNatClampNeg + n.toNatClampNeg ≤ n0 ∧ dp.toNatClampNeg + n.toNatClampNeg ≤ n1) ∧ (∀ i, i < n.toNatClampNeg → fits .byte (.int (f (sp.toNatClampNeg + i))) = true) then k (g_up h b (.inl (2, n1, .inl (va_cpy f g sp.toNatClampNeg dp.toNatClampNeg n.toNatClampNeg)))) else none
  | _, _ => none
theorem g_cpB_inv {sp dp : Int32} {b : Nat} {k : g_AH → Option α} (e : g_cpB h a sp b dp n k = some z) : ∃ n0 f n1 g, g_look h a = some (.inl (2, n0, .inl f)) ∧ h.1 b = some (.inl (2, n1, .inl g)) ∧ (¬ sp < 0 ∧ ¬ dp < 0 ∧ ¬ n < 0 ∧ sp.toNatClampNeg + n.toNatClampNeg ≤ n0 ∧ dp.toNatClampNeg + n.toNatClampNeg ≤ n1) ∧ (∀ i, i < n.toNatClampNeg → fits .byte (.int (f (sp.toNatClampNeg + i))) = true) ∧ k (g_up h b (.inl (2, n1, .inl (va_cpy f g sp.toNatClampNeg dp.toNatClampNeg n.toNatClampNeg)))) = some z := by
  unfold g_cpB at e
  split at e
  · split at e
    · rename_i n0 f n1 g hl1 hl2 hc; exact ⟨n0, f, n1, g, hl1, hl2, hc.1, hc.2, e⟩
    · cases e
  · cases e
def g_cpQ (h : g_AH) (a : Nat) (sp : Int32) (b : Nat) (dp n : Int32) (k : g_AH → Option α) : Option α := match g_look h a, h.1 b with
  | some (.inl (5, n0, .inr (.inr (.inr (.inr f))))), some (.inl (5, n1, .inr (.inr (.inr (.inr g))))) => if (¬ sp < 0 ∧ ¬ dp < 0 ∧ ¬ n < 0 ∧ sp.toNatClampNeg + n.toNatClampNeg ≤ n0 ∧ dp.toNatClampNeg + n.toNatClampNeg ≤ n1) ∧ (∀ i, i < n.toNatClampNeg → g_okE h 5 (f (sp.toNatClampNeg + i)) = true) then k (g_up h b (.inl (5, n1, .inr (.inr (.inr (.inr (va_cpy f g sp.toNatClampNeg dp.toNatClampNeg n.toNatClampNeg))))))) else none
  | _, _ => none
theorem g_cpQ_inv {sp dp : Int32} {b : Nat} {k : g_AH → Option α} (e : g_cpQ h a sp b dp n k = some z) : ∃ n0 f n1 g, g_look h a = some (.inl (5, n0, .inr (.inr (.inr (.inr f))))) ∧ h.1 b = some (.inl (5, n1, .inr (.inr (.inr (.inr g))))) ∧ (¬ sp < 0 ∧ ¬ dp < 0 ∧ ¬ n < 0 ∧ sp.toNatClampNeg + n.toNatClampNeg ≤ n0 ∧ dp.toNatClampNeg + n.toNatClampNeg ≤ n1) ∧ (∀ i, i < n.toNatClampNeg → g_okE h 5 (f (sp.toNatClampNeg + i)) = true) ∧ k (g_up h b (.inl (5, n1, .inr (.inr (.inr (.inr (va_cpy f g sp.toNatClampNeg dp.toNatClampNeg n.toNatClampNeg))))))) = some z := by
  unfold g_cpQ at e
  split at e
  · split at e
    · rename_i n0 f n1 g hl1 hl2 hc; exact ⟨n0, f, n1, g, hl1, hl2, hc.1, hc.2, e⟩
    · cases e
  · cases e
/-- an array of type t (checkcast to an array class) -/
def g_isA (h : g_AH) (t a : Nat) (k : Option α) : Option α := match g_look h a with
  | some (.inl (t', _)) => if t' = t then k else none
  | _ => none
theorem g_isA_inv {k : Option α} (e : g_isA h t a k = some z) : ∃ x, g_look h a = some (.inl (t, x)) ∧ k = some z := by
  unfold g_isA at e
  split at e
  · split at e
    · rename_i t' x hl hc; subst hc; exact ⟨x, hl, e⟩
    · cases e
  · cases e
end MIR18
section G18
variable {X : g_X} {K : g_M} {r : g_RV} {he h : g_AH} {pc pc' : Nat} {Lc : List (Nat × Value)} {st st' rest : List Value} {i : Nat}
theorem g_aastN {a n t : Nat} {f : Nat → Option Nat} {j : Int32} (d : decode (k_cc K) pc = .ok (.aastore, 1)) (hc : h.1 a = some (.inl (t, n, .inr (.inr (.inr (.inr f)))))) (ht : decide (5 ≤ t ∧ t < 8) = true) (hi : vp_in j n) (p : pc + 1 = pc') (k : G X K r he (g_up h a (.inl (t, n, .inr (.inr (.inr (.inr (va_up f j.toNatClampNeg none))))))) pc' Lc rest) : G X K r he h pc Lc (.null :: .int j :: .ref a :: rest) := by
  subst p
  refine g_write hc k fun hx R H locs ls u v Q hA hl w => ?_
  obtain ⟨C, hC⟩ := g_TYq (x_B X).2.1 ht
  have hK := hx.2.2.2.2.2.2.2.1.1
  have hlt : j.toNatClampNeg < n := Nat.not_le.mp fun q => hi (Or.inr q)
  have h0 : ¬ j < 0 := fun q => hi (Or.inl q)
  obtain ⟨kA, comp, k1, k2, k3, -⟩ := (hK.2 t _ hC).2
  obtain ⟨kE, hkE, -⟩ := Vm.findClass_spec k3
  refine va_WaastN (C := C) hx.1 hx.2.1 (hA.at (g_own hc) 0 _ rfl) ((hK.2 t _ hC).1 n (fun j => va_rf (f j))) (fun q => by cases q) (by show ¬ (j < 0 ∨ (arrV _ _ _).slots.size ≤ _); rw [arrV_size]; exact hi) rfl rfl d fun H1 e z oq => w H1 _ z oq ?_
  show H1[a]? = some (vp_cell _ _)
  rw [e, vp_cell_q, vp_cell_q, arrV_store]
  congr 2
  funext q
  by_cases hq : q = j.toNatClampNeg
  · subst hq; simp [updV, va_up, va_rf]
  · simp [updV, va_up, hq]
theorem g_aastV {a n t v ci : Nat} {vs : List Value} {f : Nat → Option Nat} {j : Int32} (d : decode (k_cc K) pc = .ok (.aastore, 1)) (hc : h.1 a = some (.inl (t, n, .inr (.inr (.inr (.inr f)))))) (hv : g_look h v = some (.inr (ci, vs))) (hct : gCast t ci = true) (hi : vp_in j n) (p : pc + 1 = pc') (k : G X K r he (g_up h a (.inl (t, n, .inr (.inr (.inr (.inr (va_up f j.toNatClampNeg (some v)))))))) pc' Lc rest) : G X K r he h pc Lc (.ref v :: .int j :: .ref a :: rest) := by
  subst p
  refine g_write hc k fun hx R H locs ls u w9 Q hA hl w => ?_
  have ht : decide (5 ≤ t ∧ t < 8) = true := by
    simp only [gCast, Bool.or_eq_true, Bool.and_eq_true, decide_eq_true_eq] at hct
    exact decide_eq_true (by omega)
  obtain ⟨C, hC⟩ := g_TYq (x_B X).2.1 ht
  have hK := hx.2.2.2.2.2.2.2.1.1
  have hlt : j.toNatClampNeg < n := Nat.not_le.mp fun q => hi (Or.inr q)
  have h0 : ¬ j < 0 := fun q => hi (Or.inl q)
  obtain ⟨kA, comp, k1, k2, k3, -⟩ := (hK.2 t _ hC).2
  obtain ⟨kE, hkE, -⟩ := Vm.findClass_spec k3
  obtain ⟨r', hr', cellV, g1, g2, g3, -⟩ := hA.at hv 0 _ rfl
  have hcls := (hK.1 ci r' hr').2
  obtain ⟨kC, hkC, -⟩ := hcls.2
  have hasg : (x_st X).vm.assignable cellV.cls comp = true := by
    rw [g2]
    simp only [gCast, Bool.or_eq_true, Bool.and_eq_true, decide_eq_true_eq] at hct
    have fin : ∀ q : vw_C, gCL[ci]? = some q → Jvm.Cond.castable q.1 C ∈ lw_tbl → (x_st X).vm.assignable ((x_B X).1.1 ci) comp = true := by
      intro q hq hw
      have hr2 : r' = q := Option.some.inj (hr'.symm.trans hq)
      subst hr2
      have hn := hx.2.2.2.2.2.2.2.1.2.1 _ (g_nw_in hw rfl)
      obtain ⟨c0, t1, f1, f2, f3⟩ := Cond.castable_spec (va_Nw.use (A := x_args X) rfl hn)
      cases hcls.1.symm.trans f1
      cases k3.symm.trans f2
      exact f3
    rcases hct with (⟨rfl, h5⟩ | ⟨rfl, h6⟩) | ⟨rfl, rfl⟩
    · obtain ⟨q, e1, e2⟩ := g_co5 ci h5
      cases hC
      exact fin q e1 e2
    · obtain ⟨q, e1, e2⟩ := g_co6 ci h6
      cases hC
      exact fin q e1 e2
    · cases hC
      cases hr'
      have hcomp : comp = (x_B X).1.1 1 := Option.some.inj (k3.symm.trans hcls.1)
      subst hcomp
      exact va_assign hcls
  refine W.aast hx.1 hx.2.1 (hA.at (g_own hc) 0 _ rfl) (fun q h => by cases h) (fun h => by cases h) k1 k2 rfl hkE ⟨h0, by show _ < (arrV _ _ _).slots.size; rw [arrV_size]; exact hlt⟩ g1 (fun q h => by rw [g3] at h; cases h) (by rw [g2]; exact hkC) hasg rfl rfl d fun H1 e z oq => w H1 _ z oq ?_
  show H1[a]? = some (vp_cell _ _)
  rw [e, vp_cell_q, vp_cell_q, arrV_store]
  congr 2
  funext q
  by_cases hq : q = j.toNatClampNeg
  · subst hq; simp [updV, va_up, va_rf]
  · simp [updV, va_up, hq]
theorem g_aast {a n t : Nat} {o : Option Nat} {f : Nat → Option Nat} {j : Int32} (d : decode (k_cc K) pc = .ok (.aastore, 1)) (hc : h.1 a = some (.inl (t, n, .inr (.inr (.inr (.inr f)))))) (ht : decide (5 ≤ t ∧ t < 8) = true) (hi : vp_in j n) (ho : g_okE h t o = true) (p : pc + 1 = pc') (k : G X K r he (g_up h a (.inl (t, n, .inr (.inr (.inr (.inr (va_up f j.toNatClampNeg o))))))) pc' Lc rest) : G X K r he h pc Lc (va_rf o :: .int j :: .ref a :: rest) := by
  cases o with
  | none => exact g_aastN d hc ht hi p k
  | some v =>
    obtain ⟨ci, fs, hv, hct⟩ := g_okE_inv ho
    exact g_aastV d hc hv hct hi p k
theorem g_anew {t : Nat} {C : String} {n : Int32} (d : decode (k_cc K) pc = .ok (.anewarray i, 3)) (hl : Jvm.Cond.classLink (k_own K) i C ∈ lw_all) (ht : ∀ AC : Nat → ClassId, (g_TY AC)[t]? = some (AC t, .object C)) (h3 : decide (t = 5 ∧ C = "java/lang/Object" ∨ t = 6 ∧ C = "CircuitDesk$Phase" ∨ t = 7 ∧ C = "CircuitDesk$Net") = true) (hn : ¬ n < 0) (hN : n.toNatClampNeg ≤ 1000000) (p : pc + 3 = pc') (k : G X K r he (g_al h (.inl (t, n.toNatClampNeg, .inr (.inr (.inr (.inr (fun _ => none)))))) n.toNatClampNeg) pc' Lc (.ref (g_n h) :: rest)) : G X K r he h pc Lc (.int n :: rest) := by
  subst p
  refine g_make k fun hx R H locs ls u v Q hu hv hA hS hl2 w => ?_
  have hK := hx.2.2.2.2.2.2.2.1
  have hover : va_AO C (x_st X) := by
    rcases of_decide_eq_true h3 with ⟨-, rfl⟩ | ⟨-, rfl⟩ | ⟨-, rfl⟩
    · exact hK.2.2.2.2.2.2.1
    · exact hK.2.2.2.2.2.2.2.1
    · exact hK.2.2.2.2.2.2.2.2.1
  refine W.anew hx.1 hx.2.1 hx.2.2.2.1 (hx.2.2.2.2.1 _ hl) (va_AO.use hover) rfl d rfl hn (by omega) hu hv fun cA kA comp f1 f2 f3 f4 => ?_
  have hcA : cA = (x_B X).2.1 t := by
    obtain ⟨kA', comp', z1, z2, z3, z4⟩ := (hK.1.2 t _ (ht _)).2
    exact Option.some.inj (f1.symm.trans z4)
  subst hcA
  generalize hH1 : H.push ({ cls := (x_B X).2.1 t, slots := Array.replicate n.toNatClampNeg .null, vm := .none } : Cell) = H1
  have z1 : H1.size = H.size + 1 := by rw [← hH1, Array.size_push]
  have e1 : H1[H.size]? = some (arrV ((x_B X).2.1 t) n.toNatClampNeg (fun _ => .null)) := by rw [← hH1, Array.getElem?_push_size, ← arrV_new]
  have o1 : ∀ q : Nat, q < H.size → H1[q]? = H[q]? := fun q hq => by rw [← hH1, Array.getElem?_push, if_neg (Nat.ne_of_lt hq)]
  have w2 := w H1 z1 o1 (by show H1[g_n h]? = some (vp_cell _ _); rw [vp_cell_q, ← hA.1]; exact e1)
  rw [← hA.1] at w2
  exact w2
theorem g_castA {a t : Nat} {x : vp_A} {nm : String} {ty : FieldType} (d : decode (k_cc K) pc = .ok (.checkcast i, 3)) (hc : g_look h a = some (.inl (t, x))) (q1 : Jvm.Cond.classLink (k_own K) i nm ∈ lw_all) (ht : ∀ AC : Nat → ClassId, (g_TY AC)[t]? = some (AC t, ty)) (hnm : "[" ++ ty.toString = nm) (p : pc + 3 = pc') (k : G X K r he h pc' Lc (.ref a :: rest)) : G X K r he h pc Lc (.ref a :: rest) := by
  subst p
  refine g_pureX k fun hx R H locs ls u v Q hA hS hl w => ?_
  have hf : (x_st X).vm.findClass nm = some ((x_B X).2.1 t) := by
    have h9 := (hx.2.2.2.2.2.2.2.1.1.2 t _ (ht _)).2
    rw [← hnm]
    cases ty with
    | object C => obtain ⟨kA', comp', z1, z2, z3, z4⟩ := h9; exact z4
    | _ => exact h9
  exact va_castA hx.1 hx.2.1 hx.2.2.2.1 (hx.2.2.2.2.1 _ q1) (hA.at hc) 0 rfl hf d (w ls hl)
end G18
