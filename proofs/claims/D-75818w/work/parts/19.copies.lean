/-! G: clones and copies of arrays, class objects, interface calls -/
theorem g_nnI (z : Int32) (hz : ¬ z < 0) : z.toInt = (z.toNatClampNeg : Int) := by
  have hz0 : (0 : Int) ≤ z.toInt := by
    have := Int32.not_lt.mp hz
    simpa using Int32.le_iff_toInt_le.mp this
  show z.toInt = ((z.toInt.toNat : Nat) : Int)
  omega
section G31
variable {X : g_X} {K : g_M} {r : g_RV} {he h : g_AH} {pc pc' : Nat} {Lc : List (Nat × Value)} {st st' rest : List Value} {i : Nat}
theorem g_fitT_ok {t : Nat} {ty : FieldType} (ht : (t, ty) ∈ ([(0, .int), (1, .boolean), (2, .byte)] : List (Nat × FieldType))) {x : Int32} (e : g_fitT t x = true) : fits ty (.int x) = true := by
  simp only [List.mem_cons, Prod.mk.injEq, List.not_mem_nil, or_false] at ht
  rcases ht with ⟨rfl, rfl⟩ | ⟨rfl, rfl⟩ | ⟨rfl, rfl⟩
  · rfl
  · exact e
  · exact e
theorem g_clone {a t n : Nat} {f : Nat → Int32} {ty : FieldType} {ad : String} (d : decode (k_cc K) pc = .ok (.invokevirtual i, 3)) (hc : g_look h a = some (.inl (t, n, .inl f))) (hf : ∀ j, j < n → g_fitT t (f j) = true) (htt : (t, ty) ∈ ([(0, .int), (1, .boolean), (2, .byte)] : List (Nat × FieldType))) (hty : ∀ AC : Nat → ClassId, (g_TY AC)[t]? = some (AC t, ty)) (hnm : "[" ++ ty.toString = ad) (hp : ∀ C, ty ≠ FieldType.object C)
    (q1 : Jvm.Cond.methodLink (k_own K) i ⟨ad, "clone", "()Ljava/lang/Object;"⟩ ∈ lw_all) (q2 : Jvm.Cond.sameMethod ad "java/lang/Object" "clone" "()Ljava/lang/Object;" ∈ lw_all) (q3 : Jvm.Cond.selects ad ⟨ad, "clone", "()Ljava/lang/Object;"⟩ ⟨"java/lang/Object", "clone", "()Ljava/lang/Object;"⟩ ∈ lw_all) (q4 : Jvm.Cond.castable ad "java/lang/Cloneable" ∈ lw_tbl) (hst : (rest.map fun v => v.category).sum ≤ 8) (hv : 1 ≤ k_lev K) (p : pc + 3 = pc') (k : G X K r he (g_al h (.inl (t, n, .inl f)) n) pc' Lc (.ref (g_n h) :: rest)) : G X K r he h pc Lc (.ref a :: rest) := by
  subst p
  refine ⟨g_Le.al.trf k.1, fun hx hle H locs ls hA hS hl => ?_⟩
  obtain ⟨AC, hAC⟩ : ∃ z, z = (x_B X).2.1 := ⟨_, rfl⟩
  have hK := hx.2.2.2.2.2.2.2.1
  have hT0 := hK.1.2 t _ (hty _)
  have hnmC : (x_st X).vm.findClass ad = some ((x_B X).2.1 t) := by
    have h9 := hT0.2
    rw [← hnm]
    cases ty with
    | object C => exact absurd rfl (hp C)
    | _ => exact h9
  have hcl := hK.2.1 _ (g_nw_in q4 rfl)
  have hcell : H[a]? = some (vp_cell ((x_B X).2.1 t) (n, .inl f)) := hA.at hc 0 _ rfl
  obtain ⟨c0, t0', f1, f2, f3⟩ := Cond.castable_spec (va_Nw.use (A := x_args X) rfl hcl)
  cases hnmC.symm.trans f1
  have hsz : (vp_cell ((x_B X).2.1 t) (n, .inl f)).slots.size = n := arrV_size _ _ _
  have ec : g_c (g_al h (.inl (t, n, .inl f)) n) = g_c h + 1 := rfl
  have es : g_s (g_al h (.inl (t, n, .inl f)) n) = g_s h + n := rfl
  have hle0 := hle
  obtain ⟨-, l1, l2, -⟩ := hle0
  obtain ⟨-, m1, m2, -⟩ := k.1
  rw [ec] at m1
  rw [es] at m2
  intro T hT Y
  obtain ⟨-, kA, hkA, comp, hkind⟩ := State.isArrayOf_alike Y.warmed.alike (hT0.1 0 (fun _ => .null))
  obtain ⟨-, kS, hkS, compS, hkindS⟩ := hT0.1 0 (fun _ => .null)
  obtain ⟨vm', X', sg⟩ := Y.cloneArray hx.1 hx.2.2.2.1 (hx.2.2.2.2.1 _ q1) (hx.2.2.2.2.1 _ q2) (hx.2.2.2.2.1 _ q290) (hx.2.2.2.2.1 _ q291) (hx.2.2.2.2.1 _ q3) (a := a) (cell := vp_cell ((x_B X).2.1 t) (n, .inl f)) (by rw [hT]; exact hcell) (fun k h => by cases h) (fun h => by cases h) hnmC f2 f3
    (fun j v hv9 => by
      have hk' : T.vm.classes[(x_B X).2.1 t]? = some kA := hkA
      have hfit : fits ty v = true := by
        have hv9 : (arrV ((x_B X).2.1 t) n (fun j => .int (f j))).slots[j]? = some v := hv9
        have hj : j < n := by
          have := (Array.getElem?_eq_some_iff.mp hv9).1
          rwa [arrV_size] at this
        rw [arrV_read _ _ hj] at hv9
        cases hv9
        exact g_fitT_ok htt (hf j hj)
      have e9 : (vp_cell ((x_B X).2.1 t) (n, .inl f)).cls = (x_B X).2.1 t := rfl
      rw [e9]
      simpa [State.fitsSlot, State.slotType?, hk', hkind] using hfit)
    (g := F0 (x_m X) pc ls (.ref a :: rest)) rfl (by rw [hx.2.2.1]; exact hl.1) rfl (by rw [hx.2.1]; exact d) hv (by show 2 * 0 + _ + 14 ≤ 64 * k_lev K; omega) (by show _ ≤ g_c he - _; omega) (by rw [hsz]; show _ ≤ g_s he - _; omega) (hloader := Vm.clonesLoader_of_array hkS hkindS)
  have hcellE : ({ cls := (vp_cell ((x_B X).2.1 t) (n, .inl f)).cls, slots := (vp_cell ((x_B X).2.1 t) (n, .inl f)).slots } : Cell) = vp_cell ((x_B X).2.1 t) (n, .inl f) := rfl
  rw [hcellE, hsz] at X'
  generalize hH1 : H.push (vp_cell ((x_B X).2.1 t) (n, .inl f)) = H1
  have z1 : H1.size = H.size + 1 := by rw [← hH1, Array.size_push]
  have e1 : H1[H.size]? = some (vp_cell ((x_B X).2.1 t) (n, .inl f)) := by rw [← hH1, Array.getElem?_push_size]
  have o1 : ∀ q : Nat, q < H.size → H1[q]? = H[q]? := fun q hq => by rw [← hH1, Array.getElem?_push, if_neg (Nat.ne_of_lt hq)]
  have hnA : g_A (x_h X) (g_n h) := Or.inr hle.1
  have w := k.2 hx (hle.tr g_Le.al) H1 locs ls (hA.new z1 o1 (by show H1[g_n h]? = some (vp_cell _ _); rw [← hA.1]; exact e1) hnA) ⟨by rw [z1]; exact Nat.le_trans hS.1 (Nat.le_succ _), fun q h1 h2 => (o1 q (Nat.lt_of_lt_of_le h1 hS.1)).trans (hS.2.1 q h1 h2), hS.2.2⟩ hl
  obtain ⟨t2, b1, b2⟩ := (W.widen (by rw [ec]; omega) (by rw [es]; omega) w) _ (by rw [← hH1, ← hT]; rfl) X'
  refine ⟨t2, sg t2 ?_, b2⟩
  rw [hT, hA.1]
  exact b1
/-- behind a copy -/
theorem g_wrote {a : Nat} {c0 c : g_OB} {st' : List Value} (e : h.1 a = some c0) (k : G X K r he (g_up h a c) pc' Lc st')
    (f : g_GX X K → 1 ≤ (g_R K (x_h X) he).frames → ∀ (H : Heap) (locs : List Loc) (ls : Array Slot) (u v : Nat) (Q : State → Prop), g_Abs (x_B X) (g_A (x_h X)) H h → lv_has ls (k_nL K) Lc →
      (∀ (H1 : Heap) (L : List Loc), H1.size = H.size → (∀ x : Nat, x ≠ a → H1[x]? = H[x]?) → va_at (x_B X).1 gCL (a, g_conc (x_B X).2.1 c) H1 → (∀ z ∈ L, z.base = a) → g_W X (g_R K (x_h X) he) H1 (locs ++ L) u v Q (F0 (x_m X) pc' ls st')) → g_W X (g_R K (x_h X) he) H locs u v Q (F0 (x_m X) pc ls st)) (hv : 1 ≤ k_lev K) : G X K r he h pc Lc st := by
  refine ⟨(g_Le.up e).trf k.1, fun hx hle H locs ls hA hS hl => f hx hv H locs ls _ _ _ hA hl fun H1 L hz ho hat hL => ?_⟩
  refine k.2 hx (hle.tr (g_Le.up e)) H1 (locs ++ L) ls (hA.upd e hz ho hat) ⟨by rw [hz]; exact hS.1, fun q h1 h2 => ?_, fun q hq => ?_⟩ hl
  · rw [ho q (fun z => h2 (by rw [z]; exact g_A_in hle e))]
    exact hS.2.1 q h1 h2
  · rcases List.mem_append.mp hq with z | z
    · exact hS.2.2 q z
    · rw [hL q z]; exact g_A_in hle e
theorem g_copyB {a b n0 n1 : Nat} {f g : Nat → Int32} {sp dp n : Int32} (d : decode (k_cc K) pc = .ok (.invokestatic i, 3)) (q1 : Jvm.Cond.methodLink (k_own K) i arraycopyName ∈ lw_all) (hc : g_look h a = some (.inl (2, n0, .inl f))) (hc1 : h.1 b = some (.inl (2, n1, .inl g))) (hr : ¬ sp < 0 ∧ ¬ dp < 0 ∧ ¬ n < 0 ∧ sp.toNatClampNeg + n.toNatClampNeg ≤ n0 ∧ dp.toNatClampNeg + n.toNatClampNeg ≤ n1) (hf : ∀ i, i < n.toNatClampNeg → fits .byte (.int (f (sp.toNatClampNeg + i))) = true) (hst : (rest.map fun v => v.category).sum ≤ 8) (hv : 12 ≤ k_lev K) (p : pc + 3 = pc') (k : G X K r he (g_up h b (.inl (2, n1, .inl (va_cpy f g sp.toNatClampNeg dp.toNatClampNeg n.toNatClampNeg)))) pc' Lc rest) : G X K r he h pc Lc (.int n :: .int dp :: .ref b :: .int sp :: .ref a :: rest) := by
  subst p
  obtain ⟨h1, h2, h3, h4, h5⟩ := hr
  refine g_wrote hc1 k (fun hx hfr H locs ls u v Q hA hl w => ?_) (by omega)
  have hK := hx.2.2.2.2.2.2.2.1.1
  have hT := hK.2 2 _ rfl
  intro T hT9 Y
  have hc0' : H[a]? = some (vp_cell ((x_B X).2.1 2) (n0, .inl f)) := hA.at hc 0 _ rfl
  have hc1' : H[b]? = some (vp_cell ((x_B X).2.1 2) (n1, .inl g)) := hA.at (g_own hc1) 0 _ rfl
  obtain ⟨-, k0, hk0, cm0, hkk0⟩ := hT.1 n0 (fun j => .int (f j))
  obtain ⟨vm', X', sg⟩ := Y.arraycopy hx.1 hx.2.2.2.1 (hx.2.2.2.2.1 _ q1) (hx.2.2.2.2.1 _ q300) (hx.2.2.2.2.1 _ q299) (hx.2.2.2.2.1 _ q124) (src := a) (dst := b) (cs := vp_cell ((x_B X).2.1 2) (n0, .inl f)) (cd := vp_cell ((x_B X).2.1 2) (n1, .inl g)) (srcPos := sp) (destPos := dp) (n := n) (by rw [hT9]; exact hc0') (by rw [hT9]; exact hc1')
    (fun _ h => by cases h) (fun _ h => by cases h) (fun h => by cases h) (fun h => by cases h) hk0 hk0 hkk0 hkk0 (by simp [refKind]) h1 h2 h3
    (by rw [g_nnI sp h1, g_nnI n h3]; show ¬ _ > ((arrV ((x_B X).2.1 2) n0 (fun j => .int (f j))).slots.size : Int); rw [arrV_size]; omega)
    (by rw [g_nnI dp h2, g_nnI n h3]; show ¬ _ > ((arrV ((x_B X).2.1 2) n1 (fun j => .int (g j))).slots.size : Int); rw [arrV_size]; omega)
    (fun vm₁ _ j hj => by
      have e : (vp_cell ((x_B X).2.1 2) (n0, .inl f)).slots.getD (sp.toNatClampNeg + j) .null = .int (f (sp.toNatClampNeg + j)) := by
        show (arrV ((x_B X).2.1 2) n0 (fun j => .int (f j))).slots.getD _ _ = _
        rw [Array.getD_eq_getD_getElem?, arrV_read _ _ (by omega)]
        rfl
      refine ⟨?_, ?_⟩
      · rw [e]; exact hf j hj
      · rw [e]; exact trivial)
    (g := F0 (x_m X) pc ls (.int n :: .int dp :: .ref b :: .int sp :: .ref a :: rest)) rfl (by rw [hx.2.2.1]; exact hl.1) (rest := rest) rfl (by rw [hx.2.1]; exact d) hfr (by
      have e9 : nativeFrameWords "java/lang/System" "arraycopy" 5 ≤ 200 := by decide
      show 2 * 0 + _ + _ ≤ 64 * k_lev K
      omega)
  have e1 : copied (vp_cell ((x_B X).2.1 2) (n0, .inl f)) (vp_cell ((x_B X).2.1 2) (n1, .inl g)) sp dp n = vp_cell ((x_B X).2.1 2) (n1, .inl (va_cpy f g sp.toNatClampNeg dp.toNatClampNeg n.toNatClampNeg)) := va_copied (fun z => .int z) _ _ f g h4
  rw [e1] at X' sg
  have hl9 : b < H.size := (Array.getElem?_eq_some_iff.mp hc1').1
  have hheap : ((T.setVm vm').setCell b (vp_cell ((x_B X).2.1 2) (n1, .inl (va_cpy f g sp.toNatClampNeg dp.toNatClampNeg n.toNatClampNeg)))).heap = H.setIfInBounds b (vp_cell ((x_B X).2.1 2) (n1, .inl (va_cpy f g sp.toNatClampNeg dp.toNatClampNeg n.toNatClampNeg))) := by rw [← hT9]; rfl
  obtain ⟨t, a1, b1⟩ := w _ _ (by simp) (fun q hq => by simp [Array.getElem?_setIfInBounds, Ne.symm hq]) (show (H.setIfInBounds b _)[b]? = some _ by simp [Array.getElem?_setIfInBounds, hl9]) (fun q hq => by obtain ⟨z, -, hz⟩ := List.mem_map.mp hq; rw [← hz]) _ hheap X'
  exact ⟨t, sg t a1, b1⟩
theorem g_copyQ {a b n0 n1 : Nat} {f g : Nat → Option Nat} {sp dp n : Int32} (d : decode (k_cc K) pc = .ok (.invokestatic i, 3)) (q1 : Jvm.Cond.methodLink (k_own K) i arraycopyName ∈ lw_all) (hc : g_look h a = some (.inl (5, n0, .inr (.inr (.inr (.inr f)))))) (hc1 : h.1 b = some (.inl (5, n1, .inr (.inr (.inr (.inr g)))))) (hr : ¬ sp < 0 ∧ ¬ dp < 0 ∧ ¬ n < 0 ∧ sp.toNatClampNeg + n.toNatClampNeg ≤ n0 ∧ dp.toNatClampNeg + n.toNatClampNeg ≤ n1) (hf : ∀ i, i < n.toNatClampNeg → g_okE h 5 (f (sp.toNatClampNeg + i)) = true) (hst : (rest.map fun v => v.category).sum ≤ 8) (hv : 12 ≤ k_lev K) (p : pc + 3 = pc') (k : G X K r he (g_up h b (.inl (5, n1, .inr (.inr (.inr (.inr (va_cpy f g sp.toNatClampNeg dp.toNatClampNeg n.toNatClampNeg))))))) pc' Lc rest) : G X K r he h pc Lc (.int n :: .int dp :: .ref b :: .int sp :: .ref a :: rest) := by
  subst p
  obtain ⟨h1, h2, h3, h4, h5⟩ := hr
  refine g_wrote hc1 k (fun hx hfr H locs ls u v Q hA hl w => ?_) (by omega)
  have hKK := hx.2.2.2.2.2.2.2.1
  have hK := hKK.1
  have hT := hK.2 5 _ rfl
  intro T hT9 Y
  have hc0' : H[a]? = some (vp_cell ((x_B X).2.1 5) (n0, .inr (.inr (.inr (.inr f))))) := hA.at hc 0 _ rfl
  have hc1' : H[b]? = some (vp_cell ((x_B X).2.1 5) (n1, .inr (.inr (.inr (.inr g))))) := hA.at (g_own hc1) 0 _ rfl
  obtain ⟨-, k0, hk0, cm0, hkk0⟩ := hT.1 n0 (fun j => va_rf (f j))
  obtain ⟨vm', X', sg⟩ := Y.arraycopy hx.1 hx.2.2.2.1 (hx.2.2.2.2.1 _ q1) (hx.2.2.2.2.1 _ q300) (hx.2.2.2.2.1 _ q299) (hx.2.2.2.2.1 _ q124) (src := a) (dst := b) (cs := vp_cell ((x_B X).2.1 5) (n0, .inr (.inr (.inr (.inr f))))) (cd := vp_cell ((x_B X).2.1 5) (n1, .inr (.inr (.inr (.inr g))))) (srcPos := sp) (destPos := dp) (n := n) (by rw [hT9]; exact hc0') (by rw [hT9]; exact hc1')
    (fun _ h => by cases h) (fun _ h => by cases h) (fun h => by cases h) (fun h => by cases h) hk0 hk0 hkk0 hkk0 rfl h1 h2 h3
    (by rw [g_nnI sp h1, g_nnI n h3]; show ¬ _ > ((arrV ((x_B X).2.1 5) n0 (fun j => va_rf (f j))).slots.size : Int); rw [arrV_size]; omega)
    (by rw [g_nnI dp h2, g_nnI n h3]; show ¬ _ > ((arrV ((x_B X).2.1 5) n1 (fun j => va_rf (g j))).slots.size : Int); rw [arrV_size]; omega)
    (fun vm₁ hal j hj => by
      have e : (vp_cell ((x_B X).2.1 5) (n0, .inr (.inr (.inr (.inr f))))).slots.getD (sp.toNatClampNeg + j) .null = va_rf (f (sp.toNatClampNeg + j)) := by
        show (arrV ((x_B X).2.1 5) n0 (fun j => va_rf (f j))).slots.getD _ _ = _
        rw [Array.getD_eq_getD_getElem?, arrV_read _ _ (by omega)]
        rfl
      rw [e]
      have hfj := hf j hj
      cases hy : f (sp.toNatClampNeg + j) with
      | none => exact ⟨rfl, trivial⟩
      | some y =>
        rw [hy] at hfj
        obtain ⟨ci, fs, hv9, hct⟩ := g_okE_inv hfj
        obtain ⟨r', hr', cellV, g1, g2, g3, -⟩ := hA.at hv9 0 _ rfl
        have hcls := (hK.1 ci r' hr').2
        obtain ⟨kC, hkC, -⟩ := hcls.2
        obtain ⟨kA, comp, r1, r2, r3, -⟩ := hT.2
        cases hk0.symm.trans r1
        cases hkk0.symm.trans r2
        obtain ⟨kE, hkE, -⟩ := Vm.findClass_spec r3
        obtain ⟨kC', hkC', -⟩ := hal.2.2 _ _ hkC
        obtain ⟨kE', hkE', -⟩ := hal.2.2 _ _ hkE
        have hasg : ∀ cq, (x_st X).vm.findClass "java/lang/Object" = some cq → (x_st X).vm.assignable ((x_B X).1.1 ci) cq = true := by
          intro cq r4
          simp only [gCast, Bool.or_eq_true, Bool.and_eq_true, decide_eq_true_eq] at hct
          obtain ⟨q, e1, e2⟩ := g_co5 ci (by omega)
          have hr2 : r' = q := Option.some.inj (hr'.symm.trans e1)
          subst hr2
          have hn := hKK.2.1 _ (g_nw_in e2 rfl)
          obtain ⟨c0, t1, f1, f2, f3⟩ := Cond.castable_spec (va_Nw.use (A := x_args X) rfl hn)
          cases hcls.1.symm.trans f1
          cases r4.symm.trans f2
          exact f3
        refine ⟨rfl, cellV, (show T.heap[y]? = some cellV by rw [hT9]; exact g1), (fun q h => by rw [g3] at h; cases h), ⟨kC', by rw [g2]; exact hkC'⟩, ?_, ?_⟩
        · exact ⟨kE', hkE'⟩
        · show vm₁.assignable _ _ = true
          rw [hal.assignable, g2]
          exact hasg _ r3)
    (g := F0 (x_m X) pc ls (.int n :: .int dp :: .ref b :: .int sp :: .ref a :: rest)) rfl (by rw [hx.2.2.1]; exact hl.1) (rest := rest) rfl (by rw [hx.2.1]; exact d) hfr (by
      have e9 : nativeFrameWords "java/lang/System" "arraycopy" 5 ≤ 200 := by decide
      show 2 * 0 + _ + _ ≤ 64 * k_lev K
      omega)
  have e1 : copied (vp_cell ((x_B X).2.1 5) (n0, .inr (.inr (.inr (.inr f))))) (vp_cell ((x_B X).2.1 5) (n1, .inr (.inr (.inr (.inr g))))) sp dp n = vp_cell ((x_B X).2.1 5) (n1, .inr (.inr (.inr (.inr (va_cpy f g sp.toNatClampNeg dp.toNatClampNeg n.toNatClampNeg))))) := by
    rw [vp_cell_q, vp_cell_q, vp_cell_q]
    exact va_copied (fun z => va_rf z) _ _ f g h4
  rw [e1] at X' sg
  have hl9 : b < H.size := (Array.getElem?_eq_some_iff.mp hc1').1
  have hheap : ((T.setVm vm').setCell b (vp_cell ((x_B X).2.1 5) (n1, .inr (.inr (.inr (.inr (va_cpy f g sp.toNatClampNeg dp.toNatClampNeg n.toNatClampNeg))))))).heap = H.setIfInBounds b (vp_cell ((x_B X).2.1 5) (n1, .inr (.inr (.inr (.inr (va_cpy f g sp.toNatClampNeg dp.toNatClampNeg n.toNatClampNeg)))))) := by rw [← hT9]; rfl
  obtain ⟨t, a1, b1⟩ := w _ _ (by simp) (fun q hq => by simp [Array.getElem?_setIfInBounds, Ne.symm hq]) (show (H.setIfInBounds b _)[b]? = some _ by simp [Array.getElem?_setIfInBounds, hl9]) (fun q hq => by obtain ⟨z, -, hz⟩ := List.mem_map.mp hq; rw [← hz]) _ hheap X'
  exact ⟨t, sg t a1, b1⟩
end G31
