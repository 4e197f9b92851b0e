/-! G: interface calls, String constants, class objects, inherited calls, athrow of an own exception -/
section G32
variable {X : g_X} {K : g_M} {r : g_RV} {he h : g_AH} {pc pc' : Nat} {Lc : List (Nat × Value)} {st st' rest : List Value} {i : Nat}
variable {y : MethodName} {Ky : g_M} {As : List Value} {r1 : g_RV} {h1 : g_AH}
theorem g_ldcS {j : Nat} {t : String × Nat × String} (d : decode (k_cc K) pc = .ok (.ldc i, 2)) (e : g_strs[j]? = some t) (e1 : t.1 = k_own K) (e2 : t.2.1 = i) (p : pc + 2 = pc') (k : G X K r he h pc' Lc (.ref (g_str h j) :: rest)) : G X K r he h pc Lc rest := by
  subst p; subst e2
  refine g_pureX k fun hx R H locs ls u v Q hA hS hl w => ?_
  have h9 := hx.2.2.2.2.2.2.2.1.2.2.2.2.2.2.2.2.2.2.1 j t e
  rw [e1] at h9
  have e3 : g_str h j = (x_B X).2.2.2.2 j := congrFun hA.2.2.2.1.2 j
  rw [e3] at w
  exact va_ldcS hx.1 hx.2.1 hx.2.2.2.1 h9 d (w ls hl)
/-- the Class object of Object[] -/
theorem g_ldcC (d : decode (k_cc K) pc = .ok (.ldc i, 2)) (q1 : Jvm.Cond.classLink (k_own K) i "[Ljava/lang/Object;" ∈ lw_all) (p : pc + 2 = pc') (k : G X K r he h pc' Lc (.ref (g_str h 100) :: rest)) : G X K r he h pc Lc rest := by
  subst p
  refine g_pureX k fun hx R H locs ls u v Q hA hS hl w => ?_
  have h9 := hx.2.2.2.2.2.2.2.1.2.2.2.1
  have e3 : g_str h 100 = (x_B X).2.2.2.2 100 := congrFun hA.2.2.2.1.2 100
  rw [e3] at w
  exact va_ldcM hx.1 hx.2.1 hx.2.2.2.1 (hx.2.2.2.2.1 _ q1) h9 d (w ls hl)
theorem g_getCls {a : Nat} {x : vp_A} (d : decode (k_cc K) pc = .ok (.invokevirtual i, 3)) (hc : g_look h a = some (.inl (5, x))) (q1 : Jvm.Cond.methodLink (k_own K) i ⟨"java/lang/Object", "getClass", "()Ljava/lang/Class;"⟩ ∈ lw_all) (hst : (rest.map fun v => v.category).sum ≤ 8) (hv : 1 ≤ k_lev K) (p : pc + 3 = pc')
    (k : G X K r he h pc' Lc (.ref (g_str h 100) :: rest)) : G X K r he h pc Lc (.ref a :: rest) := by
  subst p
  refine ⟨k.1, fun hx hle H locs ls hA hS hl => ?_⟩
  have hK := hx.2.2.2.2.2.2.2.1
  have e3 : g_str h 100 = (x_B X).2.2.2.2 100 := congrFun hA.2.2.2.1.2 100
  have w := k.2 hx hle H locs ls hA hS hl
  rw [e3] at w
  obtain ⟨kA, comp, z1, z2, z3, z4⟩ := (hK.1.2 5 _ rfl).2
  have hcell : H[a]? = some (vp_cell ((x_B X).2.1 5) x) := hA.at hc 0 _ rfl
  have hcl : (vp_cell ((x_B X).2.1 5) x).cls = (x_B X).2.1 5 := by
    obtain ⟨n, f | f | f | f | f⟩ := x <;> rfl
  have hvm : (vp_cell ((x_B X).2.1 5) x).vm.isStatics = false := by
    obtain ⟨n, f | f | f | f | f⟩ := x <;> rfl
  exact va_getC hx.1 hx.2.1 (by rw [hx.2.2.1]; exact hl.1.symm) hx.2.2.2.1 (hx.2.2.2.2.1 _ q1) ((hK.2.1 _ (g_nw_in q2580 rfl)).use rfl) (hx.2.2.2.2.1 _ q2579) (hx.2.2.2.2.1 _ q1059) (hx.2.2.2.2.1 _ q1085) hK.2.2.2.1 ⟨_, hcell, hvm, by rw [hcl]; exact z4⟩ hv (by show _ + 14 ≤ 64 * k_lev K; omega) d w
/-- an interface's method that the receiver's class has itself -/
theorem g_after5 {rv : Option Value} {av : Array Value} (len : pc + 5 = pc') (hle1 : g_Le h h1) (k : G X K r he h1 pc' Lc (rv.toList ++ rest))
    (f : g_GX X K → g_c h1 ≤ g_c he → g_s h1 ≤ g_s he → g_Le (x_h X) h → ∀ (H : Heap) (locs : List Loc) (ls : Array Slot), g_Abs (x_B X) (g_A (x_h X)) H h → lv_has ls (k_nL K) Lc → vx_Run5 (x_p X) (x_l X) (x_e X) (g_R K (x_h X) he) (x_st X) (x_m X) (x_args X) (x_bel X) (x_me X) (x_co X) H locs (g_c h - g_c (x_h X)) (g_s h - g_s (x_h X)) (g_c h1 - g_c h) (g_s h1 - g_s h) (F0 (x_m X) pc ls st) rest (g_Qc (x_B X) (.inl rv) h h1 av) (g_XC (x_B X) (.inl rv) h h1) (g_A h)) : G X K r he h pc Lc st := by
  subst len
  refine ⟨hle1.trf k.1, fun hx hle H locs ls hA hS hl => ?_⟩
  have hr := f hx k.1.2.1 k.1.2.2.1 hle H locs ls hA hl
  intro T hT Y
  rcases hr T hT Y with ⟨v, st₀, t, T', L, h0, X', hL, e1, e2, ⟨v', hv1, hv2, hA1, hF⟩, sg⟩ | ⟨q, st₀, t, T', L, E, ce, h0, X', hL, e1, e2, ⟨qo, hq, -⟩, -⟩
  · cases hv1
    cases hv2
    have w := k.2 hx (hle.tr hle1) T'.heap (locs ++ L) ls (by rw [e1]; exact hA1.weak (g_A_sub hle)) (g_keepS h0 e1 hS (g_A_sub hle) hL hF) hl
    obtain ⟨-, a1, a2, -⟩ := hle
    obtain ⟨-, b1, b2, -⟩ := hle1
    obtain ⟨t2, c1, c2⟩ := (W.widen (by omega) (by omega) w) T' rfl X'
    exact ⟨t2, sg t2 c1, c2⟩
  · cases hq
theorem g_callF (n : Nat) {cnt : Nat} {rv : Option Value} {x : MethodName} {b ci : Nat} {fs : List Value} {q : vw_C} (hM : g_CT (x_l X) (x_B X) y Ky (.ref b :: As) h (.inl rv) h1) (d : decode (k_cc K) pc = .ok (.invokeinterface i cnt, 5)) (hc : g_look h b = some (.inr (ci, fs))) (hq : gCL[ci]? = some q) (hf : (q.1, x, y) ∈ g_fws) (hU : ∀ w ∈ va_wsF (k_own K) i q.1 x y (ws_ y (k_cc Ky) (k_nL Ky) (k_ret Ky)), w ∈ lw_all) (hd : x.cls ≠ "java/lang/invoke/MethodHandle" ∧ x.cls ≠ "java/lang/invoke/VarHandle" ∧ (parseMethodDescriptor x.desc).map (fun d => d.parameters.length) = some n) (hn : As.length = n) (hv : g_lev Ky K) (hst : (rest.map fun v => v.category).sum ≤ 8) (p : pc + 5 = pc') (k : G X K r he h1 pc' Lc (rv.toList ++ rest)) : G X K r he h pc Lc (As.reverse ++ .ref b :: rest) :=
  g_after5 (av := (Value.ref b :: As).toArray) p (hM.1 X) k fun hx c1 c2 hle H locs ls hA hl =>
    vx_runF (hx.2.2.2.2.2.2.2.1.1.1 ci q hq).2 (g_fit hx) (hM.2 hx.2.2.2.2.2.2.2.2.1) (va_cwF n hx.2.2.2.2.1 (lw_good hU) rfl rfl rfl (hx.2.2.2.2.2.2.2.1.2.2.2.2.2.2.2.2.2.1 _ hf) hd (g_levR hv)) ⟨g_blind, g_recv hx hA hc hq, g_pre hx hA (.ref b :: As)⟩ rfl hn hl.1 rfl (lv_room hst) d (g_room hle (hM.1 X) c1 c2)
theorem g_toMet {l : Launch} {ws : List Cond} {rm : Room} {Pc : Array Value → State → Prop} {B : g_B} {v : Option Value} {mc ms : Nat} {free : Addr → Prop} (hM : vx_Met l y ws rm Pc (g_Qc B (.inl v) h h1) (g_XC B (.inl v) h h1) mc ms free) : Met l y ws rm Pc (g_Qc B (.inl v) h h1) mc ms free := by
  intro p e ha hc hk s m args below hf happ hP hK
  obtain ⟨n, o, z1, z2, z3, z4⟩ := hM p e ha hc hk s m args below hf happ hP hK
  refine ⟨n, o, z1, z2, z3, ?_⟩
  rcases z4 with z4 | ⟨q, -, E, ce, L, ⟨qo, hq, -⟩, -⟩
  · exact z4
  · cases hq
/-- Phase.isMoving where the receiver's class keeps the default -/
theorem g_callD {cnt : Nat} {rv : Option Value} {b ci : Nat} {fs : List Value} {q : vw_C} (hM : g_CT (x_l X) (x_B X) y_dflt Ky [.ref b] h (.inl rv) h1) (d : decode (k_cc K) pc = .ok (.invokeinterface i cnt, 5)) (hc : g_look h b = some (.inr (ci, fs))) (hq : gCL[ci]? = some q) (hf : q.1 ∈ g_lds) (hf2 : (q.1, y_dflt, y_dflt) ∈ g_fws) (q1 : Jvm.Cond.methodLink (k_own K) i y_dflt ∈ lw_all) (q5 : Jvm.Cond.code y_dflt (k_cc Ky) (k_nL Ky) (k_ret Ky) ∈ lw_all) (hv : g_lev Ky K) (hst : (rest.map fun v => v.category).sum ≤ 8) (p : pc + 5 = pc') (k : G X K r he h1 pc' Lc (rv.toList ++ rest)) : G X K r he h pc Lc (.ref b :: rest) := by
  subst p
  have hle1 := hM.1 X
  refine ⟨hle1.trf k.1, fun hx hle H locs ls hA hS hl => ?_⟩
  have hK := hx.2.2.2.2.2.2.2.1
  have hbk : Back (x_l X) (g_R K (x_h X) he) (x_p X) (x_e X) (x_bel X) (x_st X) (x_args X) y_dflt 5 8 (PreOf (g_R K (x_h X) he) (g_c h1 - g_c h) (g_s h1 - g_s h) (g_Pc (x_B X) [.ref b] h)) (PostOf (g_Qc (x_B X) (.inl rv) h h1) (g_c h1 - g_c h) (g_s h1 - g_s h) (g_A h)) :=
    back_of (bytes := k_cc Ky) (maxL := k_nL Ky) (ret := k_ret Ky) (g_toMet (hM.2 hx.2.2.2.2.2.2.2.2.1)) g_blind rfl rfl (g_levR hv).1 (g_levR hv).2 (pay_in hx.2.2.2.2.1 (lw_meth q5)) List.mem_cons_self (fun a' U hW => word_at hW (Or.inl rfl) (hx.2.2.2.2.1 _ q129))
  have hFw := hK.2.2.2.2.2.2.2.2.2.1 _ hf2
  have hLd : (Cond.landsInDefault q.1 y_dflt y_dflt).before (x_args X) (x_st X) = true := by
    have h0 := hK.2.2.2.2.2.2.2.2.2.2.2.1.1 q.1 hf (x_st X) rfl
    have e := Cond.landsInDefault_setVm (args := #[]) (args' := x_args X) (s := x_st X) (vm' := (x_st X).vm) (Vm.Alike.refl _) (cls := q.1) (x := y_dflt) (y := y_dflt) rfl
    exact e.trans h0
  obtain ⟨f1, f2, f3, f4, f5⟩ := hFw
  intro T hT Y
  obtain ⟨cellB, hcB, hoB, hclB⟩ := g_recv hx hA hc hq
  obtain ⟨hfc, kB, hkB, -⟩ := (hK.1.1 ci q hq).2
  have hroom := g_room (K := K) (he := he) hle hle1 k.1.2.1 k.1.2.2.1
  obtain ⟨v, vm₁, ⟨U', l2, c2, s2⟩, hW₁, X', ⟨g', mk, t, L, e1, e2, ⟨v', hv1, hv2, hA1, hF⟩, z1, hL, z2, z3⟩, sg⟩ := Y.interfaceBackD hx.1 hx.2.2.2.1 (hx.2.2.2.2.1 _ q1) ((hK.2.1 _ (g_nw_in q1512 rfl)).use rfl) (va_any rfl f2) hLd (hx.2.2.2.2.1 _ q1515) (va_any rfl f3) (va_any rfl f5) (by decide) hbk hfc hkB ⟨cellB, by rw [hT]; exact hcB, (Option.some.inj (hfc.symm.trans hclB)).symm, hoB⟩ (g := F0 (x_m X) pc ls (.ref b :: rest)) rfl (by rw [hx.2.2.1]; exact hl.1) (Steps.refl _) (argsL := []) (rest := rest) (fun sig hs => by
      have h9 : (parseMethodDescriptor "()Z").map (fun d => d.parameters.length) = some 0 := by decide +kernel
      rw [show parseMethodDescriptor "()Z" = some sig from hs] at h9
      exact (Option.some.inj h9).symm) rfl (lv_room hst) (by rw [hx.2.1]; exact d) (fun vm₁ hW₁ => ⟨hroom.1, hroom.2, g_pre hx hA [.ref b] (T.setVm vm₁) hT hW₁⟩)
  dsimp only [Pt.U, Pt.locs, Pt.cells, Pt.slots] at X' e1 e2 z1 z2 z3 sg
  subst z1; subst z2; subst z3
  cases hv1
  cases hv2
  have w := k.2 hx (hle.tr hle1) U'.heap (locs ++ L) ls (by rw [e1]; exact hA1.weak (g_A_sub hle)) (g_keepS hT e1 hS (g_A_sub hle) hL hF) hl
  obtain ⟨-, a1, a2, -⟩ := hle
  obtain ⟨-, b1, b2, -⟩ := hle1
  obtain ⟨t2, c1, c2⟩ := (W.widen (by omega) (by omega) w) U' rfl X'
  exact ⟨t2, sg.trans c1, c2⟩
/-- throw an exception of an own class -/
theorem g_athrow {a ci : Nat} {fs : List Value} {q : vw_C} (d : decode (k_cc K) pc = .ok (.athrow, 1)) (hc : g_look h a = some (.inr (ci, fs))) (hq : gCL[ci]? = some q) (er : r = .inr (q.1, some a)) (eh : he = h) (hh : k_hh K = [] := by rfl) : G X K r he h pc Lc (.ref a :: rest) := by
  subst er; subst eh
  refine ⟨g_Lf.rf, fun hx hle H locs ls hA hS hl => ?_⟩
  have hK := hx.2.2.2.2.2.2.2.1
  obtain ⟨r', hr', cell, g1, g2, g3, -⟩ := hA.at hc 0 _ rfl
  have hr2 : r' = q := Option.some.inj (hr'.symm.trans hq)
  subst hr2
  refine vx_athrow hx.1 hx.2.1 d ?_
  refine vx_out (E := r'.1) (ce := cell) (g_noH hx hh) hx.2.2.2.2.2.1 g1 g3 (by rw [g2]; exact (hK.1.1 ci r' hr').2.1) (fun t ht _ => ⟨some a, rfl, fun b e => by cases e; rfl, ?_, ?_, hS.F ht⟩) hS.2.2 (Nat.le_refl _) (Nat.le_refl _)
  · have e : g_ren he t.heap.size = he := by
      rw [ht, hA.1]; rfl
    rw [e, ht]
    exact hA
  · rw [ht, hA.1]
    exact Nat.le_refl _
end G32
