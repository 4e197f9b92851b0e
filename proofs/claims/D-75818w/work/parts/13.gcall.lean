/-! G: new cells, the method's start and end, calls, throws -/
section GNEW
variable {X : g_X} {K : g_M} {r : g_RV} {he h : g_AH} {pc pc' : Nat} {Lc : List (Nat × Value)} {st : List Value}
theorem g_new {ci i : Nat} {q : vw_C} {fs : List Value} (d : decode (k_cc K) pc = .ok (.new i, 3)) (hq : gCL[ci]? = some q) (hl : Jvm.Cond.classLink (k_own K) i q.1 ∈ lw_all) (hin : Jvm.Cond.instantiable q.1 q.2.2 ∈ lw_all) (hini : Jvm.Cond.initialized q.1 ∈ lw_all) (hfs : ∀ j, j < q.2.2 → defaultValue (gty ci j) = vp_V fs j) (p : pc + 3 = pc') (k : G X K r he (g_al h (.inr (ci, fs)) q.2.2) pc' Lc (.ref (g_n h) :: st)) : G X K r he h pc Lc st := by
  subst p
  refine g_make k fun hx R H locs ls u v Q hu hv hA hS hl2 w => ?_
  have hKn := hx.2.2.2.2.2.2.2.1.1.1 ci q hq
  refine W.newcK hx.1 hx.2.1 hx.2.2.2.1 (hx.2.2.2.2.1 _ hl) (hx.2.2.2.2.1 _ hin) (hx.2.2.2.2.1 _ hini) rfl d hu hv hKn.2.1 rfl fun H1 kC hkC e1 z1 o1 => ?_
  rw [hA.1] at e1
  have w2 := w H1 z1 o1 ⟨_, hq, (u_born (gty ci) hx.2.2.2.2.1 (gCL_ok ci q hq).1 hKn hkC e1 (gCL_ok ci q hq).2.1).to hfs⟩
  rw [← hA.1] at w2
  exact w2
theorem g_newa {at' : ArrayType} {t : Nat} {ty : FieldType} {n : Int32} {N : Nat} {x : vp_A} (hty : newarray.typeOf at' = ty) (d : decode (k_cc K) pc = .ok (.newarray at', 2)) (hw : Jvm.Cond.arrayClass (newarray.typeOf at') ∈ lw_all) (ht : ∀ AC : Nat → ClassId, (g_TY AC)[t]? = some (AC t, ty)) (hp : ∀ C, ty ≠ FieldType.object C) (hx0 : ∀ cA : ClassId, vp_cell cA x = arrV cA N (fun _ => defaultValue ty)) (hn : ¬ n < 0) (hN : n.toNatClampNeg = N) (hb9 : N * componentBytes ty ≤ 536870912) (p : pc + 2 = pc') (k : G X K r he (g_al h (.inl (t, x)) N) pc' Lc (.ref (g_n h) :: st)) : G X K r he h pc Lc (.int n :: st) := by
  subst p
  subst hty
  refine g_make k fun hx R H locs ls u v Q hu hv hA hS hl2 w => ?_
  refine va_newaK hx.1 hx.2.1 (hx.2.2.2.2.1 _ hw) rfl d rfl hn hN hb9 hu hv hA.1 fun H1 cA e1 z1 o1 hAr hNm => ?_
  have hc : cA = (x_B X).2.1 t := by
    have h9 := (hx.2.2.2.2.2.2.2.1.1.2 t _ (ht _)).2
    unfold va_RA at h9
    cases e : newarray.typeOf at' with
    | object C => exact absurd e (hp C)
    | _ =>
      rw [e] at h9 hNm
      exact Option.some.inj (hNm.symm.trans h9)
  subst hc
  rw [← hA.1] at z1 o1 e1 w ⊢
  exact w H1 z1 o1 (by show H1[H.size]? = some (vp_cell _ _); rw [hx0]; exact e1)
/-- the method's end with a value -/
theorem g_end {v : Option Value} {st' : List Value} (er : r = .inl v) (eh : he = h)
    (f : g_GX X K → ∀ (H : Heap) (locs : List Loc) (ls : Array Slot), (∀ t : State, t.heap = H → (x_st X).WarmedH t.vm → g_Qm (k_mo K) (x_B X) r (x_h X) he (x_args X) (x_st X) (.returned v) t) → (∀ q ∈ locs, g_A (x_h X) q.base) → g_W X (g_R K (x_h X) he) H locs (g_c he - g_c (x_h X)) (g_s he - g_s (x_h X)) (MQ (x_bel X) (g_Qm (k_mo K) (x_B X) r (x_h X) he) (x_args X) (x_st X) (g_c he - g_c (x_h X)) (g_s he - g_s (x_h X)) (g_A (x_h X))) (F0 (x_m X) pc ls st')) : G X K r he h pc Lc st' := by
  subst er; subst eh
  refine ⟨g_Lf.rf, fun hx hle H locs ls hA hS hl => ?_⟩
  exact vx_ret (f hx H locs ls (fun t ht hW => ⟨v, rfl, rfl, g_Fin.of (by rw [ht]; exact hA), hS.F ht⟩) hS.2.2)
theorem g_iret {v : Int32} (er : r = .inl (some (.int v))) (eh : he = h) (hr : k_ret K = some .int) (d : decode (k_cc K) pc = .ok (.ireturn, 1)) : G X K r he h pc Lc [.int v] :=
  g_end er eh fun hx H locs ls hq hf => W.iret hx.1 hx.2.1 (hx.2.2.2.2.2.2.1.trans hr) hq hf d hx.2.2.2.2.2.1
theorem g_zret {v : Int32} {ty : FieldType} (er : r = .inl (some (.int v))) (eh : he = h) (hr : k_ret K = some ty) (hn : narrow ty (.int v) = .int v) (d : decode (k_cc K) pc = .ok (.ireturn, 1)) : G X K r he h pc Lc [.int v] :=
  g_end er eh fun hx H locs ls hq hf => W.zret hx.1 hx.2.1 (hx.2.2.2.2.2.2.1.trans hr) hn hq hf d hx.2.2.2.2.2.1
theorem g_vret (er : r = .inl none) (eh : he = h) (hr : k_ret K = none) (d : decode (k_cc K) pc = .ok (.return_, 1)) : G X K r he h pc Lc [] :=
  g_end er eh fun hx H locs ls hq hf => W.vret hx.1 hx.2.1 (hx.2.2.2.2.2.2.1.trans hr) hq hf d hx.2.2.2.2.2.1
theorem g_lret {v : Int64} (er : r = .inl (some (.long v))) (eh : he = h) (hr : k_ret K = some .long) (d : decode (k_cc K) pc = .ok (.lreturn, 1)) : G X K r he h pc Lc [.long v] :=
  g_end er eh fun hx H locs ls hq hf => W.lret hx.1 hx.2.1 (hx.2.2.2.2.2.2.1.trans hr) hq hf d hx.2.2.2.2.2.1
theorem g_dret {v : UInt64} (er : r = .inl (some (.double v))) (eh : he = h) (hr : k_ret K = some .double) (d : decode (k_cc K) pc = .ok (.dreturn, 1)) : G X K r he h pc Lc [.double v] :=
  g_end er eh fun hx H locs ls hq hf => W.dret hx.1 hx.2.1 (hx.2.2.2.2.2.2.1.trans hr) hq hf d hx.2.2.2.2.2.1
theorem g_fret {v : UInt32} (er : r = .inl (some (.float v))) (eh : he = h) (hr : k_ret K = some .float) (d : decode (k_cc K) pc = .ok (.freturn, 1)) : G X K r he h pc Lc [.float v] :=
  g_end er eh fun hx H locs ls hq hf => W.fret hx.1 hx.2.1 (hx.2.2.2.2.2.2.1.trans hr) hq hf d hx.2.2.2.2.2.1
theorem g_aret {o : Option Nat} {rt : FieldType} (er : r = .inl (some (va_rf o))) (eh : he = h) (hr : k_ret K = some rt) (hrt : (∃ n, rt = .object n) ∨ ∃ t, rt = .array t) (d : decode (k_cc K) pc = .ok (.areturn, 1)) : G X K r he h pc Lc [va_rf o] :=
  g_end er eh fun hx H locs ls hq hf => W.aret hx.1 hx.2.1 (hx.2.2.2.2.2.2.1.trans hr) hrt (by cases o with | none => exact Or.inl rfl | some a => exact Or.inr ⟨a, rfl⟩) hq hf d hx.2.2.2.2.2.1
end GNEW
section GSTART
theorem g_noTab {α : Type} {l : List α} (h : ∀ x ∈ l, False) : l = [] := by
  cases l with
  | nil => rfl
  | cons a t => exact (h a (List.mem_cons_self)).elim
/-- a contract out of the walk of the body -/
theorem g_start {l : Launch} {B : g_B} {y : MethodName} {K : g_M} {vals : List Value} {h he : g_AH} {r : g_RV} (hy : plainName y.cls = true) (hcls : y.cls = k_own K) (hnm : y.name = k_nm K) (hv : (lg_sl vals).length ≤ k_nL K)
    (g : ∀ X : g_X, x_l X = l → x_B X = B → x_h X = h → G X K r he h 0 (lv_args 0 vals) []) (hh : k_hh K = [] := by rfl) (hm : k_mo K = 0 := by rfl) : g_CT l B y K vals h r he := by
  refine ⟨fun X0 => (g (X0.1, l, X0.2.2.1, X0.2.2.2.1, X0.2.2.2.2.1, X0.2.2.2.2.2.1, X0.2.2.2.2.2.2.1, X0.2.2.2.2.2.2.2.1, X0.2.2.2.2.2.2.2.2.1, B, h) rfl rfl rfl).1.2.2.2 hm, fun hl => ?_⟩
  refine vx_ofW (cc := k_cc K) (maxL := k_nL K) (ret := k_ret K) hy rfl ?_
  intro p e s m args below meth c s₁ Bd hml ht hP
  obtain ⟨rfl, hK, hA⟩ := hP
  have hts := atoms_spec (ws := ws_ y (k_cc K) (k_nL K) (k_ret K)) Bd.pre
  have hnm2 : meth.name = y.name := (name_of_methodNamed Bd.named Bd.method).1
  have hx : g_GX (p, l, e, s, m, vals.toArray, below, meth, c, B, h) K := by
    refine ⟨Bd.exec, Bd.bytes, hml, by rw [← hcls]; exact findClass_of_methodNamed Bd.named, fun w hw => hts w (List.mem_cons_of_mem _ hw), Bd.notSynchronized, Bd.returns, hK, hl, hnm2.trans hnm, by rw [hh, g_noTab ht]; rfl, hA.2.2.1, fun q hq => ?_, fun q hq => Or.inr (by rw [← hA.1]; exact hq)⟩
    rcases hq with ⟨c9, e9⟩ | hq
    · exact hA.2.2.2.2.1 q c9 e9
    · have h2 := hA.2.1
      rw [hA.1] at h2
      exact Nat.le_trans h2 hq
  have hl9 := lv_entry vals hv
  have w := (g (p, l, e, s, m, vals.toArray, below, meth, c, B, h) rfl rfl rfl).2 hx g_Le.rf s.heap [] _ hA va_S.rf hl9
  rw [Nat.sub_self, Nat.sub_self] at w
  unfold g_Q at w
  rw [hm, g_Qm0] at w
  rw [lg_entry_eq]
  exact w
end GSTART
section GCALL
variable {X : g_X} {K : g_M} {r : g_RV} {he h : g_AH} {pc pc' : Nat} {Lc : List (Nat × Value)} {st rest : List Value}
variable {y : MethodName} {Ky : g_M} {As : List Value} {r1 : g_RV} {h1 : g_AH}
abbrev g_Run (X : g_X) (K : g_M) (he : g_AH) (h : g_AH) (H : Heap) (locs : List Loc) (g : JFrame) (rest : List Value) (av : Array Value) (r1 : g_RV) (h1 : g_AH) : Prop :=
  vx_Run (x_p X) (x_l X) (x_e X) (g_R K (x_h X) he) (x_st X) (x_m X) (x_args X) (x_bel X) (x_me X) (x_co X) H locs (g_c h - g_c (x_h X)) (g_s h - g_s (x_h X)) (g_c h1 - g_c h) (g_s h1 - g_s h) g rest (g_Qc (x_B X) r1 h h1 av) (g_XC (x_B X) r1 h h1) (g_A h)
theorem g_keepS {A0 A1 : Nat → Prop} {H0 : Heap} {st0 t T' : State} {H : Heap} {locs L : List Loc} (h0 : st0.heap = H) (e1 : T'.heap = t.heap) (hS : va_S A0 H0 H locs) (hA : ∀ q, A1 q → A0 q) (hL : ∀ q ∈ L, A1 q.base) (hF : va_F A1 st0 t) : va_S A0 H0 T'.heap (locs ++ L) := by
  obtain ⟨f1, f2⟩ := hF
  rw [h0] at f1 f2
  refine ⟨by rw [e1]; exact Nat.le_trans hS.1 f1, fun q g1 g2 => ?_, fun q hq => ?_⟩
  · rw [e1, f2 q (Nat.lt_of_lt_of_le g1 hS.1) (fun z => g2 (hA q z))]
    exact hS.2.1 q g1 g2
  · rcases List.mem_append.mp hq with z | z
    · exact hS.2.2 q z
    · exact hA _ (hL q z)
/-- behind a call that answers -/
theorem g_after {rv : Option Value} {av : Array Value} (len : pc + 3 = pc') (hle1 : g_Le h h1) (k : G X K r he h1 pc' Lc (rv.toList ++ rest))
    (f : g_GX X K → g_c h1 ≤ g_c he → g_s h1 ≤ g_s he → g_Le (x_h X) h → ∀ (H : Heap) (locs : List Loc) (ls : Array Slot), g_Abs (x_B X) (g_A (x_h X)) H h → lv_has ls (k_nL K) Lc → g_Run X K he h H locs (F0 (x_m X) pc ls st) rest av (.inl rv) h1) : G X K r he h pc Lc st := by
  subst len
  refine ⟨hle1.trf k.1, fun hx hle H locs ls hA hS hl => ?_⟩
  have hr := f hx k.1.2.1 k.1.2.2.1 hle H locs ls hA hl
  intro T hT Y
  rcases hr T hT Y with ⟨v, st₀, t, T', L, h0, X', hL, e1, e2, ⟨v', hv1, hv2, hA1, hF⟩, sg⟩ | ⟨q, st₀, t, T', L, E, ce, h0, X', hL, e1, e2, ⟨qo, hq, -⟩, -⟩
  · cases hv1
    cases hv2
    have w := k.2 hx (hle.tr hle1) T'.heap (locs ++ L) ls (by rw [e1]; exact hA1.weak (g_A_sub hle)) (g_keepS h0 e1 hS (g_A_sub hle) hL hF) hl
    obtain ⟨-, a1, a2, -⟩ := hle
    obtain ⟨-, b1, b2, -⟩ := hle1
    obtain ⟨t2, c1, c2⟩ := (W.widen (by omega) (by omega) w) T' rfl X'
    exact ⟨t2, sg t2 c1, c2⟩
  · cases hq
/-- behind a call that throws: this method throws too -/
theorem g_afterX {E : String} {qo : Option Nat} {av : Array Value} (hle1 : g_Le h h1) (er : r = .inr (E, qo)) (eh : he = h1)
    (f : g_GX X K → g_c h1 ≤ g_c he → g_s h1 ≤ g_s he → g_Le (x_h X) h → ∀ (H : Heap) (locs : List Loc) (ls : Array Slot), g_Abs (x_B X) (g_A (x_h X)) H h → lv_has ls (k_nL K) Lc → g_Run X K he h H locs (F0 (x_m X) pc ls st) rest av (.inr (E, qo)) h1) (hh : k_hh K = [] := by rfl) : G X K r he h pc Lc st := by
  subst er; subst eh
  refine ⟨g_Lf.of hle1, fun hx hle H locs ls hA hS hl => ?_⟩
  have hr := f hx (Nat.le_refl _) (Nat.le_refl _) hle H locs ls hA hl
  intro T hT Y
  rcases hr T hT Y with ⟨v, st₀, t, T', L, h0, X', hL, e1, e2, ⟨v', hv1, -⟩, -⟩ | ⟨q, st₀, t, T', L, E', ce, h0, X', hL, e1, e2, ⟨qo', hq, hq2, hA1, hn1, hF⟩, hce, hcv, hcl, sg⟩
  · cases hv1
  · cases hq
    have hS1 := g_keepS h0 e1 hS (g_A_sub hle) hL hF
    have hle0 := hle
    obtain ⟨-, a1, a2, -⟩ := hle0
    obtain ⟨-, b1, b2, -⟩ := hle1
    have hw := vx_out (m := x_m X) (p := x_p X) (l := x_l X) (e := x_e X) (R := g_R K (x_h X) he) (args := x_args X) (below := x_bel X) (pc := pc) (ls := ls) (rest := rest) (q := q) (E := E) (ce := ce) (cells := g_c h - g_c (x_h X) + (g_c he - g_c h)) (slots := g_s h - g_s (x_h X) + (g_s he - g_s h)) (mc := g_c he - g_c (x_h X)) (ms := g_s he - g_s (x_h X)) (locs := locs ++ L) (free := g_A (x_h X)) (Qc := g_Qm (k_mo K) (x_B X) (.inr (E, qo)) (x_h X) he) (XC := g_XC (x_B X) (.inr (E, qo)) (x_h X) he) (H := T'.heap)
      (g_noH hx hh) hx.2.2.2.2.2.1 (by rw [e1]; exact hce) hcv hcl (fun t2 ht2 _ => ⟨qo, rfl, hq2, by rw [ht2, e1]; exact hA1.weak (g_A_sub hle), by rw [ht2, e1]; exact hn1, hS1.F ht2⟩) hS1.2.2 (by omega) (by omega)
    obtain ⟨t2, c1, c2⟩ := hw T' rfl X'
    exact ⟨t2, sg.trans c1, c2⟩
end GCALL
