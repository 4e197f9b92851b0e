/-! methods with handlers; ends whose heap is known but for the place of the next cell -/
/-- a contract of a method with handlers -/
def g_CTR (l : Launch) (B : g_B) (y : MethodName) (K : g_M) (vals : List Value) (h : g_AH) (r : g_RV) (he : g_AH) : Prop :=
  (g_X → g_Le h he) ∧ (l.stackTraces = false → vx_Met l y (wsW_ y (k_cc K) (k_nL K) (k_ret K) (k_hh K)) (g_R K h he) (g_Pc B vals h) (g_Qm 1 B r h he) (g_XC B r h he) (g_c he - g_c h) (g_s he - g_s h) (g_A h))
section GHAND
variable {X : g_X} {K : g_M} {r : g_RV} {he h : g_AH} {pc pc' : Nat} {Lc : List (Nat × Value)} {st rest : List Value} {i : Nat}
variable {y : MethodName} {Ky : g_M} {As : List Value} {r1 : g_RV} {h1 : g_AH}
theorem g_endR {v : Option Value} {st' : List Value} (n : Nat) (hm : k_mo K = 1) (er : r = .inl v) (eh : h = g_ren he n) (hn : g_n he ≤ n)
    (f : g_GX X K → ∀ (H : Heap) (locs : List Loc) (ls : Array Slot), (∀ t : State, t.heap = H → (x_st X).WarmedH t.vm → g_Qm (k_mo K) (x_B X) r (x_h X) he (x_args X) (x_st X) (.returned v) t) → (∀ q ∈ locs, g_A (x_h X) q.base) → g_W X (g_R K (x_h X) he) H locs (g_c he - g_c (x_h X)) (g_s he - g_s (x_h X)) (MQ (x_bel X) (g_Qm (k_mo K) (x_B X) r (x_h X) he) (x_args X) (x_st X) (g_c he - g_c (x_h X)) (g_s he - g_s (x_h X)) (g_A (x_h X))) (F0 (x_m X) pc ls st')) : G X K r he h pc Lc st' := by
  subst er; subst eh
  refine ⟨⟨trivial, Nat.le_refl _, Nat.le_refl _, fun e => absurd (hm.symm.trans e) (by decide)⟩, fun hx hle H locs ls hA hS hl => ?_⟩
  exact vx_ret (f hx H locs ls (fun t ht hW => ⟨v, rfl, rfl, by rw [hm]; exact ⟨n, hn, by rw [ht]; exact hA⟩, hS.F ht⟩) hS.2.2)
theorem g_iretR {v : Int32} (n : Nat) (hm : k_mo K = 1) (er : r = .inl (some (.int v))) (eh : h = g_ren he n) (hn : g_n he ≤ n) (hr : k_ret K = some .int) (d : decode (k_cc K) pc = .ok (.ireturn, 1)) : G X K r he h pc Lc [.int v] :=
  g_endR n hm er eh hn fun hx H locs ls hq hf => W.iret hx.1 hx.2.1 (hx.2.2.2.2.2.2.1.trans hr) hq hf d hx.2.2.2.2.2.1
/-- a contract out of the walk of the body -/
theorem g_startR {l : Launch} {B : g_B} {vals : List Value} (hy : plainName y.cls = true) (hcls : y.cls = k_own K) (hnm : y.name = k_nm K) (hv : (lg_sl vals).length ≤ k_nL K) (hL : lv_args 0 vals = Lc) (hle0 : g_X → g_Le h he)
    (g : ∀ X : g_X, G X K r he h 0 Lc []) (hm : k_mo K = 1) : g_CTR l B y K vals h r he := by
  refine ⟨hle0, fun hl => ?_⟩
  refine vx_ofWH (cc := k_cc K) (maxL := k_nL K) (ret := k_ret K) (hh := k_hh K) hy rfl ?_
  intro p e s m args below meth c s₁ Bd hml hP
  obtain ⟨rfl, hK, hA⟩ := hP
  have hts := atoms_spec (ws := wsW_ y (k_cc K) (k_nL K) (k_ret K) (k_hh K)) Bd.pre
  have hnm2 : meth.name = y.name := (name_of_methodNamed Bd.named Bd.method).1
  have ht : c.exceptionTable.toList.map (fun x => (x.startPc, x.endPc, x.handlerPc, x.catchType)) = k_hh K := by
    obtain ⟨m9, meth9, c9, hn9, hm9, hc9, -, -, h9, -⟩ := Cond.codeWith_spec (hts _ List.mem_cons_self)
    cases hn9.symm.trans Bd.named
    cases hm9.symm.trans Bd.method
    have h8 := Bd.here.code
    rw [State.code?_eq, Bd.state] at h8
    have h7 : (s.vm.method? m).bind (fun x => x.code) = some c := h8
    rw [Bd.method] at h7
    cases hc9.symm.trans (show meth.code = some c from h7)
    exact h9
  have hx : g_GX (p, l, e, s, m, vals.toArray, below, meth, c, B, h) K := by
    refine ⟨Bd.exec, Bd.bytes, hml, by rw [← hcls]; exact findClass_of_methodNamed Bd.named, fun w hw => hts w (List.mem_cons_of_mem _ hw), Bd.notSynchronized, Bd.returns, hK, hl, hnm2.trans hnm, ht, hA.2.2.1, fun q hq => ?_, fun q hq => Or.inr (by rw [← hA.1]; exact hq)⟩
    rcases hq with ⟨c9, e9⟩ | hq
    · exact hA.2.2.2.2.1 q c9 e9
    · have h2 := hA.2.1
      rw [hA.1] at h2
      exact Nat.le_trans h2 hq
  have hl9 := lv_entry vals hv
  rw [hL] at hl9
  have w := (g (p, l, e, s, m, vals.toArray, below, meth, c, B, h)).2 hx g_Le.rf s.heap [] _ hA va_S.rf hl9
  rw [Nat.sub_self, Nat.sub_self] at w
  unfold g_Q at w
  rw [hm] at w
  rw [lg_entry_eq]
  exact w
abbrev g_RunR (X : g_X) (K : g_M) (he : g_AH) (h : g_AH) (H : Heap) (locs : List Loc) (g : JFrame) (rest : List Value) (av : Array Value) (r1 : g_RV) (h1 : g_AH) : Prop :=
  vx_Run (x_p X) (x_l X) (x_e X) (g_R K (x_h X) he) (x_st X) (x_m X) (x_args X) (x_bel X) (x_me X) (x_co X) H locs (g_c h - g_c (x_h X)) (g_s h - g_s (x_h X)) (g_c h1 - g_c h) (g_s h1 - g_s h) g rest (g_Qm 1 (x_B X) r1 h h1 av) (g_XC (x_B X) r1 h h1) (g_A h)
/-- behind a call of a method with handlers -/
theorem g_afterR {rv : Option Value} {av : Array Value} (len : pc + 3 = pc') (hle1 : g_Le h h1) (k : ∀ n, g_n h1 ≤ n → G X K r he (g_ren h1 n) pc' Lc (rv.toList ++ rest))
    (f : g_GX X K → g_c h1 ≤ g_c he → g_s h1 ≤ g_s he → g_Le (x_h X) h → ∀ (H : Heap) (locs : List Loc) (ls : Array Slot), g_Abs (x_B X) (g_A (x_h X)) H h → lv_has ls (k_nL K) Lc → g_RunR X K he h H locs (F0 (x_m X) pc ls st) rest av (.inl rv) h1) : G X K r he h pc Lc st := by
  subst len
  have k0 := (k (g_n h1) (Nat.le_refl _)).1
  refine ⟨hle1.trf k0, fun hx hle H locs ls hA hS hl => ?_⟩
  have hr := f hx k0.2.1 k0.2.2.1 hle H locs ls hA hl
  intro T hT Y
  rcases hr T hT Y with ⟨v, st₀, t, T', L, h0, X', hL, e1, e2, ⟨v', hv1, hv2, ⟨n, hn, hA1⟩, hF⟩, sg⟩ | ⟨q, st₀, t, T', L, E, ce, h0, X', hL, e1, e2, ⟨qo, hq, -⟩, -⟩
  · cases hv1
    cases hv2
    have hleR : g_Le h1 (g_ren h1 n) := ⟨hn, Nat.le_refl _, Nat.le_refl _, rfl, fun q c e => Or.inl ⟨c, e⟩⟩
    have w := (k n hn).2 hx ((hle.tr hle1).tr hleR) T'.heap (locs ++ L) ls (by rw [e1]; exact hA1.weak (g_A_sub hle)) (g_keepS h0 e1 hS (g_A_sub hle) hL hF) hl
    obtain ⟨-, a1, a2, -⟩ := hle
    obtain ⟨-, b1, b2, -⟩ := hle1
    have ec : g_c (g_ren h1 n) = g_c h1 := rfl
    have es : g_s (g_ren h1 n) = g_s h1 := rfl
    rw [ec, es] at w
    obtain ⟨t2, c1, c2⟩ := (W.widen (by omega) (by omega) w) T' rfl X'
    exact ⟨t2, sg t2 c1, c2⟩
  · cases hq
theorem g_callSW (n : Nat) {rv : Option Value} (hM : g_CTR (x_l X) (x_B X) y Ky As h (.inl rv) h1) (d : decode (k_cc K) pc = .ok (.invokestatic i, 3)) (q1 : Jvm.Cond.methodLink (k_own K) i y ∈ lw_all) (q2 : Jvm.Cond.static y ∈ lw_all) (q3 : Jvm.Cond.initialized y.cls ∈ lw_all) (q4 : Jvm.Cond.codeWith y (k_cc Ky) (k_nL Ky) (k_ret Ky) (k_hh Ky) ∈ lw_all) (hd : g_dsc y n) (hn : As.length = n) (hv : g_lev Ky K) (hst : (rest.map fun v => v.category).sum ≤ 8) (p : pc + 3 = pc') (k : ∀ n, g_n h1 ≤ n → G X K r he (g_ren h1 n) pc' Lc (rv.toList ++ rest)) : G X K r he h pc Lc (As.reverse ++ rest) :=
  g_afterR p (hM.1 X) k fun hx c1 c2 hle H locs ls hA hl =>
    vx_runSX (hh := k_hh Ky) (g_fit hx) (hM.2 hx.2.2.2.2.2.2.2.2.1) (vx_cwSW n hx.2.2.2.2.1 (lw_SW q1 q2 q3 q4) rfl rfl rfl hd (g_levR hv)) ⟨g_blind, g_pre hx hA As⟩ rfl hn hl.1 rfl (lv_room hst) d (g_room hle (hM.1 X) c1 c2)
theorem g_callVW (n : Nat) {rv : Option Value} {b ci : Nat} {fs : List Value} {q : vw_C} (hM : g_CTR (x_l X) (x_B X) y Ky (.ref b :: As) h (.inl rv) h1) (d : decode (k_cc K) pc = .ok (.invokevirtual i, 3)) (hc : g_look h b = some (.inr (ci, fs))) (hq : gCL[ci]? = some q) (hy : y.cls = q.1) (q1 : Jvm.Cond.methodLink (k_own K) i y ∈ lw_all) (q2 : Jvm.Cond.instanceMethod y ∈ lw_all) (q3 : Jvm.Cond.selects q.1 y y ∈ lw_all) (q4 : Jvm.Cond.initialized q.1 ∈ lw_all) (q5 : Jvm.Cond.codeWith y (k_cc Ky) (k_nL Ky) (k_ret Ky) (k_hh Ky) ∈ lw_all) (hd : g_dsc y n) (hn : As.length = n) (hv : g_lev Ky K) (hst : (rest.map fun v => v.category).sum ≤ 8) (p : pc + 3 = pc') (k : ∀ n, g_n h1 ≤ n → G X K r he (g_ren h1 n) pc' Lc (rv.toList ++ rest)) : G X K r he h pc Lc (As.reverse ++ .ref b :: rest) :=
  g_afterR p (hM.1 X) k fun hx c1 c2 hle H locs ls hA hl =>
    vx_runVX (hh := k_hh Ky) (g_fit hx) (hM.2 hx.2.2.2.2.2.2.2.2.1) (vx_cwVW n hx.2.2.2.2.1 (lw_VW q1 q2 q3 q4 q5) rfl rfl rfl ⟨hy, hd⟩ (g_levR hv)) ⟨g_blind, g_recv hx hA hc hq, g_pre hx hA (.ref b :: As)⟩ rfl hn hl.1 rfl (lv_room hst) d (g_room hle (hM.1 X) c1 c2)
/-- a callee throws, and a handler here catches: the rows of the table before it name other classes -/
theorem g_afterH {E nm : String} {qo : Option Nat} {av : Array Value} {pre suf : List (Nat × Nat × Nat × Nat)} {x : Nat × Nat × Nat × Nat} (hle1 : g_Le h h1) (hm : k_mo K ≠ 0) (hsp : k_hh K = pre ++ x :: suf)
    (hpass : ∀ z ∈ pre, z.2.2.2 ≠ 0 ∧ ∃ n2 : String, Jvm.Cond.classLink (k_own K) z.2.2.2 n2 ∈ lw_all ∧ (E, n2) ∈ g_ncs) (hcov : x.1 ≤ pc ∧ pc < x.2.1) (h0 : x.2.2.2 ≠ 0) (hlink : Jvm.Cond.classLink (k_own K) x.2.2.2 nm ∈ lw_all) (hcast : Jvm.Cond.castable E nm ∈ lw_tbl) (hp : x.2.2.1 = pc')
    (f : g_GX X K → g_c h1 ≤ g_c he → g_s h1 ≤ g_s he → g_Le (x_h X) h → ∀ (H : Heap) (locs : List Loc) (ls : Array Slot), g_Abs (x_B X) (g_A (x_h X)) H h → lv_has ls (k_nL K) Lc → g_Run X K he h H locs (F0 (x_m X) pc ls st) rest av (.inr (E, qo)) h1)
    (k : ∀ n q, g_n h1 ≤ n → (∀ a, qo = some a → q = a) → G X K r he (g_ren h1 n) pc' Lc [.ref q]) : G X K r he h pc Lc st := by
  have k0 := (k (g_n h1) (qo.getD 0) (Nat.le_refl _) (fun a e => by rw [e]; rfl)).1
  refine ⟨hle1.trf k0, fun hx hle H locs ls hA hS hl => ?_⟩
  have hr := f hx k0.2.1 k0.2.2.1 hle H locs ls hA hl
  intro T hT Y
  rcases hr T hT Y with ⟨v, st₀, t, T', L, h0, X', hL, e1, e2, ⟨v', hv1, -⟩, -⟩ | ⟨q, st₀, t, T', L, E', ce, h0', X', hL, e1, e2, ⟨qo', hq, hq2, hA1, hn1, hF⟩, hce, hcv, hcl, sg⟩
  · cases hv1
  · cases hq
    have hK := hx.2.2.2.2.2.2.2.1
    have htab := hx.2.2.2.2.2.2.2.2.2.2.1
    rw [hsp] at htab
    obtain ⟨pre', l2, hl2, hpre, h3⟩ := List.map_eq_append_iff.mp htab
    obtain ⟨x', suf', hl3, hxx, hsuf⟩ := List.map_eq_cons_iff.mp h3
    subst hl3
    have hleR : g_Le h1 (g_ren h1 t.heap.size) := ⟨hn1, Nat.le_refl _, Nat.le_refl _, rfl, fun q c e => Or.inl ⟨c, e⟩⟩
    have hS1 := g_keepS h0' e1 hS (g_A_sub hle) hL hF
    have w := (k t.heap.size q hn1 hq2).2 hx ((hle.tr hle1).tr hleR) T'.heap (locs ++ L) ls (by rw [e1]; exact hA1.weak (g_A_sub hle)) hS1 hl
    obtain ⟨-, a1, a2, -⟩ := hle
    obtain ⟨-, b1, b2, -⟩ := hle1
    have ec : g_c (g_ren h1 t.heap.size) = g_c h1 := rfl
    have es : g_s (g_ren h1 t.heap.size) = g_s h1 := rfl
    rw [ec, es, ← hp, ← show x'.handlerPc = x.2.2.1 by rw [← hxx]] at w
    have hw := vx_catch (p := x_p X) (l := x_l X) (e := x_e X) (R := g_R K (x_h X) he) (s := x_st X) (m := x_m X) (args := x_args X) (below := x_bel X) (meth := x_me X) (c := x_co X) (H := T'.heap) (locs := locs ++ L) (cells := g_c h - g_c (x_h X) + (g_c h1 - g_c h)) (slots := g_s h - g_s (x_h X) + (g_s h1 - g_s h)) (pc := pc) (ls := ls) (rest := rest) (own := k_own K) (name := nm) (E := E) (ce := ce) (q := q) hx.2.2.2.1 pre' x' suf' hl2
      (fun z hz => by
        obtain ⟨z1, n2, z2, z3⟩ := hpass _ (by rw [← hpre]; exact List.mem_map_of_mem hz)
        exact Or.inr ⟨z1, n2, hx.2.2.2.2.1 _ z2, hK.2.2.2.2.2.2.2.2.2.2.2.1.2 _ z3⟩)
      (by
        have q1 : x'.startPc = x.1 := by rw [← hxx]
        have q2 : x'.endPc = x.2.1 := by rw [← hxx]
        simp only [covers, q1, q2, Bool.and_eq_true, decide_eq_true_eq]
        exact hcov)
      (by rw [show x'.catchType = x.2.2.2 by rw [← hxx]]; exact h0) (by rw [show x'.catchType = x.2.2.2 by rw [← hxx]]; exact hx.2.2.2.2.1 _ hlink) ((hK.2.1 _ (g_nw_in hcast rfl)).use rfl) (by rw [e1]; exact hce) hcv hcl (W.widen (by omega) (by omega) w)
    obtain ⟨t2, c1, c2⟩ := hw T' rfl X'
    exact ⟨t2, sg.trans c1, c2⟩
theorem g_callVH (n : Nat) {E nm : String} {qo : Option Nat} {b ci : Nat} {fs : List Value} {q : vw_C} {pre suf : List (Nat × Nat × Nat × Nat)} {x : Nat × Nat × Nat × Nat} (hM : g_CT (x_l X) (x_B X) y Ky (.ref b :: As) h (.inr (E, qo)) h1) (d : decode (k_cc K) pc = .ok (.invokevirtual i, 3)) (hc : g_look h b = some (.inr (ci, fs))) (hq : gCL[ci]? = some q) (hy : y.cls = q.1) (q1 : Jvm.Cond.methodLink (k_own K) i y ∈ lw_all) (q2 : Jvm.Cond.instanceMethod y ∈ lw_all) (q3 : Jvm.Cond.selects q.1 y y ∈ lw_all) (q4 : Jvm.Cond.initialized q.1 ∈ lw_all) (q5 : Jvm.Cond.code y (k_cc Ky) (k_nL Ky) (k_ret Ky) ∈ lw_all) (hd : g_dsc y n) (hn : As.length = n) (hv : g_lev Ky K) (hst : (rest.map fun v => v.category).sum ≤ 8)
    (hm : k_mo K ≠ 0) (hsp : k_hh K = pre ++ x :: suf) (hpass : ∀ z ∈ pre, z.2.2.2 ≠ 0 ∧ ∃ n2 : String, Jvm.Cond.classLink (k_own K) z.2.2.2 n2 ∈ lw_all ∧ (E, n2) ∈ g_ncs) (hcov : x.1 ≤ pc ∧ pc < x.2.1) (h0 : x.2.2.2 ≠ 0) (hlink : Jvm.Cond.classLink (k_own K) x.2.2.2 nm ∈ lw_all) (hcast : Jvm.Cond.castable E nm ∈ lw_tbl) (hp : x.2.2.1 = pc')
    (k : ∀ n q, g_n h1 ≤ n → (∀ a, qo = some a → q = a) → G X K r he (g_ren h1 n) pc' Lc [.ref q]) : G X K r he h pc Lc (As.reverse ++ .ref b :: rest) :=
  g_afterH (hM.1 X) hm hsp hpass hcov h0 hlink hcast hp (fun hx c1 c2 hle H locs ls hA hl => gr_V n hM d hc hq hy q1 q2 q3 q4 q5 hd hn hv hst hx c1 c2 hle H locs ls hA hl) k
end GHAND
