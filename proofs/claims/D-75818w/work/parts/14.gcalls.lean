/-! G: the calls, by kind; each once for an answer (r1 = .inl), once for a throw (r1 = .inr) -/
section GCALLS
variable {X : g_X} {K : g_M} {r : g_RV} {he h : g_AH} {pc pc' : Nat} {Lc : List (Nat × Value)} {rest : List Value}
variable {y : MethodName} {Ky : g_M} {As : List Value} {r1 : g_RV} {h1 : g_AH} {i : Nat}
theorem g_blind {B : g_B} {vals : List Value} : FrameBlind (g_Pc B vals h) := fun a U g mk q => ⟨q.1, g_K_same (s := U) (U := U.calling g mk a) rfl q.2.1, q.2.2⟩
theorem g_pre (hx : g_GX X K) {A : Nat → Prop} {H : Heap} (hA : g_Abs (x_B X) A H h) (vals : List Value) : ∀ U : State, U.heap = H → (x_st X).WarmedH U.vm → g_Pc (x_B X) vals h vals.toArray U :=
  fun U hU hW => ⟨rfl, g_K_warm hW hx.2.2.2.2.2.2.2.1, by rw [hU]; exact hA.self⟩
theorem g_fit (hx : g_GX X K) : CallFix (x_p X) (x_m X) (x_co X) (k_cc K) (k_nL K) (x_st X) (x_args X) lw_all (k_own K) := ⟨hx.1, hx.2.1, hx.2.2.1, hx.2.2.2.1, hx.2.2.2.2.1⟩
theorem g_room (hle : g_Le (x_h X) h) (hle1 : g_Le h h1) (c1 : g_c h1 ≤ g_c he) (c2 : g_s h1 ≤ g_s he) : g_c h - g_c (x_h X) + (g_c h1 - g_c h) ≤ (g_R K (x_h X) he).cells ∧ g_s h - g_s (x_h X) + (g_s h1 - g_s h) ≤ (g_R K (x_h X) he).slots := by
  obtain ⟨-, a1, a2, -⟩ := hle
  obtain ⟨-, b1, b2, -⟩ := hle1
  constructor
  · show _ ≤ g_c he - g_c (x_h X); omega
  · show _ ≤ g_s he - g_s (x_h X); omega
/-- the callee's level and locals -/
def g_lev (Ky K : g_M) : Prop := k_lev Ky + 1 ≤ k_lev K ∧ k_nL Ky ≤ 40
theorem g_levR (hv : g_lev Ky K) : (g_R Ky h h1).frames + 1 ≤ (g_R K (x_h X) he).frames ∧ 8 + (k_nL Ky + 11) + (g_R Ky h h1).locals ≤ (g_R K (x_h X) he).locals := by
  obtain ⟨a, b⟩ := hv
  refine ⟨a, ?_⟩
  show 8 + (k_nL Ky + 11) + 64 * k_lev Ky ≤ 64 * k_lev K
  omega
theorem g_recv (hx : g_GX X K) {A : Nat → Prop} {H : Heap} (hA : g_Abs (x_B X) A H h) {b ci : Nat} {fs : List Value} {q : vw_C} (hc : g_look h b = some (.inr (ci, fs))) (hq : gCL[ci]? = some q) : ∃ cell : Cell, H[b]? = some cell ∧ cell.vm.isStatics = false ∧ (x_st X).vm.findClass q.1 = some cell.cls :=
  va_recv (q0 := 0) hx.2.2.2.2.2.2.2.1.1 (hA.at hc) hq rfl
def g_dsc (y : MethodName) (n : Nat) : Prop := y.cls ≠ "java/lang/invoke/MethodHandle" ∧ y.cls ≠ "java/lang/invoke/VarHandle" ∧ (parseMethodDescriptor y.desc).map (fun d => d.parameters.length) = some n
theorem gr_S (n : Nat) (hM : g_CT (x_l X) (x_B X) y Ky As h r1 h1) (d : decode (k_cc K) pc = .ok (.invokestatic i, 3)) (q1 : Jvm.Cond.methodLink (k_own K) i y ∈ lw_all) (q2 : Jvm.Cond.static y ∈ lw_all) (q3 : Jvm.Cond.initialized y.cls ∈ lw_all) (q4 : Jvm.Cond.code y (k_cc Ky) (k_nL Ky) (k_ret Ky) ∈ lw_all) (hd : g_dsc y n) (hn : As.length = n) (hv : g_lev Ky K) (hst : (rest.map fun v => v.category).sum ≤ 8)
    (hx : g_GX X K) (c1 : g_c h1 ≤ g_c he) (c2 : g_s h1 ≤ g_s he) (hle : g_Le (x_h X) h) (H : Heap) (locs : List Loc) (ls : Array Slot) (hA : g_Abs (x_B X) (g_A (x_h X)) H h) (hl : lv_has ls (k_nL K) Lc) : g_Run X K he h H locs (F0 (x_m X) pc ls (As.reverse ++ rest)) rest As.toArray r1 h1 :=
  vx_runS (g_fit hx) (hM.2 hx.2.2.2.2.2.2.2.2.1) (va_cwS n hx.2.2.2.2.1 (lw_S q1 q2 q3 q4) rfl rfl rfl hd (g_levR hv)) ⟨g_blind, g_pre hx hA As⟩ rfl hn hl.1 rfl (lv_room hst) d (g_room hle (hM.1 X) c1 c2)
theorem g_callS (n : Nat) {rv : Option Value} (hM : g_CT (x_l X) (x_B X) y Ky As h (.inl rv) h1) (d : decode (k_cc K) pc = .ok (.invokestatic i, 3)) (q1 : Jvm.Cond.methodLink (k_own K) i y ∈ lw_all) (q2 : Jvm.Cond.static y ∈ lw_all) (q3 : Jvm.Cond.initialized y.cls ∈ lw_all) (q4 : Jvm.Cond.code y (k_cc Ky) (k_nL Ky) (k_ret Ky) ∈ lw_all) (hd : g_dsc y n) (hn : As.length = n) (hv : g_lev Ky K) (hst : (rest.map fun v => v.category).sum ≤ 8) (p : pc + 3 = pc') (k : G X K r he h1 pc' Lc (rv.toList ++ rest)) : G X K r he h pc Lc (As.reverse ++ rest) :=
  g_after p (hM.1 X) k fun hx c1 c2 hle H locs ls hA hl => gr_S n hM d q1 q2 q3 q4 hd hn hv hst hx c1 c2 hle H locs ls hA hl
theorem g_callSX (n : Nat) {E : String} {qo : Option Nat} (hM : g_CT (x_l X) (x_B X) y Ky As h (.inr (E, qo)) h1) (d : decode (k_cc K) pc = .ok (.invokestatic i, 3)) (q1 : Jvm.Cond.methodLink (k_own K) i y ∈ lw_all) (q2 : Jvm.Cond.static y ∈ lw_all) (q3 : Jvm.Cond.initialized y.cls ∈ lw_all) (q4 : Jvm.Cond.code y (k_cc Ky) (k_nL Ky) (k_ret Ky) ∈ lw_all) (hd : g_dsc y n) (hn : As.length = n) (hv : g_lev Ky K) (hst : (rest.map fun v => v.category).sum ≤ 8) (er : r = .inr (E, qo)) (eh : he = h1) (hh : k_hh K = [] := by rfl) : G X K r he h pc Lc (As.reverse ++ rest) :=
  g_afterX (hM.1 X) er eh (fun hx c1 c2 hle H locs ls hA hl => gr_S n hM d q1 q2 q3 q4 hd hn hv hst hx c1 c2 hle H locs ls hA hl) hh
theorem gr_V (n : Nat) {b ci : Nat} {fs : List Value} {q : vw_C} (hM : g_CT (x_l X) (x_B X) y Ky (.ref b :: As) h r1 h1) (d : decode (k_cc K) pc = .ok (.invokevirtual i, 3)) (hc : g_look h b = some (.inr (ci, fs))) (hq : gCL[ci]? = some q) (hy : y.cls = q.1) (q1 : Jvm.Cond.methodLink (k_own K) i y ∈ lw_all) (q2 : Jvm.Cond.instanceMethod y ∈ lw_all) (q3 : Jvm.Cond.selects q.1 y y ∈ lw_all) (q4 : Jvm.Cond.initialized q.1 ∈ lw_all) (q5 : Jvm.Cond.code y (k_cc Ky) (k_nL Ky) (k_ret Ky) ∈ lw_all) (hd : g_dsc y n) (hn : As.length = n) (hv : g_lev Ky K) (hst : (rest.map fun v => v.category).sum ≤ 8)
    (hx : g_GX X K) (c1 : g_c h1 ≤ g_c he) (c2 : g_s h1 ≤ g_s he) (hle : g_Le (x_h X) h) (H : Heap) (locs : List Loc) (ls : Array Slot) (hA : g_Abs (x_B X) (g_A (x_h X)) H h) (hl : lv_has ls (k_nL K) Lc) : g_Run X K he h H locs (F0 (x_m X) pc ls (As.reverse ++ .ref b :: rest)) rest (Value.ref b :: As).toArray r1 h1 :=
  vx_runV (g_fit hx) (hM.2 hx.2.2.2.2.2.2.2.2.1) (cwV n hx.2.2.2.2.1 (lw_V q1 q2 q3 q4 q5) rfl rfl rfl ⟨hy, hd⟩ (g_levR hv)) ⟨g_blind, g_recv hx hA hc hq, g_pre hx hA (.ref b :: As)⟩ rfl hn hl.1 rfl (lv_room hst) d (g_room hle (hM.1 X) c1 c2)
theorem g_callV (n : Nat) {rv : Option Value} {b ci : Nat} {fs : List Value} {q : vw_C} (hM : g_CT (x_l X) (x_B X) y Ky (.ref b :: As) h (.inl rv) h1) (d : decode (k_cc K) pc = .ok (.invokevirtual i, 3)) (hc : g_look h b = some (.inr (ci, fs))) (hq : gCL[ci]? = some q) (hy : y.cls = q.1) (q1 : Jvm.Cond.methodLink (k_own K) i y ∈ lw_all) (q2 : Jvm.Cond.instanceMethod y ∈ lw_all) (q3 : Jvm.Cond.selects q.1 y y ∈ lw_all) (q4 : Jvm.Cond.initialized q.1 ∈ lw_all) (q5 : Jvm.Cond.code y (k_cc Ky) (k_nL Ky) (k_ret Ky) ∈ lw_all) (hd : g_dsc y n) (hn : As.length = n) (hv : g_lev Ky K) (hst : (rest.map fun v => v.category).sum ≤ 8) (p : pc + 3 = pc') (k : G X K r he h1 pc' Lc (rv.toList ++ rest)) : G X K r he h pc Lc (As.reverse ++ .ref b :: rest) :=
  g_after p (hM.1 X) k fun hx c1 c2 hle H locs ls hA hl => gr_V n hM d hc hq hy q1 q2 q3 q4 q5 hd hn hv hst hx c1 c2 hle H locs ls hA hl
theorem g_callVX (n : Nat) {E : String} {qo : Option Nat} {b ci : Nat} {fs : List Value} {q : vw_C} (hM : g_CT (x_l X) (x_B X) y Ky (.ref b :: As) h (.inr (E, qo)) h1) (d : decode (k_cc K) pc = .ok (.invokevirtual i, 3)) (hc : g_look h b = some (.inr (ci, fs))) (hq : gCL[ci]? = some q) (hy : y.cls = q.1) (q1 : Jvm.Cond.methodLink (k_own K) i y ∈ lw_all) (q2 : Jvm.Cond.instanceMethod y ∈ lw_all) (q3 : Jvm.Cond.selects q.1 y y ∈ lw_all) (q4 : Jvm.Cond.initialized q.1 ∈ lw_all) (q5 : Jvm.Cond.code y (k_cc Ky) (k_nL Ky) (k_ret Ky) ∈ lw_all) (hd : g_dsc y n) (hn : As.length = n) (hv : g_lev Ky K) (hst : (rest.map fun v => v.category).sum ≤ 8) (er : r = .inr (E, qo)) (eh : he = h1) (hh : k_hh K = [] := by rfl) : G X K r he h pc Lc (As.reverse ++ .ref b :: rest) :=
  g_afterX (hM.1 X) er eh (fun hx c1 c2 hle H locs ls hA hl => gr_V n hM d hc hq hy q1 q2 q3 q4 q5 hd hn hv hst hx c1 c2 hle H locs ls hA hl) hh
/-- an inherited method: x is named, y runs (y of the class that declares it), the receiver's class is C -/
theorem gr_U (n : Nat) {x : MethodName} {b ci : Nat} {fs : List Value} {q : vw_C} (hM : g_CT (x_l X) (x_B X) y Ky (.ref b :: As) h r1 h1) (d : decode (k_cc K) pc = .ok (.invokevirtual i, 3)) (hc : g_look h b = some (.inr (ci, fs))) (hq : gCL[ci]? = some q) (hyx : y = ⟨y.cls, x.name, x.desc⟩) (hU : ∀ w ∈ va_wsU (k_own K) i q.1 y.cls x y (ws_ y (k_cc Ky) (k_nL Ky) (k_ret Ky)), w ∈ lw_all) (hd : y.cls ≠ "java/lang/invoke/MethodHandle" ∧ y.cls ≠ "java/lang/invoke/VarHandle" ∧ (parseMethodDescriptor x.desc).map (fun d => d.parameters.length) = some n) (hn : As.length = n) (hv : g_lev Ky K) (hst : (rest.map fun v => v.category).sum ≤ 8)
    (hx : g_GX X K) (c1 : g_c h1 ≤ g_c he) (c2 : g_s h1 ≤ g_s he) (hle : g_Le (x_h X) h) (H : Heap) (locs : List Loc) (ls : Array Slot) (hA : g_Abs (x_B X) (g_A (x_h X)) H h) (hl : lv_has ls (k_nL K) Lc) : g_Run X K he h H locs (F0 (x_m X) pc ls (As.reverse ++ .ref b :: rest)) rest (Value.ref b :: As).toArray r1 h1 :=
  vx_runU (g_fit hx) (hM.2 hx.2.2.2.2.2.2.2.2.1) (va_cwU n hx.2.2.2.2.1 (lw_good hU) rfl rfl rfl hyx hd (g_levR hv)) ⟨g_blind, g_recv hx hA hc hq, g_pre hx hA (.ref b :: As)⟩ rfl hn hl.1 rfl (lv_room hst) d (g_room hle (hM.1 X) c1 c2)
theorem g_callU (n : Nat) {rv : Option Value} {x : MethodName} {b ci : Nat} {fs : List Value} {q : vw_C} (hM : g_CT (x_l X) (x_B X) y Ky (.ref b :: As) h (.inl rv) h1) (d : decode (k_cc K) pc = .ok (.invokevirtual i, 3)) (hc : g_look h b = some (.inr (ci, fs))) (hq : gCL[ci]? = some q) (hyx : y = ⟨y.cls, x.name, x.desc⟩) (hU : ∀ w ∈ va_wsU (k_own K) i q.1 y.cls x y (ws_ y (k_cc Ky) (k_nL Ky) (k_ret Ky)), w ∈ lw_all) (hd : y.cls ≠ "java/lang/invoke/MethodHandle" ∧ y.cls ≠ "java/lang/invoke/VarHandle" ∧ (parseMethodDescriptor x.desc).map (fun d => d.parameters.length) = some n) (hn : As.length = n) (hv : g_lev Ky K) (hst : (rest.map fun v => v.category).sum ≤ 8) (p : pc + 3 = pc') (k : G X K r he h1 pc' Lc (rv.toList ++ rest)) : G X K r he h pc Lc (As.reverse ++ .ref b :: rest) :=
  g_after p (hM.1 X) k fun hx c1 c2 hle H locs ls hA hl => gr_U n hM d hc hq hyx hU hd hn hv hst hx c1 c2 hle H locs ls hA hl
/-- a superclass's method by invokespecial -/
theorem g_callSU (n : Nat) {rv : Option Value} {b ci : Nat} {fs : List Value} {q : vw_C} (hM : g_CT (x_l X) (x_B X) y Ky (.ref b :: As) h (.inl rv) h1) (d : decode (k_cc K) pc = .ok (.invokespecial i, 3)) (hc : g_look h b = some (.inr (ci, fs))) (hq : gCL[ci]? = some q) (hU : ∀ w ∈ va_wsSU (k_own K) i y (ws_ y (k_cc Ky) (k_nL Ky) (k_ret Ky)), w ∈ lw_all) (hd : y.name ≠ "<init>" ∧ (parseMethodDescriptor y.desc).map (fun d => d.parameters.length) = some n) (hn : As.length = n) (hv : g_lev Ky K) (hst : (rest.map fun v => v.category).sum ≤ 8) (p : pc + 3 = pc') (k : G X K r he h1 pc' Lc (rv.toList ++ rest)) : G X K r he h pc Lc (As.reverse ++ .ref b :: rest) :=
  g_after p (hM.1 X) k fun hx c1 c2 hle H locs ls hA hl =>
    vx_runSU (hx.2.2.2.2.2.2.2.1.1.1 ci q hq).2 (g_fit hx) (hM.2 hx.2.2.2.2.2.2.2.2.1) (va_cwSU n hx.2.2.2.2.1 (lw_good hU) rfl rfl rfl hd (g_levR hv)) ⟨g_blind, g_recv hx hA hc hq, g_pre hx hA (.ref b :: As)⟩ rfl hn hl.1 rfl (lv_room hst) d (g_room hle (hM.1 X) c1 c2)
/-- a constructor -/
theorem g_callI (n : Nat) {b : Nat} (hM : g_CT (x_l X) (x_B X) y Ky (.ref b :: As) h (.inl none) h1) (d : decode (k_cc K) pc = .ok (.invokespecial i, 3)) (hy : y.name = "<init>") (hr : k_ret Ky = none) (q1 : Jvm.Cond.methodLink (k_own K) i y ∈ lw_all) (q2 : Jvm.Cond.instanceMethod y ∈ lw_all) (q4 : Jvm.Cond.initialized y.cls ∈ lw_all) (q5 : Jvm.Cond.code y (k_cc Ky) (k_nL Ky) (k_ret Ky) ∈ lw_all) (hd : g_dsc y n) (hn : As.length = n) (hv : g_lev Ky K) (hst : (rest.map fun v => v.category).sum ≤ 8) (p : pc + 3 = pc') (k : G X K r he h1 pc' Lc rest) : G X K r he h pc Lc (As.reverse ++ .ref b :: rest) := by
  obtain ⟨c, nL, own, lev, ret, nm⟩ := Ky
  have hr : ret = none := hr
  subst hr
  exact g_after (rv := none) p (hM.1 X) k fun hx c1 c2 hle H locs ls hA hl =>
    vx_runI (g_fit hx) (hM.2 hx.2.2.2.2.2.2.2.2.1) (cwI n hx.2.2.2.2.1 (lw_meth q5) rfl rfl rfl (hx.2.2.2.2.1 _ q4) (hx.2.2.2.2.1 _ q1) (hx.2.2.2.2.1 _ q2) hy hd (g_levR hv)) ⟨g_blind, g_pre hx hA (.ref b :: As)⟩ rfl hn hl.1 rfl (lv_room hst) d (g_room hle (hM.1 X) c1 c2)
/-- private members of a nest mate -/
theorem g_callIN (n : Nat) {host : String} {b : Nat} (hM : g_CT (x_l X) (x_B X) y Ky (.ref b :: As) h (.inl none) h1) (d : decode (k_cc K) pc = .ok (.invokespecial i, 3)) (hy : y.name = "<init>") (hr : k_ret Ky = none) (q1 : Jvm.Cond.methodLinkNest (k_own K) i y host ∈ lw_tbl) (q2 : Jvm.Cond.instanceMethod y ∈ lw_all) (q4 : Jvm.Cond.initialized y.cls ∈ lw_all) (q5 : Jvm.Cond.code y (k_cc Ky) (k_nL Ky) (k_ret Ky) ∈ lw_all) (hd : g_dsc y n) (hn : As.length = n) (hv : g_lev Ky K) (hst : (rest.map fun v => v.category).sum ≤ 8) (p : pc + 3 = pc') (k : G X K r he h1 pc' Lc rest) : G X K r he h pc Lc (As.reverse ++ .ref b :: rest) := by
  obtain ⟨c, nL, own, lev, ret, nm⟩ := Ky
  have hr : ret = none := hr
  subst hr
  exact g_after (rv := none) p (hM.1 X) k fun hx c1 c2 hle H locs ls hA hl =>
    vx_runIN (g_fit hx) (hM.2 hx.2.2.2.2.2.2.2.2.1) ⟨va_cnB n hx.2.2.2.2.1 (lw_meth q5) rfl rfl rfl (hx.2.2.2.2.2.2.2.1.2.1 _ (g_nw_in q1 rfl)) (hx.2.2.2.2.1 _ q4) hd (g_levR hv), hy, hx.2.2.2.2.1 _ q2⟩ ⟨g_blind, g_pre hx hA (.ref b :: As)⟩ rfl hn hl.1 rfl (lv_room hst) d (g_room hle (hM.1 X) c1 c2)
theorem g_callSN (n : Nat) {host : String} {rv : Option Value} (hM : g_CT (x_l X) (x_B X) y Ky As h (.inl rv) h1) (d : decode (k_cc K) pc = .ok (.invokestatic i, 3)) (q1 : Jvm.Cond.methodLinkNest (k_own K) i y host ∈ lw_tbl) (q2 : Jvm.Cond.static y ∈ lw_all) (q3 : Jvm.Cond.initialized y.cls ∈ lw_all) (q4 : Jvm.Cond.code y (k_cc Ky) (k_nL Ky) (k_ret Ky) ∈ lw_all) (hd : g_dsc y n) (hn : As.length = n) (hv : g_lev Ky K) (hst : (rest.map fun v => v.category).sum ≤ 8) (p : pc + 3 = pc') (k : G X K r he h1 pc' Lc (rv.toList ++ rest)) : G X K r he h pc Lc (As.reverse ++ rest) :=
  g_after p (hM.1 X) k fun hx c1 c2 hle H locs ls hA hl =>
    vx_runSN (g_fit hx) (hM.2 hx.2.2.2.2.2.2.2.2.1) ⟨va_cnB n hx.2.2.2.2.1 (lw_meth q4) rfl rfl rfl (hx.2.2.2.2.2.2.2.1.2.1 _ (g_nw_in q1 rfl)) (hx.2.2.2.2.1 _ q3) hd (g_levR hv), hx.2.2.2.2.1 _ q2, trivial⟩ ⟨g_blind, g_pre hx hA As⟩ rfl hn hl.1 rfl (lv_room hst) d (g_room hle (hM.1 X) c1 c2)
theorem gr_VN (n : Nat) {host : String} {b ci : Nat} {fs : List Value} {q : vw_C} (hM : g_CT (x_l X) (x_B X) y Ky (.ref b :: As) h r1 h1) (d : decode (k_cc K) pc = .ok (.invokevirtual i, 3)) (hc : g_look h b = some (.inr (ci, fs))) (hq : gCL[ci]? = some q) (q1 : Jvm.Cond.methodLinkNest (k_own K) i y host ∈ lw_tbl) (q2 : Jvm.Cond.instanceMethod y ∈ lw_all) (q3 : Jvm.Cond.selects q.1 y y ∈ lw_all) (q4 : Jvm.Cond.initialized y.cls ∈ lw_all) (q5 : Jvm.Cond.code y (k_cc Ky) (k_nL Ky) (k_ret Ky) ∈ lw_all) (hd : g_dsc y n) (hn : As.length = n) (hv : g_lev Ky K) (hst : (rest.map fun v => v.category).sum ≤ 8)
    (hx : g_GX X K) (c1 : g_c h1 ≤ g_c he) (c2 : g_s h1 ≤ g_s he) (hle : g_Le (x_h X) h) (H : Heap) (locs : List Loc) (ls : Array Slot) (hA : g_Abs (x_B X) (g_A (x_h X)) H h) (hl : lv_has ls (k_nL K) Lc) : g_Run X K he h H locs (F0 (x_m X) pc ls (As.reverse ++ .ref b :: rest)) rest (Value.ref b :: As).toArray r1 h1 :=
  vx_runVN (g_fit hx) (hM.2 hx.2.2.2.2.2.2.2.2.1) ⟨va_cnB n hx.2.2.2.2.1 (lw_meth q5) rfl rfl rfl (hx.2.2.2.2.2.2.2.1.2.1 _ (g_nw_in q1 rfl)) (hx.2.2.2.2.1 _ q4) hd (g_levR hv), hx.2.2.2.2.1 _ q2, hx.2.2.2.2.1 _ q3⟩ ⟨g_blind, g_recv hx hA hc hq, g_pre hx hA (.ref b :: As)⟩ rfl hn hl.1 rfl (lv_room hst) d (g_room hle (hM.1 X) c1 c2)
theorem g_callVN (n : Nat) {host : String} {rv : Option Value} {b ci : Nat} {fs : List Value} {q : vw_C} (hM : g_CT (x_l X) (x_B X) y Ky (.ref b :: As) h (.inl rv) h1) (d : decode (k_cc K) pc = .ok (.invokevirtual i, 3)) (hc : g_look h b = some (.inr (ci, fs))) (hq : gCL[ci]? = some q) (q1 : Jvm.Cond.methodLinkNest (k_own K) i y host ∈ lw_tbl) (q2 : Jvm.Cond.instanceMethod y ∈ lw_all) (q3 : Jvm.Cond.selects q.1 y y ∈ lw_all) (q4 : Jvm.Cond.initialized y.cls ∈ lw_all) (q5 : Jvm.Cond.code y (k_cc Ky) (k_nL Ky) (k_ret Ky) ∈ lw_all) (hd : g_dsc y n) (hn : As.length = n) (hv : g_lev Ky K) (hst : (rest.map fun v => v.category).sum ≤ 8) (p : pc + 3 = pc') (k : G X K r he h1 pc' Lc (rv.toList ++ rest)) : G X K r he h pc Lc (As.reverse ++ .ref b :: rest) :=
  g_after p (hM.1 X) k fun hx c1 c2 hle H locs ls hA hl => gr_VN n hM d hc hq q1 q2 q3 q4 q5 hd hn hv hst hx c1 c2 hle H locs ls hA hl
/-- Object.<init> -/
theorem g_objInit {b : Nat} (d : decode (k_cc K) pc = .ok (.invokespecial i, 3)) (q1 : Jvm.Cond.methodLink (k_own K) i Lib.objectInit ∈ lw_all) (hst : (rest.map fun v => v.category).sum ≤ 8) (hv : 1 ≤ k_lev K) (p : pc + 3 = pc') (k : G X K r he h pc' Lc rest) : G X K r he h pc Lc (.ref b :: rest) := by
  subst p
  refine ⟨k.1, fun hx hle H locs ls hA hS hl => ?_⟩
  exact W.objInit hx.1 hx.2.1 hx.2.2.2.1 (hx.2.2.2.2.1 _ q1) (hx.2.2.2.2.1 _ q154) (hx.2.2.2.2.1 _ q155) rfl (by rw [hx.2.2.1]; exact hl.1) rfl d hv (by show 2 * 0 + _ + 12 ≤ 64 * k_lev K; omega) (k.2 hx hle H locs ls hA hS hl)
end GCALLS
/-! math, casts, text constants, statics, arrays of references, copies, throws -/
section GMISC
variable {X : g_X} {K : g_M} {r : g_RV} {he h : g_AH} {pc pc' : Nat} {Lc : List (Nat × Value)} {rest : List Value} {i : Nat}
theorem g_mmax {x y : Int32} (d : decode (k_cc K) pc = .ok (.invokestatic i, 3)) (q1 : Jvm.Cond.methodLink (k_own K) i Lib.Math.max.name ∈ lw_all) (q2 : Jvm.Cond.static Lib.Math.max.name ∈ lw_all) (q3 : Jvm.Cond.initialized "java/lang/Math" ∈ lw_all) (q4 : Jvm.Cond.code Lib.Math.max.name Lib.Math.max.code 2 (some .int) ∈ lw_all) (hst : (rest.map fun v => v.category).sum ≤ 8) (hv : 1 ≤ k_lev K) (p : pc + 3 = pc') (k : G X K r he h pc' Lc (.int (if x < y then y else x) :: rest)) : G X K r he h pc Lc (.int y :: .int x :: rest) := by
  subst p
  refine ⟨k.1, fun hx hle H locs ls hA hS hl => ?_⟩
  exact va_mmax hx.1 hx.2.1 (by rw [hx.2.2.1]; exact hl.1.symm) hx.2.2.2.1 (hx.2.2.2.2.1 _ q1) (hx.2.2.2.2.1 _ q2) (hx.2.2.2.2.1 _ q3) (hx.2.2.2.2.1 _ q4) hv (by show _ + 13 ≤ 64 * k_lev K; omega) (by have := k.1.2.1; show _ ≤ g_c he - _; omega) (by have := k.1.2.2.1; show _ ≤ g_s he - _; omega) d (k.2 hx hle H locs ls hA hS hl)
theorem g_mmin {x y : Int32} (d : decode (k_cc K) pc = .ok (.invokestatic i, 3)) (q1 : Jvm.Cond.methodLink (k_own K) i Lib.Math.min.name ∈ lw_all) (q2 : Jvm.Cond.static Lib.Math.min.name ∈ lw_all) (q3 : Jvm.Cond.initialized "java/lang/Math" ∈ lw_all) (q4 : Jvm.Cond.code Lib.Math.min.name Lib.Math.min.code 2 (some .int) ∈ lw_all) (hst : (rest.map fun v => v.category).sum ≤ 8) (hv : 1 ≤ k_lev K) (p : pc + 3 = pc') (k : G X K r he h pc' Lc (.int (if y < x then y else x) :: rest)) : G X K r he h pc Lc (.int y :: .int x :: rest) := by
  subst p
  refine ⟨k.1, fun hx hle H locs ls hA hS hl => ?_⟩
  exact va_mmin hx.1 hx.2.1 (by rw [hx.2.2.1]; exact hl.1.symm) hx.2.2.2.1 (hx.2.2.2.2.1 _ q1) (hx.2.2.2.2.1 _ q2) (hx.2.2.2.2.1 _ q3) (hx.2.2.2.2.1 _ q4) hv (by show _ + 13 ≤ 64 * k_lev K; omega) (by have := k.1.2.1; show _ ≤ g_c he - _; omega) (by have := k.1.2.2.1; show _ ≤ g_s he - _; omega) d (k.2 hx hle H locs ls hA hS hl)
/-- checkcast: an object of a class that may be cast; null -/
theorem g_cast {a ci : Nat} {fs : List Value} {q : vw_C} {nm : String} (d : decode (k_cc K) pc = .ok (.checkcast i, 3)) (hc : g_look h a = some (.inr (ci, fs))) (hq : gCL[ci]? = some q) (q1 : Jvm.Cond.classLink (k_own K) i nm ∈ lw_all) (q2 : Jvm.Cond.castable q.1 nm ∈ lw_tbl) (p : pc + 3 = pc') (k : G X K r he h pc' Lc (.ref a :: rest)) : G X K r he h pc Lc (.ref a :: rest) := by
  subst p
  refine g_pureX k fun hx R H locs ls u v Q hA hS hl w => ?_
  exact va_castY hx.1 hx.2.1 hx.2.2.2.1 (hx.2.2.2.2.1 _ q1) (hx.2.2.2.2.2.2.2.1.2.1 _ (g_nw_in q2 rfl)) (g_recv hx hA hc hq) d (w ls hl)
theorem g_castS {a ci : Nat} {fs : List Value} {q : vw_C} (d : decode (k_cc K) pc = .ok (.checkcast i, 3)) (hc : g_look h a = some (.inr (ci, fs))) (hq : gCL[ci]? = some q) (q1 : Jvm.Cond.classLink (k_own K) i q.1 ∈ lw_all) (p : pc + 3 = pc') (k : G X K r he h pc' Lc (.ref a :: rest)) : G X K r he h pc Lc (.ref a :: rest) := by
  subst p
  refine g_pureX k fun hx R H locs ls u v Q hA hS hl w => ?_
  exact va_castS hx.1 hx.2.1 hx.2.2.2.1 (hx.2.2.2.2.1 _ q1) (hx.2.2.2.2.2.2.2.1.1.1 ci q hq).2 (g_recv hx hA hc hq) d (w ls hl)
theorem g_castN (d : decode (k_cc K) pc = .ok (.checkcast i, 3)) (p : pc + 3 = pc') (k : G X K r he h pc' Lc (va_rf none :: rest)) : G X K r he h pc Lc (va_rf none :: rest) := by
  subst p
  exact g_pureX k fun hx R H locs ls u v Q hA hS hl w => lv_castN hx.1 hx.2.1 d (w ls hl)
/-- String.COMPACT_STRINGS -/
theorem g_compact (d : decode (k_cc K) pc = .ok (.getstatic i, 3)) (q1 : Jvm.Cond.fieldLink (k_own K) i "java/lang/String" "COMPACT_STRINGS" "Z" ∈ lw_all) (p : pc + 3 = pc') (k : G X K r he h pc' Lc (.int 1 :: rest)) : G X K r he h pc Lc rest := by
  subst p
  refine g_pureX k fun hx R H locs ls u v Q hA hS hl w => ?_
  obtain ⟨h1, -⟩ := hx.2.2.2.2.2.2.2.1.2.2
  have hb := hx.2.2.2.2.2.2.2.2.2.2.2
  have hZ : va_Z "java/lang/String" "COMPACT_STRINGS" "Z" (.int 1) (g_A (x_h X)) (x_st X) (x_st X).heap := by
    obtain ⟨cf, kf, fi, f, a, cell, z1, z2, z3, z4, z5, z6, z7, z8⟩ := h1
    have ha : a < (x_B X).2.2.1.size := (Array.getElem?_eq_some_iff.mp z5).1
    exact ⟨cf, kf, fi, f, a, cell, z1, z2, z3, z4, by rw [hb.1 a ha]; exact z5, z6, z7, fun z => by have := hb.2.1 a z; omega⟩
  exact va_gets hx.1 hx.2.1 hZ hS hx.2.2.2.1 (hx.2.2.2.2.1 _ q1) (fun _ h9 => h9) d (w ls hl)
end GMISC
