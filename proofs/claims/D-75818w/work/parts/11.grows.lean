/-! THE JUDGEMENT G, contracts, rows -/
/-- program, launch, env, state at the start, method, args, frames below, method, code, background, heap at the start -/
abbrev g_X : Type := Program × Launch × Env × State × MethodId × Array Value × List Frame × Method × Code × g_B × g_AH
abbrev x_p (X : g_X) : Program := X.1
abbrev x_l (X : g_X) : Launch := X.2.1
abbrev x_e (X : g_X) : Env := X.2.2.1
abbrev x_st (X : g_X) : State := X.2.2.2.1
abbrev x_m (X : g_X) : MethodId := X.2.2.2.2.1
abbrev x_args (X : g_X) : Array Value := X.2.2.2.2.2.1
abbrev x_bel (X : g_X) : List Frame := X.2.2.2.2.2.2.1
abbrev x_me (X : g_X) : Method := X.2.2.2.2.2.2.2.1
abbrev x_co (X : g_X) : Code := X.2.2.2.2.2.2.2.2.1
abbrev x_B (X : g_X) : g_B := X.2.2.2.2.2.2.2.2.2.1
abbrev x_h (X : g_X) : g_AH := X.2.2.2.2.2.2.2.2.2.2
/-- code, its locals, class, level (frames below it), answer's type, name -/
abbrev g_M : Type := ByteArray × Nat × String × Nat × Option FieldType × String × List (Nat × Nat × Nat × Nat) × Nat
abbrev k_cc (K : g_M) : ByteArray := K.1
abbrev k_nL (K : g_M) : Nat := K.2.1
abbrev k_own (K : g_M) : String := K.2.2.1
abbrev k_lev (K : g_M) : Nat := K.2.2.2.1
abbrev k_ret (K : g_M) : Option FieldType := K.2.2.2.2.1
abbrev k_nm (K : g_M) : String := K.2.2.2.2.2.1
/-- the handlers; the mode: 0 the end's heap is exact, 1 exact but for the place of the next cell, 2 unknown -/
abbrev k_hh (K : g_M) : List (Nat × Nat × Nat × Nat) := K.2.2.2.2.2.2.1
abbrev k_mo (K : g_M) : Nat := K.2.2.2.2.2.2.2
/-- a value, or an exception's class (and its cell, where that is known) -/
abbrev g_RV : Type := Option Value ⊕ (String × Option Nat)
def g_R (K : g_M) (h0 he : g_AH) : Room := { frames := k_lev K, cells := g_c he - g_c h0, slots := g_s he - g_s h0, locals := 64 * k_lev K }
/-- a method's end: the value r answers, the heap holds he; or the exception of r is thrown, and the heap holds he's cells -/
def g_Qc (B : g_B) (r : g_RV) (h0 he : g_AH) : Array Value → State → Outcome → State → Prop := fun _ st o t => ∃ v, r = .inl v ∧ o = .returned v ∧ g_Abs B (g_A h0) t.heap he ∧ va_F (g_A h0) st t
def g_XC (B : g_B) (r : g_RV) (h0 he : g_AH) : String → Addr → State → State → Prop := fun E q st t => ∃ qo, r = .inr (E, qo) ∧ (∀ a, qo = some a → q = a) ∧ g_Abs B (g_A h0) t.heap (g_ren he t.heap.size) ∧ g_n he ≤ t.heap.size ∧ va_F (g_A h0) st t
def g_Fin (mo : Nat) (B : g_B) (A : Nat → Prop) (H : Heap) (he : g_AH) : Prop :=
  match mo with
  | 0 => g_Abs B A H he
  | 1 => ∃ n, g_n he ≤ n ∧ g_Abs B A H (g_ren he n)
  | _ => True
theorem g_Fin.of {mo : Nat} {B : g_B} {A : Nat → Prop} {H : Heap} {he : g_AH} (h : g_Abs B A H he) : g_Fin mo B A H he := by
  match mo with
  | 0 => exact h
  | 1 => exact ⟨g_n he, Nat.le_refl _, h⟩
  | n + 2 => exact trivial
def g_Qm (mo : Nat) (B : g_B) (r : g_RV) (h0 he : g_AH) : Array Value → State → Outcome → State → Prop := fun _ st o t => ∃ v, r = .inl v ∧ o = .returned v ∧ g_Fin mo B (g_A h0) t.heap he ∧ va_F (g_A h0) st t
theorem g_Qm0 {B : g_B} {r : g_RV} {h0 he : g_AH} : g_Qm 0 B r h0 he = g_Qc B r h0 he := rfl
def g_Q (X : g_X) (K : g_M) (r : g_RV) (he : g_AH) : State → Prop := vx_MQ (x_bel X) (g_Qm (k_mo K) (x_B X) r (x_h X) he) (g_XC (x_B X) r (x_h X) he) (x_args X) (x_st X) (g_c he - g_c (x_h X)) (g_s he - g_s (x_h X)) (g_A (x_h X))
/-- a contract: from h the method of name y answers r (or throws) and leaves he -/
def g_Pc (B : g_B) (vals : List Value) (h : g_AH) : Array Value → State → Prop := fun a U => a = vals.toArray ∧ g_K B U ∧ g_Abs B (g_A h) U.heap h
def g_CT (l : Launch) (B : g_B) (y : MethodName) (K : g_M) (vals : List Value) (h : g_AH) (r : g_RV) (he : g_AH) : Prop :=
  (g_X → g_Le h he) ∧ (l.stackTraces = false → vx_Met l y (ws_ y (k_cc K) (k_nL K) (k_ret K)) (g_R K h he) (g_Pc B vals h) (g_Qc B r h he) (g_XC B r h he) (g_c he - g_c h) (g_s he - g_s h) (g_A h))
/-- what holds all through a method's run -/
def g_GX (X : g_X) (K : g_M) : Prop :=
  (x_p X).tables.exec = Jvm.exec ∧ (x_co X).code = k_cc K ∧ (x_co X).maxLocals = k_nL K ∧ (x_st X).vm.findClass (k_own K) = some (x_m X).cls ∧ (∀ w ∈ lw_all, w.before (x_args X) (x_st X) = true) ∧
  (x_me X).locks = false ∧ (x_me X).sig.returnType = k_ret K ∧ g_K (x_B X) (x_st X) ∧ (x_l X).stackTraces = false ∧ (x_me X).name = k_nm K ∧ ((x_co X).exceptionTable.toList.map (fun x => (x.startPc, x.endPc, x.handlerPc, x.catchType)) = k_hh K) ∧
  (∀ q : Nat, q < (x_B X).2.2.1.size → (x_st X).heap[q]? = (x_B X).2.2.1[q]?) ∧ (∀ q, g_A (x_h X) q → (x_B X).2.2.1.size ≤ q) ∧ (∀ q, (x_st X).heap.size ≤ q → g_A (x_h X) q)
theorem g_noH {X : g_X} {K : g_M} (hx : g_GX X K) (hh : k_hh K = []) {pc : Nat} : ∀ x ∈ (x_co X).exceptionTable.toList, covers x pc = false := by
  have h := hx.2.2.2.2.2.2.2.2.2.2.1
  rw [hh] at h
  rw [List.map_eq_nil_iff.mp h]
  intro x hx9
  cases hx9
/-- what the heap h may still become -/
def g_Lf (K : g_M) (h he : g_AH) : Prop := True ∧ g_c h ≤ g_c he ∧ g_s h ≤ g_s he ∧ (k_mo K = 0 → g_Le h he)
theorem g_Lf.of {K : g_M} {h he : g_AH} (e : g_Le h he) : g_Lf K h he := ⟨trivial, e.2.1, e.2.2.1, fun _ => e⟩
theorem g_Lf.rf {K : g_M} {h : g_AH} : g_Lf K h h := g_Lf.of g_Le.rf
theorem g_Le.trf {K : g_M} {a b c : g_AH} (h1 : g_Le a b) (h2 : g_Lf K b c) : g_Lf K a c := ⟨trivial, Nat.le_trans h1.2.1 h2.2.1, Nat.le_trans h1.2.2.1 h2.2.2.1, fun e => h1.tr (h2.2.2.2 e)⟩
abbrev g_W (X : g_X) (R : Room) (H : Heap) (locs : List Loc) (cells slots : Nat) (Q : State → Prop) (g : JFrame) : Prop := W (x_p X) (x_l X) (x_e X) R (x_st X) (x_m X) (x_args X) (x_bel X) (x_me X) (x_co X) H locs cells slots Q g
def G (X : g_X) (K : g_M) (r : g_RV) (he h : g_AH) (pc : Nat) (Lc : List (Nat × Value)) (st : List Value) : Prop :=
  g_Lf K h he ∧ (g_GX X K → g_Le (x_h X) h → ∀ (H : Heap) (locs : List Loc) (ls : Array Slot), g_Abs (x_B X) (g_A (x_h X)) H h → va_S (g_A (x_h X)) (x_st X).heap H locs → lv_has ls (k_nL K) Lc →
    g_W X (g_R K (x_h X) he) H locs (g_c h - g_c (x_h X)) (g_s h - g_s (x_h X)) (g_Q X K r he) (F0 (x_m X) pc ls st))
section GROWS
variable {X : g_X} {K : g_M} {r : g_RV} {he h : g_AH} {pc pc' : Nat} {Lc Lc' : List (Nat × Value)} {st st' : List Value}
/-- an instruction that leaves heap and locals -/
theorem g_pure (hp : pc' = pc') (k : G X K r he h pc' Lc st')
    (f : ∀ (R : Room) (H : Heap) (locs : List Loc) (ls : Array Slot) (a b : Nat) (Q : State → Prop), (x_p X).tables.exec = Jvm.exec → (x_co X).code = k_cc K → lv_has ls (k_nL K) Lc → g_W X R H locs a b Q (F0 (x_m X) pc' ls st') → g_W X R H locs a b Q (F0 (x_m X) pc ls st)) : G X K r he h pc Lc st :=
  ⟨k.1, fun hx hle H locs ls hA hS hl => f _ H locs ls _ _ _ hx.1 hx.2.1 hl (k.2 hx hle H locs ls hA hS hl)⟩
/-- an instruction that leaves the heap -/
theorem g_pureX (k : G X K r he h pc' Lc' st')
    (f : g_GX X K → ∀ (R : Room) (H : Heap) (locs : List Loc) (ls : Array Slot) (a b : Nat) (Q : State → Prop), g_Abs (x_B X) (g_A (x_h X)) H h → va_S (g_A (x_h X)) (x_st X).heap H locs → lv_has ls (k_nL K) Lc → (∀ ls' : Array Slot, lv_has ls' (k_nL K) Lc' → g_W X R H locs a b Q (F0 (x_m X) pc' ls' st')) → g_W X R H locs a b Q (F0 (x_m X) pc ls st)) : G X K r he h pc Lc st :=
  ⟨k.1, fun hx hle H locs ls hA hS hl => f hx _ H locs ls _ _ _ hA hS hl (fun ls' hl' => k.2 hx hle H locs ls' hA hS hl')⟩
theorem g_sub (ks : List Nat) (e : lv_pick Lc ks = Lc') (k : G X K r he h pc Lc' st) : G X K r he h pc Lc st :=
  ⟨k.1, fun hx hle H locs ls hA hS hl => k.2 hx hle H locs ls hA hS (lv_sub hl ks e)⟩
theorem g_iconst {n : Int} {v : Int32} (d : decode (k_cc K) pc = .ok (.iconst n, 1)) (e : Int32.ofInt n = v) (p : pc + 1 = pc') (k : G X K r he h pc' Lc (.int v :: st)) : G X K r he h pc Lc st := by
  subst p; exact g_pure rfl k fun _ _ _ _ _ _ _ hx hb _ w => lv_iconst hx hb d e w
theorem g_bipush {n : Int} {v : Int32} (d : decode (k_cc K) pc = .ok (.bipush n, 2)) (e : (Int8.ofInt n).toInt32 = v) (p : pc + 2 = pc') (k : G X K r he h pc' Lc (.int v :: st)) : G X K r he h pc Lc st := by
  subst p; exact g_pure rfl k fun _ _ _ _ _ _ _ hx hb _ w => lv_bipush hx hb d e w
theorem g_sipush {n : Int} {v : Int32} (d : decode (k_cc K) pc = .ok (.sipush n, 3)) (e : (Int16.ofInt n).toInt32 = v) (p : pc + 3 = pc') (k : G X K r he h pc' Lc (.int v :: st)) : G X K r he h pc Lc st := by
  subst p; exact g_pure rfl k fun _ _ _ _ _ _ _ hx hb _ w => lv_sipush hx hb d e w
theorem g_lconst {n : Fin 2} {v : Int64} (d : decode (k_cc K) pc = .ok (.lconst n, 1)) (e : Int64.ofNat (n : Nat) = v) (p : pc + 1 = pc') (k : G X K r he h pc' Lc (.long v :: st)) : G X K r he h pc Lc st := by
  subst p; exact g_pure rfl k fun _ _ _ _ _ _ _ hx hb _ w => lv_lconst hx hb d e w
theorem g_null (d : decode (k_cc K) pc = .ok (.aconst_null, 1)) (p : pc + 1 = pc') (k : G X K r he h pc' Lc (va_rf none :: st)) : G X K r he h pc Lc st := by
  subst p; exact g_pure rfl k fun _ _ _ _ _ _ _ hx hb _ w => lv_null hx hb d w
theorem g_iload (q : Nat) {i : Nat} {x : Int32} (d : decode (k_cc K) pc = .ok (.iload i, 2)) (e : Lc[q]? = some (i, .int x)) (p : pc + 2 = pc') (k : G X K r he h pc' Lc (.int x :: st)) : G X K r he h pc Lc st := by
  subst p; exact g_pure rfl k fun _ _ _ _ _ _ _ hx hb hl w => lv_iload hx hb d (lv_at hl q e) w
theorem g_iload_n (q : Nat) {kk : Fin 4} {i : Nat} {x : Int32} (d : decode (k_cc K) pc = .ok (.iload_n kk, 1)) (ei : (kk : Nat) = i) (e : Lc[q]? = some (i, .int x)) (p : pc + 1 = pc') (k : G X K r he h pc' Lc (.int x :: st)) : G X K r he h pc Lc st := by
  subst p; exact g_pure rfl k fun _ _ _ _ _ _ _ hx hb hl w => lv_iload_n hx hb d ei (lv_at hl q e) w
theorem g_lload (q : Nat) {i : Nat} {x : Int64} (d : decode (k_cc K) pc = .ok (.lload i, 2)) (e : Lc[q]? = some (i, .long x)) (p : pc + 2 = pc') (k : G X K r he h pc' Lc (.long x :: st)) : G X K r he h pc Lc st := by
  subst p; exact g_pure rfl k fun _ _ _ _ _ _ _ hx hb hl w => lv_lload hx hb d (lv_at hl q e) w
theorem g_lload_n (q : Nat) {kk : Fin 4} {i : Nat} {x : Int64} (d : decode (k_cc K) pc = .ok (.lload_n kk, 1)) (ei : (kk : Nat) = i) (e : Lc[q]? = some (i, .long x)) (p : pc + 1 = pc') (k : G X K r he h pc' Lc (.long x :: st)) : G X K r he h pc Lc st := by
  subst p; exact g_pure rfl k fun _ _ _ _ _ _ _ hx hb hl w => lv_lload_n hx hb d ei (lv_at hl q e) w
theorem g_dload (q : Nat) {i : Nat} {x : UInt64} (d : decode (k_cc K) pc = .ok (.dload i, 2)) (e : Lc[q]? = some (i, .double x)) (p : pc + 2 = pc') (k : G X K r he h pc' Lc (.double x :: st)) : G X K r he h pc Lc st := by
  subst p; exact g_pure rfl k fun _ _ _ _ _ _ _ hx hb hl w => lv_dload hx hb d (lv_at hl q e) w
theorem g_aload (q : Nat) {i : Nat} {x : Nat} (d : decode (k_cc K) pc = .ok (.aload i, 2)) (e : Lc[q]? = some (i, .ref x)) (p : pc + 2 = pc') (k : G X K r he h pc' Lc (.ref x :: st)) : G X K r he h pc Lc st := by
  subst p; exact g_pure rfl k fun _ _ _ _ _ _ _ hx hb hl w => lv_aload hx hb d (lv_at hl q e) w
theorem g_aload_n (q : Nat) {kk : Fin 4} {i : Nat} {x : Nat} (d : decode (k_cc K) pc = .ok (.aload_n kk, 1)) (ei : (kk : Nat) = i) (e : Lc[q]? = some (i, .ref x)) (p : pc + 1 = pc') (k : G X K r he h pc' Lc (.ref x :: st)) : G X K r he h pc Lc st := by
  subst p; exact g_pure rfl k fun _ _ _ _ _ _ _ hx hb hl w => lv_aload_n hx hb d ei (lv_at hl q e) w
/-- a reference that may be null -/
theorem g_aloadO (q : Nat) {i : Nat} {x : Option Nat} (d : decode (k_cc K) pc = .ok (.aload i, 2)) (e : Lc[q]? = some (i, va_rf x)) (p : pc + 2 = pc') (k : G X K r he h pc' Lc (va_rf x :: st)) : G X K r he h pc Lc st := by
  subst p
  cases x with
  | none => exact g_pure rfl k fun _ _ _ _ _ _ _ hx hb hl w => lv_aloadN hx hb d (lv_at hl q e) w
  | some a => exact g_pure rfl k fun _ _ _ _ _ _ _ hx hb hl w => lv_aload hx hb d (lv_at hl q e) w
theorem g_aloadO_n (q : Nat) {kk : Fin 4} {i : Nat} {x : Option Nat} (d : decode (k_cc K) pc = .ok (.aload_n kk, 1)) (ei : (kk : Nat) = i) (e : Lc[q]? = some (i, va_rf x)) (p : pc + 1 = pc') (k : G X K r he h pc' Lc (va_rf x :: st)) : G X K r he h pc Lc st := by
  subst p
  cases x with
  | none => exact g_pure rfl k fun _ _ _ _ _ _ _ hx hb hl w => lv_aload_nN hx hb d ei (lv_at hl q e) w
  | some a => exact g_pure rfl k fun _ _ _ _ _ _ _ hx hb hl w => lv_aload_n hx hb d ei (lv_at hl q e) w
abbrev g_put (Lc : List (Nat × Value)) (i : Nat) (v : Value) : List (Nat × Value) := (i, v) :: Lc.filter (fun q => !(q.1 == i) && !(q.1 + 1 == i && q.2.category == 2))
theorem g_istore {i : Nat} {x : Int32} (d : decode (k_cc K) pc = .ok (.istore i, 2)) (hn : i < k_nL K) (e : g_put Lc i (.int x) = Lc') (p : pc + 2 = pc') (k : G X K r he h pc' Lc' st) : G X K r he h pc Lc (.int x :: st) := by
  subst p; exact g_pureX k fun hx _ _ _ _ _ _ _ _ _ hl w => lv_istore hx.1 hx.2.1 d hl hn e w
theorem g_istore_n {kk : Fin 4} {i : Nat} {x : Int32} (d : decode (k_cc K) pc = .ok (.istore_n kk, 1)) (ei : (kk : Nat) = i) (hn : i < k_nL K) (e : g_put Lc i (.int x) = Lc') (p : pc + 1 = pc') (k : G X K r he h pc' Lc' st) : G X K r he h pc Lc (.int x :: st) := by
  subst p; exact g_pureX k fun hx _ _ _ _ _ _ _ _ _ hl w => lv_istore_n hx.1 hx.2.1 d ei hl hn e w
theorem g_astore {i : Nat} {x : Nat} (d : decode (k_cc K) pc = .ok (.astore i, 2)) (hn : i < k_nL K) (e : g_put Lc i (.ref x) = Lc') (p : pc + 2 = pc') (k : G X K r he h pc' Lc' st) : G X K r he h pc Lc (.ref x :: st) := by
  subst p; exact g_pureX k fun hx _ _ _ _ _ _ _ _ _ hl w => lv_astore hx.1 hx.2.1 d hl hn e w
theorem g_astore_n {kk : Fin 4} {i : Nat} {x : Nat} (d : decode (k_cc K) pc = .ok (.astore_n kk, 1)) (ei : (kk : Nat) = i) (hn : i < k_nL K) (e : g_put Lc i (.ref x) = Lc') (p : pc + 1 = pc') (k : G X K r he h pc' Lc' st) : G X K r he h pc Lc (.ref x :: st) := by
  subst p; exact g_pureX k fun hx _ _ _ _ _ _ _ _ _ hl w => lv_astore_n hx.1 hx.2.1 d ei hl hn e w
theorem g_astoreO {i : Nat} {x : Option Nat} (d : decode (k_cc K) pc = .ok (.astore i, 2)) (hn : i < k_nL K) (e : g_put Lc i (va_rf x) = Lc') (p : pc + 2 = pc') (k : G X K r he h pc' Lc' st) : G X K r he h pc Lc (va_rf x :: st) := by
  subst p
  cases x with
  | none => exact g_pureX k fun hx _ _ _ _ _ _ _ _ _ hl w => lv_astoreN hx.1 hx.2.1 d hl hn e w
  | some a => exact g_pureX k fun hx _ _ _ _ _ _ _ _ _ hl w => lv_astore hx.1 hx.2.1 d hl hn e w
theorem g_astoreO_n {kk : Fin 4} {i : Nat} {x : Option Nat} (d : decode (k_cc K) pc = .ok (.astore_n kk, 1)) (ei : (kk : Nat) = i) (hn : i < k_nL K) (e : g_put Lc i (va_rf x) = Lc') (p : pc + 1 = pc') (k : G X K r he h pc' Lc' st) : G X K r he h pc Lc (va_rf x :: st) := by
  subst p
  cases x with
  | none => exact g_pureX k fun hx _ _ _ _ _ _ _ _ _ hl w => lv_astore_nN hx.1 hx.2.1 d ei hl hn e w
  | some a => exact g_pureX k fun hx _ _ _ _ _ _ _ _ _ hl w => lv_astore_n hx.1 hx.2.1 d ei hl hn e w
theorem g_iinc (q : Nat) {i : Nat} {n : Int} {x v : Int32} (d : decode (k_cc K) pc = .ok (.iinc i n, 3)) (e0 : Lc[q]? = some (i, .int x)) (hv : x + Int32.ofInt n = v) (hn : i < k_nL K) (e : g_put Lc i (.int v) = Lc') (p : pc + 3 = pc') (k : G X K r he h pc' Lc' st) : G X K r he h pc Lc st := by
  subst p; exact g_pureX k fun hx _ _ _ _ _ _ _ _ _ hl w => lv_iinc hx.1 hx.2.1 d hl e0 hv hn e w
theorem g_iadd {x y : Int32} (d : decode (k_cc K) pc = .ok (.iadd, 1)) (p : pc + 1 = pc') (k : G X K r he h pc' Lc (.int (x + y) :: st)) : G X K r he h pc Lc (.int y :: .int x :: st) := by
  subst p; exact g_pure rfl k fun _ _ _ _ _ _ _ hx hb _ w => lv_iadd hx hb d w
theorem g_isub {x y : Int32} (d : decode (k_cc K) pc = .ok (.isub, 1)) (p : pc + 1 = pc') (k : G X K r he h pc' Lc (.int (x - y) :: st)) : G X K r he h pc Lc (.int y :: .int x :: st) := by
  subst p; exact g_pure rfl k fun _ _ _ _ _ _ _ hx hb _ w => lv_isub hx hb d w
theorem g_imul {x y : Int32} (d : decode (k_cc K) pc = .ok (.imul, 1)) (p : pc + 1 = pc') (k : G X K r he h pc' Lc (.int (x * y) :: st)) : G X K r he h pc Lc (.int y :: .int x :: st) := by
  subst p; exact g_pure rfl k fun _ _ _ _ _ _ _ hx hb _ w => lv_imul hx hb d w
theorem g_iand {x y : Int32} (d : decode (k_cc K) pc = .ok (.iand, 1)) (p : pc + 1 = pc') (k : G X K r he h pc' Lc (.int (x &&& y) :: st)) : G X K r he h pc Lc (.int y :: .int x :: st) := by
  subst p; exact g_pure rfl k fun _ _ _ _ _ _ _ hx hb _ w => lv_iand hx hb d w
theorem g_ior {x y : Int32} (d : decode (k_cc K) pc = .ok (.ior, 1)) (p : pc + 1 = pc') (k : G X K r he h pc' Lc (.int (x ||| y) :: st)) : G X K r he h pc Lc (.int y :: .int x :: st) := by
  subst p; exact g_pure rfl k fun _ _ _ _ _ _ _ hx hb _ w => lv_ior hx hb d w
theorem g_ixor {x y : Int32} (d : decode (k_cc K) pc = .ok (.ixor, 1)) (p : pc + 1 = pc') (k : G X K r he h pc' Lc (.int (x ^^^ y) :: st)) : G X K r he h pc Lc (.int y :: .int x :: st) := by
  subst p; exact g_pure rfl k fun _ _ _ _ _ _ _ hx hb _ w => lv_ixor hx hb d w
theorem g_ishr {x y : Int32} (d : decode (k_cc K) pc = .ok (.ishr, 1)) (p : pc + 1 = pc') (k : G X K r he h pc' Lc (.int (x >>> (y &&& 31)) :: st)) : G X K r he h pc Lc (.int y :: .int x :: st) := by
  subst p; exact g_pure rfl k fun _ _ _ _ _ _ _ hx hb _ w => lv_ishr hx hb d w
theorem g_ishl {x y : Int32} (d : decode (k_cc K) pc = .ok (.ishl, 1)) (p : pc + 1 = pc') (k : G X K r he h pc' Lc (.int (x <<< (y &&& 31)) :: st)) : G X K r he h pc Lc (.int y :: .int x :: st) := by
  subst p; exact g_pure rfl k fun _ _ _ _ _ _ _ hx hb _ w => lv_ishl hx hb d w
theorem g_irem {x y : Int32} (d : decode (k_cc K) pc = .ok (.irem, 1)) (hne : ¬ y = 0) (p : pc + 1 = pc') (k : G X K r he h pc' Lc (.int (x - x / y * y) :: st)) : G X K r he h pc Lc (.int y :: .int x :: st) := by
  subst p; exact g_pure rfl k fun _ _ _ _ _ _ _ hx hb _ w => lv_irem hx hb d hne w
theorem g_idiv {x y : Int32} (d : decode (k_cc K) pc = .ok (.idiv, 1)) (hne : ¬ y = 0) (p : pc + 1 = pc') (k : G X K r he h pc' Lc (.int (x / y) :: st)) : G X K r he h pc Lc (.int y :: .int x :: st) := by
  subst p; exact g_pure rfl k fun _ _ _ _ _ _ _ hx hb _ w => lv_idiv hx hb d hne w
theorem g_ladd {x y : Int64} (d : decode (k_cc K) pc = .ok (.ladd, 1)) (p : pc + 1 = pc') (k : G X K r he h pc' Lc (.long (x + y) :: st)) : G X K r he h pc Lc (.long y :: .long x :: st) := by
  subst p; exact g_pure rfl k fun _ _ _ _ _ _ _ hx hb _ w => lv_ladd hx hb d w
theorem g_lsub {x y : Int64} (d : decode (k_cc K) pc = .ok (.lsub, 1)) (p : pc + 1 = pc') (k : G X K r he h pc' Lc (.long (x - y) :: st)) : G X K r he h pc Lc (.long y :: .long x :: st) := by
  subst p; exact g_pure rfl k fun _ _ _ _ _ _ _ hx hb _ w => lv_lsub hx hb d w
theorem g_lmul {x y : Int64} (d : decode (k_cc K) pc = .ok (.lmul, 1)) (p : pc + 1 = pc') (k : G X K r he h pc' Lc (.long (x * y) :: st)) : G X K r he h pc Lc (.long y :: .long x :: st) := by
  subst p; exact g_pure rfl k fun _ _ _ _ _ _ _ hx hb _ w => lv_lmul hx hb d w
theorem g_iushr {x y : Int32} (d : decode (k_cc K) pc = .ok (.iushr, 1)) (p : pc + 1 = pc') (k : G X K r he h pc' Lc (.int (x.toUInt32 >>> (y.toUInt32 &&& Int32.toUInt32 31)).toInt32 :: st)) : G X K r he h pc Lc (.int y :: .int x :: st) := by
  subst p; exact g_pure rfl k fun _ _ _ _ _ _ _ hx hb _ w => lv_iushr hx hb d rfl w
theorem g_ineg {x : Int32} (d : decode (k_cc K) pc = .ok (.ineg, 1)) (p : pc + 1 = pc') (k : G X K r he h pc' Lc (.int (-x) :: st)) : G X K r he h pc Lc (.int x :: st) := by
  subst p; exact g_pure rfl k fun _ _ _ _ _ _ _ hx hb _ w => lv_ineg hx hb d w
theorem g_i2l {x : Int32} (d : decode (k_cc K) pc = .ok (.i2l, 1)) (p : pc + 1 = pc') (k : G X K r he h pc' Lc (.long x.toInt64 :: st)) : G X K r he h pc Lc (.int x :: st) := by
  subst p; exact g_pure rfl k fun _ _ _ _ _ _ _ hx hb _ w => lv_i2l hx hb d rfl w
theorem g_i2c {x : Int32} (d : decode (k_cc K) pc = .ok (.i2c, 1)) (p : pc + 1 = pc') (k : G X K r he h pc' Lc (.int (x.toUInt32 % 65536).toInt32 :: st)) : G X K r he h pc Lc (.int x :: st) := by
  subst p; exact g_pure rfl k fun _ _ _ _ _ _ _ hx hb _ w => lv_i2c hx hb d rfl w
theorem g_i2b {x : Int32} (d : decode (k_cc K) pc = .ok (.i2b, 1)) (p : pc + 1 = pc') (k : G X K r he h pc' Lc (.int x.toInt8.toInt32 :: st)) : G X K r he h pc Lc (.int x :: st) := by
  subst p; exact g_pure rfl k fun _ _ _ _ _ _ _ hx hb _ w => lv_i2b hx hb d rfl w
theorem g_i2f {x : Int32} (d : decode (k_cc K) pc = .ok (.i2f, 1)) (p : pc + 1 = pc') (k : G X K r he h pc' Lc (.float (FP.i2f x) :: st)) : G X K r he h pc Lc (.int x :: st) := by
  subst p; exact g_pure rfl k fun _ _ _ _ _ _ _ hx hb _ w => lv_i2f hx hb d w
theorem g_i2d {x : Int32} (d : decode (k_cc K) pc = .ok (.i2d, 1)) (p : pc + 1 = pc') (k : G X K r he h pc' Lc (.double (FP.i2d x) :: st)) : G X K r he h pc Lc (.int x :: st) := by
  subst p; exact g_pure rfl k fun _ _ _ _ _ _ _ hx hb _ w => lv_i2d hx hb d w
theorem g_f2d {x : UInt32} (d : decode (k_cc K) pc = .ok (.f2d, 1)) (hne : vf_n64 (FP.f2d x)) (p : pc + 1 = pc') (k : G X K r he h pc' Lc (.double (FP.f2d x) :: st)) : G X K r he h pc Lc (.float x :: st) := by
  subst p; exact g_pure rfl k fun _ _ _ _ _ _ _ hx hb _ w => lv_f2d hx hb d hne w
theorem g_fdiv {x y : UInt32} (d : decode (k_cc K) pc = .ok (.fdiv, 1)) (hne : vf_n32 (FP.fdiv x y)) (p : pc + 1 = pc') (k : G X K r he h pc' Lc (.float (FP.fdiv x y) :: st)) : G X K r he h pc Lc (.float y :: .float x :: st) := by
  subst p; exact g_pure rfl k fun _ _ _ _ _ _ _ hx hb _ w => lv_fdiv hx hb d hne w
theorem g_ddiv {x y : UInt64} (d : decode (k_cc K) pc = .ok (.ddiv, 1)) (hne : vf_n64 (FP.ddiv x y)) (p : pc + 1 = pc') (k : G X K r he h pc' Lc (.double (FP.ddiv x y) :: st)) : G X K r he h pc Lc (.double y :: .double x :: st) := by
  subst p; exact g_pure rfl k fun _ _ _ _ _ _ _ hx hb _ w => lv_ddiv hx hb d hne w
theorem g_fconst0 (d : decode (k_cc K) pc = .ok (.fconst 0, 1)) (p : pc + 1 = pc') (k : G X K r he h pc' Lc (.float FP.fconst0 :: st)) : G X K r he h pc Lc st := by
  subst p; exact g_pure rfl k fun _ _ _ _ _ _ _ hx hb _ w => lv_fconst0 hx hb d w
theorem g_dconst0 (d : decode (k_cc K) pc = .ok (.dconst 0, 1)) (p : pc + 1 = pc') (k : G X K r he h pc' Lc (.double FP.dconst0 :: st)) : G X K r he h pc Lc st := by
  subst p; exact g_pure rfl k fun _ _ _ _ _ _ _ hx hb _ w => lv_dconst0 hx hb d w
theorem g_lcmp {x y : Int64} (d : decode (k_cc K) pc = .ok (.lcmp, 1)) (p : pc + 1 = pc') (k : G X K r he h pc' Lc (.int (lg_cmp x y) :: st)) : G X K r he h pc Lc (.long y :: .long x :: st) := by
  subst p; exact g_pure rfl k fun _ _ _ _ _ _ _ hx hb _ w => W.lcmp hx hb d w
theorem g_dcmp {x y : UInt64} {op : CmpOp} (d : decode (k_cc K) pc = .ok (.dcmp op, 1)) (p : pc + 1 = pc') (k : G X K r he h pc' Lc (.int (Op.cmpValue (FP.dcmp x y) op) :: st)) : G X K r he h pc Lc (.double y :: .double x :: st) := by
  subst p; exact g_pure rfl k fun _ _ _ _ _ _ _ hx hb _ w => lv_dcmp hx hb d w
theorem g_dup {v : Value} (d : decode (k_cc K) pc = .ok (.dup, 1)) (e : v.category = 1) (p : pc + 1 = pc') (k : G X K r he h pc' Lc (v :: v :: st)) : G X K r he h pc Lc (v :: st) := by
  subst p; exact g_pure rfl k fun _ _ _ _ _ _ _ hx hb _ w => lv_dup hx hb d e w
theorem g_pop {v : Value} (d : decode (k_cc K) pc = .ok (.pop, 1)) (e : v.category = 1) (p : pc + 1 = pc') (k : G X K r he h pc' Lc st) : G X K r he h pc Lc (v :: st) := by
  subst p; exact g_pure rfl k fun _ _ _ _ _ _ _ hx hb _ w => lv_pop hx hb d e w
theorem g_dup_x1 {v u : Value} (d : decode (k_cc K) pc = .ok (.dup_x1, 1)) (e : v.category = 1) (e2 : u.category = 1) (p : pc + 1 = pc') (k : G X K r he h pc' Lc (v :: u :: v :: st)) : G X K r he h pc Lc (v :: u :: st) := by
  subst p; exact g_pure rfl k fun _ _ _ _ _ _ _ hx hb _ w => lv_dup_x1 hx hb d e e2 w
theorem g_dup_x2 {v u t : Value} (d : decode (k_cc K) pc = .ok (.dup_x2, 1)) (e : v.category = 1) (e2 : u.category = 1) (e3 : t.category = 1) (p : pc + 1 = pc') (k : G X K r he h pc' Lc (v :: u :: t :: v :: st)) : G X K r he h pc Lc (v :: u :: t :: st) := by
  subst p; exact g_pure rfl k fun _ _ _ _ _ _ _ hx hb _ w => lv_dup_x2 hx hb d e e2 e3 w
theorem g_dup2 {v u : Value} (d : decode (k_cc K) pc = .ok (.dup2, 1)) (e : v.category = 1) (e2 : u.category = 1) (p : pc + 1 = pc') (k : G X K r he h pc' Lc (v :: u :: v :: u :: st)) : G X K r he h pc Lc (v :: u :: st) := by
  subst p; exact g_pure rfl k fun _ _ _ _ _ _ _ hx hb _ w => lv_dup2_11 hx hb d e e2 w
theorem g_dup2L {v : Value} (d : decode (k_cc K) pc = .ok (.dup2, 1)) (e : v.category = 2) (p : pc + 1 = pc') (k : G X K r he h pc' Lc (v :: v :: st)) : G X K r he h pc Lc (v :: st) := by
  subst p; exact g_pure rfl k fun _ _ _ _ _ _ _ hx hb _ w => lv_dup2_2 hx hb d e w
theorem g_goto {off : Int} (d : decode (k_cc K) pc = .ok (.goto off, 3)) (t : (pc : Int) + off = (pc' : Int)) (k : G X K r he h pc' Lc st) : G X K r he h pc Lc st :=
  g_pure rfl k fun _ _ _ _ _ _ _ hx hb _ w => lv_goto hx hb d t w
theorem g_if_eqT {x : Int32} {off : Int} (d : decode (k_cc K) pc = .ok (.ifCond .eq off, 3)) (c : x = 0) (t : (pc : Int) + off = (pc' : Int)) (k : G X K r he h pc' Lc st) : G X K r he h pc Lc (.int x :: st) :=
  g_pure rfl k fun _ _ _ _ _ _ _ hx hb _ w => lv_if_eq hx hb d t (fun _ => w) (fun z => absurd c z)
theorem g_if_eqF {x : Int32} {off : Int} (d : decode (k_cc K) pc = .ok (.ifCond .eq off, 3)) (tg : Nat) (c : ¬ (x = 0)) (t : (pc : Int) + off = (tg : Int)) (p : pc + 3 = pc') (k : G X K r he h pc' Lc st) : G X K r he h pc Lc (.int x :: st) := by
  subst p; exact g_pure rfl k fun _ _ _ _ _ _ _ hx hb _ w => lv_if_eq hx hb d t (fun z => absurd z c) (fun _ => w)
theorem g_icmp_eqT {x y : Int32} {off : Int} (d : decode (k_cc K) pc = .ok (.if_icmp .eq off, 3)) (c : x = y) (t : (pc : Int) + off = (pc' : Int)) (k : G X K r he h pc' Lc st) : G X K r he h pc Lc (.int y :: .int x :: st) :=
  g_pure rfl k fun _ _ _ _ _ _ _ hx hb _ w => lv_icmp_eq hx hb d t (fun _ => w) (fun z => absurd c z)
theorem g_icmp_eqF {x y : Int32} {off : Int} (d : decode (k_cc K) pc = .ok (.if_icmp .eq off, 3)) (tg : Nat) (c : ¬ (x = y)) (t : (pc : Int) + off = (tg : Int)) (p : pc + 3 = pc') (k : G X K r he h pc' Lc st) : G X K r he h pc Lc (.int y :: .int x :: st) := by
  subst p; exact g_pure rfl k fun _ _ _ _ _ _ _ hx hb _ w => lv_icmp_eq hx hb d t (fun z => absurd z c) (fun _ => w)
theorem g_if_neT {x : Int32} {off : Int} (d : decode (k_cc K) pc = .ok (.ifCond .ne off, 3)) (c : ¬ x = 0) (t : (pc : Int) + off = (pc' : Int)) (k : G X K r he h pc' Lc st) : G X K r he h pc Lc (.int x :: st) :=
  g_pure rfl k fun _ _ _ _ _ _ _ hx hb _ w => lv_if_ne hx hb d t (fun _ => w) (fun z => absurd z c)
theorem g_if_neF {x : Int32} {off : Int} (d : decode (k_cc K) pc = .ok (.ifCond .ne off, 3)) (tg : Nat) (c : x = 0) (t : (pc : Int) + off = (tg : Int)) (p : pc + 3 = pc') (k : G X K r he h pc' Lc st) : G X K r he h pc Lc (.int x :: st) := by
  subst p; exact g_pure rfl k fun _ _ _ _ _ _ _ hx hb _ w => lv_if_ne hx hb d t (fun z => absurd c z) (fun _ => w)
theorem g_icmp_neT {x y : Int32} {off : Int} (d : decode (k_cc K) pc = .ok (.if_icmp .ne off, 3)) (c : ¬ x = y) (t : (pc : Int) + off = (pc' : Int)) (k : G X K r he h pc' Lc st) : G X K r he h pc Lc (.int y :: .int x :: st) :=
  g_pure rfl k fun _ _ _ _ _ _ _ hx hb _ w => lv_icmp_ne hx hb d t (fun _ => w) (fun z => absurd z c)
theorem g_icmp_neF {x y : Int32} {off : Int} (d : decode (k_cc K) pc = .ok (.if_icmp .ne off, 3)) (tg : Nat) (c : x = y) (t : (pc : Int) + off = (tg : Int)) (p : pc + 3 = pc') (k : G X K r he h pc' Lc st) : G X K r he h pc Lc (.int y :: .int x :: st) := by
  subst p; exact g_pure rfl k fun _ _ _ _ _ _ _ hx hb _ w => lv_icmp_ne hx hb d t (fun z => absurd c z) (fun _ => w)
theorem g_if_ltT {x : Int32} {off : Int} (d : decode (k_cc K) pc = .ok (.ifCond .lt off, 3)) (c : x < 0) (t : (pc : Int) + off = (pc' : Int)) (k : G X K r he h pc' Lc st) : G X K r he h pc Lc (.int x :: st) :=
  g_pure rfl k fun _ _ _ _ _ _ _ hx hb _ w => lv_if_lt hx hb d t (fun _ => w) (fun z => absurd c z)
theorem g_if_ltF {x : Int32} {off : Int} (d : decode (k_cc K) pc = .ok (.ifCond .lt off, 3)) (tg : Nat) (c : ¬ (x < 0)) (t : (pc : Int) + off = (tg : Int)) (p : pc + 3 = pc') (k : G X K r he h pc' Lc st) : G X K r he h pc Lc (.int x :: st) := by
  subst p; exact g_pure rfl k fun _ _ _ _ _ _ _ hx hb _ w => lv_if_lt hx hb d t (fun z => absurd z c) (fun _ => w)
theorem g_icmp_ltT {x y : Int32} {off : Int} (d : decode (k_cc K) pc = .ok (.if_icmp .lt off, 3)) (c : x < y) (t : (pc : Int) + off = (pc' : Int)) (k : G X K r he h pc' Lc st) : G X K r he h pc Lc (.int y :: .int x :: st) :=
  g_pure rfl k fun _ _ _ _ _ _ _ hx hb _ w => lv_icmp_lt hx hb d t (fun _ => w) (fun z => absurd c z)
theorem g_icmp_ltF {x y : Int32} {off : Int} (d : decode (k_cc K) pc = .ok (.if_icmp .lt off, 3)) (tg : Nat) (c : ¬ (x < y)) (t : (pc : Int) + off = (tg : Int)) (p : pc + 3 = pc') (k : G X K r he h pc' Lc st) : G X K r he h pc Lc (.int y :: .int x :: st) := by
  subst p; exact g_pure rfl k fun _ _ _ _ _ _ _ hx hb _ w => lv_icmp_lt hx hb d t (fun z => absurd z c) (fun _ => w)
theorem g_if_geT {x : Int32} {off : Int} (d : decode (k_cc K) pc = .ok (.ifCond .ge off, 3)) (c : 0 ≤ x) (t : (pc : Int) + off = (pc' : Int)) (k : G X K r he h pc' Lc st) : G X K r he h pc Lc (.int x :: st) :=
  g_pure rfl k fun _ _ _ _ _ _ _ hx hb _ w => lv_if_ge hx hb d t (fun _ => w) (fun z => absurd c z)
theorem g_if_geF {x : Int32} {off : Int} (d : decode (k_cc K) pc = .ok (.ifCond .ge off, 3)) (tg : Nat) (c : ¬ (0 ≤ x)) (t : (pc : Int) + off = (tg : Int)) (p : pc + 3 = pc') (k : G X K r he h pc' Lc st) : G X K r he h pc Lc (.int x :: st) := by
  subst p; exact g_pure rfl k fun _ _ _ _ _ _ _ hx hb _ w => lv_if_ge hx hb d t (fun z => absurd z c) (fun _ => w)
theorem g_icmp_geT {x y : Int32} {off : Int} (d : decode (k_cc K) pc = .ok (.if_icmp .ge off, 3)) (c : y ≤ x) (t : (pc : Int) + off = (pc' : Int)) (k : G X K r he h pc' Lc st) : G X K r he h pc Lc (.int y :: .int x :: st) :=
  g_pure rfl k fun _ _ _ _ _ _ _ hx hb _ w => lv_icmp_ge hx hb d t (fun _ => w) (fun z => absurd c z)
theorem g_icmp_geF {x y : Int32} {off : Int} (d : decode (k_cc K) pc = .ok (.if_icmp .ge off, 3)) (tg : Nat) (c : ¬ (y ≤ x)) (t : (pc : Int) + off = (tg : Int)) (p : pc + 3 = pc') (k : G X K r he h pc' Lc st) : G X K r he h pc Lc (.int y :: .int x :: st) := by
  subst p; exact g_pure rfl k fun _ _ _ _ _ _ _ hx hb _ w => lv_icmp_ge hx hb d t (fun z => absurd z c) (fun _ => w)
theorem g_if_gtT {x : Int32} {off : Int} (d : decode (k_cc K) pc = .ok (.ifCond .gt off, 3)) (c : 0 < x) (t : (pc : Int) + off = (pc' : Int)) (k : G X K r he h pc' Lc st) : G X K r he h pc Lc (.int x :: st) :=
  g_pure rfl k fun _ _ _ _ _ _ _ hx hb _ w => lv_if_gt hx hb d t (fun _ => w) (fun z => absurd c z)
theorem g_if_gtF {x : Int32} {off : Int} (d : decode (k_cc K) pc = .ok (.ifCond .gt off, 3)) (tg : Nat) (c : ¬ (0 < x)) (t : (pc : Int) + off = (tg : Int)) (p : pc + 3 = pc') (k : G X K r he h pc' Lc st) : G X K r he h pc Lc (.int x :: st) := by
  subst p; exact g_pure rfl k fun _ _ _ _ _ _ _ hx hb _ w => lv_if_gt hx hb d t (fun z => absurd z c) (fun _ => w)
theorem g_icmp_gtT {x y : Int32} {off : Int} (d : decode (k_cc K) pc = .ok (.if_icmp .gt off, 3)) (c : y < x) (t : (pc : Int) + off = (pc' : Int)) (k : G X K r he h pc' Lc st) : G X K r he h pc Lc (.int y :: .int x :: st) :=
  g_pure rfl k fun _ _ _ _ _ _ _ hx hb _ w => lv_icmp_gt hx hb d t (fun _ => w) (fun z => absurd c z)
theorem g_icmp_gtF {x y : Int32} {off : Int} (d : decode (k_cc K) pc = .ok (.if_icmp .gt off, 3)) (tg : Nat) (c : ¬ (y < x)) (t : (pc : Int) + off = (tg : Int)) (p : pc + 3 = pc') (k : G X K r he h pc' Lc st) : G X K r he h pc Lc (.int y :: .int x :: st) := by
  subst p; exact g_pure rfl k fun _ _ _ _ _ _ _ hx hb _ w => lv_icmp_gt hx hb d t (fun z => absurd z c) (fun _ => w)
theorem g_if_leT {x : Int32} {off : Int} (d : decode (k_cc K) pc = .ok (.ifCond .le off, 3)) (c : x ≤ 0) (t : (pc : Int) + off = (pc' : Int)) (k : G X K r he h pc' Lc st) : G X K r he h pc Lc (.int x :: st) :=
  g_pure rfl k fun _ _ _ _ _ _ _ hx hb _ w => lv_if_le hx hb d t (fun _ => w) (fun z => absurd c z)
theorem g_if_leF {x : Int32} {off : Int} (d : decode (k_cc K) pc = .ok (.ifCond .le off, 3)) (tg : Nat) (c : ¬ (x ≤ 0)) (t : (pc : Int) + off = (tg : Int)) (p : pc + 3 = pc') (k : G X K r he h pc' Lc st) : G X K r he h pc Lc (.int x :: st) := by
  subst p; exact g_pure rfl k fun _ _ _ _ _ _ _ hx hb _ w => lv_if_le hx hb d t (fun z => absurd z c) (fun _ => w)
theorem g_icmp_leT {x y : Int32} {off : Int} (d : decode (k_cc K) pc = .ok (.if_icmp .le off, 3)) (c : x ≤ y) (t : (pc : Int) + off = (pc' : Int)) (k : G X K r he h pc' Lc st) : G X K r he h pc Lc (.int y :: .int x :: st) :=
  g_pure rfl k fun _ _ _ _ _ _ _ hx hb _ w => lv_icmp_le hx hb d t (fun _ => w) (fun z => absurd c z)
theorem g_icmp_leF {x y : Int32} {off : Int} (d : decode (k_cc K) pc = .ok (.if_icmp .le off, 3)) (tg : Nat) (c : ¬ (x ≤ y)) (t : (pc : Int) + off = (tg : Int)) (p : pc + 3 = pc') (k : G X K r he h pc' Lc st) : G X K r he h pc Lc (.int y :: .int x :: st) := by
  subst p; exact g_pure rfl k fun _ _ _ _ _ _ _ hx hb _ w => lv_icmp_le hx hb d t (fun z => absurd z c) (fun _ => w)
theorem g_acmp_eqT {x y : Option Nat} {off : Int} (d : decode (k_cc K) pc = .ok (.if_acmp .eq off, 3)) (c : x = y) (t : (pc : Int) + off = (pc' : Int)) (k : G X K r he h pc' Lc st) : G X K r he h pc Lc (va_rf y :: va_rf x :: st) :=
  g_pure rfl k fun _ _ _ _ _ _ _ hx hb _ w => lv_acmp_eq hx hb d t (fun _ => w) (fun z => absurd c z)
theorem g_acmp_eqF {x y : Option Nat} {off : Int} (d : decode (k_cc K) pc = .ok (.if_acmp .eq off, 3)) (tg : Nat) (c : ¬ x = y) (t : (pc : Int) + off = (tg : Int)) (p : pc + 3 = pc') (k : G X K r he h pc' Lc st) : G X K r he h pc Lc (va_rf y :: va_rf x :: st) := by
  subst p; exact g_pure rfl k fun _ _ _ _ _ _ _ hx hb _ w => lv_acmp_eq hx hb d t (fun z => absurd z c) (fun _ => w)
theorem g_acmp_neT {x y : Option Nat} {off : Int} (d : decode (k_cc K) pc = .ok (.if_acmp .ne off, 3)) (c : ¬ x = y) (t : (pc : Int) + off = (pc' : Int)) (k : G X K r he h pc' Lc st) : G X K r he h pc Lc (va_rf y :: va_rf x :: st) :=
  g_pure rfl k fun _ _ _ _ _ _ _ hx hb _ w => lv_acmp_ne hx hb d t (fun _ => w) (fun z => absurd z c)
theorem g_acmp_neF {x y : Option Nat} {off : Int} (d : decode (k_cc K) pc = .ok (.if_acmp .ne off, 3)) (tg : Nat) (c : x = y) (t : (pc : Int) + off = (tg : Int)) (p : pc + 3 = pc') (k : G X K r he h pc' Lc st) : G X K r he h pc Lc (va_rf y :: va_rf x :: st) := by
  subst p; exact g_pure rfl k fun _ _ _ _ _ _ _ hx hb _ w => lv_acmp_ne hx hb d t (fun z => absurd c z) (fun _ => w)
theorem g_ifnullT {x : Option Nat} {off : Int} (d : decode (k_cc K) pc = .ok (.ifnull off, 3)) (c : x = none) (t : (pc : Int) + off = (pc' : Int)) (k : G X K r he h pc' Lc st) : G X K r he h pc Lc (va_rf x :: st) := by
  subst c; exact g_pure rfl k fun _ _ _ _ _ _ _ hx hb _ w => lv_ifnullN hx hb d t w
theorem g_ifnullF {x : Option Nat} {off : Int} (d : decode (k_cc K) pc = .ok (.ifnull off, 3)) (c : ¬ x = none) (p : pc + 3 = pc') (k : G X K r he h pc' Lc st) : G X K r he h pc Lc (va_rf x :: st) := by
  subst p
  cases x with
  | none => exact absurd rfl c
  | some a => exact g_pure rfl k fun _ _ _ _ _ _ _ hx hb _ w => lv_ifnull hx hb d w
theorem g_ifnonnullF {x : Option Nat} {off : Int} (d : decode (k_cc K) pc = .ok (.ifnonnull off, 3)) (c : x = none) (p : pc + 3 = pc') (k : G X K r he h pc' Lc st) : G X K r he h pc Lc (va_rf x :: st) := by
  subst p; subst c; exact g_pure rfl k fun _ _ _ _ _ _ _ hx hb _ w => lv_ifnonnullN hx hb d w
theorem g_ifnonnullT {x : Option Nat} {off : Int} (d : decode (k_cc K) pc = .ok (.ifnonnull off, 3)) (c : ¬ x = none) (t : (pc : Int) + off = (pc' : Int)) (k : G X K r he h pc' Lc st) : G X K r he h pc Lc (va_rf x :: st) := by
  cases x with
  | none => exact absurd rfl c
  | some a => exact g_pure rfl k fun _ _ _ _ _ _ _ hx hb _ w => lv_ifnonnull hx hb d t w
theorem g_tableOut {dflt lo hi : Int} {offs : Array Int} {len : Nat} {x : Int32} (d : decode (k_cc K) pc = .ok (.tableswitch dflt lo hi offs, len)) (c : x.toInt < lo ∨ hi < x.toInt) (t : (pc : Int) + dflt = (pc' : Int)) (k : G X K r he h pc' Lc st) : G X K r he h pc Lc (.int x :: st) :=
  g_pure rfl k fun _ _ _ _ _ _ _ hx hb _ w => lv_tableOut hx hb d c t w
theorem g_tableIn {dflt lo hi : Int} {offs : Array Int} {len : Nat} {x : Int32} {off : Int} (v : Int32) (d : decode (k_cc K) pc = .ok (.tableswitch dflt lo hi offs, len)) (c : x = v) (h1 : decide (¬ v.toInt < lo ∧ ¬ hi < v.toInt) = true) (ho : offs[(v.toInt - lo).toNat]? = some off) (t : (pc : Int) + off = (pc' : Int)) (k : G X K r he h pc' Lc st) : G X K r he h pc Lc (.int x :: st) := by
  subst c
  exact g_pure rfl k fun _ _ _ _ _ _ _ hx hb _ w => lv_tableIn hx hb d (of_decide_eq_true h1).1 (of_decide_eq_true h1).2 ho t w
theorem g_lookup {dflt : Int} {ps : Array (Int × Int)} {len : Nat} {x : Int32} {off : Int} (d : decode (k_cc K) pc = .ok (.lookupswitch dflt ps, len)) (hp : (ps.toList.zip (ps.toList.drop 1)).all (fun (a, next) => a.1 < next.1) = true) (ho : Op.lookupswitch.offset ps.toList dflt x.toInt = off) (t : (pc : Int) + off = (pc' : Int)) (k : G X K r he h pc' Lc st) : G X K r he h pc Lc (.int x :: st) :=
  g_pure rfl k fun _ _ _ _ _ _ _ hx hb _ w => lv_lookup hx hb d hp ho t w
abbrev g_put2 (Lc : List (Nat × Value)) (i : Nat) (v : Value) : List (Nat × Value) := (i, v) :: Lc.filter (fun q => !(q.1 == i) && (!(q.1 == i + 1) && !(q.1 + 1 == i && q.2.category == 2)))
theorem g_lstore {i : Nat} {x : Int64} (d : decode (k_cc K) pc = .ok (.lstore i, 2)) (hn : i + 1 < k_nL K) (e : g_put2 Lc i (.long x) = Lc') (p : pc + 2 = pc') (k : G X K r he h pc' Lc' st) : G X K r he h pc Lc (.long x :: st) := by
  subst p; exact g_pureX k fun hx _ _ _ _ _ _ _ _ _ hl w => lv_lstore hx.1 hx.2.1 d hl hn e w
theorem g_lstore_n {kk : Fin 4} {i : Nat} {x : Int64} (d : decode (k_cc K) pc = .ok (.lstore_n kk, 1)) (ei : (kk : Nat) = i) (hn : i + 1 < k_nL K) (e : g_put2 Lc i (.long x) = Lc') (p : pc + 1 = pc') (k : G X K r he h pc' Lc' st) : G X K r he h pc Lc (.long x :: st) := by
  subst p; exact g_pureX k fun hx _ _ _ _ _ _ _ _ _ hl w => lv_lstore_n hx.1 hx.2.1 d ei hl hn e w
theorem g_dstore {i : Nat} {x : UInt64} (d : decode (k_cc K) pc = .ok (.dstore i, 2)) (hn : i + 1 < k_nL K) (e : g_put2 Lc i (.double x) = Lc') (p : pc + 2 = pc') (k : G X K r he h pc' Lc' st) : G X K r he h pc Lc (.double x :: st) := by
  subst p; exact g_pureX k fun hx _ _ _ _ _ _ _ _ _ hl w => lv_dstore hx.1 hx.2.1 d hl hn e w
theorem g_ldcI {i : Nat} {v : Int32} (d : decode (k_cc K) pc = .ok (.ldc i, 2)) (q : Jvm.Cond.constant (k_own K) i v ∈ lw_all) (p : pc + 2 = pc') (k : G X K r he h pc' Lc (.int v :: st)) : G X K r he h pc Lc st := by
  subst p; exact g_pureX k fun hx _ _ _ _ _ _ _ _ _ hl w => lv_ldc hx.1 hx.2.1 hx.2.2.2.1 (hx.2.2.2.2.1 _ q) d (w _ hl)
theorem g_ldc2 {i : Nat} {v : Int64} (d : decode (k_cc K) pc = .ok (.ldc2_w i, 3)) (q : Jvm.Cond.constantLong (k_own K) i v ∈ lw_all) (p : pc + 3 = pc') (k : G X K r he h pc' Lc (.long v :: st)) : G X K r he h pc Lc st := by
  subst p; exact g_pureX k fun hx _ _ _ _ _ _ _ _ _ hl w => lv_ldc2 hx.1 hx.2.1 hx.2.2.2.1 (hx.2.2.2.2.1 _ q) d (w _ hl)
theorem g_ldc2d {i : Nat} {v : UInt64} (d : decode (k_cc K) pc = .ok (.ldc2_w i, 3)) (q : Jvm.Cond.constantDouble (k_own K) i v ∈ lw_all) (p : pc + 3 = pc') (k : G X K r he h pc' Lc (.double v :: st)) : G X K r he h pc Lc st := by
  subst p; exact g_pureX k fun hx _ _ _ _ _ _ _ _ _ hl w => lv_ldc2d hx.1 hx.2.1 hx.2.2.2.1 (hx.2.2.2.2.1 _ q) d (w _ hl)
end GROWS
