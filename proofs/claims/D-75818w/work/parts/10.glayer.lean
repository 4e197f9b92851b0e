/-! THE WALK'S JUDGEMENT OVER AN ABSTRACT HEAP. A cell is an array (type number, length, contents) or an object (class number in gCL, fields); the heap is a partial map, with its size, the cells and the slots made so far, and the cells that nobody writes (String constants). -/
abbrev g_OB : Type := (Nat × vp_A) ⊕ (Nat × List Value)
abbrev g_AH : Type := (Nat → Option g_OB) × (Nat × Nat × Nat) × ((Nat → Option g_OB) × (Nat → Nat))
def g_n (h : g_AH) : Nat := h.2.1.1
def g_c (h : g_AH) : Nat := h.2.1.2.1
def g_s (h : g_AH) : Nat := h.2.1.2.2
def g_look (h : g_AH) (a : Nat) : Option g_OB := match h.1 a with
  | some c => some c
  | none => h.2.2.1 a
def g_str (h : g_AH) (i : Nat) : Nat := h.2.2.2 i
def g_up (h : g_AH) (a : Nat) (c : g_OB) : g_AH := (fun q => if q = a then some c else h.1 q, h.2)
def g_al (h : g_AH) (c : g_OB) (z : Nat) : g_AH := (fun q => if q = g_n h then some c else h.1 q, (g_n h + 1, g_c h + 1, g_s h + z), h.2.2)
def g_ren (h : g_AH) (n : Nat) : g_AH := (h.1, (n, h.2.1.2), h.2.2)
def g_Le (h h' : g_AH) : Prop := g_n h ≤ g_n h' ∧ g_c h ≤ g_c h' ∧ g_s h ≤ g_s h' ∧ h'.2.2 = h.2.2 ∧ ∀ (q : Nat) (c : g_OB), h'.1 q = some c → (∃ c', h.1 q = some c') ∨ g_n h ≤ q
theorem g_Le.rf {h : g_AH} : g_Le h h := ⟨Nat.le_refl _, Nat.le_refl _, Nat.le_refl _, rfl, fun _ c e => Or.inl ⟨c, e⟩⟩
theorem g_Le.tr {a b c : g_AH} (h1 : g_Le a b) (h2 : g_Le b c) : g_Le a c := by
  obtain ⟨a1, a2, a3, a4, a5⟩ := h1
  obtain ⟨b1, b2, b3, b4, b5⟩ := h2
  refine ⟨Nat.le_trans a1 b1, Nat.le_trans a2 b2, Nat.le_trans a3 b3, b4.trans a4, fun q x e => ?_⟩
  rcases b5 q x e with ⟨y, hy⟩ | h
  · exact a5 q y hy
  · exact Or.inr (Nat.le_trans a1 h)
theorem g_Le.up {h : g_AH} {a : Nat} {c0 c : g_OB} (ha : h.1 a = some c0) : g_Le h (g_up h a c) := by
  refine ⟨Nat.le_refl _, Nat.le_refl _, Nat.le_refl _, rfl, fun q x e => ?_⟩
  by_cases hq : q = a
  · subst hq; exact Or.inl ⟨_, ha⟩
  · simp only [g_up, if_neg hq] at e
    exact Or.inl ⟨_, e⟩
theorem g_Le.al {h : g_AH} {c : g_OB} {z : Nat} : g_Le h (g_al h c z) := by
  refine ⟨Nat.le_succ _, Nat.le_succ _, Nat.le_add_right _ _, rfl, fun q x e => ?_⟩
  by_cases hq : q = g_n h
  · exact Or.inr (by omega)
  · simp only [g_al, if_neg hq] at e
    exact Or.inl ⟨_, e⟩
/-- tables (D), the array classes (AC), the heap at the law's start (Hb), the Class object of Object[], the String constants' addresses -/
abbrev g_B : Type := va_G × (Nat → ClassId) × Heap × (Nat × (Nat → Nat))
def g_conc (AC : Nat → ClassId) (c : g_OB) : va_E := match c with
  | .inl x => .inl (AC x.1, x.2)
  | .inr o => .inr o
abbrev g_TY (AC : Nat → ClassId) : List (ClassId × FieldType) := [(AC 0, .int), (AC 1, .boolean), (AC 2, .byte), (AC 3, .long), (AC 4, .double), (AC 5, .object "java/lang/Object"), (AC 6, .object "CircuitDesk$Phase"), (AC 7, .object "CircuitDesk$Net")]
/-- the words of the tables that don't ride in the lists -/
def g_nwk : Cond → Bool
  | .fieldLinkNest .. => true
  | .methodLinkNest .. => true
  | .castable .. => true
  | .declares .. => true
  | .privateMethod .. => true
  | _ => false
def g_nw : List Cond := lw_tbl.filter g_nwk
theorem g_nw_in {w : Cond} (h : w ∈ lw_tbl) (g : g_nwk w = true) : w ∈ g_nw := List.mem_filter.mpr ⟨h, g⟩
theorem g_nw_warm {w : Cond} (hw : w ∈ g_nw) {s U : State} (hW : s.WarmedH U.vm) (h : va_Nw w s) : va_Nw w U := by
  have hk := (List.mem_filter.mp hw).2
  cases w <;> first | exact (Bool.noConfusion hk) | exact va_Nw.warmF hW h | exact va_Nw.warmM hW h | exact va_Nw.warmC hW h | exact va_Nw.warmD hW h | exact va_tabs rfl (rfl : (s.setVm U.vm).vm = U.vm) (by rw [Cond.privateMethod_setVm hW.alike]; exact h)
theorem g_nw_tab {w : Cond} (hw : w ∈ g_nw) : w.onTables = true := by
  have hk := (List.mem_filter.mp hw).2
  cases w <;> first | exact (Bool.noConfusion hk) | rfl
/-- interface calls: receiver's class, the interface's method, the method that runs -/
def g_fws : List (String × MethodName × MethodName) := [
  ("java/util/ArrayList$Itr", ⟨"java/util/Iterator", "hasNext", "()Z"⟩, ⟨"java/util/ArrayList$Itr", "hasNext", "()Z"⟩),
  ("java/util/ArrayList$Itr", ⟨"java/util/Iterator", "next", "()Ljava/lang/Object;"⟩, ⟨"java/util/ArrayList$Itr", "next", "()Ljava/lang/Object;"⟩),
  ("CircuitDesk$Resting", ⟨"CircuitDesk$Phase", "isMoving", "()Z"⟩, ⟨"CircuitDesk$Resting", "isMoving", "()Z"⟩),
  ("CircuitDesk$Resting", ⟨"CircuitDesk$Phase", "tick", "(LCircuitDesk$Net;I)V"⟩, ⟨"CircuitDesk$Resting", "tick", "(LCircuitDesk$Net;I)V"⟩),
  ("CircuitDesk$Building", ⟨"CircuitDesk$Phase", "tick", "(LCircuitDesk$Net;I)V"⟩, ⟨"CircuitDesk$Building", "tick", "(LCircuitDesk$Net;I)V"⟩),
  ("CircuitDesk$Draining", ⟨"CircuitDesk$Phase", "tick", "(LCircuitDesk$Net;I)V"⟩, ⟨"CircuitDesk$Draining", "tick", "(LCircuitDesk$Net;I)V"⟩),
  ("CircuitDesk$Clearing", ⟨"CircuitDesk$Phase", "tick", "(LCircuitDesk$Net;I)V"⟩, ⟨"CircuitDesk$Clearing", "tick", "(LCircuitDesk$Net;I)V"⟩),
  ("CircuitDesk$Building", ⟨"CircuitDesk$Phase", "isMoving", "()Z"⟩, ⟨"CircuitDesk$Phase", "isMoving", "()Z"⟩),
  ("CircuitDesk$Draining", ⟨"CircuitDesk$Phase", "isMoving", "()Z"⟩, ⟨"CircuitDesk$Phase", "isMoving", "()Z"⟩),
  ("CircuitDesk$Clearing", ⟨"CircuitDesk$Phase", "isMoving", "()Z"⟩, ⟨"CircuitDesk$Phase", "isMoving", "()Z"⟩)]
/-- the String constants that are used -/
def g_strs : List (String × Nat × String) := [("CircuitDesk$Parser", 22, ""), ("CircuitDesk$Parser", 113, "node"), ("CircuitDesk$Parser", 115, "link"), ("CircuitDesk$Parser", 117, "circuit"), ("CircuitDesk$Parser", 119, "set"), ("CircuitDesk$Parser", 101, ";"), ("CircuitDeskModel", 173, "node"), ("CircuitDeskModel", 178, "link"), ("CircuitDeskModel", 183, "circuit"), ("CircuitDeskModel", 167, "set")]
/-- statics of which only a reference or null is said: their values, at places of the table of addresses -/
def g_opt (n : Nat) : Option Nat := match n with
  | 0 => none
  | n + 1 => some n
def g_sts : List (String × String × String × Nat) := [("jdk/internal/util/Preconditions", "SIOOBE_FORMATTER", "Ljava/util/function/BiFunction;", 101), ("java/lang/Throwable", "UNASSIGNED_STACK", "[Ljava/lang/StackTraceElement;", 102), ("java/lang/Throwable", "SUPPRESSED_SENTINEL", "Ljava/util/List;", 103)]
/-- the default method Phase.isMoving, and the classes that keep it -/
abbrev y_dflt : MethodName := ⟨"CircuitDesk$Phase", "isMoving", "()Z"⟩
/-- exceptions that a handler for another class passes by -/
def g_ncs : List (String × String) := [("java/lang/IllegalArgumentException", "java/lang/IndexOutOfBoundsException"), ("java/lang/IllegalStateException", "java/lang/IndexOutOfBoundsException"), ("java/lang/IllegalStateException", "java/lang/IllegalArgumentException")]
def g_lds : List String := ["CircuitDesk$Building", "CircuitDesk$Draining", "CircuitDesk$Clearing"]
def va_Ld (C : String) (U : State) : Prop := ∀ S : State, S.vm = U.vm → (Cond.landsInDefault C y_dflt y_dflt).before #[] S = true
theorem va_Ld.moved {C : String} {u U : State} (hvm : u.vm.Alike U.vm) (h : va_Ld C u) : va_Ld C U := by
  intro S hS
  have h1 := h (S.setVm u.vm) rfl
  have hal : (S.setVm u.vm).vm.Alike S.vm := by rw [hS]; exact hvm
  have h2 : (Cond.landsInDefault C y_dflt y_dflt).before #[] ((S.setVm u.vm).setVm S.vm) = true := (Cond.landsInDefault_setVm hal (State.methodFound?_setVm hal _ _ _)).trans h1
  exact h2
theorem va_Ld.of {C : String} {A : Array Value} {U : State} (h : (Cond.landsInDefault C y_dflt y_dflt).before A U = true) : va_Ld C U := by
  intro S hS
  rw [← h]
  simp only [Cond.before, Cond.holds, Cond.value, State.methodFound?, State.methodNamed?, hS]
/-- what the tables say, all through the run, and what the heap under the law's start holds -/
def g_Kst (B : g_B) (U : State) : Prop :=
  va_Z "java/lang/String" "COMPACT_STRINGS" "Z" (.int 1) (fun q => B.2.2.1.size ≤ q) U B.2.2.1 ∧ va_Mi "[Ljava/lang/Object;" (B.2.2.2.2 100) U ∧
  vx_Zq Bundle.tN "UNASSIGNED_STACK" Bundle.steD (fun q => B.2.2.1.size ≤ q) U B.2.2.1 ∧ vx_Zq Bundle.tN "SUPPRESSED_SENTINEL" Bundle.listD (fun q => B.2.2.1.size ≤ q) U B.2.2.1 ∧
  va_AO "java/lang/Object" U ∧ va_AO "CircuitDesk$Phase" U ∧ va_AO "CircuitDesk$Net" U ∧ (∀ t ∈ g_fws, va_Fw t.1 t.2.1 t.2.2 U) ∧ (∀ (i : Nat) (t : String × Nat × String), g_strs[i]? = some t → vk_R t.1 t.2.1 t.2.2 (B.2.2.2.2 i) U) ∧ ((∀ C ∈ g_lds, va_Ld C U) ∧ ∀ t ∈ g_ncs, va_Nc t.1 t.2 U) ∧ ∀ t ∈ g_sts, va_Z t.1 t.2.1 t.2.2.1 (va_rf (g_opt (B.2.2.2.2 t.2.2.2))) (fun q => B.2.2.1.size ≤ q) U B.2.2.1
def g_K (B : g_B) (U : State) : Prop := va_K B.1 gCL (g_TY B.2.1) U ∧ (∀ w ∈ g_nw, va_Nw w U) ∧ g_Kst B U
theorem g_Mi_moved {C : String} {mi : Nat} {u U : State} (hvm : u.vm.Alike U.vm) (h : va_Mi C mi u) : va_Mi C mi U := va_Mi.moved hvm h
theorem g_fws_ok : ∀ t ∈ g_fws, t.2.1.cls ≠ "java/lang/invoke/MethodHandle" ∧ t.2.1.cls ≠ "java/lang/invoke/VarHandle" := by decide +kernel
theorem g_Kst_moved {B : g_B} {u U : State} (hvm : u.vm.Alike U.vm) (hs : ∀ (i : Nat) (t : String × Nat × String), g_strs[i]? = some t → vk_R t.1 t.2.1 t.2.2 (B.2.2.2.2 i) U) (h : g_Kst B u) : g_Kst B U := by
  obtain ⟨h1, h2, h3, h4, h5, h6, h7, h8, -, h10, h11⟩ := h
  exact ⟨h1.moved hvm, g_Mi_moved hvm h2, h3.moved hvm, h4.moved hvm, h5.moved hvm, h6.moved hvm, h7.moved hvm, fun t ht => (h8 t ht).moved (g_fws_ok t ht) hvm, hs, ⟨fun C hC => (h10.1 C hC).moved hvm, fun t ht => (h10.2 t ht).moved hvm⟩, fun t ht => (h11 t ht).moved hvm⟩
theorem g_K_warm {B : g_B} {s U : State} (hW : s.WarmedH U.vm) (h : g_K B s) : g_K B U :=
  ⟨va_K.moved hW.alike h.1, fun w hw => g_nw_warm hw hW (h.2.1 w hw), g_Kst_moved hW.alike (fun i t e => (h.2.2.2.2.2.2.2.2.2.2.1 i t e).warm hW) h.2.2⟩
theorem g_K_same {B : g_B} {s U : State} (hv : s.vm = U.vm) (h : g_K B s) : g_K B U := by
  have ha : s.vm.Alike U.vm := by rw [hv]; exact Vm.Alike.refl _
  exact ⟨va_K.moved ha h.1, fun w hw => (h.2.1 w hw).same (g_nw_tab hw) hv, g_Kst_moved ha (fun i t e => (h.2.2.2.2.2.2.2.2.2.2.1 i t e).same hv.symm) h.2.2⟩
/-- the heap H holds the abstract heap h; its cells lie in A -/
def g_Abs (B : g_B) (A : Nat → Prop) (H : Heap) (h : g_AH) : Prop :=
  H.size = g_n h ∧ B.2.2.1.size ≤ H.size ∧ (∀ q : Nat, q < B.2.2.1.size → H[q]? = B.2.2.1[q]?) ∧
  ((∀ (a : Nat) (c : g_OB), h.2.2.1 a = some c → va_at B.1 gCL (a, g_conc B.2.1 c) B.2.2.1) ∧ h.2.2.2 = B.2.2.2.2) ∧ (∀ (a : Nat) (c : g_OB), h.1 a = some c → B.2.2.1.size ≤ a) ∧
  ∃ L : va_W, va_P B.1 gCL L H ∧ va_D A L ∧ (∀ (a : Nat) (c : g_OB), h.1 a = some c → ∃ k : Nat, L[k]? = some (a, g_conc B.2.1 c)) ∧
    (∀ (k : Nat) (q : Nat × va_E), L[k]? = some q → ∃ c, h.1 q.1 = some c ∧ q.2 = g_conc B.2.1 c)
/-- the cells that a method that starts at h may change -/
def g_A (h : g_AH) : Nat → Prop := fun q => (∃ c, h.1 q = some c) ∨ g_n h ≤ q
theorem g_A_sub {h0 h : g_AH} (hle : g_Le h0 h) : ∀ q, g_A h q → g_A h0 q := by
  intro q hq
  rcases hq with ⟨c, hc⟩ | hq
  · rcases hle.2.2.2.2 q c hc with h1 | h1
    · exact Or.inl h1
    · exact Or.inr h1
  · exact Or.inr (Nat.le_trans hle.1 hq)
theorem g_Abs.weak {B : g_B} {A A' : Nat → Prop} {H : Heap} {h : g_AH} (hA : g_Abs B A H h) (hs : ∀ q, A q → A' q) : g_Abs B A' H h := by
  obtain ⟨h1, h2, h3, h4, h5, L, h6, h7, h8, h9⟩ := hA
  exact ⟨h1, h2, h3, h4, h5, L, h6, h7.weaken (fun _ q _ hq => hs q.1 hq), h8, h9⟩
theorem g_Abs.self {B : g_B} {A : Nat → Prop} {H : Heap} {h : g_AH} (hA : g_Abs B A H h) : g_Abs B (g_A h) H h := by
  obtain ⟨h1, h2, h3, h4, h5, L, h6, h7, h8, h9⟩ := hA
  exact ⟨h1, h2, h3, h4, h5, L, h6, h7.weaken (fun k q hk _ => by obtain ⟨c, e, -⟩ := h9 k q hk; exact Or.inl ⟨c, e⟩), h8, h9⟩
theorem g_Abs.at {B : g_B} {A : Nat → Prop} {H : Heap} {h : g_AH} (hA : g_Abs B A H h) {a : Nat} {c : g_OB} (hc : g_look h a = some c) : va_P B.1 gCL [(a, g_conc B.2.1 c)] H := by
  obtain ⟨h1, h2, h3, h4, h5, L, h6, h7, h8, h9⟩ := hA
  intro k q hk
  have hz : k < 1 := (List.getElem?_eq_some_iff.mp hk).1
  rw [show k = 0 by omega] at hk
  cases hk
  unfold g_look at hc
  cases e : h.1 a with
  | some c' =>
    rw [e] at hc
    cases hc
    obtain ⟨k, hk⟩ := h8 a c e
    exact h6 k _ hk
  | none =>
    rw [e] at hc
    have hb := h4.1 a c hc
    have hl : a < B.2.2.1.size := hb.lt
    exact hb.kept (h3 a hl)
theorem g_Abs.lt {B : g_B} {A : Nat → Prop} {H : Heap} {h : g_AH} (hA : g_Abs B A H h) {a : Nat} {c : g_OB} (hc : h.1 a = some c) : a < g_n h := by
  obtain ⟨h1, h2, h3, h4, h5, L, h6, h7, h8, h9⟩ := hA
  obtain ⟨k, hk⟩ := h8 a c hc
  have := (h6 k _ hk).lt
  rw [← h1]
  exact this
/-- behind a write: the list with one cell changed -/
theorem g_Abs.upd {B : g_B} {A : Nat → Prop} {H H1 : Heap} {h : g_AH} (hA : g_Abs B A H h) {a : Nat} {c0 c : g_OB} (hc : h.1 a = some c0) (hz : H1.size = H.size) (ho : ∀ q : Nat, q ≠ a → H1[q]? = H[q]?) (hat : va_at B.1 gCL (a, g_conc B.2.1 c) H1) : g_Abs B A H1 (g_up h a c) := by
  obtain ⟨h1, h2, h3, h4, h5, L, h6, h7, h8, h9⟩ := hA
  obtain ⟨k0, hk0⟩ := h8 a c0 hc
  have hl := (List.getElem?_eq_some_iff.mp hk0).1
  refine ⟨hz.trans h1, by rw [hz]; exact h2, fun q hq => ?_, h4, fun q x e => ?_, L.set k0 (a, g_conc B.2.1 c), h6.set h7 hk0 hat ho, h7.set hk0, fun q x e => ?_, fun k q hk => ?_⟩
  · have := h5 a c0 hc
    rw [ho q (by omega)]; exact h3 q hq
  · by_cases hq : q = a
    · subst hq; exact h5 _ _ hc
    · simp only [g_up, if_neg hq] at e
      exact h5 _ _ e
  · by_cases hq : q = a
    · subst hq
      simp only [g_up, if_pos] at e
      cases e
      exact ⟨k0, by rw [List.getElem?_set_self hl]⟩
    · simp only [g_up, if_neg hq] at e
      obtain ⟨k, hk⟩ := h8 q x e
      have hne : k0 ≠ k := by
        intro z; subst z; rw [hk0] at hk; exact hq (congrArg Prod.fst (Option.some.inj hk)).symm
      exact ⟨k, by rw [List.getElem?_set_ne hne]; exact hk⟩
  · by_cases hkk : k0 = k
    · subst hkk
      rw [List.getElem?_set_self hl] at hk
      cases hk
      exact ⟨c, by simp [g_up], rfl⟩
    · rw [List.getElem?_set_ne hkk] at hk
      obtain ⟨x, e1, e2⟩ := h9 k q hk
      have hq : q.1 ≠ a := by
        intro z
        have := h7.1 k k0 q (a, g_conc B.2.1 c0) hk hk0 z
        exact hkk this.symm
      exact ⟨x, by simp only [g_up, if_neg hq]; exact e1, e2⟩
theorem g_Abs.new {B : g_B} {A : Nat → Prop} {H H1 : Heap} {h : g_AH} (hA : g_Abs B A H h) {c : g_OB} {z : Nat} (hz : H1.size = H.size + 1) (ho : ∀ q : Nat, q < H.size → H1[q]? = H[q]?) (hat : va_at B.1 gCL (g_n h, g_conc B.2.1 c) H1) (hAn : A (g_n h)) : g_Abs B A H1 (g_al h c z) := by
  have hA0 := hA
  obtain ⟨h1, h2, h3, h4, h5, L, h6, h7, h8, h9⟩ := hA
  have hno : h.1 (g_n h) = none := by
    cases e : h.1 (g_n h) with
    | none => rfl
    | some c' => exact absurd (hA0.lt e) (Nat.lt_irrefl _)
  have hP1 : va_P B.1 gCL L H1 := h6.kept (fun k q hk => ho q.1 (h6 k q hk).lt)
  refine ⟨by rw [hz, h1]; rfl, by omega, fun q hq => ?_, h4, fun q x e => ?_, L ++ [(g_n h, g_conc B.2.1 c)], hP1.app ?_, h7.push h6 h1.symm hAn, fun q x e => ?_, fun k q hk => ?_⟩
  · rw [ho q (by omega)]; exact h3 q hq
  · by_cases hq : q = g_n h
    · subst hq; rw [← h1]; exact h2
    · simp only [g_al, if_neg hq] at e
      exact h5 _ _ e
  · intro k q hk
    have hz : k < 1 := (List.getElem?_eq_some_iff.mp hk).1
    rw [show k = 0 by omega] at hk
    cases hk
    exact hat
  · by_cases hq : q = g_n h
    · subst hq
      simp only [g_al, if_pos] at e
      cases e
      exact ⟨L.length, by simp⟩
    · simp only [g_al, if_neg hq] at e
      obtain ⟨k, hk⟩ := h8 q x e
      have hl := (List.getElem?_eq_some_iff.mp hk).1
      exact ⟨k, by rw [List.getElem?_append_left hl]; exact hk⟩
  · by_cases hl : k < L.length
    · rw [List.getElem?_append_left hl] at hk
      obtain ⟨x, e1, e2⟩ := h9 k q hk
      have hq : q.1 ≠ g_n h := fun z => by rw [z, hno] at e1; cases e1
      exact ⟨x, by simp only [g_al, if_neg hq]; exact e1, e2⟩
    · rw [List.getElem?_append_right (by omega)] at hk
      have hz : k - L.length < 1 := (List.getElem?_eq_some_iff.mp hk).1
      rw [show k - L.length = 0 by omega] at hk
      cases hk
      exact ⟨c, by simp [g_al], rfl⟩
