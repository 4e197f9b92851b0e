/-! G: words of inherited and interface calls; instanceof; statics of unknown references; the class of an object -/
theorem g_inWs {y : MethodName} {b : ByteArray} {L : Nat} {r : Option FieldType} (h : Cond.code y b L r ∈ lw_all) : ∀ w ∈ ws_ y b L r, w ∈ lw_all := fun w hw => (lw_meth h w hw).1
theorem g_wsU {own : String} {idx : Nat} {C owner : String} {x y : MethodName} {b : ByteArray} {L : Nat} {r : Option FieldType} (h1 : Cond.methodLink own idx x ∈ lw_all) (h2 : Cond.sameMethod x.cls owner x.name x.desc ∈ lw_all) (h3 : Cond.selects C x y ∈ lw_all) (h4 : Cond.instanceMethod y ∈ lw_all) (h5 : Cond.initialized y.cls ∈ lw_all) (h6 : Cond.code y b L r ∈ lw_all) : ∀ w ∈ va_wsU own idx C owner x y (ws_ y b L r), w ∈ lw_all := by
  intro w hw
  rcases List.mem_append.mp hw with e | e
  · simp only [List.mem_cons, List.not_mem_nil, or_false] at e
    rcases e with e | e | e | e | e <;> rw [e] <;> assumption
  · exact g_inWs h6 w e
theorem g_wsSU {own : String} {idx : Nat} {y : MethodName} {b : ByteArray} {L : Nat} {r : Option FieldType} (h1 : Cond.methodLink own idx y ∈ lw_all) (h2 : Cond.sameMethod y.cls y.cls y.name y.desc ∈ lw_all) (h3 : Cond.superclass own y.cls ∈ lw_all) (h4 : Cond.instanceMethod y ∈ lw_all) (h5 : Cond.initialized y.cls ∈ lw_all) (h6 : Cond.code y b L r ∈ lw_all) : ∀ w ∈ va_wsSU own idx y (ws_ y b L r), w ∈ lw_all := by
  intro w hw
  rcases List.mem_append.mp hw with e | e
  · simp only [List.mem_cons, List.not_mem_nil, or_false] at e
    rcases e with e | e | e | e | e <;> rw [e] <;> assumption
  · exact g_inWs h6 w e
theorem g_wsF {own : String} {idx : Nat} {C : String} {x y : MethodName} {b : ByteArray} {L : Nat} {r : Option FieldType} (h1 : Cond.methodLink own idx x ∈ lw_all) (h3 : Cond.selects C x y ∈ lw_all) (h4 : Cond.instanceMethod y ∈ lw_all) (h5 : Cond.initialized y.cls ∈ lw_all) (h6 : Cond.code y b L r ∈ lw_all) : ∀ w ∈ va_wsF own idx C x y (ws_ y b L r), w ∈ lw_all := by
  intro w hw
  rcases List.mem_append.mp hw with e | e
  · simp only [List.mem_cons, List.not_mem_nil, or_false] at e
    rcases e with e | e | e | e <;> rw [e] <;> assumption
  · exact g_inWs h6 w e
def g_cls {α : Type} (h : g_AH) (a : Nat) (k : Nat → Option α) : Option α := match g_look h a with
  | some (.inr (c, _)) => k c
  | _ => none
theorem g_cls_inv {α : Type} {h : g_AH} {a : Nat} {k : Nat → Option α} {z : α} (e : g_cls h a k = some z) : ∃ c fs, g_look h a = some (.inr (c, fs)) ∧ k c = some z := by
  unfold g_cls at e
  split at e
  · exact ⟨_, _, by assumption, e⟩
  · cases e
section G19c
variable {X : g_X} {K : g_M} {r : g_RV} {he h : g_AH} {pc pc' : Nat} {Lc : List (Nat × Value)} {st st' rest : List Value} {i : Nat}
theorem g_instS {a ci : Nat} {fs : List Value} {q : vw_C} (d : decode (k_cc K) pc = .ok (.instanceof i, 3)) (hc : g_look h a = some (.inr (ci, fs))) (hq : gCL[ci]? = some q) (q1 : Jvm.Cond.classLink (k_own K) i q.1 ∈ lw_all) (p : pc + 3 = pc') (k : G X K r he h pc' Lc (.int 1 :: rest)) : G X K r he h pc Lc (.ref a :: rest) := by
  subst p
  refine g_pureX k fun hx R H locs ls u v Q hA hS hl w => ?_
  exact va_instS hx.1 hx.2.1 hx.2.2.2.1 (hx.2.2.2.2.1 _ q1) (hx.2.2.2.2.2.2.2.1.1.1 ci q hq).2 (g_recv hx hA hc hq) d (w ls hl)
theorem g_getst {t : String × String × String × Nat} (d : decode (k_cc K) pc = .ok (.getstatic i, 3)) (ht : t ∈ g_sts) (q1 : Jvm.Cond.fieldLink (k_own K) i t.1 t.2.1 t.2.2.1 ∈ lw_all) (p : pc + 3 = pc') (k : G X K r he h pc' Lc (va_rf (g_opt (g_str h t.2.2.2)) :: rest)) : G X K r he h pc Lc rest := by
  subst p
  refine g_pureX k fun hx R H locs ls u v Q hA hS hl w => ?_
  have h1 := hx.2.2.2.2.2.2.2.1.2.2.2.2.2.2.2.2.2.2.2.2 t ht
  have hb := hx.2.2.2.2.2.2.2.2.2.2.2
  have e3 : g_str h t.2.2.2 = (x_B X).2.2.2.2 t.2.2.2 := congrFun hA.2.2.2.1.2 t.2.2.2
  rw [e3] at w
  have hZ : va_Z t.1 t.2.1 t.2.2.1 (va_rf (g_opt ((x_B X).2.2.2.2 t.2.2.2))) (g_A (x_h X)) (x_st X) (x_st X).heap := by
    obtain ⟨cf, kf, fi, f, a, cell, z1, z2, z3, z4, z5, z6, z7, z8⟩ := h1
    have ha : a < (x_B X).2.2.1.size := (Array.getElem?_eq_some_iff.mp z5).1
    exact ⟨cf, kf, fi, f, a, cell, z1, z2, z3, z4, by rw [hb.1 a ha]; exact z5, z6, z7, fun z => by have := hb.2.1 a z; omega⟩
  exact va_gets hx.1 hx.2.1 hZ hS hx.2.2.2.1 (hx.2.2.2.2.1 _ q1) (fun _ h9 => h9) d (w ls hl)
theorem g_sel_priv {y y2 : MethodName} {s : State} {args : Array Value} {C : String} (hcl : y2.cls = y.cls) (hy : y.cls ≠ "java/lang/invoke/MethodHandle" ∧ y.cls ≠ "java/lang/invoke/VarHandle") (hpriv : (Cond.privateMethod y).before args s = true) (hinst : (Cond.instanceMethod y).before args s = true) (hinst2 : (Cond.instanceMethod y2).before args s = true) (h2 : (Cond.selects C y2 y2).before args s = true) :
    (Cond.selects C y y).before args s = true := by
  obtain ⟨mk, methM, hnamed, hmethM, -, -⟩ := Cond.instanceMethod_spec hinst
  obtain ⟨mk2, methM2, hnamed2, -, -, -⟩ := Cond.instanceMethod_spec hinst2
  have e1 := findClass_of_methodNamed hnamed
  have e2 := findClass_of_methodNamed hnamed2
  rw [hcl] at e2
  have e3 : mk2.cls = mk.cls := Option.some.inj (e2.symm.trans e1)
  have hfound : s.methodFound? y.cls y.name y.desc = some mk := State.methodFound?_of_named hnamed hy
  have hfound2 : s.methodFound? y2.cls y2.name y2.desc = some mk2 := State.methodFound?_of_named hnamed2 (by rw [hcl]; exact hy)
  simp only [Cond.before, Cond.holds, Cond.value, hfound2, hnamed2] at h2
  simp only [Cond.before, Cond.holds, Cond.value, hfound, hnamed]
  cases hc : s.vm.findClass C with
  | none => rw [hc] at h2; simp at h2
  | some c =>
    rw [hc] at h2
    have hsel : selectMethod {} s.vm c mk = .method mk := selectMethod_private hmethM (Cond.privateMethod_at hpriv mk methM hnamed hmethM)
    simp only [hsel]
    cases hm : selectMethod {} s.vm c mk2 with
    | method m9 => dsimp only at h2; rw [hm] at h2; simp only [e3] at h2; simp at h2 ⊢; exact h2.2
    | _ => dsimp only at h2; rw [hm] at h2; simp at h2
/-- a private method of the receiver's superclass -/
theorem g_callP (n : Nat) {y y2 : MethodName} {Ky : g_M} {As : List Value} {h1 : g_AH} {rv : Option Value} {b ci : Nat} {fs : List Value} {q : vw_C} (hM : g_CT (x_l X) (x_B X) y Ky (.ref b :: As) h (.inl rv) h1) (d : decode (k_cc K) pc = .ok (.invokevirtual i, 3)) (hc : g_look h b = some (.inr (ci, fs))) (hq : gCL[ci]? = some q) (q1 : Jvm.Cond.methodLink (k_own K) i y ∈ lw_all) (q2 : Jvm.Cond.sameMethod y.cls y.cls y.name y.desc ∈ lw_all) (q3 : Jvm.Cond.privateMethod y ∈ lw_tbl) (q4 : Jvm.Cond.instanceMethod y ∈ lw_all) (q5 : Jvm.Cond.initialized y.cls ∈ lw_all) (q6 : Jvm.Cond.code y (k_cc Ky) (k_nL Ky) (k_ret Ky) ∈ lw_all) (hcl : y2.cls = y.cls) (q7 : Jvm.Cond.instanceMethod y2 ∈ lw_all) (q8 : Jvm.Cond.selects q.1 y2 y2 ∈ lw_all) (hd : g_dsc y n) (hn : As.length = n) (hv : g_lev Ky K) (hst : (rest.map fun v => v.category).sum ≤ 8) (p : pc + 3 = pc') (k : G X K r he h1 pc' Lc (rv.toList ++ rest)) : G X K r he h pc Lc (As.reverse ++ .ref b :: rest) := by
  refine g_after (av := (Value.ref b :: As).toArray) p (hM.1 X) k fun hx c1 c2 hle H locs ls hA hl => ?_
  have ts := hx.2.2.2.2.1
  have hpriv : (Cond.privateMethod y).before (x_args X) (x_st X) = true := (hx.2.2.2.2.2.2.2.1.2.1 _ (g_nw_in q3 rfl)).use rfl
  have hsel := g_sel_priv (C := q.1) hcl ⟨hd.1, hd.2.1⟩ hpriv (ts _ q4) (ts _ q7) (ts _ q8)
  have hts2 : ∀ w ∈ Cond.selects q.1 y y :: lw_all, w.before (x_args X) (x_st X) = true := by
    intro w hw
    rcases List.mem_cons.mp hw with e | e
    · rw [e]; exact hsel
    · exact ts w e
  have hG : GoodIn (Cond.selects q.1 y y :: lw_all) (va_wsU (k_own K) i q.1 y.cls y y (ws_ y (k_cc Ky) (k_nL Ky) (k_ret Ky))) := by
    intro w hw
    rcases List.mem_append.mp hw with e | e
    · simp only [List.mem_cons, List.not_mem_nil, or_false] at e
      rcases e with e | e | e | e | e <;> rw [e]
      · exact ⟨List.mem_cons_of_mem _ q1, (lw_self _ q1).2⟩
      · exact ⟨List.mem_cons_of_mem _ q2, (lw_self _ q2).2⟩
      · exact ⟨List.mem_cons_self, good_of_word rfl⟩
      · exact ⟨List.mem_cons_of_mem _ q4, (lw_self _ q4).2⟩
      · exact ⟨List.mem_cons_of_mem _ q5, (lw_self _ q5).2⟩
    · have := g_inWs q6 w e
      exact ⟨List.mem_cons_of_mem _ this, (lw_self _ this).2⟩
  exact vx_runU ⟨hx.1, hx.2.1, hx.2.2.1, hx.2.2.2.1, hts2⟩ (hM.2 hx.2.2.2.2.2.2.2.2.1) (va_cwU n hts2 hG rfl rfl rfl rfl ⟨hd.1, hd.2.1, hd.2.2⟩ (g_levR hv)) ⟨g_blind, g_recv hx hA hc hq, g_pre hx hA (.ref b :: As)⟩ rfl hn hl.1 rfl (lv_room hst) d (g_room hle (hM.1 X) c1 c2)
/-- an overriding method: x is named (of class owner), y runs -/
theorem g_callO (n : Nat) {x y : MethodName} {Ky : g_M} {As : List Value} {h1 : g_AH} {rv : Option Value} {b ci : Nat} {fs : List Value} {q : vw_C} {b0 : ByteArray} {m0 : Nat} {r0 : Option FieldType} (hM : g_CT (x_l X) (x_B X) y Ky (.ref b :: As) h (.inl rv) h1) (d : decode (k_cc K) pc = .ok (.invokevirtual i, 3)) (hc : g_look h b = some (.inr (ci, fs))) (hq : gCL[ci]? = some q) (q1 : Jvm.Cond.methodLink (k_own K) i x ∈ lw_all) (q2 : Jvm.Cond.sameMethod x.cls x.cls x.name x.desc ∈ lw_all) (q3 : Jvm.Cond.instanceMethod x ∈ lw_all) (q4 : Jvm.Cond.selects q.1 x y ∈ lw_all) (q5 : Jvm.Cond.instanceMethod y ∈ lw_all) (q6 : Jvm.Cond.initialized y.cls ∈ lw_all) (q7 : Jvm.Cond.code y (k_cc Ky) (k_nL Ky) (k_ret Ky) ∈ lw_all) (q8 : Jvm.Cond.code x b0 m0 r0 ∈ lw_all) (hd : g_dsc x n) (hn : As.length = n) (hv : g_lev Ky K) (hst : (rest.map fun v => v.category).sum ≤ 8) (p : pc + 3 = pc') (k : G X K r he h1 pc' Lc (rv.toList ++ rest)) : G X K r he h pc Lc (As.reverse ++ .ref b :: rest) := by
  refine g_after (av := (Value.ref b :: As).toArray) p (hM.1 X) k fun hx c1 c2 hle H locs ls hA hl => ?_
  have hG : GoodIn lw_all (va_wsO (k_own K) i q.1 x.cls x y (ws_ y (k_cc Ky) (k_nL Ky) (k_ret Ky))) := by
    intro w hw
    refine lw_self w ?_
    rcases List.mem_append.mp hw with e | e
    · simp only [List.mem_cons, List.not_mem_nil, or_false] at e
      rcases e with e | e | e | e | e | e <;> rw [e] <;> assumption
    · exact g_inWs q7 w e
  exact vx_runU (g_fit hx) (hM.2 hx.2.2.2.2.2.2.2.2.1) (va_cwO n hx.2.2.2.2.1 hG rfl rfl rfl q8 ⟨hd.1, hd.2.1, hd.2.2⟩ (g_levR hv)) ⟨g_blind, g_recv hx hA hc hq, g_pre hx hA (.ref b :: As)⟩ rfl hn hl.1 rfl (lv_room hst) d (g_room hle (hM.1 X) c1 c2)
end G19c
