/-! G: rows over the heap -/
section GBASE
variable {p : Program} {l : Launch} {e : Env} {R : Room} {s : State} {m : MethodId} {args : Array Value} {below : List Frame} {meth : Method} {c : Code} {H : Heap} {locs : List Loc} {cells slots : Nat} {Q : State → Prop}
variable {cc : ByteArray} {pc : Nat} {ls : Array Slot} {rest : List Value} {D : va_G} {cl : List vw_C} {a : Nat} {tys : List (ClassId × FieldType)}
/-- a field's store, what it leaves said cell by cell: kind 0 a plain field, 1 a final field in a constructor, 2 a nest mate's -/
theorem gw_put (hexec : p.tables.exec = Jvm.exec) (hb : c.code = cc) {own ref : String} {ci index : Nat} {q : vw_C} (hts : ∀ w ∈ lw_all, w.before args s = true) (hin : ∀ w ∈ u_ws q.1 q.2.1 q.2.2, w ∈ lw_all) (ty0 : Nat → FieldType) (hty : ∀ k, k < q.2.2 → parseFieldDescriptor (q.2.1 k).2.2.1 = some (ty0 k)) (hnm : ∀ a, a < q.2.2 → ∀ b, b < q.2.2 → a ≠ b → (q.2.1 a).2.1 ≠ (q.2.1 b).2.1) (hown : s.vm.findClass own = some m.cls) (hK : va_K D cl tys s) {fs : List Value} (hP : va_P D cl [(a, .inr (ci, fs))] H) (hc : cl[ci]? = some q) (k : Nat) (hk : k < q.2.2)
    (hlink : (∃ host, (Cond.fieldLinkNest own index ref (q.2.1 k).2.1 (q.2.1 k).2.2.1 host).before args s = true) ∨ (Cond.fieldLink own index ref (q.2.1 k).2.1 (q.2.1 k).2.2.1).before args s = true) (hsame : ∀ x, s.fieldFound? (q.2.1 k).1 (q.2.1 k).2.1 (q.2.1 k).2.2.1 = some x → s.fieldFound? ref (q.2.1 k).2.1 (q.2.1 k).2.2.1 = some x) (hfin : (q.2.1 k).2.2.2 = false) {v : Value} (hn : narrow (ty0 k) v = v) (hfit : fits (ty0 k) v = true) (hl : k < fs.length)
    (hdg : decode cc pc = .ok (.putfield index, 3)) (kk : ∀ (H1 : Heap) (z : Nat), H1.size = H.size → (∀ x : Nat, x ≠ a → H1[x]? = H[x]?) → va_at D cl (a, .inr (ci, fs.set k v)) H1 → W p l e R s m args below meth c H1 (locs ++ [⟨a, z⟩]) cells slots Q (F0 m (pc + 3) ls rest)) : W p l e R s m args below meth c H locs cells slots Q (F0 m pc ls (v :: .ref a :: rest)) := by
  have hap := va_apart (own := own) hts hin ty0 hty hnm hK hc
  obtain ⟨r, h1, cell, q1, q2, q3, q4⟩ := hP 0 (a, .inr (ci, fs)) rfl
  have hr : r = q := Option.some.inj (h1.symm.trans hc)
  subst hr
  obtain ⟨hS, hfc, kC, hkC, hkind⟩ := hK.1 ci _ hc
  obtain ⟨cf, kf, fi, f, hi, hsl⟩ := hS k hk
  have hlay := hts _ (hin _ (u_in_lay hk))
  unfold u_lay at hlay
  rw [if_neg (by rw [hfin]; decide)] at hlay
  have hst := (u_facts hfc hkC (u_lays hts hin hk) hi).1
  have h6 := u_store hfc hkC hkind hlay hi (hty k hk) hn hfit
  rcases hlink with ⟨host, hlink⟩ | hlink
  · refine va_WputK hexec hb (f := f) hown hlink (hsame _ hi) hst (by rw [q2]; exact h6) q1 q3 (by rw [hsl]; exact k2_hasslot (q4 k hk)) rfl rfl hdg fun H' e1 e2 e3 => ?_
    rw [hsl] at e1 ⊢
    exact kk H' _ e2 e3 ⟨_, hc, t_OB.to (V := updV (vp_V fs) k v) ⟨_, e1, q2, q3, t_set q4 hap hk v⟩ (fun j _ => vp_updV_set hl v j)⟩
  · refine W.putK hexec hb (f := f) ⟨hown, hlink, ⟨_, _, _, hsame _ hi⟩, hst⟩ (by rw [q2]; exact h6) q1 q3 (by rw [hsl]; exact k2_hasslot (q4 k hk)) rfl rfl hdg fun H' e1 e2 e3 => ?_
    rw [hsl] at e1 ⊢
    exact kk H' _ e2 e3 ⟨_, hc, t_OB.to (V := updV (vp_V fs) k v) ⟨_, e1, q2, q3, t_set q4 hap hk v⟩ (fun j _ => vp_updV_set hl v j)⟩
theorem gw_putF (hexec : p.tables.exec = Jvm.exec) (hb : c.code = cc) {own ref : String} {ci index : Nat} {q : vw_C} (hts : ∀ w ∈ lw_all, w.before args s = true) (hin : ∀ w ∈ u_ws q.1 q.2.1 q.2.2, w ∈ lw_all) (ty0 : Nat → FieldType) (hty : ∀ k, k < q.2.2 → parseFieldDescriptor (q.2.1 k).2.2.1 = some (ty0 k)) (hnm : ∀ a, a < q.2.2 → ∀ b, b < q.2.2 → a ≠ b → (q.2.1 a).2.1 ≠ (q.2.1 b).2.1) (hown : s.vm.findClass own = some m.cls) (hK : va_K D cl tys s) {fs : List Value} (hP : va_P D cl [(a, .inr (ci, fs))] H) (hc : cl[ci]? = some q) (k : Nat) (hk : k < q.2.2)
    (hlink : (Cond.fieldLink own index ref (q.2.1 k).2.1 (q.2.1 k).2.2.1).before args s = true) (hsame : ∀ x, s.fieldFound? (q.2.1 k).1 (q.2.1 k).2.1 (q.2.1 k).2.2.1 = some x → s.fieldFound? ref (q.2.1 k).2.1 (q.2.1 k).2.2.1 = some x) (hfin : (q.2.1 k).2.2.2 = true) (hin2 : meth.name = "<init>") (hdecl : (q.2.1 k).1 = own) {v : Value} (hn : narrow (ty0 k) v = v) (hfit : fits (ty0 k) v = true) (hl : k < fs.length)
    (hdg : decode cc pc = .ok (.putfield index, 3)) (kk : ∀ (H1 : Heap) (z : Nat), H1.size = H.size → (∀ x : Nat, x ≠ a → H1[x]? = H[x]?) → va_at D cl (a, .inr (ci, fs.set k v)) H1 → W p l e R s m args below meth c H1 (locs ++ [⟨a, z⟩]) cells slots Q (F0 m (pc + 3) ls rest)) : W p l e R s m args below meth c H locs cells slots Q (F0 m pc ls (v :: .ref a :: rest)) := by
  have hap := va_apart (own := own) hts hin ty0 hty hnm hK hc
  obtain ⟨r, h1, cell, q1, q2, q3, q4⟩ := hP 0 (a, .inr (ci, fs)) rfl
  have hr : r = q := Option.some.inj (h1.symm.trans hc)
  subst hr
  obtain ⟨hS, hfc, kC, hkC, hkind⟩ := hK.1 ci _ hc
  obtain ⟨cf, kf, fi, f, hi, hsl⟩ := hS k hk
  have hlay := hts _ (hin _ (u_in_lay hk))
  unfold u_lay at hlay
  rw [if_pos hfin] at hlay
  have hst := (u_facts hfc hkC (u_lays hts hin hk) hi).1
  have hcf : m.cls = cf := by
    obtain ⟨_, _, c', _, _, _, -, -, hf', -, -, -, hown2, -⟩ := Cond.laysFinal_spec hlay
    have e1 : c' = cf := by have := hi.symm.trans hf'; simp at this; exact this.1.symm
    rw [hdecl] at hown2
    rw [← e1]; exact Option.some.inj (hown.symm.trans hown2)
  have h6 := u_fits hfc hkC hkind (Or.inr hlay) hi (hty k hk) hn hfit
  refine W.putFinK hexec hb hown hlink (hsame _ hi) hst hcf hin2 (by rw [q2]; exact h6) q1 q3 (by rw [hsl]; exact k2_hasslot (q4 k hk)) rfl rfl hdg fun H' e1 e2 e3 => ?_
  rw [hsl] at e1 ⊢
  exact kk H' _ e2 e3 ⟨_, hc, t_OB.to (V := updV (vp_V fs) k v) ⟨_, e1, q2, q3, t_set q4 hap hk v⟩ (fun j _ => vp_updV_set hl v j)⟩
end GBASE
theorem g_own {h : g_AH} {a : Nat} {c : g_OB} (e : h.1 a = some c) : g_look h a = some c := by simp [g_look, e]
section GHEAP
variable {X : g_X} {K : g_M} {r : g_RV} {he h : g_AH} {pc pc' : Nat} {Lc : List (Nat × Value)} {st : List Value}
theorem g_A_in (hle : g_Le (x_h X) h) {a : Nat} {c : g_OB} (e : h.1 a = some c) : g_A (x_h X) a := g_A_sub hle a (Or.inl ⟨c, e⟩)
/-- a write: the heap's picture with one cell changed -/
theorem g_write {a : Nat} {c0 c : g_OB} {st' : List Value} (e : h.1 a = some c0) (k : G X K r he (g_up h a c) pc' Lc st')
    (f : g_GX X K → ∀ (R : Room) (H : Heap) (locs : List Loc) (ls : Array Slot) (u v : Nat) (Q : State → Prop), g_Abs (x_B X) (g_A (x_h X)) H h → lv_has ls (k_nL K) Lc →
      (∀ (H1 : Heap) (z : Nat), H1.size = H.size → (∀ x : Nat, x ≠ a → H1[x]? = H[x]?) → va_at (x_B X).1 gCL (a, g_conc (x_B X).2.1 c) H1 → g_W X R H1 (locs ++ [⟨a, z⟩]) u v Q (F0 (x_m X) pc' ls st')) → g_W X R H locs u v Q (F0 (x_m X) pc ls st)) : G X K r he h pc Lc st := by
  refine ⟨(g_Le.up e).trf k.1, fun hx hle H locs ls hA hS hl => f hx _ H locs ls _ _ _ hA hl fun H1 z hz ho hat => ?_⟩
  exact k.2 hx (hle.tr (g_Le.up e)) H1 (locs ++ [⟨a, z⟩]) ls (hA.upd e hz ho hat) (hS.put hz ho (g_A_in hle e)) hl
/-- a new cell -/
theorem g_make {c : g_OB} {z : Nat} {st' : List Value} (k : G X K r he (g_al h c z) pc' Lc st')
    (f : g_GX X K → ∀ (R : Room) (H : Heap) (locs : List Loc) (ls : Array Slot) (u v : Nat) (Q : State → Prop), u + 1 ≤ R.cells → v + z ≤ R.slots → g_Abs (x_B X) (g_A (x_h X)) H h → va_S (g_A (x_h X)) (x_st X).heap H locs → lv_has ls (k_nL K) Lc →
      (∀ H1 : Heap, H1.size = H.size + 1 → (∀ x : Nat, x < H.size → H1[x]? = H[x]?) → va_at (x_B X).1 gCL (g_n h, g_conc (x_B X).2.1 c) H1 → g_W X R H1 locs (u + 1) (v + z) Q (F0 (x_m X) pc' ls st')) → g_W X R H locs u v Q (F0 (x_m X) pc ls st)) : G X K r he h pc Lc st := by
  refine ⟨g_Le.al.trf k.1, fun hx hle H locs ls hA hS hl => ?_⟩
  have e1 : g_c (g_al h c z) = g_c h + 1 := rfl
  have e2 : g_s (g_al h c z) = g_s h + z := rfl
  have hle0 := hle
  obtain ⟨-, l1, l2, -⟩ := hle0
  obtain ⟨-, m1, m2, -⟩ := k.1
  rw [e1] at m1
  rw [e2] at m2
  refine f hx _ H locs ls _ _ _ (by show _ ≤ g_c he - g_c (x_h X); omega) (by show _ ≤ g_s he - g_s (x_h X); omega) hA hS hl fun H1 hz ho hat => ?_
  have hn : g_A (x_h X) (g_n h) := Or.inr hle.1
  have w := k.2 hx (hle.tr g_Le.al) H1 locs ls (hA.new hz ho hat hn) ⟨by rw [hz]; exact Nat.le_trans hS.1 (Nat.le_succ _), fun q h1 h2 => (ho q (Nat.lt_of_lt_of_le h1 hS.1)).trans (hS.2.1 q h1 h2), hS.2.2⟩ hl
  exact W.widen (by rw [e1]; omega) (by rw [e2]; omega) w
theorem g_getf {a ci kf i : Nat} {fs : List Value} {v : Value} {q : vw_C} {ref : String} (d : decode (k_cc K) pc = .ok (.getfield i, 3)) (hc : g_look h a = some (.inr (ci, fs))) (hq : gCL[ci]? = some q) (hk : kf < q.2.2) (hv : fs[kf]? = some v) (hl : Jvm.Cond.fieldLink (k_own K) i ref (q.2.1 kf).2.1 (q.2.1 kf).2.2.1 ∈ lw_all) (hs : (q.2.1 kf).1 = ref ∨ Jvm.Cond.sameField ref (q.2.1 kf).1 (q.2.1 kf).2.1 (q.2.1 kf).2.2.1 ∈ lw_all) (p : pc + 3 = pc') (k : G X K r he h pc' Lc (v :: st)) : G X K r he h pc Lc (.ref a :: st) := by
  subst p
  refine g_pureX k fun hx R H locs ls u t Q hA hS hl2 w => ?_
  have hsame : ∀ x, (x_st X).fieldFound? (q.2.1 kf).1 (q.2.1 kf).2.1 (q.2.1 kf).2.2.1 = some x → (x_st X).fieldFound? ref (q.2.1 kf).2.1 (q.2.1 kf).2.2.1 = some x := by
    rcases hs with e | e
    · rw [e]; exact fun _ h9 => h9
    · exact fun x hx9 => u_same (hx.2.2.2.2.1 _ e) x hx9
  exact va_get (Ts := lw_all) (D := (x_B X).1) (ci := ci) (C := q.1) (T := q.2.1) (N := q.2.2) hx.1 hx.2.1 hx.2.2.2.2.1 (gCL_ok ci q hq).1 hx.2.2.2.1 hx.2.2.2.2.2.2.2.1.1 (hA.at hc) 0 rfl hq kf hk (hx.2.2.2.2.1 _ hl) hsame hv d (w ls hl2)
theorem g_getfN {a ci kf i : Nat} {fs : List Value} {v : Value} {q : vw_C} {ref host : String} (d : decode (k_cc K) pc = .ok (.getfield i, 3)) (hc : g_look h a = some (.inr (ci, fs))) (hq : gCL[ci]? = some q) (hk : kf < q.2.2) (hv : fs[kf]? = some v) (hl : Jvm.Cond.fieldLinkNest (k_own K) i ref (q.2.1 kf).2.1 (q.2.1 kf).2.2.1 host ∈ lw_tbl) (hs : (q.2.1 kf).1 = ref) (p : pc + 3 = pc') (k : G X K r he h pc' Lc (v :: st)) : G X K r he h pc Lc (.ref a :: st) := by
  subst p
  refine g_pureX k fun hx R H locs ls u t Q hA hS hl2 w => ?_
  have hw := hx.2.2.2.2.2.2.2.1.2.1 _ (g_nw_in hl rfl)
  exact va_getN (Ts := lw_all) (D := (x_B X).1) (ci := ci) (C := q.1) (T := q.2.1) (N := q.2.2) hx.1 hx.2.1 hx.2.2.2.2.1 (gCL_ok ci q hq).1 hx.2.2.2.1 hx.2.2.2.2.2.2.2.1.1 (hA.at hc) 0 rfl hq kf hk (hw.use rfl) (by rw [hs]; exact fun _ h9 => h9) hv d (w ls hl2)
theorem g_putf {a ci kf i : Nat} {fs : List Value} {v : Value} {q : vw_C} {ref : String} (d : decode (k_cc K) pc = .ok (.putfield i, 3)) (hc : h.1 a = some (.inr (ci, fs))) (hq : gCL[ci]? = some q) (hk : kf < q.2.2) (hlen : kf < fs.length) (hfin : (q.2.1 kf).2.2.2 = false) (hn : narrow (gty ci kf) v = v) (hft : fits (gty ci kf) v = true) (hl : Jvm.Cond.fieldLink (k_own K) i ref (q.2.1 kf).2.1 (q.2.1 kf).2.2.1 ∈ lw_all) (hs : (q.2.1 kf).1 = ref ∨ Jvm.Cond.sameField ref (q.2.1 kf).1 (q.2.1 kf).2.1 (q.2.1 kf).2.2.1 ∈ lw_all) (p : pc + 3 = pc') (k : G X K r he (g_up h a (.inr (ci, fs.set kf v))) pc' Lc st) : G X K r he h pc Lc (v :: .ref a :: st) := by
  subst p
  refine g_write hc k fun hx R H locs ls u t Q hA hl2 w => ?_
  have hsame : ∀ x, (x_st X).fieldFound? (q.2.1 kf).1 (q.2.1 kf).2.1 (q.2.1 kf).2.2.1 = some x → (x_st X).fieldFound? ref (q.2.1 kf).2.1 (q.2.1 kf).2.2.1 = some x := by
    rcases hs with e | e
    · rw [e]; exact fun _ h9 => h9
    · exact fun x hx9 => u_same (hx.2.2.2.2.1 _ e) x hx9
  exact gw_put hx.1 hx.2.1 hx.2.2.2.2.1 (gCL_ok ci q hq).1 (gty ci) (gCL_ok ci q hq).2.1 (gCL_ok ci q hq).2.2 hx.2.2.2.1 hx.2.2.2.2.2.2.2.1.1 (hA.at (g_own hc)) hq kf hk (Or.inr (hx.2.2.2.2.1 _ hl)) hsame hfin hn hft hlen d w
theorem g_putfN {a ci kf i : Nat} {fs : List Value} {v : Value} {q : vw_C} {ref host : String} (d : decode (k_cc K) pc = .ok (.putfield i, 3)) (hc : h.1 a = some (.inr (ci, fs))) (hq : gCL[ci]? = some q) (hk : kf < q.2.2) (hlen : kf < fs.length) (hfin : (q.2.1 kf).2.2.2 = false) (hn : narrow (gty ci kf) v = v) (hft : fits (gty ci kf) v = true) (hl : Jvm.Cond.fieldLinkNest (k_own K) i ref (q.2.1 kf).2.1 (q.2.1 kf).2.2.1 host ∈ lw_tbl) (hs : (q.2.1 kf).1 = ref) (p : pc + 3 = pc') (k : G X K r he (g_up h a (.inr (ci, fs.set kf v))) pc' Lc st) : G X K r he h pc Lc (v :: .ref a :: st) := by
  subst p
  refine g_write hc k fun hx R H locs ls u t Q hA hl2 w => ?_
  have hw := hx.2.2.2.2.2.2.2.1.2.1 _ (g_nw_in hl rfl)
  exact gw_put hx.1 hx.2.1 hx.2.2.2.2.1 (gCL_ok ci q hq).1 (gty ci) (gCL_ok ci q hq).2.1 (gCL_ok ci q hq).2.2 hx.2.2.2.1 hx.2.2.2.2.2.2.2.1.1 (hA.at (g_own hc)) hq kf hk (Or.inl ⟨host, hw.use rfl⟩) (by rw [hs]; exact fun _ h9 => h9) hfin hn hft hlen d w
theorem g_putfF {a ci kf i : Nat} {fs : List Value} {v : Value} {q : vw_C} {ref : String} (d : decode (k_cc K) pc = .ok (.putfield i, 3)) (hnm : k_nm K = "<init>") (hc : h.1 a = some (.inr (ci, fs))) (hq : gCL[ci]? = some q) (hk : kf < q.2.2) (hlen : kf < fs.length) (hfin : (q.2.1 kf).2.2.2 = true) (hdecl : (q.2.1 kf).1 = k_own K) (hn : narrow (gty ci kf) v = v) (hft : fits (gty ci kf) v = true) (hl : Jvm.Cond.fieldLink (k_own K) i ref (q.2.1 kf).2.1 (q.2.1 kf).2.2.1 ∈ lw_all) (hs : (q.2.1 kf).1 = ref) (p : pc + 3 = pc') (k : G X K r he (g_up h a (.inr (ci, fs.set kf v))) pc' Lc st) : G X K r he h pc Lc (v :: .ref a :: st) := by
  subst p
  refine g_write hc k fun hx R H locs ls u t Q hA hl2 w => ?_
  exact gw_putF hx.1 hx.2.1 hx.2.2.2.2.1 (gCL_ok ci q hq).1 (gty ci) (gCL_ok ci q hq).2.1 (gCL_ok ci q hq).2.2 hx.2.2.2.1 hx.2.2.2.2.2.2.2.1.1 (hA.at (g_own hc)) hq kf hk (hx.2.2.2.2.1 _ hl) (by rw [hs]; exact fun _ h9 => h9) hfin (hx.2.2.2.2.2.2.2.2.2.1.trans hnm) hdecl hn hft hlen d w
/-- arrays -/
theorem g_alen {a t : Nat} {x : vp_A} {n : Int32} (d : decode (k_cc K) pc = .ok (.arraylength, 1)) (hc : g_look h a = some (.inl (t, x))) (ht : t < 8) (hn : Int32.ofNat x.1 = n) (p : pc + 1 = pc') (k : G X K r he h pc' Lc (.int n :: st)) : G X K r he h pc Lc (.ref a :: st) := by
  subst p
  refine g_pureX k fun hx R H locs ls u v Q hA hS hl2 w => ?_
  have htt : ∃ ty, (g_TY (x_B X).2.1)[t]? = some ((x_B X).2.1 t, ty) := by
    rcases (show t = 0 ∨ t = 1 ∨ t = 2 ∨ t = 3 ∨ t = 4 ∨ t = 5 ∨ t = 6 ∨ t = 7 by omega) with rfl | rfl | rfl | rfl | rfl | rfl | rfl | rfl <;> exact ⟨_, rfl⟩
  obtain ⟨ty, hty⟩ := htt
  exact va_alen hx.1 hx.2.1 hx.2.2.2.2.2.2.2.1.1 (hA.at hc) 0 t rfl hty hn d (w ls hl2)
theorem g_iald {a n : Nat} {f : Nat → Int32} {i : Int32} (d : decode (k_cc K) pc = .ok (.iaload, 1)) (hc : g_look h a = some (.inl (0, n, .inl f))) (hi : vp_in i n) (p : pc + 1 = pc') (k : G X K r he h pc' Lc (.int (f i.toNatClampNeg) :: st)) : G X K r he h pc Lc (.int i :: .ref a :: st) := by
  subst p
  exact g_pureX k fun hx R H locs ls u v Q hA hS hl2 w => va_iald hx.1 hx.2.1 hx.2.2.2.2.2.2.2.1.1 (hA.at hc) 0 0 rfl rfl hi d (w ls hl2)
theorem g_zald {a n : Nat} {f : Nat → Int32} {i : Int32} (d : decode (k_cc K) pc = .ok (.baload, 1)) (hc : g_look h a = some (.inl (1, n, .inl f))) (hi : vp_in i n) (p : pc + 1 = pc') (k : G X K r he h pc' Lc (.int (f i.toNatClampNeg) :: st)) : G X K r he h pc Lc (.int i :: .ref a :: st) := by
  subst p
  exact g_pureX k fun hx R H locs ls u v Q hA hS hl2 w => va_zald hx.1 hx.2.1 hx.2.2.2.2.2.2.2.1.1 (hA.at hc) 0 1 rfl rfl hi d (w ls hl2)
theorem g_bald {a n : Nat} {f : Nat → Int32} {i : Int32} (d : decode (k_cc K) pc = .ok (.baload, 1)) (hc : g_look h a = some (.inl (2, n, .inl f))) (hi : vp_in i n) (p : pc + 1 = pc') (k : G X K r he h pc' Lc (.int (f i.toNatClampNeg) :: st)) : G X K r he h pc Lc (.int i :: .ref a :: st) := by
  subst p
  exact g_pureX k fun hx R H locs ls u v Q hA hS hl2 w => va_bald hx.1 hx.2.1 hx.2.2.2.2.2.2.2.1.1 (hA.at hc) 0 2 rfl rfl hi d (w ls hl2)
theorem g_lald {a n : Nat} {f : Nat → Int64} {i : Int32} (d : decode (k_cc K) pc = .ok (.laload, 1)) (hc : g_look h a = some (.inl (3, n, .inr (.inl f)))) (hi : vp_in i n) (p : pc + 1 = pc') (k : G X K r he h pc' Lc (.long (f i.toNatClampNeg) :: st)) : G X K r he h pc Lc (.int i :: .ref a :: st) := by
  subst p
  exact g_pureX k fun hx R H locs ls u v Q hA hS hl2 w => va_lald hx.1 hx.2.1 hx.2.2.2.2.2.2.2.1.1 (hA.at hc) 0 3 rfl rfl hi d (w ls hl2)
theorem g_dald {a n : Nat} {f : Nat → UInt64} {i : Int32} (d : decode (k_cc K) pc = .ok (.daload, 1)) (hc : g_look h a = some (.inl (4, n, .inr (.inr (.inr (.inl f)))))) (hi : vp_in i n) (p : pc + 1 = pc') (k : G X K r he h pc' Lc (.double (f i.toNatClampNeg) :: st)) : G X K r he h pc Lc (.int i :: .ref a :: st) := by
  subst p
  exact g_pureX k fun hx R H locs ls u v Q hA hS hl2 w => va_dald hx.1 hx.2.1 hx.2.2.2.2.2.2.2.1.1 (hA.at hc) 0 4 rfl rfl hi d (w ls hl2)
theorem g_TYq (AC : Nat → ClassId) {t : Nat} (ht : decide (5 ≤ t ∧ t < 8) = true) : ∃ C, (g_TY AC)[t]? = some (AC t, .object C) := by
  have h := of_decide_eq_true ht
  rcases (show t = 5 ∨ t = 6 ∨ t = 7 by omega) with rfl | rfl | rfl <;> exact ⟨_, rfl⟩
theorem g_aald {a n t : Nat} {f : Nat → Option Nat} {i : Int32} (d : decode (k_cc K) pc = .ok (.aaload, 1)) (hc : g_look h a = some (.inl (t, n, .inr (.inr (.inr (.inr f)))))) (ht : decide (5 ≤ t ∧ t < 8) = true) (hi : vp_in i n) (p : pc + 1 = pc') (k : G X K r he h pc' Lc (va_rf (f i.toNatClampNeg) :: st)) : G X K r he h pc Lc (.int i :: .ref a :: st) := by
  subst p
  refine g_pureX k fun hx R H locs ls u v Q hA hS hl2 w => ?_
  obtain ⟨C, hC⟩ := g_TYq (x_B X).2.1 ht
  exact va_aldq hx.1 hx.2.1 hx.2.2.2.2.2.2.2.1.1 (hA.at hc) 0 t rfl hC hi d (w ls hl2)
theorem g_iast {a n : Nat} {f : Nat → Int32} {i x : Int32} (d : decode (k_cc K) pc = .ok (.iastore, 1)) (hc : h.1 a = some (.inl (0, n, .inl f))) (hi : vp_in i n) (p : pc + 1 = pc') (k : G X K r he (g_up h a (.inl (0, n, .inl (upd f i.toNatClampNeg x)))) pc' Lc st) : G X K r he h pc Lc (.int x :: .int i :: .ref a :: st) := by
  subst p
  refine g_write hc k fun hx R H locs ls u t Q hA hl2 w => ?_
  refine W.iast hx.1 hx.2.1 (hA.at (g_own hc) 0 _ rfl) ((hx.2.2.2.2.2.2.2.1.1.2 0 _ rfl).1 n (fun j => .int (f j))) (fun q => by cases q) (by show ¬ (i < 0 ∨ (arrV _ _ _).slots.size ≤ _); rw [arrV_size]; exact hi) rfl rfl d fun H1 e z oq => w H1 _ z oq ?_
  show H1[a]? = some (vp_cell _ _)
  rw [e, vp_cell_i, vp_cell_i, arrV_store]
  congr 2
  funext q
  by_cases hq : q = i.toNatClampNeg
  · subst hq; simp [updV, upd]
  · simp [updV, upd, hq]
theorem g_zast {a n : Nat} {f : Nat → Int32} {i x : Int32} (d : decode (k_cc K) pc = .ok (.bastore, 1)) (hc : h.1 a = some (.inl (1, n, .inl f))) (hi : vp_in i n) (p : pc + 1 = pc') (k : G X K r he (g_up h a (.inl (1, n, .inl (upd f i.toNatClampNeg (vp_nar .boolean x))))) pc' Lc st) : G X K r he h pc Lc (.int x :: .int i :: .ref a :: st) := by
  subst p
  refine g_write hc k fun hx R H locs ls u t Q hA hl2 w => ?_
  refine W.zast hx.1 hx.2.1 (hA.at (g_own hc) 0 _ rfl) ((hx.2.2.2.2.2.2.2.1.1.2 1 _ rfl).1 n (fun j => .int (f j))) (fun q => by cases q) (by show ¬ (i < 0 ∨ (arrV _ _ _).slots.size ≤ _); rw [arrV_size]; exact hi) rfl rfl d fun H1 e z oq => w H1 _ z oq ?_
  show H1[a]? = some (vp_cell _ _)
  rw [e, vp_cell_i, vp_cell_i, arrV_store]
  congr 2
  funext q
  by_cases hq : q = i.toNatClampNeg
  · subst hq; simp [updV, upd]; rfl
  · simp [updV, upd, hq]
theorem g_bast {a n : Nat} {f : Nat → Int32} {i x : Int32} (d : decode (k_cc K) pc = .ok (.bastore, 1)) (hc : h.1 a = some (.inl (2, n, .inl f))) (hi : vp_in i n) (p : pc + 1 = pc') (k : G X K r he (g_up h a (.inl (2, n, .inl (upd f i.toNatClampNeg (vp_nar .byte x))))) pc' Lc st) : G X K r he h pc Lc (.int x :: .int i :: .ref a :: st) := by
  subst p
  refine g_write hc k fun hx R H locs ls u t Q hA hl2 w => ?_
  refine W.bast hx.1 hx.2.1 (hA.at (g_own hc) 0 _ rfl) ((hx.2.2.2.2.2.2.2.1.1.2 2 _ rfl).1 n (fun j => .int (f j))) (fun q => by cases q) (by show ¬ (i < 0 ∨ (arrV _ _ _).slots.size ≤ _); rw [arrV_size]; exact hi) rfl rfl d fun H1 e z oq => w H1 _ z oq ?_
  show H1[a]? = some (vp_cell _ _)
  rw [e, vp_cell_i, vp_cell_i, arrV_store]
  congr 2
  funext q
  by_cases hq : q = i.toNatClampNeg
  · subst hq; simp [updV, upd]; rfl
  · simp [updV, upd, hq]
theorem g_last {a n : Nat} {f : Nat → Int64} {i : Int32} {x : Int64} (d : decode (k_cc K) pc = .ok (.lastore, 1)) (hc : h.1 a = some (.inl (3, n, .inr (.inl f)))) (hi : vp_in i n) (p : pc + 1 = pc') (k : G X K r he (g_up h a (.inl (3, n, .inr (.inl (vp_updL f i.toNatClampNeg x))))) pc' Lc st) : G X K r he h pc Lc (.long x :: .int i :: .ref a :: st) := by
  subst p
  refine g_write hc k fun hx R H locs ls u t Q hA hl2 w => ?_
  refine W.last hx.1 hx.2.1 (hA.at (g_own hc) 0 _ rfl) ((hx.2.2.2.2.2.2.2.1.1.2 3 _ rfl).1 n (fun j => .long (f j))) (fun q => by cases q) (by show ¬ (i < 0 ∨ (arrV _ _ _).slots.size ≤ _); rw [arrV_size]; exact hi) rfl rfl d fun H1 e z oq => w H1 _ z oq ?_
  show H1[a]? = some (vp_cell _ _)
  rw [e, vp_cell_l, vp_cell_l, arrV_store]
  congr 2
  funext q
  by_cases hq : q = i.toNatClampNeg
  · subst hq; simp [updV, vp_updL]
  · simp [updV, vp_updL, hq]
theorem g_dast {a n : Nat} {f : Nat → UInt64} {i : Int32} {x : UInt64} (d : decode (k_cc K) pc = .ok (.dastore, 1)) (hc : h.1 a = some (.inl (4, n, .inr (.inr (.inr (.inl f)))))) (hi : vp_in i n) (p : pc + 1 = pc') (k : G X K r he (g_up h a (.inl (4, n, .inr (.inr (.inr (.inl (vf_upd f i.toNatClampNeg x))))))) pc' Lc st) : G X K r he h pc Lc (.double x :: .int i :: .ref a :: st) := by
  subst p
  refine g_write hc k fun hx R H locs ls u t Q hA hl2 w => ?_
  refine W.dast hx.1 hx.2.1 (hA.at (g_own hc) 0 _ rfl) ((hx.2.2.2.2.2.2.2.1.1.2 4 _ rfl).1 n (fun j => .double (f j))) (fun q => by cases q) (by show ¬ (i < 0 ∨ (arrV _ _ _).slots.size ≤ _); rw [arrV_size]; exact hi) rfl rfl d fun H1 e z oq => w H1 _ z oq ?_
  show H1[a]? = some (vp_cell _ _)
  rw [e, vp_cell_d, vp_cell_d, arrV_store]
  congr 2
  funext q
  by_cases hq : q = i.toNatClampNeg
  · subst hq; simp [updV, vf_upd]
  · simp [updV, vf_upd, hq]
end GHEAP
