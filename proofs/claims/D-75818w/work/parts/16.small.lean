/-! small rows that the printed walks use; the model's own state M (arrays by field number, int fields by number, the long) -/
theorem g_let_inv {α β : Type} {x : β} {k : β → Option α} {z : α} (e : g_let x k = some z) : k x = some z := e
theorem g_mk_inv {α : Type} {h : g_AH} {c : g_OB} {sz : Nat} {k : Nat → g_AH → Option α} {z : α} (e : g_mk h c sz k = some z) : k (g_n h) (g_al h c sz) = some z := e
theorem g_neI {x v : Int32} {n : Int} (e : v.toInt = n) (h : ¬ x = v) : ¬ x.toInt = n := fun q => h (Int32.toInt_inj.mp (q.trans e.symm))
section G16
variable {X : g_X} {K : g_M} {r : g_RV} {he h : g_AH} {pc pc' : Nat} {Lc : List (Nat × Value)} {st st' rest : List Value} {i : Nat}
theorem g_stk (e : st = st') (k : G X K r he h pc Lc st') : G X K r he h pc Lc st := e ▸ k
theorem g_start2 {l : Launch} {B : g_B} {y : MethodName} {K : g_M} {vals : List Value} {h he : g_AH} {r : g_RV} {Lc : List (Nat × Value)} (hy : plainName y.cls = true) (hcls : y.cls = k_own K) (hnm : y.name = k_nm K) (hv : (lg_sl vals).length ≤ k_nL K) (hL : lv_args 0 vals = Lc)
    (g : ∀ X : g_X, G X K r he h 0 Lc []) (hh : k_hh K = [] := by rfl) (hm : k_mo K = 0 := by rfl) : g_CT l B y K vals h r he := g_start hy hcls hnm hv (fun X _ _ _ => by rw [hL]; exact g X) hh hm
theorem g_castO {o : Option Nat} {ci : Nat} {q : vw_C} (d : decode (k_cc K) pc = .ok (.checkcast i, 3)) (e : o = none ∨ ∃ a fs, o = some a ∧ g_look h a = some (.inr (ci, fs))) (hq : gCL[ci]? = some q) (q1 : Jvm.Cond.classLink (k_own K) i q.1 ∈ lw_all) (p : pc + 3 = pc') (k : G X K r he h pc' Lc (va_rf o :: rest)) : G X K r he h pc Lc (va_rf o :: rest) := by
  rcases e with rfl | ⟨a, fs, rfl, hc⟩
  · exact g_castN d p k
  · exact g_castS d hc hq q1 p k
theorem g_newa0 {n : Int32} (d : decode (k_cc K) pc = .ok (.newarray .int, 2)) (hn : ¬ n < 0) (hN : n.toNatClampNeg ≤ 1000000) (p : pc + 2 = pc') (k : G X K r he (g_al h (.inl (0, n.toNatClampNeg, .inl (fun _ => 0))) n.toNatClampNeg) pc' Lc (.ref (g_n h) :: rest)) : G X K r he h pc Lc (.int n :: rest) :=
  g_newa (ty := .int) rfl d q252 (fun _ => rfl) (fun C e => by cases e) (fun cA => rfl) hn rfl (Nat.le_trans (Nat.mul_le_mul hN (show componentBytes .int ≤ 8 by decide)) (by decide)) p k
theorem g_newa1 {n : Int32} (d : decode (k_cc K) pc = .ok (.newarray .boolean, 2)) (hn : ¬ n < 0) (hN : n.toNatClampNeg ≤ 1000000) (p : pc + 2 = pc') (k : G X K r he (g_al h (.inl (1, n.toNatClampNeg, .inl (fun _ => 0))) n.toNatClampNeg) pc' Lc (.ref (g_n h) :: rest)) : G X K r he h pc Lc (.int n :: rest) :=
  g_newa (ty := .boolean) rfl d q759 (fun _ => rfl) (fun C e => by cases e) (fun cA => rfl) hn rfl (Nat.le_trans (Nat.mul_le_mul hN (show componentBytes .boolean ≤ 8 by decide)) (by decide)) p k
theorem g_newa2 {n : Int32} (d : decode (k_cc K) pc = .ok (.newarray .byte, 2)) (hn : ¬ n < 0) (hN : n.toNatClampNeg ≤ 1000000) (p : pc + 2 = pc') (k : G X K r he (g_al h (.inl (2, n.toNatClampNeg, .inl (fun _ => 0))) n.toNatClampNeg) pc' Lc (.ref (g_n h) :: rest)) : G X K r he h pc Lc (.int n :: rest) :=
  g_newa (ty := .byte) rfl d q253 (fun _ => rfl) (fun C e => by cases e) (fun cA => rfl) hn rfl (Nat.le_trans (Nat.mul_le_mul hN (show componentBytes .byte ≤ 8 by decide)) (by decide)) p k
/-- new X(); throw it: the exceptions of the JDK -/
theorem g_throwX {cls : String} {names : List String} {ik ic : Nat} (hcls : Bundle.fit cls = true) (hnames : ∀ n ∈ names, Bundle.fit n = true) (qk : Jvm.Cond.classLink (k_own K) ik cls ∈ lw_all) (qi : Jvm.Cond.initialized cls ∈ lw_all) (hat : ∀ w ∈ vx_at0 (k_own K) ic cls names, w ∈ lw_tbl) (hgood : ∀ w ∈ Cond.classLink (k_own K) ik cls :: Cond.initialized cls :: vx_at0 (k_own K) ic cls names, vx_ot w = true) (hg2 : ∀ w ∈ vx_at0 (k_own K) ic cls names, (goodWord w || g_nwk w) = true)
    (d0 : decode (k_cc K) pc = .ok (.new ik, 3)) (d3 : decode (k_cc K) (pc + 3) = .ok (.dup, 1)) (d4 : decode (k_cc K) (pc + 4) = .ok (.invokespecial ic, 3)) (d7 : decode (k_cc K) (pc + 7) = .ok (.athrow, 1)) (er : r = .inr (cls, none)) (eh : he = g_th h) (hst : (rest.map fun v => v.category).sum ≤ 8) (hn : names.length + 3 < k_lev K) (hl9 : names.length ≤ 4) (hh : k_hh K = [] := by rfl) : G X K r he h pc Lc rest := by
  subst er; subst eh
  have hleT : g_Le h (g_th h) := ⟨Nat.le_refl _, Nat.le_succ _, Nat.le_add_right _ _, rfl, fun q c e => Or.inl ⟨c, e⟩⟩
  refine ⟨g_Lf.of hleT, fun hx hle H locs ls hA hS hl => ?_⟩
  have hb := hx.2.2.2.2.2.2.2.2.2.2.2
  have zq : ∀ {C n d : String}, vx_Zq C n d (fun q => (x_B X).2.2.1.size ≤ q) (x_st X) (x_B X).2.2.1 → vx_Zq C n d (g_A (x_h X)) (x_st X) (x_st X).heap := by
    intro C n d z
    obtain ⟨z1, z2⟩ := z
    have zk : ∀ a : Nat, a < (x_B X).2.2.1.size → ¬ (fun q => (x_B X).2.2.1.size ≤ q) a → (x_st X).heap[a]? = (x_B X).2.2.1[a]? := fun a ha _ => hb.1 a ha
    have z3 : vx_Zq C n d (fun q => (x_B X).2.2.1.size ≤ q) (x_st X) (x_st X).heap := vx_Zq.kept ⟨z1, z2⟩ zk
    exact z3.narrow (fun q hq => hb.2.1 q hq)
  have hK := hx.2.2.2.2.2.2.2.1
  have hword : ∀ w ∈ vx_at0 (k_own K) ic cls names, w.before (x_args X) (x_st X) = true := by
    intro w hw
    have g2 := hg2 w hw
    rcases Bool.or_eq_true_iff.mp g2 with g3 | g3
    · exact hx.2.2.2.2.1 _ (lw_g (hat w hw) g3)
    · have h8 := hK.2.1 w (g_nw_in (hat w hw) g3)
      exact h8.use (g_nw_tab (g_nw_in (hat w hw) g3))
  obtain ⟨-, a1, a2, -⟩ := hle
  have e1 : g_c (g_th h) = g_c h + 1 := rfl
  have e2 : g_s (g_th h) = g_s h + 6 := rfl
  refine vx_throw0 (A := g_A (x_h X)) hx.1 hx.2.1 hx.2.2.2.2.2.2.2.2.1 hx.2.2.2.1 hcls hnames (hx.2.2.2.2.1 _ qk) (hx.2.2.2.2.1 _ qi) hword hgood (zq hK.2.2.2.2.1) (zq hK.2.2.2.2.2.1) hS (by rw [hx.2.2.1]; exact hl.1) d0 d3 d4 d7 (g_noH hx hh) hn (by show _ + (13 * (names.length + 1) + 42) ≤ 64 * k_lev K; omega) (by show _ ≤ g_c (g_th h) - _; omega) (by show _ ≤ g_s (g_th h) - _; omega) hx.2.2.2.2.2.1 ?_ hS.2.2 (by omega) (by omega)
  intro q9 t hal hsz hkeep
  obtain ⟨h1, h2, h3, h4, h5, L, h6, h7, h8, h9⟩ := hA
  refine ⟨none, rfl, fun a e => (by cases e), ⟨rfl, Nat.le_trans h2 hsz, fun q hq => (hkeep q (Nat.lt_of_lt_of_le hq h2)).trans (h3 q hq), h4, h5, L, h6.kept (fun k q hk => hkeep q.1 (h6 k q hk).lt), h7, h8, h9⟩, (by show g_n h ≤ _; rw [← h1]; exact hsz), Nat.le_trans hS.1 hsz, fun q g1 g2 => (hkeep q (Nat.lt_of_lt_of_le g1 hS.1)).trans (hS.2.1 q g1 g2)⟩
end G16
theorem gdf_0 : ∀ j, j < 7 → defaultValue (gty 0 j) = vp_V [.null, .null, .null, .null, .int 0, .int 0, .int 0] j := by
  intro j hj
  rcases (show j = 0 ∨ j = 1 ∨ j = 2 ∨ j = 3 ∨ j = 4 ∨ j = 5 ∨ j = 6 by omega) with rfl | rfl | rfl | rfl | rfl | rfl | rfl <;> rfl
theorem gdf_1 : ∀ j, j < 14 → defaultValue (gty 1 j) = vp_V [.null, .null, .null, .null, .null, .null, .int 0, .int 0, .int 0, .int 0, .int 0, .int 0, .int 0, .int 0] j := by
  intro j hj
  rcases (show j = 0 ∨ j = 1 ∨ j = 2 ∨ j = 3 ∨ j = 4 ∨ j = 5 ∨ j = 6 ∨ j = 7 ∨ j = 8 ∨ j = 9 ∨ j = 10 ∨ j = 11 ∨ j = 12 ∨ j = 13 by omega) with rfl | rfl | rfl | rfl | rfl | rfl | rfl | rfl | rfl | rfl | rfl | rfl | rfl | rfl <;> rfl
theorem gdf_2 : ∀ j, j < 0 → defaultValue (gty 2 j) = vp_V [] j := fun j h => absurd h (Nat.not_lt_zero j)
theorem gdf_3 : ∀ j, j < 0 → defaultValue (gty 3 j) = vp_V [] j := fun j h => absurd h (Nat.not_lt_zero j)
theorem gdf_4 : ∀ j, j < 0 → defaultValue (gty 4 j) = vp_V [] j := fun j h => absurd h (Nat.not_lt_zero j)
theorem gdf_5 : ∀ j, j < 0 → defaultValue (gty 5 j) = vp_V [] j := fun j h => absurd h (Nat.not_lt_zero j)
theorem gdf_6 : ∀ j, j < 4 → defaultValue (gty 6 j) = vp_V [.null, .null, .null, .int 0] j := by
  intro j hj
  rcases (show j = 0 ∨ j = 1 ∨ j = 2 ∨ j = 3 by omega) with rfl | rfl | rfl | rfl <;> rfl
theorem gdf_7 : ∀ j, j < 29 → defaultValue (gty 7 j) = vp_V [.null, .null, .null, .null, .null, .null, .int 0, .int 0, .null, .int 0, .int 0, .int 0, .int 0, .int 0, .int 0, .int 0, .int 0, .long 0, .int 0, .int 0, .int 0, .null, .null, .null, .int 0, .int 0, .int 0, .int 0, .null] j := by
  intro j hj
  rcases (show j = 0 ∨ j = 1 ∨ j = 2 ∨ j = 3 ∨ j = 4 ∨ j = 5 ∨ j = 6 ∨ j = 7 ∨ j = 8 ∨ j = 9 ∨ j = 10 ∨ j = 11 ∨ j = 12 ∨ j = 13 ∨ j = 14 ∨ j = 15 ∨ j = 16 ∨ j = 17 ∨ j = 18 ∨ j = 19 ∨ j = 20 ∨ j = 21 ∨ j = 22 ∨ j = 23 ∨ j = 24 ∨ j = 25 ∨ j = 26 ∨ j = 27 ∨ j = 28 by omega) with rfl | rfl | rfl | rfl | rfl | rfl | rfl | rfl | rfl | rfl | rfl | rfl | rfl | rfl | rfl | rfl | rfl | rfl | rfl | rfl | rfl | rfl | rfl | rfl | rfl | rfl | rfl | rfl | rfl <;> rfl
theorem gdf_8 : ∀ j, j < 8 → defaultValue (gty 8 j) = vp_V [.int 0, .null, .int 0, .int 0, .int 0, .int 0, .null, .null] j := by
  intro j hj
  rcases (show j = 0 ∨ j = 1 ∨ j = 2 ∨ j = 3 ∨ j = 4 ∨ j = 5 ∨ j = 6 ∨ j = 7 by omega) with rfl | rfl | rfl | rfl | rfl | rfl | rfl | rfl <;> rfl
theorem gdf_9 : ∀ j, j < 8 → defaultValue (gty 9 j) = vp_V [.null, .null, .null, .null, .null, .int 0, .int 0, .int 0] j := by
  intro j hj
  rcases (show j = 0 ∨ j = 1 ∨ j = 2 ∨ j = 3 ∨ j = 4 ∨ j = 5 ∨ j = 6 ∨ j = 7 by omega) with rfl | rfl | rfl | rfl | rfl | rfl | rfl | rfl <;> rfl
theorem gdf_10 : ∀ j, j < 5 → defaultValue (gty 10 j) = vp_V [.int 0, .null, .null, .null, .null] j := by
  intro j hj
  rcases (show j = 0 ∨ j = 1 ∨ j = 2 ∨ j = 3 ∨ j = 4 by omega) with rfl | rfl | rfl | rfl | rfl <;> rfl
theorem gdf_11 : ∀ j, j < 5 → defaultValue (gty 11 j) = vp_V [.int 0, .int 0, .int 0, .int 0, .int 0] j := by
  intro j hj
  rcases (show j = 0 ∨ j = 1 ∨ j = 2 ∨ j = 3 ∨ j = 4 by omega) with rfl | rfl | rfl | rfl | rfl <;> rfl
theorem gdf_12 : ∀ j, j < 15 → defaultValue (gty 12 j) = vp_V [.int 0, .int 0, .null, .null, .int 0, .int 0, .int 0, .int 0, .int 0, .int 0, .int 0, .int 0, .int 0, .int 0, .int 0] j := by
  intro j hj
  rcases (show j = 0 ∨ j = 1 ∨ j = 2 ∨ j = 3 ∨ j = 4 ∨ j = 5 ∨ j = 6 ∨ j = 7 ∨ j = 8 ∨ j = 9 ∨ j = 10 ∨ j = 11 ∨ j = 12 ∨ j = 13 ∨ j = 14 by omega) with rfl | rfl | rfl | rfl | rfl | rfl | rfl | rfl | rfl | rfl | rfl | rfl | rfl | rfl | rfl <;> rfl
theorem gdf_13 : ∀ j, j < 5 → defaultValue (gty 13 j) = vp_V [.null, .int 0, .null, .null, .int 0] j := by
  intro j hj
  rcases (show j = 0 ∨ j = 1 ∨ j = 2 ∨ j = 3 ∨ j = 4 by omega) with rfl | rfl | rfl | rfl | rfl <;> rfl
theorem gdf_14 : ∀ j, j < 8 → defaultValue (gty 14 j) = vp_V [.int 0, .int 0, .int 0, .int 0, .int 0, .int 0, .int 0, .int 0] j := by
  intro j hj
  rcases (show j = 0 ∨ j = 1 ∨ j = 2 ∨ j = 3 ∨ j = 4 ∨ j = 5 ∨ j = 6 ∨ j = 7 by omega) with rfl | rfl | rfl | rfl | rfl | rfl | rfl | rfl <;> rfl
theorem gdf_15 : ∀ j, j < 3 → defaultValue (gty 15 j) = vp_V [.int 0, .null, .int 0] j := by
  intro j hj
  rcases (show j = 0 ∨ j = 1 ∨ j = 2 by omega) with rfl | rfl | rfl <;> rfl
theorem gdf_16 : ∀ j, j < 4 → defaultValue (gty 16 j) = vp_V [.int 0, .int 0, .int 0, .null] j := by
  intro j hj
  rcases (show j = 0 ∨ j = 1 ∨ j = 2 ∨ j = 3 by omega) with rfl | rfl | rfl | rfl <;> rfl
theorem gdf_17 : ∀ j, j < 4 → defaultValue (gty 17 j) = vp_V [.null, .int 0, .int 0, .int 0] j := by
  intro j hj
  rcases (show j = 0 ∨ j = 1 ∨ j = 2 ∨ j = 3 by omega) with rfl | rfl | rfl | rfl <;> rfl
theorem gdf_18 : ∀ j, j < 4 → defaultValue (gty 18 j) = vp_V [.null, .int 0, .int 0, .int 0] j := by
  intro j hj
  rcases (show j = 0 ∨ j = 1 ∨ j = 2 ∨ j = 3 by omega) with rfl | rfl | rfl | rfl <;> rfl
