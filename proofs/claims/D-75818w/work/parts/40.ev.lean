/-! LEVEL 2: the mirrors' operations forward: what they compute where the cells are known -/
section EV
variable {α : Type} {h : g_AH} {a ci kf t n : Nat} {fs : List Value} {i : Int32}
theorem e_own {c : g_OB} (hc : h.1 a = some c) : g_look h a = some c := by
  unfold g_look; rw [hc]
theorem e_gI {k : Int32 → Option α} {x : Int32} (hc : g_look h a = some (.inr (ci, fs))) (hv : fs[kf]? = some (.int x)) : g_gI h a ci kf k = k x := by
  simp only [g_gI, hc, hv, if_pos]
theorem e_gR {k : Option Nat → Option α} {o : Option Nat} (hc : g_look h a = some (.inr (ci, fs))) (hv : fs[kf]? = some (va_rf o)) : g_gR h a ci kf k = k o := by
  cases o with
  | none => simp only [g_gR, hc, hv, if_pos, va_rf]
  | some b => simp only [g_gR, hc, hv, if_pos, va_rf]
theorem e_pF {k : g_AH → Option α} {v : Value} (hc : h.1 a = some (.inr (ci, fs))) (hk : kf < fs.length) : g_pF h a ci kf v k = k (g_up h a (.inr (ci, fs.set kf v))) := by
  simp only [g_pF, hc, hk, and_self, if_pos]
theorem e_nn {k : Nat → Option α} : g_nn (some a) k = k a := rfl
theorem e_aI {k : Int32 → Option α} {f : Nat → Int32} (hc : g_look h a = some (.inl (t, n, .inl f))) (hi : vp_in i n) : g_aI h t a i k = k (f i.toNatClampNeg) := by
  have h2 : t = t ∧ ¬ (i < 0 ∨ n ≤ i.toNatClampNeg) := ⟨rfl, hi⟩
  unfold g_aI; rw [hc]; exact if_pos h2
theorem e_sI {k : g_AH → Option α} {f : Nat → Int32} {x : Int32} (hc : h.1 a = some (.inl (t, n, .inl f))) (hi : vp_in i n) : g_sI h t a i x k = k (g_up h a (.inl (t, n, .inl (upd f i.toNatClampNeg x)))) := by
  have h2 : t = t ∧ ¬ (i < 0 ∨ n ≤ i.toNatClampNeg) := ⟨rfl, hi⟩
  unfold g_sI; rw [hc]; exact if_pos h2
theorem e_aA {k : Option Nat → Option α} {f : Nat → Option Nat} (hc : g_look h a = some (.inl (t, n, .inr (.inr (.inr (.inr f)))))) (hi : vp_in i n) : g_aA h t a i k = k (f i.toNatClampNeg) := by
  have h2 : t = t ∧ ¬ (i < 0 ∨ n ≤ i.toNatClampNeg) := ⟨rfl, hi⟩
  unfold g_aA; rw [hc]; exact if_pos h2
theorem e_sA {k : g_AH → Option α} {f : Nat → Option Nat} {o : Option Nat} (hc : h.1 a = some (.inl (t, n, .inr (.inr (.inr (.inr f)))))) (hi : vp_in i n) (ho : g_okE h t o = true) : g_sA h t a i o k = k (g_up h a (.inl (t, n, .inr (.inr (.inr (.inr (va_up f i.toNatClampNeg o))))))) := by
  have h2 : (t = t ∧ ¬ (i < 0 ∨ n ≤ i.toNatClampNeg)) ∧ g_okE h t o = true := ⟨⟨rfl, hi⟩, ho⟩
  unfold g_sA; rw [hc]; exact if_pos h2
theorem e_len {k : Int32 → Option α} {x : vp_A} (hc : g_look h a = some (.inl (t, x))) (ht : t < 8) : g_len h a k = k (Int32.ofNat x.1) := by
  simp only [g_len, hc, if_pos ht]
theorem e_ckN {k : Option α} : g_ck h none ci k = k := rfl
theorem e_ck {k : Option α} (hc : g_look h a = some (.inr (ci, fs))) : g_ck h (some a) ci k = k := by
  simp only [g_ck, hc, if_pos]
theorem e_is {k : Option α} (hc : g_look h a = some (.inr (ci, fs))) : g_is h a ci k = k := by
  simp only [g_is, hc, if_pos]
theorem e_isA {k : Option α} {x : vp_A} (hc : g_look h a = some (.inl (t, x))) : g_isA h t a k = k := by
  simp only [g_isA, hc, if_pos]
theorem e_mk {k : Nat → g_AH → Option α} {c : g_OB} {sz : Nat} : g_mk h c sz k = k (g_n h) (g_al h c sz) := rfl
theorem e_mkA {k : Nat → g_AH → Option α} (h0 : ¬ i < 0) (h1 : i.toNatClampNeg ≤ 1000000) : g_mkA h t i k = k (g_n h) (g_al h (.inl (t, i.toNatClampNeg, .inl (fun _ => 0))) i.toNatClampNeg) := by
  have h2 : ¬ (i < 0 ∨ 1000000 < i.toNatClampNeg) := fun q => q.elim h0 (fun q => absurd h1 (Nat.not_le_of_lt q))
  simp only [g_mkA, if_neg h2]
theorem e_mkQ {k : Nat → g_AH → Option α} (h0 : ¬ i < 0) (h1 : i.toNatClampNeg ≤ 1000000) : g_mkQ h t i k = k (g_n h) (g_al h (.inl (t, i.toNatClampNeg, .inr (.inr (.inr (.inr (fun _ => none)))))) i.toNatClampNeg) := by
  have h2 : ¬ (i < 0 ∨ 1000000 < i.toNatClampNeg) := fun q => q.elim h0 (fun q => absurd h1 (Nat.not_le_of_lt q))
  simp only [g_mkQ, if_neg h2]
theorem e_cl {k : Nat → g_AH → Option α} {f : Nat → Int32} (hc : g_look h a = some (.inl (t, n, .inl f))) (hf : ∀ j, j < n → g_fitT t (f j) = true) : g_cl h t a k = k (g_n h) (g_al h (.inl (t, n, .inl f)) n) := by
  have h2 : t = t ∧ ∀ j, j < n → g_fitT t (f j) = true := ⟨rfl, hf⟩
  unfold g_cl; rw [hc]; exact if_pos h2
theorem e_b {β : Type} {f : Option β} {x : β} {k : β → Option α} (e : f = some x) : g_b f k = k x := by rw [e]; rfl
theorem e_b2 {β : Type} {f : Option (β × g_AH)} {x : β} {h' : g_AH} {k : β → g_AH → Option α} (e : f = some (x, h')) : g_b2 f k = k x h' := by rw [e]; rfl
theorem e_bx {β : Type} {f : Option ((β ⊕ g_EX) × g_AH)} {x : β} {h' : g_AH} {k : β → g_AH → Option ((α ⊕ g_EX) × g_AH)} (e : f = some (.inl x, h')) : g_bx f k = k x h' := by rw [e]; rfl
theorem e_bxX {β : Type} {f : Option ((β ⊕ g_EX) × g_AH)} {x : g_EX} {h' : g_AH} {k : β → g_AH → Option ((α ⊕ g_EX) × g_AH)} (e : f = some (.inr x, h')) : g_bx f k = some (.inr x, h') := by rw [e]; rfl
theorem e_bM {β : Type} {f : Option (β × g_MD)} {x : β} {M : g_MD} {k : β → g_MD → Option α} (e : f = some (x, M)) : g_bM f k = k x M := by rw [e]; rfl
/-- small numbers as Int32 -/
theorem i_cl {n : Nat} (h : n < 2147483648) : (Int32.ofNat n).toNatClampNeg = n := by
  have h1 : (Int32.ofNat n).toInt = n := Int32.toInt_ofNat_of_lt h
  show (Int32.ofNat n).toInt.toNat = n
  rw [h1]; rfl
theorem i_add {a b : Nat} : Int32.ofNat a + Int32.ofNat b = Int32.ofNat (a + b) := (Int32.ofNat_add a b).symm
theorem i_toInt {n : Nat} (h : n < 2147483648) : (Int32.ofNat n).toInt = n := Int32.toInt_ofNat_of_lt h
theorem i_lt {a b : Nat} (ha : a < 2147483648) (hb : b < 2147483648) : Int32.ofNat a < Int32.ofNat b ↔ a < b := by
  rw [Int32.lt_iff_toInt_lt, i_toInt ha, i_toInt hb]; omega
theorem i_le {a b : Nat} (ha : a < 2147483648) (hb : b < 2147483648) : Int32.ofNat a ≤ Int32.ofNat b ↔ a ≤ b := by
  rw [Int32.le_iff_toInt_le, i_toInt ha, i_toInt hb]; omega
theorem i_eq {a b : Nat} (ha : a < 2147483648) (hb : b < 2147483648) : Int32.ofNat a = Int32.ofNat b ↔ a = b := by
  rw [← Int32.toInt_inj, i_toInt ha, i_toInt hb]; omega
theorem i_nn {n : Nat} (h : n < 2147483648) : ¬ Int32.ofNat n < 0 := by
  rw [Int32.lt_iff_toInt_lt, i_toInt h]
  have : (0 : Int32).toInt = 0 := by decide
  omega
theorem i_in {k n : Nat} (h : k < n) (hn : n < 2147483648) : vp_in (Int32.ofNat k) n := by
  have hk : k < 2147483648 := Nat.lt_trans h hn
  intro q
  rcases q with q | q
  · exact i_nn hk q
  · rw [i_cl hk] at q; omega
end EV
