/-! LEVEL 2: the twin's operations forward; small numbers -/
section MEV
variable {α : Type} {M : g_MD} {t k i : Nat}
theorem e_mA {c : Int32 → Option α} (hk : k ∈ mAr ∧ mT k = t) (hi : i < mL k) (hl : mL k < 2147483648) : g_mA M t k (Int32.ofNat i) c = c (M.1 k i) := by
  have h2 : (k ∈ mAr ∧ mT k = t) ∧ ¬ (Int32.ofNat i < 0 ∨ mL k ≤ (Int32.ofNat i).toNatClampNeg) := ⟨hk, i_in hi hl⟩
  unfold g_mA
  rw [if_pos h2, i_cl (Nat.lt_trans hi hl)]
theorem e_mS {x : Int32} {c : g_MD → Option α} (hk : k ∈ mAr ∧ mT k = t) (hi : i < mL k) (hl : mL k < 2147483648) : g_mS M t k (Int32.ofNat i) x c = c (ms M k i x) := by
  have h2 : (k ∈ mAr ∧ mT k = t) ∧ ¬ (Int32.ofNat i < 0 ∨ mL k ≤ (Int32.ofNat i).toNatClampNeg) := ⟨hk, i_in hi hl⟩
  unfold g_mS
  rw [if_pos h2, i_cl (Nat.lt_trans hi hl)]
/-- the row of the state -/
theorem e_r {c : Int32 → Option α} (hi : i < 1112) : g_mA M 0 0 (Int32.ofNat i) c = c (M.1 0 i) := e_mA (by decide) hi (by decide)
theorem e_w {x : Int32} {c : g_MD → Option α} (hi : i < 1112) : g_mS M 0 0 (Int32.ofNat i) x c = c (ms M 0 i x) := e_mS (by decide) hi (by decide)
theorem e_r' {j : Int32} {c : Int32 → Option α} (e : j = Int32.ofNat i) (hi : i < 1112) : g_mA M 0 0 j c = c (M.1 0 i) := by rw [e]; exact e_r hi
theorem e_w' {j x : Int32} {c : g_MD → Option α} (e : j = Int32.ofNat i) (hi : i < 1112) : g_mS M 0 0 j x c = c (ms M 0 i x) := by rw [e]; exact e_w hi
theorem i_mul {a b : Nat} : Int32.ofNat a * Int32.ofNat b = Int32.ofNat (a * b) := (Int32.ofNat_mul a b).symm
theorem i_sub {a b : Nat} (h : b ≤ a) : Int32.ofNat a - Int32.ofNat b = Int32.ofNat (a - b) := by
  have h1 : Int32.ofNat (a - b) + Int32.ofNat b = Int32.ofNat a := by rw [i_add, Nat.sub_add_cancel h]
  rw [← h1]; exact Int32.add_sub_cancel _ _
theorem ms_get {j l : Nat} {x : Int32} : (ms M k i x).1 j l = if j = k ∧ l = i then x else M.1 j l := by
  unfold ms
  by_cases h : j = k
  · subst h
    simp only [true_and]
    by_cases h2 : l = i
    · subst h2; simp [upd]
    · simp [upd, h2]
  · simp [h]
theorem mp_get {j : Nat} {x : Int32} : (mp M k x).2.1 j = if j = k then x else M.2.1 j := rfl
theorem mp_arr {x : Int32} : (mp M k x).1 = M.1 := rfl
theorem ms_int {x : Int32} : (ms M k i x).2 = M.2 := rfl
end MEV
