/-- a call under handlers -/
def g_bh {α β : Type} (f : Option ((β ⊕ g_EX) × g_AH)) (k2 : String → Option Nat → g_AH → Option (α × g_AH)) (k : β → g_AH → Option (α × g_AH)) : Option (α × g_AH) := match f with
  | some (.inl x, h) => k x h
  | some (.inr e, h) => k2 e.1 e.2 h
  | none => none
theorem g_bh_inv {α β : Type} {f : Option ((β ⊕ g_EX) × g_AH)} {k2 : String → Option Nat → g_AH → Option (α × g_AH)} {k : β → g_AH → Option (α × g_AH)} {z : α × g_AH} (e : g_bh f k2 k = some z) : (∃ x h', f = some (.inl x, h') ∧ k x h' = some z) ∨ ∃ E q h', f = some (.inr (E, q), h') ∧ k2 E q h' = some z := by
  unfold g_bh at e; split at e
  · exact Or.inl ⟨_, _, rfl, e⟩
  · exact Or.inr ⟨_, _, _, rfl, e⟩
  · cases e
