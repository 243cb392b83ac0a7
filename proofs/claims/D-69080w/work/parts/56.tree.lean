/-! Tree: object 9 -/
set_option maxRecDepth 100000
abbrev z4 : N4 := (0, 0, 0, 0)
def TrIs (σ : Sg) (N : List N4) : Prop := gF σ 9 5 = (N.length : Int) ∧ (N.length ≤ gL σ 9 1 ∧ N.length ≤ gL σ 9 2 ∧ N.length ≤ gL σ 9 3 ∧ N.length ≤ gL σ 9 4) ∧ (64 ≤ gL σ 9 1 ∧ 64 ≤ gL σ 9 2 ∧ 64 ≤ gL σ 9 3 ∧ 64 ≤ gL σ 9 4) ∧
  (∀ i, i < N.length → gA σ 9 1 i = (N.getD i z4).1 ∧ gA σ 9 2 i = (N.getD i z4).2.1 ∧ gA σ 9 3 i = (N.getD i z4).2.2.1 ∧ gA σ 9 4 i = (N.getD i z4).2.2.2) ∧ N.length ≤ 2000
theorem fine_K {ph : Nat} {σ : Sg} (h : Fine ph σ) {o : Nat} (ho : o < nSt ph) (hk : kcOf o ≠ 0) : gK σ o = kcOf o := by
  obtain ⟨G, H, hR⟩ := h
  exact hR.2.2.2.2.2.1.2.1 o ho hk
theorem fine_N {ph : Nat} {σ : Sg} (h : Fine ph σ) : nSt ph ≤ gN σ := by
  obtain ⟨G, H, hR⟩ := h
  exact hR.2.2.2.2.2.1.1
