/-! facts of tokens -/
set_option maxRecDepth 100000
theorem spl_range (X : Tx) (i n : Nat) : ∀ (f k : Nat), spl X i n f k = 1 ∨ (k ≤ spl X i n f k ∧ spl X i n f k < 52 ∧ mt X i n (spl X i n f k))
  | 0, _ => Or.inl rfl
  | f + 1, k => by
    by_cases h : k < 52
    · by_cases m : mt X i n k
      · have e : spl X i n (f + 1) k = k := by
          show (if k < 52 then (haveI := Classical.propDecidable (mt X i n k); if mt X i n k then k else spl X i n f (k + 1)) else 1) = k
          rw [if_pos h]
          exact if_pos m
        rw [e]
        exact Or.inr ⟨Nat.le_refl _, h, m⟩
      · have e : spl X i n (f + 1) k = spl X i n f (k + 1) := by
          show (if k < 52 then (haveI := Classical.propDecidable (mt X i n k); if mt X i n k then k else spl X i n f (k + 1)) else 1) = _
          rw [if_pos h]
          exact if_neg m
        rw [e]
        rcases spl_range X i n f (k + 1) with c | ⟨c1, c2, c3⟩
        · exact Or.inl c
        · exact Or.inr ⟨by omega, c2, c3⟩
    · have e : spl X i n (f + 1) k = 1 := by
        show (if k < 52 then (haveI := Classical.propDecidable (mt X i n k); if mt X i n k then k else spl X i n f (k + 1)) else 1) = _
        rw [if_neg h]
      exact Or.inl e
theorem tkE_2 {X : Tx} {i : Nat} (h : (tkE X i).1 = 2) : i < X.2 ∧ isLt (X.1 i) ∧ (tkE X i).2 = wE X i - i := by
  unfold tkE at h ⊢
  by_cases h0 : i < X.2
  · rw [if_pos h0] at h ⊢
    by_cases h1 : isLt (X.1 i)
    · rw [if_pos h1]
      exact ⟨h0, h1, rfl⟩
    · exfalso
      rw [if_neg h1] at h
      by_cases h2 : isDg (X.1 i)
      · rw [if_pos h2] at h
        by_cases h3 : okN X i (dE X i - i)
        · have : (3 : Nat) = 2 := by
            have h : (haveI := Classical.propDecidable (okN X i (dE X i - i)); if okN X i (dE X i - i) then 3 else 1) = 2 := h
            rw [if_pos h3] at h
            exact h
          omega
        · have : (1 : Nat) = 2 := by
            have h : (haveI := Classical.propDecidable (okN X i (dE X i - i)); if okN X i (dE X i - i) then 3 else 1) = 2 := h
            rw [if_neg h3] at h
            exact h
          omega
      · rw [if_neg h2] at h
        split at h
        · have h : spl X i 2 60 4 = 2 := h
          rcases spl_range X i 2 60 4 with c | ⟨c, -⟩ <;> omega
        · have h : spl X i 1 60 4 = 2 := h
          rcases spl_range X i 1 60 4 with c | ⟨c, -⟩ <;> omega
  · rw [if_neg h0] at h
    have h : (0 : Nat) = 2 := h
    omega
theorem wE_stop (X : Tx) (i : Nat) (h : wE X i < X.2) : ¬ isLt (X.1 (wE X i)) ∧ ¬ isDg (X.1 (wE X i)) := by
  by_cases h0 : i < X.2
  · by_cases h1 : isLt (X.1 i) ∨ isDg (X.1 i)
    · have e : wE X i = wE X (i + 1) := by rw [wE, if_pos h0, if_pos h1]
      rw [e] at h ⊢
      exact wE_stop X (i + 1) h
    · have e : wE X i = i := by rw [wE, if_pos h0, if_neg h1]
      rw [e]
      exact ⟨fun c => h1 (Or.inl c), fun c => h1 (Or.inr c)⟩
  · have e : wE X i = i := by rw [wE, if_neg h0]
    rw [e] at h
    omega
  termination_by X.2 - i
/-- behind a name no other one stands at once -/
theorem tk_adj {X : Tx} {j : Nat} (h1 : tkd X j = 2) (h2 : tkd X (j + 1) = 2) : tpo X j + tln X j + 1 ≤ tpo X (j + 1) := by
  obtain ⟨a1, a2, a3⟩ := tkE_2 h1
  obtain ⟨b1, b2, b3⟩ := tkE_2 h2
  have hge := wE_ge X (tpo X j)
  have e : tpo X j + tln X j = wE X (tpo X j) := by
    show tpo X j + (tkE X (tpo X j)).2 = _
    rw [a3]; omega
  have e2 : tpo X (j + 1) = bl X (wE X (tpo X j)) := by rw [← e]; rfl
  have hb := bl_ge X (wE X (tpo X j))
  rcases Nat.lt_or_ge (wE X (tpo X j)) (tpo X (j + 1)) with c | c
  · omega
  · exfalso
    have e3 : tpo X (j + 1) = wE X (tpo X j) := by omega
    rw [e3] at b1 b2
    exact (wE_stop X _ b1).1 b2
theorem tln_pos {X : Tx} {j : Nat} (h : tkd X j ≠ 0) : 1 ≤ tln X j ∧ tpo X j + tln X j ≤ tpo X (j + 1) := by
  obtain ⟨h1, h2⟩ := tpo_lt h
  exact ⟨(tkE_len h1).1, bl_ge X _⟩
