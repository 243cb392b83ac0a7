/-! TEXTS: bytes, blanks, tokens; tokens by the numbers that the component gives them -/
set_option maxRecDepth 100000
/-- bytes, and how many -/
abbrev Tx : Type := (Nat → Int) × Nat
def lk (X : Tx) (i : Nat) : Int := if i < X.2 then X.1 i else 0
abbrev isBl (c : Int) : Prop := c = 9 ∨ c = 10 ∨ c = 13 ∨ c = 32
abbrev isLt (c : Int) : Prop := (97 ≤ c ∧ c ≤ 122) ∨ (65 ≤ c ∧ c ≤ 90) ∨ c = 95
abbrev isDg (c : Int) : Prop := 48 ≤ c ∧ c ≤ 57
/-- the end of a line -/
def lnE (X : Tx) (i : Nat) : Nat := if i < X.2 then (if X.1 i = 10 then i else lnE X (i + 1)) else i
  termination_by X.2 - i
theorem lnE_ge (X : Tx) (i : Nat) : i ≤ lnE X i := by
  by_cases h : i < X.2
  · rw [lnE, if_pos h]
    by_cases h2 : X.1 i = 10
    · rw [if_pos h2]; exact Nat.le_refl _
    · rw [if_neg h2]
      have := lnE_ge X (i + 1)
      omega
  · rw [lnE, if_neg h]; exact Nat.le_refl _
  termination_by X.2 - i
/-- behind blanks -/
def bl (X : Tx) (i : Nat) : Nat := if i < X.2 then (if isBl (X.1 i) then bl X (i + 1) else if X.1 i = 47 ∧ lk X (i + 1) = 47 then bl X (lnE X (i + 1)) else i) else i
  termination_by X.2 - i
  decreasing_by
    all_goals have := lnE_ge X (i + 1)
    all_goals omega
/-- the end of a word, of digits -/
def wE (X : Tx) (i : Nat) : Nat := if i < X.2 then (if isLt (X.1 i) ∨ isDg (X.1 i) then wE X (i + 1) else i) else i
  termination_by X.2 - i
def dE (X : Tx) (i : Nat) : Nat := if i < X.2 then (if isDg (X.1 i) then dE X (i + 1) else i) else i
  termination_by X.2 - i
/-- what digits come to -/
def nV (X : Tx) (i : Nat) : Nat → Int
  | 0 => 0
  | k + 1 => 10 * nV X i k + (X.1 (i + k) - 48)
/-- how tokens are spelt -/
def tS (k : Nat) : List Int := (strL.getD k (0, [])).2
def mt (X : Tx) (i n k : Nat) : Prop := (tS k).length = n ∧ ∀ q, q < n → lk X (i + q) = (tS k).getD q 0
noncomputable def spl (X : Tx) (i n : Nat) : Nat → Nat → Nat
  | 0, _ => 1
  | f + 1, k => if k < 52 then (haveI := Classical.propDecidable (mt X i n k); if mt X i n k then k else spl X i n f (k + 1)) else 1
/-- a number's digits are no more than may be -/
def okN (X : Tx) (i n : Nat) : Prop := nV X i n ≤ 2147483647 ∧ (n = 1 ∨ X.1 i ≠ 48) ∧ ¬ isLt (lk X (i + n))
/-- the token at a place: which, how long -/
noncomputable def tkE (X : Tx) (i : Nat) : Nat × Nat :=
  if i < X.2 then
    (if isLt (X.1 i) then ((if spl X i (wE X i - i) 60 33 = 1 ∧ wE X i - i ≤ 30 then 2 else spl X i (wE X i - i) 60 33), wE X i - i)
     else if isDg (X.1 i) then ((haveI := Classical.propDecidable (okN X i (dE X i - i)); if okN X i (dE X i - i) then 3 else 1), dE X i - i)
     else if i + 1 < X.2 ∧ spl X i 2 60 4 ≠ 1 then (spl X i 2 60 4, 2) else (spl X i 1 60 4, 1))
  else (0, 0)
/-- places of tokens -/
noncomputable def tpo (X : Tx) : Nat → Nat
  | 0 => bl X 0
  | j + 1 => bl X (tpo X j + (tkE X (tpo X j)).2)
noncomputable def tkd (X : Tx) (j : Nat) : Nat := (tkE X (tpo X j)).1
noncomputable def tln (X : Tx) (j : Nat) : Nat := (tkE X (tpo X j)).2
noncomputable def tvl (X : Tx) (j : Nat) : Int := if tkd X j = 3 then nV X (tpo X j) (tln X j) else 0
/-- two tokens are spelt alike -/
def sameT (X : Tx) (a b : Nat) : Prop := tln X a = tln X b ∧ ∀ q, q < tln X a → X.1 (tpo X a + q) = X.1 (tpo X b + q)
theorem bl_ge (X : Tx) (i : Nat) : i ≤ bl X i := by
  rw [bl]
  split
  · split
    · have := bl_ge X (i + 1); omega
    · split
      · have h1 := lnE_ge X (i + 1)
        have := bl_ge X (lnE X (i + 1)); omega
      · exact Nat.le_refl _
  · exact Nat.le_refl _
  termination_by X.2 - i
  decreasing_by
    all_goals (try have := lnE_ge X (i + 1))
    all_goals omega
theorem lnE_le (X : Tx) (i : Nat) (h : i ≤ X.2) : lnE X i ≤ X.2 := by
  rw [lnE]
  split
  · split
    · exact h
    · exact lnE_le X (i + 1) (by omega)
  · exact h
  termination_by X.2 - i
theorem bl_le (X : Tx) (i : Nat) (h : i ≤ X.2) : bl X i ≤ X.2 := by
  rw [bl]
  split
  · split
    · exact bl_le X (i + 1) (by omega)
    · split
      · exact bl_le X _ (lnE_le X (i + 1) (by omega))
      · exact h
  · exact h
  termination_by X.2 - i
  decreasing_by
    all_goals (try have := lnE_ge X (i + 1))
    all_goals omega
theorem wE_ge (X : Tx) (i : Nat) : i ≤ wE X i := by
  rw [wE]
  split
  · split
    · have := wE_ge X (i + 1); omega
    · exact Nat.le_refl _
  · exact Nat.le_refl _
  termination_by X.2 - i
theorem wE_le (X : Tx) (i : Nat) (h : i ≤ X.2) : wE X i ≤ X.2 := by
  rw [wE]
  split
  · split
    · exact wE_le X (i + 1) (by omega)
    · exact h
  · exact h
  termination_by X.2 - i
theorem dE_ge (X : Tx) (i : Nat) : i ≤ dE X i := by
  rw [dE]
  split
  · split
    · have := dE_ge X (i + 1); omega
    · exact Nat.le_refl _
  · exact Nat.le_refl _
  termination_by X.2 - i
theorem dE_le (X : Tx) (i : Nat) (h : i ≤ X.2) : dE X i ≤ X.2 := by
  rw [dE]
  split
  · split
    · exact dE_le X (i + 1) (by omega)
    · exact h
  · exact h
  termination_by X.2 - i
/-- within the text, and not nothing -/
theorem tkE_len {X : Tx} {i : Nat} (h : i < X.2) : 1 ≤ (tkE X i).2 ∧ i + (tkE X i).2 ≤ X.2 := by
  unfold tkE
  rw [if_pos h]
  by_cases h1 : isLt (X.1 i)
  · rw [if_pos h1]
    show 1 ≤ wE X i - i ∧ i + (wE X i - i) ≤ X.2
    have e : wE X i = wE X (i + 1) := by rw [wE, if_pos h, if_pos (Or.inl h1)]
    have := wE_ge X (i + 1)
    have := wE_le X (i + 1) (by omega)
    omega
  · rw [if_neg h1]
    by_cases h2 : isDg (X.1 i)
    · rw [if_pos h2]
      show 1 ≤ dE X i - i ∧ i + (dE X i - i) ≤ X.2
      have e : dE X i = dE X (i + 1) := by rw [dE, if_pos h, if_pos h2]
      have := dE_ge X (i + 1)
      have := dE_le X (i + 1) (by omega)
      omega
    · rw [if_neg h2]
      by_cases h3 : i + 1 < X.2 ∧ spl X i 2 60 4 ≠ 1
      · rw [if_pos h3]
        show 1 ≤ 2 ∧ i + 2 ≤ X.2
        omega
      · rw [if_neg h3]
        show 1 ≤ 1 ∧ i + 1 ≤ X.2
        omega
theorem tpo_le (X : Tx) : ∀ j, tpo X j ≤ X.2
  | 0 => bl_le X 0 (Nat.zero_le _)
  | j + 1 => by
    show bl X (tpo X j + (tkE X (tpo X j)).2) ≤ X.2
    refine bl_le X _ ?_
    by_cases h : tpo X j < X.2
    · exact (tkE_len h).2
    · have e : tkE X (tpo X j) = (0, 0) := by unfold tkE; rw [if_neg h]
      rw [e]
      exact tpo_le X j
/-- as long as it isn't the end, places grow -/
theorem tpo_lt {X : Tx} {j : Nat} (h : tkd X j ≠ 0) : tpo X j < X.2 ∧ tpo X j < tpo X (j + 1) := by
  by_cases c : tpo X j < X.2
  · have h1 := tkE_len c
    have h2 := bl_ge X (tpo X j + (tkE X (tpo X j)).2)
    refine ⟨c, ?_⟩
    show tpo X j < bl X (tpo X j + (tkE X (tpo X j)).2)
    omega
  · exfalso
    apply h
    show (tkE X (tpo X j)).1 = 0
    unfold tkE
    rw [if_neg c]
theorem tpo_ge {X : Tx} : ∀ {j : Nat}, (∀ i, i < j → tkd X i ≠ 0) → j ≤ tpo X j
  | 0, _ => Nat.zero_le _
  | j + 1, h => by
    have h1 := tpo_ge (j := j) (fun i hi => h i (by omega))
    have h2 := (tpo_lt (h j (by omega))).2
    omega
