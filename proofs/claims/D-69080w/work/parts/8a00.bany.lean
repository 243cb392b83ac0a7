/-! behind a fault: any of the small methods  -/
set_option maxRecDepth 100000
def bPre (X : Tx) (N e n k : Nat) (σ : Sg) (Q : Option AV → Sg → Prop) (m : Nat) (as : List AV) : Prop :=
  bif m == 254 then (match as with | [.inr (.inr (.inl o)), .inl _] => (o = 120 ∧ 3 ≤ k) ∧ ∀ σ', BI σ' X N e n → gF σ' 120 10 = 1 → Q none σ' | _ => False)
  else bif m == 259 then (match as with | [.inr (.inr (.inl o)), .inl a, .inl r] => (o = 120 ∧ n ≤ 26000 ∧ (0 ≤ a ∧ a < (n : Int)) ∧ (r = -1 ∨ (0 ≤ r ∧ r < (n : Int)))) ∧ ∀ σ', BI σ' X N e n → gF σ' 120 10 = 1 → Q none σ' | _ => False)
  else bif m == 249 then (match as with | [.inr (.inr (.inl o))] => o = 120 ∧ Q (some (vI 1)) σ | _ => False)
  else bif m == 251 then (match as with | [.inr (.inr (.inl o))] => o = 120 ∧ ∀ x, Q (some (vI x)) σ | _ => False)
  else bif m == 253 then (match as with | [.inr (.inr (.inl o)), .inl _, .inl _, .inl _] => (o = 120 ∧ n < 26000) ∧ ∀ σ', BI σ' X N e (n + 1) → gF σ' 120 10 = 1 → Q (some (vI (n : Int))) σ' | _ => False)
  else bif m == 256 then (match as with | [.inr (.inr (.inl o)), .inl _] => (o = 120 ∧ 2 ≤ k) ∧ ∀ σ', BI σ' X N e n → gF σ' 120 10 = 1 → Q none σ' | _ => False)
  else bif m == 258 then (match as with | [.inr (.inr (.inl o))] => (o = 120 ∧ 5 ≤ k ∧ n < 26000) ∧ ∀ σ', BI σ' X N e (n + 1) → gF σ' 120 10 = 1 → Q (some (vI (n : Int))) σ' | _ => False)
  else False
def bKn (m : Nat) : Bool := m == 254 || (m == 259 || (m == 249 || (m == 251 || (m == 253 || (m == 256 || m == 258)))))
theorem b_any {m k e n N : Nat} {as : List AV} {X : Tx} {σ : Sg} {Q : Option AV → Sg → Prop} {E : Int → Sg → Prop} (_ : bKn m = true) (hB : BI σ X N e n) (h : bPre X N e n k σ Q m as) : Ct 2 m k as σ Q E := by
  unfold bPre at h
  by_cases c1 : m = 254
  · subst c1
    match as, h with
    | [.inr (.inr (.inl o)), .inl r], h => obtain ⟨⟨rfl, h1⟩, h2⟩ := h; exact b_take h1 hB (fun σ' g => h2 σ' g g.2.1.1)
  by_cases c2 : m = 259
  · subst c2
    match as, h with
    | [.inr (.inr (.inl o)), .inl a, .inl r], h => obtain ⟨⟨rfl, h1, h3, h4⟩, h2⟩ := h; exact b_join hB h1 h3 h4 (fun σ' g => h2 σ' g g.2.1.1)
  by_cases c3 : m = 249
  · subst c3
    match as, h with
    | [.inr (.inr (.inl o))], h => obtain ⟨rfl, h2⟩ := h; exact b_look hB h2
  by_cases c4 : m = 251
  · subst c4
    match as, h with
    | [.inr (.inr (.inl o))], h => obtain ⟨rfl, h2⟩ := h; exact b_here hB h2
  by_cases c5 : m = 253
  · subst c5
    match as, h with
    | [.inr (.inr (.inl o)), .inl x, .inl y, .inl z], h => obtain ⟨⟨rfl, h1⟩, h2⟩ := h; exact b_draft hB h1 (fun σ' g => h2 σ' g g.2.1.1)
  by_cases c6 : m = 256
  · subst c6
    match as, h with
    | [.inr (.inr (.inl o)), .inl r], h => obtain ⟨⟨rfl, h1⟩, h2⟩ := h; exact b_deep h1 hB (fun σ' g => h2 σ' g g.2.1.1)
  by_cases c7 : m = 258
  · subst c7
    match as, h with
    | [.inr (.inr (.inl o))], h => obtain ⟨⟨rfl, h1, h3⟩, h2⟩ := h; exact b_name h1 hB h3 (fun σ' g => h2 σ' g g.2.1.1)
  have e1 : ∀ a : Nat, m ≠ a → (m == a) = false := fun a h => by simpa using h
  rw [e1 _ c1, e1 _ c2, e1 _ c3, e1 _ c4, e1 _ c5, e1 _ c6, e1 _ c7] at h
  exact h.elim
