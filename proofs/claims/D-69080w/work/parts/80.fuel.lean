/-! the grammar: fuel is enough -/
set_option maxRecDepth 100000
/-- within N tokens, a of them at least are taken -/
def Og (N : Nat) (r : PR) (j a : Nat) : Prop := r ≠ none ∧ ∀ l j', r = pOk l j' → j + a ≤ j' ∧ j' ≤ N
section Ogs
variable {N : Nat} {K : Nat → Nat}
theorem og_er {j a e : Nat} : Og N (pEr e) j a := by
  refine ⟨fun c => ?_, fun l j' c => ?_⟩
  · cases c
  · unfold pEr pOk at c; injection c with c; cases c
theorem og_ok {j j' a : Nat} {l : List Nd} (h1 : j + a ≤ j') (h2 : j' ≤ N) : Og N (pOk l j') j a := by
  refine ⟨fun c => ?_, fun l' j2 c => ?_⟩
  · cases c
  · obtain ⟨_, rfl⟩ := pOk_inj c
    exact ⟨h1, h2⟩
theorem og_b {r : PR} {f : List Nd → Nat → PR} {j a b : Nat} (h1 : Og N r j a) (h2 : ∀ l j1, j + a ≤ j1 → j1 ≤ N → Og N (f l j1) j b) : Og N (pb r f) j b := by
  rcases hr : r with _ | (e | q)
  · exact absurd hr h1.1
  · exact og_er
  · rw [hr] at h1
    obtain ⟨c1, c2⟩ := h1.2 q.1 q.2 rfl
    exact h2 q.1 q.2 c1 c2
theorem og_S {p q : Nat → PR} {j a b c : Nat} (h1 : Og N (p j) j a) (h2 : ∀ j1, j + a ≤ j1 → j1 ≤ N → Og N (q j1) j1 b) (hc : c ≤ a + b) : Og N (pS p q j) j c := by
  unfold pS
  refine og_b h1 (fun l j1 c1 c2 => ?_)
  have h3 := h2 j1 c1 c2
  rcases hr : q j1 with _ | (e | x)
  · exact absurd hr h3.1
  · exact og_er
  · rw [hr] at h3
    obtain ⟨d1, d2⟩ := h3.2 x.1 x.2 rfl
    exact og_ok (by omega) d2
theorem og_mono {r : PR} {j a b : Nat} (h : Og N r j a) (hb : b ≤ a) : Og N r j b := ⟨h.1, fun l j' e => by
  obtain ⟨c1, c2⟩ := h.2 l j' e
  exact ⟨by omega, c2⟩⟩
theorem og_1 {r : PR} {j a b : Nat} (h : Og N r (j + 1) a) (hb : b ≤ a + 1) : Og N r j b := ⟨h.1, fun l j' e => by
  obtain ⟨c1, c2⟩ := h.2 l j' e
  exact ⟨by omega, c2⟩⟩
theorem og_T (hN : K N < 2) {t j a : Nat} (hj : j ≤ N) (ht : 2 ≤ t) (ha : a ≤ 1) : Og N (pT K t j) j a := by
  unfold pT
  split
  · rename_i h
    refine og_ok (by omega) ?_
    rcases Nat.lt_or_ge j N with c | c
    · omega
    · have : j = N := by omega
      subst this
      omega
  · exact og_er
theorem og_N (hN : K N < 2) {j a : Nat} (hj : j ≤ N) (ha : a ≤ 1) : Og N (pN K j) j a := by
  unfold pN
  split
  · rename_i h
    refine og_ok (by omega) ?_
    rcases Nat.lt_or_ge j N with c | c
    · omega
    · have : j = N := by omega
      subst this
      omega
  · exact og_er
theorem og_lt (hN : K N < 2) {j : Nat} (hj : j ≤ N) (h : 2 ≤ K j) : j + 1 ≤ N := by
  rcases Nat.lt_or_ge j N with c | c
  · omega
  · have : j = N := by omega
    subst this
    omega
theorem og_W {k j0 j a : Nat} {p : Nat → PR} (h : Og N (p j) j a) : Og N (pW k j0 p j) j a := by
  unfold pW
  exact og_b h (fun l j1 c1 c2 => og_ok c1 c2)
theorem og_E {j a : Nat} (hj : j ≤ N) (ha : a = 0) : Og N (pE j) j a := og_ok (by omega) hj
theorem og_if {c : Prop} [Decidable c] {r s : PR} {j a : Nat} (h1 : c → Og N r j a) (h2 : ¬ c → Og N s j a) : Og N (if c then r else s) j a := by
  by_cases h : c
  · rw [if_pos h]; exact h1 h
  · rw [if_neg h]; exact h2 h
/-- what of R is known: F its fuel -/
def OgR (N : Nat) (R : Nat → Nat → Nat → PR) (F : Nat) : Prop :=
  ((∀ d j, j ≤ N → 64 * (N - j) + 4 ≤ F → Og N (R 0 d j) j 1) ∧ (∀ d j, j ≤ N → 64 * (N - j) + 11 ≤ F → Og N (R 2 d j) j 1) ∧ (∀ d j, j ≤ N → 64 * (N - j) + 1 ≤ F → Og N (R 3 d j) j 1)) ∧
  ((∀ d j, j ≤ N → 64 * (N - j) + 1 ≤ F → Og N (R 4 d j) j 1) ∧ (∀ d j, j ≤ N → 64 * (N - j) + 1 ≤ F → Og N (R 5 d j) j 1) ∧ (∀ d j, j ≤ N → 64 * (N - j) + 1 ≤ F → Og N (R 6 d j) j 0) ∧ (∀ d j, j ≤ N → 64 * (N - j) + 1 ≤ F → Og N (R 7 d j) j 0)) ∧
  ((∀ d j, j ≤ N → 64 * (N - j) + 1 ≤ F → Og N (R 8 d j) j 1) ∧ (∀ d j, j ≤ N → 64 * (N - j) + 1 ≤ F → Og N (R 9 d j) j 1) ∧ (∀ d j, j ≤ N → 64 * (N - j) + 1 ≤ F → Og N (R 10 d j) j 1) ∧ (∀ d j, j ≤ N → 64 * (N - j) + 5 ≤ F → Og N (R 11 d j) j 1) ∧ (∀ d j, j ≤ N → 64 * (N - j) + 1 ≤ F → Og N (R 12 d j) j 0) ∧ (∀ d j, j ≤ N → 64 * (N - j) + 1 ≤ F → Og N (R 13 d j) j 0)) ∧
  (∀ b s d j, b ≤ 7 → s ≤ 1 → j ≤ N → 64 * (N - j) + 2 + (7 - b) ≤ F → Og N (R (16 + 2 * b + s) d j) j 1) ∧ (∀ b s d j, b ≤ 7 → s ≤ 1 → j ≤ N → 64 * (N - j) + 1 ≤ F → Og N (R (32 + 2 * b + s) d j) j 0)
section Ogp
variable {R : Nat → Nat → Nat → PR} {F : Nat}
theorem og_one (hN : K N < 2) {j k : Nat} (hj : j ≤ N) (h : 2 ≤ K j) : Og N (pOk [(k, j, 1)] (j + 1)) j 1 := og_ok (by omega) (og_lt hN hj h)
theorem og_part (hN : K N < 2) (h : OgR N R F) {b s d j : Nat} (hb : b ≤ 7) (hs : s ≤ 1) (hj : j ≤ N) (hF : 64 * (N - j) + 1 + (7 - b) ≤ F) : Og N (gPart K R b s d j) j 1 := by
  unfold gPart
  split
  · exact h.2.2.2.1 (b + 1) s d j (by omega) hs hj (by omega)
  · split
    · refine og_if (fun c => og_one hN hj (by omega)) (fun _ => og_if (fun c => ?_) (fun _ => og_N hN hj (by omega)))
      exact og_S (a := 1) (b := 2) (og_T hN hj (by omega) (by omega)) (fun j1 c1 c2 => og_S (a := 1) (b := 1) (h.1.1 _ j1 c2 (by omega)) (fun j2 c3 c4 => og_T hN c4 (by omega) (by omega)) (by omega)) (by omega)
    · exact h.1.2.2 d j hj (by omega)
theorem og_chain (hN : K N < 2) (h : OgR N R F) {b s d j : Nat} (hb : b ≤ 7) (hs : s ≤ 1) (hj : j ≤ N) (hF : 64 * (N - j) + 1 + (7 - b) ≤ F) : Og N (gChain K R b s d j) j 1 := by
  unfold gChain
  refine og_b (og_part hN h hb hs hj hF) (fun l j1 c1 c2 => og_if (fun _ => ?_) (fun _ => og_ok c1 c2))
  refine og_b (a := 1) ?_ (fun l2 j2 c3 c4 => og_ok c3 c4)
  have h1 := h.2.2.2.2 b s d j1 hb hs c2 (by omega)
  exact ⟨h1.1, fun l2 j2 e => by
    obtain ⟨d1, d2⟩ := h1.2 l2 j2 e
    exact ⟨by omega, d2⟩⟩
theorem og_ops (hN : K N < 2) (h : OgR N R F) {b s d j : Nat} (hb : b ≤ 7) (hs : s ≤ 1) (hj : j ≤ N) (hF : 64 * (N - j) ≤ F) : Og N (gOps K R b s d j) j 0 := by
  unfold gOps
  refine og_if (fun c => ?_) (fun _ => og_E hj rfl)
  have hsl := sgn_lt c
  have hlt := og_lt hN hj (by omega)
  refine og_S (a := 2) (b := 0) (og_W (og_1 (og_part hN h hb hs hlt (by omega)) (by omega))) (fun j1 c1 c2 => h.2.2.2.2 b s d j1 hb hs c2 (by omega)) (by omega)
theorem og_exprs (h : OgR N R F) {c d j : Nat} (hc : c = 4 ∨ c = 5) (hj : j ≤ N) (hF : 64 * (N - j) + 11 ≤ F) : Og N (gExprs R c d j) j 2 := by
  refine og_S (a := 1) (b := 1) (h.1.2.1 _ j hj hF) (fun j1 c1 c2 => ?_) (by omega)
  rcases hc with rfl | rfl
  · exact h.2.1.1 d j1 c2 (by omega)
  · exact h.2.1.2.1 d j1 c2 (by omega)
theorem og_args (hN : K N < 2) (h : OgR N R F) {d j : Nat} (hj : j ≤ N) (hF : 64 * (N - j) ≤ F) : Og N (gArgs K R d j) j 3 :=
  og_S (a := 1) (b := 2) (og_T hN hj (by omega) (by omega)) (fun j1 c1 c2 => og_exprs h (Or.inl rfl) c2 (by omega)) (by omega)
theorem og_cond (hN : K N < 2) (h : OgR N R F) {d j : Nat} (hj : j ≤ N) (hF : 64 * (N - j) ≤ F) : Og N (gCond K R d j) j 3 :=
  og_S (a := 1) (b := 2) (og_T hN hj (by omega) (by omega)) (fun j1 c1 c2 => og_S (a := 1) (b := 1) (h.1.2.1 _ j1 c2 (by omega)) (fun j2 c3 c4 => og_T hN c4 (by omega) (by omega)) (by omega)) (by omega)
theorem og_width (hN : K N < 2) (h : OgR N R F) {d j : Nat} (hj : j ≤ N) (hF : 64 * (N - j) ≤ F) : Og N (gWidth K R d j) j 3 :=
  og_S (a := 1) (b := 2) (og_T hN hj (by omega) (by omega)) (fun j1 c1 c2 => og_S (a := 1) (b := 1) (h.1.1 _ j1 c2 (by omega)) (fun j2 c3 c4 => og_T hN c4 (by omega) (by omega)) (by omega)) (by omega)
theorem og_names (hN : K N < 2) (h : OgR N R F) {c j : Nat} (hc : c = 6 ∨ c = 7) (hj : j ≤ N) (hF : 64 * (N - j) ≤ F) : Og N (gNames K R c j) j 1 := by
  refine og_S (a := 1) (b := 0) (og_N hN hj (by omega)) (fun j1 c1 c2 => ?_) (by omega)
  rcases hc with rfl | rfl
  · exact h.2.1.2.2.1 0 j1 c2 (by omega)
  · exact h.2.1.2.2.2 0 j1 c2 (by omega)
theorem og_expr (hN : K N < 2) (h : OgR N R F) {d j : Nat} (hj : j ≤ N) (hF : 64 * (N - j) + 10 ≤ F) : Og N (gExpr K R d j) j 1 := by
  unfold gExpr
  refine og_if (fun _ => og_er) (fun _ => og_b (a := 1) (h.2.2.2.1 0 0 d j (by omega) (by omega) hj (by omega)) (fun l j1 c1 c2 => og_if (fun c => ?_) (fun _ => og_ok c1 c2)))
  have hlt := og_lt hN c2 (by omega)
  have h1 : Og N (pS (R 2 (d + 1)) (pS (pT K 12) (R 2 (d + 1))) (j1 + 1)) (j1 + 1) 3 := og_S (a := 1) (b := 2) (h.1.2.1 _ _ hlt (by omega)) (fun j2 c3 c4 => og_S (a := 1) (b := 1) (og_T hN c4 (by omega) (by omega)) (fun j3 c5 c6 => h.1.2.1 _ j3 c6 (by omega)) (by omega)) (by omega)
  have h2 : Og N (pS (R 2 (d + 1)) (pS (pT K 12) (R 2 (d + 1))) (j1 + 1)) j 1 := ⟨h1.1, fun l2 j2 e => by
    obtain ⟨d1, d2⟩ := h1.2 l2 j2 e
    exact ⟨by omega, d2⟩⟩
  exact og_b h2 (fun l2 j2 c3 c4 => og_ok c3 c4)
theorem og_made (hN : K N < 2) (h : OgR N R F) {d j : Nat} (hj : j ≤ N) (hF : 64 * (N - j) ≤ F) : Og N (gMade K R d j) j 1 := by
  unfold gMade
  refine og_if (fun _ => og_er) (fun c => og_W ?_)
  have hlt := og_lt hN hj (by omega)
  refine og_1 (a := 2) ?_ (by omega)
  refine og_S (a := 1) (b := 1) (og_T hN hlt (by omega) (by omega)) (fun j1 c1 c2 => og_S (a := 0) (b := 1) ?_ (fun j2 c3 c4 => og_S (a := 1) (b := 0) ?_ (fun j3 c5 c6 => og_T hN c6 (by omega) (by omega)) (by omega)) (by omega)) (by omega)
  · split
    · exact og_S (a := 1) (b := 0) (h.1.1 _ j1 c2 (by omega)) (fun j3 c5 c6 => og_T hN c6 (by omega) (by omega)) (by omega)
    · exact og_E c2 rfl
  · split
    · exact h.1.1 _ j2 c4 (by omega)
    · exact h.1.2.1 _ j2 c4 (by omega)
theorem og_bits (hN : K N < 2) (h : OgR N R F) {d j j2 : Nat} {l1 : List Nd} (hj : j + 1 ≤ j2) (hj2 : j2 ≤ N) (hF : 64 * (N - j) ≤ F) : Og N (gBits K R d j l1 j2) j 1 := by
  unfold gBits
  refine og_if (fun c => ?_) (fun _ => ?_)
  · have hlt := og_lt hN hj2 (by omega)
    have h1 : Og N (pS (R 0 (d + 1)) (pT K 9) (j2 + 1)) (j2 + 1) 2 := og_S (a := 1) (b := 1) (h.1.1 _ _ hlt (by omega)) (fun j3 c3 c4 => og_T hN c4 (by omega) (by omega)) (by omega)
    have h2 : Og N (pS (R 0 (d + 1)) (pT K 9) (j2 + 1)) j 1 := ⟨h1.1, fun l j' e => by
      obtain ⟨d1, d2⟩ := h1.2 l j' e
      exact ⟨by omega, d2⟩⟩
    exact og_b h2 (fun l2 j3 c3 c4 => og_ok c3 c4)
  · have h1 : Og N (pS (R 12 d) (pT K 9) j2) j2 1 := og_S (a := 0) (b := 1) (h.2.2.1.2.2.2.2.1 _ _ hj2 (by omega)) (fun j3 c3 c4 => og_T hN c4 (by omega) (by omega)) (by omega)
    have h2 : Og N (pS (R 12 d) (pT K 9) j2) j 1 := ⟨h1.1, fun l j' e => by
      obtain ⟨d1, d2⟩ := h1.2 l j' e
      exact ⟨by omega, d2⟩⟩
    refine og_b h2 (fun l2 j4 c3 c4 => og_if (fun _ => ?_) (fun _ => og_ok c3 c4))
    have h3 := og_args (d := d) hN h c4 (by omega)
    have h4 : Og N (gArgs K R d j4) j 1 := ⟨h3.1, fun l j' e => by
      obtain ⟨d1, d2⟩ := h3.2 l j' e
      exact ⟨by omega, d2⟩⟩
    exact og_b h4 (fun la j5 c5 c6 => og_ok c5 c6)
theorem og_named (hN : K N < 2) (h : OgR N R F) {d j : Nat} (hj : j ≤ N) (ht : 2 ≤ K j) (hF : 64 * (N - j) ≤ F) : Og N (gNamed K R d j) j 1 := by
  have hlt := og_lt hN hj ht
  unfold gNamed
  refine og_if (fun _ => ?_) (fun _ => og_if (fun c => ?_) (fun _ => og_one hN hj ht))
  · have h3 := og_args (d := d) hN h hlt (by omega)
    have h4 : Og N (gArgs K R d (j + 1)) j 1 := ⟨h3.1, fun l j' e => by
      obtain ⟨d1, d2⟩ := h3.2 l j' e
      exact ⟨by omega, d2⟩⟩
    exact og_b h4 (fun la j5 c5 c6 => og_ok c5 c6)
  · have hlt2 := og_lt hN hlt (by omega)
    have h3 := h.1.1 (d + 1) (j + 2) hlt2 (by omega)
    have h4 : Og N (R 0 (d + 1) (j + 2)) j 1 := ⟨h3.1, fun l j' e => by
      obtain ⟨d1, d2⟩ := h3.2 l j' e
      exact ⟨by omega, d2⟩⟩
    exact og_b h4 (fun l1 j2 c5 c6 => og_bits hN h c5 c6 hF)
theorem og_unary (hN : K N < 2) (h : OgR N R F) {d j : Nat} (hj : j ≤ N) (hF : 64 * (N - j) ≤ F) : Og N (gUnary K R d j) j 1 := by
  have tn : ∀ (k : Nat), 2 ≤ K j → Og N (pW k j (fun j => gTurned R (d + 1) (j + 1)) j) j 1 := fun k hk => by
    have hlt := og_lt hN hj hk
    refine og_W (og_1 (a := 0) ?_ (by omega))
    unfold gTurned
    exact og_if (fun _ => og_er) (fun _ => og_mono (h.1.2.2 _ _ hlt (by omega)) (by omega))
  unfold gUnary
  refine og_if (fun c => tn _ (by omega)) (fun _ => og_if (fun c => tn _ (by omega)) (fun _ => og_if (fun c => tn _ (by omega)) (fun _ => og_if (fun c => ?_) (fun _ => og_if (fun c => ?_) (fun _ => og_if (fun c => og_named hN h hj (by omega) hF) (fun _ => og_made hN h hj hF))))))
  · exact og_S (a := 1) (b := 2) (og_T hN hj (by omega) (by omega)) (fun j1 c1 c2 => og_S (a := 1) (b := 1) (h.1.2.1 _ j1 c2 (by omega)) (fun j2 c3 c4 => og_T hN c4 (by omega) (by omega)) (by omega)) (by omega)
  · exact og_W (og_S (a := 1) (b := 2) (og_T hN hj (by omega) (by omega)) (fun j1 c1 c2 => og_exprs h (Or.inr rfl) c2 (by omega)) (by omega))
theorem og_label (hN : K N < 2) (h : OgR N R F) {d j : Nat} (hj : j ≤ N) (hF : 64 * (N - j) ≤ F) : Og N (gLabel K R d j) j 1 := by
  unfold gLabel
  refine og_if (fun _ => og_er) (fun _ => og_if (fun c => og_W ?_) (fun _ => og_W (og_names hN h (Or.inl rfl) hj hF)))
  exact og_S (a := 1) (b := 0) (og_T hN hj (by omega) (by omega)) (fun j1 c1 c2 => og_S (a := 1) (b := 0) (og_T hN c2 (by omega) (by omega)) (fun j2 c3 c4 => og_S (a := 1) (b := 0) (og_N hN c4 (by omega)) (fun j3 c5 c6 => og_S (a := 1) (b := 0) (og_T hN c6 (by omega) (by omega)) (fun j4 c7 c8 => og_S (a := 1) (b := 0) (h.1.1 _ j4 c8 (by omega)) (fun j5 c9 c10 => og_S (a := 1) (b := 0) (og_T hN c10 (by omega) (by omega)) (fun j6 c11 c12 => og_S (a := 1) (b := 0) (h.2.2.1.1 _ j6 c12 (by omega)) (fun j7 c13 c14 => og_S (a := 1) (b := 0) (og_T hN c14 (by omega) (by omega)) (fun j8 c15 c16 => og_mono (h.2.2.1.1 _ j8 c16 (by omega)) (by omega)) (by omega)) (by omega)) (by omega)) (by omega)) (by omega)) (by omega)) (by omega)) (by omega)
theorem og_block (hN : K N < 2) (h : OgR N R F) {d j : Nat} (hj : j ≤ N) (hF : 64 * (N - j) ≤ F) : Og N (gBlock K R d j) j 1 := by
  unfold gBlock
  exact og_if (fun _ => og_er) (fun _ => og_W (og_S (a := 1) (b := 1) (og_T hN hj (by omega) (by omega)) (fun j1 c1 c2 => h.2.2.1.2.2.1 _ j1 c2 (by omega)) (by omega)))
theorem og_choice (hN : K N < 2) (h : OgR N R F) {d j : Nat} (hj : j ≤ N) (hF : 64 * (N - j) + 4 ≤ F) : Og N (gChoice K R d j) j 1 := by
  unfold gChoice
  exact og_W (og_S (a := 1) (b := 2) (h.1.1 _ j hj hF) (fun j1 c1 c2 => og_S (a := 1) (b := 1) (og_T hN c2 (by omega) (by omega)) (fun j2 c3 c4 => h.2.2.1.2.1 _ j2 c4 (by omega)) (by omega)) (by omega))
theorem og_choices (hN : K N < 2) (h : OgR N R F) {d j : Nat} (hj : j ≤ N) (hF : 64 * (N - j) + 4 ≤ F) : Og N (gChoices K R d j) j 1 := by
  unfold gChoices
  refine og_if (fun _ => ?_) (fun _ => og_if (fun _ => og_T hN hj (by omega) (by omega)) (fun _ => og_S (a := 1) (b := 1) (og_choice hN h hj hF) (fun j1 c1 c2 => h.2.2.1.2.2.2.1 _ j1 c2 (by omega)) (by omega)))
  exact og_S (a := 1) (b := 0) (og_W (og_S (a := 1) (b := 0) (og_T hN hj (by omega) (by omega)) (fun j1 c1 c2 => og_S (a := 1) (b := 0) (og_T hN c2 (by omega) (by omega)) (fun j2 c3 c4 => og_mono (h.2.2.1.2.1 _ j2 c4 (by omega)) (by omega)) (by omega)) (by omega))) (fun j3 c5 c6 => og_T hN c6 (by omega) (by omega)) (by omega)
theorem og_stmt (hN : K N < 2) (h : OgR N R F) {d j : Nat} (hj : j ≤ N) (hF : 64 * (N - j) ≤ F) : Og N (gStmt K R d j) j 1 := by
  unfold gStmt
  refine og_if (fun _ => og_W ?_) (fun _ => og_if (fun _ => og_W ?_) (fun _ => og_if (fun _ => og_W ?_) (fun _ => og_er)))
  · exact og_S (a := 1) (b := 0) (og_N hN hj (by omega)) (fun j1 c1 c2 => og_S (a := 1) (b := 0) (og_T hN c2 (by omega) (by omega)) (fun j2 c3 c4 => og_S (a := 1) (b := 0) (h.1.2.1 _ j2 c4 (by omega)) (fun j3 c5 c6 => og_T hN c6 (by omega) (by omega)) (by omega)) (by omega)) (by omega)
  · refine og_S (a := 1) (b := 0) (og_T hN hj (by omega) (by omega)) (fun j1 c1 c2 => og_S (a := 3) (b := 0) (og_cond hN h c2 (by omega)) (fun j2 c3 c4 => og_S (a := 1) (b := 0) (h.2.2.1.2.1 _ j2 c4 (by omega)) (fun j3 c5 c6 => ?_) (by omega)) (by omega)) (by omega)
    exact og_if (fun _ => og_S (a := 1) (b := 0) (og_T hN c6 (by omega) (by omega)) (fun j4 c7 c8 => og_mono (h.2.2.1.2.1 _ j4 c8 (by omega)) (by omega)) (by omega)) (fun _ => og_E c6 rfl)
  · exact og_S (a := 1) (b := 0) (og_T hN hj (by omega) (by omega)) (fun j1 c1 c2 => og_S (a := 3) (b := 0) (og_cond hN h c2 (by omega)) (fun j2 c3 c4 => og_S (a := 1) (b := 0) (og_T hN c4 (by omega) (by omega)) (fun j3 c5 c6 => og_S (a := 1) (b := 0) (og_choice hN h c6 (by omega)) (fun j4 c7 c8 => og_mono (h.2.2.1.2.2.2.1 _ j4 c8 (by omega)) (by omega)) (by omega)) (by omega)) (by omega)) (by omega)
theorem og_stmts (hN : K N < 2) (h : OgR N R F) {d j : Nat} (hj : j ≤ N) (hF : 64 * (N - j) ≤ F) : Og N (gStmts K R d j) j 1 := by
  unfold gStmts
  exact og_if (fun _ => og_T hN hj (by omega) (by omega)) (fun _ => og_S (a := 1) (b := 1) (og_stmt hN h hj hF) (fun j1 c1 c2 => h.2.2.1.2.2.1 _ j1 c2 (by omega)) (by omega))
theorem og_param (hN : K N < 2) (h : OgR N R F) {j : Nat} (hj : j ≤ N) (hF : 64 * (N - j) ≤ F) : Og N (gParam K R j) j 1 := by
  unfold gParam
  exact og_W (og_S (a := 1) (b := 0) (og_N hN hj (by omega)) (fun j1 c1 c2 => og_mono (og_width hN h c2 (by omega)) (by omega)) (by omega))
theorem og_more (hN : K N < 2) {t j : Nat} {p q : Nat → PR} (ht : 2 ≤ t) (hj : j ≤ N) (hp : ∀ j1, j + 1 ≤ j1 → j1 ≤ N → Og N (p j1) j1 1) (hq : ∀ j1, j + 1 ≤ j1 → j1 ≤ N → Og N (q j1) j1 0) : Og N (gMore K t p q j) j 0 := by
  unfold gMore
  refine og_if (fun c => ?_) (fun _ => og_E hj rfl)
  have hlt := og_lt hN hj (by omega)
  exact og_1 (a := 0) (og_S (a := 1) (b := 0) (hp _ (by omega) hlt) (fun j1 c1 c2 => hq j1 (by omega) c2) (by omega)) (by omega)
end Ogp
end Ogs
theorem og_all {N : Nat} {K : Nat → Nat} (hN : K N < 2) : ∀ F, OgR N (pP K F) F
  | 0 => ⟨⟨fun _ _ _ h => by omega, fun _ _ _ h => by omega, fun _ _ _ h => by omega⟩, ⟨fun _ _ _ h => by omega, fun _ _ _ h => by omega, fun _ _ _ h => by omega, fun _ _ _ h => by omega⟩, ⟨fun _ _ _ h => by omega, fun _ _ _ h => by omega, fun _ _ _ h => by omega, fun _ _ _ h => by omega, fun _ _ _ h => by omega, fun _ _ _ h => by omega⟩, fun _ _ _ _ _ _ _ h => by omega, fun _ _ _ _ _ _ _ h => by omega⟩
  | F + 1 => by
    have h := og_all hN F
    refine ⟨⟨fun d j hj hF => ?_, fun d j hj hF => og_expr hN h hj (by omega), fun d j hj hF => og_unary hN h hj (by omega)⟩, ⟨fun d j hj hF => ?_, fun d j hj hF => ?_, fun d j hj hF => ?_, fun d j hj hF => ?_⟩, ⟨fun d j hj hF => og_label hN h hj (by omega), fun d j hj hF => og_block hN h hj (by omega), fun d j hj hF => og_stmts hN h hj (by omega), fun d j hj hF => og_choices hN h hj (by omega), fun d j hj hF => ?_, fun d j hj hF => ?_⟩, fun b s d j hb hs hj hF => ?_, fun b s d j hb hs hj hF => ?_⟩
    · rw [pP_0]
      exact og_if (fun _ => og_er) (fun _ => h.2.2.2.1 6 1 d j (by omega) (by omega) hj (by omega))
    · rw [pP_4]
      refine og_if (fun c => ?_) (fun _ => og_T hN hj (by omega) (by omega))
      have hlt := og_lt hN hj (by omega)
      exact og_1 (a := 0) (og_S (a := 1) (b := 0) (h.1.2.1 _ _ hlt (by omega)) (fun j1 c1 c2 => og_mono (h.2.1.1 _ j1 c2 (by omega)) (by omega)) (by omega)) (by omega)
    · rw [pP_5]
      refine og_if (fun c => ?_) (fun _ => og_T hN hj (by omega) (by omega))
      have hlt := og_lt hN hj (by omega)
      exact og_1 (a := 0) (og_S (a := 1) (b := 0) (h.1.2.1 _ _ hlt (by omega)) (fun j1 c1 c2 => og_mono (h.2.1.2.1 _ j1 c2 (by omega)) (by omega)) (by omega)) (by omega)
    · exact og_more (K := K) hN (by omega) hj (fun j1 c1 c2 => og_N hN c2 (by omega)) (fun j1 c1 c2 => h.2.1.2.2.1 0 j1 c2 (by omega))
    · exact og_more (K := K) hN (by omega) hj (fun j1 c1 c2 => og_N hN c2 (by omega)) (fun j1 c1 c2 => h.2.1.2.2.2 0 j1 c2 (by omega))
    · exact og_more (K := K) hN (by omega) hj (fun j1 c1 c2 => h.1.1 _ j1 c2 (by omega)) (fun j1 c1 c2 => h.2.2.1.2.2.2.2.1 _ j1 c2 (by omega))
    · exact og_more (K := K) hN (by omega) hj (fun j1 c1 c2 => og_param hN h c2 (by omega)) (fun j1 c1 c2 => h.2.2.1.2.2.2.2.2 0 j1 c2 (by omega))
    · rw [pP_chain _ _ _ _ _ _ hb hs]
      exact og_chain hN h hb hs hj (by omega)
    · rw [pP_ops _ _ _ _ _ _ hb hs]
      exact og_ops hN h hb hs hj (by omega)
