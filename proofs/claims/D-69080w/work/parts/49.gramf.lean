/-! the grammar: how many nodes there are for so many tokens; fuel is enough -/
set_option maxRecDepth 100000
/-- three for two nodes -/
def Bd (r : PR) (j : Nat) (a : Int) : Prop := ∀ l j', r = pOk l j' → j ≤ j' ∧ 2 * (l.length : Int) + a ≤ 3 * ((j' : Int) - j)
theorem pOk_inj {l l' : List Nd} {j j' : Nat} (h : pOk l j = pOk l' j') : l = l' ∧ j = j' := by
  unfold pOk at h
  injection h with h
  injection h with h
  exact ⟨congrArg Prod.fst h, congrArg Prod.snd h⟩
theorem pb_ok {r : PR} {f : List Nd → Nat → PR} {l : List Nd} {j : Nat} (h : pb r f = pOk l j) : ∃ l1 j1, r = pOk l1 j1 ∧ f l1 j1 = pOk l j := by
  unfold pb at h
  split at h
  · rename_i q
    exact ⟨q.1, q.2, rfl, h⟩
  · unfold pOk at h; injection h with h; cases h
  · cases h
theorem bd_mono {r : PR} {j : Nat} {a b : Int} (h : Bd r j a) (hb : b ≤ a) : Bd r j b := fun l j' e => by
  obtain ⟨h1, h2⟩ := h l j' e
  exact ⟨h1, by omega⟩
theorem bd_er {j i : Nat} {a : Int} : Bd (pEr i) j a := fun l j' e => by unfold pEr pOk at e; injection e with e; cases e
theorem bd_none {j : Nat} {a : Int} : Bd none j a := fun l j' e => by cases e
theorem bd_E {j : Nat} {a : Int} (h : a ≤ 0) : Bd (pE j) j a := fun l j' e => by
  obtain ⟨rfl, rfl⟩ := pOk_inj e
  exact ⟨Nat.le_refl _, by simp; omega⟩
theorem bd_T {K : Nat → Nat} {t j : Nat} {a : Int} (h : a ≤ 3) : Bd (pT K t j) j a := by
  unfold pT
  split
  · intro l j' e
    obtain ⟨rfl, rfl⟩ := pOk_inj e
    exact ⟨by omega, by simp; omega⟩
  · exact bd_er
theorem bd_N {K : Nat → Nat} {j : Nat} {a : Int} (h : a ≤ 1) : Bd (pN K j) j a := by
  unfold pN
  split
  · intro l j' e
    obtain ⟨rfl, rfl⟩ := pOk_inj e
    exact ⟨by omega, by simp; omega⟩
  · exact bd_er
theorem bd_S {p q : Nat → PR} {j : Nat} {a b c : Int} (hp : Bd (p j) j a) (hq : ∀ j1, j ≤ j1 → Bd (q j1) j1 b) (hc : c ≤ a + b) : Bd (pS p q j) j c := fun l j' e => by
  unfold pS at e
  obtain ⟨l1, j1, e1, e2⟩ := pb_ok e
  obtain ⟨l2, j2, e3, e4⟩ := pb_ok e2
  obtain ⟨rfl, rfl⟩ := pOk_inj e4
  obtain ⟨a1, a2⟩ := hp l1 j1 e1
  obtain ⟨b1, b2⟩ := hq j1 a1 l2 j2 e3
  refine ⟨by omega, ?_⟩
  rw [List.length_append]
  omega
theorem bd_W {k j0 j : Nat} {p : Nat → PR} {a b : Int} (hp : Bd (p j) j a) (hb : b ≤ a - 2) : Bd (pW k j0 p j) j b := fun l j' e => by
  unfold pW at e
  obtain ⟨l1, j1, e1, e2⟩ := pb_ok e
  obtain ⟨rfl, rfl⟩ := pOk_inj e2
  obtain ⟨a1, a2⟩ := hp l1 j1 e1
  refine ⟨a1, ?_⟩
  rw [List.length_cons]
  omega
theorem bd_if {c : Prop} [Decidable c] {r s : PR} {j : Nat} {a : Int} (h1 : c → Bd r j a) (h2 : ¬ c → Bd s j a) : Bd (if c then r else s) j a := by
  by_cases h : c
  · rw [if_pos h]; exact h1 h
  · rw [if_neg h]; exact h2 h
/-- at one more token -/
theorem bd_1 {r : PR} {j : Nat} {a b : Int} (h : Bd r (j + 1) a) (hb : b ≤ a + 3) : Bd r j b := fun l j' e => by
  obtain ⟨h1, h2⟩ := h l j' e
  exact ⟨by omega, by omega⟩
/-- what each sort of thing has at least -/
def wt (c : Nat) : Int := if c = 0 ∨ c = 2 ∨ c = 3 ∨ (16 ≤ c ∧ c < 32) then 1 else if c = 8 then -1 else 0
def BdR (K : Nat → Nat) (R : Nat → Nat → Nat → PR) : Prop := (∀ c d j, Bd (R c d j) j (wt c)) ∧ (∀ b s d j, b < 8 → s < 2 → sgn b s (K j) = true → Bd (R (32 + 2 * b + s) d j) j 2)
section Bds
variable {K : Nat → Nat} {R : Nat → Nat → Nat → PR}
theorem bd_one {j k : Nat} {a : Int} (ha : a ≤ 1) : Bd (pOk [(k, j, 1)] (j + 1)) j a := fun l j' e => by
  obtain ⟨rfl, rfl⟩ := pOk_inj e
  exact ⟨by omega, by simp; omega⟩
theorem bd_part (h : BdR K R) {b s d j : Nat} (hs : s < 2) : Bd (gPart K R b s d j) j 1 := by
  unfold gPart
  split
  · refine bd_mono (h.1 _ d j) ?_
    unfold wt
    rw [if_pos (by omega)]
    exact Int.le_refl _
  · split
    · refine bd_if (fun _ => bd_one (Int.le_refl _)) (fun _ => bd_if (fun _ => ?_) (fun _ => bd_N (Int.le_refl _)))
      exact bd_S (a := 3) (b := 4) (bd_T (by omega)) (fun j1 _ => bd_S (a := 1) (b := 3) (h.1 0 _ j1) (fun j2 _ => bd_T (by omega)) (by omega)) (by omega)
    · exact h.1 3 d j
theorem bd_chain (h : BdR K R) {b s d j : Nat} (hb : b < 8) (hs : s < 2) : Bd (gChain K R b s d j) j 1 := by
  intro l j' e
  unfold gChain at e
  obtain ⟨l1, j1, e1, e2⟩ := pb_ok e
  obtain ⟨a1, a2⟩ := bd_part h hs l1 j1 e1
  split at e2
  · rename_i hsg
    obtain ⟨l2, j2, e3, e4⟩ := pb_ok e2
    obtain ⟨rfl, rfl⟩ := pOk_inj e4
    obtain ⟨b1, b2⟩ := h.2 b s d j1 hb hs hsg l2 j2 e3
    exact ⟨by omega, by simp only [List.length_cons, List.length_append]; omega⟩
  · obtain ⟨rfl, rfl⟩ := pOk_inj e2
    exact ⟨a1, a2⟩
theorem bd_ops2 (h : BdR K R) {b s d j : Nat} (hb : b < 8) (hs : s < 2) (hg : sgn b s (K j) = true) : Bd (gOps K R b s d j) j 2 := by
  unfold gOps
  rw [if_pos hg]
  refine bd_S (a := 2) (b := 0) (bd_W (a := 4) (bd_1 (bd_part h hs) (by omega)) (by omega)) (fun j1 _ => bd_mono (h.1 _ d j1) ?_) (by omega)
  unfold wt
  rw [if_neg (by omega)]
  split <;> omega
theorem bd_ops (h : BdR K R) {b s d j : Nat} (hb : b < 8) (hs : s < 2) : Bd (gOps K R b s d j) j 0 := by
  by_cases hg : sgn b s (K j) = true
  · exact bd_mono (bd_ops2 h hb hs hg) (by omega)
  · unfold gOps
    rw [if_neg hg]
    exact bd_E (Int.le_refl _)
theorem bd_args (h : BdR K R) {d j : Nat} : Bd (gArgs K R d j) j 4 :=
  bd_S (a := 3) (b := 1) (bd_T (by omega)) (fun j1 _ => bd_S (a := 1) (b := 0) (h.1 2 _ j1) (fun j2 _ => h.1 4 d j2) (by omega)) (by omega)
theorem bd_cond (h : BdR K R) {d j : Nat} : Bd (gCond K R d j) j 7 :=
  bd_S (a := 3) (b := 4) (bd_T (by omega)) (fun j1 _ => bd_S (a := 1) (b := 3) (h.1 2 _ j1) (fun j2 _ => bd_T (by omega)) (by omega)) (by omega)
theorem bd_width (h : BdR K R) {d j : Nat} : Bd (gWidth K R d j) j 7 :=
  bd_S (a := 3) (b := 4) (bd_T (by omega)) (fun j1 _ => bd_S (a := 1) (b := 3) (h.1 0 _ j1) (fun j2 _ => bd_T (by omega)) (by omega)) (by omega)
theorem bd_names (h : BdR K R) {c j : Nat} (hc : c = 6 ∨ c = 7) : Bd (gNames K R c j) j 1 := by
  refine bd_S (a := 1) (b := 0) (bd_N (by omega)) (fun j1 _ => bd_mono (h.1 c 0 j1) ?_) (by omega)
  rcases hc with rfl | rfl <;> decide
theorem bd_expr (h : BdR K R) {d j : Nat} : Bd (gExpr K R d j) j 1 := by
  unfold gExpr
  refine bd_if (fun _ => bd_er) (fun _ => ?_)
  intro l j' e
  obtain ⟨l1, j1, e1, e2⟩ := pb_ok e
  obtain ⟨a1, a2⟩ := h.1 16 d j l1 j1 e1
  have a2 : 2 * (l1.length : Int) + 1 ≤ 3 * ((j1 : Int) - j) := a2
  split at e2
  · obtain ⟨l2, j2, e3, e4⟩ := pb_ok e2
    obtain ⟨rfl, rfl⟩ := pOk_inj e4
    have hb : Bd (pS (R 2 (d + 1)) (pS (pT K 12) (R 2 (d + 1))) (j1 + 1)) (j1 + 1) 5 := bd_S (a := 1) (b := 4) (h.1 2 _ _) (fun j2 _ => bd_S (a := 3) (b := 1) (bd_T (by omega)) (fun j3 _ => h.1 2 _ j3) (by omega)) (by omega)
    obtain ⟨b1, b2⟩ := hb l2 j2 e3
    exact ⟨by omega, by simp only [List.length_cons, List.length_append]; omega⟩
  · obtain ⟨rfl, rfl⟩ := pOk_inj e2
    exact ⟨a1, a2⟩
theorem bd_turned (h : BdR K R) {d j : Nat} : Bd (gTurned R d j) j 1 := by
  unfold gTurned
  exact bd_if (fun _ => bd_er) (fun _ => h.1 3 d j)
theorem bd_made (h : BdR K R) {d j : Nat} : Bd (gMade K R d j) j 1 := by
  unfold gMade
  refine bd_if (fun _ => bd_er) (fun _ => bd_W (a := 3) (bd_1 (a := 7) ?_ (by omega)) (by omega))
  refine bd_S (a := 3) (b := 4) (bd_T (by omega)) (fun j1 _ => bd_S (a := 0) (b := 4) ?_ (fun j2 _ => bd_S (a := 1) (b := 3) ?_ (fun j3 _ => bd_T (by omega)) (by omega)) (by omega)) (by omega)
  · split
    · exact bd_S (a := 1) (b := 3) (h.1 0 _ j1) (fun j3 _ => bd_T (by omega)) (by omega)
    · exact bd_E (Int.le_refl _)
  · split
    · exact h.1 0 _ j2
    · exact h.1 2 _ j2
theorem bd_bits (h : BdR K R) {d j j2 : Nat} {l1 : List Nd} (h1 : j ≤ j2) (h2 : 2 * (l1.length : Int) + 7 ≤ 3 * ((j2 : Int) - j)) : Bd (gBits K R d j l1 j2) j 1 := by
  unfold gBits
  refine bd_if (fun _ => ?_) (fun _ => ?_)
  · intro l j' e
    obtain ⟨l2, j3, e3, e4⟩ := pb_ok e
    obtain ⟨rfl, rfl⟩ := pOk_inj e4
    have hb : Bd (pS (R 0 (d + 1)) (pT K 9) (j2 + 1)) (j2 + 1) 4 := bd_S (a := 1) (b := 3) (h.1 0 _ _) (fun j2 _ => bd_T (by omega)) (by omega)
    obtain ⟨b1, b2⟩ := hb l2 j3 e3
    exact ⟨by omega, by simp only [List.length_cons, List.length_append]; omega⟩
  · intro l j' e
    obtain ⟨l2, j4, e3, e4⟩ := pb_ok e
    have hb : Bd (pS (R 12 d) (pT K 9) j2) j2 3 := bd_S (a := 0) (b := 3) (h.1 12 _ _) (fun j2 _ => bd_T (by omega)) (by omega)
    obtain ⟨b1, b2⟩ := hb l2 j4 e3
    split at e4
    · obtain ⟨la, j5, e5, e6⟩ := pb_ok e4
      obtain ⟨rfl, rfl⟩ := pOk_inj e6
      obtain ⟨c1, c2⟩ := bd_args h la j5 e5
      exact ⟨by omega, by simp only [List.length_cons, List.length_append]; omega⟩
    · obtain ⟨rfl, rfl⟩ := pOk_inj e4
      exact ⟨by omega, by simp only [List.length_cons]; omega⟩
theorem bd_named (h : BdR K R) {d j : Nat} : Bd (gNamed K R d j) j 1 := by
  unfold gNamed
  refine bd_if (fun _ => ?_) (fun _ => bd_if (fun _ => ?_) (fun _ => bd_one (Int.le_refl _)))
  · intro l j' e
    obtain ⟨la, j5, e5, e6⟩ := pb_ok e
    obtain ⟨rfl, rfl⟩ := pOk_inj e6
    obtain ⟨c1, c2⟩ := bd_args h la j5 e5
    exact ⟨by omega, by simp only [List.length_cons]; omega⟩
  · intro l j' e
    obtain ⟨l1, j2, e5, e6⟩ := pb_ok e
    obtain ⟨c1, c2⟩ := h.1 0 _ _ l1 j2 e5
    have c2 : 2 * (l1.length : Int) + 1 ≤ 3 * ((j2 : Int) - ((j + 2 : Nat) : Int)) := c2
    exact bd_bits h (by omega) (by omega) l j' e6
theorem bd_unary (h : BdR K R) {d j : Nat} : Bd (gUnary K R d j) j 1 := by
  unfold gUnary
  refine bd_if (fun _ => ?_) (fun _ => bd_if (fun _ => ?_) (fun _ => bd_if (fun _ => ?_) (fun _ => bd_if (fun _ => ?_) (fun _ => bd_if (fun _ => ?_) (fun _ => bd_if (fun _ => bd_named h) (fun _ => bd_made h))))))
  · exact bd_W (a := 4) (bd_1 (bd_turned h) (by omega)) (by omega)
  · exact bd_W (a := 4) (bd_1 (bd_turned h) (by omega)) (by omega)
  · exact bd_W (a := 4) (bd_1 (bd_turned h) (by omega)) (by omega)
  · exact bd_S (a := 3) (b := 4) (bd_T (by omega)) (fun j1 _ => bd_S (a := 1) (b := 3) (h.1 2 _ j1) (fun j2 _ => bd_T (by omega)) (by omega)) (by omega)
  · exact bd_W (a := 4) (bd_S (a := 3) (b := 1) (bd_T (by omega)) (fun j1 _ => bd_S (a := 1) (b := 0) (h.1 2 _ j1) (fun j2 _ => h.1 5 _ j2) (by omega)) (by omega)) (by omega)
theorem bd_label (h : BdR K R) {d j : Nat} : Bd (gLabel K R d j) j (-1) := by
  unfold gLabel
  refine bd_if (fun _ => bd_er) (fun _ => bd_if (fun _ => ?_) (fun _ => bd_W (a := 1) (bd_names h (Or.inl rfl)) (by omega)))
  exact bd_W (a := 15) (bd_S (a := 3) (b := 12) (bd_T (by omega)) (fun _ _ => bd_S (a := 3) (b := 9) (bd_T (by omega)) (fun _ _ => bd_S (a := 1) (b := 8) (bd_N (by omega)) (fun _ _ => bd_S (a := 3) (b := 5) (bd_T (by omega)) (fun _ _ => bd_S (a := 1) (b := 4) (h.1 0 _ _) (fun _ _ => bd_S (a := 3) (b := 1) (bd_T (by omega)) (fun _ _ => bd_S (a := -1) (b := 2) (h.1 8 _ _) (fun _ _ => bd_S (a := 3) (b := -1) (bd_T (by omega)) (fun _ _ => h.1 8 _ _) (by omega)) (by omega)) (by omega)) (by omega)) (by omega)) (by omega)) (by omega)) (by omega)) (by omega)
theorem bd_block (h : BdR K R) {d j : Nat} : Bd (gBlock K R d j) j 0 := by
  unfold gBlock
  exact bd_if (fun _ => bd_er) (fun _ => bd_W (a := 3) (bd_S (a := 3) (b := 0) (bd_T (by omega)) (fun _ _ => h.1 10 _ _) (by omega)) (by omega))
theorem bd_choice (h : BdR K R) {d j : Nat} : Bd (gChoice K R d j) j 2 :=
  bd_W (a := 4) (bd_S (a := 1) (b := 3) (h.1 0 _ _) (fun _ _ => bd_S (a := 3) (b := 0) (bd_T (by omega)) (fun _ _ => h.1 9 _ _) (by omega)) (by omega)) (by omega)
theorem bd_choices (h : BdR K R) {d j : Nat} : Bd (gChoices K R d j) j 0 := by
  unfold gChoices
  refine bd_if (fun _ => ?_) (fun _ => bd_if (fun _ => bd_T (by omega)) (fun _ => bd_S (a := 2) (b := 0) (bd_choice h) (fun _ _ => h.1 11 _ _) (by omega)))
  exact bd_S (a := 4) (b := 3) (bd_W (a := 6) (bd_S (a := 3) (b := 3) (bd_T (by omega)) (fun _ _ => bd_S (a := 3) (b := 0) (bd_T (by omega)) (fun _ _ => h.1 9 _ _) (by omega)) (by omega)) (by omega)) (fun _ _ => bd_T (by omega)) (by omega)
theorem bd_stmt (h : BdR K R) {d j : Nat} : Bd (gStmt K R d j) j 0 := by
  unfold gStmt
  refine bd_if (fun _ => ?_) (fun _ => bd_if (fun _ => ?_) (fun _ => bd_if (fun _ => ?_) (fun _ => bd_er)))
  · exact bd_W (a := 8) (bd_S (a := 1) (b := 7) (bd_N (by omega)) (fun _ _ => bd_S (a := 3) (b := 4) (bd_T (by omega)) (fun _ _ => bd_S (a := 1) (b := 3) (h.1 2 _ _) (fun _ _ => bd_T (by omega)) (by omega)) (by omega)) (by omega)) (by omega)
  · refine bd_W (a := 10) (bd_S (a := 3) (b := 7) (bd_T (by omega)) (fun _ _ => bd_S (a := 7) (b := 0) (bd_cond h) (fun _ _ => bd_S (a := 0) (b := 0) (h.1 9 _ _) (fun j3 _ => ?_) (by omega)) (by omega)) (by omega)) (by omega)
    exact bd_if (fun _ => bd_S (a := 3) (b := 0) (bd_T (by omega)) (fun _ _ => h.1 9 _ _) (by omega)) (fun _ => bd_E (Int.le_refl _))
  · exact bd_W (a := 15) (bd_S (a := 3) (b := 12) (bd_T (by omega)) (fun _ _ => bd_S (a := 7) (b := 5) (bd_cond h) (fun _ _ => bd_S (a := 3) (b := 2) (bd_T (by omega)) (fun _ _ => bd_S (a := 2) (b := 0) (bd_choice h) (fun _ _ => h.1 11 _ _) (by omega)) (by omega)) (by omega)) (by omega)) (by omega)
theorem bd_stmts (h : BdR K R) {d j : Nat} : Bd (gStmts K R d j) j 0 := by
  unfold gStmts
  exact bd_if (fun _ => bd_T (by omega)) (fun _ => bd_S (a := 0) (b := 0) (bd_stmt h) (fun _ _ => h.1 10 _ _) (by omega))
theorem bd_param (h : BdR K R) {j : Nat} : Bd (gParam K R j) j 6 :=
  bd_W (a := 8) (bd_S (a := 1) (b := 7) (bd_N (by omega)) (fun _ _ => bd_width h) (by omega)) (by omega)
theorem bd_more {t : Nat} {p q : Nat → PR} {j : Nat} {a b : Int} (hp : ∀ j, Bd (p j) j a) (hq : ∀ j, Bd (q j) j b) (h0 : 0 ≤ a + b + 3) : Bd (gMore K t p q j) j 0 := by
  unfold gMore
  exact bd_if (fun _ => bd_1 (bd_S (c := a + b) (hp _) (fun _ _ => hq _) (by omega)) (by omega)) (fun _ => bd_E (Int.le_refl _))
theorem bd_all (h : BdR K R) (c d j : Nat) : Bd (gAll K R c d j) j (wt c) := by
  unfold gAll
  refine bd_if (fun hc => ?_) (fun h0 => bd_if (fun hc => ?_) (fun h2 => bd_if (fun hc => ?_) (fun h3 => bd_if (fun hc => ?_) (fun h4 => bd_if (fun hc => ?_) (fun h5 => bd_if (fun hc => ?_) (fun h6 => bd_if (fun hc => ?_) (fun h7 => bd_if (fun hc => ?_) (fun h8 => bd_if (fun hc => ?_) (fun h9 => bd_if (fun hc => ?_) (fun h10 => bd_if (fun hc => ?_) (fun h11 => bd_if (fun hc => ?_) (fun h12 => bd_if (fun hc => ?_) (fun h13 => bd_if (fun hc => bd_none) (fun h14 => bd_if (fun hc => ?_) (fun h15 => bd_if (fun hc => ?_) (fun _ => bd_none))))))))))))))))
  · subst hc; exact bd_if (fun _ => bd_er) (fun _ => h.1 29 d j)
  · subst hc; exact bd_expr h
  · subst hc; exact bd_unary h
  · subst hc; exact bd_if (fun _ => bd_1 (bd_S (a := 1) (b := 0) (c := 1) (h.1 2 _ _) (fun _ _ => h.1 4 _ _) (by omega)) (by decide)) (fun _ => bd_T (by decide))
  · subst hc; exact bd_if (fun _ => bd_1 (bd_S (a := 1) (b := 0) (c := 1) (h.1 2 _ _) (fun _ _ => h.1 5 _ _) (by omega)) (by decide)) (fun _ => bd_T (by decide))
  · subst hc; exact bd_more (a := 1) (b := 0) (fun _ => bd_N (by omega)) (fun j => h.1 6 0 j) (by omega)
  · subst hc; exact bd_more (a := 1) (b := 0) (fun _ => bd_N (by omega)) (fun j => h.1 7 0 j) (by omega)
  · subst hc; exact bd_label h
  · subst hc; exact bd_block h
  · subst hc; exact bd_stmts h
  · subst hc; exact bd_choices h
  · subst hc; exact bd_more (a := 1) (b := 0) (fun j => h.1 0 _ j) (fun j => h.1 12 _ j) (by omega)
  · subst hc; exact bd_more (a := 6) (b := 0) (fun j => bd_param h) (fun j => h.1 13 0 j) (by omega)
  · have hw : wt c = 1 := by unfold wt; rw [if_pos (by omega)]
    rw [hw]
    exact bd_chain h (by omega) (by omega)
  · have hw : wt c = 0 := by unfold wt; rw [if_neg (by omega), if_neg (by omega)]
    rw [hw]
    exact bd_ops h (by omega) (by omega)
end Bds
theorem bdR_pP (K : Nat → Nat) : ∀ f, BdR K (pP K f)
  | 0 => ⟨fun _ _ _ => bd_none, fun _ _ _ _ _ _ _ => bd_none⟩
  | f + 1 => ⟨fun c d j => bd_all (bdR_pP K f) c d j, fun b s d j hb hs hg => by
    show Bd (gAll K (pP K f) (32 + 2 * b + s) d j) j 2
    have e : gAll K (pP K f) (32 + 2 * b + s) d j = gOps K (pP K f) b s d j := by
      unfold gAll
      rw [if_neg (by omega), if_neg (by omega), if_neg (by omega), if_neg (by omega), if_neg (by omega), if_neg (by omega), if_neg (by omega), if_neg (by omega), if_neg (by omega), if_neg (by omega), if_neg (by omega), if_neg (by omega), if_neg (by omega), if_neg (by omega), if_neg (by omega), if_pos (by omega)]
      rw [show (32 + 2 * b + s - 32) / 2 = b by omega, show (32 + 2 * b + s - 32) % 2 = s by omega]
    rw [e]
    exact bd_ops2 (bdR_pP K f) hb hs hg⟩
