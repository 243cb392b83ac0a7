/-! the grower that doubles until it is enough -/
set_option maxRecDepth 100000
/-- loose arrays, the last of m places, are made behind the state -/
def WI (σ : Sg) (o f cc m t : Nat) (σ1 : Sg) : Prop := gF σ1 = gF σ ∧ gN σ1 = gN σ + cc + 1 ∧ gS σ1 = gS σ + m + t ∧ gC σ1 = gC σ ∧ gD σ1 = gD σ ∧ gT σ1 = gT σ + m + t ∧ gK σ1 = (fun x => if gN σ ≤ x ∧ x ≤ gN σ + cc then 100 + 0 else gK σ x) ∧
    (gV σ1 (gN σ + cc) 0 = gN σ + cc ∧ gL σ1 (gN σ + cc) 0 = m ∧ gA σ1 (gN σ + cc) 0 = fun j => if true = true ∧ j < gL σ o f then gA σ o f j else 0) ∧
    (∀ o' f' : Nat, ¬ (f' = 0 ∧ gN σ ≤ o' ∧ o' ≤ gN σ + cc) → gV σ1 o' f' = gV σ o' f' ∧ gL σ1 o' f' = gL σ o' f' ∧ gA σ1 o' f' = gA σ o' f')
theorem wi_next {σ σ1 : Sg} {o f cc m t : Nat} (h : WI σ o f cc m t σ1) (h16 : 16 ≤ m) (hL : gL σ o f ≤ m) : WI σ o f (cc + 1) (2 * m) (t + m) (mrS σ1 (gN σ + cc) 0 (2 * m)) := by
  obtain ⟨a1, a2, a3, a4, a5, a6, a9, a7, a8⟩ := h
  obtain ⟨b1, b2, b3, b4, b5, b6, b9, b7, b8⟩ := mrS_parts (σ := σ1) (o := gN σ + cc) (f := 0) (m := 2 * m) (by omega)
  refine ⟨b1.trans a1, by rw [b2, a2]; omega, by rw [b3, a3]; omega, b4.trans a4, b5.trans a5, by rw [b6, a6]; omega, ?_, ⟨?_, ?_, ?_⟩, fun o' f' hn => ?_⟩
  · rw [b9]
    funext x
    rw [a9, a2]
    by_cases c : x = gN σ + cc + 1
    · rw [if_pos (by omega), if_pos (by omega)]
    · rw [if_neg (by omega)]
      show (if gN σ ≤ x ∧ x ≤ gN σ + cc then 100 + 0 else gK σ x) = _
      by_cases c2 : gN σ ≤ x ∧ x ≤ gN σ + cc
      · rw [if_pos c2, if_pos (by omega)]
      · rw [if_neg c2, if_neg (by omega)]
  · have := b7.1; rw [a2] at this; exact this
  · have := b7.2.1; rw [a2] at this; exact this
  · have := b7.2.2; rw [a2] at this
    rw [show gN σ + (cc + 1) = gN σ + cc + 1 + 0 by omega, this, a7.2.1, a7.2.2]
    funext j
    show (if true = true ∧ j < m then (if true = true ∧ j < gL σ o f then gA σ o f j else 0) else 0) = _
    by_cases c : j < gL σ o f
    · rw [if_pos ⟨rfl, by omega⟩]
    · by_cases c2 : j < m
      · rw [if_pos ⟨rfl, c2⟩]
      · rw [if_neg (fun q => c2 q.2), if_neg (fun q => c q.2)]
  · obtain ⟨d1, d2, d3⟩ := b8 o' f' (by rw [a2]; omega)
    obtain ⟨e1, e2, e3⟩ := a8 o' f' (by omega)
    exact ⟨d1.trans e1, d2.trans e2, d3.trans e3⟩
/-- the loop -/
theorem dbl_ge : ∀ (q l s : Nat), l ≤ dbl q l s
  | 0, l, s => Nat.le_refl _
  | q + 1, l, s => by
    show l ≤ if s ≤ l then l else dbl q (2 * l) s
    split
    · exact Nat.le_refl _
    · exact Nat.le_trans (by omega) (dbl_ge q (2 * l) s)
theorem jx_wide {ph k o f v D C : Nat} {n : Int} {σ : Sg} {Q : Option AV → Sg → Prop} (hLo : Low σ) (hk : 2 ≤ k) (hn : 0 ≤ n) (hL : 8 ≤ gL σ o f) (hnD : n.toNat ≤ D) (hD : 2 * D ≤ 540000) (hQ : ∀ (cc' t' : Nat) (σ' : Sg), WI σ o f cc' D t' σ' → t' + 2 * gL σ o f = D → cc' + 1 = C → Q (some (vA 0 (gN σ + cc') 0 (gN σ + cc'))) σ') :
    ∀ (q cc m t : Nat) (σ1 : Sg), WI σ o f cc m t σ1 → t + 2 * gL σ o f = m → D = dbl q m n.toNat → C = cc + 1 + dbc q m n.toNat →
    Jx (true, 222, [(0, 2)]) ph nWide k [vA 0 o f v, vI n] σ Q (fun _ _ => False) 2 [some (vA 0 o f v), some (vI n), some (vA 0 (gN σ + cc) 0 (gN σ + cc))] [] σ1 := by
  intro q
  induction q with
  | zero =>
    intro cc m t σ1 hw ht hq hC
    have hq : D = m := hq
    have hC : C = cc + 1 := hC
    subst hq
    refine jx_seg (il := fun a => a == 426) (mc := false) no_gr 40 [2] (by decide) rfl ?_
    refine And.intro hw.2.2.2.2.2.2.2.1.1.symm (And.intro (fun c => ?_) (fun c => ?_))
    · exact hQ cc t σ1 hw ht hC.symm
    · have c : ¬ n ≤ (gL σ1 (gN σ + cc) 0 : Int) := c
      rw [hw.2.2.2.2.2.2.2.1.2.1] at c
      omega
  | succ q ih =>
    intro cc m t σ1 hw ht hq hC
    refine jx_fine (fun hF _ => ?_)
    refine jx_seg (il := fun a => a == 426) (mc := false) no_gr 40 [2] (by decide) rfl ?_
    have hv1 : gN σ + cc = gV σ1 (gN σ + cc) 0 := hw.2.2.2.2.2.2.2.1.1.symm
    have hl1 : gL σ1 (gN σ + cc) 0 = m := hw.2.2.2.2.2.2.2.1.2.1
    have hN1 : gN σ1 = gN σ + cc + 1 := hw.2.1
    have hne : ¬ (gN σ + cc = gN σ1 ∧ 0 = 0) := by omega
    refine And.intro hv1 (And.intro (fun c => ?_) (fun c => ?_))
    · have c : n ≤ (gL σ1 (gN σ + cc) 0 : Int) := c
      rw [hl1] at c
      have e1 : dbl (q + 1) m n.toNat = m := by show (if n.toNat ≤ m then m else _) = m; rw [if_pos (by omega)]
      have e2 : dbc (q + 1) m n.toNat = 0 := by show (if n.toNat ≤ m then 0 else _) = 0; rw [if_pos (by omega)]
      rw [e1] at hq
      rw [e2] at hC
      subst hq
      exact hQ cc t σ1 hw ht hC.symm
    · have c : ¬ n ≤ (gL σ1 (gN σ + cc) 0 : Int) := c
      rw [hl1] at c
      have e1 : dbl (q + 1) m n.toNat = dbl q (2 * m) n.toNat := by show (if n.toNat ≤ m then m else _) = _; rw [if_neg (by omega)]
      have e2 : dbc (q + 1) m n.toNat = 1 + dbc q (2 * m) n.toNat := by show (if n.toNat ≤ m then 0 else _) = _; rw [if_neg (by omega)]
      rw [e1] at hq
      rw [e2] at hC
      have h3 := dbl_ge q (2 * m) n.toNat
      have hT1 : gT σ1 = m + t := by rw [hw.2.2.2.2.2.1, hLo.1]; omega
      refine And.intro (show 1 ≤ k by omega) (And.intro hv1 ?_)
      have hm : (2 * (gL σ1 (gN σ + cc) 0 : Int)).toNat = 2 * gL σ1 (gN σ + cc) 0 := by omega
      refine And.intro (show -2147483648 ≤ 2 * (gL σ1 (gN σ + cc) 0 : Int) ∧ 2 * (gL σ1 (gN σ + cc) 0 : Int) < 2147483648 by omega) (And.intro (show 0 ≤ 2 * (gL σ1 (gN σ + cc) 0 : Int) ∧ gT σ1 + (2 * (gL σ1 (gN σ + cc) 0 : Int)).toNat ≤ 540000 ∧ ((2 * (gL σ1 (gN σ + cc) 0 : Int)).toNat < 16 → _) from ⟨by omega, by omega, fun q => absurd q (by omega)⟩) ?_)
      have hc := cpy_ok (σ := σ1) (m := (2 * (gL σ1 (gN σ + cc) 0 : Int)).toNat) hv1 hne (by omega)
      refine And.intro hc.1.1 (And.intro ⟨show 1 ≤ k - 1 by omega, rfl⟩ (And.intro hc.1 (And.intro hc.2 ?_)))
      have hnx := ih (cc + 1) (2 * m) (t + m) _ (wi_next hw (by omega) (by omega)) (by omega) hq (by omega)
      have heq := cpy_new (m := (2 * (gL σ1 (gN σ + cc) 0 : Int)).toNat) hF hne
      have hgo : Jx (true, 222, [(0, 2)]) ph nWide k [vA 0 o f v, vI n] σ Q (fun _ _ => False) 2 [some (vA 0 o f v), some (vI n), some (vA 0 (gN σ1) 0 (gN σ1))] [] (mrS σ1 (gN σ + cc) 0 (2 * (gL σ1 (gN σ + cc) 0 : Int)).toNat) := by
        rw [hm, hl1, hN1]
        exact hnx
      rw [← heq] at hgo
      exact hgo
theorem cn_wide {ph k o f v : Nat} {n : Int} {σ : Sg} (hLo : Low σ) (hk : 2 ≤ k) (hv : v = gV σ o f) (hne : ¬ (o = gN σ ∧ f = 0)) (hn : 0 ≤ n) (hg : gL σ o f < n.toNat → 8 ≤ gL σ o f ∧ 2 * dbl 20 (gL σ o f) n.toNat ≤ 540000 ∧ n.toNat ≤ dbl 20 (gL σ o f) n.toNat) :
    Cn ph (mY nWide) k [vA 0 o f v, vI n] σ (fun r σ' => (n.toNat ≤ gL σ o f ∧ r = some (vA 0 o f v) ∧ σ' = σ) ∨ (gL σ o f < n.toNat ∧ ∃ cc t, r = some (vA 0 (gN σ + cc) 0 (gN σ + cc)) ∧ WI σ o f cc (dbl 20 (gL σ o f) n.toNat) t σ' ∧ t + 2 * gL σ o f = dbl 20 (gL σ o f) n.toNat ∧ cc + 1 = dbc 20 (gL σ o f) n.toNat)) (fun _ _ => False) := by
  refine cn_intro (fun hF => ?_)
  refine cn_mono (cn_seg (d := (true, 222, [(0, 2)])) (il := fun a => a == 426) (mc := false) no_gr 40 [2] (by decide) (Nat.le_of_ble_eq_true rfl) (Q := fun r σ' => (n.toNat ≤ gL σ o f ∧ r = some (vA 0 o f v) ∧ σ' = σ) ∨ (gL σ o f < n.toNat ∧ ∃ cc t, r = some (vA 0 (gN σ + cc) 0 (gN σ + cc)) ∧ WI σ o f cc (dbl 20 (gL σ o f) n.toNat) t σ' ∧ t + 2 * gL σ o f = dbl 20 (gL σ o f) n.toNat ∧ cc + 1 = dbc 20 (gL σ o f) n.toNat)) (E := fun _ _ => False) ?_ hLo) (fun _ _ _ _ q => q.2) (fun _ _ _ q => q.2)
  show Jx (true, 222, [(0, 2)]) ph nWide k [vA 0 o f v, vI n] σ _ (fun _ _ => False) 2 [some (vA 0 o f v), some (vI n), some (vA 0 o f v)] [] σ
  refine jx_seg (il := fun a => a == 426) (mc := false) no_gr 40 [2] (by decide) rfl ?_
  refine And.intro hv (And.intro (fun c => ?_) (fun c => ?_))
  · have c : n ≤ (gL σ o f : Int) := c
    exact Or.inl ⟨by omega, rfl, rfl⟩
  · have c : ¬ n ≤ (gL σ o f : Int) := c
    obtain ⟨g1, g2, g3⟩ := hg (by omega)
    have e1 : dbl 20 (gL σ o f) n.toNat = dbl 19 (2 * gL σ o f) n.toNat := by show (if n.toNat ≤ gL σ o f then _ else _) = _; rw [if_neg (by omega)]
    have e2 : dbc 20 (gL σ o f) n.toNat = 1 + dbc 19 (2 * gL σ o f) n.toNat := by show (if n.toNat ≤ gL σ o f then 0 else _) = _; rw [if_neg (by omega)]
    have h3 := dbl_ge 19 (2 * gL σ o f) n.toNat
    have hT1 := hLo.1
    refine And.intro (show 1 ≤ k by omega) (And.intro hv ?_)
    have hm : (2 * (gL σ o f : Int)).toNat = 2 * gL σ o f := by omega
    refine And.intro (show -2147483648 ≤ 2 * (gL σ o f : Int) ∧ 2 * (gL σ o f : Int) < 2147483648 by omega) (And.intro (show 0 ≤ 2 * (gL σ o f : Int) ∧ gT σ + (2 * (gL σ o f : Int)).toNat ≤ 540000 ∧ ((2 * (gL σ o f : Int)).toNat < 16 → _) from ⟨by omega, by omega, fun q => absurd q (by omega)⟩) ?_)
    have hc := cpy_ok (σ := σ) (m := (2 * (gL σ o f : Int)).toNat) hv hne (by omega)
    refine And.intro hc.1.1 (And.intro ⟨show 1 ≤ k - 1 by omega, rfl⟩ (And.intro hc.1 (And.intro hc.2 ?_)))
    have heq := cpy_new (m := (2 * (gL σ o f : Int)).toNat) hF hne
    have hgo : Jx (true, 222, [(0, 2)]) ph nWide k [vA 0 o f v, vI n] σ (fun r σ' => (n.toNat ≤ gL σ o f ∧ r = some (vA 0 o f v) ∧ σ' = σ) ∨ (gL σ o f < n.toNat ∧ ∃ cc t, r = some (vA 0 (gN σ + cc) 0 (gN σ + cc)) ∧ WI σ o f cc (dbl 20 (gL σ o f) n.toNat) t σ' ∧ t + 2 * gL σ o f = dbl 20 (gL σ o f) n.toNat ∧ cc + 1 = dbc 20 (gL σ o f) n.toNat)) (fun _ _ => False) 2 [some (vA 0 o f v), some (vI n), some (vA 0 (gN σ) 0 (gN σ))] [] (mrS σ o f (2 * (gL σ o f : Int)).toNat) := by
      rw [hm]
      refine jx_wide (D := dbl 20 (gL σ o f) n.toNat) (C := dbc 20 (gL σ o f) n.toNat) hLo hk hn g1 g3 g2 (fun cc' t' σ' w1 w2 w3 => Or.inr ⟨by omega, cc', t', rfl, w1, w2, w3⟩) 19 0 (2 * gL σ o f) 0 _ (mrS_parts (by omega)) (by omega) e1 (by omega)
    rw [← heq] at hgo
    exact hgo
