/-! growing arrays -/
set_option maxRecDepth 100000
theorem no_gr {P : Prop} : (false = true) → P := fun h => by cases h
theorem fine_new {ph : Nat} {σ : Sg} (h : Fine ph σ) {o : Nat} (ho : gN σ ≤ o) (f i : Nat) : gA σ o f i = 0 := by
  obtain ⟨G, H, hR⟩ := h
  exact (hR.2.2.2.2.1.2.2.1 o ho).2 f |>.2.2 i
theorem fine_newV {ph : Nat} {σ : Sg} (h : Fine ph σ) {o : Nat} (ho : gN σ ≤ o) (f : Nat) : gV σ o f = 0 ∧ gL σ o f = 0 := by
  obtain ⟨G, H, hR⟩ := h
  have h1 := ((hR.2.2.2.2.1.2.2.1 o ho).2 f).2.1
  exact ⟨h1, hR.2.2.2.2.1.2.1 o f h1⟩
/-- a longer array, loose -/
def mrS (σ : Sg) (o f m : Nat) : Sg := sB (nA σ 0 m) (gN σ) 0 (fun j => if j < gL σ o f then gA σ o f j else 0)
theorem cpy_new {ph : Nat} {σ : Sg} {o f m : Nat} (hF : Fine ph σ) (hne : ¬ (o = gN σ ∧ f = 0)) : sB (nA σ 0 m) (gN σ) 0 (cpy (gA (nA σ 0 m) o f) (gA (nA σ 0 m) (gN σ) 0) (0 : Int).toNat (0 : Int).toNat (gL (nA σ 0 m) o f : Int).toNat) = mrS σ o f m := by
  unfold mrS
  rw [gL_nA, if_neg hne]
  congr 1
  funext j
  unfold cpy
  show (if 0 ≤ j ∧ j < 0 + (gL σ o f : Int).toNat then gA σ o f (0 + (j - 0)) else gA σ (gN σ) 0 j) = _
  by_cases c : j < gL σ o f
  · rw [if_pos ⟨Nat.zero_le _, by omega⟩, if_pos c]; simp
  · rw [if_neg (by omega), if_neg c]; exact fine_new hF (Nat.le_refl _) 0 j
/-- what the copying asks -/
theorem cpy_ok {σ : Sg} {o f m v : Nat} (hv : v = gV σ o f) (hne : ¬ (o = gN σ ∧ f = 0)) (hm : gL σ o f ≤ m) : (v = gV (nA σ 0 m) o f ∧ gN σ = gV (nA σ 0 m) (gN σ) 0) ∧ 0 ≤ (gL (nA σ 0 m) o f : Int) ∧ (0 : Int) ≤ 0 ∧ (0 : Int) ≤ 0 ∧ 0 + (gL (nA σ 0 m) o f : Int) ≤ (gL (nA σ 0 m) o f : Int) ∧ 0 + (gL (nA σ 0 m) o f : Int) ≤ (gL (nA σ 0 m) (gN σ) 0 : Int) := by
  rw [gV_nA, gV_nA, gL_nA, gL_nA, if_neg hne, if_pos ⟨rfl, rfl⟩, if_neg hne, if_pos ⟨rfl, rfl⟩]
  exact ⟨⟨hv, rfl⟩, by omega⟩
theorem cn_grown {ph k o f v : Nat} {n : Int} {σ : Sg} (hLo : Low σ) (hk : 1 ≤ k) (hv : v = gV σ o f) (hne : ¬ (o = gN σ ∧ f = 0)) (hn : 0 ≤ n) (h1 : gL σ o f < n.toNat → 2 * n.toNat ≤ 540000 ∧ 16 ≤ 2 * n.toNat) :
    Cn ph (mY nGrown) k [vA 0 o f v, vI n] σ (fun r σ' => (n.toNat ≤ gL σ o f ∧ r = some (vA 0 o f v) ∧ σ' = σ) ∨ (gL σ o f < n.toNat ∧ r = some (vA 0 (gN σ) 0 (gN σ)) ∧ σ' = mrS σ o f (2 * n.toNat))) (fun _ _ => False) := by
  refine cn_intro (fun hF => ?_)
  refine cn_mono (cn_seg (d := (true, 222, [(0, 2)])) (il := fun _ => false) (mc := false) no_gr 40 [] (by decide) (Nat.le_of_ble_eq_true rfl) (Q := fun r σ' => (n.toNat ≤ gL σ o f ∧ r = some (vA 0 o f v) ∧ σ' = σ) ∨ (gL σ o f < n.toNat ∧ r = some (vA 0 (gN σ) 0 (gN σ)) ∧ σ' = mrS σ o f (2 * n.toNat))) (E := fun _ _ => False) ?_ hLo) (fun _ _ _ _ q => q.2) (fun _ _ _ q => q.2)
  obtain ⟨l1, l2, l3⟩ := hLo
  refine And.intro hv (And.intro (fun c => ?_) (fun c => ?_))
  · have c : n > (gL σ o f : Int) := c
    obtain ⟨h2, h3⟩ := h1 (by omega)
    have hm : (2 * n).toNat = 2 * n.toNat := by omega
    refine And.intro (show -2147483648 ≤ 2 * n ∧ 2 * n < 2147483648 by omega) (And.intro (show 0 ≤ 2 * n ∧ gT σ + (2 * n).toNat ≤ 540000 ∧ ((2 * n).toNat < 16 → _) from ⟨by omega, by omega, fun q => absurd q (by omega)⟩) ?_)
    have hc := cpy_ok (σ := σ) (m := (2 * n).toNat) hv hne (by omega)
    refine And.intro hc.1.1 (And.intro ⟨hk, rfl⟩ (And.intro hc.1 (And.intro hc.2 ?_)))
    refine Or.inr ⟨by omega, rfl, ?_⟩
    rw [← hm]
    exact cpy_new hF hne
  · have c : ¬ n > (gL σ o f : Int) := c
    exact Or.inl ⟨by omega, rfl, rfl⟩
theorem cn_room {ph k o f v : Nat} {n : Int} {σ : Sg} (hLo : Low σ) (hk : 1 ≤ k) (hv : v = gV σ o f) (hne : ¬ (o = gN σ ∧ f = 0)) (hn : 0 ≤ n) (h1 : ¬ n.toNat < gL σ o f → 2 * gL σ o f ≤ 540000 ∧ 16 ≤ 2 * gL σ o f) :
    Cn ph (mY nRoom) k [vA 0 o f v, vI n] σ (fun r σ' => (n.toNat < gL σ o f ∧ r = some (vA 0 o f v) ∧ σ' = σ) ∨ (¬ n.toNat < gL σ o f ∧ r = some (vA 0 (gN σ) 0 (gN σ)) ∧ σ' = mrS σ o f (2 * gL σ o f))) (fun _ _ => False) := by
  refine cn_intro (fun hF => ?_)
  refine cn_mono (cn_seg (d := (true, 222, [(0, 2)])) (il := fun _ => false) (mc := false) no_gr 40 [] (by decide) (Nat.le_of_ble_eq_true rfl) (Q := fun r σ' => (n.toNat < gL σ o f ∧ r = some (vA 0 o f v) ∧ σ' = σ) ∨ (¬ n.toNat < gL σ o f ∧ r = some (vA 0 (gN σ) 0 (gN σ)) ∧ σ' = mrS σ o f (2 * gL σ o f))) (E := fun _ _ => False) ?_ hLo) (fun _ _ _ _ q => q.2) (fun _ _ _ q => q.2)
  obtain ⟨l1, l2, l3⟩ := hLo
  refine And.intro hv (And.intro (fun c => ?_) (fun c => ?_))
  · have c : n ≥ (gL σ o f : Int) := c
    obtain ⟨h2, h3⟩ := h1 (by omega)
    have hm : (2 * (gL σ o f : Int)).toNat = 2 * gL σ o f := by omega
    refine And.intro hv (And.intro (show -2147483648 ≤ 2 * (gL σ o f : Int) ∧ 2 * (gL σ o f : Int) < 2147483648 by omega) (And.intro (show 0 ≤ 2 * (gL σ o f : Int) ∧ gT σ + (2 * (gL σ o f : Int)).toNat ≤ 540000 ∧ ((2 * (gL σ o f : Int)).toNat < 16 → _) from ⟨by omega, by omega, fun q => absurd q (by omega)⟩) ?_))
    have hc := cpy_ok (σ := σ) (m := (2 * (gL σ o f : Int)).toNat) hv hne (by omega)
    refine And.intro hc.1.1 (And.intro ⟨hk, rfl⟩ (And.intro hc.1 (And.intro hc.2 ?_)))
    refine Or.inr ⟨by omega, rfl, ?_⟩
    rw [← hm]
    exact cpy_new hF hne
  · have c : ¬ n ≥ (gL σ o f : Int) := c
    exact Or.inl ⟨by omega, rfl, rfl⟩
theorem cn_more {ph k o f v : Nat} {σ : Sg} (hLo : Low σ) (hk : 1 ≤ k) (hv : v = gV σ o f) (hne : ¬ (o = gN σ ∧ f = 0)) (h1 : 2 * gL σ o f ≤ 540000 ∧ 16 ≤ 2 * gL σ o f) :
    Cn ph (mY nMore) k [vA 0 o f v] σ (fun r σ' => r = some (vA 0 (gN σ) 0 (gN σ)) ∧ σ' = mrS σ o f (2 * gL σ o f)) (fun _ _ => False) := by
  refine cn_intro (fun hF => ?_)
  refine cn_mono (cn_seg (d := (true, 222, [(0, 2)])) (il := fun _ => false) (mc := false) no_gr 40 [] (by decide) (Nat.le_of_ble_eq_true rfl) (Q := fun r σ' => r = some (vA 0 (gN σ) 0 (gN σ)) ∧ σ' = mrS σ o f (2 * gL σ o f)) (E := fun _ _ => False) ?_ hLo) (fun _ _ _ _ q => q.2) (fun _ _ _ q => q.2)
  obtain ⟨l1, l2, l3⟩ := hLo
  have hm : (2 * (gL σ o f : Int)).toNat = 2 * gL σ o f := by omega
  refine And.intro hv (And.intro (show -2147483648 ≤ 2 * (gL σ o f : Int) ∧ 2 * (gL σ o f : Int) < 2147483648 by omega) (And.intro (show 0 ≤ 2 * (gL σ o f : Int) ∧ gT σ + (2 * (gL σ o f : Int)).toNat ≤ 540000 ∧ ((2 * (gL σ o f : Int)).toNat < 16 → _) from ⟨by omega, by omega, fun q => absurd q (by omega)⟩) ?_))
  have hc := cpy_ok (σ := σ) (m := (2 * (gL σ o f : Int)).toNat) hv hne (by omega)
  refine And.intro hc.1.1 (And.intro ⟨hk, rfl⟩ (And.intro hc.1 (And.intro hc.2 ?_)))
  refine ⟨rfl, ?_⟩
  rw [← hm]
  exact cpy_new hF hne
theorem cn_swide {ph k o f v : Nat} {n : Int} {σ : Sg} (hLo : Low σ) (hv : v = gV σ o f) (hn : 0 ≤ n) (h1 : gL σ o f < n.toNat → 2 * n.toNat ≤ 540000 ∧ 16 ≤ 2 * n.toNat) :
    Cn ph (mY nSwide) k [vA 3 o f v, vI n] σ (fun r σ' => (n.toNat ≤ gL σ o f ∧ r = some (vA 3 o f v) ∧ σ' = σ) ∨ (gL σ o f < n.toNat ∧ r = some (vA 3 (gN σ) 0 (gN σ)) ∧ σ' = nA σ 3 (2 * n.toNat))) (fun _ _ => False) := by
  refine cn_mono (cn_seg (d := (true, 222, [(0, 2)])) (il := fun _ => false) (mc := false) no_gr 40 [] (by decide) (Nat.le_of_ble_eq_true rfl) (Q := fun r σ' => (n.toNat ≤ gL σ o f ∧ r = some (vA 3 o f v) ∧ σ' = σ) ∨ (gL σ o f < n.toNat ∧ r = some (vA 3 (gN σ) 0 (gN σ)) ∧ σ' = nA σ 3 (2 * n.toNat))) (E := fun _ _ => False) ?_ hLo) (fun _ _ _ _ q => q.2) (fun _ _ _ q => q.2)
  obtain ⟨l1, l2, l3⟩ := hLo
  refine And.intro hv (And.intro (fun c => ?_) (fun c => ?_))
  · have c : (gL σ o f : Int) ≥ n := c
    exact Or.inl ⟨by omega, rfl, rfl⟩
  · have c : ¬ (gL σ o f : Int) ≥ n := c
    obtain ⟨h2, h3⟩ := h1 (by omega)
    have hm : (2 * n).toNat = 2 * n.toNat := by omega
    refine And.intro (show -2147483648 ≤ 2 * n ∧ 2 * n < 2147483648 by omega) (And.intro (show 0 ≤ 2 * n ∧ gT σ + (2 * n).toNat ≤ 540000 ∧ ((2 * n).toNat < 16 → _) from ⟨by omega, by omega, fun q => absurd q (by omega)⟩) ?_)
    refine Or.inr ⟨by omega, rfl, ?_⟩
    rw [← hm]
    rfl
