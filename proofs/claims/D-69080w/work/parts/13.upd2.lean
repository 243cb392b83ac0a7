/-! NEW CELLS, and arrays that come into fields -/
set_option maxRecDepth 100000
theorem sp_pos : ∀ q ∈ spL, 1 ≤ q.2.1 := by decide +kernel
theorem sp_o : ∀ q ∈ spL, q.1 < 222 := by decide +kernel
theorem sp_nd : (spL.map (fun q => (q.1, q.2.1))).Nodup := by decide +kernel
theorem bT_pos (k : Nat) : bT k ≠ 0 := by
  unfold bT
  split
  · omega
  · split <;> omega
theorem sum_congr (l : List (Nat × Nat × Nat × Nat)) (f f' : Nat → Nat → Nat) (h : ∀ q ∈ l, f' q.1 q.2.1 = f q.1 q.2.1) : (l.map (fun q => q.2.2.1 * f' q.1 q.2.1)).sum = (l.map (fun q => q.2.2.1 * f q.1 q.2.1)).sum := by
  congr 1
  apply List.map_congr_left
  intro q hq
  rw [h q hq]
theorem sum_upd (f f' : Nat → Nat → Nat) (o b : Nat) : ∀ (l : List (Nat × Nat × Nat × Nat)), (l.map (fun q => (q.1, q.2.1))).Nodup → (∀ q ∈ l, ¬ (q.1 = o ∧ q.2.1 = b) → f' q.1 q.2.1 = f q.1 q.2.1) →
    (l.map (fun q => q.2.2.1 * f' q.1 q.2.1)).sum + ((l.find? (fun q => q.1 == o && q.2.1 == b)).map (fun q => q.2.2.1)).getD 0 * f o b = (l.map (fun q => q.2.2.1 * f q.1 q.2.1)).sum + ((l.find? (fun q => q.1 == o && q.2.1 == b)).map (fun q => q.2.2.1)).getD 0 * f' o b
  | [], _, _ => by simp
  | q :: t, hnd, hf => by
    simp only [List.map_cons, List.nodup_cons] at hnd
    by_cases e : q.1 = o ∧ q.2.1 = b
    · have h1 : (List.find? (fun q => q.1 == o && q.2.1 == b) (q :: t)) = some q := by simp [e.1, e.2]
      rw [h1]
      have h2 : (t.map (fun q => q.2.2.1 * f' q.1 q.2.1)).sum = (t.map (fun q => q.2.2.1 * f q.1 q.2.1)).sum := sum_congr t f f' (fun r hr => hf r (List.mem_cons_of_mem _ hr) (fun c => hnd.1 (by
        rw [List.mem_map]
        exact ⟨r, hr, by rw [c.1, c.2, e.1, e.2]⟩)))
      simp only [List.map_cons, List.sum_cons, Option.map_some, Option.getD_some, h2, e.1, e.2]
      omega
    · have h1 : (List.find? (fun q => q.1 == o && q.2.1 == b) (q :: t)) = t.find? (fun q => q.1 == o && q.2.1 == b) := by
        rw [List.find?_cons_of_neg]
        simp only [Bool.and_eq_true, beq_iff_eq]
        exact e
      rw [h1]
      have h2 := sum_upd f f' o b t hnd.2 (fun r hr => hf r (List.mem_cons_of_mem _ hr))
      have h3 := hf q List.mem_cons_self e
      simp only [List.map_cons, List.sum_cons, h3]
      omega
/-- numbers of cells grow, kinds stay -/
def LeS (σ σ' : Sg) : Prop := gN σ ≤ gN σ' ∧ ∀ a, a < gN σ → gK σ' a = gK σ a
theorem okR_mono {σ σ' : Sg} (h : LeS σ σ') {r : Int} (hr : okR σ r) : okR σ' r := by
  unfold okR at *
  have := h.1
  omega
theorem okV_mono {σ σ' : Sg} (h : LeS σ σ') {v : AV} (hv : okV σ v) : okV σ' v := by
  rcases v with x | x | r | q
  · exact hv
  · exact hv
  · exact okR_mono h hv
  · obtain ⟨h1, h2, h3⟩ := hv
    exact ⟨h1, Nat.lt_of_lt_of_le h2 h.1, by rw [h.2 _ h2]; exact h3⟩
theorem eOk_mono {σ σ' : Sg} (h : LeS σ σ') (hz : ∀ o, gN σ ≤ o → gK σ o = 0) {e : Nat} {x : Int} (hx : eOk σ e x) : eOk σ' e x := by
  obtain ⟨h1, h2, h3, h4, h5, h6⟩ := hx
  refine ⟨h1, h2, h3, h4, fun q => okR_mono h (h5 q), fun q => ?_⟩
  obtain ⟨a, b⟩ := h6 q
  refine ⟨a, ?_⟩
  rcases b with b | b
  · exact Or.inl b
  · refine Or.inr ?_
    rw [h.2 _ ?_]
    · exact b
    · rcases Nat.lt_or_ge x.toNat (gN σ) with c | c
      · exact c
      · exact absurd (b.symm.trans (hz _ c)) (by decide)
theorem fOk_mono {σ σ' : Sg} (h : LeS σ σ') (hv : ∀ k, gV σ 120 (bT k) ≠ 0 → gV σ' 120 (bT k) = gV σ 120 (bT k)) {t k : Nat} {x : Int} (hx : fOk σ t k x) : fOk σ' t k x := by
  obtain ⟨h1, h2, h3, h4, h5⟩ := hx
  refine ⟨h1, h2, h3, fun q => okR_mono h (h4 q), fun q => ?_⟩
  rcases h5 q with a | ⟨a, b, c, d⟩
  · exact Or.inl a
  · refine Or.inr ⟨a, ?_, ?_, ?_⟩
    · rw [hv k b]; exact b
    · rw [hv k b]; exact Nat.lt_of_lt_of_le c h.1
    · rw [hv k b, h.2 _ c]; exact d
theorem le_nA (σ : Sg) (e n : Nat) : LeS σ (nA σ e n) := ⟨by rw [gN_nA]; omega, fun a ha => by rw [gK_nA, if_neg (by omega)]⟩
theorem le_nO (σ : Sg) (c n : Nat) : LeS σ (nO σ c n) := ⟨by rw [gN_nO]; omega, fun a ha => by rw [gK_nO, if_neg (by omega)]⟩
theorem gV_lt {G : Gp} {ph : Nat} {σ : Sg} {H : Heap} (hR : Rep G ph σ H) (o f : Nat) : gV σ o f < gN σ := by
  by_cases h : gV σ o f = 0
  · have := hR.1.2; omega
  · exact (hR.2.2.2.1 o f h).1
theorem rep_nA {G : Gp} {ph : Nat} {σ : Sg} {H H' : Heap} {e n : Nat} (hR : Rep G ph σ H) (hn : n < 2 ^ 31) (hT : gT σ + n ≤ 540000) (hC : n < 16 → gC σ + 1 ≤ 100000)
    (h1 : H'[H.size]? = some (arrV (G.2.2.2.1 e) n (fun _ => eVal G e 0))) (h2 : H'.size = H.size + 1) (h3 : ∀ a, a < H.size → H'[a]? = H[a]?) : Rep G ph (nA σ e n) H' := by
  have hgv := gV_lt hR
  obtain ⟨⟨hz, hn1⟩, ⟨hold, hV⟩, hO, hA, hU, hP, hS⟩ := hR
  have hle := le_nA σ e n
  have hfr : ∀ o, gN σ ≤ o → gK σ o = 0 := fun o ho => (hU.2.2.1 o ho).1
  have hvf : ∀ f, gV σ (gN σ) f = 0 := fun f => ((hU.2.2.1 _ (Nat.le_refl _)).2 f).2.1
  have hv120 : ∀ k, gV (nA σ e n) 120 (bT k) = gV σ 120 (bT k) := fun k => by rw [gV_nA, if_neg (fun q => bT_pos k q.2)]
  refine ⟨⟨by rw [h2, gN_nA]; omega, by rw [gN_nA]; omega⟩, ⟨fun a ha => by rw [h3 a (by omega)]; exact hold a ha, fun a ca ha hc => by
    have hl := (Array.getElem?_eq_some_iff.mp hc).1
    by_cases e : a = H.size
    · rw [e, h1] at hc; rw [← Option.some.inj hc]; rfl
    · rw [h3 a (by omega)] at hc; exact hV a ca ha hc⟩, ?_, ?_, ?_, ?_, ?_⟩
  · intro o' ci' r' g1 g2 g3 g4
    have hci := cl_lt g4
    rw [gN_nA] at g2
    rw [gK_nA] at g3
    have hne : o' ≠ gN σ := fun q => by rw [if_pos q] at g3; omega
    rw [if_neg hne] at g3
    obtain ⟨hob, hfo⟩ := hO o' ci' r' g1 (by omega) g3 g4
    refine ⟨(hob.kept (h3 _ (by omega))).to (fun k _ => ?_), fun k hk => fOk_mono hle (fun k _ => hv120 k) (hfo k hk)⟩
    have hvv : gV (nA σ e n) o' (k + 1) = gV σ o' (k + 1) := by rw [gV_nA, if_neg (fun q => hne q.1)]
    unfold fVal
    rw [gF_nA, hv120, hvv]
  · intro o' f' hv
    rw [gV_nA] at hv ⊢
    by_cases c : o' = gN σ ∧ f' = 0
    · rw [if_pos c] at hv ⊢
      rw [gN_nA, gK_nA, if_pos rfl, gL_nA, if_pos c]
      refine ⟨by omega, by omega, hn, ?_, fun j hj => ?_⟩
      · rw [show G.1 + gN σ - 1 = H.size by omega, h1, show 100 + e - 100 = e by omega]
        congr 1
        congr 1
        funext j
        rw [gA_nA, c.1]
        rw [((hU.2.2.1 _ (Nat.le_refl _)).2 f').2.2 j]
      · rw [gA_nA, c.1, ((hU.2.2.1 _ (Nat.le_refl _)).2 f').2.2 j]
        refine ⟨fun _ => by unfold in32; omega, fun _ => by omega, fun _ => by omega, fun _ => by unfold in64; omega, fun _ => Or.inl ⟨by omega, by rw [gN_nA]; omega⟩, fun _ => ⟨by omega, Or.inl rfl⟩⟩
    · rw [if_neg c] at hv ⊢
      obtain ⟨a1, a2, a3, a4, a5⟩ := hA o' f' hv
      rw [gN_nA, gK_nA, if_neg (by omega), gL_nA, if_neg c]
      exact ⟨by omega, a2, a3, by rw [h3 _ (by omega)]; exact a4, fun j hj => eOk_mono hle hfr (a5 j hj)⟩
  · obtain ⟨u1, u2, u3, u4, u5⟩ := hU
    refine ⟨fun o f o' f' hv he => ?_, fun o f hv => ?_, fun o ho => ?_, fun o ci k e' hk hci hft he hv => ?_, fun o f hv => ?_⟩
    · rw [gV_nA] at hv
      rw [gV_nA, gV_nA] at he
      have b1 := hgv o f
      have b2 := hgv o' f'
      by_cases c : o = gN σ ∧ f = 0 <;> by_cases c' : o' = gN σ ∧ f' = 0
      · omega
      · rw [if_pos c, if_neg c'] at he; omega
      · rw [if_neg c, if_pos c'] at he; omega
      · rw [if_neg c] at hv; rw [if_neg c, if_neg c'] at he; exact u1 o f o' f' hv he
    · rw [gV_nA] at hv
      rw [gL_nA]
      by_cases c : o = gN σ ∧ f = 0
      · rw [if_pos c] at hv; omega
      · rw [if_neg c] at hv ⊢; exact u2 o f hv
    · rw [gN_nA] at ho
      obtain ⟨w1, w2⟩ := u3 o (by omega)
      refine ⟨by rw [gK_nA, if_neg (by omega)]; exact w1, fun f => ⟨(w2 f).1, by rw [gV_nA, if_neg (by omega)]; exact (w2 f).2.1, (w2 f).2.2⟩⟩
    · rw [gK_nA] at hk
      have hne : o ≠ gN σ := fun q => by rw [if_pos q] at hk; omega
      rw [if_neg hne] at hk
      rw [gV_nA, if_neg (fun q => hne q.1)] at hv ⊢
      rw [gK_nA, if_neg (by have := hgv o k; omega)]
      exact u4 o ci k e' hk hci hft he hv
    · rw [gV_nA] at hv ⊢
      rw [gN_nA, gK_nA]
      by_cases c : o = gN σ ∧ f = 0
      · rw [if_pos c]; exact ⟨by omega, Or.inr ⟨c.2, c.1.symm⟩⟩
      · rw [if_neg c] at hv ⊢
        obtain ⟨w1, w2⟩ := u5 o f hv
        rw [if_neg (by omega)]
        exact ⟨by omega, w2⟩
  · obtain ⟨p1, p2, p3, p4⟩ := hP
    refine ⟨by rw [gN_nA]; omega, fun o ho hk => ?_, p3, fun o k' ho hw => ?_⟩
    · rw [gK_nA, if_neg (by omega)]; exact p2 o ho hk
    · rw [gV_nA, if_neg (by omega)]; exact p4 o k' ho hw
  · obtain ⟨s1, s2, s3, s4, s5, s6⟩ := hS
    have hps : pSum (nA σ e n) = pSum σ := sum_congr spL (gL σ) (gL (nA σ e n)) (fun q hq => by rw [gL_nA, if_neg (fun c => by have := sp_pos q hq; omega)])
    refine ⟨by rw [gS_nA, hps, gT_nA, gD_nA]; omega, fun q hq => ?_, by rw [gT_nA]; exact hT, s4, ?_, ?_⟩
    · rw [gL_nA, if_neg (fun c => by have := sp_pos q hq; omega)]; exact s2 q hq
    · rw [gC_nA]; split <;> omega
    · rw [gN_nA, gC_nA, gS_nA]; split <;> omega
theorem rep_nO {G : Gp} {ph : Nat} {σ : Sg} {H H' : Heap} {ci n : Nat} {q : vw_C} (hR : Rep G ph σ H) (hcl : clL[ci]? = some q) (hC : gC σ + 1 ≤ 100000) (hD : gD σ + n ≤ 200000)
    (h1 : t_OB H.size (G.2.2.1.1 ci) q.2.2 (G.2.2.1.2 ci) H' (fun j => fVal G σ (gN σ) (ftOf ci (j + 1)) (j + 1))) (h2 : H'.size = H.size + 1) (h3 : ∀ a, a < H.size → H'[a]? = H[a]?) : Rep G ph (nO σ (ci + 1) n) H' := by
  have hgv := gV_lt hR
  have hci := cl_lt hcl
  obtain ⟨⟨hz, hn1⟩, ⟨hold, hV⟩, hO, hA, hU, hP, hS⟩ := hR
  have hle := le_nO σ (ci + 1) n
  have hfr : ∀ o, gN σ ≤ o → gK σ o = 0 := fun o ho => (hU.2.2.1 o ho).1
  refine ⟨⟨by rw [h2, gN_nO]; omega, by rw [gN_nO]; omega⟩, ⟨fun a ha => by rw [h3 a (by omega)]; exact hold a ha, fun a ca ha hc => by
    have hl := (Array.getElem?_eq_some_iff.mp hc).1
    by_cases e : a = H.size
    · obtain ⟨cell, q1, q2, q3, q4⟩ := h1
      rw [e, q1] at hc; rw [← Option.some.inj hc]; exact q3
    · rw [h3 a (by omega)] at hc; exact hV a ca ha hc⟩, ?_, ?_, ?_, ?_, ?_⟩
  · intro o' ci' r' g1 g2 g3 g4
    rw [gN_nO] at g2
    rw [gK_nO] at g3
    by_cases c : o' = gN σ
    · rw [if_pos c] at g3
      have e2 : ci' = ci := by omega
      subst e2
      have e3 : r' = q := Option.some.inj (g4.symm.trans hcl)
      subst e3
      subst c
      rw [show G.1 + gN σ - 1 = H.size by omega]
      refine ⟨h1, fun j hj => ?_⟩
      rw [gF_nO, ((hU.2.2.1 _ (Nat.le_refl _)).2 (j + 1)).1]
      exact ⟨fun _ => by unfold in32; omega, fun _ => by omega, fun _ => by unfold in64; omega, fun _ => Or.inl ⟨by omega, by rw [gN_nO]; omega⟩, fun _ => Or.inl rfl⟩
    · rw [if_neg c] at g3
      obtain ⟨hob, hfo⟩ := hO o' ci' r' g1 (by omega) g3 g4
      exact ⟨hob.kept (h3 _ (by omega)), fun k hk => fOk_mono hle (fun k _ => rfl) (hfo k hk)⟩
  · intro o' f' hv
    rw [gV_nO] at hv ⊢
    obtain ⟨a1, a2, a3, a4, a5⟩ := hA o' f' hv
    rw [gN_nO, gK_nO, if_neg (by omega)]
    exact ⟨by omega, a2, a3, by rw [h3 _ (by omega)]; exact a4, fun j hj => eOk_mono hle hfr (a5 j hj)⟩
  · obtain ⟨u1, u2, u3, u4, u5⟩ := hU
    refine ⟨u1, u2, fun o ho => ?_, fun o ci' k e' hk hci' hft he hv => ?_, fun o f hv => ?_⟩
    · rw [gN_nO] at ho
      obtain ⟨w1, w2⟩ := u3 o (by omega)
      exact ⟨by rw [gK_nO, if_neg (by omega)]; exact w1, w2⟩
    · rw [gV_nO] at hv ⊢
      have hlt := (u5 o k hv).1
      rw [gK_nO, if_neg (by omega)] at hk
      rw [gK_nO, if_neg (by have := hgv o k; omega)]
      exact u4 o ci' k e' hk hci' hft he hv
    · rw [gV_nO] at hv ⊢
      obtain ⟨w1, w2⟩ := u5 o f hv
      rw [gN_nO, gK_nO, if_neg (by omega)]
      exact ⟨by omega, w2⟩
  · obtain ⟨p1, p2, p3, p4⟩ := hP
    refine ⟨by rw [gN_nO]; omega, fun o ho hk => ?_, p3, p4⟩
    rw [gK_nO, if_neg (by omega)]; exact p2 o ho hk
  · obtain ⟨s1, s2, s3, s4, s5, s6⟩ := hS
    have hps : pSum (nO σ (ci + 1) n) = pSum σ := rfl
    exact ⟨by rw [gS_nO, hps, gT_nO, gD_nO]; omega, s2, s3, by rw [gD_nO]; exact hD, by rw [gC_nO]; exact hC, by rw [gN_nO, gC_nO, gS_nO]; omega⟩
theorem find_of_nd {o b : Nat} : ∀ {l : List (Nat × Nat × Nat × Nat)} {q : Nat × Nat × Nat × Nat}, (l.map (fun q => (q.1, q.2.1))).Nodup → q ∈ l → q.1 = o → q.2.1 = b → l.find? (fun q => q.1 == o && q.2.1 == b) = some q
  | [], q, _, h, _, _ => by cases h
  | r :: t, q, hnd, h, h1, h2 => by
    simp only [List.map_cons, List.nodup_cons] at hnd
    rcases List.mem_cons.mp h with e | e
    · subst e
      simp [h1, h2]
    · have : ¬ (r.1 = o ∧ r.2.1 = b) := fun c => hnd.1 (by
        rw [List.mem_map]
        exact ⟨q, e, by rw [h1, h2, c.1, c.2]⟩)
      rw [List.find?_cons_of_neg (by simp only [Bool.and_eq_true, beq_iff_eq]; exact this)]
      exact find_of_nd hnd.2 e h1 h2
theorem spW_0 (o : Nat) : spW o 0 = 0 := by
  unfold spW
  cases h : spL.find? (fun q => q.1 == o && q.2.1 == 0) with
  | none => rfl
  | some q =>
    have h1 := List.mem_of_find?_eq_some h
    have h2 := List.find?_some h
    simp only [Bool.and_eq_true, beq_iff_eq] at h2
    have := sp_pos q h1
    omega
theorem spW_b (k : Nat) : spW 120 (bT k) = 1 := by
  unfold bT
  split
  · decide +kernel
  · split <;> decide +kernel
theorem rep_mV {G : Gp} {ph : Nat} {σ : Sg} {H H' : Heap} {o ci j t e : Nat} {q : vw_C} {cell : Cell} (hR : Rep G ph σ H) (ho1 : 1 ≤ o) (hK : gK σ o = ci + 1) (hcl : clL[ci]? = some q) (hj : j < q.2.2) (hap : ∀ a b, a < q.2.2 → b < q.2.2 → a ≠ b → G.2.2.1.2 ci a ≠ G.2.2.1.2 ci b)
    (hft : ftOf ci (j + 1) = 4 + e) (he : e ≤ 8) (ht : gV σ t 0 = t) (ht0 : t ≠ 0) (hkt : gK σ t = 100 + e) (hmv : mvOk σ t o (j + 1)) (hc2 : cell.cls = G.2.2.1.1 ci) (hc3 : cell.vm = .none) (hc4 : ∀ k, k < q.2.2 → cell.slots[G.2.2.1.2 ci k]? = some (fVal G σ o (ftOf ci (k + 1)) (k + 1)))
    (h1 : H'[G.1 + o - 1]? = some (cell.setSlot (G.2.2.1.2 ci j) (.ref (G.1 + t - 1)))) (h2 : H'.size = H.size) (h3 : ∀ a, a ≠ G.1 + o - 1 → H'[a]? = H[a]?) : Rep G ph (mV σ t o (j + 1)) H' := by
  have hlt := rep_lt hR hK (by omega)
  have hci := cl_lt hcl
  have hgv := gV_lt hR
  have htN : t < gN σ := by have := hgv t 0; omega
  obtain ⟨⟨hz, hn1⟩, ⟨hold, hV⟩, hO, hA, hU, hP, hS⟩ := hR
  have hot : o ≠ t := fun c => by rw [c, hkt] at hK; omega
  obtain ⟨u1, u2, u3, u4, u5⟩ := hU
  have huniq : ∀ o' f', gV σ o' f' = t → o' = t ∧ f' = 0 := fun o' f' c => u1 o' f' t 0 (by omega) (by omega)
  have hstat : o < 222 → gL σ t 0 ≤ spB o (j + 1) ∧ ((spW o (j + 1) = 1 ∧ gV σ o (j + 1) = 0) ∨ (spW o (j + 1) = 2 ∧ 2 * gL σ o (j + 1) ≤ gL σ t 0)) := by
    intro ho
    unfold mvOk at hmv
    rw [show Nat.blt o 222 = true by rw [Nat.blt_eq]; exact ho] at hmv
    obtain ⟨m1, m2⟩ := hmv
    refine ⟨m1, ?_⟩
    by_cases c1 : spW o (j + 1) = 1
    · rw [c1] at m2; exact Or.inl ⟨c1, m2⟩
    · by_cases c2 : spW o (j + 1) = 2
      · rw [c2] at m2; exact Or.inr ⟨c2, m2⟩
      · rw [show (spW o (j + 1) == 1) = false by simpa using c1, show (spW o (j + 1) == 2) = false by simpa using c2] at m2
        exact m2.elim
  have hdyn : ¬ o < 222 → gD σ + gL σ t 0 ≤ 200000 := by
    intro ho
    unfold mvOk at hmv
    rw [show Nat.blt o 222 = false by simpa [← Bool.not_eq_true, Nat.blt_eq] using ho] at hmv
    exact hmv
  have hb120 : ∀ k, gV σ 120 (bT k) ≠ 0 → gV (mV σ t o (j + 1)) 120 (bT k) = gV σ 120 (bT k) := by
    intro k hk
    rw [gV_mV]
    by_cases c : 120 = o ∧ bT k = j + 1
    · exfalso
      obtain ⟨c1, c2⟩ := c
      rcases (hstat (by omega)).2 with ⟨_, m⟩ | ⟨m, _⟩
      · rw [← c1, ← c2] at m; exact hk m
      · rw [← c1, ← c2, spW_b] at m; omega
    · rw [if_neg c, if_neg (fun q => bT_pos k q.2)]
  have hle : LeS σ (mV σ t o (j + 1)) := ⟨Nat.le_refl _, fun a _ => rfl⟩
  have hfr : ∀ o, gN σ ≤ o → gK σ o = 0 := fun o ho => (u3 o ho).1
  have hfv : ∀ o' ci' k, fOk σ (ftOf ci' (k + 1)) (k + 1) (gF σ o' (k + 1)) → ¬ (o' = o ∧ k = j) → fVal G (mV σ t o (j + 1)) o' (ftOf ci' (k + 1)) (k + 1) = fVal G σ o' (ftOf ci' (k + 1)) (k + 1) := by
    intro o' ci' k hfo hne
    have e1 : gV (mV σ t o (j + 1)) o' (k + 1) = gV σ o' (k + 1) := by rw [gV_mV, if_neg (by omega), if_neg (by omega)]
    unfold fVal
    rw [gF_mV, e1]
    by_cases c20 : ftOf ci' (k + 1) = 20
    · rw [c20]
      simp only [show ¬ (20 : Nat) ≤ 1 by omega, show ¬ (20 : Nat) = 2 by omega, show ¬ (20 : Nat) = 3 by omega, if_false, if_true]
      rcases hfo.2.2.2.2 c20 with a | ⟨a, b, _⟩
      · rw [if_pos a, if_pos a]
      · rw [hb120 _ b]
    · simp only [c20, if_false]
  refine ⟨⟨by rw [h2]; exact hz, hn1⟩, ⟨fun a ha => by rw [h3 a (by omega)]; exact hold a ha, fun a ca ha hc => by
    by_cases e : a = G.1 + o - 1
    · rw [e, h1] at hc; rw [← Option.some.inj hc]; exact hc3
    · rw [h3 a e] at hc; exact hV a ca ha hc⟩, ?_, ?_, ⟨?_, ?_, ?_, ?_, ?_⟩, ?_, ?_⟩
  · intro o' ci' r' g1 g2 g3 g4
    obtain ⟨hob, hfo⟩ := hO o' ci' r' g1 g2 g3 g4
    refine ⟨?_, fun k hk => fOk_mono hle (fun k h => hb120 k h) (hfo k hk)⟩
    by_cases c : o' = o
    · subst c
      have g3' : gK σ o' = ci' + 1 := g3
      have e2 : ci' = ci := by omega
      subst e2
      have e3 : r' = q := Option.some.inj (g4.symm.trans hcl)
      subst e3
      refine ⟨_, h1, hc2, hc3, fun k hk => ?_⟩
      rw [t_set hc4 hap hj _ k hk]
      congr 1
      unfold updV
      by_cases ek : k = j
      · subst ek
        rw [if_pos rfl]
        have e1 : gV (mV σ t o' (k + 1)) o' (k + 1) = t := by rw [gV_mV, if_pos ⟨rfl, rfl⟩]
        unfold fVal
        dsimp only
        rw [e1, hft, if_neg (by omega), if_neg (by omega), if_neg (by omega), if_neg (by omega), if_neg ht0]
      · rw [if_neg ek]
        exact (hfv o' ci' k (hfo k hk) (by omega)).symm
    · exact (hob.kept (h3 _ (by omega))).to (fun k hk => (hfv o' ci' k (hfo k hk) (by omega)).symm)
  · intro o' f' hv
    rw [gV_mV] at hv ⊢
    by_cases c : o' = o ∧ f' = j + 1
    · rw [if_pos c]
      obtain ⟨a1, a2, a3, a4, a5⟩ := hA t 0 (by omega)
      rw [ht] at a1 a2 a4 a5
      rw [gL_mV, if_pos c, gA_mV, if_pos c]
      exact ⟨a1, a2, a3, by rw [h3 _ (by omega)]; exact a4, a5⟩
    · rw [if_neg c] at hv ⊢
      by_cases c2 : o' = t ∧ f' = 0
      · rw [if_pos c2] at hv; exact absurd rfl hv
      · rw [if_neg c2] at hv ⊢
        obtain ⟨a1, a2, a3, a4, a5⟩ := hA o' f' hv
        have hne : gV σ o' f' ≠ o := fun w => by rw [w, hK] at a2; omega
        rw [gL_mV, if_neg c, if_neg c2, gA_mV, if_neg c]
        exact ⟨a1, a2, a3, by rw [h3 _ (by omega)]; exact a4, a5⟩
  · intro a f a' f' hv hee
    rw [gV_mV] at hv
    rw [gV_mV, gV_mV] at hee
    by_cases c : a = o ∧ f = j + 1 <;> by_cases c' : a' = o ∧ f' = j + 1
    · omega
    · rw [if_pos c, if_neg c'] at hee
      by_cases d' : a' = t ∧ f' = 0
      · rw [if_pos d'] at hee; omega
      · rw [if_neg d'] at hee
        exact absurd (huniq a' f' hee.symm) d'
    · rw [if_neg c, if_pos c'] at hee
      by_cases d : a = t ∧ f = 0
      · rw [if_pos d] at hee; omega
      · rw [if_neg d] at hee
        exact absurd (huniq a f hee) d
    · rw [if_neg c] at hv
      rw [if_neg c, if_neg c'] at hee
      by_cases d : a = t ∧ f = 0
      · rw [if_pos d] at hv; exact absurd rfl hv
      · rw [if_neg d] at hv hee
        by_cases d' : a' = t ∧ f' = 0
        · rw [if_pos d'] at hee; exact absurd hee hv
        · rw [if_neg d'] at hee; exact u1 a f a' f' hv hee
  · intro a f hv
    rw [gV_mV] at hv
    rw [gL_mV]
    by_cases c : a = o ∧ f = j + 1
    · rw [if_pos c] at hv; exact absurd hv ht0
    · rw [if_neg c] at hv ⊢
      by_cases d : a = t ∧ f = 0
      · rw [if_pos d]
      · rw [if_neg d] at hv ⊢; exact u2 a f hv
  · intro a ha
    have ha' : gN σ ≤ a := ha
    obtain ⟨w1, w2⟩ := u3 a ha'
    refine ⟨w1, fun f => ⟨(w2 f).1, ?_, fun i => ?_⟩⟩
    · rw [gV_mV, if_neg (by omega), if_neg (by omega)]; exact (w2 f).2.1
    · rw [gA_mV, if_neg (by omega)]; exact (w2 f).2.2 i
  · intro a ci' k e' hk hci' hft' he' hv
    have hk' : gK σ a = ci' + 1 := hk
    rw [gV_mV] at hv ⊢
    by_cases c : a = o ∧ k = j + 1
    · rw [if_pos c]
      obtain ⟨c1, c2⟩ := c
      subst c1; subst c2
      have e2 : ci' = ci := by omega
      subst e2
      have : e' = e := by omega
      subst this
      exact hkt
    · rw [if_neg c] at hv ⊢
      by_cases d : a = t ∧ k = 0
      · rw [if_pos d] at hv; exact absurd rfl hv
      · rw [if_neg d] at hv ⊢; exact u4 a ci' k e' hk' hci' hft' he' hv
  · intro a f hv
    rw [gV_mV] at hv ⊢
    by_cases c : a = o ∧ f = j + 1
    · exact ⟨by rw [c.1]; exact hlt, Or.inl (by show gK σ a < 100; rw [c.1, hK]; omega)⟩
    · rw [if_neg c] at hv ⊢
      by_cases d : a = t ∧ f = 0
      · rw [if_pos d] at hv; exact absurd rfl hv
      · rw [if_neg d] at hv ⊢; exact u5 a f hv
  · obtain ⟨p1, p2, p3, p4⟩ := hP
    refine ⟨p1, p2, p3, fun a k' ha hw => ?_⟩
    rw [gV_mV]
    by_cases c : a = o ∧ k' = j + 1
    · rw [if_pos c]; exact ht0
    · rw [if_neg c]
      by_cases d : a = t ∧ k' = 0
      · rw [d.2, spW_0] at hw; exact absurd rfl hw
      · rw [if_neg d]; exact p4 a k' ha hw
  · obtain ⟨s1, s2, s3, s4, s5, s6⟩ := hS
    have hps := sum_upd (gL σ) (gL (mV σ t o (j + 1))) o (j + 1) spL sp_nd (fun r hr hc => by
      have := sp_pos r hr
      rw [gL_mV, if_neg hc, if_neg (by omega)])
    rw [show gL (mV σ t o (j + 1)) o (j + 1) = gL σ t 0 by rw [gL_mV, if_pos ⟨rfl, rfl⟩]] at hps
    have hps' : pSum (mV σ t o (j + 1)) + spW o (j + 1) * gL σ o (j + 1) = pSum σ + spW o (j + 1) * gL σ t 0 := hps
    refine ⟨?_, fun r hr => ?_, ?_, ?_, s5, s6⟩
    · rw [gS_mV, gT_mV, gD_mV]
      by_cases ho : o < 222
      · rw [if_pos ho]
        rcases (hstat ho).2 with ⟨w, m⟩ | ⟨w, m⟩
        · rw [w, u2 _ _ m] at hps'; omega
        · rw [w] at hps'; omega
      · rw [if_neg ho]
        have w0 : spW o (j + 1) = 0 := by
          unfold spW
          cases hf : spL.find? (fun q => q.1 == o && q.2.1 == j + 1) with
          | none => rfl
          | some r =>
            have r1 := List.mem_of_find?_eq_some hf
            have r2 := List.find?_some hf
            simp only [Bool.and_eq_true, beq_iff_eq] at r2
            have := sp_o r r1
            omega
        rw [w0] at hps'; omega
    · rw [gL_mV]
      by_cases c : r.1 = o ∧ r.2.1 = j + 1
      · rw [if_pos c]
        have := sp_o r hr
        have m := (hstat (by omega)).1
        unfold spB at m
        rw [find_of_nd sp_nd hr c.1 c.2] at m
        exact m
      · have := sp_pos r hr
        rw [if_neg c, if_neg (by omega)]; exact s2 r hr
    · rw [gT_mV]; omega
    · rw [gD_mV]
      by_cases ho : o < 222
      · rw [if_pos ho]; omega
      · rw [if_neg ho]; exact hdyn ho
