section
/-! HOW THE PICTURE OF THE HEAP MOVES -/
set_option maxRecDepth 100000
theorem cl_lt {ci : Nat} {q : vw_C} (h : clL[ci]? = some q) : ci < 23 := by
  have := (List.getElem?_eq_some_iff.mp h).1
  simpa [clL] using this
theorem fVal_sF {G : Gp} {σ : Sg} {o b oₚ t k : Nat} {x : Int} (h : ¬ (oₚ = o ∧ k = b)) : fVal G (sF σ o b x) oₚ t k = fVal G σ oₚ t k := by
  unfold fVal
  rw [gF_sF, if_neg h, gV_sF]
/-- of an object one field -/
theorem rep_sF {G : Gp} {ph : Nat} {σ : Sg} {H Hₚ : Heap} {o ci j : Nat} {q : vw_C} {x : Int} {cell : Cell} (hR : Rep G ph σ H) (ho1 : 1 ≤ o) (hK : gK σ o = ci + 1) (hcl : clL[ci]? = some q) (hj : j < q.2.2) (hap : ∀ a b, a < q.2.2 → b < q.2.2 → a ≠ b → G.2.2.1.2 ci a ≠ G.2.2.1.2 ci b)
    (hok : fOk σ (ftOf ci (j + 1)) (j + 1) x) (hfc : nSt ph ≤ o ∨ fcOf o (j + 1) = 0 ∨ x = fcOf o (j + 1)) (hc2 : cell.cls = G.2.2.1.1 ci) (hc3 : cell.vm = .none) (hc4 : ∀ k, k < q.2.2 → cell.slots[G.2.2.1.2 ci k]? = some (fVal G σ o (ftOf ci (k + 1)) (k + 1)))
    (h1 : Hₚ[G.1 + o - 1]? = some (cell.setSlot (G.2.2.1.2 ci j) (fVal G (sF σ o (j + 1) x) o (ftOf ci (j + 1)) (j + 1)))) (h2 : Hₚ.size = H.size) (h3 : ∀ a, a ≠ G.1 + o - 1 → Hₚ[a]? = H[a]?) : Rep G ph (sF σ o (j + 1) x) Hₚ := by
  have hlt := rep_lt hR hK (by omega)
  have hci := cl_lt hcl
  obtain ⟨⟨hz, hn1⟩, ⟨hold, hV⟩, hO, hA, hU, hP, hS⟩ := hR
  refine ⟨⟨by rw [h2]; exact hz, hn1⟩, ⟨fun a ha => by rw [h3 a (by omega)]; exact hold a ha, fun a ca ha hc => by
    by_cases e : a = G.1 + o - 1
    · rw [e, h1] at hc; rw [← Option.some.inj hc]; exact hc3
    · rw [h3 a e] at hc; exact hV a ca ha hc⟩, ?_, ?_, ?_, ?_, hS⟩
  · intro oₚ ciₚ rₚ g1 g2 g3 g4
    by_cases e : oₚ = o
    · subst e
      have e2 : ciₚ = ci := by have : gK σ oₚ = ciₚ + 1 := g3; omega
      subst e2
      have e3 : rₚ = q := Option.some.inj (g4.symm.trans hcl)
      subst e3
      obtain ⟨-, hfo⟩ := hO oₚ ciₚ rₚ g1 g2 g3 g4
      refine ⟨⟨_, h1, hc2, hc3, fun k hk => ?_⟩, fun k hk => ?_⟩
      · rw [t_set hc4 hap hj _ k hk]
        congr 1
        unfold updV
        by_cases ek : k = j
        · subst ek; rw [if_pos rfl]
        · rw [if_neg ek]
          exact (fVal_sF (by omega)).symm
      · show fOk σ _ _ (gF (sF σ oₚ (j + 1) x) oₚ (k + 1))
        rw [gF_sF]
        by_cases ek : k = j
        · subst ek; rw [if_pos ⟨rfl, rfl⟩]; exact hok
        · rw [if_neg (by omega)]; exact hfo k hk
    · obtain ⟨hob, hfo⟩ := hO oₚ ciₚ rₚ g1 g2 g3 g4
      refine ⟨(hob.kept (h3 _ (by omega))).to (fun k _ => (fVal_sF (by omega)).symm), fun k hk => ?_⟩
      show fOk σ _ _ (gF (sF σ o (j + 1) x) oₚ (k + 1))
      rw [gF_sF, if_neg (by omega)]
      exact hfo k hk
  · intro oₚ fₚ hv
    obtain ⟨g1, g2, g3, g4, g5⟩ := hA oₚ fₚ hv
    have hne : gV σ oₚ fₚ ≠ o := fun e => by rw [e, hK] at g2; omega
    have hvₚ : gV σ oₚ fₚ ≠ 0 := hv
    exact ⟨g1, g2, g3, (h3 (G.1 + gV σ oₚ fₚ - 1) (by omega)).trans g4, g5⟩
  · obtain ⟨u1, u2, u3, u4, u5⟩ := hU
    refine ⟨u1, u2, fun oₚ hoₚ => ?_, u4, u5⟩
    obtain ⟨w1, w2⟩ := u3 oₚ hoₚ
    refine ⟨w1, fun f => ⟨?_, (w2 f).2⟩⟩
    have hoₚₚ : gN σ ≤ oₚ := hoₚ
    rw [gF_sF, if_neg (by omega)]
    exact (w2 f).1
  · obtain ⟨p1, p2, p3, p4⟩ := hP
    refine ⟨p1, p2, fun oₚ kₚ g1 g2 => ?_, p4⟩
    rw [gF_sF]
    by_cases e : oₚ = o ∧ kₚ = j + 1
    · obtain ⟨e1, e2⟩ := e
      subst e1; subst e2
      rw [if_pos ⟨rfl, rfl⟩]
      rcases hfc with q | q | q
      · omega
      · exact absurd q g2
      · exact q
    · rw [if_neg e]; exact p3 oₚ kₚ g1 g2
/-- of an array its contents -/
theorem rep_sB {G : Gp} {ph : Nat} {σ : Sg} {H Hₚ : Heap} {o f : Nat} {g : Nat → Int} (hR : Rep G ph σ H) (hv : gV σ o f ≠ 0) (hok : ∀ j, j < gL σ o f → eOk σ (gK σ (gV σ o f) - 100) (g j)) (hfr : ∀ oₚ : Nat, gN σ ≤ oₚ → oₚ ≠ o)
    (h1 : Hₚ[G.1 + gV σ o f - 1]? = some (arrV (G.2.2.2.1 (gK σ (gV σ o f) - 100)) (gL σ o f) (fun j => eVal G (gK σ (gV σ o f) - 100) (g j)))) (h2 : Hₚ.size = H.size) (h3 : ∀ a, a ≠ G.1 + gV σ o f - 1 → Hₚ[a]? = H[a]?) : Rep G ph (sB σ o f g) Hₚ := by
  obtain ⟨⟨hz, hn1⟩, ⟨hold, hV⟩, hO, hA, hU, hP, hS⟩ := hR
  obtain ⟨b1, b2, b3, b4, b5⟩ := hA o f hv
  refine ⟨⟨by rw [h2]; exact hz, hn1⟩, ⟨fun a ha => by rw [h3 a (by omega)]; exact hold a ha, fun a ca ha hc => by
    by_cases e : a = G.1 + gV σ o f - 1
    · rw [e, h1] at hc; rw [← Option.some.inj hc]; rfl
    · rw [h3 a e] at hc; exact hV a ca ha hc⟩, ?_, ?_, ?_, hP, hS⟩
  · intro oₚ ciₚ rₚ g1 g2 g3 g4
    obtain ⟨hob, hfo⟩ := hO oₚ ciₚ rₚ g1 g2 g3 g4
    have hci := cl_lt g4
    have g3ₚ : gK σ oₚ = ciₚ + 1 := g3
    have hne : gV σ o f ≠ oₚ := fun e => by rw [e, g3ₚ] at b2; omega
    exact ⟨hob.kept (h3 _ (by omega)), hfo⟩
  · intro oₚ fₚ hvₚ
    have hv2 : gV σ oₚ fₚ ≠ 0 := hvₚ
    by_cases e : oₚ = o ∧ fₚ = f
    · obtain ⟨e1, e2⟩ := e
      subst e1; subst e2
      refine ⟨b1, b2, b3, ?_, fun j hj => ?_⟩
      · show Hₚ[G.1 + gV σ oₚ fₚ - 1]? = some (arrV _ _ (fun j => eVal G _ (gA (sB σ oₚ fₚ g) oₚ fₚ j)))
        rw [gA_sB, if_pos ⟨rfl, rfl⟩]
        exact h1
      · show eOk σ _ (gA (sB σ oₚ fₚ g) oₚ fₚ j)
        rw [gA_sB, if_pos ⟨rfl, rfl⟩]
        exact hok j hj
    · obtain ⟨c1, c2, c3, c4, c5⟩ := hA oₚ fₚ hv2
      have hne : gV σ oₚ fₚ ≠ gV σ o f := fun q => e (hU.1 oₚ fₚ o f hv2 q)
      refine ⟨c1, c2, c3, ?_, fun j hj => ?_⟩
      · show Hₚ[G.1 + gV σ oₚ fₚ - 1]? = some (arrV _ _ (fun j => eVal G _ (gA (sB σ o f g) oₚ fₚ j)))
        rw [gA_sB, if_neg e, h3 _ (by omega)]
        exact c4
      · show eOk σ _ (gA (sB σ o f g) oₚ fₚ j)
        rw [gA_sB, if_neg e]
        exact c5 j hj
  · obtain ⟨u1, u2, u3, u4, u5⟩ := hU
    refine ⟨u1, u2, fun oₚ hoₚ => ?_, u4, u5⟩
    obtain ⟨w1, w2⟩ := u3 oₚ hoₚ
    refine ⟨w1, fun fₚ => ⟨(w2 fₚ).1, (w2 fₚ).2.1, fun i => ?_⟩⟩
    rw [gA_sB, if_neg (fun q => hfr oₚ hoₚ q.1)]
    exact (w2 fₚ).2.2 i
theorem sA_sB (σ : Sg) (o k i : Nat) (v : Int) : sA σ o k i v = sB σ o k (u1 (gA σ o k) i v) := rfl
theorem rep_sA {G : Gp} {ph : Nat} {σ : Sg} {H Hₚ : Heap} {o f i : Nat} {x : Int} (hR : Rep G ph σ H) (hv : gV σ o f ≠ 0) (hok : eOk σ (gK σ (gV σ o f) - 100) x)
    (h1 : Hₚ[G.1 + gV σ o f - 1]? = some ((arrV (G.2.2.2.1 (gK σ (gV σ o f) - 100)) (gL σ o f) (fun j => eVal G (gK σ (gV σ o f) - 100) (gA σ o f j))).setSlot i (eVal G (gK σ (gV σ o f) - 100) x))) (h2 : Hₚ.size = H.size) (h3 : ∀ a, a ≠ G.1 + gV σ o f - 1 → Hₚ[a]? = H[a]?) : Rep G ph (sA σ o f i x) Hₚ := by
  rw [sA_sB]
  have hlo := (hR.2.2.2.2.1.2.2.2.2 o f hv).1
  refine rep_sB hR hv (fun j hj => ?_) (fun oₚ hoₚ => by omega) ?_ h2 h3
  · unfold u1
    split
    · exact hok
    · exact (hR.2.2.2.1 o f hv).2.2.2.2 j hj
  · rw [h1, arrV_store]
    congr 1
    congr 1
    funext j
    unfold updV u1
    split <;> rfl
end
section
/-! NEW CELLS, and arrays that come into fields -/
set_option maxRecDepth 100000
theorem sp_pos : ∀ q ∈ spL, 1 ≤ q.2.1 := by decide +kernel
theorem sp_o : ∀ q ∈ spL, q.1 < 222 := by decide +kernel
theorem sp_nd : (spL.map (fun q => (q.1, q.2.1))).Nodup := by decide +kernel
theorem bT_pos (k : Nat) : bT k ≠ 0 := by
  unfold bT
  split
  · omega
  · split <;> omega
theorem sum_congr (l : List (Nat × Nat × Nat × Nat)) (f fₚ : Nat → Nat → Nat) (h : ∀ q ∈ l, fₚ q.1 q.2.1 = f q.1 q.2.1) : (l.map (fun q => q.2.2.1 * fₚ q.1 q.2.1)).sum = (l.map (fun q => q.2.2.1 * f q.1 q.2.1)).sum := by
  congr 1
  apply List.map_congr_left
  intro q hq
  rw [h q hq]
theorem sum_upd (f fₚ : Nat → Nat → Nat) (o b : Nat) : ∀ (l : List (Nat × Nat × Nat × Nat)), (l.map (fun q => (q.1, q.2.1))).Nodup → (∀ q ∈ l, ¬ (q.1 = o ∧ q.2.1 = b) → fₚ q.1 q.2.1 = f q.1 q.2.1) →
    (l.map (fun q => q.2.2.1 * fₚ q.1 q.2.1)).sum + ((l.find? (fun q => q.1 == o && q.2.1 == b)).map (fun q => q.2.2.1)).getD 0 * f o b = (l.map (fun q => q.2.2.1 * f q.1 q.2.1)).sum + ((l.find? (fun q => q.1 == o && q.2.1 == b)).map (fun q => q.2.2.1)).getD 0 * fₚ o b
  | [], _, _ => by simp
  | q :: t, hnd, hf => by
    simp only [List.map_cons, List.nodup_cons] at hnd
    by_cases e : q.1 = o ∧ q.2.1 = b
    · have h1 : (List.find? (fun q => q.1 == o && q.2.1 == b) (q :: t)) = some q := by simp [e.1, e.2]
      rw [h1]
      have h2 : (t.map (fun q => q.2.2.1 * fₚ q.1 q.2.1)).sum = (t.map (fun q => q.2.2.1 * f q.1 q.2.1)).sum := sum_congr t f fₚ (fun r hr => hf r (List.mem_cons_of_mem _ hr) (fun c => hnd.1 (by
        rw [List.mem_map]
        exact ⟨r, hr, by rw [c.1, c.2, e.1, e.2]⟩)))
      simp only [List.map_cons, List.sum_cons, Option.map_some, Option.getD_some, h2, e.1, e.2]
      omega
    · have h1 : (List.find? (fun q => q.1 == o && q.2.1 == b) (q :: t)) = t.find? (fun q => q.1 == o && q.2.1 == b) := by
        rw [List.find?_cons_of_neg]
        simp only [Bool.and_eq_true, beq_iff_eq]
        exact e
      rw [h1]
      have h2 := sum_upd f fₚ o b t hnd.2 (fun r hr => hf r (List.mem_cons_of_mem _ hr))
      have h3 := hf q List.mem_cons_self e
      simp only [List.map_cons, List.sum_cons, h3]
      omega
/-- numbers of cells grow, kinds stay -/
def LeS (σ σₚ : Sg) : Prop := gN σ ≤ gN σₚ ∧ ∀ a, a < gN σ → gK σₚ a = gK σ a
theorem okR_mono {σ σₚ : Sg} (h : LeS σ σₚ) {r : Int} (hr : okR σ r) : okR σₚ r := by
  unfold okR at *
  have := h.1
  omega
theorem okV_mono {σ σₚ : Sg} (h : LeS σ σₚ) {v : AV} (hv : okV σ v) : okV σₚ v := by
  rcases v with x | x | r | q
  · exact hv
  · exact hv
  · exact okR_mono h hv
  · obtain ⟨h1, h2, h3⟩ := hv
    exact ⟨h1, Nat.lt_of_lt_of_le h2 h.1, by rw [h.2 _ h2]; exact h3⟩
theorem eOk_mono {σ σₚ : Sg} (h : LeS σ σₚ) (hz : ∀ o, gN σ ≤ o → gK σ o = 0) {e : Nat} {x : Int} (hx : eOk σ e x) : eOk σₚ e x := by
  obtain ⟨h1, h2, h3, h4, h5, h6⟩ := hx
  refine ⟨h1, h2, h3, h4, fun q => okR_mono h (h5 q), fun q => ?_⟩
  obtain ⟨a, b⟩ := h6 q
  refine ⟨a, ?_⟩
  rcases b with b | b
  · exact Or.inl b
  · refine Or.inr ?_
    rw [h.2 _ ?_]
    · exact b
    · rcases Nat.lt_or_ge x.toNat (gN σ) with c | c
      · exact c
      · exact absurd (b.symm.trans (hz _ c)) (by decide)
theorem fOk_mono {σ σₚ : Sg} (h : LeS σ σₚ) (hv : ∀ k, gV σ 120 (bT k) ≠ 0 → gV σₚ 120 (bT k) = gV σ 120 (bT k)) {t k : Nat} {x : Int} (hx : fOk σ t k x) : fOk σₚ t k x := by
  obtain ⟨h1, h2, h3, h4, h5⟩ := hx
  refine ⟨h1, h2, h3, fun q => okR_mono h (h4 q), fun q => ?_⟩
  rcases h5 q with a | ⟨a, b, c, d⟩
  · exact Or.inl a
  · refine Or.inr ⟨a, ?_, ?_, ?_⟩
    · rw [hv k b]; exact b
    · rw [hv k b]; exact Nat.lt_of_lt_of_le c h.1
    · rw [hv k b, h.2 _ c]; exact d
theorem le_nA (σ : Sg) (e n : Nat) : LeS σ (nA σ e n) := ⟨by rw [gN_nA]; omega, fun a ha => by rw [gK_nA, if_neg (by omega)]⟩
theorem le_nO (σ : Sg) (c n : Nat) : LeS σ (nO σ c n) := ⟨by rw [gN_nO]; omega, fun a ha => by rw [gK_nO, if_neg (by omega)]⟩
theorem gV_lt {G : Gp} {ph : Nat} {σ : Sg} {H : Heap} (hR : Rep G ph σ H) (o f : Nat) : gV σ o f < gN σ := by
  by_cases h : gV σ o f = 0
  · have := hR.1.2; omega
  · exact (hR.2.2.2.1 o f h).1
/-- slots of static arrays, all but the model's heap of rows -/
theorem slB_v : slB = 5111306 := by decide +kernel
theorem md_v (m : Nat) : (md m = 327680 ∧ slM m = slB) ∨ (md m = 0 ∧ slM m + 327680 = slB) := by
  unfold md slM
  cases m == 99 with
  | true => exact Or.inl ⟨rfl, rfl⟩
  | false => exact Or.inr ⟨rfl, Nat.sub_add_cancel (by rw [slB_v]; decide)⟩
theorem ps_le {σ : Sg} {m : Nat} (h : ∀ q ∈ spL, gL σ q.1 q.2.1 ≤ cp m q) : pSum σ ≤ slM m + 2 * gL σ 160 58 := by
  have key : ∀ l : List (Nat × Nat × Nat × Nat), (∀ q ∈ l, gL σ q.1 q.2.1 ≤ cp m q) → (l.map (fun q => q.2.2.1 * gL σ q.1 q.2.1)).sum ≤ (l.map (fun q => if q.1 = 160 ∧ q.2.1 = 58 then 0 else q.2.2.1 * cp m q)).sum + (l.map (fun q => if q.1 = 160 ∧ q.2.1 = 58 then q.2.2.1 else 0)).sum * gL σ 160 58 := by
    intro l
    induction l with
    | nil => intro _; exact Nat.zero_le _
    | cons a t ih =>
      intro h
      simp only [List.map_cons, List.sum_cons]
      have h1 := Nat.mul_le_mul_left a.2.2.1 (h a List.mem_cons_self)
      have h2 := ih (fun q hq => h q (List.mem_cons_of_mem _ hq))
      by_cases c : a.1 = 160 ∧ a.2.1 = 58
      · rw [if_pos c, if_pos c, Nat.add_mul, c.1, c.2]
        omega
      · rw [if_neg c, if_neg c, Nat.zero_add]
        omega
  have h1 := key spL h
  have hm : (spL.map (fun q => if q.1 = 160 ∧ q.2.1 = 58 then 0 else q.2.2.1 * cp m q)).sum = slM m := by
    unfold cp slM
    cases m == 99 with
    | true => decide +kernel
    | false => decide +kernel
  rw [hm, show (spL.map (fun q => if q.1 = 160 ∧ q.2.1 = 58 then q.2.2.1 else 0)).sum = 2 by decide +kernel] at h1
  exact h1
/-- a new array fits -/
theorem nw_ok {σ : Sg} {n : Nat} (h : RepS σ) (hn : gT σ + n ≤ 70400 ∨ pSum σ + gT σ + gD σ + n ≤ slM (gK σ 0) + 70400 + 1908000) : pSum σ + gT σ + gD σ + n ≤ slM (gK σ 0) + 70400 + 1908000 := by
  obtain ⟨s1, s2, s3, s4, s5, s6, s7⟩ := h
  have := ps_le s2
  rcases hn with c | c <;> omega
theorem cp_le (m o f : Nat) : cpB m o f ≤ spB o f := by
  unfold cpB
  cases o == 187 && !(m == 99) with
  | true => exact Nat.div_le_self _ _
  | false => exact Nat.le_refl _
theorem cp_1 {m : Nat} {q : Nat × Nat × Nat × Nat} (hq : q ∈ spL) : q.2.2.1 = 1 → cp m q = q.2.2.2 := by
  have h : ∀ q ∈ spL, q.2.2.1 = 1 → (q.1 == 187) = false := by decide +kernel
  intro h1
  unfold cp
  rw [h q hq h1]
  rfl
theorem gcap_le (σ : Sg) (o f : Nat) : gcap σ o f ≤ cpB (gK σ 0) o f := by
  unfold gcap
  by_cases c : (o == 160 && f == 58) = true
  · rw [c]
    simp only [Bool.and_eq_true, beq_iff_eq] at c
    rw [c.1, c.2, show cpB (gK σ 0) 160 58 = 524288 from (show spB 160 58 = 524288 by decide +kernel)]
    exact Nat.min_le_left _ _
  · rw [show (o == 160 && f == 58) = false by simpa using c]
    by_cases c2 : (o == 17 && (Nat.ble 3 f && Nat.ble f 7)) = true
    · rw [c2]
      simp only [Bool.and_eq_true, beq_iff_eq, Nat.ble_eq] at c2
      have e : cpB (gK σ 0) o f = 33790 := by
        rw [c2.1]
        have hf := c2.2
        rcases (show f = 3 ∨ f = 4 ∨ f = 5 ∨ f = 6 ∨ f = 7 by omega) with q | q | q | q | q
        · rw [q]
          show spB 17 3 = 33790
          decide +kernel
        · rw [q]
          show spB 17 4 = 33790
          decide +kernel
        · rw [q]
          show spB 17 5 = 33790
          decide +kernel
        · rw [q]
          show spB 17 6 = 33790
          decide +kernel
        · rw [q]
          show spB 17 7 = 33790
          decide +kernel
      rw [e]
      show (bif gL σ o f == 0 then 64 else bif Nat.blt (gL σ o f) 64 then 0 else min 33790 (2 * gL σ o f + 2)) ≤ 33790
      cases gL σ o f == 0 with
      | true => exact (by decide : 64 ≤ 33790)
      | false => cases Nat.blt (gL σ o f) 64 with
        | true => exact Nat.zero_le _
        | false => exact Nat.min_le_left _ _
    · rw [show (o == 17 && (Nat.ble 3 f && Nat.ble f 7)) = false from Bool.eq_false_iff.mpr c2]
      exact Nat.le_refl _
theorem rep_nA {G : Gp} {ph : Nat} {σ : Sg} {H Hₚ : Heap} {e n : Nat} (hR : Rep G ph σ H) (hn : n < 2 ^ 31) (hT : pSum σ + gT σ + gD σ + n ≤ slM (gK σ 0) + 70400 + 1908000) (hC : n < 16 → gC σ + 1 ≤ 3000)
    (h1 : Hₚ[H.size]? = some (arrV (G.2.2.2.1 e) n (fun _ => eVal G e 0))) (h2 : Hₚ.size = H.size + 1) (h3 : ∀ a, a < H.size → Hₚ[a]? = H[a]?) : Rep G ph (nA σ e n) Hₚ := by
  have hgv := gV_lt hR
  obtain ⟨⟨hz, hn1⟩, ⟨hold, hV⟩, hO, hA, hU, hP, hS⟩ := hR
  have hle := le_nA σ e n
  have hfr : ∀ o, gN σ ≤ o → gK σ o = 0 := fun o ho => (hU.2.2.1 o ho).1
  have hvf : ∀ f, gV σ (gN σ) f = 0 := fun f => ((hU.2.2.1 _ (Nat.le_refl _)).2 f).2.1
  have hv120 : ∀ k, gV (nA σ e n) 120 (bT k) = gV σ 120 (bT k) := fun k => by rw [gV_nA, if_neg (fun q => bT_pos k q.2)]
  refine ⟨⟨by rw [h2, gN_nA]; omega, by rw [gN_nA]; omega⟩, ⟨fun a ha => by rw [h3 a (by omega)]; exact hold a ha, fun a ca ha hc => by
    have hl := (Array.getElem?_eq_some_iff.mp hc).1
    by_cases e : a = H.size
    · rw [e, h1] at hc; rw [← Option.some.inj hc]; rfl
    · rw [h3 a (by omega)] at hc; exact hV a ca ha hc⟩, ?_, ?_, ?_, ?_, ?_⟩
  · intro oₚ ciₚ rₚ g1 g2 g3 g4
    have hci := cl_lt g4
    rw [gN_nA] at g2
    rw [gK_nA] at g3
    have hne : oₚ ≠ gN σ := fun q => by rw [if_pos q] at g3; omega
    rw [if_neg hne] at g3
    obtain ⟨hob, hfo⟩ := hO oₚ ciₚ rₚ g1 (by omega) g3 g4
    refine ⟨(hob.kept (h3 _ (by omega))).to (fun k _ => ?_), fun k hk => fOk_mono hle (fun k _ => hv120 k) (hfo k hk)⟩
    have hvv : gV (nA σ e n) oₚ (k + 1) = gV σ oₚ (k + 1) := by rw [gV_nA, if_neg (fun q => hne q.1)]
    unfold fVal
    rw [gF_nA, hv120, hvv]
  · intro oₚ fₚ hv
    rw [gV_nA] at hv ⊢
    by_cases c : oₚ = gN σ ∧ fₚ = 0
    · rw [if_pos c] at hv ⊢
      rw [gN_nA, gK_nA, if_pos rfl, gL_nA, if_pos c]
      refine ⟨by omega, by omega, hn, ?_, fun j hj => ?_⟩
      · rw [show G.1 + gN σ - 1 = H.size by omega, h1, show 100 + e - 100 = e by omega]
        congr 1
        congr 1
        funext j
        rw [gA_nA, c.1]
        rw [((hU.2.2.1 _ (Nat.le_refl _)).2 fₚ).2.2 j]
      · rw [gA_nA, c.1, ((hU.2.2.1 _ (Nat.le_refl _)).2 fₚ).2.2 j]
        refine ⟨fun _ => by unfold in32; omega, fun _ => by omega, fun _ => by omega, fun _ => by unfold in64; omega, fun _ => Or.inl ⟨by omega, by rw [gN_nA]; omega⟩, fun _ => ⟨by omega, Or.inl rfl⟩⟩
    · rw [if_neg c] at hv ⊢
      obtain ⟨a1, a2, a3, a4, a5⟩ := hA oₚ fₚ hv
      rw [gN_nA, gK_nA, if_neg (by omega), gL_nA, if_neg c]
      exact ⟨by omega, a2, a3, by rw [h3 _ (by omega)]; exact a4, fun j hj => eOk_mono hle hfr (a5 j hj)⟩
  · obtain ⟨u1, u2, u3, u4, u5⟩ := hU
    refine ⟨fun o f oₚ fₚ hv he => ?_, fun o f hv => ?_, fun o ho => ?_, fun o ci k eₚ hk hci hft he hv => ?_, fun o f hv => ?_⟩
    · rw [gV_nA] at hv
      rw [gV_nA, gV_nA] at he
      have b1 := hgv o f
      have b2 := hgv oₚ fₚ
      by_cases c : o = gN σ ∧ f = 0 <;> by_cases cₚ : oₚ = gN σ ∧ fₚ = 0
      · omega
      · rw [if_pos c, if_neg cₚ] at he; omega
      · rw [if_neg c, if_pos cₚ] at he; omega
      · rw [if_neg c] at hv; rw [if_neg c, if_neg cₚ] at he; exact u1 o f oₚ fₚ hv he
    · rw [gV_nA] at hv
      rw [gL_nA]
      by_cases c : o = gN σ ∧ f = 0
      · rw [if_pos c] at hv; omega
      · rw [if_neg c] at hv ⊢; exact u2 o f hv
    · rw [gN_nA] at ho
      obtain ⟨w1, w2⟩ := u3 o (by omega)
      refine ⟨by rw [gK_nA, if_neg (by omega)]; exact w1, fun f => ⟨(w2 f).1, by rw [gV_nA, if_neg (by omega)]; exact (w2 f).2.1, (w2 f).2.2⟩⟩
    · rw [gK_nA] at hk
      have hne : o ≠ gN σ := fun q => by rw [if_pos q] at hk; omega
      rw [if_neg hne] at hk
      rw [gV_nA, if_neg (fun q => hne q.1)] at hv ⊢
      rw [gK_nA, if_neg (by have := hgv o k; omega)]
      exact u4 o ci k eₚ hk hci hft he hv
    · rw [gV_nA] at hv ⊢
      rw [gN_nA, gK_nA]
      by_cases c : o = gN σ ∧ f = 0
      · rw [if_pos c]; exact ⟨by omega, Or.inr ⟨c.2, c.1.symm⟩⟩
      · rw [if_neg c] at hv ⊢
        obtain ⟨w1, w2⟩ := u5 o f hv
        rw [if_neg (by omega)]
        exact ⟨by omega, w2⟩
  · obtain ⟨p1, p2, p3, p4⟩ := hP
    refine ⟨by rw [gN_nA]; omega, fun o ho hk => ?_, p3, fun o kₚ ho hw => ?_⟩
    · rw [gK_nA, if_neg (by omega)]; exact p2 o ho hk
    · rw [gV_nA, gL_nA, if_neg (by omega), if_neg (by omega)]; exact p4 o kₚ ho hw
  · obtain ⟨s1, s2, s3, s4, s5, s6, s7⟩ := hS
    have hps : pSum (nA σ e n) = pSum σ := sum_congr spL (gL σ) (gL (nA σ e n)) (fun q hq => by rw [gL_nA, if_neg (fun c => by have := sp_pos q hq; omega)])
    have hmd := md_v (gK σ 0)
    have e0 : gK (nA σ e n) 0 = gK σ 0 := by rw [gK_nA, if_neg (by omega)]
    refine ⟨?_, fun q hq => ?_, ?_, by rw [gL_nA, if_neg (fun c => by omega), gD_nA]; exact s4, ?_, ?_⟩
    · rw [e0, gS_nA, hps, gT_nA, gD_nA, gC_nA]; split <;> omega
    · rw [e0, gL_nA, if_neg (fun c => by have := sp_pos q hq; omega)]; exact s2 q hq
    · rw [gS_nA, gC_nA]; split <;> omega
    · rw [gC_nA]; split <;> omega
    · refine ⟨by rw [gN_nA, gC_nA, gS_nA]; split <;> omega, fun f h3 h7 => ?_⟩
      rw [gL_nA, if_neg (fun c => by omega)]
      exact s7 f h3 h7
theorem rep_nO {G : Gp} {ph : Nat} {σ : Sg} {H Hₚ : Heap} {ci n : Nat} {q : vw_C} (hR : Rep G ph σ H) (hcl : clL[ci]? = some q) (hC : gC σ + 1 ≤ 3000) (hD : gT σ ≤ 70400 ∧ gD σ + 2 * gL σ 160 58 + n ≤ 1908000)
    (h1 : t_OB H.size (G.2.2.1.1 ci) q.2.2 (G.2.2.1.2 ci) Hₚ (fun j => fVal G σ (gN σ) (ftOf ci (j + 1)) (j + 1))) (h2 : Hₚ.size = H.size + 1) (h3 : ∀ a, a < H.size → Hₚ[a]? = H[a]?) : Rep G ph (nO σ (ci + 1) n) Hₚ := by
  have hgv := gV_lt hR
  have hci := cl_lt hcl
  obtain ⟨⟨hz, hn1⟩, ⟨hold, hV⟩, hO, hA, hU, hP, hS⟩ := hR
  have hle := le_nO σ (ci + 1) n
  have hfr : ∀ o, gN σ ≤ o → gK σ o = 0 := fun o ho => (hU.2.2.1 o ho).1
  refine ⟨⟨by rw [h2, gN_nO]; omega, by rw [gN_nO]; omega⟩, ⟨fun a ha => by rw [h3 a (by omega)]; exact hold a ha, fun a ca ha hc => by
    have hl := (Array.getElem?_eq_some_iff.mp hc).1
    by_cases e : a = H.size
    · obtain ⟨cell, q1, q2, q3, q4⟩ := h1
      rw [e, q1] at hc; rw [← Option.some.inj hc]; exact q3
    · rw [h3 a (by omega)] at hc; exact hV a ca ha hc⟩, ?_, ?_, ?_, ?_, ?_⟩
  · intro oₚ ciₚ rₚ g1 g2 g3 g4
    rw [gN_nO] at g2
    rw [gK_nO] at g3
    by_cases c : oₚ = gN σ
    · rw [if_pos c] at g3
      have e2 : ciₚ = ci := by omega
      subst e2
      have e3 : rₚ = q := Option.some.inj (g4.symm.trans hcl)
      subst e3
      subst c
      rw [show G.1 + gN σ - 1 = H.size by omega]
      refine ⟨h1, fun j hj => ?_⟩
      rw [gF_nO, ((hU.2.2.1 _ (Nat.le_refl _)).2 (j + 1)).1]
      exact ⟨fun _ => by unfold in32; omega, fun _ => by omega, fun _ => by unfold in64; omega, fun _ => Or.inl ⟨by omega, by rw [gN_nO]; omega⟩, fun _ => Or.inl rfl⟩
    · rw [if_neg c] at g3
      obtain ⟨hob, hfo⟩ := hO oₚ ciₚ rₚ g1 (by omega) g3 g4
      exact ⟨hob.kept (h3 _ (by omega)), fun k hk => fOk_mono hle (fun k _ => rfl) (hfo k hk)⟩
  · intro oₚ fₚ hv
    rw [gV_nO] at hv ⊢
    obtain ⟨a1, a2, a3, a4, a5⟩ := hA oₚ fₚ hv
    rw [gN_nO, gK_nO, if_neg (by omega)]
    exact ⟨by omega, a2, a3, by rw [h3 _ (by omega)]; exact a4, fun j hj => eOk_mono hle hfr (a5 j hj)⟩
  · obtain ⟨u1, u2, u3, u4, u5⟩ := hU
    refine ⟨u1, u2, fun o ho => ?_, fun o ciₚ k eₚ hk hciₚ hft he hv => ?_, fun o f hv => ?_⟩
    · rw [gN_nO] at ho
      obtain ⟨w1, w2⟩ := u3 o (by omega)
      exact ⟨by rw [gK_nO, if_neg (by omega)]; exact w1, w2⟩
    · rw [gV_nO] at hv ⊢
      have hlt := (u5 o k hv).1
      rw [gK_nO, if_neg (by omega)] at hk
      rw [gK_nO, if_neg (by have := hgv o k; omega)]
      exact u4 o ciₚ k eₚ hk hciₚ hft he hv
    · rw [gV_nO] at hv ⊢
      obtain ⟨w1, w2⟩ := u5 o f hv
      rw [gN_nO, gK_nO, if_neg (by omega)]
      exact ⟨by omega, w2⟩
  · obtain ⟨p1, p2, p3, p4⟩ := hP
    refine ⟨by rw [gN_nO]; omega, fun o ho hk => ?_, p3, p4⟩
    rw [gK_nO, if_neg (by omega)]; exact p2 o ho hk
  · obtain ⟨s1, s2, s3, s4, s5, s6, s7⟩ := hS
    have hps : pSum (nO σ (ci + 1) n) = pSum σ := rfl
    have hle2 := ps_le s2
    have eD : gD (nO σ (ci + 1) n) = gD σ + n := by
      show gD σ + (if ci + 1 = 50 then 0 else n) = _
      rw [if_neg (by omega)]
    have eL : gL (nO σ (ci + 1) n) 160 58 = gL σ 160 58 := rfl
    have hmd := md_v (gK σ 0)
    have e0 : gK (nO σ (ci + 1) n) 0 = gK σ 0 := by rw [gK_nO, if_neg (by omega)]
    exact ⟨by rw [e0, gS_nO, hps, gT_nO, eD, gC_nO]; omega, fun q hq => by rw [e0]; exact s2 q hq, by rw [gS_nO, gC_nO]; omega, by rw [eD, eL]; omega, by rw [gC_nO]; exact hC, by rw [gN_nO, gC_nO, gS_nO]; omega, s7⟩
theorem find_of_nd {o b : Nat} : ∀ {l : List (Nat × Nat × Nat × Nat)} {q : Nat × Nat × Nat × Nat}, (l.map (fun q => (q.1, q.2.1))).Nodup → q ∈ l → q.1 = o → q.2.1 = b → l.find? (fun q => q.1 == o && q.2.1 == b) = some q
  | [], q, _, h, _, _ => by cases h
  | r :: t, q, hnd, h, h1, h2 => by
    simp only [List.map_cons, List.nodup_cons] at hnd
    rcases List.mem_cons.mp h with e | e
    · subst e
      simp [h1, h2]
    · have : ¬ (r.1 = o ∧ r.2.1 = b) := fun c => hnd.1 (by
        rw [List.mem_map]
        exact ⟨q, e, by rw [h1, h2, c.1, c.2]⟩)
      rw [List.find?_cons_of_neg (by simp only [Bool.and_eq_true, beq_iff_eq]; exact this)]
      exact find_of_nd hnd.2 e h1 h2
theorem cp_q {m o f : Nat} {q : Nat × Nat × Nat × Nat} (hq : q ∈ spL) (h1 : q.1 = o) (h2 : q.2.1 = f) : cpB m o f = cp m q := by
  unfold cpB cp spB
  rw [find_of_nd sp_nd hq h1 h2, h1]
  rfl
theorem spW_0 (o : Nat) : spW o 0 = 0 := by
  unfold spW
  cases h : spL.find? (fun q => q.1 == o && q.2.1 == 0) with
  | none => rfl
  | some q =>
    have h1 := List.mem_of_find?_eq_some h
    have h2 := List.find?_some h
    simp only [Bool.and_eq_true, beq_iff_eq] at h2
    have := sp_pos q h1
    omega
theorem spW_b (k : Nat) : spW 120 (bT k) = 1 := by
  unfold bT
  split
  · decide +kernel
  · split <;> decide +kernel
theorem nSt_le (ph : Nat) : nSt ph ≤ 222 := by
  unfold nSt
  split <;> omega
theorem rep_mV {G : Gp} {ph : Nat} {σ : Sg} {H Hₚ : Heap} {o ci j t e : Nat} {q : vw_C} {cell : Cell} (hR : Rep G ph σ H) (ho1 : 1 ≤ o) (hK : gK σ o = ci + 1) (hcl : clL[ci]? = some q) (hj : j < q.2.2) (hap : ∀ a b, a < q.2.2 → b < q.2.2 → a ≠ b → G.2.2.1.2 ci a ≠ G.2.2.1.2 ci b)
    (hft : ftOf ci (j + 1) = 4 + e) (he : e ≤ 8) (ht : gV σ t 0 = t) (ht0 : t ≠ 0) (hkt : gK σ t = 100 + e) (hmv : mvOk σ t o (j + 1)) (hc2 : cell.cls = G.2.2.1.1 ci) (hc3 : cell.vm = .none) (hc4 : ∀ k, k < q.2.2 → cell.slots[G.2.2.1.2 ci k]? = some (fVal G σ o (ftOf ci (k + 1)) (k + 1)))
    (h1 : Hₚ[G.1 + o - 1]? = some (cell.setSlot (G.2.2.1.2 ci j) (.ref (G.1 + t - 1)))) (h2 : Hₚ.size = H.size) (h3 : ∀ a, a ≠ G.1 + o - 1 → Hₚ[a]? = H[a]?) : Rep G ph (mV σ t o (j + 1)) Hₚ := by
  have hlt := rep_lt hR hK (by omega)
  have hci := cl_lt hcl
  have hgv := gV_lt hR
  have htN : t < gN σ := by have := hgv t 0; omega
  obtain ⟨⟨hz, hn1⟩, ⟨hold, hV⟩, hO, hA, hU, hP, hS⟩ := hR
  have hot : o ≠ t := fun c => by rw [c, hkt] at hK; omega
  obtain ⟨u1, u2, u3, u4, u5⟩ := hU
  have huniq : ∀ oₚ fₚ, gV σ oₚ fₚ = t → oₚ = t ∧ fₚ = 0 := fun oₚ fₚ c => u1 oₚ fₚ t 0 (by omega) (by omega)
  have hstat : o < 222 → gL σ t 0 ≤ cpB (gK σ 0) o (j + 1) ∧ ((spW o (j + 1) = 1 ∧ gV σ o (j + 1) = 0) ∨ (spW o (j + 1) = 2 ∧ 2 * gL σ o (j + 1) ≤ gL σ t 0)) := by
    intro ho
    unfold mvOk at hmv
    rw [show Nat.blt o 222 = true by rw [Nat.blt_eq]; exact ho] at hmv
    obtain ⟨m1, m2⟩ := hmv
    refine ⟨Nat.le_trans m1 (gcap_le _ _ _), ?_⟩
    by_cases c1 : spW o (j + 1) = 1
    · rw [c1] at m2; exact Or.inl ⟨c1, m2⟩
    · by_cases c2 : spW o (j + 1) = 2
      · rw [c2] at m2; exact Or.inr ⟨c2, m2⟩
      · rw [show (spW o (j + 1) == 1) = false by simpa using c1, show (spW o (j + 1) == 2) = false by simpa using c2] at m2
        exact m2.elim
  have hcp : o < 222 → gL σ t 0 ≤ gcap σ o (j + 1) := by
    intro ho
    unfold mvOk at hmv
    rw [show Nat.blt o 222 = true by rw [Nat.blt_eq]; exact ho] at hmv
    exact hmv.1
  have hdyn : ¬ o < 222 → gD σ + 2 * gL σ 160 58 + gL σ t 0 ≤ 1908000 := by
    intro ho
    unfold mvOk at hmv
    rw [show Nat.blt o 222 = false by simpa [← Bool.not_eq_true, Nat.blt_eq] using ho] at hmv
    exact hmv
  have hb120 : ∀ k, gV σ 120 (bT k) ≠ 0 → gV (mV σ t o (j + 1)) 120 (bT k) = gV σ 120 (bT k) := by
    intro k hk
    rw [gV_mV]
    by_cases c : 120 = o ∧ bT k = j + 1
    · exfalso
      obtain ⟨c1, c2⟩ := c
      rcases (hstat (by omega)).2 with ⟨_, m⟩ | ⟨m, _⟩
      · rw [← c1, ← c2] at m; exact hk m
      · rw [← c1, ← c2, spW_b] at m; omega
    · rw [if_neg c, if_neg (fun q => bT_pos k q.2)]
  have hle : LeS σ (mV σ t o (j + 1)) := ⟨Nat.le_refl _, fun a _ => rfl⟩
  have hfr : ∀ o, gN σ ≤ o → gK σ o = 0 := fun o ho => (u3 o ho).1
  have hfv : ∀ oₚ ciₚ k, fOk σ (ftOf ciₚ (k + 1)) (k + 1) (gF σ oₚ (k + 1)) → ¬ (oₚ = o ∧ k = j) → fVal G (mV σ t o (j + 1)) oₚ (ftOf ciₚ (k + 1)) (k + 1) = fVal G σ oₚ (ftOf ciₚ (k + 1)) (k + 1) := by
    intro oₚ ciₚ k hfo hne
    have e1 : gV (mV σ t o (j + 1)) oₚ (k + 1) = gV σ oₚ (k + 1) := by rw [gV_mV, if_neg (by omega), if_neg (by omega)]
    unfold fVal
    rw [gF_mV, e1]
    by_cases c20 : ftOf ciₚ (k + 1) = 20
    · rw [c20]
      simp only [show ¬ (20 : Nat) ≤ 1 by omega, show ¬ (20 : Nat) = 2 by omega, show ¬ (20 : Nat) = 3 by omega, if_false, if_true]
      rcases hfo.2.2.2.2 c20 with a | ⟨a, b, _⟩
      · rw [if_pos a, if_pos a]
      · rw [hb120 _ b]
    · simp only [c20, if_false]
  refine ⟨⟨by rw [h2]; exact hz, hn1⟩, ⟨fun a ha => by rw [h3 a (by omega)]; exact hold a ha, fun a ca ha hc => by
    by_cases e : a = G.1 + o - 1
    · rw [e, h1] at hc; rw [← Option.some.inj hc]; exact hc3
    · rw [h3 a e] at hc; exact hV a ca ha hc⟩, ?_, ?_, ⟨?_, ?_, ?_, ?_, ?_⟩, ?_, ?_⟩
  · intro oₚ ciₚ rₚ g1 g2 g3 g4
    obtain ⟨hob, hfo⟩ := hO oₚ ciₚ rₚ g1 g2 g3 g4
    refine ⟨?_, fun k hk => fOk_mono hle (fun k h => hb120 k h) (hfo k hk)⟩
    by_cases c : oₚ = o
    · subst c
      have g3ₚ : gK σ oₚ = ciₚ + 1 := g3
      have e2 : ciₚ = ci := by omega
      subst e2
      have e3 : rₚ = q := Option.some.inj (g4.symm.trans hcl)
      subst e3
      refine ⟨_, h1, hc2, hc3, fun k hk => ?_⟩
      rw [t_set hc4 hap hj _ k hk]
      congr 1
      unfold updV
      by_cases ek : k = j
      · subst ek
        rw [if_pos rfl]
        have e1 : gV (mV σ t oₚ (k + 1)) oₚ (k + 1) = t := by rw [gV_mV, if_pos ⟨rfl, rfl⟩]
        unfold fVal
        dsimp only
        rw [e1, hft, if_neg (by omega), if_neg (by omega), if_neg (by omega), if_neg (by omega), if_neg ht0]
      · rw [if_neg ek]
        exact (hfv oₚ ciₚ k (hfo k hk) (by omega)).symm
    · exact (hob.kept (h3 _ (by omega))).to (fun k hk => (hfv oₚ ciₚ k (hfo k hk) (by omega)).symm)
  · intro oₚ fₚ hv
    rw [gV_mV] at hv ⊢
    by_cases c : oₚ = o ∧ fₚ = j + 1
    · rw [if_pos c]
      obtain ⟨a1, a2, a3, a4, a5⟩ := hA t 0 (by omega)
      rw [ht] at a1 a2 a4 a5
      rw [gL_mV, if_pos c, gA_mV, if_pos c]
      exact ⟨a1, a2, a3, by rw [h3 _ (by omega)]; exact a4, a5⟩
    · rw [if_neg c] at hv ⊢
      by_cases c2 : oₚ = t ∧ fₚ = 0
      · rw [if_pos c2] at hv; exact absurd rfl hv
      · rw [if_neg c2] at hv ⊢
        obtain ⟨a1, a2, a3, a4, a5⟩ := hA oₚ fₚ hv
        have hne : gV σ oₚ fₚ ≠ o := fun w => by rw [w, hK] at a2; omega
        rw [gL_mV, if_neg c, if_neg c2, gA_mV, if_neg c]
        exact ⟨a1, a2, a3, by rw [h3 _ (by omega)]; exact a4, a5⟩
  · intro a f aₚ fₚ hv hee
    rw [gV_mV] at hv
    rw [gV_mV, gV_mV] at hee
    by_cases c : a = o ∧ f = j + 1 <;> by_cases cₚ : aₚ = o ∧ fₚ = j + 1
    · omega
    · rw [if_pos c, if_neg cₚ] at hee
      by_cases dₚ : aₚ = t ∧ fₚ = 0
      · rw [if_pos dₚ] at hee; omega
      · rw [if_neg dₚ] at hee
        exact absurd (huniq aₚ fₚ hee.symm) dₚ
    · rw [if_neg c, if_pos cₚ] at hee
      by_cases d : a = t ∧ f = 0
      · rw [if_pos d] at hee; omega
      · rw [if_neg d] at hee
        exact absurd (huniq a f hee) d
    · rw [if_neg c] at hv
      rw [if_neg c, if_neg cₚ] at hee
      by_cases d : a = t ∧ f = 0
      · rw [if_pos d] at hv; exact absurd rfl hv
      · rw [if_neg d] at hv hee
        by_cases dₚ : aₚ = t ∧ fₚ = 0
        · rw [if_pos dₚ] at hee; exact absurd hee hv
        · rw [if_neg dₚ] at hee; exact u1 a f aₚ fₚ hv hee
  · intro a f hv
    rw [gV_mV] at hv
    rw [gL_mV]
    by_cases c : a = o ∧ f = j + 1
    · rw [if_pos c] at hv; exact absurd hv ht0
    · rw [if_neg c] at hv ⊢
      by_cases d : a = t ∧ f = 0
      · rw [if_pos d]
      · rw [if_neg d] at hv ⊢; exact u2 a f hv
  · intro a ha
    have haₚ : gN σ ≤ a := ha
    obtain ⟨w1, w2⟩ := u3 a haₚ
    refine ⟨w1, fun f => ⟨(w2 f).1, ?_, fun i => ?_⟩⟩
    · rw [gV_mV, if_neg (by omega), if_neg (by omega)]; exact (w2 f).2.1
    · rw [gA_mV, if_neg (by omega)]; exact (w2 f).2.2 i
  · intro a ciₚ k eₚ hk hciₚ hftₚ heₚ hv
    have hkₚ : gK σ a = ciₚ + 1 := hk
    rw [gV_mV] at hv ⊢
    by_cases c : a = o ∧ k = j + 1
    · rw [if_pos c]
      obtain ⟨c1, c2⟩ := c
      subst c1; subst c2
      have e2 : ciₚ = ci := by omega
      subst e2
      have : eₚ = e := by omega
      subst this
      exact hkt
    · rw [if_neg c] at hv ⊢
      by_cases d : a = t ∧ k = 0
      · rw [if_pos d] at hv; exact absurd rfl hv
      · rw [if_neg d] at hv ⊢; exact u4 a ciₚ k eₚ hkₚ hciₚ hftₚ heₚ hv
  · intro a f hv
    rw [gV_mV] at hv ⊢
    by_cases c : a = o ∧ f = j + 1
    · exact ⟨by rw [c.1]; exact hlt, Or.inl (by show gK σ a < 100; rw [c.1, hK]; omega)⟩
    · rw [if_neg c] at hv ⊢
      by_cases d : a = t ∧ f = 0
      · rw [if_pos d] at hv; exact absurd rfl hv
      · rw [if_neg d] at hv ⊢; exact u5 a f hv
  · obtain ⟨p1, p2, p3, p4⟩ := hP
    refine ⟨p1, p2, p3, fun a kₚ ha hw => ?_⟩
    rw [gV_mV, gL_mV]
    by_cases c : a = o ∧ kₚ = j + 1
    · rw [if_pos c, if_pos c]
      refine ⟨ht0, ?_⟩
      obtain ⟨v1, v2⟩ := p4 a kₚ ha hw
      obtain ⟨c1, c2⟩ := c
      rw [c1, c2] at v1 v2 ⊢
      rw [c1] at ha
      rcases (hstat (by have := nSt_le ph; omega)).2 with ⟨-, m2⟩ | ⟨-, m2⟩
      · exact absurd m2 v1
      · omega
    · rw [if_neg c, if_neg c]
      by_cases d : a = t ∧ kₚ = 0
      · rw [d.2, spW_0] at hw; exact absurd rfl hw
      · rw [if_neg d, if_neg d]; exact p4 a kₚ ha hw
  · obtain ⟨s1, s2, s3, s4, s5, s6, s7⟩ := hS
    have hps := sum_upd (gL σ) (gL (mV σ t o (j + 1))) o (j + 1) spL sp_nd (fun r hr hc => by
      have := sp_pos r hr
      rw [gL_mV, if_neg hc, if_neg (by omega)])
    rw [show gL (mV σ t o (j + 1)) o (j + 1) = gL σ t 0 by rw [gL_mV, if_pos ⟨rfl, rfl⟩]] at hps
    have hpsₚ : pSum (mV σ t o (j + 1)) + spW o (j + 1) * gL σ o (j + 1) = pSum σ + spW o (j + 1) * gL σ t 0 := hps
    have hs2ₚ : ∀ r ∈ spL, gL (mV σ t o (j + 1)) r.1 r.2.1 ≤ cp (gK σ 0) r := fun r hr => by
      rw [gL_mV]
      by_cases c : r.1 = o ∧ r.2.1 = j + 1
      · rw [if_pos c]
        have := sp_o r hr
        have m := (hstat (by omega)).1
        rw [cp_q hr c.1 c.2] at m
        exact m
      · have := sp_pos r hr
        rw [if_neg c, if_neg (by omega)]; exact s2 r hr
    have hs4ₚ : gD (mV σ t o (j + 1)) + 2 * gL (mV σ t o (j + 1)) 160 58 ≤ 1908000 := by
      rw [gD_mV, gL_mV]
      by_cases ho : o < 222
      · rw [if_pos ho]
        by_cases c : 160 = o ∧ 58 = j + 1
        · rw [if_pos c]
          have m := hcp ho
          rw [← c.1, ← c.2] at m
          have m : gL σ t 0 ≤ min 524288 ((1908000 - gD σ) / 2) := m
          omega
        · rw [if_neg c, if_neg (by omega)]
          exact s4
      · rw [if_neg ho, if_neg (by omega), if_neg (by omega)]
        have := hdyn ho
        omega
    have hs7ₚ : ∀ f, 3 ≤ f → f ≤ 7 → IvL (gL (mV σ t o (j + 1)) 17 f) := fun f h3 h7 => by
      rw [gL_mV]
      by_cases c : 17 = o ∧ f = j + 1
      · rw [if_pos c]
        have ho : o < 222 := by omega
        have m := hcp ho
        rw [← c.1, ← c.2] at m
        have h2 : 2 * gL σ 17 f ≤ gL σ t 0 := by
          rcases (hstat ho).2 with ⟨w, -⟩ | ⟨-, m2⟩
          · rw [← c.1, ← c.2] at w
            rcases (show f = 3 ∨ f = 4 ∨ f = 5 ∨ f = 6 ∨ f = 7 by omega) with q | q | q | q | q <;> (rw [q] at w; exact absurd w (by decide +kernel))
          · rw [c.1, c.2]; exact m2
        have e : gcap σ 17 f = (bif gL σ 17 f == 0 then 64 else bif Nat.blt (gL σ 17 f) 64 then 0 else min 33790 (2 * gL σ 17 f + 2)) := by
          rcases (show f = 3 ∨ f = 4 ∨ f = 5 ∨ f = 6 ∨ f = 7 by omega) with q | q | q | q | q <;> rw [q] <;> rfl
        rw [e] at m
        exact iv_next (s7 f h3 h7) h2 m
      · rw [if_neg c, if_neg (by omega)]
        exact s7 f h3 h7
    refine ⟨?_, fun r hr => ?_, ?_, ?_, s5, s6, hs7ₚ⟩
    · rw [gK_mV, gS_mV, gT_mV, gD_mV, show gC (mV σ t o (j + 1)) = gC σ from rfl]
      by_cases ho : o < 222
      · rw [if_pos ho]
        rcases (hstat ho).2 with ⟨w, m⟩ | ⟨w, m⟩
        · rw [w, u2 _ _ m] at hpsₚ; omega
        · rw [w] at hpsₚ; omega
      · rw [if_neg ho]
        have w0 : spW o (j + 1) = 0 := by
          unfold spW
          cases hf : spL.find? (fun q => q.1 == o && q.2.1 == j + 1) with
          | none => rfl
          | some r =>
            have r1 := List.mem_of_find?_eq_some hf
            have r2 := List.find?_some hf
            simp only [Bool.and_eq_true, beq_iff_eq] at r2
            have := sp_o r r1
            omega
        rw [w0] at hpsₚ; omega
    · exact hs2ₚ r hr
    · rw [gS_mV]
      exact s3
    · exact hs4ₚ
end
section
/-! ROWS IV: fields that are set, arrays, new cells -/
set_option maxRecDepth 100000
theorem set_at {H : Heap} {a : Nat} {x : Cell} (h : a < H.size) : (H.setIfInBounds a x)[a]? = some x := by simp [h]
theorem set_off {H : Heap} {a b : Nat} {x : Cell} (h : b ≠ a) : (H.setIfInBounds a x)[b]? = H[b]? := by
  rw [Array.getElem?_setIfInBounds_ne (fun c => h c.symm)]
theorem set_sz {H : Heap} {a : Nat} {x : Cell} : (H.setIfInBounds a x).size = H.size := by simp
theorem locs_add {locs : List Loc} {b a i : Nat} (h : ∀ q ∈ locs, b ≤ q.base) (ha : b ≤ a) : ∀ q ∈ locs ++ [(⟨a, i⟩ : Loc)], b ≤ q.base := by
  intro q hq
  rcases List.mem_append.mp hq with c | c
  · exact h q c
  · rw [List.mem_singleton.mp c]; exact ha
/-- a value may lie in a field of this type -/
def inTy (t : Nat) : AV → Prop
  | .inl x => (t = 0 ∧ in32 x) ∨ (t = 1 ∧ 0 ≤ x ∧ x ≤ 1)
  | .inr (.inl _) => t = 2
  | .inr (.inr (.inl _)) => t = 3
  | .inr (.inr (.inr _)) => 4 ≤ t
theorem inTy_fits {G : Gp} {t : Nat} {v : AV} {ty : FieldType} (h : inTy t v) (hty : tyB t ty = true) : narrow ty (cV G v) = cV G v ∧ fits ty (cV G v) = true := by
  rcases v with x | x | r | q
  · rcases h with ⟨rfl, h⟩ | ⟨rfl, h⟩
    · cases ty <;> first | exact ⟨rfl, rfl⟩ | (simp [tyB] at hty)
    · have hx : x = 0 ∨ x = 1 := by omega
      cases ty with
      | boolean =>
        rcases hx with rfl | rfl
        · exact ⟨show narrow .boolean (.int (Int32.ofInt 0)) = .int (Int32.ofInt 0) by decide +kernel, show fits .boolean (.int (Int32.ofInt 0)) = true by decide +kernel⟩
        · exact ⟨show narrow .boolean (.int (Int32.ofInt 1)) = .int (Int32.ofInt 1) by decide +kernel, show fits .boolean (.int (Int32.ofInt 1)) = true by decide +kernel⟩
      | _ => simp [tyB] at hty
  · have h : t = 2 := h
    subst h
    cases ty <;> first | exact ⟨rfl, rfl⟩ | (simp [tyB] at hty)
  · have h : t = 3 := h
    subst h
    show narrow ty (cO G r) = cO G r ∧ fits ty (cO G r) = true
    rcases cO_ref G r with e | ⟨a, e⟩ <;> rw [e] <;> (cases ty <;> first | exact ⟨rfl, rfl⟩ | (simp [tyB] at hty))
  · have h : 4 ≤ t := h
    cases ty <;> first | exact ⟨rfl, rfl⟩ | (simp [tyB] at hty; done) | (simp [tyB] at hty; omega)
section Rows4
variable {ph k : Nat} {X : Cx} {y : MI} {σ0 σ : Sg} {Q : Option AV → Sg → Prop} {E : Int → Sg → Prop} {pc : Nat} {ls : List (Option AV)} {st : List AV}
theorem ax_putV {v : AV} {r : Int} {ci b idx : Nat} {q : vw_C} {σₚ : Sg} (hX : CxOk ph X y k σ0 Q E) (hcl : clL[ci]? = some q) (h6 : ci ≠ 6) (hb : b < q.2.2) (hC : (q.2.1 b).1 = q.1) (hlk : FLk y.1.cls idx q.1 (q.2.1 b).2.1 (q.2.1 b).2.2.1)
    (hfin : (q.2.1 b).2.2.2 = false ∨ (y.1.cls = q.1 ∧ y.1.name = "<init>")) (hr : 0 < r) (hkl : (kls ph σ r.toNat == ci + 1) = true) (hin : okV σ v → inTy (ftOf ci (b + 1)) v)
    (hN : gN σₚ = gN σ) (hSl : gS σₚ = gS σ) (hKK : gK σₚ = gK σ)
    (hrep : ∀ (G : Gp) (H Hₚ : Heap) (cell : Cell), Rep G ph σ H → okV σ v → gK σ r.toNat = ci + 1 → (∀ a b, a < q.2.2 → b < q.2.2 → a ≠ b → G.2.2.1.2 ci a ≠ G.2.2.1.2 ci b) → cell.cls = G.2.2.1.1 ci → cell.vm = .none → (∀ k, k < q.2.2 → cell.slots[G.2.2.1.2 ci k]? = some (fVal G σ r.toNat (ftOf ci (k + 1)) (k + 1))) →
      Hₚ[G.1 + r.toNat - 1]? = some (cell.setSlot (G.2.2.1.2 ci b) (cV G v)) → Hₚ.size = H.size → (∀ a, a ≠ G.1 + r.toNat - 1 → Hₚ[a]? = H[a]?) → Rep G ph σₚ Hₚ)
    (hd : decode y.2.1 pc = .ok (.putfield idx, 3)) (h : Ax ph X (pc + 3) ls st σₚ) : Ax ph X pc ls (v :: vO r :: st) σ := by
  obtain ⟨G, p, l, e, R, s, m, args, below, meth, c, σ0ₚ, Q0, E0⟩ := X
  obtain ⟨hx, hbc, hml, hret, hlocks, hown, hnm, hexc, hG, hk1, hk2, hc1, hc2, rfl, rfl, rfl⟩ := hX
  intro H locs lsC hR hL hl ho hs hn hsl hm
  have hK := kls_eq hR hkl (by omega)
  have hlt := rep_lt hR hK (by omega)
  obtain ⟨⟨cell, q1, q2, q3, q4⟩, hfo⟩ := hR.2.2.1 r.toNat ci q (by omega) hlt hK hcl
  obtain ⟨hinw, ⟨ty, hty, htyB⟩, hnms⟩ := cl_ok hcl h6
  have hts := glob_all hG args
  have hSI := hG.2.1 ci q hcl
  obtain ⟨hS, hfc, kC, hkC, hkind⟩ := hSI
  have hap : ∀ x z, x < q.2.2 → z < q.2.2 → x ≠ z → G.2.2.1.2 ci x ≠ G.2.2.1.2 ci z := by
    intro x z hxₚ hzₚ hne
    obtain ⟨_, _, _, fa, hia, ea⟩ := hS x hxₚ
    obtain ⟨_, _, _, fb, hib, eb⟩ := hS z hzₚ
    rw [← ea, ← eb]
    refine u_apart (u_lays hts hinw hxₚ) (u_lays hts hinw hzₚ) hia hib ?_
    rw [(State.fieldFound?_type hia (hty x hxₚ)).1, (State.fieldFound?_type hib (hty z hzₚ)).1]
    exact hnms x hxₚ z hzₚ hne
  obtain ⟨cf, kf, fi, f, hi, hsl2⟩ := hS b hb
  have hst := (u_facts hfc hkC (u_lays hts hinw hb) hi).1
  have hvo := (okc hs).1
  obtain ⟨hnar, hfit⟩ := inTy_fits (G := G) (hin hvo) (htyB b hb)
  have h6f := u_fits hfc hkC hkind (u_lays hts hinw hb) hi (hty b hb) hnar hfit
  have hlay := hts _ (hinw _ (u_in_lay hb))
  unfold u_lay at hlay
  have hfinₚ : hasFlag f.accessFlags Acc.final = false ∨ (m.cls = cf ∧ meth.name = "<init>") := by
    by_cases cfin : (q.2.1 b).2.2.2 = true
    · rw [if_pos cfin] at hlay
      rcases hfin with hfin | ⟨hfin1, hfin2⟩
      · rw [cfin] at hfin; cases hfin
      · refine Or.inr ⟨?_, by rw [hnm]; exact hfin2⟩
        obtain ⟨_, _, cₚ, _, _, _, -, -, hfₚ, -, -, -, hown2, -⟩ := Cond.laysFinal_spec hlay
        have e1 : cₚ = cf := by have := hi.symm.trans hfₚ; simp at this; exact this.1.symm
        rw [hC, ← hfin1] at hown2
        rw [← e1]; exact Option.some.inj (hown.symm.trans hown2)
    · rw [if_neg cfin] at hlay
      obtain ⟨_, _, _, _, _, fdₚ, -, -, hiₚ, -, hnf, -⟩ := Cond.lays_spec hlay
      have e1 : fdₚ = f := by have := hi.symm.trans hiₚ; simp at this; exact this.2.2.2.symm
      exact Or.inl (by rw [← e1]; exact hnf)
  have hcO : cO G r = .ref (G.1 + r.toNat - 1) := by unfold cO; rw [if_neg (by omega), if_pos hr]
  have ha : G.1 + r.toNat - 1 < H.size := (Array.getElem?_eq_some_iff.mp q1).1
  show W p l e R s m args below meth c H locs _ _ _ (F0 m pc lsC (cV G v :: cO G r :: st.map (cV G)))
  rw [hcO]
  have hle : LeS σ σₚ := ⟨by rw [hN]; exact Nat.le_refl _, fun a _ => by rw [hKK]⟩
  have kk : W p l e R s m args below meth c (H.setIfInBounds (G.1 + r.toNat - 1) (cell.setSlot f.slot (cV G v))) (locs ++ [⟨G.1 + r.toNat - 1, f.slot⟩]) (gN σ - gN σ0ₚ) (gS σ - gS σ0ₚ) (EndP G ph s below σ0ₚ Q0 E0) (F0 m (pc + 3) lsC (st.map (cV G))) := by
    have := h (H.setIfInBounds (G.1 + r.toNat - 1) (cell.setSlot f.slot (cV G v))) (locs ++ [⟨G.1 + r.toNat - 1, f.slot⟩]) lsC
      (hrep G H _ cell hR hvo hK hap q2 q3 q4 (by rw [hsl2]; exact set_at ha) set_sz (fun a hne => set_off hne)) (locs_add hL (by omega)) hl
      (fun w hw => okV_mono hle (ho w hw)) (fun w hw => okV_mono hle ((okc (okc hs).2).2 w hw)) (by rw [hN]; exact hn) (by rw [hSl]; exact hsl) (fun w hw => okV_mono hle (hm w hw))
    rw [hN, hSl] at this
    exact this
  rw [hC] at hi
  rcases hlk with hw | ⟨host, hw⟩
  · exact W.putf hx hbc hown (hts _ hw) hi hst hfinₚ q1 (by rw [q3]; exact fun h => by cases h) (by rw [hsl2]; exact k2_hasslot (q4 b hb)) h6f.1 (by rw [q2, q3]; exact h6f.2) rfl rfl hd kk
  · exact va_Wputf hx hbc hown (hG.1 _ hw rfl args) hi hst hfinₚ q1 (by rw [q3]; exact fun h => by cases h) (by rw [hsl2]; exact k2_hasslot (q4 b hb)) h6f.1 (by rw [q2, q3]; exact h6f.2) rfl rfl hd kk
/-- arrays: their lengths and places -/
theorem arr_at {G : Gp} {σ : Sg} {H : Heap} {e o f v : Nat} (hR : Rep G ph σ H) (hv : okV σ (vA e o f v)) (he : v = gV σ o f) : gV σ o f ≠ 0 ∧ gK σ (gV σ o f) - 100 = e ∧ gL σ o f < 2 ^ 31 ∧ o < gN σ ∧
    H[G.1 + v - 1]? = some (arrV (G.2.2.2.1 e) (gL σ o f) (fun j => eVal G e (gA σ o f j))) ∧ ∀ j, j < gL σ o f → eOk σ e (gA σ o f j) := by
  obtain ⟨h1, h2, h3⟩ := hv
  have h1ₚ : 1 ≤ v := h1
  have h3ₚ : gK σ v = 100 + e := h3
  have hne : gV σ o f ≠ 0 := by omega
  obtain ⟨a1, a2, a3, a4, a5⟩ := hR.2.2.2.1 o f hne
  have hk : gK σ (gV σ o f) - 100 = e := by rw [← he, h3ₚ]; omega
  rw [hk] at a4 a5
  exact ⟨hne, hk, a3, (hR.2.2.2.2.1.2.2.2.2 o f hne).1, by rw [he]; exact a4, a5⟩
theorem ax_alen {e o f v : Nat} (hX : CxOk ph X y k σ0 Q E) (he : e ≤ 8) (hv : v = gV σ o f) (hd : decode y.2.1 pc = .ok (.arraylength, 1)) (h : Ax ph X (pc + 1) ls (vI (gL σ o f) :: st) σ) : Ax ph X pc ls (vA e o f v :: st) σ := by
  obtain ⟨G, p, l, ev, R, s, m, args, below, meth, c, σ0ₚ, Q0, E0⟩ := X
  obtain ⟨hx, hbc, hml, hret, hlocks, hown, hnm, hexc, hG, hk1, hk2, hc1, hc2, rfl, rfl, rfl⟩ := hX
  intro H locs lsC hR hL hl ho hs hn hsl hm
  obtain ⟨-, -, a3, -, a4, -⟩ := arr_at hR (okc hs).1 hv
  refine W.alen hx hbc a4 ((hG.2.2.1 e he).1 _ _) (n := Int32.ofInt (gL σ o f)) ?_ rfl rfl hd (h H locs lsC hR hL hl ho (okp (show in32 (gL σ o f) by unfold in32; omega) (okc hs).2) hn hsl hm)
  rw [arrV_size]; rfl
theorem in_of {i : Int} {L : Nat} (h1 : 0 ≤ i) (h2 : i < L) (hi : in32 i) : ¬ (Int32.ofInt i < 0 ∨ L ≤ (Int32.ofInt i).toNatClampNeg) := by
  rw [i32_clamp hi h1, i32_c0, i32_lt hi (by unfold in32; omega)]
  omega
theorem ax_iald {o f v : Nat} {i : Int} (hX : CxOk ph X y k σ0 Q E) (hv : v = gV σ o f) (hi : 0 ≤ i ∧ i < gL σ o f) (hd : decode y.2.1 pc = .ok (.iaload, 1)) (h : Ax ph X (pc + 1) ls (vI (gA σ o f i.toNat) :: st) σ) : Ax ph X pc ls (vI i :: vA 0 o f v :: st) σ := by
  obtain ⟨G, p, l, ev, R, s, m, args, below, meth, c, σ0ₚ, Q0, E0⟩ := X
  obtain ⟨hx, hbc, hml, hret, hlocks, hown, hnm, hexc, hG, hk1, hk2, hc1, hc2, rfl, rfl, rfl⟩ := hX
  intro H locs lsC hR hL hl ho hs hn hsl hm
  have hii : in32 i := (okc hs).1
  obtain ⟨-, -, a3, -, a4, a5⟩ := arr_at hR (okc (okc hs).2).1 hv
  have hlt : i.toNat < gL σ o f := by omega
  refine W.iald hx hbc a4 ((hG.2.2.1 0 (by omega)).1 _ _) (by exact fun h => by cases h) (by rw [arrV_size]; exact in_of hi.1 hi.2 hii) (by rw [i32_clamp hii hi.1]; exact arrV_read _ _ hlt) rfl rfl hd ?_
  exact h H locs lsC hR hL hl ho (okp ((a5 _ hlt).1 rfl) (okc (okc hs).2).2) hn hsl hm
theorem ax_bald {e o f v : Nat} {i : Int} (hX : CxOk ph X y k σ0 Q E) (he : e = 1 ∨ e = 2) (hv : v = gV σ o f) (hi : 0 ≤ i ∧ i < gL σ o f) (hd : decode y.2.1 pc = .ok (.baload, 1)) (h : Ax ph X (pc + 1) ls (vI (gA σ o f i.toNat) :: st) σ) : Ax ph X pc ls (vI i :: vA e o f v :: st) σ := by
  obtain ⟨G, p, l, ev, R, s, m, args, below, meth, c, σ0ₚ, Q0, E0⟩ := X
  obtain ⟨hx, hbc, hml, hret, hlocks, hown, hnm, hexc, hG, hk1, hk2, hc1, hc2, rfl, rfl, rfl⟩ := hX
  intro H locs lsC hR hL hl ho hs hn hsl hm
  have hii : in32 i := (okc hs).1
  obtain ⟨-, -, a3, -, a4, a5⟩ := arr_at hR (okc (okc hs).2).1 hv
  have hlt : i.toNat < gL σ o f := by omega
  have hok : in32 (gA σ o f i.toNat) := by
    rcases he with rfl | rfl
    · have := (a5 _ hlt).2.1 rfl; unfold in32; omega
    · have := (a5 _ hlt).2.2.1 rfl; unfold in32; omega
  have kk := h H locs lsC hR hL hl ho (okp hok (okc (okc hs).2).2) hn hsl hm
  rcases he with rfl | rfl
  · exact W.bald hx hbc a4 ((hG.2.2.1 1 (by omega)).1 _ _) (by exact fun h => by cases h) (by rw [arrV_size]; exact in_of hi.1 hi.2 hii) (by rw [i32_clamp hii hi.1]; exact arrV_read _ _ hlt) rfl rfl hd kk
  · exact W.zald hx hbc a4 ((hG.2.2.1 2 (by omega)).1 _ _) (by exact fun h => by cases h) (by rw [arrV_size]; exact in_of hi.1 hi.2 hii) (by rw [i32_clamp hii hi.1]; exact arrV_read _ _ hlt) rfl rfl hd kk
theorem ax_lald {o f v : Nat} {i : Int} (hX : CxOk ph X y k σ0 Q E) (hv : v = gV σ o f) (hi : 0 ≤ i ∧ i < gL σ o f) (hd : decode y.2.1 pc = .ok (.laload, 1)) (h : Ax ph X (pc + 1) ls (vJ (gA σ o f i.toNat) :: st) σ) : Ax ph X pc ls (vI i :: vA 3 o f v :: st) σ := by
  obtain ⟨G, p, l, ev, R, s, m, args, below, meth, c, σ0ₚ, Q0, E0⟩ := X
  obtain ⟨hx, hbc, hml, hret, hlocks, hown, hnm, hexc, hG, hk1, hk2, hc1, hc2, rfl, rfl, rfl⟩ := hX
  intro H locs lsC hR hL hl ho hs hn hsl hm
  have hii : in32 i := (okc hs).1
  obtain ⟨-, -, a3, -, a4, a5⟩ := arr_at hR (okc (okc hs).2).1 hv
  have hlt : i.toNat < gL σ o f := by omega
  refine W.lald hx hbc a4 ((hG.2.2.1 3 (by omega)).1 _ _) (by exact fun h => by cases h) (by rw [arrV_size]; exact in_of hi.1 hi.2 hii) (by rw [i32_clamp hii hi.1]; exact arrV_read _ _ hlt) rfl rfl hd ?_
  exact h H locs lsC hR hL hl ho (okp ((a5 _ hlt).2.2.2.1 rfl) (okc (okc hs).2).2) hn hsl hm
theorem ax_aald {e o f v : Nat} {i : Int} (hX : CxOk ph X y k σ0 Q E) (he : 4 ≤ e ∧ e ≤ 7) (hv : v = gV σ o f) (hi : 0 ≤ i ∧ i < gL σ o f) (hd : decode y.2.1 pc = .ok (.aaload, 1)) (h : Ax ph X (pc + 1) ls (vO (gA σ o f i.toNat) :: st) σ) : Ax ph X pc ls (vI i :: vA e o f v :: st) σ := by
  obtain ⟨G, p, l, ev, R, s, m, args, below, meth, c, σ0ₚ, Q0, E0⟩ := X
  obtain ⟨hx, hbc, hml, hret, hlocks, hown, hnm, hexc, hG, hk1, hk2, hc1, hc2, rfl, rfl, rfl⟩ := hX
  intro H locs lsC hR hL hl ho hs hn hsl hm
  have hii : in32 i := (okc hs).1
  obtain ⟨-, -, a3, -, a4, a5⟩ := arr_at hR (okc (okc hs).2).1 hv
  have hlt : i.toNat < gL σ o f := by omega
  have hty : (elTy e).isReference = true := by
    rcases (show e = 4 ∨ e = 5 ∨ e = 6 ∨ e = 7 by omega) with rfl | rfl | rfl | rfl <;> rfl
  have hev : eVal G e (gA σ o f i.toNat) = cO G (gA σ o f i.toNat) := by unfold eVal; rw [if_neg (by omega), if_neg (by omega)]
  refine W.aald hx hbc a4 ((hG.2.2.1 e (by omega)).1 _ _) hty (by exact fun h => by cases h) (by rw [arrV_size]; exact in_of hi.1 hi.2 hii) (by rw [i32_clamp hii hi.1]; exact (arrV_read _ _ hlt).trans (congrArg some hev)) rfl rfl hd ?_
  exact h H locs lsC hR hL hl ho (okp ((a5 _ hlt).2.2.2.2.1 he.1) (okc (okc hs).2).2) hn hsl hm
theorem ax_aald8 {o f v : Nat} {i : Int} (hX : CxOk ph X y k σ0 Q E) (hv : v = gV σ o f) (hi : 0 ≤ i ∧ i < gL σ o f) (hg : gA σ o f i.toNat = gV σ 120 (100 + i.toNat)) (hg0 : gV σ 120 (100 + i.toNat) ≠ 0) (hd : decode y.2.1 pc = .ok (.aaload, 1)) (h : Ax ph X (pc + 1) ls (vA 3 120 (100 + i.toNat) (gV σ 120 (100 + i.toNat)) :: st) σ) : Ax ph X pc ls (vI i :: vA 8 o f v :: st) σ := by
  obtain ⟨G, p, l, ev, R, s, m, args, below, meth, c, σ0ₚ, Q0, E0⟩ := X
  obtain ⟨hx, hbc, hml, hret, hlocks, hown, hnm, hexc, hG, hk1, hk2, hc1, hc2, rfl, rfl, rfl⟩ := hX
  intro H locs lsC hR hL hl ho hs hn hsl hm
  have hii : in32 i := (okc hs).1
  obtain ⟨-, -, a3, -, a4, a5⟩ := arr_at hR (okc (okc hs).2).1 hv
  have hlt : i.toNat < gL σ o f := by omega
  have hev : eVal G 8 (gA σ o f i.toNat) = .ref (G.1 + gV σ 120 (100 + i.toNat) - 1) := by
    unfold eVal; rw [if_neg (by omega), if_neg (by omega)]
    unfold cO; rw [hg, if_neg (by omega), if_pos (by omega)]; rfl
  have hok : okV σ (vA 3 120 (100 + i.toNat) (gV σ 120 (100 + i.toNat))) := by
    have h1 := (a5 _ hlt).2.2.2.2.2 rfl
    rw [hg] at h1
    refine ⟨show 1 ≤ gV σ 120 (100 + i.toNat) by omega, gV_lt hR _ _, ?_⟩
    rcases h1.2 with c | c
    · omega
    · exact c
  refine W.aald hx hbc a4 ((hG.2.2.1 8 (by omega)).1 _ _) rfl (by exact fun h => by cases h) (by rw [arrV_size]; exact in_of hi.1 hi.2 hii) (by rw [i32_clamp hii hi.1]; exact (arrV_read _ _ hlt).trans (congrArg some hev)) rfl rfl hd ?_
  exact h H locs lsC hR hL hl ho (okp hok (okc (okc hs).2).2) hn hsl hm
/-- a store into an array, whatever the elements: from the machine's row -/
theorem ax_astV {e o f v : Nat} {i x : Int} {w : AV} (hX : CxOk ph X y k σ0 Q E) (hv : v = gV σ o f) (hi : 0 ≤ i ∧ i < gL σ o f) (hok : okV σ w → eOk σ e x)
    (row : ∀ (G : Gp) (p : Program) (l : Launch) (ev : Env) (R : Room) (s : State) (m : MethodId) (args : Array Value) (below : List Frame) (meth : Method) (c : Code) (H : Heap) (locs : List Loc) (cells slots : Nat) (Qw : State → Prop) (lsC : Array Slot) (L : Nat) (g : Nat → Value) (j : Int32), p.tables.exec = Jvm.exec → c.code = y.2.1 → Rep G ph σ H → Glob G s → okV σ w → H[G.1 + v - 1]? = some (arrV (G.2.2.2.1 e) L g) → ¬ (j < 0 ∨ L ≤ j.toNatClampNeg) →
      (∀ Hₚ : Heap, Hₚ[G.1 + v - 1]? = some ((arrV (G.2.2.2.1 e) L g).setSlot j.toNatClampNeg (eVal G e x)) → Hₚ.size = H.size → (∀ q, q ≠ G.1 + v - 1 → Hₚ[q]? = H[q]?) → W p l ev R s m args below meth c Hₚ (locs ++ [⟨G.1 + v - 1, j.toNatClampNeg⟩]) cells slots Qw (F0 m (pc + 1) lsC (st.map (cV G)))) →
      W p l ev R s m args below meth c H locs cells slots Qw (F0 m pc lsC (cV G w :: .int j :: .ref (G.1 + v - 1) :: st.map (cV G))))
    (h : Ax ph X (pc + 1) ls st (sA σ o f i.toNat x)) : Ax ph X pc ls (w :: vI i :: vA e o f v :: st) σ := by
  obtain ⟨G, p, l, ev, R, s, m, args, below, meth, c, σ0ₚ, Q0, E0⟩ := X
  obtain ⟨hx, hbc, hml, hret, hlocks, hown, hnm, hexc, hG, hk1, hk2, hc1, hc2, rfl, rfl, rfl⟩ := hX
  intro H locs lsC hR hL hl ho hs hn hsl hm
  have hii : in32 i := (okc (okc hs).2).1
  have hw := (okc hs).1
  obtain ⟨a1, a2, a3, -, a4, a5⟩ := arr_at hR (okc (okc (okc hs).2).2).1 hv
  have hlt : i.toNat < gL σ o f := by omega
  refine row G p l ev R s m args below meth c H locs _ _ _ lsC _ _ (Int32.ofInt i) hx hbc hR hG hw a4 (in_of hi.1 hi.2 hii) (fun Hₚ e1 e2 e3 => ?_)
  rw [i32_clamp hii hi.1] at e1 ⊢
  refine h Hₚ _ lsC (rep_sA hR a1 (by rw [a2]; exact hok hw) (by rw [a2, ← hv]; exact e1) e2 (by rw [← hv]; exact e3)) (locs_add hL ?_) hl ho (okc (okc (okc hs).2).2).2 hn hsl hm
  have h1 : 1 ≤ v := ((okc (okc (okc hs).2).2).1).1
  omega
theorem ax_iast {o f v : Nat} {i x : Int} (hX : CxOk ph X y k σ0 Q E) (hv : v = gV σ o f) (hi : 0 ≤ i ∧ i < gL σ o f) (hd : decode y.2.1 pc = .ok (.iastore, 1)) (h : Ax ph X (pc + 1) ls st (sA σ o f i.toNat x)) : Ax ph X pc ls (vI x :: vI i :: vA 0 o f v :: st) σ := by
  refine ax_astV hX hv hi (fun hw => ⟨fun _ => hw, fun q => by omega, fun q => by omega, fun q => by omega, fun q => by omega, fun q => by omega⟩) ?_ h
  intro G p l ev R s m args below meth c H locs cells slots Qw lsC L g j hx hb hR hG hw hc hj kk
  exact W.iast hx hb hc ((hG.2.2.1 0 (by omega)).1 _ _) (by exact fun h => by cases h) (by rw [arrV_size]; exact hj) rfl rfl hd kk
theorem ax_last {o f v : Nat} {i x : Int} (hX : CxOk ph X y k σ0 Q E) (hv : v = gV σ o f) (hi : 0 ≤ i ∧ i < gL σ o f) (hd : decode y.2.1 pc = .ok (.lastore, 1)) (h : Ax ph X (pc + 1) ls st (sA σ o f i.toNat x)) : Ax ph X pc ls (vJ x :: vI i :: vA 3 o f v :: st) σ := by
  refine ax_astV hX hv hi (fun hw => ⟨fun q => by omega, fun q => by omega, fun q => by omega, fun _ => hw, fun q => by omega, fun q => by omega⟩) ?_ h
  intro G p l ev R s m args below meth c H locs cells slots Qw lsC L g j hx hb hR hG hw hc hj kk
  exact W.last hx hb hc ((hG.2.2.1 3 (by omega)).1 _ _) (by exact fun h => by cases h) (by rw [arrV_size]; exact hj) rfl rfl hd kk
theorem ax_bast {o f v : Nat} {i x : Int} (hX : CxOk ph X y k σ0 Q E) (hv : v = gV σ o f) (hi : 0 ≤ i ∧ i < gL σ o f) (hd : decode y.2.1 pc = .ok (.bastore, 1)) (h : Ax ph X (pc + 1) ls st (sA σ o f i.toNat (w8 x))) : Ax ph X pc ls (vI x :: vI i :: vA 1 o f v :: st) σ := by
  refine ax_astV hX hv hi (fun hw => ⟨fun q => by omega, fun _ => by unfold w8; omega, fun q => by omega, fun q => by omega, fun q => by omega, fun q => by omega⟩) ?_ h
  intro G p l ev R s m args below meth c H locs cells slots Qw lsC L g j hx hb hR hG hw hc hj kk
  refine W.bast hx hb hc ((hG.2.2.1 1 (by omega)).1 _ _) (by exact fun h => by cases h) (by rw [arrV_size]; exact hj) rfl rfl hd (fun Hₚ e1 e2 e3 => kk Hₚ ?_ e2 e3)
  rw [e1]
  show some ((arrV _ L g).setSlot _ (.int (Int32.ofInt x).toInt8.toInt32)) = some ((arrV _ L g).setSlot _ (.int (Int32.ofInt (w8 x))))
  rw [i32_i2b]
theorem ax_zast {o f v : Nat} {i x : Int} (hX : CxOk ph X y k σ0 Q E) (hv : v = gV σ o f) (hi : 0 ≤ i ∧ i < gL σ o f) (hx01 : 0 ≤ x ∧ x ≤ 1) (hd : decode y.2.1 pc = .ok (.bastore, 1)) (h : Ax ph X (pc + 1) ls st (sA σ o f i.toNat x)) : Ax ph X pc ls (vI x :: vI i :: vA 2 o f v :: st) σ := by
  refine ax_astV hX hv hi (fun hw => ⟨fun q => by omega, fun q => by omega, fun _ => hx01, fun q => by omega, fun q => by omega, fun q => by omega⟩) ?_ h
  intro G p l ev R s m args below meth c H locs cells slots Qw lsC L g j hx hb hR hG hw hc hj kk
  refine W.zast hx hb hc ((hG.2.2.1 2 (by omega)).1 _ _) (by exact fun h => by cases h) (by rw [arrV_size]; exact hj) rfl rfl hd (fun Hₚ e1 e2 e3 => kk Hₚ ?_ e2 e3)
  rw [e1]
  show some ((arrV _ L g).setSlot _ (.int (Int32.ofInt x &&& 1))) = some ((arrV _ L g).setSlot _ (.int (Int32.ofInt x)))
  have : Int32.ofInt x &&& 1 = Int32.ofInt x := by
    rcases (show x = 0 ∨ x = 1 by omega) with rfl | rfl <;> decide +kernel
  rw [this]
/-- new arrays -/
theorem defV {e : Nat} (G : Gp) (he : e ≤ 8) : defaultValue (elTy e) = eVal G e 0 := by
  rcases (show e = 0 ∨ e = 1 ∨ e = 2 ∨ e = 3 ∨ e = 4 ∨ e = 5 ∨ e = 6 ∨ e = 7 ∨ e = 8 by omega) with rfl | rfl | rfl | rfl | rfl | rfl | rfl | rfl | rfl <;> rfl
theorem push_at {H : Heap} {x : Cell} : (H.push x)[H.size]? = some x := by simp
theorem push_off {H : Heap} {x : Cell} {a : Nat} (h : a < H.size) : (H.push x)[a]? = H[a]? := by
  rw [Array.getElem?_push_lt h]
  simp [h]
theorem push_sz {H : Heap} {x : Cell} : (H.push x).size = H.size + 1 := by simp
/-- cells and slots that the room still has -/
theorem rep_room {G : Gp} {σ : Sg} {H : Heap} (hR : Rep G ph σ H) : gS σ + md (gK σ 0) ≤ pSum σ + gT σ + gD σ + 6 * gC σ ∧ gS σ ≤ 6762026 + 6 * gC σ ∧ gD σ ≤ 1908000 ∧ gC σ ≤ 3000 ∧ 16 * gN σ ≤ 16 + 16 * gC σ + gS σ := by
  obtain ⟨s1, s2, s3, s4, s5, s6, -⟩ := hR.2.2.2.2.2.2
  rw [slB_v] at s3
  omega
theorem ax_newa {t : ArrayType} {n : Int} (hX : CxOk ph X y k σ0 Q E) (ht : elT t ≤ 3) (harr : Cond.arrayClass (elTy (elT t)) ∈ lw_all) (htt : newarray.typeOf t = elTy (elT t)) (hn : 0 ≤ n ∧ (gT σ + n.toNat ≤ 70400 ∨ pSum σ + gT σ + gD σ + n.toNat ≤ slM (gK σ 0) + 70400 + 1908000) ∧ (n.toNat < 16 → gC σ + 1 ≤ 3000))
    (hd : decode y.2.1 pc = .ok (.newarray t, 2)) (h : Ax ph X (pc + 2) ls (vA (elT t) (gN σ) 0 (gN σ) :: st) (nA σ (elT t) n.toNat)) : Ax ph X pc ls (vI n :: st) σ := by
  obtain ⟨G, p, l, ev, R, s, m, args, below, meth, c, σ0ₚ, Q0, E0⟩ := X
  obtain ⟨hx, hbc, hml, hret, hlocks, hown, hnm, hexc, hG, hk1, hk2, hc1, hc2, rfl, rfl, rfl⟩ := hX
  intro H locs lsC hR hL hl ho hs hnn hsl hm
  have hii : in32 n := (okc hs).1
  obtain ⟨r1, r2, r3, r4, r5⟩ := rep_room hR
  have hT := nw_ok hR.2.2.2.2.2.2 hn.2.1
  have hslₚ := slB_v
  have hmd := md_v (gK σ 0)
  have hcl : (Int32.ofInt n).toNatClampNeg = n.toNat := i32_clamp hii hn.1
  have hle := le_nA σ (elT t) n.toNat
  have hRA := (hG.2.2.1 (elT t) (by omega)).2
  refine W.newa hx hbc (by rw [htt]; exact glob_all hG args _ harr) rfl hd rfl (by rw [i32_c0, i32_lt hii (by unfold in32; omega)]; omega) ?_ ?_ ?_ (fun cA kA comp f1 f2 f3 => ?_)
  · rw [hcl]
    have : componentBytes (newarray.typeOf t) ≤ 8 := by rw [htt]; rcases (show elT t = 0 ∨ elT t = 1 ∨ elT t = 2 ∨ elT t = 3 by omega) with c | c | c | c <;> rw [c] <;> decide
    have h2 := Nat.mul_le_mul_left n.toNat this
    omega
  · omega
  · rw [hcl]; omega
  · rw [htt] at f1
    have hcA : cA = G.2.2.2.1 (elT t) := by
      have : s.vm.findClass ("[" ++ (elTy (elT t)).toString) = some (G.2.2.2.1 (elT t)) := by
        rcases (show elT t = 0 ∨ elT t = 1 ∨ elT t = 2 ∨ elT t = 3 by omega) with c | c | c | c <;> (rw [c] at hRA ⊢; exact hRA)
      exact Option.some.inj (f1.symm.trans this)
    have hz := hR.1.1
    have hn1 := hR.1.2
    have kk := h (H.push { cls := cA, slots := Array.replicate (Int32.ofInt n).toNatClampNeg (defaultValue (newarray.typeOf t)), vm := .none }) locs lsC
      (rep_nA hR (by omega) hT hn.2.2 (by rw [push_at, arrV_new, hcl, htt, hcA, defV G (by omega)]) push_sz (fun a ha => push_off ha)) hL hl (fun w hw => okV_mono hle (ho w hw))
      (okp ⟨show 1 ≤ gN σ from hn1, show gN σ < gN (nA σ (elT t) n.toNat) by rw [gN_nA]; omega, by show gK _ (gN σ) = _; rw [gK_nA, if_pos rfl]⟩ (fun w hw => okV_mono hle ((okc hs).2 w hw))) (by rw [gN_nA]; omega) (by rw [gS_nA]; omega) (fun w hw => okV_mono hle (hm w hw))
    rw [gN_nA, gS_nA] at kk
    rw [hcl]
    rw [hcl] at kk
    rw [show gN σ + 1 - gN σ0ₚ = gN σ - gN σ0ₚ + 1 by omega, show gS σ + n.toNat - gS σ0ₚ = gS σ - gS σ0ₚ + n.toNat by omega] at kk
    rw [List.map_cons] at kk
    have e1 : cV G (vA (elT t) (gN σ) 0 (gN σ)) = .ref H.size := by show Value.ref (G.1 + gN σ - 1) = _; rw [show G.1 + gN σ - 1 = H.size by omega]
    rw [e1] at kk
    exact kk
/-- a new object -/
theorem ax_newo {ci n idx : Nat} {q : vw_C} (hX : CxOk ph X y k σ0 Q E) (hcl : clL[ci]? = some q) (h6 : ci ≠ 6) (hlk : Cond.classLink y.1.cls idx q.1 ∈ lw_all) (hins : Cond.instantiable q.1 n ∈ lw_all) (hini : Cond.initialized q.1 ∈ lw_all) (hn : (gT σ ≤ 70400 ∧ gD σ + 2 * gL σ 160 58 + n ≤ 1908000) ∧ gC σ + 1 ≤ 3000)
    (hd : decode y.2.1 pc = .ok (.new idx, 3)) (h : Ax ph X (pc + 3) ls (vO (gN σ) :: st) (nO σ (ci + 1) n)) : Ax ph X pc ls st σ := by
  obtain ⟨G, p, l, ev, R, s, m, args, below, meth, c, σ0ₚ, Q0, E0⟩ := X
  obtain ⟨hx, hbc, hml, hret, hlocks, hown, hnm, hexc, hG, hk1, hk2, hc1, hc2, rfl, rfl, rfl⟩ := hX
  intro H locs lsC hR hL hl ho hs hnn hsl hm
  obtain ⟨r1, r2, r3, r4, r5⟩ := rep_room hR
  have hps := ps_le hR.2.2.2.2.2.2.2.1
  have hslₚ := slB_v
  have hmd := md_v (gK σ 0)
  have hle := le_nO σ (ci + 1) n
  have hts := glob_all hG args
  obtain ⟨hinw, ⟨ty, hty, htyB⟩, hnms⟩ := cl_ok hcl h6
  have hKn := hG.2.1 ci q hcl
  have hz := hR.1.1
  have hn1 := hR.1.2
  refine W.newc hx hbc hown (hts _ hlk) (hts _ hins) (hts _ hini) rfl hd (by omega) (by omega) (fun cC kC f1 f2 f3 f4 => ?_)
  have hcC : cC = G.2.2.1.1 ci := Option.some.inj (f1.symm.trans hKn.2.1)
  subst hcC
  have hb : t_OB H.size (G.2.2.1.1 ci) q.2.2 (G.2.2.1.2 ci) (H.push { cls := G.2.2.1.1 ci, slots := kC.instanceTypes.map defaultValue, vm := .none }) (fun j => fVal G σ (gN σ) (ftOf ci (j + 1)) (j + 1)) := by
    refine (u_born ty hts hinw hKn f2 push_at hty).to (fun j hj => ?_)
    have hF := ((hR.2.2.2.2.1.2.2.1 _ (Nat.le_refl (gN σ))).2 (j + 1))
    have hB := htyB j hj
    unfold fVal
    rw [hF.1, hF.2.1]
    generalize ftOf ci (j + 1) = t at hB ⊢
    cases hh : ty j with
    | int => rw [hh] at hB; have : t = 0 := by simpa [tyB] using hB
             subst this; rfl
    | boolean => rw [hh] at hB; have : t = 1 := by simpa [tyB] using hB
                 subst this; rfl
    | long => rw [hh] at hB; have : t = 2 := by simpa [tyB] using hB
              subst this; rfl
    | object C => rw [hh] at hB; have : t = 3 := by simpa [tyB] using hB
                  subst this; rfl
    | array C => 
      rw [hh] at hB
      have : 4 ≤ t := by simpa [tyB] using hB
      rw [if_neg (by omega), if_neg (by omega), if_neg (by omega)]
      simp [defaultValue]
    | _ => rw [hh] at hB; simp [tyB] at hB
  have kk := h (H.push { cls := G.2.2.1.1 ci, slots := kC.instanceTypes.map defaultValue, vm := .none }) locs lsC (rep_nO hR hcl hn.2 hn.1 hb push_sz (fun a ha => push_off ha)) hL hl (fun w hw => okV_mono hle (ho w hw))
    (okp (show okR _ _ from Or.inl ⟨by omega, by rw [gN_nO]; omega⟩) (fun w hw => okV_mono hle (hs w hw))) (by rw [gN_nO]; omega) (by rw [gS_nO]; omega) (fun w hw => okV_mono hle (hm w hw))
  rw [gN_nO, gS_nO, show gN σ + 1 - gN σ0ₚ = gN σ - gN σ0ₚ + 1 by omega, show gS σ + n - gS σ0ₚ = gS σ - gS σ0ₚ + n by omega, List.map_cons] at kk
  have e1 : cV G (vO (gN σ)) = .ref H.size := by
    show cO G (gN σ) = _
    unfold cO
    rw [if_neg (by omega), if_pos (by omega), show ((gN σ : Nat) : Int).toNat = gN σ by omega, show G.1 + gN σ - 1 = H.size by omega]
  rw [e1] at kk
  exact kk
theorem ax_ldc2 {idx : Nat} {v : Int64} (hX : CxOk ph X y k σ0 Q E) (hc : Cond.constantLong y.1.cls idx v ∈ lw_all) (hd : decode y.2.1 pc = .ok (.ldc2_w idx, 3)) (h : Ax ph X (pc + 3) ls (vJ v.toInt :: st) σ) : Ax ph X pc ls st σ := by
  obtain ⟨G, p, l, ev, R, s, m, args, below, meth, c, σ0ₚ, Q0, E0⟩ := X
  obtain ⟨hx, hbc, hml, hret, hlocks, hown, hnm, hexc, hG, hk1, hk2, hc1, hc2, rfl, rfl, rfl⟩ := hX
  intro H locs lsC hR hL hl ho hs hnn hsl hm
  have kk := h H locs lsC hR hL hl ho (okp (show in64 v.toInt from in64_toInt v) hs) hnn hsl hm
  rw [List.map_cons] at kk
  have e1 : cV G (vJ v.toInt) = .long v := by show Value.long (Int64.ofInt v.toInt) = _; rw [i64_self]
  rw [e1] at kk
  exact lv_ldc2 hx hbc hown (glob_all hG args _ hc) hd kk
end Rows4
end
section
/-! CALLS: where they arrive, how they come back, exceptions -/
set_option maxRecDepth 100000
/-- the link of a call at a site -/
def MLk (own : String) (idx : Nat) (z : MethodName) : Prop := Cond.methodLink own idx z ∈ lw_all ∨ ∃ host, Cond.methodLinkNest own idx z host ∈ lw_tbl
/-- a method's code -/
def MW (z : MI) : Prop := (z.2.2.2.2 = [] ∧ Cond.code z.1 z.2.1 z.2.2.1 z.2.2.2.1 ∈ lw_all) ∨ Cond.codeWith z.1 z.2.1 z.2.2.1 z.2.2.2.1 z.2.2.2.2 ∈ lw_all
theorem mw_spec {G : Gp} {s : State} (hG : Glob G s) {z : MI} (h : MW z) : ∃ (mk : MethodId) (meth : Method) (c : Code), s.methodNamed? z.1 = some mk ∧ s.vm.method? mk = some meth ∧ meth.code = some c ∧ c.code = z.2.1 ∧ c.maxLocals = z.2.2.1 ∧ meth.sig.returnType = z.2.2.2.1 ∧ meth.locks = false ∧
    c.exceptionTable.toList.map (fun h => (h.startPc, h.endPc, h.handlerPc, h.catchType)) = z.2.2.2.2 ∧ parseMethodDescriptor z.1.desc = some meth.sig := by
  rcases h with ⟨h0, h⟩ | h
  · have hw := glob_all hG #[] _ h
    obtain ⟨mk, hn⟩ := Cond.code_named hw
    obtain ⟨meth, c, h1, h2, h3, h4, h5, h6, h7, h8⟩ := Cond.code_spec hn hw
    refine ⟨mk, meth, c, hn, h1, h2, h3, h4, h5, h6, ?_, h8⟩
    rw [h0]
    have : c.exceptionTable.toList = [] := by
      have := Array.isEmpty_iff.mp h7
      rw [this]
    rw [this]; rfl
  · have hw := glob_all hG #[] _ h
    obtain ⟨mk, meth, c, hn, h1, h2, h3, h4, h5, h6, h7, h8⟩ := Cond.codeWith_spec hw
    exact ⟨mk, meth, c, hn, h1, h2, h3, h4, h6, h7, h5, h8⟩
section Arr
variable {p : Program} {l : Launch} {e : Env} {R : Room} {s : State} {m : MethodId} {args : Array Value} {below : List Frame} {meth : Method} {c : Code} {T : State} {locs : List Loc} {cells slots : Nat}
/-- a call arrives -/
def Arr (p : Program) (l : Launch) (e : Env) (R : Room) (s : State) (m : MethodId) (args : Array Value) (below : List Frame) (meth : Method) (c : Code) (T : State) (locs : List Loc) (cells slots : Nat) (g : JFrame) (z : MethodName) (a : Array Value) (rest : List Value) : Prop :=
  ∃ (mk : MethodId) (vm₁ : Vm), s.methodNamed? z = some mk ∧ Stand p l e R s m args below meth c (T.setVm vm₁) locs cells slots ∧
    ∀ target, (∀ acts, Steps p.tables e below (doInvoke e ((T.setVm vm₁).setTop { g with stack := rest }) acts mk a).1 target) → Steps p.tables e below (T.setTop g) target
theorem len_of {z : MethodName} {n : Nat} {sig : MethodDescriptor} (hd : (parseMethodDescriptor z.desc).map (fun d => d.parameters.length) = some n) (h : parseMethodDescriptor z.desc = some sig) : n = sig.parameters.length := by
  rw [h] at hd
  exact (Option.some.inj hd).symm
theorem arr_S {G : Gp} {z : MI} {own : String} {idx n : Nat} {g : JFrame} {as rest : List Value} (X : Stand p l e R s m args below meth c T locs cells slots) (hG : Glob G s) (hx : p.tables.exec = Jvm.exec) (hown : s.vm.findClass own = some m.cls) (hlk : MLk own idx z.1) (hz : MW z) (hst : Cond.static z.1 ∈ lw_all) (hini : Cond.initialized z.1.cls ∈ lw_all)
    (hmh : z.1.cls ≠ "java/lang/invoke/MethodHandle" ∧ z.1.cls ≠ "java/lang/invoke/VarHandle") (hd : (parseMethodDescriptor z.1.desc).map (fun d => d.parameters.length) = some n) (hg : g.method = m) (hn : as.length = n) (hs : g.stack = as.reverse ++ rest) (hdg : decode c.code g.pc = .ok (.invokestatic idx, 3)) :
    Arr p l e R s m args below meth c T locs cells slots g z.1 as.toArray rest := by
  obtain ⟨mk, methM, cM, hnamed, hmethM, -, -, -, -, -, -, hsigM⟩ := mw_spec hG hz
  have hts := glob_all hG args
  have hstatic : methM.isStatic = true := Cond.static_spec hnamed hmethM (hts _ hst)
  obtain ⟨kP, hkP, -⟩ := className_of_methodNamed hnamed
  have hinitP : kP.init = .initialized := Cond.initialized_spec (findClass_of_methodNamed hnamed) hkP (hts _ hini)
  have hl := hn.trans (len_of hd hsigM)
  rcases hlk with h | ⟨host, h⟩
  · obtain ⟨vm₁, X₁, hstep₁⟩ := X.invokestatic hx hown (hts _ h) hnamed hmethM hstatic hkP hinitP hmh (g := g) hg (argsL := as) (rest := rest) hl hs hdg
    exact ⟨mk, vm₁, hnamed, X₁, hstep₁⟩
  · obtain ⟨vm₁, X₁, hstep₁⟩ := X.invokestaticNest hx hown (hG.1 _ h rfl args) hnamed hmethM hstatic hkP hinitP hmh (g := g) hg (argsL := as) (rest := rest) hl hs hdg
    exact ⟨mk, vm₁, hnamed, X₁, hstep₁⟩
theorem arr_V {G : Gp} {z : MI} {own C : String} {idx n b : Nat} {cell : Cell} {g : JFrame} {as rest : List Value} (X : Stand p l e R s m args below meth c T locs cells slots) (hG : Glob G s) (hx : p.tables.exec = Jvm.exec) (hown : s.vm.findClass own = some m.cls) (hlk : MLk own idx z.1) (hz : MW z) (hin : Cond.instanceMethod z.1 ∈ lw_all) (hsel : Cond.selects C z.1 z.1 ∈ lw_all)
    (hmh : z.1.cls ≠ "java/lang/invoke/MethodHandle" ∧ z.1.cls ≠ "java/lang/invoke/VarHandle") (hd : (parseMethodDescriptor z.1.desc).map (fun d => d.parameters.length) = some n) (hcell : T.heap[b]? = some cell) (hobj : cell.vm.isStatics = false) (hcls : s.vm.findClass C = some cell.cls) (hg : g.method = m) (hn : as.length = n) (hs : g.stack = as.reverse ++ .ref b :: rest) (hdg : decode c.code g.pc = .ok (.invokevirtual idx, 3)) :
    Arr p l e R s m args below meth c T locs cells slots g z.1 (.ref b :: as).toArray rest := by
  have hts := glob_all hG args
  obtain ⟨mk, methM, hnamed, hmethM, hstM, habM⟩ := Cond.instanceMethod_spec (hts _ hin)
  obtain ⟨mkₚ, methMₚ, cM, hnamedₚ, hmethMₚ, -, -, -, -, -, -, hsigM⟩ := mw_spec hG hz
  cases hnamed.symm.trans hnamedₚ
  cases hmethM.symm.trans hmethMₚ
  obtain ⟨c2, r2, m2, q1, q2, q3, q4, kP, hkP, hkPi⟩ := Cond.selects_spec (hts _ hsel)
  cases hcls.symm.trans q1
  cases (State.methodFound?_of_named hnamed hmh).symm.trans q2
  cases hnamed.symm.trans q3
  have hselP : selectMethod e.platform s.vm cell.cls mk = .method mk := by rw [Launch.admits_selectMethod X.admits]; exact q4
  have hl := hn.trans (len_of hd hsigM)
  have hob : ∀ z, cell.vm ≠ .statics z := fun z h => by rw [h] at hobj; cases hobj
  rcases hlk with h | ⟨host, h⟩
  · obtain ⟨vm₁, X₁, hstep₁⟩ := X.invokevirtual hx hown (hts _ h) hnamed hmethM hstM hkP hkPi hmh (a := b) (cell := cell) hcell hob hselP hmethM habM hkP hkPi (g := g) hg (argsL := as) (rest := rest) hl hs hdg
    exact ⟨mk, vm₁, hnamed, X₁, hstep₁⟩
  · obtain ⟨vm₁, X₁, hstep₁⟩ := X.invokevirtualNest hx hown (hG.1 _ h rfl args) hnamed hmethM hstM hkP hkPi hmh (a := b) (cell := cell) hcell hob hselP hmethM habM hkP hkPi (g := g) hg (argsL := as) (rest := rest) hl hs hdg
    exact ⟨mk, vm₁, hnamed, X₁, hstep₁⟩
/-- an inherited method -/
theorem arr_U {G : Gp} {z : MI} {x : MethodName} {own C : String} {idx n b : Nat} {cell : Cell} {g : JFrame} {as rest : List Value} (X : Stand p l e R s m args below meth c T locs cells slots) (hG : Glob G s) (hx : p.tables.exec = Jvm.exec) (hown : s.vm.findClass own = some m.cls) (hlk : Cond.methodLink own idx x ∈ lw_all) (hz : MW z) (hin : Cond.instanceMethod z.1 ∈ lw_all) (hsm : Cond.sameMethod x.cls z.1.cls x.name x.desc ∈ lw_all) (hsel : Cond.selects C x z.1 ∈ lw_all)
    (hxz : z.1 = ⟨z.1.cls, x.name, x.desc⟩) (hmh : z.1.cls ≠ "java/lang/invoke/MethodHandle" ∧ z.1.cls ≠ "java/lang/invoke/VarHandle") (hd : (parseMethodDescriptor z.1.desc).map (fun d => d.parameters.length) = some n) (hcell : T.heap[b]? = some cell) (hobj : cell.vm.isStatics = false) (hcls : s.vm.findClass C = some cell.cls) (hg : g.method = m) (hn : as.length = n) (hs : g.stack = as.reverse ++ .ref b :: rest) (hdg : decode c.code g.pc = .ok (.invokevirtual idx, 3)) :
    Arr p l e R s m args below meth c T locs cells slots g z.1 (.ref b :: as).toArray rest := by
  have hts := glob_all hG args
  obtain ⟨mk, methM, hnamed, hmethM, hstM, habM⟩ := Cond.instanceMethod_spec (hts _ hin)
  obtain ⟨mkₚ, methMₚ, cM, hnamedₚ, hmethMₚ, -, -, -, -, -, -, hsigM⟩ := mw_spec hG hz
  cases hnamed.symm.trans hnamedₚ
  cases hmethM.symm.trans hmethMₚ
  obtain ⟨cn, ck, r1, hcn, hck, hni, hf, hn1⟩ := Cond.sameMethod_found (hts _ hsm)
  rw [← hxz] at hn1
  cases hnamed.symm.trans hn1
  obtain ⟨c2, r2, m2, q1, q2, q3, q4, kP, hkP, hkPi⟩ := Cond.selects_spec (hts _ hsel)
  cases hcls.symm.trans q1
  cases hf.symm.trans q2
  cases hnamed.symm.trans q3
  have hselP : selectMethod e.platform s.vm cell.cls mk = .method mk := by rw [Launch.admits_selectMethod X.admits]; exact q4
  have hl := hn.trans (len_of hd hsigM)
  obtain ⟨vm₁, X₁, hstep₁⟩ := X.invokevirtualUp hx hown (hts _ hlk) (hts _ hsm) hmh (by rw [← hxz]; exact hnamed) hmethM hstM (a := b) (cell := cell) hcell (fun z h => by rw [h] at hobj; cases hobj) hselP hmethM habM hkP hkPi (g := g) hg (argsL := as) (rest := rest) hl hs hdg
  exact ⟨mk, vm₁, hnamed, X₁, hstep₁⟩
theorem arr_I {G : Gp} {z : MI} {own : String} {idx n b : Nat} {g : JFrame} {as rest : List Value} (X : Stand p l e R s m args below meth c T locs cells slots) (hG : Glob G s) (hx : p.tables.exec = Jvm.exec) (hown : s.vm.findClass own = some m.cls) (hlk : MLk own idx z.1) (hz : Cond.code z.1 z.2.1 z.2.2.1 none ∈ lw_all) (hnm : z.1.name = "<init>") (hin : Cond.instanceMethod z.1 ∈ lw_all)
    (hmh : z.1.cls ≠ "java/lang/invoke/MethodHandle" ∧ z.1.cls ≠ "java/lang/invoke/VarHandle") (hd : (parseMethodDescriptor z.1.desc).map (fun d => d.parameters.length) = some n) (hg : g.method = m) (hn : as.length = n) (hs : g.stack = as.reverse ++ .ref b :: rest) (hdg : decode c.code g.pc = .ok (.invokespecial idx, 3)) :
    Arr p l e R s m args below meth c T locs cells slots g z.1 (.ref b :: as).toArray rest := by
  subst hg
  have hts := glob_all hG args
  have hpl : e.platform.magicAccessors = ({} : Platform).magicAccessors := by rw [X.admits.platform]
  have hl : ∀ sig, parseMethodDescriptor z.1.desc = some sig → as.length = sig.parameters.length := fun sig h => hn.trans (len_of hd h)
  rcases hlk with h | ⟨host, h⟩
  · obtain ⟨mk, methM, cM, kP, vm₁, hnamed, -, -, -, -, -, -, -, hW₁, hstep₁⟩ := Steps.initColdArgs (e := e) X.here hx X.warmed hpl hown hnm hmh (hts _ h) (hts _ hin) (hts _ hz) (f := g) rfl hl hs hdg
    exact ⟨mk, vm₁, hnamed, X.noted hW₁, hstep₁⟩
  · obtain ⟨mk, methM, cM, kP, vm₁, hnamed, -, -, -, -, -, -, -, hW₁, hstep₁⟩ := Steps.initColdArgsNest (e := e) X.here hx X.warmed hpl hown hnm hmh (hG.1 _ h rfl args) (hts _ hin) (hts _ hz) (f := g) rfl hl hs hdg
    exact ⟨mk, vm₁, hnamed, X.noted hW₁, hstep₁⟩
end Arr
/-- locals at the entry -/
theorem lsL_none (G : Gp) : ∀ (n j : Nat), lsL G j (List.replicate n none) = []
  | 0, _ => rfl
  | n + 1, j => by rw [List.replicate_succ]; exact lsL_none G n (j + 1)
theorem lsL_args (G : Gp) (n : Nat) : ∀ (as : List AV) (j : Nat), lsL G j (as.flatMap (fun v => match v with | .inr (.inl _) => [some v, none] | _ => [some v]) ++ List.replicate n none) = lv_args j (as.map (cV G))
  | [], j => lsL_none G n j
  | v :: t, j => by
    have h := lsL_args G n t
    rcases v with x | x | r | q
    · show (j, _) :: lsL G (j + 1) _ = (j, _) :: lv_args (j + 1) _
      rw [← h (j + 1)]; rfl
    · show (j, _) :: lsL G (j + 1 + 1) _ = (j, _) :: lv_args (j + 2) _
      rw [← h (j + 2)]; rfl
    · show (j, _) :: lsL G (j + 1) _ = (j, cO G r) :: lv_args (if (cO G r).category = 2 then j + 2 else j + 1) _
      rw [cO_cat, if_neg (by decide), ← h (j + 1)]; rfl
    · show (j, _) :: lsL G (j + 1) _ = (j, _) :: lv_args (j + 1) _
      rw [← h (j + 1)]; rfl
theorem lsE_has (G : Gp) {n : Nat} {as : List AV} (h : (lg_sl (as.map (cV G))).length ≤ n) (m : MethodId) : lv_has (entryFrame m (as.map (cV G)).toArray n).locals n (lsL G 0 (lsE n as)) := by
  rw [lg_entry_eq]
  show lv_has _ n (lsL G 0 (as.flatMap (fun v => match v with | .inr (.inl _) => [some v, none] | _ => [some v]) ++ List.replicate _ none))
  rw [lsL_args]
  exact lv_entry _ h
theorem sl_len (G : Gp) : ∀ as : List AV, (lg_sl (as.map (cV G))).length = (as.map avW).sum
  | [] => rfl
  | v :: t => by
    have h := sl_len G t
    unfold lg_sl at h ⊢
    rw [List.map_cons, List.flatMap_cons, List.length_append, h, List.map_cons, List.sum_cons]
    congr 1
    rw [cV_cat]
    rcases v with x | x | r | q <;> rfl
theorem lsE_ok {σ : Sg} {n : Nat} {as : List AV} (h : ∀ v ∈ as, okV σ v) : ∀ v, some v ∈ lsE n as → okV σ v := by
  intro v hv
  unfold lsE at hv
  rcases List.mem_append.mp hv with q | q
  · obtain ⟨w, hw, q⟩ := List.mem_flatMap.mp q
    have : v = w := by
      rcases w with x | x | r | z <;> simp at q <;> exact q
    rw [this]; exact h w hw
  · have := List.eq_of_mem_replicate q
    cases this
theorem cat_sum (G : Gp) : ∀ st : List AV, ((st.map (cV G)).map fun v => v.category).sum = (st.map avW).sum
  | [] => rfl
  | v :: t => by simp only [List.map_cons, List.sum_cons, cV_cat, cat_sum G t]
/-- where an exception goes -/
def Hx (ph : Nat) (X : Cx) (y : MI) (pc : Nat) (ls : List (Option AV)) (E : Int → Sg → Prop) (a : Int) (σ : Sg) : Prop := match y.2.2.2.2.find? (fun h => Nat.ble h.1 pc && Nat.blt pc h.2.1) with
  | none => E a σ
  | some h => Cond.classLink y.1.cls h.2.2.2 "java/lang/IllegalStateException" ∈ lw_all ∧ h.2.2.2 ≠ 0 ∧ Ax ph X h.2.2.1 ls [vO a] σ
end
section
/-! an exception that is caught -/
set_option maxRecDepth 100000
theorem find_cold {e : Env} {s : State} {f : JFrame} {a : Addr} {x : ExceptionTableEntry} {t : List ExceptionTableEntry} {c : ClassId} {cell : Cell} {vm' : Vm} {Q : Handler → Pre} {E : CtlPost} {d : Bool} {acts : List Action} (hx : covers x f.pc = true) (h0 : x.catchType ≠ 0) (hl : (Jvm.resolveClass f.method.cls x.catchType).Gives e.toSetting s.vm (.ok c) vm')
    (hcell : s.heap[a]? = some cell) (hobj : ∀ k, cell.vm ≠ .statics k) (hk : ∃ k, vm'.classes[cell.cls]? = some k) (hc : ∃ k, vm'.classes[c]? = some k) (hfit : vm'.assignable cell.cls c = true) (hsz : vm'.classes.size ≤ s.vm.classes.size)
    (hQ : ∀ d', Q (.found x.handlerPc) d' acts (s.setVm vm')) : wp (findHandler.go f a (x :: t)) Q E e d acts s := by
  simp only [covers] at hx
  have hg : (VmOp.resolveClass f.method.cls x.catchType).answer e s.vm = .ok c ∧ (VmOp.resolveClass f.method.cls x.catchType).tables e s.vm = vm' := hl.op rfl
  simp [findHandler.go, hx, h0, hg, hcell, hobj, hk, hc, hfit, VmOp.dirties, VmOp.acts, VmOp.lands_eq (s := s) hg.2 hsz]
  exact hQ _
theorem caught_cold {p : Program} {l : Launch} {e : Env} {R : Room} {s : State} {m : MethodId} {args : Array Value} {below : List Frame} {meth : Method} {c : Code} {T : State} {locs : List Loc} {cells slots : Nat} (X : Stand p l e R s m args below meth c T locs cells slots) {own : String} (hown : s.vm.findClass own = some m.cls) (a : Addr) {g : JFrame} (hg : g.method = m) {x : ExceptionTableEntry} {rest : List ExceptionTableEntry}
    (hsplit : c.exceptionTable.toList = x :: rest) (hx : covers x g.pc = true) (h0 : x.catchType ≠ 0) (hlink : (Cond.classLink own x.catchType "java/lang/IllegalStateException").before args s = true) {cell : Cell} (hcell : T.heap[a]? = some cell) (hv : cell.vm = .none) (hcls : s.vm.findClass "java/lang/IllegalStateException" = some cell.cls) :
    ∃ vm', Stand p l e R s m args below meth c (T.setVm vm') locs cells slots ∧ ∀ target, Steps p.tables e below ((T.setVm vm').setTop { g with pc := x.handlerPc, stack := [.ref a] }) target → Steps p.tables e below ((T.setTop g).pushFrame (.throwing a)) target := by
  subst hg
  have hpl : e.platform.magicAccessors = ({} : Platform).magicAccessors := by rw [X.admits.platform]
  obtain ⟨cc, hfcc, hcl⟩ := Cond.classLink_spec hown hlink e.platform hpl
  cases hcls.symm.trans hfcc
  obtain ⟨hg₁, hwarm₁, hready₁⟩ := State.classEntry (e := e) X.warmed hcl
  have hsz : (T.vm.noted g.method.cls x.catchType (.cls cell.cls)).classes.size ≤ T.vm.classes.size := by no_record
  generalize T.vm.noted g.method.cls x.catchType (.cls cell.cls) = vm₁ at hg₁ hwarm₁ hready₁ hsz
  have X₁ := X.noted hwarm₁
  refine ⟨vm₁, X₁, fun target hrest => ?_⟩
  have hcl1 : ∃ k, vm₁.classes[cell.cls]? = some k := Vm.classAt_of_findClass (name := "java/lang/IllegalStateException") (by rw [hwarm₁.alike.findClass]; exact hcls)
  have htop := X.here.top
  obtain ⟨hgo, hw⟩ := X.here.throwing (g := g) a
  refine Steps.head hgo hw ?_
  have hvm : ((T.setTop g).pushFrame (.throwing a)).vm = T.vm := Stand.throwing_vm T g a
  have hhp : ((T.setTop g).pushFrame (.throwing a)).heap = T.heap := Stand.throwing_heap T g a
  have key : (stepThrowing e ((T.setTop g).pushFrame (.throwing a)) a (.java g :: T.frames.tail)).Is ((((T.setTop g).pushFrame (.throwing a)).setVm vm₁).setFrames (.java { g with pc := x.handlerPc, stack := [.ref a] } :: T.frames.tail)) [] := by
    simp only [stepThrowing, searchFrame, vmDo]
    generalize hr : Sem.go _ e false [] ((T.setTop g).pushFrame (.throwing a)) = res
    obtain ⟨as, rfl, ha⟩ := Sem.eq_ok_of hr (a := Handler.found x.handlerPc) (s' := ((T.setTop g).pushFrame (.throwing a)).setVm vm₁) (acts' := []) (by
      simp only [wp_bind']
      rw [W.findHandler_eq (by rw [hvm]; exact X.method') X.code, hsplit]
      refine find_cold hx h0 (by rw [hvm]; exact hg₁) (by rw [hhp]; exact hcell) (fun k => by rw [hv]; simp) hcl1 hcl1 (va_asg _ _) (by rw [hvm]; exact hsz) (fun d' => ?_)
      simp)
    exact ⟨rfl, ha⟩
  rw [stepThread_throwing (frames_entered htop _), key.1]
  obtain ⟨g₀, hg⟩ := Option.isSome_iff_exists.mp htop
  obtain ⟨r, hr⟩ := State.topJava?_eq_some.mp hg
  have e1 : (((T.setTop g).pushFrame (.throwing a)).setVm vm₁).setFrames (.java { g with pc := x.handlerPc, stack := [.ref a] } :: T.frames.tail) = (T.setVm vm₁).setTop { g with pc := x.handlerPc, stack := [.ref a] } := by
    have hr' : (T.setVm vm₁).frames = .java g₀ :: r := hr
    have e2 : ∀ (U : State) (fs : List Frame), (U.setVm vm₁).setFrames fs = (U.setFrames fs).setVm vm₁ := fun _ _ => rfl
    rw [State.setTop_of_frames _ hr', e2, e2, State.pushFrame, State.setFrames_setFrames, State.setTop_of_frames _ hr, State.setFrames_setFrames, hr]
    rfl
  rw [e1]
  exact hrest
end
section
/-! the row of a call -/
set_option maxRecDepth 100000
theorem stk_weaken {tb : Tables} {e : Env} {f : Frame} {below : List Frame} {a b : State} (h : Steps tb e (f :: below) a b) : Steps tb e below a b := Steps.weaken (mid := [f]) h
theorem plain_at {s T : State} {vm₁ : Vm} {z : MethodName} {mk : MethodId} {meth : Method} (hn : s.methodNamed? z = some mk) (hp : plainFor z = true) (hW : s.WarmedH (T.setVm vm₁).vm) (hm : s.vm.method? mk = some meth) : (T.setVm vm₁).plainMethod mk := by
  have h1 : (s.setVm (T.setVm vm₁).vm).plainMethod mk := State.plainMethod.of_named hp ((State.methodNamed?_setVm hW.alike z).trans hn) (meth := meth) (by show (T.setVm vm₁).vm.method? mk = some meth; rw [hW.alike.method?]; exact hm)
  exact h1
theorem covers_find {c : Code} {hs : List (Nat × Nat × Nat × Nat)} (h : c.exceptionTable.toList.map (fun h => (h.startPc, h.endPc, h.handlerPc, h.catchType)) = hs) {pc : Nat} (hf : hs.find? (fun h => Nat.ble h.1 pc && Nat.blt pc h.2.1) = none) : ∀ x ∈ c.exceptionTable.toList, covers x pc = false := by
  intro x hx
  have h1 := List.find?_eq_none.mp hf (x.startPc, x.endPc, x.handlerPc, x.catchType) (by rw [← h]; exact List.mem_map_of_mem hx)
  simp only [Bool.and_eq_true, Nat.ble_eq, Nat.blt_eq, not_and] at h1
  simp only [covers, Bool.and_eq_false_iff, decide_eq_false_iff_not]
  by_cases c1 : x.startPc ≤ pc
  · exact Or.inr (h1 c1)
  · exact Or.inl c1
section RowsC
variable {ph k : Nat} {X : Cx} {y z : MI} {σ0 σ : Sg} {Q : Option AV → Sg → Prop} {E : Int → Sg → Prop} {pc len : Nat} {ls : List (Option AV)} {st as rst : List AV} {ins : Instr}
theorem ax_callA (hX : CxOk ph X y (k + 1) σ0 Q E) (hz : MW z) (h22 : z.2.2.1 ≤ 22) (hpn : plainFor z.1 = true) (haw : (as.map avW).sum ≤ z.2.2.1) (hrw : (rst.map avW).sum ≤ 8) (hsub : ∀ v ∈ as, v ∈ st) (hsubr : ∀ v ∈ rst, v ∈ st) (hone : y.2.2.2.2.length ≤ 1) (hd : decode y.2.1 pc = .ok (ins, len))
    (arrive : ∀ (G : Gp) (p : Program) (l : Launch) (e : Env) (R : Room) (s : State) (m : MethodId) (args : Array Value) (below : List Frame) (meth : Method) (c : Code) (T : State) (locs : List Loc) (cells slots : Nat) (lsC : Array Slot), Stand p l e R s m args below meth c T locs cells slots → Glob G s → p.tables.exec = Jvm.exec → s.vm.findClass y.1.cls = some m.cls → c.code = y.2.1 → Rep G ph σ T.heap → (∀ v ∈ st, okV σ v) →
      Arr p l e R s m args below meth c T locs cells slots (F0 m pc lsC (st.map (cV G))) z.1 (as.map (cV G)).toArray (rst.map (cV G)))
    (h : Cn ph z k as σ (fun r σ' => Ax ph X (pc + len) ls (r.toList ++ rst) σ') (fun a σ' => Hx ph X y pc ls E a σ')) : Ax ph X pc ls st σ := by
  obtain ⟨G, p, l, e, R, s, m, args, below, meth, c, σ0', Q0, E0⟩ := X
  obtain ⟨hx, hbc, hml, hret, hlocks, hown, hnm, ⟨hexc, htr, hold⟩, hG, hk1, hk2, hc1, hc2, rfl, rfl, rfl⟩ := hX
  intro H locs lsC hR hL hl ho hs hn hsl hm T hT XS
  obtain ⟨mk, vm₁, hnamed, X₁, hstep⟩ := arrive G p l e R s m args below meth c T locs _ _ lsC XS hG hx hown hbc (by rw [hT]; exact hR) hs
  obtain ⟨mk', methk, ck, hn', hmk, hck, hcode, hmax, hrt, hlk, hex, hsig⟩ := mw_spec hG hz
  cases hnamed.symm.trans hn'
  have hW1 := X₁.warmed
  have hmk1 : (T.setVm vm₁).vm.method? mk = some methk := by rw [hW1.alike.method?]; exact hmk
  obtain ⟨r1, r2, r3, r4, r5⟩ := rep_room hR
  have hcat : ((rst.map (cV G)).map fun v => v.category).sum = (rst.map avW).sum := cat_sum G rst
  obtain ⟨Y, henter⟩ := X₁.into (g := F0 m pc lsC (rst.map (cV G))) rfl hl.1 (by rw [hbc]; exact hd) (as.map (cV G)).toArray (R' := { frames := R.frames - 1, cells := R.cells - (gN σ - gN σ0'), slots := R.slots - (gS σ - gS σ0'), locals := R.locals - 41 }) hmk1 hck hlk (plain_at hnamed hpn hW1 hmk)
    (by show R.frames - 1 + 1 ≤ R.frames; omega)
    (by show 2 * 0 + ((rst.map (cV G)).map fun v => v.category).sum + (ck.maxLocals + 11) + (R.locals - 41) ≤ R.locals; rw [hcat, hmax]; omega)
    (by show gN σ - gN σ0' + (R.cells - (gN σ - gN σ0')) ≤ R.cells; omega)
    (by show gS σ - gS σ0' + (R.slots - (gS σ - gS σ0')) ≤ R.slots; omega)
  have hoka : ∀ v ∈ as, okV σ v := fun v hv => hs v (hsub v hv)
  have hokr : ∀ v ∈ rst, okV σ v := fun v hv => hs v (hsubr v hv)
  have kk := h (G, p, l, e, { frames := R.frames - 1, cells := R.cells - (gN σ - gN σ0'), slots := R.slots - (gS σ - gS σ0'), locals := R.locals - 41 }, (T.setVm vm₁).calling (F0 m pc lsC (rst.map (cV G))) mk (as.map (cV G)).toArray, mk, (as.map (cV G)).toArray, .java (F0 m pc lsC (rst.map (cV G))) :: below, methk, ck, σ, _, _)
    ⟨hx, hcode, hmax, hrt, hlk, findClass_of_methodNamed (show ((T.setVm vm₁).calling (F0 m pc lsC (rst.map (cV G))) mk (as.map (cV G)).toArray).methodNamed? z.1 = some mk from X₁.named hnamed), (name_of_methodNamed hnamed hmk).1, ⟨hex, htr, (fun q hq => by show T.heap[q]? = _; rw [hT]; exact hR.2.1.1 q hq), fun q cq hq h => hR.2.1.2 q cq hq (by rw [← hT]; exact h)⟩, glob_warm hG hW1, by show k ≤ R.frames - 1; omega, by show 41 * k ≤ R.locals - 41; omega, by show 773291 ≤ gN σ + (R.cells - (gN σ - gN σ0')); omega, by show 6781611 ≤ gS σ + (R.slots - (gS σ - gS σ0')); omega, rfl, rfl, rfl⟩
  have kw := kk T.heap [] (entryFrame mk (as.map (cV G)).toArray z.2.2.1).locals (by rw [hT]; exact hR) (fun q hq => by cases hq) (by rw [hmax]; exact lsE_has G (by rw [sl_len]; exact haw) mk) (lsE_ok hoka) (fun v hv => by cases hv) (Nat.le_refl _) (Nat.le_refl _) (fun v hv => hv)
  obtain ⟨t, hsteps, hrun, hend⟩ := kw (((T.setVm vm₁).setTop (F0 m pc lsC (rst.map (cV G)))).pushFrame (.java (entryFrame mk (as.map (cV G)).toArray ck.maxLocals))) rfl (by rw [Nat.sub_self, Nat.sub_self]; exact Y)
  have hentry : F0 mk 0 (entryFrame mk (as.map (cV G)).toArray z.2.2.1).locals (([] : List AV).map (cV G)) = entryFrame mk (as.map (cV G)).toArray ck.maxLocals := by rw [hmax]; rfl
  rw [hentry] at hsteps
  rcases hend with ⟨r, σ', L, hq, hrok, hR', hn1, hs1, hok1, hended, hWt, hsame, hLb⟩ | ⟨a, σ', L, hq, ha0, hra, ⟨cell, hcell, hcv, hcc⟩, hR', hn1, hs1, hok1, hended, hWt, hsame, hLb⟩
  · obtain ⟨T', X', -, -, ht⟩ := X₁.outOf (g := F0 m pc lsC (rst.map (cV G))) rfl (by rw [hbc]; exact hd) hended hWt hsame
    have hheap : t.heap = T'.heap := by rw [ht]; exact State.heap_setTop _ _
    rw [hheap] at hR'
    have kq := hq T'.heap (locs ++ L) lsC hR' (fun q hq => by
      rcases List.mem_append.mp hq with c | c
      · exact hL q c
      · exact hLb q c) hl (fun v hv => hok1 v (ho v hv)) (fun v hv => by
      rcases List.mem_append.mp hv with c | c
      · cases r with
        | none => cases c
        | some w => rw [List.mem_singleton.mp c]; exact hrok w rfl
      · exact hok1 v (hokr v c)) (Nat.le_trans hn hn1) (Nat.le_trans hsl hs1) (fun v hv => hok1 v (hm v hv))
    obtain ⟨t2, st2, q2⟩ := kq T' rfl (by
      rw [show gN σ' - gN σ0' = gN σ - gN σ0' + (gN σ' - gN σ) by omega, show gS σ' - gS σ0' = gS σ - gS σ0' + (gS σ' - gS σ) by omega]
      exact X')
    refine ⟨t2, hstep t2 (fun acts => ?_), q2⟩
    rw [henter acts]
    refine (stk_weaken hsteps).trans ?_
    rw [ht]
    have e1 : (r.toList ++ rst).map (cV G) = (r.map (cV G)).toList ++ rst.map (cV G) := by
      rw [List.map_append]
      cases r <;> rfl
    rw [e1] at st2
    exact st2
  · obtain ⟨T', X', -, -, ht⟩ := X₁.outOfThrown (g := F0 m pc lsC (rst.map (cV G))) rfl hended hWt hsame
    have hheap : t.heap = T'.heap := by rw [ht]; exact Stand.throwing_heap _ _ _
    rw [hheap] at hR' hcell
    have hsum1 : gN σ' - gN σ0' = gN σ - gN σ0' + (gN σ' - gN σ) := by omega
    have hsum2 : gS σ' - gS σ0' = gS σ - gS σ0' + (gS σ' - gS σ) := by omega
    have hLL : ∀ q ∈ locs ++ L, G.1 ≤ q.base := fun q hq => by
      rcases List.mem_append.mp hq with c | c
      · exact hL q c
      · exact hLb q c
    unfold Hx at hq
    cases hf : y.2.2.2.2.find? (fun h => Nat.ble h.1 pc && Nat.blt pc h.2.1) with
    | none =>
      rw [hf] at hq
      obtain ⟨l1, l2, l3, l4, l5⟩ := X'.leaveThrown (G.1 + a.toNat - 1) (g := F0 m pc lsC (rst.map (cV G))) rfl rfl rfl (covers_find hexc hf) hlocks
      refine ⟨_, hstep _ (fun acts => ?_), l2, Or.inr ⟨a, σ', locs ++ L, hq, ha0, hra, ⟨cell, hcell, hcv, hcc⟩, hR', Nat.le_trans hn hn1, Nat.le_trans hsl hs1, fun v hv => hok1 v (hm v hv), l3, l4, ?_, hLL⟩⟩
      · rw [henter acts]
        refine (stk_weaken hsteps).trans ?_
        rw [ht]; exact l1
      · rw [hsum1, hsum2]; exact l5
    | some hh =>
      rw [hf] at hq
      obtain ⟨hlk1, hct0, hax⟩ := hq
      have hmem := List.mem_of_find?_eq_some hf
      have hhs : y.2.2.2.2 = [hh] := by
        cases hy : y.2.2.2.2 with
        | nil => rw [hy] at hmem; cases hmem
        | cons h0 t0 =>
          rw [hy] at hone hmem
          cases t0 with
          | nil => rw [List.mem_singleton.mp hmem]
          | cons => simp at hone
      rw [hhs] at hexc
      obtain ⟨xe, hxe⟩ : ∃ xe, c.exceptionTable.toList = [xe] := by
        cases hc : c.exceptionTable.toList with
        | nil => rw [hc] at hexc; cases hexc
        | cons x0 t0 =>
          cases t0 with
          | nil => exact ⟨x0, rfl⟩
          | cons => rw [hc] at hexc; simp at hexc
      rw [hxe] at hexc
      have hxx : (xe.startPc, xe.endPc, xe.handlerPc, xe.catchType) = hh := by simpa using hexc
      have hcov := List.find?_some hf
      subst hxx
      have hcov2 : covers xe pc = true := by
        simp only [Bool.and_eq_true, Nat.ble_eq, Nat.blt_eq] at hcov
        simp [covers, hcov.1, hcov.2]
      have hKn := hG.2.1 22 _ rfl
      obtain ⟨vm', X2, hst2⟩ := caught_cold X' hown (G.1 + a.toNat - 1) (g := F0 m pc lsC (rst.map (cV G))) rfl hxe hcov2 hct0 (glob_all hG args _ hlk1) hcell hcv (by rw [hcc]; exact hKn.2.1)
      have kq := hax T'.heap (locs ++ L) lsC hR' hLL hl (fun v hv => hok1 v (ho v hv)) (fun v hv => by rw [List.mem_singleton.mp hv]; exact hra) (Nat.le_trans hn hn1) (Nat.le_trans hsl hs1) (fun v hv => hok1 v (hm v hv))
      obtain ⟨t2, st2, q2⟩ := kq (T'.setVm vm') rfl (by rw [hsum1, hsum2]; exact X2)
      refine ⟨t2, hstep t2 (fun acts => ?_), q2⟩
      rw [henter acts]
      refine (stk_weaken hsteps).trans ?_
      rw [ht]
      refine hst2 t2 ?_
      have e1 : [vO a].map (cV G) = [Value.ref (G.1 + a.toNat - 1)] := by
        show [cO G a] = _
        unfold cO
        rw [if_neg (by omega), if_pos ha0]
      rw [e1] at st2
      exact st2
end RowsC
end
section
/-! ROWS V: constants, references, arrays of references, copies -/
set_option maxRecDepth 100000
theorem cO_neg {G : Gp} {n a : Nat} (hn : 1 ≤ n) (h : G.2.2.2.2.1 n = some a) : cO G (-(n : Int)) = .ref a := by
  unfold cO
  rw [if_neg (by omega), if_neg (by omega), show (- -(n : Int)).toNat = n by omega, h]
  rfl
theorem ld_bd : ∀ q ∈ ldL, 1 ≤ q.1 ∧ q.1 < 600 := by decide
def oI (G : Gp) (r : Int) : Option Nat := if r = 0 then none else if 0 < r then some (G.1 + r.toNat - 1) else G.2.2.2.2.1 (-r).toNat
theorem cO_oI (G : Gp) (r : Int) : cO G r = va_rf (oI G r) := by
  unfold cO oI
  split
  · rfl
  · split
    · rfl
    · cases G.2.2.2.2.1 (-r).toNat <;> rfl
theorem oI_inj {G : Gp} {s : State} (hC : Cst G s) {x z : Int} (hx : -52 ≤ x) (hz : -52 ≤ z) (h : oI G x = oI G z) : x = z := by
  obtain ⟨h1, -, -, -, -, h6, h7, -⟩ := hC
  have key : ∀ r : Int, -52 ≤ r → (r = 0 ∧ oI G r = none) ∨ (0 < r ∧ oI G r = some (G.1 + r.toNat - 1)) ∨ (r < 0 ∧ ∃ a, oI G r = some a ∧ a < G.1 ∧ oI G r = G.2.2.2.2.1 ((-r - 1).toNat + 1)) := by
    intro r hr
    unfold oI
    by_cases c0 : r = 0
    · exact Or.inl ⟨c0, by rw [if_pos c0]⟩
    · by_cases c1 : 0 < r
      · exact Or.inr (Or.inl ⟨c1, by rw [if_neg c0, if_pos c1]⟩)
      · refine Or.inr (Or.inr ⟨by omega, ?_⟩)
        obtain ⟨a, b, g1, -⟩ := h1 (-r - 1).toNat (by omega)
        rw [if_neg c0, if_neg c1, show (-r).toNat = (-r - 1).toNat + 1 by omega]
        exact ⟨a, g1, h7 _ _ (by omega) g1, rfl⟩
  rcases key x hx with ⟨a, b⟩ | ⟨a, b⟩ | ⟨a, u, b, b1, b2⟩ <;> rcases key z hz with ⟨c, d⟩ | ⟨c, d⟩ | ⟨c, w, d, d1, d2⟩
  · omega
  · rw [b, d] at h; cases h
  · rw [b, d] at h; cases h
  · rw [b, d] at h; cases h
  · rw [b, d] at h
    have := Option.some.inj h
    omega
  · rw [b, d] at h
    have := Option.some.inj h
    omega
  · rw [b, d] at h; cases h
  · rw [b, d] at h
    have := Option.some.inj h
    omega
  · rw [b2, d2] at h
    have := h6 _ _ (by omega) (by omega) h
    omega
theorem old_at {G : Gp} {ph : Nat} {σ : Sg} {H : Heap} (hR : Rep G ph σ H) {a : Nat} {cell : Cell} (h : ¬ oA G a) (hc : G.2.1[a]? = some cell) : H[a]? = some cell := by
  rw [hR.2.1.1 a (by omega)]; exact hc
section Rows5
variable {ph k : Nat} {X : Cx} {y : MI} {σ0 σ : Sg} {Q : Option AV → Sg → Prop} {E : Int → Sg → Prop} {pc : Nat} {ls : List (Option AV)} {st : List AV}
theorem ax_ldcS {n idx : Nat} {tx : String} (hX : CxOk ph X y k σ0 Q E) (hq : (n, y.1.cls, idx, tx) ∈ ldL) (hd : decode y.2.1 pc = .ok (.ldc idx, 2)) (h : Ax ph X (pc + 2) ls (vO (-(n : Int)) :: st) σ) : Ax ph X pc ls st σ := by
  obtain ⟨G, p, l, e, R, s, m, args, below, meth, c, σ0ₚ, Q0, E0⟩ := X
  obtain ⟨hx, hbc, hml, hret, hlocks, hown, hnm, hexc, hG, hk1, hk2, hc1, hc2, rfl, rfl, rfl⟩ := hX
  intro H locs lsC hR hL hl ho hs hn hsl hm
  have hb := ld_bd _ hq
  obtain ⟨a, c1, c2⟩ := hG.2.2.2.2.2.2.1 _ hq
  have kk := h H locs lsC hR hL hl ho (okp (show okR σ _ from Or.inr ⟨by have : 1 ≤ n := hb.1; omega, by have : n < 600 := hb.2; omega⟩) hs) hn hsl hm
  rw [List.map_cons, show cV G (vO (-(n : Int))) = .ref a from cO_neg hb.1 c1] at kk
  exact va_ldcS hx hbc hown c2 hd kk
theorem ax_gets {idx : Nat} {C nm dd : String} {v : AV} (hX : CxOk ph X y k σ0 Q E) (hlk : FLk y.1.cls idx C nm dd) (hv : ∀ (G : Gp) (s : State), Cst G s → va_Z C nm dd (cV G v) (oA G) s G.2.1) (hok : okV σ v) (hd : decode y.2.1 pc = .ok (.getstatic idx, 3)) (h : Ax ph X (pc + 3) ls (v :: st) σ) : Ax ph X pc ls st σ := by
  obtain ⟨G, p, l, e, R, s, m, args, below, meth, c, σ0ₚ, Q0, E0⟩ := X
  obtain ⟨hx, hbc, hml, hret, hlocks, hown, hnm, hexc, hG, hk1, hk2, hc1, hc2, rfl, rfl, rfl⟩ := hX
  intro H locs lsC hR hL hl ho hs hn hsl hm
  obtain ⟨cf, kf, fi, f, a, cell, h1, h2, h3, h4, h5, h6, h7, h8⟩ := hv G s hG.2.2.2
  have kk := h H locs lsC hR hL hl ho (okp hok hs) hn hsl hm
  rcases hlk with hw | ⟨host, hw⟩
  · exact W.gets hx hbc hown (glob_all hG args _ hw) h1 h2 h3 h4 (old_at hR h8 h5) (fun e => by rw [e] at h6; cases h6) h7 rfl hd kk
  · exact va_WgetsN hx hbc hown (hG.1 _ hw rfl args) h1 h2 h3 h4 (old_at hR h8 h5) (fun e => by rw [e] at h6; cases h6) h7 rfl hd kk
theorem ax_getC {idx : Nat} {C nm dd : String} {r : Int} {v : AV} (hX : CxOk ph X y k σ0 Q E) (hlk : FLk y.1.cls idx C nm dd) (hv : ∀ (G : Gp) (s : State), Cst G s → ∃ t, cO G r = .ref t ∧ va_OF C nm dd (cV G v) t (oA G) s G.2.1) (hok : okV σ v) (hd : decode y.2.1 pc = .ok (.getfield idx, 3)) (h : Ax ph X (pc + 3) ls (v :: st) σ) : Ax ph X pc ls (vO r :: st) σ := by
  obtain ⟨G, p, l, e, R, s, m, args, below, meth, c, σ0ₚ, Q0, E0⟩ := X
  obtain ⟨hx, hbc, hml, hret, hlocks, hown, hnm, hexc, hG, hk1, hk2, hc1, hc2, rfl, rfl, rfl⟩ := hX
  intro H locs lsC hR hL hl ho hs hn hsl hm
  obtain ⟨t, ht, cf, kf, fi, f, cell, h1, h2, h3, h4, h5, h6⟩ := hv G s hG.2.2.2
  have kk := h H locs lsC hR hL hl ho (okp hok (okc hs).2) hn hsl hm
  show W p l e R s m args below meth c H locs _ _ _ (F0 m pc lsC (cO G r :: st.map (cV G)))
  rw [ht]
  rcases hlk with hw | ⟨host, hw⟩
  · exact W.getf hx hbc hown (glob_all hG args _ hw) h1 h2 (old_at hR h6 h3) h4 h5 rfl rfl hd kk
  · exact va_Wgetf hx hbc hown (hG.1 _ hw rfl args) h1 h2 (old_at hR h6 h3) h4 h5 rfl rfl hd kk
theorem ax_ialdC {r i x : Int} (hX : CxOk ph X y k σ0 Q E) (hi : 0 ≤ i) (hx32 : in32 x) (hv : ∀ (s : State), Cst X.1 s → ∃ (t N : Nat) (f : Nat → Value), cO X.1 r = .ref t ∧ va_T .int t N f (oA X.1) s X.1.2.1 ∧ i < N ∧ f i.toNat = .int (Int32.ofInt x)) (hd : decode y.2.1 pc = .ok (.iaload, 1)) (h : Ax ph X (pc + 1) ls (vI x :: st) σ) : Ax ph X pc ls (vI i :: vO r :: st) σ := by
  obtain ⟨G, p, l, e, R, s, m, args, below, meth, c, σ0ₚ, Q0, E0⟩ := X
  obtain ⟨hx, hbc, hml, hret, hlocks, hown, hnm, hexc, hG, hk1, hk2, hc1, hc2, rfl, rfl, rfl⟩ := hX
  intro H locs lsC hR hL hl ho hs hn hsl hm
  have hii : in32 i := (okc hs).1
  obtain ⟨t, N, f, ht, ⟨cell, h1, h2, h3, h4, h5, h6, h7⟩, hN, hf⟩ := hv s hG.2.2.2
  have kk := h H locs lsC hR hL hl ho (okp hx32 (okc (okc hs).2).2) hn hsl hm
  show W p l e R s m args below meth c H locs _ _ _ (F0 m pc lsC (.int (Int32.ofInt i) :: cO G r :: st.map (cV G)))
  rw [ht]
  refine W.iald hx hbc (old_at hR h7 h1) h2 h3 (in_of hi (by omega) hii) (by rw [i32_clamp hii hi, h6 _ (by omega), hf]; rfl) rfl rfl hd kk
theorem ax_baldC {r i x : Int} (hX : CxOk ph X y k σ0 Q E) (hi : 0 ≤ i) (hx32 : in32 x) (hv : ∀ (G : Gp) (s : State), Cst G s → ∃ (t N : Nat) (f : Nat → Value), cO G r = .ref t ∧ va_T .byte t N f (oA G) s G.2.1 ∧ i < N ∧ f i.toNat = .int (Int32.ofInt x)) (hd : decode y.2.1 pc = .ok (.baload, 1)) (h : Ax ph X (pc + 1) ls (vI x :: st) σ) : Ax ph X pc ls (vI i :: vO r :: st) σ := by
  obtain ⟨G, p, l, e, R, s, m, args, below, meth, c, σ0ₚ, Q0, E0⟩ := X
  obtain ⟨hx, hbc, hml, hret, hlocks, hown, hnm, hexc, hG, hk1, hk2, hc1, hc2, rfl, rfl, rfl⟩ := hX
  intro H locs lsC hR hL hl ho hs hn hsl hm
  have hii : in32 i := (okc hs).1
  obtain ⟨t, N, f, ht, ⟨cell, h1, h2, h3, h4, h5, h6, h7⟩, hN, hf⟩ := hv G s hG.2.2.2
  have kk := h H locs lsC hR hL hl ho (okp hx32 (okc (okc hs).2).2) hn hsl hm
  show W p l e R s m args below meth c H locs _ _ _ (F0 m pc lsC (.int (Int32.ofInt i) :: cO G r :: st.map (cV G)))
  rw [ht]
  refine W.bald hx hbc (old_at hR h7 h1) h2 h3 (in_of hi (by omega) hii) (by rw [i32_clamp hii hi, h6 _ (by omega), hf]; rfl) rfl rfl hd kk
theorem ax_alenC {r : Int} {N : Nat} {ty : FieldType} (hX : CxOk ph X y k σ0 Q E) (hN31 : N < 2 ^ 31) (hv : ∀ (s : State), Cst X.1 s → ∃ (t : Nat) (f : Nat → Value), cO X.1 r = .ref t ∧ va_T ty t N f (oA X.1) s X.1.2.1) (hd : decode y.2.1 pc = .ok (.arraylength, 1)) (h : Ax ph X (pc + 1) ls (vI (N : Nat) :: st) σ) : Ax ph X pc ls (vO r :: st) σ := by
  obtain ⟨G, p, l, e, R, s, m, args, below, meth, c, σ0ₚ, Q0, E0⟩ := X
  obtain ⟨hx, hbc, hml, hret, hlocks, hown, hnm, hexc, hG, hk1, hk2, hc1, hc2, rfl, rfl, rfl⟩ := hX
  intro H locs lsC hR hL hl ho hs hn hsl hm
  obtain ⟨t, f, ht, ⟨cell, h1, h2, h3, h4, h5, h6, h7⟩⟩ := hv s hG.2.2.2
  have kk := h H locs lsC hR hL hl ho (okp (show in32 ((N : Nat) : Int) by unfold in32; omega) (okc hs).2) hn hsl hm
  show W p l e R s m args below meth c H locs _ _ _ (F0 m pc lsC (cO G r :: st.map (cV G)))
  rw [ht]
  exact W.alen (n := Int32.ofInt ((N : Nat) : Int)) hx hbc (old_at hR h7 h1) h2 (by rw [h5]; rfl) rfl rfl hd kk
theorem ax_acmp_eq {x z off : Int} {tgt : Nat} (hX : CxOk ph X y k σ0 Q E) (hx52 : -52 ≤ x) (hz52 : -52 ≤ z) (ht : (pc : Int) + off = tgt) (hd : decode y.2.1 pc = .ok (.if_acmp .eq off, 3)) (h1 : x = z → Ax ph X tgt ls st σ) (h2 : ¬ x = z → Ax ph X (pc + 3) ls st σ) : Ax ph X pc ls (vO z :: vO x :: st) σ := by
  obtain ⟨G, p, l, e, R, s, m, args, below, meth, c, σ0ₚ, Q0, E0⟩ := X
  obtain ⟨hx, hbc, hml, hret, hlocks, hown, hnm, hexc, hG, hk1, hk2, hc1, hc2, rfl, rfl, rfl⟩ := hX
  intro H locs lsC hR hL hl ho hs hn hsl hm
  show W p l e R s m args below meth c H locs _ _ _ (F0 m pc lsC (cO G z :: cO G x :: st.map (cV G)))
  rw [cO_oI, cO_oI]
  exact lv_acmp_eq hx hbc hd ht (fun q => h1 (oI_inj hG.2.2.2 hx52 hz52 q) H locs lsC hR hL hl ho (okc (okc hs).2).2 hn hsl hm) (fun q => h2 (fun c => q (by rw [c])) H locs lsC hR hL hl ho (okc (okc hs).2).2 hn hsl hm)
theorem ax_acmp_ne {x z off : Int} {tgt : Nat} (hX : CxOk ph X y k σ0 Q E) (hx52 : -52 ≤ x) (hz52 : -52 ≤ z) (ht : (pc : Int) + off = tgt) (hd : decode y.2.1 pc = .ok (.if_acmp .ne off, 3)) (h1 : ¬ x = z → Ax ph X tgt ls st σ) (h2 : x = z → Ax ph X (pc + 3) ls st σ) : Ax ph X pc ls (vO z :: vO x :: st) σ := by
  obtain ⟨G, p, l, e, R, s, m, args, below, meth, c, σ0ₚ, Q0, E0⟩ := X
  obtain ⟨hx, hbc, hml, hret, hlocks, hown, hnm, hexc, hG, hk1, hk2, hc1, hc2, rfl, rfl, rfl⟩ := hX
  intro H locs lsC hR hL hl ho hs hn hsl hm
  show W p l e R s m args below meth c H locs _ _ _ (F0 m pc lsC (cO G z :: cO G x :: st.map (cV G)))
  rw [cO_oI, cO_oI]
  exact lv_acmp_ne hx hbc hd ht (fun q => h1 (fun c => q (by rw [c])) H locs lsC hR hL hl ho (okc (okc hs).2).2 hn hsl hm) (fun q => h2 (oI_inj hG.2.2.2 hx52 hz52 q) H locs lsC hR hL hl ho (okc (okc hs).2).2 hn hsl hm)
theorem ax_ifnn {x off : Int} {tgt : Nat} (hX : CxOk ph X y k σ0 Q E) (hx0 : 0 ≤ x) (ht : (pc : Int) + off = tgt) (hd : decode y.2.1 pc = .ok (.ifnonnull off, 3)) (h1 : ¬ x = 0 → Ax ph X tgt ls st σ) (h2 : x = 0 → Ax ph X (pc + 3) ls st σ) : Ax ph X pc ls (vO x :: st) σ := by
  obtain ⟨G, p, l, e, R, s, m, args, below, meth, c, σ0ₚ, Q0, E0⟩ := X
  obtain ⟨hx, hbc, hml, hret, hlocks, hown, hnm, hexc, hG, hk1, hk2, hc1, hc2, rfl, rfl, rfl⟩ := hX
  intro H locs lsC hR hL hl ho hs hn hsl hm
  show W p l e R s m args below meth c H locs _ _ _ (F0 m pc lsC (cO G x :: st.map (cV G)))
  by_cases c0 : x = 0
  · have e1 : cO G x = .null := by unfold cO; rw [if_pos c0]
    rw [e1]
    exact lv_ifnonnullN hx hbc hd (h2 c0 H locs lsC hR hL hl ho (okc hs).2 hn hsl hm)
  · have e1 : cO G x = .ref (G.1 + x.toNat - 1) := by unfold cO; rw [if_neg c0, if_pos (by omega)]
    rw [e1]
    exact lv_ifnonnull hx hbc hd ht (h1 c0 H locs lsC hR hL hl ho (okc hs).2 hn hsl hm)
theorem ax_objInit {r : Int} {idx : Nat} (hX : CxOk ph X y (k + 1) σ0 Q E) (hr : 0 < r) (hlk : Cond.methodLink y.1.cls idx Lib.objectInit ∈ lw_all) (hin : Cond.instanceMethod Lib.objectInit ∈ lw_all) (hco : Cond.code Lib.objectInit ⟨#[0xb1]⟩ 1 none ∈ lw_all) (hst8 : (st.map avW).sum ≤ 8) (hd : decode y.2.1 pc = .ok (.invokespecial idx, 3)) (h : Ax ph X (pc + 3) ls st σ) : Ax ph X pc ls (vO r :: st) σ := by
  obtain ⟨G, p, l, e, R, s, m, args, below, meth, c, σ0ₚ, Q0, E0⟩ := X
  obtain ⟨hx, hbc, hml, hret, hlocks, hown, hnm, hexc, hG, hk1, hk2, hc1, hc2, rfl, rfl, rfl⟩ := hX
  intro H locs lsC hR hL hl ho hs hn hsl hm
  have hts := glob_all hG args
  have kk := h H locs lsC hR hL hl ho (okc hs).2 hn hsl hm
  have e1 : cO G r = .ref (G.1 + r.toNat - 1) := by unfold cO; rw [if_neg (by omega), if_pos hr]
  show W p l e R s m args below meth c H locs _ _ _ (F0 m pc lsC (cO G r :: st.map (cV G)))
  rw [e1]
  refine W.objInit hx hbc hown (hts _ hlk) (hts _ hin) (hts _ hco) rfl hl.1 rfl hd (by omega) ?_ kk
  show 2 * 0 + ((st.map (cV G)).map fun v => v.category).sum + 12 ≤ R.locals
  rw [cat_sum]; omega
/-- arrays of references -/
theorem ax_aast {e o f v ci : Nat} {q : vw_C} {i x : Int} (hX : CxOk ph X y k σ0 Q E) (hcl : clL[ci]? = some q) (he : e = 5 ∨ e = 7) (hel : elTy e = .object q.1) (hv : v = gV σ o f) (hi : 0 ≤ i ∧ i < gL σ o f) (hx0 : 0 < x) (hkl : gK σ x.toNat = ci + 1) (hd : decode y.2.1 pc = .ok (.aastore, 1)) (h : Ax ph X (pc + 1) ls st (sA σ o f i.toNat x)) : Ax ph X pc ls (vO x :: vI i :: vA e o f v :: st) σ := by
  refine ax_astV hX hv hi (fun hw => ⟨fun q => by omega, fun q => by omega, fun q => by omega, fun q => by omega, fun _ => hw, fun q => by omega⟩) ?_ h
  intro G p l ev R s m args below meth c H locs cells slots Qw lsC L g j hx hb hR hG hw hc hj kk
  have hlt := rep_lt hR hkl (by omega)
  obtain ⟨⟨cellV, g1, g2, g3, -⟩, -⟩ := hR.2.2.1 x.toNat ci q (by omega) hlt hkl hcl
  have hcls := (hG.2.1 ci q hcl).2
  have hra := (hG.2.2.1 e (by omega)).2
  rw [hel] at hra
  obtain ⟨kA, comp, k1, k2, k3, -⟩ := hra
  have hcomp : comp = G.2.2.1.1 ci := Option.some.inj (k3.symm.trans hcls.1)
  subst hcomp
  obtain ⟨kC, hkC, -⟩ := hcls.2
  have hcO : cO G x = .ref (G.1 + x.toNat - 1) := by unfold cO; rw [if_neg (by omega), if_pos hx0]
  show W p l ev R s m args below meth c H locs cells slots Qw (F0 m pc lsC (cO G x :: .int j :: .ref (G.1 + v - 1) :: st.map (cV G)))
  rw [hcO]
  have hev : eVal G e x = .ref (G.1 + x.toNat - 1) := by rw [← hcO]; unfold eVal; rw [if_neg (by omega), if_neg (by omega)]
  rw [hev] at kk
  exact W.aast hx hb hc (fun q h => by cases h) (fun h => by cases h) k1 k2 rfl hkC ⟨fun z => hj (Or.inl z), by rw [arrV_size]; omega⟩ g1 (fun q h => by rw [g3] at h; cases h) (by rw [g2]; exact hkC) (by rw [g2]; exact va_asg _ _) rfl rfl hd kk
/-- of Strings -/
theorem ax_aastS {o f v n : Nat} {i : Int} {cs : List Int} (hX : CxOk ph X y k σ0 Q E) (hq : (n, cs) ∈ strL) (hn1 : 1 ≤ n) (hv : v = gV σ o f) (hi : 0 ≤ i ∧ i < gL σ o f) (hd : decode y.2.1 pc = .ok (.aastore, 1)) (h : Ax ph X (pc + 1) ls st (sA σ o f i.toNat (-(n : Int)))) : Ax ph X pc ls (vO (-(n : Int)) :: vI i :: vA 6 o f v :: st) σ := by
  refine ax_astV hX hv hi (fun hw => ⟨fun q => by omega, fun q => by omega, fun q => by omega, fun q => by omega, fun _ => hw, fun q => by omega⟩) ?_ h
  intro G p l ev R s m args below meth c H locs cells slots Qw lsC L g j hx hb hR hG hw hc hj kk
  obtain ⟨a, b, c1, c2, ⟨cellV, d1, d2, d3, d4⟩, -⟩ := hG.2.2.2.2.1 _ hq
  have hra := (hG.2.2.1 6 (by omega)).2
  obtain ⟨kA, comp, k1, k2, k3, -⟩ := hra
  have hcomp : comp = cellV.cls := Option.some.inj (k3.symm.trans d3)
  subst hcomp
  obtain ⟨kC, hkC⟩ := Vm.classAt_of_findClass d3
  have hcO : cO G (-(n : Int)) = .ref a := cO_neg hn1 c1
  show W p l ev R s m args below meth c H locs cells slots Qw (F0 m pc lsC (cO G (-(n : Int)) :: .int j :: .ref (G.1 + v - 1) :: st.map (cV G)))
  rw [hcO]
  have hev : eVal G 6 (-(n : Int)) = .ref a := by rw [← hcO]; unfold eVal; rw [if_neg (by omega), if_neg (by omega)]
  rw [hev] at kk
  exact W.aast hx hb hc (fun q h => by cases h) (fun h => by cases h) k1 k2 rfl hkC ⟨fun z => hj (Or.inl z), by rw [arrV_size]; omega⟩ (old_at hR d4 d1) (fun q h => by rw [h] at d2; cases d2) hkC (va_asg _ _) rfl rfl hd kk
theorem ax_anew {e idx : Nat} {C : String} {n : Int} (hX : CxOk ph X y k σ0 Q E) (he : 5 ≤ e ∧ e ≤ 7) (hel : elTy e = .object C) (hlk : Cond.classLink y.1.cls idx C ∈ lw_all) (hov : Cond.arrayOver (.object C) ∈ lw_tbl) (hn : 0 ≤ n ∧ (gT σ + n.toNat ≤ 70400 ∨ pSum σ + gT σ + gD σ + n.toNat ≤ slM (gK σ 0) + 70400 + 1908000) ∧ (n.toNat < 16 → gC σ + 1 ≤ 3000))
    (hd : decode y.2.1 pc = .ok (.anewarray idx, 3)) (h : Ax ph X (pc + 3) ls (vA e (gN σ) 0 (gN σ) :: st) (nA σ e n.toNat)) : Ax ph X pc ls (vI n :: st) σ := by
  obtain ⟨G, p, l, ev, R, s, m, args, below, meth, c, σ0ₚ, Q0, E0⟩ := X
  obtain ⟨hx, hbc, hml, hret, hlocks, hown, hnm, hexc, hG, hk1, hk2, hc1, hc2, rfl, rfl, rfl⟩ := hX
  intro H locs lsC hR hL hl ho hs hnn hsl hm
  have hii : in32 n := (okc hs).1
  obtain ⟨r1, r2, r3, r4, r5⟩ := rep_room hR
  have hT := nw_ok hR.2.2.2.2.2.2 hn.2.1
  have hslₚ := slB_v
  have hmd := md_v (gK σ 0)
  have hcl : (Int32.ofInt n).toNatClampNeg = n.toNat := i32_clamp hii hn.1
  have hle := le_nA σ e n.toNat
  have hRA := (hG.2.2.1 e (by omega)).2
  rw [hel] at hRA
  obtain ⟨kA0, comp0, w1, w2, w3, w4⟩ := hRA
  refine W.anew hx hbc hown (glob_all hG args _ hlk) (hG.1 _ hov rfl args) rfl hd rfl (by rw [i32_c0, i32_lt hii (by unfold in32; omega)]; omega) ?_ ?_ ?_ (fun cA kA comp f1 f2 f3 f4 => ?_)
  · rw [hcl]; omega
  · omega
  · rw [hcl]; omega
  · have hcA : cA = G.2.2.2.1 e := Option.some.inj (f1.symm.trans w4)
    have hz := hR.1.1
    have hn1 := hR.1.2
    have hdef : eVal G e 0 = .null := by unfold eVal; rw [if_neg (by omega), if_neg (by omega)]; rfl
    have kk := h (H.push { cls := cA, slots := Array.replicate (Int32.ofInt n).toNatClampNeg .null, vm := .none }) locs lsC
      (rep_nA hR (by omega) hT hn.2.2 (by rw [push_at, arrV_new, hcl, hcA, hdef]) push_sz (fun a ha => push_off ha)) hL hl (fun w hw => okV_mono hle (ho w hw))
      (okp ⟨show 1 ≤ gN σ from hn1, show gN σ < gN (nA σ e n.toNat) by rw [gN_nA]; omega, by show gK _ (gN σ) = _; rw [gK_nA, if_pos rfl]⟩ (fun w hw => okV_mono hle ((okc hs).2 w hw))) (by rw [gN_nA]; omega) (by rw [gS_nA]; omega) (fun w hw => okV_mono hle (hm w hw))
    rw [gN_nA, gS_nA] at kk
    rw [hcl]
    rw [hcl] at kk
    rw [show gN σ + 1 - gN σ0ₚ = gN σ - gN σ0ₚ + 1 by omega, show gS σ + n.toNat - gS σ0ₚ = gS σ - gS σ0ₚ + n.toNat by omega] at kk
    rw [List.map_cons] at kk
    have e1 : cV G (vA e (gN σ) 0 (gN σ)) = .ref H.size := by show Value.ref (G.1 + gN σ - 1) = _; rw [show G.1 + gN σ - 1 = H.size by omega]
    rw [e1] at kk
    exact kk
end Rows5
end
section
/-! ROWS VI: copies of stretches; an exception is made and thrown -/
set_option maxRecDepth 100000
theorem fits_e {G : Gp} {σ : Sg} {e : Nat} {x : Int} (he : e ≤ 3) (h : eOk σ e x) : fits (elTy e) (eVal G e x) = true := by
  rcases (show e = 0 ∨ e = 1 ∨ e = 2 ∨ e = 3 by omega) with rfl | rfl | rfl | rfl
  · rfl
  · have h1 := h.2.1 rfl
    have : x = w8 x := by unfold w8; omega
    show fits .byte (.int (Int32.ofInt x)) = true
    rw [this, ← i32_i2b]
    exact pk_fb _
  · have h1 := h.2.2.1 rfl
    rcases (show x = 0 ∨ x = 1 by omega) with rfl | rfl
    · show fits .boolean (.int (Int32.ofInt 0)) = true; decide +kernel
    · show fits .boolean (.int (Int32.ofInt 1)) = true; decide +kernel
  · rfl
theorem takes_e {G : Gp} {U : State} {c : ClassId} {e : Nat} {x : Int} (he : e ≤ 3) : U.takes c (eVal G e x) := by
  rcases (show e = 0 ∨ e = 1 ∨ e = 2 ∨ e = 3 by omega) with rfl | rfl | rfl | rfl <;> trivial
theorem copy_words : nativeFrameWords "java/lang/System" "arraycopy" 5 + 11 ≤ 33 := by decide +kernel
section Rows6
variable {ph k : Nat} {X : Cx} {y : MI} {σ0 σ : Sg} {Q : Option AV → Sg → Prop} {E : Int → Sg → Prop} {pc : Nat} {ls : List (Option AV)} {st : List AV}
theorem ax_copy {e o f v oₚ fₚ vₚ idx : Nat} {sp dp n : Int} (hX : CxOk ph X y (k + 1) σ0 Q E) (he : e ≤ 3) (hv : v = gV σ o f) (hvₚ : vₚ = gV σ oₚ fₚ) (hlk : Cond.methodLink y.1.cls idx arraycopyName ∈ lw_all) (hnat : Cond.native arraycopyName ∈ lw_all) (hstat : Cond.static arraycopyName ∈ lw_all) (hini : Cond.initialized "java/lang/System" ∈ lw_all) (hst8 : (st.map avW).sum ≤ 8)
    (hi : 0 ≤ n ∧ 0 ≤ sp ∧ 0 ≤ dp ∧ sp + n ≤ gL σ o f ∧ dp + n ≤ gL σ oₚ fₚ) (hd : decode y.2.1 pc = .ok (.invokestatic idx, 3)) (h : Ax ph X (pc + 3) ls st (sB σ oₚ fₚ (cpy (gA σ o f) (gA σ oₚ fₚ) sp.toNat dp.toNat n.toNat))) : Ax ph X pc ls (vI n :: vI dp :: vA e oₚ fₚ vₚ :: vI sp :: vA e o f v :: st) σ := by
  obtain ⟨G, p, l, ev, R, s, m, args, below, meth, c, σ0ₚ, Q0, E0⟩ := X
  obtain ⟨hx, hbc, hml, hret, hlocks, hown, hnm, hexc, hG, hk1, hk2, hc1, hc2, rfl, rfl, rfl⟩ := hX
  intro H locs lsC hR hL hl ho hs hnn hsl hm T hT XS
  have hts := glob_all hG args
  have hn32 : in32 n := (okc hs).1
  have hs1 := (okc hs).2
  have hdp32 : in32 dp := (okc hs1).1
  have hs2 := (okc hs1).2
  have hs3 := (okc hs2).2
  have hsp32 : in32 sp := (okc hs3).1
  have hs4 := (okc hs3).2
  have hs5 := (okc hs4).2
  obtain ⟨a1, a2, a3, a9, a4, a5⟩ := arr_at hR (okc hs4).1 hv
  obtain ⟨b1, b2, b3, b9, b4, b5⟩ := arr_at hR (okc hs2).1 hvₚ
  have hAT := (hG.2.2.1 e (by omega)).1
  obtain ⟨-, k0, hk0, cm0, hkk0⟩ := hAT (gL σ o f) (fun j => eVal G e (gA σ o f j))
  obtain ⟨-, k1, hk1ₚ, cm1, hkk1⟩ := hAT (gL σ oₚ fₚ) (fun j => eVal G e (gA σ oₚ fₚ j))
  have hprim : refKind (elTy e) = false := by rcases (show e = 0 ∨ e = 1 ∨ e = 2 ∨ e = 3 by omega) with rfl | rfl | rfl | rfl <;> rfl
  have c0 : ∀ z : Int, in32 z → 0 ≤ z → ¬ Int32.ofInt z < 0 := fun z h1 h2 => by rw [i32_c0, i32_lt h1 (by unfold in32; omega)]; omega
  have cw := copy_words
  obtain ⟨vmₚ, Xₚ, step⟩ := XS.arraycopy hx hown (hts _ hlk) (hts _ hnat) (hts _ hstat) (hts _ hini) (src := G.1 + v - 1) (dst := G.1 + vₚ - 1) (cs := arrV (G.2.2.2.1 e) (gL σ o f) (fun j => eVal G e (gA σ o f j))) (cd := arrV (G.2.2.2.1 e) (gL σ oₚ fₚ) (fun j => eVal G e (gA σ oₚ fₚ j))) (srcPos := Int32.ofInt sp) (destPos := Int32.ofInt dp) (n := Int32.ofInt n)
    (by rw [hT]; exact a4) (by rw [hT]; exact b4) (fun _ h => by cases h) (fun _ h => by cases h) (fun h => by cases h) (fun h => by cases h) hk0 hk1ₚ hkk0 hkk1 (by simp [hprim]) (c0 _ hsp32 hi.2.1) (c0 _ hdp32 hi.2.2.1) (c0 _ hn32 hi.1)
    (by rw [i32_toInt hsp32, i32_toInt hn32, arrV_size]; omega) (by rw [i32_toInt hdp32, i32_toInt hn32, arrV_size]; omega)
    (fun vm₁ _ i hiₚ => by
      rw [i32_clamp hn32 hi.1] at hiₚ
      rw [i32_clamp hsp32 hi.2.1]
      have e1 : (arrV (G.2.2.2.1 e) (gL σ o f) (fun j => eVal G e (gA σ o f j))).slots.getD (sp.toNat + i) .null = eVal G e (gA σ o f (sp.toNat + i)) := by
        rw [Array.getD_eq_getD_getElem?, arrV_read _ _ (by omega)]
        rfl
      rw [e1]
      exact ⟨fits_e he (a5 _ (by omega)), takes_e he⟩)
    (g := F0 m pc lsC (.int (Int32.ofInt n) :: .int (Int32.ofInt dp) :: .ref (G.1 + vₚ - 1) :: .int (Int32.ofInt sp) :: .ref (G.1 + v - 1) :: st.map (cV G))) rfl hl.1 (rest := st.map (cV G)) rfl (by rw [hbc]; exact hd) (by omega) (by show 2 * 0 + ((st.map (cV G)).map fun v => v.category).sum + _ ≤ R.locals; rw [cat_sum]; omega)
  have e1 : copied (arrV (G.2.2.2.1 e) (gL σ o f) (fun j => eVal G e (gA σ o f j))) (arrV (G.2.2.2.1 e) (gL σ oₚ fₚ) (fun j => eVal G e (gA σ oₚ fₚ j))) (Int32.ofInt sp) (Int32.ofInt dp) (Int32.ofInt n) = arrV (G.2.2.2.1 e) (gL σ oₚ fₚ) (fun j => eVal G e (cpy (gA σ o f) (gA σ oₚ fₚ) sp.toNat dp.toNat n.toNat j)) := by
    have := va_copied (fun z => eVal G e z) (G.2.2.2.1 e) (G.2.2.2.1 e) (n0 := gL σ o f) (n1 := gL σ oₚ fₚ) (sp := sp.toNat) (dp := dp.toNat) (n := n.toNat) (gA σ o f) (gA σ oₚ fₚ) (by omega)
    unfold copied
    rw [i32_clamp hsp32 hi.2.1, i32_clamp hdp32 hi.2.2.1, i32_clamp hn32 hi.1]
    exact this
  rw [e1] at Xₚ step
  have hld : G.1 + vₚ - 1 < H.size := (Array.getElem?_eq_some_iff.mp b4).1
  have hheap : ((T.setVm vmₚ).setCell (G.1 + vₚ - 1) (arrV (G.2.2.2.1 e) (gL σ oₚ fₚ) (fun j => eVal G e (cpy (gA σ o f) (gA σ oₚ fₚ) sp.toNat dp.toNat n.toNat j)))).heap = H.setIfInBounds (G.1 + vₚ - 1) (arrV (G.2.2.2.1 e) (gL σ oₚ fₚ) (fun j => eVal G e (cpy (gA σ o f) (gA σ oₚ fₚ) sp.toNat dp.toNat n.toNat j))) := by rw [← hT]; rfl
  have hv1 : 1 ≤ vₚ := ((okc hs2).1).1
  obtain ⟨t, q1, q2⟩ := h _ _ lsC (rep_sB hR b1 (fun j hj => by
      rw [b2]
      unfold cpy
      split
      · exact a5 _ (by omega)
      · exact b5 j hj) (fun q hq c => by omega) (by rw [b2, ← hvₚ]; exact set_at hld) set_sz (fun a ha => set_off (by rw [hvₚ]; exact ha)))
    (fun q hq => by
      rcases List.mem_append.mp hq with hq | hq
      · exact hL q hq
      · obtain ⟨z, -, hz⟩ := List.mem_map.mp hq
        rw [← hz]
        show G.1 ≤ G.1 + vₚ - 1
        omega) hl ho hs5 hnn hsl hm _ hheap Xₚ
  exact ⟨t, step t q1, q2⟩
/-- a cell of which nothing is said -/
theorem rep_nX {G : Gp} {ph : Nat} {σ : Sg} {H Hₚ : Heap} {n : Nat} (hR : Rep G ph σ H) (hC : gC σ + 1 ≤ 3000) (hD : n ≤ 6) (h1 : ∀ c, Hₚ[H.size]? = some c → c.vm = .none) (h2 : Hₚ.size = H.size + 1) (h3 : ∀ a, a < H.size → Hₚ[a]? = H[a]?) : Rep G ph (nO σ 50 n) Hₚ := by
  have hgv := gV_lt hR
  obtain ⟨⟨hz, hn1⟩, ⟨hold, hV⟩, hO, hA, hU, hP, hS⟩ := hR
  have hle := le_nO σ 50 n
  have hfr : ∀ o, gN σ ≤ o → gK σ o = 0 := fun o ho => (hU.2.2.1 o ho).1
  refine ⟨⟨by rw [h2, gN_nO]; omega, by rw [gN_nO]; omega⟩, ⟨fun a ha => by rw [h3 a (by omega)]; exact hold a ha, fun a ca ha hc => by
    have hl := (Array.getElem?_eq_some_iff.mp hc).1
    by_cases e : a = H.size
    · rw [e] at hc; exact h1 ca hc
    · rw [h3 a (by omega)] at hc; exact hV a ca ha hc⟩, ?_, ?_, ?_, ?_, ?_⟩
  · intro oₚ ciₚ rₚ g1 g2 g3 g4
    have hci := cl_lt g4
    rw [gN_nO] at g2
    rw [gK_nO] at g3
    by_cases c : oₚ = gN σ
    · rw [if_pos c] at g3
      omega
    · rw [if_neg c] at g3
      obtain ⟨hob, hfo⟩ := hO oₚ ciₚ rₚ g1 (by omega) g3 g4
      exact ⟨hob.kept (h3 _ (by omega)), fun k hk => fOk_mono hle (fun k _ => rfl) (hfo k hk)⟩
  · intro oₚ fₚ hv
    rw [gV_nO] at hv ⊢
    obtain ⟨a1, a2, a3, a4, a5⟩ := hA oₚ fₚ hv
    rw [gN_nO, gK_nO, if_neg (by omega)]
    exact ⟨by omega, a2, a3, by rw [h3 _ (by omega)]; exact a4, fun j hj => eOk_mono hle hfr (a5 j hj)⟩
  · obtain ⟨u1, u2, u3, u4, u5⟩ := hU
    refine ⟨u1, u2, fun o ho => ?_, fun o ciₚ k eₚ hk hciₚ hft he hv => ?_, fun o f hv => ?_⟩
    · rw [gN_nO] at ho
      obtain ⟨w1, w2⟩ := u3 o (by omega)
      exact ⟨by rw [gK_nO, if_neg (by omega)]; exact w1, w2⟩
    · rw [gV_nO] at hv ⊢
      have hlt := (u5 o k hv).1
      rw [gK_nO, if_neg (by omega)] at hk
      rw [gK_nO, if_neg (by have := hgv o k; omega)]
      exact u4 o ciₚ k eₚ hk hciₚ hft he hv
    · rw [gV_nO] at hv ⊢
      obtain ⟨w1, w2⟩ := u5 o f hv
      rw [gN_nO, gK_nO, if_neg (by omega)]
      exact ⟨by omega, w2⟩
  · obtain ⟨p1, p2, p3, p4⟩ := hP
    refine ⟨by rw [gN_nO]; omega, fun o ho hk => ?_, p3, p4⟩
    rw [gK_nO, if_neg (by omega)]; exact p2 o ho hk
  · obtain ⟨s1, s2, s3, s4, s5, s6, s7⟩ := hS
    have hps : pSum (nO σ 50 n) = pSum σ := rfl
    have eD : gD (nO σ 50 n) = gD σ := rfl
    have eL : gL (nO σ 50 n) 160 58 = gL σ 160 58 := rfl
    have e0 : gK (nO σ 50 n) 0 = gK σ 0 := by rw [gK_nO, if_neg (by omega)]
    exact ⟨by rw [e0, gS_nO, hps, gT_nO, eD, gC_nO]; omega, fun q hq => by rw [e0]; exact s2 q hq, by rw [gS_nO, gC_nO]; omega, by rw [eD, eL]; exact s4, by rw [gC_nO]; exact hC, by rw [gN_nO, gC_nO, gS_nO]; omega, s7⟩
end Rows6
end
section
/-! an exception is made and thrown -/
set_option maxRecDepth 100000
/-- a walk begun anew where it stands -/
theorem stand_anew {p : Program} {l : Launch} {e : Env} {R : Room} {s : State} {m : MethodId} {args : Array Value} {below : List Frame} {meth : Method} {c : Code} {T : State} {locs : List Loc} {cells slots : Nat} (X : Stand p l e R s m args below meth c T locs cells slots) (hc : cells ≤ R.cells) (hs : slots ≤ R.slots) :
    Stand p l e { frames := R.frames, cells := R.cells - cells, slots := R.slots - slots, locals := R.locals } (T.setFrames (.invoking m args :: below)) m args below meth c T [] 0 0 := by
  obtain ⟨g₀, hr⟩ := X.frames_eq
  have hcur : T.cur < T.threads.size := State.cur_lt_of_frames hr
  have hf : (T.setFrames (.invoking m args :: below)).frames = .invoking m args :: below := State.frames_setFrames _ hcur
  obtain ⟨th, hth, -⟩ := State.frames_cons hr
  have hmeth : T.vm.method? m = some meth := X.method'
  refine ⟨X.admits, X.cas, X.clock, hf, ?_, ?_, hmeth, X.code, X.here, X.tail, State.WarmedH.refl _, by rw [State.stackLimits_setFrames], by rw [State.stackBytes_setFrames], ?_⟩
  · have hr0 := X.room
    have hl : (T.setFrames (.invoking m args :: below)).localsInUse = s.localsInUse := by
      unfold State.localsInUse
      rw [hf, X.frames]
      show _ + ((((T.vm.method? m).bind (·.code)).map (·.maxLocals)).getD 0 + 11) = _ + ((((s.vm.method? m).bind (·.code)).map (·.maxLocals)).getD 0 + 11)
      rw [hmeth, X.method]
    have h1 := X.heapSize
    have h2 := X.used
    have h3 := X.book
    have h4 : (T.setFrames (.invoking m args :: below)).slotsTrue = true := h3
    have h5 : (T.setFrames (.invoking m args :: below)).heap.size = T.heap.size := rfl
    have h6 : (T.setFrames (.invoking m args :: below)).slotsUsed = T.slotsUsed := rfl
    unfold State.hasRoom at hr0 ⊢
    rw [hl, hf, State.stackLimits_setFrames, State.stackBytes_setFrames, X.limits, X.bytes, h4, h5, h6]
    rw [X.frames] at hr0
    simp only [Bool.and_eq_true, decide_eq_true_eq, Bool.and_true] at hr0 ⊢
    obtain ⟨⟨⟨⟨a1, a2⟩, a3⟩, a4⟩, a5⟩ := hr0
    exact ⟨⟨⟨a1, a2⟩, by show T.heap.size + (R.cells - cells) ≤ _; omega⟩, by show T.slotsUsed + (R.slots - slots) ≤ _; omega⟩
  · have hh := X.hears
    have hcd : ∀ q, (T.setFrames (.invoking m args :: below)).code? q = s.code? q := fun q => by
      rw [State.code?_eq, State.code?_eq]
      show (T.vm.method? q).bind (·.code) = (s.vm.method? q).bind (·.code)
      rw [X.warmed.alike.method?]
    unfold State.hears at hh ⊢
    have hm2 : (T.setFrames (.invoking m args :: below)).vm.method? m = s.vm.method? m := by show T.vm.method? m = _; rw [hmeth, X.method]
    cases below with
    | nil => rw [hm2]; exact hh
    | cons b t => cases b <;> first | exact hh | rfl | (simp only [hcd]; exact hh) | (simp only [hm2]; exact hh)
  · have h := (State.sameButNew.refl T hth).setFrames (.invoking m args :: below) hcur
    have e1 : T.setVm (T.setFrames (.invoking m args :: below)).vm = T := rfl
    rw [e1]
    have e2 : T = (T.setFrames (.invoking m args :: below)).setFrames T.frames := by
      rw [State.setFrames_setFrames, State.setFrames_self hth]
    refine ⟨?_, Nat.le_refl _, Nat.le_refl _, ?_, ?_, fun a c hc => ⟨c, hc, rfl, rfl, fun _ _ => rfl⟩⟩
    · show T = { (T.setFrames (.invoking m args :: below)).setFrames T.frames with heap := T.heap, slotsUsed := T.slotsUsed }
      rw [← e2]
    · show T.slotsUsed = T.slotsUsed + ((T.heap.toList.drop T.heap.size).map (·.slots.size)).sum
      rw [List.drop_of_length_le (by simp)]; rfl
    · show ((T.heap.toList.drop T.heap.size).map (·.slots.size)).sum ≤ 0
      rw [List.drop_of_length_le (by simp)]; exact Nat.le_refl _
section RowsT
variable {ph k : Nat} {X : Cx} {y : MI} {σ0 σ : Sg} {Q : Option AV → Sg → Prop} {E : Int → Sg → Prop} {pc : Nat} {ls : List (Option AV)}
theorem ax_throw {n idx li ic : Nat} {tx : String} (hX : CxOk ph X y (k + 6) σ0 Q E) (hat : ∀ w ∈ Bundle.ownAtoms y.1.cls ic "java/lang/IllegalStateException" ["java/lang/RuntimeException", "java/lang/Exception"], w ∈ thrL) (hlk : Cond.classLink y.1.cls idx "java/lang/IllegalStateException" ∈ lw_all) (hq : (n, y.1.cls, li, tx) ∈ ldL) (hhs : y.2.2.2.2 = [])
    (hDC : gC σ + 1 ≤ 3000) (hd0 : decode y.2.1 pc = .ok (.new idx, 3)) (hd3 : decode y.2.1 (pc + 3) = .ok (.dup, 1)) (hd4 : decode y.2.1 (pc + 4) = .ok (.ldc li, 2)) (hd6 : decode y.2.1 (pc + 6) = .ok (.invokespecial ic, 3)) (hd9 : decode y.2.1 (pc + 9) = .ok (.athrow, 1))
    (h : E (gN σ) (nO σ 50 6)) : Ax ph X pc ls [] σ := by
  obtain ⟨G, p, l, e, R, s, m, args, below, meth, c, σ0ₚ, Q0, E0⟩ := X
  obtain ⟨hx, hbc, hml, hret, hlocks, hown, hnm, ⟨hexc, htr, hold, hvn⟩, hG, hk1, hk2, hc1, hc2, rfl, rfl, rfl⟩ := hX
  intro H locs lsC hR hL hl ho hs hn hsl hm T hT XS0
  obtain ⟨r1, r2, r3, r4, r5⟩ := rep_room hR
  have hz := hR.1.1
  have hn1 := hR.1.2
  have XS := stand_anew XS0 (by omega) (by omega)
  have hGₚ : Glob G (T.setFrames (.invoking m args :: below)) := glob_warm hG XS0.warmed
  have hownₚ : (T.setFrames (.invoking m args :: below)).vm.findClass y.1.cls = some m.cls := by show T.vm.findClass _ = _; rw [XS0.warmed.alike.findClass]; exact hown
  have hts := glob_all hGₚ args
  obtain ⟨vm₁, cX, kX, hfX, hkX, -, -, X₁, st1⟩ := XS.newCold hx (own := y.1.cls) (C := "java/lang/IllegalStateException") (index := idx) (n := 6) hownₚ (hts _ hlk) (hts _ q1620) (hts _ q323) (g := F0 m pc lsC []) rfl (by rw [hbc]; exact hd0) (by show 0 + 1 ≤ R.cells - (gN σ - gN σ0ₚ); omega) (by show 0 + 6 ≤ R.slots - (gS σ - gS σ0ₚ); omega)
  have hTs : T.heap.size = G.1 + gN σ - 1 := by rw [hT]; omega
  obtain ⟨a, c1, c2⟩ := hGₚ.2.2.2.2.2.2.1 _ hq
  have htrₚ : e.platform.stackTraces = false := by rw [Example.NoTraceControls.admits_follows XS.admits]; exact htr
  have hcellA : ((T.setVm vm₁).pushCell { cls := cX, slots := kX.instanceTypes.map defaultValue, vm := .none }).heap[T.heap.size]? = some (freshCell cX kX) := State.heap_pushCell_size _ _
  obtain ⟨U, hsteps, hrun, hend, hW, hsame, ce, hce, K⟩ := X₁.ctorThrowS hx htrₚ (own := y.1.cls) (cls := "java/lang/IllegalStateException") (names := ["java/lang/RuntimeException", "java/lang/Exception"]) (ic := ic) hownₚ (by decide +kernel) (by decide +kernel)
    (fun w hw => hGₚ.2.2.2.2.2.2.2.1 _ rfl (fun q hq => by show T.heap[q]? = _; rw [hT]; exact hR.2.1.1 q hq) args w (hat w hw)) (fun x hxₚ => by cases hxₚ) hfX hkX hcellA (Nat.le_refl _) (msg := .ref a) rfl
    (g := F0 m (pc + 6) lsC [.ref a, .ref T.heap.size, .ref T.heap.size]) rfl hl.1 rfl rfl (rest := []) rfl (by rw [hbc]; exact hd6) (by rw [hbc]; exact hd9)
    (covers_find hexc (by rw [hhs]; rfl)) (by show 2 + 3 < R.frames; omega) (by show 2 * 0 + (1 + 0) + (13 * (2 + 1) + 42) ≤ R.locals; omega) hlocks
  have hUold : T.heap.size + 1 ≤ U.heap.size := by
    have := hsteps.heap_le
    simpa [State.pushCell] using this
  have hUsz : U.heap.size = T.heap.size + 1 := by
    have h1 : U.heap.size ≤ T.heap.size + (0 + 1) := hsame.2.2.1
    omega
  have hUh : ∀ q : Nat, q < T.heap.size → U.heap[q]? = T.heap[q]? := by
    intro q hq
    obtain ⟨cq, hcq⟩ : ∃ cq, T.heap[q]? = some cq := ⟨T.heap[q], by simp [hq]⟩
    obtain ⟨cₚ, g1, g2, g3, g4⟩ := hsame.2.2.2.2.2 q cq hcq
    have g1ₚ : U.heap[q]? = some cₚ := g1
    have e1 : cₚ = cq := by
      rw [g2]
      have : cₚ.slots = cq.slots := Array.ext_getElem? (fun i => g4 i (by simp))
      rw [this]
    rw [g1ₚ, e1, hcq]
  have hcev : ce.vm = .none := K.vm
  have hRU : Rep G ph (nO σ 50 6) U.heap := rep_nX hR hDC (by decide) (fun cc hcc => by
      rw [← hT] at hcc
      rw [hce] at hcc
      rw [← Option.some.inj hcc]; exact hcev) (by rw [hUsz, hT]) (fun q hq => by rw [hUh q (by rw [hT]; exact hq), hT])
  have hWs : s.WarmedH U.vm := State.WarmedH.trans XS0.warmed hW
  have hle := le_nO σ 50 6
  have hKn := hGₚ.2.1 22 _ rfl
  refine ⟨U, ?_, hrun, Or.inr ⟨(gN σ : Int), nO σ 50 6, locs, h, by omega, Or.inl ⟨by omega, by rw [gN_nO]; omega⟩, ⟨ce, ?_, hcev, ?_⟩, hRU, by rw [gN_nO]; omega, by rw [gS_nO]; omega, fun v hv => okV_mono hle (hm v hv), ?_, hWs, ?_, hL⟩⟩
  · refine st1 _ ?_
    have hp1 : Steps p.tables e below (((T.setVm vm₁).pushCell { cls := cX, slots := kX.instanceTypes.map defaultValue, vm := .none }).setTop (F0 m (pc + 4) lsC [.ref T.heap.size, .ref T.heap.size])) U :=
      X₁.ldcString hx hownₚ (text := tx) (a := a) c2.1 c2.2 (g := F0 m (pc + 4) lsC [.ref T.heap.size, .ref T.heap.size]) rfl (by rw [hbc]; exact hd4) U hsteps
    show Steps p.tables e below (((T.setVm vm₁).pushCell { cls := cX, slots := kX.instanceTypes.map defaultValue, vm := .none }).setTop { method := m, pc := pc + 3, locals := lsC, stack := [.ref T.heap.size], locked := none }) U
    generalize (T.setVm vm₁).pushCell { cls := cX, slots := kX.instanceTypes.map defaultValue, vm := .none } = T1 at X₁ hp1
    jvm_step X₁.here [X₁.here.top, hx, hbc, hd3, Value.category]
    exact hp1
  · rw [show G.1 + ((gN σ : Nat) : Int).toNat - 1 = T.heap.size by rw [hTs]; omega]; exact hce
  · exact Option.some.inj ((show (T.setFrames (.invoking m args :: below)).vm.findClass "java/lang/IllegalStateException" = some ce.cls from K.cls).symm.trans hKn.2.1)
  · rw [show G.1 + ((gN σ : Nat) : Int).toNat - 1 = T.heap.size by rw [hTs]; omega]; exact hend
  · have h1 := XS0.same.trans (show (T.setVm s.vm).sameButNew ({ U with vm := s.vm } : State) [] (0 + 1) (0 + 6) from ?_)
    · rw [List.append_nil] at h1
      rw [gN_nO, gS_nO, show gN σ + 1 - gN σ0ₚ = gN σ - gN σ0ₚ + (0 + 1) by omega, show gS σ + 6 - gS σ0ₚ = gS σ - gS σ0ₚ + (0 + 6) by omega]
      exact h1
    · obtain ⟨b1, b2, b3, b4, b5, b6⟩ := hsame
      refine ⟨?_, b2, b3, b4, b5, b6⟩
      have b1ₚ := congrArg (fun z : State => z.setVm s.vm) b1
      have e3 : ∀ (A : State) (fs gs : List Frame) (hp : Heap) (n : Nat), ({ (A.setFrames fs).setFrames gs with heap := hp, slotsUsed := n } : State).setVm s.vm = { (A.setVm s.vm).setFrames gs with heap := hp, slotsUsed := n } := by
        intro A fs gs hp n
        rw [State.setFrames_setFrames]; rfl
      have b2ₚ := e3 T (.invoking m args :: below) U.frames U.heap U.slotsUsed
      exact b1ₚ.trans b2ₚ
end RowsT
end
