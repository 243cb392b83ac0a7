/-! HOW THE PICTURE OF THE HEAP MOVES -/
set_option maxRecDepth 100000
theorem cl_lt {ci : Nat} {q : vw_C} (h : clL[ci]? = some q) : ci < 23 := by
  have := (List.getElem?_eq_some_iff.mp h).1
  simpa [clL] using this
theorem fVal_sF {G : Gp} {σ : Sg} {o b o' t k : Nat} {x : Int} (h : ¬ (o' = o ∧ k = b)) : fVal G (sF σ o b x) o' t k = fVal G σ o' t k := by
  unfold fVal
  rw [gF_sF, if_neg h, gV_sF]
/-- of an object one field -/
theorem rep_sF {G : Gp} {ph : Nat} {σ : Sg} {H H' : Heap} {o ci j : Nat} {q : vw_C} {x : Int} {cell : Cell} (hR : Rep G ph σ H) (ho1 : 1 ≤ o) (hK : gK σ o = ci + 1) (hcl : clL[ci]? = some q) (hj : j < q.2.2) (hap : ∀ a b, a < q.2.2 → b < q.2.2 → a ≠ b → G.2.2.1.2 ci a ≠ G.2.2.1.2 ci b)
    (hok : fOk σ (ftOf ci (j + 1)) (j + 1) x) (hfc : nSt ph ≤ o ∨ fcOf o (j + 1) = 0 ∨ x = fcOf o (j + 1)) (hc2 : cell.cls = G.2.2.1.1 ci) (hc3 : cell.vm = .none) (hc4 : ∀ k, k < q.2.2 → cell.slots[G.2.2.1.2 ci k]? = some (fVal G σ o (ftOf ci (k + 1)) (k + 1)))
    (h1 : H'[G.1 + o - 1]? = some (cell.setSlot (G.2.2.1.2 ci j) (fVal G (sF σ o (j + 1) x) o (ftOf ci (j + 1)) (j + 1)))) (h2 : H'.size = H.size) (h3 : ∀ a, a ≠ G.1 + o - 1 → H'[a]? = H[a]?) : Rep G ph (sF σ o (j + 1) x) H' := by
  have hlt := rep_lt hR hK (by omega)
  have hci := cl_lt hcl
  obtain ⟨⟨hz, hn1⟩, ⟨hold, hV⟩, hO, hA, hU, hP, hS⟩ := hR
  refine ⟨⟨by rw [h2]; exact hz, hn1⟩, ⟨fun a ha => by rw [h3 a (by omega)]; exact hold a ha, fun a ca ha hc => by
    by_cases e : a = G.1 + o - 1
    · rw [e, h1] at hc; rw [← Option.some.inj hc]; exact hc3
    · rw [h3 a e] at hc; exact hV a ca ha hc⟩, ?_, ?_, ?_, ?_, hS⟩
  · intro o' ci' r' g1 g2 g3 g4
    by_cases e : o' = o
    · subst e
      have e2 : ci' = ci := by have : gK σ o' = ci' + 1 := g3; omega
      subst e2
      have e3 : r' = q := Option.some.inj (g4.symm.trans hcl)
      subst e3
      obtain ⟨-, hfo⟩ := hO o' ci' r' g1 g2 g3 g4
      refine ⟨⟨_, h1, hc2, hc3, fun k hk => ?_⟩, fun k hk => ?_⟩
      · rw [t_set hc4 hap hj _ k hk]
        congr 1
        unfold updV
        by_cases ek : k = j
        · subst ek; rw [if_pos rfl]
        · rw [if_neg ek]
          exact (fVal_sF (by omega)).symm
      · show fOk σ _ _ (gF (sF σ o' (j + 1) x) o' (k + 1))
        rw [gF_sF]
        by_cases ek : k = j
        · subst ek; rw [if_pos ⟨rfl, rfl⟩]; exact hok
        · rw [if_neg (by omega)]; exact hfo k hk
    · obtain ⟨hob, hfo⟩ := hO o' ci' r' g1 g2 g3 g4
      refine ⟨(hob.kept (h3 _ (by omega))).to (fun k _ => (fVal_sF (by omega)).symm), fun k hk => ?_⟩
      show fOk σ _ _ (gF (sF σ o (j + 1) x) o' (k + 1))
      rw [gF_sF, if_neg (by omega)]
      exact hfo k hk
  · intro o' f' hv
    obtain ⟨g1, g2, g3, g4, g5⟩ := hA o' f' hv
    have hne : gV σ o' f' ≠ o := fun e => by rw [e, hK] at g2; omega
    have hv' : gV σ o' f' ≠ 0 := hv
    exact ⟨g1, g2, g3, (h3 (G.1 + gV σ o' f' - 1) (by omega)).trans g4, g5⟩
  · obtain ⟨u1, u2, u3, u4, u5⟩ := hU
    refine ⟨u1, u2, fun o' ho' => ?_, u4, u5⟩
    obtain ⟨w1, w2⟩ := u3 o' ho'
    refine ⟨w1, fun f => ⟨?_, (w2 f).2⟩⟩
    have ho'' : gN σ ≤ o' := ho'
    rw [gF_sF, if_neg (by omega)]
    exact (w2 f).1
  · obtain ⟨p1, p2, p3, p4⟩ := hP
    refine ⟨p1, p2, fun o' k' g1 g2 => ?_, p4⟩
    rw [gF_sF]
    by_cases e : o' = o ∧ k' = j + 1
    · obtain ⟨e1, e2⟩ := e
      subst e1; subst e2
      rw [if_pos ⟨rfl, rfl⟩]
      rcases hfc with q | q | q
      · omega
      · exact absurd q g2
      · exact q
    · rw [if_neg e]; exact p3 o' k' g1 g2
/-- of an array its contents -/
theorem rep_sB {G : Gp} {ph : Nat} {σ : Sg} {H H' : Heap} {o f : Nat} {g : Nat → Int} (hR : Rep G ph σ H) (hv : gV σ o f ≠ 0) (hok : ∀ j, j < gL σ o f → eOk σ (gK σ (gV σ o f) - 100) (g j)) (hfr : ∀ o' : Nat, gN σ ≤ o' → o' ≠ o)
    (h1 : H'[G.1 + gV σ o f - 1]? = some (arrV (G.2.2.2.1 (gK σ (gV σ o f) - 100)) (gL σ o f) (fun j => eVal G (gK σ (gV σ o f) - 100) (g j)))) (h2 : H'.size = H.size) (h3 : ∀ a, a ≠ G.1 + gV σ o f - 1 → H'[a]? = H[a]?) : Rep G ph (sB σ o f g) H' := by
  obtain ⟨⟨hz, hn1⟩, ⟨hold, hV⟩, hO, hA, hU, hP, hS⟩ := hR
  obtain ⟨b1, b2, b3, b4, b5⟩ := hA o f hv
  refine ⟨⟨by rw [h2]; exact hz, hn1⟩, ⟨fun a ha => by rw [h3 a (by omega)]; exact hold a ha, fun a ca ha hc => by
    by_cases e : a = G.1 + gV σ o f - 1
    · rw [e, h1] at hc; rw [← Option.some.inj hc]; rfl
    · rw [h3 a e] at hc; exact hV a ca ha hc⟩, ?_, ?_, ?_, hP, hS⟩
  · intro o' ci' r' g1 g2 g3 g4
    obtain ⟨hob, hfo⟩ := hO o' ci' r' g1 g2 g3 g4
    have hci := cl_lt g4
    have g3' : gK σ o' = ci' + 1 := g3
    have hne : gV σ o f ≠ o' := fun e => by rw [e, g3'] at b2; omega
    exact ⟨hob.kept (h3 _ (by omega)), hfo⟩
  · intro o' f' hv'
    have hv2 : gV σ o' f' ≠ 0 := hv'
    by_cases e : o' = o ∧ f' = f
    · obtain ⟨e1, e2⟩ := e
      subst e1; subst e2
      refine ⟨b1, b2, b3, ?_, fun j hj => ?_⟩
      · show H'[G.1 + gV σ o' f' - 1]? = some (arrV _ _ (fun j => eVal G _ (gA (sB σ o' f' g) o' f' j)))
        rw [gA_sB, if_pos ⟨rfl, rfl⟩]
        exact h1
      · show eOk σ _ (gA (sB σ o' f' g) o' f' j)
        rw [gA_sB, if_pos ⟨rfl, rfl⟩]
        exact hok j hj
    · obtain ⟨c1, c2, c3, c4, c5⟩ := hA o' f' hv2
      have hne : gV σ o' f' ≠ gV σ o f := fun q => e (hU.1 o' f' o f hv2 q)
      refine ⟨c1, c2, c3, ?_, fun j hj => ?_⟩
      · show H'[G.1 + gV σ o' f' - 1]? = some (arrV _ _ (fun j => eVal G _ (gA (sB σ o f g) o' f' j)))
        rw [gA_sB, if_neg e, h3 _ (by omega)]
        exact c4
      · show eOk σ _ (gA (sB σ o f g) o' f' j)
        rw [gA_sB, if_neg e]
        exact c5 j hj
  · obtain ⟨u1, u2, u3, u4, u5⟩ := hU
    refine ⟨u1, u2, fun o' ho' => ?_, u4, u5⟩
    obtain ⟨w1, w2⟩ := u3 o' ho'
    refine ⟨w1, fun f' => ⟨(w2 f').1, (w2 f').2.1, fun i => ?_⟩⟩
    rw [gA_sB, if_neg (fun q => hfr o' ho' q.1)]
    exact (w2 f').2.2 i
theorem sA_sB (σ : Sg) (o k i : Nat) (v : Int) : sA σ o k i v = sB σ o k (u1 (gA σ o k) i v) := rfl
theorem rep_sA {G : Gp} {ph : Nat} {σ : Sg} {H H' : Heap} {o f i : Nat} {x : Int} (hR : Rep G ph σ H) (hv : gV σ o f ≠ 0) (hok : eOk σ (gK σ (gV σ o f) - 100) x)
    (h1 : H'[G.1 + gV σ o f - 1]? = some ((arrV (G.2.2.2.1 (gK σ (gV σ o f) - 100)) (gL σ o f) (fun j => eVal G (gK σ (gV σ o f) - 100) (gA σ o f j))).setSlot i (eVal G (gK σ (gV σ o f) - 100) x))) (h2 : H'.size = H.size) (h3 : ∀ a, a ≠ G.1 + gV σ o f - 1 → H'[a]? = H[a]?) : Rep G ph (sA σ o f i x) H' := by
  rw [sA_sB]
  have hlo := (hR.2.2.2.2.1.2.2.2.2 o f hv).1
  refine rep_sB hR hv (fun j hj => ?_) (fun o' ho' => by omega) ?_ h2 h3
  · unfold u1
    split
    · exact hok
    · exact (hR.2.2.2.1 o f hv).2.2.2.2 j hj
  · rw [h1, arrV_store]
    congr 1
    congr 1
    funext j
    unfold updV u1
    split <;> rfl
