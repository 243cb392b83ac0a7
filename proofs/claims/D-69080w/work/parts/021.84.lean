set_option linter.all false
section
/-! the model: words, numbers, signs  -/
set_option maxRecDepth 100000
def MyW (σ : Sg) : Prop := gL σ 120 1 = 19 ∧ ∀ i : Nat, i < 19 → gA σ 120 1 i = -(200 + (i : Int))
theorem wS_str : ∀ k : Nat, k < 19 → strOf (-(200 + (k : Int))) = some (tS (33 + k)) := by
  decide +kernel
theorem m_wordOf {k p n : Nat} {ai li : Int} {X : Tx} {σ : Sg} {Q : Option AV → Sg → Prop} {E : Int → Sg → Prop} (hk : 6 ≤ k) (hS : MyS σ X) (hW : MyW σ) (hp : p + n ≤ X.2) (ha : ai = (p : Int)) (hl : li = (n : Int)) (hQ : ∀ x, (spl X p n 60 33 = 1 → x = if 30 < n then 1 else 2) → (spl X p n 60 33 ≠ 1 → x = 300 + ((spl X p n 60 33 : Int) - 33)) → Q (some (vI x)) σ) : Ct 2 246 k [vO 120, vI ai, vI li] σ Q E := by
  subst ha hl
  have s1 := hS.1
  have s2 := hS.2.1
  have s4 := hS.2.2
  have w1 := hW.1
  have outer : ∀ (m j : Nat) (w4 w5 : Option AV), 19 - j < m → j ≤ 19 → spl X p n 60 33 = spl X p n 60 (33 + j) → Jx (mdT 246 [vO 120, vI (p : Int), vI (n : Int)]) 2 246 k [vO 120, vI (p : Int), vI (n : Int)] σ Q E 2 [some (vO 120), some (vI (p : Int)), some (vI (n : Int)), some (vI (j : Int)), w4, w5] [] σ := by
    intro m
    induction m with
    | zero => intro j w4 w5 h; omega
    | succ m ih =>
      intro j w4 w5 hm hj hsp
      rcases Nat.lt_or_ge j 19 with hj2 | hj2
      · have hg := hW.2 j hj2
        have hstr := wS_str j hj2
        rw [← hg] at hstr
        have hso : (strOf (gA σ 120 1 j)).isSome = true := by rw [hstr]; rfl
        have inner : ∀ (mₚ q : Nat) (s : Int), n - q < mₚ → ((s = 1 ∧ (tS (33 + j)).length = n ∧ ∀ qₚ, qₚ < q → lk X (p + qₚ) = (tS (33 + j)).getD qₚ 0) ∨ (s = 0 ∧ ¬ mt X p n (33 + j))) → Jx (mdT 246 [vO 120, vI (p : Int), vI (n : Int)]) 2 246 k [vO 120, vI (p : Int), vI (n : Int)] σ Q E 34 [some (vO 120), some (vI (p : Int)), some (vI (n : Int)), some (vI (j : Int)), some (vI s), some (vI (q : Int))] [] σ := by
          intro mₚ
          induction mₚ with
          | zero => intro q s h; omega
          | succ mₚ ihₚ =>
            intro q s hmₚ hc
            have hs01 : s = 0 ∨ s = 1 := by rcases hc with ⟨h, -⟩ | ⟨h, -⟩ <;> omega
            have hyes : s = 1 → n ≤ q → mt X p n (33 + j) := fun h hₚ => by
              rcases hc with ⟨_, h1, h2⟩ | ⟨h1, _⟩
              · exact ⟨h1, fun qₚ hqₚ => h2 qₚ (by omega)⟩
              · omega
            have hno : s = 0 → ¬ mt X p n (33 + j) := fun h => by
              rcases hc with ⟨h1, _⟩ | ⟨_, h2⟩
              · omega
              · exact h2
            have e1 : p + q < X.2 → gA σ 120 2 (p + q) = X.1 (p + q) := s4 (p + q)
            have e2 : p + q < X.2 → lk X (p + q) = X.1 (p + q) := fun h => by unfold lk; rw [if_pos h]
            refine jx_seg (il := (fun _ => false)) (mc := true) (fun _ => grow_ok) 90 [2, 34] (by decide) rfl ?_
            repeat' (first | refine And.intro ?_ ?_ | (with_reducible intro c; try simp only [cmpI, cmpN, Classical.not_not, not_true_eq_false, not_false_eq_true, Int.reduceToNat, Int.toNat_natCast, tN_add, tN_add1, tN_sub1, gF_sF, gA_sF, gL_sF, gV_sF, gF_sA, gA_sA, gL_sA, gV_sA, gF_sB, gA_sB, gL_sB, gV_sB, gF_nA, gA_nA, gL_nA, gV_nA, gT_nA, gF_mV, gA_mV, gL_mV, gV_mV, gT_mV, gT_sB, gT_sA, gT_sF, gK_sF, gK_sA, gK_sB, gF_grw, gT_grw, gL_grw, gA_grw, gC_grw, gD_grw, gC_sF, gC_sA, gD_sF, gD_sA, Nat.reduceLT, elT, Nat.reduceEqDiff, eq_self, and_self, and_true, true_and, and_false, false_and, reduceIte, fbB, qc_14_3, qc_15_2, qc_17_2, sbB, fb_15_5] at c))
            all_goals (try first | exact rfl | exact True.intro | with_reducible assumption | omega | (simp only [Int.reduceToNat, Int.toNat_natCast, tN_add, tN_add1, tN_sub1, gF_sF, gA_sF, gL_sF, gV_sF, gF_sA, gA_sA, gL_sA, gV_sA, gF_sB, gA_sB, gL_sB, gV_sB, gF_nA, gA_nA, gL_nA, gV_nA, gT_nA, gF_mV, gA_mV, gL_mV, gV_mV, gT_mV, gT_sB, gT_sA, gT_sF, gK_sF, gK_sA, gK_sB, gF_grw, gT_grw, gL_grw, gA_grw, gC_grw, gD_grw, gC_sF, gC_sA, gD_sF, gD_sA, Nat.reduceLT, elT, Nat.reduceEqDiff, eq_self, and_self, and_true, true_and, and_false, false_and, reduceIte, fbB, qc_14_3, qc_15_2, qc_17_2, sbB, fb_15_5]; first | done | with_reducible assumption | omega) | (simp only [Int.reduceToNat, Int.toNat_natCast, tN_add, tN_add1, tN_sub1, gF_sF, gA_sF, gL_sF, gV_sF, gF_sA, gA_sA, gL_sA, gV_sA, gF_sB, gA_sB, gL_sB, gV_sB, gF_nA, gA_nA, gL_nA, gV_nA, gT_nA, gF_mV, gA_mV, gL_mV, gV_mV, gT_mV, gT_sB, gT_sA, gT_sF, gK_sF, gK_sA, gK_sB, gF_grw, gT_grw, gL_grw, gA_grw, gC_grw, gD_grw, gC_sF, gC_sA, gD_sF, gD_sA, Nat.reduceLT, elT, Nat.reduceEqDiff, eq_self, and_self, and_true, true_and, and_false, false_and, reduceIte, fbB, qc_14_3, qc_15_2, qc_17_2, sbB, fb_15_5, grl]; split <;> omega) | (show 2 * gL _ _ _ ≤ gL _ _ _; simp only [Int.reduceToNat, Int.toNat_natCast, tN_add, tN_add1, tN_sub1, gF_sF, gA_sF, gL_sF, gV_sF, gF_sA, gA_sA, gL_sA, gV_sA, gF_sB, gA_sB, gL_sB, gV_sB, gF_nA, gA_nA, gL_nA, gV_nA, gT_nA, gF_mV, gA_mV, gL_mV, gV_mV, gT_mV, gT_sB, gT_sA, gT_sF, gK_sF, gK_sA, gK_sB, gF_grw, gT_grw, gL_grw, gA_grw, gC_grw, gD_grw, gC_sF, gC_sA, gD_sF, gD_sA, Nat.reduceLT, elT, Nat.reduceEqDiff, eq_self, and_self, and_true, true_and, and_false, false_and, reduceIte, fbB, qc_14_3, qc_15_2, qc_17_2, sbB, fb_15_5]; omega) | (simp only [Int.reduceToNat, Int.toNat_natCast, tN_add, tN_add1, tN_sub1, gF_sF, gA_sF, gL_sF, gV_sF, gF_sA, gA_sA, gL_sA, gV_sA, gF_sB, gA_sB, gL_sB, gV_sB, gF_nA, gA_nA, gL_nA, gV_nA, gT_nA, gF_mV, gA_mV, gL_mV, gV_mV, gT_mV, gT_sB, gT_sA, gT_sF, gK_sF, gK_sA, gK_sB, gF_grw, gT_grw, gL_grw, gA_grw, gC_grw, gD_grw, gC_sF, gC_sA, gD_sF, gD_sA, Nat.reduceLT, elT, Nat.reduceEqDiff, eq_self, and_self, and_true, true_and, and_false, false_and, reduceIte, fbB, qc_14_3, qc_15_2, qc_17_2, sbB, fb_15_5, gK_grw, gN_grw, hN0, hK0]; done))
            · exact ih (j + 1) _ _ (by omega) (by omega) (by rw [hsp, spl_no (by omega) (hno (by assumption))]; rfl)
            · have hy := spl_yes (X := X) (i := p) (n := n) (k := 33 + j) (by omega) (hyes (by omega) (by omega))
              exact hQ _ (fun h => by omega) (fun _ => by omega)
            · exact ih (j + 1) _ _ (by omega) (by omega) (by rw [hsp, spl_no (by omega) (hno (by assumption))]; rfl)
            · have hs1 : s = 1 := by omega
              obtain ⟨h1, h2⟩ : (tS (33 + j)).length = n ∧ ∀ qₚ, qₚ < q → lk X (p + qₚ) = (tS (33 + j)).getD qₚ 0 := by
                rcases hc with ⟨_, h1, h2⟩ | ⟨h1, _⟩
                · exact ⟨h1, h2⟩
                · omega
              refine ct_up rfl (c_chr (r := gA σ 120 1 j) (n := q) ?_ hstr rfl ?_ (fun z hz => ?_))
              all_goals (try first | exact rfl | exact True.intro | with_reducible assumption | omega | (simp only [Int.reduceToNat, Int.toNat_natCast, tN_add, tN_add1, tN_sub1, gF_sF, gA_sF, gL_sF, gV_sF, gF_sA, gA_sA, gL_sA, gV_sA, gF_sB, gA_sB, gL_sB, gV_sB, gF_nA, gA_nA, gL_nA, gV_nA, gT_nA, gF_mV, gA_mV, gL_mV, gV_mV, gT_mV, gT_sB, gT_sA, gT_sF, gK_sF, gK_sA, gK_sB, gF_grw, gT_grw, gL_grw, gA_grw, gC_grw, gD_grw, gC_sF, gC_sA, gD_sF, gD_sA, Nat.reduceLT, elT, Nat.reduceEqDiff, eq_self, and_self, and_true, true_and, and_false, false_and, reduceIte, fbB, qc_14_3, qc_15_2, qc_17_2, sbB, fb_15_5]; first | done | with_reducible assumption | omega) | (simp only [Int.reduceToNat, Int.toNat_natCast, tN_add, tN_add1, tN_sub1, gF_sF, gA_sF, gL_sF, gV_sF, gF_sA, gA_sA, gL_sA, gV_sA, gF_sB, gA_sB, gL_sB, gV_sB, gF_nA, gA_nA, gL_nA, gV_nA, gT_nA, gF_mV, gA_mV, gL_mV, gV_mV, gT_mV, gT_sB, gT_sA, gT_sF, gK_sF, gK_sA, gK_sB, gF_grw, gT_grw, gL_grw, gA_grw, gC_grw, gD_grw, gC_sF, gC_sA, gD_sF, gD_sA, Nat.reduceLT, elT, Nat.reduceEqDiff, eq_self, and_self, and_true, true_and, and_false, false_and, reduceIte, fbB, qc_14_3, qc_15_2, qc_17_2, sbB, fb_15_5, grl]; split <;> omega) | (show 2 * gL _ _ _ ≤ gL _ _ _; simp only [Int.reduceToNat, Int.toNat_natCast, tN_add, tN_add1, tN_sub1, gF_sF, gA_sF, gL_sF, gV_sF, gF_sA, gA_sA, gL_sA, gV_sA, gF_sB, gA_sB, gL_sB, gV_sB, gF_nA, gA_nA, gL_nA, gV_nA, gT_nA, gF_mV, gA_mV, gL_mV, gV_mV, gT_mV, gT_sB, gT_sA, gT_sF, gK_sF, gK_sA, gK_sB, gF_grw, gT_grw, gL_grw, gA_grw, gC_grw, gD_grw, gC_sF, gC_sA, gD_sF, gD_sA, Nat.reduceLT, elT, Nat.reduceEqDiff, eq_self, and_self, and_true, true_and, and_false, false_and, reduceIte, fbB, qc_14_3, qc_15_2, qc_17_2, sbB, fb_15_5]; omega) | (simp only [Int.reduceToNat, Int.toNat_natCast, tN_add, tN_add1, tN_sub1, gF_sF, gA_sF, gL_sF, gV_sF, gF_sA, gA_sA, gL_sA, gV_sA, gF_sB, gA_sB, gL_sB, gV_sB, gF_nA, gA_nA, gL_nA, gV_nA, gT_nA, gF_mV, gA_mV, gL_mV, gV_mV, gT_mV, gT_sB, gT_sA, gT_sF, gK_sF, gK_sA, gK_sB, gF_grw, gT_grw, gL_grw, gA_grw, gC_grw, gD_grw, gC_sF, gC_sA, gD_sF, gD_sA, Nat.reduceLT, elT, Nat.reduceEqDiff, eq_self, and_self, and_true, true_and, and_false, false_and, reduceIte, fbB, qc_14_3, qc_15_2, qc_17_2, sbB, fb_15_5, gK_grw, gN_grw, hN0, hK0]; done))
              have e3 := e1 (by omega)
              have e4 := e2 (by omega)
              repeat' (first | refine And.intro ?_ ?_ | (with_reducible intro c; try simp only [cmpI, cmpN, Classical.not_not, not_true_eq_false, not_false_eq_true, Int.reduceToNat, Int.toNat_natCast, tN_add, tN_add1, tN_sub1, gF_sF, gA_sF, gL_sF, gV_sF, gF_sA, gA_sA, gL_sA, gV_sA, gF_sB, gA_sB, gL_sB, gV_sB, gF_nA, gA_nA, gL_nA, gV_nA, gT_nA, gF_mV, gA_mV, gL_mV, gV_mV, gT_mV, gT_sB, gT_sA, gT_sF, gK_sF, gK_sA, gK_sB, gF_grw, gT_grw, gL_grw, gA_grw, gC_grw, gD_grw, gC_sF, gC_sA, gD_sF, gD_sA, Nat.reduceLT, elT, Nat.reduceEqDiff, eq_self, and_self, and_true, true_and, and_false, false_and, reduceIte, fbB, qc_14_3, qc_15_2, qc_17_2, sbB, fb_15_5] at c))
              all_goals (try first | exact rfl | exact True.intro | with_reducible assumption | omega | (simp only [Int.reduceToNat, Int.toNat_natCast, tN_add, tN_add1, tN_sub1, gF_sF, gA_sF, gL_sF, gV_sF, gF_sA, gA_sA, gL_sA, gV_sA, gF_sB, gA_sB, gL_sB, gV_sB, gF_nA, gA_nA, gL_nA, gV_nA, gT_nA, gF_mV, gA_mV, gL_mV, gV_mV, gT_mV, gT_sB, gT_sA, gT_sF, gK_sF, gK_sA, gK_sB, gF_grw, gT_grw, gL_grw, gA_grw, gC_grw, gD_grw, gC_sF, gC_sA, gD_sF, gD_sA, Nat.reduceLT, elT, Nat.reduceEqDiff, eq_self, and_self, and_true, true_and, and_false, false_and, reduceIte, fbB, qc_14_3, qc_15_2, qc_17_2, sbB, fb_15_5]; first | done | with_reducible assumption | omega) | (simp only [Int.reduceToNat, Int.toNat_natCast, tN_add, tN_add1, tN_sub1, gF_sF, gA_sF, gL_sF, gV_sF, gF_sA, gA_sA, gL_sA, gV_sA, gF_sB, gA_sB, gL_sB, gV_sB, gF_nA, gA_nA, gL_nA, gV_nA, gT_nA, gF_mV, gA_mV, gL_mV, gV_mV, gT_mV, gT_sB, gT_sA, gT_sF, gK_sF, gK_sA, gK_sB, gF_grw, gT_grw, gL_grw, gA_grw, gC_grw, gD_grw, gC_sF, gC_sA, gD_sF, gD_sA, Nat.reduceLT, elT, Nat.reduceEqDiff, eq_self, and_self, and_true, true_and, and_false, false_and, reduceIte, fbB, qc_14_3, qc_15_2, qc_17_2, sbB, fb_15_5, grl]; split <;> omega) | (show 2 * gL _ _ _ ≤ gL _ _ _; simp only [Int.reduceToNat, Int.toNat_natCast, tN_add, tN_add1, tN_sub1, gF_sF, gA_sF, gL_sF, gV_sF, gF_sA, gA_sA, gL_sA, gV_sA, gF_sB, gA_sB, gL_sB, gV_sB, gF_nA, gA_nA, gL_nA, gV_nA, gT_nA, gF_mV, gA_mV, gL_mV, gV_mV, gT_mV, gT_sB, gT_sA, gT_sF, gK_sF, gK_sA, gK_sB, gF_grw, gT_grw, gL_grw, gA_grw, gC_grw, gD_grw, gC_sF, gC_sA, gD_sF, gD_sA, Nat.reduceLT, elT, Nat.reduceEqDiff, eq_self, and_self, and_true, true_and, and_false, false_and, reduceIte, fbB, qc_14_3, qc_15_2, qc_17_2, sbB, fb_15_5]; omega) | (simp only [Int.reduceToNat, Int.toNat_natCast, tN_add, tN_add1, tN_sub1, gF_sF, gA_sF, gL_sF, gV_sF, gF_sA, gA_sA, gL_sA, gV_sA, gF_sB, gA_sB, gL_sB, gV_sB, gF_nA, gA_nA, gL_nA, gV_nA, gT_nA, gF_mV, gA_mV, gL_mV, gV_mV, gT_mV, gT_sB, gT_sA, gT_sF, gK_sF, gK_sA, gK_sB, gF_grw, gT_grw, gL_grw, gA_grw, gC_grw, gD_grw, gC_sF, gC_sA, gD_sF, gD_sA, Nat.reduceLT, elT, Nat.reduceEqDiff, eq_self, and_self, and_true, true_and, and_false, false_and, reduceIte, fbB, qc_14_3, qc_15_2, qc_17_2, sbB, fb_15_5, gK_grw, gN_grw, hN0, hK0]; done))
              · refine ihₚ (q + 1) 0 (by omega) (Or.inr ⟨rfl, fun hm => ?_⟩)
                have := hm.2 q (by omega)
                omega
              · refine ihₚ (q + 1) 1 (by omega) (Or.inl ⟨rfl, h1, fun qₚ hqₚ => ?_⟩)
                by_cases hh : qₚ = q
                · rw [hh]; omega
                · exact h2 qₚ (by omega)
        refine jx_seg (il := (fun _ => false)) (mc := true) (fun _ => grow_ok) 90 [2, 34] (by decide) rfl ?_
        repeat' (first | refine And.intro ?_ ?_ | (with_reducible intro c; try simp only [cmpI, cmpN, Classical.not_not, not_true_eq_false, not_false_eq_true, Int.reduceToNat, Int.toNat_natCast, tN_add, tN_add1, tN_sub1, gF_sF, gA_sF, gL_sF, gV_sF, gF_sA, gA_sA, gL_sA, gV_sA, gF_sB, gA_sB, gL_sB, gV_sB, gF_nA, gA_nA, gL_nA, gV_nA, gT_nA, gF_mV, gA_mV, gL_mV, gV_mV, gT_mV, gT_sB, gT_sA, gT_sF, gK_sF, gK_sA, gK_sB, gF_grw, gT_grw, gL_grw, gA_grw, gC_grw, gD_grw, gC_sF, gC_sA, gD_sF, gD_sA, Nat.reduceLT, elT, Nat.reduceEqDiff, eq_self, and_self, and_true, true_and, and_false, false_and, reduceIte, fbB, qc_14_3, qc_15_2, qc_17_2, sbB, fb_15_5] at c))
        all_goals (try first | exact rfl | exact True.intro | with_reducible assumption | omega | (simp only [Int.reduceToNat, Int.toNat_natCast, tN_add, tN_add1, tN_sub1, gF_sF, gA_sF, gL_sF, gV_sF, gF_sA, gA_sA, gL_sA, gV_sA, gF_sB, gA_sB, gL_sB, gV_sB, gF_nA, gA_nA, gL_nA, gV_nA, gT_nA, gF_mV, gA_mV, gL_mV, gV_mV, gT_mV, gT_sB, gT_sA, gT_sF, gK_sF, gK_sA, gK_sB, gF_grw, gT_grw, gL_grw, gA_grw, gC_grw, gD_grw, gC_sF, gC_sA, gD_sF, gD_sA, Nat.reduceLT, elT, Nat.reduceEqDiff, eq_self, and_self, and_true, true_and, and_false, false_and, reduceIte, fbB, qc_14_3, qc_15_2, qc_17_2, sbB, fb_15_5]; first | done | with_reducible assumption | omega) | (simp only [Int.reduceToNat, Int.toNat_natCast, tN_add, tN_add1, tN_sub1, gF_sF, gA_sF, gL_sF, gV_sF, gF_sA, gA_sA, gL_sA, gV_sA, gF_sB, gA_sB, gL_sB, gV_sB, gF_nA, gA_nA, gL_nA, gV_nA, gT_nA, gF_mV, gA_mV, gL_mV, gV_mV, gT_mV, gT_sB, gT_sA, gT_sF, gK_sF, gK_sA, gK_sB, gF_grw, gT_grw, gL_grw, gA_grw, gC_grw, gD_grw, gC_sF, gC_sA, gD_sF, gD_sA, Nat.reduceLT, elT, Nat.reduceEqDiff, eq_self, and_self, and_true, true_and, and_false, false_and, reduceIte, fbB, qc_14_3, qc_15_2, qc_17_2, sbB, fb_15_5, grl]; split <;> omega) | (show 2 * gL _ _ _ ≤ gL _ _ _; simp only [Int.reduceToNat, Int.toNat_natCast, tN_add, tN_add1, tN_sub1, gF_sF, gA_sF, gL_sF, gV_sF, gF_sA, gA_sA, gL_sA, gV_sA, gF_sB, gA_sB, gL_sB, gV_sB, gF_nA, gA_nA, gL_nA, gV_nA, gT_nA, gF_mV, gA_mV, gL_mV, gV_mV, gT_mV, gT_sB, gT_sA, gT_sF, gK_sF, gK_sA, gK_sB, gF_grw, gT_grw, gL_grw, gA_grw, gC_grw, gD_grw, gC_sF, gC_sA, gD_sF, gD_sA, Nat.reduceLT, elT, Nat.reduceEqDiff, eq_self, and_self, and_true, true_and, and_false, false_and, reduceIte, fbB, qc_14_3, qc_15_2, qc_17_2, sbB, fb_15_5]; omega) | (simp only [Int.reduceToNat, Int.toNat_natCast, tN_add, tN_add1, tN_sub1, gF_sF, gA_sF, gL_sF, gV_sF, gF_sA, gA_sA, gL_sA, gV_sA, gF_sB, gA_sB, gL_sB, gV_sB, gF_nA, gA_nA, gL_nA, gV_nA, gT_nA, gF_mV, gA_mV, gL_mV, gV_mV, gT_mV, gT_sB, gT_sA, gT_sF, gK_sF, gK_sA, gK_sB, gF_grw, gT_grw, gL_grw, gA_grw, gC_grw, gD_grw, gC_sF, gC_sA, gD_sF, gD_sA, Nat.reduceLT, elT, Nat.reduceEqDiff, eq_self, and_self, and_true, true_and, and_false, false_and, reduceIte, fbB, qc_14_3, qc_15_2, qc_17_2, sbB, fb_15_5, gK_grw, gN_grw, hN0, hK0]; done))
        refine ct_up rfl (c_slen (r := gA σ 120 1 j) (cs := tS (33 + j)) ?_ hstr (fun x hx => ?_))
        · omega
        repeat' (first | refine And.intro ?_ ?_ | (with_reducible intro c; try simp only [cmpI, cmpN, Classical.not_not, not_true_eq_false, not_false_eq_true, Int.reduceToNat, Int.toNat_natCast, tN_add, tN_add1, tN_sub1, gF_sF, gA_sF, gL_sF, gV_sF, gF_sA, gA_sA, gL_sA, gV_sA, gF_sB, gA_sB, gL_sB, gV_sB, gF_nA, gA_nA, gL_nA, gV_nA, gT_nA, gF_mV, gA_mV, gL_mV, gV_mV, gT_mV, gT_sB, gT_sA, gT_sF, gK_sF, gK_sA, gK_sB, gF_grw, gT_grw, gL_grw, gA_grw, gC_grw, gD_grw, gC_sF, gC_sA, gD_sF, gD_sA, Nat.reduceLT, elT, Nat.reduceEqDiff, eq_self, and_self, and_true, true_and, and_false, false_and, reduceIte, fbB, qc_14_3, qc_15_2, qc_17_2, sbB, fb_15_5] at c))
        all_goals (try first | exact rfl | exact True.intro | with_reducible assumption | omega | (simp only [Int.reduceToNat, Int.toNat_natCast, tN_add, tN_add1, tN_sub1, gF_sF, gA_sF, gL_sF, gV_sF, gF_sA, gA_sA, gL_sA, gV_sA, gF_sB, gA_sB, gL_sB, gV_sB, gF_nA, gA_nA, gL_nA, gV_nA, gT_nA, gF_mV, gA_mV, gL_mV, gV_mV, gT_mV, gT_sB, gT_sA, gT_sF, gK_sF, gK_sA, gK_sB, gF_grw, gT_grw, gL_grw, gA_grw, gC_grw, gD_grw, gC_sF, gC_sA, gD_sF, gD_sA, Nat.reduceLT, elT, Nat.reduceEqDiff, eq_self, and_self, and_true, true_and, and_false, false_and, reduceIte, fbB, qc_14_3, qc_15_2, qc_17_2, sbB, fb_15_5]; first | done | with_reducible assumption | omega) | (simp only [Int.reduceToNat, Int.toNat_natCast, tN_add, tN_add1, tN_sub1, gF_sF, gA_sF, gL_sF, gV_sF, gF_sA, gA_sA, gL_sA, gV_sA, gF_sB, gA_sB, gL_sB, gV_sB, gF_nA, gA_nA, gL_nA, gV_nA, gT_nA, gF_mV, gA_mV, gL_mV, gV_mV, gT_mV, gT_sB, gT_sA, gT_sF, gK_sF, gK_sA, gK_sB, gF_grw, gT_grw, gL_grw, gA_grw, gC_grw, gD_grw, gC_sF, gC_sA, gD_sF, gD_sA, Nat.reduceLT, elT, Nat.reduceEqDiff, eq_self, and_self, and_true, true_and, and_false, false_and, reduceIte, fbB, qc_14_3, qc_15_2, qc_17_2, sbB, fb_15_5, grl]; split <;> omega) | (show 2 * gL _ _ _ ≤ gL _ _ _; simp only [Int.reduceToNat, Int.toNat_natCast, tN_add, tN_add1, tN_sub1, gF_sF, gA_sF, gL_sF, gV_sF, gF_sA, gA_sA, gL_sA, gV_sA, gF_sB, gA_sB, gL_sB, gV_sB, gF_nA, gA_nA, gL_nA, gV_nA, gT_nA, gF_mV, gA_mV, gL_mV, gV_mV, gT_mV, gT_sB, gT_sA, gT_sF, gK_sF, gK_sA, gK_sB, gF_grw, gT_grw, gL_grw, gA_grw, gC_grw, gD_grw, gC_sF, gC_sA, gD_sF, gD_sA, Nat.reduceLT, elT, Nat.reduceEqDiff, eq_self, and_self, and_true, true_and, and_false, false_and, reduceIte, fbB, qc_14_3, qc_15_2, qc_17_2, sbB, fb_15_5]; omega) | (simp only [Int.reduceToNat, Int.toNat_natCast, tN_add, tN_add1, tN_sub1, gF_sF, gA_sF, gL_sF, gV_sF, gF_sA, gA_sA, gL_sA, gV_sA, gF_sB, gA_sB, gL_sB, gV_sB, gF_nA, gA_nA, gL_nA, gV_nA, gT_nA, gF_mV, gA_mV, gL_mV, gV_mV, gT_mV, gT_sB, gT_sA, gT_sF, gK_sF, gK_sA, gK_sB, gF_grw, gT_grw, gL_grw, gA_grw, gC_grw, gD_grw, gC_sF, gC_sA, gD_sF, gD_sA, Nat.reduceLT, elT, Nat.reduceEqDiff, eq_self, and_self, and_true, true_and, and_false, false_and, reduceIte, fbB, qc_14_3, qc_15_2, qc_17_2, sbB, fb_15_5, gK_grw, gN_grw, hN0, hK0]; done))
        · refine inner (n + 1) 0 0 (by omega) (Or.inr ⟨rfl, fun hm => ?_⟩)
          have := hm.1
          omega
        · exact inner (n + 1) 0 1 (by omega) (Or.inl ⟨rfl, by omega, fun qₚ h => absurd h (by omega)⟩)
      · have hz : spl X p n 60 33 = 1 := by rw [hsp, spl_end (by omega)]
        refine jx_seg (il := (fun _ => false)) (mc := true) (fun _ => grow_ok) 90 [2, 34] (by decide) rfl ?_
        repeat' (first | refine And.intro ?_ ?_ | (with_reducible intro c; try simp only [cmpI, cmpN, Classical.not_not, not_true_eq_false, not_false_eq_true, Int.reduceToNat, Int.toNat_natCast, tN_add, tN_add1, tN_sub1, gF_sF, gA_sF, gL_sF, gV_sF, gF_sA, gA_sA, gL_sA, gV_sA, gF_sB, gA_sB, gL_sB, gV_sB, gF_nA, gA_nA, gL_nA, gV_nA, gT_nA, gF_mV, gA_mV, gL_mV, gV_mV, gT_mV, gT_sB, gT_sA, gT_sF, gK_sF, gK_sA, gK_sB, gF_grw, gT_grw, gL_grw, gA_grw, gC_grw, gD_grw, gC_sF, gC_sA, gD_sF, gD_sA, Nat.reduceLT, elT, Nat.reduceEqDiff, eq_self, and_self, and_true, true_and, and_false, false_and, reduceIte, fbB, qc_14_3, qc_15_2, qc_17_2, sbB, fb_15_5] at c))
        all_goals (try first | exact rfl | exact True.intro | with_reducible assumption | omega | (simp only [Int.reduceToNat, Int.toNat_natCast, tN_add, tN_add1, tN_sub1, gF_sF, gA_sF, gL_sF, gV_sF, gF_sA, gA_sA, gL_sA, gV_sA, gF_sB, gA_sB, gL_sB, gV_sB, gF_nA, gA_nA, gL_nA, gV_nA, gT_nA, gF_mV, gA_mV, gL_mV, gV_mV, gT_mV, gT_sB, gT_sA, gT_sF, gK_sF, gK_sA, gK_sB, gF_grw, gT_grw, gL_grw, gA_grw, gC_grw, gD_grw, gC_sF, gC_sA, gD_sF, gD_sA, Nat.reduceLT, elT, Nat.reduceEqDiff, eq_self, and_self, and_true, true_and, and_false, false_and, reduceIte, fbB, qc_14_3, qc_15_2, qc_17_2, sbB, fb_15_5]; first | done | with_reducible assumption | omega) | (simp only [Int.reduceToNat, Int.toNat_natCast, tN_add, tN_add1, tN_sub1, gF_sF, gA_sF, gL_sF, gV_sF, gF_sA, gA_sA, gL_sA, gV_sA, gF_sB, gA_sB, gL_sB, gV_sB, gF_nA, gA_nA, gL_nA, gV_nA, gT_nA, gF_mV, gA_mV, gL_mV, gV_mV, gT_mV, gT_sB, gT_sA, gT_sF, gK_sF, gK_sA, gK_sB, gF_grw, gT_grw, gL_grw, gA_grw, gC_grw, gD_grw, gC_sF, gC_sA, gD_sF, gD_sA, Nat.reduceLT, elT, Nat.reduceEqDiff, eq_self, and_self, and_true, true_and, and_false, false_and, reduceIte, fbB, qc_14_3, qc_15_2, qc_17_2, sbB, fb_15_5, grl]; split <;> omega) | (show 2 * gL _ _ _ ≤ gL _ _ _; simp only [Int.reduceToNat, Int.toNat_natCast, tN_add, tN_add1, tN_sub1, gF_sF, gA_sF, gL_sF, gV_sF, gF_sA, gA_sA, gL_sA, gV_sA, gF_sB, gA_sB, gL_sB, gV_sB, gF_nA, gA_nA, gL_nA, gV_nA, gT_nA, gF_mV, gA_mV, gL_mV, gV_mV, gT_mV, gT_sB, gT_sA, gT_sF, gK_sF, gK_sA, gK_sB, gF_grw, gT_grw, gL_grw, gA_grw, gC_grw, gD_grw, gC_sF, gC_sA, gD_sF, gD_sA, Nat.reduceLT, elT, Nat.reduceEqDiff, eq_self, and_self, and_true, true_and, and_false, false_and, reduceIte, fbB, qc_14_3, qc_15_2, qc_17_2, sbB, fb_15_5]; omega) | (simp only [Int.reduceToNat, Int.toNat_natCast, tN_add, tN_add1, tN_sub1, gF_sF, gA_sF, gL_sF, gV_sF, gF_sA, gA_sA, gL_sA, gV_sA, gF_sB, gA_sB, gL_sB, gV_sB, gF_nA, gA_nA, gL_nA, gV_nA, gT_nA, gF_mV, gA_mV, gL_mV, gV_mV, gT_mV, gT_sB, gT_sA, gT_sF, gK_sF, gK_sA, gK_sB, gF_grw, gT_grw, gL_grw, gA_grw, gC_grw, gD_grw, gC_sF, gC_sA, gD_sF, gD_sA, Nat.reduceLT, elT, Nat.reduceEqDiff, eq_self, and_self, and_true, true_and, and_false, false_and, reduceIte, fbB, qc_14_3, qc_15_2, qc_17_2, sbB, fb_15_5, gK_grw, gN_grw, hN0, hK0]; done))
        · exact hQ _ (fun _ => by rw [if_neg (by omega)]) (fun h => absurd hz h)
        · exact hQ _ (fun _ => by rw [if_pos (by omega)]) (fun h => absurd hz h)
  refine ct_seg (il := (fun _ => false)) (mc := true) (fun _ => grow_ok) 60 [2] (by decide) (Nat.le_of_ble_eq_true rfl) ?_
  exact outer 20 0 none none (by omega) (by omega) rfl
theorem m_isNumber {k p n : Nat} {ai li : Int} {X : Tx} {σ : Sg} {Q : Option AV → Sg → Prop} {E : Int → Sg → Prop} (hk : 2 ≤ k) (hS : MyS σ X) (hp : p + n ≤ X.2) (hn1 : 1 ≤ n) (hdg : ∀ i, i < n → isDg (X.1 (p + i))) (hnd : ¬ (p + n < X.2 ∧ isDg (X.1 (p + n)))) (ha : ai = (p : Int)) (hl : li = (n : Int)) (hQ : ∀ x, (okN X p n → x = 1) → (¬ okN X p n → x = 0) → Q (some (vI x)) σ) : Ct 2 247 k [vO 120, vI ai, vI li] σ Q E := by
  subst ha hl
  have s1 := hS.1
  have s2 := hS.2.1
  have s4 := hS.2.2
  have mono : ∀ (m q : Nat), q + m ≤ n → nV X p q ≤ nV X p (q + m) := by
    intro m
    induction m with
    | zero => intro q _; exact Int.le_refl _
    | succ m ih =>
      intro q hq
      have h1 := ih q (by omega)
      have h2 := nV_nn (X := X) (p := p) (q := q + m) (fun i hi => hdg i (by omega))
      have h3 := hdg (q + m) (by omega)
      have h4 : nV X p (q + (m + 1)) = 10 * nV X p (q + m) + (X.1 (p + (q + m)) - 48) := rfl
      omega
  have loop : ∀ (m q : Nat) (v : Int), n - q < m → q ≤ n → v = nV X p q → (q = 0 ∨ nV X p (q - 1) ≤ 2147483647) → Jx (mdT 247 [vO 120, vI (p : Int), vI (n : Int)]) 2 247 k [vO 120, vI (p : Int), vI (n : Int)] σ Q E 5 [some (vO 120), some (vI (p : Int)), some (vI (n : Int)), some (vJ v), none, some (vI (q : Int))] [] σ := by
    intro m
    induction m with
    | zero => intro q v h; omega
    | succ m ih =>
      intro q v hm hq hv hpr
      have e1 : p + q < X.2 → gA σ 120 2 (p + q) = X.1 (p + q) := s4 (p + q)
      have e2 : gA σ 120 2 p = X.1 p := s4 p (by omega)
      have hnn := nV_nn (X := X) (p := p) (q := q) (fun i hi => hdg i (by omega))
      have hd : q < n → isDg (X.1 (p + q)) := hdg q
      have hmo := mono (n - q) q (by omega)
      rw [show q + (n - q) = n by omega] at hmo
      have big : 2147483647 < v → Q (some (vI 0)) σ := fun h => hQ _ (fun h2 => by have := h2.1; omega) (fun _ => rfl)
      have hw : v ≤ 2147483647 → w64 (10 * v) = 10 * v := fun h => w64_id ⟨by omega, by omega⟩
      rcases Nat.lt_or_ge q n with hqn | hqn
      · have e3 := e1 (by omega)
        have hd2 := hd hqn
        by_cases hb : 2147483647 < v
        · refine jx_seg (il := (fun _ => false)) (mc := true) (fun _ => grow_ok) 120 [5] (by decide) rfl ?_
          repeat' (first | refine And.intro ?_ ?_ | (with_reducible intro c; try simp only [cmpI, cmpN, Classical.not_not, not_true_eq_false, not_false_eq_true, Int.reduceToNat, Int.toNat_natCast, tN_add, tN_add1, tN_sub1, gF_sF, gA_sF, gL_sF, gV_sF, gF_sA, gA_sA, gL_sA, gV_sA, gF_sB, gA_sB, gL_sB, gV_sB, gF_nA, gA_nA, gL_nA, gV_nA, gT_nA, gF_mV, gA_mV, gL_mV, gV_mV, gT_mV, gT_sB, gT_sA, gT_sF, gK_sF, gK_sA, gK_sB, gF_grw, gT_grw, gL_grw, gA_grw, gC_grw, gD_grw, gC_sF, gC_sA, gD_sF, gD_sA, Nat.reduceLT, elT, Nat.reduceEqDiff, eq_self, and_self, and_true, true_and, and_false, false_and, reduceIte, fbB, qc_14_3, qc_15_2, qc_17_2, sbB, fb_15_5] at c))
          all_goals (try first | exact rfl | exact True.intro | with_reducible assumption | omega | (simp only [Int.reduceToNat, Int.toNat_natCast, tN_add, tN_add1, tN_sub1, gF_sF, gA_sF, gL_sF, gV_sF, gF_sA, gA_sA, gL_sA, gV_sA, gF_sB, gA_sB, gL_sB, gV_sB, gF_nA, gA_nA, gL_nA, gV_nA, gT_nA, gF_mV, gA_mV, gL_mV, gV_mV, gT_mV, gT_sB, gT_sA, gT_sF, gK_sF, gK_sA, gK_sB, gF_grw, gT_grw, gL_grw, gA_grw, gC_grw, gD_grw, gC_sF, gC_sA, gD_sF, gD_sA, Nat.reduceLT, elT, Nat.reduceEqDiff, eq_self, and_self, and_true, true_and, and_false, false_and, reduceIte, fbB, qc_14_3, qc_15_2, qc_17_2, sbB, fb_15_5]; first | done | with_reducible assumption | omega) | (simp only [Int.reduceToNat, Int.toNat_natCast, tN_add, tN_add1, tN_sub1, gF_sF, gA_sF, gL_sF, gV_sF, gF_sA, gA_sA, gL_sA, gV_sA, gF_sB, gA_sB, gL_sB, gV_sB, gF_nA, gA_nA, gL_nA, gV_nA, gT_nA, gF_mV, gA_mV, gL_mV, gV_mV, gT_mV, gT_sB, gT_sA, gT_sF, gK_sF, gK_sA, gK_sB, gF_grw, gT_grw, gL_grw, gA_grw, gC_grw, gD_grw, gC_sF, gC_sA, gD_sF, gD_sA, Nat.reduceLT, elT, Nat.reduceEqDiff, eq_self, and_self, and_true, true_and, and_false, false_and, reduceIte, fbB, qc_14_3, qc_15_2, qc_17_2, sbB, fb_15_5, grl]; split <;> omega) | (show 2 * gL _ _ _ ≤ gL _ _ _; simp only [Int.reduceToNat, Int.toNat_natCast, tN_add, tN_add1, tN_sub1, gF_sF, gA_sF, gL_sF, gV_sF, gF_sA, gA_sA, gL_sA, gV_sA, gF_sB, gA_sB, gL_sB, gV_sB, gF_nA, gA_nA, gL_nA, gV_nA, gT_nA, gF_mV, gA_mV, gL_mV, gV_mV, gT_mV, gT_sB, gT_sA, gT_sF, gK_sF, gK_sA, gK_sB, gF_grw, gT_grw, gL_grw, gA_grw, gC_grw, gD_grw, gC_sF, gC_sA, gD_sF, gD_sA, Nat.reduceLT, elT, Nat.reduceEqDiff, eq_self, and_self, and_true, true_and, and_false, false_and, reduceIte, fbB, qc_14_3, qc_15_2, qc_17_2, sbB, fb_15_5]; omega) | (simp only [Int.reduceToNat, Int.toNat_natCast, tN_add, tN_add1, tN_sub1, gF_sF, gA_sF, gL_sF, gV_sF, gF_sA, gA_sA, gL_sA, gV_sA, gF_sB, gA_sB, gL_sB, gV_sB, gF_nA, gA_nA, gL_nA, gV_nA, gT_nA, gF_mV, gA_mV, gL_mV, gV_mV, gT_mV, gT_sB, gT_sA, gT_sF, gK_sF, gK_sA, gK_sB, gF_grw, gT_grw, gL_grw, gA_grw, gC_grw, gD_grw, gC_sF, gC_sA, gD_sF, gD_sA, Nat.reduceLT, elT, Nat.reduceEqDiff, eq_self, and_self, and_true, true_and, and_false, false_and, reduceIte, fbB, qc_14_3, qc_15_2, qc_17_2, sbB, fb_15_5, gK_grw, gN_grw, hN0, hK0]; done))
          all_goals exact big hb
        · have hw2 := hw (by omega)
          refine jx_seg (il := (fun _ => false)) (mc := true) (fun _ => grow_ok) 120 [5] (by decide) rfl ?_
          repeat' (first | refine And.intro ?_ ?_ | (with_reducible intro c; try simp only [cmpI, cmpN, Classical.not_not, not_true_eq_false, not_false_eq_true, Int.reduceToNat, Int.toNat_natCast, tN_add, tN_add1, tN_sub1, gF_sF, gA_sF, gL_sF, gV_sF, gF_sA, gA_sA, gL_sA, gV_sA, gF_sB, gA_sB, gL_sB, gV_sB, gF_nA, gA_nA, gL_nA, gV_nA, gT_nA, gF_mV, gA_mV, gL_mV, gV_mV, gT_mV, gT_sB, gT_sA, gT_sF, gK_sF, gK_sA, gK_sB, gF_grw, gT_grw, gL_grw, gA_grw, gC_grw, gD_grw, gC_sF, gC_sA, gD_sF, gD_sA, Nat.reduceLT, elT, Nat.reduceEqDiff, eq_self, and_self, and_true, true_and, and_false, false_and, reduceIte, fbB, qc_14_3, qc_15_2, qc_17_2, sbB, fb_15_5] at c))
          all_goals (try first | exact rfl | exact True.intro | with_reducible assumption | omega | (simp only [Int.reduceToNat, Int.toNat_natCast, tN_add, tN_add1, tN_sub1, gF_sF, gA_sF, gL_sF, gV_sF, gF_sA, gA_sA, gL_sA, gV_sA, gF_sB, gA_sB, gL_sB, gV_sB, gF_nA, gA_nA, gL_nA, gV_nA, gT_nA, gF_mV, gA_mV, gL_mV, gV_mV, gT_mV, gT_sB, gT_sA, gT_sF, gK_sF, gK_sA, gK_sB, gF_grw, gT_grw, gL_grw, gA_grw, gC_grw, gD_grw, gC_sF, gC_sA, gD_sF, gD_sA, Nat.reduceLT, elT, Nat.reduceEqDiff, eq_self, and_self, and_true, true_and, and_false, false_and, reduceIte, fbB, qc_14_3, qc_15_2, qc_17_2, sbB, fb_15_5]; first | done | with_reducible assumption | omega) | (simp only [Int.reduceToNat, Int.toNat_natCast, tN_add, tN_add1, tN_sub1, gF_sF, gA_sF, gL_sF, gV_sF, gF_sA, gA_sA, gL_sA, gV_sA, gF_sB, gA_sB, gL_sB, gV_sB, gF_nA, gA_nA, gL_nA, gV_nA, gT_nA, gF_mV, gA_mV, gL_mV, gV_mV, gT_mV, gT_sB, gT_sA, gT_sF, gK_sF, gK_sA, gK_sB, gF_grw, gT_grw, gL_grw, gA_grw, gC_grw, gD_grw, gC_sF, gC_sA, gD_sF, gD_sA, Nat.reduceLT, elT, Nat.reduceEqDiff, eq_self, and_self, and_true, true_and, and_false, false_and, reduceIte, fbB, qc_14_3, qc_15_2, qc_17_2, sbB, fb_15_5, grl]; split <;> omega) | (show 2 * gL _ _ _ ≤ gL _ _ _; simp only [Int.reduceToNat, Int.toNat_natCast, tN_add, tN_add1, tN_sub1, gF_sF, gA_sF, gL_sF, gV_sF, gF_sA, gA_sA, gL_sA, gV_sA, gF_sB, gA_sB, gL_sB, gV_sB, gF_nA, gA_nA, gL_nA, gV_nA, gT_nA, gF_mV, gA_mV, gL_mV, gV_mV, gT_mV, gT_sB, gT_sA, gT_sF, gK_sF, gK_sA, gK_sB, gF_grw, gT_grw, gL_grw, gA_grw, gC_grw, gD_grw, gC_sF, gC_sA, gD_sF, gD_sA, Nat.reduceLT, elT, Nat.reduceEqDiff, eq_self, and_self, and_true, true_and, and_false, false_and, reduceIte, fbB, qc_14_3, qc_15_2, qc_17_2, sbB, fb_15_5]; omega) | (simp only [Int.reduceToNat, Int.toNat_natCast, tN_add, tN_add1, tN_sub1, gF_sF, gA_sF, gL_sF, gV_sF, gF_sA, gA_sA, gL_sA, gV_sA, gF_sB, gA_sB, gL_sB, gV_sB, gF_nA, gA_nA, gL_nA, gV_nA, gT_nA, gF_mV, gA_mV, gL_mV, gV_mV, gT_mV, gT_sB, gT_sA, gT_sF, gK_sF, gK_sA, gK_sB, gF_grw, gT_grw, gL_grw, gA_grw, gC_grw, gD_grw, gC_sF, gC_sA, gD_sF, gD_sA, Nat.reduceLT, elT, Nat.reduceEqDiff, eq_self, and_self, and_true, true_and, and_false, false_and, reduceIte, fbB, qc_14_3, qc_15_2, qc_17_2, sbB, fb_15_5, gK_grw, gN_grw, hN0, hK0]; done))
          refine ih (q + 1) _ (by omega) (by omega) ?_ (Or.inr (by rw [show q + 1 - 1 = q by omega]; omega))
          have h4 : nV X p (q + 1) = 10 * nV X p q + (X.1 (p + q) - 48) := rfl
          simp only [Int.reduceToNat, Int.toNat_natCast, tN_add, tN_add1, tN_sub1, gF_sF, gA_sF, gL_sF, gV_sF, gF_sA, gA_sA, gL_sA, gV_sA, gF_sB, gA_sB, gL_sB, gV_sB, gF_nA, gA_nA, gL_nA, gV_nA, gT_nA, gF_mV, gA_mV, gL_mV, gV_mV, gT_mV, gT_sB, gT_sA, gT_sF, gK_sF, gK_sA, gK_sB, gF_grw, gT_grw, gL_grw, gA_grw, gC_grw, gD_grw, gC_sF, gC_sA, gD_sF, gD_sA, Nat.reduceLT, elT, Nat.reduceEqDiff, eq_self, and_self, and_true, true_and, and_false, false_and, reduceIte, fbB, qc_14_3, qc_15_2, qc_17_2, sbB, fb_15_5]
          omega
      · have hqe : q = n := by omega
        subst hqe
        have fin : v ≤ 2147483647 → (q = 1 ∨ ¬ X.1 p = 48) → ∀ x, x = (if p + q < X.2 ∧ (isLt (X.1 (p + q)) ∨ isDg (X.1 (p + q))) then (1 : Int) else 0) → (x = 0 → okN X p q) ∧ (¬ x = 0 → ¬ okN X p q) := fun h1 h2 x hx => by
          have hlk : isLt (lk X (p + q)) ↔ (p + q < X.2 ∧ isLt (X.1 (p + q))) := by
            unfold lk
            by_cases c : p + q < X.2
            · rw [if_pos c]; exact ⟨fun h => ⟨c, h⟩, fun h => h.2⟩
            · rw [if_neg c]; exact ⟨fun h => by omega, fun h => absurd h.1 c⟩
          constructor
          · intro h0
            refine ⟨by omega, h2, fun hl => ?_⟩
            have := hlk.mp hl
            rw [if_pos ⟨this.1, Or.inl this.2⟩] at hx
            omega
          · intro h0 hok
            apply h0
            rw [hx, if_neg]
            intro h
            rcases h.2 with w | w
            · exact hok.2.2 (hlk.mpr ⟨h.1, w⟩)
            · exact hnd ⟨h.1, w⟩
        refine jx_seg (il := (fun _ => false)) (mc := true) (fun _ => grow_ok) 120 [5] (by decide) rfl ?_
        repeat' (first | refine And.intro ?_ ?_ | (with_reducible intro c; try simp only [cmpI, cmpN, Classical.not_not, not_true_eq_false, not_false_eq_true, Int.reduceToNat, Int.toNat_natCast, tN_add, tN_add1, tN_sub1, gF_sF, gA_sF, gL_sF, gV_sF, gF_sA, gA_sA, gL_sA, gV_sA, gF_sB, gA_sB, gL_sB, gV_sB, gF_nA, gA_nA, gL_nA, gV_nA, gT_nA, gF_mV, gA_mV, gL_mV, gV_mV, gT_mV, gT_sB, gT_sA, gT_sF, gK_sF, gK_sA, gK_sB, gF_grw, gT_grw, gL_grw, gA_grw, gC_grw, gD_grw, gC_sF, gC_sA, gD_sF, gD_sA, Nat.reduceLT, elT, Nat.reduceEqDiff, eq_self, and_self, and_true, true_and, and_false, false_and, reduceIte, fbB, qc_14_3, qc_15_2, qc_17_2, sbB, fb_15_5] at c))
        all_goals (try first | exact rfl | exact True.intro | with_reducible assumption | omega | (simp only [Int.reduceToNat, Int.toNat_natCast, tN_add, tN_add1, tN_sub1, gF_sF, gA_sF, gL_sF, gV_sF, gF_sA, gA_sA, gL_sA, gV_sA, gF_sB, gA_sB, gL_sB, gV_sB, gF_nA, gA_nA, gL_nA, gV_nA, gT_nA, gF_mV, gA_mV, gL_mV, gV_mV, gT_mV, gT_sB, gT_sA, gT_sF, gK_sF, gK_sA, gK_sB, gF_grw, gT_grw, gL_grw, gA_grw, gC_grw, gD_grw, gC_sF, gC_sA, gD_sF, gD_sA, Nat.reduceLT, elT, Nat.reduceEqDiff, eq_self, and_self, and_true, true_and, and_false, false_and, reduceIte, fbB, qc_14_3, qc_15_2, qc_17_2, sbB, fb_15_5]; first | done | with_reducible assumption | omega) | (simp only [Int.reduceToNat, Int.toNat_natCast, tN_add, tN_add1, tN_sub1, gF_sF, gA_sF, gL_sF, gV_sF, gF_sA, gA_sA, gL_sA, gV_sA, gF_sB, gA_sB, gL_sB, gV_sB, gF_nA, gA_nA, gL_nA, gV_nA, gT_nA, gF_mV, gA_mV, gL_mV, gV_mV, gT_mV, gT_sB, gT_sA, gT_sF, gK_sF, gK_sA, gK_sB, gF_grw, gT_grw, gL_grw, gA_grw, gC_grw, gD_grw, gC_sF, gC_sA, gD_sF, gD_sA, Nat.reduceLT, elT, Nat.reduceEqDiff, eq_self, and_self, and_true, true_and, and_false, false_and, reduceIte, fbB, qc_14_3, qc_15_2, qc_17_2, sbB, fb_15_5, grl]; split <;> omega) | (show 2 * gL _ _ _ ≤ gL _ _ _; simp only [Int.reduceToNat, Int.toNat_natCast, tN_add, tN_add1, tN_sub1, gF_sF, gA_sF, gL_sF, gV_sF, gF_sA, gA_sA, gL_sA, gV_sA, gF_sB, gA_sB, gL_sB, gV_sB, gF_nA, gA_nA, gL_nA, gV_nA, gT_nA, gF_mV, gA_mV, gL_mV, gV_mV, gT_mV, gT_sB, gT_sA, gT_sF, gK_sF, gK_sA, gK_sB, gF_grw, gT_grw, gL_grw, gA_grw, gC_grw, gD_grw, gC_sF, gC_sA, gD_sF, gD_sA, Nat.reduceLT, elT, Nat.reduceEqDiff, eq_self, and_self, and_true, true_and, and_false, false_and, reduceIte, fbB, qc_14_3, qc_15_2, qc_17_2, sbB, fb_15_5]; omega) | (simp only [Int.reduceToNat, Int.toNat_natCast, tN_add, tN_add1, tN_sub1, gF_sF, gA_sF, gL_sF, gV_sF, gF_sA, gA_sA, gL_sA, gV_sA, gF_sB, gA_sB, gL_sB, gV_sB, gF_nA, gA_nA, gL_nA, gV_nA, gT_nA, gF_mV, gA_mV, gL_mV, gV_mV, gT_mV, gT_sB, gT_sA, gT_sF, gK_sF, gK_sA, gK_sB, gF_grw, gT_grw, gL_grw, gA_grw, gC_grw, gD_grw, gC_sF, gC_sA, gD_sF, gD_sA, Nat.reduceLT, elT, Nat.reduceEqDiff, eq_self, and_self, and_true, true_and, and_false, false_and, reduceIte, fbB, qc_14_3, qc_15_2, qc_17_2, sbB, fb_15_5, gK_grw, gN_grw, hN0, hK0]; done))
        · exact big (by omega)
        · refine m_isWord (i := p + q) ?_ hS ?_ (fun x hx => ?_)
          all_goals (try first | exact rfl | exact True.intro | with_reducible assumption | omega | (simp only [Int.reduceToNat, Int.toNat_natCast, tN_add, tN_add1, tN_sub1, gF_sF, gA_sF, gL_sF, gV_sF, gF_sA, gA_sA, gL_sA, gV_sA, gF_sB, gA_sB, gL_sB, gV_sB, gF_nA, gA_nA, gL_nA, gV_nA, gT_nA, gF_mV, gA_mV, gL_mV, gV_mV, gT_mV, gT_sB, gT_sA, gT_sF, gK_sF, gK_sA, gK_sB, gF_grw, gT_grw, gL_grw, gA_grw, gC_grw, gD_grw, gC_sF, gC_sA, gD_sF, gD_sA, Nat.reduceLT, elT, Nat.reduceEqDiff, eq_self, and_self, and_true, true_and, and_false, false_and, reduceIte, fbB, qc_14_3, qc_15_2, qc_17_2, sbB, fb_15_5]; first | done | with_reducible assumption | omega) | (simp only [Int.reduceToNat, Int.toNat_natCast, tN_add, tN_add1, tN_sub1, gF_sF, gA_sF, gL_sF, gV_sF, gF_sA, gA_sA, gL_sA, gV_sA, gF_sB, gA_sB, gL_sB, gV_sB, gF_nA, gA_nA, gL_nA, gV_nA, gT_nA, gF_mV, gA_mV, gL_mV, gV_mV, gT_mV, gT_sB, gT_sA, gT_sF, gK_sF, gK_sA, gK_sB, gF_grw, gT_grw, gL_grw, gA_grw, gC_grw, gD_grw, gC_sF, gC_sA, gD_sF, gD_sA, Nat.reduceLT, elT, Nat.reduceEqDiff, eq_self, and_self, and_true, true_and, and_false, false_and, reduceIte, fbB, qc_14_3, qc_15_2, qc_17_2, sbB, fb_15_5, grl]; split <;> omega) | (show 2 * gL _ _ _ ≤ gL _ _ _; simp only [Int.reduceToNat, Int.toNat_natCast, tN_add, tN_add1, tN_sub1, gF_sF, gA_sF, gL_sF, gV_sF, gF_sA, gA_sA, gL_sA, gV_sA, gF_sB, gA_sB, gL_sB, gV_sB, gF_nA, gA_nA, gL_nA, gV_nA, gT_nA, gF_mV, gA_mV, gL_mV, gV_mV, gT_mV, gT_sB, gT_sA, gT_sF, gK_sF, gK_sA, gK_sB, gF_grw, gT_grw, gL_grw, gA_grw, gC_grw, gD_grw, gC_sF, gC_sA, gD_sF, gD_sA, Nat.reduceLT, elT, Nat.reduceEqDiff, eq_self, and_self, and_true, true_and, and_false, false_and, reduceIte, fbB, qc_14_3, qc_15_2, qc_17_2, sbB, fb_15_5]; omega) | (simp only [Int.reduceToNat, Int.toNat_natCast, tN_add, tN_add1, tN_sub1, gF_sF, gA_sF, gL_sF, gV_sF, gF_sA, gA_sA, gL_sA, gV_sA, gF_sB, gA_sB, gL_sB, gV_sB, gF_nA, gA_nA, gL_nA, gV_nA, gT_nA, gF_mV, gA_mV, gL_mV, gV_mV, gT_mV, gT_sB, gT_sA, gT_sF, gK_sF, gK_sA, gK_sB, gF_grw, gT_grw, gL_grw, gA_grw, gC_grw, gD_grw, gC_sF, gC_sA, gD_sF, gD_sA, Nat.reduceLT, elT, Nat.reduceEqDiff, eq_self, and_self, and_true, true_and, and_false, false_and, reduceIte, fbB, qc_14_3, qc_15_2, qc_17_2, sbB, fb_15_5, gK_grw, gN_grw, hN0, hK0]; done))
          have hf := fin (by omega) (Or.inl (by omega)) x hx
          repeat' (first | refine And.intro ?_ ?_ | (with_reducible intro c; try simp only [cmpI, cmpN, Classical.not_not, not_true_eq_false, not_false_eq_true, Int.reduceToNat, Int.toNat_natCast, tN_add, tN_add1, tN_sub1, gF_sF, gA_sF, gL_sF, gV_sF, gF_sA, gA_sA, gL_sA, gV_sA, gF_sB, gA_sB, gL_sB, gV_sB, gF_nA, gA_nA, gL_nA, gV_nA, gT_nA, gF_mV, gA_mV, gL_mV, gV_mV, gT_mV, gT_sB, gT_sA, gT_sF, gK_sF, gK_sA, gK_sB, gF_grw, gT_grw, gL_grw, gA_grw, gC_grw, gD_grw, gC_sF, gC_sA, gD_sF, gD_sA, Nat.reduceLT, elT, Nat.reduceEqDiff, eq_self, and_self, and_true, true_and, and_false, false_and, reduceIte, fbB, qc_14_3, qc_15_2, qc_17_2, sbB, fb_15_5] at c))
          all_goals (try first | exact rfl | exact True.intro | with_reducible assumption | omega | (simp only [Int.reduceToNat, Int.toNat_natCast, tN_add, tN_add1, tN_sub1, gF_sF, gA_sF, gL_sF, gV_sF, gF_sA, gA_sA, gL_sA, gV_sA, gF_sB, gA_sB, gL_sB, gV_sB, gF_nA, gA_nA, gL_nA, gV_nA, gT_nA, gF_mV, gA_mV, gL_mV, gV_mV, gT_mV, gT_sB, gT_sA, gT_sF, gK_sF, gK_sA, gK_sB, gF_grw, gT_grw, gL_grw, gA_grw, gC_grw, gD_grw, gC_sF, gC_sA, gD_sF, gD_sA, Nat.reduceLT, elT, Nat.reduceEqDiff, eq_self, and_self, and_true, true_and, and_false, false_and, reduceIte, fbB, qc_14_3, qc_15_2, qc_17_2, sbB, fb_15_5]; first | done | with_reducible assumption | omega) | (simp only [Int.reduceToNat, Int.toNat_natCast, tN_add, tN_add1, tN_sub1, gF_sF, gA_sF, gL_sF, gV_sF, gF_sA, gA_sA, gL_sA, gV_sA, gF_sB, gA_sB, gL_sB, gV_sB, gF_nA, gA_nA, gL_nA, gV_nA, gT_nA, gF_mV, gA_mV, gL_mV, gV_mV, gT_mV, gT_sB, gT_sA, gT_sF, gK_sF, gK_sA, gK_sB, gF_grw, gT_grw, gL_grw, gA_grw, gC_grw, gD_grw, gC_sF, gC_sA, gD_sF, gD_sA, Nat.reduceLT, elT, Nat.reduceEqDiff, eq_self, and_self, and_true, true_and, and_false, false_and, reduceIte, fbB, qc_14_3, qc_15_2, qc_17_2, sbB, fb_15_5, grl]; split <;> omega) | (show 2 * gL _ _ _ ≤ gL _ _ _; simp only [Int.reduceToNat, Int.toNat_natCast, tN_add, tN_add1, tN_sub1, gF_sF, gA_sF, gL_sF, gV_sF, gF_sA, gA_sA, gL_sA, gV_sA, gF_sB, gA_sB, gL_sB, gV_sB, gF_nA, gA_nA, gL_nA, gV_nA, gT_nA, gF_mV, gA_mV, gL_mV, gV_mV, gT_mV, gT_sB, gT_sA, gT_sF, gK_sF, gK_sA, gK_sB, gF_grw, gT_grw, gL_grw, gA_grw, gC_grw, gD_grw, gC_sF, gC_sA, gD_sF, gD_sA, Nat.reduceLT, elT, Nat.reduceEqDiff, eq_self, and_self, and_true, true_and, and_false, false_and, reduceIte, fbB, qc_14_3, qc_15_2, qc_17_2, sbB, fb_15_5]; omega) | (simp only [Int.reduceToNat, Int.toNat_natCast, tN_add, tN_add1, tN_sub1, gF_sF, gA_sF, gL_sF, gV_sF, gF_sA, gA_sA, gL_sA, gV_sA, gF_sB, gA_sB, gL_sB, gV_sB, gF_nA, gA_nA, gL_nA, gV_nA, gT_nA, gF_mV, gA_mV, gL_mV, gV_mV, gT_mV, gT_sB, gT_sA, gT_sF, gK_sF, gK_sA, gK_sB, gF_grw, gT_grw, gL_grw, gA_grw, gC_grw, gD_grw, gC_sF, gC_sA, gD_sF, gD_sA, Nat.reduceLT, elT, Nat.reduceEqDiff, eq_self, and_self, and_true, true_and, and_false, false_and, reduceIte, fbB, qc_14_3, qc_15_2, qc_17_2, sbB, fb_15_5, gK_grw, gN_grw, hN0, hK0]; done))
          · exact hQ _ (fun h => absurd h (hf.2 (by omega))) (fun _ => rfl)
          · exact hQ _ (fun _ => rfl) (fun h => absurd (hf.1 (by omega)) h)
        · exact hQ _ (fun h => by have := h.2.1; omega) (fun _ => rfl)
        · refine m_isWord (i := p + q) ?_ hS ?_ (fun x hx => ?_)
          all_goals (try first | exact rfl | exact True.intro | with_reducible assumption | omega | (simp only [Int.reduceToNat, Int.toNat_natCast, tN_add, tN_add1, tN_sub1, gF_sF, gA_sF, gL_sF, gV_sF, gF_sA, gA_sA, gL_sA, gV_sA, gF_sB, gA_sB, gL_sB, gV_sB, gF_nA, gA_nA, gL_nA, gV_nA, gT_nA, gF_mV, gA_mV, gL_mV, gV_mV, gT_mV, gT_sB, gT_sA, gT_sF, gK_sF, gK_sA, gK_sB, gF_grw, gT_grw, gL_grw, gA_grw, gC_grw, gD_grw, gC_sF, gC_sA, gD_sF, gD_sA, Nat.reduceLT, elT, Nat.reduceEqDiff, eq_self, and_self, and_true, true_and, and_false, false_and, reduceIte, fbB, qc_14_3, qc_15_2, qc_17_2, sbB, fb_15_5]; first | done | with_reducible assumption | omega) | (simp only [Int.reduceToNat, Int.toNat_natCast, tN_add, tN_add1, tN_sub1, gF_sF, gA_sF, gL_sF, gV_sF, gF_sA, gA_sA, gL_sA, gV_sA, gF_sB, gA_sB, gL_sB, gV_sB, gF_nA, gA_nA, gL_nA, gV_nA, gT_nA, gF_mV, gA_mV, gL_mV, gV_mV, gT_mV, gT_sB, gT_sA, gT_sF, gK_sF, gK_sA, gK_sB, gF_grw, gT_grw, gL_grw, gA_grw, gC_grw, gD_grw, gC_sF, gC_sA, gD_sF, gD_sA, Nat.reduceLT, elT, Nat.reduceEqDiff, eq_self, and_self, and_true, true_and, and_false, false_and, reduceIte, fbB, qc_14_3, qc_15_2, qc_17_2, sbB, fb_15_5, grl]; split <;> omega) | (show 2 * gL _ _ _ ≤ gL _ _ _; simp only [Int.reduceToNat, Int.toNat_natCast, tN_add, tN_add1, tN_sub1, gF_sF, gA_sF, gL_sF, gV_sF, gF_sA, gA_sA, gL_sA, gV_sA, gF_sB, gA_sB, gL_sB, gV_sB, gF_nA, gA_nA, gL_nA, gV_nA, gT_nA, gF_mV, gA_mV, gL_mV, gV_mV, gT_mV, gT_sB, gT_sA, gT_sF, gK_sF, gK_sA, gK_sB, gF_grw, gT_grw, gL_grw, gA_grw, gC_grw, gD_grw, gC_sF, gC_sA, gD_sF, gD_sA, Nat.reduceLT, elT, Nat.reduceEqDiff, eq_self, and_self, and_true, true_and, and_false, false_and, reduceIte, fbB, qc_14_3, qc_15_2, qc_17_2, sbB, fb_15_5]; omega) | (simp only [Int.reduceToNat, Int.toNat_natCast, tN_add, tN_add1, tN_sub1, gF_sF, gA_sF, gL_sF, gV_sF, gF_sA, gA_sA, gL_sA, gV_sA, gF_sB, gA_sB, gL_sB, gV_sB, gF_nA, gA_nA, gL_nA, gV_nA, gT_nA, gF_mV, gA_mV, gL_mV, gV_mV, gT_mV, gT_sB, gT_sA, gT_sF, gK_sF, gK_sA, gK_sB, gF_grw, gT_grw, gL_grw, gA_grw, gC_grw, gD_grw, gC_sF, gC_sA, gD_sF, gD_sA, Nat.reduceLT, elT, Nat.reduceEqDiff, eq_self, and_self, and_true, true_and, and_false, false_and, reduceIte, fbB, qc_14_3, qc_15_2, qc_17_2, sbB, fb_15_5, gK_grw, gN_grw, hN0, hK0]; done))
          have hf := fin (by omega) (Or.inr (by omega)) x hx
          repeat' (first | refine And.intro ?_ ?_ | (with_reducible intro c; try simp only [cmpI, cmpN, Classical.not_not, not_true_eq_false, not_false_eq_true, Int.reduceToNat, Int.toNat_natCast, tN_add, tN_add1, tN_sub1, gF_sF, gA_sF, gL_sF, gV_sF, gF_sA, gA_sA, gL_sA, gV_sA, gF_sB, gA_sB, gL_sB, gV_sB, gF_nA, gA_nA, gL_nA, gV_nA, gT_nA, gF_mV, gA_mV, gL_mV, gV_mV, gT_mV, gT_sB, gT_sA, gT_sF, gK_sF, gK_sA, gK_sB, gF_grw, gT_grw, gL_grw, gA_grw, gC_grw, gD_grw, gC_sF, gC_sA, gD_sF, gD_sA, Nat.reduceLT, elT, Nat.reduceEqDiff, eq_self, and_self, and_true, true_and, and_false, false_and, reduceIte, fbB, qc_14_3, qc_15_2, qc_17_2, sbB, fb_15_5] at c))
          all_goals (try first | exact rfl | exact True.intro | with_reducible assumption | omega | (simp only [Int.reduceToNat, Int.toNat_natCast, tN_add, tN_add1, tN_sub1, gF_sF, gA_sF, gL_sF, gV_sF, gF_sA, gA_sA, gL_sA, gV_sA, gF_sB, gA_sB, gL_sB, gV_sB, gF_nA, gA_nA, gL_nA, gV_nA, gT_nA, gF_mV, gA_mV, gL_mV, gV_mV, gT_mV, gT_sB, gT_sA, gT_sF, gK_sF, gK_sA, gK_sB, gF_grw, gT_grw, gL_grw, gA_grw, gC_grw, gD_grw, gC_sF, gC_sA, gD_sF, gD_sA, Nat.reduceLT, elT, Nat.reduceEqDiff, eq_self, and_self, and_true, true_and, and_false, false_and, reduceIte, fbB, qc_14_3, qc_15_2, qc_17_2, sbB, fb_15_5]; first | done | with_reducible assumption | omega) | (simp only [Int.reduceToNat, Int.toNat_natCast, tN_add, tN_add1, tN_sub1, gF_sF, gA_sF, gL_sF, gV_sF, gF_sA, gA_sA, gL_sA, gV_sA, gF_sB, gA_sB, gL_sB, gV_sB, gF_nA, gA_nA, gL_nA, gV_nA, gT_nA, gF_mV, gA_mV, gL_mV, gV_mV, gT_mV, gT_sB, gT_sA, gT_sF, gK_sF, gK_sA, gK_sB, gF_grw, gT_grw, gL_grw, gA_grw, gC_grw, gD_grw, gC_sF, gC_sA, gD_sF, gD_sA, Nat.reduceLT, elT, Nat.reduceEqDiff, eq_self, and_self, and_true, true_and, and_false, false_and, reduceIte, fbB, qc_14_3, qc_15_2, qc_17_2, sbB, fb_15_5, grl]; split <;> omega) | (show 2 * gL _ _ _ ≤ gL _ _ _; simp only [Int.reduceToNat, Int.toNat_natCast, tN_add, tN_add1, tN_sub1, gF_sF, gA_sF, gL_sF, gV_sF, gF_sA, gA_sA, gL_sA, gV_sA, gF_sB, gA_sB, gL_sB, gV_sB, gF_nA, gA_nA, gL_nA, gV_nA, gT_nA, gF_mV, gA_mV, gL_mV, gV_mV, gT_mV, gT_sB, gT_sA, gT_sF, gK_sF, gK_sA, gK_sB, gF_grw, gT_grw, gL_grw, gA_grw, gC_grw, gD_grw, gC_sF, gC_sA, gD_sF, gD_sA, Nat.reduceLT, elT, Nat.reduceEqDiff, eq_self, and_self, and_true, true_and, and_false, false_and, reduceIte, fbB, qc_14_3, qc_15_2, qc_17_2, sbB, fb_15_5]; omega) | (simp only [Int.reduceToNat, Int.toNat_natCast, tN_add, tN_add1, tN_sub1, gF_sF, gA_sF, gL_sF, gV_sF, gF_sA, gA_sA, gL_sA, gV_sA, gF_sB, gA_sB, gL_sB, gV_sB, gF_nA, gA_nA, gL_nA, gV_nA, gT_nA, gF_mV, gA_mV, gL_mV, gV_mV, gT_mV, gT_sB, gT_sA, gT_sF, gK_sF, gK_sA, gK_sB, gF_grw, gT_grw, gL_grw, gA_grw, gC_grw, gD_grw, gC_sF, gC_sA, gD_sF, gD_sA, Nat.reduceLT, elT, Nat.reduceEqDiff, eq_self, and_self, and_true, true_and, and_false, false_and, reduceIte, fbB, qc_14_3, qc_15_2, qc_17_2, sbB, fb_15_5, gK_grw, gN_grw, hN0, hK0]; done))
          · exact hQ _ (fun h => absurd h (hf.2 (by omega))) (fun _ => rfl)
          · exact hQ _ (fun _ => rfl) (fun h => absurd (hf.1 (by omega)) h)
  refine ct_seg (il := (fun _ => false)) (mc := true) (fun _ => grow_ok) 60 [5] (by decide) (Nat.le_of_ble_eq_true rfl) ?_
  exact loop (n + 1) 0 0 (by omega) (by omega) rfl (Or.inl rfl)
def isSg (c : Int) : Prop := c = 40 ∨ c = 41 ∨ c = 123 ∨ c = 125 ∨ c = 91 ∨ c = 93 ∨ c = 44 ∨ c = 59 ∨ c = 58 ∨ c = 63 ∨ c = 61 ∨ c = 60 ∨ c = 62 ∨ c = 43 ∨ c = 45 ∨ c = 42 ∨ c = 47 ∨ c = 37 ∨ c = 38 ∨ c = 124 ∨ c = 94 ∨ c = 126 ∨ c = 33
theorem m_isSign {k : Nat} {y : Int} {σ : Sg} {Q : Option AV → Sg → Prop} {E : Int → Sg → Prop} (hQ : ∀ x, (isSg y → x = 1) → (¬ isSg y → x = 0) → Q (some (vI x)) σ) : Ct 2 248 k [vI y] σ Q E := by
  refine ct_seg (il := (fun _ => false)) (mc := true) (fun _ => grow_ok) 90 [] (by decide) (Nat.le_of_ble_eq_true rfl) ?_
  repeat' (first | refine And.intro ?_ ?_ | (with_reducible intro c; try simp only [cmpI, cmpN, Classical.not_not, not_true_eq_false, not_false_eq_true, Int.reduceToNat, Int.toNat_natCast, tN_add, tN_add1, tN_sub1, gF_sF, gA_sF, gL_sF, gV_sF, gF_sA, gA_sA, gL_sA, gV_sA, gF_sB, gA_sB, gL_sB, gV_sB, gF_nA, gA_nA, gL_nA, gV_nA, gT_nA, gF_mV, gA_mV, gL_mV, gV_mV, gT_mV, gT_sB, gT_sA, gT_sF, gK_sF, gK_sA, gK_sB, gF_grw, gT_grw, gL_grw, gA_grw, gC_grw, gD_grw, gC_sF, gC_sA, gD_sF, gD_sA, Nat.reduceLT, elT, Nat.reduceEqDiff, eq_self, and_self, and_true, true_and, and_false, false_and, reduceIte, fbB, qc_14_3, qc_15_2, qc_17_2, sbB, fb_15_5] at c))
  all_goals (try omega)
  all_goals first
    | exact hQ _ (fun _ => rfl) (fun h => absurd (by unfold isSg; omega) h)
    | exact hQ _ (fun h => by unfold isSg at h; omega) (fun _ => rfl)
end
section
/-! signs: the two ways of telling them -/
set_option maxRecDepth 100000
/-- the model's tokens -/
def mcd : List Int := [0, 1, 2, 3, 40, 41, 123, 125, 91, 93, 44, 59, 58, 63, 61, 126, 33, 124, 94, 38, 260, 261, 60, 256, 62, 257, 258, 259, 43, 45, 42, 47, 37, 300, 301, 302, 303, 304, 305, 306, 307, 308, 309, 310, 311, 312, 313, 314, 315, 316, 317, 318]
theorem mt_2 {X : Tx} {p s : Nat} : mt X p 2 s ↔ tS s = [lk X p, lk X (p + 1)] := by
  unfold mt
  constructor
  · rintro ⟨h1, h2⟩
    exact ext_getD h1 (fun q hq => by
      rw [h1] at hq
      have := h2 q hq
      rcases Nat.lt_or_ge q 1 with c | c
      · have : q = 0 := by omega
        subst this
        exact (h2 0 (by omega)).symm
      · have : q = 1 := by omega
        subst this
        exact (h2 1 (by omega)).symm)
  · intro h
    rw [h]
    refine ⟨rfl, fun q hq => ?_⟩
    rcases Nat.lt_or_ge q 1 with c | c
    · have : q = 0 := by omega
      subst this; rfl
    · have : q = 1 := by omega
      subst this; rfl
theorem mt_1 {X : Tx} {p s : Nat} : mt X p 1 s ↔ tS s = [lk X p] := by
  unfold mt
  constructor
  · rintro ⟨h1, h2⟩
    exact ext_getD h1 (fun q hq => by
      rw [h1] at hq
      have : q = 0 := by omega
      subst this
      exact (h2 0 (by omega)).symm)
  · intro h
    rw [h]
    refine ⟨rfl, fun q hq => ?_⟩
    have : q = 0 := by omega
    subst this; rfl
theorem spl_some {X : Tx} {i n : Nat} : ∀ (m k k0 : Nat), k0 + m = k → 2 ≤ k0 → k < 52 → mt X i n k → spl X i n 60 k0 ≠ 1
  | 0, k, k0, h, h2, hk, hm => by
    have : k0 = k := by omega
    subst this
    rw [spl_yes hk hm]
    omega
  | m + 1, k, k0, h, h2, hk, hm => by
    by_cases c : mt X i n k0
    · rw [spl_yes (by omega) c]; omega
    · rw [spl_no (by omega) c]
      exact spl_some m k (k0 + 1) (by omega) (by omega) hk hm
theorem tS_two (s : Nat) (h1 : s < 52) (h2 : 4 ≤ s) (h3 : (tS s).length = 2) : s = 20 ∨ s = 21 ∨ s = 23 ∨ s = 25 ∨ s = 26 ∨ s = 27 ∨ s = 37 ∨ s = 42 := by
  have h : (List.range 52).all (fun s => !(Nat.ble 4 s) || (!((tS s).length == 2) || (s == 20 || (s == 21 || (s == 23 || (s == 25 || (s == 26 || (s == 27 || (s == 37 || s == 42))))))))) = true := by decide +kernel
  have h4 := List.all_eq_true.mp h s (List.mem_range.mpr h1)
  have e1 : Nat.ble 4 s = true := Nat.ble_eq_true_of_le h2
  rw [e1, h3] at h4
  simpa using h4
def sgL : List Int := [40, 41, 123, 125, 91, 93, 44, 59, 58, 63, 61, 60, 62, 43, 45, 42, 47, 37, 38, 124, 94, 126, 33]
theorem tS_one (s : Nat) (h1 : s < 52) (h2 : 4 ≤ s) (h3 : (tS s).length = 1) : tS s = [mcd.getD s 0] ∧ mcd.getD s 0 ∈ sgL := by
  have h : (List.range 52).all (fun s => !(Nat.ble 4 s) || (!((tS s).length == 1) || (tS s == [mcd.getD s 0] && sgL.contains (mcd.getD s 0)))) = true := by decide +kernel
  have h4 := List.all_eq_true.mp h s (List.mem_range.mpr h1)
  have e1 : Nat.ble 4 s = true := Nat.ble_eq_true_of_le h2
  rw [e1, h3] at h4
  have h5 : (tS s == [mcd.getD s 0] && sgL.contains (mcd.getD s 0)) = true := by simpa using h4
  rw [Bool.and_eq_true] at h5
  exact ⟨by simpa using h5.1, by simpa using h5.2⟩
theorem sg_two {X : Tx} {p : Nat} (hp : p + 1 < X.2) (hl : ¬ isLt (X.1 p)) :
    (spl X p 2 60 4 = 1 ∧ ¬ (X.1 p = 60 ∧ X.1 (p + 1) = 61) ∧ ¬ (X.1 p = 62 ∧ X.1 (p + 1) = 61) ∧ ¬ (X.1 p = 60 ∧ X.1 (p + 1) = 60) ∧ ¬ (X.1 p = 62 ∧ X.1 (p + 1) = 62) ∧ ¬ (X.1 p = 61 ∧ X.1 (p + 1) = 61) ∧ ¬ (X.1 p = 33 ∧ X.1 (p + 1) = 61)) ∨
    (spl X p 2 60 4 = 23 ∧ X.1 p = 60 ∧ X.1 (p + 1) = 61) ∨ (spl X p 2 60 4 = 25 ∧ X.1 p = 62 ∧ X.1 (p + 1) = 61) ∨ (spl X p 2 60 4 = 26 ∧ X.1 p = 60 ∧ X.1 (p + 1) = 60) ∨ (spl X p 2 60 4 = 27 ∧ X.1 p = 62 ∧ X.1 (p + 1) = 62) ∨ (spl X p 2 60 4 = 20 ∧ X.1 p = 61 ∧ X.1 (p + 1) = 61) ∨ (spl X p 2 60 4 = 21 ∧ X.1 p = 33 ∧ X.1 (p + 1) = 61) := by
  have e1 : lk X p = X.1 p := by unfold lk; rw [if_pos (by omega)]
  have e2 : lk X (p + 1) = X.1 (p + 1) := by unfold lk; rw [if_pos hp]
  have no : ∀ k : Nat, 4 ≤ k → k < 52 → spl X p 2 60 4 = 1 → tS k ≠ [X.1 p, X.1 (p + 1)] := fun k h1 h2 h3 h4 => by
    have hm : mt X p 2 k := mt_2.mpr (by rw [h4, e1, e2])
    exact spl_some (k - 4) k 4 (by omega) (by omega) h2 hm h3
  rcases spl_range X p 2 60 4 with c | ⟨c1, c2, c3⟩
  · refine Or.inl ⟨c, fun h => no 23 (by omega) (by omega) c ?_, fun h => no 25 (by omega) (by omega) c ?_, fun h => no 26 (by omega) (by omega) c ?_, fun h => no 27 (by omega) (by omega) c ?_, fun h => no 20 (by omega) (by omega) c ?_, fun h => no 21 (by omega) (by omega) c ?_⟩
    all_goals rw [h.1, h.2]; rfl
  · have hm := mt_2.mp c3
    rw [e1, e2] at hm
    have ht := tS_two _ c2 c1 (by rw [hm]; rfl)
    refine Or.inr ?_
    rcases ht with w | w | w | w | w | w | w | w
    · rw [w] at hm
      have h0 : ([61, 61] : List Int) = [X.1 p, X.1 (p + 1)] := hm
      injection h0 with h1 h2
      injection h2 with h2 _
      omega
    · rw [w] at hm
      have h0 : ([33, 61] : List Int) = [X.1 p, X.1 (p + 1)] := hm
      injection h0 with h1 h2
      injection h2 with h2 _
      omega
    · rw [w] at hm
      have h0 : ([60, 61] : List Int) = [X.1 p, X.1 (p + 1)] := hm
      injection h0 with h1 h2
      injection h2 with h2 _
      omega
    · rw [w] at hm
      have h0 : ([62, 61] : List Int) = [X.1 p, X.1 (p + 1)] := hm
      injection h0 with h1 h2
      injection h2 with h2 _
      omega
    · rw [w] at hm
      have h0 : ([60, 60] : List Int) = [X.1 p, X.1 (p + 1)] := hm
      injection h0 with h1 h2
      injection h2 with h2 _
      omega
    · rw [w] at hm
      have h0 : ([62, 62] : List Int) = [X.1 p, X.1 (p + 1)] := hm
      injection h0 with h1 h2
      injection h2 with h2 _
      omega
    · rw [w] at hm
      have h0 : ([105, 110] : List Int) = [X.1 p, X.1 (p + 1)] := hm
      injection h0 with h1 h2
      omega
    · rw [w] at hm
      have h0 : ([105, 102] : List Int) = [X.1 p, X.1 (p + 1)] := hm
      injection h0 with h1 h2
      omega
theorem sg_all : ∀ c : Int, isSg c → ∃ k : Nat, 4 ≤ k ∧ k < 52 ∧ tS k = [c] := by
  intro c h
  unfold isSg at h
  rcases h with h | h | h | h | h | h | h | h | h | h | h | h | h | h | h | h | h | h | h | h | h | h | h
  · exact ⟨4, by omega, by omega, by rw [h]; rfl⟩
  · exact ⟨5, by omega, by omega, by rw [h]; rfl⟩
  · exact ⟨6, by omega, by omega, by rw [h]; rfl⟩
  · exact ⟨7, by omega, by omega, by rw [h]; rfl⟩
  · exact ⟨8, by omega, by omega, by rw [h]; rfl⟩
  · exact ⟨9, by omega, by omega, by rw [h]; rfl⟩
  · exact ⟨10, by omega, by omega, by rw [h]; rfl⟩
  · exact ⟨11, by omega, by omega, by rw [h]; rfl⟩
  · exact ⟨12, by omega, by omega, by rw [h]; rfl⟩
  · exact ⟨13, by omega, by omega, by rw [h]; rfl⟩
  · exact ⟨14, by omega, by omega, by rw [h]; rfl⟩
  · exact ⟨22, by omega, by omega, by rw [h]; rfl⟩
  · exact ⟨24, by omega, by omega, by rw [h]; rfl⟩
  · exact ⟨28, by omega, by omega, by rw [h]; rfl⟩
  · exact ⟨29, by omega, by omega, by rw [h]; rfl⟩
  · exact ⟨30, by omega, by omega, by rw [h]; rfl⟩
  · exact ⟨31, by omega, by omega, by rw [h]; rfl⟩
  · exact ⟨32, by omega, by omega, by rw [h]; rfl⟩
  · exact ⟨19, by omega, by omega, by rw [h]; rfl⟩
  · exact ⟨17, by omega, by omega, by rw [h]; rfl⟩
  · exact ⟨18, by omega, by omega, by rw [h]; rfl⟩
  · exact ⟨15, by omega, by omega, by rw [h]; rfl⟩
  · exact ⟨16, by omega, by omega, by rw [h]; rfl⟩
theorem sg_one {X : Tx} {p : Nat} (hp : p < X.2) : (spl X p 1 60 4 = 1 ∧ ¬ isSg (X.1 p)) ∨ (isSg (X.1 p) ∧ mcd.getD (spl X p 1 60 4) 0 = X.1 p ∧ 4 ≤ spl X p 1 60 4 ∧ spl X p 1 60 4 < 52) := by
  have e1 : lk X p = X.1 p := by unfold lk; rw [if_pos (by omega)]
  rcases spl_range X p 1 60 4 with c | ⟨c1, c2, c3⟩
  · refine Or.inl ⟨c, fun h => ?_⟩
    obtain ⟨k, h1, h2, h3⟩ := sg_all _ h
    exact spl_some (k - 4) k 4 (by omega) (by omega) h2 (mt_1.mpr (by rw [h3, e1])) c
  · have hm := mt_1.mp c3
    rw [e1] at hm
    obtain ⟨h1, h2⟩ := tS_one _ c2 c1 (by rw [hm]; rfl)
    rw [h1] at hm
    injection hm with hm _
    refine Or.inr ⟨?_, hm, c1, c2⟩
    rw [hm] at h2
    unfold isSg
    simpa [sgL] using h2
end
section
/-! the model: all tokens  -/
set_option maxRecDepth 100000
set_option maxHeartbeats 4000000
/-- tokens that were laid -/
def MyT (σ : Sg) (X : Tx) (t : Nat) : Prop := ∀ i, i < t → gA σ 120 5 i = mcd.getD (tkd X i) 0 ∧ gA σ 120 6 i = (tpo X i : Int) ∧ gA σ 120 7 i = (tln X i : Int)
theorem m_scan {k : Nat} {X : Tx} {σ : Sg} {Q : Option AV → Sg → Prop} {E : Int → Sg → Prop} (hk : 9 ≤ k) (hS : MyS σ X) (hW : MyW σ) (hL : gL σ 120 5 = 8002 ∧ gL σ 120 6 = 8002 ∧ gL σ 120 7 = 8002)
    (hQ : ∀ σₚ N, Fr (mdT 240 [vO 120]) σ σₚ → tkd X N < 2 → (∀ i, i < N → 2 ≤ tkd X i) → gF σₚ 120 8 = ((N + 1 : Nat) : Int) → MyT σₚ X (N + 1) → (gL σₚ 120 5 = 8002 ∧ gL σₚ 120 6 = 8002 ∧ gL σₚ 120 7 = 8002) → Q none σₚ) : Ct 2 240 k [vO 120] σ Q E := by
  refine ct_cp (P := fun r σₚ => r = none ∧ ∃ N, tkd X N < 2 ∧ (∀ i, i < N → 2 ≤ tkd X i) ∧ gF σₚ 120 8 = ((N + 1 : Nat) : Int) ∧ MyT σₚ X (N + 1) ∧ (gL σₚ 120 5 = 8002 ∧ gL σₚ 120 6 = 8002 ∧ gL σₚ 120 7 = 8002)) (fun Qₚ Eₚ hQₚ => ?_) (fun r σₚ f q => by obtain ⟨rfl, N, q1, q2, q3, q4, q5⟩ := q; exact hQ σₚ N f q1 q2 q3 q4 q5)
  have loop : ∀ (m t : Nat) (w3 w4 w5 w6 : Option AV) (σ1 : Sg), X.2 + 1 - t < m → MyS σ1 X → MyW σ1 → (gL σ1 120 5 = 8002 ∧ gL σ1 120 6 = 8002 ∧ gL σ1 120 7 = 8002) → gF σ1 120 8 = (t : Int) → MyT σ1 X t → (∀ i, i < t → 2 ≤ tkd X i) → Jx (mdT 240 [vO 120]) 2 240 k [vO 120] σ Qₚ Eₚ 13 [some (vO 120), some (vI (tpo X t : Int)), some (vI 1), w3, w4, w5, w6] [] σ1 := by
    intro m
    induction m with
    | zero => intro t w3 w4 w5 w6 σ1 h; omega
    | succ m ih =>
      intro t w3 w4 w5 w6 σ1 hm hS1 hW1 hL1 h8 hT1 hlt
      obtain ⟨g5, g6, g7⟩ := hL1
      have s1 := hS1.1
      have s2 := hS1.2.1
      have hle := tpo_le X t
      have hge := tpo_ge (X := X) (j := t) (fun i hi c => by have := hlt i hi; omega)
      have hbb : tpo X t + tln X t ≤ X.2 := by
        by_cases c : tpo X t < X.2
        · exact (tkE_len c).2
        · show tpo X t + (tkE X (tpo X t)).2 ≤ X.2
          rw [tkE_end c]
          exact hle
      have hmc : (tkd X t < 2 → (mcd.getD (tkd X t) 0 = 0 ∨ mcd.getD (tkd X t) 0 = 1)) ∧ (2 ≤ tkd X t → 2 ≤ mcd.getD (tkd X t) 0) := by
        have h := tkd_lt X t
        have hall : (List.range 52).all (fun a => (!(Nat.blt a 2) || (mcd.getD a 0 == 0 || mcd.getD a 0 == 1)) && (!(Nat.ble 2 a) || decide (2 ≤ mcd.getD a 0))) = true := by decide +kernel
        have h4 := List.all_eq_true.mp hall (tkd X t) (List.mem_range.mpr h)
        rw [Bool.and_eq_true] at h4
        refine ⟨fun c => ?_, fun c => ?_⟩
        · have e1 : Nat.blt (tkd X t) 2 = true := by rw [Nat.blt_eq]; exact c
          have := h4.1
          rw [e1] at this
          simpa using this
        · have e1 : Nat.ble 2 (tkd X t) = true := Nat.ble_eq_true_of_le c
          have := h4.2
          rw [e1] at this
          simpa using this
      have e0 : (gF σ1 120 8).toNat = t := by omega
      have tail : ∀ (w5 w6 : Option AV), Jx (mdT 240 [vO 120]) 2 240 k [vO 120] σ Qₚ Eₚ 325 [some (vO 120), some (vI (tpo X t : Int)), some (vI 1), some (vI (tln X t : Int)), some (vI (mcd.getD (tkd X t) 0)), w5, w6] [] σ1 := by
        intro w5 w6
        have hmt : ∀ v, MyT (sF (sA (sA (sA σ1 120 5 (gF σ1 120 8).toNat (mcd.getD (tkd X t) 0)) 120 6 (gF σ1 120 8).toNat (tpo X t : Int)) 120 7 (gF σ1 120 8).toNat (tln X t : Int)) 120 8 v) X (t + 1) := by
          intro v i hi
          rcases Nat.lt_or_ge i t with c | c
          · obtain ⟨q1, q2, q3⟩ := hT1 i c
            refine ⟨?_, ?_, ?_⟩
            all_goals simp only [Int.reduceToNat, Int.toNat_natCast, tN_add, tN_add1, tN_sub1, gF_sF, gA_sF, gL_sF, gV_sF, gF_sA, gA_sA, gL_sA, gV_sA, gF_sB, gA_sB, gL_sB, gV_sB, gF_nA, gA_nA, gL_nA, gV_nA, gT_nA, gF_mV, gA_mV, gL_mV, gV_mV, gT_mV, gT_sB, gT_sA, gT_sF, gK_sF, gK_sA, gK_sB, gF_grw, gT_grw, gL_grw, gA_grw, gC_grw, gD_grw, gC_sF, gC_sA, gD_sF, gD_sA, Nat.reduceLT, elT, Nat.reduceEqDiff, eq_self, and_self, and_true, true_and, and_false, false_and, reduceIte, fbB, qc_14_3, qc_15_2, qc_17_2, sbB, fb_15_5, e0]
            all_goals rw [if_neg (by omega)]
            all_goals assumption
          · have : i = t := by omega
            subst this
            refine ⟨?_, ?_, ?_⟩
            all_goals simp only [Int.reduceToNat, Int.toNat_natCast, tN_add, tN_add1, tN_sub1, gF_sF, gA_sF, gL_sF, gV_sF, gF_sA, gA_sA, gL_sA, gV_sA, gF_sB, gA_sB, gL_sB, gV_sB, gF_nA, gA_nA, gL_nA, gV_nA, gT_nA, gF_mV, gA_mV, gL_mV, gV_mV, gT_mV, gT_sB, gT_sA, gT_sF, gK_sF, gK_sA, gK_sB, gF_grw, gT_grw, gL_grw, gA_grw, gC_grw, gD_grw, gC_sF, gC_sA, gD_sF, gD_sA, Nat.reduceLT, elT, Nat.reduceEqDiff, eq_self, and_self, and_true, true_and, and_false, false_and, reduceIte, fbB, qc_14_3, qc_15_2, qc_17_2, sbB, fb_15_5, e0]
        have stop : ∀ (y : Int) (σ2 : Sg), tkd X t < 2 → gF σ2 120 8 = ((t + 1 : Nat) : Int) → MyT σ2 X (t + 1) → (gL σ2 120 5 = 8002 ∧ gL σ2 120 6 = 8002 ∧ gL σ2 120 7 = 8002) → Jx (mdT 240 [vO 120]) 2 240 k [vO 120] σ Qₚ Eₚ 13 [some (vO 120), some (vI y), some (vI 0), some (vI (tln X t : Int)), some (vI (mcd.getD (tkd X t) 0)), w5, w6] [] σ2 := fun y σ2 a1 a2 a3 a4 => by
          refine jx_seg (il := (fun _ => false)) (mc := true) (fun _ => grow_ok) 60 [] (by decide) rfl ?_
          repeat' (first | refine And.intro ?_ ?_ | (with_reducible intro c; try simp only [cmpI, cmpN, Classical.not_not, not_true_eq_false, not_false_eq_true, Int.reduceToNat, Int.toNat_natCast, tN_add, tN_add1, tN_sub1, gF_sF, gA_sF, gL_sF, gV_sF, gF_sA, gA_sA, gL_sA, gV_sA, gF_sB, gA_sB, gL_sB, gV_sB, gF_nA, gA_nA, gL_nA, gV_nA, gT_nA, gF_mV, gA_mV, gL_mV, gV_mV, gT_mV, gT_sB, gT_sA, gT_sF, gK_sF, gK_sA, gK_sB, gF_grw, gT_grw, gL_grw, gA_grw, gC_grw, gD_grw, gC_sF, gC_sA, gD_sF, gD_sA, Nat.reduceLT, elT, Nat.reduceEqDiff, eq_self, and_self, and_true, true_and, and_false, false_and, reduceIte, fbB, qc_14_3, qc_15_2, qc_17_2, sbB, fb_15_5] at c))
          all_goals (try first | exact rfl | exact True.intro | with_reducible assumption | omega | (simp only [Int.reduceToNat, Int.toNat_natCast, tN_add, tN_add1, tN_sub1, gF_sF, gA_sF, gL_sF, gV_sF, gF_sA, gA_sA, gL_sA, gV_sA, gF_sB, gA_sB, gL_sB, gV_sB, gF_nA, gA_nA, gL_nA, gV_nA, gT_nA, gF_mV, gA_mV, gL_mV, gV_mV, gT_mV, gT_sB, gT_sA, gT_sF, gK_sF, gK_sA, gK_sB, gF_grw, gT_grw, gL_grw, gA_grw, gC_grw, gD_grw, gC_sF, gC_sA, gD_sF, gD_sA, Nat.reduceLT, elT, Nat.reduceEqDiff, eq_self, and_self, and_true, true_and, and_false, false_and, reduceIte, fbB, qc_14_3, qc_15_2, qc_17_2, sbB, fb_15_5]; first | done | with_reducible assumption | omega) | (simp only [Int.reduceToNat, Int.toNat_natCast, tN_add, tN_add1, tN_sub1, gF_sF, gA_sF, gL_sF, gV_sF, gF_sA, gA_sA, gL_sA, gV_sA, gF_sB, gA_sB, gL_sB, gV_sB, gF_nA, gA_nA, gL_nA, gV_nA, gT_nA, gF_mV, gA_mV, gL_mV, gV_mV, gT_mV, gT_sB, gT_sA, gT_sF, gK_sF, gK_sA, gK_sB, gF_grw, gT_grw, gL_grw, gA_grw, gC_grw, gD_grw, gC_sF, gC_sA, gD_sF, gD_sA, Nat.reduceLT, elT, Nat.reduceEqDiff, eq_self, and_self, and_true, true_and, and_false, false_and, reduceIte, fbB, qc_14_3, qc_15_2, qc_17_2, sbB, fb_15_5, grl]; split <;> omega) | (show 2 * gL _ _ _ ≤ gL _ _ _; simp only [Int.reduceToNat, Int.toNat_natCast, tN_add, tN_add1, tN_sub1, gF_sF, gA_sF, gL_sF, gV_sF, gF_sA, gA_sA, gL_sA, gV_sA, gF_sB, gA_sB, gL_sB, gV_sB, gF_nA, gA_nA, gL_nA, gV_nA, gT_nA, gF_mV, gA_mV, gL_mV, gV_mV, gT_mV, gT_sB, gT_sA, gT_sF, gK_sF, gK_sA, gK_sB, gF_grw, gT_grw, gL_grw, gA_grw, gC_grw, gD_grw, gC_sF, gC_sA, gD_sF, gD_sA, Nat.reduceLT, elT, Nat.reduceEqDiff, eq_self, and_self, and_true, true_and, and_false, false_and, reduceIte, fbB, qc_14_3, qc_15_2, qc_17_2, sbB, fb_15_5]; omega) | (simp only [Int.reduceToNat, Int.toNat_natCast, tN_add, tN_add1, tN_sub1, gF_sF, gA_sF, gL_sF, gV_sF, gF_sA, gA_sA, gL_sA, gV_sA, gF_sB, gA_sB, gL_sB, gV_sB, gF_nA, gA_nA, gL_nA, gV_nA, gT_nA, gF_mV, gA_mV, gL_mV, gV_mV, gT_mV, gT_sB, gT_sA, gT_sF, gK_sF, gK_sA, gK_sB, gF_grw, gT_grw, gL_grw, gA_grw, gC_grw, gD_grw, gC_sF, gC_sA, gD_sF, gD_sA, Nat.reduceLT, elT, Nat.reduceEqDiff, eq_self, and_self, and_true, true_and, and_false, false_and, reduceIte, fbB, qc_14_3, qc_15_2, qc_17_2, sbB, fb_15_5, gK_grw, gN_grw, hN0, hK0]; done))
          exact hQₚ _ _ ⟨rfl, t, a1, hlt, a2, a3, a4⟩
        have hS2 : ∀ v, MyS (sF (sA (sA (sA σ1 120 5 (gF σ1 120 8).toNat (mcd.getD (tkd X t) 0)) 120 6 (gF σ1 120 8).toNat (tpo X t : Int)) 120 7 (gF σ1 120 8).toNat (tln X t : Int)) 120 8 v) X := fun v => hS1
        refine jx_seg (il := (fun _ => false)) (mc := true) (fun _ => grow_ok) 90 [13] (by decide) rfl ?_
        repeat' (first | refine And.intro ?_ ?_ | (with_reducible intro c; try simp only [cmpI, cmpN, Classical.not_not, not_true_eq_false, not_false_eq_true, Int.reduceToNat, Int.toNat_natCast, tN_add, tN_add1, tN_sub1, gF_sF, gA_sF, gL_sF, gV_sF, gF_sA, gA_sA, gL_sA, gV_sA, gF_sB, gA_sB, gL_sB, gV_sB, gF_nA, gA_nA, gL_nA, gV_nA, gT_nA, gF_mV, gA_mV, gL_mV, gV_mV, gT_mV, gT_sB, gT_sA, gT_sF, gK_sF, gK_sA, gK_sB, gF_grw, gT_grw, gL_grw, gA_grw, gC_grw, gD_grw, gC_sF, gC_sA, gD_sF, gD_sA, Nat.reduceLT, elT, Nat.reduceEqDiff, eq_self, and_self, and_true, true_and, and_false, false_and, reduceIte, fbB, qc_14_3, qc_15_2, qc_17_2, sbB, fb_15_5] at c))
        all_goals (try first | exact rfl | exact True.intro | with_reducible assumption | omega | (simp only [Int.reduceToNat, Int.toNat_natCast, tN_add, tN_add1, tN_sub1, gF_sF, gA_sF, gL_sF, gV_sF, gF_sA, gA_sA, gL_sA, gV_sA, gF_sB, gA_sB, gL_sB, gV_sB, gF_nA, gA_nA, gL_nA, gV_nA, gT_nA, gF_mV, gA_mV, gL_mV, gV_mV, gT_mV, gT_sB, gT_sA, gT_sF, gK_sF, gK_sA, gK_sB, gF_grw, gT_grw, gL_grw, gA_grw, gC_grw, gD_grw, gC_sF, gC_sA, gD_sF, gD_sA, Nat.reduceLT, elT, Nat.reduceEqDiff, eq_self, and_self, and_true, true_and, and_false, false_and, reduceIte, fbB, qc_14_3, qc_15_2, qc_17_2, sbB, fb_15_5]; first | done | with_reducible assumption | omega) | (simp only [Int.reduceToNat, Int.toNat_natCast, tN_add, tN_add1, tN_sub1, gF_sF, gA_sF, gL_sF, gV_sF, gF_sA, gA_sA, gL_sA, gV_sA, gF_sB, gA_sB, gL_sB, gV_sB, gF_nA, gA_nA, gL_nA, gV_nA, gT_nA, gF_mV, gA_mV, gL_mV, gV_mV, gT_mV, gT_sB, gT_sA, gT_sF, gK_sF, gK_sA, gK_sB, gF_grw, gT_grw, gL_grw, gA_grw, gC_grw, gD_grw, gC_sF, gC_sA, gD_sF, gD_sA, Nat.reduceLT, elT, Nat.reduceEqDiff, eq_self, and_self, and_true, true_and, and_false, false_and, reduceIte, fbB, qc_14_3, qc_15_2, qc_17_2, sbB, fb_15_5, grl]; split <;> omega) | (show 2 * gL _ _ _ ≤ gL _ _ _; simp only [Int.reduceToNat, Int.toNat_natCast, tN_add, tN_add1, tN_sub1, gF_sF, gA_sF, gL_sF, gV_sF, gF_sA, gA_sA, gL_sA, gV_sA, gF_sB, gA_sB, gL_sB, gV_sB, gF_nA, gA_nA, gL_nA, gV_nA, gT_nA, gF_mV, gA_mV, gL_mV, gV_mV, gT_mV, gT_sB, gT_sA, gT_sF, gK_sF, gK_sA, gK_sB, gF_grw, gT_grw, gL_grw, gA_grw, gC_grw, gD_grw, gC_sF, gC_sA, gD_sF, gD_sA, Nat.reduceLT, elT, Nat.reduceEqDiff, eq_self, and_self, and_true, true_and, and_false, false_and, reduceIte, fbB, qc_14_3, qc_15_2, qc_17_2, sbB, fb_15_5]; omega) | (simp only [Int.reduceToNat, Int.toNat_natCast, tN_add, tN_add1, tN_sub1, gF_sF, gA_sF, gL_sF, gV_sF, gF_sA, gA_sA, gL_sA, gV_sA, gF_sB, gA_sB, gL_sB, gV_sB, gF_nA, gA_nA, gL_nA, gV_nA, gT_nA, gF_mV, gA_mV, gL_mV, gV_mV, gT_mV, gT_sB, gT_sA, gT_sF, gK_sF, gK_sA, gK_sB, gF_grw, gT_grw, gL_grw, gA_grw, gC_grw, gD_grw, gC_sF, gC_sA, gD_sF, gD_sA, Nat.reduceLT, elT, Nat.reduceEqDiff, eq_self, and_self, and_true, true_and, and_false, false_and, reduceIte, fbB, qc_14_3, qc_15_2, qc_17_2, sbB, fb_15_5, gK_grw, gN_grw, hN0, hK0]; done))
        · refine m_blanks (X := X) (i0 := tpo X t + tln X t) ?_ (hS2 _) ?_ hbb (fun x hx => ?_)
          all_goals (try first | exact rfl | exact True.intro | with_reducible assumption | omega | (simp only [Int.reduceToNat, Int.toNat_natCast, tN_add, tN_add1, tN_sub1, gF_sF, gA_sF, gL_sF, gV_sF, gF_sA, gA_sA, gL_sA, gV_sA, gF_sB, gA_sB, gL_sB, gV_sB, gF_nA, gA_nA, gL_nA, gV_nA, gT_nA, gF_mV, gA_mV, gL_mV, gV_mV, gT_mV, gT_sB, gT_sA, gT_sF, gK_sF, gK_sA, gK_sB, gF_grw, gT_grw, gL_grw, gA_grw, gC_grw, gD_grw, gC_sF, gC_sA, gD_sF, gD_sA, Nat.reduceLT, elT, Nat.reduceEqDiff, eq_self, and_self, and_true, true_and, and_false, false_and, reduceIte, fbB, qc_14_3, qc_15_2, qc_17_2, sbB, fb_15_5]; first | done | with_reducible assumption | omega) | (simp only [Int.reduceToNat, Int.toNat_natCast, tN_add, tN_add1, tN_sub1, gF_sF, gA_sF, gL_sF, gV_sF, gF_sA, gA_sA, gL_sA, gV_sA, gF_sB, gA_sB, gL_sB, gV_sB, gF_nA, gA_nA, gL_nA, gV_nA, gT_nA, gF_mV, gA_mV, gL_mV, gV_mV, gT_mV, gT_sB, gT_sA, gT_sF, gK_sF, gK_sA, gK_sB, gF_grw, gT_grw, gL_grw, gA_grw, gC_grw, gD_grw, gC_sF, gC_sA, gD_sF, gD_sA, Nat.reduceLT, elT, Nat.reduceEqDiff, eq_self, and_self, and_true, true_and, and_false, false_and, reduceIte, fbB, qc_14_3, qc_15_2, qc_17_2, sbB, fb_15_5, grl]; split <;> omega) | (show 2 * gL _ _ _ ≤ gL _ _ _; simp only [Int.reduceToNat, Int.toNat_natCast, tN_add, tN_add1, tN_sub1, gF_sF, gA_sF, gL_sF, gV_sF, gF_sA, gA_sA, gL_sA, gV_sA, gF_sB, gA_sB, gL_sB, gV_sB, gF_nA, gA_nA, gL_nA, gV_nA, gT_nA, gF_mV, gA_mV, gL_mV, gV_mV, gT_mV, gT_sB, gT_sA, gT_sF, gK_sF, gK_sA, gK_sB, gF_grw, gT_grw, gL_grw, gA_grw, gC_grw, gD_grw, gC_sF, gC_sA, gD_sF, gD_sA, Nat.reduceLT, elT, Nat.reduceEqDiff, eq_self, and_self, and_true, true_and, and_false, false_and, reduceIte, fbB, qc_14_3, qc_15_2, qc_17_2, sbB, fb_15_5]; omega) | (simp only [Int.reduceToNat, Int.toNat_natCast, tN_add, tN_add1, tN_sub1, gF_sF, gA_sF, gL_sF, gV_sF, gF_sA, gA_sA, gL_sA, gV_sA, gF_sB, gA_sB, gL_sB, gV_sB, gF_nA, gA_nA, gL_nA, gV_nA, gT_nA, gF_mV, gA_mV, gL_mV, gV_mV, gT_mV, gT_sB, gT_sA, gT_sF, gK_sF, gK_sA, gK_sB, gF_grw, gT_grw, gL_grw, gA_grw, gC_grw, gD_grw, gC_sF, gC_sA, gD_sF, gD_sA, Nat.reduceLT, elT, Nat.reduceEqDiff, eq_self, and_self, and_true, true_and, and_false, false_and, reduceIte, fbB, qc_14_3, qc_15_2, qc_17_2, sbB, fb_15_5, gK_grw, gN_grw, hN0, hK0]; done))
          repeat' (first | refine And.intro ?_ ?_ | (with_reducible intro c; try simp only [cmpI, cmpN, Classical.not_not, not_true_eq_false, not_false_eq_true, Int.reduceToNat, Int.toNat_natCast, tN_add, tN_add1, tN_sub1, gF_sF, gA_sF, gL_sF, gV_sF, gF_sA, gA_sA, gL_sA, gV_sA, gF_sB, gA_sB, gL_sB, gV_sB, gF_nA, gA_nA, gL_nA, gV_nA, gT_nA, gF_mV, gA_mV, gL_mV, gV_mV, gT_mV, gT_sB, gT_sA, gT_sF, gK_sF, gK_sA, gK_sB, gF_grw, gT_grw, gL_grw, gA_grw, gC_grw, gD_grw, gC_sF, gC_sA, gD_sF, gD_sA, Nat.reduceLT, elT, Nat.reduceEqDiff, eq_self, and_self, and_true, true_and, and_false, false_and, reduceIte, fbB, qc_14_3, qc_15_2, qc_17_2, sbB, fb_15_5] at c))
          all_goals (try first | exact rfl | exact True.intro | with_reducible assumption | omega | (simp only [Int.reduceToNat, Int.toNat_natCast, tN_add, tN_add1, tN_sub1, gF_sF, gA_sF, gL_sF, gV_sF, gF_sA, gA_sA, gL_sA, gV_sA, gF_sB, gA_sB, gL_sB, gV_sB, gF_nA, gA_nA, gL_nA, gV_nA, gT_nA, gF_mV, gA_mV, gL_mV, gV_mV, gT_mV, gT_sB, gT_sA, gT_sF, gK_sF, gK_sA, gK_sB, gF_grw, gT_grw, gL_grw, gA_grw, gC_grw, gD_grw, gC_sF, gC_sA, gD_sF, gD_sA, Nat.reduceLT, elT, Nat.reduceEqDiff, eq_self, and_self, and_true, true_and, and_false, false_and, reduceIte, fbB, qc_14_3, qc_15_2, qc_17_2, sbB, fb_15_5]; first | done | with_reducible assumption | omega) | (simp only [Int.reduceToNat, Int.toNat_natCast, tN_add, tN_add1, tN_sub1, gF_sF, gA_sF, gL_sF, gV_sF, gF_sA, gA_sA, gL_sA, gV_sA, gF_sB, gA_sB, gL_sB, gV_sB, gF_nA, gA_nA, gL_nA, gV_nA, gT_nA, gF_mV, gA_mV, gL_mV, gV_mV, gT_mV, gT_sB, gT_sA, gT_sF, gK_sF, gK_sA, gK_sB, gF_grw, gT_grw, gL_grw, gA_grw, gC_grw, gD_grw, gC_sF, gC_sA, gD_sF, gD_sA, Nat.reduceLT, elT, Nat.reduceEqDiff, eq_self, and_self, and_true, true_and, and_false, false_and, reduceIte, fbB, qc_14_3, qc_15_2, qc_17_2, sbB, fb_15_5, grl]; split <;> omega) | (show 2 * gL _ _ _ ≤ gL _ _ _; simp only [Int.reduceToNat, Int.toNat_natCast, tN_add, tN_add1, tN_sub1, gF_sF, gA_sF, gL_sF, gV_sF, gF_sA, gA_sA, gL_sA, gV_sA, gF_sB, gA_sB, gL_sB, gV_sB, gF_nA, gA_nA, gL_nA, gV_nA, gT_nA, gF_mV, gA_mV, gL_mV, gV_mV, gT_mV, gT_sB, gT_sA, gT_sF, gK_sF, gK_sA, gK_sB, gF_grw, gT_grw, gL_grw, gA_grw, gC_grw, gD_grw, gC_sF, gC_sA, gD_sF, gD_sA, Nat.reduceLT, elT, Nat.reduceEqDiff, eq_self, and_self, and_true, true_and, and_false, false_and, reduceIte, fbB, qc_14_3, qc_15_2, qc_17_2, sbB, fb_15_5]; omega) | (simp only [Int.reduceToNat, Int.toNat_natCast, tN_add, tN_add1, tN_sub1, gF_sF, gA_sF, gL_sF, gV_sF, gF_sA, gA_sA, gL_sA, gV_sA, gF_sB, gA_sB, gL_sB, gV_sB, gF_nA, gA_nA, gL_nA, gV_nA, gT_nA, gF_mV, gA_mV, gL_mV, gV_mV, gT_mV, gT_sB, gT_sA, gT_sF, gK_sF, gK_sA, gK_sB, gF_grw, gT_grw, gL_grw, gA_grw, gC_grw, gD_grw, gC_sF, gC_sA, gD_sF, gD_sA, Nat.reduceLT, elT, Nat.reduceEqDiff, eq_self, and_self, and_true, true_and, and_false, false_and, reduceIte, fbB, qc_14_3, qc_15_2, qc_17_2, sbB, fb_15_5, gK_grw, gN_grw, hN0, hK0]; done))
          refine stop _ _ (by omega) ?_ (hmt _) ⟨g5, g6, g7⟩
          simp only [Int.reduceToNat, Int.toNat_natCast, tN_add, tN_add1, tN_sub1, gF_sF, gA_sF, gL_sF, gV_sF, gF_sA, gA_sA, gL_sA, gV_sA, gF_sB, gA_sB, gL_sB, gV_sB, gF_nA, gA_nA, gL_nA, gV_nA, gT_nA, gF_mV, gA_mV, gL_mV, gV_mV, gT_mV, gT_sB, gT_sA, gT_sF, gK_sF, gK_sA, gK_sB, gF_grw, gT_grw, gL_grw, gA_grw, gC_grw, gD_grw, gC_sF, gC_sA, gD_sF, gD_sA, Nat.reduceLT, elT, Nat.reduceEqDiff, eq_self, and_self, and_true, true_and, and_false, false_and, reduceIte, fbB, qc_14_3, qc_15_2, qc_17_2, sbB, fb_15_5]
          omega
        · refine m_blanks (X := X) (i0 := tpo X t + tln X t) ?_ (hS2 _) ?_ hbb (fun x hx => ?_)
          all_goals (try first | exact rfl | exact True.intro | with_reducible assumption | omega | (simp only [Int.reduceToNat, Int.toNat_natCast, tN_add, tN_add1, tN_sub1, gF_sF, gA_sF, gL_sF, gV_sF, gF_sA, gA_sA, gL_sA, gV_sA, gF_sB, gA_sB, gL_sB, gV_sB, gF_nA, gA_nA, gL_nA, gV_nA, gT_nA, gF_mV, gA_mV, gL_mV, gV_mV, gT_mV, gT_sB, gT_sA, gT_sF, gK_sF, gK_sA, gK_sB, gF_grw, gT_grw, gL_grw, gA_grw, gC_grw, gD_grw, gC_sF, gC_sA, gD_sF, gD_sA, Nat.reduceLT, elT, Nat.reduceEqDiff, eq_self, and_self, and_true, true_and, and_false, false_and, reduceIte, fbB, qc_14_3, qc_15_2, qc_17_2, sbB, fb_15_5]; first | done | with_reducible assumption | omega) | (simp only [Int.reduceToNat, Int.toNat_natCast, tN_add, tN_add1, tN_sub1, gF_sF, gA_sF, gL_sF, gV_sF, gF_sA, gA_sA, gL_sA, gV_sA, gF_sB, gA_sB, gL_sB, gV_sB, gF_nA, gA_nA, gL_nA, gV_nA, gT_nA, gF_mV, gA_mV, gL_mV, gV_mV, gT_mV, gT_sB, gT_sA, gT_sF, gK_sF, gK_sA, gK_sB, gF_grw, gT_grw, gL_grw, gA_grw, gC_grw, gD_grw, gC_sF, gC_sA, gD_sF, gD_sA, Nat.reduceLT, elT, Nat.reduceEqDiff, eq_self, and_self, and_true, true_and, and_false, false_and, reduceIte, fbB, qc_14_3, qc_15_2, qc_17_2, sbB, fb_15_5, grl]; split <;> omega) | (show 2 * gL _ _ _ ≤ gL _ _ _; simp only [Int.reduceToNat, Int.toNat_natCast, tN_add, tN_add1, tN_sub1, gF_sF, gA_sF, gL_sF, gV_sF, gF_sA, gA_sA, gL_sA, gV_sA, gF_sB, gA_sB, gL_sB, gV_sB, gF_nA, gA_nA, gL_nA, gV_nA, gT_nA, gF_mV, gA_mV, gL_mV, gV_mV, gT_mV, gT_sB, gT_sA, gT_sF, gK_sF, gK_sA, gK_sB, gF_grw, gT_grw, gL_grw, gA_grw, gC_grw, gD_grw, gC_sF, gC_sA, gD_sF, gD_sA, Nat.reduceLT, elT, Nat.reduceEqDiff, eq_self, and_self, and_true, true_and, and_false, false_and, reduceIte, fbB, qc_14_3, qc_15_2, qc_17_2, sbB, fb_15_5]; omega) | (simp only [Int.reduceToNat, Int.toNat_natCast, tN_add, tN_add1, tN_sub1, gF_sF, gA_sF, gL_sF, gV_sF, gF_sA, gA_sA, gL_sA, gV_sA, gF_sB, gA_sB, gL_sB, gV_sB, gF_nA, gA_nA, gL_nA, gV_nA, gT_nA, gF_mV, gA_mV, gL_mV, gV_mV, gT_mV, gT_sB, gT_sA, gT_sF, gK_sF, gK_sA, gK_sB, gF_grw, gT_grw, gL_grw, gA_grw, gC_grw, gD_grw, gC_sF, gC_sA, gD_sF, gD_sA, Nat.reduceLT, elT, Nat.reduceEqDiff, eq_self, and_self, and_true, true_and, and_false, false_and, reduceIte, fbB, qc_14_3, qc_15_2, qc_17_2, sbB, fb_15_5, gK_grw, gN_grw, hN0, hK0]; done))
          repeat' (first | refine And.intro ?_ ?_ | (with_reducible intro c; try simp only [cmpI, cmpN, Classical.not_not, not_true_eq_false, not_false_eq_true, Int.reduceToNat, Int.toNat_natCast, tN_add, tN_add1, tN_sub1, gF_sF, gA_sF, gL_sF, gV_sF, gF_sA, gA_sA, gL_sA, gV_sA, gF_sB, gA_sB, gL_sB, gV_sB, gF_nA, gA_nA, gL_nA, gV_nA, gT_nA, gF_mV, gA_mV, gL_mV, gV_mV, gT_mV, gT_sB, gT_sA, gT_sF, gK_sF, gK_sA, gK_sB, gF_grw, gT_grw, gL_grw, gA_grw, gC_grw, gD_grw, gC_sF, gC_sA, gD_sF, gD_sA, Nat.reduceLT, elT, Nat.reduceEqDiff, eq_self, and_self, and_true, true_and, and_false, false_and, reduceIte, fbB, qc_14_3, qc_15_2, qc_17_2, sbB, fb_15_5] at c))
          all_goals (try first | exact rfl | exact True.intro | with_reducible assumption | omega | (simp only [Int.reduceToNat, Int.toNat_natCast, tN_add, tN_add1, tN_sub1, gF_sF, gA_sF, gL_sF, gV_sF, gF_sA, gA_sA, gL_sA, gV_sA, gF_sB, gA_sB, gL_sB, gV_sB, gF_nA, gA_nA, gL_nA, gV_nA, gT_nA, gF_mV, gA_mV, gL_mV, gV_mV, gT_mV, gT_sB, gT_sA, gT_sF, gK_sF, gK_sA, gK_sB, gF_grw, gT_grw, gL_grw, gA_grw, gC_grw, gD_grw, gC_sF, gC_sA, gD_sF, gD_sA, Nat.reduceLT, elT, Nat.reduceEqDiff, eq_self, and_self, and_true, true_and, and_false, false_and, reduceIte, fbB, qc_14_3, qc_15_2, qc_17_2, sbB, fb_15_5]; first | done | with_reducible assumption | omega) | (simp only [Int.reduceToNat, Int.toNat_natCast, tN_add, tN_add1, tN_sub1, gF_sF, gA_sF, gL_sF, gV_sF, gF_sA, gA_sA, gL_sA, gV_sA, gF_sB, gA_sB, gL_sB, gV_sB, gF_nA, gA_nA, gL_nA, gV_nA, gT_nA, gF_mV, gA_mV, gL_mV, gV_mV, gT_mV, gT_sB, gT_sA, gT_sF, gK_sF, gK_sA, gK_sB, gF_grw, gT_grw, gL_grw, gA_grw, gC_grw, gD_grw, gC_sF, gC_sA, gD_sF, gD_sA, Nat.reduceLT, elT, Nat.reduceEqDiff, eq_self, and_self, and_true, true_and, and_false, false_and, reduceIte, fbB, qc_14_3, qc_15_2, qc_17_2, sbB, fb_15_5, grl]; split <;> omega) | (show 2 * gL _ _ _ ≤ gL _ _ _; simp only [Int.reduceToNat, Int.toNat_natCast, tN_add, tN_add1, tN_sub1, gF_sF, gA_sF, gL_sF, gV_sF, gF_sA, gA_sA, gL_sA, gV_sA, gF_sB, gA_sB, gL_sB, gV_sB, gF_nA, gA_nA, gL_nA, gV_nA, gT_nA, gF_mV, gA_mV, gL_mV, gV_mV, gT_mV, gT_sB, gT_sA, gT_sF, gK_sF, gK_sA, gK_sB, gF_grw, gT_grw, gL_grw, gA_grw, gC_grw, gD_grw, gC_sF, gC_sA, gD_sF, gD_sA, Nat.reduceLT, elT, Nat.reduceEqDiff, eq_self, and_self, and_true, true_and, and_false, false_and, reduceIte, fbB, qc_14_3, qc_15_2, qc_17_2, sbB, fb_15_5]; omega) | (simp only [Int.reduceToNat, Int.toNat_natCast, tN_add, tN_add1, tN_sub1, gF_sF, gA_sF, gL_sF, gV_sF, gF_sA, gA_sA, gL_sA, gV_sA, gF_sB, gA_sB, gL_sB, gV_sB, gF_nA, gA_nA, gL_nA, gV_nA, gT_nA, gF_mV, gA_mV, gL_mV, gV_mV, gT_mV, gT_sB, gT_sA, gT_sF, gK_sF, gK_sA, gK_sB, gF_grw, gT_grw, gL_grw, gA_grw, gC_grw, gD_grw, gC_sF, gC_sA, gD_sF, gD_sA, Nat.reduceLT, elT, Nat.reduceEqDiff, eq_self, and_self, and_true, true_and, and_false, false_and, reduceIte, fbB, qc_14_3, qc_15_2, qc_17_2, sbB, fb_15_5, gK_grw, gN_grw, hN0, hK0]; done))
          refine stop _ _ (by omega) ?_ (hmt _) ⟨g5, g6, g7⟩
          simp only [Int.reduceToNat, Int.toNat_natCast, tN_add, tN_add1, tN_sub1, gF_sF, gA_sF, gL_sF, gV_sF, gF_sA, gA_sA, gL_sA, gV_sA, gF_sB, gA_sB, gL_sB, gV_sB, gF_nA, gA_nA, gL_nA, gV_nA, gT_nA, gF_mV, gA_mV, gL_mV, gV_mV, gT_mV, gT_sB, gT_sA, gT_sF, gK_sF, gK_sA, gK_sB, gF_grw, gT_grw, gL_grw, gA_grw, gC_grw, gD_grw, gC_sF, gC_sA, gD_sF, gD_sA, Nat.reduceLT, elT, Nat.reduceEqDiff, eq_self, and_self, and_true, true_and, and_false, false_and, reduceIte, fbB, qc_14_3, qc_15_2, qc_17_2, sbB, fb_15_5]
          omega
        · refine m_blanks (X := X) (i0 := tpo X t + tln X t) ?_ (hS2 _) ?_ hbb (fun x hx => ?_)
          all_goals (try first | exact rfl | exact True.intro | with_reducible assumption | omega | (simp only [Int.reduceToNat, Int.toNat_natCast, tN_add, tN_add1, tN_sub1, gF_sF, gA_sF, gL_sF, gV_sF, gF_sA, gA_sA, gL_sA, gV_sA, gF_sB, gA_sB, gL_sB, gV_sB, gF_nA, gA_nA, gL_nA, gV_nA, gT_nA, gF_mV, gA_mV, gL_mV, gV_mV, gT_mV, gT_sB, gT_sA, gT_sF, gK_sF, gK_sA, gK_sB, gF_grw, gT_grw, gL_grw, gA_grw, gC_grw, gD_grw, gC_sF, gC_sA, gD_sF, gD_sA, Nat.reduceLT, elT, Nat.reduceEqDiff, eq_self, and_self, and_true, true_and, and_false, false_and, reduceIte, fbB, qc_14_3, qc_15_2, qc_17_2, sbB, fb_15_5]; first | done | with_reducible assumption | omega) | (simp only [Int.reduceToNat, Int.toNat_natCast, tN_add, tN_add1, tN_sub1, gF_sF, gA_sF, gL_sF, gV_sF, gF_sA, gA_sA, gL_sA, gV_sA, gF_sB, gA_sB, gL_sB, gV_sB, gF_nA, gA_nA, gL_nA, gV_nA, gT_nA, gF_mV, gA_mV, gL_mV, gV_mV, gT_mV, gT_sB, gT_sA, gT_sF, gK_sF, gK_sA, gK_sB, gF_grw, gT_grw, gL_grw, gA_grw, gC_grw, gD_grw, gC_sF, gC_sA, gD_sF, gD_sA, Nat.reduceLT, elT, Nat.reduceEqDiff, eq_self, and_self, and_true, true_and, and_false, false_and, reduceIte, fbB, qc_14_3, qc_15_2, qc_17_2, sbB, fb_15_5, grl]; split <;> omega) | (show 2 * gL _ _ _ ≤ gL _ _ _; simp only [Int.reduceToNat, Int.toNat_natCast, tN_add, tN_add1, tN_sub1, gF_sF, gA_sF, gL_sF, gV_sF, gF_sA, gA_sA, gL_sA, gV_sA, gF_sB, gA_sB, gL_sB, gV_sB, gF_nA, gA_nA, gL_nA, gV_nA, gT_nA, gF_mV, gA_mV, gL_mV, gV_mV, gT_mV, gT_sB, gT_sA, gT_sF, gK_sF, gK_sA, gK_sB, gF_grw, gT_grw, gL_grw, gA_grw, gC_grw, gD_grw, gC_sF, gC_sA, gD_sF, gD_sA, Nat.reduceLT, elT, Nat.reduceEqDiff, eq_self, and_self, and_true, true_and, and_false, false_and, reduceIte, fbB, qc_14_3, qc_15_2, qc_17_2, sbB, fb_15_5]; omega) | (simp only [Int.reduceToNat, Int.toNat_natCast, tN_add, tN_add1, tN_sub1, gF_sF, gA_sF, gL_sF, gV_sF, gF_sA, gA_sA, gL_sA, gV_sA, gF_sB, gA_sB, gL_sB, gV_sB, gF_nA, gA_nA, gL_nA, gV_nA, gT_nA, gF_mV, gA_mV, gL_mV, gV_mV, gT_mV, gT_sB, gT_sA, gT_sF, gK_sF, gK_sA, gK_sB, gF_grw, gT_grw, gL_grw, gA_grw, gC_grw, gD_grw, gC_sF, gC_sA, gD_sF, gD_sA, Nat.reduceLT, elT, Nat.reduceEqDiff, eq_self, and_self, and_true, true_and, and_false, false_and, reduceIte, fbB, qc_14_3, qc_15_2, qc_17_2, sbB, fb_15_5, gK_grw, gN_grw, hN0, hK0]; done))
          have hx2 : x = (tpo X (t + 1) : Int) := hx
          subst hx2
          repeat' (first | refine And.intro ?_ ?_ | (with_reducible intro c; try simp only [cmpI, cmpN, Classical.not_not, not_true_eq_false, not_false_eq_true, Int.reduceToNat, Int.toNat_natCast, tN_add, tN_add1, tN_sub1, gF_sF, gA_sF, gL_sF, gV_sF, gF_sA, gA_sA, gL_sA, gV_sA, gF_sB, gA_sB, gL_sB, gV_sB, gF_nA, gA_nA, gL_nA, gV_nA, gT_nA, gF_mV, gA_mV, gL_mV, gV_mV, gT_mV, gT_sB, gT_sA, gT_sF, gK_sF, gK_sA, gK_sB, gF_grw, gT_grw, gL_grw, gA_grw, gC_grw, gD_grw, gC_sF, gC_sA, gD_sF, gD_sA, Nat.reduceLT, elT, Nat.reduceEqDiff, eq_self, and_self, and_true, true_and, and_false, false_and, reduceIte, fbB, qc_14_3, qc_15_2, qc_17_2, sbB, fb_15_5] at c))
          all_goals (try first | exact rfl | exact True.intro | with_reducible assumption | omega | (simp only [Int.reduceToNat, Int.toNat_natCast, tN_add, tN_add1, tN_sub1, gF_sF, gA_sF, gL_sF, gV_sF, gF_sA, gA_sA, gL_sA, gV_sA, gF_sB, gA_sB, gL_sB, gV_sB, gF_nA, gA_nA, gL_nA, gV_nA, gT_nA, gF_mV, gA_mV, gL_mV, gV_mV, gT_mV, gT_sB, gT_sA, gT_sF, gK_sF, gK_sA, gK_sB, gF_grw, gT_grw, gL_grw, gA_grw, gC_grw, gD_grw, gC_sF, gC_sA, gD_sF, gD_sA, Nat.reduceLT, elT, Nat.reduceEqDiff, eq_self, and_self, and_true, true_and, and_false, false_and, reduceIte, fbB, qc_14_3, qc_15_2, qc_17_2, sbB, fb_15_5]; first | done | with_reducible assumption | omega) | (simp only [Int.reduceToNat, Int.toNat_natCast, tN_add, tN_add1, tN_sub1, gF_sF, gA_sF, gL_sF, gV_sF, gF_sA, gA_sA, gL_sA, gV_sA, gF_sB, gA_sB, gL_sB, gV_sB, gF_nA, gA_nA, gL_nA, gV_nA, gT_nA, gF_mV, gA_mV, gL_mV, gV_mV, gT_mV, gT_sB, gT_sA, gT_sF, gK_sF, gK_sA, gK_sB, gF_grw, gT_grw, gL_grw, gA_grw, gC_grw, gD_grw, gC_sF, gC_sA, gD_sF, gD_sA, Nat.reduceLT, elT, Nat.reduceEqDiff, eq_self, and_self, and_true, true_and, and_false, false_and, reduceIte, fbB, qc_14_3, qc_15_2, qc_17_2, sbB, fb_15_5, grl]; split <;> omega) | (show 2 * gL _ _ _ ≤ gL _ _ _; simp only [Int.reduceToNat, Int.toNat_natCast, tN_add, tN_add1, tN_sub1, gF_sF, gA_sF, gL_sF, gV_sF, gF_sA, gA_sA, gL_sA, gV_sA, gF_sB, gA_sB, gL_sB, gV_sB, gF_nA, gA_nA, gL_nA, gV_nA, gT_nA, gF_mV, gA_mV, gL_mV, gV_mV, gT_mV, gT_sB, gT_sA, gT_sF, gK_sF, gK_sA, gK_sB, gF_grw, gT_grw, gL_grw, gA_grw, gC_grw, gD_grw, gC_sF, gC_sA, gD_sF, gD_sA, Nat.reduceLT, elT, Nat.reduceEqDiff, eq_self, and_self, and_true, true_and, and_false, false_and, reduceIte, fbB, qc_14_3, qc_15_2, qc_17_2, sbB, fb_15_5]; omega) | (simp only [Int.reduceToNat, Int.toNat_natCast, tN_add, tN_add1, tN_sub1, gF_sF, gA_sF, gL_sF, gV_sF, gF_sA, gA_sA, gL_sA, gV_sA, gF_sB, gA_sB, gL_sB, gV_sB, gF_nA, gA_nA, gL_nA, gV_nA, gT_nA, gF_mV, gA_mV, gL_mV, gV_mV, gT_mV, gT_sB, gT_sA, gT_sF, gK_sF, gK_sA, gK_sB, gF_grw, gT_grw, gL_grw, gA_grw, gC_grw, gD_grw, gC_sF, gC_sA, gD_sF, gD_sA, Nat.reduceLT, elT, Nat.reduceEqDiff, eq_self, and_self, and_true, true_and, and_false, false_and, reduceIte, fbB, qc_14_3, qc_15_2, qc_17_2, sbB, fb_15_5, gK_grw, gN_grw, hN0, hK0]; done))
          refine ih (t + 1) _ _ _ _ _ (by omega) (hS2 _) hW1 ⟨g5, g6, g7⟩ ?_ (hmt _) (fun i hi => ?_)
          · simp only [Int.reduceToNat, Int.toNat_natCast, tN_add, tN_add1, tN_sub1, gF_sF, gA_sF, gL_sF, gV_sF, gF_sA, gA_sA, gL_sA, gV_sA, gF_sB, gA_sB, gL_sB, gV_sB, gF_nA, gA_nA, gL_nA, gV_nA, gT_nA, gF_mV, gA_mV, gL_mV, gV_mV, gT_mV, gT_sB, gT_sA, gT_sF, gK_sF, gK_sA, gK_sB, gF_grw, gT_grw, gL_grw, gA_grw, gC_grw, gD_grw, gC_sF, gC_sA, gD_sF, gD_sA, Nat.reduceLT, elT, Nat.reduceEqDiff, eq_self, and_self, and_true, true_and, and_false, false_and, reduceIte, fbB, qc_14_3, qc_15_2, qc_17_2, sbB, fb_15_5]
            omega
          · rcases Nat.lt_or_ge i t with c | c
            · exact hlt i c
            · rw [show i = t by omega]; omega
      have word : ∀ (m q : Nat) (y : Int), X.2 - (tpo X t + q) < m → tpo X t < X.2 → isLt (X.1 (tpo X t)) → tpo X t + q ≤ X.2 → wE X (tpo X t + q) = wE X (tpo X t) → Jx (mdT 240 [vO 120]) 2 240 k [vO 120] σ Qₚ Eₚ 66 [some (vO 120), some (vI (tpo X t : Int)), some (vI 1), some (vI (q : Int)), some (vI 1), some (vI y), w6] [] σ1 := by
        intro m
        induction m with
        | zero => intro q y h; omega
        | succ m ihw =>
          intro q y hm hp hl hpq hw
          refine jx_seg (il := (fun _ => false)) (mc := true) (fun _ => grow_ok) 120 [66, 325] (by decide) rfl ?_
          repeat' (first | refine And.intro ?_ ?_ | (with_reducible intro c; try simp only [cmpI, cmpN, Classical.not_not, not_true_eq_false, not_false_eq_true, Int.reduceToNat, Int.toNat_natCast, tN_add, tN_add1, tN_sub1, gF_sF, gA_sF, gL_sF, gV_sF, gF_sA, gA_sA, gL_sA, gV_sA, gF_sB, gA_sB, gL_sB, gV_sB, gF_nA, gA_nA, gL_nA, gV_nA, gT_nA, gF_mV, gA_mV, gL_mV, gV_mV, gT_mV, gT_sB, gT_sA, gT_sF, gK_sF, gK_sA, gK_sB, gF_grw, gT_grw, gL_grw, gA_grw, gC_grw, gD_grw, gC_sF, gC_sA, gD_sF, gD_sA, Nat.reduceLT, elT, Nat.reduceEqDiff, eq_self, and_self, and_true, true_and, and_false, false_and, reduceIte, fbB, qc_14_3, qc_15_2, qc_17_2, sbB, fb_15_5] at c))
          all_goals (try first | exact rfl | exact True.intro | with_reducible assumption | omega | (simp only [Int.reduceToNat, Int.toNat_natCast, tN_add, tN_add1, tN_sub1, gF_sF, gA_sF, gL_sF, gV_sF, gF_sA, gA_sA, gL_sA, gV_sA, gF_sB, gA_sB, gL_sB, gV_sB, gF_nA, gA_nA, gL_nA, gV_nA, gT_nA, gF_mV, gA_mV, gL_mV, gV_mV, gT_mV, gT_sB, gT_sA, gT_sF, gK_sF, gK_sA, gK_sB, gF_grw, gT_grw, gL_grw, gA_grw, gC_grw, gD_grw, gC_sF, gC_sA, gD_sF, gD_sA, Nat.reduceLT, elT, Nat.reduceEqDiff, eq_self, and_self, and_true, true_and, and_false, false_and, reduceIte, fbB, qc_14_3, qc_15_2, qc_17_2, sbB, fb_15_5]; first | done | with_reducible assumption | omega) | (simp only [Int.reduceToNat, Int.toNat_natCast, tN_add, tN_add1, tN_sub1, gF_sF, gA_sF, gL_sF, gV_sF, gF_sA, gA_sA, gL_sA, gV_sA, gF_sB, gA_sB, gL_sB, gV_sB, gF_nA, gA_nA, gL_nA, gV_nA, gT_nA, gF_mV, gA_mV, gL_mV, gV_mV, gT_mV, gT_sB, gT_sA, gT_sF, gK_sF, gK_sA, gK_sB, gF_grw, gT_grw, gL_grw, gA_grw, gC_grw, gD_grw, gC_sF, gC_sA, gD_sF, gD_sA, Nat.reduceLT, elT, Nat.reduceEqDiff, eq_self, and_self, and_true, true_and, and_false, false_and, reduceIte, fbB, qc_14_3, qc_15_2, qc_17_2, sbB, fb_15_5, grl]; split <;> omega) | (show 2 * gL _ _ _ ≤ gL _ _ _; simp only [Int.reduceToNat, Int.toNat_natCast, tN_add, tN_add1, tN_sub1, gF_sF, gA_sF, gL_sF, gV_sF, gF_sA, gA_sA, gL_sA, gV_sA, gF_sB, gA_sB, gL_sB, gV_sB, gF_nA, gA_nA, gL_nA, gV_nA, gT_nA, gF_mV, gA_mV, gL_mV, gV_mV, gT_mV, gT_sB, gT_sA, gT_sF, gK_sF, gK_sA, gK_sB, gF_grw, gT_grw, gL_grw, gA_grw, gC_grw, gD_grw, gC_sF, gC_sA, gD_sF, gD_sA, Nat.reduceLT, elT, Nat.reduceEqDiff, eq_self, and_self, and_true, true_and, and_false, false_and, reduceIte, fbB, qc_14_3, qc_15_2, qc_17_2, sbB, fb_15_5]; omega) | (simp only [Int.reduceToNat, Int.toNat_natCast, tN_add, tN_add1, tN_sub1, gF_sF, gA_sF, gL_sF, gV_sF, gF_sA, gA_sA, gL_sA, gV_sA, gF_sB, gA_sB, gL_sB, gV_sB, gF_nA, gA_nA, gL_nA, gV_nA, gT_nA, gF_mV, gA_mV, gL_mV, gV_mV, gT_mV, gT_sB, gT_sA, gT_sF, gK_sF, gK_sA, gK_sB, gF_grw, gT_grw, gL_grw, gA_grw, gC_grw, gD_grw, gC_sF, gC_sA, gD_sF, gD_sA, Nat.reduceLT, elT, Nat.reduceEqDiff, eq_self, and_self, and_true, true_and, and_false, false_and, reduceIte, fbB, qc_14_3, qc_15_2, qc_17_2, sbB, fb_15_5, gK_grw, gN_grw, hN0, hK0]; done))
          refine m_isWord (i := tpo X t + q) ?_ hS1 ?_ (fun x hx => ?_)
          all_goals (try first | exact rfl | exact True.intro | with_reducible assumption | omega | (simp only [Int.reduceToNat, Int.toNat_natCast, tN_add, tN_add1, tN_sub1, gF_sF, gA_sF, gL_sF, gV_sF, gF_sA, gA_sA, gL_sA, gV_sA, gF_sB, gA_sB, gL_sB, gV_sB, gF_nA, gA_nA, gL_nA, gV_nA, gT_nA, gF_mV, gA_mV, gL_mV, gV_mV, gT_mV, gT_sB, gT_sA, gT_sF, gK_sF, gK_sA, gK_sB, gF_grw, gT_grw, gL_grw, gA_grw, gC_grw, gD_grw, gC_sF, gC_sA, gD_sF, gD_sA, Nat.reduceLT, elT, Nat.reduceEqDiff, eq_self, and_self, and_true, true_and, and_false, false_and, reduceIte, fbB, qc_14_3, qc_15_2, qc_17_2, sbB, fb_15_5]; first | done | with_reducible assumption | omega) | (simp only [Int.reduceToNat, Int.toNat_natCast, tN_add, tN_add1, tN_sub1, gF_sF, gA_sF, gL_sF, gV_sF, gF_sA, gA_sA, gL_sA, gV_sA, gF_sB, gA_sB, gL_sB, gV_sB, gF_nA, gA_nA, gL_nA, gV_nA, gT_nA, gF_mV, gA_mV, gL_mV, gV_mV, gT_mV, gT_sB, gT_sA, gT_sF, gK_sF, gK_sA, gK_sB, gF_grw, gT_grw, gL_grw, gA_grw, gC_grw, gD_grw, gC_sF, gC_sA, gD_sF, gD_sA, Nat.reduceLT, elT, Nat.reduceEqDiff, eq_self, and_self, and_true, true_and, and_false, false_and, reduceIte, fbB, qc_14_3, qc_15_2, qc_17_2, sbB, fb_15_5, grl]; split <;> omega) | (show 2 * gL _ _ _ ≤ gL _ _ _; simp only [Int.reduceToNat, Int.toNat_natCast, tN_add, tN_add1, tN_sub1, gF_sF, gA_sF, gL_sF, gV_sF, gF_sA, gA_sA, gL_sA, gV_sA, gF_sB, gA_sB, gL_sB, gV_sB, gF_nA, gA_nA, gL_nA, gV_nA, gT_nA, gF_mV, gA_mV, gL_mV, gV_mV, gT_mV, gT_sB, gT_sA, gT_sF, gK_sF, gK_sA, gK_sB, gF_grw, gT_grw, gL_grw, gA_grw, gC_grw, gD_grw, gC_sF, gC_sA, gD_sF, gD_sA, Nat.reduceLT, elT, Nat.reduceEqDiff, eq_self, and_self, and_true, true_and, and_false, false_and, reduceIte, fbB, qc_14_3, qc_15_2, qc_17_2, sbB, fb_15_5]; omega) | (simp only [Int.reduceToNat, Int.toNat_natCast, tN_add, tN_add1, tN_sub1, gF_sF, gA_sF, gL_sF, gV_sF, gF_sA, gA_sA, gL_sA, gV_sA, gF_sB, gA_sB, gL_sB, gV_sB, gF_nA, gA_nA, gL_nA, gV_nA, gT_nA, gF_mV, gA_mV, gL_mV, gV_mV, gT_mV, gT_sB, gT_sA, gT_sF, gK_sF, gK_sA, gK_sB, gF_grw, gT_grw, gL_grw, gA_grw, gC_grw, gD_grw, gC_sF, gC_sA, gD_sF, gD_sA, Nat.reduceLT, elT, Nat.reduceEqDiff, eq_self, and_self, and_true, true_and, and_false, false_and, reduceIte, fbB, qc_14_3, qc_15_2, qc_17_2, sbB, fb_15_5, gK_grw, gN_grw, hN0, hK0]; done))
          repeat' (first | refine And.intro ?_ ?_ | (with_reducible intro c; try simp only [cmpI, cmpN, Classical.not_not, not_true_eq_false, not_false_eq_true, Int.reduceToNat, Int.toNat_natCast, tN_add, tN_add1, tN_sub1, gF_sF, gA_sF, gL_sF, gV_sF, gF_sA, gA_sA, gL_sA, gV_sA, gF_sB, gA_sB, gL_sB, gV_sB, gF_nA, gA_nA, gL_nA, gV_nA, gT_nA, gF_mV, gA_mV, gL_mV, gV_mV, gT_mV, gT_sB, gT_sA, gT_sF, gK_sF, gK_sA, gK_sB, gF_grw, gT_grw, gL_grw, gA_grw, gC_grw, gD_grw, gC_sF, gC_sA, gD_sF, gD_sA, Nat.reduceLT, elT, Nat.reduceEqDiff, eq_self, and_self, and_true, true_and, and_false, false_and, reduceIte, fbB, qc_14_3, qc_15_2, qc_17_2, sbB, fb_15_5] at c))
          all_goals (try first | exact rfl | exact True.intro | with_reducible assumption | omega | (simp only [Int.reduceToNat, Int.toNat_natCast, tN_add, tN_add1, tN_sub1, gF_sF, gA_sF, gL_sF, gV_sF, gF_sA, gA_sA, gL_sA, gV_sA, gF_sB, gA_sB, gL_sB, gV_sB, gF_nA, gA_nA, gL_nA, gV_nA, gT_nA, gF_mV, gA_mV, gL_mV, gV_mV, gT_mV, gT_sB, gT_sA, gT_sF, gK_sF, gK_sA, gK_sB, gF_grw, gT_grw, gL_grw, gA_grw, gC_grw, gD_grw, gC_sF, gC_sA, gD_sF, gD_sA, Nat.reduceLT, elT, Nat.reduceEqDiff, eq_self, and_self, and_true, true_and, and_false, false_and, reduceIte, fbB, qc_14_3, qc_15_2, qc_17_2, sbB, fb_15_5]; first | done | with_reducible assumption | omega) | (simp only [Int.reduceToNat, Int.toNat_natCast, tN_add, tN_add1, tN_sub1, gF_sF, gA_sF, gL_sF, gV_sF, gF_sA, gA_sA, gL_sA, gV_sA, gF_sB, gA_sB, gL_sB, gV_sB, gF_nA, gA_nA, gL_nA, gV_nA, gT_nA, gF_mV, gA_mV, gL_mV, gV_mV, gT_mV, gT_sB, gT_sA, gT_sF, gK_sF, gK_sA, gK_sB, gF_grw, gT_grw, gL_grw, gA_grw, gC_grw, gD_grw, gC_sF, gC_sA, gD_sF, gD_sA, Nat.reduceLT, elT, Nat.reduceEqDiff, eq_self, and_self, and_true, true_and, and_false, false_and, reduceIte, fbB, qc_14_3, qc_15_2, qc_17_2, sbB, fb_15_5, grl]; split <;> omega) | (show 2 * gL _ _ _ ≤ gL _ _ _; simp only [Int.reduceToNat, Int.toNat_natCast, tN_add, tN_add1, tN_sub1, gF_sF, gA_sF, gL_sF, gV_sF, gF_sA, gA_sA, gL_sA, gV_sA, gF_sB, gA_sB, gL_sB, gV_sB, gF_nA, gA_nA, gL_nA, gV_nA, gT_nA, gF_mV, gA_mV, gL_mV, gV_mV, gT_mV, gT_sB, gT_sA, gT_sF, gK_sF, gK_sA, gK_sB, gF_grw, gT_grw, gL_grw, gA_grw, gC_grw, gD_grw, gC_sF, gC_sA, gD_sF, gD_sA, Nat.reduceLT, elT, Nat.reduceEqDiff, eq_self, and_self, and_true, true_and, and_false, false_and, reduceIte, fbB, qc_14_3, qc_15_2, qc_17_2, sbB, fb_15_5]; omega) | (simp only [Int.reduceToNat, Int.toNat_natCast, tN_add, tN_add1, tN_sub1, gF_sF, gA_sF, gL_sF, gV_sF, gF_sA, gA_sA, gL_sA, gV_sA, gF_sB, gA_sB, gL_sB, gV_sB, gF_nA, gA_nA, gL_nA, gV_nA, gT_nA, gF_mV, gA_mV, gL_mV, gV_mV, gT_mV, gT_sB, gT_sA, gT_sF, gK_sF, gK_sA, gK_sB, gF_grw, gT_grw, gL_grw, gA_grw, gC_grw, gD_grw, gC_sF, gC_sA, gD_sF, gD_sA, Nat.reduceLT, elT, Nat.reduceEqDiff, eq_self, and_self, and_true, true_and, and_false, false_and, reduceIte, fbB, qc_14_3, qc_15_2, qc_17_2, sbB, fb_15_5, gK_grw, gN_grw, hN0, hK0]; done))
          · have hn : ¬ (tpo X t + q < X.2 ∧ (isLt (X.1 (tpo X t + q)) ∨ isDg (X.1 (tpo X t + q)))) := fun h => by rw [if_pos h] at hx; omega
            have hq : wE X (tpo X t) - tpo X t = q := by
              have : wE X (tpo X t + q) = tpo X t + q := by
                rw [wE]
                by_cases c2 : tpo X t + q < X.2
                · rw [if_pos c2, if_neg (fun c3 => hn ⟨c2, c3⟩)]
                · rw [if_neg c2]
              omega
            have htk := tkE_word hp hl
            rw [hq] at htk
            have e1 : tln X t = q := by show (tkE X (tpo X t)).2 = q; rw [htk]
            have e2 : tkd X t = if spl X (tpo X t) q 60 33 = 1 ∧ q ≤ 30 then 2 else spl X (tpo X t) q 60 33 := by show (tkE X (tpo X t)).1 = _; rw [htk]
            have hr := spl_range X (tpo X t) q 60 33
            refine m_wordOf (p := tpo X t) (n := q) ?_ hS1 hW1 hpq rfl rfl (fun z hz1 hz2 => ?_)
            · omega
            have hz : z = mcd.getD (tkd X t) 0 := by
              rw [e2]
              by_cases c2 : spl X (tpo X t) q 60 33 = 1
              · have := hz1 c2
                by_cases c3 : q ≤ 30
                · rw [if_pos ⟨c2, c3⟩, this, if_neg (by omega)]; rfl
                · rw [if_neg (fun h => c3 h.2), this, if_pos (by omega), c2]; rfl
              · rw [if_neg (fun h => c2 h.1), hz2 c2]
                have hr2 : 33 ≤ spl X (tpo X t) q 60 33 ∧ spl X (tpo X t) q 60 33 < 52 := by omega
                generalize spl X (tpo X t) q 60 33 = a at hr2 ⊢
                have hall : (List.range 52).all (fun a => !(Nat.ble 33 a) || decide (300 + ((a : Int) - 33) = mcd.getD a 0)) = true := by decide +kernel
                have h4 := List.all_eq_true.mp hall a (List.mem_range.mpr hr2.2)
                rw [Nat.ble_eq_true_of_le hr2.1] at h4
                simpa using h4
            have key := tail (some (vI y)) w6
            rw [e1, ← hz] at key
            repeat' (first | refine And.intro ?_ ?_ | (with_reducible intro c; try simp only [cmpI, cmpN, Classical.not_not, not_true_eq_false, not_false_eq_true, Int.reduceToNat, Int.toNat_natCast, tN_add, tN_add1, tN_sub1, gF_sF, gA_sF, gL_sF, gV_sF, gF_sA, gA_sA, gL_sA, gV_sA, gF_sB, gA_sB, gL_sB, gV_sB, gF_nA, gA_nA, gL_nA, gV_nA, gT_nA, gF_mV, gA_mV, gL_mV, gV_mV, gT_mV, gT_sB, gT_sA, gT_sF, gK_sF, gK_sA, gK_sB, gF_grw, gT_grw, gL_grw, gA_grw, gC_grw, gD_grw, gC_sF, gC_sA, gD_sF, gD_sA, Nat.reduceLT, elT, Nat.reduceEqDiff, eq_self, and_self, and_true, true_and, and_false, false_and, reduceIte, fbB, qc_14_3, qc_15_2, qc_17_2, sbB, fb_15_5] at c))
            all_goals (try first | exact rfl | exact True.intro | with_reducible assumption | omega | (simp only [Int.reduceToNat, Int.toNat_natCast, tN_add, tN_add1, tN_sub1, gF_sF, gA_sF, gL_sF, gV_sF, gF_sA, gA_sA, gL_sA, gV_sA, gF_sB, gA_sB, gL_sB, gV_sB, gF_nA, gA_nA, gL_nA, gV_nA, gT_nA, gF_mV, gA_mV, gL_mV, gV_mV, gT_mV, gT_sB, gT_sA, gT_sF, gK_sF, gK_sA, gK_sB, gF_grw, gT_grw, gL_grw, gA_grw, gC_grw, gD_grw, gC_sF, gC_sA, gD_sF, gD_sA, Nat.reduceLT, elT, Nat.reduceEqDiff, eq_self, and_self, and_true, true_and, and_false, false_and, reduceIte, fbB, qc_14_3, qc_15_2, qc_17_2, sbB, fb_15_5]; first | done | with_reducible assumption | omega) | (simp only [Int.reduceToNat, Int.toNat_natCast, tN_add, tN_add1, tN_sub1, gF_sF, gA_sF, gL_sF, gV_sF, gF_sA, gA_sA, gL_sA, gV_sA, gF_sB, gA_sB, gL_sB, gV_sB, gF_nA, gA_nA, gL_nA, gV_nA, gT_nA, gF_mV, gA_mV, gL_mV, gV_mV, gT_mV, gT_sB, gT_sA, gT_sF, gK_sF, gK_sA, gK_sB, gF_grw, gT_grw, gL_grw, gA_grw, gC_grw, gD_grw, gC_sF, gC_sA, gD_sF, gD_sA, Nat.reduceLT, elT, Nat.reduceEqDiff, eq_self, and_self, and_true, true_and, and_false, false_and, reduceIte, fbB, qc_14_3, qc_15_2, qc_17_2, sbB, fb_15_5, grl]; split <;> omega) | (show 2 * gL _ _ _ ≤ gL _ _ _; simp only [Int.reduceToNat, Int.toNat_natCast, tN_add, tN_add1, tN_sub1, gF_sF, gA_sF, gL_sF, gV_sF, gF_sA, gA_sA, gL_sA, gV_sA, gF_sB, gA_sB, gL_sB, gV_sB, gF_nA, gA_nA, gL_nA, gV_nA, gT_nA, gF_mV, gA_mV, gL_mV, gV_mV, gT_mV, gT_sB, gT_sA, gT_sF, gK_sF, gK_sA, gK_sB, gF_grw, gT_grw, gL_grw, gA_grw, gC_grw, gD_grw, gC_sF, gC_sA, gD_sF, gD_sA, Nat.reduceLT, elT, Nat.reduceEqDiff, eq_self, and_self, and_true, true_and, and_false, false_and, reduceIte, fbB, qc_14_3, qc_15_2, qc_17_2, sbB, fb_15_5]; omega) | (simp only [Int.reduceToNat, Int.toNat_natCast, tN_add, tN_add1, tN_sub1, gF_sF, gA_sF, gL_sF, gV_sF, gF_sA, gA_sA, gL_sA, gV_sA, gF_sB, gA_sB, gL_sB, gV_sB, gF_nA, gA_nA, gL_nA, gV_nA, gT_nA, gF_mV, gA_mV, gL_mV, gV_mV, gT_mV, gT_sB, gT_sA, gT_sF, gK_sF, gK_sA, gK_sB, gF_grw, gT_grw, gL_grw, gA_grw, gC_grw, gD_grw, gC_sF, gC_sA, gD_sF, gD_sA, Nat.reduceLT, elT, Nat.reduceEqDiff, eq_self, and_self, and_true, true_and, and_false, false_and, reduceIte, fbB, qc_14_3, qc_15_2, qc_17_2, sbB, fb_15_5, gK_grw, gN_grw, hN0, hK0]; done))
            exact key
          · have hy : tpo X t + q < X.2 ∧ (isLt (X.1 (tpo X t + q)) ∨ isDg (X.1 (tpo X t + q))) := by
              by_cases h : tpo X t + q < X.2 ∧ (isLt (X.1 (tpo X t + q)) ∨ isDg (X.1 (tpo X t + q)))
              · exact h
              · rw [if_neg h] at hx; omega
            exact ihw (q + 1) y (by omega) hp hl (by omega) (by
              rw [← hw]
              show wE X (tpo X t + q + 1) = _
              rw [wE.eq_1 X (tpo X t + q), if_pos hy.1, if_pos hy.2])
      have digs : ∀ (m q : Nat) (y : Int), X.2 - (tpo X t + q) < m → tpo X t < X.2 → ¬ isLt (X.1 (tpo X t)) → isDg (X.1 (tpo X t)) → 1 ≤ q → tpo X t + q ≤ X.2 → dE X (tpo X t + q) = dE X (tpo X t) → (∀ i, i < q → isDg (X.1 (tpo X t + i))) → Jx (mdT 240 [vO 120]) 2 240 k [vO 120] σ Qₚ Eₚ 101 [some (vO 120), some (vI (tpo X t : Int)), some (vI 1), some (vI (q : Int)), some (vI 1), some (vI y), w6] [] σ1 := by
        intro m
        induction m with
        | zero => intro q y h; omega
        | succ m ihw =>
          intro q y hm hp hl hd hq1 hpq hw hdg
          have ex : tpo X t + q < X.2 → gA σ1 120 2 (tpo X t + q) = X.1 (tpo X t + q) := hS1.2.2 (tpo X t + q)
          have fin : ¬ (tpo X t + q < X.2 ∧ isDg (X.1 (tpo X t + q))) → Jx (mdT 240 [vO 120]) 2 240 k [vO 120] σ Qₚ Eₚ 131 [some (vO 120), some (vI (tpo X t : Int)), some (vI 1), some (vI (q : Int)), some (vI 1), some (vI y), w6] [] σ1 := fun hn => by
            have hq : dE X (tpo X t) - tpo X t = q := by
              have : dE X (tpo X t + q) = tpo X t + q := by
                rw [dE]
                by_cases c2 : tpo X t + q < X.2
                · rw [if_pos c2, if_neg (fun c3 => hn ⟨c2, c3⟩)]
                · rw [if_neg c2]
              omega
            obtain ⟨t1, t2, t3⟩ := tkE_num hp hl hd
            rw [hq] at t1 t2 t3
            have e1 : tln X t = q := t1
            refine jx_seg (il := (fun _ => false)) (mc := true) (fun _ => grow_ok) 60 [325] (by decide) rfl ?_
            repeat' (first | refine And.intro ?_ ?_ | (with_reducible intro c; try simp only [cmpI, cmpN, Classical.not_not, not_true_eq_false, not_false_eq_true, Int.reduceToNat, Int.toNat_natCast, tN_add, tN_add1, tN_sub1, gF_sF, gA_sF, gL_sF, gV_sF, gF_sA, gA_sA, gL_sA, gV_sA, gF_sB, gA_sB, gL_sB, gV_sB, gF_nA, gA_nA, gL_nA, gV_nA, gT_nA, gF_mV, gA_mV, gL_mV, gV_mV, gT_mV, gT_sB, gT_sA, gT_sF, gK_sF, gK_sA, gK_sB, gF_grw, gT_grw, gL_grw, gA_grw, gC_grw, gD_grw, gC_sF, gC_sA, gD_sF, gD_sA, Nat.reduceLT, elT, Nat.reduceEqDiff, eq_self, and_self, and_true, true_and, and_false, false_and, reduceIte, fbB, qc_14_3, qc_15_2, qc_17_2, sbB, fb_15_5] at c))
            all_goals (try first | exact rfl | exact True.intro | with_reducible assumption | omega | (simp only [Int.reduceToNat, Int.toNat_natCast, tN_add, tN_add1, tN_sub1, gF_sF, gA_sF, gL_sF, gV_sF, gF_sA, gA_sA, gL_sA, gV_sA, gF_sB, gA_sB, gL_sB, gV_sB, gF_nA, gA_nA, gL_nA, gV_nA, gT_nA, gF_mV, gA_mV, gL_mV, gV_mV, gT_mV, gT_sB, gT_sA, gT_sF, gK_sF, gK_sA, gK_sB, gF_grw, gT_grw, gL_grw, gA_grw, gC_grw, gD_grw, gC_sF, gC_sA, gD_sF, gD_sA, Nat.reduceLT, elT, Nat.reduceEqDiff, eq_self, and_self, and_true, true_and, and_false, false_and, reduceIte, fbB, qc_14_3, qc_15_2, qc_17_2, sbB, fb_15_5]; first | done | with_reducible assumption | omega) | (simp only [Int.reduceToNat, Int.toNat_natCast, tN_add, tN_add1, tN_sub1, gF_sF, gA_sF, gL_sF, gV_sF, gF_sA, gA_sA, gL_sA, gV_sA, gF_sB, gA_sB, gL_sB, gV_sB, gF_nA, gA_nA, gL_nA, gV_nA, gT_nA, gF_mV, gA_mV, gL_mV, gV_mV, gT_mV, gT_sB, gT_sA, gT_sF, gK_sF, gK_sA, gK_sB, gF_grw, gT_grw, gL_grw, gA_grw, gC_grw, gD_grw, gC_sF, gC_sA, gD_sF, gD_sA, Nat.reduceLT, elT, Nat.reduceEqDiff, eq_self, and_self, and_true, true_and, and_false, false_and, reduceIte, fbB, qc_14_3, qc_15_2, qc_17_2, sbB, fb_15_5, grl]; split <;> omega) | (show 2 * gL _ _ _ ≤ gL _ _ _; simp only [Int.reduceToNat, Int.toNat_natCast, tN_add, tN_add1, tN_sub1, gF_sF, gA_sF, gL_sF, gV_sF, gF_sA, gA_sA, gL_sA, gV_sA, gF_sB, gA_sB, gL_sB, gV_sB, gF_nA, gA_nA, gL_nA, gV_nA, gT_nA, gF_mV, gA_mV, gL_mV, gV_mV, gT_mV, gT_sB, gT_sA, gT_sF, gK_sF, gK_sA, gK_sB, gF_grw, gT_grw, gL_grw, gA_grw, gC_grw, gD_grw, gC_sF, gC_sA, gD_sF, gD_sA, Nat.reduceLT, elT, Nat.reduceEqDiff, eq_self, and_self, and_true, true_and, and_false, false_and, reduceIte, fbB, qc_14_3, qc_15_2, qc_17_2, sbB, fb_15_5]; omega) | (simp only [Int.reduceToNat, Int.toNat_natCast, tN_add, tN_add1, tN_sub1, gF_sF, gA_sF, gL_sF, gV_sF, gF_sA, gA_sA, gL_sA, gV_sA, gF_sB, gA_sB, gL_sB, gV_sB, gF_nA, gA_nA, gL_nA, gV_nA, gT_nA, gF_mV, gA_mV, gL_mV, gV_mV, gT_mV, gT_sB, gT_sA, gT_sF, gK_sF, gK_sA, gK_sB, gF_grw, gT_grw, gL_grw, gA_grw, gC_grw, gD_grw, gC_sF, gC_sA, gD_sF, gD_sA, Nat.reduceLT, elT, Nat.reduceEqDiff, eq_self, and_self, and_true, true_and, and_false, false_and, reduceIte, fbB, qc_14_3, qc_15_2, qc_17_2, sbB, fb_15_5, gK_grw, gN_grw, hN0, hK0]; done))
            refine m_isNumber (p := tpo X t) (n := q) ?_ hS1 hpq hq1 hdg hn rfl rfl (fun z hz1 hz2 => ?_)
            · omega
            have key := tail (some (vI y)) w6
            rw [e1] at key
            by_cases hok : okN X (tpo X t) q
            · have e2 : tkd X t = 3 := t2 hok
              have hz := hz1 hok
              rw [e2] at key
              subst hz
              repeat' (first | refine And.intro ?_ ?_ | (with_reducible intro c; try simp only [cmpI, cmpN, Classical.not_not, not_true_eq_false, not_false_eq_true, Int.reduceToNat, Int.toNat_natCast, tN_add, tN_add1, tN_sub1, gF_sF, gA_sF, gL_sF, gV_sF, gF_sA, gA_sA, gL_sA, gV_sA, gF_sB, gA_sB, gL_sB, gV_sB, gF_nA, gA_nA, gL_nA, gV_nA, gT_nA, gF_mV, gA_mV, gL_mV, gV_mV, gT_mV, gT_sB, gT_sA, gT_sF, gK_sF, gK_sA, gK_sB, gF_grw, gT_grw, gL_grw, gA_grw, gC_grw, gD_grw, gC_sF, gC_sA, gD_sF, gD_sA, Nat.reduceLT, elT, Nat.reduceEqDiff, eq_self, and_self, and_true, true_and, and_false, false_and, reduceIte, fbB, qc_14_3, qc_15_2, qc_17_2, sbB, fb_15_5] at c))
              all_goals (try first | exact rfl | exact True.intro | with_reducible assumption | omega | (simp only [Int.reduceToNat, Int.toNat_natCast, tN_add, tN_add1, tN_sub1, gF_sF, gA_sF, gL_sF, gV_sF, gF_sA, gA_sA, gL_sA, gV_sA, gF_sB, gA_sB, gL_sB, gV_sB, gF_nA, gA_nA, gL_nA, gV_nA, gT_nA, gF_mV, gA_mV, gL_mV, gV_mV, gT_mV, gT_sB, gT_sA, gT_sF, gK_sF, gK_sA, gK_sB, gF_grw, gT_grw, gL_grw, gA_grw, gC_grw, gD_grw, gC_sF, gC_sA, gD_sF, gD_sA, Nat.reduceLT, elT, Nat.reduceEqDiff, eq_self, and_self, and_true, true_and, and_false, false_and, reduceIte, fbB, qc_14_3, qc_15_2, qc_17_2, sbB, fb_15_5]; first | done | with_reducible assumption | omega) | (simp only [Int.reduceToNat, Int.toNat_natCast, tN_add, tN_add1, tN_sub1, gF_sF, gA_sF, gL_sF, gV_sF, gF_sA, gA_sA, gL_sA, gV_sA, gF_sB, gA_sB, gL_sB, gV_sB, gF_nA, gA_nA, gL_nA, gV_nA, gT_nA, gF_mV, gA_mV, gL_mV, gV_mV, gT_mV, gT_sB, gT_sA, gT_sF, gK_sF, gK_sA, gK_sB, gF_grw, gT_grw, gL_grw, gA_grw, gC_grw, gD_grw, gC_sF, gC_sA, gD_sF, gD_sA, Nat.reduceLT, elT, Nat.reduceEqDiff, eq_self, and_self, and_true, true_and, and_false, false_and, reduceIte, fbB, qc_14_3, qc_15_2, qc_17_2, sbB, fb_15_5, grl]; split <;> omega) | (show 2 * gL _ _ _ ≤ gL _ _ _; simp only [Int.reduceToNat, Int.toNat_natCast, tN_add, tN_add1, tN_sub1, gF_sF, gA_sF, gL_sF, gV_sF, gF_sA, gA_sA, gL_sA, gV_sA, gF_sB, gA_sB, gL_sB, gV_sB, gF_nA, gA_nA, gL_nA, gV_nA, gT_nA, gF_mV, gA_mV, gL_mV, gV_mV, gT_mV, gT_sB, gT_sA, gT_sF, gK_sF, gK_sA, gK_sB, gF_grw, gT_grw, gL_grw, gA_grw, gC_grw, gD_grw, gC_sF, gC_sA, gD_sF, gD_sA, Nat.reduceLT, elT, Nat.reduceEqDiff, eq_self, and_self, and_true, true_and, and_false, false_and, reduceIte, fbB, qc_14_3, qc_15_2, qc_17_2, sbB, fb_15_5]; omega) | (simp only [Int.reduceToNat, Int.toNat_natCast, tN_add, tN_add1, tN_sub1, gF_sF, gA_sF, gL_sF, gV_sF, gF_sA, gA_sA, gL_sA, gV_sA, gF_sB, gA_sB, gL_sB, gV_sB, gF_nA, gA_nA, gL_nA, gV_nA, gT_nA, gF_mV, gA_mV, gL_mV, gV_mV, gT_mV, gT_sB, gT_sA, gT_sF, gK_sF, gK_sA, gK_sB, gF_grw, gT_grw, gL_grw, gA_grw, gC_grw, gD_grw, gC_sF, gC_sA, gD_sF, gD_sA, Nat.reduceLT, elT, Nat.reduceEqDiff, eq_self, and_self, and_true, true_and, and_false, false_and, reduceIte, fbB, qc_14_3, qc_15_2, qc_17_2, sbB, fb_15_5, gK_grw, gN_grw, hN0, hK0]; done))
              exact key
            · have e2 : tkd X t = 1 := t3 hok
              have hz := hz2 hok
              rw [e2] at key
              subst hz
              repeat' (first | refine And.intro ?_ ?_ | (with_reducible intro c; try simp only [cmpI, cmpN, Classical.not_not, not_true_eq_false, not_false_eq_true, Int.reduceToNat, Int.toNat_natCast, tN_add, tN_add1, tN_sub1, gF_sF, gA_sF, gL_sF, gV_sF, gF_sA, gA_sA, gL_sA, gV_sA, gF_sB, gA_sB, gL_sB, gV_sB, gF_nA, gA_nA, gL_nA, gV_nA, gT_nA, gF_mV, gA_mV, gL_mV, gV_mV, gT_mV, gT_sB, gT_sA, gT_sF, gK_sF, gK_sA, gK_sB, gF_grw, gT_grw, gL_grw, gA_grw, gC_grw, gD_grw, gC_sF, gC_sA, gD_sF, gD_sA, Nat.reduceLT, elT, Nat.reduceEqDiff, eq_self, and_self, and_true, true_and, and_false, false_and, reduceIte, fbB, qc_14_3, qc_15_2, qc_17_2, sbB, fb_15_5] at c))
              all_goals (try first | exact rfl | exact True.intro | with_reducible assumption | omega | (simp only [Int.reduceToNat, Int.toNat_natCast, tN_add, tN_add1, tN_sub1, gF_sF, gA_sF, gL_sF, gV_sF, gF_sA, gA_sA, gL_sA, gV_sA, gF_sB, gA_sB, gL_sB, gV_sB, gF_nA, gA_nA, gL_nA, gV_nA, gT_nA, gF_mV, gA_mV, gL_mV, gV_mV, gT_mV, gT_sB, gT_sA, gT_sF, gK_sF, gK_sA, gK_sB, gF_grw, gT_grw, gL_grw, gA_grw, gC_grw, gD_grw, gC_sF, gC_sA, gD_sF, gD_sA, Nat.reduceLT, elT, Nat.reduceEqDiff, eq_self, and_self, and_true, true_and, and_false, false_and, reduceIte, fbB, qc_14_3, qc_15_2, qc_17_2, sbB, fb_15_5]; first | done | with_reducible assumption | omega) | (simp only [Int.reduceToNat, Int.toNat_natCast, tN_add, tN_add1, tN_sub1, gF_sF, gA_sF, gL_sF, gV_sF, gF_sA, gA_sA, gL_sA, gV_sA, gF_sB, gA_sB, gL_sB, gV_sB, gF_nA, gA_nA, gL_nA, gV_nA, gT_nA, gF_mV, gA_mV, gL_mV, gV_mV, gT_mV, gT_sB, gT_sA, gT_sF, gK_sF, gK_sA, gK_sB, gF_grw, gT_grw, gL_grw, gA_grw, gC_grw, gD_grw, gC_sF, gC_sA, gD_sF, gD_sA, Nat.reduceLT, elT, Nat.reduceEqDiff, eq_self, and_self, and_true, true_and, and_false, false_and, reduceIte, fbB, qc_14_3, qc_15_2, qc_17_2, sbB, fb_15_5, grl]; split <;> omega) | (show 2 * gL _ _ _ ≤ gL _ _ _; simp only [Int.reduceToNat, Int.toNat_natCast, tN_add, tN_add1, tN_sub1, gF_sF, gA_sF, gL_sF, gV_sF, gF_sA, gA_sA, gL_sA, gV_sA, gF_sB, gA_sB, gL_sB, gV_sB, gF_nA, gA_nA, gL_nA, gV_nA, gT_nA, gF_mV, gA_mV, gL_mV, gV_mV, gT_mV, gT_sB, gT_sA, gT_sF, gK_sF, gK_sA, gK_sB, gF_grw, gT_grw, gL_grw, gA_grw, gC_grw, gD_grw, gC_sF, gC_sA, gD_sF, gD_sA, Nat.reduceLT, elT, Nat.reduceEqDiff, eq_self, and_self, and_true, true_and, and_false, false_and, reduceIte, fbB, qc_14_3, qc_15_2, qc_17_2, sbB, fb_15_5]; omega) | (simp only [Int.reduceToNat, Int.toNat_natCast, tN_add, tN_add1, tN_sub1, gF_sF, gA_sF, gL_sF, gV_sF, gF_sA, gA_sA, gL_sA, gV_sA, gF_sB, gA_sB, gL_sB, gV_sB, gF_nA, gA_nA, gL_nA, gV_nA, gT_nA, gF_mV, gA_mV, gL_mV, gV_mV, gT_mV, gT_sB, gT_sA, gT_sF, gK_sF, gK_sA, gK_sB, gF_grw, gT_grw, gL_grw, gA_grw, gC_grw, gD_grw, gC_sF, gC_sA, gD_sF, gD_sA, Nat.reduceLT, elT, Nat.reduceEqDiff, eq_self, and_self, and_true, true_and, and_false, false_and, reduceIte, fbB, qc_14_3, qc_15_2, qc_17_2, sbB, fb_15_5, gK_grw, gN_grw, hN0, hK0]; done))
              exact key
          refine jx_seg (il := (fun _ => false)) (mc := true) (fun _ => grow_ok) 120 [101, 131, 325] (by decide) rfl ?_
          repeat' (first | refine And.intro ?_ ?_ | (with_reducible intro c; try simp only [cmpI, cmpN, Classical.not_not, not_true_eq_false, not_false_eq_true, Int.reduceToNat, Int.toNat_natCast, tN_add, tN_add1, tN_sub1, gF_sF, gA_sF, gL_sF, gV_sF, gF_sA, gA_sA, gL_sA, gV_sA, gF_sB, gA_sB, gL_sB, gV_sB, gF_nA, gA_nA, gL_nA, gV_nA, gT_nA, gF_mV, gA_mV, gL_mV, gV_mV, gT_mV, gT_sB, gT_sA, gT_sF, gK_sF, gK_sA, gK_sB, gF_grw, gT_grw, gL_grw, gA_grw, gC_grw, gD_grw, gC_sF, gC_sA, gD_sF, gD_sA, Nat.reduceLT, elT, Nat.reduceEqDiff, eq_self, and_self, and_true, true_and, and_false, false_and, reduceIte, fbB, qc_14_3, qc_15_2, qc_17_2, sbB, fb_15_5] at c))
          all_goals (try first | exact rfl | exact True.intro | with_reducible assumption | omega | (simp only [Int.reduceToNat, Int.toNat_natCast, tN_add, tN_add1, tN_sub1, gF_sF, gA_sF, gL_sF, gV_sF, gF_sA, gA_sA, gL_sA, gV_sA, gF_sB, gA_sB, gL_sB, gV_sB, gF_nA, gA_nA, gL_nA, gV_nA, gT_nA, gF_mV, gA_mV, gL_mV, gV_mV, gT_mV, gT_sB, gT_sA, gT_sF, gK_sF, gK_sA, gK_sB, gF_grw, gT_grw, gL_grw, gA_grw, gC_grw, gD_grw, gC_sF, gC_sA, gD_sF, gD_sA, Nat.reduceLT, elT, Nat.reduceEqDiff, eq_self, and_self, and_true, true_and, and_false, false_and, reduceIte, fbB, qc_14_3, qc_15_2, qc_17_2, sbB, fb_15_5]; first | done | with_reducible assumption | omega) | (simp only [Int.reduceToNat, Int.toNat_natCast, tN_add, tN_add1, tN_sub1, gF_sF, gA_sF, gL_sF, gV_sF, gF_sA, gA_sA, gL_sA, gV_sA, gF_sB, gA_sB, gL_sB, gV_sB, gF_nA, gA_nA, gL_nA, gV_nA, gT_nA, gF_mV, gA_mV, gL_mV, gV_mV, gT_mV, gT_sB, gT_sA, gT_sF, gK_sF, gK_sA, gK_sB, gF_grw, gT_grw, gL_grw, gA_grw, gC_grw, gD_grw, gC_sF, gC_sA, gD_sF, gD_sA, Nat.reduceLT, elT, Nat.reduceEqDiff, eq_self, and_self, and_true, true_and, and_false, false_and, reduceIte, fbB, qc_14_3, qc_15_2, qc_17_2, sbB, fb_15_5, grl]; split <;> omega) | (show 2 * gL _ _ _ ≤ gL _ _ _; simp only [Int.reduceToNat, Int.toNat_natCast, tN_add, tN_add1, tN_sub1, gF_sF, gA_sF, gL_sF, gV_sF, gF_sA, gA_sA, gL_sA, gV_sA, gF_sB, gA_sB, gL_sB, gV_sB, gF_nA, gA_nA, gL_nA, gV_nA, gT_nA, gF_mV, gA_mV, gL_mV, gV_mV, gT_mV, gT_sB, gT_sA, gT_sF, gK_sF, gK_sA, gK_sB, gF_grw, gT_grw, gL_grw, gA_grw, gC_grw, gD_grw, gC_sF, gC_sA, gD_sF, gD_sA, Nat.reduceLT, elT, Nat.reduceEqDiff, eq_self, and_self, and_true, true_and, and_false, false_and, reduceIte, fbB, qc_14_3, qc_15_2, qc_17_2, sbB, fb_15_5]; omega) | (simp only [Int.reduceToNat, Int.toNat_natCast, tN_add, tN_add1, tN_sub1, gF_sF, gA_sF, gL_sF, gV_sF, gF_sA, gA_sA, gL_sA, gV_sA, gF_sB, gA_sB, gL_sB, gV_sB, gF_nA, gA_nA, gL_nA, gV_nA, gT_nA, gF_mV, gA_mV, gL_mV, gV_mV, gT_mV, gT_sB, gT_sA, gT_sF, gK_sF, gK_sA, gK_sB, gF_grw, gT_grw, gL_grw, gA_grw, gC_grw, gD_grw, gC_sF, gC_sA, gD_sF, gD_sA, Nat.reduceLT, elT, Nat.reduceEqDiff, eq_self, and_self, and_true, true_and, and_false, false_and, reduceIte, fbB, qc_14_3, qc_15_2, qc_17_2, sbB, fb_15_5, gK_grw, gN_grw, hN0, hK0]; done))
          · exact fin (fun h => by omega)
          · have e3 := ex (by omega)
            refine m_digit (fun x hx => ?_)
            have hx : x = if isDg (X.1 (tpo X t + q)) then (1 : Int) else 0 := by
              have h0 : x = if isDg (gA σ1 120 2 (tpo X t + q)) then (1 : Int) else 0 := hx
              rw [e3] at h0
              exact h0
            repeat' (first | refine And.intro ?_ ?_ | (with_reducible intro c; try simp only [cmpI, cmpN, Classical.not_not, not_true_eq_false, not_false_eq_true, Int.reduceToNat, Int.toNat_natCast, tN_add, tN_add1, tN_sub1, gF_sF, gA_sF, gL_sF, gV_sF, gF_sA, gA_sA, gL_sA, gV_sA, gF_sB, gA_sB, gL_sB, gV_sB, gF_nA, gA_nA, gL_nA, gV_nA, gT_nA, gF_mV, gA_mV, gL_mV, gV_mV, gT_mV, gT_sB, gT_sA, gT_sF, gK_sF, gK_sA, gK_sB, gF_grw, gT_grw, gL_grw, gA_grw, gC_grw, gD_grw, gC_sF, gC_sA, gD_sF, gD_sA, Nat.reduceLT, elT, Nat.reduceEqDiff, eq_self, and_self, and_true, true_and, and_false, false_and, reduceIte, fbB, qc_14_3, qc_15_2, qc_17_2, sbB, fb_15_5] at c))
            all_goals (try first | exact rfl | exact True.intro | with_reducible assumption | omega | (simp only [Int.reduceToNat, Int.toNat_natCast, tN_add, tN_add1, tN_sub1, gF_sF, gA_sF, gL_sF, gV_sF, gF_sA, gA_sA, gL_sA, gV_sA, gF_sB, gA_sB, gL_sB, gV_sB, gF_nA, gA_nA, gL_nA, gV_nA, gT_nA, gF_mV, gA_mV, gL_mV, gV_mV, gT_mV, gT_sB, gT_sA, gT_sF, gK_sF, gK_sA, gK_sB, gF_grw, gT_grw, gL_grw, gA_grw, gC_grw, gD_grw, gC_sF, gC_sA, gD_sF, gD_sA, Nat.reduceLT, elT, Nat.reduceEqDiff, eq_self, and_self, and_true, true_and, and_false, false_and, reduceIte, fbB, qc_14_3, qc_15_2, qc_17_2, sbB, fb_15_5]; first | done | with_reducible assumption | omega) | (simp only [Int.reduceToNat, Int.toNat_natCast, tN_add, tN_add1, tN_sub1, gF_sF, gA_sF, gL_sF, gV_sF, gF_sA, gA_sA, gL_sA, gV_sA, gF_sB, gA_sB, gL_sB, gV_sB, gF_nA, gA_nA, gL_nA, gV_nA, gT_nA, gF_mV, gA_mV, gL_mV, gV_mV, gT_mV, gT_sB, gT_sA, gT_sF, gK_sF, gK_sA, gK_sB, gF_grw, gT_grw, gL_grw, gA_grw, gC_grw, gD_grw, gC_sF, gC_sA, gD_sF, gD_sA, Nat.reduceLT, elT, Nat.reduceEqDiff, eq_self, and_self, and_true, true_and, and_false, false_and, reduceIte, fbB, qc_14_3, qc_15_2, qc_17_2, sbB, fb_15_5, grl]; split <;> omega) | (show 2 * gL _ _ _ ≤ gL _ _ _; simp only [Int.reduceToNat, Int.toNat_natCast, tN_add, tN_add1, tN_sub1, gF_sF, gA_sF, gL_sF, gV_sF, gF_sA, gA_sA, gL_sA, gV_sA, gF_sB, gA_sB, gL_sB, gV_sB, gF_nA, gA_nA, gL_nA, gV_nA, gT_nA, gF_mV, gA_mV, gL_mV, gV_mV, gT_mV, gT_sB, gT_sA, gT_sF, gK_sF, gK_sA, gK_sB, gF_grw, gT_grw, gL_grw, gA_grw, gC_grw, gD_grw, gC_sF, gC_sA, gD_sF, gD_sA, Nat.reduceLT, elT, Nat.reduceEqDiff, eq_self, and_self, and_true, true_and, and_false, false_and, reduceIte, fbB, qc_14_3, qc_15_2, qc_17_2, sbB, fb_15_5]; omega) | (simp only [Int.reduceToNat, Int.toNat_natCast, tN_add, tN_add1, tN_sub1, gF_sF, gA_sF, gL_sF, gV_sF, gF_sA, gA_sA, gL_sA, gV_sA, gF_sB, gA_sB, gL_sB, gV_sB, gF_nA, gA_nA, gL_nA, gV_nA, gT_nA, gF_mV, gA_mV, gL_mV, gV_mV, gT_mV, gT_sB, gT_sA, gT_sF, gK_sF, gK_sA, gK_sB, gF_grw, gT_grw, gL_grw, gA_grw, gC_grw, gD_grw, gC_sF, gC_sA, gD_sF, gD_sA, Nat.reduceLT, elT, Nat.reduceEqDiff, eq_self, and_self, and_true, true_and, and_false, false_and, reduceIte, fbB, qc_14_3, qc_15_2, qc_17_2, sbB, fb_15_5, gK_grw, gN_grw, hN0, hK0]; done))
            · exact fin (fun h => by rw [if_pos h.2] at hx; omega)
            · have hy : isDg (X.1 (tpo X t + q)) := by
                by_cases h : isDg (X.1 (tpo X t + q))
                · exact h
                · rw [if_neg h] at hx; omega
              exact ihw (q + 1) y (by omega) hp hl hd (by omega) (by omega) (by
                rw [← hw]
                show dE X (tpo X t + q + 1) = _
                rw [dE.eq_1 X (tpo X t + q), if_pos (by omega), if_pos hy]) (fun i hi => by
                rcases Nat.lt_or_ge i q with c | c
                · exact hdg i c
                · rw [show i = q by omega]; exact hy)
      have two : tpo X t + 1 < X.2 → ¬ isLt (X.1 (tpo X t)) → ¬ isDg (X.1 (tpo X t)) → spl X (tpo X t) 2 60 4 ≠ 1 → Jx (mdT 240 [vO 120]) 2 240 k [vO 120] σ Qₚ Eₚ 222 [some (vO 120), some (vI (tpo X t : Int)), some (vI 1), some (vI 1), some (vI 1), some (vI (X.1 (tpo X t))), w6] [] σ1 := fun hp hnl hnd hs => by
        have ex := hS1.2.2 (tpo X t + 1) hp
        have htk := tkE_sign (by omega) hnl hnd
        rw [if_pos ⟨hp, hs⟩] at htk
        have e1 : tln X t = 2 := by show (tkE X (tpo X t)).2 = 2; rw [htk]
        have e2 : tkd X t = spl X (tpo X t) 2 60 4 := by show (tkE X (tpo X t)).1 = _; rw [htk]
        have key := fun w => tail (some (vI (X.1 (tpo X t)))) w
        rw [e1, e2] at key
        rcases sg_two hp hnl with h | ⟨h0, h1, h2⟩ | ⟨h0, h1, h2⟩ | ⟨h0, h1, h2⟩ | ⟨h0, h1, h2⟩ | ⟨h0, h1, h2⟩ | ⟨h0, h1, h2⟩
        · exact absurd h.1 hs
        all_goals rw [h0] at key
        all_goals rw [h2] at ex
        all_goals rw [h1] at key ⊢
        all_goals clear ih tail word digs
        refine jx_seg (il := (fun _ => false)) (mc := true) (fun _ => grow_ok) 120 [325] (by decide) rfl ?_
        repeat' (first | refine And.intro ?_ ?_ | (with_reducible intro c; try simp only [cmpI, cmpN, Classical.not_not, not_true_eq_false, not_false_eq_true, Int.reduceToNat, Int.toNat_natCast, tN_add, tN_add1, tN_sub1, gF_sF, gA_sF, gL_sF, gV_sF, gF_sA, gA_sA, gL_sA, gV_sA, gF_sB, gA_sB, gL_sB, gV_sB, gF_nA, gA_nA, gL_nA, gV_nA, gT_nA, gF_mV, gA_mV, gL_mV, gV_mV, gT_mV, gT_sB, gT_sA, gT_sF, gK_sF, gK_sA, gK_sB, gF_grw, gT_grw, gL_grw, gA_grw, gC_grw, gD_grw, gC_sF, gC_sA, gD_sF, gD_sA, Nat.reduceLT, elT, Nat.reduceEqDiff, eq_self, and_self, and_true, true_and, and_false, false_and, reduceIte, fbB, qc_14_3, qc_15_2, qc_17_2, sbB, fb_15_5] at c))
        all_goals (try first | exact rfl | exact True.intro | with_reducible assumption | omega | (simp only [Int.reduceToNat, Int.toNat_natCast, tN_add, tN_add1, tN_sub1, gF_sF, gA_sF, gL_sF, gV_sF, gF_sA, gA_sA, gL_sA, gV_sA, gF_sB, gA_sB, gL_sB, gV_sB, gF_nA, gA_nA, gL_nA, gV_nA, gT_nA, gF_mV, gA_mV, gL_mV, gV_mV, gT_mV, gT_sB, gT_sA, gT_sF, gK_sF, gK_sA, gK_sB, gF_grw, gT_grw, gL_grw, gA_grw, gC_grw, gD_grw, gC_sF, gC_sA, gD_sF, gD_sA, Nat.reduceLT, elT, Nat.reduceEqDiff, eq_self, and_self, and_true, true_and, and_false, false_and, reduceIte, fbB, qc_14_3, qc_15_2, qc_17_2, sbB, fb_15_5]; first | done | with_reducible assumption | omega) | (simp only [Int.reduceToNat, Int.toNat_natCast, tN_add, tN_add1, tN_sub1, gF_sF, gA_sF, gL_sF, gV_sF, gF_sA, gA_sA, gL_sA, gV_sA, gF_sB, gA_sB, gL_sB, gV_sB, gF_nA, gA_nA, gL_nA, gV_nA, gT_nA, gF_mV, gA_mV, gL_mV, gV_mV, gT_mV, gT_sB, gT_sA, gT_sF, gK_sF, gK_sA, gK_sB, gF_grw, gT_grw, gL_grw, gA_grw, gC_grw, gD_grw, gC_sF, gC_sA, gD_sF, gD_sA, Nat.reduceLT, elT, Nat.reduceEqDiff, eq_self, and_self, and_true, true_and, and_false, false_and, reduceIte, fbB, qc_14_3, qc_15_2, qc_17_2, sbB, fb_15_5, grl]; split <;> omega) | (show 2 * gL _ _ _ ≤ gL _ _ _; simp only [Int.reduceToNat, Int.toNat_natCast, tN_add, tN_add1, tN_sub1, gF_sF, gA_sF, gL_sF, gV_sF, gF_sA, gA_sA, gL_sA, gV_sA, gF_sB, gA_sB, gL_sB, gV_sB, gF_nA, gA_nA, gL_nA, gV_nA, gT_nA, gF_mV, gA_mV, gL_mV, gV_mV, gT_mV, gT_sB, gT_sA, gT_sF, gK_sF, gK_sA, gK_sB, gF_grw, gT_grw, gL_grw, gA_grw, gC_grw, gD_grw, gC_sF, gC_sA, gD_sF, gD_sA, Nat.reduceLT, elT, Nat.reduceEqDiff, eq_self, and_self, and_true, true_and, and_false, false_and, reduceIte, fbB, qc_14_3, qc_15_2, qc_17_2, sbB, fb_15_5]; omega) | (simp only [Int.reduceToNat, Int.toNat_natCast, tN_add, tN_add1, tN_sub1, gF_sF, gA_sF, gL_sF, gV_sF, gF_sA, gA_sA, gL_sA, gV_sA, gF_sB, gA_sB, gL_sB, gV_sB, gF_nA, gA_nA, gL_nA, gV_nA, gT_nA, gF_mV, gA_mV, gL_mV, gV_mV, gT_mV, gT_sB, gT_sA, gT_sF, gK_sF, gK_sA, gK_sB, gF_grw, gT_grw, gL_grw, gA_grw, gC_grw, gD_grw, gC_sF, gC_sA, gD_sF, gD_sA, Nat.reduceLT, elT, Nat.reduceEqDiff, eq_self, and_self, and_true, true_and, and_false, false_and, reduceIte, fbB, qc_14_3, qc_15_2, qc_17_2, sbB, fb_15_5, gK_grw, gN_grw, hN0, hK0]; done))
        exact key _
        refine jx_seg (il := (fun _ => false)) (mc := true) (fun _ => grow_ok) 120 [325] (by decide) rfl ?_
        repeat' (first | refine And.intro ?_ ?_ | (with_reducible intro c; try simp only [cmpI, cmpN, Classical.not_not, not_true_eq_false, not_false_eq_true, Int.reduceToNat, Int.toNat_natCast, tN_add, tN_add1, tN_sub1, gF_sF, gA_sF, gL_sF, gV_sF, gF_sA, gA_sA, gL_sA, gV_sA, gF_sB, gA_sB, gL_sB, gV_sB, gF_nA, gA_nA, gL_nA, gV_nA, gT_nA, gF_mV, gA_mV, gL_mV, gV_mV, gT_mV, gT_sB, gT_sA, gT_sF, gK_sF, gK_sA, gK_sB, gF_grw, gT_grw, gL_grw, gA_grw, gC_grw, gD_grw, gC_sF, gC_sA, gD_sF, gD_sA, Nat.reduceLT, elT, Nat.reduceEqDiff, eq_self, and_self, and_true, true_and, and_false, false_and, reduceIte, fbB, qc_14_3, qc_15_2, qc_17_2, sbB, fb_15_5] at c))
        all_goals (try first | exact rfl | exact True.intro | with_reducible assumption | omega | (simp only [Int.reduceToNat, Int.toNat_natCast, tN_add, tN_add1, tN_sub1, gF_sF, gA_sF, gL_sF, gV_sF, gF_sA, gA_sA, gL_sA, gV_sA, gF_sB, gA_sB, gL_sB, gV_sB, gF_nA, gA_nA, gL_nA, gV_nA, gT_nA, gF_mV, gA_mV, gL_mV, gV_mV, gT_mV, gT_sB, gT_sA, gT_sF, gK_sF, gK_sA, gK_sB, gF_grw, gT_grw, gL_grw, gA_grw, gC_grw, gD_grw, gC_sF, gC_sA, gD_sF, gD_sA, Nat.reduceLT, elT, Nat.reduceEqDiff, eq_self, and_self, and_true, true_and, and_false, false_and, reduceIte, fbB, qc_14_3, qc_15_2, qc_17_2, sbB, fb_15_5]; first | done | with_reducible assumption | omega) | (simp only [Int.reduceToNat, Int.toNat_natCast, tN_add, tN_add1, tN_sub1, gF_sF, gA_sF, gL_sF, gV_sF, gF_sA, gA_sA, gL_sA, gV_sA, gF_sB, gA_sB, gL_sB, gV_sB, gF_nA, gA_nA, gL_nA, gV_nA, gT_nA, gF_mV, gA_mV, gL_mV, gV_mV, gT_mV, gT_sB, gT_sA, gT_sF, gK_sF, gK_sA, gK_sB, gF_grw, gT_grw, gL_grw, gA_grw, gC_grw, gD_grw, gC_sF, gC_sA, gD_sF, gD_sA, Nat.reduceLT, elT, Nat.reduceEqDiff, eq_self, and_self, and_true, true_and, and_false, false_and, reduceIte, fbB, qc_14_3, qc_15_2, qc_17_2, sbB, fb_15_5, grl]; split <;> omega) | (show 2 * gL _ _ _ ≤ gL _ _ _; simp only [Int.reduceToNat, Int.toNat_natCast, tN_add, tN_add1, tN_sub1, gF_sF, gA_sF, gL_sF, gV_sF, gF_sA, gA_sA, gL_sA, gV_sA, gF_sB, gA_sB, gL_sB, gV_sB, gF_nA, gA_nA, gL_nA, gV_nA, gT_nA, gF_mV, gA_mV, gL_mV, gV_mV, gT_mV, gT_sB, gT_sA, gT_sF, gK_sF, gK_sA, gK_sB, gF_grw, gT_grw, gL_grw, gA_grw, gC_grw, gD_grw, gC_sF, gC_sA, gD_sF, gD_sA, Nat.reduceLT, elT, Nat.reduceEqDiff, eq_self, and_self, and_true, true_and, and_false, false_and, reduceIte, fbB, qc_14_3, qc_15_2, qc_17_2, sbB, fb_15_5]; omega) | (simp only [Int.reduceToNat, Int.toNat_natCast, tN_add, tN_add1, tN_sub1, gF_sF, gA_sF, gL_sF, gV_sF, gF_sA, gA_sA, gL_sA, gV_sA, gF_sB, gA_sB, gL_sB, gV_sB, gF_nA, gA_nA, gL_nA, gV_nA, gT_nA, gF_mV, gA_mV, gL_mV, gV_mV, gT_mV, gT_sB, gT_sA, gT_sF, gK_sF, gK_sA, gK_sB, gF_grw, gT_grw, gL_grw, gA_grw, gC_grw, gD_grw, gC_sF, gC_sA, gD_sF, gD_sA, Nat.reduceLT, elT, Nat.reduceEqDiff, eq_self, and_self, and_true, true_and, and_false, false_and, reduceIte, fbB, qc_14_3, qc_15_2, qc_17_2, sbB, fb_15_5, gK_grw, gN_grw, hN0, hK0]; done))
        exact key _
        refine jx_seg (il := (fun _ => false)) (mc := true) (fun _ => grow_ok) 120 [325] (by decide) rfl ?_
        repeat' (first | refine And.intro ?_ ?_ | (with_reducible intro c; try simp only [cmpI, cmpN, Classical.not_not, not_true_eq_false, not_false_eq_true, Int.reduceToNat, Int.toNat_natCast, tN_add, tN_add1, tN_sub1, gF_sF, gA_sF, gL_sF, gV_sF, gF_sA, gA_sA, gL_sA, gV_sA, gF_sB, gA_sB, gL_sB, gV_sB, gF_nA, gA_nA, gL_nA, gV_nA, gT_nA, gF_mV, gA_mV, gL_mV, gV_mV, gT_mV, gT_sB, gT_sA, gT_sF, gK_sF, gK_sA, gK_sB, gF_grw, gT_grw, gL_grw, gA_grw, gC_grw, gD_grw, gC_sF, gC_sA, gD_sF, gD_sA, Nat.reduceLT, elT, Nat.reduceEqDiff, eq_self, and_self, and_true, true_and, and_false, false_and, reduceIte, fbB, qc_14_3, qc_15_2, qc_17_2, sbB, fb_15_5] at c))
        all_goals (try first | exact rfl | exact True.intro | with_reducible assumption | omega | (simp only [Int.reduceToNat, Int.toNat_natCast, tN_add, tN_add1, tN_sub1, gF_sF, gA_sF, gL_sF, gV_sF, gF_sA, gA_sA, gL_sA, gV_sA, gF_sB, gA_sB, gL_sB, gV_sB, gF_nA, gA_nA, gL_nA, gV_nA, gT_nA, gF_mV, gA_mV, gL_mV, gV_mV, gT_mV, gT_sB, gT_sA, gT_sF, gK_sF, gK_sA, gK_sB, gF_grw, gT_grw, gL_grw, gA_grw, gC_grw, gD_grw, gC_sF, gC_sA, gD_sF, gD_sA, Nat.reduceLT, elT, Nat.reduceEqDiff, eq_self, and_self, and_true, true_and, and_false, false_and, reduceIte, fbB, qc_14_3, qc_15_2, qc_17_2, sbB, fb_15_5]; first | done | with_reducible assumption | omega) | (simp only [Int.reduceToNat, Int.toNat_natCast, tN_add, tN_add1, tN_sub1, gF_sF, gA_sF, gL_sF, gV_sF, gF_sA, gA_sA, gL_sA, gV_sA, gF_sB, gA_sB, gL_sB, gV_sB, gF_nA, gA_nA, gL_nA, gV_nA, gT_nA, gF_mV, gA_mV, gL_mV, gV_mV, gT_mV, gT_sB, gT_sA, gT_sF, gK_sF, gK_sA, gK_sB, gF_grw, gT_grw, gL_grw, gA_grw, gC_grw, gD_grw, gC_sF, gC_sA, gD_sF, gD_sA, Nat.reduceLT, elT, Nat.reduceEqDiff, eq_self, and_self, and_true, true_and, and_false, false_and, reduceIte, fbB, qc_14_3, qc_15_2, qc_17_2, sbB, fb_15_5, grl]; split <;> omega) | (show 2 * gL _ _ _ ≤ gL _ _ _; simp only [Int.reduceToNat, Int.toNat_natCast, tN_add, tN_add1, tN_sub1, gF_sF, gA_sF, gL_sF, gV_sF, gF_sA, gA_sA, gL_sA, gV_sA, gF_sB, gA_sB, gL_sB, gV_sB, gF_nA, gA_nA, gL_nA, gV_nA, gT_nA, gF_mV, gA_mV, gL_mV, gV_mV, gT_mV, gT_sB, gT_sA, gT_sF, gK_sF, gK_sA, gK_sB, gF_grw, gT_grw, gL_grw, gA_grw, gC_grw, gD_grw, gC_sF, gC_sA, gD_sF, gD_sA, Nat.reduceLT, elT, Nat.reduceEqDiff, eq_self, and_self, and_true, true_and, and_false, false_and, reduceIte, fbB, qc_14_3, qc_15_2, qc_17_2, sbB, fb_15_5]; omega) | (simp only [Int.reduceToNat, Int.toNat_natCast, tN_add, tN_add1, tN_sub1, gF_sF, gA_sF, gL_sF, gV_sF, gF_sA, gA_sA, gL_sA, gV_sA, gF_sB, gA_sB, gL_sB, gV_sB, gF_nA, gA_nA, gL_nA, gV_nA, gT_nA, gF_mV, gA_mV, gL_mV, gV_mV, gT_mV, gT_sB, gT_sA, gT_sF, gK_sF, gK_sA, gK_sB, gF_grw, gT_grw, gL_grw, gA_grw, gC_grw, gD_grw, gC_sF, gC_sA, gD_sF, gD_sA, Nat.reduceLT, elT, Nat.reduceEqDiff, eq_self, and_self, and_true, true_and, and_false, false_and, reduceIte, fbB, qc_14_3, qc_15_2, qc_17_2, sbB, fb_15_5, gK_grw, gN_grw, hN0, hK0]; done))
        exact key _
        refine jx_seg (il := (fun _ => false)) (mc := true) (fun _ => grow_ok) 120 [325] (by decide) rfl ?_
        repeat' (first | refine And.intro ?_ ?_ | (with_reducible intro c; try simp only [cmpI, cmpN, Classical.not_not, not_true_eq_false, not_false_eq_true, Int.reduceToNat, Int.toNat_natCast, tN_add, tN_add1, tN_sub1, gF_sF, gA_sF, gL_sF, gV_sF, gF_sA, gA_sA, gL_sA, gV_sA, gF_sB, gA_sB, gL_sB, gV_sB, gF_nA, gA_nA, gL_nA, gV_nA, gT_nA, gF_mV, gA_mV, gL_mV, gV_mV, gT_mV, gT_sB, gT_sA, gT_sF, gK_sF, gK_sA, gK_sB, gF_grw, gT_grw, gL_grw, gA_grw, gC_grw, gD_grw, gC_sF, gC_sA, gD_sF, gD_sA, Nat.reduceLT, elT, Nat.reduceEqDiff, eq_self, and_self, and_true, true_and, and_false, false_and, reduceIte, fbB, qc_14_3, qc_15_2, qc_17_2, sbB, fb_15_5] at c))
        all_goals (try first | exact rfl | exact True.intro | with_reducible assumption | omega | (simp only [Int.reduceToNat, Int.toNat_natCast, tN_add, tN_add1, tN_sub1, gF_sF, gA_sF, gL_sF, gV_sF, gF_sA, gA_sA, gL_sA, gV_sA, gF_sB, gA_sB, gL_sB, gV_sB, gF_nA, gA_nA, gL_nA, gV_nA, gT_nA, gF_mV, gA_mV, gL_mV, gV_mV, gT_mV, gT_sB, gT_sA, gT_sF, gK_sF, gK_sA, gK_sB, gF_grw, gT_grw, gL_grw, gA_grw, gC_grw, gD_grw, gC_sF, gC_sA, gD_sF, gD_sA, Nat.reduceLT, elT, Nat.reduceEqDiff, eq_self, and_self, and_true, true_and, and_false, false_and, reduceIte, fbB, qc_14_3, qc_15_2, qc_17_2, sbB, fb_15_5]; first | done | with_reducible assumption | omega) | (simp only [Int.reduceToNat, Int.toNat_natCast, tN_add, tN_add1, tN_sub1, gF_sF, gA_sF, gL_sF, gV_sF, gF_sA, gA_sA, gL_sA, gV_sA, gF_sB, gA_sB, gL_sB, gV_sB, gF_nA, gA_nA, gL_nA, gV_nA, gT_nA, gF_mV, gA_mV, gL_mV, gV_mV, gT_mV, gT_sB, gT_sA, gT_sF, gK_sF, gK_sA, gK_sB, gF_grw, gT_grw, gL_grw, gA_grw, gC_grw, gD_grw, gC_sF, gC_sA, gD_sF, gD_sA, Nat.reduceLT, elT, Nat.reduceEqDiff, eq_self, and_self, and_true, true_and, and_false, false_and, reduceIte, fbB, qc_14_3, qc_15_2, qc_17_2, sbB, fb_15_5, grl]; split <;> omega) | (show 2 * gL _ _ _ ≤ gL _ _ _; simp only [Int.reduceToNat, Int.toNat_natCast, tN_add, tN_add1, tN_sub1, gF_sF, gA_sF, gL_sF, gV_sF, gF_sA, gA_sA, gL_sA, gV_sA, gF_sB, gA_sB, gL_sB, gV_sB, gF_nA, gA_nA, gL_nA, gV_nA, gT_nA, gF_mV, gA_mV, gL_mV, gV_mV, gT_mV, gT_sB, gT_sA, gT_sF, gK_sF, gK_sA, gK_sB, gF_grw, gT_grw, gL_grw, gA_grw, gC_grw, gD_grw, gC_sF, gC_sA, gD_sF, gD_sA, Nat.reduceLT, elT, Nat.reduceEqDiff, eq_self, and_self, and_true, true_and, and_false, false_and, reduceIte, fbB, qc_14_3, qc_15_2, qc_17_2, sbB, fb_15_5]; omega) | (simp only [Int.reduceToNat, Int.toNat_natCast, tN_add, tN_add1, tN_sub1, gF_sF, gA_sF, gL_sF, gV_sF, gF_sA, gA_sA, gL_sA, gV_sA, gF_sB, gA_sB, gL_sB, gV_sB, gF_nA, gA_nA, gL_nA, gV_nA, gT_nA, gF_mV, gA_mV, gL_mV, gV_mV, gT_mV, gT_sB, gT_sA, gT_sF, gK_sF, gK_sA, gK_sB, gF_grw, gT_grw, gL_grw, gA_grw, gC_grw, gD_grw, gC_sF, gC_sA, gD_sF, gD_sA, Nat.reduceLT, elT, Nat.reduceEqDiff, eq_self, and_self, and_true, true_and, and_false, false_and, reduceIte, fbB, qc_14_3, qc_15_2, qc_17_2, sbB, fb_15_5, gK_grw, gN_grw, hN0, hK0]; done))
        exact key _
        refine jx_seg (il := (fun _ => false)) (mc := true) (fun _ => grow_ok) 120 [325] (by decide) rfl ?_
        repeat' (first | refine And.intro ?_ ?_ | (with_reducible intro c; try simp only [cmpI, cmpN, Classical.not_not, not_true_eq_false, not_false_eq_true, Int.reduceToNat, Int.toNat_natCast, tN_add, tN_add1, tN_sub1, gF_sF, gA_sF, gL_sF, gV_sF, gF_sA, gA_sA, gL_sA, gV_sA, gF_sB, gA_sB, gL_sB, gV_sB, gF_nA, gA_nA, gL_nA, gV_nA, gT_nA, gF_mV, gA_mV, gL_mV, gV_mV, gT_mV, gT_sB, gT_sA, gT_sF, gK_sF, gK_sA, gK_sB, gF_grw, gT_grw, gL_grw, gA_grw, gC_grw, gD_grw, gC_sF, gC_sA, gD_sF, gD_sA, Nat.reduceLT, elT, Nat.reduceEqDiff, eq_self, and_self, and_true, true_and, and_false, false_and, reduceIte, fbB, qc_14_3, qc_15_2, qc_17_2, sbB, fb_15_5] at c))
        all_goals (try first | exact rfl | exact True.intro | with_reducible assumption | omega | (simp only [Int.reduceToNat, Int.toNat_natCast, tN_add, tN_add1, tN_sub1, gF_sF, gA_sF, gL_sF, gV_sF, gF_sA, gA_sA, gL_sA, gV_sA, gF_sB, gA_sB, gL_sB, gV_sB, gF_nA, gA_nA, gL_nA, gV_nA, gT_nA, gF_mV, gA_mV, gL_mV, gV_mV, gT_mV, gT_sB, gT_sA, gT_sF, gK_sF, gK_sA, gK_sB, gF_grw, gT_grw, gL_grw, gA_grw, gC_grw, gD_grw, gC_sF, gC_sA, gD_sF, gD_sA, Nat.reduceLT, elT, Nat.reduceEqDiff, eq_self, and_self, and_true, true_and, and_false, false_and, reduceIte, fbB, qc_14_3, qc_15_2, qc_17_2, sbB, fb_15_5]; first | done | with_reducible assumption | omega) | (simp only [Int.reduceToNat, Int.toNat_natCast, tN_add, tN_add1, tN_sub1, gF_sF, gA_sF, gL_sF, gV_sF, gF_sA, gA_sA, gL_sA, gV_sA, gF_sB, gA_sB, gL_sB, gV_sB, gF_nA, gA_nA, gL_nA, gV_nA, gT_nA, gF_mV, gA_mV, gL_mV, gV_mV, gT_mV, gT_sB, gT_sA, gT_sF, gK_sF, gK_sA, gK_sB, gF_grw, gT_grw, gL_grw, gA_grw, gC_grw, gD_grw, gC_sF, gC_sA, gD_sF, gD_sA, Nat.reduceLT, elT, Nat.reduceEqDiff, eq_self, and_self, and_true, true_and, and_false, false_and, reduceIte, fbB, qc_14_3, qc_15_2, qc_17_2, sbB, fb_15_5, grl]; split <;> omega) | (show 2 * gL _ _ _ ≤ gL _ _ _; simp only [Int.reduceToNat, Int.toNat_natCast, tN_add, tN_add1, tN_sub1, gF_sF, gA_sF, gL_sF, gV_sF, gF_sA, gA_sA, gL_sA, gV_sA, gF_sB, gA_sB, gL_sB, gV_sB, gF_nA, gA_nA, gL_nA, gV_nA, gT_nA, gF_mV, gA_mV, gL_mV, gV_mV, gT_mV, gT_sB, gT_sA, gT_sF, gK_sF, gK_sA, gK_sB, gF_grw, gT_grw, gL_grw, gA_grw, gC_grw, gD_grw, gC_sF, gC_sA, gD_sF, gD_sA, Nat.reduceLT, elT, Nat.reduceEqDiff, eq_self, and_self, and_true, true_and, and_false, false_and, reduceIte, fbB, qc_14_3, qc_15_2, qc_17_2, sbB, fb_15_5]; omega) | (simp only [Int.reduceToNat, Int.toNat_natCast, tN_add, tN_add1, tN_sub1, gF_sF, gA_sF, gL_sF, gV_sF, gF_sA, gA_sA, gL_sA, gV_sA, gF_sB, gA_sB, gL_sB, gV_sB, gF_nA, gA_nA, gL_nA, gV_nA, gT_nA, gF_mV, gA_mV, gL_mV, gV_mV, gT_mV, gT_sB, gT_sA, gT_sF, gK_sF, gK_sA, gK_sB, gF_grw, gT_grw, gL_grw, gA_grw, gC_grw, gD_grw, gC_sF, gC_sA, gD_sF, gD_sA, Nat.reduceLT, elT, Nat.reduceEqDiff, eq_self, and_self, and_true, true_and, and_false, false_and, reduceIte, fbB, qc_14_3, qc_15_2, qc_17_2, sbB, fb_15_5, gK_grw, gN_grw, hN0, hK0]; done))
        exact key _
        refine jx_seg (il := (fun _ => false)) (mc := true) (fun _ => grow_ok) 120 [325] (by decide) rfl ?_
        repeat' (first | refine And.intro ?_ ?_ | (with_reducible intro c; try simp only [cmpI, cmpN, Classical.not_not, not_true_eq_false, not_false_eq_true, Int.reduceToNat, Int.toNat_natCast, tN_add, tN_add1, tN_sub1, gF_sF, gA_sF, gL_sF, gV_sF, gF_sA, gA_sA, gL_sA, gV_sA, gF_sB, gA_sB, gL_sB, gV_sB, gF_nA, gA_nA, gL_nA, gV_nA, gT_nA, gF_mV, gA_mV, gL_mV, gV_mV, gT_mV, gT_sB, gT_sA, gT_sF, gK_sF, gK_sA, gK_sB, gF_grw, gT_grw, gL_grw, gA_grw, gC_grw, gD_grw, gC_sF, gC_sA, gD_sF, gD_sA, Nat.reduceLT, elT, Nat.reduceEqDiff, eq_self, and_self, and_true, true_and, and_false, false_and, reduceIte, fbB, qc_14_3, qc_15_2, qc_17_2, sbB, fb_15_5] at c))
        all_goals (try first | exact rfl | exact True.intro | with_reducible assumption | omega | (simp only [Int.reduceToNat, Int.toNat_natCast, tN_add, tN_add1, tN_sub1, gF_sF, gA_sF, gL_sF, gV_sF, gF_sA, gA_sA, gL_sA, gV_sA, gF_sB, gA_sB, gL_sB, gV_sB, gF_nA, gA_nA, gL_nA, gV_nA, gT_nA, gF_mV, gA_mV, gL_mV, gV_mV, gT_mV, gT_sB, gT_sA, gT_sF, gK_sF, gK_sA, gK_sB, gF_grw, gT_grw, gL_grw, gA_grw, gC_grw, gD_grw, gC_sF, gC_sA, gD_sF, gD_sA, Nat.reduceLT, elT, Nat.reduceEqDiff, eq_self, and_self, and_true, true_and, and_false, false_and, reduceIte, fbB, qc_14_3, qc_15_2, qc_17_2, sbB, fb_15_5]; first | done | with_reducible assumption | omega) | (simp only [Int.reduceToNat, Int.toNat_natCast, tN_add, tN_add1, tN_sub1, gF_sF, gA_sF, gL_sF, gV_sF, gF_sA, gA_sA, gL_sA, gV_sA, gF_sB, gA_sB, gL_sB, gV_sB, gF_nA, gA_nA, gL_nA, gV_nA, gT_nA, gF_mV, gA_mV, gL_mV, gV_mV, gT_mV, gT_sB, gT_sA, gT_sF, gK_sF, gK_sA, gK_sB, gF_grw, gT_grw, gL_grw, gA_grw, gC_grw, gD_grw, gC_sF, gC_sA, gD_sF, gD_sA, Nat.reduceLT, elT, Nat.reduceEqDiff, eq_self, and_self, and_true, true_and, and_false, false_and, reduceIte, fbB, qc_14_3, qc_15_2, qc_17_2, sbB, fb_15_5, grl]; split <;> omega) | (show 2 * gL _ _ _ ≤ gL _ _ _; simp only [Int.reduceToNat, Int.toNat_natCast, tN_add, tN_add1, tN_sub1, gF_sF, gA_sF, gL_sF, gV_sF, gF_sA, gA_sA, gL_sA, gV_sA, gF_sB, gA_sB, gL_sB, gV_sB, gF_nA, gA_nA, gL_nA, gV_nA, gT_nA, gF_mV, gA_mV, gL_mV, gV_mV, gT_mV, gT_sB, gT_sA, gT_sF, gK_sF, gK_sA, gK_sB, gF_grw, gT_grw, gL_grw, gA_grw, gC_grw, gD_grw, gC_sF, gC_sA, gD_sF, gD_sA, Nat.reduceLT, elT, Nat.reduceEqDiff, eq_self, and_self, and_true, true_and, and_false, false_and, reduceIte, fbB, qc_14_3, qc_15_2, qc_17_2, sbB, fb_15_5]; omega) | (simp only [Int.reduceToNat, Int.toNat_natCast, tN_add, tN_add1, tN_sub1, gF_sF, gA_sF, gL_sF, gV_sF, gF_sA, gA_sA, gL_sA, gV_sA, gF_sB, gA_sB, gL_sB, gV_sB, gF_nA, gA_nA, gL_nA, gV_nA, gT_nA, gF_mV, gA_mV, gL_mV, gV_mV, gT_mV, gT_sB, gT_sA, gT_sF, gK_sF, gK_sA, gK_sB, gF_grw, gT_grw, gL_grw, gA_grw, gC_grw, gD_grw, gC_sF, gC_sA, gD_sF, gD_sA, Nat.reduceLT, elT, Nat.reduceEqDiff, eq_self, and_self, and_true, true_and, and_false, false_and, reduceIte, fbB, qc_14_3, qc_15_2, qc_17_2, sbB, fb_15_5, gK_grw, gN_grw, hN0, hK0]; done))
        exact key _
      have one : tpo X t < X.2 → ¬ isLt (X.1 (tpo X t)) → ¬ isDg (X.1 (tpo X t)) → ¬ (tpo X t + 1 < X.2 ∧ spl X (tpo X t) 2 60 4 ≠ 1) → Jx (mdT 240 [vO 120]) 2 240 k [vO 120] σ Qₚ Eₚ 313 [some (vO 120), some (vI (tpo X t : Int)), some (vI 1), some (vI 1), some (vI 1), some (vI (X.1 (tpo X t))), w6] [] σ1 := fun hp hnl hnd hs => by
        have htk := tkE_sign (by omega) hnl hnd
        rw [if_neg hs] at htk
        have e1 : tln X t = 1 := by show (tkE X (tpo X t)).2 = 1; rw [htk]
        have e2 : tkd X t = spl X (tpo X t) 1 60 4 := by show (tkE X (tpo X t)).1 = _; rw [htk]
        have key := tail (some (vI (X.1 (tpo X t)))) w6
        rw [e1, e2] at key
        refine jx_seg (il := (fun _ => false)) (mc := true) (fun _ => grow_ok) 120 [325] (by decide) rfl ?_
        repeat' (first | refine And.intro ?_ ?_ | (with_reducible intro c; try simp only [cmpI, cmpN, Classical.not_not, not_true_eq_false, not_false_eq_true, Int.reduceToNat, Int.toNat_natCast, tN_add, tN_add1, tN_sub1, gF_sF, gA_sF, gL_sF, gV_sF, gF_sA, gA_sA, gL_sA, gV_sA, gF_sB, gA_sB, gL_sB, gV_sB, gF_nA, gA_nA, gL_nA, gV_nA, gT_nA, gF_mV, gA_mV, gL_mV, gV_mV, gT_mV, gT_sB, gT_sA, gT_sF, gK_sF, gK_sA, gK_sB, gF_grw, gT_grw, gL_grw, gA_grw, gC_grw, gD_grw, gC_sF, gC_sA, gD_sF, gD_sA, Nat.reduceLT, elT, Nat.reduceEqDiff, eq_self, and_self, and_true, true_and, and_false, false_and, reduceIte, fbB, qc_14_3, qc_15_2, qc_17_2, sbB, fb_15_5] at c))
        all_goals (try first | exact rfl | exact True.intro | with_reducible assumption | omega | (simp only [Int.reduceToNat, Int.toNat_natCast, tN_add, tN_add1, tN_sub1, gF_sF, gA_sF, gL_sF, gV_sF, gF_sA, gA_sA, gL_sA, gV_sA, gF_sB, gA_sB, gL_sB, gV_sB, gF_nA, gA_nA, gL_nA, gV_nA, gT_nA, gF_mV, gA_mV, gL_mV, gV_mV, gT_mV, gT_sB, gT_sA, gT_sF, gK_sF, gK_sA, gK_sB, gF_grw, gT_grw, gL_grw, gA_grw, gC_grw, gD_grw, gC_sF, gC_sA, gD_sF, gD_sA, Nat.reduceLT, elT, Nat.reduceEqDiff, eq_self, and_self, and_true, true_and, and_false, false_and, reduceIte, fbB, qc_14_3, qc_15_2, qc_17_2, sbB, fb_15_5]; first | done | with_reducible assumption | omega) | (simp only [Int.reduceToNat, Int.toNat_natCast, tN_add, tN_add1, tN_sub1, gF_sF, gA_sF, gL_sF, gV_sF, gF_sA, gA_sA, gL_sA, gV_sA, gF_sB, gA_sB, gL_sB, gV_sB, gF_nA, gA_nA, gL_nA, gV_nA, gT_nA, gF_mV, gA_mV, gL_mV, gV_mV, gT_mV, gT_sB, gT_sA, gT_sF, gK_sF, gK_sA, gK_sB, gF_grw, gT_grw, gL_grw, gA_grw, gC_grw, gD_grw, gC_sF, gC_sA, gD_sF, gD_sA, Nat.reduceLT, elT, Nat.reduceEqDiff, eq_self, and_self, and_true, true_and, and_false, false_and, reduceIte, fbB, qc_14_3, qc_15_2, qc_17_2, sbB, fb_15_5, grl]; split <;> omega) | (show 2 * gL _ _ _ ≤ gL _ _ _; simp only [Int.reduceToNat, Int.toNat_natCast, tN_add, tN_add1, tN_sub1, gF_sF, gA_sF, gL_sF, gV_sF, gF_sA, gA_sA, gL_sA, gV_sA, gF_sB, gA_sB, gL_sB, gV_sB, gF_nA, gA_nA, gL_nA, gV_nA, gT_nA, gF_mV, gA_mV, gL_mV, gV_mV, gT_mV, gT_sB, gT_sA, gT_sF, gK_sF, gK_sA, gK_sB, gF_grw, gT_grw, gL_grw, gA_grw, gC_grw, gD_grw, gC_sF, gC_sA, gD_sF, gD_sA, Nat.reduceLT, elT, Nat.reduceEqDiff, eq_self, and_self, and_true, true_and, and_false, false_and, reduceIte, fbB, qc_14_3, qc_15_2, qc_17_2, sbB, fb_15_5]; omega) | (simp only [Int.reduceToNat, Int.toNat_natCast, tN_add, tN_add1, tN_sub1, gF_sF, gA_sF, gL_sF, gV_sF, gF_sA, gA_sA, gL_sA, gV_sA, gF_sB, gA_sB, gL_sB, gV_sB, gF_nA, gA_nA, gL_nA, gV_nA, gT_nA, gF_mV, gA_mV, gL_mV, gV_mV, gT_mV, gT_sB, gT_sA, gT_sF, gK_sF, gK_sA, gK_sB, gF_grw, gT_grw, gL_grw, gA_grw, gC_grw, gD_grw, gC_sF, gC_sA, gD_sF, gD_sA, Nat.reduceLT, elT, Nat.reduceEqDiff, eq_self, and_self, and_true, true_and, and_false, false_and, reduceIte, fbB, qc_14_3, qc_15_2, qc_17_2, sbB, fb_15_5, gK_grw, gN_grw, hN0, hK0]; done))
        refine m_isSign (fun z hz1 hz2 => ?_)
        rcases sg_one hp with ⟨h1, h2⟩ | ⟨h1, h2, _⟩
        · have hz := hz2 h2
          subst hz
          rw [h1] at key
          repeat' (first | refine And.intro ?_ ?_ | (with_reducible intro c; try simp only [cmpI, cmpN, Classical.not_not, not_true_eq_false, not_false_eq_true, Int.reduceToNat, Int.toNat_natCast, tN_add, tN_add1, tN_sub1, gF_sF, gA_sF, gL_sF, gV_sF, gF_sA, gA_sA, gL_sA, gV_sA, gF_sB, gA_sB, gL_sB, gV_sB, gF_nA, gA_nA, gL_nA, gV_nA, gT_nA, gF_mV, gA_mV, gL_mV, gV_mV, gT_mV, gT_sB, gT_sA, gT_sF, gK_sF, gK_sA, gK_sB, gF_grw, gT_grw, gL_grw, gA_grw, gC_grw, gD_grw, gC_sF, gC_sA, gD_sF, gD_sA, Nat.reduceLT, elT, Nat.reduceEqDiff, eq_self, and_self, and_true, true_and, and_false, false_and, reduceIte, fbB, qc_14_3, qc_15_2, qc_17_2, sbB, fb_15_5] at c))
          all_goals (try first | exact rfl | exact True.intro | with_reducible assumption | omega | (simp only [Int.reduceToNat, Int.toNat_natCast, tN_add, tN_add1, tN_sub1, gF_sF, gA_sF, gL_sF, gV_sF, gF_sA, gA_sA, gL_sA, gV_sA, gF_sB, gA_sB, gL_sB, gV_sB, gF_nA, gA_nA, gL_nA, gV_nA, gT_nA, gF_mV, gA_mV, gL_mV, gV_mV, gT_mV, gT_sB, gT_sA, gT_sF, gK_sF, gK_sA, gK_sB, gF_grw, gT_grw, gL_grw, gA_grw, gC_grw, gD_grw, gC_sF, gC_sA, gD_sF, gD_sA, Nat.reduceLT, elT, Nat.reduceEqDiff, eq_self, and_self, and_true, true_and, and_false, false_and, reduceIte, fbB, qc_14_3, qc_15_2, qc_17_2, sbB, fb_15_5]; first | done | with_reducible assumption | omega) | (simp only [Int.reduceToNat, Int.toNat_natCast, tN_add, tN_add1, tN_sub1, gF_sF, gA_sF, gL_sF, gV_sF, gF_sA, gA_sA, gL_sA, gV_sA, gF_sB, gA_sB, gL_sB, gV_sB, gF_nA, gA_nA, gL_nA, gV_nA, gT_nA, gF_mV, gA_mV, gL_mV, gV_mV, gT_mV, gT_sB, gT_sA, gT_sF, gK_sF, gK_sA, gK_sB, gF_grw, gT_grw, gL_grw, gA_grw, gC_grw, gD_grw, gC_sF, gC_sA, gD_sF, gD_sA, Nat.reduceLT, elT, Nat.reduceEqDiff, eq_self, and_self, and_true, true_and, and_false, false_and, reduceIte, fbB, qc_14_3, qc_15_2, qc_17_2, sbB, fb_15_5, grl]; split <;> omega) | (show 2 * gL _ _ _ ≤ gL _ _ _; simp only [Int.reduceToNat, Int.toNat_natCast, tN_add, tN_add1, tN_sub1, gF_sF, gA_sF, gL_sF, gV_sF, gF_sA, gA_sA, gL_sA, gV_sA, gF_sB, gA_sB, gL_sB, gV_sB, gF_nA, gA_nA, gL_nA, gV_nA, gT_nA, gF_mV, gA_mV, gL_mV, gV_mV, gT_mV, gT_sB, gT_sA, gT_sF, gK_sF, gK_sA, gK_sB, gF_grw, gT_grw, gL_grw, gA_grw, gC_grw, gD_grw, gC_sF, gC_sA, gD_sF, gD_sA, Nat.reduceLT, elT, Nat.reduceEqDiff, eq_self, and_self, and_true, true_and, and_false, false_and, reduceIte, fbB, qc_14_3, qc_15_2, qc_17_2, sbB, fb_15_5]; omega) | (simp only [Int.reduceToNat, Int.toNat_natCast, tN_add, tN_add1, tN_sub1, gF_sF, gA_sF, gL_sF, gV_sF, gF_sA, gA_sA, gL_sA, gV_sA, gF_sB, gA_sB, gL_sB, gV_sB, gF_nA, gA_nA, gL_nA, gV_nA, gT_nA, gF_mV, gA_mV, gL_mV, gV_mV, gT_mV, gT_sB, gT_sA, gT_sF, gK_sF, gK_sA, gK_sB, gF_grw, gT_grw, gL_grw, gA_grw, gC_grw, gD_grw, gC_sF, gC_sA, gD_sF, gD_sA, Nat.reduceLT, elT, Nat.reduceEqDiff, eq_self, and_self, and_true, true_and, and_false, false_and, reduceIte, fbB, qc_14_3, qc_15_2, qc_17_2, sbB, fb_15_5, gK_grw, gN_grw, hN0, hK0]; done))
          exact key
        · have hz := hz1 h1
          subst hz
          rw [h2] at key
          repeat' (first | refine And.intro ?_ ?_ | (with_reducible intro c; try simp only [cmpI, cmpN, Classical.not_not, not_true_eq_false, not_false_eq_true, Int.reduceToNat, Int.toNat_natCast, tN_add, tN_add1, tN_sub1, gF_sF, gA_sF, gL_sF, gV_sF, gF_sA, gA_sA, gL_sA, gV_sA, gF_sB, gA_sB, gL_sB, gV_sB, gF_nA, gA_nA, gL_nA, gV_nA, gT_nA, gF_mV, gA_mV, gL_mV, gV_mV, gT_mV, gT_sB, gT_sA, gT_sF, gK_sF, gK_sA, gK_sB, gF_grw, gT_grw, gL_grw, gA_grw, gC_grw, gD_grw, gC_sF, gC_sA, gD_sF, gD_sA, Nat.reduceLT, elT, Nat.reduceEqDiff, eq_self, and_self, and_true, true_and, and_false, false_and, reduceIte, fbB, qc_14_3, qc_15_2, qc_17_2, sbB, fb_15_5] at c))
          all_goals (try first | exact rfl | exact True.intro | with_reducible assumption | omega | (simp only [Int.reduceToNat, Int.toNat_natCast, tN_add, tN_add1, tN_sub1, gF_sF, gA_sF, gL_sF, gV_sF, gF_sA, gA_sA, gL_sA, gV_sA, gF_sB, gA_sB, gL_sB, gV_sB, gF_nA, gA_nA, gL_nA, gV_nA, gT_nA, gF_mV, gA_mV, gL_mV, gV_mV, gT_mV, gT_sB, gT_sA, gT_sF, gK_sF, gK_sA, gK_sB, gF_grw, gT_grw, gL_grw, gA_grw, gC_grw, gD_grw, gC_sF, gC_sA, gD_sF, gD_sA, Nat.reduceLT, elT, Nat.reduceEqDiff, eq_self, and_self, and_true, true_and, and_false, false_and, reduceIte, fbB, qc_14_3, qc_15_2, qc_17_2, sbB, fb_15_5]; first | done | with_reducible assumption | omega) | (simp only [Int.reduceToNat, Int.toNat_natCast, tN_add, tN_add1, tN_sub1, gF_sF, gA_sF, gL_sF, gV_sF, gF_sA, gA_sA, gL_sA, gV_sA, gF_sB, gA_sB, gL_sB, gV_sB, gF_nA, gA_nA, gL_nA, gV_nA, gT_nA, gF_mV, gA_mV, gL_mV, gV_mV, gT_mV, gT_sB, gT_sA, gT_sF, gK_sF, gK_sA, gK_sB, gF_grw, gT_grw, gL_grw, gA_grw, gC_grw, gD_grw, gC_sF, gC_sA, gD_sF, gD_sA, Nat.reduceLT, elT, Nat.reduceEqDiff, eq_self, and_self, and_true, true_and, and_false, false_and, reduceIte, fbB, qc_14_3, qc_15_2, qc_17_2, sbB, fb_15_5, grl]; split <;> omega) | (show 2 * gL _ _ _ ≤ gL _ _ _; simp only [Int.reduceToNat, Int.toNat_natCast, tN_add, tN_add1, tN_sub1, gF_sF, gA_sF, gL_sF, gV_sF, gF_sA, gA_sA, gL_sA, gV_sA, gF_sB, gA_sB, gL_sB, gV_sB, gF_nA, gA_nA, gL_nA, gV_nA, gT_nA, gF_mV, gA_mV, gL_mV, gV_mV, gT_mV, gT_sB, gT_sA, gT_sF, gK_sF, gK_sA, gK_sB, gF_grw, gT_grw, gL_grw, gA_grw, gC_grw, gD_grw, gC_sF, gC_sA, gD_sF, gD_sA, Nat.reduceLT, elT, Nat.reduceEqDiff, eq_self, and_self, and_true, true_and, and_false, false_and, reduceIte, fbB, qc_14_3, qc_15_2, qc_17_2, sbB, fb_15_5]; omega) | (simp only [Int.reduceToNat, Int.toNat_natCast, tN_add, tN_add1, tN_sub1, gF_sF, gA_sF, gL_sF, gV_sF, gF_sA, gA_sA, gL_sA, gV_sA, gF_sB, gA_sB, gL_sB, gV_sB, gF_nA, gA_nA, gL_nA, gV_nA, gT_nA, gF_mV, gA_mV, gL_mV, gV_mV, gT_mV, gT_sB, gT_sA, gT_sF, gK_sF, gK_sA, gK_sB, gF_grw, gT_grw, gL_grw, gA_grw, gC_grw, gD_grw, gC_sF, gC_sA, gD_sF, gD_sA, Nat.reduceLT, elT, Nat.reduceEqDiff, eq_self, and_self, and_true, true_and, and_false, false_and, reduceIte, fbB, qc_14_3, qc_15_2, qc_17_2, sbB, fb_15_5, gK_grw, gN_grw, hN0, hK0]; done))
          exact key
      refine jx_seg (il := (fun _ => false)) (mc := true) (fun _ => grow_ok) 120 [13, 66, 101, 222, 313, 325] (by decide) rfl ?_
      repeat' (first | refine And.intro ?_ ?_ | (with_reducible intro c; try simp only [cmpI, cmpN, Classical.not_not, not_true_eq_false, not_false_eq_true, Int.reduceToNat, Int.toNat_natCast, tN_add, tN_add1, tN_sub1, gF_sF, gA_sF, gL_sF, gV_sF, gF_sA, gA_sA, gL_sA, gV_sA, gF_sB, gA_sB, gL_sB, gV_sB, gF_nA, gA_nA, gL_nA, gV_nA, gT_nA, gF_mV, gA_mV, gL_mV, gV_mV, gT_mV, gT_sB, gT_sA, gT_sF, gK_sF, gK_sA, gK_sB, gF_grw, gT_grw, gL_grw, gA_grw, gC_grw, gD_grw, gC_sF, gC_sA, gD_sF, gD_sA, Nat.reduceLT, elT, Nat.reduceEqDiff, eq_self, and_self, and_true, true_and, and_false, false_and, reduceIte, fbB, qc_14_3, qc_15_2, qc_17_2, sbB, fb_15_5] at c))
      all_goals (try first | exact rfl | exact True.intro | with_reducible assumption | omega | (simp only [Int.reduceToNat, Int.toNat_natCast, tN_add, tN_add1, tN_sub1, gF_sF, gA_sF, gL_sF, gV_sF, gF_sA, gA_sA, gL_sA, gV_sA, gF_sB, gA_sB, gL_sB, gV_sB, gF_nA, gA_nA, gL_nA, gV_nA, gT_nA, gF_mV, gA_mV, gL_mV, gV_mV, gT_mV, gT_sB, gT_sA, gT_sF, gK_sF, gK_sA, gK_sB, gF_grw, gT_grw, gL_grw, gA_grw, gC_grw, gD_grw, gC_sF, gC_sA, gD_sF, gD_sA, Nat.reduceLT, elT, Nat.reduceEqDiff, eq_self, and_self, and_true, true_and, and_false, false_and, reduceIte, fbB, qc_14_3, qc_15_2, qc_17_2, sbB, fb_15_5]; first | done | with_reducible assumption | omega) | (simp only [Int.reduceToNat, Int.toNat_natCast, tN_add, tN_add1, tN_sub1, gF_sF, gA_sF, gL_sF, gV_sF, gF_sA, gA_sA, gL_sA, gV_sA, gF_sB, gA_sB, gL_sB, gV_sB, gF_nA, gA_nA, gL_nA, gV_nA, gT_nA, gF_mV, gA_mV, gL_mV, gV_mV, gT_mV, gT_sB, gT_sA, gT_sF, gK_sF, gK_sA, gK_sB, gF_grw, gT_grw, gL_grw, gA_grw, gC_grw, gD_grw, gC_sF, gC_sA, gD_sF, gD_sA, Nat.reduceLT, elT, Nat.reduceEqDiff, eq_self, and_self, and_true, true_and, and_false, false_and, reduceIte, fbB, qc_14_3, qc_15_2, qc_17_2, sbB, fb_15_5, grl]; split <;> omega) | (show 2 * gL _ _ _ ≤ gL _ _ _; simp only [Int.reduceToNat, Int.toNat_natCast, tN_add, tN_add1, tN_sub1, gF_sF, gA_sF, gL_sF, gV_sF, gF_sA, gA_sA, gL_sA, gV_sA, gF_sB, gA_sB, gL_sB, gV_sB, gF_nA, gA_nA, gL_nA, gV_nA, gT_nA, gF_mV, gA_mV, gL_mV, gV_mV, gT_mV, gT_sB, gT_sA, gT_sF, gK_sF, gK_sA, gK_sB, gF_grw, gT_grw, gL_grw, gA_grw, gC_grw, gD_grw, gC_sF, gC_sA, gD_sF, gD_sA, Nat.reduceLT, elT, Nat.reduceEqDiff, eq_self, and_self, and_true, true_and, and_false, false_and, reduceIte, fbB, qc_14_3, qc_15_2, qc_17_2, sbB, fb_15_5]; omega) | (simp only [Int.reduceToNat, Int.toNat_natCast, tN_add, tN_add1, tN_sub1, gF_sF, gA_sF, gL_sF, gV_sF, gF_sA, gA_sA, gL_sA, gV_sA, gF_sB, gA_sB, gL_sB, gV_sB, gF_nA, gA_nA, gL_nA, gV_nA, gT_nA, gF_mV, gA_mV, gL_mV, gV_mV, gT_mV, gT_sB, gT_sA, gT_sF, gK_sF, gK_sA, gK_sB, gF_grw, gT_grw, gL_grw, gA_grw, gC_grw, gD_grw, gC_sF, gC_sA, gD_sF, gD_sA, Nat.reduceLT, elT, Nat.reduceEqDiff, eq_self, and_self, and_true, true_and, and_false, false_and, reduceIte, fbB, qc_14_3, qc_15_2, qc_17_2, sbB, fb_15_5, gK_grw, gN_grw, hN0, hK0]; done))
      · have htk := tkE_end (X := X) (p := tpo X t) (by omega)
        have e1 : tln X t = 0 := by show (tkE X (tpo X t)).2 = 0; rw [htk]
        have e2 : tkd X t = 0 := by show (tkE X (tpo X t)).1 = 0; rw [htk]
        have key := tail (some (vI 0)) w6
        rw [e1, e2] at key
        exact key
      · have hp : tpo X t < X.2 := by omega
        have e1 := hS1.2.2 (tpo X t) hp
        refine m_letter (fun x hx => ?_)
        have hx : x = if isLt (X.1 (tpo X t)) then (1 : Int) else 0 := by
          have h0 : x = if isLt (gA σ1 120 2 (tpo X t)) then (1 : Int) else 0 := hx
          rw [e1] at h0
          exact h0
        repeat' (first | refine And.intro ?_ ?_ | (with_reducible intro c; try simp only [cmpI, cmpN, Classical.not_not, not_true_eq_false, not_false_eq_true, Int.reduceToNat, Int.toNat_natCast, tN_add, tN_add1, tN_sub1, gF_sF, gA_sF, gL_sF, gV_sF, gF_sA, gA_sA, gL_sA, gV_sA, gF_sB, gA_sB, gL_sB, gV_sB, gF_nA, gA_nA, gL_nA, gV_nA, gT_nA, gF_mV, gA_mV, gL_mV, gV_mV, gT_mV, gT_sB, gT_sA, gT_sF, gK_sF, gK_sA, gK_sB, gF_grw, gT_grw, gL_grw, gA_grw, gC_grw, gD_grw, gC_sF, gC_sA, gD_sF, gD_sA, Nat.reduceLT, elT, Nat.reduceEqDiff, eq_self, and_self, and_true, true_and, and_false, false_and, reduceIte, fbB, qc_14_3, qc_15_2, qc_17_2, sbB, fb_15_5] at c))
        all_goals (try first | exact rfl | exact True.intro | with_reducible assumption | omega | (simp only [Int.reduceToNat, Int.toNat_natCast, tN_add, tN_add1, tN_sub1, gF_sF, gA_sF, gL_sF, gV_sF, gF_sA, gA_sA, gL_sA, gV_sA, gF_sB, gA_sB, gL_sB, gV_sB, gF_nA, gA_nA, gL_nA, gV_nA, gT_nA, gF_mV, gA_mV, gL_mV, gV_mV, gT_mV, gT_sB, gT_sA, gT_sF, gK_sF, gK_sA, gK_sB, gF_grw, gT_grw, gL_grw, gA_grw, gC_grw, gD_grw, gC_sF, gC_sA, gD_sF, gD_sA, Nat.reduceLT, elT, Nat.reduceEqDiff, eq_self, and_self, and_true, true_and, and_false, false_and, reduceIte, fbB, qc_14_3, qc_15_2, qc_17_2, sbB, fb_15_5]; first | done | with_reducible assumption | omega) | (simp only [Int.reduceToNat, Int.toNat_natCast, tN_add, tN_add1, tN_sub1, gF_sF, gA_sF, gL_sF, gV_sF, gF_sA, gA_sA, gL_sA, gV_sA, gF_sB, gA_sB, gL_sB, gV_sB, gF_nA, gA_nA, gL_nA, gV_nA, gT_nA, gF_mV, gA_mV, gL_mV, gV_mV, gT_mV, gT_sB, gT_sA, gT_sF, gK_sF, gK_sA, gK_sB, gF_grw, gT_grw, gL_grw, gA_grw, gC_grw, gD_grw, gC_sF, gC_sA, gD_sF, gD_sA, Nat.reduceLT, elT, Nat.reduceEqDiff, eq_self, and_self, and_true, true_and, and_false, false_and, reduceIte, fbB, qc_14_3, qc_15_2, qc_17_2, sbB, fb_15_5, grl]; split <;> omega) | (show 2 * gL _ _ _ ≤ gL _ _ _; simp only [Int.reduceToNat, Int.toNat_natCast, tN_add, tN_add1, tN_sub1, gF_sF, gA_sF, gL_sF, gV_sF, gF_sA, gA_sA, gL_sA, gV_sA, gF_sB, gA_sB, gL_sB, gV_sB, gF_nA, gA_nA, gL_nA, gV_nA, gT_nA, gF_mV, gA_mV, gL_mV, gV_mV, gT_mV, gT_sB, gT_sA, gT_sF, gK_sF, gK_sA, gK_sB, gF_grw, gT_grw, gL_grw, gA_grw, gC_grw, gD_grw, gC_sF, gC_sA, gD_sF, gD_sA, Nat.reduceLT, elT, Nat.reduceEqDiff, eq_self, and_self, and_true, true_and, and_false, false_and, reduceIte, fbB, qc_14_3, qc_15_2, qc_17_2, sbB, fb_15_5]; omega) | (simp only [Int.reduceToNat, Int.toNat_natCast, tN_add, tN_add1, tN_sub1, gF_sF, gA_sF, gL_sF, gV_sF, gF_sA, gA_sA, gL_sA, gV_sA, gF_sB, gA_sB, gL_sB, gV_sB, gF_nA, gA_nA, gL_nA, gV_nA, gT_nA, gF_mV, gA_mV, gL_mV, gV_mV, gT_mV, gT_sB, gT_sA, gT_sF, gK_sF, gK_sA, gK_sB, gF_grw, gT_grw, gL_grw, gA_grw, gC_grw, gD_grw, gC_sF, gC_sA, gD_sF, gD_sA, Nat.reduceLT, elT, Nat.reduceEqDiff, eq_self, and_self, and_true, true_and, and_false, false_and, reduceIte, fbB, qc_14_3, qc_15_2, qc_17_2, sbB, fb_15_5, gK_grw, gN_grw, hN0, hK0]; done))
        · have hnl : ¬ isLt (X.1 (tpo X t)) := fun h => by rw [if_pos h] at hx; omega
          refine m_digit (fun y hy => ?_)
          have hy : y = if isDg (X.1 (tpo X t)) then (1 : Int) else 0 := by
            have h0 : y = if isDg (gA σ1 120 2 (tpo X t)) then (1 : Int) else 0 := hy
            rw [e1] at h0
            exact h0
          repeat' (first | refine And.intro ?_ ?_ | (with_reducible intro c; try simp only [cmpI, cmpN, Classical.not_not, not_true_eq_false, not_false_eq_true, Int.reduceToNat, Int.toNat_natCast, tN_add, tN_add1, tN_sub1, gF_sF, gA_sF, gL_sF, gV_sF, gF_sA, gA_sA, gL_sA, gV_sA, gF_sB, gA_sB, gL_sB, gV_sB, gF_nA, gA_nA, gL_nA, gV_nA, gT_nA, gF_mV, gA_mV, gL_mV, gV_mV, gT_mV, gT_sB, gT_sA, gT_sF, gK_sF, gK_sA, gK_sB, gF_grw, gT_grw, gL_grw, gA_grw, gC_grw, gD_grw, gC_sF, gC_sA, gD_sF, gD_sA, Nat.reduceLT, elT, Nat.reduceEqDiff, eq_self, and_self, and_true, true_and, and_false, false_and, reduceIte, fbB, qc_14_3, qc_15_2, qc_17_2, sbB, fb_15_5] at c))
          all_goals (try first | exact rfl | exact True.intro | with_reducible assumption | omega | (simp only [Int.reduceToNat, Int.toNat_natCast, tN_add, tN_add1, tN_sub1, gF_sF, gA_sF, gL_sF, gV_sF, gF_sA, gA_sA, gL_sA, gV_sA, gF_sB, gA_sB, gL_sB, gV_sB, gF_nA, gA_nA, gL_nA, gV_nA, gT_nA, gF_mV, gA_mV, gL_mV, gV_mV, gT_mV, gT_sB, gT_sA, gT_sF, gK_sF, gK_sA, gK_sB, gF_grw, gT_grw, gL_grw, gA_grw, gC_grw, gD_grw, gC_sF, gC_sA, gD_sF, gD_sA, Nat.reduceLT, elT, Nat.reduceEqDiff, eq_self, and_self, and_true, true_and, and_false, false_and, reduceIte, fbB, qc_14_3, qc_15_2, qc_17_2, sbB, fb_15_5]; first | done | with_reducible assumption | omega) | (simp only [Int.reduceToNat, Int.toNat_natCast, tN_add, tN_add1, tN_sub1, gF_sF, gA_sF, gL_sF, gV_sF, gF_sA, gA_sA, gL_sA, gV_sA, gF_sB, gA_sB, gL_sB, gV_sB, gF_nA, gA_nA, gL_nA, gV_nA, gT_nA, gF_mV, gA_mV, gL_mV, gV_mV, gT_mV, gT_sB, gT_sA, gT_sF, gK_sF, gK_sA, gK_sB, gF_grw, gT_grw, gL_grw, gA_grw, gC_grw, gD_grw, gC_sF, gC_sA, gD_sF, gD_sA, Nat.reduceLT, elT, Nat.reduceEqDiff, eq_self, and_self, and_true, true_and, and_false, false_and, reduceIte, fbB, qc_14_3, qc_15_2, qc_17_2, sbB, fb_15_5, grl]; split <;> omega) | (show 2 * gL _ _ _ ≤ gL _ _ _; simp only [Int.reduceToNat, Int.toNat_natCast, tN_add, tN_add1, tN_sub1, gF_sF, gA_sF, gL_sF, gV_sF, gF_sA, gA_sA, gL_sA, gV_sA, gF_sB, gA_sB, gL_sB, gV_sB, gF_nA, gA_nA, gL_nA, gV_nA, gT_nA, gF_mV, gA_mV, gL_mV, gV_mV, gT_mV, gT_sB, gT_sA, gT_sF, gK_sF, gK_sA, gK_sB, gF_grw, gT_grw, gL_grw, gA_grw, gC_grw, gD_grw, gC_sF, gC_sA, gD_sF, gD_sA, Nat.reduceLT, elT, Nat.reduceEqDiff, eq_self, and_self, and_true, true_and, and_false, false_and, reduceIte, fbB, qc_14_3, qc_15_2, qc_17_2, sbB, fb_15_5]; omega) | (simp only [Int.reduceToNat, Int.toNat_natCast, tN_add, tN_add1, tN_sub1, gF_sF, gA_sF, gL_sF, gV_sF, gF_sA, gA_sA, gL_sA, gV_sA, gF_sB, gA_sB, gL_sB, gV_sB, gF_nA, gA_nA, gL_nA, gV_nA, gT_nA, gF_mV, gA_mV, gL_mV, gV_mV, gT_mV, gT_sB, gT_sA, gT_sF, gK_sF, gK_sA, gK_sB, gF_grw, gT_grw, gL_grw, gA_grw, gC_grw, gD_grw, gC_sF, gC_sA, gD_sF, gD_sA, Nat.reduceLT, elT, Nat.reduceEqDiff, eq_self, and_self, and_true, true_and, and_false, false_and, reduceIte, fbB, qc_14_3, qc_15_2, qc_17_2, sbB, fb_15_5, gK_grw, gN_grw, hN0, hK0]; done))
          · have hnd : ¬ isDg (X.1 (tpo X t)) := fun h => by rw [if_pos h] at hy; omega
            have st : ∀ (a b x : Int), x = (if tpo X t + 1 < X.2 ∧ X.1 (tpo X t) = a ∧ X.1 (tpo X t + 1) = b then (1 : Int) else 0) → (x = 0 → ¬ (tpo X t + 1 < X.2 ∧ X.1 (tpo X t) = a ∧ X.1 (tpo X t + 1) = b)) ∧ (¬ x = 0 → tpo X t + 1 < X.2 ∧ X.1 (tpo X t) = a ∧ X.1 (tpo X t + 1) = b) := fun a b x h => by
              by_cases c : tpo X t + 1 < X.2 ∧ X.1 (tpo X t) = a ∧ X.1 (tpo X t + 1) = b
              · rw [if_pos c] at h; exact ⟨fun h2 => by omega, fun _ => c⟩
              · rw [if_neg c] at h; exact ⟨fun _ => c, fun h2 => by omega⟩
            have yes : ∀ a b, ((a = 60 ∧ b = 61) ∨ (a = 62 ∧ b = 61) ∨ (a = 60 ∧ b = 60) ∨ (a = 62 ∧ b = 62) ∨ (a = 61 ∧ b = 61) ∨ (a = 33 ∧ b = 61)) → tpo X t + 1 < X.2 ∧ X.1 (tpo X t) = a ∧ X.1 (tpo X t + 1) = b → tpo X t + 1 < X.2 ∧ spl X (tpo X t) 2 60 4 ≠ 1 := fun a b h h2 => by
              refine ⟨h2.1, fun h3 => ?_⟩
              rcases sg_two h2.1 hnl with w | w | w | w | w | w | w
              · rcases h with u | u | u | u | u | u
                all_goals rw [u.1, u.2] at h2
                · exact w.2.1 h2.2
                · exact w.2.2.1 h2.2
                · exact w.2.2.2.1 h2.2
                · exact w.2.2.2.2.1 h2.2
                · exact w.2.2.2.2.2.1 h2.2
                · exact w.2.2.2.2.2.2 h2.2
              all_goals (have w1 := w.1; rw [h3] at w1; exact absurd w1 (by decide))
            refine m_isAt (i := tpo X t) hS1 rfl (by omega) (fun x1 hx1 => ?_)
            repeat' (first | refine And.intro ?_ ?_ | (with_reducible intro c; try simp only [cmpI, cmpN, Classical.not_not, not_true_eq_false, not_false_eq_true, Int.reduceToNat, Int.toNat_natCast, tN_add, tN_add1, tN_sub1, gF_sF, gA_sF, gL_sF, gV_sF, gF_sA, gA_sA, gL_sA, gV_sA, gF_sB, gA_sB, gL_sB, gV_sB, gF_nA, gA_nA, gL_nA, gV_nA, gT_nA, gF_mV, gA_mV, gL_mV, gV_mV, gT_mV, gT_sB, gT_sA, gT_sF, gK_sF, gK_sA, gK_sB, gF_grw, gT_grw, gL_grw, gA_grw, gC_grw, gD_grw, gC_sF, gC_sA, gD_sF, gD_sA, Nat.reduceLT, elT, Nat.reduceEqDiff, eq_self, and_self, and_true, true_and, and_false, false_and, reduceIte, fbB, qc_14_3, qc_15_2, qc_17_2, sbB, fb_15_5] at c))
            all_goals (try first | exact rfl | exact True.intro | with_reducible assumption | omega | (simp only [Int.reduceToNat, Int.toNat_natCast, tN_add, tN_add1, tN_sub1, gF_sF, gA_sF, gL_sF, gV_sF, gF_sA, gA_sA, gL_sA, gV_sA, gF_sB, gA_sB, gL_sB, gV_sB, gF_nA, gA_nA, gL_nA, gV_nA, gT_nA, gF_mV, gA_mV, gL_mV, gV_mV, gT_mV, gT_sB, gT_sA, gT_sF, gK_sF, gK_sA, gK_sB, gF_grw, gT_grw, gL_grw, gA_grw, gC_grw, gD_grw, gC_sF, gC_sA, gD_sF, gD_sA, Nat.reduceLT, elT, Nat.reduceEqDiff, eq_self, and_self, and_true, true_and, and_false, false_and, reduceIte, fbB, qc_14_3, qc_15_2, qc_17_2, sbB, fb_15_5]; first | done | with_reducible assumption | omega) | (simp only [Int.reduceToNat, Int.toNat_natCast, tN_add, tN_add1, tN_sub1, gF_sF, gA_sF, gL_sF, gV_sF, gF_sA, gA_sA, gL_sA, gV_sA, gF_sB, gA_sB, gL_sB, gV_sB, gF_nA, gA_nA, gL_nA, gV_nA, gT_nA, gF_mV, gA_mV, gL_mV, gV_mV, gT_mV, gT_sB, gT_sA, gT_sF, gK_sF, gK_sA, gK_sB, gF_grw, gT_grw, gL_grw, gA_grw, gC_grw, gD_grw, gC_sF, gC_sA, gD_sF, gD_sA, Nat.reduceLT, elT, Nat.reduceEqDiff, eq_self, and_self, and_true, true_and, and_false, false_and, reduceIte, fbB, qc_14_3, qc_15_2, qc_17_2, sbB, fb_15_5, grl]; split <;> omega) | (show 2 * gL _ _ _ ≤ gL _ _ _; simp only [Int.reduceToNat, Int.toNat_natCast, tN_add, tN_add1, tN_sub1, gF_sF, gA_sF, gL_sF, gV_sF, gF_sA, gA_sA, gL_sA, gV_sA, gF_sB, gA_sB, gL_sB, gV_sB, gF_nA, gA_nA, gL_nA, gV_nA, gT_nA, gF_mV, gA_mV, gL_mV, gV_mV, gT_mV, gT_sB, gT_sA, gT_sF, gK_sF, gK_sA, gK_sB, gF_grw, gT_grw, gL_grw, gA_grw, gC_grw, gD_grw, gC_sF, gC_sA, gD_sF, gD_sA, Nat.reduceLT, elT, Nat.reduceEqDiff, eq_self, and_self, and_true, true_and, and_false, false_and, reduceIte, fbB, qc_14_3, qc_15_2, qc_17_2, sbB, fb_15_5]; omega) | (simp only [Int.reduceToNat, Int.toNat_natCast, tN_add, tN_add1, tN_sub1, gF_sF, gA_sF, gL_sF, gV_sF, gF_sA, gA_sA, gL_sA, gV_sA, gF_sB, gA_sB, gL_sB, gV_sB, gF_nA, gA_nA, gL_nA, gV_nA, gT_nA, gF_mV, gA_mV, gL_mV, gV_mV, gT_mV, gT_sB, gT_sA, gT_sF, gK_sF, gK_sA, gK_sB, gF_grw, gT_grw, gL_grw, gA_grw, gC_grw, gD_grw, gC_sF, gC_sA, gD_sF, gD_sA, Nat.reduceLT, elT, Nat.reduceEqDiff, eq_self, and_self, and_true, true_and, and_false, false_and, reduceIte, fbB, qc_14_3, qc_15_2, qc_17_2, sbB, fb_15_5, gK_grw, gN_grw, hN0, hK0]; done))
            · have h := yes _ _ (by omega) ((st _ _ _ hx1).2 (by assumption))
              have h2 := two h.1 hnl hnd h.2
              rw [← e1] at h2
              exact h2
            refine m_isAt (i := tpo X t) hS1 rfl (by omega) (fun x2 hx2 => ?_)
            repeat' (first | refine And.intro ?_ ?_ | (with_reducible intro c; try simp only [cmpI, cmpN, Classical.not_not, not_true_eq_false, not_false_eq_true, Int.reduceToNat, Int.toNat_natCast, tN_add, tN_add1, tN_sub1, gF_sF, gA_sF, gL_sF, gV_sF, gF_sA, gA_sA, gL_sA, gV_sA, gF_sB, gA_sB, gL_sB, gV_sB, gF_nA, gA_nA, gL_nA, gV_nA, gT_nA, gF_mV, gA_mV, gL_mV, gV_mV, gT_mV, gT_sB, gT_sA, gT_sF, gK_sF, gK_sA, gK_sB, gF_grw, gT_grw, gL_grw, gA_grw, gC_grw, gD_grw, gC_sF, gC_sA, gD_sF, gD_sA, Nat.reduceLT, elT, Nat.reduceEqDiff, eq_self, and_self, and_true, true_and, and_false, false_and, reduceIte, fbB, qc_14_3, qc_15_2, qc_17_2, sbB, fb_15_5] at c))
            all_goals (try first | exact rfl | exact True.intro | with_reducible assumption | omega | (simp only [Int.reduceToNat, Int.toNat_natCast, tN_add, tN_add1, tN_sub1, gF_sF, gA_sF, gL_sF, gV_sF, gF_sA, gA_sA, gL_sA, gV_sA, gF_sB, gA_sB, gL_sB, gV_sB, gF_nA, gA_nA, gL_nA, gV_nA, gT_nA, gF_mV, gA_mV, gL_mV, gV_mV, gT_mV, gT_sB, gT_sA, gT_sF, gK_sF, gK_sA, gK_sB, gF_grw, gT_grw, gL_grw, gA_grw, gC_grw, gD_grw, gC_sF, gC_sA, gD_sF, gD_sA, Nat.reduceLT, elT, Nat.reduceEqDiff, eq_self, and_self, and_true, true_and, and_false, false_and, reduceIte, fbB, qc_14_3, qc_15_2, qc_17_2, sbB, fb_15_5]; first | done | with_reducible assumption | omega) | (simp only [Int.reduceToNat, Int.toNat_natCast, tN_add, tN_add1, tN_sub1, gF_sF, gA_sF, gL_sF, gV_sF, gF_sA, gA_sA, gL_sA, gV_sA, gF_sB, gA_sB, gL_sB, gV_sB, gF_nA, gA_nA, gL_nA, gV_nA, gT_nA, gF_mV, gA_mV, gL_mV, gV_mV, gT_mV, gT_sB, gT_sA, gT_sF, gK_sF, gK_sA, gK_sB, gF_grw, gT_grw, gL_grw, gA_grw, gC_grw, gD_grw, gC_sF, gC_sA, gD_sF, gD_sA, Nat.reduceLT, elT, Nat.reduceEqDiff, eq_self, and_self, and_true, true_and, and_false, false_and, reduceIte, fbB, qc_14_3, qc_15_2, qc_17_2, sbB, fb_15_5, grl]; split <;> omega) | (show 2 * gL _ _ _ ≤ gL _ _ _; simp only [Int.reduceToNat, Int.toNat_natCast, tN_add, tN_add1, tN_sub1, gF_sF, gA_sF, gL_sF, gV_sF, gF_sA, gA_sA, gL_sA, gV_sA, gF_sB, gA_sB, gL_sB, gV_sB, gF_nA, gA_nA, gL_nA, gV_nA, gT_nA, gF_mV, gA_mV, gL_mV, gV_mV, gT_mV, gT_sB, gT_sA, gT_sF, gK_sF, gK_sA, gK_sB, gF_grw, gT_grw, gL_grw, gA_grw, gC_grw, gD_grw, gC_sF, gC_sA, gD_sF, gD_sA, Nat.reduceLT, elT, Nat.reduceEqDiff, eq_self, and_self, and_true, true_and, and_false, false_and, reduceIte, fbB, qc_14_3, qc_15_2, qc_17_2, sbB, fb_15_5]; omega) | (simp only [Int.reduceToNat, Int.toNat_natCast, tN_add, tN_add1, tN_sub1, gF_sF, gA_sF, gL_sF, gV_sF, gF_sA, gA_sA, gL_sA, gV_sA, gF_sB, gA_sB, gL_sB, gV_sB, gF_nA, gA_nA, gL_nA, gV_nA, gT_nA, gF_mV, gA_mV, gL_mV, gV_mV, gT_mV, gT_sB, gT_sA, gT_sF, gK_sF, gK_sA, gK_sB, gF_grw, gT_grw, gL_grw, gA_grw, gC_grw, gD_grw, gC_sF, gC_sA, gD_sF, gD_sA, Nat.reduceLT, elT, Nat.reduceEqDiff, eq_self, and_self, and_true, true_and, and_false, false_and, reduceIte, fbB, qc_14_3, qc_15_2, qc_17_2, sbB, fb_15_5, gK_grw, gN_grw, hN0, hK0]; done))
            · have h := yes _ _ (by omega) ((st _ _ _ hx2).2 (by assumption))
              have h2 := two h.1 hnl hnd h.2
              rw [← e1] at h2
              exact h2
            refine m_isAt (i := tpo X t) hS1 rfl (by omega) (fun x3 hx3 => ?_)
            repeat' (first | refine And.intro ?_ ?_ | (with_reducible intro c; try simp only [cmpI, cmpN, Classical.not_not, not_true_eq_false, not_false_eq_true, Int.reduceToNat, Int.toNat_natCast, tN_add, tN_add1, tN_sub1, gF_sF, gA_sF, gL_sF, gV_sF, gF_sA, gA_sA, gL_sA, gV_sA, gF_sB, gA_sB, gL_sB, gV_sB, gF_nA, gA_nA, gL_nA, gV_nA, gT_nA, gF_mV, gA_mV, gL_mV, gV_mV, gT_mV, gT_sB, gT_sA, gT_sF, gK_sF, gK_sA, gK_sB, gF_grw, gT_grw, gL_grw, gA_grw, gC_grw, gD_grw, gC_sF, gC_sA, gD_sF, gD_sA, Nat.reduceLT, elT, Nat.reduceEqDiff, eq_self, and_self, and_true, true_and, and_false, false_and, reduceIte, fbB, qc_14_3, qc_15_2, qc_17_2, sbB, fb_15_5] at c))
            all_goals (try first | exact rfl | exact True.intro | with_reducible assumption | omega | (simp only [Int.reduceToNat, Int.toNat_natCast, tN_add, tN_add1, tN_sub1, gF_sF, gA_sF, gL_sF, gV_sF, gF_sA, gA_sA, gL_sA, gV_sA, gF_sB, gA_sB, gL_sB, gV_sB, gF_nA, gA_nA, gL_nA, gV_nA, gT_nA, gF_mV, gA_mV, gL_mV, gV_mV, gT_mV, gT_sB, gT_sA, gT_sF, gK_sF, gK_sA, gK_sB, gF_grw, gT_grw, gL_grw, gA_grw, gC_grw, gD_grw, gC_sF, gC_sA, gD_sF, gD_sA, Nat.reduceLT, elT, Nat.reduceEqDiff, eq_self, and_self, and_true, true_and, and_false, false_and, reduceIte, fbB, qc_14_3, qc_15_2, qc_17_2, sbB, fb_15_5]; first | done | with_reducible assumption | omega) | (simp only [Int.reduceToNat, Int.toNat_natCast, tN_add, tN_add1, tN_sub1, gF_sF, gA_sF, gL_sF, gV_sF, gF_sA, gA_sA, gL_sA, gV_sA, gF_sB, gA_sB, gL_sB, gV_sB, gF_nA, gA_nA, gL_nA, gV_nA, gT_nA, gF_mV, gA_mV, gL_mV, gV_mV, gT_mV, gT_sB, gT_sA, gT_sF, gK_sF, gK_sA, gK_sB, gF_grw, gT_grw, gL_grw, gA_grw, gC_grw, gD_grw, gC_sF, gC_sA, gD_sF, gD_sA, Nat.reduceLT, elT, Nat.reduceEqDiff, eq_self, and_self, and_true, true_and, and_false, false_and, reduceIte, fbB, qc_14_3, qc_15_2, qc_17_2, sbB, fb_15_5, grl]; split <;> omega) | (show 2 * gL _ _ _ ≤ gL _ _ _; simp only [Int.reduceToNat, Int.toNat_natCast, tN_add, tN_add1, tN_sub1, gF_sF, gA_sF, gL_sF, gV_sF, gF_sA, gA_sA, gL_sA, gV_sA, gF_sB, gA_sB, gL_sB, gV_sB, gF_nA, gA_nA, gL_nA, gV_nA, gT_nA, gF_mV, gA_mV, gL_mV, gV_mV, gT_mV, gT_sB, gT_sA, gT_sF, gK_sF, gK_sA, gK_sB, gF_grw, gT_grw, gL_grw, gA_grw, gC_grw, gD_grw, gC_sF, gC_sA, gD_sF, gD_sA, Nat.reduceLT, elT, Nat.reduceEqDiff, eq_self, and_self, and_true, true_and, and_false, false_and, reduceIte, fbB, qc_14_3, qc_15_2, qc_17_2, sbB, fb_15_5]; omega) | (simp only [Int.reduceToNat, Int.toNat_natCast, tN_add, tN_add1, tN_sub1, gF_sF, gA_sF, gL_sF, gV_sF, gF_sA, gA_sA, gL_sA, gV_sA, gF_sB, gA_sB, gL_sB, gV_sB, gF_nA, gA_nA, gL_nA, gV_nA, gT_nA, gF_mV, gA_mV, gL_mV, gV_mV, gT_mV, gT_sB, gT_sA, gT_sF, gK_sF, gK_sA, gK_sB, gF_grw, gT_grw, gL_grw, gA_grw, gC_grw, gD_grw, gC_sF, gC_sA, gD_sF, gD_sA, Nat.reduceLT, elT, Nat.reduceEqDiff, eq_self, and_self, and_true, true_and, and_false, false_and, reduceIte, fbB, qc_14_3, qc_15_2, qc_17_2, sbB, fb_15_5, gK_grw, gN_grw, hN0, hK0]; done))
            · have h := yes _ _ (by omega) ((st _ _ _ hx3).2 (by assumption))
              have h2 := two h.1 hnl hnd h.2
              rw [← e1] at h2
              exact h2
            refine m_isAt (i := tpo X t) hS1 rfl (by omega) (fun x4 hx4 => ?_)
            repeat' (first | refine And.intro ?_ ?_ | (with_reducible intro c; try simp only [cmpI, cmpN, Classical.not_not, not_true_eq_false, not_false_eq_true, Int.reduceToNat, Int.toNat_natCast, tN_add, tN_add1, tN_sub1, gF_sF, gA_sF, gL_sF, gV_sF, gF_sA, gA_sA, gL_sA, gV_sA, gF_sB, gA_sB, gL_sB, gV_sB, gF_nA, gA_nA, gL_nA, gV_nA, gT_nA, gF_mV, gA_mV, gL_mV, gV_mV, gT_mV, gT_sB, gT_sA, gT_sF, gK_sF, gK_sA, gK_sB, gF_grw, gT_grw, gL_grw, gA_grw, gC_grw, gD_grw, gC_sF, gC_sA, gD_sF, gD_sA, Nat.reduceLT, elT, Nat.reduceEqDiff, eq_self, and_self, and_true, true_and, and_false, false_and, reduceIte, fbB, qc_14_3, qc_15_2, qc_17_2, sbB, fb_15_5] at c))
            all_goals (try first | exact rfl | exact True.intro | with_reducible assumption | omega | (simp only [Int.reduceToNat, Int.toNat_natCast, tN_add, tN_add1, tN_sub1, gF_sF, gA_sF, gL_sF, gV_sF, gF_sA, gA_sA, gL_sA, gV_sA, gF_sB, gA_sB, gL_sB, gV_sB, gF_nA, gA_nA, gL_nA, gV_nA, gT_nA, gF_mV, gA_mV, gL_mV, gV_mV, gT_mV, gT_sB, gT_sA, gT_sF, gK_sF, gK_sA, gK_sB, gF_grw, gT_grw, gL_grw, gA_grw, gC_grw, gD_grw, gC_sF, gC_sA, gD_sF, gD_sA, Nat.reduceLT, elT, Nat.reduceEqDiff, eq_self, and_self, and_true, true_and, and_false, false_and, reduceIte, fbB, qc_14_3, qc_15_2, qc_17_2, sbB, fb_15_5]; first | done | with_reducible assumption | omega) | (simp only [Int.reduceToNat, Int.toNat_natCast, tN_add, tN_add1, tN_sub1, gF_sF, gA_sF, gL_sF, gV_sF, gF_sA, gA_sA, gL_sA, gV_sA, gF_sB, gA_sB, gL_sB, gV_sB, gF_nA, gA_nA, gL_nA, gV_nA, gT_nA, gF_mV, gA_mV, gL_mV, gV_mV, gT_mV, gT_sB, gT_sA, gT_sF, gK_sF, gK_sA, gK_sB, gF_grw, gT_grw, gL_grw, gA_grw, gC_grw, gD_grw, gC_sF, gC_sA, gD_sF, gD_sA, Nat.reduceLT, elT, Nat.reduceEqDiff, eq_self, and_self, and_true, true_and, and_false, false_and, reduceIte, fbB, qc_14_3, qc_15_2, qc_17_2, sbB, fb_15_5, grl]; split <;> omega) | (show 2 * gL _ _ _ ≤ gL _ _ _; simp only [Int.reduceToNat, Int.toNat_natCast, tN_add, tN_add1, tN_sub1, gF_sF, gA_sF, gL_sF, gV_sF, gF_sA, gA_sA, gL_sA, gV_sA, gF_sB, gA_sB, gL_sB, gV_sB, gF_nA, gA_nA, gL_nA, gV_nA, gT_nA, gF_mV, gA_mV, gL_mV, gV_mV, gT_mV, gT_sB, gT_sA, gT_sF, gK_sF, gK_sA, gK_sB, gF_grw, gT_grw, gL_grw, gA_grw, gC_grw, gD_grw, gC_sF, gC_sA, gD_sF, gD_sA, Nat.reduceLT, elT, Nat.reduceEqDiff, eq_self, and_self, and_true, true_and, and_false, false_and, reduceIte, fbB, qc_14_3, qc_15_2, qc_17_2, sbB, fb_15_5]; omega) | (simp only [Int.reduceToNat, Int.toNat_natCast, tN_add, tN_add1, tN_sub1, gF_sF, gA_sF, gL_sF, gV_sF, gF_sA, gA_sA, gL_sA, gV_sA, gF_sB, gA_sB, gL_sB, gV_sB, gF_nA, gA_nA, gL_nA, gV_nA, gT_nA, gF_mV, gA_mV, gL_mV, gV_mV, gT_mV, gT_sB, gT_sA, gT_sF, gK_sF, gK_sA, gK_sB, gF_grw, gT_grw, gL_grw, gA_grw, gC_grw, gD_grw, gC_sF, gC_sA, gD_sF, gD_sA, Nat.reduceLT, elT, Nat.reduceEqDiff, eq_self, and_self, and_true, true_and, and_false, false_and, reduceIte, fbB, qc_14_3, qc_15_2, qc_17_2, sbB, fb_15_5, gK_grw, gN_grw, hN0, hK0]; done))
            · have h := yes _ _ (by omega) ((st _ _ _ hx4).2 (by assumption))
              have h2 := two h.1 hnl hnd h.2
              rw [← e1] at h2
              exact h2
            refine m_isAt (i := tpo X t) hS1 rfl (by omega) (fun x5 hx5 => ?_)
            repeat' (first | refine And.intro ?_ ?_ | (with_reducible intro c; try simp only [cmpI, cmpN, Classical.not_not, not_true_eq_false, not_false_eq_true, Int.reduceToNat, Int.toNat_natCast, tN_add, tN_add1, tN_sub1, gF_sF, gA_sF, gL_sF, gV_sF, gF_sA, gA_sA, gL_sA, gV_sA, gF_sB, gA_sB, gL_sB, gV_sB, gF_nA, gA_nA, gL_nA, gV_nA, gT_nA, gF_mV, gA_mV, gL_mV, gV_mV, gT_mV, gT_sB, gT_sA, gT_sF, gK_sF, gK_sA, gK_sB, gF_grw, gT_grw, gL_grw, gA_grw, gC_grw, gD_grw, gC_sF, gC_sA, gD_sF, gD_sA, Nat.reduceLT, elT, Nat.reduceEqDiff, eq_self, and_self, and_true, true_and, and_false, false_and, reduceIte, fbB, qc_14_3, qc_15_2, qc_17_2, sbB, fb_15_5] at c))
            all_goals (try first | exact rfl | exact True.intro | with_reducible assumption | omega | (simp only [Int.reduceToNat, Int.toNat_natCast, tN_add, tN_add1, tN_sub1, gF_sF, gA_sF, gL_sF, gV_sF, gF_sA, gA_sA, gL_sA, gV_sA, gF_sB, gA_sB, gL_sB, gV_sB, gF_nA, gA_nA, gL_nA, gV_nA, gT_nA, gF_mV, gA_mV, gL_mV, gV_mV, gT_mV, gT_sB, gT_sA, gT_sF, gK_sF, gK_sA, gK_sB, gF_grw, gT_grw, gL_grw, gA_grw, gC_grw, gD_grw, gC_sF, gC_sA, gD_sF, gD_sA, Nat.reduceLT, elT, Nat.reduceEqDiff, eq_self, and_self, and_true, true_and, and_false, false_and, reduceIte, fbB, qc_14_3, qc_15_2, qc_17_2, sbB, fb_15_5]; first | done | with_reducible assumption | omega) | (simp only [Int.reduceToNat, Int.toNat_natCast, tN_add, tN_add1, tN_sub1, gF_sF, gA_sF, gL_sF, gV_sF, gF_sA, gA_sA, gL_sA, gV_sA, gF_sB, gA_sB, gL_sB, gV_sB, gF_nA, gA_nA, gL_nA, gV_nA, gT_nA, gF_mV, gA_mV, gL_mV, gV_mV, gT_mV, gT_sB, gT_sA, gT_sF, gK_sF, gK_sA, gK_sB, gF_grw, gT_grw, gL_grw, gA_grw, gC_grw, gD_grw, gC_sF, gC_sA, gD_sF, gD_sA, Nat.reduceLT, elT, Nat.reduceEqDiff, eq_self, and_self, and_true, true_and, and_false, false_and, reduceIte, fbB, qc_14_3, qc_15_2, qc_17_2, sbB, fb_15_5, grl]; split <;> omega) | (show 2 * gL _ _ _ ≤ gL _ _ _; simp only [Int.reduceToNat, Int.toNat_natCast, tN_add, tN_add1, tN_sub1, gF_sF, gA_sF, gL_sF, gV_sF, gF_sA, gA_sA, gL_sA, gV_sA, gF_sB, gA_sB, gL_sB, gV_sB, gF_nA, gA_nA, gL_nA, gV_nA, gT_nA, gF_mV, gA_mV, gL_mV, gV_mV, gT_mV, gT_sB, gT_sA, gT_sF, gK_sF, gK_sA, gK_sB, gF_grw, gT_grw, gL_grw, gA_grw, gC_grw, gD_grw, gC_sF, gC_sA, gD_sF, gD_sA, Nat.reduceLT, elT, Nat.reduceEqDiff, eq_self, and_self, and_true, true_and, and_false, false_and, reduceIte, fbB, qc_14_3, qc_15_2, qc_17_2, sbB, fb_15_5]; omega) | (simp only [Int.reduceToNat, Int.toNat_natCast, tN_add, tN_add1, tN_sub1, gF_sF, gA_sF, gL_sF, gV_sF, gF_sA, gA_sA, gL_sA, gV_sA, gF_sB, gA_sB, gL_sB, gV_sB, gF_nA, gA_nA, gL_nA, gV_nA, gT_nA, gF_mV, gA_mV, gL_mV, gV_mV, gT_mV, gT_sB, gT_sA, gT_sF, gK_sF, gK_sA, gK_sB, gF_grw, gT_grw, gL_grw, gA_grw, gC_grw, gD_grw, gC_sF, gC_sA, gD_sF, gD_sA, Nat.reduceLT, elT, Nat.reduceEqDiff, eq_self, and_self, and_true, true_and, and_false, false_and, reduceIte, fbB, qc_14_3, qc_15_2, qc_17_2, sbB, fb_15_5, gK_grw, gN_grw, hN0, hK0]; done))
            · have h := yes _ _ (by omega) ((st _ _ _ hx5).2 (by assumption))
              have h2 := two h.1 hnl hnd h.2
              rw [← e1] at h2
              exact h2
            refine m_isAt (i := tpo X t) hS1 rfl (by omega) (fun x6 hx6 => ?_)
            repeat' (first | refine And.intro ?_ ?_ | (with_reducible intro c; try simp only [cmpI, cmpN, Classical.not_not, not_true_eq_false, not_false_eq_true, Int.reduceToNat, Int.toNat_natCast, tN_add, tN_add1, tN_sub1, gF_sF, gA_sF, gL_sF, gV_sF, gF_sA, gA_sA, gL_sA, gV_sA, gF_sB, gA_sB, gL_sB, gV_sB, gF_nA, gA_nA, gL_nA, gV_nA, gT_nA, gF_mV, gA_mV, gL_mV, gV_mV, gT_mV, gT_sB, gT_sA, gT_sF, gK_sF, gK_sA, gK_sB, gF_grw, gT_grw, gL_grw, gA_grw, gC_grw, gD_grw, gC_sF, gC_sA, gD_sF, gD_sA, Nat.reduceLT, elT, Nat.reduceEqDiff, eq_self, and_self, and_true, true_and, and_false, false_and, reduceIte, fbB, qc_14_3, qc_15_2, qc_17_2, sbB, fb_15_5] at c))
            all_goals (try first | exact rfl | exact True.intro | with_reducible assumption | omega | (simp only [Int.reduceToNat, Int.toNat_natCast, tN_add, tN_add1, tN_sub1, gF_sF, gA_sF, gL_sF, gV_sF, gF_sA, gA_sA, gL_sA, gV_sA, gF_sB, gA_sB, gL_sB, gV_sB, gF_nA, gA_nA, gL_nA, gV_nA, gT_nA, gF_mV, gA_mV, gL_mV, gV_mV, gT_mV, gT_sB, gT_sA, gT_sF, gK_sF, gK_sA, gK_sB, gF_grw, gT_grw, gL_grw, gA_grw, gC_grw, gD_grw, gC_sF, gC_sA, gD_sF, gD_sA, Nat.reduceLT, elT, Nat.reduceEqDiff, eq_self, and_self, and_true, true_and, and_false, false_and, reduceIte, fbB, qc_14_3, qc_15_2, qc_17_2, sbB, fb_15_5]; first | done | with_reducible assumption | omega) | (simp only [Int.reduceToNat, Int.toNat_natCast, tN_add, tN_add1, tN_sub1, gF_sF, gA_sF, gL_sF, gV_sF, gF_sA, gA_sA, gL_sA, gV_sA, gF_sB, gA_sB, gL_sB, gV_sB, gF_nA, gA_nA, gL_nA, gV_nA, gT_nA, gF_mV, gA_mV, gL_mV, gV_mV, gT_mV, gT_sB, gT_sA, gT_sF, gK_sF, gK_sA, gK_sB, gF_grw, gT_grw, gL_grw, gA_grw, gC_grw, gD_grw, gC_sF, gC_sA, gD_sF, gD_sA, Nat.reduceLT, elT, Nat.reduceEqDiff, eq_self, and_self, and_true, true_and, and_false, false_and, reduceIte, fbB, qc_14_3, qc_15_2, qc_17_2, sbB, fb_15_5, grl]; split <;> omega) | (show 2 * gL _ _ _ ≤ gL _ _ _; simp only [Int.reduceToNat, Int.toNat_natCast, tN_add, tN_add1, tN_sub1, gF_sF, gA_sF, gL_sF, gV_sF, gF_sA, gA_sA, gL_sA, gV_sA, gF_sB, gA_sB, gL_sB, gV_sB, gF_nA, gA_nA, gL_nA, gV_nA, gT_nA, gF_mV, gA_mV, gL_mV, gV_mV, gT_mV, gT_sB, gT_sA, gT_sF, gK_sF, gK_sA, gK_sB, gF_grw, gT_grw, gL_grw, gA_grw, gC_grw, gD_grw, gC_sF, gC_sA, gD_sF, gD_sA, Nat.reduceLT, elT, Nat.reduceEqDiff, eq_self, and_self, and_true, true_and, and_false, false_and, reduceIte, fbB, qc_14_3, qc_15_2, qc_17_2, sbB, fb_15_5]; omega) | (simp only [Int.reduceToNat, Int.toNat_natCast, tN_add, tN_add1, tN_sub1, gF_sF, gA_sF, gL_sF, gV_sF, gF_sA, gA_sA, gL_sA, gV_sA, gF_sB, gA_sB, gL_sB, gV_sB, gF_nA, gA_nA, gL_nA, gV_nA, gT_nA, gF_mV, gA_mV, gL_mV, gV_mV, gT_mV, gT_sB, gT_sA, gT_sF, gK_sF, gK_sA, gK_sB, gF_grw, gT_grw, gL_grw, gA_grw, gC_grw, gD_grw, gC_sF, gC_sA, gD_sF, gD_sA, Nat.reduceLT, elT, Nat.reduceEqDiff, eq_self, and_self, and_true, true_and, and_false, false_and, reduceIte, fbB, qc_14_3, qc_15_2, qc_17_2, sbB, fb_15_5, gK_grw, gN_grw, hN0, hK0]; done))
            rotate_left
            · have h := yes _ _ (by omega) ((st _ _ _ hx6).2 (by assumption))
              have h2 := two h.1 hnl hnd h.2
              rw [← e1] at h2
              exact h2
            have h2 := one hp hnl hnd (fun h => ?_)
            · rw [← e1] at h2
              exact h2
            have g1 := (st _ _ _ hx1).1 (by assumption)
            have g2 := (st _ _ _ hx2).1 (by assumption)
            have g3 := (st _ _ _ hx3).1 (by assumption)
            have g4 := (st _ _ _ hx4).1 (by assumption)
            have g5 := (st _ _ _ hx5).1 (by assumption)
            have g6 := (st _ _ _ hx6).1 (by assumption)
            rcases sg_two h.1 hnl with w | ⟨_, w⟩ | ⟨_, w⟩ | ⟨_, w⟩ | ⟨_, w⟩ | ⟨_, w⟩ | ⟨_, w⟩
            · exact h.2 w.1
            all_goals first | exact g1 ⟨h.1, w⟩ | exact g2 ⟨h.1, w⟩ | exact g3 ⟨h.1, w⟩ | exact g4 ⟨h.1, w⟩ | exact g5 ⟨h.1, w⟩ | exact g6 ⟨h.1, w⟩
          · have hd : isDg (X.1 (tpo X t)) := by
              by_cases h : isDg (X.1 (tpo X t))
              · exact h
              · rw [if_neg h] at hy; omega
            exact digs (X.2 + 1) 1 _ (by omega) hp hnl hd (by omega) (by omega) (by
              show dE X (tpo X t + 1) = _
              rw [dE.eq_1 X (tpo X t), if_pos hp, if_pos hd]) (fun i hi => by rw [show i = 0 by omega]; exact hd)
        · have hl : isLt (X.1 (tpo X t)) := by
            by_cases h : isLt (X.1 (tpo X t))
            · exact h
            · rw [if_neg h] at hx; omega
          exact word (X.2 + 1) 1 _ (by omega) hp hl (by omega) (by
            show wE X (tpo X t + 1) = _
            rw [wE.eq_1 X (tpo X t), if_pos hp, if_pos (Or.inl hl)])
  refine ct_seg (il := (fun _ => false)) (mc := true) (fun _ => grow_ok) 60 [13] (by decide) (Nat.le_of_ble_eq_true rfl) ?_
  repeat' (first | refine And.intro ?_ ?_ | (with_reducible intro c; try simp only [cmpI, cmpN, Classical.not_not, not_true_eq_false, not_false_eq_true, Int.reduceToNat, Int.toNat_natCast, tN_add, tN_add1, tN_sub1, gF_sF, gA_sF, gL_sF, gV_sF, gF_sA, gA_sA, gL_sA, gV_sA, gF_sB, gA_sB, gL_sB, gV_sB, gF_nA, gA_nA, gL_nA, gV_nA, gT_nA, gF_mV, gA_mV, gL_mV, gV_mV, gT_mV, gT_sB, gT_sA, gT_sF, gK_sF, gK_sA, gK_sB, gF_grw, gT_grw, gL_grw, gA_grw, gC_grw, gD_grw, gC_sF, gC_sA, gD_sF, gD_sA, Nat.reduceLT, elT, Nat.reduceEqDiff, eq_self, and_self, and_true, true_and, and_false, false_and, reduceIte, fbB, qc_14_3, qc_15_2, qc_17_2, sbB, fb_15_5] at c))
  all_goals (try first | exact rfl | exact True.intro | with_reducible assumption | omega | (simp only [Int.reduceToNat, Int.toNat_natCast, tN_add, tN_add1, tN_sub1, gF_sF, gA_sF, gL_sF, gV_sF, gF_sA, gA_sA, gL_sA, gV_sA, gF_sB, gA_sB, gL_sB, gV_sB, gF_nA, gA_nA, gL_nA, gV_nA, gT_nA, gF_mV, gA_mV, gL_mV, gV_mV, gT_mV, gT_sB, gT_sA, gT_sF, gK_sF, gK_sA, gK_sB, gF_grw, gT_grw, gL_grw, gA_grw, gC_grw, gD_grw, gC_sF, gC_sA, gD_sF, gD_sA, Nat.reduceLT, elT, Nat.reduceEqDiff, eq_self, and_self, and_true, true_and, and_false, false_and, reduceIte, fbB, qc_14_3, qc_15_2, qc_17_2, sbB, fb_15_5]; first | done | with_reducible assumption | omega) | (simp only [Int.reduceToNat, Int.toNat_natCast, tN_add, tN_add1, tN_sub1, gF_sF, gA_sF, gL_sF, gV_sF, gF_sA, gA_sA, gL_sA, gV_sA, gF_sB, gA_sB, gL_sB, gV_sB, gF_nA, gA_nA, gL_nA, gV_nA, gT_nA, gF_mV, gA_mV, gL_mV, gV_mV, gT_mV, gT_sB, gT_sA, gT_sF, gK_sF, gK_sA, gK_sB, gF_grw, gT_grw, gL_grw, gA_grw, gC_grw, gD_grw, gC_sF, gC_sA, gD_sF, gD_sA, Nat.reduceLT, elT, Nat.reduceEqDiff, eq_self, and_self, and_true, true_and, and_false, false_and, reduceIte, fbB, qc_14_3, qc_15_2, qc_17_2, sbB, fb_15_5, grl]; split <;> omega) | (show 2 * gL _ _ _ ≤ gL _ _ _; simp only [Int.reduceToNat, Int.toNat_natCast, tN_add, tN_add1, tN_sub1, gF_sF, gA_sF, gL_sF, gV_sF, gF_sA, gA_sA, gL_sA, gV_sA, gF_sB, gA_sB, gL_sB, gV_sB, gF_nA, gA_nA, gL_nA, gV_nA, gT_nA, gF_mV, gA_mV, gL_mV, gV_mV, gT_mV, gT_sB, gT_sA, gT_sF, gK_sF, gK_sA, gK_sB, gF_grw, gT_grw, gL_grw, gA_grw, gC_grw, gD_grw, gC_sF, gC_sA, gD_sF, gD_sA, Nat.reduceLT, elT, Nat.reduceEqDiff, eq_self, and_self, and_true, true_and, and_false, false_and, reduceIte, fbB, qc_14_3, qc_15_2, qc_17_2, sbB, fb_15_5]; omega) | (simp only [Int.reduceToNat, Int.toNat_natCast, tN_add, tN_add1, tN_sub1, gF_sF, gA_sF, gL_sF, gV_sF, gF_sA, gA_sA, gL_sA, gV_sA, gF_sB, gA_sB, gL_sB, gV_sB, gF_nA, gA_nA, gL_nA, gV_nA, gT_nA, gF_mV, gA_mV, gL_mV, gV_mV, gT_mV, gT_sB, gT_sA, gT_sF, gK_sF, gK_sA, gK_sB, gF_grw, gT_grw, gL_grw, gA_grw, gC_grw, gD_grw, gC_sF, gC_sA, gD_sF, gD_sA, Nat.reduceLT, elT, Nat.reduceEqDiff, eq_self, and_self, and_true, true_and, and_false, false_and, reduceIte, fbB, qc_14_3, qc_15_2, qc_17_2, sbB, fb_15_5, gK_grw, gN_grw, hN0, hK0]; done))
  have hS0 : MyS (sF σ 120 8 0) X := hS
  refine m_blanks (X := X) (i0 := 0) ?_ hS0 rfl (Nat.zero_le _) (fun x hx => ?_)
  · omega
  subst hx
  repeat' (first | refine And.intro ?_ ?_ | (with_reducible intro c; try simp only [cmpI, cmpN, Classical.not_not, not_true_eq_false, not_false_eq_true, Int.reduceToNat, Int.toNat_natCast, tN_add, tN_add1, tN_sub1, gF_sF, gA_sF, gL_sF, gV_sF, gF_sA, gA_sA, gL_sA, gV_sA, gF_sB, gA_sB, gL_sB, gV_sB, gF_nA, gA_nA, gL_nA, gV_nA, gT_nA, gF_mV, gA_mV, gL_mV, gV_mV, gT_mV, gT_sB, gT_sA, gT_sF, gK_sF, gK_sA, gK_sB, gF_grw, gT_grw, gL_grw, gA_grw, gC_grw, gD_grw, gC_sF, gC_sA, gD_sF, gD_sA, Nat.reduceLT, elT, Nat.reduceEqDiff, eq_self, and_self, and_true, true_and, and_false, false_and, reduceIte, fbB, qc_14_3, qc_15_2, qc_17_2, sbB, fb_15_5] at c))
  all_goals (try first | exact rfl | exact True.intro | with_reducible assumption | omega | (simp only [Int.reduceToNat, Int.toNat_natCast, tN_add, tN_add1, tN_sub1, gF_sF, gA_sF, gL_sF, gV_sF, gF_sA, gA_sA, gL_sA, gV_sA, gF_sB, gA_sB, gL_sB, gV_sB, gF_nA, gA_nA, gL_nA, gV_nA, gT_nA, gF_mV, gA_mV, gL_mV, gV_mV, gT_mV, gT_sB, gT_sA, gT_sF, gK_sF, gK_sA, gK_sB, gF_grw, gT_grw, gL_grw, gA_grw, gC_grw, gD_grw, gC_sF, gC_sA, gD_sF, gD_sA, Nat.reduceLT, elT, Nat.reduceEqDiff, eq_self, and_self, and_true, true_and, and_false, false_and, reduceIte, fbB, qc_14_3, qc_15_2, qc_17_2, sbB, fb_15_5]; first | done | with_reducible assumption | omega) | (simp only [Int.reduceToNat, Int.toNat_natCast, tN_add, tN_add1, tN_sub1, gF_sF, gA_sF, gL_sF, gV_sF, gF_sA, gA_sA, gL_sA, gV_sA, gF_sB, gA_sB, gL_sB, gV_sB, gF_nA, gA_nA, gL_nA, gV_nA, gT_nA, gF_mV, gA_mV, gL_mV, gV_mV, gT_mV, gT_sB, gT_sA, gT_sF, gK_sF, gK_sA, gK_sB, gF_grw, gT_grw, gL_grw, gA_grw, gC_grw, gD_grw, gC_sF, gC_sA, gD_sF, gD_sA, Nat.reduceLT, elT, Nat.reduceEqDiff, eq_self, and_self, and_true, true_and, and_false, false_and, reduceIte, fbB, qc_14_3, qc_15_2, qc_17_2, sbB, fb_15_5, grl]; split <;> omega) | (show 2 * gL _ _ _ ≤ gL _ _ _; simp only [Int.reduceToNat, Int.toNat_natCast, tN_add, tN_add1, tN_sub1, gF_sF, gA_sF, gL_sF, gV_sF, gF_sA, gA_sA, gL_sA, gV_sA, gF_sB, gA_sB, gL_sB, gV_sB, gF_nA, gA_nA, gL_nA, gV_nA, gT_nA, gF_mV, gA_mV, gL_mV, gV_mV, gT_mV, gT_sB, gT_sA, gT_sF, gK_sF, gK_sA, gK_sB, gF_grw, gT_grw, gL_grw, gA_grw, gC_grw, gD_grw, gC_sF, gC_sA, gD_sF, gD_sA, Nat.reduceLT, elT, Nat.reduceEqDiff, eq_self, and_self, and_true, true_and, and_false, false_and, reduceIte, fbB, qc_14_3, qc_15_2, qc_17_2, sbB, fb_15_5]; omega) | (simp only [Int.reduceToNat, Int.toNat_natCast, tN_add, tN_add1, tN_sub1, gF_sF, gA_sF, gL_sF, gV_sF, gF_sA, gA_sA, gL_sA, gV_sA, gF_sB, gA_sB, gL_sB, gV_sB, gF_nA, gA_nA, gL_nA, gV_nA, gT_nA, gF_mV, gA_mV, gL_mV, gV_mV, gT_mV, gT_sB, gT_sA, gT_sF, gK_sF, gK_sA, gK_sB, gF_grw, gT_grw, gL_grw, gA_grw, gC_grw, gD_grw, gC_sF, gC_sA, gD_sF, gD_sA, Nat.reduceLT, elT, Nat.reduceEqDiff, eq_self, and_self, and_true, true_and, and_false, false_and, reduceIte, fbB, qc_14_3, qc_15_2, qc_17_2, sbB, fb_15_5, gK_grw, gN_grw, hN0, hK0]; done))
  exact loop (X.2 + 2) 0 _ _ _ _ (sF σ 120 8 0) (by omega) hS0 hW hL rfl (fun i hi => absurd hi (by omega)) (fun i hi => absurd hi (by omega))
end
section
/-! drafts: the model's trees by links -/
set_option maxRecDepth 100000
theorem gF_grr (σ : Sg) (o f n : Nat) : gF (grr σ o f n) = gF σ := rfl
theorem gT_grr (σ : Sg) (o f n : Nat) : gT (grr σ o f n) = gT σ := rfl
theorem gC_grr (σ : Sg) (o f n : Nat) : gC (grr σ o f n) = gC σ := rfl
/-- an array with room for a place -/
def grl2 (l n : Nat) : Nat := if n < l then l else 2 * l
def gra2 (g : Nat → Int) (l n j : Nat) : Int := if n < l then g j else if j < l then g j else 0
theorem grl2_ge (l n : Nat) : l ≤ grl2 l n ∧ (n < 2 * l → n < grl2 l n) := by unfold grl2; split <;> omega
theorem gra2_lt {g : Nat → Int} {l n j : Nat} (h : j < l) : gra2 g l n j = g j := by unfold gra2; rw [if_pos h]; split <;> rfl
theorem gL_grr (σ : Sg) (o f n a b : Nat) : gL (grr σ o f n) a b = if a = o ∧ b = f then grl2 (gL σ o f) n else gL σ a b := rfl
theorem gA_grr (σ : Sg) (o f n a b j : Nat) : gA (grr σ o f n) a b j = if a = o ∧ b = f then gra2 (gA σ o f) (gL σ o f) n j else gA σ a b j := by
  show u2 (gA σ) o f (fun j => if n < gL σ o f then gA σ o f j else if true = true ∧ j < gL σ o f then gA σ o f j else 0) a b j = _
  unfold u2
  split
  · show (if n < gL σ o f then gA σ o f j else if true = true ∧ j < gL σ o f then gA σ o f j else 0) = if n < gL σ o f then gA σ o f j else if j < gL σ o f then gA σ o f j else 0
    simp only [true_and]
  · rfl
theorem gD_grr {σ : Sg} {o f n : Nat} (h : o < 222) : gD (grr σ o f n) = gD σ := by
  show (if n < gL σ o f then gD σ else gD σ + (if o < 222 then 0 else 2 * gL σ o f + 0)) = gD σ
  rw [if_pos h]
  split <;> rfl
theorem gK_grr {σ : Sg} {o f n a : Nat} (h : a < gN σ) : gK (grr σ o f n) a = gK σ a := by
  show (if n < gL σ o f then gK σ a else if gN σ ≤ a ∧ a ≤ gN σ + 0 then 100 + 0 else gK σ a) = gK σ a
  split
  · rfl
  · rw [if_neg (by omega)]
theorem gN_grr {σ : Sg} {o f n a : Nat} (h : a < gN σ) : a < gN (grr σ o f n) := by
  show a < (if n < gL σ o f then gN σ else gN σ + 0 + 1)
  split <;> omega
abbrev DA : Type := Nat → Nat → Int
/-- a part: its root, from where to where it lies, its nodes -/
abbrev DC : Type := Nat × Nat × Nat × List Nd
def fl : List DC → List Nd
  | [] => []
  | c :: r => c.2.2.2 ++ fl r
theorem fl_app : ∀ (a b : List DC), fl (a ++ b) = fl a ++ fl b
  | [], _ => rfl
  | c :: r, b => by
    show c.2.2.2 ++ fl (r ++ b) = c.2.2.2 ++ fl r ++ fl b
    rw [fl_app r b, List.append_assoc]
noncomputable def nv (X : Tx) (k t : Nat) : Int := if k = 21 then (t : Int) else if k = 20 then tvl X t else 0
def NK (X : Tx) (A : DA) (a k t : Nat) : Prop := A 12 a = (k : Int) ∧ A 13 a = (tpo X t : Int) ∧ A 14 a = nv X k t ∧ k < 100 ∧ ∀ i, i < t → 2 ≤ tkd X i
/-- a chain of parts from a link on -/
def sb (A : DA) : Int → List DC → Prop
  | s, [] => s = -1
  | s, c :: r => s = (c.1 : Int) ∧ sb A (A 17 c.1) r
def ls : List DC → Int → Int
  | [], d => d
  | c :: r, _ => ls r (c.1 : Int)
def rg (a : Nat) : Nat → Nat → List DC → Prop
  | lo, hi, [] => lo ≤ hi
  | lo, hi, c :: r => (lo ≤ c.2.1 ∧ c.2.1 ≤ c.1 ∧ c.1 < c.2.2.1) ∧ (a < c.2.1 ∨ c.2.2.1 ≤ a) ∧ rg a c.2.2.1 hi r
def DT (X : Tx) (A : DA) : Nat → Nat → Nat → Nat → List Nd → Prop
  | 0, _, _, _, _ => False
  | f + 1, lo, hi, a, l => ∃ (k t : Nat) (cs : List DC), NK X A a k t ∧ (lo ≤ a ∧ a < hi) ∧ l = (k, t, (fl cs).length + 1) :: fl cs ∧ (sb A (A 15 a) cs ∧ A 16 a = ls cs (-1)) ∧ rg a lo hi cs ∧ ∀ c ∈ cs, DT X A f c.2.1 c.2.2.1 c.1 c.2.2.2
theorem rg_le {a : Nat} : ∀ {cs : List DC} {lo hi : Nat}, rg a lo hi cs → lo ≤ hi
  | [], _, _, h => h
  | c :: r, lo, hi, h => by
    have := rg_le h.2.2
    have := h.1
    omega
theorem rg_wide {a : Nat} : ∀ {cs : List DC} {lo hi loₚ hiₚ : Nat}, rg a lo hi cs → loₚ ≤ lo → hi ≤ hiₚ → rg a loₚ hiₚ cs
  | [], lo, hi, loₚ, hiₚ, h, h1, h2 => by
    have h : lo ≤ hi := h
    show loₚ ≤ hiₚ
    omega
  | c :: r, lo, hi, loₚ, hiₚ, h, h1, h2 => ⟨⟨by have := h.1; omega, h.1.2⟩, h.2.1, rg_wide h.2.2 (Nat.le_refl _) h2⟩
theorem rg_snoc {a b blo bhi : Nat} {m : List Nd} : ∀ {cs : List DC} {lo mid : Nat}, rg a lo mid cs → mid ≤ blo → blo ≤ b → b < bhi → (a < blo ∨ bhi ≤ a) → rg a lo bhi (cs ++ [(b, blo, bhi, m)])
  | [], lo, mid, h, h1, h2, h3, h4 => by
    have h : lo ≤ mid := h
    exact ⟨⟨by show lo ≤ blo; omega, h2, h3⟩, h4, Nat.le_refl _⟩
  | c :: r, lo, mid, h, h1, h2, h3, h4 => ⟨h.1, h.2.1, rg_snoc h.2.2 h1 h2 h3 h4⟩
theorem rg_mem {a : Nat} {c : DC} : ∀ {cs : List DC} {lo hi : Nat}, rg a lo hi cs → c ∈ cs → lo ≤ c.2.1 ∧ c.2.1 ≤ c.1 ∧ c.1 < c.2.2.1 ∧ c.2.2.1 ≤ hi ∧ (a < c.2.1 ∨ c.2.2.1 ≤ a)
  | [], _, _, _, hc => absurd hc List.not_mem_nil
  | c0 :: r, lo, hi, h, hc => by
    have h5 := rg_le h.2.2
    have h6 := h.1
    rcases List.mem_cons.mp hc with e | e
    · subst e
      exact ⟨h6.1, h6.2.1, h6.2.2, h5, h.2.1⟩
    · have := rg_mem h.2.2 e
      omega
theorem ls_in {a : Nat} : ∀ {cs : List DC} {lo hi : Nat} (d : Int), rg a lo hi cs → cs ≠ [] → ∃ e : Nat, ls cs d = (e : Int) ∧ lo ≤ e ∧ e < hi ∧ e ≠ a
  | [], _, _, _, _, h => absurd rfl h
  | [c], lo, hi, d, h, _ => by
    have h5 := rg_le h.2.2
    have h6 := h.1
    have h7 := h.2.1
    exact ⟨c.1, rfl, by omega, by omega, by omega⟩
  | c :: c2 :: r, lo, hi, d, h, _ => by
    obtain ⟨e, e1, e2, e3, e4⟩ := ls_in (c.1 : Int) h.2.2 (List.cons_ne_nil _ _)
    have h6 := h.1
    exact ⟨e, e1, by omega, e3, e4⟩
theorem ls_uni {a e : Nat} {c : DC} : ∀ {cs : List DC} {lo hi : Nat} {d : Int}, rg a lo hi cs → c ∈ cs → ls cs d = (e : Int) → c.2.1 ≤ e → e < c.2.2.1 → e = c.1
  | [], _, _, _, _, hc, _, _, _ => absurd hc List.not_mem_nil
  | [c0], lo, hi, d, h, hc, h1, h2, h3 => by
    have : c = c0 := by simpa using hc
    subst this
    have : (c.1 : Int) = (e : Int) := h1
    omega
  | c0 :: c2 :: r, lo, hi, d, h, hc, h1, h2, h3 => by
    rcases List.mem_cons.mp hc with e0 | e0
    · subst e0
      obtain ⟨eₚ, e1, e2, e3, e4⟩ := ls_in (c.1 : Int) h.2.2 (List.cons_ne_nil _ _)
      have h1 : ls (c2 :: r) (c.1 : Int) = (e : Int) := h1
      omega
    · exact ls_uni (d := (c0.1 : Int)) h.2.2 e0 h1 h2 h3
theorem ls_snoc {x : DC} : ∀ {cs : List DC} {d : Int}, ls (cs ++ [x]) d = (x.1 : Int)
  | [], _ => rfl
  | c :: r, _ => ls_snoc (cs := r)
theorem sb_fr {A Aₚ : DA} : ∀ {cs : List DC} {s : Int}, sb A s cs → (∀ c ∈ cs, Aₚ 17 c.1 = A 17 c.1) → sb Aₚ s cs
  | [], _, h, _ => h
  | c :: r, s, h, h1 => ⟨h.1, by rw [h1 c List.mem_cons_self]; exact sb_fr h.2 (fun cₚ hc => h1 cₚ (List.mem_cons_of_mem _ hc))⟩
theorem sb_chg {A : DA} {x y : DC} (hxy : x.1 = y.1) : ∀ {cs : List DC} {s : Int}, sb A s (cs ++ [x]) → sb A s (cs ++ [y])
  | [], s, h => by
    have h : s = (x.1 : Int) ∧ A 17 x.1 = -1 := h
    rw [hxy] at h
    exact h
  | c :: r, s, h => ⟨h.1, sb_chg hxy h.2⟩
theorem sb_snoc {A Aₚ : DA} {a b : Nat} (hb : Aₚ 17 b = -1) : ∀ {cs : List DC} {s : Int} {lo hi : Nat} {d : Int}, rg a lo hi cs → cs ≠ [] → sb A s cs → (∀ i : Nat, (i : Int) ≠ ls cs d → Aₚ 17 i = A 17 i) → (∀ i : Nat, (i : Int) = ls cs d → Aₚ 17 i = (b : Int)) → sb Aₚ s (cs ++ [(b, 0, 0, [])])
  | [], _, _, _, _, _, h, _, _, _ => absurd rfl h
  | [c], s, lo, hi, d, h, _, h1, h2, h3 => ⟨h1.1, h3 c.1 rfl, hb⟩
  | c :: c2 :: r, s, lo, hi, d, h, _, h1, h2, h3 => by
    obtain ⟨e, e1, e2, e3, e4⟩ := ls_in (c.1 : Int) h.2.2 (List.cons_ne_nil _ _)
    have h6 := h.1
    have e5 : Aₚ 17 c.1 = A 17 c.1 := h2 c.1 (by
      show (c.1 : Int) ≠ ls (c2 :: r) (c.1 : Int)
      omega)
    refine ⟨h1.1, ?_⟩
    rw [e5]
    exact sb_snoc hb (d := (c.1 : Int)) h.2.2 (List.cons_ne_nil _ _) h1.2 h2 h3
theorem dt_mono {X : Tx} {A : DA} : ∀ {f fₚ lo hi a : Nat} {l : List Nd}, DT X A f lo hi a l → f ≤ fₚ → DT X A fₚ lo hi a l
  | 0, _, _, _, _, _, h, _ => h.elim
  | f + 1, 0, _, _, _, _, _, h => absurd h (by omega)
  | f + 1, fₚ + 1, lo, hi, a, l, h, h1 => by
    obtain ⟨k, t, cs, a1, a2, a3, a4, a5, a6⟩ := h
    exact ⟨k, t, cs, a1, a2, a3, a4, a5, fun c hc => dt_mono (a6 c hc) (by omega)⟩
theorem dt_fr {X : Tx} {A Aₚ : DA} : ∀ {f lo hi a : Nat} {l : List Nd}, DT X A f lo hi a l → (∀ q i, lo ≤ i → i < hi → ¬ (q = 17 ∧ i = a) → Aₚ q i = A q i) → DT X Aₚ f lo hi a l
  | 0, _, _, _, _, h, _ => h.elim
  | f + 1, lo, hi, a, l, h, H => by
    obtain ⟨k, t, cs, ⟨n1, n2, n3⟩, a2, a3, ⟨s1, s2⟩, a5, a6⟩ := h
    have g : ∀ q, q ≠ 17 → Aₚ q a = A q a := fun q hq => H q a a2.1 a2.2 (fun h => hq h.1)
    refine ⟨k, t, cs, ⟨by rw [g 12 (by decide)]; exact n1, by rw [g 13 (by decide)]; exact n2, by rw [g 14 (by decide)]; exact n3⟩, a2, a3, ⟨?_, by rw [g 16 (by decide)]; exact s2⟩, a5, fun c hc => ?_⟩
    · rw [g 15 (by decide)]
      exact sb_fr s1 (fun c hc => by
        have := rg_mem a5 hc
        exact H 17 c.1 (by omega) (by omega) (by omega))
    · have := rg_mem a5 hc
      exact dt_fr (a6 c hc) (fun q i h1 h2 h3 => H q i (by omega) (by omega) (by omega))
def Tr (X : Tx) (A : DA) (lo hi a : Nat) (l : List Nd) : Prop := ∃ f, DT X A f lo hi a l
theorem tq_fr {X : Tx} {A Aₚ : DA} {lo hi a : Nat} {l : List Nd} (h : Tr X A lo hi a l) (H : ∀ q i, lo ≤ i → i < hi → ¬ (q = 17 ∧ i = a) → Aₚ q i = A q i) : Tr X Aₚ lo hi a l := by
  obtain ⟨f, h⟩ := h
  exact ⟨f, dt_fr h H⟩
theorem tr_in {X : Tx} {A : DA} {lo hi a : Nat} {l : List Nd} (h : Tr X A lo hi a l) : lo ≤ a ∧ a < hi := by
  obtain ⟨f, h⟩ := h
  cases f with
  | zero => exact h.elim
  | succ f => obtain ⟨k, t, cs, -, h2, -⟩ := h; exact h2
theorem tr_wide {X : Tx} {A : DA} {lo hi loₚ hiₚ a : Nat} {l : List Nd} (h : Tr X A lo hi a l) (h1 : loₚ ≤ lo) (h2 : hi ≤ hiₚ) : Tr X A loₚ hiₚ a l := by
  obtain ⟨f, h⟩ := h
  cases f with
  | zero => exact h.elim
  | succ f =>
    obtain ⟨k, t, cs, a1, a2, a3, a4, a5, a6⟩ := h
    exact ⟨f + 1, k, t, cs, a1, ⟨by omega, by omega⟩, a3, a4, rg_wide a5 h1 h2, a6⟩
/-- a node whose parts are being laid, in [lo, mid) -/
def Po (X : Tx) (A : DA) (lo mid a k t : Nat) (l : List Nd) : Prop := ∃ (f : Nat) (cs : List DC), NK X A a k t ∧ fl cs = l ∧ (sb A (A 15 a) cs ∧ A 16 a = ls cs (-1)) ∧ rg a lo mid cs ∧ ∀ c ∈ cs, DT X A f c.2.1 c.2.2.1 c.1 c.2.2.2
/-- the same, and then a last part b, not told yet -/
def Pb (X : Tx) (A : DA) (lo mid a k t : Nat) (l : List Nd) (b : Nat) : Prop := ∃ (f : Nat) (cs : List DC), NK X A a k t ∧ fl cs = l ∧ (sb A (A 15 a) (cs ++ [(b, 0, 0, [])]) ∧ A 16 a = (b : Int)) ∧ rg a lo mid cs ∧ ∀ c ∈ cs, DT X A f c.2.1 c.2.2.1 c.1 c.2.2.2
def jn (A : DA) (a b : Nat) : DA := fun q i => if q = 16 ∧ i = a then (b : Int) else if q = 15 ∧ i = a ∧ A 15 a = -1 then (b : Int) else if q = 17 ∧ ¬ A 15 a = -1 ∧ (i : Int) = A 16 a then (b : Int) else A q i
def dr (A : DA) (n : Nat) (k p v : Int) : DA := fun q i => if i = n then (if q = 12 then k else if q = 13 then p else if q = 14 then v else -1) else A q i
theorem dr_out {A : DA} {n q i : Nat} {k p v : Int} (h : i ≠ n) : dr A n k p v q i = A q i := if_neg h
theorem po_new {X : Tx} {A : DA} {n k t : Nat} {kk p v : Int} (lo : Nat) (h1 : kk = (k : Int)) (h2 : p = (tpo X t : Int)) (h3 : v = nv X k t) (hkt : k < 100 ∧ ∀ i, i < t → 2 ≤ tkd X i) : Po X (dr A n kk p v) lo lo n k t [] ∧ dr A n kk p v 17 n = -1 := by
  subst h1 h2 h3
  have e : ∀ q, dr A n (k : Int) (tpo X t : Int) (nv X k t) q n = (if q = 12 then (k : Int) else if q = 13 then (tpo X t : Int) else if q = 14 then nv X k t else -1) := fun q => if_pos rfl
  exact ⟨⟨0, [], ⟨(e 12).trans rfl, (e 13).trans rfl, (e 14).trans rfl, hkt⟩, rfl, ⟨(e 15).trans rfl, (e 16).trans rfl⟩, Nat.le_refl _, fun c hc => absurd hc List.not_mem_nil⟩, (e 17).trans rfl⟩
theorem po_last {X : Tx} {A : DA} {lo mid a k t : Nat} {l : List Nd} (h : Po X A lo mid a k t l) : A 15 a = -1 ∨ ∃ e : Nat, A 16 a = (e : Int) ∧ lo ≤ e ∧ e < mid ∧ e ≠ a := by
  obtain ⟨f, cs, a1, a2, ⟨s1, s2⟩, a4, a5⟩ := h
  by_cases hc : cs = []
  · subst hc
    exact Or.inl s1
  · obtain ⟨e, e1, e2, e3, e4⟩ := ls_in (-1) a4 hc
    exact Or.inr ⟨e, s2.trans e1, e2, e3, e4⟩
theorem jn_out {X : Tx} {A : DA} {lo mid a k t q i b : Nat} {l : List Nd} (h : Po X A lo mid a k t l) (h1 : i ≠ a) (h2 : i < lo ∨ mid ≤ i) : jn A a b q i = A q i := by
  unfold jn
  rw [if_neg (fun c => h1 c.2), if_neg (fun c => h1 c.2.1), if_neg (fun c => ?_)]
  rcases po_last h with e | ⟨e, e1, e2, e3, e4⟩
  · exact c.2.1 e
  · have := c.2.2
    omega
theorem jn_self {A : DA} {a b q : Nat} (h1 : q ≠ 15) (h2 : q ≠ 16) (h3 : A 15 a = -1 ∨ A 16 a ≠ (a : Int)) : jn A a b q a = A q a := by
  unfold jn
  rw [if_neg (fun c => h2 c.1), if_neg (fun c => h1 c.1), if_neg (fun c => ?_)]
  rcases h3 with e | e
  · exact c.2.1 e
  · exact e c.2.2.symm
theorem pb_join {X : Tx} {A : DA} {lo mid a k t b : Nat} {l : List Nd} (h : Po X A lo mid a k t l) (hz : A 17 b = -1) (hb : b < lo ∨ mid ≤ b) : Pb X (jn A a b) lo mid a k t l b := by
  have hp := h
  obtain ⟨f, cs, ⟨n1, n2, n3⟩, a2, ⟨s1, s2⟩, a4, a5⟩ := h
  have hs : A 15 a = -1 ∨ A 16 a ≠ (a : Int) := by
    rcases po_last hp with e | ⟨e, e1, e2, e3, e4⟩
    · exact Or.inl e
    · exact Or.inr (by omega)
  have g : ∀ q, q ≠ 15 → q ≠ 16 → jn A a b q a = A q a := fun q h1 h2 => jn_self h1 h2 hs
  have hz2 : jn A a b 17 b = -1 := by
    by_cases e : b = a
    · have g2 := g 17 (by decide) (by decide)
      rw [← e] at g2
      rw [← e, g2]; exact hz
    · rw [jn_out hp e hb]; exact hz
  have h16 : jn A a b 16 a = (b : Int) := if_pos ⟨rfl, rfl⟩
  refine ⟨f, cs, ⟨by rw [g 12 (by decide) (by decide)]; exact n1, by rw [g 13 (by decide) (by decide)]; exact n2, by rw [g 14 (by decide) (by decide)]; exact n3⟩, a2, ⟨?_, h16⟩, a4, fun c hc => ?_⟩
  · by_cases hc : cs = []
    · subst hc
      have s1 : A 15 a = -1 := s1
      have h15 : jn A a b 15 a = (b : Int) := by
        unfold jn
        rw [if_neg (fun c => absurd c.1 (by decide)), if_pos ⟨rfl, rfl, s1⟩]
      exact ⟨h15, hz2⟩
    · obtain ⟨e, e1, e2, e3, e4⟩ := ls_in (-1) a4 hc
      have hne : ¬ A 15 a = -1 := by
        cases cs with
        | nil => exact absurd rfl hc
        | cons c r =>
          have := s1.1
          omega
      have h15 : jn A a b 15 a = A 15 a := by
        unfold jn
        rw [if_neg (fun c => absurd c.1 (by decide)), if_neg (fun c => hne c.2.2), if_neg (fun c => absurd c.1 (by decide))]
      rw [h15]
      refine sb_snoc hz2 (d := -1) a4 hc s1 (fun i hi => ?_) (fun i hi => ?_)
      · unfold jn
        rw [if_neg (fun c => absurd c.1 (by decide)), if_neg (fun c => absurd c.1 (by decide)), if_neg (fun c => hi (by rw [← s2]; exact c.2.2))]
      · unfold jn
        rw [if_neg (fun c => absurd c.1 (by decide)), if_neg (fun c => absurd c.1 (by decide)), if_pos ⟨rfl, hne, by rw [s2]; exact hi⟩]
  · have hm := rg_mem a4 hc
    refine dt_fr (a5 c hc) (fun q i h1 h2 h3 => ?_)
    unfold jn
    rw [if_neg (fun c => by omega), if_neg (fun c => by omega), if_neg (fun c => ?_)]
    exact h3 ⟨c.1, ls_uni (d := -1) a4 hc (by rw [← s2]; exact c.2.2.symm) h1 h2⟩
theorem pb_close {X : Tx} {A : DA} {lo mid a k t b blo bhi : Nat} {l m : List Nd} (h : Pb X A lo mid a k t l b) (hT : Tr X A blo bhi b m) (h1 : mid ≤ blo) (h2 : a < blo ∨ bhi ≤ a) : Po X A lo bhi a k t (l ++ m) := by
  obtain ⟨f, cs, a1, a2, ⟨s1, s2⟩, a4, a5⟩ := h
  have hi := tr_in hT
  obtain ⟨fₚ, hT⟩ := hT
  refine ⟨f + fₚ, cs ++ [(b, blo, bhi, m)], a1, ?_, ⟨sb_chg (x := (b, 0, 0, [])) (y := (b, blo, bhi, m)) rfl s1, ?_⟩, rg_snoc a4 h1 hi.1 hi.2 h2, fun c hc => ?_⟩
  · rw [fl_app, a2]
    show l ++ (m ++ []) = l ++ m
    rw [List.append_nil]
  · rw [s2, ls_snoc]
  · rcases List.mem_append.mp hc with e | e
    · exact dt_mono (a5 c e) (by omega)
    · have : c = (b, blo, bhi, m) := by simpa using e
      subst this
      exact dt_mono hT (by omega)
theorem po_fr {X : Tx} {A Aₚ : DA} {lo mid a k t : Nat} {l : List Nd} (h : Po X A lo mid a k t l) (h1 : ∀ q, q ≠ 17 → Aₚ q a = A q a) (h2 : ∀ q i, lo ≤ i → i < mid → i ≠ a → Aₚ q i = A q i) : Po X Aₚ lo mid a k t l := by
  obtain ⟨f, cs, ⟨n1, n2, n3⟩, a2, ⟨s1, s2⟩, a4, a5⟩ := h
  refine ⟨f, cs, ⟨by rw [h1 12 (by decide)]; exact n1, by rw [h1 13 (by decide)]; exact n2, by rw [h1 14 (by decide)]; exact n3⟩, a2, ⟨?_, by rw [h1 16 (by decide)]; exact s2⟩, a4, fun c hc => ?_⟩
  · rw [h1 15 (by decide)]
    exact sb_fr s1 (fun c hc => by
      have := rg_mem a4 hc
      exact h2 17 c.1 (by omega) (by omega) (by omega))
  · have := rg_mem a4 hc
    exact dt_fr (a5 c hc) (fun q i h3 h4 _ => h2 q i (by omega) (by omega) (by omega))
theorem pb_fr {X : Tx} {A Aₚ : DA} {lo mid a k t b : Nat} {l : List Nd} (h : Pb X A lo mid a k t l b) (h1 : ∀ q, q ≠ 17 → Aₚ q a = A q a) (h2 : ∀ q i, lo ≤ i → i < mid → i ≠ a → Aₚ q i = A q i) (h3 : Aₚ 17 b = A 17 b) : Pb X Aₚ lo mid a k t l b := by
  obtain ⟨f, cs, ⟨n1, n2, n3⟩, a2, ⟨s1, s2⟩, a4, a5⟩ := h
  refine ⟨f, cs, ⟨by rw [h1 12 (by decide)]; exact n1, by rw [h1 13 (by decide)]; exact n2, by rw [h1 14 (by decide)]; exact n3⟩, a2, ⟨?_, by rw [h1 16 (by decide)]; exact s2⟩, a4, fun c hc => ?_⟩
  · rw [h1 15 (by decide)]
    refine sb_fr s1 (fun c hc => ?_)
    rcases List.mem_append.mp hc with e | e
    · have := rg_mem a4 e
      exact h2 17 c.1 (by omega) (by omega) (by omega)
    · have : c = (b, 0, 0, []) := by simpa using e
      subst this
      exact h3
  · have := rg_mem a4 hc
    exact dt_fr (a5 c hc) (fun q i h3 h4 _ => h2 q i (by omega) (by omega) (by omega))
theorem po_join {X : Tx} {A : DA} {lo mid a k t b blo bhi : Nat} {l m : List Nd} (h : Po X A lo mid a k t l) (hT : Tr X A blo bhi b m) (hz : A 17 b = -1) (h1 : mid ≤ blo) (h2 : a < blo ∨ bhi ≤ a) : Po X (jn A a b) lo bhi a k t (l ++ m) := by
  have hi := tr_in hT
  refine pb_close (pb_join h hz (Or.inr (by omega))) (tq_fr hT (fun q i h3 h4 _ => jn_out h (by omega) (Or.inr (by omega)))) h1 h2
theorem po_close {X : Tx} {A : DA} {lo mid hi a k t : Nat} {l : List Nd} (h : Po X A lo mid a k t l) (h1 : lo ≤ a ∧ a < hi) (h2 : mid ≤ hi) : Tr X A lo hi a ((k, t, l.length + 1) :: l) := by
  obtain ⟨f, cs, a1, a2, a3, a4, a5⟩ := h
  subst a2
  exact ⟨f + 1, k, t, cs, a1, h1, rfl, a3, rg_wide a4 (Nat.le_refl _) h2, a5⟩
theorem po_wide {X : Tx} {A : DA} {lo mid loₚ midₚ a k t : Nat} {l : List Nd} (h : Po X A lo mid a k t l) (h1 : loₚ ≤ lo) (h2 : mid ≤ midₚ) : Po X A loₚ midₚ a k t l := by
  obtain ⟨f, cs, a1, a2, a3, a4, a5⟩ := h
  exact ⟨f, cs, a1, a2, a3, rg_wide a4 h1 h2, a5⟩
theorem jn16 {A : DA} {a b i : Nat} : jn A a b 16 i = if i = a then (b : Int) else A 16 i := by
  unfold jn
  by_cases c : i = a
  · rw [if_pos ⟨rfl, c⟩, if_pos c]
  · rw [if_neg (fun h => c h.2), if_neg (fun h => absurd h.1 (by decide)), if_neg (fun h => absurd h.1 (by decide)), if_neg c]
theorem jn15 {A : DA} {a b i : Nat} (h : A 15 a = -1) : jn A a b 15 i = if i = a then (b : Int) else A 15 i := by
  unfold jn
  rw [if_neg (fun h => absurd h.1 (by decide))]
  by_cases c : i = a
  · rw [if_pos ⟨rfl, c, h⟩, if_pos c]
  · rw [if_neg (fun h => c h.2.1), if_neg (fun h => absurd h.1 (by decide)), if_neg c]
theorem jn17 {A : DA} {a b i : Nat} (h : ¬ A 15 a = -1) : jn A a b 17 i = if (i : Int) = A 16 a then (b : Int) else A 17 i := by
  unfold jn
  rw [if_neg (fun h => absurd h.1 (by decide)), if_neg (fun h => absurd h.1 (by decide))]
  by_cases c : (i : Int) = A 16 a
  · rw [if_pos ⟨rfl, h, c⟩, if_pos c]
  · rw [if_neg (fun h => c h.2.2), if_neg c]
theorem jn_15 {A : DA} {a b q i : Nat} (h : A 15 a = -1) (h1 : q ≠ 15) (h2 : q ≠ 16) : jn A a b q i = A q i := by
  unfold jn
  rw [if_neg (fun c => h2 c.1), if_neg (fun c => h1 c.1), if_neg (fun c => c.2.1 h)]
theorem jn_17 {A : DA} {a b q i : Nat} (h : ¬ A 15 a = -1) (h1 : q ≠ 17) (h2 : q ≠ 16) : jn A a b q i = A q i := by
  unfold jn
  rw [if_neg (fun c => h2 c.1), if_neg (fun c => h c.2.2), if_neg (fun c => h1 c.1)]
/-- links stay within -/
def DW (A : DA) (n : Nat) : Prop := ∀ i, i < n → A 15 i = -1 ∨ (0 ≤ A 16 i ∧ A 16 i < (n : Int))
theorem dw_dr {A : DA} {n : Nat} {k p v : Int} (h : DW A n) : DW (dr A n k p v) (n + 1) := by
  intro i hi
  by_cases e : i = n
  · subst e
    left
    unfold dr
    rw [if_pos rfl]
    rfl
  · rw [dr_out e, dr_out e]
    rcases h i (by omega) with c | c
    · exact Or.inl c
    · exact Or.inr (by omega)
theorem dw_jn {A : DA} {n a b : Nat} (h : DW A n) (hb : b < n) : DW (jn A a b) n := by
  intro i hi
  by_cases e : i = a
  · subst e
    right
    have : jn A i b 16 i = (b : Int) := if_pos ⟨rfl, rfl⟩
    omega
  · have e1 : jn A a b 15 i = A 15 i := by
      unfold jn
      rw [if_neg (fun c => absurd c.1 (by decide)), if_neg (fun c => e c.2.1), if_neg (fun c => absurd c.1 (by decide))]
    have e2 : jn A a b 16 i = A 16 i := by
      unfold jn
      rw [if_neg (fun c => e c.2), if_neg (fun c => absurd c.1 (by decide)), if_neg (fun c => absurd c.1 (by decide))]
    rw [e1, e2]
    exact h i hi
/-- nothing that lay there has changed -/
def Ex (A Aₚ : DA) (n : Nat) : Prop := ∀ q i, i < n → Aₚ q i = A q i
theorem ex_dr {A : DA} {n : Nat} {k p v : Int} : Ex A (dr A n k p v) n := fun _ _ h => dr_out (by omega)
theorem ex_tr {A Aₚ Aₚₚ : DA} {n nₚ : Nat} (h : Ex A Aₚ n) (hₚ : Ex Aₚ Aₚₚ nₚ) (hn : n ≤ nₚ) : Ex A Aₚₚ n := fun q i hi => (hₚ q i (by omega)).trans (h q i hi)
/-- a part that was read behind all there was is joined to a node -/
theorem po_part {X : Tx} {A A1 : DA} {n n1 lo mid a k t b : Nat} {l m : List Nd} (h : Po X A lo mid a k t l) (ha : a < n) (hm : mid ≤ n) (hx : Ex A A1 n) (hT : Tr X A1 n n1 b m) (hz : A1 17 b = -1) : Po X (jn A1 a b) lo n1 a k t (l ++ m) ∧ (∀ q i, i < n → i ≠ a → (i < lo ∨ mid ≤ i) → jn A1 a b q i = A q i) ∧ jn A1 a b 17 a = A 17 a := by
  have hₚ : Po X A1 lo mid a k t l := po_fr h (fun q _ => hx q a ha) (fun q i _ h2 _ => hx q i (by omega))
  refine ⟨po_join hₚ hT hz hm (Or.inl ha), fun q i h1 h2 h3 => ?_, ?_⟩
  · rw [jn_out hₚ h2 h3]
    exact hx q i h1
  · rw [jn_self (by decide) (by decide), hx 17 a ha]
    rcases po_last hₚ with e | ⟨e, e1, e2, e3, e4⟩
    · exact Or.inl e
    · exact Or.inr (by omega)
end
section
/-! the model's reading: what it has in hand, small steps  -/
set_option maxRecDepth 100000
def MS (σ : Sg) (X : Tx) (N : Nat) : Prop := MyS σ X ∧ MyT σ X (N + 1) ∧ (tkd X N < 2 ∧ ∀ i, i < N → 2 ≤ tkd X i) ∧ (gL σ 120 5 = 8002 ∧ gL σ 120 6 = 8002 ∧ gL σ 120 7 = 8002) ∧ (gL σ 120 12 = 26000 ∧ gL σ 120 13 = 26000 ∧ gL σ 120 14 = 26000 ∧ gL σ 120 15 = 26000 ∧ gL σ 120 16 = 26000 ∧ gL σ 120 17 = 26000)
def Dr (σ : Sg) (n : Nat) (A : DA) : Prop := gF σ 120 18 = (n : Int) ∧ (∀ q i, 12 ≤ q → q ≤ 17 → gA σ 120 q i = A q i) ∧ DW A n
/-- all is well: at a token, with drafts -/
def MyI (σ : Sg) (X : Tx) (N j n : Nat) (A : DA) : Prop := MS σ X N ∧ (gF σ 120 9 = (j : Int) ∧ gF σ 120 10 = 0 ∧ j ≤ N) ∧ Dr σ n A
/-- behind a fault -/
def BI (σ : Sg) (X : Tx) (N e n : Nat) : Prop := MS σ X N ∧ (gF σ 120 10 = 1 ∧ gF σ 120 11 = (tpo X e : Int) ∧ ∃ j : Nat, gF σ 120 9 = (j : Int) ∧ j ≤ N) ∧ ∃ A, Dr σ n A
theorem ms_N {σ : Sg} {X : Tx} {N : Nat} (h : MS σ X N) : N ≤ 1260 := by
  obtain ⟨⟨h1, ⟨h2, h3⟩, h4⟩, h5, ⟨h6, h7⟩, h8⟩ := h
  have h9 := tpo_ge (X := X) (j := N) (fun i hi => by have := h7 i hi; omega)
  have h10 := tpo_le X N
  omega
theorem ms_ch {σ σₚ : Sg} {X : Tx} {N : Nat} (h : MS σ X N) (hF : gF σₚ 120 4 = gF σ 120 4) (hL : ∀ q, gL σₚ 120 q = gL σ 120 q) (hA : ∀ q i, q < 12 → gA σₚ 120 q i = gA σ 120 q i) : MS σₚ X N := by
  obtain ⟨⟨h1, ⟨h2, h3⟩, h4⟩, h5, h6, h8⟩ := h
  refine ⟨⟨hF.trans h1, ⟨h2, (hL 2).trans h3⟩, fun i hi => (hA 2 i (by decide)).trans (h4 i hi)⟩, fun i hi => ?_, h6, ?_⟩
  · obtain ⟨a1, a2, a3⟩ := h5 i hi
    exact ⟨(hA 5 i (by decide)).trans a1, (hA 6 i (by decide)).trans a2, (hA 7 i (by decide)).trans a3⟩
  · simp only [hL]
    exact h8
theorem sk_A {σ : Sg} {k i q j : Nat} {v : Int} (h : q ≠ k) : gA (sA σ 120 k i v) 120 q j = gA σ 120 q j := by
  rw [gA_sA, if_neg (fun c => h c.2)]
theorem sy_A {σ : Sg} {k i j : Nat} {v : Int} : gA (sA σ 120 k i v) 120 k j = if j = i then v else gA σ 120 k j := by
  rw [gA_sA, if_pos ⟨rfl, rfl⟩]
theorem m_draft0 {k n N : Nat} {kd p v : Int} {X : Tx} {A : DA} {σ : Sg} {Q : Option AV → Sg → Prop} {E : Int → Sg → Prop} (hS : MS σ X N) (hD : Dr σ n A) (hn : n < 26000) (hQ : ∀ σₚ, MS σₚ X N → Dr σₚ (n + 1) (dr A n kd p v) → (gF σₚ 120 9 = gF σ 120 9 ∧ gF σₚ 120 10 = gF σ 120 10 ∧ gF σₚ 120 11 = gF σ 120 11) → Q (some (vI (n : Int))) σₚ) : Ct 2 253 k [vO 120, vI kd, vI p, vI v] σ Q E := by
  have hS0 := hS
  obtain ⟨-, -, -, -, l1, l2, l3, l4, l5, l6⟩ := hS
  obtain ⟨d1, d2, d3⟩ := hD
  have e0 : (gF σ 120 18).toNat = n := by omega
  refine ct_seg (il := (fun _ => false)) (mc := true) (fun _ => grow_ok) 90 [] (by decide) (Nat.le_of_ble_eq_true rfl) ?_
  repeat' (first | refine And.intro ?_ ?_ | (with_reducible intro c; try simp only [cmpI, cmpN, Classical.not_not, not_true_eq_false, not_false_eq_true, Int.reduceToNat, Int.toNat_natCast, tN_add, tN_add1, tN_sub1, gF_grr, gT_grr, gL_grr, gA_grr, gC_grr, gF_sF, gA_sF, gL_sF, gV_sF, gF_sA, gA_sA, gL_sA, gV_sA, gF_sB, gA_sB, gL_sB, gV_sB, gF_nA, gA_nA, gL_nA, gV_nA, gT_nA, gF_mV, gA_mV, gL_mV, gV_mV, gT_mV, gT_sB, gT_sA, gT_sF, gK_sF, gK_sA, gK_sB, gF_grw, gT_grw, gL_grw, gA_grw, gC_grw, gD_grw, gC_sF, gC_sA, gD_sF, gD_sA, Nat.reduceLT, elT, Nat.reduceEqDiff, eq_self, and_self, and_true, true_and, and_false, false_and, reduceIte, fbB, qc_14_3, qc_15_2, qc_17_2, sbB, fb_15_5] at c))
  all_goals (try first | with_reducible exact True.intro | with_reducible assumption | omega | ((with_reducible first | show (cond _ _ _ : Prop) | show swT _ _ _ _ _); exact True.intro) | ((with_reducible first | refine Eq.trans ?_ (Eq.refl _) | refine Nat.le_trans ?_ (Nat.le_refl _) | refine Int.le_trans ?_ (Int.le_refl _) | refine Nat.lt_of_lt_of_le ?_ (Nat.le_refl _) | refine Int.lt_of_lt_of_le ?_ (Int.le_refl _)); first | exact rfl | (simp only [Int.reduceToNat, Int.toNat_natCast, tN_add, tN_add1, tN_sub1, gF_grr, gT_grr, gL_grr, gA_grr, gC_grr, gF_sF, gA_sF, gL_sF, gV_sF, gF_sA, gA_sA, gL_sA, gV_sA, gF_sB, gA_sB, gL_sB, gV_sB, gF_nA, gA_nA, gL_nA, gV_nA, gT_nA, gF_mV, gA_mV, gL_mV, gV_mV, gT_mV, gT_sB, gT_sA, gT_sF, gK_sF, gK_sA, gK_sB, gF_grw, gT_grw, gL_grw, gA_grw, gC_grw, gD_grw, gC_sF, gC_sA, gD_sF, gD_sA, Nat.reduceLT, elT, Nat.reduceEqDiff, eq_self, and_self, and_true, true_and, and_false, false_and, reduceIte, fbB, qc_14_3, qc_15_2, qc_17_2, sbB, fb_15_5]; first | done | with_reducible assumption | omega)) | ((with_reducible refine And.intro ?_ ?_); all_goals (simp only [Int.reduceToNat, Int.toNat_natCast, tN_add, tN_add1, tN_sub1, gF_grr, gT_grr, gL_grr, gA_grr, gC_grr, gF_sF, gA_sF, gL_sF, gV_sF, gF_sA, gA_sA, gL_sA, gV_sA, gF_sB, gA_sB, gL_sB, gV_sB, gF_nA, gA_nA, gL_nA, gV_nA, gT_nA, gF_mV, gA_mV, gL_mV, gV_mV, gT_mV, gT_sB, gT_sA, gT_sF, gK_sF, gK_sA, gK_sB, gF_grw, gT_grw, gL_grw, gA_grw, gC_grw, gD_grw, gC_sF, gC_sA, gD_sF, gD_sA, Nat.reduceLT, elT, Nat.reduceEqDiff, eq_self, and_self, and_true, true_and, and_false, false_and, reduceIte, fbB, qc_14_3, qc_15_2, qc_17_2, sbB, fb_15_5]; omega)))
  have ex : (gF σ 120 18 + 1 - 1 : Int) = (n : Int) := by omega
  refine Eq.mp (congrArg (fun z => Q (some (vI z)) _) ex.symm) (hQ _ (ms_ch hS0 rfl (fun _ => rfl) (fun q i hq => ?_)) ⟨?_, fun q i h1 h2 => ?_, dw_dr d3⟩ ⟨rfl, rfl, rfl⟩)
  · show gA (sA (sA (sA (sA (sA (sA σ 120 12 _ _) 120 13 _ _) 120 14 _ _) 120 15 _ _) 120 16 _ _) 120 17 _ _) 120 q i = _
    rw [sk_A (by omega), sk_A (by omega), sk_A (by omega), sk_A (by omega), sk_A (by omega), sk_A (by omega)]
  · show gF σ 120 18 + 1 = _
    omega
  · show gA (sA (sA (sA (sA (sA (sA σ 120 12 _ _) 120 13 _ _) 120 14 _ _) 120 15 _ _) 120 16 _ _) 120 17 _ _) 120 q i = _
    have hq : q = 12 ∨ q = 13 ∨ q = 14 ∨ q = 15 ∨ q = 16 ∨ q = 17 := by omega
    have hd := d2 q i h1 h2
    unfold dr
    simp only [Int.reduceToNat, Int.toNat_natCast, tN_add, tN_add1, tN_sub1, gF_grr, gT_grr, gL_grr, gA_grr, gC_grr, gF_sF, gA_sF, gL_sF, gV_sF, gF_sA, gA_sA, gL_sA, gV_sA, gF_sB, gA_sB, gL_sB, gV_sB, gF_nA, gA_nA, gL_nA, gV_nA, gT_nA, gF_mV, gA_mV, gL_mV, gV_mV, gT_mV, gT_sB, gT_sA, gT_sF, gK_sF, gK_sA, gK_sB, gF_grw, gT_grw, gL_grw, gA_grw, gC_grw, gD_grw, gC_sF, gC_sA, gD_sF, gD_sA, Nat.reduceLT, elT, Nat.reduceEqDiff, eq_self, and_self, and_true, true_and, and_false, false_and, reduceIte, fbB, qc_14_3, qc_15_2, qc_17_2, sbB, fb_15_5, e0]
    rcases hq with e | e | e | e | e | e
    all_goals subst e
    all_goals simp only [Nat.reduceEqDiff, reduceIte, hd]
theorem m_draft {k j n N : Nat} {kd p v : Int} {X : Tx} {A : DA} {σ : Sg} {Q : Option AV → Sg → Prop} {E : Int → Sg → Prop} (hI : MyI σ X N j n A) (hn : n < 26000) (hQ : ∀ σₚ, MyI σₚ X N j (n + 1) (dr A n kd p v) → Q (some (vI (n : Int))) σₚ) : Ct 2 253 k [vO 120, vI kd, vI p, vI v] σ Q E := by
  obtain ⟨h1, ⟨h2, h3, h4⟩, h5⟩ := hI
  exact m_draft0 h1 h5 hn (fun σₚ a1 a2 a3 => hQ σₚ ⟨a1, ⟨a3.1.trans h2, a3.2.1.trans h3, h4⟩, a2⟩)
theorem b_draft {k e n N : Nat} {kd p v : Int} {X : Tx} {σ : Sg} {Q : Option AV → Sg → Prop} {E : Int → Sg → Prop} (hI : BI σ X N e n) (hn : n < 26000) (hQ : ∀ σₚ, BI σₚ X N e (n + 1) → Q (some (vI (n : Int))) σₚ) : Ct 2 253 k [vO 120, vI kd, vI p, vI v] σ Q E := by
  obtain ⟨h1, ⟨h2, h3, j, h4, h6⟩, A, h5⟩ := hI
  exact m_draft0 h1 h5 hn (fun σₚ a1 a2 a3 => hQ σₚ ⟨a1, ⟨a3.2.1.trans h2, a3.2.2.trans h3, j, a3.1.trans h4, h6⟩, _, a2⟩)
theorem m_join0 {k n a b N : Nat} {X : Tx} {A : DA} {σ : Sg} {Q : Option AV → Sg → Prop} {E : Int → Sg → Prop} (hS : MS σ X N) (hD : Dr σ n A) (hn : n ≤ 26000) (ha : a < n) (hb : b < n) (hQ : ∀ σₚ, MS σₚ X N → Dr σₚ n (jn A a b) → (gF σₚ 120 9 = gF σ 120 9 ∧ gF σₚ 120 10 = gF σ 120 10 ∧ gF σₚ 120 11 = gF σ 120 11) → Q none σₚ) : Ct 2 259 k [vO 120, vI (a : Int), vI (b : Int)] σ Q E := by
  have hS0 := hS
  obtain ⟨-, -, -, -, l1, l2, l3, l4, l5, l6⟩ := hS
  obtain ⟨d1, d2, d3⟩ := hD
  have e15 := d2 15 a (by decide) (by decide)
  have e16 := d2 16 a (by decide) (by decide)
  have dw := d3 a ha
  refine ct_seg (il := (fun _ => false)) (mc := true) (fun _ => grow_ok) 90 [] (by decide) (Nat.le_of_ble_eq_true rfl) ?_
  repeat' (first | refine And.intro ?_ ?_ | (with_reducible intro c; try simp only [cmpI, cmpN, Classical.not_not, not_true_eq_false, not_false_eq_true, Int.reduceToNat, Int.toNat_natCast, tN_add, tN_add1, tN_sub1, gF_grr, gT_grr, gL_grr, gA_grr, gC_grr, gF_sF, gA_sF, gL_sF, gV_sF, gF_sA, gA_sA, gL_sA, gV_sA, gF_sB, gA_sB, gL_sB, gV_sB, gF_nA, gA_nA, gL_nA, gV_nA, gT_nA, gF_mV, gA_mV, gL_mV, gV_mV, gT_mV, gT_sB, gT_sA, gT_sF, gK_sF, gK_sA, gK_sB, gF_grw, gT_grw, gL_grw, gA_grw, gC_grw, gD_grw, gC_sF, gC_sA, gD_sF, gD_sA, Nat.reduceLT, elT, Nat.reduceEqDiff, eq_self, and_self, and_true, true_and, and_false, false_and, reduceIte, fbB, qc_14_3, qc_15_2, qc_17_2, sbB, fb_15_5] at c))
  all_goals (try first | with_reducible exact True.intro | with_reducible assumption | omega | ((with_reducible first | show (cond _ _ _ : Prop) | show swT _ _ _ _ _); exact True.intro) | ((with_reducible first | refine Eq.trans ?_ (Eq.refl _) | refine Nat.le_trans ?_ (Nat.le_refl _) | refine Int.le_trans ?_ (Int.le_refl _) | refine Nat.lt_of_lt_of_le ?_ (Nat.le_refl _) | refine Int.lt_of_lt_of_le ?_ (Int.le_refl _)); first | exact rfl | (simp only [Int.reduceToNat, Int.toNat_natCast, tN_add, tN_add1, tN_sub1, gF_grr, gT_grr, gL_grr, gA_grr, gC_grr, gF_sF, gA_sF, gL_sF, gV_sF, gF_sA, gA_sA, gL_sA, gV_sA, gF_sB, gA_sB, gL_sB, gV_sB, gF_nA, gA_nA, gL_nA, gV_nA, gT_nA, gF_mV, gA_mV, gL_mV, gV_mV, gT_mV, gT_sB, gT_sA, gT_sF, gK_sF, gK_sA, gK_sB, gF_grw, gT_grw, gL_grw, gA_grw, gC_grw, gD_grw, gC_sF, gC_sA, gD_sF, gD_sA, Nat.reduceLT, elT, Nat.reduceEqDiff, eq_self, and_self, and_true, true_and, and_false, false_and, reduceIte, fbB, qc_14_3, qc_15_2, qc_17_2, sbB, fb_15_5]; first | done | with_reducible assumption | omega)) | ((with_reducible refine And.intro ?_ ?_); all_goals (simp only [Int.reduceToNat, Int.toNat_natCast, tN_add, tN_add1, tN_sub1, gF_grr, gT_grr, gL_grr, gA_grr, gC_grr, gF_sF, gA_sF, gL_sF, gV_sF, gF_sA, gA_sA, gL_sA, gV_sA, gF_sB, gA_sB, gL_sB, gV_sB, gF_nA, gA_nA, gL_nA, gV_nA, gT_nA, gF_mV, gA_mV, gL_mV, gV_mV, gT_mV, gT_sB, gT_sA, gT_sF, gK_sF, gK_sA, gK_sB, gF_grw, gT_grw, gL_grw, gA_grw, gC_grw, gD_grw, gC_sF, gC_sA, gD_sF, gD_sA, Nat.reduceLT, elT, Nat.reduceEqDiff, eq_self, and_self, and_true, true_and, and_false, false_and, reduceIte, fbB, qc_14_3, qc_15_2, qc_17_2, sbB, fb_15_5]; omega)))
  · have h15 : ¬ A 15 a = -1 := by omega
    have e17 : (gA σ 120 16 a).toNat = (A 16 a).toNat := by rw [e16]
    refine hQ _ (ms_ch hS0 rfl (fun _ => rfl) (fun q i hq => ?_)) ⟨d1, fun q i h1 h2 => ?_, dw_jn d3 hb⟩ ⟨rfl, rfl, rfl⟩
    · show gA (sA (sA σ 120 17 _ _) 120 16 _ _) 120 q i = _
      rw [sk_A (by omega), sk_A (by omega)]
    · show gA (sA (sA σ 120 17 (gA σ 120 16 a).toNat _) 120 16 a _) 120 q i = _
      have hd := d2 q i h1 h2
      have hq : q = 17 ∨ q = 16 ∨ (q ≠ 17 ∧ q ≠ 16) := by omega
      rcases hq with e | e | e
      · subst e
        rw [sk_A (by decide), sy_A, hd, jn17 h15]
        by_cases c : (i : Int) = A 16 a
        · rw [if_pos (by omega), if_pos c]
        · rw [if_neg (by omega), if_neg c]
      · subst e
        rw [sy_A, sk_A (by decide), hd, jn16]
      · rw [sk_A e.2, sk_A e.1, hd, jn_17 h15 e.1 e.2]
  · have h15 : A 15 a = -1 := by omega
    refine hQ _ (ms_ch hS0 rfl (fun _ => rfl) (fun q i hq => ?_)) ⟨d1, fun q i h1 h2 => ?_, dw_jn d3 hb⟩ ⟨rfl, rfl, rfl⟩
    · show gA (sA (sA σ 120 15 _ _) 120 16 _ _) 120 q i = _
      rw [sk_A (by omega), sk_A (by omega)]
    · show gA (sA (sA σ 120 15 a _) 120 16 a _) 120 q i = _
      have hd := d2 q i h1 h2
      have hq : q = 15 ∨ q = 16 ∨ (q ≠ 15 ∧ q ≠ 16) := by omega
      rcases hq with e | e | e
      · subst e
        rw [sk_A (by decide), sy_A, hd, jn15 h15]
      · subst e
        rw [sy_A, sk_A (by decide), hd, jn16]
      · rw [sk_A e.2, sk_A e.1, hd, jn_15 h15 e.1 e.2]
theorem m_join {k j n a b N : Nat} {X : Tx} {A : DA} {σ : Sg} {Q : Option AV → Sg → Prop} {E : Int → Sg → Prop} (hI : MyI σ X N j n A) (hn : n ≤ 26000) (ha : a < n) (hb : b < n) (hQ : ∀ σₚ, MyI σₚ X N j n (jn A a b) → Q none σₚ) : Ct 2 259 k [vO 120, vI (a : Int), vI (b : Int)] σ Q E := by
  obtain ⟨h1, ⟨h2, h3, h4⟩, h5⟩ := hI
  exact m_join0 h1 h5 hn ha hb (fun σₚ a1 a2 a3 => hQ σₚ ⟨a1, ⟨a3.1.trans h2, a3.2.1.trans h3, h4⟩, a2⟩)
theorem m_join1 {k : Nat} {a : Int} {σ : Sg} {Q : Option AV → Sg → Prop} {E : Int → Sg → Prop} (hQ : Q none σ) : Ct 2 259 k [vO 120, vI a, vI (-1)] σ Q E := by
  refine ct_seg (il := (fun _ => false)) (mc := true) (fun _ => grow_ok) 90 [] (by decide) (Nat.le_of_ble_eq_true rfl) ?_
  repeat' (first | refine And.intro ?_ ?_ | (with_reducible intro c; try simp only [cmpI, cmpN, Classical.not_not, not_true_eq_false, not_false_eq_true, Int.reduceToNat, Int.toNat_natCast, tN_add, tN_add1, tN_sub1, gF_grr, gT_grr, gL_grr, gA_grr, gC_grr, gF_sF, gA_sF, gL_sF, gV_sF, gF_sA, gA_sA, gL_sA, gV_sA, gF_sB, gA_sB, gL_sB, gV_sB, gF_nA, gA_nA, gL_nA, gV_nA, gT_nA, gF_mV, gA_mV, gL_mV, gV_mV, gT_mV, gT_sB, gT_sA, gT_sF, gK_sF, gK_sA, gK_sB, gF_grw, gT_grw, gL_grw, gA_grw, gC_grw, gD_grw, gC_sF, gC_sA, gD_sF, gD_sA, Nat.reduceLT, elT, Nat.reduceEqDiff, eq_self, and_self, and_true, true_and, and_false, false_and, reduceIte, fbB, qc_14_3, qc_15_2, qc_17_2, sbB, fb_15_5] at c))
  all_goals (try first | with_reducible exact True.intro | with_reducible assumption | omega | ((with_reducible first | show (cond _ _ _ : Prop) | show swT _ _ _ _ _); exact True.intro) | ((with_reducible first | refine Eq.trans ?_ (Eq.refl _) | refine Nat.le_trans ?_ (Nat.le_refl _) | refine Int.le_trans ?_ (Int.le_refl _) | refine Nat.lt_of_lt_of_le ?_ (Nat.le_refl _) | refine Int.lt_of_lt_of_le ?_ (Int.le_refl _)); first | exact rfl | (simp only [Int.reduceToNat, Int.toNat_natCast, tN_add, tN_add1, tN_sub1, gF_grr, gT_grr, gL_grr, gA_grr, gC_grr, gF_sF, gA_sF, gL_sF, gV_sF, gF_sA, gA_sA, gL_sA, gV_sA, gF_sB, gA_sB, gL_sB, gV_sB, gF_nA, gA_nA, gL_nA, gV_nA, gT_nA, gF_mV, gA_mV, gL_mV, gV_mV, gT_mV, gT_sB, gT_sA, gT_sF, gK_sF, gK_sA, gK_sB, gF_grw, gT_grw, gL_grw, gA_grw, gC_grw, gD_grw, gC_sF, gC_sA, gD_sF, gD_sA, Nat.reduceLT, elT, Nat.reduceEqDiff, eq_self, and_self, and_true, true_and, and_false, false_and, reduceIte, fbB, qc_14_3, qc_15_2, qc_17_2, sbB, fb_15_5]; first | done | with_reducible assumption | omega)) | ((with_reducible refine And.intro ?_ ?_); all_goals (simp only [Int.reduceToNat, Int.toNat_natCast, tN_add, tN_add1, tN_sub1, gF_grr, gT_grr, gL_grr, gA_grr, gC_grr, gF_sF, gA_sF, gL_sF, gV_sF, gF_sA, gA_sA, gL_sA, gV_sA, gF_sB, gA_sB, gL_sB, gV_sB, gF_nA, gA_nA, gL_nA, gV_nA, gT_nA, gF_mV, gA_mV, gL_mV, gV_mV, gT_mV, gT_sB, gT_sA, gT_sF, gK_sF, gK_sA, gK_sB, gF_grw, gT_grw, gL_grw, gA_grw, gC_grw, gD_grw, gC_sF, gC_sA, gD_sF, gD_sA, Nat.reduceLT, elT, Nat.reduceEqDiff, eq_self, and_self, and_true, true_and, and_false, false_and, reduceIte, fbB, qc_14_3, qc_15_2, qc_17_2, sbB, fb_15_5]; omega)))
  exact hQ
theorem b_join {k e n N : Nat} {a r : Int} {X : Tx} {σ : Sg} {Q : Option AV → Sg → Prop} {E : Int → Sg → Prop} (hI : BI σ X N e n) (hn : n ≤ 26000) (ha : 0 ≤ a ∧ a < (n : Int)) (hr : r = -1 ∨ (0 ≤ r ∧ r < (n : Int))) (hQ : ∀ σₚ, BI σₚ X N e n → Q none σₚ) : Ct 2 259 k [vO 120, vI a, vI r] σ Q E := by
  obtain ⟨aₚ, rfl⟩ : ∃ aₚ : Nat, a = (aₚ : Int) := ⟨a.toNat, by omega⟩
  rcases hr with c | c
  · subst c
    exact m_join1 (hQ σ hI)
  · obtain ⟨b, rfl⟩ : ∃ b : Nat, r = (b : Int) := ⟨r.toNat, by omega⟩
    obtain ⟨h1, ⟨h2, h3, j, h4, h6⟩, A, h5⟩ := hI
    exact m_join0 h1 h5 hn (by omega) (by omega) (fun σₚ a1 a2 a3 => hQ σₚ ⟨a1, ⟨a3.2.1.trans h2, a3.2.2.trans h3, j, a3.1.trans h4, h6⟩, _, a2⟩)
theorem m_look {k j n N : Nat} {X : Tx} {A : DA} {σ : Sg} {Q : Option AV → Sg → Prop} {E : Int → Sg → Prop} (hI : MyI σ X N j n A) (hQ : ∀ x, x = mcd.getD (tkd X j) 0 → Q (some (vI x)) σ) : Ct 2 249 k [vO 120] σ Q E := by
  have hN := ms_N hI.1
  obtain ⟨⟨h1, hT, h7, ⟨l5, l6, l7⟩, h8⟩, ⟨h2, h3, h4⟩, h5⟩ := hI
  have ht := (hT j (by omega)).1
  have e0 : (gF σ 120 9).toNat = j := by omega
  refine ct_seg (il := (fun _ => false)) (mc := true) (fun _ => grow_ok) 60 [] (by decide) (Nat.le_of_ble_eq_true rfl) ?_
  repeat' (first | refine And.intro ?_ ?_ | (with_reducible intro c; try simp only [cmpI, cmpN, Classical.not_not, not_true_eq_false, not_false_eq_true, Int.reduceToNat, Int.toNat_natCast, tN_add, tN_add1, tN_sub1, gF_grr, gT_grr, gL_grr, gA_grr, gC_grr, gF_sF, gA_sF, gL_sF, gV_sF, gF_sA, gA_sA, gL_sA, gV_sA, gF_sB, gA_sB, gL_sB, gV_sB, gF_nA, gA_nA, gL_nA, gV_nA, gT_nA, gF_mV, gA_mV, gL_mV, gV_mV, gT_mV, gT_sB, gT_sA, gT_sF, gK_sF, gK_sA, gK_sB, gF_grw, gT_grw, gL_grw, gA_grw, gC_grw, gD_grw, gC_sF, gC_sA, gD_sF, gD_sA, Nat.reduceLT, elT, Nat.reduceEqDiff, eq_self, and_self, and_true, true_and, and_false, false_and, reduceIte, fbB, qc_14_3, qc_15_2, qc_17_2, sbB, fb_15_5] at c))
  all_goals (try first | with_reducible exact True.intro | with_reducible assumption | omega | ((with_reducible first | show (cond _ _ _ : Prop) | show swT _ _ _ _ _); exact True.intro) | ((with_reducible first | refine Eq.trans ?_ (Eq.refl _) | refine Nat.le_trans ?_ (Nat.le_refl _) | refine Int.le_trans ?_ (Int.le_refl _) | refine Nat.lt_of_lt_of_le ?_ (Nat.le_refl _) | refine Int.lt_of_lt_of_le ?_ (Int.le_refl _)); first | exact rfl | (simp only [Int.reduceToNat, Int.toNat_natCast, tN_add, tN_add1, tN_sub1, gF_grr, gT_grr, gL_grr, gA_grr, gC_grr, gF_sF, gA_sF, gL_sF, gV_sF, gF_sA, gA_sA, gL_sA, gV_sA, gF_sB, gA_sB, gL_sB, gV_sB, gF_nA, gA_nA, gL_nA, gV_nA, gT_nA, gF_mV, gA_mV, gL_mV, gV_mV, gT_mV, gT_sB, gT_sA, gT_sF, gK_sF, gK_sA, gK_sB, gF_grw, gT_grw, gL_grw, gA_grw, gC_grw, gD_grw, gC_sF, gC_sA, gD_sF, gD_sA, Nat.reduceLT, elT, Nat.reduceEqDiff, eq_self, and_self, and_true, true_and, and_false, false_and, reduceIte, fbB, qc_14_3, qc_15_2, qc_17_2, sbB, fb_15_5]; first | done | with_reducible assumption | omega)) | ((with_reducible refine And.intro ?_ ?_); all_goals (simp only [Int.reduceToNat, Int.toNat_natCast, tN_add, tN_add1, tN_sub1, gF_grr, gT_grr, gL_grr, gA_grr, gC_grr, gF_sF, gA_sF, gL_sF, gV_sF, gF_sA, gA_sA, gL_sA, gV_sA, gF_sB, gA_sB, gL_sB, gV_sB, gF_nA, gA_nA, gL_nA, gV_nA, gT_nA, gF_mV, gA_mV, gL_mV, gV_mV, gT_mV, gT_sB, gT_sA, gT_sF, gK_sF, gK_sA, gK_sB, gF_grw, gT_grw, gL_grw, gA_grw, gC_grw, gD_grw, gC_sF, gC_sA, gD_sF, gD_sA, Nat.reduceLT, elT, Nat.reduceEqDiff, eq_self, and_self, and_true, true_and, and_false, false_and, reduceIte, fbB, qc_14_3, qc_15_2, qc_17_2, sbB, fb_15_5]; omega)))
  refine hQ _ ?_
  simp only [Int.reduceToNat, Int.toNat_natCast, tN_add, tN_add1, tN_sub1, gF_grr, gT_grr, gL_grr, gA_grr, gC_grr, gF_sF, gA_sF, gL_sF, gV_sF, gF_sA, gA_sA, gL_sA, gV_sA, gF_sB, gA_sB, gL_sB, gV_sB, gF_nA, gA_nA, gL_nA, gV_nA, gT_nA, gF_mV, gA_mV, gL_mV, gV_mV, gT_mV, gT_sB, gT_sA, gT_sF, gK_sF, gK_sA, gK_sB, gF_grw, gT_grw, gL_grw, gA_grw, gC_grw, gD_grw, gC_sF, gC_sA, gD_sF, gD_sA, Nat.reduceLT, elT, Nat.reduceEqDiff, eq_self, and_self, and_true, true_and, and_false, false_and, reduceIte, fbB, qc_14_3, qc_15_2, qc_17_2, sbB, fb_15_5, e0]
  exact ht
theorem b_look {k e n N : Nat} {X : Tx} {σ : Sg} {Q : Option AV → Sg → Prop} {E : Int → Sg → Prop} (hI : BI σ X N e n) (hQ : Q (some (vI 1)) σ) : Ct 2 249 k [vO 120] σ Q E := by
  have hb := hI.2.1.1
  refine ct_seg (il := (fun _ => false)) (mc := true) (fun _ => grow_ok) 60 [] (by decide) (Nat.le_of_ble_eq_true rfl) ?_
  repeat' (first | refine And.intro ?_ ?_ | (with_reducible intro c; try simp only [cmpI, cmpN, Classical.not_not, not_true_eq_false, not_false_eq_true, Int.reduceToNat, Int.toNat_natCast, tN_add, tN_add1, tN_sub1, gF_grr, gT_grr, gL_grr, gA_grr, gC_grr, gF_sF, gA_sF, gL_sF, gV_sF, gF_sA, gA_sA, gL_sA, gV_sA, gF_sB, gA_sB, gL_sB, gV_sB, gF_nA, gA_nA, gL_nA, gV_nA, gT_nA, gF_mV, gA_mV, gL_mV, gV_mV, gT_mV, gT_sB, gT_sA, gT_sF, gK_sF, gK_sA, gK_sB, gF_grw, gT_grw, gL_grw, gA_grw, gC_grw, gD_grw, gC_sF, gC_sA, gD_sF, gD_sA, Nat.reduceLT, elT, Nat.reduceEqDiff, eq_self, and_self, and_true, true_and, and_false, false_and, reduceIte, fbB, qc_14_3, qc_15_2, qc_17_2, sbB, fb_15_5] at c))
  all_goals (try first | with_reducible exact True.intro | with_reducible assumption | omega | ((with_reducible first | show (cond _ _ _ : Prop) | show swT _ _ _ _ _); exact True.intro) | ((with_reducible first | refine Eq.trans ?_ (Eq.refl _) | refine Nat.le_trans ?_ (Nat.le_refl _) | refine Int.le_trans ?_ (Int.le_refl _) | refine Nat.lt_of_lt_of_le ?_ (Nat.le_refl _) | refine Int.lt_of_lt_of_le ?_ (Int.le_refl _)); first | exact rfl | (simp only [Int.reduceToNat, Int.toNat_natCast, tN_add, tN_add1, tN_sub1, gF_grr, gT_grr, gL_grr, gA_grr, gC_grr, gF_sF, gA_sF, gL_sF, gV_sF, gF_sA, gA_sA, gL_sA, gV_sA, gF_sB, gA_sB, gL_sB, gV_sB, gF_nA, gA_nA, gL_nA, gV_nA, gT_nA, gF_mV, gA_mV, gL_mV, gV_mV, gT_mV, gT_sB, gT_sA, gT_sF, gK_sF, gK_sA, gK_sB, gF_grw, gT_grw, gL_grw, gA_grw, gC_grw, gD_grw, gC_sF, gC_sA, gD_sF, gD_sA, Nat.reduceLT, elT, Nat.reduceEqDiff, eq_self, and_self, and_true, true_and, and_false, false_and, reduceIte, fbB, qc_14_3, qc_15_2, qc_17_2, sbB, fb_15_5]; first | done | with_reducible assumption | omega)) | ((with_reducible refine And.intro ?_ ?_); all_goals (simp only [Int.reduceToNat, Int.toNat_natCast, tN_add, tN_add1, tN_sub1, gF_grr, gT_grr, gL_grr, gA_grr, gC_grr, gF_sF, gA_sF, gL_sF, gV_sF, gF_sA, gA_sA, gL_sA, gV_sA, gF_sB, gA_sB, gL_sB, gV_sB, gF_nA, gA_nA, gL_nA, gV_nA, gT_nA, gF_mV, gA_mV, gL_mV, gV_mV, gT_mV, gT_sB, gT_sA, gT_sF, gK_sF, gK_sA, gK_sB, gF_grw, gT_grw, gL_grw, gA_grw, gC_grw, gD_grw, gC_sF, gC_sA, gD_sF, gD_sA, Nat.reduceLT, elT, Nat.reduceEqDiff, eq_self, and_self, and_true, true_and, and_false, false_and, reduceIte, fbB, qc_14_3, qc_15_2, qc_17_2, sbB, fb_15_5]; omega)))
  exact hQ
theorem m_here {k j n N : Nat} {X : Tx} {A : DA} {σ : Sg} {Q : Option AV → Sg → Prop} {E : Int → Sg → Prop} (hI : MyI σ X N j n A) (hQ : Q (some (vI (tpo X j : Int))) σ) : Ct 2 251 k [vO 120] σ Q E := by
  have hN := ms_N hI.1
  obtain ⟨⟨h1, hT, h7, ⟨l5, l6, l7⟩, h8⟩, ⟨h2, h3, h4⟩, h5⟩ := hI
  have ht := (hT j (by omega)).2.1
  have e0 : (gF σ 120 9).toNat = j := by omega
  rw [← ht] at hQ
  rw [← e0] at hQ
  refine ct_seg (il := (fun _ => false)) (mc := true) (fun _ => grow_ok) 60 [] (by decide) (Nat.le_of_ble_eq_true rfl) ?_
  repeat' (first | refine And.intro ?_ ?_ | (with_reducible intro c; try simp only [cmpI, cmpN, Classical.not_not, not_true_eq_false, not_false_eq_true, Int.reduceToNat, Int.toNat_natCast, tN_add, tN_add1, tN_sub1, gF_grr, gT_grr, gL_grr, gA_grr, gC_grr, gF_sF, gA_sF, gL_sF, gV_sF, gF_sA, gA_sA, gL_sA, gV_sA, gF_sB, gA_sB, gL_sB, gV_sB, gF_nA, gA_nA, gL_nA, gV_nA, gT_nA, gF_mV, gA_mV, gL_mV, gV_mV, gT_mV, gT_sB, gT_sA, gT_sF, gK_sF, gK_sA, gK_sB, gF_grw, gT_grw, gL_grw, gA_grw, gC_grw, gD_grw, gC_sF, gC_sA, gD_sF, gD_sA, Nat.reduceLT, elT, Nat.reduceEqDiff, eq_self, and_self, and_true, true_and, and_false, false_and, reduceIte, fbB, qc_14_3, qc_15_2, qc_17_2, sbB, fb_15_5] at c))
  all_goals (try first | with_reducible exact True.intro | with_reducible assumption | omega | ((with_reducible first | show (cond _ _ _ : Prop) | show swT _ _ _ _ _); exact True.intro) | ((with_reducible first | refine Eq.trans ?_ (Eq.refl _) | refine Nat.le_trans ?_ (Nat.le_refl _) | refine Int.le_trans ?_ (Int.le_refl _) | refine Nat.lt_of_lt_of_le ?_ (Nat.le_refl _) | refine Int.lt_of_lt_of_le ?_ (Int.le_refl _)); first | exact rfl | (simp only [Int.reduceToNat, Int.toNat_natCast, tN_add, tN_add1, tN_sub1, gF_grr, gT_grr, gL_grr, gA_grr, gC_grr, gF_sF, gA_sF, gL_sF, gV_sF, gF_sA, gA_sA, gL_sA, gV_sA, gF_sB, gA_sB, gL_sB, gV_sB, gF_nA, gA_nA, gL_nA, gV_nA, gT_nA, gF_mV, gA_mV, gL_mV, gV_mV, gT_mV, gT_sB, gT_sA, gT_sF, gK_sF, gK_sA, gK_sB, gF_grw, gT_grw, gL_grw, gA_grw, gC_grw, gD_grw, gC_sF, gC_sA, gD_sF, gD_sA, Nat.reduceLT, elT, Nat.reduceEqDiff, eq_self, and_self, and_true, true_and, and_false, false_and, reduceIte, fbB, qc_14_3, qc_15_2, qc_17_2, sbB, fb_15_5]; first | done | with_reducible assumption | omega)) | ((with_reducible refine And.intro ?_ ?_); all_goals (simp only [Int.reduceToNat, Int.toNat_natCast, tN_add, tN_add1, tN_sub1, gF_grr, gT_grr, gL_grr, gA_grr, gC_grr, gF_sF, gA_sF, gL_sF, gV_sF, gF_sA, gA_sA, gL_sA, gV_sA, gF_sB, gA_sB, gL_sB, gV_sB, gF_nA, gA_nA, gL_nA, gV_nA, gT_nA, gF_mV, gA_mV, gL_mV, gV_mV, gT_mV, gT_sB, gT_sA, gT_sF, gK_sF, gK_sA, gK_sB, gF_grw, gT_grw, gL_grw, gA_grw, gC_grw, gD_grw, gC_sF, gC_sA, gD_sF, gD_sA, Nat.reduceLT, elT, Nat.reduceEqDiff, eq_self, and_self, and_true, true_and, and_false, false_and, reduceIte, fbB, qc_14_3, qc_15_2, qc_17_2, sbB, fb_15_5]; omega)))
  exact hQ
theorem b_here {k e n N : Nat} {X : Tx} {σ : Sg} {Q : Option AV → Sg → Prop} {E : Int → Sg → Prop} (hI : BI σ X N e n) (hQ : ∀ x, Q (some (vI x)) σ) : Ct 2 251 k [vO 120] σ Q E := by
  have hN := ms_N hI.1
  obtain ⟨⟨h1, hT, h7, ⟨l5, l6, l7⟩, h8⟩, ⟨h2, h3, j, h4, h6⟩, h5⟩ := hI
  refine ct_seg (il := (fun _ => false)) (mc := true) (fun _ => grow_ok) 60 [] (by decide) (Nat.le_of_ble_eq_true rfl) ?_
  repeat' (first | refine And.intro ?_ ?_ | (with_reducible intro c; try simp only [cmpI, cmpN, Classical.not_not, not_true_eq_false, not_false_eq_true, Int.reduceToNat, Int.toNat_natCast, tN_add, tN_add1, tN_sub1, gF_grr, gT_grr, gL_grr, gA_grr, gC_grr, gF_sF, gA_sF, gL_sF, gV_sF, gF_sA, gA_sA, gL_sA, gV_sA, gF_sB, gA_sB, gL_sB, gV_sB, gF_nA, gA_nA, gL_nA, gV_nA, gT_nA, gF_mV, gA_mV, gL_mV, gV_mV, gT_mV, gT_sB, gT_sA, gT_sF, gK_sF, gK_sA, gK_sB, gF_grw, gT_grw, gL_grw, gA_grw, gC_grw, gD_grw, gC_sF, gC_sA, gD_sF, gD_sA, Nat.reduceLT, elT, Nat.reduceEqDiff, eq_self, and_self, and_true, true_and, and_false, false_and, reduceIte, fbB, qc_14_3, qc_15_2, qc_17_2, sbB, fb_15_5] at c))
  all_goals (try first | with_reducible exact True.intro | with_reducible assumption | omega | ((with_reducible first | show (cond _ _ _ : Prop) | show swT _ _ _ _ _); exact True.intro) | ((with_reducible first | refine Eq.trans ?_ (Eq.refl _) | refine Nat.le_trans ?_ (Nat.le_refl _) | refine Int.le_trans ?_ (Int.le_refl _) | refine Nat.lt_of_lt_of_le ?_ (Nat.le_refl _) | refine Int.lt_of_lt_of_le ?_ (Int.le_refl _)); first | exact rfl | (simp only [Int.reduceToNat, Int.toNat_natCast, tN_add, tN_add1, tN_sub1, gF_grr, gT_grr, gL_grr, gA_grr, gC_grr, gF_sF, gA_sF, gL_sF, gV_sF, gF_sA, gA_sA, gL_sA, gV_sA, gF_sB, gA_sB, gL_sB, gV_sB, gF_nA, gA_nA, gL_nA, gV_nA, gT_nA, gF_mV, gA_mV, gL_mV, gV_mV, gT_mV, gT_sB, gT_sA, gT_sF, gK_sF, gK_sA, gK_sB, gF_grw, gT_grw, gL_grw, gA_grw, gC_grw, gD_grw, gC_sF, gC_sA, gD_sF, gD_sA, Nat.reduceLT, elT, Nat.reduceEqDiff, eq_self, and_self, and_true, true_and, and_false, false_and, reduceIte, fbB, qc_14_3, qc_15_2, qc_17_2, sbB, fb_15_5]; first | done | with_reducible assumption | omega)) | ((with_reducible refine And.intro ?_ ?_); all_goals (simp only [Int.reduceToNat, Int.toNat_natCast, tN_add, tN_add1, tN_sub1, gF_grr, gT_grr, gL_grr, gA_grr, gC_grr, gF_sF, gA_sF, gL_sF, gV_sF, gF_sA, gA_sA, gL_sA, gV_sA, gF_sB, gA_sB, gL_sB, gV_sB, gF_nA, gA_nA, gL_nA, gV_nA, gT_nA, gF_mV, gA_mV, gL_mV, gV_mV, gT_mV, gT_sB, gT_sA, gT_sF, gK_sF, gK_sA, gK_sB, gF_grw, gT_grw, gL_grw, gA_grw, gC_grw, gD_grw, gC_sF, gC_sA, gD_sF, gD_sA, Nat.reduceLT, elT, Nat.reduceEqDiff, eq_self, and_self, and_true, true_and, and_false, false_and, reduceIte, fbB, qc_14_3, qc_15_2, qc_17_2, sbB, fb_15_5]; omega)))
  exact hQ _
theorem mi_bad {σ : Sg} {X : Tx} {N j n : Nat} {A : DA} {v : Int} (hI : MyI σ X N j n A) (hv : v = (tpo X j : Int)) : BI (sF (sF σ 120 10 1) 120 11 v) X N j n := by
  obtain ⟨h1, ⟨h2, h3, h4⟩, h5⟩ := hI
  exact ⟨h1, ⟨rfl, hv, j, h2, h4⟩, A, h5⟩
theorem bi_9 {σ : Sg} {X : Tx} {N e n : Nat} (h : BI σ X N e n) : BI (sF σ 120 9 (gF σ 120 9)) X N e n := by
  obtain ⟨h1, ⟨h2, h3, j, h4, h6⟩, A, h5⟩ := h
  exact ⟨ms_ch h1 rfl (fun _ => rfl) (fun _ _ _ => rfl), ⟨h2, h3, j, h4, h6⟩, A, h5⟩
theorem mc_tab : (List.range 52).all (fun a => (List.range 52).all (fun b => (!(mcd.getD a 0 == mcd.getD b 0)) || (a == b))) = true := by decide +kernel
theorem mc_inj {a b : Nat} (ha : a < 52) (hb : b < 52) (h : mcd.getD a 0 = mcd.getD b 0) : a = b := by
  have h1 := List.all_eq_true.mp (List.all_eq_true.mp mc_tab a (List.mem_range.mpr ha)) b (List.mem_range.mpr hb)
  rw [h] at h1
  simpa using h1
theorem mcI {X : Tx} {j : Nat} {x : Int} (t : Nat) (ht : t < 52) (hx : x = mcd.getD (tkd X j) 0) : x = mcd.getD t 0 ↔ tkd X j = t :=
  ⟨fun h => mc_inj (tkd_lt X j) ht (by rw [← hx, h]), fun h => by rw [hx, h]⟩
theorem mcH_tab : (List.range 52).all (fun a => (!(Nat.ble 33 a) || (mcd.getD a 0 == 267 + (a : Int))) && (!(Nat.blt a 33) || decide (mcd.getD a 0 < 300 ∧ 0 ≤ mcd.getD a 0))) = true := by decide +kernel
theorem mcH {X : Tx} {j : Nat} {x : Int} (hx : x = mcd.getD (tkd X j) 0) : (33 ≤ tkd X j → x = 267 + (tkd X j : Int)) ∧ (tkd X j < 33 → x < 300 ∧ 0 ≤ x) := by
  have h1 := List.all_eq_true.mp mcH_tab (tkd X j) (List.mem_range.mpr (tkd_lt X j))
  rw [Bool.and_eq_true] at h1
  refine ⟨fun c => ?_, fun c => ?_⟩
  · have h2 := h1.1
    rw [Nat.ble_eq_true_of_le c] at h2
    rw [hx]
    simpa using h2
  · have h2 := h1.2
    rw [show Nat.blt (tkd X j) 33 = true by rw [Nat.blt_eq]; exact c] at h2
    rw [hx]
    simpa using h2
theorem m_take {k j n N t : Nat} {r : Int} {X : Tx} {A : DA} {σ : Sg} {Q : Option AV → Sg → Prop} {E : Int → Sg → Prop} (hk : 3 ≤ k) (hI : MyI σ X N j n A) (ht : 2 ≤ t ∧ t < 52) (hr : r = mcd.getD t 0) (hQ0 : tkd X j ≠ t → ∀ σₚ, BI σₚ X N j n → Q none σₚ) (hQ1 : tkd X j = t → ∀ σₚ, MyI σₚ X N (j + 1) n A → Q none σₚ) : Ct 2 254 k [vO 120, vI r] σ Q E := by
  have hI0 := hI
  have hN := ms_N hI.1
  obtain ⟨⟨h1, hT, h7, ⟨l5, l6, l7⟩, h8⟩, ⟨h2, h3, h4⟩, h5⟩ := hI
  have hp := (hT j (by omega)).2.1
  have e0 : (gF σ 120 9).toNat = j := by omega
  refine ct_seg (il := (fun a => a == 252)) (mc := true) (fun _ => grow_ok) 90 [] (by decide) (Nat.le_of_ble_eq_true rfl) ?_
  repeat' (first | refine And.intro ?_ ?_ | (with_reducible intro c; try simp only [cmpI, cmpN, Classical.not_not, not_true_eq_false, not_false_eq_true, Int.reduceToNat, Int.toNat_natCast, tN_add, tN_add1, tN_sub1, gF_grr, gT_grr, gL_grr, gA_grr, gC_grr, gF_sF, gA_sF, gL_sF, gV_sF, gF_sA, gA_sA, gL_sA, gV_sA, gF_sB, gA_sB, gL_sB, gV_sB, gF_nA, gA_nA, gL_nA, gV_nA, gT_nA, gF_mV, gA_mV, gL_mV, gV_mV, gT_mV, gT_sB, gT_sA, gT_sF, gK_sF, gK_sA, gK_sB, gF_grw, gT_grw, gL_grw, gA_grw, gC_grw, gD_grw, gC_sF, gC_sA, gD_sF, gD_sA, Nat.reduceLT, elT, Nat.reduceEqDiff, eq_self, and_self, and_true, true_and, and_false, false_and, reduceIte, fbB, qc_14_3, qc_15_2, qc_17_2, sbB, fb_15_5] at c))
  all_goals (try first | with_reducible exact True.intro | with_reducible assumption | omega | ((with_reducible first | show (cond _ _ _ : Prop) | show swT _ _ _ _ _); exact True.intro) | ((with_reducible first | refine Eq.trans ?_ (Eq.refl _) | refine Nat.le_trans ?_ (Nat.le_refl _) | refine Int.le_trans ?_ (Int.le_refl _) | refine Nat.lt_of_lt_of_le ?_ (Nat.le_refl _) | refine Int.lt_of_lt_of_le ?_ (Int.le_refl _)); first | exact rfl | (simp only [Int.reduceToNat, Int.toNat_natCast, tN_add, tN_add1, tN_sub1, gF_grr, gT_grr, gL_grr, gA_grr, gC_grr, gF_sF, gA_sF, gL_sF, gV_sF, gF_sA, gA_sA, gL_sA, gV_sA, gF_sB, gA_sB, gL_sB, gV_sB, gF_nA, gA_nA, gL_nA, gV_nA, gT_nA, gF_mV, gA_mV, gL_mV, gV_mV, gT_mV, gT_sB, gT_sA, gT_sF, gK_sF, gK_sA, gK_sB, gF_grw, gT_grw, gL_grw, gA_grw, gC_grw, gD_grw, gC_sF, gC_sA, gD_sF, gD_sA, Nat.reduceLT, elT, Nat.reduceEqDiff, eq_self, and_self, and_true, true_and, and_false, false_and, reduceIte, fbB, qc_14_3, qc_15_2, qc_17_2, sbB, fb_15_5]; first | done | with_reducible assumption | omega)) | ((with_reducible refine And.intro ?_ ?_); all_goals (simp only [Int.reduceToNat, Int.toNat_natCast, tN_add, tN_add1, tN_sub1, gF_grr, gT_grr, gL_grr, gA_grr, gC_grr, gF_sF, gA_sF, gL_sF, gV_sF, gF_sA, gA_sA, gL_sA, gV_sA, gF_sB, gA_sB, gL_sB, gV_sB, gF_nA, gA_nA, gL_nA, gV_nA, gT_nA, gF_mV, gA_mV, gL_mV, gV_mV, gT_mV, gT_sB, gT_sA, gT_sF, gK_sF, gK_sA, gK_sB, gF_grw, gT_grw, gL_grw, gA_grw, gC_grw, gD_grw, gC_sF, gC_sA, gD_sF, gD_sA, Nat.reduceLT, elT, Nat.reduceEqDiff, eq_self, and_self, and_true, true_and, and_false, false_and, reduceIte, fbB, qc_14_3, qc_15_2, qc_17_2, sbB, fb_15_5]; omega)))
  refine m_look hI0 (fun x hx => ?_)
  have hi := mcI t ht.2 hx
  rw [← hr] at hi
  repeat' (first | refine And.intro ?_ ?_ | (with_reducible intro c; try simp only [cmpI, cmpN, Classical.not_not, not_true_eq_false, not_false_eq_true, Int.reduceToNat, Int.toNat_natCast, tN_add, tN_add1, tN_sub1, gF_grr, gT_grr, gL_grr, gA_grr, gC_grr, gF_sF, gA_sF, gL_sF, gV_sF, gF_sA, gA_sA, gL_sA, gV_sA, gF_sB, gA_sB, gL_sB, gV_sB, gF_nA, gA_nA, gL_nA, gV_nA, gT_nA, gF_mV, gA_mV, gL_mV, gV_mV, gT_mV, gT_sB, gT_sA, gT_sF, gK_sF, gK_sA, gK_sB, gF_grw, gT_grw, gL_grw, gA_grw, gC_grw, gD_grw, gC_sF, gC_sA, gD_sF, gD_sA, Nat.reduceLT, elT, Nat.reduceEqDiff, eq_self, and_self, and_true, true_and, and_false, false_and, reduceIte, fbB, qc_14_3, qc_15_2, qc_17_2, sbB, fb_15_5] at c))
  all_goals (try first | with_reducible exact True.intro | with_reducible assumption | omega | ((with_reducible first | show (cond _ _ _ : Prop) | show swT _ _ _ _ _); exact True.intro) | ((with_reducible first | refine Eq.trans ?_ (Eq.refl _) | refine Nat.le_trans ?_ (Nat.le_refl _) | refine Int.le_trans ?_ (Int.le_refl _) | refine Nat.lt_of_lt_of_le ?_ (Nat.le_refl _) | refine Int.lt_of_lt_of_le ?_ (Int.le_refl _)); first | exact rfl | (simp only [Int.reduceToNat, Int.toNat_natCast, tN_add, tN_add1, tN_sub1, gF_grr, gT_grr, gL_grr, gA_grr, gC_grr, gF_sF, gA_sF, gL_sF, gV_sF, gF_sA, gA_sA, gL_sA, gV_sA, gF_sB, gA_sB, gL_sB, gV_sB, gF_nA, gA_nA, gL_nA, gV_nA, gT_nA, gF_mV, gA_mV, gL_mV, gV_mV, gT_mV, gT_sB, gT_sA, gT_sF, gK_sF, gK_sA, gK_sB, gF_grw, gT_grw, gL_grw, gA_grw, gC_grw, gD_grw, gC_sF, gC_sA, gD_sF, gD_sA, Nat.reduceLT, elT, Nat.reduceEqDiff, eq_self, and_self, and_true, true_and, and_false, false_and, reduceIte, fbB, qc_14_3, qc_15_2, qc_17_2, sbB, fb_15_5]; first | done | with_reducible assumption | omega)) | ((with_reducible refine And.intro ?_ ?_); all_goals (simp only [Int.reduceToNat, Int.toNat_natCast, tN_add, tN_add1, tN_sub1, gF_grr, gT_grr, gL_grr, gA_grr, gC_grr, gF_sF, gA_sF, gL_sF, gV_sF, gF_sA, gA_sA, gL_sA, gV_sA, gF_sB, gA_sB, gL_sB, gV_sB, gF_nA, gA_nA, gL_nA, gV_nA, gT_nA, gF_mV, gA_mV, gL_mV, gV_mV, gT_mV, gT_sB, gT_sA, gT_sF, gK_sF, gK_sA, gK_sB, gF_grw, gT_grw, gL_grw, gA_grw, gC_grw, gD_grw, gC_sF, gC_sA, gD_sF, gD_sA, Nat.reduceLT, elT, Nat.reduceEqDiff, eq_self, and_self, and_true, true_and, and_false, false_and, reduceIte, fbB, qc_14_3, qc_15_2, qc_17_2, sbB, fb_15_5]; omega)))
  · refine hQ0 (fun h => by have := hi.mpr h; omega) _ ?_
    exact bi_9 (mi_bad hI0 (by simp only [Int.reduceToNat, Int.toNat_natCast, tN_add, tN_add1, tN_sub1, gF_grr, gT_grr, gL_grr, gA_grr, gC_grr, gF_sF, gA_sF, gL_sF, gV_sF, gF_sA, gA_sA, gL_sA, gV_sA, gF_sB, gA_sB, gL_sB, gV_sB, gF_nA, gA_nA, gL_nA, gV_nA, gT_nA, gF_mV, gA_mV, gL_mV, gV_mV, gT_mV, gT_sB, gT_sA, gT_sF, gK_sF, gK_sA, gK_sB, gF_grw, gT_grw, gL_grw, gA_grw, gC_grw, gD_grw, gC_sF, gC_sA, gD_sF, gD_sA, Nat.reduceLT, elT, Nat.reduceEqDiff, eq_self, and_self, and_true, true_and, and_false, false_and, reduceIte, fbB, qc_14_3, qc_15_2, qc_17_2, sbB, fb_15_5, e0]; exact hp))
  · have hq : tkd X j = t := hi.mp (by omega)
    have hj : j + 1 ≤ N := by
      rcases Nat.lt_or_ge j N with c | c
      · exact c
      · have : j = N := by omega
        subst this
        omega
    refine hQ1 hq _ ⟨ms_ch hI0.1 rfl (fun _ => rfl) (fun _ _ _ => rfl), ⟨?_, h3, hj⟩, h5⟩
    show gF σ 120 9 + 1 = _
    omega
theorem b_take {k e n N : Nat} {r : Int} {X : Tx} {σ : Sg} {Q : Option AV → Sg → Prop} {E : Int → Sg → Prop} (hk : 3 ≤ k) (hI : BI σ X N e n) (hQ : ∀ σₚ, BI σₚ X N e n → Q none σₚ) : Ct 2 254 k [vO 120, vI r] σ Q E := by
  have hI0 := hI
  obtain ⟨h1, ⟨h2, h3, j, h4, h6⟩, A, h5⟩ := hI
  refine ct_seg (il := (fun a => a == 252)) (mc := true) (fun _ => grow_ok) 90 [] (by decide) (Nat.le_of_ble_eq_true rfl) ?_
  repeat' (first | refine And.intro ?_ ?_ | (with_reducible intro c; try simp only [cmpI, cmpN, Classical.not_not, not_true_eq_false, not_false_eq_true, Int.reduceToNat, Int.toNat_natCast, tN_add, tN_add1, tN_sub1, gF_grr, gT_grr, gL_grr, gA_grr, gC_grr, gF_sF, gA_sF, gL_sF, gV_sF, gF_sA, gA_sA, gL_sA, gV_sA, gF_sB, gA_sB, gL_sB, gV_sB, gF_nA, gA_nA, gL_nA, gV_nA, gT_nA, gF_mV, gA_mV, gL_mV, gV_mV, gT_mV, gT_sB, gT_sA, gT_sF, gK_sF, gK_sA, gK_sB, gF_grw, gT_grw, gL_grw, gA_grw, gC_grw, gD_grw, gC_sF, gC_sA, gD_sF, gD_sA, Nat.reduceLT, elT, Nat.reduceEqDiff, eq_self, and_self, and_true, true_and, and_false, false_and, reduceIte, fbB, qc_14_3, qc_15_2, qc_17_2, sbB, fb_15_5] at c))
  all_goals (try first | with_reducible exact True.intro | with_reducible assumption | omega | ((with_reducible first | show (cond _ _ _ : Prop) | show swT _ _ _ _ _); exact True.intro) | ((with_reducible first | refine Eq.trans ?_ (Eq.refl _) | refine Nat.le_trans ?_ (Nat.le_refl _) | refine Int.le_trans ?_ (Int.le_refl _) | refine Nat.lt_of_lt_of_le ?_ (Nat.le_refl _) | refine Int.lt_of_lt_of_le ?_ (Int.le_refl _)); first | exact rfl | (simp only [Int.reduceToNat, Int.toNat_natCast, tN_add, tN_add1, tN_sub1, gF_grr, gT_grr, gL_grr, gA_grr, gC_grr, gF_sF, gA_sF, gL_sF, gV_sF, gF_sA, gA_sA, gL_sA, gV_sA, gF_sB, gA_sB, gL_sB, gV_sB, gF_nA, gA_nA, gL_nA, gV_nA, gT_nA, gF_mV, gA_mV, gL_mV, gV_mV, gT_mV, gT_sB, gT_sA, gT_sF, gK_sF, gK_sA, gK_sB, gF_grw, gT_grw, gL_grw, gA_grw, gC_grw, gD_grw, gC_sF, gC_sA, gD_sF, gD_sA, Nat.reduceLT, elT, Nat.reduceEqDiff, eq_self, and_self, and_true, true_and, and_false, false_and, reduceIte, fbB, qc_14_3, qc_15_2, qc_17_2, sbB, fb_15_5]; first | done | with_reducible assumption | omega)) | ((with_reducible refine And.intro ?_ ?_); all_goals (simp only [Int.reduceToNat, Int.toNat_natCast, tN_add, tN_add1, tN_sub1, gF_grr, gT_grr, gL_grr, gA_grr, gC_grr, gF_sF, gA_sF, gL_sF, gV_sF, gF_sA, gA_sA, gL_sA, gV_sA, gF_sB, gA_sB, gL_sB, gV_sB, gF_nA, gA_nA, gL_nA, gV_nA, gT_nA, gF_mV, gA_mV, gL_mV, gV_mV, gT_mV, gT_sB, gT_sA, gT_sF, gK_sF, gK_sA, gK_sB, gF_grw, gT_grw, gL_grw, gA_grw, gC_grw, gD_grw, gC_sF, gC_sA, gD_sF, gD_sA, Nat.reduceLT, elT, Nat.reduceEqDiff, eq_self, and_self, and_true, true_and, and_false, false_and, reduceIte, fbB, qc_14_3, qc_15_2, qc_17_2, sbB, fb_15_5]; omega)))
  refine b_look hI0 ?_
  repeat' (first | refine And.intro ?_ ?_ | (with_reducible intro c; try simp only [cmpI, cmpN, Classical.not_not, not_true_eq_false, not_false_eq_true, Int.reduceToNat, Int.toNat_natCast, tN_add, tN_add1, tN_sub1, gF_grr, gT_grr, gL_grr, gA_grr, gC_grr, gF_sF, gA_sF, gL_sF, gV_sF, gF_sA, gA_sA, gL_sA, gV_sA, gF_sB, gA_sB, gL_sB, gV_sB, gF_nA, gA_nA, gL_nA, gV_nA, gT_nA, gF_mV, gA_mV, gL_mV, gV_mV, gT_mV, gT_sB, gT_sA, gT_sF, gK_sF, gK_sA, gK_sB, gF_grw, gT_grw, gL_grw, gA_grw, gC_grw, gD_grw, gC_sF, gC_sA, gD_sF, gD_sA, Nat.reduceLT, elT, Nat.reduceEqDiff, eq_self, and_self, and_true, true_and, and_false, false_and, reduceIte, fbB, qc_14_3, qc_15_2, qc_17_2, sbB, fb_15_5] at c))
  all_goals (try first | with_reducible exact True.intro | with_reducible assumption | omega | ((with_reducible first | show (cond _ _ _ : Prop) | show swT _ _ _ _ _); exact True.intro) | ((with_reducible first | refine Eq.trans ?_ (Eq.refl _) | refine Nat.le_trans ?_ (Nat.le_refl _) | refine Int.le_trans ?_ (Int.le_refl _) | refine Nat.lt_of_lt_of_le ?_ (Nat.le_refl _) | refine Int.lt_of_lt_of_le ?_ (Int.le_refl _)); first | exact rfl | (simp only [Int.reduceToNat, Int.toNat_natCast, tN_add, tN_add1, tN_sub1, gF_grr, gT_grr, gL_grr, gA_grr, gC_grr, gF_sF, gA_sF, gL_sF, gV_sF, gF_sA, gA_sA, gL_sA, gV_sA, gF_sB, gA_sB, gL_sB, gV_sB, gF_nA, gA_nA, gL_nA, gV_nA, gT_nA, gF_mV, gA_mV, gL_mV, gV_mV, gT_mV, gT_sB, gT_sA, gT_sF, gK_sF, gK_sA, gK_sB, gF_grw, gT_grw, gL_grw, gA_grw, gC_grw, gD_grw, gC_sF, gC_sA, gD_sF, gD_sA, Nat.reduceLT, elT, Nat.reduceEqDiff, eq_self, and_self, and_true, true_and, and_false, false_and, reduceIte, fbB, qc_14_3, qc_15_2, qc_17_2, sbB, fb_15_5]; first | done | with_reducible assumption | omega)) | ((with_reducible refine And.intro ?_ ?_); all_goals (simp only [Int.reduceToNat, Int.toNat_natCast, tN_add, tN_add1, tN_sub1, gF_grr, gT_grr, gL_grr, gA_grr, gC_grr, gF_sF, gA_sF, gL_sF, gV_sF, gF_sA, gA_sA, gL_sA, gV_sA, gF_sB, gA_sB, gL_sB, gV_sB, gF_nA, gA_nA, gL_nA, gV_nA, gT_nA, gF_mV, gA_mV, gL_mV, gV_mV, gT_mV, gT_sB, gT_sA, gT_sF, gK_sF, gK_sA, gK_sB, gF_grw, gT_grw, gL_grw, gA_grw, gC_grw, gD_grw, gC_sF, gC_sA, gD_sF, gD_sA, Nat.reduceLT, elT, Nat.reduceEqDiff, eq_self, and_self, and_true, true_and, and_false, false_and, reduceIte, fbB, qc_14_3, qc_15_2, qc_17_2, sbB, fb_15_5]; omega)))
  all_goals exact hQ _ ⟨ms_ch h1 rfl (fun _ => rfl) (fun _ _ _ => rfl), ⟨h2, h3, j, h4, h6⟩, A, h5⟩
theorem m_deep {k j n N d : Nat} {di : Int} {X : Tx} {A : DA} {σ : Sg} {Q : Option AV → Sg → Prop} {E : Int → Sg → Prop} (hk : 2 ≤ k) (hI : MyI σ X N j n A) (hd : di = (d : Int)) (hQ0 : 60 < d → ∀ σₚ, BI σₚ X N j n → Q none σₚ) (hQ1 : d ≤ 60 → Q none σ) : Ct 2 256 k [vO 120, vI di] σ Q E := by
  subst hd
  have hI0 := hI
  have hN := ms_N hI.1
  obtain ⟨⟨h1, hT, h7, ⟨l5, l6, l7⟩, h8⟩, ⟨h2, h3, h4⟩, h5⟩ := hI
  have hp := (hT j (by omega)).2.1
  have e0 : (gF σ 120 9).toNat = j := by omega
  refine ct_seg (il := (fun a => a == 252)) (mc := true) (fun _ => grow_ok) 90 [] (by decide) (Nat.le_of_ble_eq_true rfl) ?_
  repeat' (first | refine And.intro ?_ ?_ | (with_reducible intro c; try simp only [cmpI, cmpN, Classical.not_not, not_true_eq_false, not_false_eq_true, Int.reduceToNat, Int.toNat_natCast, tN_add, tN_add1, tN_sub1, gF_grr, gT_grr, gL_grr, gA_grr, gC_grr, gF_sF, gA_sF, gL_sF, gV_sF, gF_sA, gA_sA, gL_sA, gV_sA, gF_sB, gA_sB, gL_sB, gV_sB, gF_nA, gA_nA, gL_nA, gV_nA, gT_nA, gF_mV, gA_mV, gL_mV, gV_mV, gT_mV, gT_sB, gT_sA, gT_sF, gK_sF, gK_sA, gK_sB, gF_grw, gT_grw, gL_grw, gA_grw, gC_grw, gD_grw, gC_sF, gC_sA, gD_sF, gD_sA, Nat.reduceLT, elT, Nat.reduceEqDiff, eq_self, and_self, and_true, true_and, and_false, false_and, reduceIte, fbB, qc_14_3, qc_15_2, qc_17_2, sbB, fb_15_5] at c))
  all_goals (try first | with_reducible exact True.intro | with_reducible assumption | omega | ((with_reducible first | show (cond _ _ _ : Prop) | show swT _ _ _ _ _); exact True.intro) | ((with_reducible first | refine Eq.trans ?_ (Eq.refl _) | refine Nat.le_trans ?_ (Nat.le_refl _) | refine Int.le_trans ?_ (Int.le_refl _) | refine Nat.lt_of_lt_of_le ?_ (Nat.le_refl _) | refine Int.lt_of_lt_of_le ?_ (Int.le_refl _)); first | exact rfl | (simp only [Int.reduceToNat, Int.toNat_natCast, tN_add, tN_add1, tN_sub1, gF_grr, gT_grr, gL_grr, gA_grr, gC_grr, gF_sF, gA_sF, gL_sF, gV_sF, gF_sA, gA_sA, gL_sA, gV_sA, gF_sB, gA_sB, gL_sB, gV_sB, gF_nA, gA_nA, gL_nA, gV_nA, gT_nA, gF_mV, gA_mV, gL_mV, gV_mV, gT_mV, gT_sB, gT_sA, gT_sF, gK_sF, gK_sA, gK_sB, gF_grw, gT_grw, gL_grw, gA_grw, gC_grw, gD_grw, gC_sF, gC_sA, gD_sF, gD_sA, Nat.reduceLT, elT, Nat.reduceEqDiff, eq_self, and_self, and_true, true_and, and_false, false_and, reduceIte, fbB, qc_14_3, qc_15_2, qc_17_2, sbB, fb_15_5]; first | done | with_reducible assumption | omega)) | ((with_reducible refine And.intro ?_ ?_); all_goals (simp only [Int.reduceToNat, Int.toNat_natCast, tN_add, tN_add1, tN_sub1, gF_grr, gT_grr, gL_grr, gA_grr, gC_grr, gF_sF, gA_sF, gL_sF, gV_sF, gF_sA, gA_sA, gL_sA, gV_sA, gF_sB, gA_sB, gL_sB, gV_sB, gF_nA, gA_nA, gL_nA, gV_nA, gT_nA, gF_mV, gA_mV, gL_mV, gV_mV, gT_mV, gT_sB, gT_sA, gT_sF, gK_sF, gK_sA, gK_sB, gF_grw, gT_grw, gL_grw, gA_grw, gC_grw, gD_grw, gC_sF, gC_sA, gD_sF, gD_sA, Nat.reduceLT, elT, Nat.reduceEqDiff, eq_self, and_self, and_true, true_and, and_false, false_and, reduceIte, fbB, qc_14_3, qc_15_2, qc_17_2, sbB, fb_15_5]; omega)))
  · refine hQ0 (by omega) _ ?_
    exact mi_bad hI0 (by simp only [Int.reduceToNat, Int.toNat_natCast, tN_add, tN_add1, tN_sub1, gF_grr, gT_grr, gL_grr, gA_grr, gC_grr, gF_sF, gA_sF, gL_sF, gV_sF, gF_sA, gA_sA, gL_sA, gV_sA, gF_sB, gA_sB, gL_sB, gV_sB, gF_nA, gA_nA, gL_nA, gV_nA, gT_nA, gF_mV, gA_mV, gL_mV, gV_mV, gT_mV, gT_sB, gT_sA, gT_sF, gK_sF, gK_sA, gK_sB, gF_grw, gT_grw, gL_grw, gA_grw, gC_grw, gD_grw, gC_sF, gC_sA, gD_sF, gD_sA, Nat.reduceLT, elT, Nat.reduceEqDiff, eq_self, and_self, and_true, true_and, and_false, false_and, reduceIte, fbB, qc_14_3, qc_15_2, qc_17_2, sbB, fb_15_5, e0]; exact hp)
  · exact hQ1 (by omega)
theorem b_deep {k e n N : Nat} {r : Int} {X : Tx} {σ : Sg} {Q : Option AV → Sg → Prop} {E : Int → Sg → Prop} (hk : 2 ≤ k) (hI : BI σ X N e n) (hQ : ∀ σₚ, BI σₚ X N e n → Q none σₚ) : Ct 2 256 k [vO 120, vI r] σ Q E := by
  have hb := hI.2.1.1
  refine ct_seg (il := (fun a => a == 252)) (mc := true) (fun _ => grow_ok) 90 [] (by decide) (Nat.le_of_ble_eq_true rfl) ?_
  repeat' (first | refine And.intro ?_ ?_ | (with_reducible intro c; try simp only [cmpI, cmpN, Classical.not_not, not_true_eq_false, not_false_eq_true, Int.reduceToNat, Int.toNat_natCast, tN_add, tN_add1, tN_sub1, gF_grr, gT_grr, gL_grr, gA_grr, gC_grr, gF_sF, gA_sF, gL_sF, gV_sF, gF_sA, gA_sA, gL_sA, gV_sA, gF_sB, gA_sB, gL_sB, gV_sB, gF_nA, gA_nA, gL_nA, gV_nA, gT_nA, gF_mV, gA_mV, gL_mV, gV_mV, gT_mV, gT_sB, gT_sA, gT_sF, gK_sF, gK_sA, gK_sB, gF_grw, gT_grw, gL_grw, gA_grw, gC_grw, gD_grw, gC_sF, gC_sA, gD_sF, gD_sA, Nat.reduceLT, elT, Nat.reduceEqDiff, eq_self, and_self, and_true, true_and, and_false, false_and, reduceIte, fbB, qc_14_3, qc_15_2, qc_17_2, sbB, fb_15_5] at c))
  all_goals (try first | with_reducible exact True.intro | with_reducible assumption | omega | ((with_reducible first | show (cond _ _ _ : Prop) | show swT _ _ _ _ _); exact True.intro) | ((with_reducible first | refine Eq.trans ?_ (Eq.refl _) | refine Nat.le_trans ?_ (Nat.le_refl _) | refine Int.le_trans ?_ (Int.le_refl _) | refine Nat.lt_of_lt_of_le ?_ (Nat.le_refl _) | refine Int.lt_of_lt_of_le ?_ (Int.le_refl _)); first | exact rfl | (simp only [Int.reduceToNat, Int.toNat_natCast, tN_add, tN_add1, tN_sub1, gF_grr, gT_grr, gL_grr, gA_grr, gC_grr, gF_sF, gA_sF, gL_sF, gV_sF, gF_sA, gA_sA, gL_sA, gV_sA, gF_sB, gA_sB, gL_sB, gV_sB, gF_nA, gA_nA, gL_nA, gV_nA, gT_nA, gF_mV, gA_mV, gL_mV, gV_mV, gT_mV, gT_sB, gT_sA, gT_sF, gK_sF, gK_sA, gK_sB, gF_grw, gT_grw, gL_grw, gA_grw, gC_grw, gD_grw, gC_sF, gC_sA, gD_sF, gD_sA, Nat.reduceLT, elT, Nat.reduceEqDiff, eq_self, and_self, and_true, true_and, and_false, false_and, reduceIte, fbB, qc_14_3, qc_15_2, qc_17_2, sbB, fb_15_5]; first | done | with_reducible assumption | omega)) | ((with_reducible refine And.intro ?_ ?_); all_goals (simp only [Int.reduceToNat, Int.toNat_natCast, tN_add, tN_add1, tN_sub1, gF_grr, gT_grr, gL_grr, gA_grr, gC_grr, gF_sF, gA_sF, gL_sF, gV_sF, gF_sA, gA_sA, gL_sA, gV_sA, gF_sB, gA_sB, gL_sB, gV_sB, gF_nA, gA_nA, gL_nA, gV_nA, gT_nA, gF_mV, gA_mV, gL_mV, gV_mV, gT_mV, gT_sB, gT_sA, gT_sF, gK_sF, gK_sA, gK_sB, gF_grw, gT_grw, gL_grw, gA_grw, gC_grw, gD_grw, gC_sF, gC_sA, gD_sF, gD_sA, Nat.reduceLT, elT, Nat.reduceEqDiff, eq_self, and_self, and_true, true_and, and_false, false_and, reduceIte, fbB, qc_14_3, qc_15_2, qc_17_2, sbB, fb_15_5]; omega)))
  all_goals exact hQ _ hI
end
