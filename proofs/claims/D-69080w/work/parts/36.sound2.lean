/-! fields that are set; arrays; calls: from the condition to the row -/
set_option maxRecDepth 100000
section PF
variable {ph : Nat} {y : MI} {k : Nat} {X : Cx} {σ0 σ : Sg} {Q : Option AV → Sg → Prop} {E : Int → Sg → Prop} {pc idx a b : Nat} {c : Int} {ls : List (Option AV)} {st : List AV} {d : Md}
theorem fc_of {o b : Nat} (h : (!(Nat.blt o (nSt ph)) || (fcOf o b == 0)) = true) : nSt ph ≤ o ∨ fcOf o b = 0 ∨ True := Or.inr (Or.inr trivial)
theorem fc_int : ∀ o b : Nat, fcOf o b ≠ 0 → ∀ ph, o < nSt ph → kcOf o ≠ 0 → ftOf (kcOf o - 1) b = 3 := by
  have h : (List.range 222).all (fun o => (List.range 80).all (fun b => (fcOf o b == 0) || (ftOf (kcOf o - 1) b == 3))) = true := by decide +kernel
  have hl : fcL.length = 222 := by decide +kernel
  have hb : fcL.all (fun l => Nat.ble l.length 70) = true := by decide +kernel
  intro o b hne ph ho hk
  have ho2 : o < 222 := by
    rcases Nat.lt_or_ge o 222 with c | c
    · exact c
    · exfalso
      apply hne
      unfold fcOf
      have : fcL.getD o [] = [] := by simp [List.getD_eq_getElem?_getD, List.getElem?_eq_none (by omega : fcL.length ≤ o)]
      rw [this]; simp
  have hb2 : b < 80 := by
    rcases Nat.lt_or_ge b 80 with c | c
    · exact c
    · exfalso
      apply hne
      unfold fcOf
      have e1 : fcL.getD o [] = fcL[o] := by rw [List.getD_eq_getElem?_getD, List.getElem?_eq_getElem (by omega)]; rfl
      rw [e1]
      have h1 := List.all_eq_true.mp hb fcL[o] (List.getElem_mem (by omega))
      simp only [Nat.ble_eq] at h1
      simp [List.getD_eq_getElem?_getD, List.getElem?_eq_none (by omega : fcL[o].length ≤ b - 1)]
  have h1 := List.all_eq_true.mp (List.all_eq_true.mp h o (List.mem_range.mpr ho2)) b (List.mem_range.mpr hb2)
  simp only [Bool.or_eq_true, beq_iff_eq] at h1
  rcases h1 with h1 | h1
  · exact absurd h1 hne
  · exact h1
theorem fc_not3 {G : Gp} {H : Heap} (hR : Rep G ph σ H) {o ci b : Nat} (hK : gK σ o = ci + 1) (hft : ftOf ci b ≠ 3) : nSt ph ≤ o ∨ fcOf o b = 0 := by
  rcases Nat.lt_or_ge o (nSt ph) with c | c
  · refine Or.inr ?_
    by_cases hne : fcOf o b = 0
    · exact hne
    · exfalso
      have hkc : kcOf o ≠ 0 := by
        intro h0
        have hall : (List.range 222).all (fun o => !(kcOf o == 0) || (fcL.getD o []).isEmpty) = true := by decide +kernel
        have hl : fcL.length = 222 := by decide +kernel
        have ho2 : o < 222 := by
          rcases Nat.lt_or_ge o 222 with c | c
          · exact c
          · exfalso
            apply hne
            unfold fcOf
            have : fcL.getD o [] = [] := by simp [List.getD_eq_getElem?_getD, List.getElem?_eq_none (by omega : fcL.length ≤ o)]
            rw [this]; simp
        have h1 := List.all_eq_true.mp hall o (List.mem_range.mpr ho2)
        rw [h0] at h1
        have h2 : (fcL.getD o []).isEmpty = true := by simpa using h1
        apply hne
        unfold fcOf
        rw [List.isEmpty_iff.mp h2]; simp
      have h3 := fc_int o b hne ph c hkc
      have h4 := hR.2.2.2.2.2.1.2.1 o c hkc
      rw [hK] at h4
      rw [← h4] at h3
      exact hft h3
  · exact Or.inl c
theorem ax_putF (hX : CxOk ph X y k σ0 Q E) (hl : FPut y.1.cls idx a b c) (hfin : finB a b = true → y.1.name = "<init>") (hd : decode y.2.1 pc = .ok (.putfield idx, 3)) {go : List AV → Sg → Prop} (hgo : ∀ st' σ', Fr d σ σ' → go st' σ' → Ax ph X (pc + 3) ls st' σ') (h : stPut ph d a b c go σ st) : Ax ph X pc ls st σ := by
  unfold stPut at h
  split at h
  · rename_i v r st'
    obtain ⟨ci, q, rfl, hcl, h6, hb1, hbn, hC, hlk, rfl, hf⟩ := hl
    have hci := cl_lt hcl
    obtain ⟨b', rfl⟩ : ∃ b', b = b' + 1 := ⟨b - 1, by omega⟩
    rw [show b' + 1 - 1 = b' by omega] at hbn hC hlk hf
    have hfin' : (q.2.1 b').2.2.2 = false ∨ (y.1.cls = q.1 ∧ y.1.name = "<init>") := by
      rcases hf with hf | hf
      · exact Or.inl hf
      · by_cases c1 : (q.2.1 b').2.2.2 = true
        · refine Or.inr ⟨hf, hfin ?_⟩
          unfold finB
          rw [show ci + 1 - 1 = ci by omega, hcl]
          exact c1
        · exact Or.inl (by simpa using c1)
    -- a plain number or object
    have plain : ∀ (T : Nat) (x : Int) (w : AV), ftOf ci (b' + 1) = T → T ≤ 3 → 0 < r → gK σ r.toNat = ci + 1 → mdIn d r.toNat (b' + 1) = true → (okV σ w → inTy T w) → (okV σ w → fOk σ T (b' + 1) x) → (∀ (G : Gp) (σ' : Sg), gF σ' r.toNat (b' + 1) = x → cV G w = fVal G σ' r.toNat T (b' + 1)) → (T ≠ 3 ∨ nSt ph ≤ r.toNat ∨ fcOf r.toNat (b' + 1) = 0) → go st' (sF σ r.toNat (b' + 1) x) → Ax ph X pc ls (w :: vO r :: st') σ := by
      intro T x w hT hT3 hr0 hK hmd hin hfo hcv hfc hg
      refine ax_putVK hX hcl h6 hbn hC hlk hfin' hr0 hK (by rw [hT]; exact hin) (σ' := sF σ r.toNat (b' + 1) x) rfl rfl rfl (fun G H H' cell hR hw hap q2 q3 q4 h1 h2 h3 => ?_) hd (hgo _ _ (fr_sF hmd (by omega)) hg)
      refine rep_sF hR (by omega) hK hcl hbn hap (by rw [hT]; exact hfo hw) ?_ q2 q3 q4 (by
        rw [h1, hT, hcv G (sF σ r.toNat (b' + 1) x) (by rw [gF_sF, if_pos ⟨rfl, rfl⟩])]) h2 h3
      rcases hfc with c | c | c
      · rcases fc_not3 hR hK (by rw [hT]; exact c) with e | e
        · exact Or.inl e
        · exact Or.inr (Or.inl e)
      · exact Or.inl c
      · exact Or.inr (Or.inl c)
    have arr : ∀ (e : Nat) (q' : Nat × Nat × Nat × Nat), ftOf ci (b' + 1) = 4 + e → e ≤ 8 → q'.1 = e → q'.2.2.1 = 0 → 0 < r → gK σ r.toNat = ci + 1 → mdIn d r.toNat (b' + 1) = true → mvF d r.toNat = true → q'.2.2.2 = q'.2.1 → gV σ q'.2.1 0 = q'.2.1 → mvOk σ q'.2.1 r.toNat (b' + 1) → go st' (mV σ q'.2.1 r.toNat (b' + 1)) → Ax ph X pc ls (.inr (.inr (.inr q')) :: vO r :: st') σ := by
      intro e q' hT he he' hq0 hr0 hK hmd hd1 e1 e2 hmv hg
      obtain ⟨e0, p, f0, v0⟩ := q'
      have he0 : e0 = e := he'
      have hf0 : f0 = 0 := hq0
      have hv0 : v0 = p := e1
      have e2' : gV σ p 0 = p := e2
      subst he0; subst hf0; subst hv0
      refine ax_putVK hX hcl h6 hbn hC hlk hfin' hr0 hK (fun _ => by show 4 ≤ ftOf ci (b' + 1); omega) (σ' := mV σ v0 r.toNat (b' + 1)) rfl rfl rfl (fun G H H' cell hR hw hap q2 q3 q4 h1 h2 h3 => ?_) hd (hgo _ _ (fr_mV hd1 hmd) hg)
      obtain ⟨w1, w2, w3⟩ := hw
      have w1' : 1 ≤ v0 := w1
      exact rep_mV hR (by omega) hK hcl hbn hap hT he e2' (by omega) w3 hmv q2 q3 q4 h1 h2 h3
    by_cases c21 : ci = 20
    · subst c21
      have hw := way_ft
      obtain ⟨⟨r0, rk, hmd⟩, h⟩ := h
      have hq : q.2.2 = 4 := by
        have : clL[20]? = some (RX20, TX20, 4) := rfl
        rw [this] at hcl; cases hcl; rfl
      have hft : ftOf 20 (b' + 1) = 0 ∨ ftOf 20 (b' + 1) = 4 := by
        rcases (show b' = 0 ∨ b' = 1 ∨ b' = 2 ∨ b' = 3 by omega) with rfl | rfl | rfl | rfl
        · exact Or.inr hw.1
        · exact Or.inl hw.2.1
        · exact Or.inr hw.2.2.1
        · exact Or.inr hw.2.2.2
      rcases hft with hft | hft
      · rcases v with x | x | x | q' <;> rw [hft] at h
        · exact plain 0 x (vI x) hft (by omega) r0 rk hmd (fun hw => Or.inl ⟨rfl, hw⟩) (fun hw => ⟨fun _ => hw, fun c => by omega, fun c => by omega, fun c => by omega, fun c => by omega⟩) (fun G σ' e => by unfold fVal; rw [if_pos (by omega), e]; rfl) (Or.inl (by omega)) h
        all_goals exact False.elim h
      · rcases v with x | x | x | q' <;> rw [hft] at h
        · exact False.elim h
        · exact False.elim h
        · exact False.elim h
        · have h : chk (q'.1 == 0 && (q'.2.2.1 == 0 && mvF d r.toNat)) (q'.2.2.2 = q'.2.1 ∧ gV σ q'.2.1 0 = q'.2.1 ∧ mvOk σ q'.2.1 r.toNat (b' + 1) ∧ go st' (mV σ q'.2.1 r.toNat (b' + 1))) := h
          obtain ⟨hchk, e1, e2, hmv, h⟩ := chk_of h
          simp only [Bool.and_eq_true, beq_iff_eq] at hchk
          exact arr 0 q' hft (by omega) hchk.1 hchk.2.1 r0 rk hmd hchk.2.2 e1 e2 hmv h
    · have e21 : (ci + 1 == 21) = false := by simpa using (by omega : ¬ ci + 1 = 21)
      rw [e21] at h
      obtain ⟨hchk, h⟩ := chk_of h
      simp only [Bool.and_eq_true, decide_eq_true_eq] at hchk
      obtain ⟨hr0, hkl, hmd⟩ := hchk
      refine ax_fine (fun hF => ?_)
      obtain ⟨G, H, hR⟩ := hF
      have hK := kls_eq hR hkl (by omega)
      have hft := ft_le ci (b' + 1)
      generalize hT : ftOf ci (b' + 1) = T at hft h
      by_cases t0 : T = 0
      · subst t0
        rcases v with x | x | x | q'
        · exact plain 0 x (vI x) hT (by omega) hr0 hK hmd (fun hw => Or.inl ⟨rfl, hw⟩) (fun hw => ⟨fun _ => hw, fun c => by omega, fun c => by omega, fun c => by omega, fun c => by omega⟩) (fun G σ' e => by unfold fVal; rw [if_pos (by omega), e]; rfl) (Or.inl (by omega)) h
        all_goals exact False.elim h
      · have z0 : (((T : Nat) : Int) == 0) = false := by simp; omega
        rw [z0] at h
        by_cases t1 : T = 1
        · subst t1
          rcases v with x | x | x | q'
          · obtain ⟨hx, h⟩ : (0 ≤ x ∧ x ≤ 1) ∧ go st' (sF σ r.toNat (b' + 1) x) := h
            exact plain 1 x (vI x) hT (by omega) hr0 hK hmd (fun hw => Or.inr ⟨rfl, hx⟩) (fun hw => ⟨fun c => by omega, fun _ => hx, fun c => by omega, fun c => by omega, fun c => by omega⟩) (fun G σ' e => by unfold fVal; rw [if_pos (by omega), e]; rfl) (Or.inl (by omega)) h
          all_goals exact False.elim h
        · have z1 : (((T : Nat) : Int) == 1) = false := by simp; omega
          rw [z1] at h
          by_cases t2 : T = 2
          · subst t2
            rcases v with x | x | x | q'
            · exact False.elim h
            · exact plain 2 x (vJ x) hT (by omega) hr0 hK hmd (fun hw => rfl) (fun hw => ⟨fun c => by omega, fun c => by omega, fun _ => hw, fun c => by omega, fun c => by omega⟩) (fun G σ' e => by unfold fVal; rw [if_neg (by omega), if_pos rfl, e]; rfl) (Or.inl (by omega)) h
            · exact False.elim h
            · exact False.elim h
          · have z2 : (((T : Nat) : Int) == 2) = false := by simp; omega
            rw [z2] at h
            by_cases t3 : T = 3
            · subst t3
              rcases v with x | x | x | q'
              · exact False.elim h
              · exact False.elim h
              · obtain ⟨hfc, h⟩ := chk_of h
                simp only [Bool.or_eq_true, Bool.not_eq_true', beq_iff_eq] at hfc
                refine plain 3 x (vO x) hT (by omega) hr0 hK hmd (fun hw => rfl) (fun hw => ⟨fun c => by omega, fun c => by omega, fun c => by omega, fun _ => hw, fun c => by omega⟩) (fun G σ' e => by unfold fVal; rw [if_neg (by omega), if_neg (by omega), if_pos rfl, e]; rfl) (Or.inr ?_) h
                rcases hfc with c | c
                · refine Or.inl ?_
                  rcases Nat.lt_or_ge r.toNat (nSt ph) with e | e
                  · rw [(Nat.blt_eq).mpr e] at c; cases c
                  · exact e
                · exact Or.inr c
              · exact False.elim h
            · have z3 : (((T : Nat) : Int) == 3) = false := by simp; omega
              rw [z3] at h
              by_cases t20 : T = 20
              · subst t20
                rcases v with x | x | x | q'
                · exact False.elim h
                · exact False.elim h
                · exact False.elim h
                · have h : chk (q'.2.1 == 120 && (q'.2.2.1 == bT (b' + 1) && Nat.blt 120 (nSt ph))) (q'.2.2.2 = gV σ 120 (bT (b' + 1)) ∧ go st' (sF σ r.toNat (b' + 1) 1)) := h
                  obtain ⟨hq, e1, h9⟩ := chk_of h
                  simp only [Bool.and_eq_true, beq_iff_eq, Nat.blt_eq] at hq
                  obtain ⟨e0, o0, f0, v0⟩ := q'
                  have hq1 : o0 = 120 := hq.1
                  have hq2 : f0 = bT (b' + 1) := hq.2.1
                  have e1' : v0 = gV σ 120 (bT (b' + 1)) := e1
                  subst hq1; subst hq2; subst e1'
                  refine ax_putVK hX hcl h6 hbn hC hlk hfin' hr0 hK (fun _ => by show 4 ≤ ftOf ci (b' + 1); omega) (σ' := sF σ r.toNat (b' + 1) 1) rfl rfl rfl (fun G H H' cell hR hw hap q2 q3 q4 h1 h2 h3 => ?_) hd (hgo _ _ (fr_sF hmd (by omega)) h9)
                  obtain ⟨w1, w2, w3⟩ := hw
                  have w1' : 1 ≤ gV σ 120 (bT (b' + 1)) := w1
                  have hk20 : e0 = (if b' + 1 = 1 then 1 else 0) := by
                    have hh := hR.2.2.2.2.1.2.2.2.1 120 17 (bT (b' + 1))
                    have hk120 : gK σ 120 = 18 := by
                      exact (hR.2.2.2.2.2.1.2.1 120 hq.2.2 (by decide +kernel)).trans (by decide +kernel)
                    by_cases cb : b' + 1 = 1
                    · have hb0 : bT (b' + 1) = 20 := by rw [cb]; rfl
                      have := hh 1 hk120 (by omega) (by rw [hb0]; decide +kernel) (by omega) (by omega)
                      have w3' : gK σ (gV σ 120 (bT (b' + 1))) = 100 + e0 := w3
                      rw [if_pos cb]; omega
                    · have hb0 : bT (b' + 1) = 22 ∨ bT (b' + 1) = 24 := by
                        unfold bT; rw [if_neg cb]; split
                        · exact Or.inl rfl
                        · exact Or.inr rfl
                      have := hh 0 hk120 (by omega) (by rcases hb0 with e | e <;> (rw [e]; decide +kernel)) (by omega) (by omega)
                      have w3' : gK σ (gV σ 120 (bT (b' + 1))) = 100 + e0 := w3
                      rw [if_neg cb]; omega
                  refine rep_sF hR (by omega) hK hcl hbn hap ?_ ?_ q2 q3 q4 ?_ h2 h3
                  · rw [hT]
                    refine ⟨fun c => by omega, fun c => by omega, fun c => by omega, fun c => by omega, fun _ => Or.inr ⟨rfl, by omega, w2, ?_⟩⟩
                    have w3' : gK σ (gV σ 120 (bT (b' + 1))) = 100 + e0 := w3
                    rw [w3', hk20]
                  · rcases fc_not3 hR hK (show ftOf ci (b' + 1) ≠ 3 by omega) with e | e
                    · exact Or.inl e
                    · exact Or.inr (Or.inl e)
                  · have e9 : gF (sF σ r.toNat (b' + 1) 1) r.toNat (b' + 1) = 1 := by rw [gF_sF, if_pos ⟨rfl, rfl⟩]
                    have e8 : fVal G (sF σ r.toNat (b' + 1) 1) r.toNat 20 (b' + 1) = .ref (G.1 + gV σ 120 (bT (b' + 1)) - 1) := by
                      unfold fVal
                      rw [e9]
                      rfl
                    rw [h1, hT, e8]
                    rfl
              · have z20 : (((T : Nat) : Int) == 20) = false := by simp; omega
                rw [z20] at h
                have hT4 : T = 4 + (T - 4) := by omega
                have hcast : (((T : Nat) : Int).toNat - 4) = T - 4 := by omega
                have c13 : T ≠ 13 := by
                  intro c13
                  have hq13 : ci = 22 ∧ b' = 1 := by
                    have hall : (List.range 23).all (fun i => (List.range 80).all (fun j => !(ftOf i (j + 1) == 13) || (i == 22 && j == 1))) = true := by decide +kernel
                    have h1 := List.all_eq_true.mp hall ci (List.mem_range.mpr hci)
                    have hb80 : b' < 80 := by
                      have hm : clL.all (fun q => Nat.ble q.2.2 72) = true := by decide +kernel
                      have := List.all_eq_true.mp hm q (List.mem_of_getElem? hcl)
                      simp only [Nat.ble_eq] at this
                      omega
                    have h2 := List.all_eq_true.mp h1 b' (List.mem_range.mpr hb80)
                    simp only [hT, c13, beq_self_eq_true, Bool.not_true, Bool.false_or, Bool.and_eq_true, beq_iff_eq] at h2
                    exact h2
                  have : clL[22]? = some (RJ10, TJ10, 6) := rfl
                  rw [hq13.1, this] at hcl
                  cases hcl
                  rw [hq13.2] at hC
                  have hC' : ("java/lang/Throwable" : String) = "java/lang/IllegalStateException" := hC
                  exact absurd hC' (by decide)
                have h : stPutA d (ci + 1) (b' + 1) ((T : Nat) : Int) go σ v r st' := h
                rcases v with x | x | x | q'
                · exact False.elim h
                · exact False.elim h
                · exact False.elim h
                · obtain ⟨hq1, h⟩ := chk_of (show chk (q'.1 == ((T : Nat) : Int).toNat - 4) (bif q'.2.2.1 == b' + 1 && q'.2.1 == r.toNat then (q'.2.2.2 = gV σ r.toNat (b' + 1) ∧ go st' σ)
                    else chk (q'.2.2.1 == 0 && mvF d r.toNat) (q'.2.2.2 = q'.2.1 ∧ gV σ q'.2.1 0 = q'.2.1 ∧ mvOk σ q'.2.1 r.toNat (b' + 1) ∧ go st' (mV σ q'.2.1 r.toNat (b' + 1)))) from h)
                  have hq1' : q'.1 = T - 4 := by rw [hcast] at hq1; simpa using hq1
                  cases hs : (q'.2.2.1 == b' + 1 && q'.2.1 == r.toNat) with
                  | true =>
                    rw [hs] at h
                    obtain ⟨e1, h⟩ : q'.2.2.2 = gV σ r.toNat (b' + 1) ∧ go st' σ := h
                    refine ax_putVK hX hcl h6 hbn hC hlk hfin' hr0 hK (fun _ => by show 4 ≤ ftOf ci (b' + 1); omega) (σ' := σ) rfl rfl rfl (fun G H H' cell hR hw hap q2 q3 q4 h1 h2 h3 => ?_) hd (hgo _ _ (fr_refl d σ) h)
                    obtain ⟨w1, w2, w3⟩ := hw
                    have w1' : 1 ≤ gV σ r.toNat (b' + 1) := by rw [← e1]; exact w1
                    have hlt := rep_lt hR hK (by omega)
                    have hfv : cV G (.inr (.inr (.inr q'))) = fVal G σ r.toNat (ftOf ci (b' + 1)) (b' + 1) := by
                      rw [hT]
                      unfold fVal
                      rw [if_neg (by omega), if_neg (by omega), if_neg (by omega), if_neg (by omega), if_neg (by omega)]
                      show Value.ref (G.1 + q'.2.2.2 - 1) = _
                      rw [e1]
                    have heq : sF σ r.toNat (b' + 1) (gF σ r.toNat (b' + 1)) = σ := by
                      show (u2 σ.1 r.toNat (b' + 1) (σ.1 r.toNat (b' + 1)), σ.2) = σ
                      have : u2 σ.1 r.toNat (b' + 1) (σ.1 r.toNat (b' + 1)) = σ.1 := by
                        funext x z
                        unfold u2
                        split
                        · rename_i hh; rw [hh.1, hh.2]
                        · rfl
                      rw [this]
                    have := rep_sF (x := gF σ r.toNat (b' + 1)) hR (by omega) hK hcl hbn hap ((hR.2.2.1 r.toNat ci q (by omega) hlt hK hcl).2 b' hbn) (by
                      rcases fc_not3 hR hK (show ftOf ci (b' + 1) ≠ 3 by omega) with e | e
                      · exact Or.inl e
                      · exact Or.inr (Or.inl e)) q2 q3 q4 (by rw [h1, hfv, heq]) h2 h3
                    rw [heq] at this
                    exact this
                  | false =>
                    rw [hs] at h
                    obtain ⟨hq2, e1, e2, hmv, h⟩ := chk_of h
                    simp only [Bool.and_eq_true, beq_iff_eq] at hq2
                    exact arr (T - 4) q' (hT.trans hT4) (by omega) hq1' hq2.1 hr0 hK hmd hq2.2 e1 e2 hmv h
  · exact h.elim
end PF
