/-! THE WALK's CONDITION SUFFICES -/
set_option maxRecDepth 100000
def GrowOk : Prop := ∀ (ph : Nat) (X : Cx) (y : MI) (k : Nat) (σ0 : Sg) (Q : Option AV → Sg → Prop) (E : Int → Sg → Prop) (d : Md) (pc idx idx2 a f : Nat) (c : Int) (ls : List (Option AV)) (st : List AV) (σ : Sg), CxOk ph X y k σ0 Q E → HndO y → decode y.2.1 pc = .ok (.invokestatic idx, 3) → decode y.2.1 (pc + 3) = .ok (.putfield idx2, 3) → 2000 ≤ a → CallS y.1.cls idx a f →
  FPut y.1.cls idx2 c.toNat f (if a = 2004 then 7 else 4) → Low σ → (finB c.toNat f = true → y.1.name = "<init>") → stGrow d k a f c (fun st σ' => Ax ph X (pc + 6) ls st σ') σ st → Ax ph X pc ls st σ
theorem law_only : ∀ a, a < 453 → (mY a).1.cls ≠ "CircuitWardenLaw" := by
  have h : (mL.take 453).all (fun y => !(y.1.cls == "CircuitWardenLaw")) = true := by decide +kernel
  have hl : mL.length = 454 := by decide +kernel
  intro a ha
  have h1 := List.all_eq_true.mp h (mY a) (by
    unfold mY
    rw [List.getD_eq_getElem?_getD, List.getElem?_eq_getElem (by omega)]
    show mL[a] ∈ _
    rw [List.mem_take_iff_getElem]
    exact ⟨a, by omega, rfl⟩)
  simpa using h1
section GF
variable {ph : Nat} {y : MI} {k : Nat} {X : Cx} {σ0 σ : Sg} {Q : Option AV → Sg → Prop} {E : Int → Sg → Prop} {pc idx a b : Nat} {c : Int} {ls : List (Option AV)} {st : List AV}
theorem str_lt {r : Int} {cs : List Int} (h : strOf r = some cs) : ∃ n : Nat, 1 ≤ n ∧ n < 300 ∧ r = -(n : Int) ∧ (n, cs) ∈ strL ∧ cs.length < 20 ∧ ∀ x ∈ cs, 0 ≤ x ∧ x ≤ 127 := by
  have hall : strL.all (fun q => decide (1 ≤ q.1 ∧ q.1 < 300 ∧ q.2.length < 20) && q.2.all (fun x => decide (0 ≤ x ∧ x ≤ 127))) = true := by decide +kernel
  unfold strOf at h
  cases hf : strL.find? (fun q => q.1 == (-r).toNat) with
  | none => rw [hf] at h; cases h
  | some q =>
    rw [hf] at h
    have hm := List.mem_of_find?_eq_some hf
    have hp := List.find?_some hf
    have h2 := List.all_eq_true.mp hall q hm
    simp only [Bool.and_eq_true, decide_eq_true_eq, List.all_eq_true] at h2
    have he : q.2 = cs := Option.some.inj h
    have hp' : q.1 = (-r).toNat := by simpa using hp
    refine ⟨q.1, h2.1.1, h2.1.2.1, by omega, by rw [← he]; exact hm, by rw [← he]; exact h2.1.2.2, fun x hx => h2.2 x (by rw [he]; exact hx)⟩
theorem fcO_ne {G : Gp} {H : Heap} (hR : Rep G ph σ H) {o b : Nat} (h1 : o < nSt ph) (h2 : fcOf o b ≠ 0) : gF σ o b = fcOf o b := hR.2.2.2.2.2.1.2.2.1 o b h1 h2
theorem ft_le (ci b : Nat) : ftOf ci b ≤ 13 ∨ ftOf ci b = 20 := by
  have h : ftL.all (fun l => l.all (fun t => Nat.ble t 13 || t == 20)) = true := by decide +kernel
  unfold ftOf
  by_cases c1 : ci < ftL.length
  · have e1 : ftL.getD ci [] = ftL[ci] := by simp [c1]
    rw [e1]
    have h1 := List.all_eq_true.mp h ftL[ci] (List.getElem_mem c1)
    by_cases c2 : b - 1 < ftL[ci].length
    · have e2 : ftL[ci].getD (b - 1) 0 = ftL[ci][b - 1] := by simp [c2]
      rw [e2]
      have h2 := List.all_eq_true.mp h1 _ (List.getElem_mem c2)
      simpa using h2
    · have e2 : ftL[ci].getD (b - 1) 0 = 0 := by simp [List.getD_eq_getElem?_getD, List.getElem?_eq_none (Nat.not_lt.mp c2)]
      rw [e2]; omega
  · have e1 : ftL.getD ci [] = [] := by simp [List.getD_eq_getElem?_getD, List.getElem?_eq_none (Nat.not_lt.mp c1)]
    rw [e1]; simp
theorem way_ft : ftOf 20 1 = 4 ∧ ftOf 20 2 = 0 ∧ ftOf 20 3 = 4 ∧ ftOf 20 4 = 4 := by decide +kernel
/-- a field that is read -/
theorem ax_getF (hX : CxOk ph X y k σ0 Q E) (hl : FGet y.1.cls idx a b c) (hd : decode y.2.1 pc = .ok (.getfield idx, 3)) {go : List AV → Prop} (hgo : ∀ st', go st' → Ax ph X (pc + 3) ls st' σ) (h : stGet ph a b c go σ st) : Ax ph X pc ls st σ := by
  unfold stGet at h
  split at h
  · rename_i r st'
    rcases hl with ⟨rfl, rfl, hl⟩ | ⟨rfl, rfl, hl⟩ | ⟨rfl, rfl, hl⟩ | ⟨rfl, rfl, hl⟩ | ⟨ci, q, rfl, hcl, h6, hb1, hbn, hC, hlk, rfl⟩
    · obtain ⟨⟨r1, r2⟩, h⟩ : (-52 ≤ r ∧ r ≤ -1) ∧ go (vO (r - 99) :: st') := h
      refine ax_getC hX hl (v := vO (r - 99)) (fun G s hC => ?_) (Or.inr ⟨by omega, by omega⟩) hd (hgo _ h)
      obtain ⟨a, b, c1, c2, c3, c4, c5, c6⟩ := hC.1 (-r - 1).toNat (by omega)
      refine ⟨a, ?_, ?_⟩
      · have := cO_neg (by omega) c1
        rw [show -(((-r - 1).toNat + 1 : Nat) : Int) = r by omega] at this
        exact this
      · have e1 := cO_neg (by omega) c2
        rw [show -((100 + (-r - 1).toNat : Nat) : Int) = r - 99 by omega] at e1
        show va_OF _ _ _ (cO G (r - 99)) a (oA G) s G.2.1
        rw [e1]; exact c6
    · obtain ⟨⟨r1, r2⟩, h⟩ : (-52 ≤ r ∧ r ≤ -1) ∧ go (vI (-r - 1) :: st') := h
      refine ax_getC hX hl (v := vI (-r - 1)) (fun G s hC => ?_) (show in32 (-r - 1) by unfold in32; omega) hd (hgo _ h)
      obtain ⟨a, b, c1, c2, c3, c4, c5, c6⟩ := hC.1 (-r - 1).toNat (by omega)
      refine ⟨a, ?_, ?_⟩
      · have := cO_neg (by omega) c1
        rw [show -(((-r - 1).toNat + 1 : Nat) : Int) = r by omega] at this
        exact this
      · show va_OF _ _ _ (.int (Int32.ofInt (-r - 1))) a (oA G) s G.2.1
        rw [show -r - 1 = ((-r - 1).toNat : Int) by omega]; exact c5
    · obtain ⟨h1, h⟩ : (strOf r).isSome = true ∧ go (vO (r - 300) :: st') := h
      obtain ⟨cs, hcs⟩ := Option.isSome_iff_exists.mp h1
      obtain ⟨n, n1, n2, rfl, n4, -, -⟩ := str_lt hcs
      refine ax_getC hX hl (v := vO (-(n : Int) - 300)) (fun G s hC => ?_) (Or.inr ⟨by omega, by omega⟩) hd (hgo _ h)
      obtain ⟨a, b, c1, c2, c3, c4, c5, c6⟩ := hC.2.1 _ n4
      refine ⟨a, cO_neg n1 c1, ?_⟩
      have e1 := cO_neg (by omega) c2
      rw [show -((n + 300 : Nat) : Int) = -(n : Int) - 300 by omega] at e1
      show va_OF _ _ _ (cO G (-(n : Int) - 300)) a (oA G) s G.2.1
      rw [e1]; exact c5
    · obtain ⟨h1, h⟩ : (strOf r).isSome = true ∧ go (vI 0 :: st') := h
      obtain ⟨cs, hcs⟩ := Option.isSome_iff_exists.mp h1
      obtain ⟨n, n1, n2, rfl, n4, -, -⟩ := str_lt hcs
      refine ax_getC hX hl (v := vI 0) (fun G s hC => ?_) (show in32 0 by unfold in32; omega) hd (hgo _ h)
      obtain ⟨a, b, c1, c2, c3, c4, c5, c6⟩ := hC.2.1 _ n4
      exact ⟨a, cO_neg n1 c1, c4⟩
    · have hci := cl_lt hcl
      have e7 : (ci + 1 == 7) = false := by simpa using (by omega : ¬ ci + 1 = 7)
      have e30 : (ci + 1 == 30) = false := by simpa using (by omega : ¬ ci + 1 = 30)
      rw [e7, e30] at h
      obtain ⟨b', rfl⟩ : ∃ b', b = b' + 1 := ⟨b - 1, by omega⟩
      rw [show b' + 1 - 1 = b' by omega] at hbn hC hlk
      by_cases c21 : ci = 20
      · subst c21
        have hw := way_ft
        obtain ⟨⟨r0, rk⟩, h⟩ : (0 < r ∧ gK σ r.toNat = 21) ∧ (bif ((ftOf 20 (b' + 1) : Nat) : Int) == 0 then go (vI (gF σ r.toNat (b' + 1)) :: st') else (gV σ r.toNat (b' + 1) ≠ 0 ∧ go (vA 0 r.toNat (b' + 1) (gV σ r.toNat (b' + 1)) :: st'))) := h
        have hq : q.2.2 = 4 := by
          have : clL[20]? = some (RX20, TX20, 4) := rfl
          rw [this] at hcl; cases hcl; rfl
        have hft : ftOf 20 (b' + 1) = 0 ∨ ftOf 20 (b' + 1) = 4 := by
          rcases (show b' = 0 ∨ b' = 1 ∨ b' = 2 ∨ b' = 3 by omega) with rfl | rfl | rfl | rfl
          · exact Or.inr hw.1
          · exact Or.inl hw.2.1
          · exact Or.inr hw.2.2.1
          · exact Or.inr hw.2.2.2
        rcases hft with hft | hft
        · rw [hft] at h
          exact ax_getVK hX hcl h6 hbn hC hlk r0 rk (v := vI (gF σ r.toNat (b' + 1))) (fun G H hR hfo => by
            rw [hft] at hfo ⊢
            exact ⟨by unfold fVal; rw [if_pos (by omega)]; rfl, hfo.1 rfl⟩) hd (hgo _ h)
        · rw [hft] at h
          obtain ⟨hv0, h⟩ : gV σ r.toNat (b' + 1) ≠ 0 ∧ go (vA 0 r.toNat (b' + 1) (gV σ r.toNat (b' + 1)) :: st') := h
          exact ax_getVK hX hcl h6 hbn hC hlk r0 rk (v := vA 0 r.toNat (b' + 1) (gV σ r.toNat (b' + 1))) (fun G H hR hfo => by
            rw [hft]
            refine ⟨by unfold fVal; rw [if_neg (by omega), if_neg (by omega), if_neg (by omega), if_neg (by omega), if_neg hv0]; rfl, by show 1 ≤ gV σ r.toNat (b' + 1); omega, gV_lt hR _ _, ?_⟩
            exact hR.2.2.2.2.1.2.2.2.1 r.toNat 20 (b' + 1) 0 rk (by omega) hft (by omega) hv0) hd (hgo _ h)
      · have e21 : (ci + 1 == 21) = false := by simpa using (by omega : ¬ ci + 1 = 21)
        rw [e21] at h
        obtain ⟨hchk, h⟩ := chk_of h
        simp only [Bool.and_eq_true, decide_eq_true_eq] at hchk
        obtain ⟨hr0, hkl⟩ := hchk
        have hft := ft_le ci (b' + 1)
        generalize hT : ftOf ci (b' + 1) = T at hft h
        have hvA : ∀ (e : Nat), T = 4 + e → e ≤ 9 → (∀ (G : Gp) (H : Heap), Rep G ph σ H → gV σ r.toNat (b' + 1) ≠ 0) → ∀ (G : Gp) (H : Heap), Rep G ph σ H → gK σ r.toNat = ci + 1 → fOk σ (ftOf ci (b' + 1)) (b' + 1) (gF σ r.toNat (b' + 1)) → e ≤ 8 → cV G (vA e r.toNat (b' + 1) (gV σ r.toNat (b' + 1))) = fVal G σ r.toNat (ftOf ci (b' + 1)) (b' + 1) ∧ okV σ (vA e r.toNat (b' + 1) (gV σ r.toNat (b' + 1))) := by
          intro e he he9 hnz G H hR hK hfo he8
          have hv0 := hnz G H hR
          rw [hT, he]
          refine ⟨by unfold fVal; rw [if_neg (by omega), if_neg (by omega), if_neg (by omega), if_neg (by omega), if_neg hv0]; rfl, by show 1 ≤ gV σ r.toNat (b' + 1); omega, gV_lt hR _ _, ?_⟩
          exact hR.2.2.2.2.1.2.2.2.1 r.toNat ci (b' + 1) e hK hci (by rw [hT, he]) he8 hv0
        by_cases t1 : T ≤ 1
        · have : (((T : Nat) : Int) == 0 || ((T : Nat) : Int) == 1) = true := by
            rcases (show T = 0 ∨ T = 1 by omega) with rfl | rfl <;> rfl
          rw [this] at h
          exact ax_getV hX hcl h6 hbn hC hlk hr0 hkl (v := vI (gF σ r.toNat (b' + 1))) (fun G H hR hK hfo => by
            rw [hT] at hfo ⊢
            refine ⟨by unfold fVal; rw [if_pos t1]; rfl, ?_⟩
            rcases (show T = 0 ∨ T = 1 by omega) with rfl | rfl
            · exact hfo.1 rfl
            · have := hfo.2.1 rfl; show in32 _; unfold in32; omega) hd (hgo _ h)
        · have z01 : (((T : Nat) : Int) == 0 || ((T : Nat) : Int) == 1) = false := by simp; omega
          rw [z01] at h
          by_cases t2 : T = 2
          · subst t2
            exact ax_getV hX hcl h6 hbn hC hlk hr0 hkl (v := vJ (gF σ r.toNat (b' + 1))) (fun G H hR hK hfo => by
              rw [hT] at hfo ⊢
              exact ⟨rfl, hfo.2.2.1 rfl⟩) hd (hgo _ h)
          · have z2 : (((T : Nat) : Int) == 2) = false := by simp; omega
            rw [z2] at h
            by_cases t3 : T = 3
            · subst t3
              have h : (bif qcOf r.toNat (b' + 1) != 0 then (gF σ r.toNat (b' + 1) = qcOf r.toNat (b' + 1) ∧ go (vO (qcOf r.toNat (b' + 1)) :: st')) else go (vO (bif (Nat.blt r.toNat (nSt ph) && (fcOf r.toNat (b' + 1) != 0)) then fcOf r.toNat (b' + 1) else gF σ r.toNat (b' + 1)) :: st')) := h
              cases hq : (qcOf r.toNat (b' + 1) != 0) with
              | true =>
                rw [hq] at h
                obtain ⟨hq1, h⟩ : gF σ r.toNat (b' + 1) = qcOf r.toNat (b' + 1) ∧ go (vO (qcOf r.toNat (b' + 1)) :: st') := h
                refine ax_getV hX hcl h6 hbn hC hlk hr0 hkl (v := vO (qcOf r.toNat (b' + 1))) (fun G H hR hK hfo => ?_) hd (hgo _ h)
                rw [← hq1]
                rw [hT] at hfo ⊢
                exact ⟨by unfold fVal; rw [if_neg (by omega), if_neg (by omega), if_pos rfl]; rfl, hfo.2.2.2.1 rfl⟩
              | false =>
                rw [hq] at h
                have h : go (vO (bif (Nat.blt r.toNat (nSt ph) && (fcOf r.toNat (b' + 1) != 0)) then fcOf r.toNat (b' + 1) else gF σ r.toNat (b' + 1)) :: st') := h
                refine ax_getV hX hcl h6 hbn hC hlk hr0 hkl (v := vO (bif (Nat.blt r.toNat (nSt ph) && (fcOf r.toNat (b' + 1) != 0)) then fcOf r.toNat (b' + 1) else gF σ r.toNat (b' + 1))) (fun G H hR hK hfo => ?_) hd (hgo _ h)
                have e1 : (bif (Nat.blt r.toNat (nSt ph) && (fcOf r.toNat (b' + 1) != 0)) then fcOf r.toNat (b' + 1) else gF σ r.toNat (b' + 1)) = gF σ r.toNat (b' + 1) := by
                  cases hb : (Nat.blt r.toNat (nSt ph) && (fcOf r.toNat (b' + 1) != 0)) with
                  | false => rfl
                  | true =>
                    simp only [Bool.and_eq_true, Nat.blt_eq, bne_iff_ne] at hb
                    exact (fcO_ne hR hb.1 hb.2).symm
                rw [e1]
                rw [hT] at hfo ⊢
                exact ⟨by unfold fVal; rw [if_neg (by omega), if_neg (by omega), if_pos rfl]; rfl, hfo.2.2.2.1 rfl⟩
            · have z3 : (((T : Nat) : Int) == 3) = false := by simp; omega
              rw [z3] at h
              by_cases t20 : T = 20
              · subst t20
                obtain ⟨hf1, h⟩ : gF σ r.toNat (b' + 1) = 1 ∧ go (vA (bif b' + 1 == 1 then 1 else 0) 120 (bT (b' + 1)) (gV σ 120 (bT (b' + 1))) :: st') := h
                refine ax_getV hX hcl h6 hbn hC hlk hr0 hkl (v := vA (bif b' + 1 == 1 then 1 else 0) 120 (bT (b' + 1)) (gV σ 120 (bT (b' + 1)))) (fun G H hR hK hfo => ?_) hd (hgo _ h)
                rw [hT] at hfo ⊢
                rcases hfo.2.2.2.2 rfl with c0 | ⟨-, c1, c2, c3⟩
                · omega
                · refine ⟨by unfold fVal; rw [if_neg (by omega), if_neg (by omega), if_neg (by omega), if_pos rfl, if_neg (by omega)]; rfl, by show 1 ≤ gV σ 120 (bT (b' + 1)); omega, c2, ?_⟩
                  show gK σ (gV σ 120 (bT (b' + 1))) = 100 + (bif b' + 1 == 1 then 1 else 0)
                  rw [c3]
                  by_cases cb : b' + 1 = 1
                  · rw [if_pos cb, cb]; rfl
                  · rw [if_neg cb, show (b' + 1 == 1) = false by simpa using cb]; rfl
              · have z20 : (((T : Nat) : Int) == 20) = false := by simp; omega
                rw [z20] at h
                have hT4 : T = 4 + (T - 4) := by omega
                have he8 : T - 4 ≤ 9 := by omega
                have hcast : (((T : Nat) : Int).toNat - 4) = T - 4 := by omega
                rw [hcast] at h
                by_cases c13 : T = 13
                · exfalso
                  have hq13 : ci = 22 ∧ b' = 1 := by
                    have hall : (List.range 23).all (fun i => (List.range 80).all (fun j => !(ftOf i (j + 1) == 13) || (i == 22 && j == 1))) = true := by decide +kernel
                    have h1 := List.all_eq_true.mp hall ci (List.mem_range.mpr hci)
                    have hb80 : b' < 80 := by
                      have hm : clL.all (fun q => Nat.ble q.2.2 72) = true := by decide +kernel
                      have := List.all_eq_true.mp hm q (List.mem_of_getElem? hcl)
                      simp only [Nat.ble_eq] at this
                      omega
                    have h2 := List.all_eq_true.mp h1 b' (List.mem_range.mpr hb80)
                    simp only [hT, c13, beq_self_eq_true, Bool.not_true, Bool.false_or, Bool.and_eq_true, beq_iff_eq] at h2
                    exact h2
                  have : clL[22]? = some (RJ10, TJ10, 6) := rfl
                  rw [hq13.1, this] at hcl
                  cases hcl
                  rw [hq13.2] at hC
                  have hC' : ("java/lang/Throwable" : String) = "java/lang/IllegalStateException" := hC
                  exact absurd hC' (by decide)
                · cases hsp : (Nat.blt r.toNat (nSt ph) && (spW r.toNat (b' + 1) != 0)) with
                  | true =>
                    rw [hsp] at h
                    simp only [Bool.and_eq_true, Nat.blt_eq, bne_iff_ne] at hsp
                    exact ax_getV hX hcl h6 hbn hC hlk hr0 hkl (v := vA (T - 4) r.toNat (b' + 1) (gV σ r.toNat (b' + 1))) (fun G H hR hK hfo => hvA (T - 4) hT4 he8 (fun G H hR => hR.2.2.2.2.2.1.2.2.2 _ _ hsp.1 hsp.2) G H hR hK hfo (by omega)) hd (hgo _ h)
                  | false =>
                    rw [hsp] at h
                    obtain ⟨hv0, h⟩ : gV σ r.toNat (b' + 1) ≠ 0 ∧ go (vA (T - 4) r.toNat (b' + 1) (gV σ r.toNat (b' + 1)) :: st') := h
                    exact ax_getV hX hcl h6 hbn hC hlk hr0 hkl (v := vA (T - 4) r.toNat (b' + 1) (gV σ r.toNat (b' + 1))) (fun G H hR hK hfo => hvA (T - 4) hT4 he8 (fun G H hR => hv0) G H hR hK hfo (by omega)) hd (hgo _ h)
  · exact h.elim
end GF
