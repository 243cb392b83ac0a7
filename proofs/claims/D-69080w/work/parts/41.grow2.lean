/-! loose arrays are forgotten; a grown array comes home -/
set_option maxRecDepth 100000
theorem rep_fg {G : Gp} {ph : Nat} {σ σ' : Sg} {H : Heap} (hR : Rep G ph σ H) (hF : gF σ' = gF σ) (hK : gK σ' = gK σ) (hN : gN σ' = gN σ) (hSl : gS σ' = gS σ) (hC : gC σ' = gC σ)
    (hp : ∀ o f : Nat, (gV σ' o f = gV σ o f ∧ gL σ' o f = gL σ o f ∧ gA σ' o f = gA σ o f) ∨ (f = 0 ∧ o < gN σ ∧ gV σ' o f = 0 ∧ gL σ' o f = 0)) (hD : gD σ' ≤ 200000) (hT : gT σ' ≤ 540000) (hS : gS σ ≤ pSum σ + gT σ' + gD σ') : Rep G ph σ' H := by
  obtain ⟨⟨hz, hn1⟩, hold, hO, hA, ⟨u1, u2, u3, u4, u5⟩, ⟨p1, p2, p3, p4⟩, ⟨s1, s2, s3, s4, s5, s6⟩⟩ := hR
  have hV : ∀ o f, f ≠ 0 → gV σ' o f = gV σ o f := fun o f hf => by
    rcases hp o f with q | q
    · exact q.1
    · exact absurd q.1 hf
  have hVn : ∀ o f, gV σ' o f ≠ 0 → gV σ' o f = gV σ o f ∧ gL σ' o f = gL σ o f ∧ gA σ' o f = gA σ o f := fun o f hf => by
    rcases hp o f with q | q
    · exact q
    · exact absurd q.2.2.1 hf
  have hb : ∀ k, bT k ≠ 0 := fun k => by unfold bT; split <;> (try split) <;> omega
  have hok : ∀ r, okR σ r → okR σ' r := fun r h => by unfold okR at h ⊢; rw [hN]; exact h
  refine ⟨⟨by rw [hN]; exact hz, by rw [hN]; exact hn1⟩, hold, ?_, ?_, ⟨?_, ?_, ?_, ?_, ?_⟩, ⟨?_, ?_, ?_, ?_⟩, ⟨?_, ?_, ?_, ?_, ?_, ?_⟩⟩
  · intro o ci r h1 h2 h3 h4
    rw [hN] at h2
    rw [hK] at h3
    obtain ⟨a1, a2⟩ := hO o ci r h1 h2 h3 h4
    refine ⟨?_, fun j hj => ?_⟩
    · have e : (fun j => fVal G σ' o (ftOf ci (j + 1)) (j + 1)) = (fun j => fVal G σ o (ftOf ci (j + 1)) (j + 1)) := by
        funext j
        unfold fVal
        rw [hF, hV 120 _ (hb _), hV o (j + 1) (by omega)]
      rw [e]; exact a1
    · obtain ⟨b1, b2, b3, b4, b5⟩ := a2 j hj
      rw [hF]
      refine ⟨b1, b2, b3, fun c => hok _ (b4 c), fun c => ?_⟩
      rw [hV 120 _ (hb _), hN, hK]
      exact b5 c
  · intro o f h
    obtain ⟨e1, e2, e3⟩ := hVn o f h
    rw [e1] at h
    obtain ⟨a1, a2, a3, a4, a5⟩ := hA o f h
    rw [e1, e2, e3, hN, hK]
    refine ⟨a1, a2, a3, a4, fun j hj => ?_⟩
    obtain ⟨b1, b2, b3, b4, b5, b6⟩ := a5 j hj
    exact ⟨b1, b2, b3, b4, fun c => hok _ (b5 c), fun c => by rw [hK]; exact b6 c⟩
  · intro o f o' f' h1 h2
    have h3 : gV σ' o' f' ≠ 0 := by rw [← h2]; exact h1
    have e1 := (hVn o f h1).1
    have e2 := (hVn o' f' h3).1
    exact u1 o f o' f' (by rw [← e1]; exact h1) (by rw [← e1, ← e2]; exact h2)
  · intro o f h
    rcases hp o f with q | q
    · rw [q.2.1]; exact u2 o f (by rw [← q.1]; exact h)
    · exact q.2.2.2
  · intro o h
    rw [hN] at h
    refine ⟨by rw [hK]; exact (u3 o h).1, fun f => ?_⟩
    obtain ⟨a1, a2, a3⟩ := (u3 o h).2 f
    rcases hp o f with q | q
    · exact ⟨by rw [hF]; exact a1, by rw [q.1]; exact a2, fun i => by rw [q.2.2]; exact a3 i⟩
    · exact absurd q.2.1 (by omega)
  · intro o ci k e h1 h2 h3 h4 h5
    have e1 := (hVn o k h5).1
    rw [hK] at h1
    rw [e1] at h5
    rw [e1, hK]
    exact u4 o ci k e h1 h2 h3 h4 h5
  · intro o f h
    have e1 := (hVn o f h).1
    rw [e1] at h
    rw [hN, hK, e1]
    exact u5 o f h
  · rw [hN]; exact p1
  · intro o h1 h2; rw [hK]; exact p2 o h1 h2
  · intro o k h1 h2; rw [hF]; exact p3 o k h1 h2
  · intro o k h1 h2
    rw [hV o k (fun c => by rw [c, spW_0] at h2; exact h2 rfl)]
    exact p4 o k h1 h2
  · have hps : pSum σ' = pSum σ := sum_congr spL (gL σ) (gL σ') (fun q hq => by
      have := sp_pos q hq
      rcases hp q.1 q.2.1 with c | c
      · exact c.2.1
      · omega)
    rw [hSl, hps]; exact hS
  · intro q hq
    have := sp_pos q hq
    rcases hp q.1 q.2.1 with c | c
    · rw [c.2.1]; exact s2 q hq
    · omega
  · exact hT
  · exact hD
  · rw [hC]; exact s5
  · rw [hN, hC, hSl]; exact s6
section GP
variable {ph k : Nat} {X : Cx} {y : MI} {σ0 σ σ' : Sg} {Q : Option AV → Sg → Prop} {E : Int → Sg → Prop} {pc idx a f e v t : Nat} {r : Int} {ls : List (Option AV)} {st : List AV}
/-- the same array comes into its field again -/
theorem put_same (hX : CxOk ph X y k σ0 Q E) (hl : FPut y.1.cls idx a f ((4 + e : Nat) : Int)) (he : e ≤ 8) (hfin : finB a f = true → y.1.name = "<init>") (hr0 : 0 < r) (hK0 : gK σ r.toNat = a) (hv : v = gV σ r.toNat f) (hd : decode y.2.1 pc = .ok (.putfield idx, 3)) (h : Ax ph X (pc + 3) ls st σ) : Ax ph X pc ls (vA e r.toNat f v :: vO r :: st) σ := by
  obtain ⟨ci, q, rfl, hcl, h6, hb1, hbn, hC, hlk, hft, hf⟩ := hl
  obtain ⟨b', rfl⟩ : ∃ b', f = b' + 1 := ⟨f - 1, by omega⟩
  rw [show b' + 1 - 1 = b' by omega] at hbn hC hlk hf
  have hfin' : (q.2.1 b').2.2.2 = false ∨ (y.1.cls = q.1 ∧ y.1.name = "<init>") := by
    rcases hf with hf | hf
    · exact Or.inl hf
    · by_cases c1 : (q.2.1 b').2.2.2 = true
      · refine Or.inr ⟨hf, hfin ?_⟩
        unfold finB
        rw [show ci + 1 - 1 = ci by omega, hcl]
        exact c1
      · exact Or.inl (by simpa using c1)
  have hT : ftOf ci (b' + 1) = 4 + e := by omega
  refine ax_putVK hX hcl h6 hbn hC hlk hfin' hr0 hK0 (fun _ => by show 4 ≤ ftOf ci (b' + 1); omega) (σ' := σ) rfl rfl rfl (fun G H H' cell hR hw hap q2 q3 q4 h1 h2 h3 => ?_) hd h
  obtain ⟨w1, w2, w3⟩ := hw
  have w1' : 1 ≤ v := w1
  have hlt := rep_lt hR hK0 (by omega)
  have hfv : cV G (vA e r.toNat (b' + 1) v) = fVal G σ r.toNat (ftOf ci (b' + 1)) (b' + 1) := by
    rw [hT]
    unfold fVal
    rw [if_neg (by omega), if_neg (by omega), if_neg (by omega), if_neg (by omega), if_neg (by omega)]
    show Value.ref (G.1 + v - 1) = _
    rw [hv]
  have heq : sF σ r.toNat (b' + 1) (gF σ r.toNat (b' + 1)) = σ := by
    show (u2 σ.1 r.toNat (b' + 1) (σ.1 r.toNat (b' + 1)), σ.2) = σ
    have : u2 σ.1 r.toNat (b' + 1) (σ.1 r.toNat (b' + 1)) = σ.1 := by
      funext x z
      unfold u2
      split
      · rename_i hh; rw [hh.1, hh.2]
      · rfl
    rw [this]
  have := rep_sF (x := gF σ r.toNat (b' + 1)) hR (by omega) hK0 hcl hbn hap ((hR.2.2.1 r.toNat ci q (by omega) hlt hK0 hcl).2 b' hbn) (by
    rcases fc_not3 hR hK0 (show ftOf ci (b' + 1) ≠ 3 by omega) with e | e
    · exact Or.inl e
    · exact Or.inr (Or.inl e)) q2 q3 q4 (by rw [h1, hfv, heq]) h2 h3
  rw [heq] at this
  exact this
/-- a loose array comes into a field, and other loose ones are forgotten -/
theorem put_new (hX : CxOk ph X y k σ0 Q E) (hl : FPut y.1.cls idx a f ((4 + e : Nat) : Int)) (he : e ≤ 8) (hfin : finB a f = true → y.1.name = "<init>") (hr0 : 0 < r) (hK0 : gK σ r.toNat = a) (ht : gV σ t 0 = t) (hmv : mvOk σ t r.toNat f) (hN : gN σ' = gN σ) (hSl : gS σ' = gS σ) (hKK : gK σ' = gK σ)
    (hσ : ∀ (G : Gp) (H : Heap), Rep G ph (mV σ t r.toNat f) H → Rep G ph σ' H) (hd : decode y.2.1 pc = .ok (.putfield idx, 3)) (h : Ax ph X (pc + 3) ls st σ') : Ax ph X pc ls (vA e t 0 t :: vO r :: st) σ := by
  obtain ⟨ci, q, rfl, hcl, h6, hb1, hbn, hC, hlk, hft, hf⟩ := hl
  obtain ⟨b', rfl⟩ : ∃ b', f = b' + 1 := ⟨f - 1, by omega⟩
  rw [show b' + 1 - 1 = b' by omega] at hbn hC hlk hf
  have hfin' : (q.2.1 b').2.2.2 = false ∨ (y.1.cls = q.1 ∧ y.1.name = "<init>") := by
    rcases hf with hf | hf
    · exact Or.inl hf
    · by_cases c1 : (q.2.1 b').2.2.2 = true
      · refine Or.inr ⟨hf, hfin ?_⟩
        unfold finB
        rw [show ci + 1 - 1 = ci by omega, hcl]
        exact c1
      · exact Or.inl (by simpa using c1)
  have hT : ftOf ci (b' + 1) = 4 + e := by omega
  refine ax_putVK hX hcl h6 hbn hC hlk hfin' hr0 hK0 (fun _ => by show 4 ≤ ftOf ci (b' + 1); omega) (σ' := σ') hN hSl hKK (fun G H H' cell hR hw hap q2 q3 q4 h1 h2 h3 => hσ G H' ?_) hd h
  obtain ⟨w1, w2, w3⟩ := hw
  have w1' : 1 ≤ t := w1
  exact rep_mV hR (by omega) hK0 hcl hbn hap hT he ht (by omega) w3 hmv q2 q3 q4 h1 h2 h3
end GP
