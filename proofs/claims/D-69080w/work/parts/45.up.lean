/-! reads outside of a frame; from the first object's phase to the second's -/
set_option maxRecDepth 100000
def outB (d : Md) (o f : Nat) : Bool := Nat.blt 0 o && (Nat.blt o d.2.1 && (Nat.blt 0 f && !(d.2.2.contains (o, f))))
theorem fr_keep {d : Md} {σ σ' : Sg} {o f : Nat} (h : Fr d σ σ') (hb : outB d o f = true) : gF σ' o f = gF σ o f ∧ gA σ' o f = gA σ o f ∧ gL σ' o f = gL σ o f ∧ gV σ' o f = gV σ o f := by
  unfold outB at hb
  simp only [Bool.and_eq_true, Nat.blt_eq, Bool.not_eq_true'] at hb
  exact h.1 o f hb.1 hb.2.1 (by omega) (fun hm => by
    have : d.2.2.contains (o, f) = true := by simpa using hm
    rw [hb.2.2.2] at this; cases this)
theorem fr_F {d : Md} {σ σ' : Sg} {o f : Nat} (h : Fr d σ σ') (hb : outB d o f = true) : gF σ' o f = gF σ o f := (fr_keep h hb).1
theorem fr_A {d : Md} {σ σ' : Sg} {o f : Nat} (h : Fr d σ σ') (hb : outB d o f = true) : gA σ' o f = gA σ o f := (fr_keep h hb).2.1
theorem fr_L {d : Md} {σ σ' : Sg} {o f : Nat} (h : Fr d σ σ') (hb : outB d o f = true) : gL σ' o f = gL σ o f := (fr_keep h hb).2.2.1
theorem fr_V {d : Md} {σ σ' : Sg} {o f : Nat} (h : Fr d σ σ') (hb : outB d o f = true) : gV σ' o f = gV σ o f := (fr_keep h hb).2.2.2
def upB (d : Md) : Bool := Nat.ble 222 d.2.1 && d.2.2.all (fun q => Nat.blt q.1 120)
theorem fc_0 (o : Nat) : fcOf o 0 = 0 := rfl
theorem rep_up {G : Gp} {σ σ' : Sg} {H H' : Heap} {d : Md} (hd : upB d = true) (hR : Rep G 2 σ H) (hF : Fr d σ σ') (hR' : Rep G 1 σ' H') : Rep G 2 σ' H' := by
  obtain ⟨r1, r2, r3, r4, r5, ⟨p1, p2, p3, p4⟩, r7⟩ := hR'
  obtain ⟨q1, q2, q3, q4⟩ := hR.2.2.2.2.2.1
  unfold upB at hd
  simp only [Bool.and_eq_true, Nat.ble_eq, List.all_eq_true, Nat.blt_eq] at hd
  have hle : gN σ ≤ gN σ' := hF.2.2.1
  have h222 : 222 ≤ gN σ := q1
  have hk : ∀ o f : Nat, 120 ≤ o → o < 222 → f ≠ 0 → gF σ' o f = gF σ o f ∧ gA σ' o f = gA σ o f ∧ gL σ' o f = gL σ o f ∧ gV σ' o f = gV σ o f := fun o f h1 h2 h3 => hF.1 o f (by omega) (by omega) h3 (fun hm => by have := hd.2 (o, f) hm; have : o < 120 := this; omega)
  refine ⟨r1, r2, r3, r4, r5, ⟨show 222 ≤ gN σ' by omega, fun o ho hkc => ?_, fun o k ho hfc => ?_, fun o k ho hw => ?_⟩, r7⟩
  · have ho : o < 222 := ho
    rw [hF.2.2.2 o (by omega)]
    exact q2 o ho hkc
  · have ho : o < 222 := ho
    by_cases c : o < 120
    · exact p3 o k c hfc
    · rw [(hk o k (by omega) ho (fun c0 => hfc (by rw [c0]; exact fc_0 o))).1]
      exact q3 o k ho hfc
  · have ho : o < 222 := ho
    by_cases c : o < 120
    · exact p4 o k c hw
    · rw [(hk o k (by omega) ho (fun c0 => hw (by rw [c0]; exact spW_0 o))).2.2.2]
      exact q4 o k ho hw
theorem rep_down {G : Gp} {σ : Sg} {H : Heap} (hR : Rep G 2 σ H) : Rep G 1 σ H := by
  obtain ⟨r1, r2, r3, r4, r5, ⟨p1, p2, p3, p4⟩, r7⟩ := hR
  have p1 : 222 ≤ gN σ := p1
  exact ⟨r1, r2, r3, r4, r5, ⟨show 120 ≤ gN σ by omega, fun o ho => p2 o (show o < 222 by have : o < 120 := ho; omega), fun o k ho => p3 o k (show o < 222 by have : o < 120 := ho; omega), fun o k ho => p4 o k (show o < 222 by have : o < 120 := ho; omega)⟩, r7⟩
theorem up_X {d : Md} (h : upB d = true) : upB (mdX d) = true := by
  unfold upB mdX at *
  simp only [Bool.and_eq_true, List.all_cons] at h ⊢
  exact ⟨h.1, by decide, h.2⟩
theorem ct_up {a k : Nat} {as : List AV} {σ : Sg} {Q : Option AV → Sg → Prop} {E : Int → Sg → Prop} (hu : upB (mdT a as) = true) (h : Ct 1 a k as σ Q E) : Ct 2 a k as σ Q E := by
  intro hLo X hX
  obtain ⟨G, p, l, e, R, s, m, args, below, meth, c, σ0, Q0, E0⟩ := X
  have h1 := h hLo (G, p, l, e, R, s, m, args, below, meth, c, σ0, Q0, E0) hX
  obtain ⟨hx, hbc, hml, hret, hlocks, hown, hnm, hexc, hG, hk1, hk2, hc1, hc2, rfl, rfl, rfl⟩ := hX
  intro H locs lsC hR hL hl ho hs hn hsl hm
  refine w_mono (h1 H locs lsC (rep_down hR) hL hl ho hs hn hsl hm) (fun t ht => ?_)
  obtain ⟨hrun, ht⟩ := ht
  refine ⟨hrun, ?_⟩
  rcases ht with ⟨r, σ', L, q1, q2, q3, q4⟩ | ⟨a, σ', L, q1, q2, q3, q4, q5, q6⟩
  · exact Or.inl ⟨r, σ', L, q1, q2, rep_up hu hR q1.1 q3, q4⟩
  · exact Or.inr ⟨a, σ', L, q1, q2, q3, q4, rep_up (up_X hu) hR q1.1 q5, q6⟩
