/-! frames by objects, tables of instructions -/
set_option maxRecDepth 100000
/-- what may be written: are cells made; from which object on all is free; fields and arrays of those before it -/
abbrev Md : Type := Bool × Nat × List (Nat × Nat)
def mdIn (d : Md) (o f : Nat) : Bool := f == 0 || (Nat.ble d.2.1 o || d.2.2.contains (o, f))
def subMd (c d : Md) : Bool := (!c.1 || d.1) && (Nat.ble d.2.1 c.2.1 && c.2.2.all (fun q => mdIn d q.1 q.2))
/-- may the counters of small cells and of the slots of what isn't fixed move; may loose arrays stay -/
def cnt (d : Md) : Bool := mdIn d 0 1
def tmp (d : Md) : Bool := mdIn d 0 2
def mvF (d : Md) (o : Nat) : Bool := d.1 && (tmp d && (cnt d || Nat.blt o 222))
def grF (d : Md) (o : Nat) : Bool := d.1 && (cnt d || Nat.blt o 222)
/-- what a throw leaves alone -/
def mdX (d : Md) : Md := (d.1, d.2.1, (0, 1) :: d.2.2)
/-- with loose arrays -/
def mdZ (d : Md) : Md := (d.1, d.2.1, (0, 2) :: d.2.2)
def Fr (d : Md) (σ σ' : Sg) : Prop := (∀ o f : Nat, 0 < o → o < d.2.1 → f ≠ 0 → (o, f) ∉ d.2.2 → gF σ' o f = gF σ o f ∧ gA σ' o f = gA σ o f ∧ gL σ' o f = gL σ o f ∧ gV σ' o f = gV σ o f) ∧
  ((d.1 = false → gN σ' = gN σ ∧ gV σ' = gV σ ∧ gL σ' = gL σ) ∧ (cnt d = false → gC σ' = gC σ ∧ gD σ' = gD σ) ∧ (tmp d = false → gT σ' = gT σ)) ∧ LeS σ σ'
/-- room for a throw, and no loose array -/
def Low (σ : Sg) : Prop := gT σ = 0 ∧ gC σ + 1 ≤ 100000 ∧ gD σ + 6 ≤ 200000
theorem mdIn_or {d : Md} {o f : Nat} (h : mdIn d o f = true) : f = 0 ∨ d.2.1 ≤ o ∨ (o, f) ∈ d.2.2 := by
  unfold mdIn at h
  simp only [Bool.or_eq_true, beq_iff_eq, Nat.ble_eq] at h
  rcases h with h | h | h
  · exact Or.inl h
  · exact Or.inr (Or.inl h)
  · exact Or.inr (Or.inr (by simpa using h))
theorem fr_refl (d : Md) (σ : Sg) : Fr d σ σ := ⟨fun _ _ _ _ _ _ => ⟨rfl, rfl, rfl, rfl⟩, ⟨fun _ => ⟨rfl, rfl, rfl⟩, fun _ => ⟨rfl, rfl⟩, fun _ => rfl⟩, Nat.le_refl _, fun _ _ => rfl⟩
theorem fr_trans {d : Md} {a b c : Sg} (h1 : Fr d a b) (h2 : Fr d b c) : Fr d a c := by
  obtain ⟨p1, ⟨p2, p5, p6⟩, p3, p4⟩ := h1
  obtain ⟨q1, ⟨q2, q5, q6⟩, q3, q4⟩ := h2
  refine ⟨fun o f h0 h hf hn => ?_, ⟨fun h => ?_, fun h => ⟨(q5 h).1.trans (p5 h).1, (q5 h).2.trans (p5 h).2⟩, fun h => (q6 h).trans (p6 h)⟩, Nat.le_trans p3 q3, fun x hx => (q4 x (Nat.lt_of_lt_of_le hx p3)).trans (p4 x hx)⟩
  · obtain ⟨a1, a2, a3, a4⟩ := p1 o f h0 h hf hn
    obtain ⟨b1, b2, b3, b4⟩ := q1 o f h0 h hf hn
    exact ⟨b1.trans a1, b2.trans a2, b3.trans a3, b4.trans a4⟩
  · obtain ⟨a1, a2, a3⟩ := p2 h
    obtain ⟨b1, b2, b3⟩ := q2 h
    exact ⟨b1.trans a1, b2.trans a2, b3.trans a3⟩
theorem sub_in {c d : Md} (h : subMd c d = true) {o f : Nat} (hm : mdIn c o f = true) : mdIn d o f = true := by
  unfold subMd at h
  simp only [Bool.and_eq_true, Nat.ble_eq, List.all_eq_true, Bool.or_eq_true, Bool.not_eq_true'] at h
  obtain ⟨h1, h2, h3⟩ := h
  rcases mdIn_or hm with q | q | q
  · unfold mdIn; rw [q]; rfl
  · unfold mdIn
    have : Nat.ble d.2.1 o = true := Nat.ble_eq_true_of_le (by omega)
    rw [this]; simp
  · exact h3 (o, f) q
theorem fr_sub {c d : Md} (h : subMd c d = true) {σ σ' : Sg} (hf : Fr c σ σ') : Fr d σ σ' := by
  have hsi := fun o f => sub_in (o := o) (f := f) h
  unfold subMd at h
  simp only [Bool.and_eq_true, Nat.ble_eq, List.all_eq_true, Bool.or_eq_true, Bool.not_eq_true'] at h
  obtain ⟨h1, h2, h3⟩ := h
  have hno : ∀ o f, mdIn d o f = false → mdIn c o f = false := fun o f e => by
    cases hc : mdIn c o f with
    | false => rfl
    | true => rw [hsi o f hc] at e; cases e
  refine ⟨fun o f h0 ho hf0 hn => hf.1 o f h0 (by omega) hf0 (fun hm => ?_), ⟨fun hd => hf.2.1.1 ?_, fun hd => hf.2.1.2.1 (hno 0 1 hd), fun hd => hf.2.1.2.2 (hno 0 2 hd)⟩, hf.2.2⟩
  · rcases mdIn_or (h3 (o, f) hm) with q | q | q
    · exact hf0 q
    · exact absurd ho (by show ¬ o < d.2.1; have : d.2.1 ≤ o := q; omega)
    · exact hn q
  · rcases h1 with q | q
    · exact q
    · rw [q] at hd; cases hd
theorem in_X {d : Md} {o f : Nat} (h : mdIn d o f = true) : mdIn (mdX d) o f = true := by
  unfold mdIn mdX at *
  simp only [Bool.or_eq_true, List.contains_cons] at h ⊢
  rcases h with h | h | h
  · exact Or.inl h
  · exact Or.inr (Or.inl h)
  · exact Or.inr (Or.inr (Or.inr h))
theorem cnt_X (d : Md) : cnt (mdX d) = true := by
  unfold cnt mdIn mdX
  simp
theorem sub_X (d : Md) : subMd d (mdX d) = true := by
  unfold subMd
  simp only [Bool.and_eq_true, List.all_eq_true, Bool.or_eq_true, Bool.not_eq_true']
  refine ⟨?_, Nat.ble_eq_true_of_le (Nat.le_refl _), fun q hq => in_X ?_⟩
  · cases h : d.1 with
    | true => exact Or.inr h
    | false => exact Or.inl rfl
  · unfold mdIn
    have : d.2.2.contains (q.1, q.2) = true := by simpa using hq
    rw [this]; simp
theorem sub_XX {c d : Md} (h : subMd c d = true) : subMd (mdX c) (mdX d) = true := by
  have hsi := fun o f => sub_in (o := o) (f := f) h
  unfold subMd at h ⊢
  simp only [Bool.and_eq_true, List.all_eq_true] at h ⊢
  refine ⟨h.1, h.2.1, fun q hq => ?_⟩
  have hq : q ∈ (0, 1) :: c.2.2 := hq
  rcases List.mem_cons.mp hq with e | e
  · rw [e]; exact cnt_X d
  · exact in_X (h.2.2 q e)
theorem sub_unX {d : Md} (h : cnt d = true) : subMd (mdX d) d = true := by
  have h0 := h
  unfold subMd
  simp only [Bool.and_eq_true, List.all_eq_true, Bool.or_eq_true, Bool.not_eq_true']
  refine ⟨?_, Nat.ble_eq_true_of_le (Nat.le_refl _), fun q hq => ?_⟩
  · cases h : d.1 with
    | true => exact Or.inr rfl
    | false => exact Or.inl h
  · have hq : q ∈ (0, 1) :: d.2.2 := hq
    rcases List.mem_cons.mp hq with e | e
    · rw [e]; exact h0
    · unfold mdIn
      have : d.2.2.contains (q.1, q.2) = true := by simpa using e
      rw [this]; simp
theorem fr_low {d : Md} {τ σ : Sg} (hc : cnt d = false) (ht : tmp d = false) (h : Fr d τ σ) (hl : Low τ) : Low σ := by
  obtain ⟨l1, l2, l3⟩ := hl
  obtain ⟨e1, e2⟩ := h.2.1.2.1 hc
  have e3 := h.2.1.2.2 ht
  exact ⟨by omega, by omega, by omega⟩
theorem fr_sF {d : Md} {σ : Sg} {o f : Nat} {x : Int} (h : mdIn d o f = true) (hf : f ≠ 0) : Fr d σ (sF σ o f x) := by
  refine ⟨fun o' f' _ ho hf' hn => ⟨?_, rfl, rfl, rfl⟩, ⟨fun _ => ⟨rfl, rfl, rfl⟩, fun _ => ⟨rfl, rfl⟩, fun _ => rfl⟩, Nat.le_refl _, fun _ _ => rfl⟩
  rw [gF_sF, if_neg]
  rintro ⟨rfl, rfl⟩
  rcases mdIn_or h with q | q | q
  · exact hf q
  · omega
  · exact hn q
theorem fr_sB {d : Md} {σ : Sg} {o f : Nat} {g : Nat → Int} (h : mdIn d o f = true) : Fr d σ (sB σ o f g) := by
  refine ⟨fun o' f' _ ho hf' hn => ⟨rfl, ?_, rfl, rfl⟩, ⟨fun _ => ⟨rfl, rfl, rfl⟩, fun _ => ⟨rfl, rfl⟩, fun _ => rfl⟩, Nat.le_refl _, fun _ _ => rfl⟩
  rw [gA_sB, if_neg]
  rintro ⟨rfl, rfl⟩
  rcases mdIn_or h with q | q | q
  · exact hf' q
  · omega
  · exact hn q
theorem fr_sA {d : Md} {σ : Sg} {o f i : Nat} {x : Int} (h : mdIn d o f = true) : Fr d σ (sA σ o f i x) := by rw [sA_sB]; exact fr_sB h
theorem no_tf {b : Bool} {P : Prop} (h : b = true) : b = false → P := fun c => by rw [h] at c; cases c
theorem fr_nA {d : Md} {σ : Sg} {e n : Nat} (h : d.1 = true) (h2 : tmp d = true) (h3 : n < 16 → cnt d = true) : Fr d σ (nA σ e n) :=
  ⟨fun o f _ _ hf _ => ⟨rfl, rfl, by rw [gL_nA, if_neg (fun c => hf c.2)], by rw [gV_nA, if_neg (fun c => hf c.2)]⟩, ⟨no_tf h, fun c => ⟨by
    rw [gC_nA]
    by_cases q : n < 16
    · rw [h3 q] at c; cases c
    · rw [if_neg q]; rfl, rfl⟩, no_tf h2⟩, le_nA σ e n⟩
theorem fr_nO {d : Md} {σ : Sg} {c n : Nat} (h : d.1 = true) (h2 : cnt d = true) : Fr d σ (nO σ c n) :=
  ⟨fun o f _ _ hf _ => ⟨rfl, rfl, rfl, rfl⟩, ⟨no_tf h, no_tf h2, fun _ => rfl⟩, le_nO σ c n⟩
theorem fr_mV {d : Md} {σ : Sg} {t o f : Nat} (h0 : mvF d o = true) (hm : mdIn d o f = true) : Fr d σ (mV σ t o f) := by
  unfold mvF at h0
  simp only [Bool.and_eq_true, Bool.or_eq_true, Nat.blt_eq] at h0
  obtain ⟨h, h2, h3⟩ := h0
  refine ⟨fun o' f' _ ho hf' hn => ?_, ⟨no_tf h, fun c => ⟨rfl, ?_⟩, no_tf h2⟩, Nat.le_refl _, fun _ _ => rfl⟩
  · have hne : ¬ (o' = o ∧ f' = f) := by
      rintro ⟨rfl, rfl⟩
      rcases mdIn_or hm with q | q | q
      · exact hf' q
      · omega
      · exact hn q
    exact ⟨rfl, by rw [gA_mV, if_neg hne], by rw [gL_mV, if_neg hne, if_neg (fun c => hf' c.2)], by rw [gV_mV, if_neg hne, if_neg (fun c => hf' c.2)]⟩
  · rw [gD_mV]
    by_cases q : o < 222
    · rw [if_pos q]; rfl
    · rcases h3 with h3 | h3
      · rw [h3] at c; cases c
      · exact absurd h3 q
/-- the state lies in some heap -/
def Fine (ph : Nat) (σ : Sg) : Prop := ∃ (G : Gp) (H : Heap), Rep G ph σ H
/-- contracts: less is asked of what comes -/
theorem w_mono {p : Program} {l : Launch} {e : Env} {R : Room} {s : State} {m : MethodId} {args : Array Value} {below : List Frame} {meth : Method} {c : Code} {H : Heap} {locs : List Loc} {cells slots : Nat} {P Q : State → Prop} {g : JFrame} (h : W p l e R s m args below meth c H locs cells slots P g) (hpq : ∀ t, P t → Q t) : W p l e R s m args below meth c H locs cells slots Q g := by
  intro T hT X
  obtain ⟨t, a, b⟩ := h T hT X
  exact ⟨t, a, hpq t b⟩
theorem cn_mono {ph : Nat} {y : MI} {k : Nat} {as : List AV} {σ : Sg} {Q Q' : Option AV → Sg → Prop} {E E' : Int → Sg → Prop} (h : Cn ph y k as σ Q E) (hq : ∀ r σ', Fine ph σ' → (∀ v, r = some v → okV σ' v) → Q r σ' → Q' r σ') (he : ∀ a σ', Fine ph σ' → E a σ' → E' a σ') : Cn ph y k as σ Q' E' := by
  intro X hX
  obtain ⟨G, p, l, e, R, s, m, args, below, meth, c, σ0, Q0, E0⟩ := X
  obtain ⟨hx, hbc, hml, hret, hlocks, hown, hnm, hexc, hG, hk1, hk2, hc1, hc2, rfl, rfl, rfl⟩ := hX
  have h1 := h (G, p, l, e, R, s, m, args, below, meth, c, σ0, Q, E) ⟨hx, hbc, hml, hret, hlocks, hown, hnm, hexc, hG, hk1, hk2, hc1, hc2, rfl, rfl, rfl⟩
  intro H locs lsC hR hL hl ho hs hn hsl hm
  refine w_mono (h1 H locs lsC hR hL hl ho hs hn hsl hm) (fun t ht => ?_)
  obtain ⟨hrun, ht⟩ := ht
  refine ⟨hrun, ?_⟩
  rcases ht with ⟨r, σ', L, q1, q2, q3, q4⟩ | ⟨a, σ', L, q1, q2, q3, q4, q5, q6⟩
  · exact Or.inl ⟨r, σ', L, hq r σ' ⟨G, _, q3⟩ q2 q1, q2, q3, q4⟩
  · exact Or.inr ⟨a, σ', L, he a σ' ⟨G, _, q5⟩ q1, q2, q3, q4, q5, q6⟩
/-- what is known at the start -/
theorem cn_intro {ph : Nat} {y : MI} {k : Nat} {as : List AV} {σ : Sg} {Q : Option AV → Sg → Prop} {E : Int → Sg → Prop} (h : Fine ph σ → Cn ph y k as σ Q E) : Cn ph y k as σ Q E := by
  intro X hX
  obtain ⟨G, p, l, e, R, s, m, args, below, meth, c, σ0, Q0, E0⟩ := X
  intro H locs lsC hR hL hl ho hs hn hsl hm
  exact h ⟨G, H, hR⟩ _ hX H locs lsC hR hL hl ho hs hn hsl hm
theorem cx_mono {ph : Nat} {X : Cx} {y : MI} {k k' : Nat} {σ : Sg} {Q : Option AV → Sg → Prop} {E : Int → Sg → Prop} (h : CxOk ph X y k σ Q E) (hk : k' ≤ k) : CxOk ph X y k' σ Q E := by
  obtain ⟨G, p, l, e, R, s, m, args, below, meth, c, σ0, Q0, E0⟩ := X
  obtain ⟨hx, hbc, hml, hret, hlocks, hown, hnm, hexc, hG, hk1, hk2, hc1, hc2, rfl, rfl, rfl⟩ := h
  exact ⟨hx, hbc, hml, hret, hlocks, hown, hnm, hexc, hG, by omega, by omega, hc1, hc2, rfl, rfl, rfl⟩
