/-! tables in which a key is looked for from its place on -/
set_option maxRecDepth 100000
theorem inj_le : ∀ (m n : Nat) (f : Nat → Nat), (∀ i, i < n → f i < m) → (∀ i j, i < n → j < n → f i = f j → i = j) → n ≤ m
  | 0, 0, _, _, _ => Nat.le_refl _
  | 0, n + 1, f, h1, _ => absurd (h1 0 (by omega)) (by omega)
  | m + 1, 0, _, _, _ => Nat.zero_le _
  | m + 1, n + 1, f, h1, h2 => by
    have key := inj_le m n (fun i => if f i < f n then f i else f i - 1) (fun i hi => by
      have a1 := h1 i (by omega)
      have a2 := h1 n (by omega)
      have a3 : f i ≠ f n := fun c => absurd (h2 i n (by omega) (by omega) c) (by omega)
      show (if f i < f n then f i else f i - 1) < m
      split <;> omega) (fun i j hi hj e => by
      have a1 : f i ≠ f n := fun c => absurd (h2 i n (by omega) (by omega) c) (by omega)
      have a2 : f j ≠ f n := fun c => absurd (h2 j n (by omega) (by omega) c) (by omega)
      have e : (if f i < f n then f i else f i - 1) = (if f j < f n then f j else f j - 1) := e
      refine h2 i j (by omega) (by omega) ?_
      split at e <;> split at e <;> omega)
    omega
theorem mod_inj {h d d' L : Nat} (hd : d < L) (hd' : d' < L) (e : (h + d) % L = (h + d') % L) : d = d' := by
  rcases Nat.le_total d d' with q | q
  · have := Nat.sub_mod_eq_zero_of_mod_eq e.symm
    rw [show h + d' - (h + d) = d' - d by omega, Nat.mod_eq_of_lt (by omega)] at this
    omega
  · have := Nat.sub_mod_eq_zero_of_mod_eq e
    rw [show h + d - (h + d') = d - d' by omega, Nat.mod_eq_of_lt (by omega)] at this
    omega
theorem least {P : Nat → Prop} : ∀ {n : Nat}, P n → ∃ d, d ≤ n ∧ P d ∧ ∀ i, i < d → ¬ P i := by
  intro n
  induction n using Nat.strongRecOn with
  | ind n ih =>
    intro hn
    by_cases c : ∃ i, i < n ∧ P i
    · obtain ⟨i, hi, hp⟩ := c
      obtain ⟨d, a, b, e⟩ := ih i hi hp
      exact ⟨d, by omega, b, e⟩
    · exact ⟨n, Nat.le_refl _, hn, fun i hi hp => c ⟨i, hi, hp⟩⟩
/-- T a table of L places; lv the numbers that lie in it; h their places; each was laid when those less than it lay there -/
def TB (T : Nat → Int) (L : Nat) (lv : Nat → Prop) (h : Nat → Nat) : Prop :=
  (∀ e, lv e → 0 < e ∧ ∃ d, d < L ∧ T ((h e + d) % L) = (e : Int) ∧ ∀ i, i < d → ∃ e' : Nat, lv e' ∧ e' < e ∧ T ((h e + i) % L) = (e' : Int)) ∧
  (∀ s, s < L → T s = 0 ∨ ∃ e : Nat, lv e ∧ T s = (e : Int)) ∧
  (∀ s s', s < L → s' < L → T s = T s' → T s ≠ 0 → s = s')
theorem tb_pos {T : Nat → Int} {L : Nat} {lv : Nat → Prop} {h : Nat → Nat} (hT : TB T L lv h) {s : Nat} (hs : s < L) (h0 : T s ≠ 0) : 0 < T s ∧ lv (T s).toNat := by
  rcases hT.2.1 s hs with c | ⟨e, he, c⟩
  · exact absurd c h0
  · have := (hT.1 e he).1
    rw [c]
    exact ⟨by omega, by simpa using he⟩
theorem tb_find {T : Nat → Int} {L : Nat} {lv : Nat → Prop} {h : Nat → Nat} (hT : TB T L lv h) {M : Nat → Prop} {e : Nat} (he : lv e) (hu : ∀ e', lv e' → M e' → e' = e) :
    ∃ d, d < L ∧ T ((h e + d) % L) = (e : Int) ∧ ∀ i, i < d → T ((h e + i) % L) ≠ 0 ∧ ¬ M (T ((h e + i) % L)).toNat := by
  obtain ⟨h0, d, a, b, c⟩ := hT.1 e he
  refine ⟨d, a, b, fun i hi => ?_⟩
  obtain ⟨e', q1, q2, q3⟩ := c i hi
  have q4 := (hT.1 e' q1).1
  rw [q3]
  refine ⟨by omega, fun hm => ?_⟩
  have hm : M e' := by simpa using hm
  have := hu e' q1 hm
  omega
theorem tb_free {T : Nat → Int} {L : Nat} {lv : Nat → Prop} {h : Nat → Nat} (hT : TB T L lv h) {c : Nat} (rk : Nat → Nat) (hr : ∀ e, lv e → rk e < c) (hi : ∀ e e', lv e → lv e' → rk e = rk e' → e = e') (hc : c < L) (h0 : Nat) :
    ∃ d, d < L ∧ T ((h0 + d) % L) = 0 ∧ ∀ i, i < d → T ((h0 + i) % L) ≠ 0 := by
  have hL : 0 < L := by omega
  by_cases q : ∃ d, d < L ∧ T ((h0 + d) % L) = 0
  · obtain ⟨d, hd, hz⟩ := q
    obtain ⟨d', a1, a2, a3⟩ := least (P := fun d => T ((h0 + d) % L) = 0) hz
    exact ⟨d', by omega, a2, a3⟩
  · exfalso
    have hne : ∀ d, d < L → T ((h0 + d) % L) ≠ 0 := fun d hd c => q ⟨d, hd, c⟩
    have hp := fun d hd => tb_pos hT (Nat.mod_lt _ hL) (hne d hd)
    have := inj_le c L (fun d => rk (T ((h0 + d) % L)).toNat) (fun d hd => hr _ (hp d hd).2) (fun i j hi' hj' e => by
      have e := hi _ _ (hp i hi').2 (hp j hj').2 e
      have p1 := (hp i hi').1
      have p2 := (hp j hj').1
      exact mod_inj hi' hj' (hT.2.2 _ _ (Nat.mod_lt _ hL) (Nat.mod_lt _ hL) (by omega) (hne i hi')))
    omega
theorem tb_put {T : Nat → Int} {L : Nat} {lv : Nat → Prop} {h : Nat → Nat} (hT : TB T L lv h) {e d : Nat} (h0 : 0 < e) (hl : ∀ e', lv e' → e' < e) (hd : d < L) (hz : T ((h e + d) % L) = 0) (hp : ∀ i, i < d → T ((h e + i) % L) ≠ 0) :
    TB (fun s => if s = (h e + d) % L then (e : Int) else T s) L (fun x => lv x ∨ x = e) h := by
  have hL : 0 < L := by omega
  refine ⟨fun x hx => ?_, fun s hs => ?_, fun s s' hs hs' => ?_⟩
  · rcases hx with hx | hx
    · obtain ⟨q0, d', q1, q2, q3⟩ := hT.1 x hx
      refine ⟨q0, d', q1, ?_, fun i hi => ?_⟩
      · show (if (h x + d') % L = (h e + d) % L then (e : Int) else T ((h x + d') % L)) = x
        rw [if_neg, q2]
        intro c
        rw [c, hz] at q2
        omega
      · obtain ⟨e', w1, w2, w3⟩ := q3 i hi
        refine ⟨e', Or.inl w1, w2, ?_⟩
        show (if (h x + i) % L = (h e + d) % L then (e : Int) else T ((h x + i) % L)) = e'
        rw [if_neg, w3]
        intro c
        rw [c, hz] at w3
        have := (hT.1 e' w1).1
        omega
    · subst hx
      refine ⟨h0, d, hd, by show (if (h x + d) % L = (h x + d) % L then (x : Int) else _) = x; rw [if_pos rfl], fun i hi => ?_⟩
      have p := tb_pos hT (Nat.mod_lt (h x + i) hL) (hp i hi)
      refine ⟨(T ((h x + i) % L)).toNat, Or.inl p.2, hl _ p.2, ?_⟩
      show (if (h x + i) % L = (h x + d) % L then (x : Int) else T ((h x + i) % L)) = ((T ((h x + i) % L)).toNat : Int)
      rw [if_neg]
      · omega
      · intro c
        have := mod_inj (by omega) hd c
        omega
  · show (if s = (h e + d) % L then (e : Int) else T s) = 0 ∨ ∃ x : Nat, (lv x ∨ x = e) ∧ (if s = (h e + d) % L then (e : Int) else T s) = (x : Int)
    by_cases c : s = (h e + d) % L
    · rw [if_pos c]; exact Or.inr ⟨e, Or.inr rfl, rfl⟩
    · rw [if_neg c]
      rcases hT.2.1 s hs with q | ⟨x, q1, q2⟩
      · exact Or.inl q
      · exact Or.inr ⟨x, Or.inl q1, q2⟩
  · show (if s = (h e + d) % L then (e : Int) else T s) = (if s' = (h e + d) % L then (e : Int) else T s') → (if s = (h e + d) % L then (e : Int) else T s) ≠ 0 → s = s'
    have hv : ∀ t, t < L → T t = (e : Int) → False := fun t ht c => by
      have p := tb_pos hT ht (by omega)
      have := hl _ p.2
      omega
    by_cases c : s = (h e + d) % L
    · by_cases c' : s' = (h e + d) % L
      · intro _ _; rw [c, c']
      · rw [if_pos c, if_neg c']
        intro q _
        exact (hv s' hs' q.symm).elim
    · by_cases c' : s' = (h e + d) % L
      · rw [if_neg c, if_pos c']
        intro q _
        exact (hv s hs q).elim
      · rw [if_neg c, if_neg c']
        exact hT.2.2 s s' hs hs'
theorem tb_del {T : Nat → Int} {L : Nat} {lv : Nat → Prop} {h : Nat → Nat} (hT : TB T L lv h) {e p : Nat} (h0 : 0 < e) (hl : ∀ e', lv e' → e' ≤ e) (hp : p < L) (he : T p = (e : Int)) :
    TB (fun s => if s = p then 0 else T s) L (fun x => lv x ∧ x ≠ e) h := by
  have hL : 0 < L := by omega
  have hne : ∀ (s : Nat) (x : Nat), s < L → x ≠ e → T s = (x : Int) → s ≠ p := fun s x _ hx q c => by
    rw [c, he] at q
    omega
  refine ⟨fun x hx => ?_, fun s hs => ?_, fun s s' hs hs' => ?_⟩
  · obtain ⟨q0, d', q1, q2, q3⟩ := hT.1 x hx.1
    refine ⟨q0, d', q1, ?_, fun i hi => ?_⟩
    · show (if (h x + d') % L = p then 0 else T ((h x + d') % L)) = x
      rw [if_neg (hne _ x (Nat.mod_lt _ hL) hx.2 q2), q2]
    · obtain ⟨e', w1, w2, w3⟩ := q3 i hi
      have := hl x hx.1
      have hn : e' ≠ e := by omega
      refine ⟨e', ⟨w1, hn⟩, w2, ?_⟩
      show (if (h x + i) % L = p then 0 else T ((h x + i) % L)) = e'
      rw [if_neg (hne _ e' (Nat.mod_lt _ hL) hn w3), w3]
  · show (if s = p then 0 else T s) = 0 ∨ ∃ x : Nat, (lv x ∧ x ≠ e) ∧ (if s = p then 0 else T s) = (x : Int)
    by_cases c : s = p
    · rw [if_pos c]; exact Or.inl rfl
    · rw [if_neg c]
      rcases hT.2.1 s hs with q | ⟨x, q1, q2⟩
      · exact Or.inl q
      · refine Or.inr ⟨x, ⟨q1, fun cc => ?_⟩, q2⟩
        rw [cc, ← he] at q2
        exact c (hT.2.2 s p hs hp q2 (by rw [q2, he]; omega))
  · show (if s = p then 0 else T s) = (if s' = p then 0 else T s') → (if s = p then 0 else T s) ≠ 0 → s = s'
    by_cases c : s = p
    · rw [if_pos c]; intro _ q; exact absurd rfl q
    · rw [if_neg c]
      by_cases c' : s' = p
      · rw [if_pos c']; intro q1 q2; exact absurd q1 q2
      · rw [if_neg c']; exact hT.2.2 s s' hs hs'
theorem tb_nil {T : Nat → Int} {L : Nat} {h : Nat → Nat} (hz : ∀ s, s < L → T s = 0) : TB T L (fun _ => False) h :=
  ⟨fun _ h => h.elim, fun s hs => Or.inl (hz s hs), fun s _ hs _ _ q => absurd (hz s hs) q⟩
theorem tb_congr {T T' : Nat → Int} {L : Nat} {lv lv' : Nat → Prop} {h h' : Nat → Nat} (hT : TB T L lv h) (h1 : ∀ s, s < L → T' s = T s) (h2 : ∀ e, lv' e ↔ lv e) (h3 : ∀ e, lv e → h' e = h e) : TB T' L lv' h' := by
  have e2 : lv' = lv := funext (fun e => propext (h2 e))
  subst e2
  refine ⟨fun x hx => ?_, fun s hs => ?_, fun s s' hs hs' => ?_⟩
  · obtain ⟨q0, d', q1, q2, q3⟩ := hT.1 x hx
    have hL : 0 < L := by omega
    refine ⟨q0, d', q1, by rw [h3 x hx, h1 _ (Nat.mod_lt _ hL), q2], fun i hi => ?_⟩
    obtain ⟨e', w1, w2, w3⟩ := q3 i hi
    exact ⟨e', w1, w2, by rw [h3 x hx, h1 _ (Nat.mod_lt _ hL), w3]⟩
  · rw [h1 s hs]; exact hT.2.1 s hs
  · rw [h1 s hs, h1 s' hs']; exact hT.2.2 s s' hs hs'
