/-! drafts: the model's trees by links -/
set_option maxRecDepth 100000
theorem gF_grr (σ : Sg) (o f n : Nat) : gF (grr σ o f n) = gF σ := rfl
theorem gT_grr (σ : Sg) (o f n : Nat) : gT (grr σ o f n) = gT σ := rfl
theorem gC_grr (σ : Sg) (o f n : Nat) : gC (grr σ o f n) = gC σ := rfl
/-- an array with room for a place -/
def grl2 (l n : Nat) : Nat := if n < l then l else 2 * l
def gra2 (g : Nat → Int) (l n j : Nat) : Int := if n < l then g j else if j < l then g j else 0
theorem grl2_ge (l n : Nat) : l ≤ grl2 l n ∧ (n < 2 * l → n < grl2 l n) := by unfold grl2; split <;> omega
theorem gra2_lt {g : Nat → Int} {l n j : Nat} (h : j < l) : gra2 g l n j = g j := by unfold gra2; rw [if_pos h]; split <;> rfl
theorem gL_grr (σ : Sg) (o f n a b : Nat) : gL (grr σ o f n) a b = if a = o ∧ b = f then grl2 (gL σ o f) n else gL σ a b := rfl
theorem gA_grr (σ : Sg) (o f n a b j : Nat) : gA (grr σ o f n) a b j = if a = o ∧ b = f then gra2 (gA σ o f) (gL σ o f) n j else gA σ a b j := by
  show u2 (gA σ) o f (fun j => if n < gL σ o f then gA σ o f j else if true = true ∧ j < gL σ o f then gA σ o f j else 0) a b j = _
  unfold u2
  split
  · show (if n < gL σ o f then gA σ o f j else if true = true ∧ j < gL σ o f then gA σ o f j else 0) = if n < gL σ o f then gA σ o f j else if j < gL σ o f then gA σ o f j else 0
    simp only [true_and]
  · rfl
theorem gD_grr {σ : Sg} {o f n : Nat} (h : o < 222) : gD (grr σ o f n) = gD σ := by
  show (if n < gL σ o f then gD σ else gD σ + (if o < 222 then 0 else 2 * gL σ o f + 0)) = gD σ
  rw [if_pos h]
  split <;> rfl
theorem gK_grr {σ : Sg} {o f n a : Nat} (h : a < gN σ) : gK (grr σ o f n) a = gK σ a := by
  show (if n < gL σ o f then gK σ a else if gN σ ≤ a ∧ a ≤ gN σ + 0 then 100 + 0 else gK σ a) = gK σ a
  split
  · rfl
  · rw [if_neg (by omega)]
theorem gN_grr {σ : Sg} {o f n a : Nat} (h : a < gN σ) : a < gN (grr σ o f n) := by
  show a < (if n < gL σ o f then gN σ else gN σ + 0 + 1)
  split <;> omega
abbrev DA : Type := Nat → Nat → Int
/-- a part: its root, from where to where it lies, its nodes -/
abbrev DC : Type := Nat × Nat × Nat × List Nd
def fl : List DC → List Nd
  | [] => []
  | c :: r => c.2.2.2 ++ fl r
theorem fl_app : ∀ (a b : List DC), fl (a ++ b) = fl a ++ fl b
  | [], _ => rfl
  | c :: r, b => by
    show c.2.2.2 ++ fl (r ++ b) = c.2.2.2 ++ fl r ++ fl b
    rw [fl_app r b, List.append_assoc]
noncomputable def nv (X : Tx) (k t : Nat) : Int := if k = 21 then (t : Int) else if k = 20 then tvl X t else 0
def NK (X : Tx) (A : DA) (a k t : Nat) : Prop := A 12 a = (k : Int) ∧ A 13 a = (tpo X t : Int) ∧ A 14 a = nv X k t ∧ k < 100 ∧ ∀ i, i < t → 2 ≤ tkd X i
/-- a chain of parts from a link on -/
def sb (A : DA) : Int → List DC → Prop
  | s, [] => s = -1
  | s, c :: r => s = (c.1 : Int) ∧ sb A (A 17 c.1) r
def ls : List DC → Int → Int
  | [], d => d
  | c :: r, _ => ls r (c.1 : Int)
def rg (a : Nat) : Nat → Nat → List DC → Prop
  | lo, hi, [] => lo ≤ hi
  | lo, hi, c :: r => (lo ≤ c.2.1 ∧ c.2.1 ≤ c.1 ∧ c.1 < c.2.2.1) ∧ (a < c.2.1 ∨ c.2.2.1 ≤ a) ∧ rg a c.2.2.1 hi r
def DT (X : Tx) (A : DA) : Nat → Nat → Nat → Nat → List Nd → Prop
  | 0, _, _, _, _ => False
  | f + 1, lo, hi, a, l => ∃ (k t : Nat) (cs : List DC), NK X A a k t ∧ (lo ≤ a ∧ a < hi) ∧ l = (k, t, (fl cs).length + 1) :: fl cs ∧ (sb A (A 15 a) cs ∧ A 16 a = ls cs (-1)) ∧ rg a lo hi cs ∧ ∀ c ∈ cs, DT X A f c.2.1 c.2.2.1 c.1 c.2.2.2
theorem rg_le {a : Nat} : ∀ {cs : List DC} {lo hi : Nat}, rg a lo hi cs → lo ≤ hi
  | [], _, _, h => h
  | c :: r, lo, hi, h => by
    have := rg_le h.2.2
    have := h.1
    omega
theorem rg_wide {a : Nat} : ∀ {cs : List DC} {lo hi lo' hi' : Nat}, rg a lo hi cs → lo' ≤ lo → hi ≤ hi' → rg a lo' hi' cs
  | [], lo, hi, lo', hi', h, h1, h2 => by
    have h : lo ≤ hi := h
    show lo' ≤ hi'
    omega
  | c :: r, lo, hi, lo', hi', h, h1, h2 => ⟨⟨by have := h.1; omega, h.1.2⟩, h.2.1, rg_wide h.2.2 (Nat.le_refl _) h2⟩
theorem rg_snoc {a b blo bhi : Nat} {m : List Nd} : ∀ {cs : List DC} {lo mid : Nat}, rg a lo mid cs → mid ≤ blo → blo ≤ b → b < bhi → (a < blo ∨ bhi ≤ a) → rg a lo bhi (cs ++ [(b, blo, bhi, m)])
  | [], lo, mid, h, h1, h2, h3, h4 => by
    have h : lo ≤ mid := h
    exact ⟨⟨by show lo ≤ blo; omega, h2, h3⟩, h4, Nat.le_refl _⟩
  | c :: r, lo, mid, h, h1, h2, h3, h4 => ⟨h.1, h.2.1, rg_snoc h.2.2 h1 h2 h3 h4⟩
theorem rg_mem {a : Nat} {c : DC} : ∀ {cs : List DC} {lo hi : Nat}, rg a lo hi cs → c ∈ cs → lo ≤ c.2.1 ∧ c.2.1 ≤ c.1 ∧ c.1 < c.2.2.1 ∧ c.2.2.1 ≤ hi ∧ (a < c.2.1 ∨ c.2.2.1 ≤ a)
  | [], _, _, _, hc => absurd hc List.not_mem_nil
  | c0 :: r, lo, hi, h, hc => by
    have h5 := rg_le h.2.2
    have h6 := h.1
    rcases List.mem_cons.mp hc with e | e
    · subst e
      exact ⟨h6.1, h6.2.1, h6.2.2, h5, h.2.1⟩
    · have := rg_mem h.2.2 e
      omega
theorem ls_in {a : Nat} : ∀ {cs : List DC} {lo hi : Nat} (d : Int), rg a lo hi cs → cs ≠ [] → ∃ e : Nat, ls cs d = (e : Int) ∧ lo ≤ e ∧ e < hi ∧ e ≠ a
  | [], _, _, _, _, h => absurd rfl h
  | [c], lo, hi, d, h, _ => by
    have h5 := rg_le h.2.2
    have h6 := h.1
    have h7 := h.2.1
    exact ⟨c.1, rfl, by omega, by omega, by omega⟩
  | c :: c2 :: r, lo, hi, d, h, _ => by
    obtain ⟨e, e1, e2, e3, e4⟩ := ls_in (c.1 : Int) h.2.2 (List.cons_ne_nil _ _)
    have h6 := h.1
    exact ⟨e, e1, by omega, e3, e4⟩
theorem ls_uni {a e : Nat} {c : DC} : ∀ {cs : List DC} {lo hi : Nat} {d : Int}, rg a lo hi cs → c ∈ cs → ls cs d = (e : Int) → c.2.1 ≤ e → e < c.2.2.1 → e = c.1
  | [], _, _, _, _, hc, _, _, _ => absurd hc List.not_mem_nil
  | [c0], lo, hi, d, h, hc, h1, h2, h3 => by
    have : c = c0 := by simpa using hc
    subst this
    have : (c.1 : Int) = (e : Int) := h1
    omega
  | c0 :: c2 :: r, lo, hi, d, h, hc, h1, h2, h3 => by
    rcases List.mem_cons.mp hc with e0 | e0
    · subst e0
      obtain ⟨e', e1, e2, e3, e4⟩ := ls_in (c.1 : Int) h.2.2 (List.cons_ne_nil _ _)
      have h1 : ls (c2 :: r) (c.1 : Int) = (e : Int) := h1
      omega
    · exact ls_uni (d := (c0.1 : Int)) h.2.2 e0 h1 h2 h3
theorem ls_snoc {x : DC} : ∀ {cs : List DC} {d : Int}, ls (cs ++ [x]) d = (x.1 : Int)
  | [], _ => rfl
  | c :: r, _ => ls_snoc (cs := r)
theorem sb_fr {A A' : DA} : ∀ {cs : List DC} {s : Int}, sb A s cs → (∀ c ∈ cs, A' 17 c.1 = A 17 c.1) → sb A' s cs
  | [], _, h, _ => h
  | c :: r, s, h, h1 => ⟨h.1, by rw [h1 c List.mem_cons_self]; exact sb_fr h.2 (fun c' hc => h1 c' (List.mem_cons_of_mem _ hc))⟩
theorem sb_chg {A : DA} {x y : DC} (hxy : x.1 = y.1) : ∀ {cs : List DC} {s : Int}, sb A s (cs ++ [x]) → sb A s (cs ++ [y])
  | [], s, h => by
    have h : s = (x.1 : Int) ∧ A 17 x.1 = -1 := h
    rw [hxy] at h
    exact h
  | c :: r, s, h => ⟨h.1, sb_chg hxy h.2⟩
theorem sb_snoc {A A' : DA} {a b : Nat} (hb : A' 17 b = -1) : ∀ {cs : List DC} {s : Int} {lo hi : Nat} {d : Int}, rg a lo hi cs → cs ≠ [] → sb A s cs → (∀ i : Nat, (i : Int) ≠ ls cs d → A' 17 i = A 17 i) → (∀ i : Nat, (i : Int) = ls cs d → A' 17 i = (b : Int)) → sb A' s (cs ++ [(b, 0, 0, [])])
  | [], _, _, _, _, _, h, _, _, _ => absurd rfl h
  | [c], s, lo, hi, d, h, _, h1, h2, h3 => ⟨h1.1, h3 c.1 rfl, hb⟩
  | c :: c2 :: r, s, lo, hi, d, h, _, h1, h2, h3 => by
    obtain ⟨e, e1, e2, e3, e4⟩ := ls_in (c.1 : Int) h.2.2 (List.cons_ne_nil _ _)
    have h6 := h.1
    have e5 : A' 17 c.1 = A 17 c.1 := h2 c.1 (by
      show (c.1 : Int) ≠ ls (c2 :: r) (c.1 : Int)
      omega)
    refine ⟨h1.1, ?_⟩
    rw [e5]
    exact sb_snoc hb (d := (c.1 : Int)) h.2.2 (List.cons_ne_nil _ _) h1.2 h2 h3
theorem dt_mono {X : Tx} {A : DA} : ∀ {f f' lo hi a : Nat} {l : List Nd}, DT X A f lo hi a l → f ≤ f' → DT X A f' lo hi a l
  | 0, _, _, _, _, _, h, _ => h.elim
  | f + 1, 0, _, _, _, _, _, h => absurd h (by omega)
  | f + 1, f' + 1, lo, hi, a, l, h, h1 => by
    obtain ⟨k, t, cs, a1, a2, a3, a4, a5, a6⟩ := h
    exact ⟨k, t, cs, a1, a2, a3, a4, a5, fun c hc => dt_mono (a6 c hc) (by omega)⟩
theorem dt_fr {X : Tx} {A A' : DA} : ∀ {f lo hi a : Nat} {l : List Nd}, DT X A f lo hi a l → (∀ q i, lo ≤ i → i < hi → ¬ (q = 17 ∧ i = a) → A' q i = A q i) → DT X A' f lo hi a l
  | 0, _, _, _, _, h, _ => h.elim
  | f + 1, lo, hi, a, l, h, H => by
    obtain ⟨k, t, cs, ⟨n1, n2, n3⟩, a2, a3, ⟨s1, s2⟩, a5, a6⟩ := h
    have g : ∀ q, q ≠ 17 → A' q a = A q a := fun q hq => H q a a2.1 a2.2 (fun h => hq h.1)
    refine ⟨k, t, cs, ⟨by rw [g 12 (by decide)]; exact n1, by rw [g 13 (by decide)]; exact n2, by rw [g 14 (by decide)]; exact n3⟩, a2, a3, ⟨?_, by rw [g 16 (by decide)]; exact s2⟩, a5, fun c hc => ?_⟩
    · rw [g 15 (by decide)]
      exact sb_fr s1 (fun c hc => by
        have := rg_mem a5 hc
        exact H 17 c.1 (by omega) (by omega) (by omega))
    · have := rg_mem a5 hc
      exact dt_fr (a6 c hc) (fun q i h1 h2 h3 => H q i (by omega) (by omega) (by omega))
def Tr (X : Tx) (A : DA) (lo hi a : Nat) (l : List Nd) : Prop := ∃ f, DT X A f lo hi a l
theorem tq_fr {X : Tx} {A A' : DA} {lo hi a : Nat} {l : List Nd} (h : Tr X A lo hi a l) (H : ∀ q i, lo ≤ i → i < hi → ¬ (q = 17 ∧ i = a) → A' q i = A q i) : Tr X A' lo hi a l := by
  obtain ⟨f, h⟩ := h
  exact ⟨f, dt_fr h H⟩
theorem tr_in {X : Tx} {A : DA} {lo hi a : Nat} {l : List Nd} (h : Tr X A lo hi a l) : lo ≤ a ∧ a < hi := by
  obtain ⟨f, h⟩ := h
  cases f with
  | zero => exact h.elim
  | succ f => obtain ⟨k, t, cs, -, h2, -⟩ := h; exact h2
theorem tr_wide {X : Tx} {A : DA} {lo hi lo' hi' a : Nat} {l : List Nd} (h : Tr X A lo hi a l) (h1 : lo' ≤ lo) (h2 : hi ≤ hi') : Tr X A lo' hi' a l := by
  obtain ⟨f, h⟩ := h
  cases f with
  | zero => exact h.elim
  | succ f =>
    obtain ⟨k, t, cs, a1, a2, a3, a4, a5, a6⟩ := h
    exact ⟨f + 1, k, t, cs, a1, ⟨by omega, by omega⟩, a3, a4, rg_wide a5 h1 h2, a6⟩
/-- a node whose parts are being laid, in [lo, mid) -/
def Po (X : Tx) (A : DA) (lo mid a k t : Nat) (l : List Nd) : Prop := ∃ (f : Nat) (cs : List DC), NK X A a k t ∧ fl cs = l ∧ (sb A (A 15 a) cs ∧ A 16 a = ls cs (-1)) ∧ rg a lo mid cs ∧ ∀ c ∈ cs, DT X A f c.2.1 c.2.2.1 c.1 c.2.2.2
/-- the same, and then a last part b, not told yet -/
def Pb (X : Tx) (A : DA) (lo mid a k t : Nat) (l : List Nd) (b : Nat) : Prop := ∃ (f : Nat) (cs : List DC), NK X A a k t ∧ fl cs = l ∧ (sb A (A 15 a) (cs ++ [(b, 0, 0, [])]) ∧ A 16 a = (b : Int)) ∧ rg a lo mid cs ∧ ∀ c ∈ cs, DT X A f c.2.1 c.2.2.1 c.1 c.2.2.2
def jn (A : DA) (a b : Nat) : DA := fun q i => if q = 16 ∧ i = a then (b : Int) else if q = 15 ∧ i = a ∧ A 15 a = -1 then (b : Int) else if q = 17 ∧ ¬ A 15 a = -1 ∧ (i : Int) = A 16 a then (b : Int) else A q i
def dr (A : DA) (n : Nat) (k p v : Int) : DA := fun q i => if i = n then (if q = 12 then k else if q = 13 then p else if q = 14 then v else -1) else A q i
theorem dr_out {A : DA} {n q i : Nat} {k p v : Int} (h : i ≠ n) : dr A n k p v q i = A q i := if_neg h
theorem po_new {X : Tx} {A : DA} {n k t : Nat} {kk p v : Int} (lo : Nat) (h1 : kk = (k : Int)) (h2 : p = (tpo X t : Int)) (h3 : v = nv X k t) (hkt : k < 100 ∧ ∀ i, i < t → 2 ≤ tkd X i) : Po X (dr A n kk p v) lo lo n k t [] ∧ dr A n kk p v 17 n = -1 := by
  subst h1 h2 h3
  have e : ∀ q, dr A n (k : Int) (tpo X t : Int) (nv X k t) q n = (if q = 12 then (k : Int) else if q = 13 then (tpo X t : Int) else if q = 14 then nv X k t else -1) := fun q => if_pos rfl
  exact ⟨⟨0, [], ⟨(e 12).trans rfl, (e 13).trans rfl, (e 14).trans rfl, hkt⟩, rfl, ⟨(e 15).trans rfl, (e 16).trans rfl⟩, Nat.le_refl _, fun c hc => absurd hc List.not_mem_nil⟩, (e 17).trans rfl⟩
theorem po_last {X : Tx} {A : DA} {lo mid a k t : Nat} {l : List Nd} (h : Po X A lo mid a k t l) : A 15 a = -1 ∨ ∃ e : Nat, A 16 a = (e : Int) ∧ lo ≤ e ∧ e < mid ∧ e ≠ a := by
  obtain ⟨f, cs, a1, a2, ⟨s1, s2⟩, a4, a5⟩ := h
  by_cases hc : cs = []
  · subst hc
    exact Or.inl s1
  · obtain ⟨e, e1, e2, e3, e4⟩ := ls_in (-1) a4 hc
    exact Or.inr ⟨e, s2.trans e1, e2, e3, e4⟩
theorem jn_out {X : Tx} {A : DA} {lo mid a k t q i b : Nat} {l : List Nd} (h : Po X A lo mid a k t l) (h1 : i ≠ a) (h2 : i < lo ∨ mid ≤ i) : jn A a b q i = A q i := by
  unfold jn
  rw [if_neg (fun c => h1 c.2), if_neg (fun c => h1 c.2.1), if_neg (fun c => ?_)]
  rcases po_last h with e | ⟨e, e1, e2, e3, e4⟩
  · exact c.2.1 e
  · have := c.2.2
    omega
theorem jn_self {A : DA} {a b q : Nat} (h1 : q ≠ 15) (h2 : q ≠ 16) (h3 : A 15 a = -1 ∨ A 16 a ≠ (a : Int)) : jn A a b q a = A q a := by
  unfold jn
  rw [if_neg (fun c => h2 c.1), if_neg (fun c => h1 c.1), if_neg (fun c => ?_)]
  rcases h3 with e | e
  · exact c.2.1 e
  · exact e c.2.2.symm
theorem pb_join {X : Tx} {A : DA} {lo mid a k t b : Nat} {l : List Nd} (h : Po X A lo mid a k t l) (hz : A 17 b = -1) (hb : b < lo ∨ mid ≤ b) : Pb X (jn A a b) lo mid a k t l b := by
  have hp := h
  obtain ⟨f, cs, ⟨n1, n2, n3⟩, a2, ⟨s1, s2⟩, a4, a5⟩ := h
  have hs : A 15 a = -1 ∨ A 16 a ≠ (a : Int) := by
    rcases po_last hp with e | ⟨e, e1, e2, e3, e4⟩
    · exact Or.inl e
    · exact Or.inr (by omega)
  have g : ∀ q, q ≠ 15 → q ≠ 16 → jn A a b q a = A q a := fun q h1 h2 => jn_self h1 h2 hs
  have hz2 : jn A a b 17 b = -1 := by
    by_cases e : b = a
    · have g2 := g 17 (by decide) (by decide)
      rw [← e] at g2
      rw [← e, g2]; exact hz
    · rw [jn_out hp e hb]; exact hz
  have h16 : jn A a b 16 a = (b : Int) := if_pos ⟨rfl, rfl⟩
  refine ⟨f, cs, ⟨by rw [g 12 (by decide) (by decide)]; exact n1, by rw [g 13 (by decide) (by decide)]; exact n2, by rw [g 14 (by decide) (by decide)]; exact n3⟩, a2, ⟨?_, h16⟩, a4, fun c hc => ?_⟩
  · by_cases hc : cs = []
    · subst hc
      have s1 : A 15 a = -1 := s1
      have h15 : jn A a b 15 a = (b : Int) := by
        unfold jn
        rw [if_neg (fun c => absurd c.1 (by decide)), if_pos ⟨rfl, rfl, s1⟩]
      exact ⟨h15, hz2⟩
    · obtain ⟨e, e1, e2, e3, e4⟩ := ls_in (-1) a4 hc
      have hne : ¬ A 15 a = -1 := by
        cases cs with
        | nil => exact absurd rfl hc
        | cons c r =>
          have := s1.1
          omega
      have h15 : jn A a b 15 a = A 15 a := by
        unfold jn
        rw [if_neg (fun c => absurd c.1 (by decide)), if_neg (fun c => hne c.2.2), if_neg (fun c => absurd c.1 (by decide))]
      rw [h15]
      refine sb_snoc hz2 (d := -1) a4 hc s1 (fun i hi => ?_) (fun i hi => ?_)
      · unfold jn
        rw [if_neg (fun c => absurd c.1 (by decide)), if_neg (fun c => absurd c.1 (by decide)), if_neg (fun c => hi (by rw [← s2]; exact c.2.2))]
      · unfold jn
        rw [if_neg (fun c => absurd c.1 (by decide)), if_neg (fun c => absurd c.1 (by decide)), if_pos ⟨rfl, hne, by rw [s2]; exact hi⟩]
  · have hm := rg_mem a4 hc
    refine dt_fr (a5 c hc) (fun q i h1 h2 h3 => ?_)
    unfold jn
    rw [if_neg (fun c => by omega), if_neg (fun c => by omega), if_neg (fun c => ?_)]
    exact h3 ⟨c.1, ls_uni (d := -1) a4 hc (by rw [← s2]; exact c.2.2.symm) h1 h2⟩
theorem pb_close {X : Tx} {A : DA} {lo mid a k t b blo bhi : Nat} {l m : List Nd} (h : Pb X A lo mid a k t l b) (hT : Tr X A blo bhi b m) (h1 : mid ≤ blo) (h2 : a < blo ∨ bhi ≤ a) : Po X A lo bhi a k t (l ++ m) := by
  obtain ⟨f, cs, a1, a2, ⟨s1, s2⟩, a4, a5⟩ := h
  have hi := tr_in hT
  obtain ⟨f', hT⟩ := hT
  refine ⟨f + f', cs ++ [(b, blo, bhi, m)], a1, ?_, ⟨sb_chg (x := (b, 0, 0, [])) (y := (b, blo, bhi, m)) rfl s1, ?_⟩, rg_snoc a4 h1 hi.1 hi.2 h2, fun c hc => ?_⟩
  · rw [fl_app, a2]
    show l ++ (m ++ []) = l ++ m
    rw [List.append_nil]
  · rw [s2, ls_snoc]
  · rcases List.mem_append.mp hc with e | e
    · exact dt_mono (a5 c e) (by omega)
    · have : c = (b, blo, bhi, m) := by simpa using e
      subst this
      exact dt_mono hT (by omega)
theorem po_fr {X : Tx} {A A' : DA} {lo mid a k t : Nat} {l : List Nd} (h : Po X A lo mid a k t l) (h1 : ∀ q, q ≠ 17 → A' q a = A q a) (h2 : ∀ q i, lo ≤ i → i < mid → i ≠ a → A' q i = A q i) : Po X A' lo mid a k t l := by
  obtain ⟨f, cs, ⟨n1, n2, n3⟩, a2, ⟨s1, s2⟩, a4, a5⟩ := h
  refine ⟨f, cs, ⟨by rw [h1 12 (by decide)]; exact n1, by rw [h1 13 (by decide)]; exact n2, by rw [h1 14 (by decide)]; exact n3⟩, a2, ⟨?_, by rw [h1 16 (by decide)]; exact s2⟩, a4, fun c hc => ?_⟩
  · rw [h1 15 (by decide)]
    exact sb_fr s1 (fun c hc => by
      have := rg_mem a4 hc
      exact h2 17 c.1 (by omega) (by omega) (by omega))
  · have := rg_mem a4 hc
    exact dt_fr (a5 c hc) (fun q i h3 h4 _ => h2 q i (by omega) (by omega) (by omega))
theorem pb_fr {X : Tx} {A A' : DA} {lo mid a k t b : Nat} {l : List Nd} (h : Pb X A lo mid a k t l b) (h1 : ∀ q, q ≠ 17 → A' q a = A q a) (h2 : ∀ q i, lo ≤ i → i < mid → i ≠ a → A' q i = A q i) (h3 : A' 17 b = A 17 b) : Pb X A' lo mid a k t l b := by
  obtain ⟨f, cs, ⟨n1, n2, n3⟩, a2, ⟨s1, s2⟩, a4, a5⟩ := h
  refine ⟨f, cs, ⟨by rw [h1 12 (by decide)]; exact n1, by rw [h1 13 (by decide)]; exact n2, by rw [h1 14 (by decide)]; exact n3⟩, a2, ⟨?_, by rw [h1 16 (by decide)]; exact s2⟩, a4, fun c hc => ?_⟩
  · rw [h1 15 (by decide)]
    refine sb_fr s1 (fun c hc => ?_)
    rcases List.mem_append.mp hc with e | e
    · have := rg_mem a4 e
      exact h2 17 c.1 (by omega) (by omega) (by omega)
    · have : c = (b, 0, 0, []) := by simpa using e
      subst this
      exact h3
  · have := rg_mem a4 hc
    exact dt_fr (a5 c hc) (fun q i h3 h4 _ => h2 q i (by omega) (by omega) (by omega))
theorem po_join {X : Tx} {A : DA} {lo mid a k t b blo bhi : Nat} {l m : List Nd} (h : Po X A lo mid a k t l) (hT : Tr X A blo bhi b m) (hz : A 17 b = -1) (h1 : mid ≤ blo) (h2 : a < blo ∨ bhi ≤ a) : Po X (jn A a b) lo bhi a k t (l ++ m) := by
  have hi := tr_in hT
  refine pb_close (pb_join h hz (Or.inr (by omega))) (tq_fr hT (fun q i h3 h4 _ => jn_out h (by omega) (Or.inr (by omega)))) h1 h2
theorem po_close {X : Tx} {A : DA} {lo mid hi a k t : Nat} {l : List Nd} (h : Po X A lo mid a k t l) (h1 : lo ≤ a ∧ a < hi) (h2 : mid ≤ hi) : Tr X A lo hi a ((k, t, l.length + 1) :: l) := by
  obtain ⟨f, cs, a1, a2, a3, a4, a5⟩ := h
  subst a2
  exact ⟨f + 1, k, t, cs, a1, h1, rfl, a3, rg_wide a4 (Nat.le_refl _) h2, a5⟩
theorem po_wide {X : Tx} {A : DA} {lo mid lo' mid' a k t : Nat} {l : List Nd} (h : Po X A lo mid a k t l) (h1 : lo' ≤ lo) (h2 : mid ≤ mid') : Po X A lo' mid' a k t l := by
  obtain ⟨f, cs, a1, a2, a3, a4, a5⟩ := h
  exact ⟨f, cs, a1, a2, a3, rg_wide a4 h1 h2, a5⟩
theorem jn16 {A : DA} {a b i : Nat} : jn A a b 16 i = if i = a then (b : Int) else A 16 i := by
  unfold jn
  by_cases c : i = a
  · rw [if_pos ⟨rfl, c⟩, if_pos c]
  · rw [if_neg (fun h => c h.2), if_neg (fun h => absurd h.1 (by decide)), if_neg (fun h => absurd h.1 (by decide)), if_neg c]
theorem jn15 {A : DA} {a b i : Nat} (h : A 15 a = -1) : jn A a b 15 i = if i = a then (b : Int) else A 15 i := by
  unfold jn
  rw [if_neg (fun h => absurd h.1 (by decide))]
  by_cases c : i = a
  · rw [if_pos ⟨rfl, c, h⟩, if_pos c]
  · rw [if_neg (fun h => c h.2.1), if_neg (fun h => absurd h.1 (by decide)), if_neg c]
theorem jn17 {A : DA} {a b i : Nat} (h : ¬ A 15 a = -1) : jn A a b 17 i = if (i : Int) = A 16 a then (b : Int) else A 17 i := by
  unfold jn
  rw [if_neg (fun h => absurd h.1 (by decide)), if_neg (fun h => absurd h.1 (by decide))]
  by_cases c : (i : Int) = A 16 a
  · rw [if_pos ⟨rfl, h, c⟩, if_pos c]
  · rw [if_neg (fun h => c h.2.2), if_neg c]
theorem jn_15 {A : DA} {a b q i : Nat} (h : A 15 a = -1) (h1 : q ≠ 15) (h2 : q ≠ 16) : jn A a b q i = A q i := by
  unfold jn
  rw [if_neg (fun c => h2 c.1), if_neg (fun c => h1 c.1), if_neg (fun c => c.2.1 h)]
theorem jn_17 {A : DA} {a b q i : Nat} (h : ¬ A 15 a = -1) (h1 : q ≠ 17) (h2 : q ≠ 16) : jn A a b q i = A q i := by
  unfold jn
  rw [if_neg (fun c => h2 c.1), if_neg (fun c => h c.2.2), if_neg (fun c => h1 c.1)]
/-- links stay within -/
def DW (A : DA) (n : Nat) : Prop := ∀ i, i < n → A 15 i = -1 ∨ (0 ≤ A 16 i ∧ A 16 i < (n : Int))
theorem dw_dr {A : DA} {n : Nat} {k p v : Int} (h : DW A n) : DW (dr A n k p v) (n + 1) := by
  intro i hi
  by_cases e : i = n
  · subst e
    left
    unfold dr
    rw [if_pos rfl]
    rfl
  · rw [dr_out e, dr_out e]
    rcases h i (by omega) with c | c
    · exact Or.inl c
    · exact Or.inr (by omega)
theorem dw_jn {A : DA} {n a b : Nat} (h : DW A n) (hb : b < n) : DW (jn A a b) n := by
  intro i hi
  by_cases e : i = a
  · subst e
    right
    have : jn A i b 16 i = (b : Int) := if_pos ⟨rfl, rfl⟩
    omega
  · have e1 : jn A a b 15 i = A 15 i := by
      unfold jn
      rw [if_neg (fun c => absurd c.1 (by decide)), if_neg (fun c => e c.2.1), if_neg (fun c => absurd c.1 (by decide))]
    have e2 : jn A a b 16 i = A 16 i := by
      unfold jn
      rw [if_neg (fun c => e c.2), if_neg (fun c => absurd c.1 (by decide)), if_neg (fun c => absurd c.1 (by decide))]
    rw [e1, e2]
    exact h i hi
/-- nothing that lay there has changed -/
def Ex (A A' : DA) (n : Nat) : Prop := ∀ q i, i < n → A' q i = A q i
theorem ex_dr {A : DA} {n : Nat} {k p v : Int} : Ex A (dr A n k p v) n := fun _ _ h => dr_out (by omega)
theorem ex_tr {A A' A'' : DA} {n n' : Nat} (h : Ex A A' n) (h' : Ex A' A'' n') (hn : n ≤ n') : Ex A A'' n := fun q i hi => (h' q i (by omega)).trans (h q i hi)
/-- a part that was read behind all there was is joined to a node -/
theorem po_part {X : Tx} {A A1 : DA} {n n1 lo mid a k t b : Nat} {l m : List Nd} (h : Po X A lo mid a k t l) (ha : a < n) (hm : mid ≤ n) (hx : Ex A A1 n) (hT : Tr X A1 n n1 b m) (hz : A1 17 b = -1) : Po X (jn A1 a b) lo n1 a k t (l ++ m) ∧ (∀ q i, i < n → i ≠ a → (i < lo ∨ mid ≤ i) → jn A1 a b q i = A q i) ∧ jn A1 a b 17 a = A 17 a := by
  have h' : Po X A1 lo mid a k t l := po_fr h (fun q _ => hx q a ha) (fun q i _ h2 _ => hx q i (by omega))
  refine ⟨po_join h' hT hz hm (Or.inl ha), fun q i h1 h2 h3 => ?_, ?_⟩
  · rw [jn_out h' h2 h3]
    exact hx q i h1
  · rw [jn_self (by decide) (by decide), hx 17 a ha]
    rcases po_last h' with e | ⟨e, e1, e2, e3, e4⟩
    · exact Or.inl e
    · exact Or.inr (by omega)
