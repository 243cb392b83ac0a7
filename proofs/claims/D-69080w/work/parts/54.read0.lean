/-! READING, in pictures: what a reader has in hand; what its methods come to by the grammar -/
set_option maxRecDepth 100000
def wpP (r : PR) (QO : List Nd → Nat → Prop) (QE : Nat → Prop) : Prop := match r with
  | some (.inr q) => QO q.1 q.2
  | some (.inl e) => QE e
  | none => False
theorem wp_ok {l : List Nd} {j : Nat} {QO : List Nd → Nat → Prop} {QE : Nat → Prop} : wpP (pOk l j) QO QE = QO l j := rfl
theorem wp_er {j : Nat} {QO : List Nd → Nat → Prop} {QE : Nat → Prop} : wpP (pEr j) QO QE = QE j := rfl
theorem wp_b {r : PR} {f : List Nd → Nat → PR} {QO : List Nd → Nat → Prop} {QE : Nat → Prop} (h : wpP (pb r f) QO QE) : wpP r (fun l j => r = pOk l j ∧ wpP (f l j) QO QE) QE := by
  unfold pb at h
  unfold wpP
  split at h
  · exact ⟨rfl, h⟩
  · exact h
  · exact h
theorem wp_mono {r : PR} {QO QO' : List Nd → Nat → Prop} {QE QE' : Nat → Prop} (h : wpP r QO QE) (h1 : ∀ l j, r = pOk l j → QO l j → QO' l j) (h2 : ∀ e, QE e → QE' e) : wpP r QO' QE' := by
  unfold wpP at h ⊢
  split at h
  · exact h1 _ _ rfl h
  · exact h2 _ h
  · exact h
theorem wp_S {p q : Nat → PR} {j : Nat} {QO : List Nd → Nat → Prop} {QE : Nat → Prop} (h : wpP (pS p q j) QO QE) : wpP (p j) (fun l j1 => p j = pOk l j1 ∧ wpP (q j1) (fun l2 j2 => QO (l ++ l2) j2) QE) QE := by
  unfold pS at h
  refine wp_mono (wp_b h) (fun l j1 e q => ⟨e, ?_⟩) (fun _ q => q)
  exact wp_mono (wp_b q.2) (fun l2 j2 _ q => q.2) (fun _ q => q)
theorem wp_W {k j0 j : Nat} {p : Nat → PR} {QO : List Nd → Nat → Prop} {QE : Nat → Prop} (h : wpP (pW k j0 p j) QO QE) : wpP (p j) (fun l j1 => QO ((k, j0, l.length + 1) :: l) j1) QE := by
  unfold pW at h
  exact wp_mono (wp_b h) (fun l j1 e q => q.2) (fun _ q => q)
theorem wp_T {K : Nat → Nat} {t j : Nat} {QO : List Nd → Nat → Prop} {QE : Nat → Prop} (h : wpP (pT K t j) QO QE) : (K j = t → QO [] (j + 1)) ∧ (K j ≠ t → QE j) := by
  unfold pT at h
  refine ⟨fun c => ?_, fun c => ?_⟩
  · rw [if_pos c] at h; exact h
  · rw [if_neg c] at h; exact h
theorem wp_N {K : Nat → Nat} {j : Nat} {QO : List Nd → Nat → Prop} {QE : Nat → Prop} (h : wpP (pN K j) QO QE) : (K j = 2 → QO [(21, j, 1)] (j + 1)) ∧ (K j ≠ 2 → QE j) := by
  unfold pN at h
  refine ⟨fun c => ?_, fun c => ?_⟩
  · rw [if_pos c] at h; exact h
  · rw [if_neg c] at h; exact h
/-- the letters of a token -/
noncomputable def tt (X : Tx) (t : Nat) : List Int := (List.range (tln X t)).map (fun q => X.1 (tpo X t + q))
/-- a name that is a new one perhaps -/
def nad (NS : List (List Int)) (l : List Int) : List (List Int) := if l ∈ NS then NS else NS ++ [l]
/-- a node of the tree: kind, place, value, size -/
abbrev N4 : Type := Int × Int × Int × Int
noncomputable def nd4 (X : Tx) (NS : List (List Int)) (n : Nd) : N4 := ((n.1 : Int), (tpo X n.2.1 : Int), (if n.1 = 21 then ((NS.idxOf (tt X n.2.1) : Nat) : Int) else if n.1 = 20 then tvl X n.2.1 else 0), (n.2.2 : Int))
noncomputable def nm1 (X : Tx) (NS : List (List Int)) (n : Nd) : List (List Int) := if n.1 = 21 then nad NS (tt X n.2.1) else NS
noncomputable def rsl (X : Tx) : List (List Int) → List Nd → List N4
  | _, [] => []
  | NS, n :: l => nd4 X (nm1 X NS n) n :: rsl X (nm1 X NS n) l
noncomputable def nms (X : Tx) : List (List Int) → List Nd → List (List Int)
  | NS, [] => NS
  | NS, n :: l => nms X (nm1 X NS n) l
theorem nms_app (X : Tx) : ∀ (l m : List Nd) (NS : List (List Int)), nms X NS (l ++ m) = nms X (nms X NS l) m
  | [], _, _ => rfl
  | _ :: l, m, _ => nms_app X l m _
theorem rsl_app (X : Tx) : ∀ (l m : List Nd) (NS : List (List Int)), rsl X NS (l ++ m) = rsl X NS l ++ rsl X (nms X NS l) m
  | [], _, _ => rfl
  | n :: l, m, NS => by
    show nd4 X (nm1 X NS n) n :: rsl X (nm1 X NS n) (l ++ m) = nd4 X (nm1 X NS n) n :: (rsl X (nm1 X NS n) l ++ rsl X (nms X (nm1 X NS n) l) m)
    rw [rsl_app X l m]
theorem rsl_len (X : Tx) : ∀ (l : List Nd) (NS : List (List Int)), (rsl X NS l).length = l.length
  | [], _ => rfl
  | n :: l, NS => by
    show (rsl X (nm1 X NS n) l).length + 1 = l.length + 1
    rw [rsl_len X l]
theorem tt_len (X : Tx) (t : Nat) : (tt X t).length = tln X t := by unfold tt; simp
