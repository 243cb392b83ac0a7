/-! items: fuel, and one behind the other -/
set_option maxRecDepth 100000
theorem og_fun {N : Nat} {K : Nat → Nat} {R : Nat → Nat → Nat → PR} {F : Nat} (hN : K N < 2) (h : OgR N R F) {j : Nat} (hj : j ≤ N) (hF : 64 * (N - j) + 64 ≤ F) : Og N (gFun K R j) j 0 := by
  unfold gFun
  refine og_S (a := 1) (b := 0) (og_N hN hj (by omega)) (fun j1 c1 c2 => og_S (a := 0) (b := 0) (og_W ?_) (fun j2 c3 c4 => og_S (a := 1) (b := 0) (og_T hN c4 (by omega) (by omega)) (fun j3 c5 c6 => og_S (a := 1) (b := 0) (og_param hN h c6 (by omega)) (fun j4 c7 c8 => og_S (a := 0) (b := 0) (h.2.2.1.2.2.2.2.2 0 j4 c8 (by omega)) (fun j5 c9 c10 => og_S (a := 1) (b := 0) (og_T hN c10 (by omega) (by omega)) (fun j6 c11 c12 => og_S (a := 3) (b := 0) (og_width hN h c12 (by omega)) (fun j7 c13 c14 => og_S (a := 1) (b := 0) (og_T hN c14 (by omega) (by omega)) (fun j8 c15 c16 => og_S (a := 1) (b := 0) (h.1.2.1 1 j8 c16 (by omega)) (fun j9 c17 c18 => og_T hN c18 (by omega) (by omega)) (by omega)) (by omega)) (by omega)) (by omega)) (by omega)) (by omega)) (by omega)) (by omega)) (by omega)
  split
  · exact og_S (a := 1) (b := 0) (og_T hN c2 (by omega) (by omega)) (fun j2 c3 c4 => og_S (a := 1) (b := 0) (og_names hN h (Or.inr rfl) c4 (by omega)) (fun j3 c5 c6 => og_T hN c6 (by omega) (by omega)) (by omega)) (by omega)
  · exact og_E c2 rfl
theorem og_signal {N : Nat} {K : Nat → Nat} {R : Nat → Nat → Nat → PR} {F : Nat} (hN : K N < 2) (h : OgR N R F) {t j : Nat} (hj : j ≤ N) (hF : 64 * (N - j) + 64 ≤ F) : Og N (gSignal K R t j) j 0 := by
  unfold gSignal
  refine og_S (a := 1) (b := 0) (og_N hN hj (by omega)) (fun j1 c1 c2 => og_S (a := 0) (b := 0) ?_ (fun j2 c3 c4 => og_S (a := 0) (b := 0) ?_ (fun j3 c5 c6 => og_S (a := 0) (b := 0) ?_ (fun j4 c7 c8 => og_S (a := 0) (b := 0) ?_ (fun j5 c9 c10 => og_T hN c10 (by omega) (by omega)) (by omega)) (by omega)) (by omega)) (by omega)) (by omega)
  · split
    · exact og_mono (og_width hN h c2 (by omega)) (by omega)
    · exact og_E c2 rfl
  · split
    · exact og_S (a := 1) (b := 0) (og_T hN c4 (by omega) (by omega)) (fun j3 c5 c6 => og_mono (h.1.1 1 j3 c6 (by omega)) (by omega)) (by omega)
    · exact og_E c4 rfl
  · split
    · exact og_S (a := 1) (b := 0) (og_T hN c6 (by omega) (by omega)) (fun j3 c5 c6 => og_mono (h.2.2.1.1 1 j3 c6 (by omega)) (by omega)) (by omega)
    · exact og_E c6 rfl
  · split
    · exact og_S (a := 1) (b := 0) (og_T hN c8 (by omega) (by omega)) (fun j3 c5 c6 => og_mono (h.1.2.1 1 j3 c6 (by omega)) (by omega)) (by omega)
    · exact og_E c8 rfl
theorem og_item {N : Nat} {K : Nat → Nat} {R : Nat → Nat → Nat → PR} {F : Nat} (hN : K N < 2) (h : OgR N R F) {j : Nat} (hj : j ≤ N) (hF : 64 * (N - j) + 64 ≤ F) : Og N (gItem K R j) j 1 := by
  unfold gItem
  refine og_if (fun _ => og_er) (fun c => og_if (fun _ => og_W ?_) (fun _ => og_if (fun _ => og_W ?_) (fun _ => og_if (fun _ => og_W ?_) (fun _ => og_if (fun _ => og_W ?_) (fun _ => og_W ?_)))))
  · refine og_S (a := 1) (b := 0) (og_T hN hj (by omega) (by omega)) (fun j1 c1 c2 => og_S (a := 1) (b := 0) (og_N hN c2 (by omega)) (fun j2 c3 c4 => og_S (a := 0) (b := 0) ?_ (fun j3 c5 c6 => og_T hN c6 (by omega) (by omega)) (by omega)) (by omega)) (by omega)
    exact og_if (fun _ => og_S (a := 1) (b := 0) (og_T hN c4 (by omega) (by omega)) (fun j3 c5 c6 => og_mono (og_names hN h (Or.inr rfl) c6 (by omega)) (by omega)) (by omega)) (fun _ => og_E c4 rfl)
  · exact og_S (a := 1) (b := 0) (og_T hN hj (by omega) (by omega)) (fun j1 c1 c2 => og_S (a := 1) (b := 0) (og_N hN c2 (by omega)) (fun j2 c3 c4 => og_S (a := 1) (b := 0) (og_T hN c4 (by omega) (by omega)) (fun j3 c5 c6 => og_S (a := 1) (b := 0) (h.1.1 1 j3 c6 (by omega)) (fun j4 c7 c8 => og_T hN c8 (by omega) (by omega)) (by omega)) (by omega)) (by omega)) (by omega)
  · exact og_S (a := 1) (b := 0) (og_T hN hj (by omega) (by omega)) (fun j1 c1 c2 => og_fun hN h c2 (by omega)) (by omega)
  · exact og_S (a := 1) (b := 0) (og_T hN hj (by omega) (by omega)) (fun j1 c1 c2 => og_mono (h.2.2.1.2.1 1 j1 c2 (by omega)) (by omega)) (by omega)
  · exact og_S (a := 1) (b := 0) (og_T hN hj (by omega) (by omega)) (fun j1 c1 c2 => og_signal hN h c2 (by omega)) (by omega)
/-- all items: nodes of those that are whole; where it goes on; a fault -/
def pItems (K : Nat → Nat) (F : Nat) : Nat → Nat → List Nd × Nat × Option Nat
  | 0, j => ([], j, none)
  | m + 1, j => if K j = 0 then ([], j, none) else match pItem K F j with
    | some (.inr q) => (q.1 ++ (pItems K F m q.2).1, (pItems K F m q.2).2)
    | some (.inl e) => ([], j, some e)
    | none => ([], j, none)
theorem bd_item {K : Nat → Nat} {R : Nat → Nat → Nat → PR} (h : BdR K R) {j : Nat} : Bd (gItem K R j) j 0 := by
  unfold gItem
  refine bd_if (fun _ => bd_er) (fun c => bd_if (fun _ => ?_) (fun _ => bd_if (fun _ => ?_) (fun _ => bd_if (fun _ => ?_) (fun _ => bd_if (fun _ => ?_) (fun _ => ?_)))))
  · refine bd_W (a := 7) (bd_S (a := 3) (b := 4) (bd_T (by omega)) (fun _ _ => bd_S (a := 1) (b := 3) (bd_N (by omega)) (fun _ _ => bd_S (a := 0) (b := 3) ?_ (fun _ _ => bd_T (by omega)) (by omega)) (by omega)) (by omega)) (by omega)
    exact bd_if (fun _ => bd_S (a := 3) (b := 1) (bd_T (by omega)) (fun _ _ => bd_names h (Or.inr rfl)) (by omega)) (fun _ => bd_E (Int.le_refl _))
  · exact bd_W (a := 11) (bd_S (a := 3) (b := 8) (bd_T (by omega)) (fun _ _ => bd_S (a := 1) (b := 7) (bd_N (by omega)) (fun _ _ => bd_S (a := 3) (b := 4) (bd_T (by omega)) (fun _ _ => bd_S (a := 1) (b := 3) (h.1 0 _ _) (fun _ _ => bd_T (by omega)) (by omega)) (by omega)) (by omega)) (by omega)) (by omega)
  · refine bd_W (a := 6) (bd_S (a := 3) (b := 3) (bd_T (by omega)) (fun _ _ => ?_) (by omega)) (by omega)
    unfold gFun
    refine bd_S (a := 1) (b := 2) (bd_N (by omega)) (fun _ _ => bd_S (a := -2) (b := 10) (bd_W (a := 0) ?_ (by omega)) (fun _ _ => bd_S (a := 3) (b := 7) (bd_T (by omega)) (fun _ _ => bd_S (a := 6) (b := 1) (bd_param h) (fun _ _ => bd_S (a := 0) (b := 1) (h.1 13 0 _) (fun _ _ => bd_S (a := 3) (b := 0) (bd_T (by omega)) (fun _ _ => bd_S (a := 7) (b := 0) (bd_width h) (fun _ _ => bd_S (a := 3) (b := 0) (bd_T (by omega)) (fun _ _ => bd_S (a := 1) (b := 3) (h.1 2 1 _) (fun _ _ => bd_T (by omega)) (by omega)) (by omega)) (by omega)) (by omega)) (by omega)) (by omega)) (by omega)) (by omega)) (by omega)
    split
    · exact bd_S (a := 3) (b := 4) (bd_T (by omega)) (fun _ _ => bd_S (a := 1) (b := 3) (bd_names h (Or.inr rfl)) (fun _ _ => bd_T (by omega)) (by omega)) (by omega)
    · exact bd_E (Int.le_refl _)
  · exact bd_W (a := 3) (bd_S (a := 3) (b := 0) (bd_T (by omega)) (fun _ _ => h.1 9 1 _) (by omega)) (by omega)
  · refine bd_W (a := 3) (bd_S (a := 3) (b := 0) (bd_T (by omega)) (fun _ _ => ?_) (by omega)) (by omega)
    unfold gSignal
    refine bd_S (a := 1) (b := 3) (bd_N (by omega)) (fun _ _ => bd_S (a := 0) (b := 3) ?_ (fun _ _ => bd_S (a := 0) (b := 3) ?_ (fun _ _ => bd_S (a := 0) (b := 3) ?_ (fun _ _ => bd_S (a := 0) (b := 3) ?_ (fun _ _ => bd_T (by omega)) (by omega)) (by omega)) (by omega)) (by omega)) (by omega)
    · split
      · exact bd_mono (bd_width h) (by omega)
      · exact bd_E (Int.le_refl _)
    · split
      · exact bd_S (a := 3) (b := 1) (bd_T (by omega)) (fun _ _ => h.1 0 1 _) (by omega)
      · exact bd_E (Int.le_refl _)
    · split
      · exact bd_S (a := 3) (b := -1) (bd_T (by omega)) (fun _ _ => h.1 8 1 _) (by omega)
      · exact bd_E (Int.le_refl _)
    · split
      · exact bd_S (a := 3) (b := 1) (bd_T (by omega)) (fun _ _ => h.1 2 1 _) (by omega)
      · exact bd_E (Int.le_refl _)
