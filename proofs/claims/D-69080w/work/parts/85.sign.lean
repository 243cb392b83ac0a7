/-! signs: the two ways of telling them -/
set_option maxRecDepth 100000
/-- the model's tokens -/
def mcd : List Int := [0, 1, 2, 3, 40, 41, 123, 125, 91, 93, 44, 59, 58, 63, 61, 126, 33, 124, 94, 38, 260, 261, 60, 256, 62, 257, 258, 259, 43, 45, 42, 47, 37, 300, 301, 302, 303, 304, 305, 306, 307, 308, 309, 310, 311, 312, 313, 314, 315, 316, 317, 318]
theorem mt_2 {X : Tx} {p s : Nat} : mt X p 2 s ↔ tS s = [lk X p, lk X (p + 1)] := by
  unfold mt
  constructor
  · rintro ⟨h1, h2⟩
    exact ext_getD h1 (fun q hq => by
      rw [h1] at hq
      have := h2 q hq
      rcases Nat.lt_or_ge q 1 with c | c
      · have : q = 0 := by omega
        subst this
        exact (h2 0 (by omega)).symm
      · have : q = 1 := by omega
        subst this
        exact (h2 1 (by omega)).symm)
  · intro h
    rw [h]
    refine ⟨rfl, fun q hq => ?_⟩
    rcases Nat.lt_or_ge q 1 with c | c
    · have : q = 0 := by omega
      subst this; rfl
    · have : q = 1 := by omega
      subst this; rfl
theorem mt_1 {X : Tx} {p s : Nat} : mt X p 1 s ↔ tS s = [lk X p] := by
  unfold mt
  constructor
  · rintro ⟨h1, h2⟩
    exact ext_getD h1 (fun q hq => by
      rw [h1] at hq
      have : q = 0 := by omega
      subst this
      exact (h2 0 (by omega)).symm)
  · intro h
    rw [h]
    refine ⟨rfl, fun q hq => ?_⟩
    have : q = 0 := by omega
    subst this; rfl
theorem spl_some {X : Tx} {i n : Nat} : ∀ (m k k0 : Nat), k0 + m = k → 2 ≤ k0 → k < 52 → mt X i n k → spl X i n 60 k0 ≠ 1
  | 0, k, k0, h, h2, hk, hm => by
    have : k0 = k := by omega
    subst this
    rw [spl_yes hk hm]
    omega
  | m + 1, k, k0, h, h2, hk, hm => by
    by_cases c : mt X i n k0
    · rw [spl_yes (by omega) c]; omega
    · rw [spl_no (by omega) c]
      exact spl_some m k (k0 + 1) (by omega) (by omega) hk hm
theorem tS_two (s : Nat) (h1 : s < 52) (h2 : 4 ≤ s) (h3 : (tS s).length = 2) : s = 20 ∨ s = 21 ∨ s = 23 ∨ s = 25 ∨ s = 26 ∨ s = 27 ∨ s = 37 ∨ s = 42 := by
  have h : (List.range 52).all (fun s => !(Nat.ble 4 s) || (!((tS s).length == 2) || (s == 20 || (s == 21 || (s == 23 || (s == 25 || (s == 26 || (s == 27 || (s == 37 || s == 42))))))))) = true := by decide +kernel
  have h4 := List.all_eq_true.mp h s (List.mem_range.mpr h1)
  have e1 : Nat.ble 4 s = true := Nat.ble_eq_true_of_le h2
  rw [e1, h3] at h4
  simpa using h4
def sgL : List Int := [40, 41, 123, 125, 91, 93, 44, 59, 58, 63, 61, 60, 62, 43, 45, 42, 47, 37, 38, 124, 94, 126, 33]
theorem tS_one (s : Nat) (h1 : s < 52) (h2 : 4 ≤ s) (h3 : (tS s).length = 1) : tS s = [mcd.getD s 0] ∧ mcd.getD s 0 ∈ sgL := by
  have h : (List.range 52).all (fun s => !(Nat.ble 4 s) || (!((tS s).length == 1) || (tS s == [mcd.getD s 0] && sgL.contains (mcd.getD s 0)))) = true := by decide +kernel
  have h4 := List.all_eq_true.mp h s (List.mem_range.mpr h1)
  have e1 : Nat.ble 4 s = true := Nat.ble_eq_true_of_le h2
  rw [e1, h3] at h4
  have h5 : (tS s == [mcd.getD s 0] && sgL.contains (mcd.getD s 0)) = true := by simpa using h4
  rw [Bool.and_eq_true] at h5
  exact ⟨by simpa using h5.1, by simpa using h5.2⟩
theorem sg_two {X : Tx} {p : Nat} (hp : p + 1 < X.2) (hl : ¬ isLt (X.1 p)) :
    (spl X p 2 60 4 = 1 ∧ ¬ (X.1 p = 60 ∧ X.1 (p + 1) = 61) ∧ ¬ (X.1 p = 62 ∧ X.1 (p + 1) = 61) ∧ ¬ (X.1 p = 60 ∧ X.1 (p + 1) = 60) ∧ ¬ (X.1 p = 62 ∧ X.1 (p + 1) = 62) ∧ ¬ (X.1 p = 61 ∧ X.1 (p + 1) = 61) ∧ ¬ (X.1 p = 33 ∧ X.1 (p + 1) = 61)) ∨
    (spl X p 2 60 4 = 23 ∧ X.1 p = 60 ∧ X.1 (p + 1) = 61) ∨ (spl X p 2 60 4 = 25 ∧ X.1 p = 62 ∧ X.1 (p + 1) = 61) ∨ (spl X p 2 60 4 = 26 ∧ X.1 p = 60 ∧ X.1 (p + 1) = 60) ∨ (spl X p 2 60 4 = 27 ∧ X.1 p = 62 ∧ X.1 (p + 1) = 62) ∨ (spl X p 2 60 4 = 20 ∧ X.1 p = 61 ∧ X.1 (p + 1) = 61) ∨ (spl X p 2 60 4 = 21 ∧ X.1 p = 33 ∧ X.1 (p + 1) = 61) := by
  have e1 : lk X p = X.1 p := by unfold lk; rw [if_pos (by omega)]
  have e2 : lk X (p + 1) = X.1 (p + 1) := by unfold lk; rw [if_pos hp]
  have no : ∀ k : Nat, 4 ≤ k → k < 52 → spl X p 2 60 4 = 1 → tS k ≠ [X.1 p, X.1 (p + 1)] := fun k h1 h2 h3 h4 => by
    have hm : mt X p 2 k := mt_2.mpr (by rw [h4, e1, e2])
    exact spl_some (k - 4) k 4 (by omega) (by omega) h2 hm h3
  rcases spl_range X p 2 60 4 with c | ⟨c1, c2, c3⟩
  · refine Or.inl ⟨c, fun h => no 23 (by omega) (by omega) c ?_, fun h => no 25 (by omega) (by omega) c ?_, fun h => no 26 (by omega) (by omega) c ?_, fun h => no 27 (by omega) (by omega) c ?_, fun h => no 20 (by omega) (by omega) c ?_, fun h => no 21 (by omega) (by omega) c ?_⟩
    all_goals rw [h.1, h.2]; rfl
  · have hm := mt_2.mp c3
    rw [e1, e2] at hm
    have ht := tS_two _ c2 c1 (by rw [hm]; rfl)
    refine Or.inr ?_
    rcases ht with w | w | w | w | w | w | w | w
    · rw [w] at hm
      have h0 : ([61, 61] : List Int) = [X.1 p, X.1 (p + 1)] := hm
      injection h0 with h1 h2
      injection h2 with h2 _
      omega
    · rw [w] at hm
      have h0 : ([33, 61] : List Int) = [X.1 p, X.1 (p + 1)] := hm
      injection h0 with h1 h2
      injection h2 with h2 _
      omega
    · rw [w] at hm
      have h0 : ([60, 61] : List Int) = [X.1 p, X.1 (p + 1)] := hm
      injection h0 with h1 h2
      injection h2 with h2 _
      omega
    · rw [w] at hm
      have h0 : ([62, 61] : List Int) = [X.1 p, X.1 (p + 1)] := hm
      injection h0 with h1 h2
      injection h2 with h2 _
      omega
    · rw [w] at hm
      have h0 : ([60, 60] : List Int) = [X.1 p, X.1 (p + 1)] := hm
      injection h0 with h1 h2
      injection h2 with h2 _
      omega
    · rw [w] at hm
      have h0 : ([62, 62] : List Int) = [X.1 p, X.1 (p + 1)] := hm
      injection h0 with h1 h2
      injection h2 with h2 _
      omega
    · rw [w] at hm
      have h0 : ([105, 110] : List Int) = [X.1 p, X.1 (p + 1)] := hm
      injection h0 with h1 h2
      omega
    · rw [w] at hm
      have h0 : ([105, 102] : List Int) = [X.1 p, X.1 (p + 1)] := hm
      injection h0 with h1 h2
      omega
theorem sg_all : ∀ c : Int, isSg c → ∃ k : Nat, 4 ≤ k ∧ k < 52 ∧ tS k = [c] := by
  intro c h
  unfold isSg at h
  rcases h with h | h | h | h | h | h | h | h | h | h | h | h | h | h | h | h | h | h | h | h | h | h | h
  · exact ⟨4, by omega, by omega, by rw [h]; rfl⟩
  · exact ⟨5, by omega, by omega, by rw [h]; rfl⟩
  · exact ⟨6, by omega, by omega, by rw [h]; rfl⟩
  · exact ⟨7, by omega, by omega, by rw [h]; rfl⟩
  · exact ⟨8, by omega, by omega, by rw [h]; rfl⟩
  · exact ⟨9, by omega, by omega, by rw [h]; rfl⟩
  · exact ⟨10, by omega, by omega, by rw [h]; rfl⟩
  · exact ⟨11, by omega, by omega, by rw [h]; rfl⟩
  · exact ⟨12, by omega, by omega, by rw [h]; rfl⟩
  · exact ⟨13, by omega, by omega, by rw [h]; rfl⟩
  · exact ⟨14, by omega, by omega, by rw [h]; rfl⟩
  · exact ⟨22, by omega, by omega, by rw [h]; rfl⟩
  · exact ⟨24, by omega, by omega, by rw [h]; rfl⟩
  · exact ⟨28, by omega, by omega, by rw [h]; rfl⟩
  · exact ⟨29, by omega, by omega, by rw [h]; rfl⟩
  · exact ⟨30, by omega, by omega, by rw [h]; rfl⟩
  · exact ⟨31, by omega, by omega, by rw [h]; rfl⟩
  · exact ⟨32, by omega, by omega, by rw [h]; rfl⟩
  · exact ⟨19, by omega, by omega, by rw [h]; rfl⟩
  · exact ⟨17, by omega, by omega, by rw [h]; rfl⟩
  · exact ⟨18, by omega, by omega, by rw [h]; rfl⟩
  · exact ⟨15, by omega, by omega, by rw [h]; rfl⟩
  · exact ⟨16, by omega, by omega, by rw [h]; rfl⟩
theorem sg_one {X : Tx} {p : Nat} (hp : p < X.2) : (spl X p 1 60 4 = 1 ∧ ¬ isSg (X.1 p)) ∨ (isSg (X.1 p) ∧ mcd.getD (spl X p 1 60 4) 0 = X.1 p ∧ 4 ≤ spl X p 1 60 4 ∧ spl X p 1 60 4 < 52) := by
  have e1 : lk X p = X.1 p := by unfold lk; rw [if_pos (by omega)]
  rcases spl_range X p 1 60 4 with c | ⟨c1, c2, c3⟩
  · refine Or.inl ⟨c, fun h => ?_⟩
    obtain ⟨k, h1, h2, h3⟩ := sg_all _ h
    exact spl_some (k - 4) k 4 (by omega) (by omega) h2 (mt_1.mpr (by rw [h3, e1])) c
  · have hm := mt_1.mp c3
    rw [e1] at hm
    obtain ⟨h1, h2⟩ := tS_one _ c2 c1 (by rw [hm]; rfl)
    rw [h1] at hm
    injection hm with hm _
    refine Or.inr ⟨?_, hm, c1, c2⟩
    rw [hm] at h2
    unfold isSg
    simpa [sgL] using h2
