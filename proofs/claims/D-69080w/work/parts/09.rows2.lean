/-! ROWS II: locals, branches, switches, ends -/
set_option maxRecDepth 100000
theorem lsL_mem {G : Gp} {v : AV} : ∀ {ls : List (Option AV)} {i : Nat} (j : Nat), ls.getD i none = some v → (j + i, cV G v) ∈ lsL G j ls
  | [], i, j, h => by simp at h
  | none :: t, 0, j, h => by simp at h
  | some w :: t, 0, j, h => by
    simp at h
    subst h
    exact List.mem_cons_self
  | none :: t, i + 1, j, h => by
    have h' : t.getD i none = some v := by simpa using h
    have := lsL_mem (G := G) (j + 1) h'
    show (j + (i + 1), cV G v) ∈ lsL G (j + 1) t
    rwa [show j + (i + 1) = j + 1 + i by omega]
  | some w :: t, i + 1, j, h => by
    have h' : t.getD i none = some v := by simpa using h
    have := lsL_mem (G := G) (j + 1) h'
    show (j + (i + 1), cV G v) ∈ (j, cV G w) :: lsL G (j + 1) t
    rw [show j + (i + 1) = j + 1 + i by omega]
    exact List.mem_cons_of_mem _ this
theorem lsL_inv {G : Gp} {q : Nat × Value} : ∀ {ls : List (Option AV)} {j : Nat}, q ∈ lsL G j ls → ∃ i v, q = (j + i, cV G v) ∧ ls.getD i none = some v
  | [], j, h => by cases h
  | none :: t, j, h => by
    obtain ⟨i, v, e, h1⟩ := lsL_inv (j := j + 1) (ls := t) h
    exact ⟨i + 1, v, by rw [e]; congr 1; omega, by simpa using h1⟩
  | some w :: t, j, h => by
    rcases List.mem_cons.mp h with e | e
    · exact ⟨0, w, by rw [e]; rfl, rfl⟩
    · obtain ⟨i, v, e, h1⟩ := lsL_inv (j := j + 1) (ls := t) e
      exact ⟨i + 1, v, by rw [e]; congr 1; omega, by simpa using h1⟩
theorem lv_less {ls : Array Slot} {n : Nat} {l l' : List (Nat × Value)} (h : lv_has ls n l) (hl : ∀ q ∈ l', q ∈ l) : lv_has ls n l' := ⟨h.1, h.2.1, fun q hq => h.2.2 q (hl q hq)⟩
theorem getD_set {ls : List (Option AV)} {i j : Nat} {v : Option AV} : (ls.set i v).getD j none = if i = j ∧ i < ls.length then v else ls.getD j none := by
  rw [List.getD_eq_getElem?_getD, List.getElem?_set, List.getD_eq_getElem?_getD]
  split
  · rename_i e
    subst e
    by_cases h : i < ls.length
    · simp [h]
    · simp [h]
  · rename_i e
    rw [if_neg (fun q => e q.1)]
theorem getD_kill {ls : List (Option AV)} {i j : Nat} {v : AV} (h : (lkill ls i).getD j none = some v) : ls.getD j none = some v ∧ (j + 1 = i → avW v = 1) := by
  cases i with
  | zero => exact ⟨h, fun q => by omega⟩
  | succ a =>
    simp only [lkill] at h
    split at h
    · rename_i x e
      rw [getD_set] at h
      split at h
      · cases h
      · rename_i hn
        refine ⟨h, fun q => ?_⟩
        have hj : j = a := by omega
        subst hj
        rw [e] at h
        exfalso
        apply hn
        refine ⟨rfl, ?_⟩
        have : ls.getD j none ≠ none := by rw [e]; simp
        by_cases hl : j < ls.length
        · exact hl
        · exact absurd (by simp [hl]) this
    · rename_i hne
      refine ⟨h, fun q => ?_⟩
      have hj : j = a := by omega
      subst hj
      rcases v with x | x | r
      · rfl
      · exact absurd h (hne x)
      · rfl
theorem kill_len (ls : List (Option AV)) (i : Nat) : (lkill ls i).length = ls.length := by
  cases i with
  | zero => rfl
  | succ a =>
    simp only [lkill]
    split <;> simp
theorem lset_len (ls : List (Option AV)) (i : Nat) (v : AV) : (lset ls i v).length = ls.length := by simp [lset, kill_len]
theorem lset2_len (ls : List (Option AV)) (i : Nat) (v : AV) : (lset2 ls i v).length = ls.length := by simp [lset2, kill_len]
theorem lset_has {G : Gp} {ls : List (Option AV)} {i n : Nat} {v : AV} {lsC : Array Slot} (h : lv_has lsC n ((i, cV G v) :: (lsL G 0 ls).filter (fun q => !(q.1 == i) && !(q.1 + 1 == i && q.2.category == 2)))) : lv_has lsC n (lsL G 0 (lset ls i v)) := by
  refine lv_less h fun q hq => ?_
  obtain ⟨j, w, e, h1⟩ := lsL_inv hq
  unfold lset at h1
  rw [getD_set] at h1
  split at h1
  · rename_i c
    cases h1
    rw [e, c.1, Nat.zero_add]
    exact List.mem_cons_self
  · rename_i c
    obtain ⟨h2, h3⟩ := getD_kill h1
    have hm := lsL_mem (G := G) 0 h2
    by_cases hj : j = i
    · subst hj
      exfalso
      apply c
      refine ⟨rfl, ?_⟩
      rw [kill_len]
      by_cases hl : j < ls.length
      · exact hl
      · rw [List.getD_eq_getElem?_getD] at h2
        simp [hl] at h2
    · apply List.mem_cons_of_mem
      rw [List.mem_filter, e]
      refine ⟨hm, ?_⟩
      have hc := cV_cat G w
      simp only [Nat.zero_add]
      by_cases hj2 : j + 1 = i
      · rw [hc, h3 hj2]
        simp [hj]
      · simp [hj, hj2]
theorem lset2_has {G : Gp} {ls : List (Option AV)} {i n : Nat} {v : AV} {lsC : Array Slot} (h : lv_has lsC n ((i, cV G v) :: (lsL G 0 ls).filter (fun q => !(q.1 == i) && (!(q.1 == i + 1) && !(q.1 + 1 == i && q.2.category == 2))))) : lv_has lsC n (lsL G 0 (lset2 ls i v)) := by
  refine lv_less h fun q hq => ?_
  obtain ⟨j, w, e, h1⟩ := lsL_inv hq
  unfold lset2 at h1
  rw [getD_set] at h1
  split at h1
  · cases h1
  · rename_i c2
    rw [getD_set] at h1
    split at h1
    · rename_i c
      cases h1
      rw [e, c.1, Nat.zero_add]
      exact List.mem_cons_self
    · rename_i c
      obtain ⟨h2, h3⟩ := getD_kill h1
      have hm := lsL_mem (G := G) 0 h2
      have hjl : j < ls.length := by
        by_cases hl : j < ls.length
        · exact hl
        · rw [List.getD_eq_getElem?_getD] at h2
          simp [hl] at h2
      have hj : ¬ j = i := fun q => c ⟨q.symm, by rw [kill_len, ← q]; exact hjl⟩
      have hj1 : ¬ j = i + 1 := fun q => c2 ⟨q.symm, by rw [List.length_set, kill_len, ← q]; exact hjl⟩
      apply List.mem_cons_of_mem
      rw [List.mem_filter, e]
      refine ⟨hm, ?_⟩
      have hc := cV_cat G w
      simp only [Nat.zero_add]
      by_cases hj2 : j + 1 = i
      · rw [hc, h3 hj2]
        simp [hj, hj1]
      · simp [hj, hj1, hj2]
theorem lset_ok {σ : Sg} {ls : List (Option AV)} {i : Nat} {v : AV} (h : ∀ w, some w ∈ ls → okV σ w) (hv : okV σ v) : ∀ w, some w ∈ lset ls i v → okV σ w := by
  intro w hw
  unfold lset at hw
  rcases List.mem_or_eq_of_mem_set hw with q | q
  · apply h
    cases i with
    | zero => exact q
    | succ a =>
      simp only [lkill] at q
      split at q
      · rcases List.mem_or_eq_of_mem_set q with q | q
        · exact q
        · cases q
      · exact q
  · cases q; exact hv
theorem lset2_ok {σ : Sg} {ls : List (Option AV)} {i : Nat} {v : AV} (h : ∀ w, some w ∈ ls → okV σ w) (hv : okV σ v) : ∀ w, some w ∈ lset2 ls i v → okV σ w := by
  intro w hw
  unfold lset2 at hw
  rcases List.mem_or_eq_of_mem_set hw with q | q
  · exact lset_ok (i := i) h hv w q
  · cases q
theorem mem_getD {ls : List (Option AV)} {i : Nat} {v : AV} (h : ls.getD i none = some v) : some v ∈ ls := by
  rw [List.getD_eq_getElem?_getD] at h
  cases hh : ls[i]? with
  | none => rw [hh] at h; cases h
  | some w =>
    rw [hh] at h
    simp at h
    rw [h] at hh
    exact List.mem_of_getElem? hh
theorem lsL_at {G : Gp} {ls : List (Option AV)} {i n : Nat} {v : AV} {lsC : Array Slot} (hl : lv_has lsC n (lsL G 0 ls)) (h : ls.getD i none = some v) : lsC[i]? = some (.val (cV G v)) := by
  have := hl.2.2 _ (lsL_mem (G := G) 0 h)
  simpa using this
theorem oV_ref (o : Option Nat) : oV o = .null ∨ ∃ a, oV o = .ref a := by
  cases o with
  | none => exact Or.inl rfl
  | some a => exact Or.inr ⟨a, rfl⟩
theorem cO_ref (G : Gp) (r : Int) : cO G r = .null ∨ ∃ a, cO G r = .ref a := by
  unfold cO
  split
  · exact Or.inl rfl
  · split
    · exact Or.inr ⟨_, rfl⟩
    · exact oV_ref _
theorem cV_ref (G : Gp) (v : Int ⊕ (Nat × Nat × Nat × Nat)) : cV G (.inr (.inr v)) = .null ∨ ∃ a, cV G (.inr (.inr v)) = .ref a := by
  rcases v with r | q
  · exact cO_ref G r
  · exact Or.inr ⟨_, rfl⟩
section Rows2
variable {ph k : Nat} {X : Cx} {y : MI} {σ0 σ : Sg} {Q : Option AV → Sg → Prop} {E : Int → Sg → Prop} {pc : Nat} {ls : List (Option AV)} {st : List AV}
theorem ax_iload {i : Nat} {x : Int} (hX : CxOk ph X y k σ0 Q E) (hi : ls.getD i none = some (vI x)) (hd : decode y.2.1 pc = .ok (.iload i, 2)) (h : Ax ph X (pc + 2) ls (vI x :: st) σ) : Ax ph X pc ls st σ := by
  obtain ⟨G, p, l, e, R, s, m, args, below, meth, c, σ0', Q0, E0⟩ := X
  intro H locs lsC hR hL hl ho hs hn hsl hm
  exact lv_iload hX.1 hX.2.1 hd (lsL_at hl hi) (h H locs lsC hR hL hl ho (okp (ho _ (mem_getD hi)) hs) hn hsl hm)
theorem ax_iload_n {i : Fin 4} {x : Int} (hX : CxOk ph X y k σ0 Q E) (hi : ls.getD i.val none = some (vI x)) (hd : decode y.2.1 pc = .ok (.iload_n i, 1)) (h : Ax ph X (pc + 1) ls (vI x :: st) σ) : Ax ph X pc ls st σ := by
  obtain ⟨G, p, l, e, R, s, m, args, below, meth, c, σ0', Q0, E0⟩ := X
  intro H locs lsC hR hL hl ho hs hn hsl hm
  exact lv_iload_n hX.1 hX.2.1 hd rfl (lsL_at hl hi) (h H locs lsC hR hL hl ho (okp (ho _ (mem_getD hi)) hs) hn hsl hm)
theorem ax_lload {i : Nat} {x : Int} (hX : CxOk ph X y k σ0 Q E) (hi : ls.getD i none = some (vJ x)) (hd : decode y.2.1 pc = .ok (.lload i, 2)) (h : Ax ph X (pc + 2) ls (vJ x :: st) σ) : Ax ph X pc ls st σ := by
  obtain ⟨G, p, l, e, R, s, m, args, below, meth, c, σ0', Q0, E0⟩ := X
  intro H locs lsC hR hL hl ho hs hn hsl hm
  exact lv_lload hX.1 hX.2.1 hd (lsL_at hl hi) (h H locs lsC hR hL hl ho (okp (ho _ (mem_getD hi)) hs) hn hsl hm)
theorem ax_lload_n {i : Fin 4} {x : Int} (hX : CxOk ph X y k σ0 Q E) (hi : ls.getD i.val none = some (vJ x)) (hd : decode y.2.1 pc = .ok (.lload_n i, 1)) (h : Ax ph X (pc + 1) ls (vJ x :: st) σ) : Ax ph X pc ls st σ := by
  obtain ⟨G, p, l, e, R, s, m, args, below, meth, c, σ0', Q0, E0⟩ := X
  intro H locs lsC hR hL hl ho hs hn hsl hm
  exact lv_lload_n hX.1 hX.2.1 hd rfl (lsL_at hl hi) (h H locs lsC hR hL hl ho (okp (ho _ (mem_getD hi)) hs) hn hsl hm)
theorem ax_aload {i : Nat} {v : Int ⊕ (Nat × Nat × Nat × Nat)} (hX : CxOk ph X y k σ0 Q E) (hi : ls.getD i none = some (.inr (.inr v))) (hd : decode y.2.1 pc = .ok (.aload i, 2)) (h : Ax ph X (pc + 2) ls (.inr (.inr v) :: st) σ) : Ax ph X pc ls st σ := by
  obtain ⟨G, p, l, e, R, s, m, args, below, meth, c, σ0', Q0, E0⟩ := X
  intro H locs lsC hR hL hl ho hs hn hsl hm
  have h1 := h H locs lsC hR hL hl ho (okp (ho _ (mem_getD hi)) hs) hn hsl hm
  have h2 := lsL_at hl hi
  rw [List.map_cons] at h1
  rcases cV_ref G v with e1 | ⟨a, e1⟩
  · rw [e1] at h1 h2
    exact lv_aloadN hX.1 hX.2.1 hd h2 h1
  · rw [e1] at h1 h2
    exact lv_aload hX.1 hX.2.1 hd h2 h1
theorem ax_aload_n {i : Fin 4} {v : Int ⊕ (Nat × Nat × Nat × Nat)} (hX : CxOk ph X y k σ0 Q E) (hi : ls.getD i.val none = some (.inr (.inr v))) (hd : decode y.2.1 pc = .ok (.aload_n i, 1)) (h : Ax ph X (pc + 1) ls (.inr (.inr v) :: st) σ) : Ax ph X pc ls st σ := by
  obtain ⟨G, p, l, e, R, s, m, args, below, meth, c, σ0', Q0, E0⟩ := X
  intro H locs lsC hR hL hl ho hs hn hsl hm
  have h1 := h H locs lsC hR hL hl ho (okp (ho _ (mem_getD hi)) hs) hn hsl hm
  have h2 := lsL_at hl hi
  rw [List.map_cons] at h1
  rcases cV_ref G v with e1 | ⟨a, e1⟩
  · rw [e1] at h1 h2
    exact lv_aload_nN hX.1 hX.2.1 hd rfl h2 h1
  · rw [e1] at h1 h2
    exact lv_aload_n hX.1 hX.2.1 hd rfl h2 h1
theorem ax_istore {i : Nat} {x : Int} (hX : CxOk ph X y k σ0 Q E) (hi : i < y.2.2.1) (hd : decode y.2.1 pc = .ok (.istore i, 2)) (h : Ax ph X (pc + 2) (lset ls i (vI x)) st σ) : Ax ph X pc ls (vI x :: st) σ := by
  obtain ⟨G, p, l, e, R, s, m, args, below, meth, c, σ0', Q0, E0⟩ := X
  intro H locs lsC hR hL hl ho hs hn hsl hm
  exact lv_istore hX.1 hX.2.1 hd hl (by rw [hX.2.2.1]; exact hi) rfl (fun ls' h' => h H locs ls' hR hL (lset_has h') (lset_ok ho (okc hs).1) (okc hs).2 hn hsl hm)
theorem ax_istore_n {i : Fin 4} {x : Int} (hX : CxOk ph X y k σ0 Q E) (hi : i.val < y.2.2.1) (hd : decode y.2.1 pc = .ok (.istore_n i, 1)) (h : Ax ph X (pc + 1) (lset ls i.val (vI x)) st σ) : Ax ph X pc ls (vI x :: st) σ := by
  obtain ⟨G, p, l, e, R, s, m, args, below, meth, c, σ0', Q0, E0⟩ := X
  intro H locs lsC hR hL hl ho hs hn hsl hm
  exact lv_istore_n hX.1 hX.2.1 hd rfl hl (by rw [hX.2.2.1]; exact hi) rfl (fun ls' h' => h H locs ls' hR hL (lset_has h') (lset_ok ho (okc hs).1) (okc hs).2 hn hsl hm)
theorem ax_lstore {i : Nat} {x : Int} (hX : CxOk ph X y k σ0 Q E) (hi : i + 1 < y.2.2.1) (hd : decode y.2.1 pc = .ok (.lstore i, 2)) (h : Ax ph X (pc + 2) (lset2 ls i (vJ x)) st σ) : Ax ph X pc ls (vJ x :: st) σ := by
  obtain ⟨G, p, l, e, R, s, m, args, below, meth, c, σ0', Q0, E0⟩ := X
  intro H locs lsC hR hL hl ho hs hn hsl hm
  exact lv_lstore hX.1 hX.2.1 hd hl (by rw [hX.2.2.1]; exact hi) rfl (fun ls' h' => h H locs ls' hR hL (lset2_has h') (lset2_ok ho (okc hs).1) (okc hs).2 hn hsl hm)
theorem ax_lstore_n {i : Fin 4} {x : Int} (hX : CxOk ph X y k σ0 Q E) (hi : i.val + 1 < y.2.2.1) (hd : decode y.2.1 pc = .ok (.lstore_n i, 1)) (h : Ax ph X (pc + 1) (lset2 ls i.val (vJ x)) st σ) : Ax ph X pc ls (vJ x :: st) σ := by
  obtain ⟨G, p, l, e, R, s, m, args, below, meth, c, σ0', Q0, E0⟩ := X
  intro H locs lsC hR hL hl ho hs hn hsl hm
  exact lv_lstore_n hX.1 hX.2.1 hd rfl hl (by rw [hX.2.2.1]; exact hi) rfl (fun ls' h' => h H locs ls' hR hL (lset2_has h') (lset2_ok ho (okc hs).1) (okc hs).2 hn hsl hm)
theorem ax_astore {i : Nat} {v : Int ⊕ (Nat × Nat × Nat × Nat)} (hX : CxOk ph X y k σ0 Q E) (hi : i < y.2.2.1) (hd : decode y.2.1 pc = .ok (.astore i, 2)) (h : Ax ph X (pc + 2) (lset ls i (.inr (.inr v))) st σ) : Ax ph X pc ls (.inr (.inr v) :: st) σ := by
  obtain ⟨G, p, l, e, R, s, m, args, below, meth, c, σ0', Q0, E0⟩ := X
  intro H locs lsC hR hL hl ho hs hn hsl hm
  rw [List.map_cons]
  rcases cV_ref G v with e1 | ⟨a, e1⟩
  · rw [e1]
    exact lv_astoreN hX.1 hX.2.1 hd hl (by rw [hX.2.2.1]; exact hi) rfl (fun ls' h' => h H locs ls' hR hL (lset_has (by rw [e1]; exact h')) (lset_ok ho (okc hs).1) (okc hs).2 hn hsl hm)
  · rw [e1]
    exact lv_astore hX.1 hX.2.1 hd hl (by rw [hX.2.2.1]; exact hi) rfl (fun ls' h' => h H locs ls' hR hL (lset_has (by rw [e1]; exact h')) (lset_ok ho (okc hs).1) (okc hs).2 hn hsl hm)
theorem ax_astore_n {i : Fin 4} {v : Int ⊕ (Nat × Nat × Nat × Nat)} (hX : CxOk ph X y k σ0 Q E) (hi : i.val < y.2.2.1) (hd : decode y.2.1 pc = .ok (.astore_n i, 1)) (h : Ax ph X (pc + 1) (lset ls i.val (.inr (.inr v))) st σ) : Ax ph X pc ls (.inr (.inr v) :: st) σ := by
  obtain ⟨G, p, l, e, R, s, m, args, below, meth, c, σ0', Q0, E0⟩ := X
  intro H locs lsC hR hL hl ho hs hn hsl hm
  rw [List.map_cons]
  rcases cV_ref G v with e1 | ⟨a, e1⟩
  · rw [e1]
    exact lv_astore_nN hX.1 hX.2.1 hd rfl hl (by rw [hX.2.2.1]; exact hi) rfl (fun ls' h' => h H locs ls' hR hL (lset_has (by rw [e1]; exact h')) (lset_ok ho (okc hs).1) (okc hs).2 hn hsl hm)
  · rw [e1]
    exact lv_astore_n hX.1 hX.2.1 hd rfl hl (by rw [hX.2.2.1]; exact hi) rfl (fun ls' h' => h H locs ls' hR hL (lset_has (by rw [e1]; exact h')) (lset_ok ho (okc hs).1) (okc hs).2 hn hsl hm)
theorem ax_iinc {i : Nat} {d x : Int} (hX : CxOk ph X y k σ0 Q E) (hi : ls.getD i none = some (vI x)) (hd : decode y.2.1 pc = .ok (.iinc i d, 3)) (h : Ax ph X (pc + 3) (lset ls i (vI (w32 (x + d)))) st σ) : Ax ph X pc ls st σ := by
  obtain ⟨G, p, l, e, R, s, m, args, below, meth, c, σ0', Q0, E0⟩ := X
  intro H locs lsC hR hL hl ho hs hn hsl hm
  have h2 := lsL_at hl hi
  obtain ⟨kk, hk⟩ := List.getElem?_of_mem (lsL_mem (G := G) 0 hi)
  have hlt : i < c.maxLocals := by
    have := lv_lt h2
    rwa [hl.1] at this
  refine lv_iinc (v := Int32.ofInt (w32 (x + d))) hX.1 hX.2.1 hd hl (k := kk) (x := Int32.ofInt x) (by rw [hk, Nat.zero_add]; rfl) (by rw [i32_add]) hlt rfl (fun ls' h' => h H locs ls' hR hL (lset_has h') (lset_ok ho (w32_in _)) hs hn hsl hm)
/-- branches -/
theorem ax_if {cd : Jvm.ClassFile.Cond} {off : Int} {tgt : Nat} {x : Int} (hX : CxOk ph X y k σ0 Q E) (ht : (pc : Int) + off = tgt) (hd : decode y.2.1 pc = .ok (.ifCond cd off, 3)) (h1 : cmpI cd x 0 → Ax ph X tgt ls st σ) (h2 : ¬ cmpI cd x 0 → Ax ph X (pc + 3) ls st σ) : Ax ph X pc ls (vI x :: st) σ := by
  obtain ⟨G, p, l, e, R, s, m, args, below, meth, c, σ0', Q0, E0⟩ := X
  intro H locs lsC hR hL hl ho hs hn hsl hm
  have hx : in32 x := (okc hs).1
  have h0 : in32 0 := by unfold in32; omega
  have k1 := fun q => h1 q H locs lsC hR hL hl ho (okc hs).2 hn hsl hm
  have k2 := fun q => h2 q H locs lsC hR hL hl ho (okc hs).2 hn hsl hm
  cases cd with
  | eq => exact lv_if_eq hX.1 hX.2.1 hd ht (fun q => k1 (by rw [i32_c0] at q; exact (i32_eq hx h0).mp q)) (fun q => k2 (fun r => q (by rw [i32_c0]; exact (i32_eq hx h0).mpr r)))
  | ne => exact lv_if_ne hX.1 hX.2.1 hd ht (fun q => k1 (fun r => q (by rw [i32_c0]; exact (i32_eq hx h0).mpr r))) (fun q => k2 (fun r => r (by rw [i32_c0] at q; exact (i32_eq hx h0).mp q)))
  | lt => exact lv_if_lt hX.1 hX.2.1 hd ht (fun q => k1 (by rw [i32_c0] at q; exact (i32_lt hx h0).mp q)) (fun q => k2 (fun r => q (by rw [i32_c0]; exact (i32_lt hx h0).mpr r)))
  | ge => exact lv_if_ge hX.1 hX.2.1 hd ht (fun q => k1 (by rw [i32_c0] at q; exact (i32_le h0 hx).mp q)) (fun q => k2 (fun r => q (by rw [i32_c0]; exact (i32_le h0 hx).mpr r)))
  | gt => exact lv_if_gt hX.1 hX.2.1 hd ht (fun q => k1 (by rw [i32_c0] at q; exact (i32_lt h0 hx).mp q)) (fun q => k2 (fun r => q (by rw [i32_c0]; exact (i32_lt h0 hx).mpr r)))
  | le => exact lv_if_le hX.1 hX.2.1 hd ht (fun q => k1 (by rw [i32_c0] at q; exact (i32_le hx h0).mp q)) (fun q => k2 (fun r => q (by rw [i32_c0]; exact (i32_le hx h0).mpr r)))
theorem ax_icmp {cd : Jvm.ClassFile.Cond} {off : Int} {tgt : Nat} {x z : Int} (hX : CxOk ph X y k σ0 Q E) (ht : (pc : Int) + off = tgt) (hd : decode y.2.1 pc = .ok (.if_icmp cd off, 3)) (h1 : cmpI cd x z → Ax ph X tgt ls st σ) (h2 : ¬ cmpI cd x z → Ax ph X (pc + 3) ls st σ) : Ax ph X pc ls (vI z :: vI x :: st) σ := by
  obtain ⟨G, p, l, e, R, s, m, args, below, meth, c, σ0', Q0, E0⟩ := X
  intro H locs lsC hR hL hl ho hs hn hsl hm
  have hz : in32 z := (okc hs).1
  have hx : in32 x := (okc (okc hs).2).1
  have k1 := fun q => h1 q H locs lsC hR hL hl ho (okc (okc hs).2).2 hn hsl hm
  have k2 := fun q => h2 q H locs lsC hR hL hl ho (okc (okc hs).2).2 hn hsl hm
  cases cd with
  | eq => exact lv_icmp_eq hX.1 hX.2.1 hd ht (fun q => k1 ((i32_eq hx hz).mp q)) (fun q => k2 (fun r => q ((i32_eq hx hz).mpr r)))
  | ne => exact lv_icmp_ne hX.1 hX.2.1 hd ht (fun q => k1 (fun r => q ((i32_eq hx hz).mpr r))) (fun q => k2 (fun r => r ((i32_eq hx hz).mp q)))
  | lt => exact lv_icmp_lt hX.1 hX.2.1 hd ht (fun q => k1 ((i32_lt hx hz).mp q)) (fun q => k2 (fun r => q ((i32_lt hx hz).mpr r)))
  | ge => exact lv_icmp_ge hX.1 hX.2.1 hd ht (fun q => k1 ((i32_le hz hx).mp q)) (fun q => k2 (fun r => q ((i32_le hz hx).mpr r)))
  | gt => exact lv_icmp_gt hX.1 hX.2.1 hd ht (fun q => k1 ((i32_lt hz hx).mp q)) (fun q => k2 (fun r => q ((i32_lt hz hx).mpr r)))
  | le => exact lv_icmp_le hX.1 hX.2.1 hd ht (fun q => k1 ((i32_le hx hz).mp q)) (fun q => k2 (fun r => q ((i32_le hx hz).mpr r)))
theorem offs_cons (ps : List (Int × Int)) (q : Int × Int) (d x : Int) : Op.lookupswitch.offset (q :: ps) d x = if x = q.1 then q.2 else Op.lookupswitch.offset ps d x := by
  rw [Op.lookupswitch.offset_cons]
  by_cases h : x = q.1
  · simp [h]
  · simp [h, Ne.symm h]
theorem swL_off {go : Nat → Prop} {d x : Int} : ∀ (ps : List (Int × Int)), (∀ q ∈ ps, 0 ≤ (pc : Int) + q.2) → 0 ≤ (pc : Int) + d → swL pc x d go ps → ∃ tgt : Nat, (pc : Int) + Op.lookupswitch.offset ps d x = tgt ∧ go tgt
  | [], _, hd, h => ⟨((pc : Int) + d).toNat, by rw [show Op.lookupswitch.offset [] d x = d from rfl]; omega, h⟩
  | q :: t, hp, hd, h => by
    obtain ⟨h1, h2⟩ := h
    rw [offs_cons]
    by_cases c : x = q.1
    · rw [if_pos c]
      exact ⟨((pc : Int) + q.2).toNat, by have := hp q List.mem_cons_self; omega, h1 c⟩
    · rw [if_neg c]
      exact swL_off t (fun r hr => hp r (List.mem_cons_of_mem _ hr)) hd (h2 c)
theorem ax_lookup {d x : Int} {ps : Array (Int × Int)} {len : Nat} (hX : CxOk ph X y k σ0 Q E) (hd : decode y.2.1 pc = .ok (.lookupswitch d ps, len)) (hp : (ps.toList.zip (ps.toList.drop 1)).all (fun (a, next) => a.1 < next.1) = true)
    (ho1 : ∀ q ∈ ps.toList, 0 ≤ (pc : Int) + q.2) (ho2 : 0 ≤ (pc : Int) + d) (h : swL pc x d (fun p => Ax ph X p ls st σ) ps.toList) : Ax ph X pc ls (vI x :: st) σ := by
  obtain ⟨tgt, e1, h1⟩ := swL_off ps.toList ho1 ho2 h
  obtain ⟨G, p, l, e, R, s, m, args, below, meth, c, σ0', Q0, E0⟩ := X
  intro H locs lsC hR hL hl ho hs hn hsl hm
  exact lv_lookup hX.1 hX.2.1 hd hp rfl (by rw [i32_toInt (okc hs).1]; exact e1) (h1 H locs lsC hR hL hl ho (okc hs).2 hn hsl hm)
theorem swT_at {go : Nat → Prop} {x : Int} : ∀ (os : List Int) (lo : Int), (∀ q ∈ os, 0 ≤ (pc : Int) + q) → swT pc x go lo os → lo ≤ x → x < lo + os.length → ∃ (off : Int) (tgt : Nat), os[(x - lo).toNat]? = some off ∧ (pc : Int) + off = tgt ∧ go tgt
  | [], lo, _, _, h1, h2 => by simp at h2; omega
  | off :: t, lo, hp, h, h1, h2 => by
    obtain ⟨ha, hb⟩ := h
    by_cases c : x = lo
    · refine ⟨off, ((pc : Int) + off).toNat, ?_, by have := hp off List.mem_cons_self; omega, ha c⟩
      rw [c, Int.sub_self]; rfl
    · obtain ⟨o2, tgt, e1, e2, e3⟩ := swT_at t (lo + 1) (fun r hr => hp r (List.mem_cons_of_mem _ hr)) hb (by omega) (by simp at h2; omega)
      refine ⟨o2, tgt, ?_, e2, e3⟩
      rw [show (x - lo).toNat = (x - (lo + 1)).toNat + 1 by omega, List.getElem?_cons_succ]
      exact e1
theorem ax_table {d lo hi x : Int} {os : Array Int} {len : Nat} (hX : CxOk ph X y k σ0 Q E) (hd : decode y.2.1 pc = .ok (.tableswitch d lo hi os, len)) (hsz : os.size = (hi + 1 - lo).toNat) (hlh : lo ≤ hi)
    (ho1 : ∀ q ∈ os.toList, 0 ≤ (pc : Int) + q) (ho2 : 0 ≤ (pc : Int) + d) (h1 : x < lo ∨ hi < x → Ax ph X ((pc : Int) + d).toNat ls st σ) (h : swT pc x (fun p => Ax ph X p ls st σ) lo os.toList) : Ax ph X pc ls (vI x :: st) σ := by
  by_cases hc : x < lo ∨ hi < x
  · obtain ⟨G, p, l, e, R, s, m, args, below, meth, c, σ0', Q0, E0⟩ := X
    intro H locs lsC hR hL hl ho hs hn hsl hm
    exact lv_tableOut hX.1 hX.2.1 hd (by rw [i32_toInt (okc hs).1]; exact hc) (tgt := ((pc : Int) + d).toNat) (by omega) (h1 hc H locs lsC hR hL hl ho (okc hs).2 hn hsl hm)
  · obtain ⟨off, tgt, e1, e2, e3⟩ := swT_at os.toList lo ho1 h (by omega) (by rw [Array.length_toList, hsz]; omega)
    obtain ⟨G, p, l, e, R, s, m, args, below, meth, c, σ0', Q0, E0⟩ := X
    intro H locs lsC hR hL hl ho hs hn hsl hm
    have hx : (Int32.ofInt x).toInt = x := i32_toInt (okc hs).1
    exact lv_tableIn hX.1 hX.2.1 hd (by rw [hx]; omega) (by rw [hx]; omega) (by rw [hx, ← Array.getElem?_toList]; exact e1) e2 (e3 H locs lsC hR hL hl ho (okc hs).2 hn hsl hm)
/-- ends -/
theorem ax_iret {x : Int} (hX : CxOk ph X y k σ0 Q E) (hr : y.2.2.2.1 = some .int) (hd : decode y.2.1 pc = .ok (.ireturn, 1)) (h : Q (some (vI x)) σ) : Ax ph X pc ls [vI x] σ := by
  obtain ⟨G, p, l, e, R, s, m, args, below, meth, c, σ0', Q0, E0⟩ := X
  obtain ⟨hx, hb, hml, hret, hlocks, hown, hnm, hexc, hG, hk1, hk2, hc1, hc2, rfl, rfl, rfl⟩ := hX
  intro H locs lsC hR hL hl ho hs hn hsl hm T hT X
  obtain ⟨fs, hrt, hrun, hended, hW, hframe⟩ := X.leave (v := some (.int (Int32.ofInt x))) (fun h => by rw [hret, hr] at h; cases h)
  have hmeth' : T.vm.method? m = some meth := X.method'
  refine ⟨T.setFrames fs, ?_, hrun, Or.inl ⟨some (vI x), σ, locs, h, fun v hv => by cases hv; exact (okc hs).1, by rw [show (T.setFrames fs).heap = T.heap from rfl, hT]; exact hR, hn, hsl, hm, hended, hW, hframe, hL⟩⟩
  have hr' := hret.trans hr
  show Steps p.tables e below (T.setTop (F0 m pc lsC [.int (Int32.ofInt x)])) _
  jvm_step X.here [X.here.top, hx, hb, hd, hmeth', hr', narrow]
  (try refine ⟨rfl, ?_⟩); (try refine ⟨rfl, ?_⟩)
  first | (intro acts; rw [hrt _ acts rfl rfl rfl]) | rw [hrt _ _ rfl rfl rfl]
  exact Steps.refl _
theorem ax_zret {x : Int} (hX : CxOk ph X y k σ0 Q E) (hr : y.2.2.2.1 = some .boolean) (hx01 : 0 ≤ x ∧ x ≤ 1) (hd : decode y.2.1 pc = .ok (.ireturn, 1)) (h : Q (some (vI x)) σ) : Ax ph X pc ls [vI x] σ := by
  obtain ⟨G, p, l, e, R, s, m, args, below, meth, c, σ0', Q0, E0⟩ := X
  obtain ⟨hx, hb, hml, hret, hlocks, hown, hnm, hexc, hG, hk1, hk2, hc1, hc2, rfl, rfl, rfl⟩ := hX
  intro H locs lsC hR hL hl ho hs hn hsl hm T hT X
  obtain ⟨fs, hrt, hrun, hended, hW, hframe⟩ := X.leave (v := some (.int (Int32.ofInt x))) (fun h => by rw [hret, hr] at h; cases h)
  have hmeth' : T.vm.method? m = some meth := X.method'
  refine ⟨T.setFrames fs, ?_, hrun, Or.inl ⟨some (vI x), σ, locs, h, fun v hv => by cases hv; exact (okc hs).1, by rw [show (T.setFrames fs).heap = T.heap from rfl, hT]; exact hR, hn, hsl, hm, hended, hW, hframe, hL⟩⟩
  have hr' := hret.trans hr
  have hnar : narrow .boolean (.int (Int32.ofInt x)) = .int (Int32.ofInt x) := by
    rcases (show x = 0 ∨ x = 1 by omega) with q | q <;> (subst q; decide +kernel)
  show Steps p.tables e below (T.setTop (F0 m pc lsC [.int (Int32.ofInt x)])) _
  jvm_step X.here [X.here.top, hx, hb, hd, hmeth', hr', hnar]
  (try refine ⟨rfl, ?_⟩); (try refine ⟨rfl, ?_⟩)
  first | (intro acts; rw [hrt _ acts rfl rfl rfl]) | rw [hrt _ _ rfl rfl rfl]
  exact Steps.refl _
theorem ax_lret {x : Int} (hX : CxOk ph X y k σ0 Q E) (hr : y.2.2.2.1 = some .long) (hd : decode y.2.1 pc = .ok (.lreturn, 1)) (h : Q (some (vJ x)) σ) : Ax ph X pc ls [vJ x] σ := by
  obtain ⟨G, p, l, e, R, s, m, args, below, meth, c, σ0', Q0, E0⟩ := X
  obtain ⟨hx, hb, hml, hret, hlocks, hown, hnm, hexc, hG, hk1, hk2, hc1, hc2, rfl, rfl, rfl⟩ := hX
  intro H locs lsC hR hL hl ho hs hn hsl hm T hT X
  obtain ⟨fs, hrt, hrun, hended, hW, hframe⟩ := X.leave (v := some (.long (Int64.ofInt x))) (fun h => by rw [hret, hr] at h; cases h)
  have hmeth' : T.vm.method? m = some meth := X.method'
  refine ⟨T.setFrames fs, ?_, hrun, Or.inl ⟨some (vJ x), σ, locs, h, fun v hv => by cases hv; exact (okc hs).1, by rw [show (T.setFrames fs).heap = T.heap from rfl, hT]; exact hR, hn, hsl, hm, hended, hW, hframe, hL⟩⟩
  have hr' := hret.trans hr
  show Steps p.tables e below (T.setTop (F0 m pc lsC [.long (Int64.ofInt x)])) _
  jvm_step X.here [X.here.top, hx, hb, hd, hmeth', hr', narrow]
  (try refine ⟨rfl, ?_⟩); (try refine ⟨rfl, ?_⟩)
  first | (intro acts; rw [hrt _ acts rfl rfl rfl]) | rw [hrt _ _ rfl rfl rfl]
  exact Steps.refl _
theorem ax_vret (hX : CxOk ph X y k σ0 Q E) (hr : y.2.2.2.1 = none) (hd : decode y.2.1 pc = .ok (.return_, 1)) (h : Q none σ) : Ax ph X pc ls [] σ := by
  obtain ⟨G, p, l, e, R, s, m, args, below, meth, c, σ0', Q0, E0⟩ := X
  obtain ⟨hx, hb, hml, hret, hlocks, hown, hnm, hexc, hG, hk1, hk2, hc1, hc2, rfl, rfl, rfl⟩ := hX
  intro H locs lsC hR hL hl ho hs hn hsl hm T hT X
  obtain ⟨fs, hrt, hrun, hended, hW, hframe⟩ := X.leave (v := none) (fun _ => rfl)
  have hmeth' : T.vm.method? m = some meth := X.method'
  refine ⟨T.setFrames fs, ?_, hrun, Or.inl ⟨none, σ, locs, h, fun v hv => (by cases hv), by rw [show (T.setFrames fs).heap = T.heap from rfl, hT]; exact hR, hn, hsl, hm, hended, hW, hframe, hL⟩⟩
  have hr' := hret.trans hr
  show Steps p.tables e below (T.setTop (F0 m pc lsC [])) _
  jvm_step X.here [X.here.top, hx, hb, hd, hmeth', hr']
  (try refine ⟨rfl, ?_⟩); (try refine ⟨rfl, ?_⟩)
  first | (intro acts; rw [hrt _ acts rfl rfl rfl]) | rw [hrt _ _ rfl rfl rfl]
  exact Steps.refl _
theorem ax_aret {v : Int ⊕ (Nat × Nat × Nat × Nat)} {rt : FieldType} (hX : CxOk ph X y k σ0 Q E) (hr : y.2.2.2.1 = some rt) (hrt : (∃ n, rt = .object n) ∨ ∃ t, rt = .array t) (hd : decode y.2.1 pc = .ok (.areturn, 1)) (h : Q (some (.inr (.inr v))) σ) : Ax ph X pc ls [.inr (.inr v)] σ := by
  obtain ⟨G, p, l, e, R, s, m, args, below, meth, c, σ0', Q0, E0⟩ := X
  obtain ⟨hx, hb, hml, hret, hlocks, hown, hnm, hexc, hG, hk1, hk2, hc1, hc2, rfl, rfl, rfl⟩ := hX
  intro H locs lsC hR hL hl ho hs hn hsl hm T hT X
  obtain ⟨fs, hrt2, hrun, hended, hW, hframe⟩ := X.leave (v := some (cV G (.inr (.inr v)))) (fun h => by rw [hret, hr] at h; cases h)
  have hmeth' : T.vm.method? m = some meth := X.method'
  refine ⟨T.setFrames fs, ?_, hrun, Or.inl ⟨some (.inr (.inr v)), σ, locs, h, fun v hv => by cases hv; exact (okc hs).1, by rw [show (T.setFrames fs).heap = T.heap from rfl, hT]; exact hR, hn, hsl, hm, hended, hW, hframe, hL⟩⟩
  have hr' := hret.trans hr
  show Steps p.tables e below (T.setTop (F0 m pc lsC [cV G (.inr (.inr v))])) _
  have hvv := cV_ref G v
  generalize cV G (.inr (.inr v)) = w at hrt2 hvv ⊢
  rcases hrt with ⟨n, rfl⟩ | ⟨t, rfl⟩ <;> rcases hvv with rfl | ⟨a, rfl⟩ <;>
    (jvm_step X.here [X.here.top, hx, hb, hd, hmeth', hr']
     (try refine ⟨rfl, ?_⟩); (try refine ⟨rfl, ?_⟩)
     first | (intro acts; rw [hrt2 _ acts rfl rfl rfl]) | rw [hrt2 _ _ rfl rfl rfl]
     exact Steps.refl _)
end Rows2
