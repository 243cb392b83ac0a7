/-! ROWS VI: copies of stretches; an exception is made and thrown -/
set_option maxRecDepth 100000
theorem fits_e {G : Gp} {σ : Sg} {e : Nat} {x : Int} (he : e ≤ 3) (h : eOk σ e x) : fits (elTy e) (eVal G e x) = true := by
  rcases (show e = 0 ∨ e = 1 ∨ e = 2 ∨ e = 3 by omega) with rfl | rfl | rfl | rfl
  · rfl
  · have h1 := h.2.1 rfl
    have : x = w8 x := by unfold w8; omega
    show fits .byte (.int (Int32.ofInt x)) = true
    rw [this, ← i32_i2b]
    exact pk_fb _
  · have h1 := h.2.2.1 rfl
    rcases (show x = 0 ∨ x = 1 by omega) with rfl | rfl
    · show fits .boolean (.int (Int32.ofInt 0)) = true; decide +kernel
    · show fits .boolean (.int (Int32.ofInt 1)) = true; decide +kernel
  · rfl
theorem takes_e {G : Gp} {U : State} {c : ClassId} {e : Nat} {x : Int} (he : e ≤ 3) : U.takes c (eVal G e x) := by
  rcases (show e = 0 ∨ e = 1 ∨ e = 2 ∨ e = 3 by omega) with rfl | rfl | rfl | rfl <;> trivial
theorem copy_words : nativeFrameWords "java/lang/System" "arraycopy" 5 + 11 ≤ 33 := by decide +kernel
section Rows6
variable {ph k : Nat} {X : Cx} {y : MI} {σ0 σ : Sg} {Q : Option AV → Sg → Prop} {E : Int → Sg → Prop} {pc : Nat} {ls : List (Option AV)} {st : List AV}
theorem ax_copy {e o f v o' f' v' idx : Nat} {sp dp n : Int} (hX : CxOk ph X y (k + 1) σ0 Q E) (he : e ≤ 3) (hv : v = gV σ o f) (hv' : v' = gV σ o' f') (hlk : Cond.methodLink y.1.cls idx arraycopyName ∈ lw_all) (hnat : Cond.native arraycopyName ∈ lw_all) (hstat : Cond.static arraycopyName ∈ lw_all) (hini : Cond.initialized "java/lang/System" ∈ lw_all) (hst8 : (st.map avW).sum ≤ 8)
    (hi : 0 ≤ n ∧ 0 ≤ sp ∧ 0 ≤ dp ∧ sp + n ≤ gL σ o f ∧ dp + n ≤ gL σ o' f') (hd : decode y.2.1 pc = .ok (.invokestatic idx, 3)) (h : Ax ph X (pc + 3) ls st (sB σ o' f' (cpy (gA σ o f) (gA σ o' f') sp.toNat dp.toNat n.toNat))) : Ax ph X pc ls (vI n :: vI dp :: vA e o' f' v' :: vI sp :: vA e o f v :: st) σ := by
  obtain ⟨G, p, l, ev, R, s, m, args, below, meth, c, σ0', Q0, E0⟩ := X
  obtain ⟨hx, hbc, hml, hret, hlocks, hown, hnm, hexc, hG, hk1, hk2, hc1, hc2, rfl, rfl, rfl⟩ := hX
  intro H locs lsC hR hL hl ho hs hnn hsl hm T hT XS
  have hts := glob_all hG args
  have hn32 : in32 n := (okc hs).1
  have hs1 := (okc hs).2
  have hdp32 : in32 dp := (okc hs1).1
  have hs2 := (okc hs1).2
  have hs3 := (okc hs2).2
  have hsp32 : in32 sp := (okc hs3).1
  have hs4 := (okc hs3).2
  have hs5 := (okc hs4).2
  obtain ⟨a1, a2, a3, a9, a4, a5⟩ := arr_at hR (okc hs4).1 hv
  obtain ⟨b1, b2, b3, b9, b4, b5⟩ := arr_at hR (okc hs2).1 hv'
  have hAT := (hG.2.2.1 e (by omega)).1
  obtain ⟨-, k0, hk0, cm0, hkk0⟩ := hAT (gL σ o f) (fun j => eVal G e (gA σ o f j))
  obtain ⟨-, k1, hk1', cm1, hkk1⟩ := hAT (gL σ o' f') (fun j => eVal G e (gA σ o' f' j))
  have hprim : refKind (elTy e) = false := by rcases (show e = 0 ∨ e = 1 ∨ e = 2 ∨ e = 3 by omega) with rfl | rfl | rfl | rfl <;> rfl
  have c0 : ∀ z : Int, in32 z → 0 ≤ z → ¬ Int32.ofInt z < 0 := fun z h1 h2 => by rw [i32_c0, i32_lt h1 (by unfold in32; omega)]; omega
  have cw := copy_words
  obtain ⟨vm', X', step⟩ := XS.arraycopy hx hown (hts _ hlk) (hts _ hnat) (hts _ hstat) (hts _ hini) (src := G.1 + v - 1) (dst := G.1 + v' - 1) (cs := arrV (G.2.2.2.1 e) (gL σ o f) (fun j => eVal G e (gA σ o f j))) (cd := arrV (G.2.2.2.1 e) (gL σ o' f') (fun j => eVal G e (gA σ o' f' j))) (srcPos := Int32.ofInt sp) (destPos := Int32.ofInt dp) (n := Int32.ofInt n)
    (by rw [hT]; exact a4) (by rw [hT]; exact b4) (fun _ h => by cases h) (fun _ h => by cases h) (fun h => by cases h) (fun h => by cases h) hk0 hk1' hkk0 hkk1 (by simp [hprim]) (c0 _ hsp32 hi.2.1) (c0 _ hdp32 hi.2.2.1) (c0 _ hn32 hi.1)
    (by rw [i32_toInt hsp32, i32_toInt hn32, arrV_size]; omega) (by rw [i32_toInt hdp32, i32_toInt hn32, arrV_size]; omega)
    (fun vm₁ _ i hi' => by
      rw [i32_clamp hn32 hi.1] at hi'
      rw [i32_clamp hsp32 hi.2.1]
      have e1 : (arrV (G.2.2.2.1 e) (gL σ o f) (fun j => eVal G e (gA σ o f j))).slots.getD (sp.toNat + i) .null = eVal G e (gA σ o f (sp.toNat + i)) := by
        rw [Array.getD_eq_getD_getElem?, arrV_read _ _ (by omega)]
        rfl
      rw [e1]
      exact ⟨fits_e he (a5 _ (by omega)), takes_e he⟩)
    (g := F0 m pc lsC (.int (Int32.ofInt n) :: .int (Int32.ofInt dp) :: .ref (G.1 + v' - 1) :: .int (Int32.ofInt sp) :: .ref (G.1 + v - 1) :: st.map (cV G))) rfl hl.1 (rest := st.map (cV G)) rfl (by rw [hbc]; exact hd) (by omega) (by show 2 * 0 + ((st.map (cV G)).map fun v => v.category).sum + _ ≤ R.locals; rw [cat_sum]; omega)
  have e1 : copied (arrV (G.2.2.2.1 e) (gL σ o f) (fun j => eVal G e (gA σ o f j))) (arrV (G.2.2.2.1 e) (gL σ o' f') (fun j => eVal G e (gA σ o' f' j))) (Int32.ofInt sp) (Int32.ofInt dp) (Int32.ofInt n) = arrV (G.2.2.2.1 e) (gL σ o' f') (fun j => eVal G e (cpy (gA σ o f) (gA σ o' f') sp.toNat dp.toNat n.toNat j)) := by
    have := va_copied (fun z => eVal G e z) (G.2.2.2.1 e) (G.2.2.2.1 e) (n0 := gL σ o f) (n1 := gL σ o' f') (sp := sp.toNat) (dp := dp.toNat) (n := n.toNat) (gA σ o f) (gA σ o' f') (by omega)
    unfold copied
    rw [i32_clamp hsp32 hi.2.1, i32_clamp hdp32 hi.2.2.1, i32_clamp hn32 hi.1]
    exact this
  rw [e1] at X' step
  have hld : G.1 + v' - 1 < H.size := (Array.getElem?_eq_some_iff.mp b4).1
  have hheap : ((T.setVm vm').setCell (G.1 + v' - 1) (arrV (G.2.2.2.1 e) (gL σ o' f') (fun j => eVal G e (cpy (gA σ o f) (gA σ o' f') sp.toNat dp.toNat n.toNat j)))).heap = H.setIfInBounds (G.1 + v' - 1) (arrV (G.2.2.2.1 e) (gL σ o' f') (fun j => eVal G e (cpy (gA σ o f) (gA σ o' f') sp.toNat dp.toNat n.toNat j))) := by rw [← hT]; rfl
  have hv1 : 1 ≤ v' := ((okc hs2).1).1
  obtain ⟨t, q1, q2⟩ := h _ _ lsC (rep_sB hR b1 (fun j hj => by
      rw [b2]
      unfold cpy
      split
      · exact a5 _ (by omega)
      · exact b5 j hj) (fun q hq c => by omega) (by rw [b2, ← hv']; exact set_at hld) set_sz (fun a ha => set_off (by rw [hv']; exact ha)))
    (fun q hq => by
      rcases List.mem_append.mp hq with hq | hq
      · exact hL q hq
      · obtain ⟨z, -, hz⟩ := List.mem_map.mp hq
        rw [← hz]
        show G.1 ≤ G.1 + v' - 1
        omega) hl ho hs5 hnn hsl hm _ hheap X'
  exact ⟨t, step t q1, q2⟩
/-- a cell of which nothing is said -/
theorem rep_nX {G : Gp} {ph : Nat} {σ : Sg} {H H' : Heap} {n : Nat} (hR : Rep G ph σ H) (hC : gC σ + 1 ≤ 100000) (hD : gD σ + n ≤ 200000) (h1 : ∀ c, H'[H.size]? = some c → c.vm = .none) (h2 : H'.size = H.size + 1) (h3 : ∀ a, a < H.size → H'[a]? = H[a]?) : Rep G ph (nO σ 50 n) H' := by
  have hgv := gV_lt hR
  obtain ⟨⟨hz, hn1⟩, ⟨hold, hV⟩, hO, hA, hU, hP, hS⟩ := hR
  have hle := le_nO σ 50 n
  have hfr : ∀ o, gN σ ≤ o → gK σ o = 0 := fun o ho => (hU.2.2.1 o ho).1
  refine ⟨⟨by rw [h2, gN_nO]; omega, by rw [gN_nO]; omega⟩, ⟨fun a ha => by rw [h3 a (by omega)]; exact hold a ha, fun a ca ha hc => by
    have hl := (Array.getElem?_eq_some_iff.mp hc).1
    by_cases e : a = H.size
    · rw [e] at hc; exact h1 ca hc
    · rw [h3 a (by omega)] at hc; exact hV a ca ha hc⟩, ?_, ?_, ?_, ?_, ?_⟩
  · intro o' ci' r' g1 g2 g3 g4
    have hci := cl_lt g4
    rw [gN_nO] at g2
    rw [gK_nO] at g3
    by_cases c : o' = gN σ
    · rw [if_pos c] at g3
      omega
    · rw [if_neg c] at g3
      obtain ⟨hob, hfo⟩ := hO o' ci' r' g1 (by omega) g3 g4
      exact ⟨hob.kept (h3 _ (by omega)), fun k hk => fOk_mono hle (fun k _ => rfl) (hfo k hk)⟩
  · intro o' f' hv
    rw [gV_nO] at hv ⊢
    obtain ⟨a1, a2, a3, a4, a5⟩ := hA o' f' hv
    rw [gN_nO, gK_nO, if_neg (by omega)]
    exact ⟨by omega, a2, a3, by rw [h3 _ (by omega)]; exact a4, fun j hj => eOk_mono hle hfr (a5 j hj)⟩
  · obtain ⟨u1, u2, u3, u4, u5⟩ := hU
    refine ⟨u1, u2, fun o ho => ?_, fun o ci' k e' hk hci' hft he hv => ?_, fun o f hv => ?_⟩
    · rw [gN_nO] at ho
      obtain ⟨w1, w2⟩ := u3 o (by omega)
      exact ⟨by rw [gK_nO, if_neg (by omega)]; exact w1, w2⟩
    · rw [gV_nO] at hv ⊢
      have hlt := (u5 o k hv).1
      rw [gK_nO, if_neg (by omega)] at hk
      rw [gK_nO, if_neg (by have := hgv o k; omega)]
      exact u4 o ci' k e' hk hci' hft he hv
    · rw [gV_nO] at hv ⊢
      obtain ⟨w1, w2⟩ := u5 o f hv
      rw [gN_nO, gK_nO, if_neg (by omega)]
      exact ⟨by omega, w2⟩
  · obtain ⟨p1, p2, p3, p4⟩ := hP
    refine ⟨by rw [gN_nO]; omega, fun o ho hk => ?_, p3, p4⟩
    rw [gK_nO, if_neg (by omega)]; exact p2 o ho hk
  · obtain ⟨s1, s2, s3, s4, s5, s6⟩ := hS
    have hps : pSum (nO σ 50 n) = pSum σ := rfl
    exact ⟨by rw [gS_nO, hps, gT_nO, gD_nO]; omega, s2, s3, by rw [gD_nO]; exact hD, by rw [gC_nO]; exact hC, by rw [gN_nO, gC_nO, gS_nO]; omega⟩
end Rows6
