/-! ROWS III: what is known of the tables, and fields that are read -/
set_option maxRecDepth 100000
theorem cst_warm {G : Gp} {s U : State} (h : Cst G s) (hW : s.WarmedH U.vm) : Cst G U := by
  obtain ⟨h1, h2, ⟨⟨a, n1, n2, n3⟩, ⟨b, m1, m2, m3, m4⟩, n5, n6⟩, h4, h5, h6⟩ := h
  have hv := hW.alike
  refine ⟨fun i hi => ?_, fun q hq => ?_, ⟨⟨a, n1, va_Z.moved hv n2, va_T.moved hv n3⟩, ⟨b, m1, m2, m3, va_T.moved hv m4⟩, va_Z.moved hv n5, va_Z.moved hv n6⟩, fun q hq => ?_, fun U' e1 e2 A w hw => ?_, h6⟩
  · obtain ⟨a, b, c1, c2, c3, c4, c5, c6⟩ := h1 i hi
    exact ⟨a, b, c1, c2, va_Z.moved hv c3, va_O.moved hv c4, va_OF.moved hv c5, va_OF.moved hv c6⟩
  · obtain ⟨a, b, c1, c2, c3, c4, c5, c6⟩ := h2 q hq
    exact ⟨a, b, c1, c2, va_O.moved hv c3, va_OF.moved hv c4, va_OF.moved hv c5, va_T.moved hv c6⟩
  · obtain ⟨a, c1, c2⟩ := h4 q hq
    exact ⟨a, c1, vk_R.warm hW c2⟩
  · have h0 := h5 (U'.setVm s.vm) rfl e2 A w hw
    have hW' : (U'.setVm s.vm).WarmedH U'.vm := by rw [e1]; exact hW
    have hk : w.keepsFace = true := by
      rcases List.mem_append.mp hw with c | c
      · exact Bundle.ownAtoms_keepsFace w c
      · exact Bundle.ownAtoms_keepsFace w c
    exact Cond.before_shiftedFace (State.Shifted.of_warmed hW') w hk h0
theorem glob_warm {G : Gp} {s U : State} (h : Glob G s) (hW : s.WarmedH U.vm) : Glob G U := by
  obtain ⟨h1, h2, h3, h4⟩ := h
  refine ⟨fun w hw hn A => ?_, fun ci q hq => u_Kn_moved hW.alike (h2 ci q hq), fun e he => ⟨arrOfT_moved hW.alike (h3 e he).1, (h3 e he).2.moved hW.alike⟩, cst_warm h4 hW⟩
  have h0 := h1 w hw hn
  have hgood : goodWord w = true → w.before A U = true := fun hg => word_at hW (good_of_word hg) (h0 #[])
  cases w with
  | fieldLinkNest a i b n d g => exact va_Nw.use rfl (va_Nw.warmF hW (h0 #[]))
  | methodLinkNest a i x g => exact va_Nw.use rfl (va_Nw.warmM hW (h0 #[]))
  | arrayOver t =>
    cases t with
    | object C => exact va_AO.use (va_AO.moved hW.alike (h0 #[]))
    | _ => exact hgood hn
  | _ => exact hgood hn
theorem glob_all {G : Gp} {s : State} (h : Glob G s) (A : Array Value) : ∀ w ∈ lw_all, w.before A s = true := fun w hw => h.1 w (lw_all_tbl hw) (by
  have hg := (List.mem_filter.mp hw).2
  cases w with
  | fieldLinkNest a i b n d g => rfl
  | methodLinkNest a i x g => rfl
  | arrayOver t =>
    cases t with
    | object C => rfl
    | _ => exact hg
  | _ => exact hg) A
/-- the link of a field at a site -/
def FLk (own : String) (idx : Nat) (C n d : String) : Prop := Cond.fieldLink own idx C n d ∈ lw_all ∨ ∃ host, Cond.fieldLinkNest own idx C n d host ∈ lw_tbl
theorem kls_eq {G : Gp} {ph : Nat} {σ : Sg} {H : Heap} (hR : Rep G ph σ H) {o a : Nat} (h : (kls ph σ o == a) = true) (ha : a ≠ 0) : gK σ o = a := by
  have h1 : kls ph σ o = a := by simpa using h
  unfold kls at h1
  cases hb : Nat.blt o (nSt ph) with
  | true =>
    rw [hb] at h1
    have h2 : kcOf o = a := h1
    have := hR.2.2.2.2.2.1.2.1 o (by simpa [Nat.blt_eq] using hb) (by rw [h2]; exact ha)
    rw [this, h2]
  | false =>
    rw [hb] at h1
    exact h1
theorem rep_lt {G : Gp} {ph : Nat} {σ : Sg} {H : Heap} (hR : Rep G ph σ H) {o a : Nat} (h : gK σ o = a) (ha : a ≠ 0) : o < gN σ := by
  rcases Nat.lt_or_ge o (gN σ) with q | q
  · exact q
  · exact absurd ((hR.2.2.2.2.1.2.2.1 o q).1.symm.trans h).symm ha
section Rows3
variable {ph k : Nat} {X : Cx} {y : MI} {σ0 σ : Sg} {Q : Option AV → Sg → Prop} {E : Int → Sg → Prop} {pc : Nat} {ls : List (Option AV)} {st : List AV}
theorem ax_getV {v : AV} {r : Int} {ci b idx : Nat} {q : vw_C} (hX : CxOk ph X y k σ0 Q E) (hcl : clL[ci]? = some q) (h6 : ci ≠ 6) (hb : b < q.2.2) (hC : (q.2.1 b).1 = q.1) (hlk : FLk y.1.cls idx q.1 (q.2.1 b).2.1 (q.2.1 b).2.2.1)
    (hr : 0 < r) (hkl : (kls ph σ r.toNat == ci + 1) = true) (hv : ∀ (G : Gp) (H : Heap), Rep G ph σ H → gK σ r.toNat = ci + 1 → fOk σ (ftOf ci (b + 1)) (b + 1) (gF σ r.toNat (b + 1)) → cV G v = fVal G σ r.toNat (ftOf ci (b + 1)) (b + 1) ∧ okV σ v)
    (hd : decode y.2.1 pc = .ok (.getfield idx, 3)) (h : Ax ph X (pc + 3) ls (v :: st) σ) : Ax ph X pc ls (vO r :: st) σ := by
  obtain ⟨G, p, l, e, R, s, m, args, below, meth, c, σ0', Q0, E0⟩ := X
  obtain ⟨hx, hbc, hml, hret, hlocks, hown, hnm, hexc, hG, hk1, hk2, hc1, hc2, rfl, rfl, rfl⟩ := hX
  intro H locs lsC hR hL hl ho hs hn hsl hm
  have hK := kls_eq hR hkl (by omega)
  have hlt := rep_lt hR hK (by omega)
  obtain ⟨⟨cell, q1, q2, q3, q4⟩, hfo⟩ := hR.2.2.1 r.toNat ci q (by omega) hlt hK hcl
  obtain ⟨hve, hvo⟩ := hv G H hR hK (hfo b hb)
  obtain ⟨hin, -, -⟩ := cl_ok hcl h6
  obtain ⟨hS, hfc, kC, hkC, hkind⟩ := hG.2.1 ci q hcl
  obtain ⟨cf, kf, fi, f, hi, hsl2⟩ := hS b hb
  have hst := (u_facts hfc hkC (u_lays (glob_all hG args) hin hb) hi).1
  have hcO : cO G r = .ref (G.1 + r.toNat - 1) := by unfold cO; rw [if_neg (by omega), if_pos hr]
  have kk := h H locs lsC hR hL hl ho (okp hvo (okc hs).2) hn hsl hm
  rw [List.map_cons, hve] at kk
  show W p l e R s m args below meth c H locs _ _ _ (F0 m pc lsC (cO G r :: st.map (cV G)))
  rw [hcO]
  have hslot : cell.slots[f.slot]? = some (fVal G σ r.toNat (ftOf ci (b + 1)) (b + 1)) := by rw [hsl2]; exact q4 b hb
  rw [hC] at hi
  rcases hlk with hw | ⟨host, hw⟩
  · exact W.getf hx hbc hown (glob_all hG args _ hw) hi hst q1 (by rw [q3]; exact fun h => by cases h) hslot rfl rfl hd kk
  · exact va_Wgetf hx hbc hown (hG.1 _ hw rfl args) hi hst q1 (by rw [q3]; exact fun h => by cases h) hslot rfl rfl hd kk
end Rows3
