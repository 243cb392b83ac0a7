/-! ROWS IV: fields that are set, arrays, new cells -/
set_option maxRecDepth 100000
theorem set_at {H : Heap} {a : Nat} {x : Cell} (h : a < H.size) : (H.setIfInBounds a x)[a]? = some x := by simp [h]
theorem set_off {H : Heap} {a b : Nat} {x : Cell} (h : b ≠ a) : (H.setIfInBounds a x)[b]? = H[b]? := by
  rw [Array.getElem?_setIfInBounds_ne (fun c => h c.symm)]
theorem set_sz {H : Heap} {a : Nat} {x : Cell} : (H.setIfInBounds a x).size = H.size := by simp
theorem locs_add {locs : List Loc} {b a i : Nat} (h : ∀ q ∈ locs, b ≤ q.base) (ha : b ≤ a) : ∀ q ∈ locs ++ [(⟨a, i⟩ : Loc)], b ≤ q.base := by
  intro q hq
  rcases List.mem_append.mp hq with c | c
  · exact h q c
  · rw [List.mem_singleton.mp c]; exact ha
/-- a value may lie in a field of this type -/
def inTy (t : Nat) : AV → Prop
  | .inl x => (t = 0 ∧ in32 x) ∨ (t = 1 ∧ 0 ≤ x ∧ x ≤ 1)
  | .inr (.inl _) => t = 2
  | .inr (.inr (.inl _)) => t = 3
  | .inr (.inr (.inr _)) => 4 ≤ t
theorem inTy_fits {G : Gp} {t : Nat} {v : AV} {ty : FieldType} (h : inTy t v) (hty : tyB t ty = true) : narrow ty (cV G v) = cV G v ∧ fits ty (cV G v) = true := by
  rcases v with x | x | r | q
  · rcases h with ⟨rfl, h⟩ | ⟨rfl, h⟩
    · cases ty <;> first | exact ⟨rfl, rfl⟩ | (simp [tyB] at hty)
    · have hx : x = 0 ∨ x = 1 := by omega
      cases ty with
      | boolean =>
        rcases hx with rfl | rfl
        · exact ⟨show narrow .boolean (.int (Int32.ofInt 0)) = .int (Int32.ofInt 0) by decide +kernel, show fits .boolean (.int (Int32.ofInt 0)) = true by decide +kernel⟩
        · exact ⟨show narrow .boolean (.int (Int32.ofInt 1)) = .int (Int32.ofInt 1) by decide +kernel, show fits .boolean (.int (Int32.ofInt 1)) = true by decide +kernel⟩
      | _ => simp [tyB] at hty
  · have h : t = 2 := h
    subst h
    cases ty <;> first | exact ⟨rfl, rfl⟩ | (simp [tyB] at hty)
  · have h : t = 3 := h
    subst h
    show narrow ty (cO G r) = cO G r ∧ fits ty (cO G r) = true
    rcases cO_ref G r with e | ⟨a, e⟩ <;> rw [e] <;> (cases ty <;> first | exact ⟨rfl, rfl⟩ | (simp [tyB] at hty))
  · have h : 4 ≤ t := h
    cases ty <;> first | exact ⟨rfl, rfl⟩ | (simp [tyB] at hty; done) | (simp [tyB] at hty; omega)
section Rows4
variable {ph k : Nat} {X : Cx} {y : MI} {σ0 σ : Sg} {Q : Option AV → Sg → Prop} {E : Int → Sg → Prop} {pc : Nat} {ls : List (Option AV)} {st : List AV}
theorem ax_putV {v : AV} {r : Int} {ci b idx : Nat} {q : vw_C} {σ' : Sg} (hX : CxOk ph X y k σ0 Q E) (hcl : clL[ci]? = some q) (h6 : ci ≠ 6) (hb : b < q.2.2) (hC : (q.2.1 b).1 = q.1) (hlk : FLk y.1.cls idx q.1 (q.2.1 b).2.1 (q.2.1 b).2.2.1)
    (hfin : (q.2.1 b).2.2.2 = false ∨ (y.1.cls = q.1 ∧ y.1.name = "<init>")) (hr : 0 < r) (hkl : (kls ph σ r.toNat == ci + 1) = true) (hin : okV σ v → inTy (ftOf ci (b + 1)) v)
    (hN : gN σ' = gN σ) (hSl : gS σ' = gS σ) (hKK : gK σ' = gK σ)
    (hrep : ∀ (G : Gp) (H H' : Heap) (cell : Cell), Rep G ph σ H → okV σ v → gK σ r.toNat = ci + 1 → (∀ a b, a < q.2.2 → b < q.2.2 → a ≠ b → G.2.2.1.2 ci a ≠ G.2.2.1.2 ci b) → cell.cls = G.2.2.1.1 ci → cell.vm = .none → (∀ k, k < q.2.2 → cell.slots[G.2.2.1.2 ci k]? = some (fVal G σ r.toNat (ftOf ci (k + 1)) (k + 1))) →
      H'[G.1 + r.toNat - 1]? = some (cell.setSlot (G.2.2.1.2 ci b) (cV G v)) → H'.size = H.size → (∀ a, a ≠ G.1 + r.toNat - 1 → H'[a]? = H[a]?) → Rep G ph σ' H')
    (hd : decode y.2.1 pc = .ok (.putfield idx, 3)) (h : Ax ph X (pc + 3) ls st σ') : Ax ph X pc ls (v :: vO r :: st) σ := by
  obtain ⟨G, p, l, e, R, s, m, args, below, meth, c, σ0', Q0, E0⟩ := X
  obtain ⟨hx, hbc, hml, hret, hlocks, hown, hnm, hexc, hG, hk1, hk2, hc1, hc2, rfl, rfl, rfl⟩ := hX
  intro H locs lsC hR hL hl ho hs hn hsl hm
  have hK := kls_eq hR hkl (by omega)
  have hlt := rep_lt hR hK (by omega)
  obtain ⟨⟨cell, q1, q2, q3, q4⟩, hfo⟩ := hR.2.2.1 r.toNat ci q (by omega) hlt hK hcl
  obtain ⟨hinw, ⟨ty, hty, htyB⟩, hnms⟩ := cl_ok hcl h6
  have hts := glob_all hG args
  have hSI := hG.2.1 ci q hcl
  obtain ⟨hS, hfc, kC, hkC, hkind⟩ := hSI
  have hap : ∀ x z, x < q.2.2 → z < q.2.2 → x ≠ z → G.2.2.1.2 ci x ≠ G.2.2.1.2 ci z := by
    intro x z hx' hz' hne
    obtain ⟨_, _, _, fa, hia, ea⟩ := hS x hx'
    obtain ⟨_, _, _, fb, hib, eb⟩ := hS z hz'
    rw [← ea, ← eb]
    refine u_apart (u_lays hts hinw hx') (u_lays hts hinw hz') hia hib ?_
    rw [(State.fieldFound?_type hia (hty x hx')).1, (State.fieldFound?_type hib (hty z hz')).1]
    exact hnms x hx' z hz' hne
  obtain ⟨cf, kf, fi, f, hi, hsl2⟩ := hS b hb
  have hst := (u_facts hfc hkC (u_lays hts hinw hb) hi).1
  have hvo := (okc hs).1
  obtain ⟨hnar, hfit⟩ := inTy_fits (G := G) (hin hvo) (htyB b hb)
  have h6f := u_fits hfc hkC hkind (u_lays hts hinw hb) hi (hty b hb) hnar hfit
  have hlay := hts _ (hinw _ (u_in_lay hb))
  unfold u_lay at hlay
  have hfin' : hasFlag f.accessFlags Acc.final = false ∨ (m.cls = cf ∧ meth.name = "<init>") := by
    by_cases cfin : (q.2.1 b).2.2.2 = true
    · rw [if_pos cfin] at hlay
      rcases hfin with hfin | ⟨hfin1, hfin2⟩
      · rw [cfin] at hfin; cases hfin
      · refine Or.inr ⟨?_, by rw [hnm]; exact hfin2⟩
        obtain ⟨_, _, c', _, _, _, -, -, hf', -, -, -, hown2, -⟩ := Cond.laysFinal_spec hlay
        have e1 : c' = cf := by have := hi.symm.trans hf'; simp at this; exact this.1.symm
        rw [hC, ← hfin1] at hown2
        rw [← e1]; exact Option.some.inj (hown.symm.trans hown2)
    · rw [if_neg cfin] at hlay
      obtain ⟨_, _, _, _, _, fd', -, -, hi', -, hnf, -⟩ := Cond.lays_spec hlay
      have e1 : fd' = f := by have := hi.symm.trans hi'; simp at this; exact this.2.2.2.symm
      exact Or.inl (by rw [← e1]; exact hnf)
  have hcO : cO G r = .ref (G.1 + r.toNat - 1) := by unfold cO; rw [if_neg (by omega), if_pos hr]
  have ha : G.1 + r.toNat - 1 < H.size := (Array.getElem?_eq_some_iff.mp q1).1
  show W p l e R s m args below meth c H locs _ _ _ (F0 m pc lsC (cV G v :: cO G r :: st.map (cV G)))
  rw [hcO]
  have hle : LeS σ σ' := ⟨by rw [hN]; exact Nat.le_refl _, fun a _ => by rw [hKK]⟩
  have kk : W p l e R s m args below meth c (H.setIfInBounds (G.1 + r.toNat - 1) (cell.setSlot f.slot (cV G v))) (locs ++ [⟨G.1 + r.toNat - 1, f.slot⟩]) (gN σ - gN σ0') (gS σ - gS σ0') (EndP G ph s below σ0' Q0 E0) (F0 m (pc + 3) lsC (st.map (cV G))) := by
    have := h (H.setIfInBounds (G.1 + r.toNat - 1) (cell.setSlot f.slot (cV G v))) (locs ++ [⟨G.1 + r.toNat - 1, f.slot⟩]) lsC
      (hrep G H _ cell hR hvo hK hap q2 q3 q4 (by rw [hsl2]; exact set_at ha) set_sz (fun a hne => set_off hne)) (locs_add hL (by omega)) hl
      (fun w hw => okV_mono hle (ho w hw)) (fun w hw => okV_mono hle ((okc (okc hs).2).2 w hw)) (by rw [hN]; exact hn) (by rw [hSl]; exact hsl) (fun w hw => okV_mono hle (hm w hw))
    rw [hN, hSl] at this
    exact this
  rw [hC] at hi
  rcases hlk with hw | ⟨host, hw⟩
  · exact W.putf hx hbc hown (hts _ hw) hi hst hfin' q1 (by rw [q3]; exact fun h => by cases h) (by rw [hsl2]; exact k2_hasslot (q4 b hb)) h6f.1 (by rw [q2, q3]; exact h6f.2) rfl rfl hd kk
  · exact va_Wputf hx hbc hown (hG.1 _ hw rfl args) hi hst hfin' q1 (by rw [q3]; exact fun h => by cases h) (by rw [hsl2]; exact k2_hasslot (q4 b hb)) h6f.1 (by rw [q2, q3]; exact h6f.2) rfl rfl hd kk
/-- arrays: their lengths and places -/
theorem arr_at {G : Gp} {σ : Sg} {H : Heap} {e o f v : Nat} (hR : Rep G ph σ H) (hv : okV σ (vA e o f v)) (he : v = gV σ o f) : gV σ o f ≠ 0 ∧ gK σ (gV σ o f) - 100 = e ∧ gL σ o f < 2 ^ 31 ∧ o < gN σ ∧
    H[G.1 + v - 1]? = some (arrV (G.2.2.2.1 e) (gL σ o f) (fun j => eVal G e (gA σ o f j))) ∧ ∀ j, j < gL σ o f → eOk σ e (gA σ o f j) := by
  obtain ⟨h1, h2, h3⟩ := hv
  have h1' : 1 ≤ v := h1
  have h3' : gK σ v = 100 + e := h3
  have hne : gV σ o f ≠ 0 := by omega
  obtain ⟨a1, a2, a3, a4, a5⟩ := hR.2.2.2.1 o f hne
  have hk : gK σ (gV σ o f) - 100 = e := by rw [← he, h3']; omega
  rw [hk] at a4 a5
  exact ⟨hne, hk, a3, (hR.2.2.2.2.1.2.2.2.2 o f hne).1, by rw [he]; exact a4, a5⟩
theorem ax_alen {e o f v : Nat} (hX : CxOk ph X y k σ0 Q E) (he : e ≤ 8) (hv : v = gV σ o f) (hd : decode y.2.1 pc = .ok (.arraylength, 1)) (h : Ax ph X (pc + 1) ls (vI (gL σ o f) :: st) σ) : Ax ph X pc ls (vA e o f v :: st) σ := by
  obtain ⟨G, p, l, ev, R, s, m, args, below, meth, c, σ0', Q0, E0⟩ := X
  obtain ⟨hx, hbc, hml, hret, hlocks, hown, hnm, hexc, hG, hk1, hk2, hc1, hc2, rfl, rfl, rfl⟩ := hX
  intro H locs lsC hR hL hl ho hs hn hsl hm
  obtain ⟨-, -, a3, -, a4, -⟩ := arr_at hR (okc hs).1 hv
  refine W.alen hx hbc a4 ((hG.2.2.1 e he).1 _ _) (n := Int32.ofInt (gL σ o f)) ?_ rfl rfl hd (h H locs lsC hR hL hl ho (okp (show in32 (gL σ o f) by unfold in32; omega) (okc hs).2) hn hsl hm)
  rw [arrV_size]; rfl
theorem in_of {i : Int} {L : Nat} (h1 : 0 ≤ i) (h2 : i < L) (hi : in32 i) : ¬ (Int32.ofInt i < 0 ∨ L ≤ (Int32.ofInt i).toNatClampNeg) := by
  rw [i32_clamp hi h1, i32_c0, i32_lt hi (by unfold in32; omega)]
  omega
theorem ax_iald {o f v : Nat} {i : Int} (hX : CxOk ph X y k σ0 Q E) (hv : v = gV σ o f) (hi : 0 ≤ i ∧ i < gL σ o f) (hd : decode y.2.1 pc = .ok (.iaload, 1)) (h : Ax ph X (pc + 1) ls (vI (gA σ o f i.toNat) :: st) σ) : Ax ph X pc ls (vI i :: vA 0 o f v :: st) σ := by
  obtain ⟨G, p, l, ev, R, s, m, args, below, meth, c, σ0', Q0, E0⟩ := X
  obtain ⟨hx, hbc, hml, hret, hlocks, hown, hnm, hexc, hG, hk1, hk2, hc1, hc2, rfl, rfl, rfl⟩ := hX
  intro H locs lsC hR hL hl ho hs hn hsl hm
  have hii : in32 i := (okc hs).1
  obtain ⟨-, -, a3, -, a4, a5⟩ := arr_at hR (okc (okc hs).2).1 hv
  have hlt : i.toNat < gL σ o f := by omega
  refine W.iald hx hbc a4 ((hG.2.2.1 0 (by omega)).1 _ _) (by exact fun h => by cases h) (by rw [arrV_size]; exact in_of hi.1 hi.2 hii) (by rw [i32_clamp hii hi.1]; exact arrV_read _ _ hlt) rfl rfl hd ?_
  exact h H locs lsC hR hL hl ho (okp ((a5 _ hlt).1 rfl) (okc (okc hs).2).2) hn hsl hm
theorem ax_bald {e o f v : Nat} {i : Int} (hX : CxOk ph X y k σ0 Q E) (he : e = 1 ∨ e = 2) (hv : v = gV σ o f) (hi : 0 ≤ i ∧ i < gL σ o f) (hd : decode y.2.1 pc = .ok (.baload, 1)) (h : Ax ph X (pc + 1) ls (vI (gA σ o f i.toNat) :: st) σ) : Ax ph X pc ls (vI i :: vA e o f v :: st) σ := by
  obtain ⟨G, p, l, ev, R, s, m, args, below, meth, c, σ0', Q0, E0⟩ := X
  obtain ⟨hx, hbc, hml, hret, hlocks, hown, hnm, hexc, hG, hk1, hk2, hc1, hc2, rfl, rfl, rfl⟩ := hX
  intro H locs lsC hR hL hl ho hs hn hsl hm
  have hii : in32 i := (okc hs).1
  obtain ⟨-, -, a3, -, a4, a5⟩ := arr_at hR (okc (okc hs).2).1 hv
  have hlt : i.toNat < gL σ o f := by omega
  have hok : in32 (gA σ o f i.toNat) := by
    rcases he with rfl | rfl
    · have := (a5 _ hlt).2.1 rfl; unfold in32; omega
    · have := (a5 _ hlt).2.2.1 rfl; unfold in32; omega
  have kk := h H locs lsC hR hL hl ho (okp hok (okc (okc hs).2).2) hn hsl hm
  rcases he with rfl | rfl
  · exact W.bald hx hbc a4 ((hG.2.2.1 1 (by omega)).1 _ _) (by exact fun h => by cases h) (by rw [arrV_size]; exact in_of hi.1 hi.2 hii) (by rw [i32_clamp hii hi.1]; exact arrV_read _ _ hlt) rfl rfl hd kk
  · exact W.zald hx hbc a4 ((hG.2.2.1 2 (by omega)).1 _ _) (by exact fun h => by cases h) (by rw [arrV_size]; exact in_of hi.1 hi.2 hii) (by rw [i32_clamp hii hi.1]; exact arrV_read _ _ hlt) rfl rfl hd kk
theorem ax_lald {o f v : Nat} {i : Int} (hX : CxOk ph X y k σ0 Q E) (hv : v = gV σ o f) (hi : 0 ≤ i ∧ i < gL σ o f) (hd : decode y.2.1 pc = .ok (.laload, 1)) (h : Ax ph X (pc + 1) ls (vJ (gA σ o f i.toNat) :: st) σ) : Ax ph X pc ls (vI i :: vA 3 o f v :: st) σ := by
  obtain ⟨G, p, l, ev, R, s, m, args, below, meth, c, σ0', Q0, E0⟩ := X
  obtain ⟨hx, hbc, hml, hret, hlocks, hown, hnm, hexc, hG, hk1, hk2, hc1, hc2, rfl, rfl, rfl⟩ := hX
  intro H locs lsC hR hL hl ho hs hn hsl hm
  have hii : in32 i := (okc hs).1
  obtain ⟨-, -, a3, -, a4, a5⟩ := arr_at hR (okc (okc hs).2).1 hv
  have hlt : i.toNat < gL σ o f := by omega
  refine W.lald hx hbc a4 ((hG.2.2.1 3 (by omega)).1 _ _) (by exact fun h => by cases h) (by rw [arrV_size]; exact in_of hi.1 hi.2 hii) (by rw [i32_clamp hii hi.1]; exact arrV_read _ _ hlt) rfl rfl hd ?_
  exact h H locs lsC hR hL hl ho (okp ((a5 _ hlt).2.2.2.1 rfl) (okc (okc hs).2).2) hn hsl hm
theorem ax_aald {e o f v : Nat} {i : Int} (hX : CxOk ph X y k σ0 Q E) (he : 4 ≤ e ∧ e ≤ 7) (hv : v = gV σ o f) (hi : 0 ≤ i ∧ i < gL σ o f) (hd : decode y.2.1 pc = .ok (.aaload, 1)) (h : Ax ph X (pc + 1) ls (vO (gA σ o f i.toNat) :: st) σ) : Ax ph X pc ls (vI i :: vA e o f v :: st) σ := by
  obtain ⟨G, p, l, ev, R, s, m, args, below, meth, c, σ0', Q0, E0⟩ := X
  obtain ⟨hx, hbc, hml, hret, hlocks, hown, hnm, hexc, hG, hk1, hk2, hc1, hc2, rfl, rfl, rfl⟩ := hX
  intro H locs lsC hR hL hl ho hs hn hsl hm
  have hii : in32 i := (okc hs).1
  obtain ⟨-, -, a3, -, a4, a5⟩ := arr_at hR (okc (okc hs).2).1 hv
  have hlt : i.toNat < gL σ o f := by omega
  have hty : (elTy e).isReference = true := by
    rcases (show e = 4 ∨ e = 5 ∨ e = 6 ∨ e = 7 by omega) with rfl | rfl | rfl | rfl <;> rfl
  have hev : eVal G e (gA σ o f i.toNat) = cO G (gA σ o f i.toNat) := by unfold eVal; rw [if_neg (by omega), if_neg (by omega)]
  refine W.aald hx hbc a4 ((hG.2.2.1 e (by omega)).1 _ _) hty (by exact fun h => by cases h) (by rw [arrV_size]; exact in_of hi.1 hi.2 hii) (by rw [i32_clamp hii hi.1]; exact (arrV_read _ _ hlt).trans (congrArg some hev)) rfl rfl hd ?_
  exact h H locs lsC hR hL hl ho (okp ((a5 _ hlt).2.2.2.2.1 he.1) (okc (okc hs).2).2) hn hsl hm
theorem ax_aald8 {o f v : Nat} {i : Int} (hX : CxOk ph X y k σ0 Q E) (hv : v = gV σ o f) (hi : 0 ≤ i ∧ i < gL σ o f) (hg : gA σ o f i.toNat = gV σ 120 (100 + i.toNat)) (hg0 : gV σ 120 (100 + i.toNat) ≠ 0) (hd : decode y.2.1 pc = .ok (.aaload, 1)) (h : Ax ph X (pc + 1) ls (vA 3 120 (100 + i.toNat) (gV σ 120 (100 + i.toNat)) :: st) σ) : Ax ph X pc ls (vI i :: vA 8 o f v :: st) σ := by
  obtain ⟨G, p, l, ev, R, s, m, args, below, meth, c, σ0', Q0, E0⟩ := X
  obtain ⟨hx, hbc, hml, hret, hlocks, hown, hnm, hexc, hG, hk1, hk2, hc1, hc2, rfl, rfl, rfl⟩ := hX
  intro H locs lsC hR hL hl ho hs hn hsl hm
  have hii : in32 i := (okc hs).1
  obtain ⟨-, -, a3, -, a4, a5⟩ := arr_at hR (okc (okc hs).2).1 hv
  have hlt : i.toNat < gL σ o f := by omega
  have hev : eVal G 8 (gA σ o f i.toNat) = .ref (G.1 + gV σ 120 (100 + i.toNat) - 1) := by
    unfold eVal; rw [if_neg (by omega), if_neg (by omega)]
    unfold cO; rw [hg, if_neg (by omega), if_pos (by omega)]; rfl
  have hok : okV σ (vA 3 120 (100 + i.toNat) (gV σ 120 (100 + i.toNat))) := by
    have h1 := (a5 _ hlt).2.2.2.2.2 rfl
    rw [hg] at h1
    refine ⟨show 1 ≤ gV σ 120 (100 + i.toNat) by omega, gV_lt hR _ _, ?_⟩
    rcases h1.2 with c | c
    · omega
    · exact c
  refine W.aald hx hbc a4 ((hG.2.2.1 8 (by omega)).1 _ _) rfl (by exact fun h => by cases h) (by rw [arrV_size]; exact in_of hi.1 hi.2 hii) (by rw [i32_clamp hii hi.1]; exact (arrV_read _ _ hlt).trans (congrArg some hev)) rfl rfl hd ?_
  exact h H locs lsC hR hL hl ho (okp hok (okc (okc hs).2).2) hn hsl hm
/-- a store into an array, whatever the elements: from the machine's row -/
theorem ax_astV {e o f v : Nat} {i x : Int} {w : AV} (hX : CxOk ph X y k σ0 Q E) (hv : v = gV σ o f) (hi : 0 ≤ i ∧ i < gL σ o f) (hok : okV σ w → eOk σ e x)
    (row : ∀ (G : Gp) (p : Program) (l : Launch) (ev : Env) (R : Room) (s : State) (m : MethodId) (args : Array Value) (below : List Frame) (meth : Method) (c : Code) (H : Heap) (locs : List Loc) (cells slots : Nat) (Qw : State → Prop) (lsC : Array Slot) (L : Nat) (g : Nat → Value) (j : Int32), p.tables.exec = Jvm.exec → c.code = y.2.1 → Rep G ph σ H → Glob G s → okV σ w → H[G.1 + v - 1]? = some (arrV (G.2.2.2.1 e) L g) → ¬ (j < 0 ∨ L ≤ j.toNatClampNeg) →
      (∀ H' : Heap, H'[G.1 + v - 1]? = some ((arrV (G.2.2.2.1 e) L g).setSlot j.toNatClampNeg (eVal G e x)) → H'.size = H.size → (∀ q, q ≠ G.1 + v - 1 → H'[q]? = H[q]?) → W p l ev R s m args below meth c H' (locs ++ [⟨G.1 + v - 1, j.toNatClampNeg⟩]) cells slots Qw (F0 m (pc + 1) lsC (st.map (cV G)))) →
      W p l ev R s m args below meth c H locs cells slots Qw (F0 m pc lsC (cV G w :: .int j :: .ref (G.1 + v - 1) :: st.map (cV G))))
    (h : Ax ph X (pc + 1) ls st (sA σ o f i.toNat x)) : Ax ph X pc ls (w :: vI i :: vA e o f v :: st) σ := by
  obtain ⟨G, p, l, ev, R, s, m, args, below, meth, c, σ0', Q0, E0⟩ := X
  obtain ⟨hx, hbc, hml, hret, hlocks, hown, hnm, hexc, hG, hk1, hk2, hc1, hc2, rfl, rfl, rfl⟩ := hX
  intro H locs lsC hR hL hl ho hs hn hsl hm
  have hii : in32 i := (okc (okc hs).2).1
  have hw := (okc hs).1
  obtain ⟨a1, a2, a3, -, a4, a5⟩ := arr_at hR (okc (okc (okc hs).2).2).1 hv
  have hlt : i.toNat < gL σ o f := by omega
  refine row G p l ev R s m args below meth c H locs _ _ _ lsC _ _ (Int32.ofInt i) hx hbc hR hG hw a4 (in_of hi.1 hi.2 hii) (fun H' e1 e2 e3 => ?_)
  rw [i32_clamp hii hi.1] at e1 ⊢
  refine h H' _ lsC (rep_sA hR a1 (by rw [a2]; exact hok hw) (by rw [a2, ← hv]; exact e1) e2 (by rw [← hv]; exact e3)) (locs_add hL ?_) hl ho (okc (okc (okc hs).2).2).2 hn hsl hm
  have h1 : 1 ≤ v := ((okc (okc (okc hs).2).2).1).1
  omega
theorem ax_iast {o f v : Nat} {i x : Int} (hX : CxOk ph X y k σ0 Q E) (hv : v = gV σ o f) (hi : 0 ≤ i ∧ i < gL σ o f) (hd : decode y.2.1 pc = .ok (.iastore, 1)) (h : Ax ph X (pc + 1) ls st (sA σ o f i.toNat x)) : Ax ph X pc ls (vI x :: vI i :: vA 0 o f v :: st) σ := by
  refine ax_astV hX hv hi (fun hw => ⟨fun _ => hw, fun q => by omega, fun q => by omega, fun q => by omega, fun q => by omega, fun q => by omega⟩) ?_ h
  intro G p l ev R s m args below meth c H locs cells slots Qw lsC L g j hx hb hR hG hw hc hj kk
  exact W.iast hx hb hc ((hG.2.2.1 0 (by omega)).1 _ _) (by exact fun h => by cases h) (by rw [arrV_size]; exact hj) rfl rfl hd kk
theorem ax_last {o f v : Nat} {i x : Int} (hX : CxOk ph X y k σ0 Q E) (hv : v = gV σ o f) (hi : 0 ≤ i ∧ i < gL σ o f) (hd : decode y.2.1 pc = .ok (.lastore, 1)) (h : Ax ph X (pc + 1) ls st (sA σ o f i.toNat x)) : Ax ph X pc ls (vJ x :: vI i :: vA 3 o f v :: st) σ := by
  refine ax_astV hX hv hi (fun hw => ⟨fun q => by omega, fun q => by omega, fun q => by omega, fun _ => hw, fun q => by omega, fun q => by omega⟩) ?_ h
  intro G p l ev R s m args below meth c H locs cells slots Qw lsC L g j hx hb hR hG hw hc hj kk
  exact W.last hx hb hc ((hG.2.2.1 3 (by omega)).1 _ _) (by exact fun h => by cases h) (by rw [arrV_size]; exact hj) rfl rfl hd kk
theorem ax_bast {o f v : Nat} {i x : Int} (hX : CxOk ph X y k σ0 Q E) (hv : v = gV σ o f) (hi : 0 ≤ i ∧ i < gL σ o f) (hd : decode y.2.1 pc = .ok (.bastore, 1)) (h : Ax ph X (pc + 1) ls st (sA σ o f i.toNat (w8 x))) : Ax ph X pc ls (vI x :: vI i :: vA 1 o f v :: st) σ := by
  refine ax_astV hX hv hi (fun hw => ⟨fun q => by omega, fun _ => by unfold w8; omega, fun q => by omega, fun q => by omega, fun q => by omega, fun q => by omega⟩) ?_ h
  intro G p l ev R s m args below meth c H locs cells slots Qw lsC L g j hx hb hR hG hw hc hj kk
  refine W.bast hx hb hc ((hG.2.2.1 1 (by omega)).1 _ _) (by exact fun h => by cases h) (by rw [arrV_size]; exact hj) rfl rfl hd (fun H' e1 e2 e3 => kk H' ?_ e2 e3)
  rw [e1]
  show some ((arrV _ L g).setSlot _ (.int (Int32.ofInt x).toInt8.toInt32)) = some ((arrV _ L g).setSlot _ (.int (Int32.ofInt (w8 x))))
  rw [i32_i2b]
theorem ax_zast {o f v : Nat} {i x : Int} (hX : CxOk ph X y k σ0 Q E) (hv : v = gV σ o f) (hi : 0 ≤ i ∧ i < gL σ o f) (hx01 : 0 ≤ x ∧ x ≤ 1) (hd : decode y.2.1 pc = .ok (.bastore, 1)) (h : Ax ph X (pc + 1) ls st (sA σ o f i.toNat x)) : Ax ph X pc ls (vI x :: vI i :: vA 2 o f v :: st) σ := by
  refine ax_astV hX hv hi (fun hw => ⟨fun q => by omega, fun q => by omega, fun _ => hx01, fun q => by omega, fun q => by omega, fun q => by omega⟩) ?_ h
  intro G p l ev R s m args below meth c H locs cells slots Qw lsC L g j hx hb hR hG hw hc hj kk
  refine W.zast hx hb hc ((hG.2.2.1 2 (by omega)).1 _ _) (by exact fun h => by cases h) (by rw [arrV_size]; exact hj) rfl rfl hd (fun H' e1 e2 e3 => kk H' ?_ e2 e3)
  rw [e1]
  show some ((arrV _ L g).setSlot _ (.int (Int32.ofInt x &&& 1))) = some ((arrV _ L g).setSlot _ (.int (Int32.ofInt x)))
  have : Int32.ofInt x &&& 1 = Int32.ofInt x := by
    rcases (show x = 0 ∨ x = 1 by omega) with rfl | rfl <;> decide +kernel
  rw [this]
/-- new arrays -/
theorem defV {e : Nat} (G : Gp) (he : e ≤ 8) : defaultValue (elTy e) = eVal G e 0 := by
  rcases (show e = 0 ∨ e = 1 ∨ e = 2 ∨ e = 3 ∨ e = 4 ∨ e = 5 ∨ e = 6 ∨ e = 7 ∨ e = 8 by omega) with rfl | rfl | rfl | rfl | rfl | rfl | rfl | rfl | rfl <;> rfl
theorem push_at {H : Heap} {x : Cell} : (H.push x)[H.size]? = some x := by simp
theorem push_off {H : Heap} {x : Cell} {a : Nat} (h : a < H.size) : (H.push x)[a]? = H[a]? := by
  rw [Array.getElem?_push_lt h]
  simp [h]
theorem push_sz {H : Heap} {x : Cell} : (H.push x).size = H.size + 1 := by simp
/-- cells and slots that the room still has -/
theorem rep_room {G : Gp} {σ : Sg} {H : Heap} (hR : Rep G ph σ H) : gS σ ≤ 5992510 + gT σ + gD σ ∧ gT σ ≤ 540000 ∧ gD σ ≤ 200000 ∧ gC σ ≤ 100000 ∧ 16 * gN σ ≤ 16 + 16 * gC σ + gS σ := by
  obtain ⟨s1, s2, s3, s4, s5, s6⟩ := hR.2.2.2.2.2.2
  have hb : ∀ l : List (Nat × Nat × Nat × Nat), (∀ q ∈ l, gL σ q.1 q.2.1 ≤ q.2.2.2) → (l.map (fun q => q.2.2.1 * gL σ q.1 q.2.1)).sum ≤ (l.map (fun q => q.2.2.1 * q.2.2.2)).sum := by
    intro l
    induction l with
    | nil => intro _; exact Nat.le_refl _
    | cons a t ih =>
      intro h
      simp only [List.map_cons, List.sum_cons]
      have h1 := Nat.mul_le_mul_left a.2.2.1 (h a List.mem_cons_self)
      have h2 := ih (fun q hq => h q (List.mem_cons_of_mem _ hq))
      omega
  have h1 := hb spL s2
  have h2 : (spL.map (fun q => q.2.2.1 * q.2.2.2)).sum = 5992510 := by decide +kernel
  have h3 : pSum σ ≤ 5992510 := by rw [← h2]; exact h1
  omega
theorem ax_newa {t : ArrayType} {n : Int} (hX : CxOk ph X y k σ0 Q E) (ht : elT t ≤ 3) (harr : Cond.arrayClass (elTy (elT t)) ∈ lw_all) (htt : newarray.typeOf t = elTy (elT t)) (hn : 0 ≤ n ∧ gT σ + n.toNat ≤ 540000 ∧ (n.toNat < 16 → gC σ + 1 ≤ 100000))
    (hd : decode y.2.1 pc = .ok (.newarray t, 2)) (h : Ax ph X (pc + 2) ls (vA (elT t) (gN σ) 0 (gN σ) :: st) (nA σ (elT t) n.toNat)) : Ax ph X pc ls (vI n :: st) σ := by
  obtain ⟨G, p, l, ev, R, s, m, args, below, meth, c, σ0', Q0, E0⟩ := X
  obtain ⟨hx, hbc, hml, hret, hlocks, hown, hnm, hexc, hG, hk1, hk2, hc1, hc2, rfl, rfl, rfl⟩ := hX
  intro H locs lsC hR hL hl ho hs hnn hsl hm
  have hii : in32 n := (okc hs).1
  obtain ⟨r1, r2, r3, r4, r5⟩ := rep_room hR
  have hcl : (Int32.ofInt n).toNatClampNeg = n.toNat := i32_clamp hii hn.1
  have hle := le_nA σ (elT t) n.toNat
  have hRA := (hG.2.2.1 (elT t) (by omega)).2
  refine W.newa hx hbc (by rw [htt]; exact glob_all hG args _ harr) rfl hd rfl (by rw [i32_c0, i32_lt hii (by unfold in32; omega)]; omega) ?_ ?_ ?_ (fun cA kA comp f1 f2 f3 => ?_)
  · rw [hcl]
    have : componentBytes (newarray.typeOf t) ≤ 8 := by rw [htt]; rcases (show elT t = 0 ∨ elT t = 1 ∨ elT t = 2 ∨ elT t = 3 by omega) with c | c | c | c <;> rw [c] <;> decide
    have h2 := Nat.mul_le_mul_left n.toNat this
    omega
  · omega
  · rw [hcl]; omega
  · rw [htt] at f1
    have hcA : cA = G.2.2.2.1 (elT t) := by
      have : s.vm.findClass ("[" ++ (elTy (elT t)).toString) = some (G.2.2.2.1 (elT t)) := by
        rcases (show elT t = 0 ∨ elT t = 1 ∨ elT t = 2 ∨ elT t = 3 by omega) with c | c | c | c <;> (rw [c] at hRA ⊢; exact hRA)
      exact Option.some.inj (f1.symm.trans this)
    have hz := hR.1.1
    have hn1 := hR.1.2
    have kk := h (H.push { cls := cA, slots := Array.replicate (Int32.ofInt n).toNatClampNeg (defaultValue (newarray.typeOf t)), vm := .none }) locs lsC
      (rep_nA hR (by omega) hn.2.1 hn.2.2 (by rw [push_at, arrV_new, hcl, htt, hcA, defV G (by omega)]) push_sz (fun a ha => push_off ha)) hL hl (fun w hw => okV_mono hle (ho w hw))
      (okp ⟨show 1 ≤ gN σ from hn1, show gN σ < gN (nA σ (elT t) n.toNat) by rw [gN_nA]; omega, by show gK _ (gN σ) = _; rw [gK_nA, if_pos rfl]⟩ (fun w hw => okV_mono hle ((okc hs).2 w hw))) (by rw [gN_nA]; omega) (by rw [gS_nA]; omega) (fun w hw => okV_mono hle (hm w hw))
    rw [gN_nA, gS_nA] at kk
    rw [hcl]
    rw [hcl] at kk
    rw [show gN σ + 1 - gN σ0' = gN σ - gN σ0' + 1 by omega, show gS σ + n.toNat - gS σ0' = gS σ - gS σ0' + n.toNat by omega] at kk
    rw [List.map_cons] at kk
    have e1 : cV G (vA (elT t) (gN σ) 0 (gN σ)) = .ref H.size := by show Value.ref (G.1 + gN σ - 1) = _; rw [show G.1 + gN σ - 1 = H.size by omega]
    rw [e1] at kk
    exact kk
/-- a new object -/
theorem ax_newo {ci n idx : Nat} {q : vw_C} (hX : CxOk ph X y k σ0 Q E) (hcl : clL[ci]? = some q) (h6 : ci ≠ 6) (hlk : Cond.classLink y.1.cls idx q.1 ∈ lw_all) (hins : Cond.instantiable q.1 n ∈ lw_all) (hini : Cond.initialized q.1 ∈ lw_all) (hn : gD σ + n ≤ 200000 ∧ gC σ + 1 ≤ 100000)
    (hd : decode y.2.1 pc = .ok (.new idx, 3)) (h : Ax ph X (pc + 3) ls (vO (gN σ) :: st) (nO σ (ci + 1) n)) : Ax ph X pc ls st σ := by
  obtain ⟨G, p, l, ev, R, s, m, args, below, meth, c, σ0', Q0, E0⟩ := X
  obtain ⟨hx, hbc, hml, hret, hlocks, hown, hnm, hexc, hG, hk1, hk2, hc1, hc2, rfl, rfl, rfl⟩ := hX
  intro H locs lsC hR hL hl ho hs hnn hsl hm
  obtain ⟨r1, r2, r3, r4, r5⟩ := rep_room hR
  have hle := le_nO σ (ci + 1) n
  have hts := glob_all hG args
  obtain ⟨hinw, ⟨ty, hty, htyB⟩, hnms⟩ := cl_ok hcl h6
  have hKn := hG.2.1 ci q hcl
  have hz := hR.1.1
  have hn1 := hR.1.2
  refine W.newc hx hbc hown (hts _ hlk) (hts _ hins) (hts _ hini) rfl hd (by omega) (by omega) (fun cC kC f1 f2 f3 f4 => ?_)
  have hcC : cC = G.2.2.1.1 ci := Option.some.inj (f1.symm.trans hKn.2.1)
  subst hcC
  have hb : t_OB H.size (G.2.2.1.1 ci) q.2.2 (G.2.2.1.2 ci) (H.push { cls := G.2.2.1.1 ci, slots := kC.instanceTypes.map defaultValue, vm := .none }) (fun j => fVal G σ (gN σ) (ftOf ci (j + 1)) (j + 1)) := by
    refine (u_born ty hts hinw hKn f2 push_at hty).to (fun j hj => ?_)
    have hF := ((hR.2.2.2.2.1.2.2.1 _ (Nat.le_refl (gN σ))).2 (j + 1))
    have hB := htyB j hj
    unfold fVal
    rw [hF.1, hF.2.1]
    generalize ftOf ci (j + 1) = t at hB ⊢
    cases hh : ty j with
    | int => rw [hh] at hB; have : t = 0 := by simpa [tyB] using hB
             subst this; rfl
    | boolean => rw [hh] at hB; have : t = 1 := by simpa [tyB] using hB
                 subst this; rfl
    | long => rw [hh] at hB; have : t = 2 := by simpa [tyB] using hB
              subst this; rfl
    | object C => rw [hh] at hB; have : t = 3 := by simpa [tyB] using hB
                  subst this; rfl
    | array C => 
      rw [hh] at hB
      have : 4 ≤ t := by simpa [tyB] using hB
      rw [if_neg (by omega), if_neg (by omega), if_neg (by omega)]
      simp [defaultValue]
    | _ => rw [hh] at hB; simp [tyB] at hB
  have kk := h (H.push { cls := G.2.2.1.1 ci, slots := kC.instanceTypes.map defaultValue, vm := .none }) locs lsC (rep_nO hR hcl hn.2 hn.1 hb push_sz (fun a ha => push_off ha)) hL hl (fun w hw => okV_mono hle (ho w hw))
    (okp (show okR _ _ from Or.inl ⟨by omega, by rw [gN_nO]; omega⟩) (fun w hw => okV_mono hle (hs w hw))) (by rw [gN_nO]; omega) (by rw [gS_nO]; omega) (fun w hw => okV_mono hle (hm w hw))
  rw [gN_nO, gS_nO, show gN σ + 1 - gN σ0' = gN σ - gN σ0' + 1 by omega, show gS σ + n - gS σ0' = gS σ - gS σ0' + n by omega, List.map_cons] at kk
  have e1 : cV G (vO (gN σ)) = .ref H.size := by
    show cO G (gN σ) = _
    unfold cO
    rw [if_neg (by omega), if_pos (by omega), show ((gN σ : Nat) : Int).toNat = gN σ by omega, show G.1 + gN σ - 1 = H.size by omega]
  rw [e1] at kk
  exact kk
theorem ax_ldc2 {idx : Nat} {v : Int64} (hX : CxOk ph X y k σ0 Q E) (hc : Cond.constantLong y.1.cls idx v ∈ lw_all) (hd : decode y.2.1 pc = .ok (.ldc2_w idx, 3)) (h : Ax ph X (pc + 3) ls (vJ v.toInt :: st) σ) : Ax ph X pc ls st σ := by
  obtain ⟨G, p, l, ev, R, s, m, args, below, meth, c, σ0', Q0, E0⟩ := X
  obtain ⟨hx, hbc, hml, hret, hlocks, hown, hnm, hexc, hG, hk1, hk2, hc1, hc2, rfl, rfl, rfl⟩ := hX
  intro H locs lsC hR hL hl ho hs hnn hsl hm
  have kk := h H locs lsC hR hL hl ho (okp (show in64 v.toInt from in64_toInt v) hs) hnn hsl hm
  rw [List.map_cons] at kk
  have e1 : cV G (vJ v.toInt) = .long v := by show Value.long (Int64.ofInt v.toInt) = _; rw [i64_self]
  rw [e1] at kk
  exact lv_ldc2 hx hbc hown (glob_all hG args _ hc) hd kk
end Rows4
