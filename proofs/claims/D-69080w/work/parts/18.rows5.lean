/-! ROWS V: constants, references, arrays of references, copies -/
set_option maxRecDepth 100000
theorem cO_neg {G : Gp} {n a : Nat} (hn : 1 ≤ n) (h : G.2.2.2.2.1 n = some a) : cO G (-(n : Int)) = .ref a := by
  unfold cO
  rw [if_neg (by omega), if_neg (by omega), show (- -(n : Int)).toNat = n by omega, h]
  rfl
theorem ld_bd : ∀ q ∈ ldL, 1 ≤ q.1 ∧ q.1 < 600 := by decide
def oI (G : Gp) (r : Int) : Option Nat := if r = 0 then none else if 0 < r then some (G.1 + r.toNat - 1) else G.2.2.2.2.1 (-r).toNat
theorem cO_oI (G : Gp) (r : Int) : cO G r = va_rf (oI G r) := by
  unfold cO oI
  split
  · rfl
  · split
    · rfl
    · cases G.2.2.2.2.1 (-r).toNat <;> rfl
theorem oI_inj {G : Gp} {s : State} (hC : Cst G s) {x z : Int} (hx : -52 ≤ x) (hz : -52 ≤ z) (h : oI G x = oI G z) : x = z := by
  obtain ⟨h1, -, -, -, -, h6, h7, -⟩ := hC
  have key : ∀ r : Int, -52 ≤ r → (r = 0 ∧ oI G r = none) ∨ (0 < r ∧ oI G r = some (G.1 + r.toNat - 1)) ∨ (r < 0 ∧ ∃ a, oI G r = some a ∧ a < G.1 ∧ oI G r = G.2.2.2.2.1 ((-r - 1).toNat + 1)) := by
    intro r hr
    unfold oI
    by_cases c0 : r = 0
    · exact Or.inl ⟨c0, by rw [if_pos c0]⟩
    · by_cases c1 : 0 < r
      · exact Or.inr (Or.inl ⟨c1, by rw [if_neg c0, if_pos c1]⟩)
      · refine Or.inr (Or.inr ⟨by omega, ?_⟩)
        obtain ⟨a, b, g1, -⟩ := h1 (-r - 1).toNat (by omega)
        rw [if_neg c0, if_neg c1, show (-r).toNat = (-r - 1).toNat + 1 by omega]
        exact ⟨a, g1, h7 _ _ g1, rfl⟩
  rcases key x hx with ⟨a, b⟩ | ⟨a, b⟩ | ⟨a, u, b, b1, b2⟩ <;> rcases key z hz with ⟨c, d⟩ | ⟨c, d⟩ | ⟨c, w, d, d1, d2⟩
  · omega
  · rw [b, d] at h; cases h
  · rw [b, d] at h; cases h
  · rw [b, d] at h; cases h
  · rw [b, d] at h
    have := Option.some.inj h
    omega
  · rw [b, d] at h
    have := Option.some.inj h
    omega
  · rw [b, d] at h; cases h
  · rw [b, d] at h
    have := Option.some.inj h
    omega
  · rw [b2, d2] at h
    have := h6 _ _ (by omega) (by omega) h
    omega
theorem old_at {G : Gp} {ph : Nat} {σ : Sg} {H : Heap} (hR : Rep G ph σ H) {a : Nat} {cell : Cell} (h : ¬ oA G a) (hc : G.2.1[a]? = some cell) : H[a]? = some cell := by
  rw [hR.2.1.1 a (by omega)]; exact hc
section Rows5
variable {ph k : Nat} {X : Cx} {y : MI} {σ0 σ : Sg} {Q : Option AV → Sg → Prop} {E : Int → Sg → Prop} {pc : Nat} {ls : List (Option AV)} {st : List AV}
theorem ax_ldcS {n idx : Nat} {tx : String} (hX : CxOk ph X y k σ0 Q E) (hq : (n, y.1.cls, idx, tx) ∈ ldL) (hd : decode y.2.1 pc = .ok (.ldc idx, 2)) (h : Ax ph X (pc + 2) ls (vO (-(n : Int)) :: st) σ) : Ax ph X pc ls st σ := by
  obtain ⟨G, p, l, e, R, s, m, args, below, meth, c, σ0', Q0, E0⟩ := X
  obtain ⟨hx, hbc, hml, hret, hlocks, hown, hnm, hexc, hG, hk1, hk2, hc1, hc2, rfl, rfl, rfl⟩ := hX
  intro H locs lsC hR hL hl ho hs hn hsl hm
  have hb := ld_bd _ hq
  obtain ⟨a, c1, c2⟩ := hG.2.2.2.2.2.2.1 _ hq
  have kk := h H locs lsC hR hL hl ho (okp (show okR σ _ from Or.inr ⟨by have : 1 ≤ n := hb.1; omega, by have : n < 600 := hb.2; omega⟩) hs) hn hsl hm
  rw [List.map_cons, show cV G (vO (-(n : Int))) = .ref a from cO_neg hb.1 c1] at kk
  exact va_ldcS hx hbc hown c2 hd kk
theorem ax_gets {idx : Nat} {C nm dd : String} {v : AV} (hX : CxOk ph X y k σ0 Q E) (hlk : FLk y.1.cls idx C nm dd) (hv : ∀ (G : Gp) (s : State), Cst G s → va_Z C nm dd (cV G v) (oA G) s G.2.1) (hok : okV σ v) (hd : decode y.2.1 pc = .ok (.getstatic idx, 3)) (h : Ax ph X (pc + 3) ls (v :: st) σ) : Ax ph X pc ls st σ := by
  obtain ⟨G, p, l, e, R, s, m, args, below, meth, c, σ0', Q0, E0⟩ := X
  obtain ⟨hx, hbc, hml, hret, hlocks, hown, hnm, hexc, hG, hk1, hk2, hc1, hc2, rfl, rfl, rfl⟩ := hX
  intro H locs lsC hR hL hl ho hs hn hsl hm
  obtain ⟨cf, kf, fi, f, a, cell, h1, h2, h3, h4, h5, h6, h7, h8⟩ := hv G s hG.2.2.2
  have kk := h H locs lsC hR hL hl ho (okp hok hs) hn hsl hm
  rcases hlk with hw | ⟨host, hw⟩
  · exact W.gets hx hbc hown (glob_all hG args _ hw) h1 h2 h3 h4 (old_at hR h8 h5) (fun e => by rw [e] at h6; cases h6) h7 rfl hd kk
  · exact va_WgetsN hx hbc hown (hG.1 _ hw rfl args) h1 h2 h3 h4 (old_at hR h8 h5) (fun e => by rw [e] at h6; cases h6) h7 rfl hd kk
theorem ax_getC {idx : Nat} {C nm dd : String} {r : Int} {v : AV} (hX : CxOk ph X y k σ0 Q E) (hlk : FLk y.1.cls idx C nm dd) (hv : ∀ (G : Gp) (s : State), Cst G s → ∃ t, cO G r = .ref t ∧ va_OF C nm dd (cV G v) t (oA G) s G.2.1) (hok : okV σ v) (hd : decode y.2.1 pc = .ok (.getfield idx, 3)) (h : Ax ph X (pc + 3) ls (v :: st) σ) : Ax ph X pc ls (vO r :: st) σ := by
  obtain ⟨G, p, l, e, R, s, m, args, below, meth, c, σ0', Q0, E0⟩ := X
  obtain ⟨hx, hbc, hml, hret, hlocks, hown, hnm, hexc, hG, hk1, hk2, hc1, hc2, rfl, rfl, rfl⟩ := hX
  intro H locs lsC hR hL hl ho hs hn hsl hm
  obtain ⟨t, ht, cf, kf, fi, f, cell, h1, h2, h3, h4, h5, h6⟩ := hv G s hG.2.2.2
  have kk := h H locs lsC hR hL hl ho (okp hok (okc hs).2) hn hsl hm
  show W p l e R s m args below meth c H locs _ _ _ (F0 m pc lsC (cO G r :: st.map (cV G)))
  rw [ht]
  rcases hlk with hw | ⟨host, hw⟩
  · exact W.getf hx hbc hown (glob_all hG args _ hw) h1 h2 (old_at hR h6 h3) h4 h5 rfl rfl hd kk
  · exact va_Wgetf hx hbc hown (hG.1 _ hw rfl args) h1 h2 (old_at hR h6 h3) h4 h5 rfl rfl hd kk
theorem ax_ialdC {r i x : Int} (hX : CxOk ph X y k σ0 Q E) (hi : 0 ≤ i) (hx32 : in32 x) (hv : ∀ (s : State), Cst X.1 s → ∃ (t N : Nat) (f : Nat → Value), cO X.1 r = .ref t ∧ va_T .int t N f (oA X.1) s X.1.2.1 ∧ i < N ∧ f i.toNat = .int (Int32.ofInt x)) (hd : decode y.2.1 pc = .ok (.iaload, 1)) (h : Ax ph X (pc + 1) ls (vI x :: st) σ) : Ax ph X pc ls (vI i :: vO r :: st) σ := by
  obtain ⟨G, p, l, e, R, s, m, args, below, meth, c, σ0', Q0, E0⟩ := X
  obtain ⟨hx, hbc, hml, hret, hlocks, hown, hnm, hexc, hG, hk1, hk2, hc1, hc2, rfl, rfl, rfl⟩ := hX
  intro H locs lsC hR hL hl ho hs hn hsl hm
  have hii : in32 i := (okc hs).1
  obtain ⟨t, N, f, ht, ⟨cell, h1, h2, h3, h4, h5, h6, h7⟩, hN, hf⟩ := hv s hG.2.2.2
  have kk := h H locs lsC hR hL hl ho (okp hx32 (okc (okc hs).2).2) hn hsl hm
  show W p l e R s m args below meth c H locs _ _ _ (F0 m pc lsC (.int (Int32.ofInt i) :: cO G r :: st.map (cV G)))
  rw [ht]
  refine W.iald hx hbc (old_at hR h7 h1) h2 h3 (in_of hi (by omega) hii) (by rw [i32_clamp hii hi, h6 _ (by omega), hf]; rfl) rfl rfl hd kk
theorem ax_baldC {r i x : Int} (hX : CxOk ph X y k σ0 Q E) (hi : 0 ≤ i) (hx32 : in32 x) (hv : ∀ (G : Gp) (s : State), Cst G s → ∃ (t N : Nat) (f : Nat → Value), cO G r = .ref t ∧ va_T .byte t N f (oA G) s G.2.1 ∧ i < N ∧ f i.toNat = .int (Int32.ofInt x)) (hd : decode y.2.1 pc = .ok (.baload, 1)) (h : Ax ph X (pc + 1) ls (vI x :: st) σ) : Ax ph X pc ls (vI i :: vO r :: st) σ := by
  obtain ⟨G, p, l, e, R, s, m, args, below, meth, c, σ0', Q0, E0⟩ := X
  obtain ⟨hx, hbc, hml, hret, hlocks, hown, hnm, hexc, hG, hk1, hk2, hc1, hc2, rfl, rfl, rfl⟩ := hX
  intro H locs lsC hR hL hl ho hs hn hsl hm
  have hii : in32 i := (okc hs).1
  obtain ⟨t, N, f, ht, ⟨cell, h1, h2, h3, h4, h5, h6, h7⟩, hN, hf⟩ := hv G s hG.2.2.2
  have kk := h H locs lsC hR hL hl ho (okp hx32 (okc (okc hs).2).2) hn hsl hm
  show W p l e R s m args below meth c H locs _ _ _ (F0 m pc lsC (.int (Int32.ofInt i) :: cO G r :: st.map (cV G)))
  rw [ht]
  refine W.bald hx hbc (old_at hR h7 h1) h2 h3 (in_of hi (by omega) hii) (by rw [i32_clamp hii hi, h6 _ (by omega), hf]; rfl) rfl rfl hd kk
theorem ax_alenC {r : Int} {N : Nat} {ty : FieldType} (hX : CxOk ph X y k σ0 Q E) (hN31 : N < 2 ^ 31) (hv : ∀ (s : State), Cst X.1 s → ∃ (t : Nat) (f : Nat → Value), cO X.1 r = .ref t ∧ va_T ty t N f (oA X.1) s X.1.2.1) (hd : decode y.2.1 pc = .ok (.arraylength, 1)) (h : Ax ph X (pc + 1) ls (vI (N : Nat) :: st) σ) : Ax ph X pc ls (vO r :: st) σ := by
  obtain ⟨G, p, l, e, R, s, m, args, below, meth, c, σ0', Q0, E0⟩ := X
  obtain ⟨hx, hbc, hml, hret, hlocks, hown, hnm, hexc, hG, hk1, hk2, hc1, hc2, rfl, rfl, rfl⟩ := hX
  intro H locs lsC hR hL hl ho hs hn hsl hm
  obtain ⟨t, f, ht, ⟨cell, h1, h2, h3, h4, h5, h6, h7⟩⟩ := hv s hG.2.2.2
  have kk := h H locs lsC hR hL hl ho (okp (show in32 ((N : Nat) : Int) by unfold in32; omega) (okc hs).2) hn hsl hm
  show W p l e R s m args below meth c H locs _ _ _ (F0 m pc lsC (cO G r :: st.map (cV G)))
  rw [ht]
  exact W.alen (n := Int32.ofInt ((N : Nat) : Int)) hx hbc (old_at hR h7 h1) h2 (by rw [h5]; rfl) rfl rfl hd kk
theorem ax_acmp_eq {x z off : Int} {tgt : Nat} (hX : CxOk ph X y k σ0 Q E) (hx52 : -52 ≤ x) (hz52 : -52 ≤ z) (ht : (pc : Int) + off = tgt) (hd : decode y.2.1 pc = .ok (.if_acmp .eq off, 3)) (h1 : x = z → Ax ph X tgt ls st σ) (h2 : ¬ x = z → Ax ph X (pc + 3) ls st σ) : Ax ph X pc ls (vO z :: vO x :: st) σ := by
  obtain ⟨G, p, l, e, R, s, m, args, below, meth, c, σ0', Q0, E0⟩ := X
  obtain ⟨hx, hbc, hml, hret, hlocks, hown, hnm, hexc, hG, hk1, hk2, hc1, hc2, rfl, rfl, rfl⟩ := hX
  intro H locs lsC hR hL hl ho hs hn hsl hm
  show W p l e R s m args below meth c H locs _ _ _ (F0 m pc lsC (cO G z :: cO G x :: st.map (cV G)))
  rw [cO_oI, cO_oI]
  exact lv_acmp_eq hx hbc hd ht (fun q => h1 (oI_inj hG.2.2.2 hx52 hz52 q) H locs lsC hR hL hl ho (okc (okc hs).2).2 hn hsl hm) (fun q => h2 (fun c => q (by rw [c])) H locs lsC hR hL hl ho (okc (okc hs).2).2 hn hsl hm)
theorem ax_acmp_ne {x z off : Int} {tgt : Nat} (hX : CxOk ph X y k σ0 Q E) (hx52 : -52 ≤ x) (hz52 : -52 ≤ z) (ht : (pc : Int) + off = tgt) (hd : decode y.2.1 pc = .ok (.if_acmp .ne off, 3)) (h1 : ¬ x = z → Ax ph X tgt ls st σ) (h2 : x = z → Ax ph X (pc + 3) ls st σ) : Ax ph X pc ls (vO z :: vO x :: st) σ := by
  obtain ⟨G, p, l, e, R, s, m, args, below, meth, c, σ0', Q0, E0⟩ := X
  obtain ⟨hx, hbc, hml, hret, hlocks, hown, hnm, hexc, hG, hk1, hk2, hc1, hc2, rfl, rfl, rfl⟩ := hX
  intro H locs lsC hR hL hl ho hs hn hsl hm
  show W p l e R s m args below meth c H locs _ _ _ (F0 m pc lsC (cO G z :: cO G x :: st.map (cV G)))
  rw [cO_oI, cO_oI]
  exact lv_acmp_ne hx hbc hd ht (fun q => h1 (fun c => q (by rw [c])) H locs lsC hR hL hl ho (okc (okc hs).2).2 hn hsl hm) (fun q => h2 (oI_inj hG.2.2.2 hx52 hz52 q) H locs lsC hR hL hl ho (okc (okc hs).2).2 hn hsl hm)
theorem ax_ifnn {x off : Int} {tgt : Nat} (hX : CxOk ph X y k σ0 Q E) (hx0 : 0 ≤ x) (ht : (pc : Int) + off = tgt) (hd : decode y.2.1 pc = .ok (.ifnonnull off, 3)) (h1 : ¬ x = 0 → Ax ph X tgt ls st σ) (h2 : x = 0 → Ax ph X (pc + 3) ls st σ) : Ax ph X pc ls (vO x :: st) σ := by
  obtain ⟨G, p, l, e, R, s, m, args, below, meth, c, σ0', Q0, E0⟩ := X
  obtain ⟨hx, hbc, hml, hret, hlocks, hown, hnm, hexc, hG, hk1, hk2, hc1, hc2, rfl, rfl, rfl⟩ := hX
  intro H locs lsC hR hL hl ho hs hn hsl hm
  show W p l e R s m args below meth c H locs _ _ _ (F0 m pc lsC (cO G x :: st.map (cV G)))
  by_cases c0 : x = 0
  · have e1 : cO G x = .null := by unfold cO; rw [if_pos c0]
    rw [e1]
    exact lv_ifnonnullN hx hbc hd (h2 c0 H locs lsC hR hL hl ho (okc hs).2 hn hsl hm)
  · have e1 : cO G x = .ref (G.1 + x.toNat - 1) := by unfold cO; rw [if_neg c0, if_pos (by omega)]
    rw [e1]
    exact lv_ifnonnull hx hbc hd ht (h1 c0 H locs lsC hR hL hl ho (okc hs).2 hn hsl hm)
theorem ax_objInit {r : Int} {idx : Nat} (hX : CxOk ph X y (k + 1) σ0 Q E) (hr : 0 < r) (hlk : Cond.methodLink y.1.cls idx Lib.objectInit ∈ lw_all) (hin : Cond.instanceMethod Lib.objectInit ∈ lw_all) (hco : Cond.code Lib.objectInit ⟨#[0xb1]⟩ 1 none ∈ lw_all) (hst8 : (st.map avW).sum ≤ 8) (hd : decode y.2.1 pc = .ok (.invokespecial idx, 3)) (h : Ax ph X (pc + 3) ls st σ) : Ax ph X pc ls (vO r :: st) σ := by
  obtain ⟨G, p, l, e, R, s, m, args, below, meth, c, σ0', Q0, E0⟩ := X
  obtain ⟨hx, hbc, hml, hret, hlocks, hown, hnm, hexc, hG, hk1, hk2, hc1, hc2, rfl, rfl, rfl⟩ := hX
  intro H locs lsC hR hL hl ho hs hn hsl hm
  have hts := glob_all hG args
  have kk := h H locs lsC hR hL hl ho (okc hs).2 hn hsl hm
  have e1 : cO G r = .ref (G.1 + r.toNat - 1) := by unfold cO; rw [if_neg (by omega), if_pos hr]
  show W p l e R s m args below meth c H locs _ _ _ (F0 m pc lsC (cO G r :: st.map (cV G)))
  rw [e1]
  refine W.objInit hx hbc hown (hts _ hlk) (hts _ hin) (hts _ hco) rfl hl.1 rfl hd (by omega) ?_ kk
  show 2 * 0 + ((st.map (cV G)).map fun v => v.category).sum + 12 ≤ R.locals
  rw [cat_sum]; omega
/-- arrays of references -/
theorem ax_aast {e o f v ci : Nat} {q : vw_C} {i x : Int} (hX : CxOk ph X y k σ0 Q E) (hcl : clL[ci]? = some q) (he : e = 5 ∨ e = 7) (hel : elTy e = .object q.1) (hv : v = gV σ o f) (hi : 0 ≤ i ∧ i < gL σ o f) (hx0 : 0 < x) (hkl : gK σ x.toNat = ci + 1) (hd : decode y.2.1 pc = .ok (.aastore, 1)) (h : Ax ph X (pc + 1) ls st (sA σ o f i.toNat x)) : Ax ph X pc ls (vO x :: vI i :: vA e o f v :: st) σ := by
  refine ax_astV hX hv hi (fun hw => ⟨fun q => by omega, fun q => by omega, fun q => by omega, fun q => by omega, fun _ => hw, fun q => by omega⟩) ?_ h
  intro G p l ev R s m args below meth c H locs cells slots Qw lsC L g j hx hb hR hG hw hc hj kk
  have hlt := rep_lt hR hkl (by omega)
  obtain ⟨⟨cellV, g1, g2, g3, -⟩, -⟩ := hR.2.2.1 x.toNat ci q (by omega) hlt hkl hcl
  have hcls := (hG.2.1 ci q hcl).2
  have hra := (hG.2.2.1 e (by omega)).2
  rw [hel] at hra
  obtain ⟨kA, comp, k1, k2, k3, -⟩ := hra
  have hcomp : comp = G.2.2.1.1 ci := Option.some.inj (k3.symm.trans hcls.1)
  subst hcomp
  obtain ⟨kC, hkC, -⟩ := hcls.2
  have hcO : cO G x = .ref (G.1 + x.toNat - 1) := by unfold cO; rw [if_neg (by omega), if_pos hx0]
  show W p l ev R s m args below meth c H locs cells slots Qw (F0 m pc lsC (cO G x :: .int j :: .ref (G.1 + v - 1) :: st.map (cV G)))
  rw [hcO]
  have hev : eVal G e x = .ref (G.1 + x.toNat - 1) := by rw [← hcO]; unfold eVal; rw [if_neg (by omega), if_neg (by omega)]
  rw [hev] at kk
  exact W.aast hx hb hc (fun q h => by cases h) (fun h => by cases h) k1 k2 rfl hkC ⟨fun z => hj (Or.inl z), by rw [arrV_size]; omega⟩ g1 (fun q h => by rw [g3] at h; cases h) (by rw [g2]; exact hkC) (by rw [g2]; exact va_asg _ _) rfl rfl hd kk
/-- of Strings -/
theorem ax_aastS {o f v n : Nat} {i : Int} {cs : List Int} (hX : CxOk ph X y k σ0 Q E) (hq : (n, cs) ∈ strL) (hn1 : 1 ≤ n) (hv : v = gV σ o f) (hi : 0 ≤ i ∧ i < gL σ o f) (hd : decode y.2.1 pc = .ok (.aastore, 1)) (h : Ax ph X (pc + 1) ls st (sA σ o f i.toNat (-(n : Int)))) : Ax ph X pc ls (vO (-(n : Int)) :: vI i :: vA 6 o f v :: st) σ := by
  refine ax_astV hX hv hi (fun hw => ⟨fun q => by omega, fun q => by omega, fun q => by omega, fun q => by omega, fun _ => hw, fun q => by omega⟩) ?_ h
  intro G p l ev R s m args below meth c H locs cells slots Qw lsC L g j hx hb hR hG hw hc hj kk
  obtain ⟨a, b, c1, c2, ⟨cellV, d1, d2, d3, d4⟩, -⟩ := hG.2.2.2.2.1 _ hq
  have hra := (hG.2.2.1 6 (by omega)).2
  obtain ⟨kA, comp, k1, k2, k3, -⟩ := hra
  have hcomp : comp = cellV.cls := Option.some.inj (k3.symm.trans d3)
  subst hcomp
  obtain ⟨kC, hkC⟩ := Vm.classAt_of_findClass d3
  have hcO : cO G (-(n : Int)) = .ref a := cO_neg hn1 c1
  show W p l ev R s m args below meth c H locs cells slots Qw (F0 m pc lsC (cO G (-(n : Int)) :: .int j :: .ref (G.1 + v - 1) :: st.map (cV G)))
  rw [hcO]
  have hev : eVal G 6 (-(n : Int)) = .ref a := by rw [← hcO]; unfold eVal; rw [if_neg (by omega), if_neg (by omega)]
  rw [hev] at kk
  exact W.aast hx hb hc (fun q h => by cases h) (fun h => by cases h) k1 k2 rfl hkC ⟨fun z => hj (Or.inl z), by rw [arrV_size]; omega⟩ (old_at hR d4 d1) (fun q h => by rw [h] at d2; cases d2) hkC (va_asg _ _) rfl rfl hd kk
theorem ax_anew {e idx : Nat} {C : String} {n : Int} (hX : CxOk ph X y k σ0 Q E) (he : 5 ≤ e ∧ e ≤ 7) (hel : elTy e = .object C) (hlk : Cond.classLink y.1.cls idx C ∈ lw_all) (hov : Cond.arrayOver (.object C) ∈ lw_tbl) (hn : 0 ≤ n ∧ gT σ + n.toNat ≤ 540000 ∧ (n.toNat < 16 → gC σ + 1 ≤ 100000))
    (hd : decode y.2.1 pc = .ok (.anewarray idx, 3)) (h : Ax ph X (pc + 3) ls (vA e (gN σ) 0 (gN σ) :: st) (nA σ e n.toNat)) : Ax ph X pc ls (vI n :: st) σ := by
  obtain ⟨G, p, l, ev, R, s, m, args, below, meth, c, σ0', Q0, E0⟩ := X
  obtain ⟨hx, hbc, hml, hret, hlocks, hown, hnm, hexc, hG, hk1, hk2, hc1, hc2, rfl, rfl, rfl⟩ := hX
  intro H locs lsC hR hL hl ho hs hnn hsl hm
  have hii : in32 n := (okc hs).1
  obtain ⟨r1, r2, r3, r4, r5⟩ := rep_room hR
  have hcl : (Int32.ofInt n).toNatClampNeg = n.toNat := i32_clamp hii hn.1
  have hle := le_nA σ e n.toNat
  have hRA := (hG.2.2.1 e (by omega)).2
  rw [hel] at hRA
  obtain ⟨kA0, comp0, w1, w2, w3, w4⟩ := hRA
  refine W.anew hx hbc hown (glob_all hG args _ hlk) (hG.1 _ hov rfl args) rfl hd rfl (by rw [i32_c0, i32_lt hii (by unfold in32; omega)]; omega) ?_ ?_ ?_ (fun cA kA comp f1 f2 f3 f4 => ?_)
  · rw [hcl]; omega
  · omega
  · rw [hcl]; omega
  · have hcA : cA = G.2.2.2.1 e := Option.some.inj (f1.symm.trans w4)
    have hz := hR.1.1
    have hn1 := hR.1.2
    have hdef : eVal G e 0 = .null := by unfold eVal; rw [if_neg (by omega), if_neg (by omega)]; rfl
    have kk := h (H.push { cls := cA, slots := Array.replicate (Int32.ofInt n).toNatClampNeg .null, vm := .none }) locs lsC
      (rep_nA hR (by omega) hn.2.1 hn.2.2 (by rw [push_at, arrV_new, hcl, hcA, hdef]) push_sz (fun a ha => push_off ha)) hL hl (fun w hw => okV_mono hle (ho w hw))
      (okp ⟨show 1 ≤ gN σ from hn1, show gN σ < gN (nA σ e n.toNat) by rw [gN_nA]; omega, by show gK _ (gN σ) = _; rw [gK_nA, if_pos rfl]⟩ (fun w hw => okV_mono hle ((okc hs).2 w hw))) (by rw [gN_nA]; omega) (by rw [gS_nA]; omega) (fun w hw => okV_mono hle (hm w hw))
    rw [gN_nA, gS_nA] at kk
    rw [hcl]
    rw [hcl] at kk
    rw [show gN σ + 1 - gN σ0' = gN σ - gN σ0' + 1 by omega, show gS σ + n.toNat - gS σ0' = gS σ - gS σ0' + n.toNat by omega] at kk
    rw [List.map_cons] at kk
    have e1 : cV G (vA e (gN σ) 0 (gN σ)) = .ref H.size := by show Value.ref (G.1 + gN σ - 1) = _; rw [show G.1 + gN σ - 1 = H.size by omega]
    rw [e1] at kk
    exact kk
end Rows5
