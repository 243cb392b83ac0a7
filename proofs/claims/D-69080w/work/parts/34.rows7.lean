/-! ROWS VII: chars and bytes, growth's frame -/
set_option maxRecDepth 100000
section Rows7
variable {ph k : Nat} {X : Cx} {y : MI} {σ0 σ : Sg} {Q : Option AV → Sg → Prop} {E : Int → Sg → Prop} {pc : Nat} {ls : List (Option AV)} {st : List AV}
theorem ax_i2c {x : Int} (hX : CxOk ph X y k σ0 Q E) (hx16 : 0 ≤ x ∧ x < 65536) (hd : decode y.2.1 pc = .ok (.i2c, 1)) (h : Ax ph X (pc + 1) ls (vI x :: st) σ) : Ax ph X pc ls (vI x :: st) σ :=
  ax_pure hX h (fun q => q) (fun G p l e R s m args below meth c H locs cells slots Qw lsC hx hb hs kk => lv_i2c hx hb hd (by
    rw [pk_char]
    apply Int32.toInt_inj.mp
    have h1 : in32 x := by unfold in32; omega
    rw [i32_toInt h1, nI_toInt (by omega)]
    have h2 : (Int32.ofInt x).toBitVec.toNat = x.toNat := by
      have := i32_toInt h1
      rw [Int32.toInt, BitVec.toInt_eq_toNat_cond] at this
      have h3 := (Int32.ofInt x).toBitVec.isLt
      split at this <;> omega
    rw [h2]; omega) kk)
theorem ax_bret {x : Int} (hX : CxOk ph X y k σ0 Q E) (hr : y.2.2.2.1 = some .byte) (hx8 : -128 ≤ x ∧ x ≤ 127) (hd : decode y.2.1 pc = .ok (.ireturn, 1)) (h : Q (some (vI x)) σ) : Ax ph X pc ls [vI x] σ := by
  obtain ⟨G, p, l, e, R, s, m, args, below, meth, c, σ0', Q0, E0⟩ := X
  obtain ⟨hx, hb, hml, hret, hlocks, hown, hnm, hexc, hG, hk1, hk2, hc1, hc2, rfl, rfl, rfl⟩ := hX
  intro H locs lsC hR hL hl ho hs hn hsl hm T hT X
  obtain ⟨fs, hrt, hrun, hended, hW, hframe⟩ := X.leave (v := some (.int (Int32.ofInt x))) (fun h => by rw [hret, hr] at h; cases h)
  have hmeth' : T.vm.method? m = some meth := X.method'
  refine ⟨T.setFrames fs, ?_, hrun, Or.inl ⟨some (vI x), σ, locs, h, fun v hv => by cases hv; exact (okc hs).1, by rw [show (T.setFrames fs).heap = T.heap from rfl, hT]; exact hR, hn, hsl, hm, hended, hW, hframe, hL⟩⟩
  have hr' := hret.trans hr
  have hnar : narrow .byte (.int (Int32.ofInt x)) = .int (Int32.ofInt x) := by
    have : x = w8 x := by unfold w8; omega
    rw [this, ← i32_i2b]
    exact pk_nb _
  show Steps p.tables e below (T.setTop (F0 m pc lsC [.int (Int32.ofInt x)])) _
  jvm_step X.here [X.here.top, hx, hb, hd, hmeth', hr', hnar]
  (try refine ⟨rfl, ?_⟩); (try refine ⟨rfl, ?_⟩)
  first | (intro acts; rw [hrt _ acts rfl rfl rfl]) | rw [hrt _ _ rfl rfl rfl]
  exact Steps.refl _
theorem ax_cret {x : Int} (hX : CxOk ph X y k σ0 Q E) (hr : y.2.2.2.1 = some .char) (hx16 : 0 ≤ x ∧ x ≤ 65535) (hd : decode y.2.1 pc = .ok (.ireturn, 1)) (h : Q (some (vI x)) σ) : Ax ph X pc ls [vI x] σ := by
  obtain ⟨G, p, l, e, R, s, m, args, below, meth, c, σ0', Q0, E0⟩ := X
  obtain ⟨hx, hb, hml, hret, hlocks, hown, hnm, hexc, hG, hk1, hk2, hc1, hc2, rfl, rfl, rfl⟩ := hX
  intro H locs lsC hR hL hl ho hs hn hsl hm T hT X
  obtain ⟨fs, hrt, hrun, hended, hW, hframe⟩ := X.leave (v := some (.int (Int32.ofInt x))) (fun h => by rw [hret, hr] at h; cases h)
  have hmeth' : T.vm.method? m = some meth := X.method'
  refine ⟨T.setFrames fs, ?_, hrun, Or.inl ⟨some (vI x), σ, locs, h, fun v hv => by cases hv; exact (okc hs).1, by rw [show (T.setFrames fs).heap = T.heap from rfl, hT]; exact hR, hn, hsl, hm, hended, hW, hframe, hL⟩⟩
  have hr' := hret.trans hr
  have hnar : narrow .char (.int (Int32.ofInt x)) = .int (Int32.ofInt x) := by
    have e1 : Int32.ofInt x = nI x.toNat := by
      apply Int32.toInt_inj.mp
      rw [i32_toInt (by unfold in32; omega), nI_toInt (by omega)]; omega
    rw [e1]
    exact (pk_charN (by omega)).1
  show Steps p.tables e below (T.setTop (F0 m pc lsC [.int (Int32.ofInt x)])) _
  jvm_step X.here [X.here.top, hx, hb, hd, hmeth', hr', hnar]
  (try refine ⟨rfl, ?_⟩); (try refine ⟨rfl, ?_⟩)
  first | (intro acts; rw [hrt _ acts rfl rfl rfl]) | rw [hrt _ _ rfl rfl rfl]
  exact Steps.refl _
theorem ax_getVK {v : AV} {r : Int} {ci b idx : Nat} {q : vw_C} (hX : CxOk ph X y k σ0 Q E) (hcl : clL[ci]? = some q) (h6 : ci ≠ 6) (hb : b < q.2.2) (hC : (q.2.1 b).1 = q.1) (hlk : FLk y.1.cls idx q.1 (q.2.1 b).2.1 (q.2.1 b).2.2.1)
    (hr : 0 < r) (hK : gK σ r.toNat = ci + 1) (hv : ∀ (G : Gp) (H : Heap), Rep G ph σ H → fOk σ (ftOf ci (b + 1)) (b + 1) (gF σ r.toNat (b + 1)) → cV G v = fVal G σ r.toNat (ftOf ci (b + 1)) (b + 1) ∧ okV σ v)
    (hd : decode y.2.1 pc = .ok (.getfield idx, 3)) (h : Ax ph X (pc + 3) ls (v :: st) σ) : Ax ph X pc ls (vO r :: st) σ := by
  obtain ⟨G, p, l, e, R, s, m, args, below, meth, c, σ0', Q0, E0⟩ := X
  obtain ⟨hx, hbc, hml, hret, hlocks, hown, hnm, hexc, hG, hk1, hk2, hc1, hc2, rfl, rfl, rfl⟩ := hX
  intro H locs lsC hR hL hl ho hs hn hsl hm
  have hlt := rep_lt hR hK (by omega)
  obtain ⟨⟨cell, q1, q2, q3, q4⟩, hfo⟩ := hR.2.2.1 r.toNat ci q (by omega) hlt hK hcl
  obtain ⟨hve, hvo⟩ := hv G H hR (hfo b hb)
  obtain ⟨hin, -, -⟩ := cl_ok hcl h6
  obtain ⟨hS, hfc, kC, hkC, hkind⟩ := hG.2.1 ci q hcl
  obtain ⟨cf, kf, fi, f, hi, hsl2⟩ := hS b hb
  have hst := (u_facts hfc hkC (u_lays (glob_all hG args) hin hb) hi).1
  have hcO : cO G r = .ref (G.1 + r.toNat - 1) := by unfold cO; rw [if_neg (by omega), if_pos hr]
  have kk := h H locs lsC hR hL hl ho (okp hvo (okc hs).2) hn hsl hm
  rw [List.map_cons, hve] at kk
  show W p l e R s m args below meth c H locs _ _ _ (F0 m pc lsC (cO G r :: st.map (cV G)))
  rw [hcO]
  have hslot : cell.slots[f.slot]? = some (fVal G σ r.toNat (ftOf ci (b + 1)) (b + 1)) := by rw [hsl2]; exact q4 b hb
  rw [hC] at hi
  rcases hlk with hw | ⟨host, hw⟩
  · exact W.getf hx hbc hown (glob_all hG args _ hw) hi hst q1 (by rw [q3]; exact fun h => by cases h) hslot rfl rfl hd kk
  · exact va_Wgetf hx hbc hown (hG.1 _ hw rfl args) hi hst q1 (by rw [q3]; exact fun h => by cases h) hslot rfl rfl hd kk
theorem ax_putVK {v : AV} {r : Int} {ci b idx : Nat} {q : vw_C} {σ' : Sg} (hX : CxOk ph X y k σ0 Q E) (hcl : clL[ci]? = some q) (h6 : ci ≠ 6) (hb : b < q.2.2) (hC : (q.2.1 b).1 = q.1) (hlk : FLk y.1.cls idx q.1 (q.2.1 b).2.1 (q.2.1 b).2.2.1)
    (hfin : (q.2.1 b).2.2.2 = false ∨ (y.1.cls = q.1 ∧ y.1.name = "<init>")) (hr : 0 < r) (hK : gK σ r.toNat = ci + 1) (hin : okV σ v → inTy (ftOf ci (b + 1)) v)
    (hN : gN σ' = gN σ) (hSl : gS σ' = gS σ) (hKK : gK σ' = gK σ)
    (hrep : ∀ (G : Gp) (H H' : Heap) (cell : Cell), Rep G ph σ H → okV σ v → (∀ a b, a < q.2.2 → b < q.2.2 → a ≠ b → G.2.2.1.2 ci a ≠ G.2.2.1.2 ci b) → cell.cls = G.2.2.1.1 ci → cell.vm = .none → (∀ k, k < q.2.2 → cell.slots[G.2.2.1.2 ci k]? = some (fVal G σ r.toNat (ftOf ci (k + 1)) (k + 1))) →
      H'[G.1 + r.toNat - 1]? = some (cell.setSlot (G.2.2.1.2 ci b) (cV G v)) → H'.size = H.size → (∀ a, a ≠ G.1 + r.toNat - 1 → H'[a]? = H[a]?) → Rep G ph σ' H')
    (hd : decode y.2.1 pc = .ok (.putfield idx, 3)) (h : Ax ph X (pc + 3) ls st σ') : Ax ph X pc ls (v :: vO r :: st) σ := by
  obtain ⟨G, p, l, e, R, s, m, args, below, meth, c, σ0', Q0, E0⟩ := X
  obtain ⟨hx, hbc, hml, hret, hlocks, hown, hnm, hexc, hG, hk1, hk2, hc1, hc2, rfl, rfl, rfl⟩ := hX
  intro H locs lsC hR hL hl ho hs hn hsl hm
  have hlt := rep_lt hR hK (by omega)
  obtain ⟨⟨cell, q1, q2, q3, q4⟩, hfo⟩ := hR.2.2.1 r.toNat ci q (by omega) hlt hK hcl
  obtain ⟨hinw, ⟨ty, hty, htyB⟩, hnms⟩ := cl_ok hcl h6
  have hts := glob_all hG args
  have hSI := hG.2.1 ci q hcl
  obtain ⟨hS, hfc, kC, hkC, hkind⟩ := hSI
  have hap : ∀ x z, x < q.2.2 → z < q.2.2 → x ≠ z → G.2.2.1.2 ci x ≠ G.2.2.1.2 ci z := by
    intro x z hx' hz' hne
    obtain ⟨_, _, _, fa, hia, ea⟩ := hS x hx'
    obtain ⟨_, _, _, fb, hib, eb⟩ := hS z hz'
    rw [← ea, ← eb]
    refine u_apart (u_lays hts hinw hx') (u_lays hts hinw hz') hia hib ?_
    rw [(State.fieldFound?_type hia (hty x hx')).1, (State.fieldFound?_type hib (hty z hz')).1]
    exact hnms x hx' z hz' hne
  obtain ⟨cf, kf, fi, f, hi, hsl2⟩ := hS b hb
  have hst := (u_facts hfc hkC (u_lays hts hinw hb) hi).1
  have hvo := (okc hs).1
  obtain ⟨hnar, hfit⟩ := inTy_fits (G := G) (hin hvo) (htyB b hb)
  have h6f := u_fits hfc hkC hkind (u_lays hts hinw hb) hi (hty b hb) hnar hfit
  have hlay := hts _ (hinw _ (u_in_lay hb))
  unfold u_lay at hlay
  have hfin' : hasFlag f.accessFlags Acc.final = false ∨ (m.cls = cf ∧ meth.name = "<init>") := by
    by_cases cfin : (q.2.1 b).2.2.2 = true
    · rw [if_pos cfin] at hlay
      rcases hfin with hfin | ⟨hfin1, hfin2⟩
      · rw [cfin] at hfin; cases hfin
      · refine Or.inr ⟨?_, by rw [hnm]; exact hfin2⟩
        obtain ⟨_, _, c', _, _, _, -, -, hf', -, -, -, hown2, -⟩ := Cond.laysFinal_spec hlay
        have e1 : c' = cf := by have := hi.symm.trans hf'; simp at this; exact this.1.symm
        rw [hC, ← hfin1] at hown2
        rw [← e1]; exact Option.some.inj (hown.symm.trans hown2)
    · rw [if_neg cfin] at hlay
      obtain ⟨_, _, _, _, _, fd', -, -, hi', -, hnf, -⟩ := Cond.lays_spec hlay
      have e1 : fd' = f := by have := hi.symm.trans hi'; simp at this; exact this.2.2.2.symm
      exact Or.inl (by rw [← e1]; exact hnf)
  have hcO : cO G r = .ref (G.1 + r.toNat - 1) := by unfold cO; rw [if_neg (by omega), if_pos hr]
  have ha : G.1 + r.toNat - 1 < H.size := (Array.getElem?_eq_some_iff.mp q1).1
  show W p l e R s m args below meth c H locs _ _ _ (F0 m pc lsC (cV G v :: cO G r :: st.map (cV G)))
  rw [hcO]
  have hle : LeS σ σ' := ⟨by rw [hN]; exact Nat.le_refl _, fun a _ => by rw [hKK]⟩
  have kk : W p l e R s m args below meth c (H.setIfInBounds (G.1 + r.toNat - 1) (cell.setSlot f.slot (cV G v))) (locs ++ [⟨G.1 + r.toNat - 1, f.slot⟩]) (gN σ - gN σ0') (gS σ - gS σ0') (EndP G ph s below σ0' Q0 E0) (F0 m (pc + 3) lsC (st.map (cV G))) := by
    have := h (H.setIfInBounds (G.1 + r.toNat - 1) (cell.setSlot f.slot (cV G v))) (locs ++ [⟨G.1 + r.toNat - 1, f.slot⟩]) lsC
      (hrep G H _ cell hR hvo hap q2 q3 q4 (by rw [hsl2]; exact set_at ha) set_sz (fun a hne => set_off hne)) (locs_add hL (by omega)) hl
      (fun w hw => okV_mono hle (ho w hw)) (fun w hw => okV_mono hle ((okc (okc hs).2).2 w hw)) (by rw [hN]; exact hn) (by rw [hSl]; exact hsl) (fun w hw => okV_mono hle (hm w hw))
    rw [hN, hSl] at this
    exact this
  rw [hC] at hi
  rcases hlk with hw | ⟨host, hw⟩
  · exact W.putf hx hbc hown (hts _ hw) hi hst hfin' q1 (by rw [q3]; exact fun h => by cases h) (by rw [hsl2]; exact k2_hasslot (q4 b hb)) h6f.1 (by rw [q2, q3]; exact h6f.2) rfl rfl hd kk
  · exact va_Wputf hx hbc hown (hG.1 _ hw rfl args) hi hst hfin' q1 (by rw [q3]; exact fun h => by cases h) (by rw [hsl2]; exact k2_hasslot (q4 b hb)) h6f.1 (by rw [q2, q3]; exact h6f.2) rfl rfl hd kk
/-- the state lies in a heap -/
theorem ax_fine (h : Fine ph σ → Ax ph X pc ls st σ) : Ax ph X pc ls st σ := by
  obtain ⟨G, p, l, e, R, s, m, args, below, meth, c, σ0', Q0, E0⟩ := X
  intro H locs lsC hR hL hl ho hs hn hsl hm
  exact h ⟨G, H, hR⟩ H locs lsC hR hL hl ho hs hn hsl hm
/-- what is on the stack is right -/
theorem ax_ok (h : (∀ v ∈ st, okV σ v) → Ax ph X pc ls st σ) : Ax ph X pc ls st σ := by
  obtain ⟨G, p, l, e, R, s, m, args, below, meth, c, σ0', Q0, E0⟩ := X
  intro H locs lsC hR hL hl ho hs hn hsl hm
  exact h hs H locs lsC hR hL hl ho hs hn hsl hm
theorem ax_cst (h : ∀ s : State, Cst X.1 s → Ax ph X pc ls st σ) (hX : CxOk ph X y k σ0 Q E) : Ax ph X pc ls st σ := by
  obtain ⟨G, p, l, e, R, s, m, args, below, meth, c, σ0', Q0, E0⟩ := X
  obtain ⟨hx, hbc, hml, hret, hlocks, hown, hnm, hexc, hG, hk1, hk2, hc1, hc2, rfl, rfl, rfl⟩ := hX
  exact h s hG.2.2.2
end Rows7
theorem fr_grx {d : Md} {σ : Sg} {c : Prop} [Decidable c] {e o f n cc t : Nat} {cp : Bool} (h0 : grF d o = true) (hm : mdIn d o f = true) : Fr d σ (grx c σ e o f n cp cc t) := by
  unfold grF at h0
  simp only [Bool.and_eq_true, Bool.or_eq_true, Nat.blt_eq] at h0
  obtain ⟨h, h3⟩ := h0
  refine ⟨fun o' f' _ ho hf' hn => ?_, ⟨no_tf h, fun q => ⟨rfl, ?_⟩, fun _ => rfl⟩, ?_, fun a ha => ?_⟩
  · have hne : ¬ (o' = o ∧ f' = f) := by
      rintro ⟨rfl, rfl⟩
      rcases mdIn_or hm with q | q | q
      · exact hf' q
      · omega
      · exact hn q
    refine ⟨rfl, ?_, ?_, ?_⟩
    · show u2 _ o f _ o' f' = _
      unfold u2; rw [if_neg hne]
    · show u2 _ o f _ o' f' = _
      unfold u2; rw [if_neg hne]
    · show u2 _ o f _ o' f' = _
      unfold u2; rw [if_neg hne]
  · show (if c then gD σ else gD σ + (if o < 222 then 0 else n + t)) = gD σ
    rcases h3 with h3 | h3
    · rw [h3] at q; cases q
    · rw [if_pos h3]; split <;> rfl
  · show gN σ ≤ if c then gN σ else gN σ + cc + 1
    split <;> omega
  · show (if c then gK σ a else if gN σ ≤ a ∧ a ≤ gN σ + cc then 100 + e else gK σ a) = gK σ a
    split
    · rfl
    · rw [if_neg (by omega)]
theorem stGrow_mono {d : Md} {k a f : Nat} {c : Int} {go go' : List AV → Sg → Prop} {σ : Sg} {st : List AV} (h : stGrow d k a f c go σ st) (hg : ∀ st' σ', Fr d σ σ' → go st' σ' → go' st' σ') : stGrow d k a f c go' σ st := by
  unfold stGrow at h ⊢
  split at h
  · rename_i n q r st'
    obtain ⟨h1, ⟨h2, h3, h4, h5, h6⟩, h7⟩ := chk_of h
    have hd : grF d r.toNat = true := by simp only [Bool.and_eq_true] at h1; exact h1.2.1
    rw [h1]
    refine ⟨⟨h2, h3, h4, h5, h6⟩, ?_⟩
    by_cases c0 : (a == 2000) = true
    · rw [c0] at h7 ⊢
      exact ⟨h7.1, hg _ _ (fr_grx hd h5) h7.2⟩
    · rw [Bool.not_eq_true] at c0
      rw [c0] at h7 ⊢
      by_cases c1 : (a == 2001) = true
      · rw [c1] at h7 ⊢
        exact ⟨h7.1, hg _ _ (fr_grx hd h5) h7.2⟩
      · rw [Bool.not_eq_true] at c1
        rw [c1] at h7 ⊢
        by_cases c2 : (a == 2002) = true
        · rw [c2] at h7 ⊢
          exact ⟨h7.1, hg _ _ (fr_grx hd h5) h7.2⟩
        · rw [Bool.not_eq_true] at c2
          rw [c2] at h7 ⊢
          obtain ⟨h8, h9⟩ := chk_of h7
          show chk (a == 2004) _
          rw [h8]
          exact ⟨h9.1, hg _ _ (fr_grx hd h5) h9.2⟩
  · rename_i q r st'
    obtain ⟨h1, ⟨h2, h3, h4, h5, h6⟩, h7, h8⟩ := chk_of h
    have hd : grF d r.toNat = true := by simp only [Bool.and_eq_true] at h1; exact h1.2.2.1
    rw [h1]
    exact ⟨⟨h2, h3, h4, h5, h6⟩, h7, hg _ _ (fr_grx hd h5) h8⟩
  · exact h.elim
