/-! arrays and calls: from the condition to the row -/
set_option maxRecDepth 100000
section AF
variable {ph : Nat} {y : MI} {k : Nat} {X : Cx} {σ0 σ : Sg} {Q : Option AV → Sg → Prop} {E : Int → Sg → Prop} {pc idx a b : Nat} {c : Int} {ls : List (Option AV)} {st : List AV} {d : Md} {scL : Nat} {scX : Nat → Int}
/-- which instruction reads so -/
def aldI (t : Nat) : Instr := match t with
  | 0 => .iaload
  | 1 => .baload
  | 3 => .laload
  | _ => .aaload
theorem in32_ok {G : Gp} {H : Heap} (hR : Rep G ph σ H) {o f i : Nat} (hv : gV σ o f ≠ 0) (hi : i < gL σ o f) (hk : gK σ (gV σ o f) = 100) : in32 (gA σ o f i) := by
  have := (hR.2.2.2.1 o f hv).2.2.2.2 i hi
  rw [hk] at this
  exact this.1 rfl
theorem ax_aldF {t : Nat} (ht : t = 0 ∨ t = 1 ∨ t = 3 ∨ t = 4) (hX : CxOk ph X y k σ0 Q E) (hsc : a = 1 → t = 0 → X.1.2.2.2.2.2.1 = scL ∧ X.1.2.2.2.2.2.2 = scX) (hd : decode y.2.1 pc = .ok (aldI t, 1)) {go : List AV → Prop} (hgo : ∀ st', go st' → Ax ph X (pc + 1) ls st' σ) (h : stAld scL scX a t go σ st) : Ax ph X pc ls st σ := by
  unfold stAld at h
  split at h
  · rename_i i q st'
    obtain ⟨hq, hv, hi, h⟩ := chk_of h
    obtain ⟨e, o, f, v⟩ := q
    have hv' : v = gV σ o f := hv
    have hi' : 0 ≤ i ∧ i < gL σ o f := hi
    rcases ht with rfl | rfl | rfl | rfl
    · have he : e = 0 := by simpa using hq
      subst he
      exact ax_iald hX hv' hi' hd (hgo _ h)
    · have he : e = 1 ∨ e = 2 := by simpa using hq
      exact ax_bald hX he hv' hi' hd (hgo _ h)
    · have he : e = 3 := by simpa using hq
      subst he
      exact ax_lald hX hv' hi' hd (hgo _ h)
    · have he : 3 < e ∧ e ≤ 8 := by simpa [Nat.blt_eq, Nat.ble_eq] using hq
      by_cases c8 : e = 8
      · subst c8
        obtain ⟨⟨⟨g0, g1⟩, ⟨g2, g3⟩, g4⟩, h0, h1⟩ : ((gA σ o f 0 = gV σ 120 100 ∧ gV σ 120 100 ≠ 0) ∧ (gA σ o f 1 = gV σ 120 101 ∧ gV σ 120 101 ≠ 0) ∧ (i = 0 ∨ i = 1)) ∧ (i = 0 → go (vA 3 120 100 (gV σ 120 100) :: st')) ∧ (i = 1 → go (vA 3 120 101 (gV σ 120 101) :: st')) := h
        rcases g4 with rfl | rfl
        · exact ax_aald8 hX hv' hi' g0 g1 hd (hgo _ (h0 rfl))
        · exact ax_aald8 hX hv' hi' g2 g3 hd (hgo _ (h1 rfl))
      · by_cases c7 : e = 7
        · subst c7
          obtain ⟨⟨g0, g1, g4⟩, h0, h1⟩ : (gA σ o f 0 = 208 ∧ gA σ o f 1 = 215 ∧ (i = 0 ∨ i = 1)) ∧ (i = 0 → go (vO 208 :: st')) ∧ (i = 1 → go (vO 215 :: st')) := h
          rcases g4 with rfl | rfl
          · refine ax_aald hX (by omega) hv' hi' hd ?_
            rw [show gA σ o f (0 : Int).toNat = 208 from g0]
            exact hgo _ (h0 rfl)
          · refine ax_aald hX (by omega) hv' hi' hd ?_
            rw [show gA σ o f (1 : Int).toNat = 215 from g1]
            exact hgo _ (h1 rfl)
        · have z8 : (e == 8) = false := by simpa using c8
          have z7 : (e == 7) = false := by simpa using c7
          have h : (bif e == 8 then ((gA σ o f 0 = gV σ 120 100 ∧ gV σ 120 100 ≠ 0) ∧ (gA σ o f 1 = gV σ 120 101 ∧ gV σ 120 101 ≠ 0) ∧ (i = 0 ∨ i = 1)) ∧ (i = 0 → go (vA 3 120 100 (gV σ 120 100) :: st')) ∧ (i = 1 → go (vA 3 120 101 (gV σ 120 101) :: st'))
            else bif e == 7 then (gA σ o f 0 = 208 ∧ gA σ o f 1 = 215 ∧ (i = 0 ∨ i = 1)) ∧ (i = 0 → go (vO 208 :: st')) ∧ (i = 1 → go (vO 215 :: st')) else go (vO (gA σ o f i.toNat) :: st')) := h
          rw [z8, z7] at h
          exact ax_aald hX (by omega) hv' hi' hd (hgo _ h)
  · rename_i i r st'
    by_cases c3 : a = 3
    · subst c3
      obtain ⟨hq, hi, h9⟩ := chk_of (show chk (t == 0 && r == -300) ((0 ≤ i ∧ i < 16) ∧ go (vI (bindsL.getD i.toNat 0) :: st')) from h)
      simp only [Bool.and_eq_true, beq_iff_eq] at hq
      obtain ⟨rfl, rfl⟩ := hq
      have hb : ∀ x ∈ bindsL, 0 ≤ x ∧ x ≤ 7 := by decide
      have hx : 0 ≤ bindsL.getD i.toNat 0 ∧ bindsL.getD i.toNat 0 ≤ 7 := by
        have hl : i.toNat < bindsL.length := by show i.toNat < 16; omega
        rw [List.getD_eq_getElem?_getD, List.getElem?_eq_getElem hl]
        exact hb _ (List.getElem_mem hl)
      refine ax_ialdC hX hi.1 (show in32 (bindsL.getD i.toNat 0) by unfold in32; omega) (fun s hC => ?_) hd (hgo _ h9)
      obtain ⟨a, n1, n2, n3⟩ := hC.2.2.1.1
      refine ⟨a, 16, _, ?_, n3, by omega, rfl⟩
      exact cO_neg (n := 300) (by omega) n1
    · have z3 : (a == 3) = false := by simpa using c3
      by_cases c1 : a = 1
      · subst c1
        obtain ⟨hq, hi, h9⟩ := chk_of (show chk (t == 0 && r == -301) ((0 ≤ i ∧ i < scL) ∧ go (vI (scX i.toNat) :: st')) from h)
        simp only [Bool.and_eq_true, beq_iff_eq] at hq
        obtain ⟨rfl, rfl⟩ := hq
        obtain ⟨e1, e2⟩ := hsc rfl rfl
        refine ax_cst (fun s hC => ?_) hX
        refine ax_ialdC hX hi.1 ?_ (fun s hC => ?_) hd (hgo _ h9)
        · obtain ⟨a, n1, n2, n3, n4⟩ := hC.2.2.1.2.1
          rw [← e2]; exact n3 _
        · obtain ⟨a, n1, n2, n3, n4⟩ := hC.2.2.1.2.1
          refine ⟨a, _, _, cO_neg (n := 301) (by omega) n1, n4, by rw [e1]; exact hi.2, ?_⟩
          rw [e2]
      · have z1 : (a == 1) = false := by simpa using c1
        have h : (bif a == 3 then chk (t == 0 && r == -300) ((0 ≤ i ∧ i < 16) ∧ go (vI (bindsL.getD i.toNat 0) :: st')) else bif a == 1 then chk (t == 0 && r == -301) ((0 ≤ i ∧ i < scL) ∧ go (vI (scX i.toNat) :: st'))
          else chk (a == 2 && t == 1) (∃ cs, strOf (r + 300) = some cs ∧ (0 ≤ i ∧ i < cs.length) ∧ go (vI (cs.getD i.toNat 0) :: st'))) := h
        rw [z3, z1] at h
        obtain ⟨hq, cs, hcs, hi, h9⟩ := chk_of h
        simp only [Bool.and_eq_true, beq_iff_eq] at hq
        obtain ⟨rfl, rfl⟩ := hq
        obtain ⟨n, n1, n2, n3, n4, n5, n6⟩ := str_lt hcs
        have hx : 0 ≤ cs.getD i.toNat 0 ∧ cs.getD i.toNat 0 ≤ 127 := by
          have hl : i.toNat < cs.length := by omega
          rw [List.getD_eq_getElem?_getD, List.getElem?_eq_getElem hl]
          exact n6 _ (List.getElem_mem hl)
        refine ax_baldC hX hi.1 (show in32 (cs.getD i.toNat 0) by unfold in32; omega) (fun G s hC => ?_) hd (hgo _ h9)
        obtain ⟨a, b, c1, c2, c3, c4, c5, c6⟩ := hC.2.1 _ n4
        refine ⟨b, _, _, ?_, c6, hi.2, rfl⟩
        have e1 := cO_neg (by omega) c2
        rw [show -((n + 300 : Nat) : Int) = r by omega] at e1
        exact e1
  · exact h.elim
def astI (t : Nat) : Instr := match t with
  | 0 => .iastore
  | 1 => .bastore
  | 3 => .lastore
  | _ => .aastore
theorem ax_astF {t : Nat} (ht : t = 0 ∨ t = 1 ∨ t = 3 ∨ t = 4) (hX : CxOk ph X y k σ0 Q E) (hd : decode y.2.1 pc = .ok (astI t, 1)) {go : List AV → Sg → Prop} (hgo : ∀ st' σ', Fr d σ σ' → go st' σ' → Ax ph X (pc + 1) ls st' σ') (h : stAst d t go σ st) : Ax ph X pc ls st σ := by
  unfold stAst at h
  split at h
  · rename_i v i q st'
    obtain ⟨hv, hi, hmd, h⟩ := h
    obtain ⟨e, o, f, w⟩ := q
    have hv' : w = gV σ o f := hv
    have hi' : 0 ≤ i ∧ i < gL σ o f := hi
    have hmd' : mdIn d o f = true := hmd
    rcases v with x | x | x | q'
    · rcases ht with rfl | rfl | rfl | rfl
      · obtain ⟨he, h⟩ := chk_of (show chk (e == 0) (go st' (sA σ o f i.toNat x)) from h)
        have he : e = 0 := by simpa using he
        subst he
        exact ax_iast hX hv' hi' hd (hgo _ _ (fr_sA hmd') h)
      · have h : (bif e == 1 then go st' (sA σ o f i.toNat (w8 x)) else chk (e == 2) ((0 ≤ x ∧ x ≤ 1) ∧ go st' (sA σ o f i.toNat x))) := h
        by_cases c1 : e = 1
        · subst c1
          exact ax_bast hX hv' hi' hd (hgo _ _ (fr_sA hmd') h)
        · rw [show (e == 1) = false by simpa using c1] at h
          obtain ⟨he, hx, h9⟩ := chk_of h
          have he : e = 2 := by simpa using he
          subst he
          exact ax_zast hX hv' hi' hx hd (hgo _ _ (fr_sA hmd') h9)
      · exact False.elim h
      · exact False.elim h
    · obtain ⟨he, h⟩ := chk_of (show chk (t == 3 && e == 3) (go st' (sA σ o f i.toNat x)) from h)
      simp only [Bool.and_eq_true, beq_iff_eq] at he
      obtain ⟨rfl, rfl⟩ := he
      exact ax_last hX hv' hi' hd (hgo _ _ (fr_sA hmd') h)
    · obtain ⟨he, h⟩ := chk_of (show chk (t == 4) (bif e == 5 then (0 < x ∧ gK σ x.toNat = 21) ∧ go st' (sA σ o f i.toNat x) else bif e == 7 then (0 < x ∧ gK σ x.toNat = 22) ∧ go st' (sA σ o f i.toNat x)
          else chk (e == 6) ((∃ n cs, (n, cs) ∈ strL ∧ x = -(n : Int)) ∧ go st' (sA σ o f i.toNat x))) from h)
      have he : t = 4 := by simpa using he
      subst he
      by_cases c5 : e = 5
      · subst c5
        obtain ⟨⟨g1, g2⟩, h⟩ : (0 < x ∧ gK σ x.toNat = 21) ∧ go st' (sA σ o f i.toNat x) := h
        exact ax_aast hX (ci := 20) (q := (RX20, TX20, 4)) rfl (Or.inl rfl) rfl hv' hi' g1 g2 hd (hgo _ _ (fr_sA hmd') h)
      · by_cases c7 : e = 7
        · subst c7
          obtain ⟨⟨g1, g2⟩, h⟩ : (0 < x ∧ gK σ x.toNat = 22) ∧ go st' (sA σ o f i.toNat x) := h
          exact ax_aast hX (ci := 21) (q := (RX21, TX21, 7)) rfl (Or.inr rfl) rfl hv' hi' g1 g2 hd (hgo _ _ (fr_sA hmd') h)
        · rw [show (e == 5) = false by simpa using c5, show (e == 7) = false by simpa using c7] at h
          obtain ⟨he, ⟨n, cs, hn, hx9⟩, h9⟩ := chk_of (show chk (e == 6) ((∃ n cs, (n, cs) ∈ strL ∧ x = -(n : Int)) ∧ go st' (sA σ o f i.toNat x)) from h)
          have he : e = 6 := by simpa using he
          subst he
          have hn1 : ∀ q ∈ strL, 1 ≤ q.1 := by decide
          rw [hx9] at h9 ⊢
          exact ax_aastS hX hn (hn1 _ hn) hv' hi' hd (hgo _ _ (fr_sA hmd') h9)
    · exact False.elim h
  · exact h.elim
theorem ax_copyF (hX : CxOk ph X y k σ0 Q E) (hlk : Cond.methodLink y.1.cls idx arraycopyName ∈ lw_all) (hd : decode y.2.1 pc = .ok (.invokestatic idx, 3)) {go : List AV → Sg → Prop} (hgo : ∀ st' σ', Fr d σ σ' → go st' σ' → Ax ph X (pc + 3) ls st' σ') (h : stCopy d k go σ st) : Ax ph X pc ls st σ := by
  unfold stCopy at h
  split at h
  · rename_i n dp e sp q st'
    obtain ⟨hq, ⟨hk, hmd⟩, ⟨hv, hv'⟩, hi, h9⟩ := chk_of h
    obtain ⟨e1, o1, f1, v1⟩ := e
    obtain ⟨e2, o2, f2, v2⟩ := q
    simp only [Bool.and_eq_true, beq_iff_eq, Nat.ble_eq] at hq
    obtain ⟨he, he3, hst⟩ := hq
    have he' : e1 = e2 := he
    subst he'
    obtain ⟨k', rfl⟩ : ∃ k', k = k' + 1 := ⟨k - 1, by omega⟩
    exact ax_copy hX he3 hv hv' hlk q392 q391 q294 hst hi hd (hgo _ _ (fr_sB hmd) h9)
  · exact h.elim
/-- a call -/
theorem ax_call {ins : Instr} {cl : Nat → List AV → Sg → (Option AV → Sg → Prop) → (Int → Sg → Prop) → Prop} {nx : List AV → Sg → Prop} {ex : Int → Sg → Prop} (hX : CxOk ph X y k σ0 Q E) (hh : HndO y) (hd : decode y.2.1 pc = .ok (ins, 3)) (hmi : ∃ n, MiOk a n ∧ ((ins = .invokestatic idx ∧ c = 0 ∧ b = n ∧ MLk y.1.cls idx (mY a).1 ∧ Cond.static (mY a).1 ∈ lw_all ∧ Cond.initialized (mY a).1.cls ∈ lw_all) ∨
      (ins = .invokevirtual idx ∧ ¬ c = 0 ∧ ¬ c = -1 ∧ b = n + 1 ∧ Cond.instanceMethod (mY a).1 ∈ lw_all ∧ ((∃ C, MLk y.1.cls idx (mY a).1 ∧ Cond.selects C (mY a).1 (mY a).1 ∈ lw_all ∧ ClsOf c C) ∨ (a = nOrd ∧ c = 7 ∧ Cond.methodLink y.1.cls idx ⟨"CircuitWarden$Token", "ordinal", "()I"⟩ ∈ lw_all))) ∨
      (ins = .invokespecial idx ∧ c = -1 ∧ b = n + 1 ∧ MLk y.1.cls idx (mY a).1 ∧ Cond.code (mY a).1 (mY a).2.1 (mY a).2.2.1 none ∈ lw_all ∧ Cond.instanceMethod (mY a).1 ∈ lw_all ∧ (mY a).1.name = "<init>")))
    (hcl : ∀ as, (as.map avW).sum ≤ (mY a).2.2.1 → cl a as σ (fun r σ' => nx (r.toList ++ st.drop b) σ') ex → Cn ph (mY a) (k - 1) as σ (fun r σ' => Ax ph X (pc + 3) ls (r.toList ++ st.drop b) σ') (fun x σ' => Hx ph X y pc ls E x σ')) (h : stCall ph k cl nx ex a b c st σ) : Ax ph X pc ls st σ := by
  unfold stCall at h
  obtain ⟨hq, hk1, h9⟩ := chk_of h
  simp only [Bool.and_eq_true, Nat.ble_eq] at hq
  obtain ⟨hb, h8, haw⟩ := hq
  obtain ⟨k', rfl⟩ : ∃ k', k = k' + 1 := ⟨k - 1, by omega⟩
  rw [show k' + 1 - 1 = k' by omega] at hcl
  obtain ⟨n, ⟨hz, h22, hpn, hmh, hpd⟩, hmi⟩ := hmi
  have hsub : ∀ v ∈ (st.take b).reverse, v ∈ st := fun v hv => List.mem_of_mem_take (List.mem_reverse.mp hv)
  have hsubr : ∀ v ∈ st.drop b, v ∈ st := fun v hv => List.mem_of_mem_drop hv
  have hlen : (st.take b).reverse.length = b := by simp; omega
  have hst : ∀ G : Gp, st.map (cV G) = ((st.take b).reverse.map (cV G)).reverse ++ (st.drop b).map (cV G) := fun G => by
    rw [← List.map_reverse, List.reverse_reverse, ← List.map_append, List.take_append_drop]
  rcases hmi with ⟨rfl, rfl, rfl, hlk, hstat, hini⟩ | ⟨rfl, hc0, hc1, rfl, hin, hsel⟩ | ⟨rfl, rfl, rfl, hlk, hco, hin, hnm⟩
  · have h : cl a (st.take b).reverse σ (fun r σ' => nx (r.toList ++ st.drop b) σ') ex := h9
    have hc := hcl _ haw h
    refine ax_callA hX hz h22 hpn haw h8 hsub hsubr hh.1 hd (fun G p l e R s m args below meth c T locs cells slots lsC XS hG hx hown hbc hR hs => ?_) hc
    exact arr_S XS hG hx hown hlk hz hstat hini hmh hpd (g := F0 m pc lsC (st.map (cV G))) rfl (by rw [List.length_map]; exact hlen) (hst G) (by rw [hbc]; exact hd)
  · have z0 : (c == 0) = false := by simpa using hc0
    rw [z0] at h9
    obtain ⟨v, t, hvt⟩ : ∃ v t, (st.take (n + 1)).reverse = v :: t := by
      cases hh : (st.take (n + 1)).reverse with
      | nil => rw [hh] at hlen; simp at hlen
      | cons v t => exact ⟨v, t, rfl⟩
    have h : stRec ph σ c v (cl a (st.take (n + 1)).reverse σ (fun r σ' => nx (r.toList ++ st.drop (n + 1)) σ') ex) := by
      rw [hvt] at h9 ⊢
      exact h9
    have ht : t.length = n := by rw [hvt] at hlen; simpa using hlen
    unfold stRec at h
    split at h
    · rename_i r
      have arrive : (∀ (G : Gp) (H : Heap) (s : State), Rep G ph σ H → Glob G s → ∃ (bb : Nat) (cell : Cell), cO G r = .ref bb ∧ H[bb]? = some cell ∧ cell.vm.isStatics = false ∧ ∀ C, ClsOf c C ∨ (c = 7 ∧ C = "CircuitWarden$Token") → s.vm.findClass C = some cell.cls) →
          cl a (st.take (n + 1)).reverse σ (fun r σ' => nx (r.toList ++ st.drop (n + 1)) σ') ex → Ax ph X pc ls st σ := by
        intro hrec h
        have hc := hcl _ haw h
        refine ax_callA hX hz h22 hpn haw h8 hsub hsubr hh.1 hd (fun G p l e R s m args below meth cc T locs cells slots lsC XS hG hx hown hbc hR hs => ?_) hc
        obtain ⟨bb, cell, e1, e2, e3, e4⟩ := hrec G T.heap s hR hG
        have hst' : st.map (cV G) = (t.map (cV G)).reverse ++ .ref bb :: (st.drop (n + 1)).map (cV G) := by
          rw [hst G, hvt, List.map_cons, List.reverse_cons, List.append_assoc]
          show _ ++ ([cO G r] ++ _) = _
          rw [e1]; rfl
        have has : ((st.take (n + 1)).reverse.map (cV G)).toArray = (.ref bb :: t.map (cV G)).toArray := by
          rw [hvt, List.map_cons]
          show (cO G r :: _).toArray = _
          rw [e1]
        rw [has]
        rcases hsel with ⟨C, hlk, hsel, hcls⟩ | ⟨rfl, rfl, hlk⟩
        · exact arr_V XS hG hx hown hlk hz hin hsel hmh hpd e2 e3 (e4 C (Or.inl hcls)) (g := F0 m pc lsC (st.map (cV G))) rfl (by rw [List.length_map]; exact ht) hst' (by rw [hbc]; exact hd)
        · exact arr_U XS hG hx hown hlk hz hin q1538 q1540 rfl hmh hpd e2 e3 (e4 _ (Or.inr ⟨rfl, rfl⟩)) (g := F0 m pc lsC (st.map (cV G))) rfl (by rw [List.length_map]; exact ht) hst' (by rw [hbc]; exact hd)
      by_cases c7 : c = 7
      · subst c7
        obtain ⟨⟨r1, r2⟩, h⟩ : (-52 ≤ r ∧ r ≤ -1) ∧ cl a (st.take (n + 1)).reverse σ (fun r σ' => nx (r.toList ++ st.drop (n + 1)) σ') ex := h
        refine arrive (fun G H s hR hG => ?_) h
        obtain ⟨a, b, d1, d2, d3, ⟨cell, f1, f2, f3, f4⟩, d5, d6⟩ := hG.2.2.2.1 (-r - 1).toNat (by omega)
        have e1 := cO_neg (by omega) d1
        rw [show -(((-r - 1).toNat + 1 : Nat) : Int) = r by omega] at e1
        refine ⟨a, cell, e1, old_at hR f4 f1, f2, fun C hC => ?_⟩
        rcases hC with hC | ⟨-, rfl⟩
        · rcases hC with ⟨hC, -⟩ | ⟨ci, q, hci, hcl, h6, -⟩
          · omega
          · exact absurd (show ci = 6 by omega) h6
        · exact f3
      · have z7 : (c == 7) = false := by simpa using c7
        by_cases c30 : c = 30
        · subst c30
          obtain ⟨r1, h⟩ : (strOf r).isSome = true ∧ cl a (st.take (n + 1)).reverse σ (fun r σ' => nx (r.toList ++ st.drop (n + 1)) σ') ex := h
          obtain ⟨cs, hcs⟩ := Option.isSome_iff_exists.mp r1
          obtain ⟨m, n1, n2, rfl, n4, -, -⟩ := str_lt hcs
          refine arrive (fun G H s hR hG => ?_) h
          obtain ⟨a, b, d1, d2, ⟨cell, f1, f2, f3, f4⟩, d4⟩ := hG.2.2.2.2.1 _ n4
          refine ⟨a, cell, cO_neg n1 d1, old_at hR f4 f1, f2, fun C hC => ?_⟩
          rcases hC with hC | ⟨hC, -⟩
          · rcases hC with ⟨-, rfl⟩ | ⟨ci, q, hci, hcl, h6, -⟩
            · exact f3
            · have := cl_lt hcl; omega
          · omega
        · have z30 : (c == 30) = false := by simpa using c30
          have obj : ∀ ci : Nat, c = (ci : Int) + 1 → 0 < r → (∀ (G : Gp) (H : Heap), Rep G ph σ H → gK σ r.toNat = ci + 1) → cl a (st.take (n + 1)).reverse σ (fun r σ' => nx (r.toList ++ st.drop (n + 1)) σ') ex → Ax ph X pc ls st σ := by
            intro ci hci hr0 hK h
            by_cases hlt : ci < 23
            · obtain ⟨q, hq⟩ : ∃ q, clL[ci]? = some q := by
                have : ci < clL.length := by show ci < 23; exact hlt
                exact ⟨clL[ci], List.getElem?_eq_getElem this⟩
              refine arrive (fun G H s hR hG => ?_) h
              have hk := hK G H hR
              obtain ⟨⟨cell, q1, q2, q3, q4⟩, -⟩ := hR.2.2.1 r.toNat ci q (by omega) (rep_lt hR hk (by omega)) hk hq
              refine ⟨G.1 + r.toNat - 1, cell, by unfold cO; rw [if_neg (by omega), if_pos hr0], q1, by rw [q3]; rfl, fun C hC => ?_⟩
              rcases hC with hC | ⟨hC, -⟩
              · rcases hC with ⟨hC, -⟩ | ⟨ci', q', hci', hcl', h6, rfl⟩
                · omega
                · have : ci' = ci := by omega
                  subst this
                  rw [hq] at hcl'; cases hcl'
                  rw [q2]; exact (hG.2.1 ci' q hq).2.1
              · omega
            · rcases hsel with ⟨C, hlk, hsel, hcls⟩ | ⟨rfl, rfl, hlk⟩
              · rcases hcls with ⟨hC, -⟩ | ⟨ci', q', hci', hcl', h6, rfl⟩
                · omega
                · have := cl_lt hcl'; omega
              · omega
          rw [z7, z30] at h
          by_cases c21 : c = 21
          · subst c21
            obtain ⟨⟨r0, rk⟩, h⟩ : (0 < r ∧ gK σ r.toNat = 21) ∧ cl a (st.take (n + 1)).reverse σ (fun r σ' => nx (r.toList ++ st.drop (n + 1)) σ') ex := h
            exact obj 20 rfl r0 (fun _ _ _ => rk) h
          · have z21 : (c == 21) = false := by simpa using c21
            have z1 : (c == -1) = false := by simpa using hc1
            rw [z21, z1] at h
            obtain ⟨hq, h⟩ := chk_of h
            simp only [Bool.and_eq_true, decide_eq_true_eq] at hq
            obtain ⟨hr0, hkl⟩ := hq
            rcases hsel with ⟨C, hlk, hsel, hcls⟩ | ⟨rfl, rfl, hlk⟩
            · rcases hcls with ⟨hC, -⟩ | ⟨ci', q', hci', hcl', h6, rfl⟩
              · omega
              · refine obj ci' hci' hr0 (fun G H hR => kls_eq hR ?_ (by omega)) h
                rw [show c.toNat = ci' + 1 by omega] at hkl
                exact hkl
            · omega
    · exact h.elim
  · have h : (match (st.take (n + 1)).reverse with
      | v :: _ => stRec ph σ (-1) v (cl a (st.take (n + 1)).reverse σ (fun r σ' => nx (r.toList ++ st.drop (n + 1)) σ') ex)
      | _ => False) := h9
    obtain ⟨v, t, hvt⟩ : ∃ v t, (st.take (n + 1)).reverse = v :: t := by
      cases hh : (st.take (n + 1)).reverse with
      | nil => rw [hh] at hlen; simp at hlen
      | cons v t => exact ⟨v, t, rfl⟩
    have h : stRec ph σ (-1) v (cl a (st.take (n + 1)).reverse σ (fun r σ' => nx (r.toList ++ st.drop (n + 1)) σ') ex) := by
      rw [hvt] at h ⊢
      exact h
    have ht : t.length = n := by rw [hvt] at hlen; simpa using hlen
    unfold stRec at h
    split at h
    · rename_i r
      obtain ⟨hr0, h⟩ : 0 < r ∧ cl a (st.take (n + 1)).reverse σ (fun r σ' => nx (r.toList ++ st.drop (n + 1)) σ') ex := h
      have hc := hcl _ haw h
      refine ax_callA hX hz h22 hpn haw h8 hsub hsubr hh.1 hd (fun G p l e R s m args below meth cc T locs cells slots lsC XS hG hx hown hbc hR hs => ?_) hc
      have e1 : cO G r = .ref (G.1 + r.toNat - 1) := by unfold cO; rw [if_neg (by omega), if_pos hr0]
      have hst' : st.map (cV G) = (t.map (cV G)).reverse ++ .ref (G.1 + r.toNat - 1) :: (st.drop (n + 1)).map (cV G) := by
        rw [hst G, hvt, List.map_cons, List.reverse_cons, List.append_assoc]
        show _ ++ ([cO G r] ++ _) = _
        rw [e1]; rfl
      have has : ((st.take (n + 1)).reverse.map (cV G)).toArray = (.ref (G.1 + r.toNat - 1) :: t.map (cV G)).toArray := by
        rw [hvt, List.map_cons]
        show (cO G r :: _).toArray = _
        rw [e1]
      rw [has]
      exact arr_I XS hG hx hown hlk hco hnm hin hmh hpd (g := F0 m pc lsC (st.map (cV G))) rfl (by rw [List.length_map]; exact ht) hst' (by rw [hbc]; exact hd)
    · exact h.elim
end AF
