/-! every growth that the walk's condition speaks of -/
set_option maxRecDepth 100000
theorem grow_ok : GrowOk := by
  intro ph X y k σ0 Q E d pc idx idx2 a f c ls st σ hX hh hd hd2 ha hcs hfp hLo hfin h
  refine ax_fine (fun hF => ?_)
  have hf0 : f ≠ 0 := by
    obtain ⟨ci, q, -, -, -, hb1, -⟩ := hfp
    omega
  rcases hcs with ⟨h1, -⟩ | ⟨h1, -⟩ | ⟨-, hlk, hst, hini, hmi⟩
  · omega
  · omega
  unfold stGrow at h
  split at h
  · rename_i n q r st'
    obtain ⟨hq, ⟨hk, ⟨hr0, hK⟩, ho, hmd, hv, hn0⟩, h9⟩ := chk_of h
    clear h
    have h := h9
    clear h9
    obtain ⟨e1, o1, f1, v1⟩ := q
    simp only [Bool.and_eq_true, beq_iff_eq, Nat.ble_eq] at hq
    obtain ⟨hf1, hgf, he1, hst7⟩ := hq
    have hf1 : f1 = f := hf1
    have ho : o1 = r.toNat := ho
    have hv : v1 = gV σ o1 f := hv
    subst hf1; subst ho
    have hs2 : ((vO r :: st').map avW).sum ≤ 8 := by
      show 1 + (st'.map avW).sum ≤ 8
      omega
    by_cases c0 : a = 2000
    · subst c0
      have he : e1 = 0 := he1
      subst he
      obtain ⟨hg, h⟩ : (gL σ r.toNat f1 < n.toNat → grOk σ r.toNat f1 (2 * n.toNat) 0) ∧ Ax ph X (pc + 6) ls st' (grw σ r.toNat f1 n.toNat) := h
      refine grow_call (g := nGrown) (b := 2) hX hh hd hlk hst hini hmi (by simp) hs2 (Nat.le_of_ble_eq_true rfl) (by omega) ?_
      refine cn_mono (cn_grown (o := r.toNat) (f := f1) hLo (by omega) hv (fun c => hf0 c.2) hn0 (fun c => ⟨by have := (hg c).2.2.1; omega, (hg c).2.1⟩)) (fun res σ' _ _ hq => ?_) (fun _ _ _ q => q)
      rcases hq with ⟨c, rfl, rfl⟩ | ⟨c, rfl, rfl⟩
      · unfold grw at h
        rw [grx_id c] at h
        exact put_same (e := 0) hX hfp (by omega) hfin hr0 hK hv hd2 h
      · obtain ⟨g1, g2, g3, g4⟩ := hg c
        obtain ⟨b1, b2, b3, b4, b5, b6, b9, b7, b8⟩ := mrS_parts (σ := σ) (o := r.toNat) (f := f1) (m := 2 * n.toNat) g2
        exact grow_new (c := n.toNat ≤ gL σ r.toNat f1) (cc := 0) (t := 0) (cp := true) (e := 0) (by omega) hF hf0 b1 b2 b3 b4 b5 b6 b9 b7 b8 (by omega) g4 hLo.1 hX hfp (by omega) hfin hr0 hK hd2 h
    by_cases c1 : a = 2001
    · subst c1
      have he : e1 = 0 := he1
      subst he
      obtain ⟨hg, h⟩ : (¬ n.toNat < gL σ r.toNat f1 → grOk σ r.toNat f1 (2 * gL σ r.toNat f1) 0) ∧ Ax ph X (pc + 6) ls st' (grr σ r.toNat f1 n.toNat) := h
      refine grow_call (g := nRoom) (b := 2) hX hh hd hlk hst hini hmi (by simp) hs2 (Nat.le_of_ble_eq_true rfl) (by omega) ?_
      refine cn_mono (cn_room (o := r.toNat) (f := f1) hLo (by omega) hv (fun c => hf0 c.2) hn0 (fun c => ⟨by have := (hg c).2.2.1; omega, (hg c).2.1⟩)) (fun res σ' _ _ hq => ?_) (fun _ _ _ q => q)
      rcases hq with ⟨c, rfl, rfl⟩ | ⟨c, rfl, rfl⟩
      · unfold grr at h
        rw [grx_id c] at h
        exact put_same (e := 0) hX hfp (by omega) hfin hr0 hK hv hd2 h
      · obtain ⟨g1, g2, g3, g4⟩ := hg c
        obtain ⟨b1, b2, b3, b4, b5, b6, b9, b7, b8⟩ := mrS_parts (σ := σ) (o := r.toNat) (f := f1) (m := 2 * gL σ r.toNat f1) g2
        exact grow_new (c := n.toNat < gL σ r.toNat f1) (cc := 0) (t := 0) (cp := true) (e := 0) c hF hf0 b1 b2 b3 b4 b5 b6 b9 b7 b8 (by omega) g4 hLo.1 hX hfp (by omega) hfin hr0 hK hd2 h
    by_cases c2 : a = 2002
    · subst c2
      have he : e1 = 0 := he1
      subst he
      obtain ⟨hg, h⟩ : (gL σ r.toNat f1 < n.toNat → (8 ≤ gL σ r.toNat f1 ∧ grOk σ r.toNat f1 (dbl 20 (gL σ r.toNat f1) n.toNat) (dbl 20 (gL σ r.toNat f1) n.toNat)) ∧ n.toNat ≤ dbl 20 (gL σ r.toNat f1) n.toNat) ∧ Ax ph X (pc + 6) ls st' (grd σ r.toNat f1 n.toNat) := h
      refine grow_call (g := nWide) (b := 2) hX hh hd hlk hst hini hmi (by simp) hs2 (Nat.le_of_ble_eq_true rfl) (by omega) ?_
      refine cn_mono (cn_wide (o := r.toNat) (f := f1) hLo (by omega) hv (fun c => hf0 c.2) hn0 (fun c => ⟨(hg c).1.1, by have := (hg c).1.2.2.2.1; omega, (hg c).2⟩)) (fun res σ' _ _ hq => ?_) (fun _ _ _ q => q)
      rcases hq with ⟨c, rfl, rfl⟩ | ⟨c, cc, t, rfl, hw, ht, hcc⟩
      · unfold grd at h
        rw [grx_id c] at h
        exact put_same (e := 0) hX hfp (by omega) hfin hr0 hK hv hd2 h
      · obtain ⟨⟨g0, g1, g2, g3, g4⟩, g5⟩ := hg c
        obtain ⟨b1, b2, b3, b4, b5, b6, b9, b7, b8⟩ := hw
        have e1 : dbc 20 (gL σ r.toNat f1) n.toNat - 1 = cc := by omega
        have e2 : dbl 20 (gL σ r.toNat f1) n.toNat - 2 * gL σ r.toNat f1 = t := by omega
        unfold grd at h
        rw [e1, e2] at h
        refine grow_new (c := n.toNat ≤ gL σ r.toNat f1) (cc := cc) (t := t) (cp := true) (e := 0) (by omega) hF hf0 b1 b2 b3 b4 b5 b6 b9 b7 b8 (by omega) ?_ hLo.1 hX hfp (by omega) hfin hr0 hK hd2 h
        by_cases c9 : r.toNat < 222
        · rw [if_pos c9] at g4 ⊢; exact g4
        · rw [if_neg c9] at g4 ⊢; omega
    · have z0 : (a == 2000) = false := by simpa using c0
      have z1 : (a == 2001) = false := by simpa using c1
      have z2 : (a == 2002) = false := by simpa using c2
      rw [z0, z1, z2] at h
      obtain ⟨h4, hg, h9⟩ := chk_of h
      clear h
      have h := h9
      clear h9
      have h4 : a = 2004 := by simpa using h4
      subst h4
      have he : e1 = 3 := he1
      subst he
      refine grow_call (g := nSwide) (b := 2) hX hh hd hlk hst hini hmi (by simp) hs2 (Nat.le_of_ble_eq_true rfl) (by omega) ?_
      refine cn_mono (cn_swide (o := r.toNat) (f := f1) hLo hv hn0 (fun c => ⟨by have := (hg c).2.2.1; omega, (hg c).2.1⟩)) (fun res σ' _ _ hq => ?_) (fun _ _ _ q => q)
      rcases hq with ⟨c, rfl, rfl⟩ | ⟨c, rfl, rfl⟩
      · unfold grz at h
        rw [grx_id c] at h
        exact put_same (e := 3) hX hfp (by omega) hfin hr0 hK hv hd2 h
      · obtain ⟨g1, g2, g3, g4⟩ := hg c
        refine grow_new (c := n.toNat ≤ gL σ r.toNat f1) (cc := 0) (t := 0) (cp := false) (e := 3) (by omega) hF hf0 rfl rfl rfl ?_ rfl rfl ?_ ⟨?_, ?_, ?_⟩ (fun o' f' hn => ⟨?_, ?_, rfl⟩) (by omega) g4 hLo.1 hX hfp (by omega) hfin hr0 hK hd2 h
        · show gC σ + (if 2 * n.toNat < 16 then 1 else 0) = _
          rw [if_neg (by omega)]; rfl
        · funext x
          show (if x = gN σ then 100 + 3 else gK σ x) = _
          by_cases c : x = gN σ
          · rw [if_pos c, if_pos (by omega)]
          · rw [if_neg c, if_neg (by omega)]
        · show (if gN σ = gN σ ∧ 0 = 0 then gN σ else _) = _
          rw [if_pos ⟨rfl, rfl⟩]; rfl
        · show (if gN σ = gN σ ∧ 0 = 0 then 2 * n.toNat else _) = _
          rw [if_pos ⟨rfl, rfl⟩]
        · show gA σ (gN σ) 0 = _
          funext j
          rw [if_neg (fun q => by cases q.1)]
          exact fine_new hF (Nat.le_refl _) 0 j
        · show (if o' = gN σ ∧ f' = 0 then gN σ else _) = _
          rw [if_neg (by omega)]
        · show (if o' = gN σ ∧ f' = 0 then 2 * n.toNat else _) = _
          rw [if_neg (by omega)]
  · rename_i q r st'
    obtain ⟨hq, ⟨hk, ⟨hr0, hK⟩, ho, hmd, hv⟩, hg, h9⟩ := chk_of h
    clear h
    have h := h9
    clear h9
    obtain ⟨e1, o1, f1, v1⟩ := q
    simp only [Bool.and_eq_true, beq_iff_eq, Nat.ble_eq] at hq
    obtain ⟨hA, hf1, hgf, he1, hst7⟩ := hq
    have hf1 : f1 = f := hf1
    have ho : o1 = r.toNat := ho
    have hv : v1 = gV σ o1 f := hv
    have he : e1 = 0 := he1
    subst hf1; subst ho; subst hA; subst he
    have hs2 : ((vO r :: st').map avW).sum ≤ 8 := by
      show 1 + (st'.map avW).sum ≤ 8
      omega
    obtain ⟨g1, g2, g3, g4⟩ := hg
    refine grow_call (g := nMore) (b := 1) hX hh hd hlk hst hini hmi (by simp) hs2 (Nat.le_of_ble_eq_true rfl) (by omega) ?_
    refine cn_mono (cn_more (o := r.toNat) (f := f1) hLo (by omega) hv (fun c => hf0 c.2) ⟨by omega, g2⟩) (fun res σ' _ _ hq => ?_) (fun _ _ _ q => q)
    obtain ⟨rfl, rfl⟩ := hq
    obtain ⟨b1, b2, b3, b4, b5, b6, b9, b7, b8⟩ := mrS_parts (σ := σ) (o := r.toNat) (f := f1) (m := 2 * gL σ r.toNat f1) g2
    exact grow_new (c := False) (cc := 0) (t := 0) (cp := true) (e := 0) (fun c => c) hF hf0 b1 b2 b3 b4 b5 b6 b9 b7 b8 (by omega) g4 hLo.1 hX hfp (by omega) hfin hr0 hK hd2 h
  · exact h.elim
