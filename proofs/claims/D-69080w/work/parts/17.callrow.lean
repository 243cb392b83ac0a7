/-! the row of a call -/
set_option maxRecDepth 100000
theorem stk_weaken {tb : Tables} {e : Env} {f : Frame} {below : List Frame} {a b : State} (h : Steps tb e (f :: below) a b) : Steps tb e below a b := Steps.weaken (mid := [f]) h
theorem plain_at {s T : State} {vm₁ : Vm} {z : MethodName} {mk : MethodId} {meth : Method} (hn : s.methodNamed? z = some mk) (hp : plainFor z = true) (hW : s.WarmedH (T.setVm vm₁).vm) (hm : s.vm.method? mk = some meth) : (T.setVm vm₁).plainMethod mk := by
  have h1 : (s.setVm (T.setVm vm₁).vm).plainMethod mk := State.plainMethod.of_named hp ((State.methodNamed?_setVm hW.alike z).trans hn) (meth := meth) (by show (T.setVm vm₁).vm.method? mk = some meth; rw [hW.alike.method?]; exact hm)
  exact h1
theorem covers_find {c : Code} {hs : List (Nat × Nat × Nat × Nat)} (h : c.exceptionTable.toList.map (fun h => (h.startPc, h.endPc, h.handlerPc, h.catchType)) = hs) {pc : Nat} (hf : hs.find? (fun h => Nat.ble h.1 pc && Nat.blt pc h.2.1) = none) : ∀ x ∈ c.exceptionTable.toList, covers x pc = false := by
  intro x hx
  have h1 := List.find?_eq_none.mp hf (x.startPc, x.endPc, x.handlerPc, x.catchType) (by rw [← h]; exact List.mem_map_of_mem hx)
  simp only [Bool.and_eq_true, Nat.ble_eq, Nat.blt_eq, not_and] at h1
  simp only [covers, Bool.and_eq_false_iff, decide_eq_false_iff_not]
  by_cases c1 : x.startPc ≤ pc
  · exact Or.inr (h1 c1)
  · exact Or.inl c1
section RowsC
variable {ph k : Nat} {X : Cx} {y z : MI} {σ0 σ : Sg} {Q : Option AV → Sg → Prop} {E : Int → Sg → Prop} {pc len : Nat} {ls : List (Option AV)} {st as rst : List AV} {ins : Instr}
theorem ax_callA (hX : CxOk ph X y (k + 1) σ0 Q E) (hz : MW z) (h22 : z.2.2.1 ≤ 22) (hpn : plainFor z.1 = true) (haw : (as.map avW).sum ≤ z.2.2.1) (hrw : (rst.map avW).sum ≤ 8) (hsub : ∀ v ∈ as, v ∈ st) (hsubr : ∀ v ∈ rst, v ∈ st) (hone : y.2.2.2.2.length ≤ 1) (hd : decode y.2.1 pc = .ok (ins, len))
    (arrive : ∀ (G : Gp) (p : Program) (l : Launch) (e : Env) (R : Room) (s : State) (m : MethodId) (args : Array Value) (below : List Frame) (meth : Method) (c : Code) (T : State) (locs : List Loc) (cells slots : Nat) (lsC : Array Slot), Stand p l e R s m args below meth c T locs cells slots → Glob G s → p.tables.exec = Jvm.exec → s.vm.findClass y.1.cls = some m.cls → c.code = y.2.1 → Rep G ph σ T.heap → (∀ v ∈ st, okV σ v) →
      Arr p l e R s m args below meth c T locs cells slots (F0 m pc lsC (st.map (cV G))) z.1 (as.map (cV G)).toArray (rst.map (cV G)))
    (h : Cn ph z k as σ (fun r σ' => Ax ph X (pc + len) ls (r.toList ++ rst) σ') (fun a σ' => Hx ph X y pc ls E a σ')) : Ax ph X pc ls st σ := by
  obtain ⟨G, p, l, e, R, s, m, args, below, meth, c, σ0', Q0, E0⟩ := X
  obtain ⟨hx, hbc, hml, hret, hlocks, hown, hnm, ⟨hexc, htr, hold⟩, hG, hk1, hk2, hc1, hc2, rfl, rfl, rfl⟩ := hX
  intro H locs lsC hR hL hl ho hs hn hsl hm T hT XS
  obtain ⟨mk, vm₁, hnamed, X₁, hstep⟩ := arrive G p l e R s m args below meth c T locs _ _ lsC XS hG hx hown hbc (by rw [hT]; exact hR) hs
  obtain ⟨mk', methk, ck, hn', hmk, hck, hcode, hmax, hrt, hlk, hex, hsig⟩ := mw_spec hG hz
  cases hnamed.symm.trans hn'
  have hW1 := X₁.warmed
  have hmk1 : (T.setVm vm₁).vm.method? mk = some methk := by rw [hW1.alike.method?]; exact hmk
  obtain ⟨r1, r2, r3, r4, r5⟩ := rep_room hR
  have hcat : ((rst.map (cV G)).map fun v => v.category).sum = (rst.map avW).sum := cat_sum G rst
  obtain ⟨Y, henter⟩ := X₁.into (g := F0 m pc lsC (rst.map (cV G))) rfl hl.1 (by rw [hbc]; exact hd) (as.map (cV G)).toArray (R' := { frames := R.frames - 1, cells := R.cells - (gN σ - gN σ0'), slots := R.slots - (gS σ - gS σ0'), locals := R.locals - 41 }) hmk1 hck hlk (plain_at hnamed hpn hW1 hmk)
    (by show R.frames - 1 + 1 ≤ R.frames; omega)
    (by show 2 * 0 + ((rst.map (cV G)).map fun v => v.category).sum + (ck.maxLocals + 11) + (R.locals - 41) ≤ R.locals; rw [hcat, hmax]; omega)
    (by show gN σ - gN σ0' + (R.cells - (gN σ - gN σ0')) ≤ R.cells; omega)
    (by show gS σ - gS σ0' + (R.slots - (gS σ - gS σ0')) ≤ R.slots; omega)
  have hoka : ∀ v ∈ as, okV σ v := fun v hv => hs v (hsub v hv)
  have hokr : ∀ v ∈ rst, okV σ v := fun v hv => hs v (hsubr v hv)
  have kk := h (G, p, l, e, { frames := R.frames - 1, cells := R.cells - (gN σ - gN σ0'), slots := R.slots - (gS σ - gS σ0'), locals := R.locals - 41 }, (T.setVm vm₁).calling (F0 m pc lsC (rst.map (cV G))) mk (as.map (cV G)).toArray, mk, (as.map (cV G)).toArray, .java (F0 m pc lsC (rst.map (cV G))) :: below, methk, ck, σ, _, _)
    ⟨hx, hcode, hmax, hrt, hlk, findClass_of_methodNamed (show ((T.setVm vm₁).calling (F0 m pc lsC (rst.map (cV G))) mk (as.map (cV G)).toArray).methodNamed? z.1 = some mk from X₁.named hnamed), (name_of_methodNamed hnamed hmk).1, ⟨hex, htr, (fun q hq => by show T.heap[q]? = _; rw [hT]; exact hR.2.1.1 q hq), fun q cq hq h => hR.2.1.2 q cq hq (by rw [← hT]; exact h)⟩, glob_warm hG hW1, by show k ≤ R.frames - 1; omega, by show 41 * k ≤ R.locals - 41; omega, by show 773291 ≤ gN σ + (R.cells - (gN σ - gN σ0')); omega, by show 6781611 ≤ gS σ + (R.slots - (gS σ - gS σ0')); omega, rfl, rfl, rfl⟩
  have kw := kk T.heap [] (entryFrame mk (as.map (cV G)).toArray z.2.2.1).locals (by rw [hT]; exact hR) (fun q hq => by cases hq) (by rw [hmax]; exact lsE_has G (by rw [sl_len]; exact haw) mk) (lsE_ok hoka) (fun v hv => by cases hv) (Nat.le_refl _) (Nat.le_refl _) (fun v hv => hv)
  obtain ⟨t, hsteps, hrun, hend⟩ := kw (((T.setVm vm₁).setTop (F0 m pc lsC (rst.map (cV G)))).pushFrame (.java (entryFrame mk (as.map (cV G)).toArray ck.maxLocals))) rfl (by rw [Nat.sub_self, Nat.sub_self]; exact Y)
  have hentry : F0 mk 0 (entryFrame mk (as.map (cV G)).toArray z.2.2.1).locals (([] : List AV).map (cV G)) = entryFrame mk (as.map (cV G)).toArray ck.maxLocals := by rw [hmax]; rfl
  rw [hentry] at hsteps
  rcases hend with ⟨r, σ', L, hq, hrok, hR', hn1, hs1, hok1, hended, hWt, hsame, hLb⟩ | ⟨a, σ', L, hq, ha0, hra, ⟨cell, hcell, hcv, hcc⟩, hR', hn1, hs1, hok1, hended, hWt, hsame, hLb⟩
  · obtain ⟨T', X', -, -, ht⟩ := X₁.outOf (g := F0 m pc lsC (rst.map (cV G))) rfl (by rw [hbc]; exact hd) hended hWt hsame
    have hheap : t.heap = T'.heap := by rw [ht]; exact State.heap_setTop _ _
    rw [hheap] at hR'
    have kq := hq T'.heap (locs ++ L) lsC hR' (fun q hq => by
      rcases List.mem_append.mp hq with c | c
      · exact hL q c
      · exact hLb q c) hl (fun v hv => hok1 v (ho v hv)) (fun v hv => by
      rcases List.mem_append.mp hv with c | c
      · cases r with
        | none => cases c
        | some w => rw [List.mem_singleton.mp c]; exact hrok w rfl
      · exact hok1 v (hokr v c)) (Nat.le_trans hn hn1) (Nat.le_trans hsl hs1) (fun v hv => hok1 v (hm v hv))
    obtain ⟨t2, st2, q2⟩ := kq T' rfl (by
      rw [show gN σ' - gN σ0' = gN σ - gN σ0' + (gN σ' - gN σ) by omega, show gS σ' - gS σ0' = gS σ - gS σ0' + (gS σ' - gS σ) by omega]
      exact X')
    refine ⟨t2, hstep t2 (fun acts => ?_), q2⟩
    rw [henter acts]
    refine (stk_weaken hsteps).trans ?_
    rw [ht]
    have e1 : (r.toList ++ rst).map (cV G) = (r.map (cV G)).toList ++ rst.map (cV G) := by
      rw [List.map_append]
      cases r <;> rfl
    rw [e1] at st2
    exact st2
  · obtain ⟨T', X', -, -, ht⟩ := X₁.outOfThrown (g := F0 m pc lsC (rst.map (cV G))) rfl hended hWt hsame
    have hheap : t.heap = T'.heap := by rw [ht]; exact Stand.throwing_heap _ _ _
    rw [hheap] at hR' hcell
    have hsum1 : gN σ' - gN σ0' = gN σ - gN σ0' + (gN σ' - gN σ) := by omega
    have hsum2 : gS σ' - gS σ0' = gS σ - gS σ0' + (gS σ' - gS σ) := by omega
    have hLL : ∀ q ∈ locs ++ L, G.1 ≤ q.base := fun q hq => by
      rcases List.mem_append.mp hq with c | c
      · exact hL q c
      · exact hLb q c
    unfold Hx at hq
    cases hf : y.2.2.2.2.find? (fun h => Nat.ble h.1 pc && Nat.blt pc h.2.1) with
    | none =>
      rw [hf] at hq
      obtain ⟨l1, l2, l3, l4, l5⟩ := X'.leaveThrown (G.1 + a.toNat - 1) (g := F0 m pc lsC (rst.map (cV G))) rfl rfl rfl (covers_find hexc hf) hlocks
      refine ⟨_, hstep _ (fun acts => ?_), l2, Or.inr ⟨a, σ', locs ++ L, hq, ha0, hra, ⟨cell, hcell, hcv, hcc⟩, hR', Nat.le_trans hn hn1, Nat.le_trans hsl hs1, fun v hv => hok1 v (hm v hv), l3, l4, ?_, hLL⟩⟩
      · rw [henter acts]
        refine (stk_weaken hsteps).trans ?_
        rw [ht]; exact l1
      · rw [hsum1, hsum2]; exact l5
    | some hh =>
      rw [hf] at hq
      obtain ⟨hlk1, hct0, hax⟩ := hq
      have hmem := List.mem_of_find?_eq_some hf
      have hhs : y.2.2.2.2 = [hh] := by
        cases hy : y.2.2.2.2 with
        | nil => rw [hy] at hmem; cases hmem
        | cons h0 t0 =>
          rw [hy] at hone hmem
          cases t0 with
          | nil => rw [List.mem_singleton.mp hmem]
          | cons => simp at hone
      rw [hhs] at hexc
      obtain ⟨xe, hxe⟩ : ∃ xe, c.exceptionTable.toList = [xe] := by
        cases hc : c.exceptionTable.toList with
        | nil => rw [hc] at hexc; cases hexc
        | cons x0 t0 =>
          cases t0 with
          | nil => exact ⟨x0, rfl⟩
          | cons => rw [hc] at hexc; simp at hexc
      rw [hxe] at hexc
      have hxx : (xe.startPc, xe.endPc, xe.handlerPc, xe.catchType) = hh := by simpa using hexc
      have hcov := List.find?_some hf
      subst hxx
      have hcov2 : covers xe pc = true := by
        simp only [Bool.and_eq_true, Nat.ble_eq, Nat.blt_eq] at hcov
        simp [covers, hcov.1, hcov.2]
      have hKn := hG.2.1 22 _ rfl
      obtain ⟨vm', X2, hst2⟩ := caught_cold X' hown (G.1 + a.toNat - 1) (g := F0 m pc lsC (rst.map (cV G))) rfl hxe hcov2 hct0 (glob_all hG args _ hlk1) hcell hcv (by rw [hcc]; exact hKn.2.1)
      have kq := hax T'.heap (locs ++ L) lsC hR' hLL hl (fun v hv => hok1 v (ho v hv)) (fun v hv => by rw [List.mem_singleton.mp hv]; exact hra) (Nat.le_trans hn hn1) (Nat.le_trans hsl hs1) (fun v hv => hok1 v (hm v hv))
      obtain ⟨t2, st2, q2⟩ := kq (T'.setVm vm') rfl (by rw [hsum1, hsum2]; exact X2)
      refine ⟨t2, hstep t2 (fun acts => ?_), q2⟩
      rw [henter acts]
      refine (stk_weaken hsteps).trans ?_
      rw [ht]
      refine hst2 t2 ?_
      have e1 : [vO a].map (cV G) = [Value.ref (G.1 + a.toNat - 1)] := by
        show [cO G a] = _
        unfold cO
        rw [if_neg (by omega), if_pos ha0]
      rw [e1] at st2
      exact st2
end RowsC
