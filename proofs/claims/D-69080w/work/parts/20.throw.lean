/-! an exception is made and thrown -/
set_option maxRecDepth 100000
/-- a walk begun anew where it stands -/
theorem stand_anew {p : Program} {l : Launch} {e : Env} {R : Room} {s : State} {m : MethodId} {args : Array Value} {below : List Frame} {meth : Method} {c : Code} {T : State} {locs : List Loc} {cells slots : Nat} (X : Stand p l e R s m args below meth c T locs cells slots) (hc : cells ≤ R.cells) (hs : slots ≤ R.slots) :
    Stand p l e { frames := R.frames, cells := R.cells - cells, slots := R.slots - slots, locals := R.locals } (T.setFrames (.invoking m args :: below)) m args below meth c T [] 0 0 := by
  obtain ⟨g₀, hr⟩ := X.frames_eq
  have hcur : T.cur < T.threads.size := State.cur_lt_of_frames hr
  have hf : (T.setFrames (.invoking m args :: below)).frames = .invoking m args :: below := State.frames_setFrames _ hcur
  obtain ⟨th, hth, -⟩ := State.frames_cons hr
  have hmeth : T.vm.method? m = some meth := X.method'
  refine ⟨X.admits, X.cas, X.clock, hf, ?_, ?_, hmeth, X.code, X.here, X.tail, State.WarmedH.refl _, by rw [State.stackLimits_setFrames], by rw [State.stackBytes_setFrames], ?_⟩
  · have hr0 := X.room
    have hl : (T.setFrames (.invoking m args :: below)).localsInUse = s.localsInUse := by
      unfold State.localsInUse
      rw [hf, X.frames]
      show _ + ((((T.vm.method? m).bind (·.code)).map (·.maxLocals)).getD 0 + 11) = _ + ((((s.vm.method? m).bind (·.code)).map (·.maxLocals)).getD 0 + 11)
      rw [hmeth, X.method]
    have h1 := X.heapSize
    have h2 := X.used
    have h3 := X.book
    have h4 : (T.setFrames (.invoking m args :: below)).slotsTrue = true := h3
    have h5 : (T.setFrames (.invoking m args :: below)).heap.size = T.heap.size := rfl
    have h6 : (T.setFrames (.invoking m args :: below)).slotsUsed = T.slotsUsed := rfl
    unfold State.hasRoom at hr0 ⊢
    rw [hl, hf, State.stackLimits_setFrames, State.stackBytes_setFrames, X.limits, X.bytes, h4, h5, h6]
    rw [X.frames] at hr0
    simp only [Bool.and_eq_true, decide_eq_true_eq, Bool.and_true] at hr0 ⊢
    obtain ⟨⟨⟨⟨a1, a2⟩, a3⟩, a4⟩, a5⟩ := hr0
    exact ⟨⟨⟨a1, a2⟩, by show T.heap.size + (R.cells - cells) ≤ _; omega⟩, by show T.slotsUsed + (R.slots - slots) ≤ _; omega⟩
  · have hh := X.hears
    have hcd : ∀ q, (T.setFrames (.invoking m args :: below)).code? q = s.code? q := fun q => by
      rw [State.code?_eq, State.code?_eq]
      show (T.vm.method? q).bind (·.code) = (s.vm.method? q).bind (·.code)
      rw [X.warmed.alike.method?]
    unfold State.hears at hh ⊢
    have hm2 : (T.setFrames (.invoking m args :: below)).vm.method? m = s.vm.method? m := by show T.vm.method? m = _; rw [hmeth, X.method]
    cases below with
    | nil => rw [hm2]; exact hh
    | cons b t => cases b <;> first | exact hh | rfl | (simp only [hcd]; exact hh) | (simp only [hm2]; exact hh)
  · have h := (State.sameButNew.refl T hth).setFrames (.invoking m args :: below) hcur
    have e1 : T.setVm (T.setFrames (.invoking m args :: below)).vm = T := rfl
    rw [e1]
    have e2 : T = (T.setFrames (.invoking m args :: below)).setFrames T.frames := by
      rw [State.setFrames_setFrames, State.setFrames_self hth]
    refine ⟨?_, Nat.le_refl _, Nat.le_refl _, ?_, ?_, fun a c hc => ⟨c, hc, rfl, rfl, fun _ _ => rfl⟩⟩
    · show T = { (T.setFrames (.invoking m args :: below)).setFrames T.frames with heap := T.heap, slotsUsed := T.slotsUsed }
      rw [← e2]
    · show T.slotsUsed = T.slotsUsed + ((T.heap.toList.drop T.heap.size).map (·.slots.size)).sum
      rw [List.drop_of_length_le (by simp)]; rfl
    · show ((T.heap.toList.drop T.heap.size).map (·.slots.size)).sum ≤ 0
      rw [List.drop_of_length_le (by simp)]; exact Nat.le_refl _
section RowsT
variable {ph k : Nat} {X : Cx} {y : MI} {σ0 σ : Sg} {Q : Option AV → Sg → Prop} {E : Int → Sg → Prop} {pc : Nat} {ls : List (Option AV)}
theorem ax_throw {n idx li ic : Nat} {tx : String} (hX : CxOk ph X y (k + 6) σ0 Q E) (hat : ∀ w ∈ Bundle.ownAtoms y.1.cls ic "java/lang/IllegalStateException" ["java/lang/RuntimeException", "java/lang/Exception"], w ∈ thrL) (hlk : Cond.classLink y.1.cls idx "java/lang/IllegalStateException" ∈ lw_all) (hq : (n, y.1.cls, li, tx) ∈ ldL) (hhs : y.2.2.2.2 = [])
    (hDC : gD σ + 6 ≤ 200000 ∧ gC σ + 1 ≤ 100000) (hd0 : decode y.2.1 pc = .ok (.new idx, 3)) (hd3 : decode y.2.1 (pc + 3) = .ok (.dup, 1)) (hd4 : decode y.2.1 (pc + 4) = .ok (.ldc li, 2)) (hd6 : decode y.2.1 (pc + 6) = .ok (.invokespecial ic, 3)) (hd9 : decode y.2.1 (pc + 9) = .ok (.athrow, 1))
    (h : E (gN σ) (nO σ 50 6)) : Ax ph X pc ls [] σ := by
  obtain ⟨G, p, l, e, R, s, m, args, below, meth, c, σ0', Q0, E0⟩ := X
  obtain ⟨hx, hbc, hml, hret, hlocks, hown, hnm, ⟨hexc, htr, hold, hvn⟩, hG, hk1, hk2, hc1, hc2, rfl, rfl, rfl⟩ := hX
  intro H locs lsC hR hL hl ho hs hn hsl hm T hT XS0
  obtain ⟨r1, r2, r3, r4, r5⟩ := rep_room hR
  have hz := hR.1.1
  have hn1 := hR.1.2
  have XS := stand_anew XS0 (by omega) (by omega)
  have hG' : Glob G (T.setFrames (.invoking m args :: below)) := glob_warm hG XS0.warmed
  have hown' : (T.setFrames (.invoking m args :: below)).vm.findClass y.1.cls = some m.cls := by show T.vm.findClass _ = _; rw [XS0.warmed.alike.findClass]; exact hown
  have hts := glob_all hG' args
  obtain ⟨vm₁, cX, kX, hfX, hkX, -, -, X₁, st1⟩ := XS.newCold hx (own := y.1.cls) (C := "java/lang/IllegalStateException") (index := idx) (n := 6) hown' (hts _ hlk) (hts _ q1620) (hts _ q323) (g := F0 m pc lsC []) rfl (by rw [hbc]; exact hd0) (by show 0 + 1 ≤ R.cells - (gN σ - gN σ0'); omega) (by show 0 + 6 ≤ R.slots - (gS σ - gS σ0'); omega)
  have hTs : T.heap.size = G.1 + gN σ - 1 := by rw [hT]; omega
  obtain ⟨a, c1, c2⟩ := hG'.2.2.2.2.2.2.1 _ hq
  have htr' : e.platform.stackTraces = false := by rw [Example.NoTraceControls.admits_follows XS.admits]; exact htr
  have hcellA : ((T.setVm vm₁).pushCell { cls := cX, slots := kX.instanceTypes.map defaultValue, vm := .none }).heap[T.heap.size]? = some (freshCell cX kX) := State.heap_pushCell_size _ _
  obtain ⟨U, hsteps, hrun, hend, hW, hsame, ce, hce, K⟩ := X₁.ctorThrowS hx htr' (own := y.1.cls) (cls := "java/lang/IllegalStateException") (names := ["java/lang/RuntimeException", "java/lang/Exception"]) (ic := ic) hown' (by decide +kernel) (by decide +kernel)
    (fun w hw => hG'.2.2.2.2.2.2.2.1 _ rfl (fun q hq => by show T.heap[q]? = _; rw [hT]; exact hR.2.1.1 q hq) args w (hat w hw)) (fun x hx' => by cases hx') hfX hkX hcellA (Nat.le_refl _) (msg := .ref a) rfl
    (g := F0 m (pc + 6) lsC [.ref a, .ref T.heap.size, .ref T.heap.size]) rfl hl.1 rfl rfl (rest := []) rfl (by rw [hbc]; exact hd6) (by rw [hbc]; exact hd9)
    (covers_find hexc (by rw [hhs]; rfl)) (by show 2 + 3 < R.frames; omega) (by show 2 * 0 + (1 + 0) + (13 * (2 + 1) + 42) ≤ R.locals; omega) hlocks
  have hUold : T.heap.size + 1 ≤ U.heap.size := by
    have := hsteps.heap_le
    simpa [State.pushCell] using this
  have hUsz : U.heap.size = T.heap.size + 1 := by
    have h1 : U.heap.size ≤ T.heap.size + (0 + 1) := hsame.2.2.1
    omega
  have hUh : ∀ q : Nat, q < T.heap.size → U.heap[q]? = T.heap[q]? := by
    intro q hq
    obtain ⟨cq, hcq⟩ : ∃ cq, T.heap[q]? = some cq := ⟨T.heap[q], by simp [hq]⟩
    obtain ⟨c', g1, g2, g3, g4⟩ := hsame.2.2.2.2.2 q cq hcq
    have g1' : U.heap[q]? = some c' := g1
    have e1 : c' = cq := by
      rw [g2]
      have : c'.slots = cq.slots := Array.ext_getElem? (fun i => g4 i (by simp))
      rw [this]
    rw [g1', e1, hcq]
  have hcev : ce.vm = .none := K.vm
  have hRU : Rep G ph (nO σ 50 6) U.heap := rep_nX hR hDC.2 hDC.1 (fun cc hcc => by
      rw [← hT] at hcc
      rw [hce] at hcc
      rw [← Option.some.inj hcc]; exact hcev) (by rw [hUsz, hT]) (fun q hq => by rw [hUh q (by rw [hT]; exact hq), hT])
  have hWs : s.WarmedH U.vm := State.WarmedH.trans XS0.warmed hW
  have hle := le_nO σ 50 6
  have hKn := hG'.2.1 22 _ rfl
  refine ⟨U, ?_, hrun, Or.inr ⟨(gN σ : Int), nO σ 50 6, locs, h, by omega, Or.inl ⟨by omega, by rw [gN_nO]; omega⟩, ⟨ce, ?_, hcev, ?_⟩, hRU, by rw [gN_nO]; omega, by rw [gS_nO]; omega, fun v hv => okV_mono hle (hm v hv), ?_, hWs, ?_, hL⟩⟩
  · refine st1 _ ?_
    have hp1 : Steps p.tables e below (((T.setVm vm₁).pushCell { cls := cX, slots := kX.instanceTypes.map defaultValue, vm := .none }).setTop (F0 m (pc + 4) lsC [.ref T.heap.size, .ref T.heap.size])) U :=
      X₁.ldcString hx hown' (text := tx) (a := a) c2.1 c2.2 (g := F0 m (pc + 4) lsC [.ref T.heap.size, .ref T.heap.size]) rfl (by rw [hbc]; exact hd4) U hsteps
    show Steps p.tables e below (((T.setVm vm₁).pushCell { cls := cX, slots := kX.instanceTypes.map defaultValue, vm := .none }).setTop { method := m, pc := pc + 3, locals := lsC, stack := [.ref T.heap.size], locked := none }) U
    generalize (T.setVm vm₁).pushCell { cls := cX, slots := kX.instanceTypes.map defaultValue, vm := .none } = T1 at X₁ hp1
    jvm_step X₁.here [X₁.here.top, hx, hbc, hd3, Value.category]
    exact hp1
  · rw [show G.1 + ((gN σ : Nat) : Int).toNat - 1 = T.heap.size by rw [hTs]; omega]; exact hce
  · exact Option.some.inj ((show (T.setFrames (.invoking m args :: below)).vm.findClass "java/lang/IllegalStateException" = some ce.cls from K.cls).symm.trans hKn.2.1)
  · rw [show G.1 + ((gN σ : Nat) : Int).toNat - 1 = T.heap.size by rw [hTs]; omega]; exact hend
  · have h1 := XS0.same.trans (show (T.setVm s.vm).sameButNew ({ U with vm := s.vm } : State) [] (0 + 1) (0 + 6) from ?_)
    · rw [List.append_nil] at h1
      rw [gN_nO, gS_nO, show gN σ + 1 - gN σ0' = gN σ - gN σ0' + (0 + 1) by omega, show gS σ + 6 - gS σ0' = gS σ - gS σ0' + (0 + 6) by omega]
      exact h1
    · obtain ⟨b1, b2, b3, b4, b5, b6⟩ := hsame
      refine ⟨?_, b2, b3, b4, b5, b6⟩
      have b1' := congrArg (fun z : State => z.setVm s.vm) b1
      have e3 : ∀ (A : State) (fs gs : List Frame) (hp : Heap) (n : Nat), ({ (A.setFrames fs).setFrames gs with heap := hp, slotsUsed := n } : State).setVm s.vm = { (A.setVm s.vm).setFrames gs with heap := hp, slotsUsed := n } := by
        intro A fs gs hp n
        rw [State.setFrames_setFrames]; rfl
      have b2' := e3 T (.invoking m args :: below) U.frames U.heap U.slotsUsed
      exact b1'.trans b2'
end RowsT
