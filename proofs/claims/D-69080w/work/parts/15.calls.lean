/-! CALLS: where they arrive, how they come back, exceptions -/
set_option maxRecDepth 100000
/-- the link of a call at a site -/
def MLk (own : String) (idx : Nat) (z : MethodName) : Prop := Cond.methodLink own idx z ∈ lw_all ∨ ∃ host, Cond.methodLinkNest own idx z host ∈ lw_tbl
/-- a method's code -/
def MW (z : MI) : Prop := (z.2.2.2.2 = [] ∧ Cond.code z.1 z.2.1 z.2.2.1 z.2.2.2.1 ∈ lw_all) ∨ Cond.codeWith z.1 z.2.1 z.2.2.1 z.2.2.2.1 z.2.2.2.2 ∈ lw_all
theorem mw_spec {G : Gp} {s : State} (hG : Glob G s) {z : MI} (h : MW z) : ∃ (mk : MethodId) (meth : Method) (c : Code), s.methodNamed? z.1 = some mk ∧ s.vm.method? mk = some meth ∧ meth.code = some c ∧ c.code = z.2.1 ∧ c.maxLocals = z.2.2.1 ∧ meth.sig.returnType = z.2.2.2.1 ∧ meth.locks = false ∧
    c.exceptionTable.toList.map (fun h => (h.startPc, h.endPc, h.handlerPc, h.catchType)) = z.2.2.2.2 ∧ parseMethodDescriptor z.1.desc = some meth.sig := by
  rcases h with ⟨h0, h⟩ | h
  · have hw := glob_all hG #[] _ h
    obtain ⟨mk, hn⟩ := Cond.code_named hw
    obtain ⟨meth, c, h1, h2, h3, h4, h5, h6, h7, h8⟩ := Cond.code_spec hn hw
    refine ⟨mk, meth, c, hn, h1, h2, h3, h4, h5, h6, ?_, h8⟩
    rw [h0]
    have : c.exceptionTable.toList = [] := by
      have := Array.isEmpty_iff.mp h7
      rw [this]
    rw [this]; rfl
  · have hw := glob_all hG #[] _ h
    obtain ⟨mk, meth, c, hn, h1, h2, h3, h4, h5, h6, h7, h8⟩ := Cond.codeWith_spec hw
    exact ⟨mk, meth, c, hn, h1, h2, h3, h4, h6, h7, h5, h8⟩
section Arr
variable {p : Program} {l : Launch} {e : Env} {R : Room} {s : State} {m : MethodId} {args : Array Value} {below : List Frame} {meth : Method} {c : Code} {T : State} {locs : List Loc} {cells slots : Nat}
/-- a call arrives -/
def Arr (p : Program) (l : Launch) (e : Env) (R : Room) (s : State) (m : MethodId) (args : Array Value) (below : List Frame) (meth : Method) (c : Code) (T : State) (locs : List Loc) (cells slots : Nat) (g : JFrame) (z : MethodName) (a : Array Value) (rest : List Value) : Prop :=
  ∃ (mk : MethodId) (vm₁ : Vm), s.methodNamed? z = some mk ∧ Stand p l e R s m args below meth c (T.setVm vm₁) locs cells slots ∧
    ∀ target, (∀ acts, Steps p.tables e below (doInvoke e ((T.setVm vm₁).setTop { g with stack := rest }) acts mk a).1 target) → Steps p.tables e below (T.setTop g) target
theorem len_of {z : MethodName} {n : Nat} {sig : MethodDescriptor} (hd : (parseMethodDescriptor z.desc).map (fun d => d.parameters.length) = some n) (h : parseMethodDescriptor z.desc = some sig) : n = sig.parameters.length := by
  rw [h] at hd
  exact (Option.some.inj hd).symm
theorem arr_S {G : Gp} {z : MI} {own : String} {idx n : Nat} {g : JFrame} {as rest : List Value} (X : Stand p l e R s m args below meth c T locs cells slots) (hG : Glob G s) (hx : p.tables.exec = Jvm.exec) (hown : s.vm.findClass own = some m.cls) (hlk : MLk own idx z.1) (hz : MW z) (hst : Cond.static z.1 ∈ lw_all) (hini : Cond.initialized z.1.cls ∈ lw_all)
    (hmh : z.1.cls ≠ "java/lang/invoke/MethodHandle" ∧ z.1.cls ≠ "java/lang/invoke/VarHandle") (hd : (parseMethodDescriptor z.1.desc).map (fun d => d.parameters.length) = some n) (hg : g.method = m) (hn : as.length = n) (hs : g.stack = as.reverse ++ rest) (hdg : decode c.code g.pc = .ok (.invokestatic idx, 3)) :
    Arr p l e R s m args below meth c T locs cells slots g z.1 as.toArray rest := by
  obtain ⟨mk, methM, cM, hnamed, hmethM, -, -, -, -, -, -, hsigM⟩ := mw_spec hG hz
  have hts := glob_all hG args
  have hstatic : methM.isStatic = true := Cond.static_spec hnamed hmethM (hts _ hst)
  obtain ⟨kP, hkP, -⟩ := className_of_methodNamed hnamed
  have hinitP : kP.init = .initialized := Cond.initialized_spec (findClass_of_methodNamed hnamed) hkP (hts _ hini)
  have hl := hn.trans (len_of hd hsigM)
  rcases hlk with h | ⟨host, h⟩
  · obtain ⟨vm₁, X₁, hstep₁⟩ := X.invokestatic hx hown (hts _ h) hnamed hmethM hstatic hkP hinitP hmh (g := g) hg (argsL := as) (rest := rest) hl hs hdg
    exact ⟨mk, vm₁, hnamed, X₁, hstep₁⟩
  · obtain ⟨vm₁, X₁, hstep₁⟩ := X.invokestaticNest hx hown (hG.1 _ h rfl args) hnamed hmethM hstatic hkP hinitP hmh (g := g) hg (argsL := as) (rest := rest) hl hs hdg
    exact ⟨mk, vm₁, hnamed, X₁, hstep₁⟩
theorem arr_V {G : Gp} {z : MI} {own C : String} {idx n b : Nat} {cell : Cell} {g : JFrame} {as rest : List Value} (X : Stand p l e R s m args below meth c T locs cells slots) (hG : Glob G s) (hx : p.tables.exec = Jvm.exec) (hown : s.vm.findClass own = some m.cls) (hlk : MLk own idx z.1) (hz : MW z) (hin : Cond.instanceMethod z.1 ∈ lw_all) (hsel : Cond.selects C z.1 z.1 ∈ lw_all)
    (hmh : z.1.cls ≠ "java/lang/invoke/MethodHandle" ∧ z.1.cls ≠ "java/lang/invoke/VarHandle") (hd : (parseMethodDescriptor z.1.desc).map (fun d => d.parameters.length) = some n) (hcell : T.heap[b]? = some cell) (hobj : cell.vm.isStatics = false) (hcls : s.vm.findClass C = some cell.cls) (hg : g.method = m) (hn : as.length = n) (hs : g.stack = as.reverse ++ .ref b :: rest) (hdg : decode c.code g.pc = .ok (.invokevirtual idx, 3)) :
    Arr p l e R s m args below meth c T locs cells slots g z.1 (.ref b :: as).toArray rest := by
  have hts := glob_all hG args
  obtain ⟨mk, methM, hnamed, hmethM, hstM, habM⟩ := Cond.instanceMethod_spec (hts _ hin)
  obtain ⟨mk', methM', cM, hnamed', hmethM', -, -, -, -, -, -, hsigM⟩ := mw_spec hG hz
  cases hnamed.symm.trans hnamed'
  cases hmethM.symm.trans hmethM'
  obtain ⟨c2, r2, m2, q1, q2, q3, q4, kP, hkP, hkPi⟩ := Cond.selects_spec (hts _ hsel)
  cases hcls.symm.trans q1
  cases (State.methodFound?_of_named hnamed hmh).symm.trans q2
  cases hnamed.symm.trans q3
  have hselP : selectMethod e.platform s.vm cell.cls mk = .method mk := by rw [Launch.admits_selectMethod X.admits]; exact q4
  have hl := hn.trans (len_of hd hsigM)
  have hob : ∀ z, cell.vm ≠ .statics z := fun z h => by rw [h] at hobj; cases hobj
  rcases hlk with h | ⟨host, h⟩
  · obtain ⟨vm₁, X₁, hstep₁⟩ := X.invokevirtual hx hown (hts _ h) hnamed hmethM hstM hkP hkPi hmh (a := b) (cell := cell) hcell hob hselP hmethM habM hkP hkPi (g := g) hg (argsL := as) (rest := rest) hl hs hdg
    exact ⟨mk, vm₁, hnamed, X₁, hstep₁⟩
  · obtain ⟨vm₁, X₁, hstep₁⟩ := X.invokevirtualNest hx hown (hG.1 _ h rfl args) hnamed hmethM hstM hkP hkPi hmh (a := b) (cell := cell) hcell hob hselP hmethM habM hkP hkPi (g := g) hg (argsL := as) (rest := rest) hl hs hdg
    exact ⟨mk, vm₁, hnamed, X₁, hstep₁⟩
/-- an inherited method -/
theorem arr_U {G : Gp} {z : MI} {x : MethodName} {own C : String} {idx n b : Nat} {cell : Cell} {g : JFrame} {as rest : List Value} (X : Stand p l e R s m args below meth c T locs cells slots) (hG : Glob G s) (hx : p.tables.exec = Jvm.exec) (hown : s.vm.findClass own = some m.cls) (hlk : Cond.methodLink own idx x ∈ lw_all) (hz : MW z) (hin : Cond.instanceMethod z.1 ∈ lw_all) (hsm : Cond.sameMethod x.cls z.1.cls x.name x.desc ∈ lw_all) (hsel : Cond.selects C x z.1 ∈ lw_all)
    (hxz : z.1 = ⟨z.1.cls, x.name, x.desc⟩) (hmh : z.1.cls ≠ "java/lang/invoke/MethodHandle" ∧ z.1.cls ≠ "java/lang/invoke/VarHandle") (hd : (parseMethodDescriptor z.1.desc).map (fun d => d.parameters.length) = some n) (hcell : T.heap[b]? = some cell) (hobj : cell.vm.isStatics = false) (hcls : s.vm.findClass C = some cell.cls) (hg : g.method = m) (hn : as.length = n) (hs : g.stack = as.reverse ++ .ref b :: rest) (hdg : decode c.code g.pc = .ok (.invokevirtual idx, 3)) :
    Arr p l e R s m args below meth c T locs cells slots g z.1 (.ref b :: as).toArray rest := by
  have hts := glob_all hG args
  obtain ⟨mk, methM, hnamed, hmethM, hstM, habM⟩ := Cond.instanceMethod_spec (hts _ hin)
  obtain ⟨mk', methM', cM, hnamed', hmethM', -, -, -, -, -, -, hsigM⟩ := mw_spec hG hz
  cases hnamed.symm.trans hnamed'
  cases hmethM.symm.trans hmethM'
  obtain ⟨cn, ck, r1, hcn, hck, hni, hf, hn1⟩ := Cond.sameMethod_found (hts _ hsm)
  rw [← hxz] at hn1
  cases hnamed.symm.trans hn1
  obtain ⟨c2, r2, m2, q1, q2, q3, q4, kP, hkP, hkPi⟩ := Cond.selects_spec (hts _ hsel)
  cases hcls.symm.trans q1
  cases hf.symm.trans q2
  cases hnamed.symm.trans q3
  have hselP : selectMethod e.platform s.vm cell.cls mk = .method mk := by rw [Launch.admits_selectMethod X.admits]; exact q4
  have hl := hn.trans (len_of hd hsigM)
  obtain ⟨vm₁, X₁, hstep₁⟩ := X.invokevirtualUp hx hown (hts _ hlk) (hts _ hsm) hmh (by rw [← hxz]; exact hnamed) hmethM hstM (a := b) (cell := cell) hcell (fun z h => by rw [h] at hobj; cases hobj) hselP hmethM habM hkP hkPi (g := g) hg (argsL := as) (rest := rest) hl hs hdg
  exact ⟨mk, vm₁, hnamed, X₁, hstep₁⟩
theorem arr_I {G : Gp} {z : MI} {own : String} {idx n b : Nat} {g : JFrame} {as rest : List Value} (X : Stand p l e R s m args below meth c T locs cells slots) (hG : Glob G s) (hx : p.tables.exec = Jvm.exec) (hown : s.vm.findClass own = some m.cls) (hlk : MLk own idx z.1) (hz : Cond.code z.1 z.2.1 z.2.2.1 none ∈ lw_all) (hnm : z.1.name = "<init>") (hin : Cond.instanceMethod z.1 ∈ lw_all)
    (hmh : z.1.cls ≠ "java/lang/invoke/MethodHandle" ∧ z.1.cls ≠ "java/lang/invoke/VarHandle") (hd : (parseMethodDescriptor z.1.desc).map (fun d => d.parameters.length) = some n) (hg : g.method = m) (hn : as.length = n) (hs : g.stack = as.reverse ++ .ref b :: rest) (hdg : decode c.code g.pc = .ok (.invokespecial idx, 3)) :
    Arr p l e R s m args below meth c T locs cells slots g z.1 (.ref b :: as).toArray rest := by
  subst hg
  have hts := glob_all hG args
  have hpl : e.platform.magicAccessors = ({} : Platform).magicAccessors := by rw [X.admits.platform]
  have hl : ∀ sig, parseMethodDescriptor z.1.desc = some sig → as.length = sig.parameters.length := fun sig h => hn.trans (len_of hd h)
  rcases hlk with h | ⟨host, h⟩
  · obtain ⟨mk, methM, cM, kP, vm₁, hnamed, -, -, -, -, -, -, -, hW₁, hstep₁⟩ := Steps.initColdArgs (e := e) X.here hx X.warmed hpl hown hnm hmh (hts _ h) (hts _ hin) (hts _ hz) (f := g) rfl hl hs hdg
    exact ⟨mk, vm₁, hnamed, X.noted hW₁, hstep₁⟩
  · obtain ⟨mk, methM, cM, kP, vm₁, hnamed, -, -, -, -, -, -, -, hW₁, hstep₁⟩ := Steps.initColdArgsNest (e := e) X.here hx X.warmed hpl hown hnm hmh (hG.1 _ h rfl args) (hts _ hin) (hts _ hz) (f := g) rfl hl hs hdg
    exact ⟨mk, vm₁, hnamed, X.noted hW₁, hstep₁⟩
end Arr
/-- locals at the entry -/
theorem lsL_none (G : Gp) : ∀ (n j : Nat), lsL G j (List.replicate n none) = []
  | 0, _ => rfl
  | n + 1, j => by rw [List.replicate_succ]; exact lsL_none G n (j + 1)
theorem lsL_args (G : Gp) (n : Nat) : ∀ (as : List AV) (j : Nat), lsL G j (as.flatMap (fun v => match v with | .inr (.inl _) => [some v, none] | _ => [some v]) ++ List.replicate n none) = lv_args j (as.map (cV G))
  | [], j => lsL_none G n j
  | v :: t, j => by
    have h := lsL_args G n t
    rcases v with x | x | r | q
    · show (j, _) :: lsL G (j + 1) _ = (j, _) :: lv_args (j + 1) _
      rw [← h (j + 1)]; rfl
    · show (j, _) :: lsL G (j + 1 + 1) _ = (j, _) :: lv_args (j + 2) _
      rw [← h (j + 2)]; rfl
    · show (j, _) :: lsL G (j + 1) _ = (j, cO G r) :: lv_args (if (cO G r).category = 2 then j + 2 else j + 1) _
      rw [cO_cat, if_neg (by decide), ← h (j + 1)]; rfl
    · show (j, _) :: lsL G (j + 1) _ = (j, _) :: lv_args (j + 1) _
      rw [← h (j + 1)]; rfl
theorem lsE_has (G : Gp) {n : Nat} {as : List AV} (h : (lg_sl (as.map (cV G))).length ≤ n) (m : MethodId) : lv_has (entryFrame m (as.map (cV G)).toArray n).locals n (lsL G 0 (lsE n as)) := by
  rw [lg_entry_eq]
  show lv_has _ n (lsL G 0 (as.flatMap (fun v => match v with | .inr (.inl _) => [some v, none] | _ => [some v]) ++ List.replicate _ none))
  rw [lsL_args]
  exact lv_entry _ h
theorem sl_len (G : Gp) : ∀ as : List AV, (lg_sl (as.map (cV G))).length = (as.map avW).sum
  | [] => rfl
  | v :: t => by
    have h := sl_len G t
    unfold lg_sl at h ⊢
    rw [List.map_cons, List.flatMap_cons, List.length_append, h, List.map_cons, List.sum_cons]
    congr 1
    rw [cV_cat]
    rcases v with x | x | r | q <;> rfl
theorem lsE_ok {σ : Sg} {n : Nat} {as : List AV} (h : ∀ v ∈ as, okV σ v) : ∀ v, some v ∈ lsE n as → okV σ v := by
  intro v hv
  unfold lsE at hv
  rcases List.mem_append.mp hv with q | q
  · obtain ⟨w, hw, q⟩ := List.mem_flatMap.mp q
    have : v = w := by
      rcases w with x | x | r | z <;> simp at q <;> exact q
    rw [this]; exact h w hw
  · have := List.eq_of_mem_replicate q
    cases this
theorem cat_sum (G : Gp) : ∀ st : List AV, ((st.map (cV G)).map fun v => v.category).sum = (st.map avW).sum
  | [] => rfl
  | v :: t => by simp only [List.map_cons, List.sum_cons, cV_cat, cat_sum G t]
/-- where an exception goes -/
def Hx (ph : Nat) (X : Cx) (y : MI) (pc : Nat) (ls : List (Option AV)) (E : Int → Sg → Prop) (a : Int) (σ : Sg) : Prop := match y.2.2.2.2.find? (fun h => Nat.ble h.1 pc && Nat.blt pc h.2.1) with
  | none => E a σ
  | some h => Cond.classLink y.1.cls h.2.2.2 "java/lang/IllegalStateException" ∈ lw_all ∧ h.2.2.2 ≠ 0 ∧ Ax ph X h.2.2.1 ls [vO a] σ
