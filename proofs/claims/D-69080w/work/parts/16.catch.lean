/-! an exception that is caught -/
set_option maxRecDepth 100000
theorem find_cold {e : Env} {s : State} {f : JFrame} {a : Addr} {x : ExceptionTableEntry} {t : List ExceptionTableEntry} {c : ClassId} {cell : Cell} {vm' : Vm} {Q : Handler → Pre} {E : CtlPost} {d : Bool} {acts : List Action} (hx : covers x f.pc = true) (h0 : x.catchType ≠ 0) (hl : (Jvm.resolveClass f.method.cls x.catchType).Gives e.toSetting s.vm (.ok c) vm')
    (hcell : s.heap[a]? = some cell) (hobj : ∀ k, cell.vm ≠ .statics k) (hk : ∃ k, vm'.classes[cell.cls]? = some k) (hc : ∃ k, vm'.classes[c]? = some k) (hfit : vm'.assignable cell.cls c = true) (hsz : vm'.classes.size ≤ s.vm.classes.size)
    (hQ : ∀ d', Q (.found x.handlerPc) d' acts (s.setVm vm')) : wp (findHandler.go f a (x :: t)) Q E e d acts s := by
  simp only [covers] at hx
  have hg : (VmOp.resolveClass f.method.cls x.catchType).answer e s.vm = .ok c ∧ (VmOp.resolveClass f.method.cls x.catchType).tables e s.vm = vm' := hl.op rfl
  simp [findHandler.go, hx, h0, hg, hcell, hobj, hk, hc, hfit, VmOp.dirties, VmOp.acts, VmOp.lands_eq (s := s) hg.2 hsz]
  exact hQ _
theorem caught_cold {p : Program} {l : Launch} {e : Env} {R : Room} {s : State} {m : MethodId} {args : Array Value} {below : List Frame} {meth : Method} {c : Code} {T : State} {locs : List Loc} {cells slots : Nat} (X : Stand p l e R s m args below meth c T locs cells slots) {own : String} (hown : s.vm.findClass own = some m.cls) (a : Addr) {g : JFrame} (hg : g.method = m) {x : ExceptionTableEntry} {rest : List ExceptionTableEntry}
    (hsplit : c.exceptionTable.toList = x :: rest) (hx : covers x g.pc = true) (h0 : x.catchType ≠ 0) (hlink : (Cond.classLink own x.catchType "java/lang/IllegalStateException").before args s = true) {cell : Cell} (hcell : T.heap[a]? = some cell) (hv : cell.vm = .none) (hcls : s.vm.findClass "java/lang/IllegalStateException" = some cell.cls) :
    ∃ vm', Stand p l e R s m args below meth c (T.setVm vm') locs cells slots ∧ ∀ target, Steps p.tables e below ((T.setVm vm').setTop { g with pc := x.handlerPc, stack := [.ref a] }) target → Steps p.tables e below ((T.setTop g).pushFrame (.throwing a)) target := by
  subst hg
  have hpl : e.platform.magicAccessors = ({} : Platform).magicAccessors := by rw [X.admits.platform]
  obtain ⟨cc, hfcc, hcl⟩ := Cond.classLink_spec hown hlink e.platform hpl
  cases hcls.symm.trans hfcc
  obtain ⟨hg₁, hwarm₁, hready₁⟩ := State.classEntry (e := e) X.warmed hcl
  have hsz : (T.vm.noted g.method.cls x.catchType (.cls cell.cls)).classes.size ≤ T.vm.classes.size := by no_record
  generalize T.vm.noted g.method.cls x.catchType (.cls cell.cls) = vm₁ at hg₁ hwarm₁ hready₁ hsz
  have X₁ := X.noted hwarm₁
  refine ⟨vm₁, X₁, fun target hrest => ?_⟩
  have hcl1 : ∃ k, vm₁.classes[cell.cls]? = some k := Vm.classAt_of_findClass (name := "java/lang/IllegalStateException") (by rw [hwarm₁.alike.findClass]; exact hcls)
  have htop := X.here.top
  obtain ⟨hgo, hw⟩ := X.here.throwing (g := g) a
  refine Steps.head hgo hw ?_
  have hvm : ((T.setTop g).pushFrame (.throwing a)).vm = T.vm := Stand.throwing_vm T g a
  have hhp : ((T.setTop g).pushFrame (.throwing a)).heap = T.heap := Stand.throwing_heap T g a
  have key : (stepThrowing e ((T.setTop g).pushFrame (.throwing a)) a (.java g :: T.frames.tail)).Is ((((T.setTop g).pushFrame (.throwing a)).setVm vm₁).setFrames (.java { g with pc := x.handlerPc, stack := [.ref a] } :: T.frames.tail)) [] := by
    simp only [stepThrowing, searchFrame, vmDo]
    generalize hr : Sem.go _ e false [] ((T.setTop g).pushFrame (.throwing a)) = res
    obtain ⟨as, rfl, ha⟩ := Sem.eq_ok_of hr (a := Handler.found x.handlerPc) (s' := ((T.setTop g).pushFrame (.throwing a)).setVm vm₁) (acts' := []) (by
      simp only [wp_bind']
      rw [W.findHandler_eq (by rw [hvm]; exact X.method') X.code, hsplit]
      refine find_cold hx h0 (by rw [hvm]; exact hg₁) (by rw [hhp]; exact hcell) (fun k => by rw [hv]; simp) hcl1 hcl1 (va_asg _ _) (by rw [hvm]; exact hsz) (fun d' => ?_)
      simp)
    exact ⟨rfl, ha⟩
  rw [stepThread_throwing (frames_entered htop _), key.1]
  obtain ⟨g₀, hg⟩ := Option.isSome_iff_exists.mp htop
  obtain ⟨r, hr⟩ := State.topJava?_eq_some.mp hg
  have e1 : (((T.setTop g).pushFrame (.throwing a)).setVm vm₁).setFrames (.java { g with pc := x.handlerPc, stack := [.ref a] } :: T.frames.tail) = (T.setVm vm₁).setTop { g with pc := x.handlerPc, stack := [.ref a] } := by
    have hr' : (T.setVm vm₁).frames = .java g₀ :: r := hr
    have e2 : ∀ (U : State) (fs : List Frame), (U.setVm vm₁).setFrames fs = (U.setFrames fs).setVm vm₁ := fun _ _ => rfl
    rw [State.setTop_of_frames _ hr', e2, e2, State.pushFrame, State.setFrames_setFrames, State.setTop_of_frames _ hr, State.setFrames_setFrames, hr]
    rfl
  rw [e1]
  exact hrest
