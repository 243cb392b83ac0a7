/-! ROWS of the abstract machine, I: stack, locals, numbers, branches -/
set_option maxRecDepth 100000
section Rows
variable {ph k : Nat} {X : Cx} {y : MI} {σ0 σ : Sg} {Q : Option AV → Sg → Prop} {E : Int → Sg → Prop} {pc : Nat} {ls : List (Option AV)} {st : List AV}
/-- a step that leaves locals and heap -/
theorem ax_pure {pc' : Nat} {st1 st2 : List AV} (hX : CxOk ph X y k σ0 Q E) (h : Ax ph X pc' ls st2 σ) (hok : (∀ v ∈ st1, okV σ v) → ∀ v ∈ st2, okV σ v)
    (row : ∀ (G : Gp) (p : Program) (l : Launch) (e : Env) (R : Room) (s : State) (m : MethodId) (args : Array Value) (below : List Frame) (meth : Method) (c : Code) (H : Heap) (locs : List Loc) (cells slots : Nat) (Qw : State → Prop) (lsC : Array Slot), p.tables.exec = Jvm.exec → c.code = y.2.1 → (∀ v ∈ st1, okV σ v) →
      W p l e R s m args below meth c H locs cells slots Qw (F0 m pc' lsC (st2.map (cV G))) → W p l e R s m args below meth c H locs cells slots Qw (F0 m pc lsC (st1.map (cV G)))) : Ax ph X pc ls st1 σ := by
  obtain ⟨G, p, l, e, R, s, m, args, below, meth, c, σ0', Q0, E0⟩ := X
  intro H locs lsC hR hL hl ho hs hn hsl hm
  exact row G p l e R s m args below meth c H locs _ _ _ lsC hX.1 hX.2.1 hs (h H locs lsC hR hL hl ho (hok hs) hn hsl hm)
theorem okc {σ : Sg} {v : AV} {st : List AV} (h : ∀ w ∈ v :: st, okV σ w) : okV σ v ∧ ∀ w ∈ st, okV σ w := ⟨h v List.mem_cons_self, fun w hw => h w (List.mem_cons_of_mem _ hw)⟩
theorem okp {σ : Sg} {v : AV} {st : List AV} (hv : okV σ v) (h : ∀ w ∈ st, okV σ w) : ∀ w ∈ v :: st, okV σ w := by
  intro w hw
  rcases List.mem_cons.mp hw with e | e
  · rw [e]; exact hv
  · exact h w e
theorem ax_iconst {i : Int} (hX : CxOk ph X y k σ0 Q E) (hi : in32 i) (hd : decode y.2.1 pc = .ok (.iconst i, 1)) (h : Ax ph X (pc + 1) ls (vI i :: st) σ) : Ax ph X pc ls st σ :=
  ax_pure hX h (fun q => okp hi q) (fun G p l e R s m args below meth c H locs cells slots Qw lsC hx hb hs kk => lv_iconst hx hb hd rfl kk)
theorem ax_bipush {i : Int} (hX : CxOk ph X y k σ0 Q E) (hi : -128 ≤ i ∧ i ≤ 127) (hd : decode y.2.1 pc = .ok (.bipush i, 2)) (h : Ax ph X (pc + 2) ls (vI i :: st) σ) : Ax ph X pc ls st σ :=
  ax_pure hX h (fun q => okp (show in32 i by unfold in32; omega) q) (fun G p l e R s m args below meth c H locs cells slots Qw lsC hx hb hs kk => lv_bipush (v := Int32.ofInt i) hx hb hd (by
    apply Int32.toInt_inj.mp
    rw [Int8.toInt_toInt32, Int8.toInt_ofInt, i32_toInt (by unfold in32; omega)]
    unfold Int.bmod
    simp only [Int8.size]
    omega) kk)
theorem ax_sipush {i : Int} (hX : CxOk ph X y k σ0 Q E) (hi : -32768 ≤ i ∧ i ≤ 32767) (hd : decode y.2.1 pc = .ok (.sipush i, 3)) (h : Ax ph X (pc + 3) ls (vI i :: st) σ) : Ax ph X pc ls st σ :=
  ax_pure hX h (fun q => okp (show in32 i by unfold in32; omega) q) (fun G p l e R s m args below meth c H locs cells slots Qw lsC hx hb hs kk => lv_sipush (v := Int32.ofInt i) hx hb hd (by
    apply Int32.toInt_inj.mp
    rw [Int16.toInt_toInt32, Int16.toInt_ofInt, i32_toInt (by unfold in32; omega)]
    unfold Int.bmod
    simp only [Int16.size]
    omega) kk)
theorem ax_lconst {i : Fin 2} (hX : CxOk ph X y k σ0 Q E) (hd : decode y.2.1 pc = .ok (.lconst i, 1)) (h : Ax ph X (pc + 1) ls (vJ (i.val : Nat) :: st) σ) : Ax ph X pc ls st σ :=
  ax_pure hX h (fun q => okp (show in64 ((i.val : Nat) : Int) by unfold in64; have := i.isLt; omega) q) (fun G p l e R s m args below meth c H locs cells slots Qw lsC hx hb hs kk => lv_lconst hx hb hd rfl kk)
theorem ax_iadd {x z : Int} (hX : CxOk ph X y k σ0 Q E) (hd : decode y.2.1 pc = .ok (.iadd, 1)) (h : Ax ph X (pc + 1) ls (vI (w32 (x + z)) :: st) σ) : Ax ph X pc ls (vI z :: vI x :: st) σ :=
  ax_pure hX h (fun q => okp (w32_in _) (okc (okc q).2).2) (fun G p l e R s m args below meth c H locs cells slots Qw lsC hx hb hs kk => lv_iadd hx hb hd (by rw [i32_add]; exact kk))
theorem ax_isub {x z : Int} (hX : CxOk ph X y k σ0 Q E) (hd : decode y.2.1 pc = .ok (.isub, 1)) (h : Ax ph X (pc + 1) ls (vI (w32 (x - z)) :: st) σ) : Ax ph X pc ls (vI z :: vI x :: st) σ :=
  ax_pure hX h (fun q => okp (w32_in _) (okc (okc q).2).2) (fun G p l e R s m args below meth c H locs cells slots Qw lsC hx hb hs kk => lv_isub hx hb hd (by rw [i32_sub]; exact kk))
theorem ax_imul {x z : Int} (hX : CxOk ph X y k σ0 Q E) (hd : decode y.2.1 pc = .ok (.imul, 1)) (h : Ax ph X (pc + 1) ls (vI (w32 (x * z)) :: st) σ) : Ax ph X pc ls (vI z :: vI x :: st) σ :=
  ax_pure hX h (fun q => okp (w32_in _) (okc (okc q).2).2) (fun G p l e R s m args below meth c H locs cells slots Qw lsC hx hb hs kk => lv_imul hx hb hd (by rw [i32_mul]; exact kk))
theorem ax_idiv {x z : Int} (hX : CxOk ph X y k σ0 Q E) (hz : ¬ z = 0) (hd : decode y.2.1 pc = .ok (.idiv, 1)) (h : Ax ph X (pc + 1) ls (vI (w32 (x.tdiv z)) :: st) σ) : Ax ph X pc ls (vI z :: vI x :: st) σ :=
  ax_pure hX h (fun q => okp (w32_in _) (okc (okc q).2).2) (fun G p l e R s m args below meth c H locs cells slots Qw lsC hx hb hs kk => lv_idiv hx hb hd (by
    rw [i32_c0, i32_eq (okc hs).1 (by unfold in32; omega)]; exact hz) (by rw [i32_div (okc (okc hs).2).1 (okc hs).1]; exact kk))
theorem ax_irem {x z : Int} (hX : CxOk ph X y k σ0 Q E) (hz : ¬ z = 0) (hd : decode y.2.1 pc = .ok (.irem, 1)) (h : Ax ph X (pc + 1) ls (vI (x.tmod z) :: st) σ) : Ax ph X pc ls (vI z :: vI x :: st) σ :=
  ax_pure hX h (fun q => okp (tmod_in32 (okc (okc q).2).1) (okc (okc q).2).2) (fun G p l e R s m args below meth c H locs cells slots Qw lsC hx hb hs kk => lv_irem hx hb hd (by
    rw [i32_c0, i32_eq (okc hs).1 (by unfold in32; omega)]; exact hz) (by rw [i32_rem (okc (okc hs).2).1 (okc hs).1]; exact kk))
theorem ax_ineg {x : Int} (hX : CxOk ph X y k σ0 Q E) (hd : decode y.2.1 pc = .ok (.ineg, 1)) (h : Ax ph X (pc + 1) ls (vI (w32 (-x)) :: st) σ) : Ax ph X pc ls (vI x :: st) σ :=
  ax_pure hX h (fun q => okp (w32_in _) (okc q).2) (fun G p l e R s m args below meth c H locs cells slots Qw lsC hx hb hs kk => lv_ineg hx hb hd (by rw [i32_neg]; exact kk))
theorem ax_iand {x z : Int} (hX : CxOk ph X y k σ0 Q E) (hd : decode y.2.1 pc = .ok (.iand, 1)) (h : Ax ph X (pc + 1) ls (vI (iAnd x z) :: st) σ) : Ax ph X pc ls (vI z :: vI x :: st) σ :=
  ax_pure hX h (fun q => okp (in32_and _ _) (okc (okc q).2).2) (fun G p l e R s m args below meth c H locs cells slots Qw lsC hx hb hs kk => lv_iand hx hb hd (by rw [i32_and]; exact kk))
theorem ax_ior {x z : Int} (hX : CxOk ph X y k σ0 Q E) (hd : decode y.2.1 pc = .ok (.ior, 1)) (h : Ax ph X (pc + 1) ls (vI (iOr x z) :: st) σ) : Ax ph X pc ls (vI z :: vI x :: st) σ :=
  ax_pure hX h (fun q => okp (in32_or _ _) (okc (okc q).2).2) (fun G p l e R s m args below meth c H locs cells slots Qw lsC hx hb hs kk => lv_ior hx hb hd (by rw [i32_or]; exact kk))
theorem ax_ixor {x z : Int} (hX : CxOk ph X y k σ0 Q E) (hd : decode y.2.1 pc = .ok (.ixor, 1)) (h : Ax ph X (pc + 1) ls (vI (iXor x z) :: st) σ) : Ax ph X pc ls (vI z :: vI x :: st) σ :=
  ax_pure hX h (fun q => okp (in32_xor _ _) (okc (okc q).2).2) (fun G p l e R s m args below meth c H locs cells slots Qw lsC hx hb hs kk => lv_ixor hx hb hd (by rw [i32_xor]; exact kk))
theorem ax_ishl {x z : Int} (hX : CxOk ph X y k σ0 Q E) (hd : decode y.2.1 pc = .ok (.ishl, 1)) (h : Ax ph X (pc + 1) ls (vI (iShl x z) :: st) σ) : Ax ph X pc ls (vI z :: vI x :: st) σ :=
  ax_pure hX h (fun q => okp (w32_in _) (okc (okc q).2).2) (fun G p l e R s m args below meth c H locs cells slots Qw lsC hx hb hs kk => lv_ishl hx hb hd (by rw [i32_shl]; exact kk))
theorem ax_ishr {x z : Int} (hX : CxOk ph X y k σ0 Q E) (hd : decode y.2.1 pc = .ok (.ishr, 1)) (h : Ax ph X (pc + 1) ls (vI (iShr x z) :: st) σ) : Ax ph X pc ls (vI z :: vI x :: st) σ :=
  ax_pure hX h (fun q => okp (iShr_in _ (okc (okc q).2).1) (okc (okc q).2).2) (fun G p l e R s m args below meth c H locs cells slots Qw lsC hx hb hs kk => lv_ishr hx hb hd (by rw [i32_shr _ (okc (okc hs).2).1]; exact kk))
theorem ax_iushr {x z : Int} (hX : CxOk ph X y k σ0 Q E) (hd : decode y.2.1 pc = .ok (.iushr, 1)) (h : Ax ph X (pc + 1) ls (vI (iUsh x z) :: st) σ) : Ax ph X pc ls (vI z :: vI x :: st) σ :=
  ax_pure hX h (fun q => okp (w32_in _) (okc (okc q).2).2) (fun G p l e R s m args below meth c H locs cells slots Qw lsC hx hb hs kk => lv_iushr hx hb hd (i32_ush x z) kk)
theorem ax_ladd {x z : Int} (hX : CxOk ph X y k σ0 Q E) (hd : decode y.2.1 pc = .ok (.ladd, 1)) (h : Ax ph X (pc + 1) ls (vJ (w64 (x + z)) :: st) σ) : Ax ph X pc ls (vJ z :: vJ x :: st) σ :=
  ax_pure hX h (fun q => okp (w64_in _) (okc (okc q).2).2) (fun G p l e R s m args below meth c H locs cells slots Qw lsC hx hb hs kk => lv_ladd hx hb hd (by rw [i64_add]; exact kk))
theorem ax_lsub {x z : Int} (hX : CxOk ph X y k σ0 Q E) (hd : decode y.2.1 pc = .ok (.lsub, 1)) (h : Ax ph X (pc + 1) ls (vJ (w64 (x - z)) :: st) σ) : Ax ph X pc ls (vJ z :: vJ x :: st) σ :=
  ax_pure hX h (fun q => okp (w64_in _) (okc (okc q).2).2) (fun G p l e R s m args below meth c H locs cells slots Qw lsC hx hb hs kk => lv_lsub hx hb hd (by rw [i64_sub]; exact kk))
theorem ax_lmul {x z : Int} (hX : CxOk ph X y k σ0 Q E) (hd : decode y.2.1 pc = .ok (.lmul, 1)) (h : Ax ph X (pc + 1) ls (vJ (w64 (x * z)) :: st) σ) : Ax ph X pc ls (vJ z :: vJ x :: st) σ :=
  ax_pure hX h (fun q => okp (w64_in _) (okc (okc q).2).2) (fun G p l e R s m args below meth c H locs cells slots Qw lsC hx hb hs kk => lv_lmul hx hb hd (by rw [i64_mul]; exact kk))
theorem ax_ldiv {x z : Int} (hX : CxOk ph X y k σ0 Q E) (hz : ¬ z = 0) (hd : decode y.2.1 pc = .ok (.ldiv, 1)) (h : Ax ph X (pc + 1) ls (vJ (w64 (x.tdiv z)) :: st) σ) : Ax ph X pc ls (vJ z :: vJ x :: st) σ :=
  ax_pure hX h (fun q => okp (w64_in _) (okc (okc q).2).2) (fun G p l e R s m args below meth c H locs cells slots Qw lsC hx hb hs kk => lv_ldiv hx hb hd (by
    rw [i64_c0, i64_eq (okc hs).1 (by unfold in64; omega)]; exact hz) (by rw [i64_div (okc (okc hs).2).1 (okc hs).1]; exact kk))
theorem ax_lrem {x z : Int} (hX : CxOk ph X y k σ0 Q E) (hz : ¬ z = 0) (hd : decode y.2.1 pc = .ok (.lrem, 1)) (h : Ax ph X (pc + 1) ls (vJ (x.tmod z) :: st) σ) : Ax ph X pc ls (vJ z :: vJ x :: st) σ :=
  ax_pure hX h (fun q => okp (tmod_in64 (okc (okc q).2).1) (okc (okc q).2).2) (fun G p l e R s m args below meth c H locs cells slots Qw lsC hx hb hs kk => lv_lrem hx hb hd (by
    rw [i64_c0, i64_eq (okc hs).1 (by unfold in64; omega)]; exact hz) (by rw [i64_rem (okc (okc hs).2).1 (okc hs).1]; exact kk))
theorem ax_lneg {x : Int} (hX : CxOk ph X y k σ0 Q E) (hd : decode y.2.1 pc = .ok (.lneg, 1)) (h : Ax ph X (pc + 1) ls (vJ (w64 (-x)) :: st) σ) : Ax ph X pc ls (vJ x :: st) σ :=
  ax_pure hX h (fun q => okp (w64_in _) (okc q).2) (fun G p l e R s m args below meth c H locs cells slots Qw lsC hx hb hs kk => lv_lneg hx hb hd (by rw [i64_neg]; exact kk))
theorem ax_land {x z : Int} (hX : CxOk ph X y k σ0 Q E) (hd : decode y.2.1 pc = .ok (.land, 1)) (h : Ax ph X (pc + 1) ls (vJ (jAnd x z) :: st) σ) : Ax ph X pc ls (vJ z :: vJ x :: st) σ :=
  ax_pure hX h (fun q => okp (in64_and _ _) (okc (okc q).2).2) (fun G p l e R s m args below meth c H locs cells slots Qw lsC hx hb hs kk => lv_land hx hb hd (by rw [i64_and]; exact kk))
theorem ax_lor {x z : Int} (hX : CxOk ph X y k σ0 Q E) (hd : decode y.2.1 pc = .ok (.lor, 1)) (h : Ax ph X (pc + 1) ls (vJ (jOr x z) :: st) σ) : Ax ph X pc ls (vJ z :: vJ x :: st) σ :=
  ax_pure hX h (fun q => okp (in64_or _ _) (okc (okc q).2).2) (fun G p l e R s m args below meth c H locs cells slots Qw lsC hx hb hs kk => lv_lor hx hb hd (by rw [i64_or]; exact kk))
theorem ax_lxor {x z : Int} (hX : CxOk ph X y k σ0 Q E) (hd : decode y.2.1 pc = .ok (.lxor, 1)) (h : Ax ph X (pc + 1) ls (vJ (jXor x z) :: st) σ) : Ax ph X pc ls (vJ z :: vJ x :: st) σ :=
  ax_pure hX h (fun q => okp (in64_xor _ _) (okc (okc q).2).2) (fun G p l e R s m args below meth c H locs cells slots Qw lsC hx hb hs kk => lv_lxor hx hb hd (by rw [i64_xor]; exact kk))
theorem ax_lshl {x z : Int} (hX : CxOk ph X y k σ0 Q E) (hd : decode y.2.1 pc = .ok (.lshl, 1)) (h : Ax ph X (pc + 1) ls (vJ (jShl x z) :: st) σ) : Ax ph X pc ls (vI z :: vJ x :: st) σ :=
  ax_pure hX h (fun q => okp (w64_in _) (okc (okc q).2).2) (fun G p l e R s m args below meth c H locs cells slots Qw lsC hx hb hs kk => lv_lshl hx hb hd (i64_shl (okc hs).1) kk)
theorem ax_lshr {x z : Int} (hX : CxOk ph X y k σ0 Q E) (hd : decode y.2.1 pc = .ok (.lshr, 1)) (h : Ax ph X (pc + 1) ls (vJ (jShr x z) :: st) σ) : Ax ph X pc ls (vI z :: vJ x :: st) σ :=
  ax_pure hX h (fun q => okp (jShr_in _ (okc (okc q).2).1) (okc (okc q).2).2) (fun G p l e R s m args below meth c H locs cells slots Qw lsC hx hb hs kk => lv_lshr hx hb hd (i64_shr (okc (okc hs).2).1 (okc hs).1) kk)
theorem ax_lushr {x z : Int} (hX : CxOk ph X y k σ0 Q E) (hd : decode y.2.1 pc = .ok (.lushr, 1)) (h : Ax ph X (pc + 1) ls (vJ (jUsh x z) :: st) σ) : Ax ph X pc ls (vI z :: vJ x :: st) σ :=
  ax_pure hX h (fun q => okp (w64_in _) (okc (okc q).2).2) (fun G p l e R s m args below meth c H locs cells slots Qw lsC hx hb hs kk => lv_lushr hx hb hd (i64_ush (okc hs).1) kk)
theorem ax_lcmp {x z : Int} (hX : CxOk ph X y k σ0 Q E) (hd : decode y.2.1 pc = .ok (.lcmp, 1)) (h : Ax ph X (pc + 1) ls (vI (jCmp x z) :: st) σ) : Ax ph X pc ls (vJ z :: vJ x :: st) σ :=
  ax_pure hX h (fun q => okp (jCmp_in _ _) (okc (okc q).2).2) (fun G p l e R s m args below meth c H locs cells slots Qw lsC hx hb hs kk => W.lcmp hx hb hd (by rw [i64_cmp (okc (okc hs).2).1 (okc hs).1]; exact kk))
theorem ax_i2l {x : Int} (hX : CxOk ph X y k σ0 Q E) (hd : decode y.2.1 pc = .ok (.i2l, 1)) (h : Ax ph X (pc + 1) ls (vJ x :: st) σ) : Ax ph X pc ls (vI x :: st) σ :=
  ax_pure hX h (fun q => okp (by have h1 : in32 x := (okc q).1; show in64 x; unfold in32 at h1; unfold in64; omega) (okc q).2) (fun G p l e R s m args below meth c H locs cells slots Qw lsC hx hb hs kk => lv_i2l hx hb hd (i32_i2l (okc hs).1) kk)
theorem ax_l2i {x : Int} (hX : CxOk ph X y k σ0 Q E) (hd : decode y.2.1 pc = .ok (.l2i, 1)) (h : Ax ph X (pc + 1) ls (vI (w32 x) :: st) σ) : Ax ph X pc ls (vJ x :: st) σ :=
  ax_pure hX h (fun q => okp (w32_in _) (okc q).2) (fun G p l e R s m args below meth c H locs cells slots Qw lsC hx hb hs kk => lv_l2i hx hb hd (i64_l2i x) kk)
theorem ax_i2b {x : Int} (hX : CxOk ph X y k σ0 Q E) (hd : decode y.2.1 pc = .ok (.i2b, 1)) (h : Ax ph X (pc + 1) ls (vI (w8 x) :: st) σ) : Ax ph X pc ls (vI x :: st) σ :=
  ax_pure hX h (fun q => okp (show in32 (w8 x) by unfold w8 in32; omega) (okc q).2) (fun G p l e R s m args below meth c H locs cells slots Qw lsC hx hb hs kk => lv_i2b hx hb hd (i32_i2b x) kk)
theorem oV_cat (o : Option Nat) : (oV o).category = 1 := by cases o <;> rfl
theorem cO_cat (G : Gp) (r : Int) : (cO G r).category = 1 := by
  unfold cO
  split
  · rfl
  · split
    · rfl
    · exact oV_cat _
theorem cV_cat (G : Gp) (v : AV) : (cV G v).category = avW v := by
  rcases v with x | x | r | q
  · rfl
  · rfl
  · exact cO_cat G r
  · rfl
theorem ax_dup {v : AV} (hX : CxOk ph X y k σ0 Q E) (hv : avW v = 1) (hd : decode y.2.1 pc = .ok (.dup, 1)) (h : Ax ph X (pc + 1) ls (v :: v :: st) σ) : Ax ph X pc ls (v :: st) σ :=
  ax_pure hX h (fun q => okp (okc q).1 q) (fun G p l e R s m args below meth c H locs cells slots Qw lsC hx hb hs kk => lv_dup hx hb hd (by rw [cV_cat]; exact hv) kk)
theorem ax_pop {v : AV} (hX : CxOk ph X y k σ0 Q E) (hv : avW v = 1) (hd : decode y.2.1 pc = .ok (.pop, 1)) (h : Ax ph X (pc + 1) ls st σ) : Ax ph X pc ls (v :: st) σ :=
  ax_pure hX h (fun q => (okc q).2) (fun G p l e R s m args below meth c H locs cells slots Qw lsC hx hb hs kk => lv_pop hx hb hd (by rw [cV_cat]; exact hv) kk)
theorem ax_dup_x1 {v w : AV} (hX : CxOk ph X y k σ0 Q E) (hv : avW v = 1) (hw : avW w = 1) (hd : decode y.2.1 pc = .ok (.dup_x1, 1)) (h : Ax ph X (pc + 1) ls (v :: w :: v :: st) σ) : Ax ph X pc ls (v :: w :: st) σ :=
  ax_pure hX h (fun q => okp (okc q).1 (okp (okc (okc q).2).1 (okp (okc q).1 (okc (okc q).2).2))) (fun G p l e R s m args below meth c H locs cells slots Qw lsC hx hb hs kk => lv_dup_x1 hx hb hd (by rw [cV_cat]; exact hv) (by rw [cV_cat]; exact hw) kk)
theorem ax_dup2 {v w : AV} (hX : CxOk ph X y k σ0 Q E) (hv : avW v = 1) (hw : avW w = 1) (hd : decode y.2.1 pc = .ok (.dup2, 1)) (h : Ax ph X (pc + 1) ls (v :: w :: v :: w :: st) σ) : Ax ph X pc ls (v :: w :: st) σ :=
  ax_pure hX h (fun q => okp (okc q).1 (okp (okc (okc q).2).1 q)) (fun G p l e R s m args below meth c H locs cells slots Qw lsC hx hb hs kk => lv_dup2_11 hx hb hd (by rw [cV_cat]; exact hv) (by rw [cV_cat]; exact hw) kk)
theorem ax_goto {off : Int} {tgt : Nat} (hX : CxOk ph X y k σ0 Q E) (ht : (pc : Int) + off = tgt) (hd : decode y.2.1 pc = .ok (.goto off, 3)) (h : Ax ph X tgt ls st σ) : Ax ph X pc ls st σ :=
  ax_pure hX h (fun q => q) (fun G p l e R s m args below meth c H locs cells slots Qw lsC hx hb hs kk => lv_goto hx hb hd ht kk)
end Rows
