/-! THE WALK's CONDITION SUFFICES -/
set_option maxRecDepth 100000
theorem q_of {own : String} {L : List LQ} (h : ∀ q ∈ L, QOk own q) {q : LQ} (hq : L.contains q = true) : QOk own q := h q (by simpa using hq)
theorem cmp_j {cd : Jvm.ClassFile.Cond} {b : Nat} {x z : Int} (h : cdB cd b = true) : cmpI cd (jCmp x z) 0 ↔ cmpN b x z := by
  unfold jCmp
  cases cd <;> simp only [cdB, beq_iff_eq] at h <;> subst h <;> simp only [cmpI, cmpN] <;> (split <;> (try split) <;> omega)
def segK (il : Nat → Bool) (mc : Bool) (ph scL : Nat) (scX : Nat → Int) (d : Md) (n : Nat) : Prop := ∀ (k a : Nat) (X : Cx) (σ0 τ : Sg) (Qx : Option AV → Sg → Prop) (Ex : Int → Sg → Prop) (cuts : List Nat) (K : Nat → List (Option AV) → List AV → Sg → Prop) (Q : Option AV → Sg → Prop) (E : Int → Sg → Prop) (b : Bool) (cur : List En) (ls : List (Option AV)) (st : List AV) (σ : Sg),
  a < 454 → Low τ → CxOk ph X (mY a) k σ0 Qx Ex → ((mY a).1.cls = "CircuitWardenLaw" → X.1.2.2.2.2.2.1 = scL ∧ X.1.2.2.2.2.2.2 = scX) → (∀ r σ', Fr d τ σ' → Q r σ' → Qx r σ') → (∀ x σ', Fr (mdX d) τ σ' → E x σ' → Ex x σ') → (∀ pc ls st σ', Fr d τ σ' → K pc ls st σ' → Ax ph X pc ls st σ') → (∃ pre, tb a = pre ++ cur) → ls.length = (mY a).2.2.1 → Fr d τ σ →
  seg il mc ph scL scX d n k (tb a) cuts (mY a).2.2.2.2 K Q E b cur ls st σ → ∃ en rest, cur = en :: rest ∧ Ax ph X en.1 ls st σ
theorem wf_app : ∀ (pre t : List En), wfT (pre ++ t) = true → wfT t = true
  | [], t, h => h
  | e :: pre, t, h => by
    cases hp : pre ++ t with
    | nil =>
      have : t = [] := (List.append_eq_nil_iff.mp hp).2
      rw [this]; rfl
    | cons e2 r =>
      have h1 : wfT (e :: (pre ++ t)) = true := h
      rw [hp] at h1
      unfold wfT at h1
      simp only [Bool.and_eq_true] at h1
      have h2 := h1.2
      rw [← hp] at h2
      exact wf_app pre t h2
theorem tab_at {y : MI} {tab : List En} {L : List LQ} (h : TabOk y tab L) {en : En} (he : en ∈ tab) : decode y.2.1 en.1 = .ok (en.2.1, en.2.2.1) ∧ lkB L en = true ∧ etB y en = true := by
  obtain ⟨h1, h2, h3, -⟩ := h
  exact ⟨by simpa using List.all_eq_true.mp h1 en he, List.all_eq_true.mp h2 en he, List.all_eq_true.mp h3 en he⟩
theorem dropW {tab : List En} {p : Nat} {en : En} {rest : List En} (h : tab.dropWhile (fun e => !(e.1 == p)) = en :: rest) : en.1 = p := by
  have := List.head?_dropWhile_not (fun e : En => !(e.1 == p)) tab
  rw [h] at this
  simpa using this
theorem dropW_suf (tab : List En) (p : En → Bool) : ∃ pre, tab = pre ++ tab.dropWhile p := ⟨tab.takeWhile p, (List.takeWhile_append_dropWhile).symm⟩
theorem t_zero : ∀ a, a < 454 → match tb a with | [] => True | e :: _ => e.1 = 0 := by
  have h : tbL.all (fun t => match t with | [] => true | e :: _ => e.1 == 0) = true := by decide +kernel
  have hl : tbL.length = 454 := by decide +kernel
  intro a ha
  have e1 : tb a = tbL[a] := by unfold tb; rw [List.getD_eq_getElem?_getD, List.getElem?_eq_getElem (by omega)]; rfl
  have h1 := List.all_eq_true.mp h _ (List.getElem_mem (show a < tbL.length by omega))
  have h2 : (match tb a with | [] => true | e :: _ => e.1 == 0) = true := by rw [e1]; exact h1
  clear h1 e1
  generalize tb a = T at h2 ⊢
  cases T with
  | nil => trivial
  | cons e t => simpa using h2
theorem ovf {ea : Nat} {P : Int → Prop} {x : Int} (h : bif ea == 1 then P (w32 x) else b32 x (P x)) : P (w32 x) := by
  cases he : (ea == 1) with
  | true => rw [he] at h; exact h
  | false =>
    rw [he] at h
    obtain ⟨h1, h9⟩ := h
    rw [w32_id (show in32 x from h1)]
    exact h9
theorem lsE_len {n : Nat} {as : List AV} (h : (as.map avW).sum ≤ n) : (lsE n as).length = n := by
  unfold lsE
  have hlen : ∀ (f : AV → List (Option AV)), (∀ v, (f v).length = avW v) → ∀ as : List AV, (as.flatMap f).length = (as.map avW).sum := by
    intro f hf as
    induction as with
    | nil => rfl
    | cons v t ih =>
      rw [List.flatMap_cons, List.length_append, ih, List.map_cons, List.sum_cons, hf]
  simp only [List.length_append, List.length_replicate]
  rw [hlen]
  · omega
  · intro v
    rcases v with x | x | x | q <;> rfl
theorem swT_mono {pc : Nat} {x : Int} {go go' : Nat → Prop} (hg : ∀ p, go p → go' p) : ∀ (os : List Int) (lo : Int), swT pc x go lo os → swT pc x go' lo os
  | [], _, _ => trivial
  | o :: t, lo, h => ⟨fun c => hg _ (h.1 c), swT_mono hg t (lo + 1) h.2⟩
theorem swL_mono {pc : Nat} {x d : Int} {go go' : Nat → Prop} (hg : ∀ p, go p → go' p) : ∀ (ps : List (Int × Int)), swL pc x d go ps → swL pc x d go' ps
  | [], h => hg _ h
  | q :: t, h => ⟨fun c => hg _ (h.1 c), fun c => swL_mono hg t (h.2 c)⟩
theorem lcmp_row {y : MI} {tab : List En} {L : List LQ} {ph k pc eb : Nat} {ec : Int} {X : Cx} {σ0 σ : Sg} {Q : Option AV → Sg → Prop} {E : Int → Sg → Prop} {x z : Int} {ls : List (Option AV)} {st : List AV} {pre rest : List En} {ea : Nat} {S : List En → Prop} {J : Nat → Prop} (he : ea = 1) (hwf : wfT ((pc, .lcmp, 1, ea, eb, ec) :: rest) = true) (hpre : tab = pre ++ (pc, .lcmp, 1, ea, eb, ec) :: rest) (hT : TabOk y tab L)
    (hX : CxOk ph X y k σ0 Q E) (hd : decode y.2.1 pc = .ok (.lcmp, 1)) (hjp : J ec.toNat → Ax ph X ec.toNat ls st σ) (hn2 : S rest.tail → ∃ en' rest', rest.tail = en' :: rest' ∧ Ax ph X en'.1 ls st σ) (h1 : cmpN eb x z → J ec.toNat) (h2 : ¬ cmpN eb x z → S rest.tail) : Ax ph X pc ls (vJ z :: vJ x :: st) σ := by
  subst he
  refine ax_lcmp hX hd ?_
  cases rest with
  | nil => cases hwf
  | cons e2 t =>
    have hm : e2 ∈ tab := by rw [hpre]; simp
    obtain ⟨d1, -, d3⟩ := tab_at hT hm
    obtain ⟨pc2, ins2, len2, a2, b2, c2⟩ := e2
    unfold wfT at hwf
    simp only [Bool.and_eq_true, beq_iff_eq] at hwf
    obtain ⟨⟨w1, w2⟩, w3⟩ := hwf
    cases ins2 with
    | ifCond cd off =>
      have w2 : (((pc2 : Int) + off == ec) && (decide (0 ≤ ec) && cdB cd eb)) = true := w2
      simp only [Bool.and_eq_true, beq_iff_eq, decide_eq_true_eq] at w2
      obtain ⟨v1, v2, v3⟩ := w2
      have hl : len2 = 3 := by
        have h1 : (decide (0 ≤ (pc2 : Int) + off) && len2 == 3) = true := d3
        simp only [Bool.and_eq_true, beq_iff_eq] at h1
        exact h1.2
      subst hl
      have w1 : pc2 = pc + 1 := w1
      subst w1
      have hc := cmp_j (x := x) (z := z) v3
      refine ax_if hX (tgt := ec.toNat) (by omega) d1 (fun c => hjp (h1 (hc.mp c))) (fun c => ?_)
      obtain ⟨en', rest', e3, e4⟩ := hn2 (h2 (fun q => c (hc.mpr q)))
      have e3 : t = en' :: rest' := e3
      subst e3
      unfold wfT at w3
      simp only [Bool.and_eq_true, beq_iff_eq] at w3
      have w4 : en'.1 = pc + 1 + 3 := w3.1.1
      rw [w4] at e4
      exact e4
    | _ => cases w2
theorem alen_row {ph k a pc scL : Nat} {scX : Nat → Int} {X : Cx} {y : MI} {σ0 σ : Sg} {Q : Option AV → Sg → Prop} {E : Int → Sg → Prop} {ls : List (Option AV)} {st : List AV} {go : List AV → Prop} (hX : CxOk ph X y k σ0 Q E) (hsc : a = 1 → X.1.2.2.2.2.2.1 = scL ∧ X.1.2.2.2.2.2.2 = scX) (hd : decode y.2.1 pc = .ok (.arraylength, 1)) (hgo : ∀ st', go st' → Ax ph X (pc + 1) ls st' σ) {v : AV} (h : match v with
        | .inr (.inr (.inr q)) => chk (Nat.ble q.1 8) (q.2.2.2 = gV σ q.2.1 q.2.2.1 ∧ go (vI (gL σ q.2.1 q.2.2.1) :: st))
        | .inr (.inr (.inl r)) => bif a == 1 then chk (r == -301) (go (vI scL :: st)) else chk (a == 2) (∃ cs, strOf (r + 300) = some cs ∧ go (vI (cs.length : Nat) :: st))
        | _ => False) : Ax ph X pc ls (v :: st) σ := by
  rcases v with x | x | r | q
  · exact h.elim
  · exact h.elim
  · have h : (bif a == 1 then chk (r == -301) (go (vI scL :: st)) else chk (a == 2) (∃ cs, strOf (r + 300) = some cs ∧ go (vI (cs.length : Nat) :: st))) := h
    by_cases c1 : a = 1
    · subst c1
      obtain ⟨hq, h9⟩ := chk_of (show chk (r == -301) (go (vI scL :: st)) from h)
      simp only [beq_iff_eq] at hq
      subst hq
      obtain ⟨e1, e2⟩ := hsc rfl
      refine ax_cst (fun s hC => ?_) hX
      obtain ⟨a, n1, n2, n3, n4⟩ := hC.2.2.1.2.1
      refine ax_alenC (N := scL) (ty := .int) hX (by omega) (fun s hC => ?_) hd (hgo _ h9)
      obtain ⟨a, n1, n2, n3, n4⟩ := hC.2.2.1.2.1
      exact ⟨a, _, cO_neg (n := 301) (by omega) n1, by rw [← e1]; exact n4⟩
    · have z1 : (a == 1) = false := by simpa using c1
      rw [z1] at h
      obtain ⟨hq, cs, hcs, h9⟩ := chk_of h
      obtain ⟨n, n1, n2, n3, n4, n5, n6⟩ := str_lt hcs
      refine ax_alenC (N := cs.length) (ty := .byte) hX (by omega) (fun s hC => ?_) hd (hgo _ h9)
      obtain ⟨a, b, c1, c2, c3, c4, c5, c6⟩ := hC.2.1 _ n4
      refine ⟨b, _, ?_, c6⟩
      have e1 := cO_neg (by omega) c2
      rw [show -((n + 300 : Nat) : Int) = r by omega] at e1
      exact e1
  · obtain ⟨hq, hv, h9⟩ := chk_of h
    exact ax_alen hX (by simpa using hq) hv hd (hgo _ h9)
theorem seg_sound {il : Nat → Bool} {mc : Bool} {ph scL : Nat} {scX : Nat → Int} {d : Md} (hgr : mc = true → GrowOk) (hord : MiOk nOrd 0 ∧ Cond.instanceMethod (mY nOrd).1 ∈ lw_all) (tok : ∀ a, a < 454 → ∃ L, TabOk (mY a) (tb a) L) : ∀ n, segK il mc ph scL scX d n
  | 0 => fun _ _ _ _ _ _ _ _ _ _ _ _ _ _ _ _ _ _ _ _ _ _ _ _ _ _ h => h.elim
  | n + 1 => by
    have ih : segK il mc ph scL scX d n := seg_sound hgr hord tok n
    intro k a X σ0 τ Qx Ex cuts K Q E b cur ls st σ ha hLo hX hsc hQ hE hK hcur hls hFr h
    cases cur with
    | nil => exact False.elim h
    | cons en rest =>
      refine ⟨en, rest, rfl, ?_⟩
      cases hb : (b && cuts.contains en.1) with
      | true =>
        have h : (bif b && cuts.contains en.1 then K en.1 ls st σ else _) := h
        rw [hb] at h
        exact hK _ _ _ _ hFr h
      | false =>
        have h : (bif b && cuts.contains en.1 then K en.1 ls st σ else
          stp ph scL scX d k mc (fun a as σ Q' E' => bif il a then seg il mc ph scL scX d n (k - 1) (tb a) [] (mY a).2.2.2.2 (fun _ _ _ _ => False) Q' E' false (tb a) (lsE (mY a).2.2.1 as) [] σ else chk (subMd (mdT a as) d) ((bif cnt d || tmp d then Low σ else True) ∧ Ct ph a (k - 1) as σ Q' E')) Q E (mY a).2.2.2.2 en
            (fun ls st σ => seg il mc ph scL scX d n k (tb a) cuts (mY a).2.2.2.2 K Q E true rest ls st σ) (fun ls st σ => seg il mc ph scL scX d n k (tb a) cuts (mY a).2.2.2.2 K Q E true rest.tail ls st σ) (fun pc ls st σ => seg il mc ph scL scX d n k (tb a) cuts (mY a).2.2.2.2 K Q E true ((tb a).dropWhile (fun e => !(e.1 == pc))) ls st σ) ls st σ) := h
        rw [hb] at h
        have h : stp ph scL scX d k mc (fun a as σ Q' E' => bif il a then seg il mc ph scL scX d n (k - 1) (tb a) [] (mY a).2.2.2.2 (fun _ _ _ _ => False) Q' E' false (tb a) (lsE (mY a).2.2.1 as) [] σ else chk (subMd (mdT a as) d) ((bif cnt d || tmp d then Low σ else True) ∧ Ct ph a (k - 1) as σ Q' E')) Q E (mY a).2.2.2.2 en
            (fun ls st σ => seg il mc ph scL scX d n k (tb a) cuts (mY a).2.2.2.2 K Q E true rest ls st σ) (fun ls st σ => seg il mc ph scL scX d n k (tb a) cuts (mY a).2.2.2.2 K Q E true rest.tail ls st σ) (fun pc ls st σ => seg il mc ph scL scX d n k (tb a) cuts (mY a).2.2.2.2 K Q E true ((tb a).dropWhile (fun e => !(e.1 == pc))) ls st σ) ls st σ := h
        obtain ⟨pre, hpre⟩ := hcur
        obtain ⟨L, hT⟩ := tok a ha
        have hen : en ∈ tb a := by rw [hpre]; simp
        obtain ⟨hd, hlk, het⟩ := tab_at hT hen
        have hwf := wf_app pre _ (by rw [← hpre]; exact hT.2.2.2.1)
        have hqs := hT.2.2.2.2.1
        have hthr := hT.2.2.2.2.2.1 en hen
        have hhnd := hT.2.2.2.2.2.2
        have hnx : ∀ (ls' : List (Option AV)) (st' : List AV) (σ' : Sg), ls'.length = ls.length → Fr d τ σ' → seg il mc ph scL scX d n k (tb a) cuts (mY a).2.2.2.2 K Q E true rest ls' st' σ' → Ax ph X (en.1 + en.2.2.1) ls' st' σ' := by
          intro ls' st' σ' e1 e2 h
          obtain ⟨en', rest', e3, e4⟩ := ih k a X σ0 τ Qx Ex cuts K Q E true rest ls' st' σ' ha hLo hX hsc hQ hE hK ⟨pre ++ [en], by rw [hpre]; simp⟩ (e1.trans hls) e2 h
          rw [e3] at hwf
          unfold wfT at hwf
          simp only [Bool.and_eq_true, beq_iff_eq] at hwf
          rw [← hwf.1.1]
          exact e4
        have hjp : ∀ (p : Nat) (ls' : List (Option AV)) (st' : List AV) (σ' : Sg), ls'.length = ls.length → Fr d τ σ' → seg il mc ph scL scX d n k (tb a) cuts (mY a).2.2.2.2 K Q E true ((tb a).dropWhile (fun e => !(e.1 == p))) ls' st' σ' → Ax ph X p ls' st' σ' := by
          intro p ls' st' σ' e1 e2 h
          obtain ⟨en', rest', e3, e4⟩ := ih k a X σ0 τ Qx Ex cuts K Q E true _ ls' st' σ' ha hLo hX hsc hQ hE hK (dropW_suf _ _) (e1.trans hls) e2 h
          rw [← dropW e3]
          exact e4
        have hex : ∀ (x : Int) (σ' : Sg), Fr (mdX d) τ σ' → (match (mY a).2.2.2.2.find? (fun h => Nat.ble h.1 en.1 && Nat.blt en.1 h.2.1) with | some h => chk (cnt d) (seg il mc ph scL scX d n k (tb a) cuts (mY a).2.2.2.2 K Q E true ((tb a).dropWhile (fun e => !(e.1 == h.2.2.1))) ls [vO x] σ') | none => E x σ') → Hx ph X (mY a) en.1 ls Ex x σ' := by
          intro x σ' e2 h
          unfold Hx
          cases hf : (mY a).2.2.2.2.find? (fun h => Nat.ble h.1 en.1 && Nat.blt en.1 h.2.1) with
          | none => rw [hf] at h; exact hE x σ' e2 h
          | some hh =>
            rw [hf] at h
            obtain ⟨c1, c2⟩ := hhnd.2 hh (List.mem_of_find?_eq_some hf)
            obtain ⟨hc, h9⟩ := chk_of h
            exact ⟨c1, c2, hjp _ _ _ _ rfl (fr_sub (sub_unX hc) e2) h9⟩
        have hcall : ∀ (a' : Nat), a' < 453 → ∀ (st' : List AV) (as : List AV), (bif il a' then seg il mc ph scL scX d n (k - 1) (tb a') [] (mY a').2.2.2.2 (fun _ _ _ _ => False) (fun r σ' => seg il mc ph scL scX d n k (tb a) cuts (mY a).2.2.2.2 K Q E true rest ls (r.toList ++ st') σ') (fun x σ' => match (mY a).2.2.2.2.find? (fun h => Nat.ble h.1 en.1 && Nat.blt en.1 h.2.1) with | some h => chk (cnt d) (seg il mc ph scL scX d n k (tb a) cuts (mY a).2.2.2.2 K Q E true ((tb a).dropWhile (fun e => !(e.1 == h.2.2.1))) ls [vO x] σ') | none => E x σ') false (tb a') (lsE (mY a').2.2.1 as) [] σ
            else chk (subMd (mdT a' as) d) ((bif cnt d || tmp d then Low σ else True) ∧ Ct ph a' (k - 1) as σ (fun r σ' => seg il mc ph scL scX d n k (tb a) cuts (mY a).2.2.2.2 K Q E true rest ls (r.toList ++ st') σ') (fun x σ' => match (mY a).2.2.2.2.find? (fun h => Nat.ble h.1 en.1 && Nat.blt en.1 h.2.1) with | some h => chk (cnt d) (seg il mc ph scL scX d n k (tb a) cuts (mY a).2.2.2.2 K Q E true ((tb a).dropWhile (fun e => !(e.1 == h.2.2.1))) ls [vO x] σ') | none => E x σ'))) →
            (as.map avW).sum ≤ (mY a').2.2.1 → Cn ph (mY a') (k - 1) as σ (fun r σ' => Ax ph X (en.1 + en.2.2.1) ls (r.toList ++ st') σ') (fun x σ' => Hx ph X (mY a) en.1 ls Ex x σ') := by
          intro a' ha' st' as h haw
          cases hil : il a' with
          | true =>
            rw [hil] at h
            intro X' hX'
            obtain ⟨en', rest', e3, e4⟩ := ih (k - 1) a' X' σ τ _ _ [] (fun _ _ _ _ => False) _ _ false (tb a') (lsE (mY a').2.2.1 as) [] σ (by omega) hLo hX' (fun c => absurd c (law_only a' ha')) (fun r σ' e1 e2 => hnx _ _ _ rfl e1 e2) (fun x σ' e1 e2 => hex x σ' e1 e2) (fun _ _ _ _ _ c => c.elim) ⟨[], rfl⟩ (lsE_len haw) hFr h
            obtain ⟨L', hT'⟩ := tok a' (by omega)
            have hz : en'.1 = 0 := by
              have := t_zero a' (by omega)
              rw [e3] at this
              exact this
            rw [hz] at e4
            exact e4
          | false =>
            rw [hil] at h
            obtain ⟨hsub, hl0, h⟩ := chk_of h
            have hlow : Low σ := by
              cases hcb : (cnt d || tmp d) with
              | true => rw [hcb] at hl0; exact hl0
              | false =>
                rw [Bool.or_eq_false_iff] at hcb
                exact fr_low hcb.1 hcb.2 hFr hLo
            refine cn_mono (h hlow) (fun r σ' _ _ hq => ?_) (fun x σ' _ hq => ?_)
            · exact hnx _ _ _ rfl (fr_trans hFr (fr_sub hsub hq.1)) hq.2
            · exact hex _ _ (fr_trans (fr_sub (sub_X d) hFr) (fr_sub (sub_XX hsub) hq.1)) hq.2
        obtain ⟨pc, ins, len, ea, eb, ec⟩ := en
        cases ins with
        | iconst i => 
          obtain ⟨h1, h2⟩ : (-1 ≤ i ∧ i ≤ 5) ∧ len = 1 := by simpa [etB] using het
          subst h2
          exact ax_iconst hX (by unfold in32; omega) hd (hnx _ _ _ rfl hFr h)
        | bipush i => 
          obtain ⟨h1, h2⟩ : (-128 ≤ i ∧ i ≤ 127) ∧ len = 2 := by simpa [etB] using het
          subst h2
          exact ax_bipush hX h1 hd (hnx _ _ _ rfl hFr h)
        | sipush i => 
          obtain ⟨h1, h2⟩ : (-32768 ≤ i ∧ i ≤ 32767) ∧ len = 3 := by simpa [etB] using het
          subst h2
          exact ax_sipush hX h1 hd (hnx _ _ _ rfl hFr h)
        | lconst i => 
          have hl : len = 1 := by simpa [etB] using het
          subst hl
          exact ax_lconst hX hd (hnx _ _ _ rfl hFr h)
        | ldc2_w i => 
          have hl : len = 3 := by simpa [etB] using het
          subst hl
          obtain ⟨v, hv, hc⟩ := q_of hqs hlk
          have hc : v.toInt = ec := hc
          subst hc
          exact ax_ldc2 hX hv hd (hnx _ _ _ rfl hFr h)
        | ldc i => 
          have hl : len = 2 := by simpa [etB] using het
          subst hl
          have hlk : (ea == 9 || L.contains (3, i, ea, eb, ec)) = true := hlk
          obtain ⟨h9, h⟩ := chk_of (show chk (!(ea == 9)) (seg il mc ph scL scX d n k (tb a) cuts (mY a).2.2.2.2 K Q E true rest ls (vO ec :: st) σ) from h)
          simp only [Bool.not_eq_true'] at h9
          rw [h9, Bool.false_or] at hlk
          obtain ⟨nn, tx, g1, g2⟩ := q_of hqs hlk
          have g1 : ec = -(nn : Int) := g1
          subst g1
          exact ax_ldcS hX g2 hd (hnx _ _ _ rfl hFr h)
        | getstatic i => 
          have hl : len = 3 := by simpa [etB] using het
          subst hl
          rcases q_of hqs hlk with ⟨j, hj, h0, hc, hf⟩ | ⟨h0, hc, hf⟩ | ⟨h0, hc, hf⟩ | ⟨h0, hc, hf⟩
          · have h0 : ea = 0 := h0
            have hc : ec = -((j : Int) + 1) := hc
            subst h0; subst hc
            refine ax_gets hX hf (v := vO (-((j : Int) + 1))) (fun G s hC => ?_) (Or.inr ⟨by omega, by omega⟩) hd (hnx _ _ _ rfl hFr h)
            obtain ⟨a, b, c1, c2, c3, -⟩ := hC.1 j hj
            have e1 := cO_neg (by omega) c1
            rw [show -((j + 1 : Nat) : Int) = -((j : Int) + 1) by omega] at e1
            show va_Z _ _ _ (cO G (-((j : Int) + 1))) (oA G) s G.2.1
            rw [e1]; exact c3
          · have h0 : ea = 0 := h0
            have hc : ec = -300 := hc
            subst h0; subst hc
            refine ax_gets hX hf (v := vO (-300)) (fun G s hC => ?_) (Or.inr ⟨by omega, by omega⟩) hd (hnx _ _ _ rfl hFr h)
            obtain ⟨a, c1, c2, c3⟩ := hC.2.2.1.1
            have e1 := cO_neg (n := 300) (by omega) c1
            show va_Z _ _ _ (cO G (-300)) (oA G) s G.2.1
            rw [show cO G (-300) = .ref a from e1]; exact c2
          · have h0 : ea = 1 := h0
            have hc : ec = 1 := hc
            subst h0; subst hc
            exact ax_gets hX hf (v := vI 1) (fun G s hC => hC.2.2.1.2.2.1) (show in32 1 by unfold in32; omega) hd (hnx _ _ _ rfl hFr h)
          · have h0 : ea = 0 := h0
            have hc : ec = -399 := hc
            subst h0; subst hc
            refine ax_gets hX hf (v := vO (-399)) (fun G s hC => ?_) (Or.inr ⟨by omega, by omega⟩) hd (hnx _ _ _ rfl hFr h)
            have e1 : cO G (-399) = oV (G.2.2.2.2.1 399) := by unfold cO; rw [if_neg (by omega), if_neg (by omega)]; rfl
            show va_Z _ _ _ (cO G (-399)) (oA G) s G.2.1
            rw [e1]; exact hC.2.2.1.2.2.2
        | iload i => 
          have hl : len = 2 := by simpa [etB] using het
          subst hl
          cases hv : ls.getD i none with
          | none => have h : (match ls.getD i none with | some (.inl x) => _ | _ => False) := h; rw [hv] at h; exact h.elim
          | some v => 
            have h : (match ls.getD i none with | some (.inl x) => seg il mc ph scL scX d n k (tb a) cuts (mY a).2.2.2.2 K Q E true rest ls (vI x :: st) σ | _ => False) := h
            rw [hv] at h
            rcases v with x | x | x | q
            all_goals first | exact False.elim h | exact ax_iload hX hv hd (hnx _ _ _ rfl hFr h)
        | lload i => 
          have hl : len = 2 := by simpa [etB] using het
          subst hl
          cases hv : ls.getD i none with
          | none => have h : (match ls.getD i none with | some (.inr (.inl x)) => _ | _ => False) := h; rw [hv] at h; exact h.elim
          | some v => 
            have h : (match ls.getD i none with | some (.inr (.inl x)) => seg il mc ph scL scX d n k (tb a) cuts (mY a).2.2.2.2 K Q E true rest ls (vJ x :: st) σ | _ => False) := h
            rw [hv] at h
            rcases v with x | x | x | q
            all_goals first | exact False.elim h | exact ax_lload hX hv hd (hnx _ _ _ rfl hFr h)
        | iload_n i => 
          have hl : len = 1 := by simpa [etB] using het
          subst hl
          cases hv : ls.getD i.val none with
          | none => have h : (match ls.getD i.val none with | some (.inl x) => _ | _ => False) := h; rw [hv] at h; exact h.elim
          | some v => 
            have h : (match ls.getD i.val none with | some (.inl x) => seg il mc ph scL scX d n k (tb a) cuts (mY a).2.2.2.2 K Q E true rest ls (vI x :: st) σ | _ => False) := h
            rw [hv] at h
            rcases v with x | x | x | q
            all_goals first | exact False.elim h | exact ax_iload_n hX hv hd (hnx _ _ _ rfl hFr h)
        | lload_n i => 
          have hl : len = 1 := by simpa [etB] using het
          subst hl
          cases hv : ls.getD i.val none with
          | none => have h : (match ls.getD i.val none with | some (.inr (.inl x)) => _ | _ => False) := h; rw [hv] at h; exact h.elim
          | some v => 
            have h : (match ls.getD i.val none with | some (.inr (.inl x)) => seg il mc ph scL scX d n k (tb a) cuts (mY a).2.2.2.2 K Q E true rest ls (vJ x :: st) σ | _ => False) := h
            rw [hv] at h
            rcases v with x | x | x | q
            all_goals first | exact False.elim h | exact ax_lload_n hX hv hd (hnx _ _ _ rfl hFr h)
        | aload i => 
          have hl : len = 2 := by simpa [etB] using het
          subst hl
          cases hv : ls.getD i none with
          | none => have h : (match ls.getD i none with | some (.inr (.inr v)) => _ | _ => False) := h; rw [hv] at h; exact h.elim
          | some v => 
            have h : (match ls.getD i none with | some (.inr (.inr v)) => seg il mc ph scL scX d n k (tb a) cuts (mY a).2.2.2.2 K Q E true rest ls (.inr (.inr v) :: st) σ | _ => False) := h
            rw [hv] at h
            rcases v with x | x | v
            · exact False.elim h
            · exact False.elim h
            · exact ax_aload hX hv hd (hnx _ _ _ rfl hFr h)
        | aload_n i => 
          have hl : len = 1 := by simpa [etB] using het
          subst hl
          cases hv : ls.getD i.val none with
          | none => have h : (match ls.getD i.val none with | some (.inr (.inr v)) => _ | _ => False) := h; rw [hv] at h; exact h.elim
          | some v => 
            have h : (match ls.getD i.val none with | some (.inr (.inr v)) => seg il mc ph scL scX d n k (tb a) cuts (mY a).2.2.2.2 K Q E true rest ls (.inr (.inr v) :: st) σ | _ => False) := h
            rw [hv] at h
            rcases v with x | x | v
            · exact False.elim h
            · exact False.elim h
            · exact ax_aload_n hX hv hd (hnx _ _ _ rfl hFr h)
        | istore i => 
          have hl : len = 2 := by simpa [etB] using het
          subst hl
          cases st with
          | nil => exact False.elim h
          | cons v st =>
            rcases v with x | x | x | q
            · obtain ⟨hl, h9⟩ := chk_of (show chk (Nat.blt i ls.length) (seg il mc ph scL scX d n k (tb a) cuts (mY a).2.2.2.2 K Q E true rest (lset ls i (vI x)) st σ) from h)
              exact ax_istore hX (by rw [← hls]; simpa [Nat.blt_eq] using hl) hd (hnx _ _ _ (lset_len _ _ _) hFr h9)
            all_goals exact False.elim h
        | istore_n i => 
          have hl : len = 1 := by simpa [etB] using het
          subst hl
          cases st with
          | nil => exact False.elim h
          | cons v st =>
            rcases v with x | x | x | q
            · obtain ⟨hl, h9⟩ := chk_of (show chk (Nat.blt i.val ls.length) (seg il mc ph scL scX d n k (tb a) cuts (mY a).2.2.2.2 K Q E true rest (lset ls i.val (vI x)) st σ) from h)
              exact ax_istore_n hX (by rw [← hls]; simpa [Nat.blt_eq] using hl) hd (hnx _ _ _ (lset_len _ _ _) hFr h9)
            all_goals exact False.elim h
        | lstore i => 
          have hl : len = 2 := by simpa [etB] using het
          subst hl
          cases st with
          | nil => exact False.elim h
          | cons v st =>
            rcases v with x | x | x | q
            · exact False.elim h
            · obtain ⟨hl, h9⟩ := chk_of (show chk (Nat.blt (i + 1) ls.length) (seg il mc ph scL scX d n k (tb a) cuts (mY a).2.2.2.2 K Q E true rest (lset2 ls i (vJ x)) st σ) from h)
              exact ax_lstore hX (by rw [← hls]; simpa [Nat.blt_eq] using hl) hd (hnx _ _ _ (lset2_len _ _ _) hFr h9)
            all_goals exact False.elim h
        | lstore_n i => 
          have hl : len = 1 := by simpa [etB] using het
          subst hl
          cases st with
          | nil => exact False.elim h
          | cons v st =>
            rcases v with x | x | x | q
            · exact False.elim h
            · obtain ⟨hl, h9⟩ := chk_of (show chk (Nat.blt (i.val + 1) ls.length) (seg il mc ph scL scX d n k (tb a) cuts (mY a).2.2.2.2 K Q E true rest (lset2 ls i.val (vJ x)) st σ) from h)
              exact ax_lstore_n hX (by rw [← hls]; simpa [Nat.blt_eq] using hl) hd (hnx _ _ _ (lset2_len _ _ _) hFr h9)
            all_goals exact False.elim h
        | astore i => 
          have hl : len = 2 := by simpa [etB] using het
          subst hl
          cases st with
          | nil => exact False.elim h
          | cons v st =>
            rcases v with x | x | v
            · exact False.elim h
            · exact False.elim h
            · obtain ⟨hl, h9⟩ := chk_of (show chk (Nat.blt i ls.length) (seg il mc ph scL scX d n k (tb a) cuts (mY a).2.2.2.2 K Q E true rest (lset ls i (.inr (.inr v))) st σ) from h)
              exact ax_astore hX (by rw [← hls]; simpa [Nat.blt_eq] using hl) hd (hnx _ _ _ (lset_len _ _ _) hFr h9)
        | astore_n i => 
          have hl : len = 1 := by simpa [etB] using het
          subst hl
          cases st with
          | nil => exact False.elim h
          | cons v st =>
            rcases v with x | x | v
            · exact False.elim h
            · exact False.elim h
            · obtain ⟨hl, h9⟩ := chk_of (show chk (Nat.blt i.val ls.length) (seg il mc ph scL scX d n k (tb a) cuts (mY a).2.2.2.2 K Q E true rest (lset ls i.val (.inr (.inr v))) st σ) from h)
              exact ax_astore_n hX (by rw [← hls]; simpa [Nat.blt_eq] using hl) hd (hnx _ _ _ (lset_len _ _ _) hFr h9)
        | iinc i e => 
          have hl : len = 3 := by simpa [etB] using het
          subst hl
          cases hv : ls.getD i none with
          | none => have h : (match ls.getD i none with | some (.inl x) => _ | _ => False) := h; rw [hv] at h; exact h.elim
          | some v => 
            have h : (match ls.getD i none with | some (.inl x) => b32 (x + e) (seg il mc ph scL scX d n k (tb a) cuts (mY a).2.2.2.2 K Q E true rest (lset ls i (vI (x + e))) st σ) | _ => False) := h
            rw [hv] at h
            rcases v with x | x | x | q
            · obtain ⟨h1, h9⟩ := h
              refine ax_iinc hX hv hd ?_
              rw [w32_id (show in32 (x + e) from h1)]
              exact hnx _ _ _ (lset_len _ _ _) hFr h9
            all_goals exact False.elim h
        | iadd => 
          have hl : len = 1 := by simpa [etB] using het
          subst hl
          rcases st with _ | ⟨v, _ | ⟨w, st⟩⟩
          · exact False.elim h
          · rcases v with x | x | x | q <;> exact False.elim h
          · rcases v with z | z | z | q <;> rcases w with x | x | x | q' <;> first | exact False.elim h | exact ax_iadd hX hd (hnx _ _ _ rfl hFr (ovf (ea := ea) (P := fun v => seg il mc ph scL scX d n k (tb a) cuts (mY a).2.2.2.2 K Q E true rest ls (vI v :: st) σ) h))
        | isub => 
          have hl : len = 1 := by simpa [etB] using het
          subst hl
          rcases st with _ | ⟨v, _ | ⟨w, st⟩⟩
          · exact False.elim h
          · rcases v with x | x | x | q <;> exact False.elim h
          · rcases v with z | z | z | q <;> rcases w with x | x | x | q' <;> first | exact False.elim h | exact ax_isub hX hd (hnx _ _ _ rfl hFr (ovf (ea := ea) (P := fun v => seg il mc ph scL scX d n k (tb a) cuts (mY a).2.2.2.2 K Q E true rest ls (vI v :: st) σ) h))
        | imul => 
          have hl : len = 1 := by simpa [etB] using het
          subst hl
          rcases st with _ | ⟨v, _ | ⟨w, st⟩⟩
          · exact False.elim h
          · rcases v with x | x | x | q <;> exact False.elim h
          · rcases v with z | z | z | q <;> rcases w with x | x | x | q' <;> first | exact False.elim h | exact ax_imul hX hd (hnx _ _ _ rfl hFr (ovf (ea := ea) (P := fun v => seg il mc ph scL scX d n k (tb a) cuts (mY a).2.2.2.2 K Q E true rest ls (vI v :: st) σ) h))
        | idiv => 
          have hl : len = 1 := by simpa [etB] using het
          subst hl
          rcases st with _ | ⟨v, _ | ⟨w, st⟩⟩
          · exact False.elim h
          · rcases v with x | x | x | q <;> exact False.elim h
          · rcases v with z | z | z | q <;> rcases w with x | x | x | q' <;> first | exact False.elim h | (obtain ⟨h0, h1, h9⟩ := h; refine ax_idiv hX h0 hd ?_; rw [w32_id (show in32 (x.tdiv z) from h1)]; exact hnx _ _ _ rfl hFr h9)
        | irem => 
          have hl : len = 1 := by simpa [etB] using het
          subst hl
          rcases st with _ | ⟨v, _ | ⟨w, st⟩⟩
          · exact False.elim h
          · rcases v with x | x | x | q <;> exact False.elim h
          · rcases v with z | z | z | q <;> rcases w with x | x | x | q' <;> first | exact False.elim h | (exact ax_irem hX h.1 hd (hnx _ _ _ rfl hFr h.2))
        | iand => 
          have hl : len = 1 := by simpa [etB] using het
          subst hl
          rcases st with _ | ⟨v, _ | ⟨w, st⟩⟩
          · exact False.elim h
          · rcases v with x | x | x | q <;> exact False.elim h
          · rcases v with z | z | z | q <;> rcases w with x | x | x | q' <;> first | exact False.elim h | (exact ax_iand hX hd (hnx _ _ _ rfl hFr h))
        | ior => 
          have hl : len = 1 := by simpa [etB] using het
          subst hl
          rcases st with _ | ⟨v, _ | ⟨w, st⟩⟩
          · exact False.elim h
          · rcases v with x | x | x | q <;> exact False.elim h
          · rcases v with z | z | z | q <;> rcases w with x | x | x | q' <;> first | exact False.elim h | (exact ax_ior hX hd (hnx _ _ _ rfl hFr h))
        | ixor => 
          have hl : len = 1 := by simpa [etB] using het
          subst hl
          rcases st with _ | ⟨v, _ | ⟨w, st⟩⟩
          · exact False.elim h
          · rcases v with x | x | x | q <;> exact False.elim h
          · rcases v with z | z | z | q <;> rcases w with x | x | x | q' <;> first | exact False.elim h | (exact ax_ixor hX hd (hnx _ _ _ rfl hFr h))
        | ishl => 
          have hl : len = 1 := by simpa [etB] using het
          subst hl
          rcases st with _ | ⟨v, _ | ⟨w, st⟩⟩
          · exact False.elim h
          · rcases v with x | x | x | q <;> exact False.elim h
          · rcases v with z | z | z | q <;> rcases w with x | x | x | q' <;> first | exact False.elim h | (exact ax_ishl hX hd (hnx _ _ _ rfl hFr h))
        | ishr => 
          have hl : len = 1 := by simpa [etB] using het
          subst hl
          rcases st with _ | ⟨v, _ | ⟨w, st⟩⟩
          · exact False.elim h
          · rcases v with x | x | x | q <;> exact False.elim h
          · rcases v with z | z | z | q <;> rcases w with x | x | x | q' <;> first | exact False.elim h | (exact ax_ishr hX hd (hnx _ _ _ rfl hFr h))
        | iushr => 
          have hl : len = 1 := by simpa [etB] using het
          subst hl
          rcases st with _ | ⟨v, _ | ⟨w, st⟩⟩
          · exact False.elim h
          · rcases v with x | x | x | q <;> exact False.elim h
          · rcases v with z | z | z | q <;> rcases w with x | x | x | q' <;> first | exact False.elim h | (exact ax_iushr hX hd (hnx _ _ _ rfl hFr h))
        | land => 
          have hl : len = 1 := by simpa [etB] using het
          subst hl
          rcases st with _ | ⟨v, _ | ⟨w, st⟩⟩
          · exact False.elim h
          · rcases v with x | x | x | q <;> exact False.elim h
          · rcases v with z | z | z | q <;> rcases w with x | x | x | q' <;> first | exact False.elim h | (exact ax_land hX hd (hnx _ _ _ rfl hFr h))
        | lor => 
          have hl : len = 1 := by simpa [etB] using het
          subst hl
          rcases st with _ | ⟨v, _ | ⟨w, st⟩⟩
          · exact False.elim h
          · rcases v with x | x | x | q <;> exact False.elim h
          · rcases v with z | z | z | q <;> rcases w with x | x | x | q' <;> first | exact False.elim h | (exact ax_lor hX hd (hnx _ _ _ rfl hFr h))
        | lxor => 
          have hl : len = 1 := by simpa [etB] using het
          subst hl
          rcases st with _ | ⟨v, _ | ⟨w, st⟩⟩
          · exact False.elim h
          · rcases v with x | x | x | q <;> exact False.elim h
          · rcases v with z | z | z | q <;> rcases w with x | x | x | q' <;> first | exact False.elim h | (exact ax_lxor hX hd (hnx _ _ _ rfl hFr h))
        | lmul => 
          have hl : len = 1 := by simpa [etB] using het
          subst hl
          rcases st with _ | ⟨v, _ | ⟨w, st⟩⟩
          · exact False.elim h
          · rcases v with x | x | x | q <;> exact False.elim h
          · rcases v with z | z | z | q <;> rcases w with x | x | x | q' <;> first | exact False.elim h | (exact ax_lmul hX hd (hnx _ _ _ rfl hFr h))
        | lshl => 
          have hl : len = 1 := by simpa [etB] using het
          subst hl
          rcases st with _ | ⟨v, _ | ⟨w, st⟩⟩
          · exact False.elim h
          · rcases v with x | x | x | q <;> exact False.elim h
          · rcases v with z | z | z | q <;> rcases w with x | x | x | q' <;> first | exact False.elim h | (exact ax_lshl hX hd (hnx _ _ _ rfl hFr h))
        | lshr => 
          have hl : len = 1 := by simpa [etB] using het
          subst hl
          rcases st with _ | ⟨v, _ | ⟨w, st⟩⟩
          · exact False.elim h
          · rcases v with x | x | x | q <;> exact False.elim h
          · rcases v with z | z | z | q <;> rcases w with x | x | x | q' <;> first | exact False.elim h | (exact ax_lshr hX hd (hnx _ _ _ rfl hFr h))
        | lushr => 
          have hl : len = 1 := by simpa [etB] using het
          subst hl
          rcases st with _ | ⟨v, _ | ⟨w, st⟩⟩
          · exact False.elim h
          · rcases v with x | x | x | q <;> exact False.elim h
          · rcases v with z | z | z | q <;> rcases w with x | x | x | q' <;> first | exact False.elim h | (exact ax_lushr hX hd (hnx _ _ _ rfl hFr h))
        | ladd => 
          have hl : len = 1 := by simpa [etB] using het
          subst hl
          rcases st with _ | ⟨v, _ | ⟨w, st⟩⟩
          · exact False.elim h
          · rcases v with x | x | x | q <;> exact False.elim h
          · rcases v with z | z | z | q <;> rcases w with x | x | x | q' <;> first | exact False.elim h | (obtain ⟨h1, h9⟩ := h; refine ax_ladd hX hd ?_; rw [w64_id (show in64 (x + z) from h1)]; exact hnx _ _ _ rfl hFr h9)
        | lsub => 
          have hl : len = 1 := by simpa [etB] using het
          subst hl
          rcases st with _ | ⟨v, _ | ⟨w, st⟩⟩
          · exact False.elim h
          · rcases v with x | x | x | q <;> exact False.elim h
          · rcases v with z | z | z | q <;> rcases w with x | x | x | q' <;> first | exact False.elim h | (obtain ⟨h1, h9⟩ := h; refine ax_lsub hX hd ?_; rw [w64_id (show in64 (x - z) from h1)]; exact hnx _ _ _ rfl hFr h9)
        | ldiv => 
          have hl : len = 1 := by simpa [etB] using het
          subst hl
          rcases st with _ | ⟨v, _ | ⟨w, st⟩⟩
          · exact False.elim h
          · rcases v with x | x | x | q <;> exact False.elim h
          · rcases v with z | z | z | q <;> rcases w with x | x | x | q' <;> first | exact False.elim h | (obtain ⟨h0, h1, h9⟩ := h; refine ax_ldiv hX h0 hd ?_; rw [w64_id (show in64 (x.tdiv z) from h1)]; exact hnx _ _ _ rfl hFr h9)
        | lrem => 
          have hl : len = 1 := by simpa [etB] using het
          subst hl
          rcases st with _ | ⟨v, _ | ⟨w, st⟩⟩
          · exact False.elim h
          · rcases v with x | x | x | q <;> exact False.elim h
          · rcases v with z | z | z | q <;> rcases w with x | x | x | q' <;> first | exact False.elim h | (exact ax_lrem hX h.1 hd (hnx _ _ _ rfl hFr h.2))
        | lcmp =>
          have hl : len = 1 := by simpa [etB] using het
          subst hl
          have hmain : ∀ (x z : Int) (st : List AV), chk (ea == 1) ((cmpN eb x z → seg il mc ph scL scX d n k (tb a) cuts (mY a).2.2.2.2 K Q E true ((tb a).dropWhile (fun e => !(e.1 == ec.toNat))) ls st σ) ∧ (¬ cmpN eb x z → seg il mc ph scL scX d n k (tb a) cuts (mY a).2.2.2.2 K Q E true rest.tail ls st σ)) → Ax ph X pc ls (vJ z :: vJ x :: st) σ := by
            intro x z st h
            obtain ⟨he, h1, h2⟩ := chk_of h
            refine lcmp_row (S := fun r => seg il mc ph scL scX d n k (tb a) cuts (mY a).2.2.2.2 K Q E true r ls st σ) (J := fun p => seg il mc ph scL scX d n k (tb a) cuts (mY a).2.2.2.2 K Q E true ((tb a).dropWhile (fun e => !(e.1 == p))) ls st σ) (by simpa using he) hwf hpre hT hX hd (fun h => hjp _ _ _ _ rfl hFr h) (fun h => ?_) h1 h2
            exact ih k a X σ0 τ Qx Ex cuts K Q E true rest.tail ls st σ ha hLo hX hsc hQ hE hK (by
              cases rest with
              | nil => exact ⟨tb a, by simp⟩
              | cons r0 r1 => exact ⟨pre ++ [(pc, .lcmp, 1, ea, eb, ec), r0], by rw [hpre]; simp⟩) hls hFr h
          rcases st with _ | ⟨v, _ | ⟨w, st⟩⟩
          · exact False.elim h
          · rcases v with x | x | x | q <;> exact False.elim h
          · rcases v with z | z | z | q <;> rcases w with x | x | x | q' <;> first | exact False.elim h | exact hmain x z st h
        | ineg => 
          have hl : len = 1 := by simpa [etB] using het
          subst hl
          cases st with
          | nil => exact False.elim h
          | cons v st =>
            rcases v with x | x | x | q <;> first | exact False.elim h | (obtain ⟨h1, h9⟩ := h; refine ax_ineg hX hd ?_; rw [w32_id (show in32 (-x) from h1)]; exact hnx _ _ _ rfl hFr h9)
        | lneg => 
          have hl : len = 1 := by simpa [etB] using het
          subst hl
          cases st with
          | nil => exact False.elim h
          | cons v st =>
            rcases v with x | x | x | q <;> first | exact False.elim h | (obtain ⟨h1, h9⟩ := h; refine ax_lneg hX hd ?_; rw [w64_id (show in64 (-x) from h1)]; exact hnx _ _ _ rfl hFr h9)
        | i2l => 
          have hl : len = 1 := by simpa [etB] using het
          subst hl
          cases st with
          | nil => exact False.elim h
          | cons v st =>
            rcases v with x | x | x | q <;> first | exact False.elim h | (exact ax_i2l hX hd (hnx _ _ _ rfl hFr h))
        | l2i => 
          have hl : len = 1 := by simpa [etB] using het
          subst hl
          cases st with
          | nil => exact False.elim h
          | cons v st =>
            rcases v with x | x | x | q <;> first | exact False.elim h | (exact ax_l2i hX hd (hnx _ _ _ rfl hFr h))
        | i2b => 
          have hl : len = 1 := by simpa [etB] using het
          subst hl
          cases st with
          | nil => exact False.elim h
          | cons v st =>
            rcases v with x | x | x | q <;> first | exact False.elim h | (exact ax_i2b hX hd (hnx _ _ _ rfl hFr h))
        | i2c => 
          have hl : len = 1 := by simpa [etB] using het
          subst hl
          cases st with
          | nil => exact False.elim h
          | cons v st =>
            rcases v with x | x | x | q <;> first | exact False.elim h | (exact ax_i2c hX h.1 hd (hnx _ _ _ rfl hFr h.2))
        | dup => 
          have hl : len = 1 := by simpa [etB] using het
          subst hl
          cases st with
          | nil => exact False.elim h
          | cons v st =>
            obtain ⟨h1, h9⟩ := chk_of (show chk (avW v == 1) (seg il mc ph scL scX d n k (tb a) cuts (mY a).2.2.2.2 K Q E true rest ls (v :: v :: st) σ) from h)
            exact ax_dup hX (by simpa using h1) hd (hnx _ _ _ rfl hFr h9)
        | pop => 
          have hl : len = 1 := by simpa [etB] using het
          subst hl
          cases st with
          | nil => exact False.elim h
          | cons v st =>
            obtain ⟨h1, h9⟩ := chk_of (show chk (avW v == 1) (seg il mc ph scL scX d n k (tb a) cuts (mY a).2.2.2.2 K Q E true rest ls st σ) from h)
            exact ax_pop hX (by simpa using h1) hd (hnx _ _ _ rfl hFr h9)
        | dup_x1 => 
          have hl : len = 1 := by simpa [etB] using het
          subst hl
          rcases st with _ | ⟨v, _ | ⟨w, st⟩⟩
          · exact False.elim h
          · exact False.elim h
          · obtain ⟨h1, h9⟩ := chk_of (show chk (avW v == 1 && avW w == 1) (seg il mc ph scL scX d n k (tb a) cuts (mY a).2.2.2.2 K Q E true rest ls (v :: w :: v :: st) σ) from h)
            simp only [Bool.and_eq_true, beq_iff_eq] at h1
            exact ax_dup_x1 hX h1.1 h1.2 hd (hnx _ _ _ rfl hFr h9)
        | dup2 => 
          have hl : len = 1 := by simpa [etB] using het
          subst hl
          rcases st with _ | ⟨v, _ | ⟨w, st⟩⟩
          · exact False.elim h
          · exact False.elim h
          · obtain ⟨h1, h9⟩ := chk_of (show chk (avW v == 1 && avW w == 1) (seg il mc ph scL scX d n k (tb a) cuts (mY a).2.2.2.2 K Q E true rest ls (v :: w :: v :: w :: st) σ) from h)
            simp only [Bool.and_eq_true, beq_iff_eq] at h1
            exact ax_dup2 hX h1.1 h1.2 hd (hnx _ _ _ rfl hFr h9)
        | ifCond cd off => 
          obtain ⟨ht0, hl⟩ : 0 ≤ (pc : Int) + off ∧ len = 3 := by simpa [etB] using het
          subst hl
          have htg : (pc : Int) + off = (((pc : Int) + off).toNat : Int) := by omega
          cases st with
          | nil => exact False.elim h
          | cons v st =>
            rcases v with x | x | x | q <;> first | exact False.elim h | exact ax_if hX htg hd (fun c => hjp _ _ _ _ rfl hFr (h.1 c)) (fun c => hnx _ _ _ rfl hFr (h.2 c))
        | if_icmp cd off => 
          obtain ⟨ht0, hl⟩ : 0 ≤ (pc : Int) + off ∧ len = 3 := by simpa [etB] using het
          subst hl
          have htg : (pc : Int) + off = (((pc : Int) + off).toNat : Int) := by omega
          rcases st with _ | ⟨v, _ | ⟨w, st⟩⟩
          · exact False.elim h
          · rcases v with x | x | x | q <;> exact False.elim h
          · rcases v with z | z | z | q <;> rcases w with x | x | x | q' <;> first | exact False.elim h | exact ax_icmp hX htg hd (fun c => hjp _ _ _ _ rfl hFr (h.1 c)) (fun c => hnx _ _ _ rfl hFr (h.2 c))
        | if_acmp cd off => 
          obtain ⟨ht0, hl⟩ : 0 ≤ (pc : Int) + off ∧ len = 3 := by simpa [etB] using het
          subst hl
          have htg : (pc : Int) + off = (((pc : Int) + off).toNat : Int) := by omega
          rcases st with _ | ⟨v, _ | ⟨w, st⟩⟩
          · cases cd <;> exact False.elim h
          · rcases v with x | x | x | q <;> cases cd <;> exact False.elim h
          · rcases v with z | z | z | q <;> rcases w with x | x | x | q' <;> cases cd <;> first | exact False.elim h | exact ax_acmp_eq hX h.1.1 h.1.2 htg hd (fun c => hjp _ _ _ _ rfl hFr (h.2.1 c)) (fun c => hnx _ _ _ rfl hFr (h.2.2 c)) | exact ax_acmp_ne hX h.1.1 h.1.2 htg hd (fun c => hjp _ _ _ _ rfl hFr (h.2.1 c)) (fun c => hnx _ _ _ rfl hFr (h.2.2 c))
        | ifnonnull off => 
          obtain ⟨ht0, hl⟩ : 0 ≤ (pc : Int) + off ∧ len = 3 := by simpa [etB] using het
          subst hl
          have htg : (pc : Int) + off = (((pc : Int) + off).toNat : Int) := by omega
          cases st with
          | nil => exact False.elim h
          | cons v st =>
            rcases v with x | x | x | q <;> first | exact False.elim h | exact ax_ifnn hX h.1 htg hd (fun c => hjp _ _ _ _ rfl hFr (h.2.1 c)) (fun c => hnx _ _ _ rfl hFr (h.2.2 c))
        | goto off => 
          obtain ⟨ht0, hl⟩ : 0 ≤ (pc : Int) + off ∧ len = 3 := by simpa [etB] using het
          subst hl
          have htg : (pc : Int) + off = (((pc : Int) + off).toNat : Int) := by omega
          exact ax_goto hX htg hd (hjp _ _ _ _ rfl hFr h)
        | tableswitch e lo hi offs => 
          obtain ⟨ht0, hto⟩ : 0 ≤ (pc : Int) + e ∧ ∀ q ∈ offs.toList, 0 ≤ (pc : Int) + q := by
            have h1 : (decide (0 ≤ (pc : Int) + e) && offs.toList.all (fun q => decide (0 ≤ (pc : Int) + q))) = true := het
            simp only [Bool.and_eq_true, decide_eq_true_eq, List.all_eq_true] at h1
            exact h1
          cases st with
          | nil => exact False.elim h
          | cons v st =>
            rcases v with x | x | x | q
            · obtain ⟨h1, h2, h3⟩ := chk_of (show chk (offs.size == (hi + 1 - lo).toNat && decide (lo ≤ hi)) ((x < lo ∨ hi < x → seg il mc ph scL scX d n k (tb a) cuts (mY a).2.2.2.2 K Q E true ((tb a).dropWhile (fun q => !(q.1 == ((pc : Int) + e).toNat))) ls st σ) ∧ swT pc x (fun p => seg il mc ph scL scX d n k (tb a) cuts (mY a).2.2.2.2 K Q E true ((tb a).dropWhile (fun q => !(q.1 == p))) ls st σ) lo offs.toList) from h)
              simp only [Bool.and_eq_true, beq_iff_eq, decide_eq_true_eq] at h1
              exact ax_table hX hd h1.1 h1.2 hto ht0 (fun c => hjp _ _ _ _ rfl hFr (h2 c)) (swT_mono (fun p hp => hjp _ _ _ _ rfl hFr hp) _ _ h3)
            all_goals exact False.elim h
        | lookupswitch e ps => 
          obtain ⟨ht0, hto, hso⟩ : 0 ≤ (pc : Int) + e ∧ (∀ q ∈ ps.toList, 0 ≤ (pc : Int) + q.2) ∧ (ps.toList.zip (ps.toList.drop 1)).all (fun (a, next) => decide (a.1 < next.1)) = true := by
            have h1 : (decide (0 ≤ (pc : Int) + e) && (ps.toList.all (fun q => decide (0 ≤ (pc : Int) + q.2)) && (ps.toList.zip (ps.toList.drop 1)).all (fun (a, next) => decide (a.1 < next.1)))) = true := het
            simp only [Bool.and_eq_true, decide_eq_true_eq, List.all_eq_true] at h1
            exact ⟨h1.1, h1.2.1, by rw [List.all_eq_true]; exact fun x hx => by have := h1.2.2 x hx; simpa using this⟩
          cases st with
          | nil => exact False.elim h
          | cons v st =>
            rcases v with x | x | x | q
            · exact ax_lookup hX hd hso hto ht0 (swL_mono (fun p hp => hjp _ _ _ _ rfl hFr hp) _ h)
            all_goals exact False.elim h
        | getfield i => 
          have hl : len = 3 := by simpa [etB] using het
          subst hl
          exact ax_getF hX (q_of hqs hlk) hd (fun st' h => hnx _ _ _ rfl hFr h) h
        | putfield i => 
          obtain ⟨hfb, hl⟩ : ((!(finB ea eb) || (mY a).1.name == "<init>") = true) ∧ len = 3 := by
            have h1 : ((!(finB ea eb) || (mY a).1.name == "<init>") && len == 3) = true := het
            simp only [Bool.and_eq_true, beq_iff_eq] at h1
            exact ⟨h1.1, h1.2⟩
          subst hl
          exact ax_putF hX (q_of hqs hlk) (fun c => by rw [c] at hfb; simpa using hfb) hd (fun st' σ' hf h => hnx _ _ _ rfl (fr_trans hFr hf) h) h
        | baload => 
          have hl : len = 1 := by simpa [etB] using het
          subst hl
          exact ax_aldF (t := 1) (by omega) hX (fun _ c => absurd c (by decide)) hd (fun st' h => hnx _ _ _ rfl hFr h) h
        | laload => 
          have hl : len = 1 := by simpa [etB] using het
          subst hl
          exact ax_aldF (t := 3) (by omega) hX (fun _ c => absurd c (by decide)) hd (fun st' h => hnx _ _ _ rfl hFr h) h
        | aaload => 
          have hl : len = 1 := by simpa [etB] using het
          subst hl
          exact ax_aldF (t := 4) (by omega) hX (fun _ c => absurd c (by decide)) hd (fun st' h => hnx _ _ _ rfl hFr h) h
        | iaload => 
          obtain ⟨hl, hs1⟩ : len = 1 ∧ (ea = 1 → (mY a).1.cls = "CircuitWardenLaw") := by
            have h1 : (len == 1 && (!(ea == 1) || (mY a).1.cls == "CircuitWardenLaw")) = true := het
            simp only [Bool.and_eq_true, beq_iff_eq, Bool.or_eq_true, Bool.not_eq_true'] at h1
            refine ⟨h1.1, fun c => ?_⟩
            rcases h1.2 with e | e
            · rw [c] at e; cases e
            · exact e
          subst hl
          exact ax_aldF (t := 0) (by omega) hX (fun c _ => hsc (hs1 c)) hd (fun st' h => hnx _ _ _ rfl hFr h) h
        | iastore => 
          have hl : len = 1 := by simpa [etB] using het
          subst hl
          exact ax_astF (t := 0) (by omega) hX hd (fun st' σ' hf h => hnx _ _ _ rfl (fr_trans hFr hf) h) h
        | bastore => 
          have hl : len = 1 := by simpa [etB] using het
          subst hl
          exact ax_astF (t := 1) (by omega) hX hd (fun st' σ' hf h => hnx _ _ _ rfl (fr_trans hFr hf) h) h
        | lastore => 
          have hl : len = 1 := by simpa [etB] using het
          subst hl
          exact ax_astF (t := 3) (by omega) hX hd (fun st' σ' hf h => hnx _ _ _ rfl (fr_trans hFr hf) h) h
        | aastore => 
          have hl : len = 1 := by simpa [etB] using het
          subst hl
          exact ax_astF (t := 4) (by omega) hX hd (fun st' σ' hf h => hnx _ _ _ rfl (fr_trans hFr hf) h) h
        | arraylength => 
          obtain ⟨hl, hs1⟩ : len = 1 ∧ (ea = 1 → (mY a).1.cls = "CircuitWardenLaw") := by
            have h1 : (len == 1 && (!(ea == 1) || (mY a).1.cls == "CircuitWardenLaw")) = true := het
            simp only [Bool.and_eq_true, beq_iff_eq, Bool.or_eq_true, Bool.not_eq_true'] at h1
            refine ⟨h1.1, fun c => ?_⟩
            rcases h1.2 with e | e
            · rw [c] at e; cases e
            · exact e
          subst hl
          cases st with
          | nil => exact False.elim h
          | cons v st =>
            refine alen_row (go := fun st' => seg il mc ph scL scX d n k (tb a) cuts (mY a).2.2.2.2 K Q E true rest ls st' σ) hX (fun c => hsc (hs1 c)) hd (fun st' h => hnx _ _ _ rfl hFr h) ?_
            rcases v with x | x | x | q <;> exact h
        | newarray t => 
          have hl : len = 2 := by simpa [etB] using het
          subst hl
          cases st with
          | nil => exact False.elim h
          | cons v st =>
            rcases v with x | x | x | q
            · obtain ⟨h1, h2, h9⟩ := chk_of (show chk ((d.1 && tmp d) && Nat.ble (elT t) 3) ((0 ≤ x ∧ gT σ + x.toNat ≤ 540000 ∧ (x.toNat < 16 → cnt d = true ∧ gC σ + 1 ≤ 100000)) ∧ seg il mc ph scL scX d n k (tb a) cuts (mY a).2.2.2.2 K Q E true rest ls (vA (elT t) (gN σ) 0 (gN σ) :: st) (nA σ (elT t) x.toNat)) from h)
              simp only [Bool.and_eq_true, Nat.ble_eq] at h1
              have hw : Cond.arrayClass (elTy (elT t)) ∈ lw_all ∧ newarray.typeOf t = elTy (elT t) := by
                cases t <;> first | exact ⟨q371, rfl⟩ | exact ⟨q347, rfl⟩ | exact ⟨q789, rfl⟩ | exact ⟨q790, rfl⟩ | exact absurd h1.2 (by decide)
              exact ax_newa hX h1.2 hw.1 hw.2 ⟨h2.1, h2.2.1, fun c => (h2.2.2 c).2⟩ hd (hnx _ _ _ rfl (fr_trans hFr (fr_nA h1.1.1 h1.1.2 (fun c => (h2.2.2 c).1))) h9)
            all_goals exact False.elim h
        | new i => 
          have hl : len = 3 := by simpa [etB] using het
          subst hl
          have h : (bif ea == 50 then (match (generalizing := false) st with | [] => chk (d.1 && (mY a).2.2.2.2.isEmpty) ((6 ≤ k ∧ (bif cnt d then gD σ + 6 ≤ 200000 ∧ gC σ + 1 ≤ 100000 else True)) ∧ E (gN σ) (nO σ 50 6)) | _ => False) else chk (d.1 && cnt d) ((gD σ + eb ≤ 200000 ∧ gC σ + 1 ≤ 100000) ∧ seg il mc ph scL scX d n k (tb a) cuts (mY a).2.2.2.2 K Q E true rest ls (vO (gN σ) :: st) (nO σ ea eb))) := h
          cases h50 : (ea == 50) with
          | true =>
            rw [h50] at h
            cases st with
            | cons => exact False.elim h
            | nil =>
              obtain ⟨h1, ⟨h2, h3⟩, h9⟩ := chk_of (show chk (d.1 && (mY a).2.2.2.2.isEmpty) ((6 ≤ k ∧ (bif cnt d then gD σ + 6 ≤ 200000 ∧ gC σ + 1 ≤ 100000 else True)) ∧ E (gN σ) (nO σ 50 6)) from h)
              simp only [Bool.and_eq_true] at h1
              obtain ⟨nn, idx, li, ic, tx, g1, g2, g3, g4, g5, g6, g7, g8⟩ := hthr h50
              obtain ⟨k', rfl⟩ : ∃ k', k = k' + 6 := ⟨k - 6, by omega⟩
              have h3' : gD σ + 6 ≤ 200000 ∧ gC σ + 1 ≤ 100000 := by
                cases hcb : cnt d with
                | true => rw [hcb] at h3; exact h3
                | false =>
                  obtain ⟨e1, e2⟩ := hFr.2.1.2.1 hcb
                  obtain ⟨l1, l2, l3⟩ := hLo
                  exact ⟨by omega, by omega⟩
              exact ax_throw hX g1 g2 g3 (List.isEmpty_iff.mp h1.2) h3' g4 g5 g6 g7 g8 (hE _ _ (fr_trans (fr_sub (sub_X d) hFr) (fr_nO h1.1 (cnt_X d))) h9)
          | false =>
            rw [h50] at h
            obtain ⟨h1, h2, h9⟩ := chk_of h
            rcases q_of hqs hlk with ⟨ci, q, g1, g2, g3, g4, g5, g6⟩ | ⟨g1, g2⟩
            · have g1 : ea = ci + 1 := g1
              subst g1
              exact ax_newo hX g2 g3 g4 g5 g6 h2 hd (hnx _ _ _ rfl (fr_trans hFr (fr_nO (by simp only [Bool.and_eq_true] at h1; exact h1.1) (by simp only [Bool.and_eq_true] at h1; exact h1.2))) h9)
            · have g1 : ea = 50 := g1
              rw [g1] at h50; cases h50
        | anewarray i => 
          have hl : len = 3 := by simpa [etB] using het
          subst hl
          cases st with
          | nil => exact False.elim h
          | cons v st =>
            rcases v with x | x | x | q
            · obtain ⟨h1, h2, h9⟩ := chk_of (show chk (d.1 && tmp d) ((0 ≤ x ∧ gT σ + x.toNat ≤ 540000 ∧ (x.toNat < 16 → cnt d = true ∧ gC σ + 1 ≤ 100000)) ∧ seg il mc ph scL scX d n k (tb a) cuts (mY a).2.2.2.2 K Q E true rest ls (vA ea (gN σ) 0 (gN σ) :: st) (nA σ ea x.toNat)) from h)
              obtain ⟨C, g1, g2, g3, g4⟩ := q_of hqs hlk
              simp only [Bool.and_eq_true] at h1
              exact ax_anew hX g1 g2 g3 g4 ⟨h2.1, h2.2.1, fun c => (h2.2.2 c).2⟩ hd (hnx _ _ _ rfl (fr_trans hFr (fr_nA h1.1 h1.2 (fun c => (h2.2.2 c).1))) h9)
            all_goals exact False.elim h
        | invokestatic i =>
          have hl : len = 3 := by simpa [etB] using het
          subst hl
          have hlk : (ea == 999 || L.contains (5, i, ea, eb, ec)) = true := hlk
          have h : (bif ea == 1004 then stCopy d k (fun st σ => seg il mc ph scL scX d n k (tb a) cuts (mY a).2.2.2.2 K Q E true rest ls st σ) σ st else bif Nat.ble 2000 ea then chk mc ((bif cnt d || tmp d then Low σ else True) ∧ stGrow d k ea eb ec (fun st σ => seg il mc ph scL scX d n k (tb a) cuts (mY a).2.2.2.2 K Q E true rest.tail ls st σ) σ st) else chk (Nat.blt ea 453 && ec == 0) (stCall ph k (fun a as σ Q' E' => bif il a then seg il mc ph scL scX d n (k - 1) (tb a) [] (mY a).2.2.2.2 (fun _ _ _ _ => False) Q' E' false (tb a) (lsE (mY a).2.2.1 as) [] σ else chk (subMd (mdT a as) d) ((bif cnt d || tmp d then Low σ else True) ∧ Ct ph a (k - 1) as σ Q' E')) (fun st σ => seg il mc ph scL scX d n k (tb a) cuts (mY a).2.2.2.2 K Q E true rest ls st σ) (fun r σ' => match (mY a).2.2.2.2.find? (fun h => Nat.ble h.1 pc && Nat.blt pc h.2.1) with | some h => chk (cnt d) (seg il mc ph scL scX d n k (tb a) cuts (mY a).2.2.2.2 K Q E true ((tb a).dropWhile (fun e => !(e.1 == h.2.2.1))) ls [vO r] σ') | none => E r σ') ea eb ec st σ)) := h
          cases h4 : (ea == 1004) with
          | true =>
            rw [h4] at h
            have e4 : ea = 1004 := by simpa using h4
            subst e4
            have hlk : L.contains (5, i, 1004, eb, ec) = true := hlk
            rcases q_of hqs hlk with g | ⟨g1, g2⟩ | ⟨g1, -⟩
            · exact absurd g.1 (by show ¬ 1004 < 453; omega)
            · exact ax_copyF hX g2 hd (fun st' σ' hf h => hnx _ _ _ rfl (fr_trans hFr hf) h) h
            · exact absurd g1 (by show ¬ 2000 ≤ 1004; omega)
          | false =>
            rw [h4] at h
            cases h5 : Nat.ble 2000 ea with
            | true =>
              rw [h5] at h
              obtain ⟨hmc, ht0, h⟩ := chk_of h
              have hT0 : Low σ := by
                cases hcb : (cnt d || tmp d) with
                | true => rw [hcb] at ht0; exact ht0
                | false =>
                  rw [Bool.or_eq_false_iff] at hcb
                  exact fr_low hcb.1 hcb.2 hFr hLo
              have h20 : 2000 ≤ ea := Nat.le_of_ble_eq_true h5
              have h9 : (ea == 999) = false := by simp; omega
              rw [h9, Bool.false_or] at hlk
              have hcs : CallS (mY a).1.cls i ea eb := q_of hqs hlk
              cases rest with
              | nil =>
                exfalso
                have hwf : (!(Nat.ble 2000 ea)) = true := hwf
                rw [h5] at hwf; cases hwf
              | cons e2 t =>
                have hm : e2 ∈ tb a := by rw [hpre]; simp
                obtain ⟨d1, d2, d3⟩ := tab_at hT hm
                obtain ⟨pc2, ins2, len2, a2, b2, c2⟩ := e2
                have hwf9 := hwf
                unfold wfT at hwf9
                simp only [Bool.and_eq_true, beq_iff_eq] at hwf9
                obtain ⟨⟨w1, w2⟩, w3⟩ := hwf9
                rw [h5] at w2
                cases ins2 with
                | putfield i2 =>
                  have w2 : ((a2 : Int) == ec && (b2 == eb && (c2 == (bif ea == 2004 then 7 else 4)))) = true := w2
                  simp only [Bool.and_eq_true, beq_iff_eq] at w2
                  obtain ⟨v1, v2, v3⟩ := w2
                  have w1 : pc2 = pc + 3 := w1
                  subst w1; subst v2
                  obtain ⟨hfb, hl⟩ : ((!(finB a2 b2) || (mY a).1.name == "<init>") = true) ∧ len2 = 3 := by
                    have h1 : ((!(finB a2 b2) || (mY a).1.name == "<init>") && len2 == 3) = true := d3
                    simp only [Bool.and_eq_true, beq_iff_eq] at h1
                    exact ⟨h1.1, h1.2⟩
                  subst hl
                  have hfp : FPut (mY a).1.cls i2 a2 b2 c2 := q_of hqs d2
                  have e5 : ec.toNat = a2 := by omega
                  have e6 : c2 = (if ea = 2004 then 7 else 4) := by
                    rw [v3]
                    by_cases c : ea = 2004
                    · rw [if_pos c, c]; rfl
                    · have c' : (ea == 2004) = false := by simpa using c
                      rw [if_neg c, c']; rfl
                  rw [e6, ← e5] at hfp
                  refine hgr hmc ph X (mY a) k σ0 Qx Ex d pc i i2 ea b2 ec ls st σ hX hhnd hd d1 h20 hcs hfp hT0 (fun c => by rw [e5] at c; rw [c] at hfb; simpa using hfb) (stGrow_mono h (fun st' σ' hf h => ?_))
                  obtain ⟨en', rest', e3, e4⟩ := ih k a X σ0 τ Qx Ex cuts K Q E true t ls st' σ' ha hLo hX hsc hQ hE hK ⟨pre ++ [_, _], by rw [hpre]; simp; exact ⟨rfl, rfl⟩⟩ hls (fr_trans hFr hf) h
                  subst e3
                  unfold wfT at w3
                  simp only [Bool.and_eq_true, beq_iff_eq] at w3
                  have w4 : en'.1 = pc + 3 + 3 := w3.1.1
                  rw [w4] at e4
                  exact e4
                | _ => cases w2
            | false =>
              rw [h5] at h
              obtain ⟨hq, h⟩ := chk_of h
              simp only [Bool.and_eq_true, Nat.blt_eq, beq_iff_eq] at hq
              obtain ⟨q1, q2⟩ := hq
              subst q2
              have h9 : (ea == 999) = false := by simp; omega
              rw [h9, Bool.false_or] at hlk
              rcases q_of hqs hlk with ⟨-, g1, g2, g3, g4⟩ | ⟨g1, g2⟩ | ⟨g1, -⟩
              · exact ax_call hX hhnd hd ⟨eb, g4, Or.inl ⟨rfl, rfl, rfl, g1, g2, g3⟩⟩ (fun as haw h => hcall ea q1 (st.drop eb) as h haw) h
              · have g1 : ea = 1004 := g1
                omega
              · have g1 : 2000 ≤ ea := g1
                omega
        | invokevirtual i =>
          have hl : len = 3 := by simpa [etB] using het
          subst hl
          have hlk : (ea == 999 || L.contains (6, i, ea, eb, ec)) = true := hlk
          obtain ⟨hq, h⟩ := chk_of (show chk (Nat.blt ea 453 && !(ec == 0 || ec == -1)) (stCall ph k (fun a as σ Q' E' => bif il a then seg il mc ph scL scX d n (k - 1) (tb a) [] (mY a).2.2.2.2 (fun _ _ _ _ => False) Q' E' false (tb a) (lsE (mY a).2.2.1 as) [] σ else chk (subMd (mdT a as) d) ((bif cnt d || tmp d then Low σ else True) ∧ Ct ph a (k - 1) as σ Q' E')) (fun st σ => seg il mc ph scL scX d n k (tb a) cuts (mY a).2.2.2.2 K Q E true rest ls st σ) (fun r σ' => match (mY a).2.2.2.2.find? (fun h => Nat.ble h.1 pc && Nat.blt pc h.2.1) with | some h => chk (cnt d) (seg il mc ph scL scX d n k (tb a) cuts (mY a).2.2.2.2 K Q E true ((tb a).dropWhile (fun e => !(e.1 == h.2.2.1))) ls [vO r] σ') | none => E r σ') ea eb ec st σ) from h)
          simp only [Bool.and_eq_true, Nat.blt_eq, Bool.not_eq_true', Bool.or_eq_false_iff, beq_eq_false_iff_ne] at hq
          obtain ⟨q1, q2, q3⟩ := hq
          have h9 : (ea == 999) = false := by simp; omega
          rw [h9, Bool.false_or] at hlk
          rcases q_of hqs hlk with ⟨C, g1, g2, g3, g4, g5, g6⟩ | ⟨g1, g2, g3, g4⟩
          · exact ax_call hX hhnd hd ⟨eb - 1, g4, Or.inr (Or.inl ⟨rfl, q2, q3, by have : 1 ≤ eb := g5; omega, g2, Or.inl ⟨C, g1, g3, g6⟩⟩)⟩ (fun as haw h => hcall ea q1 (st.drop eb) as h haw) h
          · have g1 : ea = nOrd := g1
            have g2 : eb = 1 := g2
            have g3 : ec = 7 := g3
            subst g1; subst g2; subst g3
            exact ax_call hX hhnd hd ⟨0, hord.1, Or.inr (Or.inl ⟨rfl, q2, q3, rfl, hord.2, Or.inr ⟨rfl, rfl, g4⟩⟩)⟩ (fun as haw h => hcall nOrd q1 (st.drop 1) as h haw) h
        | invokespecial i =>
          have hl : len = 3 := by simpa [etB] using het
          subst hl
          have hlk : (ea == 998 || L.contains (7, i, ea, eb, ec)) = true := hlk
          have h : (bif ea == 1000 then (match (generalizing := false) st with | .inr (.inr (.inl r)) :: st => chk (Nat.ble ((st.map avW).sum) 8) ((1 ≤ k ∧ 0 < r) ∧ seg il mc ph scL scX d n k (tb a) cuts (mY a).2.2.2.2 K Q E true rest ls st σ) | _ => False) else chk (Nat.blt ea 453 && ec == -1) (stCall ph k (fun a as σ Q' E' => bif il a then seg il mc ph scL scX d n (k - 1) (tb a) [] (mY a).2.2.2.2 (fun _ _ _ _ => False) Q' E' false (tb a) (lsE (mY a).2.2.1 as) [] σ else chk (subMd (mdT a as) d) ((bif cnt d || tmp d then Low σ else True) ∧ Ct ph a (k - 1) as σ Q' E')) (fun st σ => seg il mc ph scL scX d n k (tb a) cuts (mY a).2.2.2.2 K Q E true rest ls st σ) (fun r σ' => match (mY a).2.2.2.2.find? (fun h => Nat.ble h.1 pc && Nat.blt pc h.2.1) with | some h => chk (cnt d) (seg il mc ph scL scX d n k (tb a) cuts (mY a).2.2.2.2 K Q E true ((tb a).dropWhile (fun e => !(e.1 == h.2.2.1))) ls [vO r] σ') | none => E r σ') ea eb ec st σ)) := h
          cases h4 : (ea == 1000) with
          | true =>
            rw [h4] at h
            have e4 : ea = 1000 := by simpa using h4
            subst e4
            have hlk : L.contains (7, i, 1000, eb, ec) = true := hlk
            cases st with
            | nil => exact False.elim h
            | cons v st =>
              rcases v with x | x | r | q
              · exact False.elim h
              · exact False.elim h
              · obtain ⟨hq, ⟨hk1, hr0⟩, h⟩ := chk_of (show chk (Nat.ble ((st.map avW).sum) 8) ((1 ≤ k ∧ 0 < r) ∧ seg il mc ph scL scX d n k (tb a) cuts (mY a).2.2.2.2 K Q E true rest ls st σ) from h)
                obtain ⟨k', rfl⟩ : ∃ k', k = k' + 1 := ⟨k - 1, by omega⟩
                rcases q_of hqs hlk with g | ⟨g1, g2⟩
                · exact absurd g.1 (by show ¬ 1000 < 453; omega)
                · exact ax_objInit hX hr0 g2 q330 q331 (Nat.le_of_ble_eq_true hq) hd (hnx _ _ _ rfl hFr h)
              · exact False.elim h
          | false =>
            rw [h4] at h
            obtain ⟨hq, h⟩ := chk_of h
            simp only [Bool.and_eq_true, Nat.blt_eq, beq_iff_eq] at hq
            obtain ⟨q1, q2⟩ := hq
            subst q2
            have h9 : (ea == 998) = false := by simp; omega
            rw [h9, Bool.false_or] at hlk
            rcases q_of hqs hlk with ⟨-, g1, g2, g3, g4, g5, g6⟩ | ⟨g1, g2⟩
            · exact ax_call hX hhnd hd ⟨eb - 1, g5, Or.inr (Or.inr ⟨rfl, rfl, by have : 1 ≤ eb := g6; omega, g1, g2, g3, g4⟩)⟩ (fun as haw h => hcall ea q1 (st.drop eb) as h haw) h
            · have g1 : ea = 1000 := g1
              omega
        | ireturn =>
          have het : ((match (mY a).2.2.2.1 with | some .int => ea == 0 | some .boolean => ea == 1 | some .byte => ea == 2 | some .char => ea == 3 | _ => false) && len == 1) = true := het
          simp only [Bool.and_eq_true, beq_iff_eq] at het
          obtain ⟨hty, hl⟩ := het
          subst hl
          rcases st with _ | ⟨v, _ | ⟨w, st⟩⟩
          · exact False.elim h
          · rcases v with x | x | x | q
            · have h : (bif ea == 1 then (0 ≤ x ∧ x ≤ 1) ∧ Q (some (vI x)) σ else bif ea == 2 then (-128 ≤ x ∧ x ≤ 127) ∧ Q (some (vI x)) σ else bif ea == 3 then (0 ≤ x ∧ x ≤ 65535) ∧ Q (some (vI x)) σ else Q (some (vI x)) σ) := h
              split at hty
              · rename_i e
                have hty : ea = 0 := by simpa using hty
                subst hty
                exact ax_iret hX e hd (hQ _ _ hFr h)
              · rename_i e
                have hty : ea = 1 := by simpa using hty
                subst hty
                exact ax_zret hX e h.1 hd (hQ _ _ hFr h.2)
              · rename_i e
                have hty : ea = 2 := by simpa using hty
                subst hty
                exact ax_bret hX e h.1 hd (hQ _ _ hFr h.2)
              · rename_i e
                have hty : ea = 3 := by simpa using hty
                subst hty
                exact ax_cret hX e h.1 hd (hQ _ _ hFr h.2)
              · cases hty
            all_goals exact False.elim h
          · rcases v with x | x | x | q <;> exact False.elim h
        | lreturn =>
          have het : ((match (mY a).2.2.2.1 with | some .long => true | _ => false) && len == 1) = true := het
          simp only [Bool.and_eq_true, beq_iff_eq] at het
          obtain ⟨hty, hl⟩ := het
          subst hl
          rcases st with _ | ⟨v, _ | ⟨w, st⟩⟩
          · exact False.elim h
          · split at hty
            · rename_i e
              rcases v with x | x | x | q
              · exact False.elim h
              · exact ax_lret hX e hd (hQ _ _ hFr h)
              all_goals exact False.elim h
            · cases hty
          · rcases v with x | x | x | q <;> exact False.elim h
        | areturn =>
          have het : ((match (mY a).2.2.2.1 with | some (.object _) => true | some (.array _) => true | _ => false) && len == 1) = true := het
          simp only [Bool.and_eq_true, beq_iff_eq] at het
          obtain ⟨hty, hl⟩ := het
          subst hl
          rcases st with _ | ⟨v, _ | ⟨w, st⟩⟩
          · exact False.elim h
          · split at hty
            · rename_i e
              rcases v with x | x | v
              · exact False.elim h
              · exact False.elim h
              · exact ax_aret hX e (Or.inl ⟨_, rfl⟩) hd (hQ _ _ hFr h)
            · rename_i e
              rcases v with x | x | v
              · exact False.elim h
              · exact False.elim h
              · exact ax_aret hX e (Or.inr ⟨_, rfl⟩) hd (hQ _ _ hFr h)
            · cases hty
          · rcases v with x | x | v <;> exact False.elim h
        | return_ =>
          have het : ((match (mY a).2.2.2.1 with | none => true | _ => false) && len == 1) = true := het
          simp only [Bool.and_eq_true, beq_iff_eq] at het
          obtain ⟨hty, hl⟩ := het
          subst hl
          cases st with
          | nil =>
            split at hty
            · rename_i e
              exact ax_vret hX e hd (hQ _ _ hFr h)
            · cases hty
          | cons v st => exact False.elim h
        | _ => exact False.elim h
