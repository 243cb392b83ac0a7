/-! the growth of an array in one go -/
set_option maxRecDepth 100000
theorem chk_mk {b : Bool} {P : Prop} (hb : b = true) (hP : P) : chk b P := by rw [hb]; exact hP
theorem grx_id {c : Prop} [Decidable c] {σ : Sg} {e o f n cc t : Nat} {cp : Bool} (h : c) : grx c σ e o f n cp cc t = σ := by
  have e1 : u2 (gA σ) o f (fun j => if c then gA σ o f j else if cp = true ∧ j < gL σ o f then gA σ o f j else 0) = gA σ := by
    funext x z
    unfold u2
    split
    · rename_i hh; funext j; rw [hh.1, hh.2]
    · rfl
  have e2 : u2 (gL σ) o f (if c then gL σ o f else n) = gL σ := by
    funext x z
    unfold u2
    split
    · rename_i hh; rw [hh.1, hh.2]
    · rfl
  have e3 : u2 (gV σ) o f (if c then gV σ o f else gN σ + cc) = gV σ := by
    funext x z
    unfold u2
    split
    · rename_i hh; rw [hh.1, hh.2]
    · rfl
  unfold grx
  rw [e1, e2, e3]
  simp only [if_pos h]
  rfl
section GQ
variable {ph k : Nat} {X : Cx} {y : MI} {σ0 σ σ1 : Sg} {Q : Option AV → Sg → Prop} {E : Int → Sg → Prop} {pc idx a f e v t g b : Nat} {r : Int} {ls : List (Option AV)} {st : List AV}
theorem grow_call (hX : CxOk ph X y k σ0 Q E) (hh : HndO y) (hd : decode y.2.1 pc = .ok (.invokestatic idx, 3)) (hlk : MLk y.1.cls idx (mY g).1) (hst : Cond.static (mY g).1 ∈ lw_all) (hini : Cond.initialized (mY g).1.cls ∈ lw_all) (hmi : MiOk g b) (hs1 : b ≤ st.length) (hs2 : ((st.drop b).map avW).sum ≤ 8) (hs3 : ((st.take b).reverse.map avW).sum ≤ (mY g).2.2.1) (hk : 1 ≤ k)
    (hc : Cn ph (mY g) (k - 1) (st.take b).reverse σ (fun r σ' => Ax ph X (pc + 3) ls (r.toList ++ st.drop b) σ') (fun _ _ => False)) : Ax ph X pc ls st σ := by
  refine ax_call (a := g) (b := b) (c := 0) (idx := idx) (cl := fun a as σ Q' E' => Cn ph (mY a) (k - 1) as σ Q' E') (nx := fun st σ' => Ax ph X (pc + 3) ls st σ') (ex := fun _ _ => False) hX hh hd ⟨b, hmi, Or.inl ⟨rfl, rfl, rfl, hlk, hst, hini⟩⟩ (fun as _ h => cn_mono h (fun _ _ _ _ q => q) (fun _ _ _ q => q.elim)) ?_
  unfold stCall
  refine chk_mk ?_ ⟨hk, hc⟩
  simp only [Bool.and_eq_true, Nat.ble_eq]
  exact ⟨hs1, hs2, hs3⟩
theorem fine_S {ph : Nat} {σ : Sg} (h : Fine ph σ) : gS σ ≤ pSum σ + gT σ + gD σ := by
  obtain ⟨G, H, hR⟩ := h
  exact hR.2.2.2.2.2.2.1
theorem grow_new {c : Prop} [Decidable c] {m cc : Nat} {cp : Bool} (hc : ¬ c) (hFi : Fine ph σ) (hf0 : f ≠ 0)
    (a1 : gF σ1 = gF σ) (a2 : gN σ1 = gN σ + cc + 1) (a3 : gS σ1 = gS σ + m + t) (a4 : gC σ1 = gC σ) (a5 : gD σ1 = gD σ) (a6 : gT σ1 = gT σ + m + t) (a9 : gK σ1 = fun x => if gN σ ≤ x ∧ x ≤ gN σ + cc then 100 + e else gK σ x)
    (a7 : gV σ1 (gN σ + cc) 0 = gN σ + cc ∧ gL σ1 (gN σ + cc) 0 = m ∧ gA σ1 (gN σ + cc) 0 = fun j => if cp = true ∧ j < gL σ r.toNat f then gA σ r.toNat f j else 0)
    (a8 : ∀ o' f' : Nat, ¬ (f' = 0 ∧ gN σ ≤ o' ∧ o' ≤ gN σ + cc) → gV σ1 o' f' = gV σ o' f' ∧ gL σ1 o' f' = gL σ o' f' ∧ gA σ1 o' f' = gA σ o' f')
    (g1 : t + 2 * gL σ r.toNat f ≤ m) (g4 : if r.toNat < 222 then m ≤ spB r.toNat f ∧ spW r.toNat f = 2 else gD σ + m + t ≤ 200000) (hT0 : gT σ = 0)
    (hX : CxOk ph X y k σ0 Q E) (hl : FPut y.1.cls idx a f ((4 + e : Nat) : Int)) (he : e ≤ 8) (hfin : finB a f = true → y.1.name = "<init>") (hr0 : 0 < r) (hK0 : gK σ r.toNat = a) (hd : decode y.2.1 pc = .ok (.putfield idx, 3))
    (h : Ax ph X (pc + 3) ls st (grx c σ e r.toNat f m cp cc t)) : Ax ph X pc ls (vA e (gN σ + cc) 0 (gN σ + cc) :: vO r :: st) σ1 := by
  have hfV := fun o ho => fine_newV hFi (o := o) ho
  have hs0 := fine_S hFi
  have hro : r.toNat < gN σ := by
    apply Nat.lt_of_not_le
    intro c1
    obtain ⟨G, H, hR⟩ := hFi
    have := (hR.2.2.2.2.1.2.2.1 r.toNat c1).1
    rw [hK0] at this
    obtain ⟨ci, q, rfl, -⟩ := hl
    omega
  have hneo : ¬ (f = 0 ∧ gN σ ≤ r.toNat ∧ r.toNat ≤ gN σ + cc) := fun c1 => hf0 c1.1
  have hNx : gN (grx c σ e r.toNat f m cp cc t) = gN σ + cc + 1 := by
    show (if c then gN σ else gN σ + cc + 1) = _
    rw [if_neg hc]
  have hSx : gS (grx c σ e r.toNat f m cp cc t) = gS σ + m + t := by
    show (if c then gS σ else gS σ + m + t) = _
    rw [if_neg hc]
  have hKx : gK (grx c σ e r.toNat f m cp cc t) = gK σ1 := by
    rw [a9]
    funext x
    show (if c then gK σ x else if gN σ ≤ x ∧ x ≤ gN σ + cc then 100 + e else gK σ x) = _
    rw [if_neg hc]
  have hDx : gD (grx c σ e r.toNat f m cp cc t) = gD σ + (if r.toNat < 222 then 0 else m + t) := by
    show (if c then gD σ else gD σ + (if r.toNat < 222 then 0 else m + t)) = _
    rw [if_neg hc]
  refine put_new hX hl he hfin hr0 (by rw [a9]; show (if gN σ ≤ r.toNat ∧ r.toNat ≤ gN σ + cc then _ else _) = a; rw [if_neg (by omega)]; exact hK0) a7.1 ?_ (by rw [hNx, a2]) (by rw [hSx, a3]) hKx (fun G H hR => ?_) hd h
  · unfold mvOk
    rw [a7.2.1, (a8 _ _ hneo).1, (a8 _ _ hneo).2.1, a5]
    by_cases c1 : r.toNat < 222
    · rw [if_pos c1] at g4
      rw [(Nat.blt_eq).mpr c1, g4.2]
      exact ⟨g4.1, show 2 * gL σ r.toNat f ≤ m by omega⟩
    · rw [if_neg c1] at g4
      rw [show Nat.blt r.toNat 222 = false by
        cases hb : Nat.blt r.toNat 222 with
        | true => exact absurd (Nat.blt_eq.mp hb) c1
        | false => rfl]
      show gD σ + m ≤ 200000
      omega
  · have s1 := hR.2.2.2.2.2.2.1
    rw [gS_mV, gT_mV, gD_mV, a3, a5, a6, a7.2.1] at s1
    have hps := sum_upd (gL σ) (gL (mV σ1 (gN σ + cc) r.toNat f)) r.toNat f spL sp_nd (fun q hq hcq => by
      have := sp_pos q hq
      rw [gL_mV, if_neg hcq, if_neg (by omega)]
      exact (a8 _ _ (by omega)).2.1)
    rw [show gL (mV σ1 (gN σ + cc) r.toNat f) r.toNat f = m by rw [gL_mV, if_pos ⟨rfl, rfl⟩]; exact a7.2.1] at hps
    have hps' : pSum (mV σ1 (gN σ + cc) r.toNat f) + spW r.toNat f * gL σ r.toNat f = pSum σ + spW r.toNat f * m := hps
    refine rep_fg hR a1.symm ?_ ?_ ?_ ?_ (fun o' f' => ?_) ?_ ?_ ?_
    · rw [hKx, gK_mV]
    · rw [hNx, gN_mV, a2]
    · rw [hSx, gS_mV, a3]
    · rw [gC_mV, a4]; rfl
    · by_cases c1 : o' = r.toNat ∧ f' = f
      · refine Or.inl ?_
        rw [gV_mV, gL_mV, gA_mV, if_pos c1, if_pos c1, if_pos c1, a7.2.1, a7.2.2]
        refine ⟨?_, ?_, ?_⟩
        · show u2 _ _ _ _ o' f' = _
          unfold u2; rw [if_pos c1, if_neg hc]
        · show u2 _ _ _ _ o' f' = _
          unfold u2; rw [if_pos c1, if_neg hc]
        · show u2 _ _ _ _ o' f' = _
          unfold u2; rw [if_pos c1]; funext j; rw [if_neg hc]
      · have v1 : gV (grx c σ e r.toNat f m cp cc t) o' f' = gV σ o' f' := by
          show u2 _ _ _ _ o' f' = _
          unfold u2; rw [if_neg c1]
        have v2 : gL (grx c σ e r.toNat f m cp cc t) o' f' = gL σ o' f' := by
          show u2 _ _ _ _ o' f' = _
          unfold u2; rw [if_neg c1]
        have v3 : gA (grx c σ e r.toNat f m cp cc t) o' f' = gA σ o' f' := by
          show u2 _ _ _ _ o' f' = _
          unfold u2; rw [if_neg c1]
        by_cases c2 : f' = 0 ∧ gN σ ≤ o' ∧ o' ≤ gN σ + cc
        · refine Or.inr ⟨c2.1, by rw [gN_mV, a2]; omega, ?_, ?_⟩
          · rw [v1]; exact (hfV _ c2.2.1 _).1
          · rw [v2]; exact (hfV _ c2.2.1 _).2
        · refine Or.inl ?_
          obtain ⟨b1, b2, b3⟩ := a8 o' f' c2
          rw [gV_mV, gL_mV, gA_mV, if_neg c1, if_neg c1, if_neg c1, if_neg (by omega), if_neg (by omega), v1, v2, v3, b1, b2, b3]
          exact ⟨rfl, rfl, rfl⟩
    · rw [hDx]
      by_cases c1 : r.toNat < 222
      · rw [if_pos c1]
        have s4 := hR.2.2.2.2.2.2.2.2.2.1
        rw [gD_mV, a5, if_pos c1] at s4
        exact s4
      · rw [if_neg c1] at g4 ⊢
        omega
    · show gT σ ≤ 540000
      omega
    · rw [gS_mV, a3, hDx]
      show _ ≤ _ + gT σ + _
      by_cases c1 : r.toNat < 222
      · rw [if_pos c1] at g4 ⊢
        rw [g4.2] at hps'
        omega
      · rw [if_neg c1] at s1 ⊢
        omega
/-- what a simple grower leaves -/
theorem mrS_parts {σ : Sg} {o f m : Nat} (hm : 16 ≤ m) : gF (mrS σ o f m) = gF σ ∧ gN (mrS σ o f m) = gN σ + 0 + 1 ∧ gS (mrS σ o f m) = gS σ + m + 0 ∧ gC (mrS σ o f m) = gC σ ∧ gD (mrS σ o f m) = gD σ ∧ gT (mrS σ o f m) = gT σ + m + 0 ∧ gK (mrS σ o f m) = (fun x => if gN σ ≤ x ∧ x ≤ gN σ + 0 then 100 + 0 else gK σ x) ∧
    (gV (mrS σ o f m) (gN σ + 0) 0 = gN σ + 0 ∧ gL (mrS σ o f m) (gN σ + 0) 0 = m ∧ gA (mrS σ o f m) (gN σ + 0) 0 = fun j => if true = true ∧ j < gL σ o f then gA σ o f j else 0) ∧
    (∀ o' f' : Nat, ¬ (f' = 0 ∧ gN σ ≤ o' ∧ o' ≤ gN σ + 0) → gV (mrS σ o f m) o' f' = gV σ o' f' ∧ gL (mrS σ o f m) o' f' = gL σ o' f' ∧ gA (mrS σ o f m) o' f' = gA σ o' f') := by
  refine ⟨rfl, rfl, rfl, ?_, rfl, rfl, ?_, ⟨?_, ?_, ?_⟩, fun o' f' hn => ⟨?_, ?_, ?_⟩⟩
  · show gC σ + (if m < 16 then 1 else 0) = _
    rw [if_neg (by omega)]; rfl
  · funext x
    show (if x = gN σ then 100 + 0 else gK σ x) = _
    by_cases c : x = gN σ
    · rw [if_pos c, if_pos (by omega)]
    · rw [if_neg c, if_neg (by omega)]
  · show (if gN σ = gN σ ∧ 0 = 0 then gN σ else _) = _
    rw [if_pos ⟨rfl, rfl⟩]; rfl
  · show (if gN σ = gN σ ∧ 0 = 0 then m else _) = _
    rw [if_pos ⟨rfl, rfl⟩]
  · show (if gN σ = gN σ ∧ 0 = 0 then _ else _) = _
    rw [if_pos ⟨rfl, rfl⟩]
    funext j
    by_cases c : j < gL σ o f
    · rw [if_pos c, if_pos ⟨rfl, c⟩]
    · rw [if_neg c, if_neg (fun q => c q.2)]
  · show (if o' = gN σ ∧ f' = 0 then gN σ else _) = _
    rw [if_neg (by omega)]
  · show (if o' = gN σ ∧ f' = 0 then m else _) = _
    rw [if_neg (by omega)]
  · show (if o' = gN σ ∧ f' = 0 then _ else _) = _
    rw [if_neg (by omega)]; rfl
end GQ
