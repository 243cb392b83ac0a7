/-! where exceptions are made and caught -/
set_option maxRecDepth 100000
theorem thr_at {y : MI} {tab : List En} {pc : Nat} (h : tab.all (fun en => !isThr en || en.1 == pc) = true) (ht : ThrD y pc) : ∀ en ∈ tab, isThr en = true → ThrD y en.1 := fun en he hi => by
  have h1 := List.all_eq_true.mp h en he
  rw [hi] at h1
  have h2 : en.1 = pc := by simpa using h1
  rw [h2]; exact ht
theorem thrR : ∀ en ∈ tb 56, isThr en = true → ThrD (mY 56) en.1 := thr_at (pc := 11) (by decide +kernel) ⟨398, 29, 31, 33, "it can't stand there", fun _ h => List.mem_append_left _ h, q1504, by decide +kernel, by decide +kernel, by decide +kernel, by decide +kernel, by decide +kernel, by decide +kernel⟩
theorem thrD : ∀ en ∈ tb 102, isThr en = true → ThrD (mY 102) en.1 := thr_at (pc := 10) (by decide +kernel) ⟨397, 128, 130, 132, "it is wrong", fun _ h => List.mem_append_right _ h, q1858, by decide +kernel, by decide +kernel, by decide +kernel, by decide +kernel, by decide +kernel, by decide +kernel⟩
theorem hnd_54 : HndO (mY 54) := ⟨by decide, fun h hh => by
  have hh : h ∈ [(51, 94, 97, 29)] := hh
  have : h = (51, 94, 97, 29) := by simpa using hh
  subst this
  exact ⟨q1504, by decide⟩⟩
theorem hnd_96 : HndO (mY 96) := ⟨by decide, fun h hh => by
  have hh : h ∈ [(129, 133, 136, 128)] := hh
  have : h = (129, 133, 136, 128) := by simpa using hh
  subst this
  exact ⟨q1858, by decide⟩⟩
