set_option maxRecDepth 100000
/-- a kind of field fits a type -/
def tyB (t : Nat) (ty : FieldType) : Bool := match ty with
  | .int => t == 0
  | .boolean => t == 1
  | .long => t == 2
  | .object _ => t == 3
  | .array _ => Nat.ble 4 t
  | _ => false
def ClOk (ci : Nat) (q : vw_C) : Prop := (∀ w ∈ u_ws q.1 q.2.1 q.2.2, w ∈ lw_all) ∧ (∃ ty : Nat → FieldType, (∀ k, k < q.2.2 → parseFieldDescriptor (q.2.1 k).2.2.1 = some (ty k)) ∧ ∀ k, k < q.2.2 → tyB (ftOf ci (k + 1)) (ty k) = true) ∧ ∀ a, a < q.2.2 → ∀ b, b < q.2.2 → a ≠ b → (q.2.1 a).2.1 ≠ (q.2.1 b).2.1
theorem clok_0 : ClOk 0 (RX0, TX0, 21) := ⟨in_X0, ⟨tyX0, tyX0_ok, by decide +kernel⟩, nmX0⟩
theorem clok_1 : ClOk 1 (RX1, TX1, 2) := ⟨in_X1, ⟨tyX1, tyX1_ok, by decide +kernel⟩, nmX1⟩
theorem clok_2 : ClOk 2 (RX2, TX2, 4) := ⟨in_X2, ⟨tyX2, tyX2_ok, by decide +kernel⟩, nmX2⟩
theorem clok_3 : ClOk 3 (RX3, TX3, 5) := ⟨in_X3, ⟨tyX3, tyX3_ok, by decide +kernel⟩, nmX3⟩
theorem clok_4 : ClOk 4 (RX4, TX4, 5) := ⟨in_X4, ⟨tyX4, tyX4_ok, by decide +kernel⟩, nmX4⟩
theorem clok_5 : ClOk 5 (RX5, TX5, 8) := ⟨in_X5, ⟨tyX5, tyX5_ok, by decide +kernel⟩, nmX5⟩
theorem clok_7 : ClOk 7 (RX7, TX7, 51) := ⟨in_X7, ⟨tyX7, tyX7_ok, by decide +kernel⟩, nmX7⟩
theorem clok_8 : ClOk 8 (RX8, TX8, 3) := ⟨in_X8, ⟨tyX8, tyX8_ok, by decide +kernel⟩, nmX8⟩
theorem clok_9 : ClOk 9 (RX9, TX9, 7) := ⟨in_X9, ⟨tyX9, tyX9_ok, by decide +kernel⟩, nmX9⟩
theorem clok_10 : ClOk 10 (RX10, TX10, 26) := ⟨in_X10, ⟨tyX10, tyX10_ok, by decide +kernel⟩, nmX10⟩
theorem clok_11 : ClOk 11 (RX11, TX11, 16) := ⟨in_X11, ⟨tyX11, tyX11_ok, by decide +kernel⟩, nmX11⟩
theorem clok_12 : ClOk 12 (RX12, TX12, 7) := ⟨in_X12, ⟨tyX12, tyX12_ok, by decide +kernel⟩, nmX12⟩
theorem clok_13 : ClOk 13 (RX13, TX13, 3) := ⟨in_X13, ⟨tyX13, tyX13_ok, by decide +kernel⟩, nmX13⟩
theorem clok_14 : ClOk 14 (RX14, TX14, 5) := ⟨in_X14, ⟨tyX14, tyX14_ok, by decide +kernel⟩, nmX14⟩
theorem clok_15 : ClOk 15 (RX15, TX15, 6) := ⟨in_X15, ⟨tyX15, tyX15_ok, by decide +kernel⟩, nmX15⟩
theorem clok_16 : ClOk 16 (RX16, TX16, 1) := ⟨in_X16, ⟨tyX16, tyX16_ok, by decide +kernel⟩, nmX16⟩
theorem clok_17 : ClOk 17 (RX17, TX17, 72) := ⟨in_X17, ⟨tyX17, tyX17_ok, by decide +kernel⟩, nmX17⟩
theorem clok_18 : ClOk 18 (RX18, TX18, 60) := ⟨in_X18, ⟨tyX18, tyX18_ok, by decide +kernel⟩, nmX18⟩
theorem clok_19 : ClOk 19 (RX19, TX19, 7) := ⟨in_X19, ⟨tyX19, tyX19_ok, by decide +kernel⟩, nmX19⟩
theorem clok_20 : ClOk 20 (RX20, TX20, 4) := ⟨in_X20, ⟨tyX20, tyX20_ok, by decide +kernel⟩, nmX20⟩
theorem clok_21 : ClOk 21 (RX21, TX21, 7) := ⟨in_X21, ⟨tyX21, tyX21_ok, by decide +kernel⟩, nmX21⟩
theorem clok_22 : ClOk 22 (RJ10, TJ10, 6) := ⟨in_J10, ⟨tyJ10, tyJ10_ok, by decide +kernel⟩, nmJ10⟩
theorem cl_ok {ci : Nat} {q : vw_C} (h : clL[ci]? = some q) (h6 : ci ≠ 6) : ClOk ci q := by
  match ci, h with
  | 0, h => cases h; exact clok_0
  | 1, h => cases h; exact clok_1
  | 2, h => cases h; exact clok_2
  | 3, h => cases h; exact clok_3
  | 4, h => cases h; exact clok_4
  | 5, h => cases h; exact clok_5
  | 6, h => exact absurd rfl h6
  | 7, h => cases h; exact clok_7
  | 8, h => cases h; exact clok_8
  | 9, h => cases h; exact clok_9
  | 10, h => cases h; exact clok_10
  | 11, h => cases h; exact clok_11
  | 12, h => cases h; exact clok_12
  | 13, h => cases h; exact clok_13
  | 14, h => cases h; exact clok_14
  | 15, h => cases h; exact clok_15
  | 16, h => cases h; exact clok_16
  | 17, h => cases h; exact clok_17
  | 18, h => cases h; exact clok_18
  | 19, h => cases h; exact clok_19
  | 20, h => cases h; exact clok_20
  | 21, h => cases h; exact clok_21
  | 22, h => cases h; exact clok_22
  | k + 23, h => simp [clL] at h
