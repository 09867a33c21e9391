abbrev ah_dX0 : List am_W := [am_O none, am_I 0, am_O none, am_O none, am_O none, am_O none, am_I 0, am_O none, am_O none, am_O none, am_O none, am_O none, am_O none, am_I 0, am_I 0, am_O none, am_O none, am_I 0, am_O none, am_O none]
theorem ah_dX0_ok : ∀ (ad : Nat → Nat) (j : Nat), j < 20 → defaultValue (tyX0 j) = vp_V (ah_dX0.map (am_c ad)) j := by
  intro ad j hj
  match j, hj with
  | 0, _ => rfl
  | 1, _ => rfl
  | 2, _ => rfl
  | 3, _ => rfl
  | 4, _ => rfl
  | 5, _ => rfl
  | 6, _ => rfl
  | 7, _ => rfl
  | 8, _ => rfl
  | 9, _ => rfl
  | 10, _ => rfl
  | 11, _ => rfl
  | 12, _ => rfl
  | 13, _ => rfl
  | 14, _ => rfl
  | 15, _ => rfl
  | 16, _ => rfl
  | 17, _ => rfl
  | 18, _ => rfl
  | 19, _ => rfl
  | j + 20, h => exact absurd h (by omega)
abbrev ah_dX1 : List am_W := [am_O none, am_O none, am_O none, am_O none, am_O none]
theorem ah_dX1_ok : ∀ (ad : Nat → Nat) (j : Nat), j < 5 → defaultValue (tyX1 j) = vp_V (ah_dX1.map (am_c ad)) j := by
  intro ad j hj
  match j, hj with
  | 0, _ => rfl
  | 1, _ => rfl
  | 2, _ => rfl
  | 3, _ => rfl
  | 4, _ => rfl
  | j + 5, h => exact absurd h (by omega)
abbrev ah_dX2 : List am_W := [am_O none, am_I 0]
theorem ah_dX2_ok : ∀ (ad : Nat → Nat) (j : Nat), j < 2 → defaultValue (tyX2 j) = vp_V (ah_dX2.map (am_c ad)) j := by
  intro ad j hj
  match j, hj with
  | 0, _ => rfl
  | 1, _ => rfl
  | j + 2, h => exact absurd h (by omega)
abbrev ah_dX4 : List am_W := [am_O none, am_O none, am_O none, am_O none, am_O none, am_I 0, am_I 0]
theorem ah_dX4_ok : ∀ (ad : Nat → Nat) (j : Nat), j < 7 → defaultValue (tyX4 j) = vp_V (ah_dX4.map (am_c ad)) j := by
  intro ad j hj
  match j, hj with
  | 0, _ => rfl
  | 1, _ => rfl
  | 2, _ => rfl
  | 3, _ => rfl
  | 4, _ => rfl
  | 5, _ => rfl
  | 6, _ => rfl
  | j + 7, h => exact absurd h (by omega)
abbrev ah_dX5 : List am_W := [am_I 0, am_O none]
theorem ah_dX5_ok : ∀ (ad : Nat → Nat) (j : Nat), j < 2 → defaultValue (tyX5 j) = vp_V (ah_dX5.map (am_c ad)) j := by
  intro ad j hj
  match j, hj with
  | 0, _ => rfl
  | 1, _ => rfl
  | j + 2, h => exact absurd h (by omega)
abbrev ah_dX6 : List am_W := [am_I 0, am_I 0, am_I 0, am_I 0, am_I 0]
theorem ah_dX6_ok : ∀ (ad : Nat → Nat) (j : Nat), j < 5 → defaultValue (tyX6 j) = vp_V (ah_dX6.map (am_c ad)) j := by
  intro ad j hj
  match j, hj with
  | 0, _ => rfl
  | 1, _ => rfl
  | 2, _ => rfl
  | 3, _ => rfl
  | 4, _ => rfl
  | j + 5, h => exact absurd h (by omega)
abbrev ah_dX7 : List am_W := [am_O none, am_I 0, am_I 0, am_I 0, am_I 0, am_I 0, am_I 0, am_O none, am_O none]
theorem ah_dX7_ok : ∀ (ad : Nat → Nat) (j : Nat), j < 9 → defaultValue (tyX7 j) = vp_V (ah_dX7.map (am_c ad)) j := by
  intro ad j hj
  match j, hj with
  | 0, _ => rfl
  | 1, _ => rfl
  | 2, _ => rfl
  | 3, _ => rfl
  | 4, _ => rfl
  | 5, _ => rfl
  | 6, _ => rfl
  | 7, _ => rfl
  | 8, _ => rfl
  | j + 9, h => exact absurd h (by omega)
abbrev ah_dX8 : List am_W := [am_O none, am_O none, am_O none, am_O none, am_O none, am_I 0, am_I 0, am_I 0]
theorem ah_dX8_ok : ∀ (ad : Nat → Nat) (j : Nat), j < 8 → defaultValue (tyX8 j) = vp_V (ah_dX8.map (am_c ad)) j := by
  intro ad j hj
  match j, hj with
  | 0, _ => rfl
  | 1, _ => rfl
  | 2, _ => rfl
  | 3, _ => rfl
  | 4, _ => rfl
  | 5, _ => rfl
  | 6, _ => rfl
  | 7, _ => rfl
  | j + 8, h => exact absurd h (by omega)
abbrev ah_dX9 : List am_W := [am_I 0, am_I 0, am_I 0]
theorem ah_dX9_ok : ∀ (ad : Nat → Nat) (j : Nat), j < 3 → defaultValue (tyX9 j) = vp_V (ah_dX9.map (am_c ad)) j := by
  intro ad j hj
  match j, hj with
  | 0, _ => rfl
  | 1, _ => rfl
  | 2, _ => rfl
  | j + 3, h => exact absurd h (by omega)
abbrev ah_dX11 : List am_W := [am_I 0, am_O none, am_O none]
theorem ah_dX11_ok : ∀ (ad : Nat → Nat) (j : Nat), j < 3 → defaultValue (tyX11 j) = vp_V (ah_dX11.map (am_c ad)) j := by
  intro ad j hj
  match j, hj with
  | 0, _ => rfl
  | 1, _ => rfl
  | 2, _ => rfl
  | j + 3, h => exact absurd h (by omega)
abbrev ah_dX12 : List am_W := [am_I 0, am_O none, am_O none]
theorem ah_dX12_ok : ∀ (ad : Nat → Nat) (j : Nat), j < 3 → defaultValue (tyX12 j) = vp_V (ah_dX12.map (am_c ad)) j := by
  intro ad j hj
  match j, hj with
  | 0, _ => rfl
  | 1, _ => rfl
  | 2, _ => rfl
  | j + 3, h => exact absurd h (by omega)
abbrev ah_dX13 : List am_W := [am_I 0, am_O none, am_O none]
theorem ah_dX13_ok : ∀ (ad : Nat → Nat) (j : Nat), j < 3 → defaultValue (tyX13 j) = vp_V (ah_dX13.map (am_c ad)) j := by
  intro ad j hj
  match j, hj with
  | 0, _ => rfl
  | 1, _ => rfl
  | 2, _ => rfl
  | j + 3, h => exact absurd h (by omega)
abbrev ah_dX14 : List am_W := [am_I 0, am_O none, am_O none, am_O none]
theorem ah_dX14_ok : ∀ (ad : Nat → Nat) (j : Nat), j < 4 → defaultValue (tyX14 j) = vp_V (ah_dX14.map (am_c ad)) j := by
  intro ad j hj
  match j, hj with
  | 0, _ => rfl
  | 1, _ => rfl
  | 2, _ => rfl
  | 3, _ => rfl
  | j + 4, h => exact absurd h (by omega)
abbrev ah_dX15 : List am_W := [am_I 0, am_O none, am_O none]
theorem ah_dX15_ok : ∀ (ad : Nat → Nat) (j : Nat), j < 3 → defaultValue (tyX15 j) = vp_V (ah_dX15.map (am_c ad)) j := by
  intro ad j hj
  match j, hj with
  | 0, _ => rfl
  | 1, _ => rfl
  | 2, _ => rfl
  | j + 3, h => exact absurd h (by omega)
abbrev ah_dJ2 : List am_W := [am_I 0, am_O none, am_I 0]
theorem ah_dJ2_ok : ∀ (ad : Nat → Nat) (j : Nat), j < 3 → defaultValue (tyJ2 j) = vp_V (ah_dJ2.map (am_c ad)) j := by
  intro ad j hj
  match j, hj with
  | 0, _ => rfl
  | 1, _ => rfl
  | 2, _ => rfl
  | j + 3, h => exact absurd h (by omega)
abbrev ah_dJ16 : List am_W := [am_O none, am_I 0, am_I 0, am_I 0]
theorem ah_dJ16_ok : ∀ (ad : Nat → Nat) (j : Nat), j < 4 → defaultValue (tyJ16 j) = vp_V (ah_dJ16.map (am_c ad)) j := by
  intro ad j hj
  match j, hj with
  | 0, _ => rfl
  | 1, _ => rfl
  | 2, _ => rfl
  | 3, _ => rfl
  | j + 4, h => exact absurd h (by omega)
abbrev ah_dJ8 : List am_W := [am_O none, am_I 0, am_I 0, am_I 0]
theorem ah_dJ8_ok : ∀ (ad : Nat → Nat) (j : Nat), j < 4 → defaultValue (tyJ8 j) = vp_V (ah_dJ8.map (am_c ad)) j := by
  intro ad j hj
  match j, hj with
  | 0, _ => rfl
  | 1, _ => rfl
  | 2, _ => rfl
  | 3, _ => rfl
  | j + 4, h => exact absurd h (by omega)
theorem nmg_X11 : ∀ a, a < 3 → ∀ b, b < 3 → a ≠ b → ((TX11 a).1 ≠ (TX11 b).1 ∨ (TX11 a).2.1 ≠ (TX11 b).2.1) := by decide +kernel
theorem hall_X11 : ∀ k, k < 3 → (TX11 k).2.2.2 = true := by decide +kernel
theorem nmg_X12 : ∀ a, a < 3 → ∀ b, b < 3 → a ≠ b → ((TX12 a).1 ≠ (TX12 b).1 ∨ (TX12 a).2.1 ≠ (TX12 b).2.1) := by decide +kernel
theorem hall_X12 : ∀ k, k < 3 → (TX12 k).2.2.2 = true := by decide +kernel
theorem nmg_X13 : ∀ a, a < 3 → ∀ b, b < 3 → a ≠ b → ((TX13 a).1 ≠ (TX13 b).1 ∨ (TX13 a).2.1 ≠ (TX13 b).2.1) := by decide +kernel
theorem hall_X13 : ∀ k, k < 3 → (TX13 k).2.2.2 = true := by decide +kernel
theorem nmg_X14 : ∀ a, a < 4 → ∀ b, b < 4 → a ≠ b → ((TX14 a).1 ≠ (TX14 b).1 ∨ (TX14 a).2.1 ≠ (TX14 b).2.1) := by decide +kernel
theorem hall_X14 : ∀ k, k < 4 → (TX14 k).2.2.2 = true := by decide +kernel
theorem nmg_X15 : ∀ a, a < 3 → ∀ b, b < 3 → a ≠ b → ((TX15 a).1 ≠ (TX15 b).1 ∨ (TX15 a).2.1 ≠ (TX15 b).2.1) := by decide +kernel
theorem hall_X15 : ∀ k, k < 3 → (TX15 k).2.2.2 = true := by decide +kernel
