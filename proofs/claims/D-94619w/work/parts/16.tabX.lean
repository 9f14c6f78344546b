/-! THE X LAYER's classes, by number -/
set_option maxRecDepth 100000
def TX17 : u_T := fun _ => ("", "", "I", false)
def tyX17 : Nat → FieldType := fun _ => .int
def xCl : List vw_C := [(RX0, TX0, 23), (RX1, TX1, 13), (RX2, TX2, 7), (RX3, TX3, 8), (RX4, TX4, 1), (RX5, TX5, 14), (RX7, TX7, 3), (RX9, TX9, 2), (RX10, TX10, 3), (RX11, TX11, 1), (RX12, TX12, 1), (RX13, TX13, 2), (RX15, TX15, 2), (RX16, TX16, 1), (RX17, TX17, 0), (RX18, TX18, 3), (RJ2, TJ2, 3), (RJ6, TJ6, 4), (RJ15, TJ15, 4), (RX6, TX6, 86)]
def xTyL : List (Nat → FieldType) := [tyX0, tyX1, tyX2, tyX3, tyX4, tyX5, tyX7, tyX9, tyX10, tyX11, tyX12, tyX13, tyX15, tyX16, tyX17, tyX18, tyJ2, tyJ6, tyJ15, tyX6]
def xNfL : List Nat := [23, 13, 7, 8, 1, 14, 3, 2, 3, 1, 1, 2, 2, 1, 0, 3, 3, 4, 4, 86]
def xNf (c : Nat) : Nat := xNfL.getD c 0
def xTy (c : Nat) : Nat → FieldType := xTyL.getD c (fun _ => .int)
theorem xCl_ok : ∀ (c : Nat) (q : vw_C), xCl[c]? = some q → (∀ w ∈ u_ws q.1 q.2.1 q.2.2, w ∈ lw_all) ∧ (∀ a, a < q.2.2 → ∀ b, b < q.2.2 → a ≠ b → (q.2.1 a).2.1 ≠ (q.2.1 b).2.1) ∧ (∀ k, k < q.2.2 → parseFieldDescriptor (q.2.1 k).2.2.1 = some (xTy c k)) ∧ xNf c = q.2.2 := by
  intro c q h
  match c, h with
  | 0, h => cases h; exact ⟨in_X0, nmX0, tyX0_ok, rfl⟩
  | 1, h => cases h; exact ⟨in_X1, nmX1, tyX1_ok, rfl⟩
  | 2, h => cases h; exact ⟨in_X2, nmX2, tyX2_ok, rfl⟩
  | 3, h => cases h; exact ⟨in_X3, nmX3, tyX3_ok, rfl⟩
  | 4, h => cases h; exact ⟨in_X4, nmX4, tyX4_ok, rfl⟩
  | 5, h => cases h; exact ⟨in_X5, nmX5, tyX5_ok, rfl⟩
  | 6, h => cases h; exact ⟨in_X7, nmX7, tyX7_ok, rfl⟩
  | 7, h => cases h; exact ⟨in_X9, nmX9, tyX9_ok, rfl⟩
  | 8, h => cases h; exact ⟨in_X10, nmX10, tyX10_ok, rfl⟩
  | 9, h => cases h; exact ⟨in_X11, nmX11, tyX11_ok, rfl⟩
  | 10, h => cases h; exact ⟨in_X12, nmX12, tyX12_ok, rfl⟩
  | 11, h => cases h; exact ⟨in_X13, nmX13, tyX13_ok, rfl⟩
  | 12, h => cases h; exact ⟨in_X15, nmX15, tyX15_ok, rfl⟩
  | 13, h => cases h; exact ⟨in_X16, nmX16, tyX16_ok, rfl⟩
  | 14, h => cases h; exact ⟨fun w h => (by simp [u_ws] at h), fun a h => absurd h (Nat.not_lt_zero a), fun k h => absurd h (Nat.not_lt_zero k), rfl⟩
  | 15, h => cases h; exact ⟨in_X18, nmX18, tyX18_ok, rfl⟩
  | 16, h => cases h; exact ⟨in_J2, nmJ2, tyJ2_ok, rfl⟩
  | 17, h => cases h; exact ⟨in_J6, nmJ6, tyJ6_ok, rfl⟩
  | 18, h => cases h; exact ⟨in_J15, nmJ15, tyJ15_ok, rfl⟩
  | 19, h => cases h; exact ⟨in_X6, nmX6, tyX6_ok, rfl⟩
  | n + 20, h => simp [xCl] at h
