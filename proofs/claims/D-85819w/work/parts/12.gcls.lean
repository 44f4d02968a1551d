/-! the classes of the house, by number (made by gen/mkg.py) -/
set_option maxRecDepth 100000
def gcl : List vw_C := [(RX1, TX1, 10), (RX2, TX2, 4), (RX3, TX3, 11), (RX4, TX4, 6), (RX6, TX6, 10), (RX7, TX7, 6), (RX8, TX8, 8), (RX10, TX10, 4), (RX11, TX11, 6), (RX12, TX12, 4), (RX13, TX13, 3), (RX14, TX14, 5), (RX15, TX15, 4), (RX16, TX16, 2), (RX17, TX17, 5), (RX18, TX18, 3), (RX19, TX19, 2), (RX20, TX20, 4), (RX21, TX21, 4), (RX22, TX22, 3), (RX23, TX23, 4), (RJ2, TJ2, 3), (RJ3, TJ3, 4), (RJ13, TJ13, 4), (RJ10, TJ10, 6), (RJ20, TJ20, 6), (RJ21, TJ21, 6), (RX5, TX5, 83)]
/-- what a field is: 0 an int, 1 a reference, 2 a byte, 3 a boolean -/
def gkd : List (List Nat) := [[1, 0, 0, 0, 0, 1, 1, 1, 1, 0], [1, 1, 1, 0], [1, 1, 1, 1, 1, 0, 0, 0, 0, 1, 0], [1, 1, 1, 1, 1, 0], [1, 0, 0, 0, 0, 0, 1, 1, 1, 1], [1, 0, 1, 1, 1, 1], [1, 1, 1, 1, 1, 0, 0, 0], [0, 0, 1, 1], [0, 0, 1, 1, 0, 0], [0, 0, 1, 1], [0, 0, 0], [0, 0, 1, 1, 0], [0, 0, 1, 1], [1, 1], [1, 1, 1, 0, 1], [1, 1, 0], [1, 1], [0, 0, 0, 0], [0, 0, 1, 0], [0, 0, 1], [1, 1, 0, 1], [0, 1, 0], [1, 2, 0, 3], [1, 2, 3, 0], [1, 1, 1, 1, 1, 0], [1, 1, 1, 1, 1, 0], [1, 1, 1, 1, 1, 0], [1, 0, 1, 0, 1, 0, 0, 0, 0, 0, 0, 0, 0, 0, 0, 3, 1, 1, 1, 1, 0, 1, 1, 1, 1, 1, 1, 0, 1, 0, 1, 1, 1, 1, 1, 1, 1, 1, 1, 0, 1, 1, 1, 0, 1, 1, 1, 1, 0, 1, 1, 0, 0, 0, 0, 0, 3, 0, 1, 0, 0, 0, 0, 0, 0, 0, 0, 0, 0, 0, 0, 0, 0, 0, 1, 0, 0, 0, 0, 0, 0, 0, 0]]
def gK (c j : Nat) : Nat := (gkd.getD c []).getD j 7
def gtyl : List (Nat → FieldType) := [tyX1, tyX2, tyX3, tyX4, tyX6, tyX7, tyX8, tyX10, tyX11, tyX12, tyX13, tyX14, tyX15, tyX16, tyX17, tyX18, tyX19, tyX20, tyX21, tyX22, tyX23, tyJ2, tyJ3, tyJ13, tyJ10, tyJ20, tyJ21, tyX5]
def gty (c j : Nat) : FieldType := (gtyl.getD c (fun _ => .int)) j
theorem gcl_lt {c : Nat} {q : vw_C} (h : gcl[c]? = some q) : c < 28 := (List.getElem?_eq_some_iff.mp h).1
theorem gin {c : Nat} {q : vw_C} (h : gcl[c]? = some q) : ∀ w ∈ u_ws q.1 q.2.1 q.2.2, w ∈ lw_all := by
  have hc := gcl_lt h
  match c, h, hc with
  | 0, h, _ => cases h; exact in_X1
  | 1, h, _ => cases h; exact in_X2
  | 2, h, _ => cases h; exact in_X3
  | 3, h, _ => cases h; exact in_X4
  | 4, h, _ => cases h; exact in_X6
  | 5, h, _ => cases h; exact in_X7
  | 6, h, _ => cases h; exact in_X8
  | 7, h, _ => cases h; exact in_X10
  | 8, h, _ => cases h; exact in_X11
  | 9, h, _ => cases h; exact in_X12
  | 10, h, _ => cases h; exact in_X13
  | 11, h, _ => cases h; exact in_X14
  | 12, h, _ => cases h; exact in_X15
  | 13, h, _ => cases h; exact in_X16
  | 14, h, _ => cases h; exact in_X17
  | 15, h, _ => cases h; exact in_X18
  | 16, h, _ => cases h; exact in_X19
  | 17, h, _ => cases h; exact in_X20
  | 18, h, _ => cases h; exact in_X21
  | 19, h, _ => cases h; exact in_X22
  | 20, h, _ => cases h; exact in_X23
  | 21, h, _ => cases h; exact in_J2
  | 22, h, _ => cases h; exact in_J3
  | 23, h, _ => cases h; exact in_J13
  | 24, h, _ => cases h; exact in_J10
  | 25, h, _ => cases h; exact in_J20
  | 26, h, _ => cases h; exact in_J21
  | 27, h, _ => cases h; exact in_X5
  | n + 28, _, hc => exact absurd hc (by omega)
theorem gnm {c : Nat} {q : vw_C} (h : gcl[c]? = some q) : ∀ a, a < q.2.2 → ∀ b, b < q.2.2 → a ≠ b → (q.2.1 a).2.1 ≠ (q.2.1 b).2.1 := by
  have hc := gcl_lt h
  match c, h, hc with
  | 0, h, _ => cases h; exact nmX1
  | 1, h, _ => cases h; exact nmX2
  | 2, h, _ => cases h; exact nmX3
  | 3, h, _ => cases h; exact nmX4
  | 4, h, _ => cases h; exact nmX6
  | 5, h, _ => cases h; exact nmX7
  | 6, h, _ => cases h; exact nmX8
  | 7, h, _ => cases h; exact nmX10
  | 8, h, _ => cases h; exact nmX11
  | 9, h, _ => cases h; exact nmX12
  | 10, h, _ => cases h; exact nmX13
  | 11, h, _ => cases h; exact nmX14
  | 12, h, _ => cases h; exact nmX15
  | 13, h, _ => cases h; exact nmX16
  | 14, h, _ => cases h; exact nmX17
  | 15, h, _ => cases h; exact nmX18
  | 16, h, _ => cases h; exact nmX19
  | 17, h, _ => cases h; exact nmX20
  | 18, h, _ => cases h; exact nmX21
  | 19, h, _ => cases h; exact nmX22
  | 20, h, _ => cases h; exact nmX23
  | 21, h, _ => cases h; exact nmJ2
  | 22, h, _ => cases h; exact nmJ3
  | 23, h, _ => cases h; exact nmJ13
  | 24, h, _ => cases h; exact nmJ10
  | 25, h, _ => cases h; exact nmJ20
  | 26, h, _ => cases h; exact nmJ21
  | 27, h, _ => cases h; exact nmX5
  | n + 28, _, hc => exact absurd hc (by omega)
theorem gtyok {c : Nat} {q : vw_C} (h : gcl[c]? = some q) : ∀ k, k < q.2.2 → parseFieldDescriptor (q.2.1 k).2.2.1 = some (gty c k) := by
  have hc := gcl_lt h
  match c, h, hc with
  | 0, h, _ => cases h; exact tyX1_ok
  | 1, h, _ => cases h; exact tyX2_ok
  | 2, h, _ => cases h; exact tyX3_ok
  | 3, h, _ => cases h; exact tyX4_ok
  | 4, h, _ => cases h; exact tyX6_ok
  | 5, h, _ => cases h; exact tyX7_ok
  | 6, h, _ => cases h; exact tyX8_ok
  | 7, h, _ => cases h; exact tyX10_ok
  | 8, h, _ => cases h; exact tyX11_ok
  | 9, h, _ => cases h; exact tyX12_ok
  | 10, h, _ => cases h; exact tyX13_ok
  | 11, h, _ => cases h; exact tyX14_ok
  | 12, h, _ => cases h; exact tyX15_ok
  | 13, h, _ => cases h; exact tyX16_ok
  | 14, h, _ => cases h; exact tyX17_ok
  | 15, h, _ => cases h; exact tyX18_ok
  | 16, h, _ => cases h; exact tyX19_ok
  | 17, h, _ => cases h; exact tyX20_ok
  | 18, h, _ => cases h; exact tyX21_ok
  | 19, h, _ => cases h; exact tyX22_ok
  | 20, h, _ => cases h; exact tyX23_ok
  | 21, h, _ => cases h; exact tyJ2_ok
  | 22, h, _ => cases h; exact tyJ3_ok
  | 23, h, _ => cases h; exact tyJ13_ok
  | 24, h, _ => cases h; exact tyJ10_ok
  | 25, h, _ => cases h; exact tyJ20_ok
  | 26, h, _ => cases h; exact tyJ21_ok
  | 27, h, _ => cases h; exact tyX5_ok
  | n + 28, _, hc => exact absurd hc (by omega)
/-- the kinds are those of the descriptors -/
def gkOf (t : FieldType) : Nat := match t with | .int => 0 | .byte => 2 | .boolean => 3 | .object _ => 1 | .array _ => 1 | _ => 9
theorem gkok {c : Nat} {q : vw_C} (h : gcl[c]? = some q) : ∀ k, k < q.2.2 → gkOf (gty c k) = gK c k ∧ gK c k ≤ 3 := by
  have hc := gcl_lt h
  match c, h, hc with
  | 0, h, _ => cases h; exact by decide +kernel
  | 1, h, _ => cases h; exact by decide +kernel
  | 2, h, _ => cases h; exact by decide +kernel
  | 3, h, _ => cases h; exact by decide +kernel
  | 4, h, _ => cases h; exact by decide +kernel
  | 5, h, _ => cases h; exact by decide +kernel
  | 6, h, _ => cases h; exact by decide +kernel
  | 7, h, _ => cases h; exact by decide +kernel
  | 8, h, _ => cases h; exact by decide +kernel
  | 9, h, _ => cases h; exact by decide +kernel
  | 10, h, _ => cases h; exact by decide +kernel
  | 11, h, _ => cases h; exact by decide +kernel
  | 12, h, _ => cases h; exact by decide +kernel
  | 13, h, _ => cases h; exact by decide +kernel
  | 14, h, _ => cases h; exact by decide +kernel
  | 15, h, _ => cases h; exact by decide +kernel
  | 16, h, _ => cases h; exact by decide +kernel
  | 17, h, _ => cases h; exact by decide +kernel
  | 18, h, _ => cases h; exact by decide +kernel
  | 19, h, _ => cases h; exact by decide +kernel
  | 20, h, _ => cases h; exact by decide +kernel
  | 21, h, _ => cases h; exact by decide +kernel
  | 22, h, _ => cases h; exact by decide +kernel
  | 23, h, _ => cases h; exact by decide +kernel
  | 24, h, _ => cases h; exact by decide +kernel
  | 25, h, _ => cases h; exact by decide +kernel
  | 26, h, _ => cases h; exact by decide +kernel
  | 27, h, _ => cases h; exact by decide +kernel
  | n + 28, _, hc => exact absurd hc (by omega)
