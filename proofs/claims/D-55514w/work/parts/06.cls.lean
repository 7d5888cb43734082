/-! classes by their numbers -/
def xT0 : u_T := fun _ => ("", "", "", false)
theorem xin0 (R : String) : ∀ w ∈ u_ws R xT0 0, w ∈ lw_all := fun w h => by cases h
theorem xty0 : ∀ k, k < 0 → parseFieldDescriptor (xT0 k).2.2.1 = some (FieldType.int) := fun k h => absurd h (Nat.not_lt_zero k)
def vwCl : List vw_C := [(RX0, TX0, 8), (RX1, TX1, 11), (RX2, TX2, 2), (RJ2, TJ2, 3), (RJ3, TJ3, 3), (RX3, TX3, 21), (RX5, TX5, 5), (RJ4, TJ4, 4), (RJ7, TJ7, 5), (RJ10, TJ10, 6), (RJ12, TJ12, 4), (RJ13, TJ13, 4), (RX7, TX7, 7), (RX8, TX8, 9), (RX9, TX9, 8), (RX10, TX10, 6), (RJ20, TJ20, 4), (RX11, TX11, 1), (RX12, TX12, 2), (RJ21, TJ21, 4), (RJ23, TJ23, 5), (RJ24, TJ24, 5), (RJ25, TJ25, 6), (RJ26, TJ26, 3), (RJ27, TJ27, 3), (RX13, TX13, 6), (RX14, TX14, 3), (RX15, TX15, 3), (RX16, TX16, 3), (RX17, TX17, 3), (RX18, TX18, 4), (RX19, TX19, 3), (RX20, TX20, 1), (RX21, TX21, 2), (RX22, TX22, 3), (RX23, TX23, 2), (RX24, TX24, 1), (RX25, xT0, 0), (RJ32, TJ32, 4), (RX26, TX26, 1), (RX27, xT0, 0), (RX28, xT0, 0), (RX29, xT0, 0), (RX30, xT0, 0), (RX31, TX31, 1), (RX32, xT0, 0), (RX33, TX33, 3), (RX34, TX34, 7), (RX36, TX36, 4), (RX37, TX37, 5), (RX38, TX38, 3), (RX39, TX39, 2), (RX40, TX40, 3), (RX41, TX41, 3)]
abbrev kcX0 : Nat := 1
theorem hcX0 : vwCl[0]? = some (RX0, TX0, 8) := rfl
theorem xnmX0 : ∀ a, a < 8 → ∀ b, b < 8 → a ≠ b → (TX0 a).2.1 ≠ (TX0 b).2.1 ∨ ((TX0 a).2.2.2 = true ∧ (TX0 b).2.2.2 = true ∧ (TX0 a).1 ≠ (TX0 b).1) := by decide +kernel
abbrev kcX1 : Nat := 2
theorem hcX1 : vwCl[1]? = some (RX1, TX1, 11) := rfl
theorem xnmX1 : ∀ a, a < 11 → ∀ b, b < 11 → a ≠ b → (TX1 a).2.1 ≠ (TX1 b).2.1 ∨ ((TX1 a).2.2.2 = true ∧ (TX1 b).2.2.2 = true ∧ (TX1 a).1 ≠ (TX1 b).1) := by decide +kernel
abbrev kcX2 : Nat := 3
theorem hcX2 : vwCl[2]? = some (RX2, TX2, 2) := rfl
theorem xnmX2 : ∀ a, a < 2 → ∀ b, b < 2 → a ≠ b → (TX2 a).2.1 ≠ (TX2 b).2.1 ∨ ((TX2 a).2.2.2 = true ∧ (TX2 b).2.2.2 = true ∧ (TX2 a).1 ≠ (TX2 b).1) := by decide +kernel
abbrev kcJ2 : Nat := 4
theorem hcJ2 : vwCl[3]? = some (RJ2, TJ2, 3) := rfl
theorem xnmJ2 : ∀ a, a < 3 → ∀ b, b < 3 → a ≠ b → (TJ2 a).2.1 ≠ (TJ2 b).2.1 ∨ ((TJ2 a).2.2.2 = true ∧ (TJ2 b).2.2.2 = true ∧ (TJ2 a).1 ≠ (TJ2 b).1) := by decide +kernel
abbrev kcJ3 : Nat := 5
theorem hcJ3 : vwCl[4]? = some (RJ3, TJ3, 3) := rfl
theorem xnmJ3 : ∀ a, a < 3 → ∀ b, b < 3 → a ≠ b → (TJ3 a).2.1 ≠ (TJ3 b).2.1 ∨ ((TJ3 a).2.2.2 = true ∧ (TJ3 b).2.2.2 = true ∧ (TJ3 a).1 ≠ (TJ3 b).1) := by decide +kernel
abbrev kcX3 : Nat := 6
theorem hcX3 : vwCl[5]? = some (RX3, TX3, 21) := rfl
theorem xnmX3 : ∀ a, a < 21 → ∀ b, b < 21 → a ≠ b → (TX3 a).2.1 ≠ (TX3 b).2.1 ∨ ((TX3 a).2.2.2 = true ∧ (TX3 b).2.2.2 = true ∧ (TX3 a).1 ≠ (TX3 b).1) := by decide +kernel
abbrev kcX5 : Nat := 7
theorem hcX5 : vwCl[6]? = some (RX5, TX5, 5) := rfl
theorem xnmX5 : ∀ a, a < 5 → ∀ b, b < 5 → a ≠ b → (TX5 a).2.1 ≠ (TX5 b).2.1 ∨ ((TX5 a).2.2.2 = true ∧ (TX5 b).2.2.2 = true ∧ (TX5 a).1 ≠ (TX5 b).1) := by decide +kernel
abbrev kcJ4 : Nat := 8
theorem hcJ4 : vwCl[7]? = some (RJ4, TJ4, 4) := rfl
theorem xnmJ4 : ∀ a, a < 4 → ∀ b, b < 4 → a ≠ b → (TJ4 a).2.1 ≠ (TJ4 b).2.1 ∨ ((TJ4 a).2.2.2 = true ∧ (TJ4 b).2.2.2 = true ∧ (TJ4 a).1 ≠ (TJ4 b).1) := by decide +kernel
abbrev kcJ7 : Nat := 9
theorem hcJ7 : vwCl[8]? = some (RJ7, TJ7, 5) := rfl
theorem xnmJ7 : ∀ a, a < 5 → ∀ b, b < 5 → a ≠ b → (TJ7 a).2.1 ≠ (TJ7 b).2.1 ∨ ((TJ7 a).2.2.2 = true ∧ (TJ7 b).2.2.2 = true ∧ (TJ7 a).1 ≠ (TJ7 b).1) := by decide +kernel
abbrev kcJ10 : Nat := 10
theorem hcJ10 : vwCl[9]? = some (RJ10, TJ10, 6) := rfl
theorem xnmJ10 : ∀ a, a < 6 → ∀ b, b < 6 → a ≠ b → (TJ10 a).2.1 ≠ (TJ10 b).2.1 ∨ ((TJ10 a).2.2.2 = true ∧ (TJ10 b).2.2.2 = true ∧ (TJ10 a).1 ≠ (TJ10 b).1) := by decide +kernel
abbrev kcJ12 : Nat := 11
theorem hcJ12 : vwCl[10]? = some (RJ12, TJ12, 4) := rfl
theorem xnmJ12 : ∀ a, a < 4 → ∀ b, b < 4 → a ≠ b → (TJ12 a).2.1 ≠ (TJ12 b).2.1 ∨ ((TJ12 a).2.2.2 = true ∧ (TJ12 b).2.2.2 = true ∧ (TJ12 a).1 ≠ (TJ12 b).1) := by decide +kernel
abbrev kcJ13 : Nat := 12
theorem hcJ13 : vwCl[11]? = some (RJ13, TJ13, 4) := rfl
theorem xnmJ13 : ∀ a, a < 4 → ∀ b, b < 4 → a ≠ b → (TJ13 a).2.1 ≠ (TJ13 b).2.1 ∨ ((TJ13 a).2.2.2 = true ∧ (TJ13 b).2.2.2 = true ∧ (TJ13 a).1 ≠ (TJ13 b).1) := by decide +kernel
abbrev kcX7 : Nat := 13
theorem hcX7 : vwCl[12]? = some (RX7, TX7, 7) := rfl
theorem xnmX7 : ∀ a, a < 7 → ∀ b, b < 7 → a ≠ b → (TX7 a).2.1 ≠ (TX7 b).2.1 ∨ ((TX7 a).2.2.2 = true ∧ (TX7 b).2.2.2 = true ∧ (TX7 a).1 ≠ (TX7 b).1) := by decide +kernel
abbrev kcX8 : Nat := 14
theorem hcX8 : vwCl[13]? = some (RX8, TX8, 9) := rfl
theorem xnmX8 : ∀ a, a < 9 → ∀ b, b < 9 → a ≠ b → (TX8 a).2.1 ≠ (TX8 b).2.1 ∨ ((TX8 a).2.2.2 = true ∧ (TX8 b).2.2.2 = true ∧ (TX8 a).1 ≠ (TX8 b).1) := by decide +kernel
abbrev kcX9 : Nat := 15
theorem hcX9 : vwCl[14]? = some (RX9, TX9, 8) := rfl
theorem xnmX9 : ∀ a, a < 8 → ∀ b, b < 8 → a ≠ b → (TX9 a).2.1 ≠ (TX9 b).2.1 ∨ ((TX9 a).2.2.2 = true ∧ (TX9 b).2.2.2 = true ∧ (TX9 a).1 ≠ (TX9 b).1) := by decide +kernel
abbrev kcX10 : Nat := 16
theorem hcX10 : vwCl[15]? = some (RX10, TX10, 6) := rfl
theorem xnmX10 : ∀ a, a < 6 → ∀ b, b < 6 → a ≠ b → (TX10 a).2.1 ≠ (TX10 b).2.1 ∨ ((TX10 a).2.2.2 = true ∧ (TX10 b).2.2.2 = true ∧ (TX10 a).1 ≠ (TX10 b).1) := by decide +kernel
abbrev kcJ20 : Nat := 17
theorem hcJ20 : vwCl[16]? = some (RJ20, TJ20, 4) := rfl
theorem xnmJ20 : ∀ a, a < 4 → ∀ b, b < 4 → a ≠ b → (TJ20 a).2.1 ≠ (TJ20 b).2.1 ∨ ((TJ20 a).2.2.2 = true ∧ (TJ20 b).2.2.2 = true ∧ (TJ20 a).1 ≠ (TJ20 b).1) := by decide +kernel
abbrev kcX11 : Nat := 18
theorem hcX11 : vwCl[17]? = some (RX11, TX11, 1) := rfl
theorem xnmX11 : ∀ a, a < 1 → ∀ b, b < 1 → a ≠ b → (TX11 a).2.1 ≠ (TX11 b).2.1 ∨ ((TX11 a).2.2.2 = true ∧ (TX11 b).2.2.2 = true ∧ (TX11 a).1 ≠ (TX11 b).1) := by decide +kernel
abbrev kcX12 : Nat := 19
theorem hcX12 : vwCl[18]? = some (RX12, TX12, 2) := rfl
theorem xnmX12 : ∀ a, a < 2 → ∀ b, b < 2 → a ≠ b → (TX12 a).2.1 ≠ (TX12 b).2.1 ∨ ((TX12 a).2.2.2 = true ∧ (TX12 b).2.2.2 = true ∧ (TX12 a).1 ≠ (TX12 b).1) := by decide +kernel
abbrev kcJ21 : Nat := 20
theorem hcJ21 : vwCl[19]? = some (RJ21, TJ21, 4) := rfl
theorem xnmJ21 : ∀ a, a < 4 → ∀ b, b < 4 → a ≠ b → (TJ21 a).2.1 ≠ (TJ21 b).2.1 ∨ ((TJ21 a).2.2.2 = true ∧ (TJ21 b).2.2.2 = true ∧ (TJ21 a).1 ≠ (TJ21 b).1) := by decide +kernel
abbrev kcJ23 : Nat := 21
theorem hcJ23 : vwCl[20]? = some (RJ23, TJ23, 5) := rfl
theorem xnmJ23 : ∀ a, a < 5 → ∀ b, b < 5 → a ≠ b → (TJ23 a).2.1 ≠ (TJ23 b).2.1 ∨ ((TJ23 a).2.2.2 = true ∧ (TJ23 b).2.2.2 = true ∧ (TJ23 a).1 ≠ (TJ23 b).1) := by decide +kernel
abbrev kcJ24 : Nat := 22
theorem hcJ24 : vwCl[21]? = some (RJ24, TJ24, 5) := rfl
theorem xnmJ24 : ∀ a, a < 5 → ∀ b, b < 5 → a ≠ b → (TJ24 a).2.1 ≠ (TJ24 b).2.1 ∨ ((TJ24 a).2.2.2 = true ∧ (TJ24 b).2.2.2 = true ∧ (TJ24 a).1 ≠ (TJ24 b).1) := by decide +kernel
abbrev kcJ25 : Nat := 23
theorem hcJ25 : vwCl[22]? = some (RJ25, TJ25, 6) := rfl
theorem xnmJ25 : ∀ a, a < 6 → ∀ b, b < 6 → a ≠ b → (TJ25 a).2.1 ≠ (TJ25 b).2.1 ∨ ((TJ25 a).2.2.2 = true ∧ (TJ25 b).2.2.2 = true ∧ (TJ25 a).1 ≠ (TJ25 b).1) := by decide +kernel
abbrev kcJ26 : Nat := 24
theorem hcJ26 : vwCl[23]? = some (RJ26, TJ26, 3) := rfl
theorem xnmJ26 : ∀ a, a < 3 → ∀ b, b < 3 → a ≠ b → (TJ26 a).2.1 ≠ (TJ26 b).2.1 ∨ ((TJ26 a).2.2.2 = true ∧ (TJ26 b).2.2.2 = true ∧ (TJ26 a).1 ≠ (TJ26 b).1) := by decide +kernel
abbrev kcJ27 : Nat := 25
theorem hcJ27 : vwCl[24]? = some (RJ27, TJ27, 3) := rfl
theorem xnmJ27 : ∀ a, a < 3 → ∀ b, b < 3 → a ≠ b → (TJ27 a).2.1 ≠ (TJ27 b).2.1 ∨ ((TJ27 a).2.2.2 = true ∧ (TJ27 b).2.2.2 = true ∧ (TJ27 a).1 ≠ (TJ27 b).1) := by decide +kernel
abbrev kcX13 : Nat := 26
theorem hcX13 : vwCl[25]? = some (RX13, TX13, 6) := rfl
theorem xnmX13 : ∀ a, a < 6 → ∀ b, b < 6 → a ≠ b → (TX13 a).2.1 ≠ (TX13 b).2.1 ∨ ((TX13 a).2.2.2 = true ∧ (TX13 b).2.2.2 = true ∧ (TX13 a).1 ≠ (TX13 b).1) := by decide +kernel
abbrev kcX14 : Nat := 27
theorem hcX14 : vwCl[26]? = some (RX14, TX14, 3) := rfl
theorem xnmX14 : ∀ a, a < 3 → ∀ b, b < 3 → a ≠ b → (TX14 a).2.1 ≠ (TX14 b).2.1 ∨ ((TX14 a).2.2.2 = true ∧ (TX14 b).2.2.2 = true ∧ (TX14 a).1 ≠ (TX14 b).1) := by decide +kernel
abbrev kcX15 : Nat := 28
theorem hcX15 : vwCl[27]? = some (RX15, TX15, 3) := rfl
theorem xnmX15 : ∀ a, a < 3 → ∀ b, b < 3 → a ≠ b → (TX15 a).2.1 ≠ (TX15 b).2.1 ∨ ((TX15 a).2.2.2 = true ∧ (TX15 b).2.2.2 = true ∧ (TX15 a).1 ≠ (TX15 b).1) := by decide +kernel
abbrev kcX16 : Nat := 29
theorem hcX16 : vwCl[28]? = some (RX16, TX16, 3) := rfl
theorem xnmX16 : ∀ a, a < 3 → ∀ b, b < 3 → a ≠ b → (TX16 a).2.1 ≠ (TX16 b).2.1 ∨ ((TX16 a).2.2.2 = true ∧ (TX16 b).2.2.2 = true ∧ (TX16 a).1 ≠ (TX16 b).1) := by decide +kernel
abbrev kcX17 : Nat := 30
theorem hcX17 : vwCl[29]? = some (RX17, TX17, 3) := rfl
theorem xnmX17 : ∀ a, a < 3 → ∀ b, b < 3 → a ≠ b → (TX17 a).2.1 ≠ (TX17 b).2.1 ∨ ((TX17 a).2.2.2 = true ∧ (TX17 b).2.2.2 = true ∧ (TX17 a).1 ≠ (TX17 b).1) := by decide +kernel
abbrev kcX18 : Nat := 31
theorem hcX18 : vwCl[30]? = some (RX18, TX18, 4) := rfl
theorem xnmX18 : ∀ a, a < 4 → ∀ b, b < 4 → a ≠ b → (TX18 a).2.1 ≠ (TX18 b).2.1 ∨ ((TX18 a).2.2.2 = true ∧ (TX18 b).2.2.2 = true ∧ (TX18 a).1 ≠ (TX18 b).1) := by decide +kernel
abbrev kcX19 : Nat := 32
theorem hcX19 : vwCl[31]? = some (RX19, TX19, 3) := rfl
theorem xnmX19 : ∀ a, a < 3 → ∀ b, b < 3 → a ≠ b → (TX19 a).2.1 ≠ (TX19 b).2.1 ∨ ((TX19 a).2.2.2 = true ∧ (TX19 b).2.2.2 = true ∧ (TX19 a).1 ≠ (TX19 b).1) := by decide +kernel
abbrev kcX20 : Nat := 33
theorem hcX20 : vwCl[32]? = some (RX20, TX20, 1) := rfl
theorem xnmX20 : ∀ a, a < 1 → ∀ b, b < 1 → a ≠ b → (TX20 a).2.1 ≠ (TX20 b).2.1 ∨ ((TX20 a).2.2.2 = true ∧ (TX20 b).2.2.2 = true ∧ (TX20 a).1 ≠ (TX20 b).1) := by decide +kernel
abbrev kcX21 : Nat := 34
theorem hcX21 : vwCl[33]? = some (RX21, TX21, 2) := rfl
theorem xnmX21 : ∀ a, a < 2 → ∀ b, b < 2 → a ≠ b → (TX21 a).2.1 ≠ (TX21 b).2.1 ∨ ((TX21 a).2.2.2 = true ∧ (TX21 b).2.2.2 = true ∧ (TX21 a).1 ≠ (TX21 b).1) := by decide +kernel
abbrev kcX22 : Nat := 35
theorem hcX22 : vwCl[34]? = some (RX22, TX22, 3) := rfl
theorem xnmX22 : ∀ a, a < 3 → ∀ b, b < 3 → a ≠ b → (TX22 a).2.1 ≠ (TX22 b).2.1 ∨ ((TX22 a).2.2.2 = true ∧ (TX22 b).2.2.2 = true ∧ (TX22 a).1 ≠ (TX22 b).1) := by decide +kernel
abbrev kcX23 : Nat := 36
theorem hcX23 : vwCl[35]? = some (RX23, TX23, 2) := rfl
theorem xnmX23 : ∀ a, a < 2 → ∀ b, b < 2 → a ≠ b → (TX23 a).2.1 ≠ (TX23 b).2.1 ∨ ((TX23 a).2.2.2 = true ∧ (TX23 b).2.2.2 = true ∧ (TX23 a).1 ≠ (TX23 b).1) := by decide +kernel
abbrev kcX24 : Nat := 37
theorem hcX24 : vwCl[36]? = some (RX24, TX24, 1) := rfl
theorem xnmX24 : ∀ a, a < 1 → ∀ b, b < 1 → a ≠ b → (TX24 a).2.1 ≠ (TX24 b).2.1 ∨ ((TX24 a).2.2.2 = true ∧ (TX24 b).2.2.2 = true ∧ (TX24 a).1 ≠ (TX24 b).1) := by decide +kernel
abbrev kcX25 : Nat := 38
theorem hcX25 : vwCl[37]? = some (RX25, xT0, 0) := rfl
abbrev kcJ32 : Nat := 39
theorem hcJ32 : vwCl[38]? = some (RJ32, TJ32, 4) := rfl
theorem xnmJ32 : ∀ a, a < 4 → ∀ b, b < 4 → a ≠ b → (TJ32 a).2.1 ≠ (TJ32 b).2.1 ∨ ((TJ32 a).2.2.2 = true ∧ (TJ32 b).2.2.2 = true ∧ (TJ32 a).1 ≠ (TJ32 b).1) := by decide +kernel
abbrev kcX26 : Nat := 40
theorem hcX26 : vwCl[39]? = some (RX26, TX26, 1) := rfl
theorem xnmX26 : ∀ a, a < 1 → ∀ b, b < 1 → a ≠ b → (TX26 a).2.1 ≠ (TX26 b).2.1 ∨ ((TX26 a).2.2.2 = true ∧ (TX26 b).2.2.2 = true ∧ (TX26 a).1 ≠ (TX26 b).1) := by decide +kernel
abbrev kcX27 : Nat := 41
theorem hcX27 : vwCl[40]? = some (RX27, xT0, 0) := rfl
abbrev kcX28 : Nat := 42
theorem hcX28 : vwCl[41]? = some (RX28, xT0, 0) := rfl
abbrev kcX29 : Nat := 43
theorem hcX29 : vwCl[42]? = some (RX29, xT0, 0) := rfl
abbrev kcX30 : Nat := 44
theorem hcX30 : vwCl[43]? = some (RX30, xT0, 0) := rfl
abbrev kcX31 : Nat := 45
theorem hcX31 : vwCl[44]? = some (RX31, TX31, 1) := rfl
theorem xnmX31 : ∀ a, a < 1 → ∀ b, b < 1 → a ≠ b → (TX31 a).2.1 ≠ (TX31 b).2.1 ∨ ((TX31 a).2.2.2 = true ∧ (TX31 b).2.2.2 = true ∧ (TX31 a).1 ≠ (TX31 b).1) := by decide +kernel
abbrev kcX32 : Nat := 46
theorem hcX32 : vwCl[45]? = some (RX32, xT0, 0) := rfl
abbrev kcX33 : Nat := 47
theorem hcX33 : vwCl[46]? = some (RX33, TX33, 3) := rfl
theorem xnmX33 : ∀ a, a < 3 → ∀ b, b < 3 → a ≠ b → (TX33 a).2.1 ≠ (TX33 b).2.1 ∨ ((TX33 a).2.2.2 = true ∧ (TX33 b).2.2.2 = true ∧ (TX33 a).1 ≠ (TX33 b).1) := by decide +kernel
abbrev kcX34 : Nat := 48
theorem hcX34 : vwCl[47]? = some (RX34, TX34, 7) := rfl
theorem xnmX34 : ∀ a, a < 7 → ∀ b, b < 7 → a ≠ b → (TX34 a).2.1 ≠ (TX34 b).2.1 ∨ ((TX34 a).2.2.2 = true ∧ (TX34 b).2.2.2 = true ∧ (TX34 a).1 ≠ (TX34 b).1) := by decide +kernel
abbrev kcX36 : Nat := 49
theorem hcX36 : vwCl[48]? = some (RX36, TX36, 4) := rfl
theorem xnmX36 : ∀ a, a < 4 → ∀ b, b < 4 → a ≠ b → (TX36 a).2.1 ≠ (TX36 b).2.1 ∨ ((TX36 a).2.2.2 = true ∧ (TX36 b).2.2.2 = true ∧ (TX36 a).1 ≠ (TX36 b).1) := by decide +kernel
abbrev kcX37 : Nat := 50
theorem hcX37 : vwCl[49]? = some (RX37, TX37, 5) := rfl
theorem xnmX37 : ∀ a, a < 5 → ∀ b, b < 5 → a ≠ b → (TX37 a).2.1 ≠ (TX37 b).2.1 ∨ ((TX37 a).2.2.2 = true ∧ (TX37 b).2.2.2 = true ∧ (TX37 a).1 ≠ (TX37 b).1) := by decide +kernel
abbrev kcX38 : Nat := 51
theorem hcX38 : vwCl[50]? = some (RX38, TX38, 3) := rfl
theorem xnmX38 : ∀ a, a < 3 → ∀ b, b < 3 → a ≠ b → (TX38 a).2.1 ≠ (TX38 b).2.1 ∨ ((TX38 a).2.2.2 = true ∧ (TX38 b).2.2.2 = true ∧ (TX38 a).1 ≠ (TX38 b).1) := by decide +kernel
abbrev kcX39 : Nat := 52
theorem hcX39 : vwCl[51]? = some (RX39, TX39, 2) := rfl
theorem xnmX39 : ∀ a, a < 2 → ∀ b, b < 2 → a ≠ b → (TX39 a).2.1 ≠ (TX39 b).2.1 ∨ ((TX39 a).2.2.2 = true ∧ (TX39 b).2.2.2 = true ∧ (TX39 a).1 ≠ (TX39 b).1) := by decide +kernel
abbrev kcX40 : Nat := 53
theorem hcX40 : vwCl[52]? = some (RX40, TX40, 3) := rfl
theorem xnmX40 : ∀ a, a < 3 → ∀ b, b < 3 → a ≠ b → (TX40 a).2.1 ≠ (TX40 b).2.1 ∨ ((TX40 a).2.2.2 = true ∧ (TX40 b).2.2.2 = true ∧ (TX40 a).1 ≠ (TX40 b).1) := by decide +kernel
abbrev kcX41 : Nat := 54
theorem hcX41 : vwCl[53]? = some (RX41, TX41, 3) := rfl
theorem xnmX41 : ∀ a, a < 3 → ∀ b, b < 3 → a ≠ b → (TX41 a).2.1 ≠ (TX41 b).2.1 ∨ ((TX41 a).2.2.2 = true ∧ (TX41 b).2.2.2 = true ∧ (TX41 a).1 ≠ (TX41 b).1) := by decide +kernel
theorem vwCl_len : vwCl.length = 54 := rfl
