/-! HamletWells -/
set_option maxRecDepth 100000
def RX0 : String := "HamletWells"
def TX0 : u_T := fun k => match k with
  | 0 => ("HamletWells", "now", "LHamletWells$Province;", false)
  | 1 => ("HamletWells", "saved", "LHamletWells$Province;", false)
  | 2 => ("HamletWells", "before", "Ljava/util/ArrayDeque;", true)
  | 3 => ("HamletWells", "refusal", "LHamletWells$Refused;", false)
  | 4 => ("HamletWells", "line", "Ljava/lang/String;", false)
  | 5 => ("HamletWells", "input", "[C", true)
  | 6 => ("HamletWells", "fed", "I", false)
  | _ => ("HamletWells", "faultAt", "I", false)
def tyX0 : Nat → FieldType := fun k => match k with
  | 0 => .object "HamletWells$Province"
  | 1 => .object "HamletWells$Province"
  | 2 => .object "java/util/ArrayDeque"
  | 3 => .object "HamletWells$Refused"
  | 4 => .object "java/lang/String"
  | 5 => .array .char
  | 6 => .int
  | _ => .int
abbrev wsX00 : List Cond := u_ws RX0 TX0 8
theorem nmX0 : ∀ a, a < 8 → ∀ b, b < 8 → a ≠ b → (TX0 a).2.1 ≠ (TX0 b).2.1 := by decide +kernel
theorem tyX0_ok : ∀ k, k < 8 → parseFieldDescriptor (TX0 k).2.2.1 = some (tyX0 k) := by decide +kernel
abbrev cX0_init : ByteArray := prog_1_method_12_code
def yX0_init : MethodName := ⟨RX0, "<init>", "()V"⟩
def dkwX0_init_1 : List UInt8 := [181, 0, 70, 42, 18, 74, 181, 0, 76, 42, 16, 60, 188, 5, 181, 0, 80, 42, 2, 181, 0, 84, 177]
abbrev dktX0_init_1 : List UInt8 := dkwX0_init_1 ++ []
def dkwX0_init_0 : List UInt8 := [42, 183, 0, 57, 42, 187, 0, 60, 89, 183, 0, 62, 181, 0, 63, 42, 187, 0, 67, 89, 183, 0, 69]
abbrev dktX0_init_0 : List UInt8 := dkwX0_init_0 ++ dktX0_init_1
theorem dksX0_init_0 : cX0_init.data.toList.drop 0 = dktX0_init_0 := by decide +kernel
theorem dksX0_init_1 : cX0_init.data.toList.drop 23 = dktX0_init_1 := dk_seg dksX0_init_0 23 rfl rfl
theorem dX0_init_0 : decode cX0_init 0 = .ok (.aload_n 0, 1) := dk_42 (dk_at dksX0_init_0 0 rfl rfl)
theorem dX0_init_1 : decode cX0_init 1 = .ok (.invokespecial 57, 3) := dk_183 0 57 (dk_at dksX0_init_0 1 rfl rfl)
theorem dX0_init_4 : decode cX0_init 4 = .ok (.aload_n 0, 1) := dk_42 (dk_at dksX0_init_0 4 rfl rfl)
theorem dX0_init_5 : decode cX0_init 5 = .ok (.new 60, 3) := dk_187 0 60 (dk_at dksX0_init_0 5 rfl rfl)
theorem dX0_init_8 : decode cX0_init 8 = .ok (.dup, 1) := dk_89 (dk_at dksX0_init_0 8 rfl rfl)
theorem dX0_init_9 : decode cX0_init 9 = .ok (.invokespecial 62, 3) := dk_183 0 62 (dk_at dksX0_init_0 9 rfl rfl)
theorem dX0_init_12 : decode cX0_init 12 = .ok (.putfield 63, 3) := dk_181 0 63 (dk_at dksX0_init_0 12 rfl rfl)
theorem dX0_init_15 : decode cX0_init 15 = .ok (.aload_n 0, 1) := dk_42 (dk_at dksX0_init_0 15 rfl rfl)
theorem dX0_init_16 : decode cX0_init 16 = .ok (.new 67, 3) := dk_187 0 67 (dk_at dksX0_init_0 16 rfl rfl)
theorem dX0_init_19 : decode cX0_init 19 = .ok (.dup, 1) := dk_89 (dk_at dksX0_init_0 19 rfl rfl)
theorem dX0_init_20 : decode cX0_init 20 = .ok (.invokespecial 69, 3) := dk_183 0 69 (dk_at dksX0_init_0 20 rfl rfl)
theorem dX0_init_23 : decode cX0_init 23 = .ok (.putfield 70, 3) := dk_181 0 70 (dk_at dksX0_init_1 0 rfl rfl)
theorem dX0_init_26 : decode cX0_init 26 = .ok (.aload_n 0, 1) := dk_42 (dk_at dksX0_init_1 3 rfl rfl)
theorem dX0_init_27 : decode cX0_init 27 = .ok (.ldc 74, 2) := dk_18 74 (dk_at dksX0_init_1 4 rfl rfl)
theorem dX0_init_29 : decode cX0_init 29 = .ok (.putfield 76, 3) := dk_181 0 76 (dk_at dksX0_init_1 6 rfl rfl)
theorem dX0_init_32 : decode cX0_init 32 = .ok (.aload_n 0, 1) := dk_42 (dk_at dksX0_init_1 9 rfl rfl)
theorem dX0_init_33 : decode cX0_init 33 = .ok (.bipush 60, 2) := dk_16 60 (dk_at dksX0_init_1 10 rfl rfl)
theorem dX0_init_35 : decode cX0_init 35 = .ok (.newarray .char, 2) := dk_188_5 (dk_at dksX0_init_1 12 rfl rfl)
theorem dX0_init_37 : decode cX0_init 37 = .ok (.putfield 80, 3) := dk_181 0 80 (dk_at dksX0_init_1 14 rfl rfl)
theorem dX0_init_40 : decode cX0_init 40 = .ok (.aload_n 0, 1) := dk_42 (dk_at dksX0_init_1 17 rfl rfl)
theorem dX0_init_41 : decode cX0_init 41 = .ok (.iconst (-1), 1) := dk_2 (dk_at dksX0_init_1 18 rfl rfl)
theorem dX0_init_42 : decode cX0_init 42 = .ok (.putfield 84, 3) := dk_181 0 84 (dk_at dksX0_init_1 19 rfl rfl)
theorem dX0_init_45 : decode cX0_init 45 = .ok (.return_, 1) := dk_177 (dk_at dksX0_init_1 22 rfl rfl)
abbrev cX0_hamlet : ByteArray := prog_1_method_13_code
def yX0_hamlet : MethodName := ⟨RX0, "hamlet", "(III)I"⟩
def dkwX0_hamlet_1 : List UInt8 := [153, 0, 7, 4, 167, 0, 4, 3, 16, 254, 182, 0, 101, 172]
abbrev dktX0_hamlet_1 : List UInt8 := dkwX0_hamlet_1 ++ []
def dkwX0_hamlet_0 : List UInt8 := [187, 0, 88, 89, 42, 27, 28, 29, 183, 0, 90, 27, 28, 184, 0, 93, 153, 0, 14, 29, 184, 0, 97]
abbrev dktX0_hamlet_0 : List UInt8 := dkwX0_hamlet_0 ++ dktX0_hamlet_1
theorem dksX0_hamlet_0 : cX0_hamlet.data.toList.drop 0 = dktX0_hamlet_0 := by decide +kernel
theorem dksX0_hamlet_1 : cX0_hamlet.data.toList.drop 23 = dktX0_hamlet_1 := dk_seg dksX0_hamlet_0 23 rfl rfl
theorem dX0_hamlet_0 : decode cX0_hamlet 0 = .ok (.new 88, 3) := dk_187 0 88 (dk_at dksX0_hamlet_0 0 rfl rfl)
theorem dX0_hamlet_3 : decode cX0_hamlet 3 = .ok (.dup, 1) := dk_89 (dk_at dksX0_hamlet_0 3 rfl rfl)
theorem dX0_hamlet_4 : decode cX0_hamlet 4 = .ok (.aload_n 0, 1) := dk_42 (dk_at dksX0_hamlet_0 4 rfl rfl)
theorem dX0_hamlet_5 : decode cX0_hamlet 5 = .ok (.iload_n 1, 1) := dk_27 (dk_at dksX0_hamlet_0 5 rfl rfl)
theorem dX0_hamlet_6 : decode cX0_hamlet 6 = .ok (.iload_n 2, 1) := dk_28 (dk_at dksX0_hamlet_0 6 rfl rfl)
theorem dX0_hamlet_7 : decode cX0_hamlet 7 = .ok (.iload_n 3, 1) := dk_29 (dk_at dksX0_hamlet_0 7 rfl rfl)
theorem dX0_hamlet_8 : decode cX0_hamlet 8 = .ok (.invokespecial 90, 3) := dk_183 0 90 (dk_at dksX0_hamlet_0 8 rfl rfl)
theorem dX0_hamlet_11 : decode cX0_hamlet 11 = .ok (.iload_n 1, 1) := dk_27 (dk_at dksX0_hamlet_0 11 rfl rfl)
theorem dX0_hamlet_12 : decode cX0_hamlet 12 = .ok (.iload_n 2, 1) := dk_28 (dk_at dksX0_hamlet_0 12 rfl rfl)
theorem dX0_hamlet_13 : decode cX0_hamlet 13 = .ok (.invokestatic 93, 3) := dk_184 0 93 (dk_at dksX0_hamlet_0 13 rfl rfl)
theorem dX0_hamlet_16 : decode cX0_hamlet 16 = .ok (.ifCond .eq 14, 3) := dk_153 0 14 (dk_at dksX0_hamlet_0 16 rfl rfl)
theorem dX0_hamlet_19 : decode cX0_hamlet 19 = .ok (.iload_n 3, 1) := dk_29 (dk_at dksX0_hamlet_0 19 rfl rfl)
theorem dX0_hamlet_20 : decode cX0_hamlet 20 = .ok (.invokestatic 97, 3) := dk_184 0 97 (dk_at dksX0_hamlet_0 20 rfl rfl)
theorem dX0_hamlet_23 : decode cX0_hamlet 23 = .ok (.ifCond .eq 7, 3) := dk_153 0 7 (dk_at dksX0_hamlet_1 0 rfl rfl)
theorem dX0_hamlet_26 : decode cX0_hamlet 26 = .ok (.iconst 1, 1) := dk_4 (dk_at dksX0_hamlet_1 3 rfl rfl)
theorem dX0_hamlet_27 : decode cX0_hamlet 27 = .ok (.goto 4, 3) := dk_167 0 4 (dk_at dksX0_hamlet_1 4 rfl rfl)
theorem dX0_hamlet_30 : decode cX0_hamlet 30 = .ok (.iconst 0, 1) := dk_3 (dk_at dksX0_hamlet_1 7 rfl rfl)
theorem dX0_hamlet_31 : decode cX0_hamlet 31 = .ok (.bipush (-2), 2) := dk_16 254 (dk_at dksX0_hamlet_1 8 rfl rfl)
theorem dX0_hamlet_33 : decode cX0_hamlet 33 = .ok (.invokevirtual 101, 3) := dk_182 0 101 (dk_at dksX0_hamlet_1 10 rfl rfl)
theorem dX0_hamlet_36 : decode cX0_hamlet 36 = .ok (.ireturn, 1) := dk_172 (dk_at dksX0_hamlet_1 13 rfl rfl)
abbrev cX0_isPlace : ByteArray := prog_1_method_3_code
def yX0_isPlace : MethodName := ⟨RX0, "isPlace", "(II)Z"⟩
def dkwX0_isPlace_1 : List UInt8 := [3, 172]
abbrev dktX0_isPlace_1 : List UInt8 := dkwX0_isPlace_1 ++ []
def dkwX0_isPlace_0 : List UInt8 := [26, 3, 16, 30, 184, 0, 3, 153, 0, 17, 27, 3, 16, 30, 184, 0, 3, 153, 0, 7, 4, 167, 0, 4]
abbrev dktX0_isPlace_0 : List UInt8 := dkwX0_isPlace_0 ++ dktX0_isPlace_1
theorem dksX0_isPlace_0 : cX0_isPlace.data.toList.drop 0 = dktX0_isPlace_0 := by decide +kernel
theorem dksX0_isPlace_1 : cX0_isPlace.data.toList.drop 24 = dktX0_isPlace_1 := dk_seg dksX0_isPlace_0 24 rfl rfl
theorem dX0_isPlace_0 : decode cX0_isPlace 0 = .ok (.iload_n 0, 1) := dk_26 (dk_at dksX0_isPlace_0 0 rfl rfl)
theorem dX0_isPlace_1 : decode cX0_isPlace 1 = .ok (.iconst 0, 1) := dk_3 (dk_at dksX0_isPlace_0 1 rfl rfl)
theorem dX0_isPlace_2 : decode cX0_isPlace 2 = .ok (.bipush 30, 2) := dk_16 30 (dk_at dksX0_isPlace_0 2 rfl rfl)
theorem dX0_isPlace_4 : decode cX0_isPlace 4 = .ok (.invokestatic 3, 3) := dk_184 0 3 (dk_at dksX0_isPlace_0 4 rfl rfl)
theorem dX0_isPlace_7 : decode cX0_isPlace 7 = .ok (.ifCond .eq 17, 3) := dk_153 0 17 (dk_at dksX0_isPlace_0 7 rfl rfl)
theorem dX0_isPlace_10 : decode cX0_isPlace 10 = .ok (.iload_n 1, 1) := dk_27 (dk_at dksX0_isPlace_0 10 rfl rfl)
theorem dX0_isPlace_11 : decode cX0_isPlace 11 = .ok (.iconst 0, 1) := dk_3 (dk_at dksX0_isPlace_0 11 rfl rfl)
theorem dX0_isPlace_12 : decode cX0_isPlace 12 = .ok (.bipush 30, 2) := dk_16 30 (dk_at dksX0_isPlace_0 12 rfl rfl)
theorem dX0_isPlace_14 : decode cX0_isPlace 14 = .ok (.invokestatic 3, 3) := dk_184 0 3 (dk_at dksX0_isPlace_0 14 rfl rfl)
theorem dX0_isPlace_17 : decode cX0_isPlace 17 = .ok (.ifCond .eq 7, 3) := dk_153 0 7 (dk_at dksX0_isPlace_0 17 rfl rfl)
theorem dX0_isPlace_20 : decode cX0_isPlace 20 = .ok (.iconst 1, 1) := dk_4 (dk_at dksX0_isPlace_0 20 rfl rfl)
theorem dX0_isPlace_21 : decode cX0_isPlace 21 = .ok (.goto 4, 3) := dk_167 0 4 (dk_at dksX0_isPlace_0 21 rfl rfl)
theorem dX0_isPlace_24 : decode cX0_isPlace 24 = .ok (.iconst 0, 1) := dk_3 (dk_at dksX0_isPlace_1 0 rfl rfl)
theorem dX0_isPlace_25 : decode cX0_isPlace 25 = .ok (.ireturn, 1) := dk_172 (dk_at dksX0_isPlace_1 1 rfl rfl)
abbrev cX0_in : ByteArray := prog_1_method_1_code
def yX0_in : MethodName := ⟨RX0, "in", "(III)Z"⟩
def dkwX0_in_0 : List UInt8 := [26, 27, 161, 0, 12, 26, 28, 163, 0, 7, 4, 167, 0, 4, 3, 172]
abbrev dktX0_in_0 : List UInt8 := dkwX0_in_0 ++ []
theorem dksX0_in_0 : cX0_in.data.toList.drop 0 = dktX0_in_0 := by decide +kernel
theorem dX0_in_0 : decode cX0_in 0 = .ok (.iload_n 0, 1) := dk_26 (dk_at dksX0_in_0 0 rfl rfl)
theorem dX0_in_1 : decode cX0_in 1 = .ok (.iload_n 1, 1) := dk_27 (dk_at dksX0_in_0 1 rfl rfl)
theorem dX0_in_2 : decode cX0_in 2 = .ok (.if_icmp .lt 12, 3) := dk_161 0 12 (dk_at dksX0_in_0 2 rfl rfl)
theorem dX0_in_5 : decode cX0_in 5 = .ok (.iload_n 0, 1) := dk_26 (dk_at dksX0_in_0 5 rfl rfl)
theorem dX0_in_6 : decode cX0_in 6 = .ok (.iload_n 2, 1) := dk_28 (dk_at dksX0_in_0 6 rfl rfl)
theorem dX0_in_7 : decode cX0_in 7 = .ok (.if_icmp .gt 7, 3) := dk_163 0 7 (dk_at dksX0_in_0 7 rfl rfl)
theorem dX0_in_10 : decode cX0_in 10 = .ok (.iconst 1, 1) := dk_4 (dk_at dksX0_in_0 10 rfl rfl)
theorem dX0_in_11 : decode cX0_in 11 = .ok (.goto 4, 3) := dk_167 0 4 (dk_at dksX0_in_0 11 rfl rfl)
theorem dX0_in_14 : decode cX0_in 14 = .ok (.iconst 0, 1) := dk_3 (dk_at dksX0_in_0 14 rfl rfl)
theorem dX0_in_15 : decode cX0_in 15 = .ok (.ireturn, 1) := dk_172 (dk_at dksX0_in_0 15 rfl rfl)
abbrev cX0_arePeople : ByteArray := prog_1_method_4_code
def yX0_arePeople : MethodName := ⟨RX0, "arePeople", "(I)Z"⟩
def dkwX0_arePeople_0 : List UInt8 := [26, 4, 16, 20, 184, 0, 3, 172]
abbrev dktX0_arePeople_0 : List UInt8 := dkwX0_arePeople_0 ++ []
theorem dksX0_arePeople_0 : cX0_arePeople.data.toList.drop 0 = dktX0_arePeople_0 := by decide +kernel
theorem dX0_arePeople_0 : decode cX0_arePeople 0 = .ok (.iload_n 0, 1) := dk_26 (dk_at dksX0_arePeople_0 0 rfl rfl)
theorem dX0_arePeople_1 : decode cX0_arePeople 1 = .ok (.iconst 1, 1) := dk_4 (dk_at dksX0_arePeople_0 1 rfl rfl)
theorem dX0_arePeople_2 : decode cX0_arePeople 2 = .ok (.bipush 20, 2) := dk_16 20 (dk_at dksX0_arePeople_0 2 rfl rfl)
theorem dX0_arePeople_4 : decode cX0_arePeople 4 = .ok (.invokestatic 3, 3) := dk_184 0 3 (dk_at dksX0_arePeople_0 4 rfl rfl)
theorem dX0_arePeople_7 : decode cX0_arePeople 7 = .ok (.ireturn, 1) := dk_172 (dk_at dksX0_arePeople_0 7 rfl rfl)
abbrev cX0_needs : ByteArray := prog_1_method_7_code
def yX0_needs : MethodName := ⟨RX0, "needs", "(ZII)V"⟩
def dkwX0_needs_0 : List UInt8 := [26, 154, 0, 13, 187, 0, 7, 89, 27, 28, 183, 0, 9, 191, 177]
abbrev dktX0_needs_0 : List UInt8 := dkwX0_needs_0 ++ []
theorem dksX0_needs_0 : cX0_needs.data.toList.drop 0 = dktX0_needs_0 := by decide +kernel
theorem dX0_needs_0 : decode cX0_needs 0 = .ok (.iload_n 0, 1) := dk_26 (dk_at dksX0_needs_0 0 rfl rfl)
theorem dX0_needs_1 : decode cX0_needs 1 = .ok (.ifCond .ne 13, 3) := dk_154 0 13 (dk_at dksX0_needs_0 1 rfl rfl)
theorem dX0_needs_4 : decode cX0_needs 4 = .ok (.new 7, 3) := dk_187 0 7 (dk_at dksX0_needs_0 4 rfl rfl)
theorem dX0_needs_7 : decode cX0_needs 7 = .ok (.dup, 1) := dk_89 (dk_at dksX0_needs_0 7 rfl rfl)
theorem dX0_needs_8 : decode cX0_needs 8 = .ok (.iload_n 1, 1) := dk_27 (dk_at dksX0_needs_0 8 rfl rfl)
theorem dX0_needs_9 : decode cX0_needs 9 = .ok (.iload_n 2, 1) := dk_28 (dk_at dksX0_needs_0 9 rfl rfl)
theorem dX0_needs_10 : decode cX0_needs 10 = .ok (.invokespecial 9, 3) := dk_183 0 9 (dk_at dksX0_needs_0 10 rfl rfl)
theorem dX0_needs_13 : decode cX0_needs 13 = .ok (.athrow, 1) := dk_191 (dk_at dksX0_needs_0 13 rfl rfl)
theorem dX0_needs_14 : decode cX0_needs 14 = .ok (.return_, 1) := dk_177 (dk_at dksX0_needs_0 14 rfl rfl)
abbrev cX0_doesAll : ByteArray := prog_1_method_50_code
def yX0_doesAll : MethodName := ⟨RX0, "doesAll", "(LHamletWells$Province;Ljava/util/ArrayList;)I"⟩
def dkwX0_doesAll_2 : List UInt8 := [28, 25, 5, 183, 1, 199, 191, 132, 2, 1, 167, 255, 207, 28, 172]
abbrev dktX0_doesAll_2 : List UInt8 := dkwX0_doesAll_2 ++ []
def dkwX0_doesAll_1 : List UInt8 := [192, 1, 193, 58, 4, 25, 4, 42, 182, 1, 195, 54, 5, 167, 0, 18, 58, 5, 187, 0, 7, 89, 16, 10]
abbrev dktX0_doesAll_1 : List UInt8 := dkwX0_doesAll_1 ++ dktX0_doesAll_2
def dkwX0_doesAll_0 : List UInt8 := [3, 61, 43, 182, 1, 190, 78, 45, 185, 0, 24, 1, 0, 153, 0, 46, 45, 185, 0, 30, 1, 0]
abbrev dktX0_doesAll_0 : List UInt8 := dkwX0_doesAll_0 ++ dktX0_doesAll_1
theorem dksX0_doesAll_0 : cX0_doesAll.data.toList.drop 0 = dktX0_doesAll_0 := by decide +kernel
theorem dksX0_doesAll_1 : cX0_doesAll.data.toList.drop 22 = dktX0_doesAll_1 := dk_seg dksX0_doesAll_0 22 rfl rfl
theorem dksX0_doesAll_2 : cX0_doesAll.data.toList.drop 46 = dktX0_doesAll_2 := dk_seg dksX0_doesAll_1 24 rfl rfl
theorem dX0_doesAll_0 : decode cX0_doesAll 0 = .ok (.iconst 0, 1) := dk_3 (dk_at dksX0_doesAll_0 0 rfl rfl)
theorem dX0_doesAll_1 : decode cX0_doesAll 1 = .ok (.istore_n 2, 1) := dk_61 (dk_at dksX0_doesAll_0 1 rfl rfl)
theorem dX0_doesAll_2 : decode cX0_doesAll 2 = .ok (.aload_n 1, 1) := dk_43 (dk_at dksX0_doesAll_0 2 rfl rfl)
theorem dX0_doesAll_3 : decode cX0_doesAll 3 = .ok (.invokevirtual 446, 3) := dk_182 1 190 (dk_at dksX0_doesAll_0 3 rfl rfl)
theorem dX0_doesAll_6 : decode cX0_doesAll 6 = .ok (.astore_n 3, 1) := dk_78 (dk_at dksX0_doesAll_0 6 rfl rfl)
theorem dX0_doesAll_7 : decode cX0_doesAll 7 = .ok (.aload_n 3, 1) := dk_45 (dk_at dksX0_doesAll_0 7 rfl rfl)
theorem dX0_doesAll_8 : decode cX0_doesAll 8 = .ok (.invokeinterface 24 1, 5) := by decide +kernel
theorem dX0_doesAll_13 : decode cX0_doesAll 13 = .ok (.ifCond .eq 46, 3) := dk_153 0 46 (dk_at dksX0_doesAll_0 13 rfl rfl)
theorem dX0_doesAll_16 : decode cX0_doesAll 16 = .ok (.aload_n 3, 1) := dk_45 (dk_at dksX0_doesAll_0 16 rfl rfl)
theorem dX0_doesAll_17 : decode cX0_doesAll 17 = .ok (.invokeinterface 30 1, 5) := by decide +kernel
theorem dX0_doesAll_22 : decode cX0_doesAll 22 = .ok (.checkcast 449, 3) := dk_192 1 193 (dk_at dksX0_doesAll_1 0 rfl rfl)
theorem dX0_doesAll_25 : decode cX0_doesAll 25 = .ok (.astore 4, 2) := dk_58 4 (dk_at dksX0_doesAll_1 3 rfl rfl)
theorem dX0_doesAll_27 : decode cX0_doesAll 27 = .ok (.aload 4, 2) := dk_25 4 (dk_at dksX0_doesAll_1 5 rfl rfl)
theorem dX0_doesAll_29 : decode cX0_doesAll 29 = .ok (.aload_n 0, 1) := dk_42 (dk_at dksX0_doesAll_1 7 rfl rfl)
theorem dX0_doesAll_30 : decode cX0_doesAll 30 = .ok (.invokevirtual 451, 3) := dk_182 1 195 (dk_at dksX0_doesAll_1 8 rfl rfl)
theorem dX0_doesAll_33 : decode cX0_doesAll 33 = .ok (.istore 5, 2) := dk_54 5 (dk_at dksX0_doesAll_1 11 rfl rfl)
theorem dX0_doesAll_35 : decode cX0_doesAll 35 = .ok (.goto 18, 3) := dk_167 0 18 (dk_at dksX0_doesAll_1 13 rfl rfl)
theorem dX0_doesAll_38 : decode cX0_doesAll 38 = .ok (.astore 5, 2) := dk_58 5 (dk_at dksX0_doesAll_1 16 rfl rfl)
theorem dX0_doesAll_40 : decode cX0_doesAll 40 = .ok (.new 7, 3) := dk_187 0 7 (dk_at dksX0_doesAll_1 18 rfl rfl)
theorem dX0_doesAll_43 : decode cX0_doesAll 43 = .ok (.dup, 1) := dk_89 (dk_at dksX0_doesAll_1 21 rfl rfl)
theorem dX0_doesAll_44 : decode cX0_doesAll 44 = .ok (.bipush 10, 2) := dk_16 10 (dk_at dksX0_doesAll_1 22 rfl rfl)
theorem dX0_doesAll_46 : decode cX0_doesAll 46 = .ok (.iload_n 2, 1) := dk_28 (dk_at dksX0_doesAll_2 0 rfl rfl)
theorem dX0_doesAll_47 : decode cX0_doesAll 47 = .ok (.aload 5, 2) := dk_25 5 (dk_at dksX0_doesAll_2 1 rfl rfl)
theorem dX0_doesAll_49 : decode cX0_doesAll 49 = .ok (.invokespecial 455, 3) := dk_183 1 199 (dk_at dksX0_doesAll_2 3 rfl rfl)
theorem dX0_doesAll_52 : decode cX0_doesAll 52 = .ok (.athrow, 1) := dk_191 (dk_at dksX0_doesAll_2 6 rfl rfl)
theorem dX0_doesAll_53 : decode cX0_doesAll 53 = .ok (.iinc 2 1, 3) := dk_132 2 1 (dk_at dksX0_doesAll_2 7 rfl rfl)
theorem dX0_doesAll_56 : decode cX0_doesAll 56 = .ok (.goto (-49), 3) := dk_167 255 207 (dk_at dksX0_doesAll_2 10 rfl rfl)
theorem dX0_doesAll_59 : decode cX0_doesAll 59 = .ok (.iload_n 2, 1) := dk_28 (dk_at dksX0_doesAll_2 13 rfl rfl)
theorem dX0_doesAll_60 : decode cX0_doesAll 60 = .ok (.ireturn, 1) := dk_172 (dk_at dksX0_doesAll_2 14 rfl rfl)
abbrev cX0_inRange : ByteArray := prog_1_method_8_code
def yX0_inRange : MethodName := ⟨RX0, "inRange", "([Z)V"⟩
def dkwX0_inRange_1 : List UInt8 := [187, 0, 13, 89, 183, 0, 15, 191, 132, 3, 1, 167, 255, 230, 177]
abbrev dktX0_inRange_1 : List UInt8 := dkwX0_inRange_1 ++ []
def dkwX0_inRange_0 : List UInt8 := [42, 76, 43, 190, 61, 3, 62, 29, 28, 162, 0, 27, 43, 29, 51, 54, 4, 21, 4, 154, 0, 11]
abbrev dktX0_inRange_0 : List UInt8 := dkwX0_inRange_0 ++ dktX0_inRange_1
theorem dksX0_inRange_0 : cX0_inRange.data.toList.drop 0 = dktX0_inRange_0 := by decide +kernel
theorem dksX0_inRange_1 : cX0_inRange.data.toList.drop 22 = dktX0_inRange_1 := dk_seg dksX0_inRange_0 22 rfl rfl
theorem dX0_inRange_0 : decode cX0_inRange 0 = .ok (.aload_n 0, 1) := dk_42 (dk_at dksX0_inRange_0 0 rfl rfl)
theorem dX0_inRange_1 : decode cX0_inRange 1 = .ok (.astore_n 1, 1) := dk_76 (dk_at dksX0_inRange_0 1 rfl rfl)
theorem dX0_inRange_2 : decode cX0_inRange 2 = .ok (.aload_n 1, 1) := dk_43 (dk_at dksX0_inRange_0 2 rfl rfl)
theorem dX0_inRange_3 : decode cX0_inRange 3 = .ok (.arraylength, 1) := dk_190 (dk_at dksX0_inRange_0 3 rfl rfl)
theorem dX0_inRange_4 : decode cX0_inRange 4 = .ok (.istore_n 2, 1) := dk_61 (dk_at dksX0_inRange_0 4 rfl rfl)
theorem dX0_inRange_5 : decode cX0_inRange 5 = .ok (.iconst 0, 1) := dk_3 (dk_at dksX0_inRange_0 5 rfl rfl)
theorem dX0_inRange_6 : decode cX0_inRange 6 = .ok (.istore_n 3, 1) := dk_62 (dk_at dksX0_inRange_0 6 rfl rfl)
theorem dX0_inRange_7 : decode cX0_inRange 7 = .ok (.iload_n 3, 1) := dk_29 (dk_at dksX0_inRange_0 7 rfl rfl)
theorem dX0_inRange_8 : decode cX0_inRange 8 = .ok (.iload_n 2, 1) := dk_28 (dk_at dksX0_inRange_0 8 rfl rfl)
theorem dX0_inRange_9 : decode cX0_inRange 9 = .ok (.if_icmp .ge 27, 3) := dk_162 0 27 (dk_at dksX0_inRange_0 9 rfl rfl)
theorem dX0_inRange_12 : decode cX0_inRange 12 = .ok (.aload_n 1, 1) := dk_43 (dk_at dksX0_inRange_0 12 rfl rfl)
theorem dX0_inRange_13 : decode cX0_inRange 13 = .ok (.iload_n 3, 1) := dk_29 (dk_at dksX0_inRange_0 13 rfl rfl)
theorem dX0_inRange_14 : decode cX0_inRange 14 = .ok (.baload, 1) := dk_51 (dk_at dksX0_inRange_0 14 rfl rfl)
theorem dX0_inRange_15 : decode cX0_inRange 15 = .ok (.istore 4, 2) := dk_54 4 (dk_at dksX0_inRange_0 15 rfl rfl)
theorem dX0_inRange_17 : decode cX0_inRange 17 = .ok (.iload 4, 2) := dk_21 4 (dk_at dksX0_inRange_0 17 rfl rfl)
theorem dX0_inRange_19 : decode cX0_inRange 19 = .ok (.ifCond .ne 11, 3) := dk_154 0 11 (dk_at dksX0_inRange_0 19 rfl rfl)
theorem dX0_inRange_22 : decode cX0_inRange 22 = .ok (.new 13, 3) := dk_187 0 13 (dk_at dksX0_inRange_1 0 rfl rfl)
theorem dX0_inRange_25 : decode cX0_inRange 25 = .ok (.dup, 1) := dk_89 (dk_at dksX0_inRange_1 3 rfl rfl)
theorem dX0_inRange_26 : decode cX0_inRange 26 = .ok (.invokespecial 15, 3) := dk_183 0 15 (dk_at dksX0_inRange_1 4 rfl rfl)
theorem dX0_inRange_29 : decode cX0_inRange 29 = .ok (.athrow, 1) := dk_191 (dk_at dksX0_inRange_1 7 rfl rfl)
theorem dX0_inRange_30 : decode cX0_inRange 30 = .ok (.iinc 3 1, 3) := dk_132 3 1 (dk_at dksX0_inRange_1 8 rfl rfl)
theorem dX0_inRange_33 : decode cX0_inRange 33 = .ok (.goto (-26), 3) := dk_167 255 230 (dk_at dksX0_inRange_1 11 rfl rfl)
theorem dX0_inRange_36 : decode cX0_inRange 36 = .ok (.return_, 1) := dk_177 (dk_at dksX0_inRange_1 14 rfl rfl)
abbrev cX0_isSite : ByteArray := prog_1_method_5_code
def yX0_isSite : MethodName := ⟨RX0, "isSite", "(II)Z"⟩
def dkwX0_isSite_1 : List UInt8 := [3, 172]
abbrev dktX0_isSite_1 : List UInt8 := dkwX0_isSite_1 ++ []
def dkwX0_isSite_0 : List UInt8 := [26, 4, 16, 40, 184, 0, 3, 153, 0, 17, 27, 3, 16, 99, 184, 0, 3, 153, 0, 7, 4, 167, 0, 4]
abbrev dktX0_isSite_0 : List UInt8 := dkwX0_isSite_0 ++ dktX0_isSite_1
theorem dksX0_isSite_0 : cX0_isSite.data.toList.drop 0 = dktX0_isSite_0 := by decide +kernel
theorem dksX0_isSite_1 : cX0_isSite.data.toList.drop 24 = dktX0_isSite_1 := dk_seg dksX0_isSite_0 24 rfl rfl
theorem dX0_isSite_0 : decode cX0_isSite 0 = .ok (.iload_n 0, 1) := dk_26 (dk_at dksX0_isSite_0 0 rfl rfl)
theorem dX0_isSite_1 : decode cX0_isSite 1 = .ok (.iconst 1, 1) := dk_4 (dk_at dksX0_isSite_0 1 rfl rfl)
theorem dX0_isSite_2 : decode cX0_isSite 2 = .ok (.bipush 40, 2) := dk_16 40 (dk_at dksX0_isSite_0 2 rfl rfl)
theorem dX0_isSite_4 : decode cX0_isSite 4 = .ok (.invokestatic 3, 3) := dk_184 0 3 (dk_at dksX0_isSite_0 4 rfl rfl)
theorem dX0_isSite_7 : decode cX0_isSite 7 = .ok (.ifCond .eq 17, 3) := dk_153 0 17 (dk_at dksX0_isSite_0 7 rfl rfl)
theorem dX0_isSite_10 : decode cX0_isSite 10 = .ok (.iload_n 1, 1) := dk_27 (dk_at dksX0_isSite_0 10 rfl rfl)
theorem dX0_isSite_11 : decode cX0_isSite 11 = .ok (.iconst 0, 1) := dk_3 (dk_at dksX0_isSite_0 11 rfl rfl)
theorem dX0_isSite_12 : decode cX0_isSite 12 = .ok (.bipush 99, 2) := dk_16 99 (dk_at dksX0_isSite_0 12 rfl rfl)
theorem dX0_isSite_14 : decode cX0_isSite 14 = .ok (.invokestatic 3, 3) := dk_184 0 3 (dk_at dksX0_isSite_0 14 rfl rfl)
theorem dX0_isSite_17 : decode cX0_isSite 17 = .ok (.ifCond .eq 7, 3) := dk_153 0 7 (dk_at dksX0_isSite_0 17 rfl rfl)
theorem dX0_isSite_20 : decode cX0_isSite 20 = .ok (.iconst 1, 1) := dk_4 (dk_at dksX0_isSite_0 20 rfl rfl)
theorem dX0_isSite_21 : decode cX0_isSite 21 = .ok (.goto 4, 3) := dk_167 0 4 (dk_at dksX0_isSite_0 21 rfl rfl)
theorem dX0_isSite_24 : decode cX0_isSite 24 = .ok (.iconst 0, 1) := dk_3 (dk_at dksX0_isSite_1 0 rfl rfl)
theorem dX0_isSite_25 : decode cX0_isSite 25 = .ok (.ireturn, 1) := dk_172 (dk_at dksX0_isSite_1 1 rfl rfl)
abbrev cX0_areDays : ByteArray := prog_1_method_6_code
def yX0_areDays : MethodName := ⟨RX0, "areDays", "(I)Z"⟩
def dkwX0_areDays_0 : List UInt8 := [26, 4, 16, 30, 184, 0, 3, 172]
abbrev dktX0_areDays_0 : List UInt8 := dkwX0_areDays_0 ++ []
theorem dksX0_areDays_0 : cX0_areDays.data.toList.drop 0 = dktX0_areDays_0 := by decide +kernel
theorem dX0_areDays_0 : decode cX0_areDays 0 = .ok (.iload_n 0, 1) := dk_26 (dk_at dksX0_areDays_0 0 rfl rfl)
theorem dX0_areDays_1 : decode cX0_areDays 1 = .ok (.iconst 1, 1) := dk_4 (dk_at dksX0_areDays_0 1 rfl rfl)
theorem dX0_areDays_2 : decode cX0_areDays 2 = .ok (.bipush 30, 2) := dk_16 30 (dk_at dksX0_areDays_0 2 rfl rfl)
theorem dX0_areDays_4 : decode cX0_areDays 4 = .ok (.invokestatic 3, 3) := dk_184 0 3 (dk_at dksX0_areDays_0 4 rfl rfl)
theorem dX0_areDays_7 : decode cX0_areDays 7 = .ok (.ireturn, 1) := dk_172 (dk_at dksX0_areDays_0 7 rfl rfl)
abbrev cX0_least : ByteArray := prog_1_method_10_code
def yX0_least : MethodName := ⟨RX0, "least", "(Ljava/lang/Iterable;LHamletWells$Asked;LHamletWells$Worth;)Ljava/lang/Object;"⟩
def dkwX0_least_3 : List UInt8 := [176]
abbrev dktX0_least_3 : List UInt8 := dkwX0_least_3 ++ []
def dkwX0_least_2 : List UInt8 := [25, 5, 185, 0, 34, 2, 0, 44, 45, 185, 0, 34, 2, 0, 162, 0, 6, 25, 5, 78, 167, 255, 201, 45]
abbrev dktX0_least_2 : List UInt8 := dkwX0_least_2 ++ dktX0_least_3
def dkwX0_least_1 : List UInt8 := [185, 0, 30, 1, 0, 58, 5, 43, 25, 5, 185, 0, 40, 2, 0, 153, 0, 28, 45, 198, 0, 21, 44]
abbrev dktX0_least_1 : List UInt8 := dkwX0_least_1 ++ dktX0_least_2
def dkwX0_least_0 : List UInt8 := [1, 78, 42, 185, 0, 18, 1, 0, 58, 4, 25, 4, 185, 0, 24, 1, 0, 153, 0, 51, 25, 4]
abbrev dktX0_least_0 : List UInt8 := dkwX0_least_0 ++ dktX0_least_1
theorem dksX0_least_0 : cX0_least.data.toList.drop 0 = dktX0_least_0 := by decide +kernel
theorem dksX0_least_1 : cX0_least.data.toList.drop 22 = dktX0_least_1 := dk_seg dksX0_least_0 22 rfl rfl
theorem dksX0_least_2 : cX0_least.data.toList.drop 45 = dktX0_least_2 := dk_seg dksX0_least_1 23 rfl rfl
theorem dksX0_least_3 : cX0_least.data.toList.drop 69 = dktX0_least_3 := dk_seg dksX0_least_2 24 rfl rfl
theorem dX0_least_0 : decode cX0_least 0 = .ok (.aconst_null, 1) := dk_1 (dk_at dksX0_least_0 0 rfl rfl)
theorem dX0_least_1 : decode cX0_least 1 = .ok (.astore_n 3, 1) := dk_78 (dk_at dksX0_least_0 1 rfl rfl)
theorem dX0_least_2 : decode cX0_least 2 = .ok (.aload_n 0, 1) := dk_42 (dk_at dksX0_least_0 2 rfl rfl)
theorem dX0_least_3 : decode cX0_least 3 = .ok (.invokeinterface 18 1, 5) := by decide +kernel
theorem dX0_least_8 : decode cX0_least 8 = .ok (.astore 4, 2) := dk_58 4 (dk_at dksX0_least_0 8 rfl rfl)
theorem dX0_least_10 : decode cX0_least 10 = .ok (.aload 4, 2) := dk_25 4 (dk_at dksX0_least_0 10 rfl rfl)
theorem dX0_least_12 : decode cX0_least 12 = .ok (.invokeinterface 24 1, 5) := by decide +kernel
theorem dX0_least_17 : decode cX0_least 17 = .ok (.ifCond .eq 51, 3) := dk_153 0 51 (dk_at dksX0_least_0 17 rfl rfl)
theorem dX0_least_20 : decode cX0_least 20 = .ok (.aload 4, 2) := dk_25 4 (dk_at dksX0_least_0 20 rfl rfl)
theorem dX0_least_22 : decode cX0_least 22 = .ok (.invokeinterface 30 1, 5) := by decide +kernel
theorem dX0_least_27 : decode cX0_least 27 = .ok (.astore 5, 2) := dk_58 5 (dk_at dksX0_least_1 5 rfl rfl)
theorem dX0_least_29 : decode cX0_least 29 = .ok (.aload_n 1, 1) := dk_43 (dk_at dksX0_least_1 7 rfl rfl)
theorem dX0_least_30 : decode cX0_least 30 = .ok (.aload 5, 2) := dk_25 5 (dk_at dksX0_least_1 8 rfl rfl)
theorem dX0_least_32 : decode cX0_least 32 = .ok (.invokeinterface 40 2, 5) := by decide +kernel
theorem dX0_least_37 : decode cX0_least 37 = .ok (.ifCond .eq 28, 3) := dk_153 0 28 (dk_at dksX0_least_1 15 rfl rfl)
theorem dX0_least_40 : decode cX0_least 40 = .ok (.aload_n 3, 1) := dk_45 (dk_at dksX0_least_1 18 rfl rfl)
theorem dX0_least_41 : decode cX0_least 41 = .ok (.ifnull 21, 3) := dk_198 0 21 (dk_at dksX0_least_1 19 rfl rfl)
theorem dX0_least_44 : decode cX0_least 44 = .ok (.aload_n 2, 1) := dk_44 (dk_at dksX0_least_1 22 rfl rfl)
theorem dX0_least_45 : decode cX0_least 45 = .ok (.aload 5, 2) := dk_25 5 (dk_at dksX0_least_2 0 rfl rfl)
theorem dX0_least_47 : decode cX0_least 47 = .ok (.invokeinterface 34 2, 5) := by decide +kernel
theorem dX0_least_52 : decode cX0_least 52 = .ok (.aload_n 2, 1) := dk_44 (dk_at dksX0_least_2 7 rfl rfl)
theorem dX0_least_53 : decode cX0_least 53 = .ok (.aload_n 3, 1) := dk_45 (dk_at dksX0_least_2 8 rfl rfl)
theorem dX0_least_54 : decode cX0_least 54 = .ok (.invokeinterface 34 2, 5) := by decide +kernel
theorem dX0_least_59 : decode cX0_least 59 = .ok (.if_icmp .ge 6, 3) := dk_162 0 6 (dk_at dksX0_least_2 14 rfl rfl)
theorem dX0_least_62 : decode cX0_least 62 = .ok (.aload 5, 2) := dk_25 5 (dk_at dksX0_least_2 17 rfl rfl)
theorem dX0_least_64 : decode cX0_least 64 = .ok (.astore_n 3, 1) := dk_78 (dk_at dksX0_least_2 19 rfl rfl)
theorem dX0_least_65 : decode cX0_least 65 = .ok (.goto (-55), 3) := dk_167 255 201 (dk_at dksX0_least_2 20 rfl rfl)
theorem dX0_least_68 : decode cX0_least 68 = .ok (.aload_n 3, 1) := dk_45 (dk_at dksX0_least_2 23 rfl rfl)
theorem dX0_least_69 : decode cX0_least 69 = .ok (.areturn, 1) := dk_176 (dk_at dksX0_least_3 0 rfl rfl)
abbrev cX0_bit : ByteArray := prog_1_method_2_code
def yX0_bit : MethodName := ⟨RX0, "bit", "(Z)I"⟩
def dkwX0_bit_0 : List UInt8 := [26, 153, 0, 7, 4, 167, 0, 4, 3, 172]
abbrev dktX0_bit_0 : List UInt8 := dkwX0_bit_0 ++ []
theorem dksX0_bit_0 : cX0_bit.data.toList.drop 0 = dktX0_bit_0 := by decide +kernel
theorem dX0_bit_0 : decode cX0_bit 0 = .ok (.iload_n 0, 1) := dk_26 (dk_at dksX0_bit_0 0 rfl rfl)
theorem dX0_bit_1 : decode cX0_bit 1 = .ok (.ifCond .eq 7, 3) := dk_153 0 7 (dk_at dksX0_bit_0 1 rfl rfl)
theorem dX0_bit_4 : decode cX0_bit 4 = .ok (.iconst 1, 1) := dk_4 (dk_at dksX0_bit_0 4 rfl rfl)
theorem dX0_bit_5 : decode cX0_bit 5 = .ok (.goto 4, 3) := dk_167 0 4 (dk_at dksX0_bit_0 5 rfl rfl)
theorem dX0_bit_8 : decode cX0_bit 8 = .ok (.iconst 0, 1) := dk_3 (dk_at dksX0_bit_0 8 rfl rfl)
theorem dX0_bit_9 : decode cX0_bit 9 = .ok (.ireturn, 1) := dk_172 (dk_at dksX0_bit_0 9 rfl rfl)
abbrev cX0_site : ByteArray := prog_1_method_14_code
def yX0_site : MethodName := ⟨RX0, "site", "(IIII)I"⟩
def dkwX0_site_1 : List UInt8 := [184, 0, 110, 153, 0, 7, 4, 167, 0, 4, 3, 16, 254, 182, 0, 113, 172]
abbrev dktX0_site_1 : List UInt8 := dkwX0_site_1 ++ []
def dkwX0_site_0 : List UInt8 := [187, 0, 105, 89, 42, 27, 28, 29, 21, 4, 183, 0, 107, 27, 28, 184, 0, 93, 153, 0, 16, 29, 21, 4]
abbrev dktX0_site_0 : List UInt8 := dkwX0_site_0 ++ dktX0_site_1
theorem dksX0_site_0 : cX0_site.data.toList.drop 0 = dktX0_site_0 := by decide +kernel
theorem dksX0_site_1 : cX0_site.data.toList.drop 24 = dktX0_site_1 := dk_seg dksX0_site_0 24 rfl rfl
theorem dX0_site_0 : decode cX0_site 0 = .ok (.new 105, 3) := dk_187 0 105 (dk_at dksX0_site_0 0 rfl rfl)
theorem dX0_site_3 : decode cX0_site 3 = .ok (.dup, 1) := dk_89 (dk_at dksX0_site_0 3 rfl rfl)
theorem dX0_site_4 : decode cX0_site 4 = .ok (.aload_n 0, 1) := dk_42 (dk_at dksX0_site_0 4 rfl rfl)
theorem dX0_site_5 : decode cX0_site 5 = .ok (.iload_n 1, 1) := dk_27 (dk_at dksX0_site_0 5 rfl rfl)
theorem dX0_site_6 : decode cX0_site 6 = .ok (.iload_n 2, 1) := dk_28 (dk_at dksX0_site_0 6 rfl rfl)
theorem dX0_site_7 : decode cX0_site 7 = .ok (.iload_n 3, 1) := dk_29 (dk_at dksX0_site_0 7 rfl rfl)
theorem dX0_site_8 : decode cX0_site 8 = .ok (.iload 4, 2) := dk_21 4 (dk_at dksX0_site_0 8 rfl rfl)
theorem dX0_site_10 : decode cX0_site 10 = .ok (.invokespecial 107, 3) := dk_183 0 107 (dk_at dksX0_site_0 10 rfl rfl)
theorem dX0_site_13 : decode cX0_site 13 = .ok (.iload_n 1, 1) := dk_27 (dk_at dksX0_site_0 13 rfl rfl)
theorem dX0_site_14 : decode cX0_site 14 = .ok (.iload_n 2, 1) := dk_28 (dk_at dksX0_site_0 14 rfl rfl)
theorem dX0_site_15 : decode cX0_site 15 = .ok (.invokestatic 93, 3) := dk_184 0 93 (dk_at dksX0_site_0 15 rfl rfl)
theorem dX0_site_18 : decode cX0_site 18 = .ok (.ifCond .eq 16, 3) := dk_153 0 16 (dk_at dksX0_site_0 18 rfl rfl)
theorem dX0_site_21 : decode cX0_site 21 = .ok (.iload_n 3, 1) := dk_29 (dk_at dksX0_site_0 21 rfl rfl)
theorem dX0_site_22 : decode cX0_site 22 = .ok (.iload 4, 2) := dk_21 4 (dk_at dksX0_site_0 22 rfl rfl)
theorem dX0_site_24 : decode cX0_site 24 = .ok (.invokestatic 110, 3) := dk_184 0 110 (dk_at dksX0_site_1 0 rfl rfl)
theorem dX0_site_27 : decode cX0_site 27 = .ok (.ifCond .eq 7, 3) := dk_153 0 7 (dk_at dksX0_site_1 3 rfl rfl)
theorem dX0_site_30 : decode cX0_site 30 = .ok (.iconst 1, 1) := dk_4 (dk_at dksX0_site_1 6 rfl rfl)
theorem dX0_site_31 : decode cX0_site 31 = .ok (.goto 4, 3) := dk_167 0 4 (dk_at dksX0_site_1 7 rfl rfl)
theorem dX0_site_34 : decode cX0_site 34 = .ok (.iconst 0, 1) := dk_3 (dk_at dksX0_site_1 10 rfl rfl)
theorem dX0_site_35 : decode cX0_site 35 = .ok (.bipush (-2), 2) := dk_16 254 (dk_at dksX0_site_1 11 rfl rfl)
theorem dX0_site_37 : decode cX0_site 37 = .ok (.invokevirtual 113, 3) := dk_182 0 113 (dk_at dksX0_site_1 13 rfl rfl)
theorem dX0_site_40 : decode cX0_site 40 = .ok (.ireturn, 1) := dk_172 (dk_at dksX0_site_1 16 rfl rfl)
abbrev cX0_open : ByteArray := prog_1_method_15_code
def yX0_open : MethodName := ⟨RX0, "open", "(I)I"⟩
def dkwX0_open_1 : List UInt8 := [172]
abbrev dktX0_open_1 : List UInt8 := dkwX0_open_1 ++ []
def dkwX0_open_0 : List UInt8 := [187, 0, 114, 89, 42, 27, 183, 0, 116, 42, 180, 0, 63, 180, 0, 119, 27, 182, 0, 123, 2, 182, 0, 128]
abbrev dktX0_open_0 : List UInt8 := dkwX0_open_0 ++ dktX0_open_1
theorem dksX0_open_0 : cX0_open.data.toList.drop 0 = dktX0_open_0 := by decide +kernel
theorem dksX0_open_1 : cX0_open.data.toList.drop 24 = dktX0_open_1 := dk_seg dksX0_open_0 24 rfl rfl
theorem dX0_open_0 : decode cX0_open 0 = .ok (.new 114, 3) := dk_187 0 114 (dk_at dksX0_open_0 0 rfl rfl)
theorem dX0_open_3 : decode cX0_open 3 = .ok (.dup, 1) := dk_89 (dk_at dksX0_open_0 3 rfl rfl)
theorem dX0_open_4 : decode cX0_open 4 = .ok (.aload_n 0, 1) := dk_42 (dk_at dksX0_open_0 4 rfl rfl)
theorem dX0_open_5 : decode cX0_open 5 = .ok (.iload_n 1, 1) := dk_27 (dk_at dksX0_open_0 5 rfl rfl)
theorem dX0_open_6 : decode cX0_open 6 = .ok (.invokespecial 116, 3) := dk_183 0 116 (dk_at dksX0_open_0 6 rfl rfl)
theorem dX0_open_9 : decode cX0_open 9 = .ok (.aload_n 0, 1) := dk_42 (dk_at dksX0_open_0 9 rfl rfl)
theorem dX0_open_10 : decode cX0_open 10 = .ok (.getfield 63, 3) := dk_180 0 63 (dk_at dksX0_open_0 10 rfl rfl)
theorem dX0_open_13 : decode cX0_open 13 = .ok (.getfield 119, 3) := dk_180 0 119 (dk_at dksX0_open_0 13 rfl rfl)
theorem dX0_open_16 : decode cX0_open 16 = .ok (.iload_n 1, 1) := dk_27 (dk_at dksX0_open_0 16 rfl rfl)
theorem dX0_open_17 : decode cX0_open 17 = .ok (.invokevirtual 123, 3) := dk_182 0 123 (dk_at dksX0_open_0 17 rfl rfl)
theorem dX0_open_20 : decode cX0_open 20 = .ok (.iconst (-1), 1) := dk_2 (dk_at dksX0_open_0 20 rfl rfl)
theorem dX0_open_21 : decode cX0_open 21 = .ok (.invokevirtual 128, 3) := dk_182 0 128 (dk_at dksX0_open_0 21 rfl rfl)
theorem dX0_open_24 : decode cX0_open 24 = .ok (.ireturn, 1) := dk_172 (dk_at dksX0_open_1 0 rfl rfl)
abbrev cX0_shut : ByteArray := prog_1_method_16_code
def yX0_shut : MethodName := ⟨RX0, "shut", "(I)I"⟩
def dkwX0_shut_1 : List UInt8 := [172]
abbrev dktX0_shut_1 : List UInt8 := dkwX0_shut_1 ++ []
def dkwX0_shut_0 : List UInt8 := [187, 0, 129, 89, 42, 27, 183, 0, 131, 42, 180, 0, 63, 180, 0, 119, 27, 182, 0, 123, 2, 182, 0, 132]
abbrev dktX0_shut_0 : List UInt8 := dkwX0_shut_0 ++ dktX0_shut_1
theorem dksX0_shut_0 : cX0_shut.data.toList.drop 0 = dktX0_shut_0 := by decide +kernel
theorem dksX0_shut_1 : cX0_shut.data.toList.drop 24 = dktX0_shut_1 := dk_seg dksX0_shut_0 24 rfl rfl
theorem dX0_shut_0 : decode cX0_shut 0 = .ok (.new 129, 3) := dk_187 0 129 (dk_at dksX0_shut_0 0 rfl rfl)
theorem dX0_shut_3 : decode cX0_shut 3 = .ok (.dup, 1) := dk_89 (dk_at dksX0_shut_0 3 rfl rfl)
theorem dX0_shut_4 : decode cX0_shut 4 = .ok (.aload_n 0, 1) := dk_42 (dk_at dksX0_shut_0 4 rfl rfl)
theorem dX0_shut_5 : decode cX0_shut 5 = .ok (.iload_n 1, 1) := dk_27 (dk_at dksX0_shut_0 5 rfl rfl)
theorem dX0_shut_6 : decode cX0_shut 6 = .ok (.invokespecial 131, 3) := dk_183 0 131 (dk_at dksX0_shut_0 6 rfl rfl)
theorem dX0_shut_9 : decode cX0_shut 9 = .ok (.aload_n 0, 1) := dk_42 (dk_at dksX0_shut_0 9 rfl rfl)
theorem dX0_shut_10 : decode cX0_shut 10 = .ok (.getfield 63, 3) := dk_180 0 63 (dk_at dksX0_shut_0 10 rfl rfl)
theorem dX0_shut_13 : decode cX0_shut 13 = .ok (.getfield 119, 3) := dk_180 0 119 (dk_at dksX0_shut_0 13 rfl rfl)
theorem dX0_shut_16 : decode cX0_shut 16 = .ok (.iload_n 1, 1) := dk_27 (dk_at dksX0_shut_0 16 rfl rfl)
theorem dX0_shut_17 : decode cX0_shut 17 = .ok (.invokevirtual 123, 3) := dk_182 0 123 (dk_at dksX0_shut_0 17 rfl rfl)
theorem dX0_shut_20 : decode cX0_shut 20 = .ok (.iconst (-1), 1) := dk_2 (dk_at dksX0_shut_0 20 rfl rfl)
theorem dX0_shut_21 : decode cX0_shut 21 = .ok (.invokevirtual 132, 3) := dk_182 0 132 (dk_at dksX0_shut_0 21 rfl rfl)
theorem dX0_shut_24 : decode cX0_shut 24 = .ok (.ireturn, 1) := dk_172 (dk_at dksX0_shut_1 0 rfl rfl)
abbrev cX0_pump : ByteArray := prog_1_method_17_code
def yX0_pump : MethodName := ⟨RX0, "pump", "(I)I"⟩
def dkwX0_pump_1 : List UInt8 := [172]
abbrev dktX0_pump_1 : List UInt8 := dkwX0_pump_1 ++ []
def dkwX0_pump_0 : List UInt8 := [187, 0, 133, 89, 42, 27, 183, 0, 135, 42, 180, 0, 63, 180, 0, 119, 27, 182, 0, 123, 2, 182, 0, 136]
abbrev dktX0_pump_0 : List UInt8 := dkwX0_pump_0 ++ dktX0_pump_1
theorem dksX0_pump_0 : cX0_pump.data.toList.drop 0 = dktX0_pump_0 := by decide +kernel
theorem dksX0_pump_1 : cX0_pump.data.toList.drop 24 = dktX0_pump_1 := dk_seg dksX0_pump_0 24 rfl rfl
theorem dX0_pump_0 : decode cX0_pump 0 = .ok (.new 133, 3) := dk_187 0 133 (dk_at dksX0_pump_0 0 rfl rfl)
theorem dX0_pump_3 : decode cX0_pump 3 = .ok (.dup, 1) := dk_89 (dk_at dksX0_pump_0 3 rfl rfl)
theorem dX0_pump_4 : decode cX0_pump 4 = .ok (.aload_n 0, 1) := dk_42 (dk_at dksX0_pump_0 4 rfl rfl)
theorem dX0_pump_5 : decode cX0_pump 5 = .ok (.iload_n 1, 1) := dk_27 (dk_at dksX0_pump_0 5 rfl rfl)
theorem dX0_pump_6 : decode cX0_pump 6 = .ok (.invokespecial 135, 3) := dk_183 0 135 (dk_at dksX0_pump_0 6 rfl rfl)
theorem dX0_pump_9 : decode cX0_pump 9 = .ok (.aload_n 0, 1) := dk_42 (dk_at dksX0_pump_0 9 rfl rfl)
theorem dX0_pump_10 : decode cX0_pump 10 = .ok (.getfield 63, 3) := dk_180 0 63 (dk_at dksX0_pump_0 10 rfl rfl)
theorem dX0_pump_13 : decode cX0_pump 13 = .ok (.getfield 119, 3) := dk_180 0 119 (dk_at dksX0_pump_0 13 rfl rfl)
theorem dX0_pump_16 : decode cX0_pump 16 = .ok (.iload_n 1, 1) := dk_27 (dk_at dksX0_pump_0 16 rfl rfl)
theorem dX0_pump_17 : decode cX0_pump 17 = .ok (.invokevirtual 123, 3) := dk_182 0 123 (dk_at dksX0_pump_0 17 rfl rfl)
theorem dX0_pump_20 : decode cX0_pump 20 = .ok (.iconst (-1), 1) := dk_2 (dk_at dksX0_pump_0 20 rfl rfl)
theorem dX0_pump_21 : decode cX0_pump 21 = .ok (.invokevirtual 136, 3) := dk_182 0 136 (dk_at dksX0_pump_0 21 rfl rfl)
theorem dX0_pump_24 : decode cX0_pump 24 = .ok (.ireturn, 1) := dk_172 (dk_at dksX0_pump_1 0 rfl rfl)
abbrev cX0_unpump : ByteArray := prog_1_method_18_code
def yX0_unpump : MethodName := ⟨RX0, "unpump", "(I)I"⟩
def dkwX0_unpump_1 : List UInt8 := [172]
abbrev dktX0_unpump_1 : List UInt8 := dkwX0_unpump_1 ++ []
def dkwX0_unpump_0 : List UInt8 := [187, 0, 137, 89, 42, 27, 183, 0, 139, 42, 180, 0, 63, 180, 0, 119, 27, 182, 0, 123, 2, 182, 0, 140]
abbrev dktX0_unpump_0 : List UInt8 := dkwX0_unpump_0 ++ dktX0_unpump_1
theorem dksX0_unpump_0 : cX0_unpump.data.toList.drop 0 = dktX0_unpump_0 := by decide +kernel
theorem dksX0_unpump_1 : cX0_unpump.data.toList.drop 24 = dktX0_unpump_1 := dk_seg dksX0_unpump_0 24 rfl rfl
theorem dX0_unpump_0 : decode cX0_unpump 0 = .ok (.new 137, 3) := dk_187 0 137 (dk_at dksX0_unpump_0 0 rfl rfl)
theorem dX0_unpump_3 : decode cX0_unpump 3 = .ok (.dup, 1) := dk_89 (dk_at dksX0_unpump_0 3 rfl rfl)
theorem dX0_unpump_4 : decode cX0_unpump 4 = .ok (.aload_n 0, 1) := dk_42 (dk_at dksX0_unpump_0 4 rfl rfl)
theorem dX0_unpump_5 : decode cX0_unpump 5 = .ok (.iload_n 1, 1) := dk_27 (dk_at dksX0_unpump_0 5 rfl rfl)
theorem dX0_unpump_6 : decode cX0_unpump 6 = .ok (.invokespecial 139, 3) := dk_183 0 139 (dk_at dksX0_unpump_0 6 rfl rfl)
theorem dX0_unpump_9 : decode cX0_unpump 9 = .ok (.aload_n 0, 1) := dk_42 (dk_at dksX0_unpump_0 9 rfl rfl)
theorem dX0_unpump_10 : decode cX0_unpump 10 = .ok (.getfield 63, 3) := dk_180 0 63 (dk_at dksX0_unpump_0 10 rfl rfl)
theorem dX0_unpump_13 : decode cX0_unpump 13 = .ok (.getfield 119, 3) := dk_180 0 119 (dk_at dksX0_unpump_0 13 rfl rfl)
theorem dX0_unpump_16 : decode cX0_unpump 16 = .ok (.iload_n 1, 1) := dk_27 (dk_at dksX0_unpump_0 16 rfl rfl)
theorem dX0_unpump_17 : decode cX0_unpump 17 = .ok (.invokevirtual 123, 3) := dk_182 0 123 (dk_at dksX0_unpump_0 17 rfl rfl)
theorem dX0_unpump_20 : decode cX0_unpump 20 = .ok (.iconst (-1), 1) := dk_2 (dk_at dksX0_unpump_0 20 rfl rfl)
theorem dX0_unpump_21 : decode cX0_unpump 21 = .ok (.invokevirtual 140, 3) := dk_182 0 140 (dk_at dksX0_unpump_0 21 rfl rfl)
theorem dX0_unpump_24 : decode cX0_unpump 24 = .ok (.ireturn, 1) := dk_172 (dk_at dksX0_unpump_1 0 rfl rfl)
abbrev cX0_move : ByteArray := prog_1_method_19_code
def yX0_move : MethodName := ⟨RX0, "move", "(II)I"⟩
def dkwX0_move_1 : List UInt8 := [42, 180, 0, 63, 180, 0, 119, 28, 182, 0, 123, 153, 0, 7, 4, 167, 0, 4, 3, 2, 182, 0, 146, 172]
abbrev dktX0_move_1 : List UInt8 := dkwX0_move_1 ++ []
def dkwX0_move_0 : List UInt8 := [187, 0, 141, 89, 42, 27, 28, 183, 0, 143, 42, 180, 0, 63, 180, 0, 119, 27, 182, 0, 123, 153, 0, 21]
abbrev dktX0_move_0 : List UInt8 := dkwX0_move_0 ++ dktX0_move_1
theorem dksX0_move_0 : cX0_move.data.toList.drop 0 = dktX0_move_0 := by decide +kernel
theorem dksX0_move_1 : cX0_move.data.toList.drop 24 = dktX0_move_1 := dk_seg dksX0_move_0 24 rfl rfl
theorem dX0_move_0 : decode cX0_move 0 = .ok (.new 141, 3) := dk_187 0 141 (dk_at dksX0_move_0 0 rfl rfl)
theorem dX0_move_3 : decode cX0_move 3 = .ok (.dup, 1) := dk_89 (dk_at dksX0_move_0 3 rfl rfl)
theorem dX0_move_4 : decode cX0_move 4 = .ok (.aload_n 0, 1) := dk_42 (dk_at dksX0_move_0 4 rfl rfl)
theorem dX0_move_5 : decode cX0_move 5 = .ok (.iload_n 1, 1) := dk_27 (dk_at dksX0_move_0 5 rfl rfl)
theorem dX0_move_6 : decode cX0_move 6 = .ok (.iload_n 2, 1) := dk_28 (dk_at dksX0_move_0 6 rfl rfl)
theorem dX0_move_7 : decode cX0_move 7 = .ok (.invokespecial 143, 3) := dk_183 0 143 (dk_at dksX0_move_0 7 rfl rfl)
theorem dX0_move_10 : decode cX0_move 10 = .ok (.aload_n 0, 1) := dk_42 (dk_at dksX0_move_0 10 rfl rfl)
theorem dX0_move_11 : decode cX0_move 11 = .ok (.getfield 63, 3) := dk_180 0 63 (dk_at dksX0_move_0 11 rfl rfl)
theorem dX0_move_14 : decode cX0_move 14 = .ok (.getfield 119, 3) := dk_180 0 119 (dk_at dksX0_move_0 14 rfl rfl)
theorem dX0_move_17 : decode cX0_move 17 = .ok (.iload_n 1, 1) := dk_27 (dk_at dksX0_move_0 17 rfl rfl)
theorem dX0_move_18 : decode cX0_move 18 = .ok (.invokevirtual 123, 3) := dk_182 0 123 (dk_at dksX0_move_0 18 rfl rfl)
theorem dX0_move_21 : decode cX0_move 21 = .ok (.ifCond .eq 21, 3) := dk_153 0 21 (dk_at dksX0_move_0 21 rfl rfl)
theorem dX0_move_24 : decode cX0_move 24 = .ok (.aload_n 0, 1) := dk_42 (dk_at dksX0_move_1 0 rfl rfl)
theorem dX0_move_25 : decode cX0_move 25 = .ok (.getfield 63, 3) := dk_180 0 63 (dk_at dksX0_move_1 1 rfl rfl)
theorem dX0_move_28 : decode cX0_move 28 = .ok (.getfield 119, 3) := dk_180 0 119 (dk_at dksX0_move_1 4 rfl rfl)
theorem dX0_move_31 : decode cX0_move 31 = .ok (.iload_n 2, 1) := dk_28 (dk_at dksX0_move_1 7 rfl rfl)
theorem dX0_move_32 : decode cX0_move 32 = .ok (.invokevirtual 123, 3) := dk_182 0 123 (dk_at dksX0_move_1 8 rfl rfl)
theorem dX0_move_35 : decode cX0_move 35 = .ok (.ifCond .eq 7, 3) := dk_153 0 7 (dk_at dksX0_move_1 11 rfl rfl)
theorem dX0_move_38 : decode cX0_move 38 = .ok (.iconst 1, 1) := dk_4 (dk_at dksX0_move_1 14 rfl rfl)
theorem dX0_move_39 : decode cX0_move 39 = .ok (.goto 4, 3) := dk_167 0 4 (dk_at dksX0_move_1 15 rfl rfl)
theorem dX0_move_42 : decode cX0_move 42 = .ok (.iconst 0, 1) := dk_3 (dk_at dksX0_move_1 18 rfl rfl)
theorem dX0_move_43 : decode cX0_move 43 = .ok (.iconst (-1), 1) := dk_2 (dk_at dksX0_move_1 19 rfl rfl)
theorem dX0_move_44 : decode cX0_move 44 = .ok (.invokevirtual 146, 3) := dk_182 0 146 (dk_at dksX0_move_1 20 rfl rfl)
theorem dX0_move_47 : decode cX0_move 47 = .ok (.ireturn, 1) := dk_172 (dk_at dksX0_move_1 23 rfl rfl)
abbrev cX0_pass : ByteArray := prog_1_method_20_code
def yX0_pass : MethodName := ⟨RX0, "pass", "(I)I"⟩
def dkwX0_pass_0 : List UInt8 := [187, 0, 147, 89, 42, 27, 183, 0, 149, 27, 184, 0, 150, 16, 254, 182, 0, 153, 172]
abbrev dktX0_pass_0 : List UInt8 := dkwX0_pass_0 ++ []
theorem dksX0_pass_0 : cX0_pass.data.toList.drop 0 = dktX0_pass_0 := by decide +kernel
theorem dX0_pass_0 : decode cX0_pass 0 = .ok (.new 147, 3) := dk_187 0 147 (dk_at dksX0_pass_0 0 rfl rfl)
theorem dX0_pass_3 : decode cX0_pass 3 = .ok (.dup, 1) := dk_89 (dk_at dksX0_pass_0 3 rfl rfl)
theorem dX0_pass_4 : decode cX0_pass 4 = .ok (.aload_n 0, 1) := dk_42 (dk_at dksX0_pass_0 4 rfl rfl)
theorem dX0_pass_5 : decode cX0_pass 5 = .ok (.iload_n 1, 1) := dk_27 (dk_at dksX0_pass_0 5 rfl rfl)
theorem dX0_pass_6 : decode cX0_pass 6 = .ok (.invokespecial 149, 3) := dk_183 0 149 (dk_at dksX0_pass_0 6 rfl rfl)
theorem dX0_pass_9 : decode cX0_pass 9 = .ok (.iload_n 1, 1) := dk_27 (dk_at dksX0_pass_0 9 rfl rfl)
theorem dX0_pass_10 : decode cX0_pass 10 = .ok (.invokestatic 150, 3) := dk_184 0 150 (dk_at dksX0_pass_0 10 rfl rfl)
theorem dX0_pass_13 : decode cX0_pass 13 = .ok (.bipush (-2), 2) := dk_16 254 (dk_at dksX0_pass_0 13 rfl rfl)
theorem dX0_pass_15 : decode cX0_pass 15 = .ok (.invokevirtual 153, 3) := dk_182 0 153 (dk_at dksX0_pass_0 15 rfl rfl)
theorem dX0_pass_18 : decode cX0_pass 18 = .ok (.ireturn, 1) := dk_172 (dk_at dksX0_pass_0 18 rfl rfl)
abbrev cX0_hamletOf : ByteArray := prog_1_method_21_code
def yX0_hamletOf : MethodName := ⟨RX0, "hamletOf", "(II)I"⟩
def dkwX0_hamletOf_5 : List UInt8 := [182, 0, 180, 172, 45, 180, 0, 184, 172, 45, 180, 0, 187, 172, 45, 180, 0, 190, 172, 16, 254, 172]
abbrev dktX0_hamletOf_5 : List UInt8 := dkwX0_hamletOf_5 ++ []
def dkwX0_hamletOf_4 : List UInt8 := [167, 0, 8, 25, 4, 180, 0, 175, 172, 25, 4, 199, 0, 8, 16, 250, 167, 0, 9, 25, 4, 45]
abbrev dktX0_hamletOf_4 : List UInt8 := dkwX0_hamletOf_4 ++ dktX0_hamletOf_5
def dkwX0_hamletOf_3 : List UInt8 := [45, 180, 0, 166, 172, 45, 180, 0, 169, 172, 45, 180, 0, 172, 172, 25, 4, 199, 0, 8, 16, 250]
abbrev dktX0_hamletOf_3 : List UInt8 := dkwX0_hamletOf_3 ++ dktX0_hamletOf_4
def dkwX0_hamletOf_2 : List UInt8 := [170, 0, 0, 0, 0, 109, 0, 0, 0, 0, 0, 0, 0, 7, 0, 0, 0, 46, 0, 0, 0, 51, 0, 0, 0, 56, 0, 0, 0, 61, 0, 0, 0, 77, 0, 0, 0, 94, 0, 0, 0, 99, 0, 0, 0, 104]
abbrev dktX0_hamletOf_2 : List UInt8 := dkwX0_hamletOf_2 ++ dktX0_hamletOf_3
def dkwX0_hamletOf_1 : List UInt8 := [182, 0, 157, 192, 0, 160, 78, 42, 180, 0, 63, 45, 182, 0, 162, 58, 4, 28]
abbrev dktX0_hamletOf_1 : List UInt8 := dkwX0_hamletOf_1 ++ dktX0_hamletOf_2
def dkwX0_hamletOf_0 : List UInt8 := [42, 180, 0, 63, 180, 0, 154, 27, 182, 0, 123, 154, 0, 5, 2, 172, 42, 180, 0, 63, 180, 0, 154, 27]
abbrev dktX0_hamletOf_0 : List UInt8 := dkwX0_hamletOf_0 ++ dktX0_hamletOf_1
theorem dksX0_hamletOf_0 : cX0_hamletOf.data.toList.drop 0 = dktX0_hamletOf_0 := by decide +kernel
theorem dksX0_hamletOf_1 : cX0_hamletOf.data.toList.drop 24 = dktX0_hamletOf_1 := dk_seg dksX0_hamletOf_0 24 rfl rfl
theorem dksX0_hamletOf_2 : cX0_hamletOf.data.toList.drop 42 = dktX0_hamletOf_2 := dk_seg dksX0_hamletOf_1 18 rfl rfl
theorem dksX0_hamletOf_3 : cX0_hamletOf.data.toList.drop 88 = dktX0_hamletOf_3 := dk_seg dksX0_hamletOf_2 46 rfl rfl
theorem dksX0_hamletOf_4 : cX0_hamletOf.data.toList.drop 110 = dktX0_hamletOf_4 := dk_seg dksX0_hamletOf_3 22 rfl rfl
theorem dksX0_hamletOf_5 : cX0_hamletOf.data.toList.drop 132 = dktX0_hamletOf_5 := dk_seg dksX0_hamletOf_4 22 rfl rfl
theorem dX0_hamletOf_0 : decode cX0_hamletOf 0 = .ok (.aload_n 0, 1) := dk_42 (dk_at dksX0_hamletOf_0 0 rfl rfl)
theorem dX0_hamletOf_1 : decode cX0_hamletOf 1 = .ok (.getfield 63, 3) := dk_180 0 63 (dk_at dksX0_hamletOf_0 1 rfl rfl)
theorem dX0_hamletOf_4 : decode cX0_hamletOf 4 = .ok (.getfield 154, 3) := dk_180 0 154 (dk_at dksX0_hamletOf_0 4 rfl rfl)
theorem dX0_hamletOf_7 : decode cX0_hamletOf 7 = .ok (.iload_n 1, 1) := dk_27 (dk_at dksX0_hamletOf_0 7 rfl rfl)
theorem dX0_hamletOf_8 : decode cX0_hamletOf 8 = .ok (.invokevirtual 123, 3) := dk_182 0 123 (dk_at dksX0_hamletOf_0 8 rfl rfl)
theorem dX0_hamletOf_11 : decode cX0_hamletOf 11 = .ok (.ifCond .ne 5, 3) := dk_154 0 5 (dk_at dksX0_hamletOf_0 11 rfl rfl)
theorem dX0_hamletOf_14 : decode cX0_hamletOf 14 = .ok (.iconst (-1), 1) := dk_2 (dk_at dksX0_hamletOf_0 14 rfl rfl)
theorem dX0_hamletOf_15 : decode cX0_hamletOf 15 = .ok (.ireturn, 1) := dk_172 (dk_at dksX0_hamletOf_0 15 rfl rfl)
theorem dX0_hamletOf_16 : decode cX0_hamletOf 16 = .ok (.aload_n 0, 1) := dk_42 (dk_at dksX0_hamletOf_0 16 rfl rfl)
theorem dX0_hamletOf_17 : decode cX0_hamletOf 17 = .ok (.getfield 63, 3) := dk_180 0 63 (dk_at dksX0_hamletOf_0 17 rfl rfl)
theorem dX0_hamletOf_20 : decode cX0_hamletOf 20 = .ok (.getfield 154, 3) := dk_180 0 154 (dk_at dksX0_hamletOf_0 20 rfl rfl)
theorem dX0_hamletOf_23 : decode cX0_hamletOf 23 = .ok (.iload_n 1, 1) := dk_27 (dk_at dksX0_hamletOf_0 23 rfl rfl)
theorem dX0_hamletOf_24 : decode cX0_hamletOf 24 = .ok (.invokevirtual 157, 3) := dk_182 0 157 (dk_at dksX0_hamletOf_1 0 rfl rfl)
theorem dX0_hamletOf_27 : decode cX0_hamletOf 27 = .ok (.checkcast 160, 3) := dk_192 0 160 (dk_at dksX0_hamletOf_1 3 rfl rfl)
theorem dX0_hamletOf_30 : decode cX0_hamletOf 30 = .ok (.astore_n 3, 1) := dk_78 (dk_at dksX0_hamletOf_1 6 rfl rfl)
theorem dX0_hamletOf_31 : decode cX0_hamletOf 31 = .ok (.aload_n 0, 1) := dk_42 (dk_at dksX0_hamletOf_1 7 rfl rfl)
theorem dX0_hamletOf_32 : decode cX0_hamletOf 32 = .ok (.getfield 63, 3) := dk_180 0 63 (dk_at dksX0_hamletOf_1 8 rfl rfl)
theorem dX0_hamletOf_35 : decode cX0_hamletOf 35 = .ok (.aload_n 3, 1) := dk_45 (dk_at dksX0_hamletOf_1 11 rfl rfl)
theorem dX0_hamletOf_36 : decode cX0_hamletOf 36 = .ok (.invokevirtual 162, 3) := dk_182 0 162 (dk_at dksX0_hamletOf_1 12 rfl rfl)
theorem dX0_hamletOf_39 : decode cX0_hamletOf 39 = .ok (.astore 4, 2) := dk_58 4 (dk_at dksX0_hamletOf_1 15 rfl rfl)
theorem dX0_hamletOf_41 : decode cX0_hamletOf 41 = .ok (.iload_n 2, 1) := dk_28 (dk_at dksX0_hamletOf_1 17 rfl rfl)
theorem dX0_hamletOf_42 : decode cX0_hamletOf 42 = .ok (.tableswitch 109 0 7 #[46, 51, 56, 61, 77, 94, 99, 104], 46) := by decide +kernel
theorem dX0_hamletOf_88 : decode cX0_hamletOf 88 = .ok (.aload_n 3, 1) := dk_45 (dk_at dksX0_hamletOf_3 0 rfl rfl)
theorem dX0_hamletOf_89 : decode cX0_hamletOf 89 = .ok (.getfield 166, 3) := dk_180 0 166 (dk_at dksX0_hamletOf_3 1 rfl rfl)
theorem dX0_hamletOf_92 : decode cX0_hamletOf 92 = .ok (.ireturn, 1) := dk_172 (dk_at dksX0_hamletOf_3 4 rfl rfl)
theorem dX0_hamletOf_93 : decode cX0_hamletOf 93 = .ok (.aload_n 3, 1) := dk_45 (dk_at dksX0_hamletOf_3 5 rfl rfl)
theorem dX0_hamletOf_94 : decode cX0_hamletOf 94 = .ok (.getfield 169, 3) := dk_180 0 169 (dk_at dksX0_hamletOf_3 6 rfl rfl)
theorem dX0_hamletOf_97 : decode cX0_hamletOf 97 = .ok (.ireturn, 1) := dk_172 (dk_at dksX0_hamletOf_3 9 rfl rfl)
theorem dX0_hamletOf_98 : decode cX0_hamletOf 98 = .ok (.aload_n 3, 1) := dk_45 (dk_at dksX0_hamletOf_3 10 rfl rfl)
theorem dX0_hamletOf_99 : decode cX0_hamletOf 99 = .ok (.getfield 172, 3) := dk_180 0 172 (dk_at dksX0_hamletOf_3 11 rfl rfl)
theorem dX0_hamletOf_102 : decode cX0_hamletOf 102 = .ok (.ireturn, 1) := dk_172 (dk_at dksX0_hamletOf_3 14 rfl rfl)
theorem dX0_hamletOf_103 : decode cX0_hamletOf 103 = .ok (.aload 4, 2) := dk_25 4 (dk_at dksX0_hamletOf_3 15 rfl rfl)
theorem dX0_hamletOf_105 : decode cX0_hamletOf 105 = .ok (.ifnonnull 8, 3) := dk_199 0 8 (dk_at dksX0_hamletOf_3 17 rfl rfl)
theorem dX0_hamletOf_108 : decode cX0_hamletOf 108 = .ok (.bipush (-6), 2) := dk_16 250 (dk_at dksX0_hamletOf_3 20 rfl rfl)
theorem dX0_hamletOf_110 : decode cX0_hamletOf 110 = .ok (.goto 8, 3) := dk_167 0 8 (dk_at dksX0_hamletOf_4 0 rfl rfl)
theorem dX0_hamletOf_113 : decode cX0_hamletOf 113 = .ok (.aload 4, 2) := dk_25 4 (dk_at dksX0_hamletOf_4 3 rfl rfl)
theorem dX0_hamletOf_115 : decode cX0_hamletOf 115 = .ok (.getfield 175, 3) := dk_180 0 175 (dk_at dksX0_hamletOf_4 5 rfl rfl)
theorem dX0_hamletOf_118 : decode cX0_hamletOf 118 = .ok (.ireturn, 1) := dk_172 (dk_at dksX0_hamletOf_4 8 rfl rfl)
theorem dX0_hamletOf_119 : decode cX0_hamletOf 119 = .ok (.aload 4, 2) := dk_25 4 (dk_at dksX0_hamletOf_4 9 rfl rfl)
theorem dX0_hamletOf_121 : decode cX0_hamletOf 121 = .ok (.ifnonnull 8, 3) := dk_199 0 8 (dk_at dksX0_hamletOf_4 11 rfl rfl)
theorem dX0_hamletOf_124 : decode cX0_hamletOf 124 = .ok (.bipush (-6), 2) := dk_16 250 (dk_at dksX0_hamletOf_4 14 rfl rfl)
theorem dX0_hamletOf_126 : decode cX0_hamletOf 126 = .ok (.goto 9, 3) := dk_167 0 9 (dk_at dksX0_hamletOf_4 16 rfl rfl)
theorem dX0_hamletOf_129 : decode cX0_hamletOf 129 = .ok (.aload 4, 2) := dk_25 4 (dk_at dksX0_hamletOf_4 19 rfl rfl)
theorem dX0_hamletOf_131 : decode cX0_hamletOf 131 = .ok (.aload_n 3, 1) := dk_45 (dk_at dksX0_hamletOf_4 21 rfl rfl)
theorem dX0_hamletOf_132 : decode cX0_hamletOf 132 = .ok (.invokevirtual 180, 3) := dk_182 0 180 (dk_at dksX0_hamletOf_5 0 rfl rfl)
theorem dX0_hamletOf_135 : decode cX0_hamletOf 135 = .ok (.ireturn, 1) := dk_172 (dk_at dksX0_hamletOf_5 3 rfl rfl)
theorem dX0_hamletOf_136 : decode cX0_hamletOf 136 = .ok (.aload_n 3, 1) := dk_45 (dk_at dksX0_hamletOf_5 4 rfl rfl)
theorem dX0_hamletOf_137 : decode cX0_hamletOf 137 = .ok (.getfield 184, 3) := dk_180 0 184 (dk_at dksX0_hamletOf_5 5 rfl rfl)
theorem dX0_hamletOf_140 : decode cX0_hamletOf 140 = .ok (.ireturn, 1) := dk_172 (dk_at dksX0_hamletOf_5 8 rfl rfl)
theorem dX0_hamletOf_141 : decode cX0_hamletOf 141 = .ok (.aload_n 3, 1) := dk_45 (dk_at dksX0_hamletOf_5 9 rfl rfl)
theorem dX0_hamletOf_142 : decode cX0_hamletOf 142 = .ok (.getfield 187, 3) := dk_180 0 187 (dk_at dksX0_hamletOf_5 10 rfl rfl)
theorem dX0_hamletOf_145 : decode cX0_hamletOf 145 = .ok (.ireturn, 1) := dk_172 (dk_at dksX0_hamletOf_5 13 rfl rfl)
theorem dX0_hamletOf_146 : decode cX0_hamletOf 146 = .ok (.aload_n 3, 1) := dk_45 (dk_at dksX0_hamletOf_5 14 rfl rfl)
theorem dX0_hamletOf_147 : decode cX0_hamletOf 147 = .ok (.getfield 190, 3) := dk_180 0 190 (dk_at dksX0_hamletOf_5 15 rfl rfl)
theorem dX0_hamletOf_150 : decode cX0_hamletOf 150 = .ok (.ireturn, 1) := dk_172 (dk_at dksX0_hamletOf_5 18 rfl rfl)
theorem dX0_hamletOf_151 : decode cX0_hamletOf 151 = .ok (.bipush (-2), 2) := dk_16 254 (dk_at dksX0_hamletOf_5 19 rfl rfl)
theorem dX0_hamletOf_153 : decode cX0_hamletOf 153 = .ok (.ireturn, 1) := dk_172 (dk_at dksX0_hamletOf_5 21 rfl rfl)
abbrev cX0_siteOf : ByteArray := prog_1_method_22_code
def yX0_siteOf : MethodName := ⟨RX0, "siteOf", "(II)I"⟩
def dkwX0_siteOf_5 : List UInt8 := [182, 0, 216, 172, 42, 180, 0, 63, 45, 182, 0, 220, 182, 0, 224, 172, 45, 180, 0, 229, 172, 16, 254, 172]
abbrev dktX0_siteOf_5 : List UInt8 := dkwX0_siteOf_5 ++ []
def dkwX0_siteOf_4 : List UInt8 := [184, 0, 205, 172, 45, 180, 0, 209, 184, 0, 205, 172, 45, 182, 0, 212, 172, 42, 180, 0, 63, 45]
abbrev dktX0_siteOf_4 : List UInt8 := dkwX0_siteOf_4 ++ dktX0_siteOf_5
def dkwX0_siteOf_3 : List UInt8 := [45, 180, 0, 193, 172, 45, 180, 0, 194, 172, 45, 180, 0, 195, 172, 45, 180, 0, 198, 172, 45, 180, 0, 201]
abbrev dktX0_siteOf_3 : List UInt8 := dkwX0_siteOf_3 ++ dktX0_siteOf_4
def dkwX0_siteOf_2 : List UInt8 := [170, 0, 0, 0, 0, 0, 0, 123, 0, 0, 0, 0, 0, 0, 0, 9, 0, 0, 0, 56, 0, 0, 0, 61, 0, 0, 0, 66, 0, 0, 0, 71, 0, 0, 0, 76, 0, 0, 0, 84, 0, 0, 0, 92, 0, 0, 0, 97, 0, 0, 0, 106, 0, 0, 0, 118]
abbrev dktX0_siteOf_2 : List UInt8 := dkwX0_siteOf_2 ++ dktX0_siteOf_3
def dkwX0_siteOf_1 : List UInt8 := [182, 0, 157, 192, 0, 176, 78, 28]
abbrev dktX0_siteOf_1 : List UInt8 := dkwX0_siteOf_1 ++ dktX0_siteOf_2
def dkwX0_siteOf_0 : List UInt8 := [42, 180, 0, 63, 180, 0, 119, 27, 182, 0, 123, 154, 0, 5, 2, 172, 42, 180, 0, 63, 180, 0, 119, 27]
abbrev dktX0_siteOf_0 : List UInt8 := dkwX0_siteOf_0 ++ dktX0_siteOf_1
theorem dksX0_siteOf_0 : cX0_siteOf.data.toList.drop 0 = dktX0_siteOf_0 := by decide +kernel
theorem dksX0_siteOf_1 : cX0_siteOf.data.toList.drop 24 = dktX0_siteOf_1 := dk_seg dksX0_siteOf_0 24 rfl rfl
theorem dksX0_siteOf_2 : cX0_siteOf.data.toList.drop 32 = dktX0_siteOf_2 := dk_seg dksX0_siteOf_1 8 rfl rfl
theorem dksX0_siteOf_3 : cX0_siteOf.data.toList.drop 88 = dktX0_siteOf_3 := dk_seg dksX0_siteOf_2 56 rfl rfl
theorem dksX0_siteOf_4 : cX0_siteOf.data.toList.drop 112 = dktX0_siteOf_4 := dk_seg dksX0_siteOf_3 24 rfl rfl
theorem dksX0_siteOf_5 : cX0_siteOf.data.toList.drop 134 = dktX0_siteOf_5 := dk_seg dksX0_siteOf_4 22 rfl rfl
theorem dX0_siteOf_0 : decode cX0_siteOf 0 = .ok (.aload_n 0, 1) := dk_42 (dk_at dksX0_siteOf_0 0 rfl rfl)
theorem dX0_siteOf_1 : decode cX0_siteOf 1 = .ok (.getfield 63, 3) := dk_180 0 63 (dk_at dksX0_siteOf_0 1 rfl rfl)
theorem dX0_siteOf_4 : decode cX0_siteOf 4 = .ok (.getfield 119, 3) := dk_180 0 119 (dk_at dksX0_siteOf_0 4 rfl rfl)
theorem dX0_siteOf_7 : decode cX0_siteOf 7 = .ok (.iload_n 1, 1) := dk_27 (dk_at dksX0_siteOf_0 7 rfl rfl)
theorem dX0_siteOf_8 : decode cX0_siteOf 8 = .ok (.invokevirtual 123, 3) := dk_182 0 123 (dk_at dksX0_siteOf_0 8 rfl rfl)
theorem dX0_siteOf_11 : decode cX0_siteOf 11 = .ok (.ifCond .ne 5, 3) := dk_154 0 5 (dk_at dksX0_siteOf_0 11 rfl rfl)
theorem dX0_siteOf_14 : decode cX0_siteOf 14 = .ok (.iconst (-1), 1) := dk_2 (dk_at dksX0_siteOf_0 14 rfl rfl)
theorem dX0_siteOf_15 : decode cX0_siteOf 15 = .ok (.ireturn, 1) := dk_172 (dk_at dksX0_siteOf_0 15 rfl rfl)
theorem dX0_siteOf_16 : decode cX0_siteOf 16 = .ok (.aload_n 0, 1) := dk_42 (dk_at dksX0_siteOf_0 16 rfl rfl)
theorem dX0_siteOf_17 : decode cX0_siteOf 17 = .ok (.getfield 63, 3) := dk_180 0 63 (dk_at dksX0_siteOf_0 17 rfl rfl)
theorem dX0_siteOf_20 : decode cX0_siteOf 20 = .ok (.getfield 119, 3) := dk_180 0 119 (dk_at dksX0_siteOf_0 20 rfl rfl)
theorem dX0_siteOf_23 : decode cX0_siteOf 23 = .ok (.iload_n 1, 1) := dk_27 (dk_at dksX0_siteOf_0 23 rfl rfl)
theorem dX0_siteOf_24 : decode cX0_siteOf 24 = .ok (.invokevirtual 157, 3) := dk_182 0 157 (dk_at dksX0_siteOf_1 0 rfl rfl)
theorem dX0_siteOf_27 : decode cX0_siteOf 27 = .ok (.checkcast 176, 3) := dk_192 0 176 (dk_at dksX0_siteOf_1 3 rfl rfl)
theorem dX0_siteOf_30 : decode cX0_siteOf 30 = .ok (.astore_n 3, 1) := dk_78 (dk_at dksX0_siteOf_1 6 rfl rfl)
theorem dX0_siteOf_31 : decode cX0_siteOf 31 = .ok (.iload_n 2, 1) := dk_28 (dk_at dksX0_siteOf_1 7 rfl rfl)
theorem dX0_siteOf_32 : decode cX0_siteOf 32 = .ok (.tableswitch 123 0 9 #[56, 61, 66, 71, 76, 84, 92, 97, 106, 118], 56) := by decide +kernel
theorem dX0_siteOf_88 : decode cX0_siteOf 88 = .ok (.aload_n 3, 1) := dk_45 (dk_at dksX0_siteOf_3 0 rfl rfl)
theorem dX0_siteOf_89 : decode cX0_siteOf 89 = .ok (.getfield 193, 3) := dk_180 0 193 (dk_at dksX0_siteOf_3 1 rfl rfl)
theorem dX0_siteOf_92 : decode cX0_siteOf 92 = .ok (.ireturn, 1) := dk_172 (dk_at dksX0_siteOf_3 4 rfl rfl)
theorem dX0_siteOf_93 : decode cX0_siteOf 93 = .ok (.aload_n 3, 1) := dk_45 (dk_at dksX0_siteOf_3 5 rfl rfl)
theorem dX0_siteOf_94 : decode cX0_siteOf 94 = .ok (.getfield 194, 3) := dk_180 0 194 (dk_at dksX0_siteOf_3 6 rfl rfl)
theorem dX0_siteOf_97 : decode cX0_siteOf 97 = .ok (.ireturn, 1) := dk_172 (dk_at dksX0_siteOf_3 9 rfl rfl)
theorem dX0_siteOf_98 : decode cX0_siteOf 98 = .ok (.aload_n 3, 1) := dk_45 (dk_at dksX0_siteOf_3 10 rfl rfl)
theorem dX0_siteOf_99 : decode cX0_siteOf 99 = .ok (.getfield 195, 3) := dk_180 0 195 (dk_at dksX0_siteOf_3 11 rfl rfl)
theorem dX0_siteOf_102 : decode cX0_siteOf 102 = .ok (.ireturn, 1) := dk_172 (dk_at dksX0_siteOf_3 14 rfl rfl)
theorem dX0_siteOf_103 : decode cX0_siteOf 103 = .ok (.aload_n 3, 1) := dk_45 (dk_at dksX0_siteOf_3 15 rfl rfl)
theorem dX0_siteOf_104 : decode cX0_siteOf 104 = .ok (.getfield 198, 3) := dk_180 0 198 (dk_at dksX0_siteOf_3 16 rfl rfl)
theorem dX0_siteOf_107 : decode cX0_siteOf 107 = .ok (.ireturn, 1) := dk_172 (dk_at dksX0_siteOf_3 19 rfl rfl)
theorem dX0_siteOf_108 : decode cX0_siteOf 108 = .ok (.aload_n 3, 1) := dk_45 (dk_at dksX0_siteOf_3 20 rfl rfl)
theorem dX0_siteOf_109 : decode cX0_siteOf 109 = .ok (.getfield 201, 3) := dk_180 0 201 (dk_at dksX0_siteOf_3 21 rfl rfl)
theorem dX0_siteOf_112 : decode cX0_siteOf 112 = .ok (.invokestatic 205, 3) := dk_184 0 205 (dk_at dksX0_siteOf_4 0 rfl rfl)
theorem dX0_siteOf_115 : decode cX0_siteOf 115 = .ok (.ireturn, 1) := dk_172 (dk_at dksX0_siteOf_4 3 rfl rfl)
theorem dX0_siteOf_116 : decode cX0_siteOf 116 = .ok (.aload_n 3, 1) := dk_45 (dk_at dksX0_siteOf_4 4 rfl rfl)
theorem dX0_siteOf_117 : decode cX0_siteOf 117 = .ok (.getfield 209, 3) := dk_180 0 209 (dk_at dksX0_siteOf_4 5 rfl rfl)
theorem dX0_siteOf_120 : decode cX0_siteOf 120 = .ok (.invokestatic 205, 3) := dk_184 0 205 (dk_at dksX0_siteOf_4 8 rfl rfl)
theorem dX0_siteOf_123 : decode cX0_siteOf 123 = .ok (.ireturn, 1) := dk_172 (dk_at dksX0_siteOf_4 11 rfl rfl)
theorem dX0_siteOf_124 : decode cX0_siteOf 124 = .ok (.aload_n 3, 1) := dk_45 (dk_at dksX0_siteOf_4 12 rfl rfl)
theorem dX0_siteOf_125 : decode cX0_siteOf 125 = .ok (.invokevirtual 212, 3) := dk_182 0 212 (dk_at dksX0_siteOf_4 13 rfl rfl)
theorem dX0_siteOf_128 : decode cX0_siteOf 128 = .ok (.ireturn, 1) := dk_172 (dk_at dksX0_siteOf_4 16 rfl rfl)
theorem dX0_siteOf_129 : decode cX0_siteOf 129 = .ok (.aload_n 0, 1) := dk_42 (dk_at dksX0_siteOf_4 17 rfl rfl)
theorem dX0_siteOf_130 : decode cX0_siteOf 130 = .ok (.getfield 63, 3) := dk_180 0 63 (dk_at dksX0_siteOf_4 18 rfl rfl)
theorem dX0_siteOf_133 : decode cX0_siteOf 133 = .ok (.aload_n 3, 1) := dk_45 (dk_at dksX0_siteOf_4 21 rfl rfl)
theorem dX0_siteOf_134 : decode cX0_siteOf 134 = .ok (.invokevirtual 216, 3) := dk_182 0 216 (dk_at dksX0_siteOf_5 0 rfl rfl)
theorem dX0_siteOf_137 : decode cX0_siteOf 137 = .ok (.ireturn, 1) := dk_172 (dk_at dksX0_siteOf_5 3 rfl rfl)
theorem dX0_siteOf_138 : decode cX0_siteOf 138 = .ok (.aload_n 0, 1) := dk_42 (dk_at dksX0_siteOf_5 4 rfl rfl)
theorem dX0_siteOf_139 : decode cX0_siteOf 139 = .ok (.getfield 63, 3) := dk_180 0 63 (dk_at dksX0_siteOf_5 5 rfl rfl)
theorem dX0_siteOf_142 : decode cX0_siteOf 142 = .ok (.aload_n 3, 1) := dk_45 (dk_at dksX0_siteOf_5 8 rfl rfl)
theorem dX0_siteOf_143 : decode cX0_siteOf 143 = .ok (.invokevirtual 220, 3) := dk_182 0 220 (dk_at dksX0_siteOf_5 9 rfl rfl)
theorem dX0_siteOf_146 : decode cX0_siteOf 146 = .ok (.invokevirtual 224, 3) := dk_182 0 224 (dk_at dksX0_siteOf_5 12 rfl rfl)
theorem dX0_siteOf_149 : decode cX0_siteOf 149 = .ok (.ireturn, 1) := dk_172 (dk_at dksX0_siteOf_5 15 rfl rfl)
theorem dX0_siteOf_150 : decode cX0_siteOf 150 = .ok (.aload_n 3, 1) := dk_45 (dk_at dksX0_siteOf_5 16 rfl rfl)
theorem dX0_siteOf_151 : decode cX0_siteOf 151 = .ok (.getfield 229, 3) := dk_180 0 229 (dk_at dksX0_siteOf_5 17 rfl rfl)
theorem dX0_siteOf_154 : decode cX0_siteOf 154 = .ok (.ireturn, 1) := dk_172 (dk_at dksX0_siteOf_5 20 rfl rfl)
theorem dX0_siteOf_155 : decode cX0_siteOf 155 = .ok (.bipush (-2), 2) := dk_16 254 (dk_at dksX0_siteOf_5 21 rfl rfl)
theorem dX0_siteOf_157 : decode cX0_siteOf 157 = .ok (.ireturn, 1) := dk_172 (dk_at dksX0_siteOf_5 23 rfl rfl)
abbrev cX0_sum : ByteArray := prog_1_method_9_code
def yX0_sum : MethodName := ⟨RX0, "sum", "(Ljava/lang/Iterable;LHamletWells$Worth;)I"⟩
def dkwX0_sum_1 : List UInt8 := [58, 4, 28, 43, 25, 4, 185, 0, 34, 2, 0, 96, 61, 167, 255, 228, 28, 172]
abbrev dktX0_sum_1 : List UInt8 := dkwX0_sum_1 ++ []
def dkwX0_sum_0 : List UInt8 := [3, 61, 42, 185, 0, 18, 1, 0, 78, 45, 185, 0, 24, 1, 0, 153, 0, 25, 45, 185, 0, 30, 1, 0]
abbrev dktX0_sum_0 : List UInt8 := dkwX0_sum_0 ++ dktX0_sum_1
theorem dksX0_sum_0 : cX0_sum.data.toList.drop 0 = dktX0_sum_0 := by decide +kernel
theorem dksX0_sum_1 : cX0_sum.data.toList.drop 24 = dktX0_sum_1 := dk_seg dksX0_sum_0 24 rfl rfl
theorem dX0_sum_0 : decode cX0_sum 0 = .ok (.iconst 0, 1) := dk_3 (dk_at dksX0_sum_0 0 rfl rfl)
theorem dX0_sum_1 : decode cX0_sum 1 = .ok (.istore_n 2, 1) := dk_61 (dk_at dksX0_sum_0 1 rfl rfl)
theorem dX0_sum_2 : decode cX0_sum 2 = .ok (.aload_n 0, 1) := dk_42 (dk_at dksX0_sum_0 2 rfl rfl)
theorem dX0_sum_3 : decode cX0_sum 3 = .ok (.invokeinterface 18 1, 5) := by decide +kernel
theorem dX0_sum_8 : decode cX0_sum 8 = .ok (.astore_n 3, 1) := dk_78 (dk_at dksX0_sum_0 8 rfl rfl)
theorem dX0_sum_9 : decode cX0_sum 9 = .ok (.aload_n 3, 1) := dk_45 (dk_at dksX0_sum_0 9 rfl rfl)
theorem dX0_sum_10 : decode cX0_sum 10 = .ok (.invokeinterface 24 1, 5) := by decide +kernel
theorem dX0_sum_15 : decode cX0_sum 15 = .ok (.ifCond .eq 25, 3) := dk_153 0 25 (dk_at dksX0_sum_0 15 rfl rfl)
theorem dX0_sum_18 : decode cX0_sum 18 = .ok (.aload_n 3, 1) := dk_45 (dk_at dksX0_sum_0 18 rfl rfl)
theorem dX0_sum_19 : decode cX0_sum 19 = .ok (.invokeinterface 30 1, 5) := by decide +kernel
theorem dX0_sum_24 : decode cX0_sum 24 = .ok (.astore 4, 2) := dk_58 4 (dk_at dksX0_sum_1 0 rfl rfl)
theorem dX0_sum_26 : decode cX0_sum 26 = .ok (.iload_n 2, 1) := dk_28 (dk_at dksX0_sum_1 2 rfl rfl)
theorem dX0_sum_27 : decode cX0_sum 27 = .ok (.aload_n 1, 1) := dk_43 (dk_at dksX0_sum_1 3 rfl rfl)
theorem dX0_sum_28 : decode cX0_sum 28 = .ok (.aload 4, 2) := dk_25 4 (dk_at dksX0_sum_1 4 rfl rfl)
theorem dX0_sum_30 : decode cX0_sum 30 = .ok (.invokeinterface 34 2, 5) := by decide +kernel
theorem dX0_sum_35 : decode cX0_sum 35 = .ok (.iadd, 1) := dk_96 (dk_at dksX0_sum_1 11 rfl rfl)
theorem dX0_sum_36 : decode cX0_sum 36 = .ok (.istore_n 2, 1) := dk_61 (dk_at dksX0_sum_1 12 rfl rfl)
theorem dX0_sum_37 : decode cX0_sum 37 = .ok (.goto (-28), 3) := dk_167 255 228 (dk_at dksX0_sum_1 13 rfl rfl)
theorem dX0_sum_40 : decode cX0_sum 40 = .ok (.iload_n 2, 1) := dk_28 (dk_at dksX0_sum_1 16 rfl rfl)
theorem dX0_sum_41 : decode cX0_sum 41 = .ok (.ireturn, 1) := dk_172 (dk_at dksX0_sum_1 17 rfl rfl)
abbrev cX0_drinker : ByteArray := prog_1_method_23_code
def yX0_drinker : MethodName := ⟨RX0, "drinker", "(II)I"⟩
def dkwX0_drinker_2 : List UInt8 := [184, 0, 3, 153, 0, 17, 45, 28, 182, 0, 232, 192, 0, 160, 180, 0, 236, 167, 0, 4, 2, 172]
abbrev dktX0_drinker_2 : List UInt8 := dkwX0_drinker_2 ++ []
def dkwX0_drinker_1 : List UInt8 := [180, 0, 119, 27, 182, 0, 157, 192, 0, 176, 182, 0, 220, 78, 28, 3, 45, 182, 0, 224, 4, 100]
abbrev dktX0_drinker_1 : List UInt8 := dkwX0_drinker_1 ++ dktX0_drinker_2
def dkwX0_drinker_0 : List UInt8 := [42, 180, 0, 63, 180, 0, 119, 27, 182, 0, 123, 154, 0, 5, 2, 172, 42, 180, 0, 63, 42, 180, 0, 63]
abbrev dktX0_drinker_0 : List UInt8 := dkwX0_drinker_0 ++ dktX0_drinker_1
theorem dksX0_drinker_0 : cX0_drinker.data.toList.drop 0 = dktX0_drinker_0 := by decide +kernel
theorem dksX0_drinker_1 : cX0_drinker.data.toList.drop 24 = dktX0_drinker_1 := dk_seg dksX0_drinker_0 24 rfl rfl
theorem dksX0_drinker_2 : cX0_drinker.data.toList.drop 46 = dktX0_drinker_2 := dk_seg dksX0_drinker_1 22 rfl rfl
theorem dX0_drinker_0 : decode cX0_drinker 0 = .ok (.aload_n 0, 1) := dk_42 (dk_at dksX0_drinker_0 0 rfl rfl)
theorem dX0_drinker_1 : decode cX0_drinker 1 = .ok (.getfield 63, 3) := dk_180 0 63 (dk_at dksX0_drinker_0 1 rfl rfl)
theorem dX0_drinker_4 : decode cX0_drinker 4 = .ok (.getfield 119, 3) := dk_180 0 119 (dk_at dksX0_drinker_0 4 rfl rfl)
theorem dX0_drinker_7 : decode cX0_drinker 7 = .ok (.iload_n 1, 1) := dk_27 (dk_at dksX0_drinker_0 7 rfl rfl)
theorem dX0_drinker_8 : decode cX0_drinker 8 = .ok (.invokevirtual 123, 3) := dk_182 0 123 (dk_at dksX0_drinker_0 8 rfl rfl)
theorem dX0_drinker_11 : decode cX0_drinker 11 = .ok (.ifCond .ne 5, 3) := dk_154 0 5 (dk_at dksX0_drinker_0 11 rfl rfl)
theorem dX0_drinker_14 : decode cX0_drinker 14 = .ok (.iconst (-1), 1) := dk_2 (dk_at dksX0_drinker_0 14 rfl rfl)
theorem dX0_drinker_15 : decode cX0_drinker 15 = .ok (.ireturn, 1) := dk_172 (dk_at dksX0_drinker_0 15 rfl rfl)
theorem dX0_drinker_16 : decode cX0_drinker 16 = .ok (.aload_n 0, 1) := dk_42 (dk_at dksX0_drinker_0 16 rfl rfl)
theorem dX0_drinker_17 : decode cX0_drinker 17 = .ok (.getfield 63, 3) := dk_180 0 63 (dk_at dksX0_drinker_0 17 rfl rfl)
theorem dX0_drinker_20 : decode cX0_drinker 20 = .ok (.aload_n 0, 1) := dk_42 (dk_at dksX0_drinker_0 20 rfl rfl)
theorem dX0_drinker_21 : decode cX0_drinker 21 = .ok (.getfield 63, 3) := dk_180 0 63 (dk_at dksX0_drinker_0 21 rfl rfl)
theorem dX0_drinker_24 : decode cX0_drinker 24 = .ok (.getfield 119, 3) := dk_180 0 119 (dk_at dksX0_drinker_1 0 rfl rfl)
theorem dX0_drinker_27 : decode cX0_drinker 27 = .ok (.iload_n 1, 1) := dk_27 (dk_at dksX0_drinker_1 3 rfl rfl)
theorem dX0_drinker_28 : decode cX0_drinker 28 = .ok (.invokevirtual 157, 3) := dk_182 0 157 (dk_at dksX0_drinker_1 4 rfl rfl)
theorem dX0_drinker_31 : decode cX0_drinker 31 = .ok (.checkcast 176, 3) := dk_192 0 176 (dk_at dksX0_drinker_1 7 rfl rfl)
theorem dX0_drinker_34 : decode cX0_drinker 34 = .ok (.invokevirtual 220, 3) := dk_182 0 220 (dk_at dksX0_drinker_1 10 rfl rfl)
theorem dX0_drinker_37 : decode cX0_drinker 37 = .ok (.astore_n 3, 1) := dk_78 (dk_at dksX0_drinker_1 13 rfl rfl)
theorem dX0_drinker_38 : decode cX0_drinker 38 = .ok (.iload_n 2, 1) := dk_28 (dk_at dksX0_drinker_1 14 rfl rfl)
theorem dX0_drinker_39 : decode cX0_drinker 39 = .ok (.iconst 0, 1) := dk_3 (dk_at dksX0_drinker_1 15 rfl rfl)
theorem dX0_drinker_40 : decode cX0_drinker 40 = .ok (.aload_n 3, 1) := dk_45 (dk_at dksX0_drinker_1 16 rfl rfl)
theorem dX0_drinker_41 : decode cX0_drinker 41 = .ok (.invokevirtual 224, 3) := dk_182 0 224 (dk_at dksX0_drinker_1 17 rfl rfl)
theorem dX0_drinker_44 : decode cX0_drinker 44 = .ok (.iconst 1, 1) := dk_4 (dk_at dksX0_drinker_1 20 rfl rfl)
theorem dX0_drinker_45 : decode cX0_drinker 45 = .ok (.isub, 1) := dk_100 (dk_at dksX0_drinker_1 21 rfl rfl)
theorem dX0_drinker_46 : decode cX0_drinker 46 = .ok (.invokestatic 3, 3) := dk_184 0 3 (dk_at dksX0_drinker_2 0 rfl rfl)
theorem dX0_drinker_49 : decode cX0_drinker 49 = .ok (.ifCond .eq 17, 3) := dk_153 0 17 (dk_at dksX0_drinker_2 3 rfl rfl)
theorem dX0_drinker_52 : decode cX0_drinker 52 = .ok (.aload_n 3, 1) := dk_45 (dk_at dksX0_drinker_2 6 rfl rfl)
theorem dX0_drinker_53 : decode cX0_drinker 53 = .ok (.iload_n 2, 1) := dk_28 (dk_at dksX0_drinker_2 7 rfl rfl)
theorem dX0_drinker_54 : decode cX0_drinker 54 = .ok (.invokevirtual 232, 3) := dk_182 0 232 (dk_at dksX0_drinker_2 8 rfl rfl)
theorem dX0_drinker_57 : decode cX0_drinker 57 = .ok (.checkcast 160, 3) := dk_192 0 160 (dk_at dksX0_drinker_2 11 rfl rfl)
theorem dX0_drinker_60 : decode cX0_drinker 60 = .ok (.getfield 236, 3) := dk_180 0 236 (dk_at dksX0_drinker_2 14 rfl rfl)
theorem dX0_drinker_63 : decode cX0_drinker 63 = .ok (.goto 4, 3) := dk_167 0 4 (dk_at dksX0_drinker_2 17 rfl rfl)
theorem dX0_drinker_66 : decode cX0_drinker 66 = .ok (.iconst (-1), 1) := dk_2 (dk_at dksX0_drinker_2 20 rfl rfl)
theorem dX0_drinker_67 : decode cX0_drinker 67 = .ok (.ireturn, 1) := dk_172 (dk_at dksX0_drinker_2 21 rfl rfl)
abbrev cX0_cost : ByteArray := prog_1_method_27_code
def yX0_cost : MethodName := ⟨RX0, "cost", "(I)I"⟩
def dkwX0_cost_1 : List UInt8 := [172]
abbrev dktX0_cost_1 : List UInt8 := dkwX0_cost_1 ++ []
def dkwX0_cost_0 : List UInt8 := [42, 27, 182, 0, 251, 153, 0, 17, 42, 180, 0, 63, 27, 184, 0, 254, 182, 1, 2, 167, 0, 5, 16, 254]
abbrev dktX0_cost_0 : List UInt8 := dkwX0_cost_0 ++ dktX0_cost_1
theorem dksX0_cost_0 : cX0_cost.data.toList.drop 0 = dktX0_cost_0 := by decide +kernel
theorem dksX0_cost_1 : cX0_cost.data.toList.drop 24 = dktX0_cost_1 := dk_seg dksX0_cost_0 24 rfl rfl
theorem dX0_cost_0 : decode cX0_cost 0 = .ok (.aload_n 0, 1) := dk_42 (dk_at dksX0_cost_0 0 rfl rfl)
theorem dX0_cost_1 : decode cX0_cost 1 = .ok (.iload_n 1, 1) := dk_27 (dk_at dksX0_cost_0 1 rfl rfl)
theorem dX0_cost_2 : decode cX0_cost 2 = .ok (.invokevirtual 251, 3) := dk_182 0 251 (dk_at dksX0_cost_0 2 rfl rfl)
theorem dX0_cost_5 : decode cX0_cost 5 = .ok (.ifCond .eq 17, 3) := dk_153 0 17 (dk_at dksX0_cost_0 5 rfl rfl)
theorem dX0_cost_8 : decode cX0_cost 8 = .ok (.aload_n 0, 1) := dk_42 (dk_at dksX0_cost_0 8 rfl rfl)
theorem dX0_cost_9 : decode cX0_cost 9 = .ok (.getfield 63, 3) := dk_180 0 63 (dk_at dksX0_cost_0 9 rfl rfl)
theorem dX0_cost_12 : decode cX0_cost 12 = .ok (.iload_n 1, 1) := dk_27 (dk_at dksX0_cost_0 12 rfl rfl)
theorem dX0_cost_13 : decode cX0_cost 13 = .ok (.invokestatic 254, 3) := dk_184 0 254 (dk_at dksX0_cost_0 13 rfl rfl)
theorem dX0_cost_16 : decode cX0_cost 16 = .ok (.invokevirtual 258, 3) := dk_182 1 2 (dk_at dksX0_cost_0 16 rfl rfl)
theorem dX0_cost_19 : decode cX0_cost 19 = .ok (.goto 5, 3) := dk_167 0 5 (dk_at dksX0_cost_0 19 rfl rfl)
theorem dX0_cost_22 : decode cX0_cost 22 = .ok (.bipush (-2), 2) := dk_16 254 (dk_at dksX0_cost_0 22 rfl rfl)
theorem dX0_cost_24 : decode cX0_cost 24 = .ok (.ireturn, 1) := dk_172 (dk_at dksX0_cost_1 0 rfl rfl)
abbrev cX0_isPlan : ByteArray := prog_1_method_24_code
def yX0_isPlan : MethodName := ⟨RX0, "isPlan", "(I)Z"⟩
def dkwX0_isPlan_0 : List UInt8 := [27, 3, 4, 42, 180, 0, 63, 180, 0, 119, 182, 0, 237, 120, 4, 100, 184, 0, 3, 172]
abbrev dktX0_isPlan_0 : List UInt8 := dkwX0_isPlan_0 ++ []
theorem dksX0_isPlan_0 : cX0_isPlan.data.toList.drop 0 = dktX0_isPlan_0 := by decide +kernel
theorem dX0_isPlan_0 : decode cX0_isPlan 0 = .ok (.iload_n 1, 1) := dk_27 (dk_at dksX0_isPlan_0 0 rfl rfl)
theorem dX0_isPlan_1 : decode cX0_isPlan 1 = .ok (.iconst 0, 1) := dk_3 (dk_at dksX0_isPlan_0 1 rfl rfl)
theorem dX0_isPlan_2 : decode cX0_isPlan 2 = .ok (.iconst 1, 1) := dk_4 (dk_at dksX0_isPlan_0 2 rfl rfl)
theorem dX0_isPlan_3 : decode cX0_isPlan 3 = .ok (.aload_n 0, 1) := dk_42 (dk_at dksX0_isPlan_0 3 rfl rfl)
theorem dX0_isPlan_4 : decode cX0_isPlan 4 = .ok (.getfield 63, 3) := dk_180 0 63 (dk_at dksX0_isPlan_0 4 rfl rfl)
theorem dX0_isPlan_7 : decode cX0_isPlan 7 = .ok (.getfield 119, 3) := dk_180 0 119 (dk_at dksX0_isPlan_0 7 rfl rfl)
theorem dX0_isPlan_10 : decode cX0_isPlan 10 = .ok (.invokevirtual 237, 3) := dk_182 0 237 (dk_at dksX0_isPlan_0 10 rfl rfl)
theorem dX0_isPlan_13 : decode cX0_isPlan 13 = .ok (.ishl, 1) := dk_120 (dk_at dksX0_isPlan_0 13 rfl rfl)
theorem dX0_isPlan_14 : decode cX0_isPlan 14 = .ok (.iconst 1, 1) := dk_4 (dk_at dksX0_isPlan_0 14 rfl rfl)
theorem dX0_isPlan_15 : decode cX0_isPlan 15 = .ok (.isub, 1) := dk_100 (dk_at dksX0_isPlan_0 15 rfl rfl)
theorem dX0_isPlan_16 : decode cX0_isPlan 16 = .ok (.invokestatic 3, 3) := dk_184 0 3 (dk_at dksX0_isPlan_0 16 rfl rfl)
theorem dX0_isPlan_19 : decode cX0_isPlan 19 = .ok (.ireturn, 1) := dk_172 (dk_at dksX0_isPlan_0 19 rfl rfl)
abbrev cX0_plan : ByteArray := prog_1_method_25_code
def yX0_plan : MethodName := ⟨RX0, "plan", "(I)Ljava/util/BitSet;"⟩
def dkwX0_plan_1 : List UInt8 := [160, 0, 7, 4, 167, 0, 4, 3, 182, 0, 243, 132, 2, 1, 167, 255, 228, 43, 176]
abbrev dktX0_plan_1 : List UInt8 := dkwX0_plan_1 ++ []
def dkwX0_plan_0 : List UInt8 := [187, 0, 240, 89, 183, 0, 242, 76, 3, 61, 28, 16, 6, 162, 0, 28, 43, 28, 26, 28, 122, 4, 126, 4]
abbrev dktX0_plan_0 : List UInt8 := dkwX0_plan_0 ++ dktX0_plan_1
theorem dksX0_plan_0 : cX0_plan.data.toList.drop 0 = dktX0_plan_0 := by decide +kernel
theorem dksX0_plan_1 : cX0_plan.data.toList.drop 24 = dktX0_plan_1 := dk_seg dksX0_plan_0 24 rfl rfl
theorem dX0_plan_0 : decode cX0_plan 0 = .ok (.new 240, 3) := dk_187 0 240 (dk_at dksX0_plan_0 0 rfl rfl)
theorem dX0_plan_3 : decode cX0_plan 3 = .ok (.dup, 1) := dk_89 (dk_at dksX0_plan_0 3 rfl rfl)
theorem dX0_plan_4 : decode cX0_plan 4 = .ok (.invokespecial 242, 3) := dk_183 0 242 (dk_at dksX0_plan_0 4 rfl rfl)
theorem dX0_plan_7 : decode cX0_plan 7 = .ok (.astore_n 1, 1) := dk_76 (dk_at dksX0_plan_0 7 rfl rfl)
theorem dX0_plan_8 : decode cX0_plan 8 = .ok (.iconst 0, 1) := dk_3 (dk_at dksX0_plan_0 8 rfl rfl)
theorem dX0_plan_9 : decode cX0_plan 9 = .ok (.istore_n 2, 1) := dk_61 (dk_at dksX0_plan_0 9 rfl rfl)
theorem dX0_plan_10 : decode cX0_plan 10 = .ok (.iload_n 2, 1) := dk_28 (dk_at dksX0_plan_0 10 rfl rfl)
theorem dX0_plan_11 : decode cX0_plan 11 = .ok (.bipush 6, 2) := dk_16 6 (dk_at dksX0_plan_0 11 rfl rfl)
theorem dX0_plan_13 : decode cX0_plan 13 = .ok (.if_icmp .ge 28, 3) := dk_162 0 28 (dk_at dksX0_plan_0 13 rfl rfl)
theorem dX0_plan_16 : decode cX0_plan 16 = .ok (.aload_n 1, 1) := dk_43 (dk_at dksX0_plan_0 16 rfl rfl)
theorem dX0_plan_17 : decode cX0_plan 17 = .ok (.iload_n 2, 1) := dk_28 (dk_at dksX0_plan_0 17 rfl rfl)
theorem dX0_plan_18 : decode cX0_plan 18 = .ok (.iload_n 0, 1) := dk_26 (dk_at dksX0_plan_0 18 rfl rfl)
theorem dX0_plan_19 : decode cX0_plan 19 = .ok (.iload_n 2, 1) := dk_28 (dk_at dksX0_plan_0 19 rfl rfl)
theorem dX0_plan_20 : decode cX0_plan 20 = .ok (.ishr, 1) := dk_122 (dk_at dksX0_plan_0 20 rfl rfl)
theorem dX0_plan_21 : decode cX0_plan 21 = .ok (.iconst 1, 1) := dk_4 (dk_at dksX0_plan_0 21 rfl rfl)
theorem dX0_plan_22 : decode cX0_plan 22 = .ok (.iand, 1) := dk_126 (dk_at dksX0_plan_0 22 rfl rfl)
theorem dX0_plan_23 : decode cX0_plan 23 = .ok (.iconst 1, 1) := dk_4 (dk_at dksX0_plan_0 23 rfl rfl)
theorem dX0_plan_24 : decode cX0_plan 24 = .ok (.if_icmp .ne 7, 3) := dk_160 0 7 (dk_at dksX0_plan_1 0 rfl rfl)
theorem dX0_plan_27 : decode cX0_plan 27 = .ok (.iconst 1, 1) := dk_4 (dk_at dksX0_plan_1 3 rfl rfl)
theorem dX0_plan_28 : decode cX0_plan 28 = .ok (.goto 4, 3) := dk_167 0 4 (dk_at dksX0_plan_1 4 rfl rfl)
theorem dX0_plan_31 : decode cX0_plan 31 = .ok (.iconst 0, 1) := dk_3 (dk_at dksX0_plan_1 7 rfl rfl)
theorem dX0_plan_32 : decode cX0_plan 32 = .ok (.invokevirtual 243, 3) := dk_182 0 243 (dk_at dksX0_plan_1 8 rfl rfl)
theorem dX0_plan_35 : decode cX0_plan 35 = .ok (.iinc 2 1, 3) := dk_132 2 1 (dk_at dksX0_plan_1 11 rfl rfl)
theorem dX0_plan_38 : decode cX0_plan 38 = .ok (.goto (-28), 3) := dk_167 255 228 (dk_at dksX0_plan_1 14 rfl rfl)
theorem dX0_plan_41 : decode cX0_plan 41 = .ok (.aload_n 1, 1) := dk_43 (dk_at dksX0_plan_1 17 rfl rfl)
theorem dX0_plan_42 : decode cX0_plan 42 = .ok (.areturn, 1) := dk_176 (dk_at dksX0_plan_1 18 rfl rfl)
abbrev cX0_cheapest : ByteArray := prog_1_method_29_code
def yX0_cheapest : MethodName := ⟨RX0, "cheapest", "()I"⟩
def dkwX0_cheapest_2 : List UInt8 := [21, 4, 61, 132, 3, 1, 167, 255, 210, 27, 172]
abbrev dktX0_cheapest_2 : List UInt8 := dkwX0_cheapest_2 ++ []
def dkwX0_cheapest_1 : List UInt8 := [42, 180, 0, 63, 29, 184, 0, 254, 182, 1, 2, 54, 4, 21, 4, 28, 184, 1, 5, 153, 0, 8, 29, 60]
abbrev dktX0_cheapest_1 : List UInt8 := dkwX0_cheapest_1 ++ dktX0_cheapest_2
def dkwX0_cheapest_0 : List UInt8 := [16, 250, 60, 16, 250, 61, 3, 62, 29, 4, 42, 180, 0, 63, 180, 0, 119, 182, 0, 237, 120, 162, 0, 36]
abbrev dktX0_cheapest_0 : List UInt8 := dkwX0_cheapest_0 ++ dktX0_cheapest_1
theorem dksX0_cheapest_0 : cX0_cheapest.data.toList.drop 0 = dktX0_cheapest_0 := by decide +kernel
theorem dksX0_cheapest_1 : cX0_cheapest.data.toList.drop 24 = dktX0_cheapest_1 := dk_seg dksX0_cheapest_0 24 rfl rfl
theorem dksX0_cheapest_2 : cX0_cheapest.data.toList.drop 48 = dktX0_cheapest_2 := dk_seg dksX0_cheapest_1 24 rfl rfl
theorem dX0_cheapest_0 : decode cX0_cheapest 0 = .ok (.bipush (-6), 2) := dk_16 250 (dk_at dksX0_cheapest_0 0 rfl rfl)
theorem dX0_cheapest_2 : decode cX0_cheapest 2 = .ok (.istore_n 1, 1) := dk_60 (dk_at dksX0_cheapest_0 2 rfl rfl)
theorem dX0_cheapest_3 : decode cX0_cheapest 3 = .ok (.bipush (-6), 2) := dk_16 250 (dk_at dksX0_cheapest_0 3 rfl rfl)
theorem dX0_cheapest_5 : decode cX0_cheapest 5 = .ok (.istore_n 2, 1) := dk_61 (dk_at dksX0_cheapest_0 5 rfl rfl)
theorem dX0_cheapest_6 : decode cX0_cheapest 6 = .ok (.iconst 0, 1) := dk_3 (dk_at dksX0_cheapest_0 6 rfl rfl)
theorem dX0_cheapest_7 : decode cX0_cheapest 7 = .ok (.istore_n 3, 1) := dk_62 (dk_at dksX0_cheapest_0 7 rfl rfl)
theorem dX0_cheapest_8 : decode cX0_cheapest 8 = .ok (.iload_n 3, 1) := dk_29 (dk_at dksX0_cheapest_0 8 rfl rfl)
theorem dX0_cheapest_9 : decode cX0_cheapest 9 = .ok (.iconst 1, 1) := dk_4 (dk_at dksX0_cheapest_0 9 rfl rfl)
theorem dX0_cheapest_10 : decode cX0_cheapest 10 = .ok (.aload_n 0, 1) := dk_42 (dk_at dksX0_cheapest_0 10 rfl rfl)
theorem dX0_cheapest_11 : decode cX0_cheapest 11 = .ok (.getfield 63, 3) := dk_180 0 63 (dk_at dksX0_cheapest_0 11 rfl rfl)
theorem dX0_cheapest_14 : decode cX0_cheapest 14 = .ok (.getfield 119, 3) := dk_180 0 119 (dk_at dksX0_cheapest_0 14 rfl rfl)
theorem dX0_cheapest_17 : decode cX0_cheapest 17 = .ok (.invokevirtual 237, 3) := dk_182 0 237 (dk_at dksX0_cheapest_0 17 rfl rfl)
theorem dX0_cheapest_20 : decode cX0_cheapest 20 = .ok (.ishl, 1) := dk_120 (dk_at dksX0_cheapest_0 20 rfl rfl)
theorem dX0_cheapest_21 : decode cX0_cheapest 21 = .ok (.if_icmp .ge 36, 3) := dk_162 0 36 (dk_at dksX0_cheapest_0 21 rfl rfl)
theorem dX0_cheapest_24 : decode cX0_cheapest 24 = .ok (.aload_n 0, 1) := dk_42 (dk_at dksX0_cheapest_1 0 rfl rfl)
theorem dX0_cheapest_25 : decode cX0_cheapest 25 = .ok (.getfield 63, 3) := dk_180 0 63 (dk_at dksX0_cheapest_1 1 rfl rfl)
theorem dX0_cheapest_28 : decode cX0_cheapest 28 = .ok (.iload_n 3, 1) := dk_29 (dk_at dksX0_cheapest_1 4 rfl rfl)
theorem dX0_cheapest_29 : decode cX0_cheapest 29 = .ok (.invokestatic 254, 3) := dk_184 0 254 (dk_at dksX0_cheapest_1 5 rfl rfl)
theorem dX0_cheapest_32 : decode cX0_cheapest 32 = .ok (.invokevirtual 258, 3) := dk_182 1 2 (dk_at dksX0_cheapest_1 8 rfl rfl)
theorem dX0_cheapest_35 : decode cX0_cheapest 35 = .ok (.istore 4, 2) := dk_54 4 (dk_at dksX0_cheapest_1 11 rfl rfl)
theorem dX0_cheapest_37 : decode cX0_cheapest 37 = .ok (.iload 4, 2) := dk_21 4 (dk_at dksX0_cheapest_1 13 rfl rfl)
theorem dX0_cheapest_39 : decode cX0_cheapest 39 = .ok (.iload_n 2, 1) := dk_28 (dk_at dksX0_cheapest_1 15 rfl rfl)
theorem dX0_cheapest_40 : decode cX0_cheapest 40 = .ok (.invokestatic 261, 3) := dk_184 1 5 (dk_at dksX0_cheapest_1 16 rfl rfl)
theorem dX0_cheapest_43 : decode cX0_cheapest 43 = .ok (.ifCond .eq 8, 3) := dk_153 0 8 (dk_at dksX0_cheapest_1 19 rfl rfl)
theorem dX0_cheapest_46 : decode cX0_cheapest 46 = .ok (.iload_n 3, 1) := dk_29 (dk_at dksX0_cheapest_1 22 rfl rfl)
theorem dX0_cheapest_47 : decode cX0_cheapest 47 = .ok (.istore_n 1, 1) := dk_60 (dk_at dksX0_cheapest_1 23 rfl rfl)
theorem dX0_cheapest_48 : decode cX0_cheapest 48 = .ok (.iload 4, 2) := dk_21 4 (dk_at dksX0_cheapest_2 0 rfl rfl)
theorem dX0_cheapest_50 : decode cX0_cheapest 50 = .ok (.istore_n 2, 1) := dk_61 (dk_at dksX0_cheapest_2 2 rfl rfl)
theorem dX0_cheapest_51 : decode cX0_cheapest 51 = .ok (.iinc 3 1, 3) := dk_132 3 1 (dk_at dksX0_cheapest_2 3 rfl rfl)
theorem dX0_cheapest_54 : decode cX0_cheapest 54 = .ok (.goto (-46), 3) := dk_167 255 210 (dk_at dksX0_cheapest_2 6 rfl rfl)
theorem dX0_cheapest_57 : decode cX0_cheapest 57 = .ok (.iload_n 1, 1) := dk_27 (dk_at dksX0_cheapest_2 9 rfl rfl)
theorem dX0_cheapest_58 : decode cX0_cheapest 58 = .ok (.ireturn, 1) := dk_172 (dk_at dksX0_cheapest_2 10 rfl rfl)
abbrev cX0_isLess : ByteArray := prog_1_method_28_code
def yX0_isLess : MethodName := ⟨RX0, "isLess", "(II)Z"⟩
def dkwX0_isLess_0 : List UInt8 := [26, 155, 0, 16, 27, 155, 0, 8, 26, 27, 162, 0, 7, 4, 167, 0, 4, 3, 172]
abbrev dktX0_isLess_0 : List UInt8 := dkwX0_isLess_0 ++ []
theorem dksX0_isLess_0 : cX0_isLess.data.toList.drop 0 = dktX0_isLess_0 := by decide +kernel
theorem dX0_isLess_0 : decode cX0_isLess 0 = .ok (.iload_n 0, 1) := dk_26 (dk_at dksX0_isLess_0 0 rfl rfl)
theorem dX0_isLess_1 : decode cX0_isLess 1 = .ok (.ifCond .lt 16, 3) := dk_155 0 16 (dk_at dksX0_isLess_0 1 rfl rfl)
theorem dX0_isLess_4 : decode cX0_isLess 4 = .ok (.iload_n 1, 1) := dk_27 (dk_at dksX0_isLess_0 4 rfl rfl)
theorem dX0_isLess_5 : decode cX0_isLess 5 = .ok (.ifCond .lt 8, 3) := dk_155 0 8 (dk_at dksX0_isLess_0 5 rfl rfl)
theorem dX0_isLess_8 : decode cX0_isLess 8 = .ok (.iload_n 0, 1) := dk_26 (dk_at dksX0_isLess_0 8 rfl rfl)
theorem dX0_isLess_9 : decode cX0_isLess 9 = .ok (.iload_n 1, 1) := dk_27 (dk_at dksX0_isLess_0 9 rfl rfl)
theorem dX0_isLess_10 : decode cX0_isLess 10 = .ok (.if_icmp .ge 7, 3) := dk_162 0 7 (dk_at dksX0_isLess_0 10 rfl rfl)
theorem dX0_isLess_13 : decode cX0_isLess 13 = .ok (.iconst 1, 1) := dk_4 (dk_at dksX0_isLess_0 13 rfl rfl)
theorem dX0_isLess_14 : decode cX0_isLess 14 = .ok (.goto 4, 3) := dk_167 0 4 (dk_at dksX0_isLess_0 14 rfl rfl)
theorem dX0_isLess_17 : decode cX0_isLess 17 = .ok (.iconst 0, 1) := dk_3 (dk_at dksX0_isLess_0 17 rfl rfl)
theorem dX0_isLess_18 : decode cX0_isLess 18 = .ok (.ireturn, 1) := dk_172 (dk_at dksX0_isLess_0 18 rfl rfl)
abbrev cX0_cheapestAgain : ByteArray := prog_1_method_31_code
def yX0_cheapestAgain : MethodName := ⟨RX0, "cheapestAgain", "()I"⟩
def dkwX0_cheapestAgain_0 : List UInt8 := [42, 187, 0, 240, 89, 183, 0, 242, 3, 3, 16, 250, 182, 1, 8, 172]
abbrev dktX0_cheapestAgain_0 : List UInt8 := dkwX0_cheapestAgain_0 ++ []
theorem dksX0_cheapestAgain_0 : cX0_cheapestAgain.data.toList.drop 0 = dktX0_cheapestAgain_0 := by decide +kernel
theorem dX0_cheapestAgain_0 : decode cX0_cheapestAgain 0 = .ok (.aload_n 0, 1) := dk_42 (dk_at dksX0_cheapestAgain_0 0 rfl rfl)
theorem dX0_cheapestAgain_1 : decode cX0_cheapestAgain 1 = .ok (.new 240, 3) := dk_187 0 240 (dk_at dksX0_cheapestAgain_0 1 rfl rfl)
theorem dX0_cheapestAgain_4 : decode cX0_cheapestAgain 4 = .ok (.dup, 1) := dk_89 (dk_at dksX0_cheapestAgain_0 4 rfl rfl)
theorem dX0_cheapestAgain_5 : decode cX0_cheapestAgain 5 = .ok (.invokespecial 242, 3) := dk_183 0 242 (dk_at dksX0_cheapestAgain_0 5 rfl rfl)
theorem dX0_cheapestAgain_8 : decode cX0_cheapestAgain 8 = .ok (.iconst 0, 1) := dk_3 (dk_at dksX0_cheapestAgain_0 8 rfl rfl)
theorem dX0_cheapestAgain_9 : decode cX0_cheapestAgain 9 = .ok (.iconst 0, 1) := dk_3 (dk_at dksX0_cheapestAgain_0 9 rfl rfl)
theorem dX0_cheapestAgain_10 : decode cX0_cheapestAgain 10 = .ok (.bipush (-6), 2) := dk_16 250 (dk_at dksX0_cheapestAgain_0 10 rfl rfl)
theorem dX0_cheapestAgain_12 : decode cX0_cheapestAgain 12 = .ok (.invokevirtual 264, 3) := dk_182 1 8 (dk_at dksX0_cheapestAgain_0 12 rfl rfl)
theorem dX0_cheapestAgain_15 : decode cX0_cheapestAgain 15 = .ok (.ireturn, 1) := dk_172 (dk_at dksX0_cheapestAgain_0 15 rfl rfl)
abbrev cX0_leastBehind : ByteArray := prog_1_method_30_code
def yX0_leastBehind : MethodName := ⟨RX0, "leastBehind", "(Ljava/util/BitSet;III)I"⟩
def dkwX0_leastBehind_4 : List UInt8 := [192, 0, 176, 182, 1, 15, 96, 21, 5, 182, 1, 8, 54, 6, 43, 28, 182, 1, 18, 21, 6, 172]
abbrev dktX0_leastBehind_4 : List UInt8 := dkwX0_leastBehind_4 ++ []
def dkwX0_leastBehind_3 : List UInt8 := [43, 28, 182, 1, 12, 42, 43, 28, 4, 96, 29, 42, 180, 0, 63, 180, 0, 119, 28, 182, 0, 157]
abbrev dktX0_leastBehind_3 : List UInt8 := dkwX0_leastBehind_3 ++ dktX0_leastBehind_4
def dkwX0_leastBehind_2 : List UInt8 := [153, 0, 8, 21, 5, 167, 0, 5, 21, 4, 172, 42, 43, 28, 4, 96, 29, 21, 4, 182, 1, 8, 54, 5]
abbrev dktX0_leastBehind_2 : List UInt8 := dkwX0_leastBehind_2 ++ dktX0_leastBehind_3
def dkwX0_leastBehind_1 : List UInt8 := [182, 0, 237, 160, 0, 31, 42, 180, 0, 63, 43, 182, 1, 2, 54, 5, 21, 5, 21, 4, 184, 1, 5]
abbrev dktX0_leastBehind_1 : List UInt8 := dkwX0_leastBehind_1 ++ dktX0_leastBehind_2
def dkwX0_leastBehind_0 : List UInt8 := [21, 4, 155, 0, 12, 29, 21, 4, 161, 0, 6, 21, 4, 172, 28, 42, 180, 0, 63, 180, 0, 119]
abbrev dktX0_leastBehind_0 : List UInt8 := dkwX0_leastBehind_0 ++ dktX0_leastBehind_1
theorem dksX0_leastBehind_0 : cX0_leastBehind.data.toList.drop 0 = dktX0_leastBehind_0 := by decide +kernel
theorem dksX0_leastBehind_1 : cX0_leastBehind.data.toList.drop 22 = dktX0_leastBehind_1 := dk_seg dksX0_leastBehind_0 22 rfl rfl
theorem dksX0_leastBehind_2 : cX0_leastBehind.data.toList.drop 45 = dktX0_leastBehind_2 := dk_seg dksX0_leastBehind_1 23 rfl rfl
theorem dksX0_leastBehind_3 : cX0_leastBehind.data.toList.drop 69 = dktX0_leastBehind_3 := dk_seg dksX0_leastBehind_2 24 rfl rfl
theorem dksX0_leastBehind_4 : cX0_leastBehind.data.toList.drop 91 = dktX0_leastBehind_4 := dk_seg dksX0_leastBehind_3 22 rfl rfl
theorem dX0_leastBehind_0 : decode cX0_leastBehind 0 = .ok (.iload 4, 2) := dk_21 4 (dk_at dksX0_leastBehind_0 0 rfl rfl)
theorem dX0_leastBehind_2 : decode cX0_leastBehind 2 = .ok (.ifCond .lt 12, 3) := dk_155 0 12 (dk_at dksX0_leastBehind_0 2 rfl rfl)
theorem dX0_leastBehind_5 : decode cX0_leastBehind 5 = .ok (.iload_n 3, 1) := dk_29 (dk_at dksX0_leastBehind_0 5 rfl rfl)
theorem dX0_leastBehind_6 : decode cX0_leastBehind 6 = .ok (.iload 4, 2) := dk_21 4 (dk_at dksX0_leastBehind_0 6 rfl rfl)
theorem dX0_leastBehind_8 : decode cX0_leastBehind 8 = .ok (.if_icmp .lt 6, 3) := dk_161 0 6 (dk_at dksX0_leastBehind_0 8 rfl rfl)
theorem dX0_leastBehind_11 : decode cX0_leastBehind 11 = .ok (.iload 4, 2) := dk_21 4 (dk_at dksX0_leastBehind_0 11 rfl rfl)
theorem dX0_leastBehind_13 : decode cX0_leastBehind 13 = .ok (.ireturn, 1) := dk_172 (dk_at dksX0_leastBehind_0 13 rfl rfl)
theorem dX0_leastBehind_14 : decode cX0_leastBehind 14 = .ok (.iload_n 2, 1) := dk_28 (dk_at dksX0_leastBehind_0 14 rfl rfl)
theorem dX0_leastBehind_15 : decode cX0_leastBehind 15 = .ok (.aload_n 0, 1) := dk_42 (dk_at dksX0_leastBehind_0 15 rfl rfl)
theorem dX0_leastBehind_16 : decode cX0_leastBehind 16 = .ok (.getfield 63, 3) := dk_180 0 63 (dk_at dksX0_leastBehind_0 16 rfl rfl)
theorem dX0_leastBehind_19 : decode cX0_leastBehind 19 = .ok (.getfield 119, 3) := dk_180 0 119 (dk_at dksX0_leastBehind_0 19 rfl rfl)
theorem dX0_leastBehind_22 : decode cX0_leastBehind 22 = .ok (.invokevirtual 237, 3) := dk_182 0 237 (dk_at dksX0_leastBehind_1 0 rfl rfl)
theorem dX0_leastBehind_25 : decode cX0_leastBehind 25 = .ok (.if_icmp .ne 31, 3) := dk_160 0 31 (dk_at dksX0_leastBehind_1 3 rfl rfl)
theorem dX0_leastBehind_28 : decode cX0_leastBehind 28 = .ok (.aload_n 0, 1) := dk_42 (dk_at dksX0_leastBehind_1 6 rfl rfl)
theorem dX0_leastBehind_29 : decode cX0_leastBehind 29 = .ok (.getfield 63, 3) := dk_180 0 63 (dk_at dksX0_leastBehind_1 7 rfl rfl)
theorem dX0_leastBehind_32 : decode cX0_leastBehind 32 = .ok (.aload_n 1, 1) := dk_43 (dk_at dksX0_leastBehind_1 10 rfl rfl)
theorem dX0_leastBehind_33 : decode cX0_leastBehind 33 = .ok (.invokevirtual 258, 3) := dk_182 1 2 (dk_at dksX0_leastBehind_1 11 rfl rfl)
theorem dX0_leastBehind_36 : decode cX0_leastBehind 36 = .ok (.istore 5, 2) := dk_54 5 (dk_at dksX0_leastBehind_1 14 rfl rfl)
theorem dX0_leastBehind_38 : decode cX0_leastBehind 38 = .ok (.iload 5, 2) := dk_21 5 (dk_at dksX0_leastBehind_1 16 rfl rfl)
theorem dX0_leastBehind_40 : decode cX0_leastBehind 40 = .ok (.iload 4, 2) := dk_21 4 (dk_at dksX0_leastBehind_1 18 rfl rfl)
theorem dX0_leastBehind_42 : decode cX0_leastBehind 42 = .ok (.invokestatic 261, 3) := dk_184 1 5 (dk_at dksX0_leastBehind_1 20 rfl rfl)
theorem dX0_leastBehind_45 : decode cX0_leastBehind 45 = .ok (.ifCond .eq 8, 3) := dk_153 0 8 (dk_at dksX0_leastBehind_2 0 rfl rfl)
theorem dX0_leastBehind_48 : decode cX0_leastBehind 48 = .ok (.iload 5, 2) := dk_21 5 (dk_at dksX0_leastBehind_2 3 rfl rfl)
theorem dX0_leastBehind_50 : decode cX0_leastBehind 50 = .ok (.goto 5, 3) := dk_167 0 5 (dk_at dksX0_leastBehind_2 5 rfl rfl)
theorem dX0_leastBehind_53 : decode cX0_leastBehind 53 = .ok (.iload 4, 2) := dk_21 4 (dk_at dksX0_leastBehind_2 8 rfl rfl)
theorem dX0_leastBehind_55 : decode cX0_leastBehind 55 = .ok (.ireturn, 1) := dk_172 (dk_at dksX0_leastBehind_2 10 rfl rfl)
theorem dX0_leastBehind_56 : decode cX0_leastBehind 56 = .ok (.aload_n 0, 1) := dk_42 (dk_at dksX0_leastBehind_2 11 rfl rfl)
theorem dX0_leastBehind_57 : decode cX0_leastBehind 57 = .ok (.aload_n 1, 1) := dk_43 (dk_at dksX0_leastBehind_2 12 rfl rfl)
theorem dX0_leastBehind_58 : decode cX0_leastBehind 58 = .ok (.iload_n 2, 1) := dk_28 (dk_at dksX0_leastBehind_2 13 rfl rfl)
theorem dX0_leastBehind_59 : decode cX0_leastBehind 59 = .ok (.iconst 1, 1) := dk_4 (dk_at dksX0_leastBehind_2 14 rfl rfl)
theorem dX0_leastBehind_60 : decode cX0_leastBehind 60 = .ok (.iadd, 1) := dk_96 (dk_at dksX0_leastBehind_2 15 rfl rfl)
theorem dX0_leastBehind_61 : decode cX0_leastBehind 61 = .ok (.iload_n 3, 1) := dk_29 (dk_at dksX0_leastBehind_2 16 rfl rfl)
theorem dX0_leastBehind_62 : decode cX0_leastBehind 62 = .ok (.iload 4, 2) := dk_21 4 (dk_at dksX0_leastBehind_2 17 rfl rfl)
theorem dX0_leastBehind_64 : decode cX0_leastBehind 64 = .ok (.invokevirtual 264, 3) := dk_182 1 8 (dk_at dksX0_leastBehind_2 19 rfl rfl)
theorem dX0_leastBehind_67 : decode cX0_leastBehind 67 = .ok (.istore 5, 2) := dk_54 5 (dk_at dksX0_leastBehind_2 22 rfl rfl)
theorem dX0_leastBehind_69 : decode cX0_leastBehind 69 = .ok (.aload_n 1, 1) := dk_43 (dk_at dksX0_leastBehind_3 0 rfl rfl)
theorem dX0_leastBehind_70 : decode cX0_leastBehind 70 = .ok (.iload_n 2, 1) := dk_28 (dk_at dksX0_leastBehind_3 1 rfl rfl)
theorem dX0_leastBehind_71 : decode cX0_leastBehind 71 = .ok (.invokevirtual 268, 3) := dk_182 1 12 (dk_at dksX0_leastBehind_3 2 rfl rfl)
theorem dX0_leastBehind_74 : decode cX0_leastBehind 74 = .ok (.aload_n 0, 1) := dk_42 (dk_at dksX0_leastBehind_3 5 rfl rfl)
theorem dX0_leastBehind_75 : decode cX0_leastBehind 75 = .ok (.aload_n 1, 1) := dk_43 (dk_at dksX0_leastBehind_3 6 rfl rfl)
theorem dX0_leastBehind_76 : decode cX0_leastBehind 76 = .ok (.iload_n 2, 1) := dk_28 (dk_at dksX0_leastBehind_3 7 rfl rfl)
theorem dX0_leastBehind_77 : decode cX0_leastBehind 77 = .ok (.iconst 1, 1) := dk_4 (dk_at dksX0_leastBehind_3 8 rfl rfl)
theorem dX0_leastBehind_78 : decode cX0_leastBehind 78 = .ok (.iadd, 1) := dk_96 (dk_at dksX0_leastBehind_3 9 rfl rfl)
theorem dX0_leastBehind_79 : decode cX0_leastBehind 79 = .ok (.iload_n 3, 1) := dk_29 (dk_at dksX0_leastBehind_3 10 rfl rfl)
theorem dX0_leastBehind_80 : decode cX0_leastBehind 80 = .ok (.aload_n 0, 1) := dk_42 (dk_at dksX0_leastBehind_3 11 rfl rfl)
theorem dX0_leastBehind_81 : decode cX0_leastBehind 81 = .ok (.getfield 63, 3) := dk_180 0 63 (dk_at dksX0_leastBehind_3 12 rfl rfl)
theorem dX0_leastBehind_84 : decode cX0_leastBehind 84 = .ok (.getfield 119, 3) := dk_180 0 119 (dk_at dksX0_leastBehind_3 15 rfl rfl)
theorem dX0_leastBehind_87 : decode cX0_leastBehind 87 = .ok (.iload_n 2, 1) := dk_28 (dk_at dksX0_leastBehind_3 18 rfl rfl)
theorem dX0_leastBehind_88 : decode cX0_leastBehind 88 = .ok (.invokevirtual 157, 3) := dk_182 0 157 (dk_at dksX0_leastBehind_3 19 rfl rfl)
theorem dX0_leastBehind_91 : decode cX0_leastBehind 91 = .ok (.checkcast 176, 3) := dk_192 0 176 (dk_at dksX0_leastBehind_4 0 rfl rfl)
theorem dX0_leastBehind_94 : decode cX0_leastBehind 94 = .ok (.invokevirtual 271, 3) := dk_182 1 15 (dk_at dksX0_leastBehind_4 3 rfl rfl)
theorem dX0_leastBehind_97 : decode cX0_leastBehind 97 = .ok (.iadd, 1) := dk_96 (dk_at dksX0_leastBehind_4 6 rfl rfl)
theorem dX0_leastBehind_98 : decode cX0_leastBehind 98 = .ok (.iload 5, 2) := dk_21 5 (dk_at dksX0_leastBehind_4 7 rfl rfl)
theorem dX0_leastBehind_100 : decode cX0_leastBehind 100 = .ok (.invokevirtual 264, 3) := dk_182 1 8 (dk_at dksX0_leastBehind_4 9 rfl rfl)
theorem dX0_leastBehind_103 : decode cX0_leastBehind 103 = .ok (.istore 6, 2) := dk_54 6 (dk_at dksX0_leastBehind_4 12 rfl rfl)
theorem dX0_leastBehind_105 : decode cX0_leastBehind 105 = .ok (.aload_n 1, 1) := dk_43 (dk_at dksX0_leastBehind_4 14 rfl rfl)
theorem dX0_leastBehind_106 : decode cX0_leastBehind 106 = .ok (.iload_n 2, 1) := dk_28 (dk_at dksX0_leastBehind_4 15 rfl rfl)
theorem dX0_leastBehind_107 : decode cX0_leastBehind 107 = .ok (.invokevirtual 274, 3) := dk_182 1 18 (dk_at dksX0_leastBehind_4 16 rfl rfl)
theorem dX0_leastBehind_110 : decode cX0_leastBehind 110 = .ok (.iload 6, 2) := dk_21 6 (dk_at dksX0_leastBehind_4 19 rfl rfl)
theorem dX0_leastBehind_112 : decode cX0_leastBehind 112 = .ok (.ireturn, 1) := dk_172 (dk_at dksX0_leastBehind_4 21 rfl rfl)
abbrev cX0_greedy : ByteArray := prog_1_method_33_code
def yX0_greedy : MethodName := ⟨RX0, "greedy", "()I"⟩
def dkwX0_greedy_5 : List UInt8 := [182, 1, 12, 21, 5, 61, 167, 255, 151, 28, 156, 0, 8, 16, 250, 167, 0, 7, 43, 184, 1, 30, 172]
abbrev dktX0_greedy_5 : List UInt8 := dkwX0_greedy_5 ++ []
def dkwX0_greedy_4 : List UInt8 := [21, 5, 28, 184, 1, 5, 153, 0, 7, 4, 167, 0, 4, 3, 62, 29, 153, 0, 12, 43, 21, 4]
abbrev dktX0_greedy_4 : List UInt8 := dkwX0_greedy_4 ++ dktX0_greedy_5
def dkwX0_greedy_3 : List UInt8 := [21, 6, 54, 4, 42, 43, 21, 6, 182, 1, 26, 54, 5, 132, 6, 1, 167, 255, 201, 21, 4, 155, 0, 16]
abbrev dktX0_greedy_3 : List UInt8 := dkwX0_greedy_3 ++ dktX0_greedy_4
def dkwX0_greedy_2 : List UInt8 := [43, 21, 6, 182, 1, 24, 154, 0, 31, 42, 43, 21, 6, 182, 1, 26, 21, 5, 184, 1, 5, 153, 0, 16]
abbrev dktX0_greedy_2 : List UInt8 := dkwX0_greedy_2 ++ dktX0_greedy_3
def dkwX0_greedy_1 : List UInt8 := [54, 4, 16, 250, 54, 5, 3, 54, 6, 21, 6, 42, 180, 0, 63, 180, 0, 119, 182, 0, 237, 162, 0, 46]
abbrev dktX0_greedy_1 : List UInt8 := dkwX0_greedy_1 ++ dktX0_greedy_2
def dkwX0_greedy_0 : List UInt8 := [187, 0, 240, 89, 183, 0, 242, 76, 42, 180, 0, 63, 43, 182, 1, 2, 61, 4, 62, 29, 153, 0, 107, 2]
abbrev dktX0_greedy_0 : List UInt8 := dkwX0_greedy_0 ++ dktX0_greedy_1
theorem dksX0_greedy_0 : cX0_greedy.data.toList.drop 0 = dktX0_greedy_0 := by decide +kernel
theorem dksX0_greedy_1 : cX0_greedy.data.toList.drop 24 = dktX0_greedy_1 := dk_seg dksX0_greedy_0 24 rfl rfl
theorem dksX0_greedy_2 : cX0_greedy.data.toList.drop 48 = dktX0_greedy_2 := dk_seg dksX0_greedy_1 24 rfl rfl
theorem dksX0_greedy_3 : cX0_greedy.data.toList.drop 72 = dktX0_greedy_3 := dk_seg dksX0_greedy_2 24 rfl rfl
theorem dksX0_greedy_4 : cX0_greedy.data.toList.drop 96 = dktX0_greedy_4 := dk_seg dksX0_greedy_3 24 rfl rfl
theorem dksX0_greedy_5 : cX0_greedy.data.toList.drop 118 = dktX0_greedy_5 := dk_seg dksX0_greedy_4 22 rfl rfl
theorem dX0_greedy_0 : decode cX0_greedy 0 = .ok (.new 240, 3) := dk_187 0 240 (dk_at dksX0_greedy_0 0 rfl rfl)
theorem dX0_greedy_3 : decode cX0_greedy 3 = .ok (.dup, 1) := dk_89 (dk_at dksX0_greedy_0 3 rfl rfl)
theorem dX0_greedy_4 : decode cX0_greedy 4 = .ok (.invokespecial 242, 3) := dk_183 0 242 (dk_at dksX0_greedy_0 4 rfl rfl)
theorem dX0_greedy_7 : decode cX0_greedy 7 = .ok (.astore_n 1, 1) := dk_76 (dk_at dksX0_greedy_0 7 rfl rfl)
theorem dX0_greedy_8 : decode cX0_greedy 8 = .ok (.aload_n 0, 1) := dk_42 (dk_at dksX0_greedy_0 8 rfl rfl)
theorem dX0_greedy_9 : decode cX0_greedy 9 = .ok (.getfield 63, 3) := dk_180 0 63 (dk_at dksX0_greedy_0 9 rfl rfl)
theorem dX0_greedy_12 : decode cX0_greedy 12 = .ok (.aload_n 1, 1) := dk_43 (dk_at dksX0_greedy_0 12 rfl rfl)
theorem dX0_greedy_13 : decode cX0_greedy 13 = .ok (.invokevirtual 258, 3) := dk_182 1 2 (dk_at dksX0_greedy_0 13 rfl rfl)
theorem dX0_greedy_16 : decode cX0_greedy 16 = .ok (.istore_n 2, 1) := dk_61 (dk_at dksX0_greedy_0 16 rfl rfl)
theorem dX0_greedy_17 : decode cX0_greedy 17 = .ok (.iconst 1, 1) := dk_4 (dk_at dksX0_greedy_0 17 rfl rfl)
theorem dX0_greedy_18 : decode cX0_greedy 18 = .ok (.istore_n 3, 1) := dk_62 (dk_at dksX0_greedy_0 18 rfl rfl)
theorem dX0_greedy_19 : decode cX0_greedy 19 = .ok (.iload_n 3, 1) := dk_29 (dk_at dksX0_greedy_0 19 rfl rfl)
theorem dX0_greedy_20 : decode cX0_greedy 20 = .ok (.ifCond .eq 107, 3) := dk_153 0 107 (dk_at dksX0_greedy_0 20 rfl rfl)
theorem dX0_greedy_23 : decode cX0_greedy 23 = .ok (.iconst (-1), 1) := dk_2 (dk_at dksX0_greedy_0 23 rfl rfl)
theorem dX0_greedy_24 : decode cX0_greedy 24 = .ok (.istore 4, 2) := dk_54 4 (dk_at dksX0_greedy_1 0 rfl rfl)
theorem dX0_greedy_26 : decode cX0_greedy 26 = .ok (.bipush (-6), 2) := dk_16 250 (dk_at dksX0_greedy_1 2 rfl rfl)
theorem dX0_greedy_28 : decode cX0_greedy 28 = .ok (.istore 5, 2) := dk_54 5 (dk_at dksX0_greedy_1 4 rfl rfl)
theorem dX0_greedy_30 : decode cX0_greedy 30 = .ok (.iconst 0, 1) := dk_3 (dk_at dksX0_greedy_1 6 rfl rfl)
theorem dX0_greedy_31 : decode cX0_greedy 31 = .ok (.istore 6, 2) := dk_54 6 (dk_at dksX0_greedy_1 7 rfl rfl)
theorem dX0_greedy_33 : decode cX0_greedy 33 = .ok (.iload 6, 2) := dk_21 6 (dk_at dksX0_greedy_1 9 rfl rfl)
theorem dX0_greedy_35 : decode cX0_greedy 35 = .ok (.aload_n 0, 1) := dk_42 (dk_at dksX0_greedy_1 11 rfl rfl)
theorem dX0_greedy_36 : decode cX0_greedy 36 = .ok (.getfield 63, 3) := dk_180 0 63 (dk_at dksX0_greedy_1 12 rfl rfl)
theorem dX0_greedy_39 : decode cX0_greedy 39 = .ok (.getfield 119, 3) := dk_180 0 119 (dk_at dksX0_greedy_1 15 rfl rfl)
theorem dX0_greedy_42 : decode cX0_greedy 42 = .ok (.invokevirtual 237, 3) := dk_182 0 237 (dk_at dksX0_greedy_1 18 rfl rfl)
theorem dX0_greedy_45 : decode cX0_greedy 45 = .ok (.if_icmp .ge 46, 3) := dk_162 0 46 (dk_at dksX0_greedy_1 21 rfl rfl)
theorem dX0_greedy_48 : decode cX0_greedy 48 = .ok (.aload_n 1, 1) := dk_43 (dk_at dksX0_greedy_2 0 rfl rfl)
theorem dX0_greedy_49 : decode cX0_greedy 49 = .ok (.iload 6, 2) := dk_21 6 (dk_at dksX0_greedy_2 1 rfl rfl)
theorem dX0_greedy_51 : decode cX0_greedy 51 = .ok (.invokevirtual 280, 3) := dk_182 1 24 (dk_at dksX0_greedy_2 3 rfl rfl)
theorem dX0_greedy_54 : decode cX0_greedy 54 = .ok (.ifCond .ne 31, 3) := dk_154 0 31 (dk_at dksX0_greedy_2 6 rfl rfl)
theorem dX0_greedy_57 : decode cX0_greedy 57 = .ok (.aload_n 0, 1) := dk_42 (dk_at dksX0_greedy_2 9 rfl rfl)
theorem dX0_greedy_58 : decode cX0_greedy 58 = .ok (.aload_n 1, 1) := dk_43 (dk_at dksX0_greedy_2 10 rfl rfl)
theorem dX0_greedy_59 : decode cX0_greedy 59 = .ok (.iload 6, 2) := dk_21 6 (dk_at dksX0_greedy_2 11 rfl rfl)
theorem dX0_greedy_61 : decode cX0_greedy 61 = .ok (.invokevirtual 282, 3) := dk_182 1 26 (dk_at dksX0_greedy_2 13 rfl rfl)
theorem dX0_greedy_64 : decode cX0_greedy 64 = .ok (.iload 5, 2) := dk_21 5 (dk_at dksX0_greedy_2 16 rfl rfl)
theorem dX0_greedy_66 : decode cX0_greedy 66 = .ok (.invokestatic 261, 3) := dk_184 1 5 (dk_at dksX0_greedy_2 18 rfl rfl)
theorem dX0_greedy_69 : decode cX0_greedy 69 = .ok (.ifCond .eq 16, 3) := dk_153 0 16 (dk_at dksX0_greedy_2 21 rfl rfl)
theorem dX0_greedy_72 : decode cX0_greedy 72 = .ok (.iload 6, 2) := dk_21 6 (dk_at dksX0_greedy_3 0 rfl rfl)
theorem dX0_greedy_74 : decode cX0_greedy 74 = .ok (.istore 4, 2) := dk_54 4 (dk_at dksX0_greedy_3 2 rfl rfl)
theorem dX0_greedy_76 : decode cX0_greedy 76 = .ok (.aload_n 0, 1) := dk_42 (dk_at dksX0_greedy_3 4 rfl rfl)
theorem dX0_greedy_77 : decode cX0_greedy 77 = .ok (.aload_n 1, 1) := dk_43 (dk_at dksX0_greedy_3 5 rfl rfl)
theorem dX0_greedy_78 : decode cX0_greedy 78 = .ok (.iload 6, 2) := dk_21 6 (dk_at dksX0_greedy_3 6 rfl rfl)
theorem dX0_greedy_80 : decode cX0_greedy 80 = .ok (.invokevirtual 282, 3) := dk_182 1 26 (dk_at dksX0_greedy_3 8 rfl rfl)
theorem dX0_greedy_83 : decode cX0_greedy 83 = .ok (.istore 5, 2) := dk_54 5 (dk_at dksX0_greedy_3 11 rfl rfl)
theorem dX0_greedy_85 : decode cX0_greedy 85 = .ok (.iinc 6 1, 3) := dk_132 6 1 (dk_at dksX0_greedy_3 13 rfl rfl)
theorem dX0_greedy_88 : decode cX0_greedy 88 = .ok (.goto (-55), 3) := dk_167 255 201 (dk_at dksX0_greedy_3 16 rfl rfl)
theorem dX0_greedy_91 : decode cX0_greedy 91 = .ok (.iload 4, 2) := dk_21 4 (dk_at dksX0_greedy_3 19 rfl rfl)
theorem dX0_greedy_93 : decode cX0_greedy 93 = .ok (.ifCond .lt 16, 3) := dk_155 0 16 (dk_at dksX0_greedy_3 21 rfl rfl)
theorem dX0_greedy_96 : decode cX0_greedy 96 = .ok (.iload 5, 2) := dk_21 5 (dk_at dksX0_greedy_4 0 rfl rfl)
theorem dX0_greedy_98 : decode cX0_greedy 98 = .ok (.iload_n 2, 1) := dk_28 (dk_at dksX0_greedy_4 2 rfl rfl)
theorem dX0_greedy_99 : decode cX0_greedy 99 = .ok (.invokestatic 261, 3) := dk_184 1 5 (dk_at dksX0_greedy_4 3 rfl rfl)
theorem dX0_greedy_102 : decode cX0_greedy 102 = .ok (.ifCond .eq 7, 3) := dk_153 0 7 (dk_at dksX0_greedy_4 6 rfl rfl)
theorem dX0_greedy_105 : decode cX0_greedy 105 = .ok (.iconst 1, 1) := dk_4 (dk_at dksX0_greedy_4 9 rfl rfl)
theorem dX0_greedy_106 : decode cX0_greedy 106 = .ok (.goto 4, 3) := dk_167 0 4 (dk_at dksX0_greedy_4 10 rfl rfl)
theorem dX0_greedy_109 : decode cX0_greedy 109 = .ok (.iconst 0, 1) := dk_3 (dk_at dksX0_greedy_4 13 rfl rfl)
theorem dX0_greedy_110 : decode cX0_greedy 110 = .ok (.istore_n 3, 1) := dk_62 (dk_at dksX0_greedy_4 14 rfl rfl)
theorem dX0_greedy_111 : decode cX0_greedy 111 = .ok (.iload_n 3, 1) := dk_29 (dk_at dksX0_greedy_4 15 rfl rfl)
theorem dX0_greedy_112 : decode cX0_greedy 112 = .ok (.ifCond .eq 12, 3) := dk_153 0 12 (dk_at dksX0_greedy_4 16 rfl rfl)
theorem dX0_greedy_115 : decode cX0_greedy 115 = .ok (.aload_n 1, 1) := dk_43 (dk_at dksX0_greedy_4 19 rfl rfl)
theorem dX0_greedy_116 : decode cX0_greedy 116 = .ok (.iload 4, 2) := dk_21 4 (dk_at dksX0_greedy_4 20 rfl rfl)
theorem dX0_greedy_118 : decode cX0_greedy 118 = .ok (.invokevirtual 268, 3) := dk_182 1 12 (dk_at dksX0_greedy_5 0 rfl rfl)
theorem dX0_greedy_121 : decode cX0_greedy 121 = .ok (.iload 5, 2) := dk_21 5 (dk_at dksX0_greedy_5 3 rfl rfl)
theorem dX0_greedy_123 : decode cX0_greedy 123 = .ok (.istore_n 2, 1) := dk_61 (dk_at dksX0_greedy_5 5 rfl rfl)
theorem dX0_greedy_124 : decode cX0_greedy 124 = .ok (.goto (-105), 3) := dk_167 255 151 (dk_at dksX0_greedy_5 6 rfl rfl)
theorem dX0_greedy_127 : decode cX0_greedy 127 = .ok (.iload_n 2, 1) := dk_28 (dk_at dksX0_greedy_5 9 rfl rfl)
theorem dX0_greedy_128 : decode cX0_greedy 128 = .ok (.ifCond .ge 8, 3) := dk_156 0 8 (dk_at dksX0_greedy_5 10 rfl rfl)
theorem dX0_greedy_131 : decode cX0_greedy 131 = .ok (.bipush (-6), 2) := dk_16 250 (dk_at dksX0_greedy_5 13 rfl rfl)
theorem dX0_greedy_133 : decode cX0_greedy 133 = .ok (.goto 7, 3) := dk_167 0 7 (dk_at dksX0_greedy_5 15 rfl rfl)
theorem dX0_greedy_136 : decode cX0_greedy 136 = .ok (.aload_n 1, 1) := dk_43 (dk_at dksX0_greedy_5 18 rfl rfl)
theorem dX0_greedy_137 : decode cX0_greedy 137 = .ok (.invokestatic 286, 3) := dk_184 1 30 (dk_at dksX0_greedy_5 19 rfl rfl)
theorem dX0_greedy_140 : decode cX0_greedy 140 = .ok (.ireturn, 1) := dk_172 (dk_at dksX0_greedy_5 22 rfl rfl)
abbrev cX0_costWith : ByteArray := prog_1_method_32_code
def yX0_costWith : MethodName := ⟨RX0, "costWith", "(Ljava/util/BitSet;I)I"⟩
def dkwX0_costWith_0 : List UInt8 := [43, 28, 182, 1, 21, 42, 180, 0, 63, 43, 182, 1, 2, 62, 43, 28, 182, 1, 21, 29, 172]
abbrev dktX0_costWith_0 : List UInt8 := dkwX0_costWith_0 ++ []
theorem dksX0_costWith_0 : cX0_costWith.data.toList.drop 0 = dktX0_costWith_0 := by decide +kernel
theorem dX0_costWith_0 : decode cX0_costWith 0 = .ok (.aload_n 1, 1) := dk_43 (dk_at dksX0_costWith_0 0 rfl rfl)
theorem dX0_costWith_1 : decode cX0_costWith 1 = .ok (.iload_n 2, 1) := dk_28 (dk_at dksX0_costWith_0 1 rfl rfl)
theorem dX0_costWith_2 : decode cX0_costWith 2 = .ok (.invokevirtual 277, 3) := dk_182 1 21 (dk_at dksX0_costWith_0 2 rfl rfl)
theorem dX0_costWith_5 : decode cX0_costWith 5 = .ok (.aload_n 0, 1) := dk_42 (dk_at dksX0_costWith_0 5 rfl rfl)
theorem dX0_costWith_6 : decode cX0_costWith 6 = .ok (.getfield 63, 3) := dk_180 0 63 (dk_at dksX0_costWith_0 6 rfl rfl)
theorem dX0_costWith_9 : decode cX0_costWith 9 = .ok (.aload_n 1, 1) := dk_43 (dk_at dksX0_costWith_0 9 rfl rfl)
theorem dX0_costWith_10 : decode cX0_costWith 10 = .ok (.invokevirtual 258, 3) := dk_182 1 2 (dk_at dksX0_costWith_0 10 rfl rfl)
theorem dX0_costWith_13 : decode cX0_costWith 13 = .ok (.istore_n 3, 1) := dk_62 (dk_at dksX0_costWith_0 13 rfl rfl)
theorem dX0_costWith_14 : decode cX0_costWith 14 = .ok (.aload_n 1, 1) := dk_43 (dk_at dksX0_costWith_0 14 rfl rfl)
theorem dX0_costWith_15 : decode cX0_costWith 15 = .ok (.iload_n 2, 1) := dk_28 (dk_at dksX0_costWith_0 15 rfl rfl)
theorem dX0_costWith_16 : decode cX0_costWith 16 = .ok (.invokevirtual 277, 3) := dk_182 1 21 (dk_at dksX0_costWith_0 16 rfl rfl)
theorem dX0_costWith_19 : decode cX0_costWith 19 = .ok (.iload_n 3, 1) := dk_29 (dk_at dksX0_costWith_0 19 rfl rfl)
theorem dX0_costWith_20 : decode cX0_costWith 20 = .ok (.ireturn, 1) := dk_172 (dk_at dksX0_costWith_0 20 rfl rfl)
abbrev cX0_set : ByteArray := prog_1_method_26_code
def yX0_set : MethodName := ⟨RX0, "set", "(Ljava/util/BitSet;)I"⟩
def dkwX0_set_1 : List UInt8 := [182, 0, 247, 61, 167, 255, 238, 27, 172]
abbrev dktX0_set_1 : List UInt8 := dkwX0_set_1 ++ []
def dkwX0_set_0 : List UInt8 := [3, 60, 42, 3, 182, 0, 247, 61, 28, 155, 0, 20, 27, 4, 28, 120, 128, 60, 42, 28, 4, 96]
abbrev dktX0_set_0 : List UInt8 := dkwX0_set_0 ++ dktX0_set_1
theorem dksX0_set_0 : cX0_set.data.toList.drop 0 = dktX0_set_0 := by decide +kernel
theorem dksX0_set_1 : cX0_set.data.toList.drop 22 = dktX0_set_1 := dk_seg dksX0_set_0 22 rfl rfl
theorem dX0_set_0 : decode cX0_set 0 = .ok (.iconst 0, 1) := dk_3 (dk_at dksX0_set_0 0 rfl rfl)
theorem dX0_set_1 : decode cX0_set 1 = .ok (.istore_n 1, 1) := dk_60 (dk_at dksX0_set_0 1 rfl rfl)
theorem dX0_set_2 : decode cX0_set 2 = .ok (.aload_n 0, 1) := dk_42 (dk_at dksX0_set_0 2 rfl rfl)
theorem dX0_set_3 : decode cX0_set 3 = .ok (.iconst 0, 1) := dk_3 (dk_at dksX0_set_0 3 rfl rfl)
theorem dX0_set_4 : decode cX0_set 4 = .ok (.invokevirtual 247, 3) := dk_182 0 247 (dk_at dksX0_set_0 4 rfl rfl)
theorem dX0_set_7 : decode cX0_set 7 = .ok (.istore_n 2, 1) := dk_61 (dk_at dksX0_set_0 7 rfl rfl)
theorem dX0_set_8 : decode cX0_set 8 = .ok (.iload_n 2, 1) := dk_28 (dk_at dksX0_set_0 8 rfl rfl)
theorem dX0_set_9 : decode cX0_set 9 = .ok (.ifCond .lt 20, 3) := dk_155 0 20 (dk_at dksX0_set_0 9 rfl rfl)
theorem dX0_set_12 : decode cX0_set 12 = .ok (.iload_n 1, 1) := dk_27 (dk_at dksX0_set_0 12 rfl rfl)
theorem dX0_set_13 : decode cX0_set 13 = .ok (.iconst 1, 1) := dk_4 (dk_at dksX0_set_0 13 rfl rfl)
theorem dX0_set_14 : decode cX0_set 14 = .ok (.iload_n 2, 1) := dk_28 (dk_at dksX0_set_0 14 rfl rfl)
theorem dX0_set_15 : decode cX0_set 15 = .ok (.ishl, 1) := dk_120 (dk_at dksX0_set_0 15 rfl rfl)
theorem dX0_set_16 : decode cX0_set 16 = .ok (.ior, 1) := dk_128 (dk_at dksX0_set_0 16 rfl rfl)
theorem dX0_set_17 : decode cX0_set 17 = .ok (.istore_n 1, 1) := dk_60 (dk_at dksX0_set_0 17 rfl rfl)
theorem dX0_set_18 : decode cX0_set 18 = .ok (.aload_n 0, 1) := dk_42 (dk_at dksX0_set_0 18 rfl rfl)
theorem dX0_set_19 : decode cX0_set 19 = .ok (.iload_n 2, 1) := dk_28 (dk_at dksX0_set_0 19 rfl rfl)
theorem dX0_set_20 : decode cX0_set 20 = .ok (.iconst 1, 1) := dk_4 (dk_at dksX0_set_0 20 rfl rfl)
theorem dX0_set_21 : decode cX0_set 21 = .ok (.iadd, 1) := dk_96 (dk_at dksX0_set_0 21 rfl rfl)
theorem dX0_set_22 : decode cX0_set 22 = .ok (.invokevirtual 247, 3) := dk_182 0 247 (dk_at dksX0_set_1 0 rfl rfl)
theorem dX0_set_25 : decode cX0_set 25 = .ok (.istore_n 2, 1) := dk_61 (dk_at dksX0_set_1 3 rfl rfl)
theorem dX0_set_26 : decode cX0_set 26 = .ok (.goto (-18), 3) := dk_167 255 238 (dk_at dksX0_set_1 4 rfl rfl)
theorem dX0_set_29 : decode cX0_set 29 = .ok (.iload_n 1, 1) := dk_27 (dk_at dksX0_set_1 7 rfl rfl)
theorem dX0_set_30 : decode cX0_set 30 = .ok (.ireturn, 1) := dk_172 (dk_at dksX0_set_1 8 rfl rfl)
abbrev cX0_swap : ByteArray := prog_1_method_35_code
def yX0_swap : MethodName := ⟨RX0, "swap", "(I)I"⟩
def dkwX0_swap_3 : List UInt8 := [182, 1, 61, 96, 172]
abbrev dktX0_swap_3 : List UInt8 := dkwX0_swap_3 ++ []
def dkwX0_swap_2 : List UInt8 := [184, 1, 54, 192, 1, 33, 78, 45, 199, 0, 8, 16, 250, 167, 0, 15, 16, 10, 45, 182, 1, 58, 104, 45]
abbrev dktX0_swap_2 : List UInt8 := dkwX0_swap_2 ++ dktX0_swap_3
def dkwX0_swap_1 : List UInt8 := [27, 184, 0, 254, 182, 1, 42, 187, 1, 46, 89, 42, 28, 183, 1, 48, 187, 1, 49, 89, 42, 183, 1, 51]
abbrev dktX0_swap_1 : List UInt8 := dkwX0_swap_1 ++ dktX0_swap_2
def dkwX0_swap_0 : List UInt8 := [42, 27, 182, 0, 251, 154, 0, 6, 16, 254, 172, 42, 180, 0, 63, 27, 184, 0, 254, 182, 1, 2, 61, 42]
abbrev dktX0_swap_0 : List UInt8 := dkwX0_swap_0 ++ dktX0_swap_1
theorem dksX0_swap_0 : cX0_swap.data.toList.drop 0 = dktX0_swap_0 := by decide +kernel
theorem dksX0_swap_1 : cX0_swap.data.toList.drop 24 = dktX0_swap_1 := dk_seg dksX0_swap_0 24 rfl rfl
theorem dksX0_swap_2 : cX0_swap.data.toList.drop 48 = dktX0_swap_2 := dk_seg dksX0_swap_1 24 rfl rfl
theorem dksX0_swap_3 : cX0_swap.data.toList.drop 72 = dktX0_swap_3 := dk_seg dksX0_swap_2 24 rfl rfl
theorem dX0_swap_0 : decode cX0_swap 0 = .ok (.aload_n 0, 1) := dk_42 (dk_at dksX0_swap_0 0 rfl rfl)
theorem dX0_swap_1 : decode cX0_swap 1 = .ok (.iload_n 1, 1) := dk_27 (dk_at dksX0_swap_0 1 rfl rfl)
theorem dX0_swap_2 : decode cX0_swap 2 = .ok (.invokevirtual 251, 3) := dk_182 0 251 (dk_at dksX0_swap_0 2 rfl rfl)
theorem dX0_swap_5 : decode cX0_swap 5 = .ok (.ifCond .ne 6, 3) := dk_154 0 6 (dk_at dksX0_swap_0 5 rfl rfl)
theorem dX0_swap_8 : decode cX0_swap 8 = .ok (.bipush (-2), 2) := dk_16 254 (dk_at dksX0_swap_0 8 rfl rfl)
theorem dX0_swap_10 : decode cX0_swap 10 = .ok (.ireturn, 1) := dk_172 (dk_at dksX0_swap_0 10 rfl rfl)
theorem dX0_swap_11 : decode cX0_swap 11 = .ok (.aload_n 0, 1) := dk_42 (dk_at dksX0_swap_0 11 rfl rfl)
theorem dX0_swap_12 : decode cX0_swap 12 = .ok (.getfield 63, 3) := dk_180 0 63 (dk_at dksX0_swap_0 12 rfl rfl)
theorem dX0_swap_15 : decode cX0_swap 15 = .ok (.iload_n 1, 1) := dk_27 (dk_at dksX0_swap_0 15 rfl rfl)
theorem dX0_swap_16 : decode cX0_swap 16 = .ok (.invokestatic 254, 3) := dk_184 0 254 (dk_at dksX0_swap_0 16 rfl rfl)
theorem dX0_swap_19 : decode cX0_swap 19 = .ok (.invokevirtual 258, 3) := dk_182 1 2 (dk_at dksX0_swap_0 19 rfl rfl)
theorem dX0_swap_22 : decode cX0_swap 22 = .ok (.istore_n 2, 1) := dk_61 (dk_at dksX0_swap_0 22 rfl rfl)
theorem dX0_swap_23 : decode cX0_swap 23 = .ok (.aload_n 0, 1) := dk_42 (dk_at dksX0_swap_0 23 rfl rfl)
theorem dX0_swap_24 : decode cX0_swap 24 = .ok (.iload_n 1, 1) := dk_27 (dk_at dksX0_swap_1 0 rfl rfl)
theorem dX0_swap_25 : decode cX0_swap 25 = .ok (.invokestatic 254, 3) := dk_184 0 254 (dk_at dksX0_swap_1 1 rfl rfl)
theorem dX0_swap_28 : decode cX0_swap 28 = .ok (.invokevirtual 298, 3) := dk_182 1 42 (dk_at dksX0_swap_1 4 rfl rfl)
theorem dX0_swap_31 : decode cX0_swap 31 = .ok (.new 302, 3) := dk_187 1 46 (dk_at dksX0_swap_1 7 rfl rfl)
theorem dX0_swap_34 : decode cX0_swap 34 = .ok (.dup, 1) := dk_89 (dk_at dksX0_swap_1 10 rfl rfl)
theorem dX0_swap_35 : decode cX0_swap 35 = .ok (.aload_n 0, 1) := dk_42 (dk_at dksX0_swap_1 11 rfl rfl)
theorem dX0_swap_36 : decode cX0_swap 36 = .ok (.iload_n 2, 1) := dk_28 (dk_at dksX0_swap_1 12 rfl rfl)
theorem dX0_swap_37 : decode cX0_swap 37 = .ok (.invokespecial 304, 3) := dk_183 1 48 (dk_at dksX0_swap_1 13 rfl rfl)
theorem dX0_swap_40 : decode cX0_swap 40 = .ok (.new 305, 3) := dk_187 1 49 (dk_at dksX0_swap_1 16 rfl rfl)
theorem dX0_swap_43 : decode cX0_swap 43 = .ok (.dup, 1) := dk_89 (dk_at dksX0_swap_1 19 rfl rfl)
theorem dX0_swap_44 : decode cX0_swap 44 = .ok (.aload_n 0, 1) := dk_42 (dk_at dksX0_swap_1 20 rfl rfl)
theorem dX0_swap_45 : decode cX0_swap 45 = .ok (.invokespecial 307, 3) := dk_183 1 51 (dk_at dksX0_swap_1 21 rfl rfl)
theorem dX0_swap_48 : decode cX0_swap 48 = .ok (.invokestatic 310, 3) := dk_184 1 54 (dk_at dksX0_swap_2 0 rfl rfl)
theorem dX0_swap_51 : decode cX0_swap 51 = .ok (.checkcast 289, 3) := dk_192 1 33 (dk_at dksX0_swap_2 3 rfl rfl)
theorem dX0_swap_54 : decode cX0_swap 54 = .ok (.astore_n 3, 1) := dk_78 (dk_at dksX0_swap_2 6 rfl rfl)
theorem dX0_swap_55 : decode cX0_swap 55 = .ok (.aload_n 3, 1) := dk_45 (dk_at dksX0_swap_2 7 rfl rfl)
theorem dX0_swap_56 : decode cX0_swap 56 = .ok (.ifnonnull 8, 3) := dk_199 0 8 (dk_at dksX0_swap_2 8 rfl rfl)
theorem dX0_swap_59 : decode cX0_swap 59 = .ok (.bipush (-6), 2) := dk_16 250 (dk_at dksX0_swap_2 11 rfl rfl)
theorem dX0_swap_61 : decode cX0_swap 61 = .ok (.goto 15, 3) := dk_167 0 15 (dk_at dksX0_swap_2 13 rfl rfl)
theorem dX0_swap_64 : decode cX0_swap 64 = .ok (.bipush 10, 2) := dk_16 10 (dk_at dksX0_swap_2 16 rfl rfl)
theorem dX0_swap_66 : decode cX0_swap 66 = .ok (.aload_n 3, 1) := dk_45 (dk_at dksX0_swap_2 18 rfl rfl)
theorem dX0_swap_67 : decode cX0_swap 67 = .ok (.invokevirtual 314, 3) := dk_182 1 58 (dk_at dksX0_swap_2 19 rfl rfl)
theorem dX0_swap_70 : decode cX0_swap 70 = .ok (.imul, 1) := dk_104 (dk_at dksX0_swap_2 22 rfl rfl)
theorem dX0_swap_71 : decode cX0_swap 71 = .ok (.aload_n 3, 1) := dk_45 (dk_at dksX0_swap_2 23 rfl rfl)
theorem dX0_swap_72 : decode cX0_swap 72 = .ok (.invokevirtual 317, 3) := dk_182 1 61 (dk_at dksX0_swap_3 0 rfl rfl)
theorem dX0_swap_75 : decode cX0_swap 75 = .ok (.iadd, 1) := dk_96 (dk_at dksX0_swap_3 3 rfl rfl)
theorem dX0_swap_76 : decode cX0_swap 76 = .ok (.ireturn, 1) := dk_172 (dk_at dksX0_swap_3 4 rfl rfl)
abbrev cX0_swaps : ByteArray := prog_1_method_34_code
def yX0_swaps : MethodName := ⟨RX0, "swaps", "(Ljava/util/BitSet;)Ljava/util/LinkedList;"⟩
def dkwX0_swaps_4 : List UInt8 := [167, 255, 190, 132, 3, 1, 167, 255, 167, 44, 176]
abbrev dktX0_swaps_4 : List UInt8 := dkwX0_swaps_4 ++ []
def dkwX0_swaps_3 : List UInt8 := [21, 4, 42, 43, 21, 4, 182, 1, 26, 183, 1, 35, 182, 1, 38, 43, 29, 182, 1, 21, 132, 4, 1]
abbrev dktX0_swaps_3 : List UInt8 := dkwX0_swaps_3 ++ dktX0_swaps_4
def dkwX0_swaps_2 : List UInt8 := [153, 0, 43, 43, 21, 4, 182, 1, 24, 154, 0, 34, 43, 29, 182, 1, 21, 44, 187, 1, 33, 89, 29]
abbrev dktX0_swaps_2 : List UInt8 := dkwX0_swaps_2 ++ dktX0_swaps_3
def dkwX0_swaps_1 : List UInt8 := [3, 54, 4, 21, 4, 42, 180, 0, 63, 180, 0, 119, 182, 0, 237, 162, 0, 57, 43, 29, 182, 1, 24]
abbrev dktX0_swaps_1 : List UInt8 := dkwX0_swaps_1 ++ dktX0_swaps_2
def dkwX0_swaps_0 : List UInt8 := [187, 0, 225, 89, 183, 1, 32, 77, 3, 62, 29, 42, 180, 0, 63, 180, 0, 119, 182, 0, 237, 162, 0, 81]
abbrev dktX0_swaps_0 : List UInt8 := dkwX0_swaps_0 ++ dktX0_swaps_1
theorem dksX0_swaps_0 : cX0_swaps.data.toList.drop 0 = dktX0_swaps_0 := by decide +kernel
theorem dksX0_swaps_1 : cX0_swaps.data.toList.drop 24 = dktX0_swaps_1 := dk_seg dksX0_swaps_0 24 rfl rfl
theorem dksX0_swaps_2 : cX0_swaps.data.toList.drop 47 = dktX0_swaps_2 := dk_seg dksX0_swaps_1 23 rfl rfl
theorem dksX0_swaps_3 : cX0_swaps.data.toList.drop 70 = dktX0_swaps_3 := dk_seg dksX0_swaps_2 23 rfl rfl
theorem dksX0_swaps_4 : cX0_swaps.data.toList.drop 93 = dktX0_swaps_4 := dk_seg dksX0_swaps_3 23 rfl rfl
theorem dX0_swaps_0 : decode cX0_swaps 0 = .ok (.new 225, 3) := dk_187 0 225 (dk_at dksX0_swaps_0 0 rfl rfl)
theorem dX0_swaps_3 : decode cX0_swaps 3 = .ok (.dup, 1) := dk_89 (dk_at dksX0_swaps_0 3 rfl rfl)
theorem dX0_swaps_4 : decode cX0_swaps 4 = .ok (.invokespecial 288, 3) := dk_183 1 32 (dk_at dksX0_swaps_0 4 rfl rfl)
theorem dX0_swaps_7 : decode cX0_swaps 7 = .ok (.astore_n 2, 1) := dk_77 (dk_at dksX0_swaps_0 7 rfl rfl)
theorem dX0_swaps_8 : decode cX0_swaps 8 = .ok (.iconst 0, 1) := dk_3 (dk_at dksX0_swaps_0 8 rfl rfl)
theorem dX0_swaps_9 : decode cX0_swaps 9 = .ok (.istore_n 3, 1) := dk_62 (dk_at dksX0_swaps_0 9 rfl rfl)
theorem dX0_swaps_10 : decode cX0_swaps 10 = .ok (.iload_n 3, 1) := dk_29 (dk_at dksX0_swaps_0 10 rfl rfl)
theorem dX0_swaps_11 : decode cX0_swaps 11 = .ok (.aload_n 0, 1) := dk_42 (dk_at dksX0_swaps_0 11 rfl rfl)
theorem dX0_swaps_12 : decode cX0_swaps 12 = .ok (.getfield 63, 3) := dk_180 0 63 (dk_at dksX0_swaps_0 12 rfl rfl)
theorem dX0_swaps_15 : decode cX0_swaps 15 = .ok (.getfield 119, 3) := dk_180 0 119 (dk_at dksX0_swaps_0 15 rfl rfl)
theorem dX0_swaps_18 : decode cX0_swaps 18 = .ok (.invokevirtual 237, 3) := dk_182 0 237 (dk_at dksX0_swaps_0 18 rfl rfl)
theorem dX0_swaps_21 : decode cX0_swaps 21 = .ok (.if_icmp .ge 81, 3) := dk_162 0 81 (dk_at dksX0_swaps_0 21 rfl rfl)
theorem dX0_swaps_24 : decode cX0_swaps 24 = .ok (.iconst 0, 1) := dk_3 (dk_at dksX0_swaps_1 0 rfl rfl)
theorem dX0_swaps_25 : decode cX0_swaps 25 = .ok (.istore 4, 2) := dk_54 4 (dk_at dksX0_swaps_1 1 rfl rfl)
theorem dX0_swaps_27 : decode cX0_swaps 27 = .ok (.iload 4, 2) := dk_21 4 (dk_at dksX0_swaps_1 3 rfl rfl)
theorem dX0_swaps_29 : decode cX0_swaps 29 = .ok (.aload_n 0, 1) := dk_42 (dk_at dksX0_swaps_1 5 rfl rfl)
theorem dX0_swaps_30 : decode cX0_swaps 30 = .ok (.getfield 63, 3) := dk_180 0 63 (dk_at dksX0_swaps_1 6 rfl rfl)
theorem dX0_swaps_33 : decode cX0_swaps 33 = .ok (.getfield 119, 3) := dk_180 0 119 (dk_at dksX0_swaps_1 9 rfl rfl)
theorem dX0_swaps_36 : decode cX0_swaps 36 = .ok (.invokevirtual 237, 3) := dk_182 0 237 (dk_at dksX0_swaps_1 12 rfl rfl)
theorem dX0_swaps_39 : decode cX0_swaps 39 = .ok (.if_icmp .ge 57, 3) := dk_162 0 57 (dk_at dksX0_swaps_1 15 rfl rfl)
theorem dX0_swaps_42 : decode cX0_swaps 42 = .ok (.aload_n 1, 1) := dk_43 (dk_at dksX0_swaps_1 18 rfl rfl)
theorem dX0_swaps_43 : decode cX0_swaps 43 = .ok (.iload_n 3, 1) := dk_29 (dk_at dksX0_swaps_1 19 rfl rfl)
theorem dX0_swaps_44 : decode cX0_swaps 44 = .ok (.invokevirtual 280, 3) := dk_182 1 24 (dk_at dksX0_swaps_1 20 rfl rfl)
theorem dX0_swaps_47 : decode cX0_swaps 47 = .ok (.ifCond .eq 43, 3) := dk_153 0 43 (dk_at dksX0_swaps_2 0 rfl rfl)
theorem dX0_swaps_50 : decode cX0_swaps 50 = .ok (.aload_n 1, 1) := dk_43 (dk_at dksX0_swaps_2 3 rfl rfl)
theorem dX0_swaps_51 : decode cX0_swaps 51 = .ok (.iload 4, 2) := dk_21 4 (dk_at dksX0_swaps_2 4 rfl rfl)
theorem dX0_swaps_53 : decode cX0_swaps 53 = .ok (.invokevirtual 280, 3) := dk_182 1 24 (dk_at dksX0_swaps_2 6 rfl rfl)
theorem dX0_swaps_56 : decode cX0_swaps 56 = .ok (.ifCond .ne 34, 3) := dk_154 0 34 (dk_at dksX0_swaps_2 9 rfl rfl)
theorem dX0_swaps_59 : decode cX0_swaps 59 = .ok (.aload_n 1, 1) := dk_43 (dk_at dksX0_swaps_2 12 rfl rfl)
theorem dX0_swaps_60 : decode cX0_swaps 60 = .ok (.iload_n 3, 1) := dk_29 (dk_at dksX0_swaps_2 13 rfl rfl)
theorem dX0_swaps_61 : decode cX0_swaps 61 = .ok (.invokevirtual 277, 3) := dk_182 1 21 (dk_at dksX0_swaps_2 14 rfl rfl)
theorem dX0_swaps_64 : decode cX0_swaps 64 = .ok (.aload_n 2, 1) := dk_44 (dk_at dksX0_swaps_2 17 rfl rfl)
theorem dX0_swaps_65 : decode cX0_swaps 65 = .ok (.new 289, 3) := dk_187 1 33 (dk_at dksX0_swaps_2 18 rfl rfl)
theorem dX0_swaps_68 : decode cX0_swaps 68 = .ok (.dup, 1) := dk_89 (dk_at dksX0_swaps_2 21 rfl rfl)
theorem dX0_swaps_69 : decode cX0_swaps 69 = .ok (.iload_n 3, 1) := dk_29 (dk_at dksX0_swaps_2 22 rfl rfl)
theorem dX0_swaps_70 : decode cX0_swaps 70 = .ok (.iload 4, 2) := dk_21 4 (dk_at dksX0_swaps_3 0 rfl rfl)
theorem dX0_swaps_72 : decode cX0_swaps 72 = .ok (.aload_n 0, 1) := dk_42 (dk_at dksX0_swaps_3 2 rfl rfl)
theorem dX0_swaps_73 : decode cX0_swaps 73 = .ok (.aload_n 1, 1) := dk_43 (dk_at dksX0_swaps_3 3 rfl rfl)
theorem dX0_swaps_74 : decode cX0_swaps 74 = .ok (.iload 4, 2) := dk_21 4 (dk_at dksX0_swaps_3 4 rfl rfl)
theorem dX0_swaps_76 : decode cX0_swaps 76 = .ok (.invokevirtual 282, 3) := dk_182 1 26 (dk_at dksX0_swaps_3 6 rfl rfl)
theorem dX0_swaps_79 : decode cX0_swaps 79 = .ok (.invokespecial 291, 3) := dk_183 1 35 (dk_at dksX0_swaps_3 9 rfl rfl)
theorem dX0_swaps_82 : decode cX0_swaps 82 = .ok (.invokevirtual 294, 3) := dk_182 1 38 (dk_at dksX0_swaps_3 12 rfl rfl)
theorem dX0_swaps_85 : decode cX0_swaps 85 = .ok (.aload_n 1, 1) := dk_43 (dk_at dksX0_swaps_3 15 rfl rfl)
theorem dX0_swaps_86 : decode cX0_swaps 86 = .ok (.iload_n 3, 1) := dk_29 (dk_at dksX0_swaps_3 16 rfl rfl)
theorem dX0_swaps_87 : decode cX0_swaps 87 = .ok (.invokevirtual 277, 3) := dk_182 1 21 (dk_at dksX0_swaps_3 17 rfl rfl)
theorem dX0_swaps_90 : decode cX0_swaps 90 = .ok (.iinc 4 1, 3) := dk_132 4 1 (dk_at dksX0_swaps_3 20 rfl rfl)
theorem dX0_swaps_93 : decode cX0_swaps 93 = .ok (.goto (-66), 3) := dk_167 255 190 (dk_at dksX0_swaps_4 0 rfl rfl)
theorem dX0_swaps_96 : decode cX0_swaps 96 = .ok (.iinc 3 1, 3) := dk_132 3 1 (dk_at dksX0_swaps_4 3 rfl rfl)
theorem dX0_swaps_99 : decode cX0_swaps 99 = .ok (.goto (-89), 3) := dk_167 255 167 (dk_at dksX0_swaps_4 6 rfl rfl)
theorem dX0_swaps_102 : decode cX0_swaps 102 = .ok (.aload_n 2, 1) := dk_44 (dk_at dksX0_swaps_4 9 rfl rfl)
theorem dX0_swaps_103 : decode cX0_swaps 103 = .ok (.areturn, 1) := dk_176 (dk_at dksX0_swaps_4 10 rfl rfl)
abbrev cX0_saves : ByteArray := prog_1_method_36_code
def yX0_saves : MethodName := ⟨RX0, "saves", "(I)I"⟩
def dkwX0_saves_3 : List UInt8 := [182, 1, 26, 100, 172]
abbrev dktX0_saves_3 : List UInt8 := dkwX0_saves_3 ++ []
def dkwX0_saves_2 : List UInt8 := [17, 216, 240, 172, 42, 180, 0, 63, 182, 1, 67, 77, 42, 180, 0, 63, 44, 182, 1, 2, 42, 44, 27]
abbrev dktX0_saves_2 : List UInt8 := dkwX0_saves_2 ++ dktX0_saves_3
def dkwX0_saves_1 : List UInt8 := [182, 0, 157, 192, 0, 176, 180, 0, 201, 154, 0, 13, 42, 180, 0, 63, 182, 1, 64, 154, 0, 7]
abbrev dktX0_saves_1 : List UInt8 := dkwX0_saves_1 ++ dktX0_saves_2
def dkwX0_saves_0 : List UInt8 := [42, 180, 0, 63, 180, 0, 119, 27, 182, 0, 123, 153, 0, 33, 42, 180, 0, 63, 180, 0, 119, 27]
abbrev dktX0_saves_0 : List UInt8 := dkwX0_saves_0 ++ dktX0_saves_1
theorem dksX0_saves_0 : cX0_saves.data.toList.drop 0 = dktX0_saves_0 := by decide +kernel
theorem dksX0_saves_1 : cX0_saves.data.toList.drop 22 = dktX0_saves_1 := dk_seg dksX0_saves_0 22 rfl rfl
theorem dksX0_saves_2 : cX0_saves.data.toList.drop 44 = dktX0_saves_2 := dk_seg dksX0_saves_1 22 rfl rfl
theorem dksX0_saves_3 : cX0_saves.data.toList.drop 67 = dktX0_saves_3 := dk_seg dksX0_saves_2 23 rfl rfl
theorem dX0_saves_0 : decode cX0_saves 0 = .ok (.aload_n 0, 1) := dk_42 (dk_at dksX0_saves_0 0 rfl rfl)
theorem dX0_saves_1 : decode cX0_saves 1 = .ok (.getfield 63, 3) := dk_180 0 63 (dk_at dksX0_saves_0 1 rfl rfl)
theorem dX0_saves_4 : decode cX0_saves 4 = .ok (.getfield 119, 3) := dk_180 0 119 (dk_at dksX0_saves_0 4 rfl rfl)
theorem dX0_saves_7 : decode cX0_saves 7 = .ok (.iload_n 1, 1) := dk_27 (dk_at dksX0_saves_0 7 rfl rfl)
theorem dX0_saves_8 : decode cX0_saves 8 = .ok (.invokevirtual 123, 3) := dk_182 0 123 (dk_at dksX0_saves_0 8 rfl rfl)
theorem dX0_saves_11 : decode cX0_saves 11 = .ok (.ifCond .eq 33, 3) := dk_153 0 33 (dk_at dksX0_saves_0 11 rfl rfl)
theorem dX0_saves_14 : decode cX0_saves 14 = .ok (.aload_n 0, 1) := dk_42 (dk_at dksX0_saves_0 14 rfl rfl)
theorem dX0_saves_15 : decode cX0_saves 15 = .ok (.getfield 63, 3) := dk_180 0 63 (dk_at dksX0_saves_0 15 rfl rfl)
theorem dX0_saves_18 : decode cX0_saves 18 = .ok (.getfield 119, 3) := dk_180 0 119 (dk_at dksX0_saves_0 18 rfl rfl)
theorem dX0_saves_21 : decode cX0_saves 21 = .ok (.iload_n 1, 1) := dk_27 (dk_at dksX0_saves_0 21 rfl rfl)
theorem dX0_saves_22 : decode cX0_saves 22 = .ok (.invokevirtual 157, 3) := dk_182 0 157 (dk_at dksX0_saves_1 0 rfl rfl)
theorem dX0_saves_25 : decode cX0_saves 25 = .ok (.checkcast 176, 3) := dk_192 0 176 (dk_at dksX0_saves_1 3 rfl rfl)
theorem dX0_saves_28 : decode cX0_saves 28 = .ok (.getfield 201, 3) := dk_180 0 201 (dk_at dksX0_saves_1 6 rfl rfl)
theorem dX0_saves_31 : decode cX0_saves 31 = .ok (.ifCond .ne 13, 3) := dk_154 0 13 (dk_at dksX0_saves_1 9 rfl rfl)
theorem dX0_saves_34 : decode cX0_saves 34 = .ok (.aload_n 0, 1) := dk_42 (dk_at dksX0_saves_1 12 rfl rfl)
theorem dX0_saves_35 : decode cX0_saves 35 = .ok (.getfield 63, 3) := dk_180 0 63 (dk_at dksX0_saves_1 13 rfl rfl)
theorem dX0_saves_38 : decode cX0_saves 38 = .ok (.invokevirtual 320, 3) := dk_182 1 64 (dk_at dksX0_saves_1 16 rfl rfl)
theorem dX0_saves_41 : decode cX0_saves 41 = .ok (.ifCond .ne 7, 3) := dk_154 0 7 (dk_at dksX0_saves_1 19 rfl rfl)
theorem dX0_saves_44 : decode cX0_saves 44 = .ok (.sipush (-10000), 3) := dk_17 216 240 (dk_at dksX0_saves_2 0 rfl rfl)
theorem dX0_saves_47 : decode cX0_saves 47 = .ok (.ireturn, 1) := dk_172 (dk_at dksX0_saves_2 3 rfl rfl)
theorem dX0_saves_48 : decode cX0_saves 48 = .ok (.aload_n 0, 1) := dk_42 (dk_at dksX0_saves_2 4 rfl rfl)
theorem dX0_saves_49 : decode cX0_saves 49 = .ok (.getfield 63, 3) := dk_180 0 63 (dk_at dksX0_saves_2 5 rfl rfl)
theorem dX0_saves_52 : decode cX0_saves 52 = .ok (.invokevirtual 323, 3) := dk_182 1 67 (dk_at dksX0_saves_2 8 rfl rfl)
theorem dX0_saves_55 : decode cX0_saves 55 = .ok (.astore_n 2, 1) := dk_77 (dk_at dksX0_saves_2 11 rfl rfl)
theorem dX0_saves_56 : decode cX0_saves 56 = .ok (.aload_n 0, 1) := dk_42 (dk_at dksX0_saves_2 12 rfl rfl)
theorem dX0_saves_57 : decode cX0_saves 57 = .ok (.getfield 63, 3) := dk_180 0 63 (dk_at dksX0_saves_2 13 rfl rfl)
theorem dX0_saves_60 : decode cX0_saves 60 = .ok (.aload_n 2, 1) := dk_44 (dk_at dksX0_saves_2 16 rfl rfl)
theorem dX0_saves_61 : decode cX0_saves 61 = .ok (.invokevirtual 258, 3) := dk_182 1 2 (dk_at dksX0_saves_2 17 rfl rfl)
theorem dX0_saves_64 : decode cX0_saves 64 = .ok (.aload_n 0, 1) := dk_42 (dk_at dksX0_saves_2 20 rfl rfl)
theorem dX0_saves_65 : decode cX0_saves 65 = .ok (.aload_n 2, 1) := dk_44 (dk_at dksX0_saves_2 21 rfl rfl)
theorem dX0_saves_66 : decode cX0_saves 66 = .ok (.iload_n 1, 1) := dk_27 (dk_at dksX0_saves_2 22 rfl rfl)
theorem dX0_saves_67 : decode cX0_saves 67 = .ok (.invokevirtual 282, 3) := dk_182 1 26 (dk_at dksX0_saves_3 0 rfl rfl)
theorem dX0_saves_70 : decode cX0_saves 70 = .ok (.isub, 1) := dk_100 (dk_at dksX0_saves_3 3 rfl rfl)
theorem dX0_saves_71 : decode cX0_saves 71 = .ok (.ireturn, 1) := dk_172 (dk_at dksX0_saves_3 4 rfl rfl)
abbrev cX0_thirstIn : ByteArray := prog_1_method_37_code
def yX0_thirstIn : MethodName := ⟨RX0, "thirstIn", "(I)I"⟩
def dkwX0_thirstIn_1 : List UInt8 := [182, 1, 74, 167, 0, 5, 16, 254, 172]
abbrev dktX0_thirstIn_1 : List UInt8 := dkwX0_thirstIn_1 ++ []
def dkwX0_thirstIn_0 : List UInt8 := [27, 3, 16, 30, 184, 0, 3, 153, 0, 21, 187, 0, 60, 89, 42, 180, 0, 63, 183, 1, 71, 27]
abbrev dktX0_thirstIn_0 : List UInt8 := dkwX0_thirstIn_0 ++ dktX0_thirstIn_1
theorem dksX0_thirstIn_0 : cX0_thirstIn.data.toList.drop 0 = dktX0_thirstIn_0 := by decide +kernel
theorem dksX0_thirstIn_1 : cX0_thirstIn.data.toList.drop 22 = dktX0_thirstIn_1 := dk_seg dksX0_thirstIn_0 22 rfl rfl
theorem dX0_thirstIn_0 : decode cX0_thirstIn 0 = .ok (.iload_n 1, 1) := dk_27 (dk_at dksX0_thirstIn_0 0 rfl rfl)
theorem dX0_thirstIn_1 : decode cX0_thirstIn 1 = .ok (.iconst 0, 1) := dk_3 (dk_at dksX0_thirstIn_0 1 rfl rfl)
theorem dX0_thirstIn_2 : decode cX0_thirstIn 2 = .ok (.bipush 30, 2) := dk_16 30 (dk_at dksX0_thirstIn_0 2 rfl rfl)
theorem dX0_thirstIn_4 : decode cX0_thirstIn 4 = .ok (.invokestatic 3, 3) := dk_184 0 3 (dk_at dksX0_thirstIn_0 4 rfl rfl)
theorem dX0_thirstIn_7 : decode cX0_thirstIn 7 = .ok (.ifCond .eq 21, 3) := dk_153 0 21 (dk_at dksX0_thirstIn_0 7 rfl rfl)
theorem dX0_thirstIn_10 : decode cX0_thirstIn 10 = .ok (.new 60, 3) := dk_187 0 60 (dk_at dksX0_thirstIn_0 10 rfl rfl)
theorem dX0_thirstIn_13 : decode cX0_thirstIn 13 = .ok (.dup, 1) := dk_89 (dk_at dksX0_thirstIn_0 13 rfl rfl)
theorem dX0_thirstIn_14 : decode cX0_thirstIn 14 = .ok (.aload_n 0, 1) := dk_42 (dk_at dksX0_thirstIn_0 14 rfl rfl)
theorem dX0_thirstIn_15 : decode cX0_thirstIn 15 = .ok (.getfield 63, 3) := dk_180 0 63 (dk_at dksX0_thirstIn_0 15 rfl rfl)
theorem dX0_thirstIn_18 : decode cX0_thirstIn 18 = .ok (.invokespecial 327, 3) := dk_183 1 71 (dk_at dksX0_thirstIn_0 18 rfl rfl)
theorem dX0_thirstIn_21 : decode cX0_thirstIn 21 = .ok (.iload_n 1, 1) := dk_27 (dk_at dksX0_thirstIn_0 21 rfl rfl)
theorem dX0_thirstIn_22 : decode cX0_thirstIn 22 = .ok (.invokevirtual 330, 3) := dk_182 1 74 (dk_at dksX0_thirstIn_1 0 rfl rfl)
theorem dX0_thirstIn_25 : decode cX0_thirstIn 25 = .ok (.goto 5, 3) := dk_167 0 5 (dk_at dksX0_thirstIn_1 3 rfl rfl)
theorem dX0_thirstIn_28 : decode cX0_thirstIn 28 = .ok (.bipush (-2), 2) := dk_16 254 (dk_at dksX0_thirstIn_1 6 rfl rfl)
theorem dX0_thirstIn_30 : decode cX0_thirstIn 30 = .ok (.ireturn, 1) := dk_172 (dk_at dksX0_thirstIn_1 8 rfl rfl)
abbrev cX0_thirsty : ByteArray := prog_1_method_38_code
def yX0_thirsty : MethodName := ⟨RX0, "thirsty", "(I)I"⟩
def dkwX0_thirsty_1 : List UInt8 := [199, 0, 7, 2, 167, 0, 7, 44, 180, 0, 236, 172]
abbrev dktX0_thirsty_1 : List UInt8 := dkwX0_thirsty_1 ++ []
def dkwX0_thirsty_0 : List UInt8 := [42, 180, 0, 63, 180, 0, 154, 27, 187, 1, 77, 89, 183, 1, 79, 184, 1, 80, 192, 0, 160, 77, 44]
abbrev dktX0_thirsty_0 : List UInt8 := dkwX0_thirsty_0 ++ dktX0_thirsty_1
theorem dksX0_thirsty_0 : cX0_thirsty.data.toList.drop 0 = dktX0_thirsty_0 := by decide +kernel
theorem dksX0_thirsty_1 : cX0_thirsty.data.toList.drop 23 = dktX0_thirsty_1 := dk_seg dksX0_thirsty_0 23 rfl rfl
theorem dX0_thirsty_0 : decode cX0_thirsty 0 = .ok (.aload_n 0, 1) := dk_42 (dk_at dksX0_thirsty_0 0 rfl rfl)
theorem dX0_thirsty_1 : decode cX0_thirsty 1 = .ok (.getfield 63, 3) := dk_180 0 63 (dk_at dksX0_thirsty_0 1 rfl rfl)
theorem dX0_thirsty_4 : decode cX0_thirsty 4 = .ok (.getfield 154, 3) := dk_180 0 154 (dk_at dksX0_thirsty_0 4 rfl rfl)
theorem dX0_thirsty_7 : decode cX0_thirsty 7 = .ok (.iload_n 1, 1) := dk_27 (dk_at dksX0_thirsty_0 7 rfl rfl)
theorem dX0_thirsty_8 : decode cX0_thirsty 8 = .ok (.new 333, 3) := dk_187 1 77 (dk_at dksX0_thirsty_0 8 rfl rfl)
theorem dX0_thirsty_11 : decode cX0_thirsty 11 = .ok (.dup, 1) := dk_89 (dk_at dksX0_thirsty_0 11 rfl rfl)
theorem dX0_thirsty_12 : decode cX0_thirsty 12 = .ok (.invokespecial 335, 3) := dk_183 1 79 (dk_at dksX0_thirsty_0 12 rfl rfl)
theorem dX0_thirsty_15 : decode cX0_thirsty 15 = .ok (.invokestatic 336, 3) := dk_184 1 80 (dk_at dksX0_thirsty_0 15 rfl rfl)
theorem dX0_thirsty_18 : decode cX0_thirsty 18 = .ok (.checkcast 160, 3) := dk_192 0 160 (dk_at dksX0_thirsty_0 18 rfl rfl)
theorem dX0_thirsty_21 : decode cX0_thirsty 21 = .ok (.astore_n 2, 1) := dk_77 (dk_at dksX0_thirsty_0 21 rfl rfl)
theorem dX0_thirsty_22 : decode cX0_thirsty 22 = .ok (.aload_n 2, 1) := dk_44 (dk_at dksX0_thirsty_0 22 rfl rfl)
theorem dX0_thirsty_23 : decode cX0_thirsty 23 = .ok (.ifnonnull 7, 3) := dk_199 0 7 (dk_at dksX0_thirsty_1 0 rfl rfl)
theorem dX0_thirsty_26 : decode cX0_thirsty 26 = .ok (.iconst (-1), 1) := dk_2 (dk_at dksX0_thirsty_1 3 rfl rfl)
theorem dX0_thirsty_27 : decode cX0_thirsty 27 = .ok (.goto 7, 3) := dk_167 0 7 (dk_at dksX0_thirsty_1 4 rfl rfl)
theorem dX0_thirsty_30 : decode cX0_thirsty 30 = .ok (.aload_n 2, 1) := dk_44 (dk_at dksX0_thirsty_1 7 rfl rfl)
theorem dX0_thirsty_31 : decode cX0_thirsty 31 = .ok (.getfield 236, 3) := dk_180 0 236 (dk_at dksX0_thirsty_1 8 rfl rfl)
theorem dX0_thirsty_34 : decode cX0_thirsty 34 = .ok (.ireturn, 1) := dk_172 (dk_at dksX0_thirsty_1 11 rfl rfl)
abbrev cX0_placed : ByteArray := prog_1_method_11_code
def yX0_placed : MethodName := ⟨RX0, "placed", "(Ljava/lang/Iterable;ILjava/util/Comparator;)Ljava/lang/Object;"⟩
def dkwX0_placed_3 : List UInt8 := [182, 0, 54, 58, 4, 132, 5, 1, 167, 255, 230, 25, 4, 176]
abbrev dktX0_placed_3 : List UInt8 := dkwX0_placed_3 ++ []
def dkwX0_placed_2 : List UInt8 := [58, 4, 3, 54, 5, 27, 155, 0, 28, 21, 5, 27, 163, 0, 22, 21, 5, 16, 8, 163, 0, 15, 45]
abbrev dktX0_placed_2 : List UInt8 := dkwX0_placed_2 ++ dktX0_placed_3
def dkwX0_placed_1 : List UInt8 := [153, 0, 22, 25, 4, 185, 0, 30, 1, 0, 58, 5, 45, 25, 5, 182, 0, 51, 87, 167, 255, 230, 1]
abbrev dktX0_placed_1 : List UInt8 := dkwX0_placed_1 ++ dktX0_placed_2
def dkwX0_placed_0 : List UInt8 := [187, 0, 46, 89, 44, 183, 0, 48, 78, 42, 185, 0, 18, 1, 0, 58, 4, 25, 4, 185, 0, 24, 1, 0]
abbrev dktX0_placed_0 : List UInt8 := dkwX0_placed_0 ++ dktX0_placed_1
theorem dksX0_placed_0 : cX0_placed.data.toList.drop 0 = dktX0_placed_0 := by decide +kernel
theorem dksX0_placed_1 : cX0_placed.data.toList.drop 24 = dktX0_placed_1 := dk_seg dksX0_placed_0 24 rfl rfl
theorem dksX0_placed_2 : cX0_placed.data.toList.drop 47 = dktX0_placed_2 := dk_seg dksX0_placed_1 23 rfl rfl
theorem dksX0_placed_3 : cX0_placed.data.toList.drop 70 = dktX0_placed_3 := dk_seg dksX0_placed_2 23 rfl rfl
theorem dX0_placed_0 : decode cX0_placed 0 = .ok (.new 46, 3) := dk_187 0 46 (dk_at dksX0_placed_0 0 rfl rfl)
theorem dX0_placed_3 : decode cX0_placed 3 = .ok (.dup, 1) := dk_89 (dk_at dksX0_placed_0 3 rfl rfl)
theorem dX0_placed_4 : decode cX0_placed 4 = .ok (.aload_n 2, 1) := dk_44 (dk_at dksX0_placed_0 4 rfl rfl)
theorem dX0_placed_5 : decode cX0_placed 5 = .ok (.invokespecial 48, 3) := dk_183 0 48 (dk_at dksX0_placed_0 5 rfl rfl)
theorem dX0_placed_8 : decode cX0_placed 8 = .ok (.astore_n 3, 1) := dk_78 (dk_at dksX0_placed_0 8 rfl rfl)
theorem dX0_placed_9 : decode cX0_placed 9 = .ok (.aload_n 0, 1) := dk_42 (dk_at dksX0_placed_0 9 rfl rfl)
theorem dX0_placed_10 : decode cX0_placed 10 = .ok (.invokeinterface 18 1, 5) := by decide +kernel
theorem dX0_placed_15 : decode cX0_placed 15 = .ok (.astore 4, 2) := dk_58 4 (dk_at dksX0_placed_0 15 rfl rfl)
theorem dX0_placed_17 : decode cX0_placed 17 = .ok (.aload 4, 2) := dk_25 4 (dk_at dksX0_placed_0 17 rfl rfl)
theorem dX0_placed_19 : decode cX0_placed 19 = .ok (.invokeinterface 24 1, 5) := by decide +kernel
theorem dX0_placed_24 : decode cX0_placed 24 = .ok (.ifCond .eq 22, 3) := dk_153 0 22 (dk_at dksX0_placed_1 0 rfl rfl)
theorem dX0_placed_27 : decode cX0_placed 27 = .ok (.aload 4, 2) := dk_25 4 (dk_at dksX0_placed_1 3 rfl rfl)
theorem dX0_placed_29 : decode cX0_placed 29 = .ok (.invokeinterface 30 1, 5) := by decide +kernel
theorem dX0_placed_34 : decode cX0_placed 34 = .ok (.astore 5, 2) := dk_58 5 (dk_at dksX0_placed_1 10 rfl rfl)
theorem dX0_placed_36 : decode cX0_placed 36 = .ok (.aload_n 3, 1) := dk_45 (dk_at dksX0_placed_1 12 rfl rfl)
theorem dX0_placed_37 : decode cX0_placed 37 = .ok (.aload 5, 2) := dk_25 5 (dk_at dksX0_placed_1 13 rfl rfl)
theorem dX0_placed_39 : decode cX0_placed 39 = .ok (.invokevirtual 51, 3) := dk_182 0 51 (dk_at dksX0_placed_1 15 rfl rfl)
theorem dX0_placed_42 : decode cX0_placed 42 = .ok (.pop, 1) := dk_87 (dk_at dksX0_placed_1 18 rfl rfl)
theorem dX0_placed_43 : decode cX0_placed 43 = .ok (.goto (-26), 3) := dk_167 255 230 (dk_at dksX0_placed_1 19 rfl rfl)
theorem dX0_placed_46 : decode cX0_placed 46 = .ok (.aconst_null, 1) := dk_1 (dk_at dksX0_placed_1 22 rfl rfl)
theorem dX0_placed_47 : decode cX0_placed 47 = .ok (.astore 4, 2) := dk_58 4 (dk_at dksX0_placed_2 0 rfl rfl)
theorem dX0_placed_49 : decode cX0_placed 49 = .ok (.iconst 0, 1) := dk_3 (dk_at dksX0_placed_2 2 rfl rfl)
theorem dX0_placed_50 : decode cX0_placed 50 = .ok (.istore 5, 2) := dk_54 5 (dk_at dksX0_placed_2 3 rfl rfl)
theorem dX0_placed_52 : decode cX0_placed 52 = .ok (.iload_n 1, 1) := dk_27 (dk_at dksX0_placed_2 5 rfl rfl)
theorem dX0_placed_53 : decode cX0_placed 53 = .ok (.ifCond .lt 28, 3) := dk_155 0 28 (dk_at dksX0_placed_2 6 rfl rfl)
theorem dX0_placed_56 : decode cX0_placed 56 = .ok (.iload 5, 2) := dk_21 5 (dk_at dksX0_placed_2 9 rfl rfl)
theorem dX0_placed_58 : decode cX0_placed 58 = .ok (.iload_n 1, 1) := dk_27 (dk_at dksX0_placed_2 11 rfl rfl)
theorem dX0_placed_59 : decode cX0_placed 59 = .ok (.if_icmp .gt 22, 3) := dk_163 0 22 (dk_at dksX0_placed_2 12 rfl rfl)
theorem dX0_placed_62 : decode cX0_placed 62 = .ok (.iload 5, 2) := dk_21 5 (dk_at dksX0_placed_2 15 rfl rfl)
theorem dX0_placed_64 : decode cX0_placed 64 = .ok (.bipush 8, 2) := dk_16 8 (dk_at dksX0_placed_2 17 rfl rfl)
theorem dX0_placed_66 : decode cX0_placed 66 = .ok (.if_icmp .gt 15, 3) := dk_163 0 15 (dk_at dksX0_placed_2 19 rfl rfl)
theorem dX0_placed_69 : decode cX0_placed 69 = .ok (.aload_n 3, 1) := dk_45 (dk_at dksX0_placed_2 22 rfl rfl)
theorem dX0_placed_70 : decode cX0_placed 70 = .ok (.invokevirtual 54, 3) := dk_182 0 54 (dk_at dksX0_placed_3 0 rfl rfl)
theorem dX0_placed_73 : decode cX0_placed 73 = .ok (.astore 4, 2) := dk_58 4 (dk_at dksX0_placed_3 3 rfl rfl)
theorem dX0_placed_75 : decode cX0_placed 75 = .ok (.iinc 5 1, 3) := dk_132 5 1 (dk_at dksX0_placed_3 5 rfl rfl)
theorem dX0_placed_78 : decode cX0_placed 78 = .ok (.goto (-26), 3) := dk_167 255 230 (dk_at dksX0_placed_3 8 rfl rfl)
theorem dX0_placed_81 : decode cX0_placed 81 = .ok (.aload 4, 2) := dk_25 4 (dk_at dksX0_placed_3 11 rfl rfl)
theorem dX0_placed_83 : decode cX0_placed 83 = .ok (.areturn, 1) := dk_176 (dk_at dksX0_placed_3 13 rfl rfl)
abbrev cX0_strained : ByteArray := prog_1_method_39_code
def yX0_strained : MethodName := ⟨RX0, "strained", "(I)I"⟩
def dkwX0_strained_3 : List UInt8 := [184, 1, 80, 192, 0, 176, 78, 45, 199, 0, 7, 2, 167, 0, 7, 45, 180, 0, 175, 172]
abbrev dktX0_strained_3 : List UInt8 := dkwX0_strained_3 ++ []
def dkwX0_strained_2 : List UInt8 := [153, 0, 9, 44, 25, 4, 182, 1, 38, 167, 255, 222, 44, 27, 187, 1, 85, 89, 42, 183, 1, 87]
abbrev dktX0_strained_2 : List UInt8 := dkwX0_strained_2 ++ dktX0_strained_3
def dkwX0_strained_1 : List UInt8 := [185, 0, 24, 1, 0, 153, 0, 31, 45, 185, 0, 30, 1, 0, 192, 0, 176, 58, 4, 25, 4, 180, 0, 201]
abbrev dktX0_strained_1 : List UInt8 := dkwX0_strained_1 ++ dktX0_strained_2
def dkwX0_strained_0 : List UInt8 := [187, 0, 225, 89, 183, 1, 32, 77, 42, 180, 0, 63, 180, 0, 119, 182, 1, 84, 78, 45]
abbrev dktX0_strained_0 : List UInt8 := dkwX0_strained_0 ++ dktX0_strained_1
theorem dksX0_strained_0 : cX0_strained.data.toList.drop 0 = dktX0_strained_0 := by decide +kernel
theorem dksX0_strained_1 : cX0_strained.data.toList.drop 20 = dktX0_strained_1 := dk_seg dksX0_strained_0 20 rfl rfl
theorem dksX0_strained_2 : cX0_strained.data.toList.drop 44 = dktX0_strained_2 := dk_seg dksX0_strained_1 24 rfl rfl
theorem dksX0_strained_3 : cX0_strained.data.toList.drop 66 = dktX0_strained_3 := dk_seg dksX0_strained_2 22 rfl rfl
theorem dX0_strained_0 : decode cX0_strained 0 = .ok (.new 225, 3) := dk_187 0 225 (dk_at dksX0_strained_0 0 rfl rfl)
theorem dX0_strained_3 : decode cX0_strained 3 = .ok (.dup, 1) := dk_89 (dk_at dksX0_strained_0 3 rfl rfl)
theorem dX0_strained_4 : decode cX0_strained 4 = .ok (.invokespecial 288, 3) := dk_183 1 32 (dk_at dksX0_strained_0 4 rfl rfl)
theorem dX0_strained_7 : decode cX0_strained 7 = .ok (.astore_n 2, 1) := dk_77 (dk_at dksX0_strained_0 7 rfl rfl)
theorem dX0_strained_8 : decode cX0_strained 8 = .ok (.aload_n 0, 1) := dk_42 (dk_at dksX0_strained_0 8 rfl rfl)
theorem dX0_strained_9 : decode cX0_strained 9 = .ok (.getfield 63, 3) := dk_180 0 63 (dk_at dksX0_strained_0 9 rfl rfl)
theorem dX0_strained_12 : decode cX0_strained 12 = .ok (.getfield 119, 3) := dk_180 0 119 (dk_at dksX0_strained_0 12 rfl rfl)
theorem dX0_strained_15 : decode cX0_strained 15 = .ok (.invokevirtual 340, 3) := dk_182 1 84 (dk_at dksX0_strained_0 15 rfl rfl)
theorem dX0_strained_18 : decode cX0_strained 18 = .ok (.astore_n 3, 1) := dk_78 (dk_at dksX0_strained_0 18 rfl rfl)
theorem dX0_strained_19 : decode cX0_strained 19 = .ok (.aload_n 3, 1) := dk_45 (dk_at dksX0_strained_0 19 rfl rfl)
theorem dX0_strained_20 : decode cX0_strained 20 = .ok (.invokeinterface 24 1, 5) := by decide +kernel
theorem dX0_strained_25 : decode cX0_strained 25 = .ok (.ifCond .eq 31, 3) := dk_153 0 31 (dk_at dksX0_strained_1 5 rfl rfl)
theorem dX0_strained_28 : decode cX0_strained 28 = .ok (.aload_n 3, 1) := dk_45 (dk_at dksX0_strained_1 8 rfl rfl)
theorem dX0_strained_29 : decode cX0_strained 29 = .ok (.invokeinterface 30 1, 5) := by decide +kernel
theorem dX0_strained_34 : decode cX0_strained 34 = .ok (.checkcast 176, 3) := dk_192 0 176 (dk_at dksX0_strained_1 14 rfl rfl)
theorem dX0_strained_37 : decode cX0_strained 37 = .ok (.astore 4, 2) := dk_58 4 (dk_at dksX0_strained_1 17 rfl rfl)
theorem dX0_strained_39 : decode cX0_strained 39 = .ok (.aload 4, 2) := dk_25 4 (dk_at dksX0_strained_1 19 rfl rfl)
theorem dX0_strained_41 : decode cX0_strained 41 = .ok (.getfield 201, 3) := dk_180 0 201 (dk_at dksX0_strained_1 21 rfl rfl)
theorem dX0_strained_44 : decode cX0_strained 44 = .ok (.ifCond .eq 9, 3) := dk_153 0 9 (dk_at dksX0_strained_2 0 rfl rfl)
theorem dX0_strained_47 : decode cX0_strained 47 = .ok (.aload_n 2, 1) := dk_44 (dk_at dksX0_strained_2 3 rfl rfl)
theorem dX0_strained_48 : decode cX0_strained 48 = .ok (.aload 4, 2) := dk_25 4 (dk_at dksX0_strained_2 4 rfl rfl)
theorem dX0_strained_50 : decode cX0_strained 50 = .ok (.invokevirtual 294, 3) := dk_182 1 38 (dk_at dksX0_strained_2 6 rfl rfl)
theorem dX0_strained_53 : decode cX0_strained 53 = .ok (.goto (-34), 3) := dk_167 255 222 (dk_at dksX0_strained_2 9 rfl rfl)
theorem dX0_strained_56 : decode cX0_strained 56 = .ok (.aload_n 2, 1) := dk_44 (dk_at dksX0_strained_2 12 rfl rfl)
theorem dX0_strained_57 : decode cX0_strained 57 = .ok (.iload_n 1, 1) := dk_27 (dk_at dksX0_strained_2 13 rfl rfl)
theorem dX0_strained_58 : decode cX0_strained 58 = .ok (.new 341, 3) := dk_187 1 85 (dk_at dksX0_strained_2 14 rfl rfl)
theorem dX0_strained_61 : decode cX0_strained 61 = .ok (.dup, 1) := dk_89 (dk_at dksX0_strained_2 17 rfl rfl)
theorem dX0_strained_62 : decode cX0_strained 62 = .ok (.aload_n 0, 1) := dk_42 (dk_at dksX0_strained_2 18 rfl rfl)
theorem dX0_strained_63 : decode cX0_strained 63 = .ok (.invokespecial 343, 3) := dk_183 1 87 (dk_at dksX0_strained_2 19 rfl rfl)
theorem dX0_strained_66 : decode cX0_strained 66 = .ok (.invokestatic 336, 3) := dk_184 1 80 (dk_at dksX0_strained_3 0 rfl rfl)
theorem dX0_strained_69 : decode cX0_strained 69 = .ok (.checkcast 176, 3) := dk_192 0 176 (dk_at dksX0_strained_3 3 rfl rfl)
theorem dX0_strained_72 : decode cX0_strained 72 = .ok (.astore_n 3, 1) := dk_78 (dk_at dksX0_strained_3 6 rfl rfl)
theorem dX0_strained_73 : decode cX0_strained 73 = .ok (.aload_n 3, 1) := dk_45 (dk_at dksX0_strained_3 7 rfl rfl)
theorem dX0_strained_74 : decode cX0_strained 74 = .ok (.ifnonnull 7, 3) := dk_199 0 7 (dk_at dksX0_strained_3 8 rfl rfl)
theorem dX0_strained_77 : decode cX0_strained 77 = .ok (.iconst (-1), 1) := dk_2 (dk_at dksX0_strained_3 11 rfl rfl)
theorem dX0_strained_78 : decode cX0_strained 78 = .ok (.goto 7, 3) := dk_167 0 7 (dk_at dksX0_strained_3 12 rfl rfl)
theorem dX0_strained_81 : decode cX0_strained 81 = .ok (.aload_n 3, 1) := dk_45 (dk_at dksX0_strained_3 15 rfl rfl)
theorem dX0_strained_82 : decode cX0_strained 82 = .ok (.getfield 175, 3) := dk_180 0 175 (dk_at dksX0_strained_3 16 rfl rfl)
theorem dX0_strained_85 : decode cX0_strained 85 = .ok (.ireturn, 1) := dk_172 (dk_at dksX0_strained_3 19 rfl rfl)
abbrev cX0_isCounted : ByteArray := prog_1_method_40_code
def yX0_isCounted : MethodName := ⟨RX0, "isCounted", "()Z"⟩
def dkwX0_isCounted_8 : List UInt8 := [182, 1, 109, 160, 0, 7, 4, 167, 0, 4, 3, 172]
abbrev dktX0_isCounted_8 : List UInt8 := dkwX0_isCounted_8 ++ []
def dkwX0_isCounted_7 : List UInt8 := [187, 1, 103, 89, 183, 1, 105, 184, 1, 96, 42, 180, 0, 63, 180, 1, 106, 96, 6, 160, 0, 15, 29, 42]
abbrev dktX0_isCounted_7 : List UInt8 := dkwX0_isCounted_7 ++ dktX0_isCounted_8
def dkwX0_isCounted_6 : List UInt8 := [167, 0, 4, 3, 54, 5, 21, 4, 153, 0, 49, 21, 5, 153, 0, 44, 42, 180, 0, 63, 180, 0, 119]
abbrev dktX0_isCounted_6 : List UInt8 := dkwX0_isCounted_6 ++ dktX0_isCounted_7
def dkwX0_isCounted_5 : List UInt8 := [184, 1, 96, 42, 180, 0, 63, 180, 0, 154, 187, 1, 100, 89, 183, 1, 102, 184, 1, 96, 160, 0, 7, 4]
abbrev dktX0_isCounted_5 : List UInt8 := dkwX0_isCounted_5 ++ dktX0_isCounted_6
def dkwX0_isCounted_4 : List UInt8 := [160, 0, 7, 4, 167, 0, 4, 3, 54, 4, 42, 180, 0, 63, 180, 0, 119, 187, 1, 93, 89, 183, 1, 95]
abbrev dktX0_isCounted_4 : List UInt8 := dkwX0_isCounted_4 ++ dktX0_isCounted_5
def dkwX0_isCounted_3 : List UInt8 := [42, 180, 0, 63, 182, 1, 64, 158, 0, 16, 42, 180, 0, 63, 180, 0, 154, 182, 0, 237, 167, 0, 4, 3]
abbrev dktX0_isCounted_3 : List UInt8 := dkwX0_isCounted_3 ++ dktX0_isCounted_4
def dkwX0_isCounted_2 : List UInt8 := [167, 255, 223, 42, 182, 1, 88, 61, 28, 156, 0, 8, 16, 250, 167, 0, 8, 42, 28, 182, 1, 91, 62, 27]
abbrev dktX0_isCounted_2 : List UInt8 := dkwX0_isCounted_2 ++ dktX0_isCounted_3
def dkwX0_isCounted_1 : List UInt8 := [185, 0, 30, 1, 0, 192, 0, 176, 78, 27, 42, 180, 0, 63, 45, 182, 0, 220, 182, 0, 224, 96, 60]
abbrev dktX0_isCounted_1 : List UInt8 := dkwX0_isCounted_1 ++ dktX0_isCounted_2
def dkwX0_isCounted_0 : List UInt8 := [3, 60, 42, 180, 0, 63, 180, 0, 119, 182, 1, 84, 77, 44, 185, 0, 24, 1, 0, 153, 0, 30, 44]
abbrev dktX0_isCounted_0 : List UInt8 := dkwX0_isCounted_0 ++ dktX0_isCounted_1
theorem dksX0_isCounted_0 : cX0_isCounted.data.toList.drop 0 = dktX0_isCounted_0 := by decide +kernel
theorem dksX0_isCounted_1 : cX0_isCounted.data.toList.drop 23 = dktX0_isCounted_1 := dk_seg dksX0_isCounted_0 23 rfl rfl
theorem dksX0_isCounted_2 : cX0_isCounted.data.toList.drop 46 = dktX0_isCounted_2 := dk_seg dksX0_isCounted_1 23 rfl rfl
theorem dksX0_isCounted_3 : cX0_isCounted.data.toList.drop 70 = dktX0_isCounted_3 := dk_seg dksX0_isCounted_2 24 rfl rfl
theorem dksX0_isCounted_4 : cX0_isCounted.data.toList.drop 94 = dktX0_isCounted_4 := dk_seg dksX0_isCounted_3 24 rfl rfl
theorem dksX0_isCounted_5 : cX0_isCounted.data.toList.drop 118 = dktX0_isCounted_5 := dk_seg dksX0_isCounted_4 24 rfl rfl
theorem dksX0_isCounted_6 : cX0_isCounted.data.toList.drop 142 = dktX0_isCounted_6 := dk_seg dksX0_isCounted_5 24 rfl rfl
theorem dksX0_isCounted_7 : cX0_isCounted.data.toList.drop 165 = dktX0_isCounted_7 := dk_seg dksX0_isCounted_6 23 rfl rfl
theorem dksX0_isCounted_8 : cX0_isCounted.data.toList.drop 189 = dktX0_isCounted_8 := dk_seg dksX0_isCounted_7 24 rfl rfl
theorem dX0_isCounted_0 : decode cX0_isCounted 0 = .ok (.iconst 0, 1) := dk_3 (dk_at dksX0_isCounted_0 0 rfl rfl)
theorem dX0_isCounted_1 : decode cX0_isCounted 1 = .ok (.istore_n 1, 1) := dk_60 (dk_at dksX0_isCounted_0 1 rfl rfl)
theorem dX0_isCounted_2 : decode cX0_isCounted 2 = .ok (.aload_n 0, 1) := dk_42 (dk_at dksX0_isCounted_0 2 rfl rfl)
theorem dX0_isCounted_3 : decode cX0_isCounted 3 = .ok (.getfield 63, 3) := dk_180 0 63 (dk_at dksX0_isCounted_0 3 rfl rfl)
theorem dX0_isCounted_6 : decode cX0_isCounted 6 = .ok (.getfield 119, 3) := dk_180 0 119 (dk_at dksX0_isCounted_0 6 rfl rfl)
theorem dX0_isCounted_9 : decode cX0_isCounted 9 = .ok (.invokevirtual 340, 3) := dk_182 1 84 (dk_at dksX0_isCounted_0 9 rfl rfl)
theorem dX0_isCounted_12 : decode cX0_isCounted 12 = .ok (.astore_n 2, 1) := dk_77 (dk_at dksX0_isCounted_0 12 rfl rfl)
theorem dX0_isCounted_13 : decode cX0_isCounted 13 = .ok (.aload_n 2, 1) := dk_44 (dk_at dksX0_isCounted_0 13 rfl rfl)
theorem dX0_isCounted_14 : decode cX0_isCounted 14 = .ok (.invokeinterface 24 1, 5) := by decide +kernel
theorem dX0_isCounted_19 : decode cX0_isCounted 19 = .ok (.ifCond .eq 30, 3) := dk_153 0 30 (dk_at dksX0_isCounted_0 19 rfl rfl)
theorem dX0_isCounted_22 : decode cX0_isCounted 22 = .ok (.aload_n 2, 1) := dk_44 (dk_at dksX0_isCounted_0 22 rfl rfl)
theorem dX0_isCounted_23 : decode cX0_isCounted 23 = .ok (.invokeinterface 30 1, 5) := by decide +kernel
theorem dX0_isCounted_28 : decode cX0_isCounted 28 = .ok (.checkcast 176, 3) := dk_192 0 176 (dk_at dksX0_isCounted_1 5 rfl rfl)
theorem dX0_isCounted_31 : decode cX0_isCounted 31 = .ok (.astore_n 3, 1) := dk_78 (dk_at dksX0_isCounted_1 8 rfl rfl)
theorem dX0_isCounted_32 : decode cX0_isCounted 32 = .ok (.iload_n 1, 1) := dk_27 (dk_at dksX0_isCounted_1 9 rfl rfl)
theorem dX0_isCounted_33 : decode cX0_isCounted 33 = .ok (.aload_n 0, 1) := dk_42 (dk_at dksX0_isCounted_1 10 rfl rfl)
theorem dX0_isCounted_34 : decode cX0_isCounted 34 = .ok (.getfield 63, 3) := dk_180 0 63 (dk_at dksX0_isCounted_1 11 rfl rfl)
theorem dX0_isCounted_37 : decode cX0_isCounted 37 = .ok (.aload_n 3, 1) := dk_45 (dk_at dksX0_isCounted_1 14 rfl rfl)
theorem dX0_isCounted_38 : decode cX0_isCounted 38 = .ok (.invokevirtual 220, 3) := dk_182 0 220 (dk_at dksX0_isCounted_1 15 rfl rfl)
theorem dX0_isCounted_41 : decode cX0_isCounted 41 = .ok (.invokevirtual 224, 3) := dk_182 0 224 (dk_at dksX0_isCounted_1 18 rfl rfl)
theorem dX0_isCounted_44 : decode cX0_isCounted 44 = .ok (.iadd, 1) := dk_96 (dk_at dksX0_isCounted_1 21 rfl rfl)
theorem dX0_isCounted_45 : decode cX0_isCounted 45 = .ok (.istore_n 1, 1) := dk_60 (dk_at dksX0_isCounted_1 22 rfl rfl)
theorem dX0_isCounted_46 : decode cX0_isCounted 46 = .ok (.goto (-33), 3) := dk_167 255 223 (dk_at dksX0_isCounted_2 0 rfl rfl)
theorem dX0_isCounted_49 : decode cX0_isCounted 49 = .ok (.aload_n 0, 1) := dk_42 (dk_at dksX0_isCounted_2 3 rfl rfl)
theorem dX0_isCounted_50 : decode cX0_isCounted 50 = .ok (.invokevirtual 344, 3) := dk_182 1 88 (dk_at dksX0_isCounted_2 4 rfl rfl)
theorem dX0_isCounted_53 : decode cX0_isCounted 53 = .ok (.istore_n 2, 1) := dk_61 (dk_at dksX0_isCounted_2 7 rfl rfl)
theorem dX0_isCounted_54 : decode cX0_isCounted 54 = .ok (.iload_n 2, 1) := dk_28 (dk_at dksX0_isCounted_2 8 rfl rfl)
theorem dX0_isCounted_55 : decode cX0_isCounted 55 = .ok (.ifCond .ge 8, 3) := dk_156 0 8 (dk_at dksX0_isCounted_2 9 rfl rfl)
theorem dX0_isCounted_58 : decode cX0_isCounted 58 = .ok (.bipush (-6), 2) := dk_16 250 (dk_at dksX0_isCounted_2 12 rfl rfl)
theorem dX0_isCounted_60 : decode cX0_isCounted 60 = .ok (.goto 8, 3) := dk_167 0 8 (dk_at dksX0_isCounted_2 14 rfl rfl)
theorem dX0_isCounted_63 : decode cX0_isCounted 63 = .ok (.aload_n 0, 1) := dk_42 (dk_at dksX0_isCounted_2 17 rfl rfl)
theorem dX0_isCounted_64 : decode cX0_isCounted 64 = .ok (.iload_n 2, 1) := dk_28 (dk_at dksX0_isCounted_2 18 rfl rfl)
theorem dX0_isCounted_65 : decode cX0_isCounted 65 = .ok (.invokevirtual 347, 3) := dk_182 1 91 (dk_at dksX0_isCounted_2 19 rfl rfl)
theorem dX0_isCounted_68 : decode cX0_isCounted 68 = .ok (.istore_n 3, 1) := dk_62 (dk_at dksX0_isCounted_2 22 rfl rfl)
theorem dX0_isCounted_69 : decode cX0_isCounted 69 = .ok (.iload_n 1, 1) := dk_27 (dk_at dksX0_isCounted_2 23 rfl rfl)
theorem dX0_isCounted_70 : decode cX0_isCounted 70 = .ok (.aload_n 0, 1) := dk_42 (dk_at dksX0_isCounted_3 0 rfl rfl)
theorem dX0_isCounted_71 : decode cX0_isCounted 71 = .ok (.getfield 63, 3) := dk_180 0 63 (dk_at dksX0_isCounted_3 1 rfl rfl)
theorem dX0_isCounted_74 : decode cX0_isCounted 74 = .ok (.invokevirtual 320, 3) := dk_182 1 64 (dk_at dksX0_isCounted_3 4 rfl rfl)
theorem dX0_isCounted_77 : decode cX0_isCounted 77 = .ok (.ifCond .le 16, 3) := dk_158 0 16 (dk_at dksX0_isCounted_3 7 rfl rfl)
theorem dX0_isCounted_80 : decode cX0_isCounted 80 = .ok (.aload_n 0, 1) := dk_42 (dk_at dksX0_isCounted_3 10 rfl rfl)
theorem dX0_isCounted_81 : decode cX0_isCounted 81 = .ok (.getfield 63, 3) := dk_180 0 63 (dk_at dksX0_isCounted_3 11 rfl rfl)
theorem dX0_isCounted_84 : decode cX0_isCounted 84 = .ok (.getfield 154, 3) := dk_180 0 154 (dk_at dksX0_isCounted_3 14 rfl rfl)
theorem dX0_isCounted_87 : decode cX0_isCounted 87 = .ok (.invokevirtual 237, 3) := dk_182 0 237 (dk_at dksX0_isCounted_3 17 rfl rfl)
theorem dX0_isCounted_90 : decode cX0_isCounted 90 = .ok (.goto 4, 3) := dk_167 0 4 (dk_at dksX0_isCounted_3 20 rfl rfl)
theorem dX0_isCounted_93 : decode cX0_isCounted 93 = .ok (.iconst 0, 1) := dk_3 (dk_at dksX0_isCounted_3 23 rfl rfl)
theorem dX0_isCounted_94 : decode cX0_isCounted 94 = .ok (.if_icmp .ne 7, 3) := dk_160 0 7 (dk_at dksX0_isCounted_4 0 rfl rfl)
theorem dX0_isCounted_97 : decode cX0_isCounted 97 = .ok (.iconst 1, 1) := dk_4 (dk_at dksX0_isCounted_4 3 rfl rfl)
theorem dX0_isCounted_98 : decode cX0_isCounted 98 = .ok (.goto 4, 3) := dk_167 0 4 (dk_at dksX0_isCounted_4 4 rfl rfl)
theorem dX0_isCounted_101 : decode cX0_isCounted 101 = .ok (.iconst 0, 1) := dk_3 (dk_at dksX0_isCounted_4 7 rfl rfl)
theorem dX0_isCounted_102 : decode cX0_isCounted 102 = .ok (.istore 4, 2) := dk_54 4 (dk_at dksX0_isCounted_4 8 rfl rfl)
theorem dX0_isCounted_104 : decode cX0_isCounted 104 = .ok (.aload_n 0, 1) := dk_42 (dk_at dksX0_isCounted_4 10 rfl rfl)
theorem dX0_isCounted_105 : decode cX0_isCounted 105 = .ok (.getfield 63, 3) := dk_180 0 63 (dk_at dksX0_isCounted_4 11 rfl rfl)
theorem dX0_isCounted_108 : decode cX0_isCounted 108 = .ok (.getfield 119, 3) := dk_180 0 119 (dk_at dksX0_isCounted_4 14 rfl rfl)
theorem dX0_isCounted_111 : decode cX0_isCounted 111 = .ok (.new 349, 3) := dk_187 1 93 (dk_at dksX0_isCounted_4 17 rfl rfl)
theorem dX0_isCounted_114 : decode cX0_isCounted 114 = .ok (.dup, 1) := dk_89 (dk_at dksX0_isCounted_4 20 rfl rfl)
theorem dX0_isCounted_115 : decode cX0_isCounted 115 = .ok (.invokespecial 351, 3) := dk_183 1 95 (dk_at dksX0_isCounted_4 21 rfl rfl)
theorem dX0_isCounted_118 : decode cX0_isCounted 118 = .ok (.invokestatic 352, 3) := dk_184 1 96 (dk_at dksX0_isCounted_5 0 rfl rfl)
theorem dX0_isCounted_121 : decode cX0_isCounted 121 = .ok (.aload_n 0, 1) := dk_42 (dk_at dksX0_isCounted_5 3 rfl rfl)
theorem dX0_isCounted_122 : decode cX0_isCounted 122 = .ok (.getfield 63, 3) := dk_180 0 63 (dk_at dksX0_isCounted_5 4 rfl rfl)
theorem dX0_isCounted_125 : decode cX0_isCounted 125 = .ok (.getfield 154, 3) := dk_180 0 154 (dk_at dksX0_isCounted_5 7 rfl rfl)
theorem dX0_isCounted_128 : decode cX0_isCounted 128 = .ok (.new 356, 3) := dk_187 1 100 (dk_at dksX0_isCounted_5 10 rfl rfl)
theorem dX0_isCounted_131 : decode cX0_isCounted 131 = .ok (.dup, 1) := dk_89 (dk_at dksX0_isCounted_5 13 rfl rfl)
theorem dX0_isCounted_132 : decode cX0_isCounted 132 = .ok (.invokespecial 358, 3) := dk_183 1 102 (dk_at dksX0_isCounted_5 14 rfl rfl)
theorem dX0_isCounted_135 : decode cX0_isCounted 135 = .ok (.invokestatic 352, 3) := dk_184 1 96 (dk_at dksX0_isCounted_5 17 rfl rfl)
theorem dX0_isCounted_138 : decode cX0_isCounted 138 = .ok (.if_icmp .ne 7, 3) := dk_160 0 7 (dk_at dksX0_isCounted_5 20 rfl rfl)
theorem dX0_isCounted_141 : decode cX0_isCounted 141 = .ok (.iconst 1, 1) := dk_4 (dk_at dksX0_isCounted_5 23 rfl rfl)
theorem dX0_isCounted_142 : decode cX0_isCounted 142 = .ok (.goto 4, 3) := dk_167 0 4 (dk_at dksX0_isCounted_6 0 rfl rfl)
theorem dX0_isCounted_145 : decode cX0_isCounted 145 = .ok (.iconst 0, 1) := dk_3 (dk_at dksX0_isCounted_6 3 rfl rfl)
theorem dX0_isCounted_146 : decode cX0_isCounted 146 = .ok (.istore 5, 2) := dk_54 5 (dk_at dksX0_isCounted_6 4 rfl rfl)
theorem dX0_isCounted_148 : decode cX0_isCounted 148 = .ok (.iload 4, 2) := dk_21 4 (dk_at dksX0_isCounted_6 6 rfl rfl)
theorem dX0_isCounted_150 : decode cX0_isCounted 150 = .ok (.ifCond .eq 49, 3) := dk_153 0 49 (dk_at dksX0_isCounted_6 8 rfl rfl)
theorem dX0_isCounted_153 : decode cX0_isCounted 153 = .ok (.iload 5, 2) := dk_21 5 (dk_at dksX0_isCounted_6 11 rfl rfl)
theorem dX0_isCounted_155 : decode cX0_isCounted 155 = .ok (.ifCond .eq 44, 3) := dk_153 0 44 (dk_at dksX0_isCounted_6 13 rfl rfl)
theorem dX0_isCounted_158 : decode cX0_isCounted 158 = .ok (.aload_n 0, 1) := dk_42 (dk_at dksX0_isCounted_6 16 rfl rfl)
theorem dX0_isCounted_159 : decode cX0_isCounted 159 = .ok (.getfield 63, 3) := dk_180 0 63 (dk_at dksX0_isCounted_6 17 rfl rfl)
theorem dX0_isCounted_162 : decode cX0_isCounted 162 = .ok (.getfield 119, 3) := dk_180 0 119 (dk_at dksX0_isCounted_6 20 rfl rfl)
theorem dX0_isCounted_165 : decode cX0_isCounted 165 = .ok (.new 359, 3) := dk_187 1 103 (dk_at dksX0_isCounted_7 0 rfl rfl)
theorem dX0_isCounted_168 : decode cX0_isCounted 168 = .ok (.dup, 1) := dk_89 (dk_at dksX0_isCounted_7 3 rfl rfl)
theorem dX0_isCounted_169 : decode cX0_isCounted 169 = .ok (.invokespecial 361, 3) := dk_183 1 105 (dk_at dksX0_isCounted_7 4 rfl rfl)
theorem dX0_isCounted_172 : decode cX0_isCounted 172 = .ok (.invokestatic 352, 3) := dk_184 1 96 (dk_at dksX0_isCounted_7 7 rfl rfl)
theorem dX0_isCounted_175 : decode cX0_isCounted 175 = .ok (.aload_n 0, 1) := dk_42 (dk_at dksX0_isCounted_7 10 rfl rfl)
theorem dX0_isCounted_176 : decode cX0_isCounted 176 = .ok (.getfield 63, 3) := dk_180 0 63 (dk_at dksX0_isCounted_7 11 rfl rfl)
theorem dX0_isCounted_179 : decode cX0_isCounted 179 = .ok (.getfield 362, 3) := dk_180 1 106 (dk_at dksX0_isCounted_7 14 rfl rfl)
theorem dX0_isCounted_182 : decode cX0_isCounted 182 = .ok (.iadd, 1) := dk_96 (dk_at dksX0_isCounted_7 17 rfl rfl)
theorem dX0_isCounted_183 : decode cX0_isCounted 183 = .ok (.iconst 3, 1) := dk_6 (dk_at dksX0_isCounted_7 18 rfl rfl)
theorem dX0_isCounted_184 : decode cX0_isCounted 184 = .ok (.if_icmp .ne 15, 3) := dk_160 0 15 (dk_at dksX0_isCounted_7 19 rfl rfl)
theorem dX0_isCounted_187 : decode cX0_isCounted 187 = .ok (.iload_n 3, 1) := dk_29 (dk_at dksX0_isCounted_7 22 rfl rfl)
theorem dX0_isCounted_188 : decode cX0_isCounted 188 = .ok (.aload_n 0, 1) := dk_42 (dk_at dksX0_isCounted_7 23 rfl rfl)
theorem dX0_isCounted_189 : decode cX0_isCounted 189 = .ok (.invokevirtual 365, 3) := dk_182 1 109 (dk_at dksX0_isCounted_8 0 rfl rfl)
theorem dX0_isCounted_192 : decode cX0_isCounted 192 = .ok (.if_icmp .ne 7, 3) := dk_160 0 7 (dk_at dksX0_isCounted_8 3 rfl rfl)
theorem dX0_isCounted_195 : decode cX0_isCounted 195 = .ok (.iconst 1, 1) := dk_4 (dk_at dksX0_isCounted_8 6 rfl rfl)
theorem dX0_isCounted_196 : decode cX0_isCounted 196 = .ok (.goto 4, 3) := dk_167 0 4 (dk_at dksX0_isCounted_8 7 rfl rfl)
theorem dX0_isCounted_199 : decode cX0_isCounted 199 = .ok (.iconst 0, 1) := dk_3 (dk_at dksX0_isCounted_8 10 rfl rfl)
theorem dX0_isCounted_200 : decode cX0_isCounted 200 = .ok (.ireturn, 1) := dk_172 (dk_at dksX0_isCounted_8 11 rfl rfl)
abbrev cX0_meanWay : ByteArray := prog_1_method_41_code
def yX0_meanWay : MethodName := ⟨RX0, "meanWay", "()D"⟩
def dkwX0_meanWay_2 : List UInt8 := [183, 1, 117, 184, 1, 96, 61, 28, 135, 27, 135, 111, 175]
abbrev dktX0_meanWay_2 : List UInt8 := dkwX0_meanWay_2 ++ []
def dkwX0_meanWay_1 : List UInt8 := [180, 0, 63, 182, 1, 64, 154, 0, 5, 14, 175, 42, 180, 0, 63, 180, 0, 154, 187, 1, 115, 89, 42]
abbrev dktX0_meanWay_1 : List UInt8 := dkwX0_meanWay_1 ++ dktX0_meanWay_2
def dkwX0_meanWay_0 : List UInt8 := [42, 180, 0, 63, 180, 0, 154, 187, 1, 112, 89, 183, 1, 114, 184, 1, 96, 60, 27, 153, 0, 13, 42]
abbrev dktX0_meanWay_0 : List UInt8 := dkwX0_meanWay_0 ++ dktX0_meanWay_1
theorem dksX0_meanWay_0 : cX0_meanWay.data.toList.drop 0 = dktX0_meanWay_0 := by decide +kernel
theorem dksX0_meanWay_1 : cX0_meanWay.data.toList.drop 23 = dktX0_meanWay_1 := dk_seg dksX0_meanWay_0 23 rfl rfl
theorem dksX0_meanWay_2 : cX0_meanWay.data.toList.drop 46 = dktX0_meanWay_2 := dk_seg dksX0_meanWay_1 23 rfl rfl
theorem dX0_meanWay_0 : decode cX0_meanWay 0 = .ok (.aload_n 0, 1) := dk_42 (dk_at dksX0_meanWay_0 0 rfl rfl)
theorem dX0_meanWay_1 : decode cX0_meanWay 1 = .ok (.getfield 63, 3) := dk_180 0 63 (dk_at dksX0_meanWay_0 1 rfl rfl)
theorem dX0_meanWay_4 : decode cX0_meanWay 4 = .ok (.getfield 154, 3) := dk_180 0 154 (dk_at dksX0_meanWay_0 4 rfl rfl)
theorem dX0_meanWay_7 : decode cX0_meanWay 7 = .ok (.new 368, 3) := dk_187 1 112 (dk_at dksX0_meanWay_0 7 rfl rfl)
theorem dX0_meanWay_10 : decode cX0_meanWay 10 = .ok (.dup, 1) := dk_89 (dk_at dksX0_meanWay_0 10 rfl rfl)
theorem dX0_meanWay_11 : decode cX0_meanWay 11 = .ok (.invokespecial 370, 3) := dk_183 1 114 (dk_at dksX0_meanWay_0 11 rfl rfl)
theorem dX0_meanWay_14 : decode cX0_meanWay 14 = .ok (.invokestatic 352, 3) := dk_184 1 96 (dk_at dksX0_meanWay_0 14 rfl rfl)
theorem dX0_meanWay_17 : decode cX0_meanWay 17 = .ok (.istore_n 1, 1) := dk_60 (dk_at dksX0_meanWay_0 17 rfl rfl)
theorem dX0_meanWay_18 : decode cX0_meanWay 18 = .ok (.iload_n 1, 1) := dk_27 (dk_at dksX0_meanWay_0 18 rfl rfl)
theorem dX0_meanWay_19 : decode cX0_meanWay 19 = .ok (.ifCond .eq 13, 3) := dk_153 0 13 (dk_at dksX0_meanWay_0 19 rfl rfl)
theorem dX0_meanWay_22 : decode cX0_meanWay 22 = .ok (.aload_n 0, 1) := dk_42 (dk_at dksX0_meanWay_0 22 rfl rfl)
theorem dX0_meanWay_23 : decode cX0_meanWay 23 = .ok (.getfield 63, 3) := dk_180 0 63 (dk_at dksX0_meanWay_1 0 rfl rfl)
theorem dX0_meanWay_26 : decode cX0_meanWay 26 = .ok (.invokevirtual 320, 3) := dk_182 1 64 (dk_at dksX0_meanWay_1 3 rfl rfl)
theorem dX0_meanWay_29 : decode cX0_meanWay 29 = .ok (.ifCond .ne 5, 3) := dk_154 0 5 (dk_at dksX0_meanWay_1 6 rfl rfl)
theorem dX0_meanWay_32 : decode cX0_meanWay 32 = .ok (.dconst 0, 1) := dk_14 (dk_at dksX0_meanWay_1 9 rfl rfl)
theorem dX0_meanWay_33 : decode cX0_meanWay 33 = .ok (.dreturn, 1) := dk_175 (dk_at dksX0_meanWay_1 10 rfl rfl)
theorem dX0_meanWay_34 : decode cX0_meanWay 34 = .ok (.aload_n 0, 1) := dk_42 (dk_at dksX0_meanWay_1 11 rfl rfl)
theorem dX0_meanWay_35 : decode cX0_meanWay 35 = .ok (.getfield 63, 3) := dk_180 0 63 (dk_at dksX0_meanWay_1 12 rfl rfl)
theorem dX0_meanWay_38 : decode cX0_meanWay 38 = .ok (.getfield 154, 3) := dk_180 0 154 (dk_at dksX0_meanWay_1 15 rfl rfl)
theorem dX0_meanWay_41 : decode cX0_meanWay 41 = .ok (.new 371, 3) := dk_187 1 115 (dk_at dksX0_meanWay_1 18 rfl rfl)
theorem dX0_meanWay_44 : decode cX0_meanWay 44 = .ok (.dup, 1) := dk_89 (dk_at dksX0_meanWay_1 21 rfl rfl)
theorem dX0_meanWay_45 : decode cX0_meanWay 45 = .ok (.aload_n 0, 1) := dk_42 (dk_at dksX0_meanWay_1 22 rfl rfl)
theorem dX0_meanWay_46 : decode cX0_meanWay 46 = .ok (.invokespecial 373, 3) := dk_183 1 117 (dk_at dksX0_meanWay_2 0 rfl rfl)
theorem dX0_meanWay_49 : decode cX0_meanWay 49 = .ok (.invokestatic 352, 3) := dk_184 1 96 (dk_at dksX0_meanWay_2 3 rfl rfl)
theorem dX0_meanWay_52 : decode cX0_meanWay 52 = .ok (.istore_n 2, 1) := dk_61 (dk_at dksX0_meanWay_2 6 rfl rfl)
theorem dX0_meanWay_53 : decode cX0_meanWay 53 = .ok (.iload_n 2, 1) := dk_28 (dk_at dksX0_meanWay_2 7 rfl rfl)
theorem dX0_meanWay_54 : decode cX0_meanWay 54 = .ok (.i2d, 1) := dk_135 (dk_at dksX0_meanWay_2 8 rfl rfl)
theorem dX0_meanWay_55 : decode cX0_meanWay 55 = .ok (.iload_n 1, 1) := dk_27 (dk_at dksX0_meanWay_2 9 rfl rfl)
theorem dX0_meanWay_56 : decode cX0_meanWay 56 = .ok (.i2d, 1) := dk_135 (dk_at dksX0_meanWay_2 10 rfl rfl)
theorem dX0_meanWay_57 : decode cX0_meanWay 57 = .ok (.ddiv, 1) := dk_111 (dk_at dksX0_meanWay_2 11 rfl rfl)
theorem dX0_meanWay_58 : decode cX0_meanWay 58 = .ok (.dreturn, 1) := dk_175 (dk_at dksX0_meanWay_2 12 rfl rfl)
abbrev cX0_waterShare : ByteArray := prog_1_method_42_code
def yX0_waterShare : MethodName := ⟨RX0, "waterShare", "()F"⟩
def dkwX0_waterShare_1 : List UInt8 := [89, 183, 1, 102, 184, 1, 96, 134, 42, 180, 0, 63, 180, 1, 118, 134, 110, 174]
abbrev dktX0_waterShare_1 : List UInt8 := dkwX0_waterShare_1 ++ []
def dkwX0_waterShare_0 : List UInt8 := [42, 180, 0, 63, 180, 1, 118, 154, 0, 7, 11, 167, 0, 30, 42, 180, 0, 63, 180, 0, 154, 187, 1, 100]
abbrev dktX0_waterShare_0 : List UInt8 := dkwX0_waterShare_0 ++ dktX0_waterShare_1
theorem dksX0_waterShare_0 : cX0_waterShare.data.toList.drop 0 = dktX0_waterShare_0 := by decide +kernel
theorem dksX0_waterShare_1 : cX0_waterShare.data.toList.drop 24 = dktX0_waterShare_1 := dk_seg dksX0_waterShare_0 24 rfl rfl
theorem dX0_waterShare_0 : decode cX0_waterShare 0 = .ok (.aload_n 0, 1) := dk_42 (dk_at dksX0_waterShare_0 0 rfl rfl)
theorem dX0_waterShare_1 : decode cX0_waterShare 1 = .ok (.getfield 63, 3) := dk_180 0 63 (dk_at dksX0_waterShare_0 1 rfl rfl)
theorem dX0_waterShare_4 : decode cX0_waterShare 4 = .ok (.getfield 374, 3) := dk_180 1 118 (dk_at dksX0_waterShare_0 4 rfl rfl)
theorem dX0_waterShare_7 : decode cX0_waterShare 7 = .ok (.ifCond .ne 7, 3) := dk_154 0 7 (dk_at dksX0_waterShare_0 7 rfl rfl)
theorem dX0_waterShare_10 : decode cX0_waterShare 10 = .ok (.fconst 0, 1) := dk_11 (dk_at dksX0_waterShare_0 10 rfl rfl)
theorem dX0_waterShare_11 : decode cX0_waterShare 11 = .ok (.goto 30, 3) := dk_167 0 30 (dk_at dksX0_waterShare_0 11 rfl rfl)
theorem dX0_waterShare_14 : decode cX0_waterShare 14 = .ok (.aload_n 0, 1) := dk_42 (dk_at dksX0_waterShare_0 14 rfl rfl)
theorem dX0_waterShare_15 : decode cX0_waterShare 15 = .ok (.getfield 63, 3) := dk_180 0 63 (dk_at dksX0_waterShare_0 15 rfl rfl)
theorem dX0_waterShare_18 : decode cX0_waterShare 18 = .ok (.getfield 154, 3) := dk_180 0 154 (dk_at dksX0_waterShare_0 18 rfl rfl)
theorem dX0_waterShare_21 : decode cX0_waterShare 21 = .ok (.new 356, 3) := dk_187 1 100 (dk_at dksX0_waterShare_0 21 rfl rfl)
theorem dX0_waterShare_24 : decode cX0_waterShare 24 = .ok (.dup, 1) := dk_89 (dk_at dksX0_waterShare_1 0 rfl rfl)
theorem dX0_waterShare_25 : decode cX0_waterShare 25 = .ok (.invokespecial 358, 3) := dk_183 1 102 (dk_at dksX0_waterShare_1 1 rfl rfl)
theorem dX0_waterShare_28 : decode cX0_waterShare 28 = .ok (.invokestatic 352, 3) := dk_184 1 96 (dk_at dksX0_waterShare_1 4 rfl rfl)
theorem dX0_waterShare_31 : decode cX0_waterShare 31 = .ok (.i2f, 1) := dk_134 (dk_at dksX0_waterShare_1 7 rfl rfl)
theorem dX0_waterShare_32 : decode cX0_waterShare 32 = .ok (.aload_n 0, 1) := dk_42 (dk_at dksX0_waterShare_1 8 rfl rfl)
theorem dX0_waterShare_33 : decode cX0_waterShare 33 = .ok (.getfield 63, 3) := dk_180 0 63 (dk_at dksX0_waterShare_1 9 rfl rfl)
theorem dX0_waterShare_36 : decode cX0_waterShare 36 = .ok (.getfield 374, 3) := dk_180 1 118 (dk_at dksX0_waterShare_1 12 rfl rfl)
theorem dX0_waterShare_39 : decode cX0_waterShare 39 = .ok (.i2f, 1) := dk_134 (dk_at dksX0_waterShare_1 15 rfl rfl)
theorem dX0_waterShare_40 : decode cX0_waterShare 40 = .ok (.fdiv, 1) := dk_110 (dk_at dksX0_waterShare_1 16 rfl rfl)
theorem dX0_waterShare_41 : decode cX0_waterShare 41 = .ok (.freturn, 1) := dk_174 (dk_at dksX0_waterShare_1 17 rfl rfl)
abbrev cX0_account : ByteArray := prog_1_method_43_code
def yX0_account : MethodName := ⟨RX0, "account", "(I)I"⟩
def dkwX0_account_8 : List UInt8 := [180, 0, 63, 180, 1, 142, 172, 42, 180, 1, 145, 172, 42, 180, 0, 70, 182, 1, 148, 172, 16, 254, 172]
abbrev dktX0_account_8 : List UInt8 := dkwX0_account_8 ++ []
def dkwX0_account_7 : List UInt8 := [180, 0, 63, 180, 1, 133, 172, 42, 180, 0, 63, 180, 1, 136, 172, 42, 180, 0, 63, 180, 1, 139, 172, 42]
abbrev dktX0_account_7 : List UInt8 := dkwX0_account_7 ++ dktX0_account_8
def dkwX0_account_6 : List UInt8 := [180, 0, 119, 187, 1, 93, 89, 183, 1, 95, 184, 1, 96, 172, 42, 180, 0, 63, 180, 1, 130, 172, 42]
abbrev dktX0_account_6 : List UInt8 := dkwX0_account_6 ++ dktX0_account_7
def dkwX0_account_5 : List UInt8 := [172, 42, 180, 0, 63, 180, 0, 154, 187, 1, 127, 89, 183, 1, 129, 184, 1, 96, 172, 42, 180, 0, 63]
abbrev dktX0_account_5 : List UInt8 := dkwX0_account_5 ++ dktX0_account_6
def dkwX0_account_4 : List UInt8 := [180, 0, 63, 180, 0, 154, 187, 1, 112, 89, 183, 1, 114, 184, 1, 96, 172, 42, 180, 0, 63, 180, 1, 106]
abbrev dktX0_account_4 : List UInt8 := dkwX0_account_4 ++ dktX0_account_5
def dkwX0_account_3 : List UInt8 := [182, 0, 237, 172, 42, 180, 0, 63, 180, 0, 119, 182, 0, 237, 172, 42, 180, 0, 63, 182, 1, 64, 172, 42]
abbrev dktX0_account_3 : List UInt8 := dkwX0_account_3 ++ dktX0_account_4
def dkwX0_account_2 : List UInt8 := [42, 180, 0, 63, 180, 1, 121, 172, 42, 180, 0, 63, 180, 1, 124, 172, 42, 180, 0, 63, 180, 0, 154]
abbrev dktX0_account_2 : List UInt8 := dkwX0_account_2 ++ dktX0_account_3
def dkwX0_account_1 : List UInt8 := [170, 0, 0, 0, 0, 0, 240, 0, 0, 0, 0, 0, 0, 0, 15, 0, 0, 0, 79, 0, 0, 0, 87, 0, 0, 0, 95, 0, 0, 0, 106, 0, 0, 0, 117, 0, 0, 0, 125, 0, 0, 0, 143, 0, 0, 0, 151, 0, 0, 0, 169, 0, 0, 0, 187, 0, 0, 0, 195, 0, 0, 0, 203, 0, 0, 0, 211, 0, 0, 0, 219, 0, 0, 0, 227, 0, 0, 0, 232]
abbrev dktX0_account_1 : List UInt8 := dkwX0_account_1 ++ dktX0_account_2
def dkwX0_account_0 : List UInt8 := [27]
abbrev dktX0_account_0 : List UInt8 := dkwX0_account_0 ++ dktX0_account_1
theorem dksX0_account_0 : cX0_account.data.toList.drop 0 = dktX0_account_0 := by decide +kernel
theorem dksX0_account_1 : cX0_account.data.toList.drop 1 = dktX0_account_1 := dk_seg dksX0_account_0 1 rfl rfl
theorem dksX0_account_2 : cX0_account.data.toList.drop 80 = dktX0_account_2 := dk_seg dksX0_account_1 79 rfl rfl
theorem dksX0_account_3 : cX0_account.data.toList.drop 103 = dktX0_account_3 := dk_seg dksX0_account_2 23 rfl rfl
theorem dksX0_account_4 : cX0_account.data.toList.drop 127 = dktX0_account_4 := dk_seg dksX0_account_3 24 rfl rfl
theorem dksX0_account_5 : cX0_account.data.toList.drop 151 = dktX0_account_5 := dk_seg dksX0_account_4 24 rfl rfl
theorem dksX0_account_6 : cX0_account.data.toList.drop 174 = dktX0_account_6 := dk_seg dksX0_account_5 23 rfl rfl
theorem dksX0_account_7 : cX0_account.data.toList.drop 197 = dktX0_account_7 := dk_seg dksX0_account_6 23 rfl rfl
theorem dksX0_account_8 : cX0_account.data.toList.drop 221 = dktX0_account_8 := dk_seg dksX0_account_7 24 rfl rfl
theorem dX0_account_0 : decode cX0_account 0 = .ok (.iload_n 1, 1) := dk_27 (dk_at dksX0_account_0 0 rfl rfl)
theorem dX0_account_1 : decode cX0_account 1 = .ok (.tableswitch 240 0 15 #[79, 87, 95, 106, 117, 125, 143, 151, 169, 187, 195, 203, 211, 219, 227, 232], 79) := by decide +kernel
theorem dX0_account_80 : decode cX0_account 80 = .ok (.aload_n 0, 1) := dk_42 (dk_at dksX0_account_2 0 rfl rfl)
theorem dX0_account_81 : decode cX0_account 81 = .ok (.getfield 63, 3) := dk_180 0 63 (dk_at dksX0_account_2 1 rfl rfl)
theorem dX0_account_84 : decode cX0_account 84 = .ok (.getfield 377, 3) := dk_180 1 121 (dk_at dksX0_account_2 4 rfl rfl)
theorem dX0_account_87 : decode cX0_account 87 = .ok (.ireturn, 1) := dk_172 (dk_at dksX0_account_2 7 rfl rfl)
theorem dX0_account_88 : decode cX0_account 88 = .ok (.aload_n 0, 1) := dk_42 (dk_at dksX0_account_2 8 rfl rfl)
theorem dX0_account_89 : decode cX0_account 89 = .ok (.getfield 63, 3) := dk_180 0 63 (dk_at dksX0_account_2 9 rfl rfl)
theorem dX0_account_92 : decode cX0_account 92 = .ok (.getfield 380, 3) := dk_180 1 124 (dk_at dksX0_account_2 12 rfl rfl)
theorem dX0_account_95 : decode cX0_account 95 = .ok (.ireturn, 1) := dk_172 (dk_at dksX0_account_2 15 rfl rfl)
theorem dX0_account_96 : decode cX0_account 96 = .ok (.aload_n 0, 1) := dk_42 (dk_at dksX0_account_2 16 rfl rfl)
theorem dX0_account_97 : decode cX0_account 97 = .ok (.getfield 63, 3) := dk_180 0 63 (dk_at dksX0_account_2 17 rfl rfl)
theorem dX0_account_100 : decode cX0_account 100 = .ok (.getfield 154, 3) := dk_180 0 154 (dk_at dksX0_account_2 20 rfl rfl)
theorem dX0_account_103 : decode cX0_account 103 = .ok (.invokevirtual 237, 3) := dk_182 0 237 (dk_at dksX0_account_3 0 rfl rfl)
theorem dX0_account_106 : decode cX0_account 106 = .ok (.ireturn, 1) := dk_172 (dk_at dksX0_account_3 3 rfl rfl)
theorem dX0_account_107 : decode cX0_account 107 = .ok (.aload_n 0, 1) := dk_42 (dk_at dksX0_account_3 4 rfl rfl)
theorem dX0_account_108 : decode cX0_account 108 = .ok (.getfield 63, 3) := dk_180 0 63 (dk_at dksX0_account_3 5 rfl rfl)
theorem dX0_account_111 : decode cX0_account 111 = .ok (.getfield 119, 3) := dk_180 0 119 (dk_at dksX0_account_3 8 rfl rfl)
theorem dX0_account_114 : decode cX0_account 114 = .ok (.invokevirtual 237, 3) := dk_182 0 237 (dk_at dksX0_account_3 11 rfl rfl)
theorem dX0_account_117 : decode cX0_account 117 = .ok (.ireturn, 1) := dk_172 (dk_at dksX0_account_3 14 rfl rfl)
theorem dX0_account_118 : decode cX0_account 118 = .ok (.aload_n 0, 1) := dk_42 (dk_at dksX0_account_3 15 rfl rfl)
theorem dX0_account_119 : decode cX0_account 119 = .ok (.getfield 63, 3) := dk_180 0 63 (dk_at dksX0_account_3 16 rfl rfl)
theorem dX0_account_122 : decode cX0_account 122 = .ok (.invokevirtual 320, 3) := dk_182 1 64 (dk_at dksX0_account_3 19 rfl rfl)
theorem dX0_account_125 : decode cX0_account 125 = .ok (.ireturn, 1) := dk_172 (dk_at dksX0_account_3 22 rfl rfl)
theorem dX0_account_126 : decode cX0_account 126 = .ok (.aload_n 0, 1) := dk_42 (dk_at dksX0_account_3 23 rfl rfl)
theorem dX0_account_127 : decode cX0_account 127 = .ok (.getfield 63, 3) := dk_180 0 63 (dk_at dksX0_account_4 0 rfl rfl)
theorem dX0_account_130 : decode cX0_account 130 = .ok (.getfield 154, 3) := dk_180 0 154 (dk_at dksX0_account_4 3 rfl rfl)
theorem dX0_account_133 : decode cX0_account 133 = .ok (.new 368, 3) := dk_187 1 112 (dk_at dksX0_account_4 6 rfl rfl)
theorem dX0_account_136 : decode cX0_account 136 = .ok (.dup, 1) := dk_89 (dk_at dksX0_account_4 9 rfl rfl)
theorem dX0_account_137 : decode cX0_account 137 = .ok (.invokespecial 370, 3) := dk_183 1 114 (dk_at dksX0_account_4 10 rfl rfl)
theorem dX0_account_140 : decode cX0_account 140 = .ok (.invokestatic 352, 3) := dk_184 1 96 (dk_at dksX0_account_4 13 rfl rfl)
theorem dX0_account_143 : decode cX0_account 143 = .ok (.ireturn, 1) := dk_172 (dk_at dksX0_account_4 16 rfl rfl)
theorem dX0_account_144 : decode cX0_account 144 = .ok (.aload_n 0, 1) := dk_42 (dk_at dksX0_account_4 17 rfl rfl)
theorem dX0_account_145 : decode cX0_account 145 = .ok (.getfield 63, 3) := dk_180 0 63 (dk_at dksX0_account_4 18 rfl rfl)
theorem dX0_account_148 : decode cX0_account 148 = .ok (.getfield 362, 3) := dk_180 1 106 (dk_at dksX0_account_4 21 rfl rfl)
theorem dX0_account_151 : decode cX0_account 151 = .ok (.ireturn, 1) := dk_172 (dk_at dksX0_account_5 0 rfl rfl)
theorem dX0_account_152 : decode cX0_account 152 = .ok (.aload_n 0, 1) := dk_42 (dk_at dksX0_account_5 1 rfl rfl)
theorem dX0_account_153 : decode cX0_account 153 = .ok (.getfield 63, 3) := dk_180 0 63 (dk_at dksX0_account_5 2 rfl rfl)
theorem dX0_account_156 : decode cX0_account 156 = .ok (.getfield 154, 3) := dk_180 0 154 (dk_at dksX0_account_5 5 rfl rfl)
theorem dX0_account_159 : decode cX0_account 159 = .ok (.new 383, 3) := dk_187 1 127 (dk_at dksX0_account_5 8 rfl rfl)
theorem dX0_account_162 : decode cX0_account 162 = .ok (.dup, 1) := dk_89 (dk_at dksX0_account_5 11 rfl rfl)
theorem dX0_account_163 : decode cX0_account 163 = .ok (.invokespecial 385, 3) := dk_183 1 129 (dk_at dksX0_account_5 12 rfl rfl)
theorem dX0_account_166 : decode cX0_account 166 = .ok (.invokestatic 352, 3) := dk_184 1 96 (dk_at dksX0_account_5 15 rfl rfl)
theorem dX0_account_169 : decode cX0_account 169 = .ok (.ireturn, 1) := dk_172 (dk_at dksX0_account_5 18 rfl rfl)
theorem dX0_account_170 : decode cX0_account 170 = .ok (.aload_n 0, 1) := dk_42 (dk_at dksX0_account_5 19 rfl rfl)
theorem dX0_account_171 : decode cX0_account 171 = .ok (.getfield 63, 3) := dk_180 0 63 (dk_at dksX0_account_5 20 rfl rfl)
theorem dX0_account_174 : decode cX0_account 174 = .ok (.getfield 119, 3) := dk_180 0 119 (dk_at dksX0_account_6 0 rfl rfl)
theorem dX0_account_177 : decode cX0_account 177 = .ok (.new 349, 3) := dk_187 1 93 (dk_at dksX0_account_6 3 rfl rfl)
theorem dX0_account_180 : decode cX0_account 180 = .ok (.dup, 1) := dk_89 (dk_at dksX0_account_6 6 rfl rfl)
theorem dX0_account_181 : decode cX0_account 181 = .ok (.invokespecial 351, 3) := dk_183 1 95 (dk_at dksX0_account_6 7 rfl rfl)
theorem dX0_account_184 : decode cX0_account 184 = .ok (.invokestatic 352, 3) := dk_184 1 96 (dk_at dksX0_account_6 10 rfl rfl)
theorem dX0_account_187 : decode cX0_account 187 = .ok (.ireturn, 1) := dk_172 (dk_at dksX0_account_6 13 rfl rfl)
theorem dX0_account_188 : decode cX0_account 188 = .ok (.aload_n 0, 1) := dk_42 (dk_at dksX0_account_6 14 rfl rfl)
theorem dX0_account_189 : decode cX0_account 189 = .ok (.getfield 63, 3) := dk_180 0 63 (dk_at dksX0_account_6 15 rfl rfl)
theorem dX0_account_192 : decode cX0_account 192 = .ok (.getfield 386, 3) := dk_180 1 130 (dk_at dksX0_account_6 18 rfl rfl)
theorem dX0_account_195 : decode cX0_account 195 = .ok (.ireturn, 1) := dk_172 (dk_at dksX0_account_6 21 rfl rfl)
theorem dX0_account_196 : decode cX0_account 196 = .ok (.aload_n 0, 1) := dk_42 (dk_at dksX0_account_6 22 rfl rfl)
theorem dX0_account_197 : decode cX0_account 197 = .ok (.getfield 63, 3) := dk_180 0 63 (dk_at dksX0_account_7 0 rfl rfl)
theorem dX0_account_200 : decode cX0_account 200 = .ok (.getfield 389, 3) := dk_180 1 133 (dk_at dksX0_account_7 3 rfl rfl)
theorem dX0_account_203 : decode cX0_account 203 = .ok (.ireturn, 1) := dk_172 (dk_at dksX0_account_7 6 rfl rfl)
theorem dX0_account_204 : decode cX0_account 204 = .ok (.aload_n 0, 1) := dk_42 (dk_at dksX0_account_7 7 rfl rfl)
theorem dX0_account_205 : decode cX0_account 205 = .ok (.getfield 63, 3) := dk_180 0 63 (dk_at dksX0_account_7 8 rfl rfl)
theorem dX0_account_208 : decode cX0_account 208 = .ok (.getfield 392, 3) := dk_180 1 136 (dk_at dksX0_account_7 11 rfl rfl)
theorem dX0_account_211 : decode cX0_account 211 = .ok (.ireturn, 1) := dk_172 (dk_at dksX0_account_7 14 rfl rfl)
theorem dX0_account_212 : decode cX0_account 212 = .ok (.aload_n 0, 1) := dk_42 (dk_at dksX0_account_7 15 rfl rfl)
theorem dX0_account_213 : decode cX0_account 213 = .ok (.getfield 63, 3) := dk_180 0 63 (dk_at dksX0_account_7 16 rfl rfl)
theorem dX0_account_216 : decode cX0_account 216 = .ok (.getfield 395, 3) := dk_180 1 139 (dk_at dksX0_account_7 19 rfl rfl)
theorem dX0_account_219 : decode cX0_account 219 = .ok (.ireturn, 1) := dk_172 (dk_at dksX0_account_7 22 rfl rfl)
theorem dX0_account_220 : decode cX0_account 220 = .ok (.aload_n 0, 1) := dk_42 (dk_at dksX0_account_7 23 rfl rfl)
theorem dX0_account_221 : decode cX0_account 221 = .ok (.getfield 63, 3) := dk_180 0 63 (dk_at dksX0_account_8 0 rfl rfl)
theorem dX0_account_224 : decode cX0_account 224 = .ok (.getfield 398, 3) := dk_180 1 142 (dk_at dksX0_account_8 3 rfl rfl)
theorem dX0_account_227 : decode cX0_account 227 = .ok (.ireturn, 1) := dk_172 (dk_at dksX0_account_8 6 rfl rfl)
theorem dX0_account_228 : decode cX0_account 228 = .ok (.aload_n 0, 1) := dk_42 (dk_at dksX0_account_8 7 rfl rfl)
theorem dX0_account_229 : decode cX0_account 229 = .ok (.getfield 401, 3) := dk_180 1 145 (dk_at dksX0_account_8 8 rfl rfl)
theorem dX0_account_232 : decode cX0_account 232 = .ok (.ireturn, 1) := dk_172 (dk_at dksX0_account_8 11 rfl rfl)
theorem dX0_account_233 : decode cX0_account 233 = .ok (.aload_n 0, 1) := dk_42 (dk_at dksX0_account_8 12 rfl rfl)
theorem dX0_account_234 : decode cX0_account 234 = .ok (.getfield 70, 3) := dk_180 0 70 (dk_at dksX0_account_8 13 rfl rfl)
theorem dX0_account_237 : decode cX0_account 237 = .ok (.invokevirtual 404, 3) := dk_182 1 148 (dk_at dksX0_account_8 16 rfl rfl)
theorem dX0_account_240 : decode cX0_account 240 = .ok (.ireturn, 1) := dk_172 (dk_at dksX0_account_8 19 rfl rfl)
theorem dX0_account_241 : decode cX0_account 241 = .ok (.bipush (-2), 2) := dk_16 254 (dk_at dksX0_account_8 20 rfl rfl)
theorem dX0_account_243 : decode cX0_account 243 = .ok (.ireturn, 1) := dk_172 (dk_at dksX0_account_8 22 rfl rfl)
abbrev cX0_write : ByteArray := prog_1_method_46_code
def yX0_write : MethodName := ⟨RX0, "write", "(I)I"⟩
def dkwX0_write_6 : List UInt8 := [45, 182, 1, 177, 181, 0, 76, 42, 180, 0, 76, 182, 1, 181, 172]
abbrev dktX0_write_6 : List UInt8 := dkwX0_write_6 ++ []
def dkwX0_write_5 : List UInt8 := [185, 0, 30, 1, 0, 192, 0, 160, 58, 5, 45, 25, 5, 184, 1, 173, 182, 1, 149, 87, 167, 255, 224, 42]
abbrev dktX0_write_5 : List UInt8 := dkwX0_write_5 ++ dktX0_write_6
def dkwX0_write_4 : List UInt8 := [182, 0, 220, 182, 1, 172, 58, 4, 25, 4, 185, 0, 24, 1, 0, 153, 0, 28, 25, 4]
abbrev dktX0_write_4 : List UInt8 := dkwX0_write_4 ++ dktX0_write_5
def dkwX0_write_3 : List UInt8 := [44, 180, 0, 209, 153, 0, 9, 19, 1, 167, 167, 0, 5, 18, 74, 182, 1, 169, 87, 42, 180, 0, 63, 44]
abbrev dktX0_write_3 : List UInt8 := dkwX0_write_3 ++ dktX0_write_4
def dkwX0_write_2 : List UInt8 := [44, 180, 0, 195, 182, 1, 158, 44, 180, 0, 201, 153, 0, 8, 16, 111, 167, 0, 5, 16, 45, 182, 1, 149]
abbrev dktX0_write_2 : List UInt8 := dkwX0_write_2 ++ dktX0_write_3
def dkwX0_write_1 : List UInt8 := [182, 0, 157, 192, 0, 176, 77, 187, 1, 150, 89, 183, 1, 162, 27, 182, 1, 158, 44, 184, 1, 163, 78, 45]
abbrev dktX0_write_1 : List UInt8 := dkwX0_write_1 ++ dktX0_write_2
def dkwX0_write_0 : List UInt8 := [42, 180, 0, 63, 180, 0, 119, 27, 182, 0, 123, 154, 0, 5, 2, 172, 42, 180, 0, 63, 180, 0, 119, 27]
abbrev dktX0_write_0 : List UInt8 := dkwX0_write_0 ++ dktX0_write_1
theorem dksX0_write_0 : cX0_write.data.toList.drop 0 = dktX0_write_0 := by decide +kernel
theorem dksX0_write_1 : cX0_write.data.toList.drop 24 = dktX0_write_1 := dk_seg dksX0_write_0 24 rfl rfl
theorem dksX0_write_2 : cX0_write.data.toList.drop 48 = dktX0_write_2 := dk_seg dksX0_write_1 24 rfl rfl
theorem dksX0_write_3 : cX0_write.data.toList.drop 72 = dktX0_write_3 := dk_seg dksX0_write_2 24 rfl rfl
theorem dksX0_write_4 : cX0_write.data.toList.drop 96 = dktX0_write_4 := dk_seg dksX0_write_3 24 rfl rfl
theorem dksX0_write_5 : cX0_write.data.toList.drop 116 = dktX0_write_5 := dk_seg dksX0_write_4 20 rfl rfl
theorem dksX0_write_6 : cX0_write.data.toList.drop 140 = dktX0_write_6 := dk_seg dksX0_write_5 24 rfl rfl
theorem dX0_write_0 : decode cX0_write 0 = .ok (.aload_n 0, 1) := dk_42 (dk_at dksX0_write_0 0 rfl rfl)
theorem dX0_write_1 : decode cX0_write 1 = .ok (.getfield 63, 3) := dk_180 0 63 (dk_at dksX0_write_0 1 rfl rfl)
theorem dX0_write_4 : decode cX0_write 4 = .ok (.getfield 119, 3) := dk_180 0 119 (dk_at dksX0_write_0 4 rfl rfl)
theorem dX0_write_7 : decode cX0_write 7 = .ok (.iload_n 1, 1) := dk_27 (dk_at dksX0_write_0 7 rfl rfl)
theorem dX0_write_8 : decode cX0_write 8 = .ok (.invokevirtual 123, 3) := dk_182 0 123 (dk_at dksX0_write_0 8 rfl rfl)
theorem dX0_write_11 : decode cX0_write 11 = .ok (.ifCond .ne 5, 3) := dk_154 0 5 (dk_at dksX0_write_0 11 rfl rfl)
theorem dX0_write_14 : decode cX0_write 14 = .ok (.iconst (-1), 1) := dk_2 (dk_at dksX0_write_0 14 rfl rfl)
theorem dX0_write_15 : decode cX0_write 15 = .ok (.ireturn, 1) := dk_172 (dk_at dksX0_write_0 15 rfl rfl)
theorem dX0_write_16 : decode cX0_write 16 = .ok (.aload_n 0, 1) := dk_42 (dk_at dksX0_write_0 16 rfl rfl)
theorem dX0_write_17 : decode cX0_write 17 = .ok (.getfield 63, 3) := dk_180 0 63 (dk_at dksX0_write_0 17 rfl rfl)
theorem dX0_write_20 : decode cX0_write 20 = .ok (.getfield 119, 3) := dk_180 0 119 (dk_at dksX0_write_0 20 rfl rfl)
theorem dX0_write_23 : decode cX0_write 23 = .ok (.iload_n 1, 1) := dk_27 (dk_at dksX0_write_0 23 rfl rfl)
theorem dX0_write_24 : decode cX0_write 24 = .ok (.invokevirtual 157, 3) := dk_182 0 157 (dk_at dksX0_write_1 0 rfl rfl)
theorem dX0_write_27 : decode cX0_write 27 = .ok (.checkcast 176, 3) := dk_192 0 176 (dk_at dksX0_write_1 3 rfl rfl)
theorem dX0_write_30 : decode cX0_write 30 = .ok (.astore_n 2, 1) := dk_77 (dk_at dksX0_write_1 6 rfl rfl)
theorem dX0_write_31 : decode cX0_write 31 = .ok (.new 406, 3) := dk_187 1 150 (dk_at dksX0_write_1 7 rfl rfl)
theorem dX0_write_34 : decode cX0_write 34 = .ok (.dup, 1) := dk_89 (dk_at dksX0_write_1 10 rfl rfl)
theorem dX0_write_35 : decode cX0_write 35 = .ok (.invokespecial 418, 3) := dk_183 1 162 (dk_at dksX0_write_1 11 rfl rfl)
theorem dX0_write_38 : decode cX0_write 38 = .ok (.iload_n 1, 1) := dk_27 (dk_at dksX0_write_1 14 rfl rfl)
theorem dX0_write_39 : decode cX0_write 39 = .ok (.invokevirtual 414, 3) := dk_182 1 158 (dk_at dksX0_write_1 15 rfl rfl)
theorem dX0_write_42 : decode cX0_write 42 = .ok (.aload_n 2, 1) := dk_44 (dk_at dksX0_write_1 18 rfl rfl)
theorem dX0_write_43 : decode cX0_write 43 = .ok (.invokestatic 419, 3) := dk_184 1 163 (dk_at dksX0_write_1 19 rfl rfl)
theorem dX0_write_46 : decode cX0_write 46 = .ok (.astore_n 3, 1) := dk_78 (dk_at dksX0_write_1 22 rfl rfl)
theorem dX0_write_47 : decode cX0_write 47 = .ok (.aload_n 3, 1) := dk_45 (dk_at dksX0_write_1 23 rfl rfl)
theorem dX0_write_48 : decode cX0_write 48 = .ok (.aload_n 2, 1) := dk_44 (dk_at dksX0_write_2 0 rfl rfl)
theorem dX0_write_49 : decode cX0_write 49 = .ok (.getfield 195, 3) := dk_180 0 195 (dk_at dksX0_write_2 1 rfl rfl)
theorem dX0_write_52 : decode cX0_write 52 = .ok (.invokevirtual 414, 3) := dk_182 1 158 (dk_at dksX0_write_2 4 rfl rfl)
theorem dX0_write_55 : decode cX0_write 55 = .ok (.aload_n 2, 1) := dk_44 (dk_at dksX0_write_2 7 rfl rfl)
theorem dX0_write_56 : decode cX0_write 56 = .ok (.getfield 201, 3) := dk_180 0 201 (dk_at dksX0_write_2 8 rfl rfl)
theorem dX0_write_59 : decode cX0_write 59 = .ok (.ifCond .eq 8, 3) := dk_153 0 8 (dk_at dksX0_write_2 11 rfl rfl)
theorem dX0_write_62 : decode cX0_write 62 = .ok (.bipush 111, 2) := dk_16 111 (dk_at dksX0_write_2 14 rfl rfl)
theorem dX0_write_64 : decode cX0_write 64 = .ok (.goto 5, 3) := dk_167 0 5 (dk_at dksX0_write_2 16 rfl rfl)
theorem dX0_write_67 : decode cX0_write 67 = .ok (.bipush 45, 2) := dk_16 45 (dk_at dksX0_write_2 19 rfl rfl)
theorem dX0_write_69 : decode cX0_write 69 = .ok (.invokevirtual 405, 3) := dk_182 1 149 (dk_at dksX0_write_2 21 rfl rfl)
theorem dX0_write_72 : decode cX0_write 72 = .ok (.aload_n 2, 1) := dk_44 (dk_at dksX0_write_3 0 rfl rfl)
theorem dX0_write_73 : decode cX0_write 73 = .ok (.getfield 209, 3) := dk_180 0 209 (dk_at dksX0_write_3 1 rfl rfl)
theorem dX0_write_76 : decode cX0_write 76 = .ok (.ifCond .eq 9, 3) := dk_153 0 9 (dk_at dksX0_write_3 4 rfl rfl)
theorem dX0_write_79 : decode cX0_write 79 = .ok (.ldc_w 423, 3) := dk_19 1 167 (dk_at dksX0_write_3 7 rfl rfl)
theorem dX0_write_82 : decode cX0_write 82 = .ok (.goto 5, 3) := dk_167 0 5 (dk_at dksX0_write_3 10 rfl rfl)
theorem dX0_write_85 : decode cX0_write 85 = .ok (.ldc 74, 2) := dk_18 74 (dk_at dksX0_write_3 13 rfl rfl)
theorem dX0_write_87 : decode cX0_write 87 = .ok (.invokevirtual 425, 3) := dk_182 1 169 (dk_at dksX0_write_3 15 rfl rfl)
theorem dX0_write_90 : decode cX0_write 90 = .ok (.pop, 1) := dk_87 (dk_at dksX0_write_3 18 rfl rfl)
theorem dX0_write_91 : decode cX0_write 91 = .ok (.aload_n 0, 1) := dk_42 (dk_at dksX0_write_3 19 rfl rfl)
theorem dX0_write_92 : decode cX0_write 92 = .ok (.getfield 63, 3) := dk_180 0 63 (dk_at dksX0_write_3 20 rfl rfl)
theorem dX0_write_95 : decode cX0_write 95 = .ok (.aload_n 2, 1) := dk_44 (dk_at dksX0_write_3 23 rfl rfl)
theorem dX0_write_96 : decode cX0_write 96 = .ok (.invokevirtual 220, 3) := dk_182 0 220 (dk_at dksX0_write_4 0 rfl rfl)
theorem dX0_write_99 : decode cX0_write 99 = .ok (.invokevirtual 428, 3) := dk_182 1 172 (dk_at dksX0_write_4 3 rfl rfl)
theorem dX0_write_102 : decode cX0_write 102 = .ok (.astore 4, 2) := dk_58 4 (dk_at dksX0_write_4 6 rfl rfl)
theorem dX0_write_104 : decode cX0_write 104 = .ok (.aload 4, 2) := dk_25 4 (dk_at dksX0_write_4 8 rfl rfl)
theorem dX0_write_106 : decode cX0_write 106 = .ok (.invokeinterface 24 1, 5) := by decide +kernel
theorem dX0_write_111 : decode cX0_write 111 = .ok (.ifCond .eq 28, 3) := dk_153 0 28 (dk_at dksX0_write_4 15 rfl rfl)
theorem dX0_write_114 : decode cX0_write 114 = .ok (.aload 4, 2) := dk_25 4 (dk_at dksX0_write_4 18 rfl rfl)
theorem dX0_write_116 : decode cX0_write 116 = .ok (.invokeinterface 30 1, 5) := by decide +kernel
theorem dX0_write_121 : decode cX0_write 121 = .ok (.checkcast 160, 3) := dk_192 0 160 (dk_at dksX0_write_5 5 rfl rfl)
theorem dX0_write_124 : decode cX0_write 124 = .ok (.astore 5, 2) := dk_58 5 (dk_at dksX0_write_5 8 rfl rfl)
theorem dX0_write_126 : decode cX0_write 126 = .ok (.aload_n 3, 1) := dk_45 (dk_at dksX0_write_5 10 rfl rfl)
theorem dX0_write_127 : decode cX0_write 127 = .ok (.aload 5, 2) := dk_25 5 (dk_at dksX0_write_5 11 rfl rfl)
theorem dX0_write_129 : decode cX0_write 129 = .ok (.invokestatic 429, 3) := dk_184 1 173 (dk_at dksX0_write_5 13 rfl rfl)
theorem dX0_write_132 : decode cX0_write 132 = .ok (.invokevirtual 405, 3) := dk_182 1 149 (dk_at dksX0_write_5 16 rfl rfl)
theorem dX0_write_135 : decode cX0_write 135 = .ok (.pop, 1) := dk_87 (dk_at dksX0_write_5 19 rfl rfl)
theorem dX0_write_136 : decode cX0_write 136 = .ok (.goto (-32), 3) := dk_167 255 224 (dk_at dksX0_write_5 20 rfl rfl)
theorem dX0_write_139 : decode cX0_write 139 = .ok (.aload_n 0, 1) := dk_42 (dk_at dksX0_write_5 23 rfl rfl)
theorem dX0_write_140 : decode cX0_write 140 = .ok (.aload_n 3, 1) := dk_45 (dk_at dksX0_write_6 0 rfl rfl)
theorem dX0_write_141 : decode cX0_write 141 = .ok (.invokevirtual 433, 3) := dk_182 1 177 (dk_at dksX0_write_6 1 rfl rfl)
theorem dX0_write_144 : decode cX0_write 144 = .ok (.putfield 76, 3) := dk_181 0 76 (dk_at dksX0_write_6 4 rfl rfl)
theorem dX0_write_147 : decode cX0_write 147 = .ok (.aload_n 0, 1) := dk_42 (dk_at dksX0_write_6 7 rfl rfl)
theorem dX0_write_148 : decode cX0_write 148 = .ok (.getfield 76, 3) := dk_180 0 76 (dk_at dksX0_write_6 8 rfl rfl)
theorem dX0_write_151 : decode cX0_write 151 = .ok (.invokevirtual 437, 3) := dk_182 1 181 (dk_at dksX0_write_6 11 rfl rfl)
theorem dX0_write_154 : decode cX0_write 154 = .ok (.ireturn, 1) := dk_172 (dk_at dksX0_write_6 14 rfl rfl)
abbrev cX0_at : ByteArray := prog_1_method_45_code
def yX0_at : MethodName := ⟨RX0, "at", "(Ljava/lang/StringBuilder;LHamletWells$Standing;)Ljava/lang/StringBuilder;"⟩
def dkwX0_at_1 : List UInt8 := [182, 1, 158, 16, 32, 182, 1, 149, 176]
abbrev dktX0_at_1 : List UInt8 := dkwX0_at_1 ++ []
def dkwX0_at_0 : List UInt8 := [42, 16, 64, 182, 1, 149, 43, 180, 1, 155, 182, 1, 158, 16, 44, 182, 1, 149, 43, 180, 1, 161]
abbrev dktX0_at_0 : List UInt8 := dkwX0_at_0 ++ dktX0_at_1
theorem dksX0_at_0 : cX0_at.data.toList.drop 0 = dktX0_at_0 := by decide +kernel
theorem dksX0_at_1 : cX0_at.data.toList.drop 22 = dktX0_at_1 := dk_seg dksX0_at_0 22 rfl rfl
theorem dX0_at_0 : decode cX0_at 0 = .ok (.aload_n 0, 1) := dk_42 (dk_at dksX0_at_0 0 rfl rfl)
theorem dX0_at_1 : decode cX0_at 1 = .ok (.bipush 64, 2) := dk_16 64 (dk_at dksX0_at_0 1 rfl rfl)
theorem dX0_at_3 : decode cX0_at 3 = .ok (.invokevirtual 405, 3) := dk_182 1 149 (dk_at dksX0_at_0 3 rfl rfl)
theorem dX0_at_6 : decode cX0_at 6 = .ok (.aload_n 1, 1) := dk_43 (dk_at dksX0_at_0 6 rfl rfl)
theorem dX0_at_7 : decode cX0_at 7 = .ok (.getfield 411, 3) := dk_180 1 155 (dk_at dksX0_at_0 7 rfl rfl)
theorem dX0_at_10 : decode cX0_at 10 = .ok (.invokevirtual 414, 3) := dk_182 1 158 (dk_at dksX0_at_0 10 rfl rfl)
theorem dX0_at_13 : decode cX0_at 13 = .ok (.bipush 44, 2) := dk_16 44 (dk_at dksX0_at_0 13 rfl rfl)
theorem dX0_at_15 : decode cX0_at 15 = .ok (.invokevirtual 405, 3) := dk_182 1 149 (dk_at dksX0_at_0 15 rfl rfl)
theorem dX0_at_18 : decode cX0_at 18 = .ok (.aload_n 1, 1) := dk_43 (dk_at dksX0_at_0 18 rfl rfl)
theorem dX0_at_19 : decode cX0_at 19 = .ok (.getfield 417, 3) := dk_180 1 161 (dk_at dksX0_at_0 19 rfl rfl)
theorem dX0_at_22 : decode cX0_at 22 = .ok (.invokevirtual 414, 3) := dk_182 1 158 (dk_at dksX0_at_1 0 rfl rfl)
theorem dX0_at_25 : decode cX0_at 25 = .ok (.bipush 32, 2) := dk_16 32 (dk_at dksX0_at_1 3 rfl rfl)
theorem dX0_at_27 : decode cX0_at 27 = .ok (.invokevirtual 405, 3) := dk_182 1 149 (dk_at dksX0_at_1 5 rfl rfl)
theorem dX0_at_30 : decode cX0_at 30 = .ok (.areturn, 1) := dk_176 (dk_at dksX0_at_1 8 rfl rfl)
abbrev cX0_letter : ByteArray := prog_1_method_44_code
def yX0_letter : MethodName := ⟨RX0, "letter", "(LHamletWells$Hamlet;)C"⟩
def dkwX0_letter_0 : List UInt8 := [16, 97, 42, 180, 0, 236, 96, 146, 172]
abbrev dktX0_letter_0 : List UInt8 := dkwX0_letter_0 ++ []
theorem dksX0_letter_0 : cX0_letter.data.toList.drop 0 = dktX0_letter_0 := by decide +kernel
theorem dX0_letter_0 : decode cX0_letter 0 = .ok (.bipush 97, 2) := dk_16 97 (dk_at dksX0_letter_0 0 rfl rfl)
theorem dX0_letter_2 : decode cX0_letter 2 = .ok (.aload_n 0, 1) := dk_42 (dk_at dksX0_letter_0 2 rfl rfl)
theorem dX0_letter_3 : decode cX0_letter 3 = .ok (.getfield 236, 3) := dk_180 0 236 (dk_at dksX0_letter_0 3 rfl rfl)
theorem dX0_letter_6 : decode cX0_letter 6 = .ok (.iadd, 1) := dk_96 (dk_at dksX0_letter_0 6 rfl rfl)
theorem dX0_letter_7 : decode cX0_letter 7 = .ok (.i2c, 1) := dk_146 (dk_at dksX0_letter_0 7 rfl rfl)
theorem dX0_letter_8 : decode cX0_letter 8 = .ok (.ireturn, 1) := dk_172 (dk_at dksX0_letter_0 8 rfl rfl)
abbrev cX0_writeHamlet : ByteArray := prog_1_method_47_code
def yX0_writeHamlet : MethodName := ⟨RX0, "writeHamlet", "(I)I"⟩
def dkwX0_writeHamlet_5 : List UInt8 := [181, 0, 76, 42, 180, 0, 76, 182, 1, 181, 172]
abbrev dktX0_writeHamlet_5 : List UInt8 := dkwX0_writeHamlet_5 ++ []
def dkwX0_writeHamlet_4 : List UInt8 := [158, 0, 18, 25, 4, 16, 33, 182, 1, 149, 44, 180, 0, 184, 182, 1, 158, 87, 42, 25, 4, 182, 1, 177]
abbrev dktX0_writeHamlet_4 : List UInt8 := dkwX0_writeHamlet_4 ++ dktX0_writeHamlet_5
def dkwX0_writeHamlet_3 : List UInt8 := [198, 0, 18, 25, 4, 16, 62, 182, 1, 149, 45, 180, 0, 175, 182, 1, 158, 87, 44, 180, 0, 184]
abbrev dktX0_writeHamlet_3 : List UInt8 := dkwX0_writeHamlet_3 ++ dktX0_writeHamlet_4
def dkwX0_writeHamlet_2 : List UInt8 := [184, 1, 173, 182, 1, 149, 44, 184, 1, 163, 58, 4, 25, 4, 44, 180, 0, 172, 182, 1, 158, 87, 45]
abbrev dktX0_writeHamlet_2 : List UInt8 := dkwX0_writeHamlet_2 ++ dktX0_writeHamlet_3
def dkwX0_writeHamlet_1 : List UInt8 := [182, 0, 157, 192, 0, 160, 77, 42, 180, 0, 63, 44, 182, 0, 162, 78, 187, 1, 150, 89, 183, 1, 162, 44]
abbrev dktX0_writeHamlet_1 : List UInt8 := dkwX0_writeHamlet_1 ++ dktX0_writeHamlet_2
def dkwX0_writeHamlet_0 : List UInt8 := [42, 180, 0, 63, 180, 0, 154, 27, 182, 0, 123, 154, 0, 5, 2, 172, 42, 180, 0, 63, 180, 0, 154, 27]
abbrev dktX0_writeHamlet_0 : List UInt8 := dkwX0_writeHamlet_0 ++ dktX0_writeHamlet_1
theorem dksX0_writeHamlet_0 : cX0_writeHamlet.data.toList.drop 0 = dktX0_writeHamlet_0 := by decide +kernel
theorem dksX0_writeHamlet_1 : cX0_writeHamlet.data.toList.drop 24 = dktX0_writeHamlet_1 := dk_seg dksX0_writeHamlet_0 24 rfl rfl
theorem dksX0_writeHamlet_2 : cX0_writeHamlet.data.toList.drop 48 = dktX0_writeHamlet_2 := dk_seg dksX0_writeHamlet_1 24 rfl rfl
theorem dksX0_writeHamlet_3 : cX0_writeHamlet.data.toList.drop 71 = dktX0_writeHamlet_3 := dk_seg dksX0_writeHamlet_2 23 rfl rfl
theorem dksX0_writeHamlet_4 : cX0_writeHamlet.data.toList.drop 93 = dktX0_writeHamlet_4 := dk_seg dksX0_writeHamlet_3 22 rfl rfl
theorem dksX0_writeHamlet_5 : cX0_writeHamlet.data.toList.drop 117 = dktX0_writeHamlet_5 := dk_seg dksX0_writeHamlet_4 24 rfl rfl
theorem dX0_writeHamlet_0 : decode cX0_writeHamlet 0 = .ok (.aload_n 0, 1) := dk_42 (dk_at dksX0_writeHamlet_0 0 rfl rfl)
theorem dX0_writeHamlet_1 : decode cX0_writeHamlet 1 = .ok (.getfield 63, 3) := dk_180 0 63 (dk_at dksX0_writeHamlet_0 1 rfl rfl)
theorem dX0_writeHamlet_4 : decode cX0_writeHamlet 4 = .ok (.getfield 154, 3) := dk_180 0 154 (dk_at dksX0_writeHamlet_0 4 rfl rfl)
theorem dX0_writeHamlet_7 : decode cX0_writeHamlet 7 = .ok (.iload_n 1, 1) := dk_27 (dk_at dksX0_writeHamlet_0 7 rfl rfl)
theorem dX0_writeHamlet_8 : decode cX0_writeHamlet 8 = .ok (.invokevirtual 123, 3) := dk_182 0 123 (dk_at dksX0_writeHamlet_0 8 rfl rfl)
theorem dX0_writeHamlet_11 : decode cX0_writeHamlet 11 = .ok (.ifCond .ne 5, 3) := dk_154 0 5 (dk_at dksX0_writeHamlet_0 11 rfl rfl)
theorem dX0_writeHamlet_14 : decode cX0_writeHamlet 14 = .ok (.iconst (-1), 1) := dk_2 (dk_at dksX0_writeHamlet_0 14 rfl rfl)
theorem dX0_writeHamlet_15 : decode cX0_writeHamlet 15 = .ok (.ireturn, 1) := dk_172 (dk_at dksX0_writeHamlet_0 15 rfl rfl)
theorem dX0_writeHamlet_16 : decode cX0_writeHamlet 16 = .ok (.aload_n 0, 1) := dk_42 (dk_at dksX0_writeHamlet_0 16 rfl rfl)
theorem dX0_writeHamlet_17 : decode cX0_writeHamlet 17 = .ok (.getfield 63, 3) := dk_180 0 63 (dk_at dksX0_writeHamlet_0 17 rfl rfl)
theorem dX0_writeHamlet_20 : decode cX0_writeHamlet 20 = .ok (.getfield 154, 3) := dk_180 0 154 (dk_at dksX0_writeHamlet_0 20 rfl rfl)
theorem dX0_writeHamlet_23 : decode cX0_writeHamlet 23 = .ok (.iload_n 1, 1) := dk_27 (dk_at dksX0_writeHamlet_0 23 rfl rfl)
theorem dX0_writeHamlet_24 : decode cX0_writeHamlet 24 = .ok (.invokevirtual 157, 3) := dk_182 0 157 (dk_at dksX0_writeHamlet_1 0 rfl rfl)
theorem dX0_writeHamlet_27 : decode cX0_writeHamlet 27 = .ok (.checkcast 160, 3) := dk_192 0 160 (dk_at dksX0_writeHamlet_1 3 rfl rfl)
theorem dX0_writeHamlet_30 : decode cX0_writeHamlet 30 = .ok (.astore_n 2, 1) := dk_77 (dk_at dksX0_writeHamlet_1 6 rfl rfl)
theorem dX0_writeHamlet_31 : decode cX0_writeHamlet 31 = .ok (.aload_n 0, 1) := dk_42 (dk_at dksX0_writeHamlet_1 7 rfl rfl)
theorem dX0_writeHamlet_32 : decode cX0_writeHamlet 32 = .ok (.getfield 63, 3) := dk_180 0 63 (dk_at dksX0_writeHamlet_1 8 rfl rfl)
theorem dX0_writeHamlet_35 : decode cX0_writeHamlet 35 = .ok (.aload_n 2, 1) := dk_44 (dk_at dksX0_writeHamlet_1 11 rfl rfl)
theorem dX0_writeHamlet_36 : decode cX0_writeHamlet 36 = .ok (.invokevirtual 162, 3) := dk_182 0 162 (dk_at dksX0_writeHamlet_1 12 rfl rfl)
theorem dX0_writeHamlet_39 : decode cX0_writeHamlet 39 = .ok (.astore_n 3, 1) := dk_78 (dk_at dksX0_writeHamlet_1 15 rfl rfl)
theorem dX0_writeHamlet_40 : decode cX0_writeHamlet 40 = .ok (.new 406, 3) := dk_187 1 150 (dk_at dksX0_writeHamlet_1 16 rfl rfl)
theorem dX0_writeHamlet_43 : decode cX0_writeHamlet 43 = .ok (.dup, 1) := dk_89 (dk_at dksX0_writeHamlet_1 19 rfl rfl)
theorem dX0_writeHamlet_44 : decode cX0_writeHamlet 44 = .ok (.invokespecial 418, 3) := dk_183 1 162 (dk_at dksX0_writeHamlet_1 20 rfl rfl)
theorem dX0_writeHamlet_47 : decode cX0_writeHamlet 47 = .ok (.aload_n 2, 1) := dk_44 (dk_at dksX0_writeHamlet_1 23 rfl rfl)
theorem dX0_writeHamlet_48 : decode cX0_writeHamlet 48 = .ok (.invokestatic 429, 3) := dk_184 1 173 (dk_at dksX0_writeHamlet_2 0 rfl rfl)
theorem dX0_writeHamlet_51 : decode cX0_writeHamlet 51 = .ok (.invokevirtual 405, 3) := dk_182 1 149 (dk_at dksX0_writeHamlet_2 3 rfl rfl)
theorem dX0_writeHamlet_54 : decode cX0_writeHamlet 54 = .ok (.aload_n 2, 1) := dk_44 (dk_at dksX0_writeHamlet_2 6 rfl rfl)
theorem dX0_writeHamlet_55 : decode cX0_writeHamlet 55 = .ok (.invokestatic 419, 3) := dk_184 1 163 (dk_at dksX0_writeHamlet_2 7 rfl rfl)
theorem dX0_writeHamlet_58 : decode cX0_writeHamlet 58 = .ok (.astore 4, 2) := dk_58 4 (dk_at dksX0_writeHamlet_2 10 rfl rfl)
theorem dX0_writeHamlet_60 : decode cX0_writeHamlet 60 = .ok (.aload 4, 2) := dk_25 4 (dk_at dksX0_writeHamlet_2 12 rfl rfl)
theorem dX0_writeHamlet_62 : decode cX0_writeHamlet 62 = .ok (.aload_n 2, 1) := dk_44 (dk_at dksX0_writeHamlet_2 14 rfl rfl)
theorem dX0_writeHamlet_63 : decode cX0_writeHamlet 63 = .ok (.getfield 172, 3) := dk_180 0 172 (dk_at dksX0_writeHamlet_2 15 rfl rfl)
theorem dX0_writeHamlet_66 : decode cX0_writeHamlet 66 = .ok (.invokevirtual 414, 3) := dk_182 1 158 (dk_at dksX0_writeHamlet_2 18 rfl rfl)
theorem dX0_writeHamlet_69 : decode cX0_writeHamlet 69 = .ok (.pop, 1) := dk_87 (dk_at dksX0_writeHamlet_2 21 rfl rfl)
theorem dX0_writeHamlet_70 : decode cX0_writeHamlet 70 = .ok (.aload_n 3, 1) := dk_45 (dk_at dksX0_writeHamlet_2 22 rfl rfl)
theorem dX0_writeHamlet_71 : decode cX0_writeHamlet 71 = .ok (.ifnull 18, 3) := dk_198 0 18 (dk_at dksX0_writeHamlet_3 0 rfl rfl)
theorem dX0_writeHamlet_74 : decode cX0_writeHamlet 74 = .ok (.aload 4, 2) := dk_25 4 (dk_at dksX0_writeHamlet_3 3 rfl rfl)
theorem dX0_writeHamlet_76 : decode cX0_writeHamlet 76 = .ok (.bipush 62, 2) := dk_16 62 (dk_at dksX0_writeHamlet_3 5 rfl rfl)
theorem dX0_writeHamlet_78 : decode cX0_writeHamlet 78 = .ok (.invokevirtual 405, 3) := dk_182 1 149 (dk_at dksX0_writeHamlet_3 7 rfl rfl)
theorem dX0_writeHamlet_81 : decode cX0_writeHamlet 81 = .ok (.aload_n 3, 1) := dk_45 (dk_at dksX0_writeHamlet_3 10 rfl rfl)
theorem dX0_writeHamlet_82 : decode cX0_writeHamlet 82 = .ok (.getfield 175, 3) := dk_180 0 175 (dk_at dksX0_writeHamlet_3 11 rfl rfl)
theorem dX0_writeHamlet_85 : decode cX0_writeHamlet 85 = .ok (.invokevirtual 414, 3) := dk_182 1 158 (dk_at dksX0_writeHamlet_3 14 rfl rfl)
theorem dX0_writeHamlet_88 : decode cX0_writeHamlet 88 = .ok (.pop, 1) := dk_87 (dk_at dksX0_writeHamlet_3 17 rfl rfl)
theorem dX0_writeHamlet_89 : decode cX0_writeHamlet 89 = .ok (.aload_n 2, 1) := dk_44 (dk_at dksX0_writeHamlet_3 18 rfl rfl)
theorem dX0_writeHamlet_90 : decode cX0_writeHamlet 90 = .ok (.getfield 184, 3) := dk_180 0 184 (dk_at dksX0_writeHamlet_3 19 rfl rfl)
theorem dX0_writeHamlet_93 : decode cX0_writeHamlet 93 = .ok (.ifCond .le 18, 3) := dk_158 0 18 (dk_at dksX0_writeHamlet_4 0 rfl rfl)
theorem dX0_writeHamlet_96 : decode cX0_writeHamlet 96 = .ok (.aload 4, 2) := dk_25 4 (dk_at dksX0_writeHamlet_4 3 rfl rfl)
theorem dX0_writeHamlet_98 : decode cX0_writeHamlet 98 = .ok (.bipush 33, 2) := dk_16 33 (dk_at dksX0_writeHamlet_4 5 rfl rfl)
theorem dX0_writeHamlet_100 : decode cX0_writeHamlet 100 = .ok (.invokevirtual 405, 3) := dk_182 1 149 (dk_at dksX0_writeHamlet_4 7 rfl rfl)
theorem dX0_writeHamlet_103 : decode cX0_writeHamlet 103 = .ok (.aload_n 2, 1) := dk_44 (dk_at dksX0_writeHamlet_4 10 rfl rfl)
theorem dX0_writeHamlet_104 : decode cX0_writeHamlet 104 = .ok (.getfield 184, 3) := dk_180 0 184 (dk_at dksX0_writeHamlet_4 11 rfl rfl)
theorem dX0_writeHamlet_107 : decode cX0_writeHamlet 107 = .ok (.invokevirtual 414, 3) := dk_182 1 158 (dk_at dksX0_writeHamlet_4 14 rfl rfl)
theorem dX0_writeHamlet_110 : decode cX0_writeHamlet 110 = .ok (.pop, 1) := dk_87 (dk_at dksX0_writeHamlet_4 17 rfl rfl)
theorem dX0_writeHamlet_111 : decode cX0_writeHamlet 111 = .ok (.aload_n 0, 1) := dk_42 (dk_at dksX0_writeHamlet_4 18 rfl rfl)
theorem dX0_writeHamlet_112 : decode cX0_writeHamlet 112 = .ok (.aload 4, 2) := dk_25 4 (dk_at dksX0_writeHamlet_4 19 rfl rfl)
theorem dX0_writeHamlet_114 : decode cX0_writeHamlet 114 = .ok (.invokevirtual 433, 3) := dk_182 1 177 (dk_at dksX0_writeHamlet_4 21 rfl rfl)
theorem dX0_writeHamlet_117 : decode cX0_writeHamlet 117 = .ok (.putfield 76, 3) := dk_181 0 76 (dk_at dksX0_writeHamlet_5 0 rfl rfl)
theorem dX0_writeHamlet_120 : decode cX0_writeHamlet 120 = .ok (.aload_n 0, 1) := dk_42 (dk_at dksX0_writeHamlet_5 3 rfl rfl)
theorem dX0_writeHamlet_121 : decode cX0_writeHamlet 121 = .ok (.getfield 76, 3) := dk_180 0 76 (dk_at dksX0_writeHamlet_5 4 rfl rfl)
theorem dX0_writeHamlet_124 : decode cX0_writeHamlet 124 = .ok (.invokevirtual 437, 3) := dk_182 1 181 (dk_at dksX0_writeHamlet_5 7 rfl rfl)
theorem dX0_writeHamlet_127 : decode cX0_writeHamlet 127 = .ok (.ireturn, 1) := dk_172 (dk_at dksX0_writeHamlet_5 10 rfl rfl)
abbrev cX0_written : ByteArray := prog_1_method_48_code
def yX0_written : MethodName := ⟨RX0, "written", "(I)I"⟩
def dkwX0_written_1 : List UInt8 := [182, 1, 186, 167, 0, 4, 2, 172]
abbrev dktX0_written_1 : List UInt8 := dkwX0_written_1 ++ []
def dkwX0_written_0 : List UInt8 := [27, 3, 42, 180, 0, 76, 182, 1, 181, 4, 100, 184, 0, 3, 153, 0, 14, 42, 180, 0, 76, 27]
abbrev dktX0_written_0 : List UInt8 := dkwX0_written_0 ++ dktX0_written_1
theorem dksX0_written_0 : cX0_written.data.toList.drop 0 = dktX0_written_0 := by decide +kernel
theorem dksX0_written_1 : cX0_written.data.toList.drop 22 = dktX0_written_1 := dk_seg dksX0_written_0 22 rfl rfl
theorem dX0_written_0 : decode cX0_written 0 = .ok (.iload_n 1, 1) := dk_27 (dk_at dksX0_written_0 0 rfl rfl)
theorem dX0_written_1 : decode cX0_written 1 = .ok (.iconst 0, 1) := dk_3 (dk_at dksX0_written_0 1 rfl rfl)
theorem dX0_written_2 : decode cX0_written 2 = .ok (.aload_n 0, 1) := dk_42 (dk_at dksX0_written_0 2 rfl rfl)
theorem dX0_written_3 : decode cX0_written 3 = .ok (.getfield 76, 3) := dk_180 0 76 (dk_at dksX0_written_0 3 rfl rfl)
theorem dX0_written_6 : decode cX0_written 6 = .ok (.invokevirtual 437, 3) := dk_182 1 181 (dk_at dksX0_written_0 6 rfl rfl)
theorem dX0_written_9 : decode cX0_written 9 = .ok (.iconst 1, 1) := dk_4 (dk_at dksX0_written_0 9 rfl rfl)
theorem dX0_written_10 : decode cX0_written 10 = .ok (.isub, 1) := dk_100 (dk_at dksX0_written_0 10 rfl rfl)
theorem dX0_written_11 : decode cX0_written 11 = .ok (.invokestatic 3, 3) := dk_184 0 3 (dk_at dksX0_written_0 11 rfl rfl)
theorem dX0_written_14 : decode cX0_written 14 = .ok (.ifCond .eq 14, 3) := dk_153 0 14 (dk_at dksX0_written_0 14 rfl rfl)
theorem dX0_written_17 : decode cX0_written 17 = .ok (.aload_n 0, 1) := dk_42 (dk_at dksX0_written_0 17 rfl rfl)
theorem dX0_written_18 : decode cX0_written 18 = .ok (.getfield 76, 3) := dk_180 0 76 (dk_at dksX0_written_0 18 rfl rfl)
theorem dX0_written_21 : decode cX0_written 21 = .ok (.iload_n 1, 1) := dk_27 (dk_at dksX0_written_0 21 rfl rfl)
theorem dX0_written_22 : decode cX0_written 22 = .ok (.invokevirtual 442, 3) := dk_182 1 186 (dk_at dksX0_written_1 0 rfl rfl)
theorem dX0_written_25 : decode cX0_written 25 = .ok (.goto 4, 3) := dk_167 0 4 (dk_at dksX0_written_1 3 rfl rfl)
theorem dX0_written_28 : decode cX0_written 28 = .ok (.iconst (-1), 1) := dk_2 (dk_at dksX0_written_1 6 rfl rfl)
theorem dX0_written_29 : decode cX0_written 29 = .ok (.ireturn, 1) := dk_172 (dk_at dksX0_written_1 7 rfl rfl)
abbrev cX0_append : ByteArray := prog_1_method_49_code
def yX0_append : MethodName := ⟨RX0, "append", "(C)I"⟩
def dkwX0_append_2 : List UInt8 := [180, 1, 145, 172]
abbrev dktX0_append_2 : List UInt8 := dkwX0_append_2 ++ []
def dkwX0_append_1 : List UInt8 := [16, 252, 172, 42, 180, 0, 80, 42, 180, 1, 145, 27, 85, 42, 89, 180, 1, 145, 4, 96, 181, 1, 145, 42]
abbrev dktX0_append_1 : List UInt8 := dkwX0_append_1 ++ dktX0_append_2
def dkwX0_append_0 : List UInt8 := [27, 16, 32, 16, 126, 184, 0, 3, 154, 0, 6, 16, 254, 172, 42, 180, 1, 145, 16, 60, 160, 0, 6]
abbrev dktX0_append_0 : List UInt8 := dkwX0_append_0 ++ dktX0_append_1
theorem dksX0_append_0 : cX0_append.data.toList.drop 0 = dktX0_append_0 := by decide +kernel
theorem dksX0_append_1 : cX0_append.data.toList.drop 23 = dktX0_append_1 := dk_seg dksX0_append_0 23 rfl rfl
theorem dksX0_append_2 : cX0_append.data.toList.drop 47 = dktX0_append_2 := dk_seg dksX0_append_1 24 rfl rfl
theorem dX0_append_0 : decode cX0_append 0 = .ok (.iload_n 1, 1) := dk_27 (dk_at dksX0_append_0 0 rfl rfl)
theorem dX0_append_1 : decode cX0_append 1 = .ok (.bipush 32, 2) := dk_16 32 (dk_at dksX0_append_0 1 rfl rfl)
theorem dX0_append_3 : decode cX0_append 3 = .ok (.bipush 126, 2) := dk_16 126 (dk_at dksX0_append_0 3 rfl rfl)
theorem dX0_append_5 : decode cX0_append 5 = .ok (.invokestatic 3, 3) := dk_184 0 3 (dk_at dksX0_append_0 5 rfl rfl)
theorem dX0_append_8 : decode cX0_append 8 = .ok (.ifCond .ne 6, 3) := dk_154 0 6 (dk_at dksX0_append_0 8 rfl rfl)
theorem dX0_append_11 : decode cX0_append 11 = .ok (.bipush (-2), 2) := dk_16 254 (dk_at dksX0_append_0 11 rfl rfl)
theorem dX0_append_13 : decode cX0_append 13 = .ok (.ireturn, 1) := dk_172 (dk_at dksX0_append_0 13 rfl rfl)
theorem dX0_append_14 : decode cX0_append 14 = .ok (.aload_n 0, 1) := dk_42 (dk_at dksX0_append_0 14 rfl rfl)
theorem dX0_append_15 : decode cX0_append 15 = .ok (.getfield 401, 3) := dk_180 1 145 (dk_at dksX0_append_0 15 rfl rfl)
theorem dX0_append_18 : decode cX0_append 18 = .ok (.bipush 60, 2) := dk_16 60 (dk_at dksX0_append_0 18 rfl rfl)
theorem dX0_append_20 : decode cX0_append 20 = .ok (.if_icmp .ne 6, 3) := dk_160 0 6 (dk_at dksX0_append_0 20 rfl rfl)
theorem dX0_append_23 : decode cX0_append 23 = .ok (.bipush (-4), 2) := dk_16 252 (dk_at dksX0_append_1 0 rfl rfl)
theorem dX0_append_25 : decode cX0_append 25 = .ok (.ireturn, 1) := dk_172 (dk_at dksX0_append_1 2 rfl rfl)
theorem dX0_append_26 : decode cX0_append 26 = .ok (.aload_n 0, 1) := dk_42 (dk_at dksX0_append_1 3 rfl rfl)
theorem dX0_append_27 : decode cX0_append 27 = .ok (.getfield 80, 3) := dk_180 0 80 (dk_at dksX0_append_1 4 rfl rfl)
theorem dX0_append_30 : decode cX0_append 30 = .ok (.aload_n 0, 1) := dk_42 (dk_at dksX0_append_1 7 rfl rfl)
theorem dX0_append_31 : decode cX0_append 31 = .ok (.getfield 401, 3) := dk_180 1 145 (dk_at dksX0_append_1 8 rfl rfl)
theorem dX0_append_34 : decode cX0_append 34 = .ok (.iload_n 1, 1) := dk_27 (dk_at dksX0_append_1 11 rfl rfl)
theorem dX0_append_35 : decode cX0_append 35 = .ok (.castore, 1) := dk_85 (dk_at dksX0_append_1 12 rfl rfl)
theorem dX0_append_36 : decode cX0_append 36 = .ok (.aload_n 0, 1) := dk_42 (dk_at dksX0_append_1 13 rfl rfl)
theorem dX0_append_37 : decode cX0_append 37 = .ok (.dup, 1) := dk_89 (dk_at dksX0_append_1 14 rfl rfl)
theorem dX0_append_38 : decode cX0_append 38 = .ok (.getfield 401, 3) := dk_180 1 145 (dk_at dksX0_append_1 15 rfl rfl)
theorem dX0_append_41 : decode cX0_append 41 = .ok (.iconst 1, 1) := dk_4 (dk_at dksX0_append_1 18 rfl rfl)
theorem dX0_append_42 : decode cX0_append 42 = .ok (.iadd, 1) := dk_96 (dk_at dksX0_append_1 19 rfl rfl)
theorem dX0_append_43 : decode cX0_append 43 = .ok (.putfield 401, 3) := dk_181 1 145 (dk_at dksX0_append_1 20 rfl rfl)
theorem dX0_append_46 : decode cX0_append 46 = .ok (.aload_n 0, 1) := dk_42 (dk_at dksX0_append_1 23 rfl rfl)
theorem dX0_append_47 : decode cX0_append 47 = .ok (.getfield 401, 3) := dk_180 1 145 (dk_at dksX0_append_2 0 rfl rfl)
theorem dX0_append_50 : decode cX0_append 50 = .ok (.ireturn, 1) := dk_172 (dk_at dksX0_append_2 3 rfl rfl)
abbrev cX0_read : ByteArray := prog_1_method_51_code
def yX0_read : MethodName := ⟨RX0, "read", "()I"⟩
def dkwX0_read_2 : List UInt8 := [181, 1, 145, 28, 172, 78, 42, 3, 181, 1, 145, 45, 191]
abbrev dktX0_read_2 : List UInt8 := dkwX0_read_2 ++ []
def dkwX0_read_1 : List UInt8 := [61, 42, 3, 181, 1, 145, 28, 172, 76, 42, 43, 180, 1, 219, 181, 0, 84, 16, 254, 61, 42, 3]
abbrev dktX0_read_1 : List UInt8 := dkwX0_read_1 ++ dktX0_read_2
def dkwX0_read_0 : List UInt8 := [187, 1, 202, 89, 42, 183, 1, 204, 182, 1, 205, 76, 187, 1, 209, 89, 42, 43, 183, 1, 211, 182, 1, 214]
abbrev dktX0_read_0 : List UInt8 := dkwX0_read_0 ++ dktX0_read_1
theorem dksX0_read_0 : cX0_read.data.toList.drop 0 = dktX0_read_0 := by decide +kernel
theorem dksX0_read_1 : cX0_read.data.toList.drop 24 = dktX0_read_1 := dk_seg dksX0_read_0 24 rfl rfl
theorem dksX0_read_2 : cX0_read.data.toList.drop 46 = dktX0_read_2 := dk_seg dksX0_read_1 22 rfl rfl
theorem dX0_read_0 : decode cX0_read 0 = .ok (.new 458, 3) := dk_187 1 202 (dk_at dksX0_read_0 0 rfl rfl)
theorem dX0_read_3 : decode cX0_read 3 = .ok (.dup, 1) := dk_89 (dk_at dksX0_read_0 3 rfl rfl)
theorem dX0_read_4 : decode cX0_read 4 = .ok (.aload_n 0, 1) := dk_42 (dk_at dksX0_read_0 4 rfl rfl)
theorem dX0_read_5 : decode cX0_read 5 = .ok (.invokespecial 460, 3) := dk_183 1 204 (dk_at dksX0_read_0 5 rfl rfl)
theorem dX0_read_8 : decode cX0_read 8 = .ok (.invokevirtual 461, 3) := dk_182 1 205 (dk_at dksX0_read_0 8 rfl rfl)
theorem dX0_read_11 : decode cX0_read 11 = .ok (.astore_n 1, 1) := dk_76 (dk_at dksX0_read_0 11 rfl rfl)
theorem dX0_read_12 : decode cX0_read 12 = .ok (.new 465, 3) := dk_187 1 209 (dk_at dksX0_read_0 12 rfl rfl)
theorem dX0_read_15 : decode cX0_read 15 = .ok (.dup, 1) := dk_89 (dk_at dksX0_read_0 15 rfl rfl)
theorem dX0_read_16 : decode cX0_read 16 = .ok (.aload_n 0, 1) := dk_42 (dk_at dksX0_read_0 16 rfl rfl)
theorem dX0_read_17 : decode cX0_read 17 = .ok (.aload_n 1, 1) := dk_43 (dk_at dksX0_read_0 17 rfl rfl)
theorem dX0_read_18 : decode cX0_read 18 = .ok (.invokespecial 467, 3) := dk_183 1 211 (dk_at dksX0_read_0 18 rfl rfl)
theorem dX0_read_21 : decode cX0_read 21 = .ok (.invokevirtual 470, 3) := dk_182 1 214 (dk_at dksX0_read_0 21 rfl rfl)
theorem dX0_read_24 : decode cX0_read 24 = .ok (.istore_n 2, 1) := dk_61 (dk_at dksX0_read_1 0 rfl rfl)
theorem dX0_read_25 : decode cX0_read 25 = .ok (.aload_n 0, 1) := dk_42 (dk_at dksX0_read_1 1 rfl rfl)
theorem dX0_read_26 : decode cX0_read 26 = .ok (.iconst 0, 1) := dk_3 (dk_at dksX0_read_1 2 rfl rfl)
theorem dX0_read_27 : decode cX0_read 27 = .ok (.putfield 401, 3) := dk_181 1 145 (dk_at dksX0_read_1 3 rfl rfl)
theorem dX0_read_30 : decode cX0_read 30 = .ok (.iload_n 2, 1) := dk_28 (dk_at dksX0_read_1 6 rfl rfl)
theorem dX0_read_31 : decode cX0_read 31 = .ok (.ireturn, 1) := dk_172 (dk_at dksX0_read_1 7 rfl rfl)
theorem dX0_read_32 : decode cX0_read 32 = .ok (.astore_n 1, 1) := dk_76 (dk_at dksX0_read_1 8 rfl rfl)
theorem dX0_read_33 : decode cX0_read 33 = .ok (.aload_n 0, 1) := dk_42 (dk_at dksX0_read_1 9 rfl rfl)
theorem dX0_read_34 : decode cX0_read 34 = .ok (.aload_n 1, 1) := dk_43 (dk_at dksX0_read_1 10 rfl rfl)
theorem dX0_read_35 : decode cX0_read 35 = .ok (.getfield 475, 3) := dk_180 1 219 (dk_at dksX0_read_1 11 rfl rfl)
theorem dX0_read_38 : decode cX0_read 38 = .ok (.putfield 84, 3) := dk_181 0 84 (dk_at dksX0_read_1 14 rfl rfl)
theorem dX0_read_41 : decode cX0_read 41 = .ok (.bipush (-2), 2) := dk_16 254 (dk_at dksX0_read_1 17 rfl rfl)
theorem dX0_read_43 : decode cX0_read 43 = .ok (.istore_n 2, 1) := dk_61 (dk_at dksX0_read_1 19 rfl rfl)
theorem dX0_read_44 : decode cX0_read 44 = .ok (.aload_n 0, 1) := dk_42 (dk_at dksX0_read_1 20 rfl rfl)
theorem dX0_read_45 : decode cX0_read 45 = .ok (.iconst 0, 1) := dk_3 (dk_at dksX0_read_1 21 rfl rfl)
theorem dX0_read_46 : decode cX0_read 46 = .ok (.putfield 401, 3) := dk_181 1 145 (dk_at dksX0_read_2 0 rfl rfl)
theorem dX0_read_49 : decode cX0_read 49 = .ok (.iload_n 2, 1) := dk_28 (dk_at dksX0_read_2 3 rfl rfl)
theorem dX0_read_50 : decode cX0_read 50 = .ok (.ireturn, 1) := dk_172 (dk_at dksX0_read_2 4 rfl rfl)
theorem dX0_read_51 : decode cX0_read 51 = .ok (.astore_n 3, 1) := dk_78 (dk_at dksX0_read_2 5 rfl rfl)
theorem dX0_read_52 : decode cX0_read 52 = .ok (.aload_n 0, 1) := dk_42 (dk_at dksX0_read_2 6 rfl rfl)
theorem dX0_read_53 : decode cX0_read 53 = .ok (.iconst 0, 1) := dk_3 (dk_at dksX0_read_2 7 rfl rfl)
theorem dX0_read_54 : decode cX0_read 54 = .ok (.putfield 401, 3) := dk_181 1 145 (dk_at dksX0_read_2 8 rfl rfl)
theorem dX0_read_57 : decode cX0_read 57 = .ok (.aload_n 3, 1) := dk_45 (dk_at dksX0_read_2 11 rfl rfl)
theorem dX0_read_58 : decode cX0_read 58 = .ok (.athrow, 1) := dk_191 (dk_at dksX0_read_2 12 rfl rfl)
abbrev cX0_fault : ByteArray := prog_1_method_52_code
def yX0_fault : MethodName := ⟨RX0, "fault", "()I"⟩
def dkwX0_fault_0 : List UInt8 := [42, 180, 0, 84, 156, 0, 8, 16, 253, 167, 0, 7, 42, 180, 0, 84, 172]
abbrev dktX0_fault_0 : List UInt8 := dkwX0_fault_0 ++ []
theorem dksX0_fault_0 : cX0_fault.data.toList.drop 0 = dktX0_fault_0 := by decide +kernel
theorem dX0_fault_0 : decode cX0_fault 0 = .ok (.aload_n 0, 1) := dk_42 (dk_at dksX0_fault_0 0 rfl rfl)
theorem dX0_fault_1 : decode cX0_fault 1 = .ok (.getfield 84, 3) := dk_180 0 84 (dk_at dksX0_fault_0 1 rfl rfl)
theorem dX0_fault_4 : decode cX0_fault 4 = .ok (.ifCond .ge 8, 3) := dk_156 0 8 (dk_at dksX0_fault_0 4 rfl rfl)
theorem dX0_fault_7 : decode cX0_fault 7 = .ok (.bipush (-3), 2) := dk_16 253 (dk_at dksX0_fault_0 7 rfl rfl)
theorem dX0_fault_9 : decode cX0_fault 9 = .ok (.goto 7, 3) := dk_167 0 7 (dk_at dksX0_fault_0 9 rfl rfl)
theorem dX0_fault_12 : decode cX0_fault 12 = .ok (.aload_n 0, 1) := dk_42 (dk_at dksX0_fault_0 12 rfl rfl)
theorem dX0_fault_13 : decode cX0_fault 13 = .ok (.getfield 84, 3) := dk_180 0 84 (dk_at dksX0_fault_0 13 rfl rfl)
theorem dX0_fault_16 : decode cX0_fault 16 = .ok (.ireturn, 1) := dk_172 (dk_at dksX0_fault_0 16 rfl rfl)
abbrev cX0_reason : ByteArray := prog_1_method_53_code
def yX0_reason : MethodName := ⟨RX0, "reason", "(IZ)I"⟩
def dkwX0_reason_3 : List UInt8 := [180, 1, 233, 172, 16, 250, 172]
abbrev dktX0_reason_3 : List UInt8 := dkwX0_reason_3 ++ []
def dkwX0_reason_2 : List UInt8 := [153, 0, 27, 45, 192, 0, 7, 58, 4, 28, 153, 0, 11, 25, 4, 180, 1, 230, 167, 0, 8, 25, 4]
abbrev dktX0_reason_2 : List UInt8 := dkwX0_reason_2 ++ dktX0_reason_3
def dkwX0_reason_1 : List UInt8 := [154, 0, 10, 42, 180, 1, 222, 167, 0, 10, 42, 180, 1, 222, 182, 1, 226, 78, 45, 193, 0, 7]
abbrev dktX0_reason_1 : List UInt8 := dkwX0_reason_1 ++ dktX0_reason_2
def dkwX0_reason_0 : List UInt8 := [27, 3, 4, 184, 0, 3, 154, 0, 6, 16, 254, 172, 42, 180, 1, 222, 199, 0, 6, 16, 253, 172, 27]
abbrev dktX0_reason_0 : List UInt8 := dkwX0_reason_0 ++ dktX0_reason_1
theorem dksX0_reason_0 : cX0_reason.data.toList.drop 0 = dktX0_reason_0 := by decide +kernel
theorem dksX0_reason_1 : cX0_reason.data.toList.drop 23 = dktX0_reason_1 := dk_seg dksX0_reason_0 23 rfl rfl
theorem dksX0_reason_2 : cX0_reason.data.toList.drop 45 = dktX0_reason_2 := dk_seg dksX0_reason_1 22 rfl rfl
theorem dksX0_reason_3 : cX0_reason.data.toList.drop 68 = dktX0_reason_3 := dk_seg dksX0_reason_2 23 rfl rfl
theorem dX0_reason_0 : decode cX0_reason 0 = .ok (.iload_n 1, 1) := dk_27 (dk_at dksX0_reason_0 0 rfl rfl)
theorem dX0_reason_1 : decode cX0_reason 1 = .ok (.iconst 0, 1) := dk_3 (dk_at dksX0_reason_0 1 rfl rfl)
theorem dX0_reason_2 : decode cX0_reason 2 = .ok (.iconst 1, 1) := dk_4 (dk_at dksX0_reason_0 2 rfl rfl)
theorem dX0_reason_3 : decode cX0_reason 3 = .ok (.invokestatic 3, 3) := dk_184 0 3 (dk_at dksX0_reason_0 3 rfl rfl)
theorem dX0_reason_6 : decode cX0_reason 6 = .ok (.ifCond .ne 6, 3) := dk_154 0 6 (dk_at dksX0_reason_0 6 rfl rfl)
theorem dX0_reason_9 : decode cX0_reason 9 = .ok (.bipush (-2), 2) := dk_16 254 (dk_at dksX0_reason_0 9 rfl rfl)
theorem dX0_reason_11 : decode cX0_reason 11 = .ok (.ireturn, 1) := dk_172 (dk_at dksX0_reason_0 11 rfl rfl)
theorem dX0_reason_12 : decode cX0_reason 12 = .ok (.aload_n 0, 1) := dk_42 (dk_at dksX0_reason_0 12 rfl rfl)
theorem dX0_reason_13 : decode cX0_reason 13 = .ok (.getfield 478, 3) := dk_180 1 222 (dk_at dksX0_reason_0 13 rfl rfl)
theorem dX0_reason_16 : decode cX0_reason 16 = .ok (.ifnonnull 6, 3) := dk_199 0 6 (dk_at dksX0_reason_0 16 rfl rfl)
theorem dX0_reason_19 : decode cX0_reason 19 = .ok (.bipush (-3), 2) := dk_16 253 (dk_at dksX0_reason_0 19 rfl rfl)
theorem dX0_reason_21 : decode cX0_reason 21 = .ok (.ireturn, 1) := dk_172 (dk_at dksX0_reason_0 21 rfl rfl)
theorem dX0_reason_22 : decode cX0_reason 22 = .ok (.iload_n 1, 1) := dk_27 (dk_at dksX0_reason_0 22 rfl rfl)
theorem dX0_reason_23 : decode cX0_reason 23 = .ok (.ifCond .ne 10, 3) := dk_154 0 10 (dk_at dksX0_reason_1 0 rfl rfl)
theorem dX0_reason_26 : decode cX0_reason 26 = .ok (.aload_n 0, 1) := dk_42 (dk_at dksX0_reason_1 3 rfl rfl)
theorem dX0_reason_27 : decode cX0_reason 27 = .ok (.getfield 478, 3) := dk_180 1 222 (dk_at dksX0_reason_1 4 rfl rfl)
theorem dX0_reason_30 : decode cX0_reason 30 = .ok (.goto 10, 3) := dk_167 0 10 (dk_at dksX0_reason_1 7 rfl rfl)
theorem dX0_reason_33 : decode cX0_reason 33 = .ok (.aload_n 0, 1) := dk_42 (dk_at dksX0_reason_1 10 rfl rfl)
theorem dX0_reason_34 : decode cX0_reason 34 = .ok (.getfield 478, 3) := dk_180 1 222 (dk_at dksX0_reason_1 11 rfl rfl)
theorem dX0_reason_37 : decode cX0_reason 37 = .ok (.invokevirtual 482, 3) := dk_182 1 226 (dk_at dksX0_reason_1 14 rfl rfl)
theorem dX0_reason_40 : decode cX0_reason 40 = .ok (.astore_n 3, 1) := dk_78 (dk_at dksX0_reason_1 17 rfl rfl)
theorem dX0_reason_41 : decode cX0_reason 41 = .ok (.aload_n 3, 1) := dk_45 (dk_at dksX0_reason_1 18 rfl rfl)
theorem dX0_reason_42 : decode cX0_reason 42 = .ok (.instanceof 7, 3) := dk_193 0 7 (dk_at dksX0_reason_1 19 rfl rfl)
theorem dX0_reason_45 : decode cX0_reason 45 = .ok (.ifCond .eq 27, 3) := dk_153 0 27 (dk_at dksX0_reason_2 0 rfl rfl)
theorem dX0_reason_48 : decode cX0_reason 48 = .ok (.aload_n 3, 1) := dk_45 (dk_at dksX0_reason_2 3 rfl rfl)
theorem dX0_reason_49 : decode cX0_reason 49 = .ok (.checkcast 7, 3) := dk_192 0 7 (dk_at dksX0_reason_2 4 rfl rfl)
theorem dX0_reason_52 : decode cX0_reason 52 = .ok (.astore 4, 2) := dk_58 4 (dk_at dksX0_reason_2 7 rfl rfl)
theorem dX0_reason_54 : decode cX0_reason 54 = .ok (.iload_n 2, 1) := dk_28 (dk_at dksX0_reason_2 9 rfl rfl)
theorem dX0_reason_55 : decode cX0_reason 55 = .ok (.ifCond .eq 11, 3) := dk_153 0 11 (dk_at dksX0_reason_2 10 rfl rfl)
theorem dX0_reason_58 : decode cX0_reason 58 = .ok (.aload 4, 2) := dk_25 4 (dk_at dksX0_reason_2 13 rfl rfl)
theorem dX0_reason_60 : decode cX0_reason 60 = .ok (.getfield 486, 3) := dk_180 1 230 (dk_at dksX0_reason_2 15 rfl rfl)
theorem dX0_reason_63 : decode cX0_reason 63 = .ok (.goto 8, 3) := dk_167 0 8 (dk_at dksX0_reason_2 18 rfl rfl)
theorem dX0_reason_66 : decode cX0_reason 66 = .ok (.aload 4, 2) := dk_25 4 (dk_at dksX0_reason_2 21 rfl rfl)
theorem dX0_reason_68 : decode cX0_reason 68 = .ok (.getfield 489, 3) := dk_180 1 233 (dk_at dksX0_reason_3 0 rfl rfl)
theorem dX0_reason_71 : decode cX0_reason 71 = .ok (.ireturn, 1) := dk_172 (dk_at dksX0_reason_3 3 rfl rfl)
theorem dX0_reason_72 : decode cX0_reason 72 = .ok (.bipush (-6), 2) := dk_16 250 (dk_at dksX0_reason_3 4 rfl rfl)
theorem dX0_reason_74 : decode cX0_reason 74 = .ok (.ireturn, 1) := dk_172 (dk_at dksX0_reason_3 6 rfl rfl)
abbrev cX0_undo : ByteArray := prog_1_method_54_code
def yX0_undo : MethodName := ⟨RX0, "undo", "()I"⟩
def dkwX0_undo_1 : List UInt8 := [181, 0, 63, 42, 180, 0, 70, 182, 1, 148, 172]
abbrev dktX0_undo_1 : List UInt8 := dkwX0_undo_1 ++ []
def dkwX0_undo_0 : List UInt8 := [42, 180, 0, 70, 182, 1, 236, 153, 0, 6, 16, 253, 172, 42, 42, 180, 0, 70, 182, 1, 239, 192, 0, 60]
abbrev dktX0_undo_0 : List UInt8 := dkwX0_undo_0 ++ dktX0_undo_1
theorem dksX0_undo_0 : cX0_undo.data.toList.drop 0 = dktX0_undo_0 := by decide +kernel
theorem dksX0_undo_1 : cX0_undo.data.toList.drop 24 = dktX0_undo_1 := dk_seg dksX0_undo_0 24 rfl rfl
theorem dX0_undo_0 : decode cX0_undo 0 = .ok (.aload_n 0, 1) := dk_42 (dk_at dksX0_undo_0 0 rfl rfl)
theorem dX0_undo_1 : decode cX0_undo 1 = .ok (.getfield 70, 3) := dk_180 0 70 (dk_at dksX0_undo_0 1 rfl rfl)
theorem dX0_undo_4 : decode cX0_undo 4 = .ok (.invokevirtual 492, 3) := dk_182 1 236 (dk_at dksX0_undo_0 4 rfl rfl)
theorem dX0_undo_7 : decode cX0_undo 7 = .ok (.ifCond .eq 6, 3) := dk_153 0 6 (dk_at dksX0_undo_0 7 rfl rfl)
theorem dX0_undo_10 : decode cX0_undo 10 = .ok (.bipush (-3), 2) := dk_16 253 (dk_at dksX0_undo_0 10 rfl rfl)
theorem dX0_undo_12 : decode cX0_undo 12 = .ok (.ireturn, 1) := dk_172 (dk_at dksX0_undo_0 12 rfl rfl)
theorem dX0_undo_13 : decode cX0_undo 13 = .ok (.aload_n 0, 1) := dk_42 (dk_at dksX0_undo_0 13 rfl rfl)
theorem dX0_undo_14 : decode cX0_undo 14 = .ok (.aload_n 0, 1) := dk_42 (dk_at dksX0_undo_0 14 rfl rfl)
theorem dX0_undo_15 : decode cX0_undo 15 = .ok (.getfield 70, 3) := dk_180 0 70 (dk_at dksX0_undo_0 15 rfl rfl)
theorem dX0_undo_18 : decode cX0_undo 18 = .ok (.invokevirtual 495, 3) := dk_182 1 239 (dk_at dksX0_undo_0 18 rfl rfl)
theorem dX0_undo_21 : decode cX0_undo 21 = .ok (.checkcast 60, 3) := dk_192 0 60 (dk_at dksX0_undo_0 21 rfl rfl)
theorem dX0_undo_24 : decode cX0_undo 24 = .ok (.putfield 63, 3) := dk_181 0 63 (dk_at dksX0_undo_1 0 rfl rfl)
theorem dX0_undo_27 : decode cX0_undo 27 = .ok (.aload_n 0, 1) := dk_42 (dk_at dksX0_undo_1 3 rfl rfl)
theorem dX0_undo_28 : decode cX0_undo 28 = .ok (.getfield 70, 3) := dk_180 0 70 (dk_at dksX0_undo_1 4 rfl rfl)
theorem dX0_undo_31 : decode cX0_undo 31 = .ok (.invokevirtual 404, 3) := dk_182 1 148 (dk_at dksX0_undo_1 7 rfl rfl)
theorem dX0_undo_34 : decode cX0_undo 34 = .ok (.ireturn, 1) := dk_172 (dk_at dksX0_undo_1 10 rfl rfl)
abbrev cX0_save : ByteArray := prog_1_method_55_code
def yX0_save : MethodName := ⟨RX0, "save", "()I"⟩
def dkwX0_save_0 : List UInt8 := [42, 187, 0, 60, 89, 42, 180, 0, 63, 183, 1, 71, 181, 1, 242, 42, 180, 0, 63, 180, 1, 121, 172]
abbrev dktX0_save_0 : List UInt8 := dkwX0_save_0 ++ []
theorem dksX0_save_0 : cX0_save.data.toList.drop 0 = dktX0_save_0 := by decide +kernel
theorem dX0_save_0 : decode cX0_save 0 = .ok (.aload_n 0, 1) := dk_42 (dk_at dksX0_save_0 0 rfl rfl)
theorem dX0_save_1 : decode cX0_save 1 = .ok (.new 60, 3) := dk_187 0 60 (dk_at dksX0_save_0 1 rfl rfl)
theorem dX0_save_4 : decode cX0_save 4 = .ok (.dup, 1) := dk_89 (dk_at dksX0_save_0 4 rfl rfl)
theorem dX0_save_5 : decode cX0_save 5 = .ok (.aload_n 0, 1) := dk_42 (dk_at dksX0_save_0 5 rfl rfl)
theorem dX0_save_6 : decode cX0_save 6 = .ok (.getfield 63, 3) := dk_180 0 63 (dk_at dksX0_save_0 6 rfl rfl)
theorem dX0_save_9 : decode cX0_save 9 = .ok (.invokespecial 327, 3) := dk_183 1 71 (dk_at dksX0_save_0 9 rfl rfl)
theorem dX0_save_12 : decode cX0_save 12 = .ok (.putfield 498, 3) := dk_181 1 242 (dk_at dksX0_save_0 12 rfl rfl)
theorem dX0_save_15 : decode cX0_save 15 = .ok (.aload_n 0, 1) := dk_42 (dk_at dksX0_save_0 15 rfl rfl)
theorem dX0_save_16 : decode cX0_save 16 = .ok (.getfield 63, 3) := dk_180 0 63 (dk_at dksX0_save_0 16 rfl rfl)
theorem dX0_save_19 : decode cX0_save 19 = .ok (.getfield 377, 3) := dk_180 1 121 (dk_at dksX0_save_0 19 rfl rfl)
theorem dX0_save_22 : decode cX0_save 22 = .ok (.ireturn, 1) := dk_172 (dk_at dksX0_save_0 22 rfl rfl)
abbrev cX0_restore : ByteArray := prog_1_method_56_code
def yX0_restore : MethodName := ⟨RX0, "restore", "()I"⟩
def dkwX0_restore_1 : List UInt8 := [181, 0, 63, 42, 180, 0, 70, 182, 1, 245, 42, 180, 0, 63, 180, 1, 121, 172]
abbrev dktX0_restore_1 : List UInt8 := dkwX0_restore_1 ++ []
def dkwX0_restore_0 : List UInt8 := [42, 180, 1, 242, 199, 0, 6, 16, 253, 172, 42, 187, 0, 60, 89, 42, 180, 1, 242, 183, 1, 71]
abbrev dktX0_restore_0 : List UInt8 := dkwX0_restore_0 ++ dktX0_restore_1
theorem dksX0_restore_0 : cX0_restore.data.toList.drop 0 = dktX0_restore_0 := by decide +kernel
theorem dksX0_restore_1 : cX0_restore.data.toList.drop 22 = dktX0_restore_1 := dk_seg dksX0_restore_0 22 rfl rfl
theorem dX0_restore_0 : decode cX0_restore 0 = .ok (.aload_n 0, 1) := dk_42 (dk_at dksX0_restore_0 0 rfl rfl)
theorem dX0_restore_1 : decode cX0_restore 1 = .ok (.getfield 498, 3) := dk_180 1 242 (dk_at dksX0_restore_0 1 rfl rfl)
theorem dX0_restore_4 : decode cX0_restore 4 = .ok (.ifnonnull 6, 3) := dk_199 0 6 (dk_at dksX0_restore_0 4 rfl rfl)
theorem dX0_restore_7 : decode cX0_restore 7 = .ok (.bipush (-3), 2) := dk_16 253 (dk_at dksX0_restore_0 7 rfl rfl)
theorem dX0_restore_9 : decode cX0_restore 9 = .ok (.ireturn, 1) := dk_172 (dk_at dksX0_restore_0 9 rfl rfl)
theorem dX0_restore_10 : decode cX0_restore 10 = .ok (.aload_n 0, 1) := dk_42 (dk_at dksX0_restore_0 10 rfl rfl)
theorem dX0_restore_11 : decode cX0_restore 11 = .ok (.new 60, 3) := dk_187 0 60 (dk_at dksX0_restore_0 11 rfl rfl)
theorem dX0_restore_14 : decode cX0_restore 14 = .ok (.dup, 1) := dk_89 (dk_at dksX0_restore_0 14 rfl rfl)
theorem dX0_restore_15 : decode cX0_restore 15 = .ok (.aload_n 0, 1) := dk_42 (dk_at dksX0_restore_0 15 rfl rfl)
theorem dX0_restore_16 : decode cX0_restore 16 = .ok (.getfield 498, 3) := dk_180 1 242 (dk_at dksX0_restore_0 16 rfl rfl)
theorem dX0_restore_19 : decode cX0_restore 19 = .ok (.invokespecial 327, 3) := dk_183 1 71 (dk_at dksX0_restore_0 19 rfl rfl)
theorem dX0_restore_22 : decode cX0_restore 22 = .ok (.putfield 63, 3) := dk_181 0 63 (dk_at dksX0_restore_1 0 rfl rfl)
theorem dX0_restore_25 : decode cX0_restore 25 = .ok (.aload_n 0, 1) := dk_42 (dk_at dksX0_restore_1 3 rfl rfl)
theorem dX0_restore_26 : decode cX0_restore 26 = .ok (.getfield 70, 3) := dk_180 0 70 (dk_at dksX0_restore_1 4 rfl rfl)
theorem dX0_restore_29 : decode cX0_restore 29 = .ok (.invokevirtual 501, 3) := dk_182 1 245 (dk_at dksX0_restore_1 7 rfl rfl)
theorem dX0_restore_32 : decode cX0_restore 32 = .ok (.aload_n 0, 1) := dk_42 (dk_at dksX0_restore_1 10 rfl rfl)
theorem dX0_restore_33 : decode cX0_restore 33 = .ok (.getfield 63, 3) := dk_180 0 63 (dk_at dksX0_restore_1 11 rfl rfl)
theorem dX0_restore_36 : decode cX0_restore 36 = .ok (.getfield 377, 3) := dk_180 1 121 (dk_at dksX0_restore_1 14 rfl rfl)
theorem dX0_restore_39 : decode cX0_restore 39 = .ok (.ireturn, 1) := dk_172 (dk_at dksX0_restore_1 17 rfl rfl)
theorem q110 : (Jvm.Cond.initialized "HamletWells") ∈ lw_all := lw_g (lw_at lw_m1 1 rfl) rfl
theorem q191 : (Jvm.Cond.instantiable "HamletWells" (8 : Nat)) ∈ lw_all := lw_g (lw_at lw_m1 82 rfl) rfl
theorem q193 : (Jvm.Cond.instanceMethod ({ cls := "HamletWells", name := "<init>", desc := "()V" } : Jvm.MethodName)) ∈ lw_all := lw_g (lw_at lw_m1 84 rfl) rfl
theorem q194 : (Jvm.Cond.code ({ cls := "HamletWells", name := "<init>", desc := "()V" } : Jvm.MethodName) prog_1_method_12_code (1 : Nat) (Option.none : Option Jvm.ClassFile.FieldType)) ∈ lw_all := lw_g (lw_at lw_m1 85 rfl) rfl
theorem q195 : (Jvm.Cond.methodLink "HamletWells" (57 : Nat) ({ cls := "java/lang/Object", name := "<init>", desc := "()V" } : Jvm.MethodName)) ∈ lw_all := lw_g (lw_at lw_m1 86 rfl) rfl
theorem q198 : (Jvm.Cond.classLink "HamletWells" (60 : Nat) "HamletWells$Province") ∈ lw_all := lw_g (lw_at lw_m1 89 rfl) rfl
theorem q200 : (Jvm.Cond.methodLink "HamletWells" (62 : Nat) ({ cls := "HamletWells$Province", name := "<init>", desc := "()V" } : Jvm.MethodName)) ∈ lw_all := lw_g (lw_at lw_m1 91 rfl) rfl
theorem q251 : (Jvm.Cond.fieldLinkNest "HamletWells" (154 : Nat) "HamletWells$Province" "hamlets" "LHamletWells$Row;" "HamletWells") ∈ lw_tbl := lw_at lw_m1 142 rfl
theorem q255 : (Jvm.Cond.fieldLinkNest "HamletWells" (119 : Nat) "HamletWells$Province" "sites" "LHamletWells$Row;" "HamletWells") ∈ lw_tbl := lw_at lw_m1 146 rfl
theorem q257 : (Jvm.Cond.fieldLinkNest "HamletWells" (377 : Nat) "HamletWells$Province" "day" "I" "HamletWells") ∈ lw_tbl := lw_at lw_m1 148 rfl
theorem q259 : (Jvm.Cond.fieldLinkNest "HamletWells" (380 : Nat) "HamletWells$Province" "coins" "I" "HamletWells") ∈ lw_tbl := lw_at lw_m1 150 rfl
theorem q261 : (Jvm.Cond.fieldLinkNest "HamletWells" (362 : Nat) "HamletWells$Province" "left" "I" "HamletWells") ∈ lw_tbl := lw_at lw_m1 152 rfl
theorem q263 : (Jvm.Cond.fieldLinkNest "HamletWells" (374 : Nat) "HamletWells$Province" "needed" "I" "HamletWells") ∈ lw_tbl := lw_at lw_m1 154 rfl
theorem q265 : (Jvm.Cond.fieldLinkNest "HamletWells" (386 : Nat) "HamletWells$Province" "opening" "I" "HamletWells") ∈ lw_tbl := lw_at lw_m1 156 rfl
theorem q267 : (Jvm.Cond.fieldLinkNest "HamletWells" (389 : Nat) "HamletWells$Province" "moving" "I" "HamletWells") ∈ lw_tbl := lw_at lw_m1 158 rfl
theorem q269 : (Jvm.Cond.fieldLinkNest "HamletWells" (392 : Nat) "HamletWells$Province" "carrying" "I" "HamletWells") ∈ lw_tbl := lw_at lw_m1 160 rfl
theorem q271 : (Jvm.Cond.fieldLinkNest "HamletWells" (395 : Nat) "HamletWells$Province" "taxes" "I" "HamletWells") ∈ lw_tbl := lw_at lw_m1 162 rfl
theorem q273 : (Jvm.Cond.fieldLinkNest "HamletWells" (398 : Nat) "HamletWells$Province" "lost" "I" "HamletWells") ∈ lw_tbl := lw_at lw_m1 164 rfl
theorem q297 : (Jvm.Cond.classLink "HamletWells" (67 : Nat) "java/util/ArrayDeque") ∈ lw_all := lw_g (lw_at lw_m1 188 rfl) rfl
theorem q299 : (Jvm.Cond.methodLink "HamletWells" (69 : Nat) ({ cls := "java/util/ArrayDeque", name := "<init>", desc := "()V" } : Jvm.MethodName)) ∈ lw_all := lw_g (lw_at lw_m1 190 rfl) rfl
theorem q317 : (Jvm.Cond.stringRef "HamletWells" (74 : Nat) "") ∈ lw_tbl := lw_at lw_m1 208 rfl
theorem q321 : (Jvm.Cond.fieldLink "HamletWells" (63 : Nat) "HamletWells" "now" "LHamletWells$Province;") ∈ lw_all := lw_g (lw_at lw_m1 212 rfl) rfl
theorem q322 : (Jvm.Cond.fieldLink "HamletWells" (498 : Nat) "HamletWells" "saved" "LHamletWells$Province;") ∈ lw_all := lw_g (lw_at lw_m1 213 rfl) rfl
theorem q324 : (Jvm.Cond.fieldLink "HamletWells" (70 : Nat) "HamletWells" "before" "Ljava/util/ArrayDeque;") ∈ lw_all := lw_g (lw_at lw_m1 215 rfl) rfl
theorem q326 : (Jvm.Cond.fieldLink "HamletWells" (478 : Nat) "HamletWells" "refusal" "LHamletWells$Refused;") ∈ lw_all := lw_g (lw_at lw_m1 217 rfl) rfl
theorem q327 : (Jvm.Cond.fieldLink "HamletWells" (76 : Nat) "HamletWells" "line" "Ljava/lang/String;") ∈ lw_all := lw_g (lw_at lw_m1 218 rfl) rfl
theorem q329 : (Jvm.Cond.fieldLink "HamletWells" (80 : Nat) "HamletWells" "input" "[C") ∈ lw_all := lw_g (lw_at lw_m1 220 rfl) rfl
theorem q331 : (Jvm.Cond.fieldLink "HamletWells" (401 : Nat) "HamletWells" "fed" "I") ∈ lw_all := lw_g (lw_at lw_m1 222 rfl) rfl
theorem q332 : (Jvm.Cond.fieldLink "HamletWells" (84 : Nat) "HamletWells" "faultAt" "I") ∈ lw_all := lw_g (lw_at lw_m1 223 rfl) rfl
theorem q333 : (Jvm.Cond.lays "HamletWells" "HamletWells" "now" "LHamletWells$Province;") ∈ lw_all := lw_g (lw_at lw_m1 224 rfl) rfl
theorem q334 : (Jvm.Cond.soleField "HamletWells" "now") ∈ lw_all := lw_g (lw_at lw_m1 225 rfl) rfl
theorem q335 : (Jvm.Cond.lays "HamletWells" "HamletWells" "saved" "LHamletWells$Province;") ∈ lw_all := lw_g (lw_at lw_m1 226 rfl) rfl
theorem q336 : (Jvm.Cond.soleField "HamletWells" "saved") ∈ lw_all := lw_g (lw_at lw_m1 227 rfl) rfl
theorem q337 : (Jvm.Cond.laysFinal "HamletWells" "HamletWells" "before" "Ljava/util/ArrayDeque;") ∈ lw_all := lw_g (lw_at lw_m1 228 rfl) rfl
theorem q338 : (Jvm.Cond.soleField "HamletWells" "before") ∈ lw_all := lw_g (lw_at lw_m1 229 rfl) rfl
theorem q339 : (Jvm.Cond.lays "HamletWells" "HamletWells" "refusal" "LHamletWells$Refused;") ∈ lw_all := lw_g (lw_at lw_m1 230 rfl) rfl
theorem q340 : (Jvm.Cond.soleField "HamletWells" "refusal") ∈ lw_all := lw_g (lw_at lw_m1 231 rfl) rfl
theorem q341 : (Jvm.Cond.lays "HamletWells" "HamletWells" "line" "Ljava/lang/String;") ∈ lw_all := lw_g (lw_at lw_m1 232 rfl) rfl
theorem q342 : (Jvm.Cond.soleField "HamletWells" "line") ∈ lw_all := lw_g (lw_at lw_m1 233 rfl) rfl
theorem q343 : (Jvm.Cond.laysFinal "HamletWells" "HamletWells" "input" "[C") ∈ lw_all := lw_g (lw_at lw_m1 234 rfl) rfl
theorem q344 : (Jvm.Cond.soleField "HamletWells" "input") ∈ lw_all := lw_g (lw_at lw_m1 235 rfl) rfl
theorem q345 : (Jvm.Cond.lays "HamletWells" "HamletWells" "fed" "I") ∈ lw_all := lw_g (lw_at lw_m1 236 rfl) rfl
theorem q346 : (Jvm.Cond.soleField "HamletWells" "fed") ∈ lw_all := lw_g (lw_at lw_m1 237 rfl) rfl
theorem q347 : (Jvm.Cond.lays "HamletWells" "HamletWells" "faultAt" "I") ∈ lw_all := lw_g (lw_at lw_m1 238 rfl) rfl
theorem q348 : (Jvm.Cond.soleField "HamletWells" "faultAt") ∈ lw_all := lw_g (lw_at lw_m1 239 rfl) rfl
theorem q349 : (Jvm.Cond.superclass "HamletWells" "java/lang/Object") ∈ lw_all := lw_g (lw_at lw_m2 0 rfl) rfl
theorem q353 : (Jvm.Cond.instanceMethod ({ cls := "HamletWells", name := "hamlet", desc := "(III)I" } : Jvm.MethodName)) ∈ lw_all := lw_g (lw_at lw_m2 4 rfl) rfl
theorem q354 : (Jvm.Cond.selects "HamletWells" ({ cls := "HamletWells", name := "hamlet", desc := "(III)I" } : Jvm.MethodName) ({ cls := "HamletWells", name := "hamlet", desc := "(III)I" } : Jvm.MethodName)) ∈ lw_all := lw_g (lw_at lw_m2 5 rfl) rfl
theorem q355 : (Jvm.Cond.code ({ cls := "HamletWells", name := "hamlet", desc := "(III)I" } : Jvm.MethodName) prog_1_method_13_code (4 : Nat) (Option.some Jvm.ClassFile.FieldType.int)) ∈ lw_all := lw_g (lw_at lw_m2 6 rfl) rfl
theorem q356 : (Jvm.Cond.classLink "HamletWells" (88 : Nat) "HamletWells$1") ∈ lw_all := lw_g (lw_at lw_m2 7 rfl) rfl
theorem q358 : (Jvm.Cond.methodLink "HamletWells" (90 : Nat) ({ cls := "HamletWells$1", name := "<init>", desc := "(LHamletWells;III)V" } : Jvm.MethodName)) ∈ lw_all := lw_g (lw_at lw_m2 9 rfl) rfl
theorem q381 : (Jvm.Cond.methodLink "HamletWells" (93 : Nat) ({ cls := "HamletWells", name := "isPlace", desc := "(II)Z" } : Jvm.MethodName)) ∈ lw_all := lw_g (lw_at lw_m2 32 rfl) rfl
theorem q382 : (Jvm.Cond.static ({ cls := "HamletWells", name := "isPlace", desc := "(II)Z" } : Jvm.MethodName)) ∈ lw_all := lw_g (lw_at lw_m2 33 rfl) rfl
theorem q383 : (Jvm.Cond.code ({ cls := "HamletWells", name := "isPlace", desc := "(II)Z" } : Jvm.MethodName) prog_1_method_3_code (2 : Nat) (Option.some Jvm.ClassFile.FieldType.boolean)) ∈ lw_all := lw_g (lw_at lw_m2 34 rfl) rfl
theorem q384 : (Jvm.Cond.methodLink "HamletWells" (3 : Nat) ({ cls := "HamletWells", name := "in", desc := "(III)Z" } : Jvm.MethodName)) ∈ lw_all := lw_g (lw_at lw_m2 35 rfl) rfl
theorem q385 : (Jvm.Cond.static ({ cls := "HamletWells", name := "in", desc := "(III)Z" } : Jvm.MethodName)) ∈ lw_all := lw_g (lw_at lw_m2 36 rfl) rfl
theorem q386 : (Jvm.Cond.code ({ cls := "HamletWells", name := "in", desc := "(III)Z" } : Jvm.MethodName) prog_1_method_1_code (3 : Nat) (Option.some Jvm.ClassFile.FieldType.boolean)) ∈ lw_all := lw_g (lw_at lw_m2 37 rfl) rfl
theorem q387 : (Jvm.Cond.methodLink "HamletWells" (97 : Nat) ({ cls := "HamletWells", name := "arePeople", desc := "(I)Z" } : Jvm.MethodName)) ∈ lw_all := lw_g (lw_at lw_m2 38 rfl) rfl
theorem q388 : (Jvm.Cond.static ({ cls := "HamletWells", name := "arePeople", desc := "(I)Z" } : Jvm.MethodName)) ∈ lw_all := lw_g (lw_at lw_m2 39 rfl) rfl
theorem q389 : (Jvm.Cond.code ({ cls := "HamletWells", name := "arePeople", desc := "(I)Z" } : Jvm.MethodName) prog_1_method_4_code (1 : Nat) (Option.some Jvm.ClassFile.FieldType.boolean)) ∈ lw_all := lw_g (lw_at lw_m2 40 rfl) rfl
theorem q390 : (Jvm.Cond.methodLink "HamletWells" (101 : Nat) ({ cls := "HamletWells$1", name := "doneIf", desc := "(ZI)I" } : Jvm.MethodName)) ∈ lw_all := lw_g (lw_at lw_m2 41 rfl) rfl
theorem q604 : (Jvm.Cond.selects "HamletWells" ({ cls := "java/lang/Object", name := "getClass", desc := "()Ljava/lang/Class;" } : Jvm.MethodName) ({ cls := "java/lang/Object", name := "getClass", desc := "()Ljava/lang/Class;" } : Jvm.MethodName)) ∈ lw_all := lw_g (lw_at lw_m3 15 rfl) rfl
theorem q973 : (Jvm.Cond.fieldLinkNest "HamletWells" (172 : Nat) "HamletWells$Hamlet" "people" "I" "HamletWells") ∈ lw_tbl := lw_at lw_m4 144 rfl
theorem q978 : (Jvm.Cond.fieldLinkNest "HamletWells" (184 : Nat) "HamletWells$Hamlet" "thirst" "I" "HamletWells") ∈ lw_tbl := lw_at lw_m4 149 rfl
theorem q982 : (Jvm.Cond.fieldLinkNest "HamletWells" (187 : Nat) "HamletWells$Hamlet" "got" "I" "HamletWells") ∈ lw_tbl := lw_at lw_m4 153 rfl
theorem q985 : (Jvm.Cond.fieldLinkNest "HamletWells" (190 : Nat) "HamletWells$Hamlet" "paid" "I" "HamletWells") ∈ lw_tbl := lw_at lw_m4 156 rfl
theorem q997 : (Jvm.Cond.fieldLink "HamletWells" (175 : Nat) "HamletWells$Site" "number" "I") ∈ lw_all := lw_g (lw_at lw_m4 168 rfl) rfl
theorem q998 : (Jvm.Cond.fieldLink "HamletWells" (236 : Nat) "HamletWells$Hamlet" "number" "I") ∈ lw_all := lw_g (lw_at lw_m4 169 rfl) rfl
theorem q1004 : (Jvm.Cond.fieldLink "HamletWells" (166 : Nat) "HamletWells$Hamlet" "x" "I") ∈ lw_all := lw_g (lw_at lw_m4 175 rfl) rfl
theorem q1005 : (Jvm.Cond.fieldLink "HamletWells" (193 : Nat) "HamletWells$Site" "x" "I") ∈ lw_all := lw_g (lw_at lw_m4 176 rfl) rfl
theorem q1006 : (Jvm.Cond.fieldLink "HamletWells" (411 : Nat) "HamletWells$Standing" "x" "I") ∈ lw_all := lw_g (lw_at lw_m4 177 rfl) rfl
theorem q1012 : (Jvm.Cond.fieldLink "HamletWells" (169 : Nat) "HamletWells$Hamlet" "y" "I") ∈ lw_all := lw_g (lw_at lw_m4 183 rfl) rfl
theorem q1013 : (Jvm.Cond.fieldLink "HamletWells" (194 : Nat) "HamletWells$Site" "y" "I") ∈ lw_all := lw_g (lw_at lw_m4 184 rfl) rfl
theorem q1014 : (Jvm.Cond.fieldLink "HamletWells" (417 : Nat) "HamletWells$Standing" "y" "I") ∈ lw_all := lw_g (lw_at lw_m4 185 rfl) rfl
theorem q1074 : (Jvm.Cond.fieldLinkNest "HamletWells" (198 : Nat) "HamletWells$Site" "cost" "I" "HamletWells") ∈ lw_tbl := lw_at lw_m5 5 rfl
theorem q1076 : (Jvm.Cond.fieldLinkNest "HamletWells" (195 : Nat) "HamletWells$Site" "depth" "I" "HamletWells") ∈ lw_tbl := lw_at lw_m5 7 rfl
theorem q1080 : (Jvm.Cond.fieldLinkNest "HamletWells" (201 : Nat) "HamletWells$Site" "isOpen" "Z" "HamletWells") ∈ lw_tbl := lw_at lw_m5 11 rfl
theorem q1084 : (Jvm.Cond.fieldLinkNest "HamletWells" (209 : Nat) "HamletWells$Site" "hasPump" "Z" "HamletWells") ∈ lw_tbl := lw_at lw_m5 15 rfl
theorem q1087 : (Jvm.Cond.fieldLinkNest "HamletWells" (229 : Nat) "HamletWells$Site" "given" "I" "HamletWells") ∈ lw_tbl := lw_at lw_m5 18 rfl
theorem q1120 : (Jvm.Cond.static ({ cls := "HamletWells", name := "needs", desc := "(ZII)V" } : Jvm.MethodName)) ∈ lw_all := lw_g (lw_at lw_m5 51 rfl) rfl
theorem q1121 : (Jvm.Cond.code ({ cls := "HamletWells", name := "needs", desc := "(ZII)V" } : Jvm.MethodName) prog_1_method_7_code (3 : Nat) (Option.none : Option Jvm.ClassFile.FieldType)) ∈ lw_all := lw_g (lw_at lw_m5 52 rfl) rfl
theorem q1122 : (Jvm.Cond.classLink "HamletWells" (7 : Nat) "HamletWells$Refused") ∈ lw_all := lw_g (lw_at lw_m5 53 rfl) rfl
theorem q1131 : (Jvm.Cond.methodLink "HamletWells" (9 : Nat) ({ cls := "HamletWells$Refused", name := "<init>", desc := "(II)V" } : Jvm.MethodName)) ∈ lw_all := lw_g (lw_at lw_m5 62 rfl) rfl
theorem q1144 : (Jvm.Cond.fieldLinkNest "HamletWells" (489 : Nat) "HamletWells$Refused" "reason" "I" "HamletWells") ∈ lw_tbl := lw_at lw_m5 75 rfl
theorem q1146 : (Jvm.Cond.fieldLinkNest "HamletWells" (486 : Nat) "HamletWells$Refused" "detail" "I" "HamletWells") ∈ lw_tbl := lw_at lw_m5 77 rfl
theorem q1173 : (Jvm.Cond.static ({ cls := "HamletWells", name := "doesAll", desc := "(LHamletWells$Province;Ljava/util/ArrayList;)I" } : Jvm.MethodName)) ∈ lw_all := lw_g (lw_at lw_m5 104 rfl) rfl
theorem q1174 : (Jvm.Cond.codeWith ({ cls := "HamletWells", name := "doesAll", desc := "(LHamletWells$Province;Ljava/util/ArrayList;)I" } : Jvm.MethodName) prog_1_method_50_code (6 : Nat) (Option.some Jvm.ClassFile.FieldType.int) [((27 : Nat), (35 : Nat), (38 : Nat), (7 : Nat)), ((27 : Nat), (35 : Nat), (38 : Nat), (13 : Nat))]) ∈ lw_all := lw_g (lw_at lw_m5 105 rfl) rfl
theorem q1175 : (Jvm.Cond.classLink "HamletWells" (13 : Nat) "HamletWells$OutOfRange") ∈ lw_all := lw_g (lw_at lw_m5 106 rfl) rfl
theorem q1176 : (Jvm.Cond.methodLink "HamletWells" (446 : Nat) ({ cls := "java/util/ArrayList", name := "iterator", desc := "()Ljava/util/Iterator;" } : Jvm.MethodName)) ∈ lw_all := lw_g (lw_at lw_m5 107 rfl) rfl
theorem q1177 : (Jvm.Cond.interfaceEntry "HamletWells" (24 : Nat)) ∈ lw_tbl := lw_at lw_m5 108 rfl
theorem q1178 : (Jvm.Cond.methodLink "HamletWells" (24 : Nat) ({ cls := "java/util/Iterator", name := "hasNext", desc := "()Z" } : Jvm.MethodName)) ∈ lw_all := lw_g (lw_at lw_m5 109 rfl) rfl
theorem q1179 : (Jvm.Cond.interfaceEntry "HamletWells" (30 : Nat)) ∈ lw_tbl := lw_at lw_m5 110 rfl
theorem q1180 : (Jvm.Cond.methodLink "HamletWells" (30 : Nat) ({ cls := "java/util/Iterator", name := "next", desc := "()Ljava/lang/Object;" } : Jvm.MethodName)) ∈ lw_all := lw_g (lw_at lw_m5 111 rfl) rfl
theorem q1181 : (Jvm.Cond.classLink "HamletWells" (449 : Nat) "HamletWells$Command") ∈ lw_all := lw_g (lw_at lw_m5 112 rfl) rfl
theorem q1182 : (Jvm.Cond.methodLink "HamletWells" (451 : Nat) ({ cls := "HamletWells$Command", name := "does", desc := "(LHamletWells$Province;)I" } : Jvm.MethodName)) ∈ lw_all := lw_g (lw_at lw_m5 113 rfl) rfl
theorem q1191 : (Jvm.Cond.static ({ cls := "HamletWells", name := "inRange", desc := "([Z)V" } : Jvm.MethodName)) ∈ lw_all := lw_g (lw_at lw_m5 122 rfl) rfl
theorem q1192 : (Jvm.Cond.code ({ cls := "HamletWells", name := "inRange", desc := "([Z)V" } : Jvm.MethodName) prog_1_method_8_code (5 : Nat) (Option.none : Option Jvm.ClassFile.FieldType)) ∈ lw_all := lw_g (lw_at lw_m5 123 rfl) rfl
theorem q1201 : (Jvm.Cond.methodLink "HamletWells" (15 : Nat) ({ cls := "HamletWells$OutOfRange", name := "<init>", desc := "()V" } : Jvm.MethodName)) ∈ lw_all := lw_g (lw_at lw_m5 132 rfl) rfl
theorem q1214 : (Jvm.Cond.static ({ cls := "HamletWells", name := "isSite", desc := "(II)Z" } : Jvm.MethodName)) ∈ lw_all := lw_g (lw_at lw_m5 145 rfl) rfl
theorem q1215 : (Jvm.Cond.code ({ cls := "HamletWells", name := "isSite", desc := "(II)Z" } : Jvm.MethodName) prog_1_method_5_code (2 : Nat) (Option.some Jvm.ClassFile.FieldType.boolean)) ∈ lw_all := lw_g (lw_at lw_m5 146 rfl) rfl
theorem q1258 : (Jvm.Cond.static ({ cls := "HamletWells", name := "areDays", desc := "(I)Z" } : Jvm.MethodName)) ∈ lw_all := lw_g (lw_at lw_m5 189 rfl) rfl
theorem q1259 : (Jvm.Cond.code ({ cls := "HamletWells", name := "areDays", desc := "(I)Z" } : Jvm.MethodName) prog_1_method_6_code (1 : Nat) (Option.some Jvm.ClassFile.FieldType.boolean)) ∈ lw_all := lw_g (lw_at lw_m5 190 rfl) rfl
theorem q1335 : (Jvm.Cond.static ({ cls := "HamletWells", name := "least", desc := "(Ljava/lang/Iterable;LHamletWells$Asked;LHamletWells$Worth;)Ljava/lang/Object;" } : Jvm.MethodName)) ∈ lw_all := lw_g (lw_at lw_m6 26 rfl) rfl
theorem q1336 : (Jvm.Cond.code ({ cls := "HamletWells", name := "least", desc := "(Ljava/lang/Iterable;LHamletWells$Asked;LHamletWells$Worth;)Ljava/lang/Object;" } : Jvm.MethodName) prog_1_method_10_code (6 : Nat) (Option.some (Jvm.ClassFile.FieldType.object "java/lang/Object"))) ∈ lw_all := lw_g (lw_at lw_m6 27 rfl) rfl
theorem q1337 : (Jvm.Cond.interfaceEntry "HamletWells" (18 : Nat)) ∈ lw_tbl := lw_at lw_m6 28 rfl
theorem q1338 : (Jvm.Cond.methodLink "HamletWells" (18 : Nat) ({ cls := "java/lang/Iterable", name := "iterator", desc := "()Ljava/util/Iterator;" } : Jvm.MethodName)) ∈ lw_all := lw_g (lw_at lw_m6 29 rfl) rfl
theorem q1483 : (Jvm.Cond.interfaceEntry "HamletWells" (40 : Nat)) ∈ lw_tbl := lw_at lw_m6 174 rfl
theorem q1484 : (Jvm.Cond.methodLink "HamletWells" (40 : Nat) ({ cls := "HamletWells$Asked", name := "is", desc := "(Ljava/lang/Object;)Z" } : Jvm.MethodName)) ∈ lw_all := lw_g (lw_at lw_m6 175 rfl) rfl
theorem q1538 : (Jvm.Cond.interfaceEntry "HamletWells" (34 : Nat)) ∈ lw_tbl := lw_at lw_m6 229 rfl
theorem q1539 : (Jvm.Cond.methodLink "HamletWells" (34 : Nat) ({ cls := "HamletWells$Worth", name := "of", desc := "(Ljava/lang/Object;)I" } : Jvm.MethodName)) ∈ lw_all := lw_g (lw_at lw_m6 230 rfl) rfl
theorem q1601 : (Jvm.Cond.static ({ cls := "HamletWells", name := "bit", desc := "(Z)I" } : Jvm.MethodName)) ∈ lw_all := lw_g (lw_at lw_m7 52 rfl) rfl
theorem q1602 : (Jvm.Cond.code ({ cls := "HamletWells", name := "bit", desc := "(Z)I" } : Jvm.MethodName) prog_1_method_2_code (1 : Nat) (Option.some Jvm.ClassFile.FieldType.int)) ∈ lw_all := lw_g (lw_at lw_m7 53 rfl) rfl
theorem q1849 : (Jvm.Cond.methodLink "HamletWells" (455 : Nat) ({ cls := "HamletWells$Refused", name := "<init>", desc := "(IILjava/lang/Exception;)V" } : Jvm.MethodName)) ∈ lw_all := lw_g (lw_at lw_m8 60 rfl) rfl
theorem q1903 : (Jvm.Cond.instanceMethod ({ cls := "HamletWells", name := "site", desc := "(IIII)I" } : Jvm.MethodName)) ∈ lw_all := lw_g (lw_at lw_m8 114 rfl) rfl
theorem q1904 : (Jvm.Cond.selects "HamletWells" ({ cls := "HamletWells", name := "site", desc := "(IIII)I" } : Jvm.MethodName) ({ cls := "HamletWells", name := "site", desc := "(IIII)I" } : Jvm.MethodName)) ∈ lw_all := lw_g (lw_at lw_m8 115 rfl) rfl
theorem q1905 : (Jvm.Cond.code ({ cls := "HamletWells", name := "site", desc := "(IIII)I" } : Jvm.MethodName) prog_1_method_14_code (5 : Nat) (Option.some Jvm.ClassFile.FieldType.int)) ∈ lw_all := lw_g (lw_at lw_m8 116 rfl) rfl
theorem q1906 : (Jvm.Cond.classLink "HamletWells" (105 : Nat) "HamletWells$2") ∈ lw_all := lw_g (lw_at lw_m8 117 rfl) rfl
theorem q1908 : (Jvm.Cond.methodLink "HamletWells" (107 : Nat) ({ cls := "HamletWells$2", name := "<init>", desc := "(LHamletWells;IIII)V" } : Jvm.MethodName)) ∈ lw_all := lw_g (lw_at lw_m8 119 rfl) rfl
theorem q1929 : (Jvm.Cond.methodLink "HamletWells" (110 : Nat) ({ cls := "HamletWells", name := "isSite", desc := "(II)Z" } : Jvm.MethodName)) ∈ lw_all := lw_g (lw_at lw_m8 140 rfl) rfl
theorem q1930 : (Jvm.Cond.methodLink "HamletWells" (113 : Nat) ({ cls := "HamletWells$2", name := "doneIf", desc := "(ZI)I" } : Jvm.MethodName)) ∈ lw_all := lw_g (lw_at lw_m8 141 rfl) rfl
theorem q1934 : (Jvm.Cond.instanceMethod ({ cls := "HamletWells", name := "open", desc := "(I)I" } : Jvm.MethodName)) ∈ lw_all := lw_g (lw_at lw_m8 145 rfl) rfl
theorem q1935 : (Jvm.Cond.selects "HamletWells" ({ cls := "HamletWells", name := "open", desc := "(I)I" } : Jvm.MethodName) ({ cls := "HamletWells", name := "open", desc := "(I)I" } : Jvm.MethodName)) ∈ lw_all := lw_g (lw_at lw_m8 146 rfl) rfl
theorem q1936 : (Jvm.Cond.code ({ cls := "HamletWells", name := "open", desc := "(I)I" } : Jvm.MethodName) prog_1_method_15_code (2 : Nat) (Option.some Jvm.ClassFile.FieldType.int)) ∈ lw_all := lw_g (lw_at lw_m8 147 rfl) rfl
theorem q1937 : (Jvm.Cond.classLink "HamletWells" (114 : Nat) "HamletWells$3") ∈ lw_all := lw_g (lw_at lw_m8 148 rfl) rfl
theorem q1939 : (Jvm.Cond.methodLink "HamletWells" (116 : Nat) ({ cls := "HamletWells$3", name := "<init>", desc := "(LHamletWells;I)V" } : Jvm.MethodName)) ∈ lw_all := lw_g (lw_at lw_m8 150 rfl) rfl
theorem q1951 : (Jvm.Cond.methodLink "HamletWells" (123 : Nat) ({ cls := "HamletWells$Row", name := "has", desc := "(I)Z" } : Jvm.MethodName)) ∈ lw_all := lw_g (lw_at lw_m8 162 rfl) rfl
theorem q1952 : (Jvm.Cond.methodLink "HamletWells" (128 : Nat) ({ cls := "HamletWells$3", name := "doneIf", desc := "(ZI)I" } : Jvm.MethodName)) ∈ lw_all := lw_g (lw_at lw_m8 163 rfl) rfl
theorem q1956 : (Jvm.Cond.instanceMethod ({ cls := "HamletWells", name := "shut", desc := "(I)I" } : Jvm.MethodName)) ∈ lw_all := lw_g (lw_at lw_m8 167 rfl) rfl
theorem q1957 : (Jvm.Cond.selects "HamletWells" ({ cls := "HamletWells", name := "shut", desc := "(I)I" } : Jvm.MethodName) ({ cls := "HamletWells", name := "shut", desc := "(I)I" } : Jvm.MethodName)) ∈ lw_all := lw_g (lw_at lw_m8 168 rfl) rfl
theorem q1958 : (Jvm.Cond.code ({ cls := "HamletWells", name := "shut", desc := "(I)I" } : Jvm.MethodName) prog_1_method_16_code (2 : Nat) (Option.some Jvm.ClassFile.FieldType.int)) ∈ lw_all := lw_g (lw_at lw_m8 169 rfl) rfl
theorem q1959 : (Jvm.Cond.classLink "HamletWells" (129 : Nat) "HamletWells$4") ∈ lw_all := lw_g (lw_at lw_m8 170 rfl) rfl
theorem q1961 : (Jvm.Cond.methodLink "HamletWells" (131 : Nat) ({ cls := "HamletWells$4", name := "<init>", desc := "(LHamletWells;I)V" } : Jvm.MethodName)) ∈ lw_all := lw_g (lw_at lw_m8 172 rfl) rfl
theorem q1973 : (Jvm.Cond.methodLink "HamletWells" (132 : Nat) ({ cls := "HamletWells$4", name := "doneIf", desc := "(ZI)I" } : Jvm.MethodName)) ∈ lw_all := lw_g (lw_at lw_m8 184 rfl) rfl
theorem q1977 : (Jvm.Cond.instanceMethod ({ cls := "HamletWells", name := "pump", desc := "(I)I" } : Jvm.MethodName)) ∈ lw_all := lw_g (lw_at lw_m8 188 rfl) rfl
theorem q1978 : (Jvm.Cond.selects "HamletWells" ({ cls := "HamletWells", name := "pump", desc := "(I)I" } : Jvm.MethodName) ({ cls := "HamletWells", name := "pump", desc := "(I)I" } : Jvm.MethodName)) ∈ lw_all := lw_g (lw_at lw_m8 189 rfl) rfl
theorem q1979 : (Jvm.Cond.code ({ cls := "HamletWells", name := "pump", desc := "(I)I" } : Jvm.MethodName) prog_1_method_17_code (2 : Nat) (Option.some Jvm.ClassFile.FieldType.int)) ∈ lw_all := lw_g (lw_at lw_m8 190 rfl) rfl
theorem q1980 : (Jvm.Cond.classLink "HamletWells" (133 : Nat) "HamletWells$5") ∈ lw_all := lw_g (lw_at lw_m8 191 rfl) rfl
theorem q1982 : (Jvm.Cond.methodLink "HamletWells" (135 : Nat) ({ cls := "HamletWells$5", name := "<init>", desc := "(LHamletWells;I)V" } : Jvm.MethodName)) ∈ lw_all := lw_g (lw_at lw_m8 193 rfl) rfl
theorem q1994 : (Jvm.Cond.methodLink "HamletWells" (136 : Nat) ({ cls := "HamletWells$5", name := "doneIf", desc := "(ZI)I" } : Jvm.MethodName)) ∈ lw_all := lw_g (lw_at lw_m8 205 rfl) rfl
theorem q1998 : (Jvm.Cond.instanceMethod ({ cls := "HamletWells", name := "unpump", desc := "(I)I" } : Jvm.MethodName)) ∈ lw_all := lw_g (lw_at lw_m8 209 rfl) rfl
theorem q1999 : (Jvm.Cond.selects "HamletWells" ({ cls := "HamletWells", name := "unpump", desc := "(I)I" } : Jvm.MethodName) ({ cls := "HamletWells", name := "unpump", desc := "(I)I" } : Jvm.MethodName)) ∈ lw_all := lw_g (lw_at lw_m8 210 rfl) rfl
theorem q2000 : (Jvm.Cond.code ({ cls := "HamletWells", name := "unpump", desc := "(I)I" } : Jvm.MethodName) prog_1_method_18_code (2 : Nat) (Option.some Jvm.ClassFile.FieldType.int)) ∈ lw_all := lw_g (lw_at lw_m8 211 rfl) rfl
theorem q2001 : (Jvm.Cond.classLink "HamletWells" (137 : Nat) "HamletWells$6") ∈ lw_all := lw_g (lw_at lw_m8 212 rfl) rfl
theorem q2003 : (Jvm.Cond.methodLink "HamletWells" (139 : Nat) ({ cls := "HamletWells$6", name := "<init>", desc := "(LHamletWells;I)V" } : Jvm.MethodName)) ∈ lw_all := lw_g (lw_at lw_m8 214 rfl) rfl
theorem q2015 : (Jvm.Cond.methodLink "HamletWells" (140 : Nat) ({ cls := "HamletWells$6", name := "doneIf", desc := "(ZI)I" } : Jvm.MethodName)) ∈ lw_all := lw_g (lw_at lw_m8 226 rfl) rfl
theorem q2019 : (Jvm.Cond.instanceMethod ({ cls := "HamletWells", name := "move", desc := "(II)I" } : Jvm.MethodName)) ∈ lw_all := lw_g (lw_at lw_m8 230 rfl) rfl
theorem q2020 : (Jvm.Cond.selects "HamletWells" ({ cls := "HamletWells", name := "move", desc := "(II)I" } : Jvm.MethodName) ({ cls := "HamletWells", name := "move", desc := "(II)I" } : Jvm.MethodName)) ∈ lw_all := lw_g (lw_at lw_m8 231 rfl) rfl
theorem q2021 : (Jvm.Cond.code ({ cls := "HamletWells", name := "move", desc := "(II)I" } : Jvm.MethodName) prog_1_method_19_code (3 : Nat) (Option.some Jvm.ClassFile.FieldType.int)) ∈ lw_all := lw_g (lw_at lw_m8 232 rfl) rfl
theorem q2022 : (Jvm.Cond.classLink "HamletWells" (141 : Nat) "HamletWells$7") ∈ lw_all := lw_g (lw_at lw_m8 233 rfl) rfl
theorem q2024 : (Jvm.Cond.methodLink "HamletWells" (143 : Nat) ({ cls := "HamletWells$7", name := "<init>", desc := "(LHamletWells;II)V" } : Jvm.MethodName)) ∈ lw_all := lw_g (lw_at lw_m8 235 rfl) rfl
theorem q2039 : (Jvm.Cond.methodLink "HamletWells" (146 : Nat) ({ cls := "HamletWells$7", name := "doneIf", desc := "(ZI)I" } : Jvm.MethodName)) ∈ lw_all := lw_g (lw_at lw_m9 10 rfl) rfl
theorem q2043 : (Jvm.Cond.instanceMethod ({ cls := "HamletWells", name := "pass", desc := "(I)I" } : Jvm.MethodName)) ∈ lw_all := lw_g (lw_at lw_m9 14 rfl) rfl
theorem q2044 : (Jvm.Cond.selects "HamletWells" ({ cls := "HamletWells", name := "pass", desc := "(I)I" } : Jvm.MethodName) ({ cls := "HamletWells", name := "pass", desc := "(I)I" } : Jvm.MethodName)) ∈ lw_all := lw_g (lw_at lw_m9 15 rfl) rfl
theorem q2045 : (Jvm.Cond.code ({ cls := "HamletWells", name := "pass", desc := "(I)I" } : Jvm.MethodName) prog_1_method_20_code (2 : Nat) (Option.some Jvm.ClassFile.FieldType.int)) ∈ lw_all := lw_g (lw_at lw_m9 16 rfl) rfl
theorem q2046 : (Jvm.Cond.classLink "HamletWells" (147 : Nat) "HamletWells$8") ∈ lw_all := lw_g (lw_at lw_m9 17 rfl) rfl
theorem q2048 : (Jvm.Cond.methodLink "HamletWells" (149 : Nat) ({ cls := "HamletWells$8", name := "<init>", desc := "(LHamletWells;I)V" } : Jvm.MethodName)) ∈ lw_all := lw_g (lw_at lw_m9 19 rfl) rfl
theorem q2060 : (Jvm.Cond.methodLink "HamletWells" (150 : Nat) ({ cls := "HamletWells", name := "areDays", desc := "(I)Z" } : Jvm.MethodName)) ∈ lw_all := lw_g (lw_at lw_m9 31 rfl) rfl
theorem q2061 : (Jvm.Cond.methodLink "HamletWells" (153 : Nat) ({ cls := "HamletWells$8", name := "doneIf", desc := "(ZI)I" } : Jvm.MethodName)) ∈ lw_all := lw_g (lw_at lw_m9 32 rfl) rfl
theorem q2065 : (Jvm.Cond.instanceMethod ({ cls := "HamletWells", name := "hamletOf", desc := "(II)I" } : Jvm.MethodName)) ∈ lw_all := lw_g (lw_at lw_m9 36 rfl) rfl
theorem q2066 : (Jvm.Cond.selects "HamletWells" ({ cls := "HamletWells", name := "hamletOf", desc := "(II)I" } : Jvm.MethodName) ({ cls := "HamletWells", name := "hamletOf", desc := "(II)I" } : Jvm.MethodName)) ∈ lw_all := lw_g (lw_at lw_m9 37 rfl) rfl
theorem q2067 : (Jvm.Cond.code ({ cls := "HamletWells", name := "hamletOf", desc := "(II)I" } : Jvm.MethodName) prog_1_method_21_code (5 : Nat) (Option.some Jvm.ClassFile.FieldType.int)) ∈ lw_all := lw_g (lw_at lw_m9 38 rfl) rfl
theorem q2068 : (Jvm.Cond.methodLink "HamletWells" (157 : Nat) ({ cls := "HamletWells$Row", name := "of", desc := "(I)LHamletWells$Standing;" } : Jvm.MethodName)) ∈ lw_all := lw_g (lw_at lw_m9 39 rfl) rfl
theorem q2069 : (Jvm.Cond.classLink "HamletWells" (160 : Nat) "HamletWells$Hamlet") ∈ lw_all := lw_g (lw_at lw_m9 40 rfl) rfl
theorem q2070 : (Jvm.Cond.methodLink "HamletWells" (162 : Nat) ({ cls := "HamletWells$Province", name := "well", desc := "(LHamletWells$Hamlet;)LHamletWells$Site;" } : Jvm.MethodName)) ∈ lw_all := lw_g (lw_at lw_m9 41 rfl) rfl
theorem q2071 : (Jvm.Cond.methodLink "HamletWells" (180 : Nat) ({ cls := "HamletWells$Site", name := "far", desc := "(LHamletWells$Standing;)I" } : Jvm.MethodName)) ∈ lw_all := lw_g (lw_at lw_m9 42 rfl) rfl
theorem q2073 : (Jvm.Cond.instanceMethod ({ cls := "HamletWells", name := "siteOf", desc := "(II)I" } : Jvm.MethodName)) ∈ lw_all := lw_g (lw_at lw_m9 44 rfl) rfl
theorem q2074 : (Jvm.Cond.selects "HamletWells" ({ cls := "HamletWells", name := "siteOf", desc := "(II)I" } : Jvm.MethodName) ({ cls := "HamletWells", name := "siteOf", desc := "(II)I" } : Jvm.MethodName)) ∈ lw_all := lw_g (lw_at lw_m9 45 rfl) rfl
theorem q2075 : (Jvm.Cond.code ({ cls := "HamletWells", name := "siteOf", desc := "(II)I" } : Jvm.MethodName) prog_1_method_22_code (4 : Nat) (Option.some Jvm.ClassFile.FieldType.int)) ∈ lw_all := lw_g (lw_at lw_m9 46 rfl) rfl
theorem q2076 : (Jvm.Cond.classLink "HamletWells" (176 : Nat) "HamletWells$Site") ∈ lw_all := lw_g (lw_at lw_m9 47 rfl) rfl
theorem q2077 : (Jvm.Cond.methodLink "HamletWells" (205 : Nat) ({ cls := "HamletWells", name := "bit", desc := "(Z)I" } : Jvm.MethodName)) ∈ lw_all := lw_g (lw_at lw_m9 48 rfl) rfl
theorem q2078 : (Jvm.Cond.methodLink "HamletWells" (212 : Nat) ({ cls := "HamletWells$Site", name := "gives", desc := "()I" } : Jvm.MethodName)) ∈ lw_all := lw_g (lw_at lw_m9 49 rfl) rfl
theorem q2079 : (Jvm.Cond.methodLink "HamletWells" (216 : Nat) ({ cls := "HamletWells$Province", name := "asked", desc := "(LHamletWells$Site;)I" } : Jvm.MethodName)) ∈ lw_all := lw_g (lw_at lw_m9 50 rfl) rfl
theorem q2094 : (Jvm.Cond.static ({ cls := "HamletWells", name := "sum", desc := "(Ljava/lang/Iterable;LHamletWells$Worth;)I" } : Jvm.MethodName)) ∈ lw_all := lw_g (lw_at lw_m9 65 rfl) rfl
theorem q2095 : (Jvm.Cond.code ({ cls := "HamletWells", name := "sum", desc := "(Ljava/lang/Iterable;LHamletWells$Worth;)I" } : Jvm.MethodName) prog_1_method_9_code (5 : Nat) (Option.some Jvm.ClassFile.FieldType.int)) ∈ lw_all := lw_g (lw_at lw_m9 66 rfl) rfl
theorem q2096 : (Jvm.Cond.methodLink "HamletWells" (220 : Nat) ({ cls := "HamletWells$Province", name := "drinkers", desc := "(LHamletWells$Site;)Ljava/util/LinkedList;" } : Jvm.MethodName)) ∈ lw_all := lw_g (lw_at lw_m9 67 rfl) rfl
theorem q2097 : (Jvm.Cond.methodLink "HamletWells" (224 : Nat) ({ cls := "java/util/LinkedList", name := "size", desc := "()I" } : Jvm.MethodName)) ∈ lw_all := lw_g (lw_at lw_m9 68 rfl) rfl
theorem q2099 : (Jvm.Cond.instanceMethod ({ cls := "HamletWells", name := "drinker", desc := "(II)I" } : Jvm.MethodName)) ∈ lw_all := lw_g (lw_at lw_m9 70 rfl) rfl
theorem q2100 : (Jvm.Cond.selects "HamletWells" ({ cls := "HamletWells", name := "drinker", desc := "(II)I" } : Jvm.MethodName) ({ cls := "HamletWells", name := "drinker", desc := "(II)I" } : Jvm.MethodName)) ∈ lw_all := lw_g (lw_at lw_m9 71 rfl) rfl
theorem q2101 : (Jvm.Cond.code ({ cls := "HamletWells", name := "drinker", desc := "(II)I" } : Jvm.MethodName) prog_1_method_23_code (4 : Nat) (Option.some Jvm.ClassFile.FieldType.int)) ∈ lw_all := lw_g (lw_at lw_m9 72 rfl) rfl
theorem q2102 : (Jvm.Cond.methodLink "HamletWells" (232 : Nat) ({ cls := "java/util/LinkedList", name := "get", desc := "(I)Ljava/lang/Object;" } : Jvm.MethodName)) ∈ lw_all := lw_g (lw_at lw_m9 73 rfl) rfl
theorem q2104 : (Jvm.Cond.instanceMethod ({ cls := "HamletWells", name := "cost", desc := "(I)I" } : Jvm.MethodName)) ∈ lw_all := lw_g (lw_at lw_m9 75 rfl) rfl
theorem q2105 : (Jvm.Cond.selects "HamletWells" ({ cls := "HamletWells", name := "cost", desc := "(I)I" } : Jvm.MethodName) ({ cls := "HamletWells", name := "cost", desc := "(I)I" } : Jvm.MethodName)) ∈ lw_all := lw_g (lw_at lw_m9 76 rfl) rfl
theorem q2106 : (Jvm.Cond.code ({ cls := "HamletWells", name := "cost", desc := "(I)I" } : Jvm.MethodName) prog_1_method_27_code (2 : Nat) (Option.some Jvm.ClassFile.FieldType.int)) ∈ lw_all := lw_g (lw_at lw_m9 77 rfl) rfl
theorem q2107 : (Jvm.Cond.methodLink "HamletWells" (251 : Nat) ({ cls := "HamletWells", name := "isPlan", desc := "(I)Z" } : Jvm.MethodName)) ∈ lw_all := lw_g (lw_at lw_m9 78 rfl) rfl
theorem q2108 : (Jvm.Cond.privateMethod ({ cls := "HamletWells", name := "isPlan", desc := "(I)Z" } : Jvm.MethodName)) ∈ lw_tbl := lw_at lw_m9 79 rfl
theorem q2109 : (Jvm.Cond.instanceMethod ({ cls := "HamletWells", name := "isPlan", desc := "(I)Z" } : Jvm.MethodName)) ∈ lw_all := lw_g (lw_at lw_m9 80 rfl) rfl
theorem q2110 : (Jvm.Cond.code ({ cls := "HamletWells", name := "isPlan", desc := "(I)Z" } : Jvm.MethodName) prog_1_method_24_code (2 : Nat) (Option.some Jvm.ClassFile.FieldType.boolean)) ∈ lw_all := lw_g (lw_at lw_m9 81 rfl) rfl
theorem q2111 : (Jvm.Cond.methodLink "HamletWells" (237 : Nat) ({ cls := "HamletWells$Row", name := "many", desc := "()I" } : Jvm.MethodName)) ∈ lw_all := lw_g (lw_at lw_m9 82 rfl) rfl
theorem q2112 : (Jvm.Cond.methodLink "HamletWells" (254 : Nat) ({ cls := "HamletWells", name := "plan", desc := "(I)Ljava/util/BitSet;" } : Jvm.MethodName)) ∈ lw_all := lw_g (lw_at lw_m9 83 rfl) rfl
theorem q2113 : (Jvm.Cond.static ({ cls := "HamletWells", name := "plan", desc := "(I)Ljava/util/BitSet;" } : Jvm.MethodName)) ∈ lw_all := lw_g (lw_at lw_m9 84 rfl) rfl
theorem q2114 : (Jvm.Cond.code ({ cls := "HamletWells", name := "plan", desc := "(I)Ljava/util/BitSet;" } : Jvm.MethodName) prog_1_method_25_code (3 : Nat) (Option.some (Jvm.ClassFile.FieldType.object "java/util/BitSet"))) ∈ lw_all := lw_g (lw_at lw_m9 85 rfl) rfl
theorem q2115 : (Jvm.Cond.classLink "HamletWells" (240 : Nat) "java/util/BitSet") ∈ lw_all := lw_g (lw_at lw_m9 86 rfl) rfl
theorem q2116 : (Jvm.Cond.methodLink "HamletWells" (242 : Nat) ({ cls := "java/util/BitSet", name := "<init>", desc := "()V" } : Jvm.MethodName)) ∈ lw_all := lw_g (lw_at lw_m9 87 rfl) rfl
theorem q2117 : (Jvm.Cond.methodLink "HamletWells" (243 : Nat) ({ cls := "java/util/BitSet", name := "set", desc := "(IZ)V" } : Jvm.MethodName)) ∈ lw_all := lw_g (lw_at lw_m9 88 rfl) rfl
theorem q2118 : (Jvm.Cond.methodLink "HamletWells" (258 : Nat) ({ cls := "HamletWells$Province", name := "cost", desc := "(Ljava/util/BitSet;)I" } : Jvm.MethodName)) ∈ lw_all := lw_g (lw_at lw_m9 89 rfl) rfl
theorem q2151 : (Jvm.Cond.instanceMethod ({ cls := "HamletWells", name := "cheapest", desc := "()I" } : Jvm.MethodName)) ∈ lw_all := lw_g (lw_at lw_m9 122 rfl) rfl
theorem q2152 : (Jvm.Cond.selects "HamletWells" ({ cls := "HamletWells", name := "cheapest", desc := "()I" } : Jvm.MethodName) ({ cls := "HamletWells", name := "cheapest", desc := "()I" } : Jvm.MethodName)) ∈ lw_all := lw_g (lw_at lw_m9 123 rfl) rfl
theorem q2153 : (Jvm.Cond.code ({ cls := "HamletWells", name := "cheapest", desc := "()I" } : Jvm.MethodName) prog_1_method_29_code (5 : Nat) (Option.some Jvm.ClassFile.FieldType.int)) ∈ lw_all := lw_g (lw_at lw_m9 124 rfl) rfl
theorem q2154 : (Jvm.Cond.methodLink "HamletWells" (261 : Nat) ({ cls := "HamletWells", name := "isLess", desc := "(II)Z" } : Jvm.MethodName)) ∈ lw_all := lw_g (lw_at lw_m9 125 rfl) rfl
theorem q2155 : (Jvm.Cond.static ({ cls := "HamletWells", name := "isLess", desc := "(II)Z" } : Jvm.MethodName)) ∈ lw_all := lw_g (lw_at lw_m9 126 rfl) rfl
theorem q2156 : (Jvm.Cond.code ({ cls := "HamletWells", name := "isLess", desc := "(II)Z" } : Jvm.MethodName) prog_1_method_28_code (2 : Nat) (Option.some Jvm.ClassFile.FieldType.boolean)) ∈ lw_all := lw_g (lw_at lw_m9 127 rfl) rfl
theorem q2158 : (Jvm.Cond.instanceMethod ({ cls := "HamletWells", name := "cheapestAgain", desc := "()I" } : Jvm.MethodName)) ∈ lw_all := lw_g (lw_at lw_m9 129 rfl) rfl
theorem q2159 : (Jvm.Cond.selects "HamletWells" ({ cls := "HamletWells", name := "cheapestAgain", desc := "()I" } : Jvm.MethodName) ({ cls := "HamletWells", name := "cheapestAgain", desc := "()I" } : Jvm.MethodName)) ∈ lw_all := lw_g (lw_at lw_m9 130 rfl) rfl
theorem q2160 : (Jvm.Cond.code ({ cls := "HamletWells", name := "cheapestAgain", desc := "()I" } : Jvm.MethodName) prog_1_method_31_code (1 : Nat) (Option.some Jvm.ClassFile.FieldType.int)) ∈ lw_all := lw_g (lw_at lw_m9 131 rfl) rfl
theorem q2161 : (Jvm.Cond.methodLink "HamletWells" (264 : Nat) ({ cls := "HamletWells", name := "leastBehind", desc := "(Ljava/util/BitSet;III)I" } : Jvm.MethodName)) ∈ lw_all := lw_g (lw_at lw_m9 132 rfl) rfl
theorem q2162 : (Jvm.Cond.privateMethod ({ cls := "HamletWells", name := "leastBehind", desc := "(Ljava/util/BitSet;III)I" } : Jvm.MethodName)) ∈ lw_tbl := lw_at lw_m9 133 rfl
theorem q2163 : (Jvm.Cond.instanceMethod ({ cls := "HamletWells", name := "leastBehind", desc := "(Ljava/util/BitSet;III)I" } : Jvm.MethodName)) ∈ lw_all := lw_g (lw_at lw_m9 134 rfl) rfl
theorem q2164 : (Jvm.Cond.code ({ cls := "HamletWells", name := "leastBehind", desc := "(Ljava/util/BitSet;III)I" } : Jvm.MethodName) prog_1_method_30_code (7 : Nat) (Option.some Jvm.ClassFile.FieldType.int)) ∈ lw_all := lw_g (lw_at lw_m9 135 rfl) rfl
theorem q2165 : (Jvm.Cond.methodLink "HamletWells" (268 : Nat) ({ cls := "java/util/BitSet", name := "set", desc := "(I)V" } : Jvm.MethodName)) ∈ lw_all := lw_g (lw_at lw_m9 136 rfl) rfl
theorem q2166 : (Jvm.Cond.methodLink "HamletWells" (271 : Nat) ({ cls := "HamletWells$Site", name := "opens", desc := "()I" } : Jvm.MethodName)) ∈ lw_all := lw_g (lw_at lw_m9 137 rfl) rfl
theorem q2167 : (Jvm.Cond.methodLink "HamletWells" (274 : Nat) ({ cls := "java/util/BitSet", name := "clear", desc := "(I)V" } : Jvm.MethodName)) ∈ lw_all := lw_g (lw_at lw_m9 138 rfl) rfl
theorem q2169 : (Jvm.Cond.instanceMethod ({ cls := "HamletWells", name := "greedy", desc := "()I" } : Jvm.MethodName)) ∈ lw_all := lw_g (lw_at lw_m9 140 rfl) rfl
theorem q2170 : (Jvm.Cond.selects "HamletWells" ({ cls := "HamletWells", name := "greedy", desc := "()I" } : Jvm.MethodName) ({ cls := "HamletWells", name := "greedy", desc := "()I" } : Jvm.MethodName)) ∈ lw_all := lw_g (lw_at lw_m9 141 rfl) rfl
theorem q2171 : (Jvm.Cond.code ({ cls := "HamletWells", name := "greedy", desc := "()I" } : Jvm.MethodName) prog_1_method_33_code (7 : Nat) (Option.some Jvm.ClassFile.FieldType.int)) ∈ lw_all := lw_g (lw_at lw_m9 142 rfl) rfl
theorem q2172 : (Jvm.Cond.methodLink "HamletWells" (280 : Nat) ({ cls := "java/util/BitSet", name := "get", desc := "(I)Z" } : Jvm.MethodName)) ∈ lw_all := lw_g (lw_at lw_m9 143 rfl) rfl
theorem q2173 : (Jvm.Cond.methodLink "HamletWells" (282 : Nat) ({ cls := "HamletWells", name := "costWith", desc := "(Ljava/util/BitSet;I)I" } : Jvm.MethodName)) ∈ lw_all := lw_g (lw_at lw_m9 144 rfl) rfl
theorem q2174 : (Jvm.Cond.privateMethod ({ cls := "HamletWells", name := "costWith", desc := "(Ljava/util/BitSet;I)I" } : Jvm.MethodName)) ∈ lw_tbl := lw_at lw_m9 145 rfl
theorem q2175 : (Jvm.Cond.instanceMethod ({ cls := "HamletWells", name := "costWith", desc := "(Ljava/util/BitSet;I)I" } : Jvm.MethodName)) ∈ lw_all := lw_g (lw_at lw_m9 146 rfl) rfl
theorem q2176 : (Jvm.Cond.code ({ cls := "HamletWells", name := "costWith", desc := "(Ljava/util/BitSet;I)I" } : Jvm.MethodName) prog_1_method_32_code (4 : Nat) (Option.some Jvm.ClassFile.FieldType.int)) ∈ lw_all := lw_g (lw_at lw_m9 147 rfl) rfl
theorem q2177 : (Jvm.Cond.methodLink "HamletWells" (277 : Nat) ({ cls := "java/util/BitSet", name := "flip", desc := "(I)V" } : Jvm.MethodName)) ∈ lw_all := lw_g (lw_at lw_m9 148 rfl) rfl
theorem q2181 : (Jvm.Cond.methodLink "HamletWells" (286 : Nat) ({ cls := "HamletWells", name := "set", desc := "(Ljava/util/BitSet;)I" } : Jvm.MethodName)) ∈ lw_all := lw_g (lw_at lw_m9 152 rfl) rfl
theorem q2182 : (Jvm.Cond.static ({ cls := "HamletWells", name := "set", desc := "(Ljava/util/BitSet;)I" } : Jvm.MethodName)) ∈ lw_all := lw_g (lw_at lw_m9 153 rfl) rfl
theorem q2183 : (Jvm.Cond.code ({ cls := "HamletWells", name := "set", desc := "(Ljava/util/BitSet;)I" } : Jvm.MethodName) prog_1_method_26_code (3 : Nat) (Option.some Jvm.ClassFile.FieldType.int)) ∈ lw_all := lw_g (lw_at lw_m9 154 rfl) rfl
theorem q2184 : (Jvm.Cond.methodLink "HamletWells" (247 : Nat) ({ cls := "java/util/BitSet", name := "nextSetBit", desc := "(I)I" } : Jvm.MethodName)) ∈ lw_all := lw_g (lw_at lw_m9 155 rfl) rfl
theorem q2186 : (Jvm.Cond.instanceMethod ({ cls := "HamletWells", name := "swap", desc := "(I)I" } : Jvm.MethodName)) ∈ lw_all := lw_g (lw_at lw_m9 157 rfl) rfl
theorem q2187 : (Jvm.Cond.selects "HamletWells" ({ cls := "HamletWells", name := "swap", desc := "(I)I" } : Jvm.MethodName) ({ cls := "HamletWells", name := "swap", desc := "(I)I" } : Jvm.MethodName)) ∈ lw_all := lw_g (lw_at lw_m9 158 rfl) rfl
theorem q2188 : (Jvm.Cond.code ({ cls := "HamletWells", name := "swap", desc := "(I)I" } : Jvm.MethodName) prog_1_method_35_code (4 : Nat) (Option.some Jvm.ClassFile.FieldType.int)) ∈ lw_all := lw_g (lw_at lw_m9 159 rfl) rfl
theorem q2189 : (Jvm.Cond.methodLink "HamletWells" (298 : Nat) ({ cls := "HamletWells", name := "swaps", desc := "(Ljava/util/BitSet;)Ljava/util/LinkedList;" } : Jvm.MethodName)) ∈ lw_all := lw_g (lw_at lw_m9 160 rfl) rfl
theorem q2190 : (Jvm.Cond.privateMethod ({ cls := "HamletWells", name := "swaps", desc := "(Ljava/util/BitSet;)Ljava/util/LinkedList;" } : Jvm.MethodName)) ∈ lw_tbl := lw_at lw_m9 161 rfl
theorem q2191 : (Jvm.Cond.instanceMethod ({ cls := "HamletWells", name := "swaps", desc := "(Ljava/util/BitSet;)Ljava/util/LinkedList;" } : Jvm.MethodName)) ∈ lw_all := lw_g (lw_at lw_m9 162 rfl) rfl
theorem q2192 : (Jvm.Cond.code ({ cls := "HamletWells", name := "swaps", desc := "(Ljava/util/BitSet;)Ljava/util/LinkedList;" } : Jvm.MethodName) prog_1_method_34_code (5 : Nat) (Option.some (Jvm.ClassFile.FieldType.object "java/util/LinkedList"))) ∈ lw_all := lw_g (lw_at lw_m9 163 rfl) rfl
theorem q2193 : (Jvm.Cond.classLink "HamletWells" (225 : Nat) "java/util/LinkedList") ∈ lw_all := lw_g (lw_at lw_m9 164 rfl) rfl
theorem q2194 : (Jvm.Cond.methodLink "HamletWells" (288 : Nat) ({ cls := "java/util/LinkedList", name := "<init>", desc := "()V" } : Jvm.MethodName)) ∈ lw_all := lw_g (lw_at lw_m9 165 rfl) rfl
theorem q2195 : (Jvm.Cond.classLink "HamletWells" (289 : Nat) "HamletWells$Swap") ∈ lw_all := lw_g (lw_at lw_m9 166 rfl) rfl
theorem q2197 : (Jvm.Cond.methodLinkNest "HamletWells" (291 : Nat) ({ cls := "HamletWells$Swap", name := "<init>", desc := "(III)V" } : Jvm.MethodName) "HamletWells") ∈ lw_tbl := lw_at lw_m9 168 rfl
theorem q2214 : (Jvm.Cond.methodLink "HamletWells" (294 : Nat) ({ cls := "java/util/LinkedList", name := "addLast", desc := "(Ljava/lang/Object;)V" } : Jvm.MethodName)) ∈ lw_all := lw_g (lw_at lw_m9 185 rfl) rfl
theorem q2215 : (Jvm.Cond.classLink "HamletWells" (302 : Nat) "HamletWells$9") ∈ lw_all := lw_g (lw_at lw_m9 186 rfl) rfl
theorem q2217 : (Jvm.Cond.methodLink "HamletWells" (304 : Nat) ({ cls := "HamletWells$9", name := "<init>", desc := "(LHamletWells;I)V" } : Jvm.MethodName)) ∈ lw_all := lw_g (lw_at lw_m9 188 rfl) rfl
theorem q2228 : (Jvm.Cond.classLink "HamletWells" (305 : Nat) "HamletWells$10") ∈ lw_all := lw_g (lw_at lw_m9 199 rfl) rfl
theorem q2230 : (Jvm.Cond.methodLink "HamletWells" (307 : Nat) ({ cls := "HamletWells$10", name := "<init>", desc := "(LHamletWells;)V" } : Jvm.MethodName)) ∈ lw_all := lw_g (lw_at lw_m9 201 rfl) rfl
theorem q2238 : (Jvm.Cond.methodLink "HamletWells" (310 : Nat) ({ cls := "HamletWells", name := "least", desc := "(Ljava/lang/Iterable;LHamletWells$Asked;LHamletWells$Worth;)Ljava/lang/Object;" } : Jvm.MethodName)) ∈ lw_all := lw_g (lw_at lw_m9 209 rfl) rfl
theorem q2239 : (Jvm.Cond.methodLink "HamletWells" (314 : Nat) ({ cls := "HamletWells$Swap", name := "out", desc := "()I" } : Jvm.MethodName)) ∈ lw_all := lw_g (lw_at lw_m9 210 rfl) rfl
theorem q2243 : (Jvm.Cond.methodLink "HamletWells" (317 : Nat) ({ cls := "HamletWells$Swap", name := "comes", desc := "()I" } : Jvm.MethodName)) ∈ lw_all := lw_g (lw_at lw_m9 214 rfl) rfl
theorem q2248 : (Jvm.Cond.instanceMethod ({ cls := "HamletWells", name := "saves", desc := "(I)I" } : Jvm.MethodName)) ∈ lw_all := lw_g (lw_at lw_m9 219 rfl) rfl
theorem q2249 : (Jvm.Cond.selects "HamletWells" ({ cls := "HamletWells", name := "saves", desc := "(I)I" } : Jvm.MethodName) ({ cls := "HamletWells", name := "saves", desc := "(I)I" } : Jvm.MethodName)) ∈ lw_all := lw_g (lw_at lw_m9 220 rfl) rfl
theorem q2250 : (Jvm.Cond.code ({ cls := "HamletWells", name := "saves", desc := "(I)I" } : Jvm.MethodName) prog_1_method_36_code (3 : Nat) (Option.some Jvm.ClassFile.FieldType.int)) ∈ lw_all := lw_g (lw_at lw_m9 221 rfl) rfl
theorem q2251 : (Jvm.Cond.methodLink "HamletWells" (320 : Nat) ({ cls := "HamletWells$Province", name := "openMany", desc := "()I" } : Jvm.MethodName)) ∈ lw_all := lw_g (lw_at lw_m9 222 rfl) rfl
theorem q2252 : (Jvm.Cond.methodLink "HamletWells" (323 : Nat) ({ cls := "HamletWells$Province", name := "open", desc := "()Ljava/util/BitSet;" } : Jvm.MethodName)) ∈ lw_all := lw_g (lw_at lw_m9 223 rfl) rfl
theorem q2254 : (Jvm.Cond.instanceMethod ({ cls := "HamletWells", name := "thirstIn", desc := "(I)I" } : Jvm.MethodName)) ∈ lw_all := lw_g (lw_at lw_m9 225 rfl) rfl
theorem q2255 : (Jvm.Cond.selects "HamletWells" ({ cls := "HamletWells", name := "thirstIn", desc := "(I)I" } : Jvm.MethodName) ({ cls := "HamletWells", name := "thirstIn", desc := "(I)I" } : Jvm.MethodName)) ∈ lw_all := lw_g (lw_at lw_m9 226 rfl) rfl
theorem q2256 : (Jvm.Cond.code ({ cls := "HamletWells", name := "thirstIn", desc := "(I)I" } : Jvm.MethodName) prog_1_method_37_code (2 : Nat) (Option.some Jvm.ClassFile.FieldType.int)) ∈ lw_all := lw_g (lw_at lw_m9 227 rfl) rfl
theorem q2257 : (Jvm.Cond.methodLink "HamletWells" (327 : Nat) ({ cls := "HamletWells$Province", name := "<init>", desc := "(LHamletWells$Province;)V" } : Jvm.MethodName)) ∈ lw_all := lw_g (lw_at lw_m9 228 rfl) rfl
theorem q2258 : (Jvm.Cond.methodLink "HamletWells" (330 : Nat) ({ cls := "HamletWells$Province", name := "goes", desc := "(I)I" } : Jvm.MethodName)) ∈ lw_all := lw_g (lw_at lw_m9 229 rfl) rfl
theorem q2260 : (Jvm.Cond.instanceMethod ({ cls := "HamletWells", name := "thirsty", desc := "(I)I" } : Jvm.MethodName)) ∈ lw_all := lw_g (lw_at lw_m9 231 rfl) rfl
theorem q2261 : (Jvm.Cond.selects "HamletWells" ({ cls := "HamletWells", name := "thirsty", desc := "(I)I" } : Jvm.MethodName) ({ cls := "HamletWells", name := "thirsty", desc := "(I)I" } : Jvm.MethodName)) ∈ lw_all := lw_g (lw_at lw_m9 232 rfl) rfl
theorem q2262 : (Jvm.Cond.code ({ cls := "HamletWells", name := "thirsty", desc := "(I)I" } : Jvm.MethodName) prog_1_method_38_code (3 : Nat) (Option.some Jvm.ClassFile.FieldType.int)) ∈ lw_all := lw_g (lw_at lw_m9 233 rfl) rfl
theorem q2263 : (Jvm.Cond.classLink "HamletWells" (333 : Nat) "HamletWells$ByThirst") ∈ lw_all := lw_g (lw_at lw_m9 234 rfl) rfl
theorem q2265 : (Jvm.Cond.methodLinkNest "HamletWells" (335 : Nat) ({ cls := "HamletWells$ByThirst", name := "<init>", desc := "()V" } : Jvm.MethodName) "HamletWells") ∈ lw_tbl := lw_at lw_m9 236 rfl
theorem q2270 : (Jvm.Cond.methodLink "HamletWells" (336 : Nat) ({ cls := "HamletWells", name := "placed", desc := "(Ljava/lang/Iterable;ILjava/util/Comparator;)Ljava/lang/Object;" } : Jvm.MethodName)) ∈ lw_all := lw_g (lw_at lw_m10 1 rfl) rfl
theorem q2271 : (Jvm.Cond.static ({ cls := "HamletWells", name := "placed", desc := "(Ljava/lang/Iterable;ILjava/util/Comparator;)Ljava/lang/Object;" } : Jvm.MethodName)) ∈ lw_all := lw_g (lw_at lw_m10 2 rfl) rfl
theorem q2272 : (Jvm.Cond.code ({ cls := "HamletWells", name := "placed", desc := "(Ljava/lang/Iterable;ILjava/util/Comparator;)Ljava/lang/Object;" } : Jvm.MethodName) prog_1_method_11_code (6 : Nat) (Option.some (Jvm.ClassFile.FieldType.object "java/lang/Object"))) ∈ lw_all := lw_g (lw_at lw_m10 3 rfl) rfl
theorem q2273 : (Jvm.Cond.classLink "HamletWells" (46 : Nat) "java/util/PriorityQueue") ∈ lw_all := lw_g (lw_at lw_m10 4 rfl) rfl
theorem q2275 : (Jvm.Cond.methodLink "HamletWells" (48 : Nat) ({ cls := "java/util/PriorityQueue", name := "<init>", desc := "(Ljava/util/Comparator;)V" } : Jvm.MethodName)) ∈ lw_all := lw_g (lw_at lw_m10 6 rfl) rfl
theorem q2302 : (Jvm.Cond.methodLink "HamletWells" (51 : Nat) ({ cls := "java/util/PriorityQueue", name := "add", desc := "(Ljava/lang/Object;)Z" } : Jvm.MethodName)) ∈ lw_all := lw_g (lw_at lw_m10 33 rfl) rfl
theorem q2536 : (Jvm.Cond.methodLink "HamletWells" (54 : Nat) ({ cls := "java/util/PriorityQueue", name := "poll", desc := "()Ljava/lang/Object;" } : Jvm.MethodName)) ∈ lw_all := lw_g (lw_at lw_m11 27 rfl) rfl
theorem q2547 : (Jvm.Cond.instanceMethod ({ cls := "HamletWells", name := "strained", desc := "(I)I" } : Jvm.MethodName)) ∈ lw_all := lw_g (lw_at lw_m11 38 rfl) rfl
theorem q2548 : (Jvm.Cond.selects "HamletWells" ({ cls := "HamletWells", name := "strained", desc := "(I)I" } : Jvm.MethodName) ({ cls := "HamletWells", name := "strained", desc := "(I)I" } : Jvm.MethodName)) ∈ lw_all := lw_g (lw_at lw_m11 39 rfl) rfl
theorem q2549 : (Jvm.Cond.code ({ cls := "HamletWells", name := "strained", desc := "(I)I" } : Jvm.MethodName) prog_1_method_39_code (5 : Nat) (Option.some Jvm.ClassFile.FieldType.int)) ∈ lw_all := lw_g (lw_at lw_m11 40 rfl) rfl
theorem q2550 : (Jvm.Cond.methodLink "HamletWells" (340 : Nat) ({ cls := "HamletWells$Row", name := "iterator", desc := "()Ljava/util/Iterator;" } : Jvm.MethodName)) ∈ lw_all := lw_g (lw_at lw_m11 41 rfl) rfl
theorem q2551 : (Jvm.Cond.classLink "HamletWells" (341 : Nat) "HamletWells$ByStrain") ∈ lw_all := lw_g (lw_at lw_m11 42 rfl) rfl
theorem q2552 : (Jvm.Cond.methodLinkNest "HamletWells" (343 : Nat) ({ cls := "HamletWells$ByStrain", name := "<init>", desc := "(LHamletWells;)V" } : Jvm.MethodName) "HamletWells") ∈ lw_tbl := lw_at lw_m11 43 rfl
theorem q2561 : (Jvm.Cond.instanceMethod ({ cls := "HamletWells", name := "isCounted", desc := "()Z" } : Jvm.MethodName)) ∈ lw_all := lw_g (lw_at lw_m11 52 rfl) rfl
theorem q2562 : (Jvm.Cond.selects "HamletWells" ({ cls := "HamletWells", name := "isCounted", desc := "()Z" } : Jvm.MethodName) ({ cls := "HamletWells", name := "isCounted", desc := "()Z" } : Jvm.MethodName)) ∈ lw_all := lw_g (lw_at lw_m11 53 rfl) rfl
theorem q2563 : (Jvm.Cond.code ({ cls := "HamletWells", name := "isCounted", desc := "()Z" } : Jvm.MethodName) prog_1_method_40_code (6 : Nat) (Option.some Jvm.ClassFile.FieldType.boolean)) ∈ lw_all := lw_g (lw_at lw_m11 54 rfl) rfl
theorem q2564 : (Jvm.Cond.methodLink "HamletWells" (344 : Nat) ({ cls := "HamletWells", name := "cheapest", desc := "()I" } : Jvm.MethodName)) ∈ lw_all := lw_g (lw_at lw_m11 55 rfl) rfl
theorem q2565 : (Jvm.Cond.methodLink "HamletWells" (347 : Nat) ({ cls := "HamletWells", name := "cost", desc := "(I)I" } : Jvm.MethodName)) ∈ lw_all := lw_g (lw_at lw_m11 56 rfl) rfl
theorem q2566 : (Jvm.Cond.classLink "HamletWells" (349 : Nat) "HamletWells$Given") ∈ lw_all := lw_g (lw_at lw_m11 57 rfl) rfl
theorem q2568 : (Jvm.Cond.methodLinkNest "HamletWells" (351 : Nat) ({ cls := "HamletWells$Given", name := "<init>", desc := "()V" } : Jvm.MethodName) "HamletWells") ∈ lw_tbl := lw_at lw_m11 59 rfl
theorem q2573 : (Jvm.Cond.methodLink "HamletWells" (352 : Nat) ({ cls := "HamletWells", name := "sum", desc := "(Ljava/lang/Iterable;LHamletWells$Worth;)I" } : Jvm.MethodName)) ∈ lw_all := lw_g (lw_at lw_m11 64 rfl) rfl
theorem q2574 : (Jvm.Cond.classLink "HamletWells" (356 : Nat) "HamletWells$Got") ∈ lw_all := lw_g (lw_at lw_m11 65 rfl) rfl
theorem q2576 : (Jvm.Cond.methodLinkNest "HamletWells" (358 : Nat) ({ cls := "HamletWells$Got", name := "<init>", desc := "()V" } : Jvm.MethodName) "HamletWells") ∈ lw_tbl := lw_at lw_m11 67 rfl
theorem q2581 : (Jvm.Cond.classLink "HamletWells" (359 : Nat) "HamletWells$OnWell") ∈ lw_all := lw_g (lw_at lw_m11 72 rfl) rfl
theorem q2583 : (Jvm.Cond.methodLinkNest "HamletWells" (361 : Nat) ({ cls := "HamletWells$OnWell", name := "<init>", desc := "()V" } : Jvm.MethodName) "HamletWells") ∈ lw_tbl := lw_at lw_m11 74 rfl
theorem q2588 : (Jvm.Cond.methodLink "HamletWells" (365 : Nat) ({ cls := "HamletWells", name := "cheapestAgain", desc := "()I" } : Jvm.MethodName)) ∈ lw_all := lw_g (lw_at lw_m11 79 rfl) rfl
theorem q2590 : (Jvm.Cond.instanceMethod ({ cls := "HamletWells", name := "meanWay", desc := "()D" } : Jvm.MethodName)) ∈ lw_all := lw_g (lw_at lw_m11 81 rfl) rfl
theorem q2591 : (Jvm.Cond.selects "HamletWells" ({ cls := "HamletWells", name := "meanWay", desc := "()D" } : Jvm.MethodName) ({ cls := "HamletWells", name := "meanWay", desc := "()D" } : Jvm.MethodName)) ∈ lw_all := lw_g (lw_at lw_m11 82 rfl) rfl
theorem q2592 : (Jvm.Cond.code ({ cls := "HamletWells", name := "meanWay", desc := "()D" } : Jvm.MethodName) prog_1_method_41_code (3 : Nat) (Option.some Jvm.ClassFile.FieldType.double)) ∈ lw_all := lw_g (lw_at lw_m11 83 rfl) rfl
theorem q2593 : (Jvm.Cond.classLink "HamletWells" (368 : Nat) "HamletWells$People") ∈ lw_all := lw_g (lw_at lw_m11 84 rfl) rfl
theorem q2595 : (Jvm.Cond.methodLinkNest "HamletWells" (370 : Nat) ({ cls := "HamletWells$People", name := "<init>", desc := "()V" } : Jvm.MethodName) "HamletWells") ∈ lw_tbl := lw_at lw_m11 86 rfl
theorem q2600 : (Jvm.Cond.classLink "HamletWells" (371 : Nat) "HamletWells$11") ∈ lw_all := lw_g (lw_at lw_m11 91 rfl) rfl
theorem q2602 : (Jvm.Cond.methodLink "HamletWells" (373 : Nat) ({ cls := "HamletWells$11", name := "<init>", desc := "(LHamletWells;)V" } : Jvm.MethodName)) ∈ lw_all := lw_g (lw_at lw_m11 93 rfl) rfl
theorem q2611 : (Jvm.Cond.instanceMethod ({ cls := "HamletWells", name := "waterShare", desc := "()F" } : Jvm.MethodName)) ∈ lw_all := lw_g (lw_at lw_m11 102 rfl) rfl
theorem q2612 : (Jvm.Cond.selects "HamletWells" ({ cls := "HamletWells", name := "waterShare", desc := "()F" } : Jvm.MethodName) ({ cls := "HamletWells", name := "waterShare", desc := "()F" } : Jvm.MethodName)) ∈ lw_all := lw_g (lw_at lw_m11 103 rfl) rfl
theorem q2613 : (Jvm.Cond.code ({ cls := "HamletWells", name := "waterShare", desc := "()F" } : Jvm.MethodName) prog_1_method_42_code (1 : Nat) (Option.some Jvm.ClassFile.FieldType.float)) ∈ lw_all := lw_g (lw_at lw_m11 104 rfl) rfl
theorem q2615 : (Jvm.Cond.instanceMethod ({ cls := "HamletWells", name := "account", desc := "(I)I" } : Jvm.MethodName)) ∈ lw_all := lw_g (lw_at lw_m11 106 rfl) rfl
theorem q2616 : (Jvm.Cond.selects "HamletWells" ({ cls := "HamletWells", name := "account", desc := "(I)I" } : Jvm.MethodName) ({ cls := "HamletWells", name := "account", desc := "(I)I" } : Jvm.MethodName)) ∈ lw_all := lw_g (lw_at lw_m11 107 rfl) rfl
theorem q2617 : (Jvm.Cond.code ({ cls := "HamletWells", name := "account", desc := "(I)I" } : Jvm.MethodName) prog_1_method_43_code (2 : Nat) (Option.some Jvm.ClassFile.FieldType.int)) ∈ lw_all := lw_g (lw_at lw_m11 108 rfl) rfl
theorem q2618 : (Jvm.Cond.classLink "HamletWells" (383 : Nat) "HamletWells$Thirst") ∈ lw_all := lw_g (lw_at lw_m11 109 rfl) rfl
theorem q2620 : (Jvm.Cond.methodLinkNest "HamletWells" (385 : Nat) ({ cls := "HamletWells$Thirst", name := "<init>", desc := "()V" } : Jvm.MethodName) "HamletWells") ∈ lw_tbl := lw_at lw_m11 111 rfl
theorem q2625 : (Jvm.Cond.methodLink "HamletWells" (404 : Nat) ({ cls := "java/util/ArrayDeque", name := "size", desc := "()I" } : Jvm.MethodName)) ∈ lw_all := lw_g (lw_at lw_m11 116 rfl) rfl
theorem q2627 : (Jvm.Cond.instanceMethod ({ cls := "HamletWells", name := "write", desc := "(I)I" } : Jvm.MethodName)) ∈ lw_all := lw_g (lw_at lw_m11 118 rfl) rfl
theorem q2628 : (Jvm.Cond.selects "HamletWells" ({ cls := "HamletWells", name := "write", desc := "(I)I" } : Jvm.MethodName) ({ cls := "HamletWells", name := "write", desc := "(I)I" } : Jvm.MethodName)) ∈ lw_all := lw_g (lw_at lw_m11 119 rfl) rfl
theorem q2629 : (Jvm.Cond.code ({ cls := "HamletWells", name := "write", desc := "(I)I" } : Jvm.MethodName) prog_1_method_46_code (6 : Nat) (Option.some Jvm.ClassFile.FieldType.int)) ∈ lw_all := lw_g (lw_at lw_m11 120 rfl) rfl
theorem q2630 : (Jvm.Cond.classLink "HamletWells" (406 : Nat) "java/lang/StringBuilder") ∈ lw_all := lw_g (lw_at lw_m11 121 rfl) rfl
theorem q2631 : (Jvm.Cond.methodLink "HamletWells" (418 : Nat) ({ cls := "java/lang/StringBuilder", name := "<init>", desc := "()V" } : Jvm.MethodName)) ∈ lw_all := lw_g (lw_at lw_m11 122 rfl) rfl
theorem q2632 : (Jvm.Cond.methodLink "HamletWells" (414 : Nat) ({ cls := "java/lang/StringBuilder", name := "append", desc := "(I)Ljava/lang/StringBuilder;" } : Jvm.MethodName)) ∈ lw_all := lw_g (lw_at lw_m11 123 rfl) rfl
theorem q2657 : (Jvm.Cond.methodLink "HamletWells" (419 : Nat) ({ cls := "HamletWells", name := "at", desc := "(Ljava/lang/StringBuilder;LHamletWells$Standing;)Ljava/lang/StringBuilder;" } : Jvm.MethodName)) ∈ lw_all := lw_g (lw_at lw_m11 148 rfl) rfl
theorem q2658 : (Jvm.Cond.static ({ cls := "HamletWells", name := "at", desc := "(Ljava/lang/StringBuilder;LHamletWells$Standing;)Ljava/lang/StringBuilder;" } : Jvm.MethodName)) ∈ lw_all := lw_g (lw_at lw_m11 149 rfl) rfl
theorem q2659 : (Jvm.Cond.code ({ cls := "HamletWells", name := "at", desc := "(Ljava/lang/StringBuilder;LHamletWells$Standing;)Ljava/lang/StringBuilder;" } : Jvm.MethodName) prog_1_method_45_code (2 : Nat) (Option.some (Jvm.ClassFile.FieldType.object "java/lang/StringBuilder"))) ∈ lw_all := lw_g (lw_at lw_m11 150 rfl) rfl
theorem q2660 : (Jvm.Cond.methodLink "HamletWells" (405 : Nat) ({ cls := "java/lang/StringBuilder", name := "append", desc := "(C)Ljava/lang/StringBuilder;" } : Jvm.MethodName)) ∈ lw_all := lw_g (lw_at lw_m11 151 rfl) rfl
theorem q2680 : (Jvm.Cond.stringRef "HamletWells" (423 : Nat) "p") ∈ lw_tbl := lw_at lw_m11 171 rfl
theorem q2681 : (Jvm.Cond.methodLink "HamletWells" (425 : Nat) ({ cls := "java/lang/StringBuilder", name := "append", desc := "(Ljava/lang/String;)Ljava/lang/StringBuilder;" } : Jvm.MethodName)) ∈ lw_all := lw_g (lw_at lw_m11 172 rfl) rfl
theorem q2682 : (Jvm.Cond.methodLink "HamletWells" (428 : Nat) ({ cls := "java/util/LinkedList", name := "iterator", desc := "()Ljava/util/Iterator;" } : Jvm.MethodName)) ∈ lw_all := lw_g (lw_at lw_m11 173 rfl) rfl
theorem q2683 : (Jvm.Cond.methodLink "HamletWells" (429 : Nat) ({ cls := "HamletWells", name := "letter", desc := "(LHamletWells$Hamlet;)C" } : Jvm.MethodName)) ∈ lw_all := lw_g (lw_at lw_m11 174 rfl) rfl
theorem q2684 : (Jvm.Cond.static ({ cls := "HamletWells", name := "letter", desc := "(LHamletWells$Hamlet;)C" } : Jvm.MethodName)) ∈ lw_all := lw_g (lw_at lw_m11 175 rfl) rfl
theorem q2685 : (Jvm.Cond.code ({ cls := "HamletWells", name := "letter", desc := "(LHamletWells$Hamlet;)C" } : Jvm.MethodName) prog_1_method_44_code (1 : Nat) (Option.some Jvm.ClassFile.FieldType.char)) ∈ lw_all := lw_g (lw_at lw_m11 176 rfl) rfl
theorem q2686 : (Jvm.Cond.methodLink "HamletWells" (433 : Nat) ({ cls := "java/lang/StringBuilder", name := "toString", desc := "()Ljava/lang/String;" } : Jvm.MethodName)) ∈ lw_all := lw_g (lw_at lw_m11 177 rfl) rfl
theorem q2687 : (Jvm.Cond.methodLink "HamletWells" (437 : Nat) ({ cls := "java/lang/String", name := "length", desc := "()I" } : Jvm.MethodName)) ∈ lw_all := lw_g (lw_at lw_m11 178 rfl) rfl
theorem q2689 : (Jvm.Cond.instanceMethod ({ cls := "HamletWells", name := "writeHamlet", desc := "(I)I" } : Jvm.MethodName)) ∈ lw_all := lw_g (lw_at lw_m11 180 rfl) rfl
theorem q2690 : (Jvm.Cond.selects "HamletWells" ({ cls := "HamletWells", name := "writeHamlet", desc := "(I)I" } : Jvm.MethodName) ({ cls := "HamletWells", name := "writeHamlet", desc := "(I)I" } : Jvm.MethodName)) ∈ lw_all := lw_g (lw_at lw_m11 181 rfl) rfl
theorem q2691 : (Jvm.Cond.code ({ cls := "HamletWells", name := "writeHamlet", desc := "(I)I" } : Jvm.MethodName) prog_1_method_47_code (5 : Nat) (Option.some Jvm.ClassFile.FieldType.int)) ∈ lw_all := lw_g (lw_at lw_m11 182 rfl) rfl
theorem q2693 : (Jvm.Cond.instanceMethod ({ cls := "HamletWells", name := "written", desc := "(I)I" } : Jvm.MethodName)) ∈ lw_all := lw_g (lw_at lw_m11 184 rfl) rfl
theorem q2694 : (Jvm.Cond.selects "HamletWells" ({ cls := "HamletWells", name := "written", desc := "(I)I" } : Jvm.MethodName) ({ cls := "HamletWells", name := "written", desc := "(I)I" } : Jvm.MethodName)) ∈ lw_all := lw_g (lw_at lw_m11 185 rfl) rfl
theorem q2695 : (Jvm.Cond.code ({ cls := "HamletWells", name := "written", desc := "(I)I" } : Jvm.MethodName) prog_1_method_48_code (2 : Nat) (Option.some Jvm.ClassFile.FieldType.int)) ∈ lw_all := lw_g (lw_at lw_m11 186 rfl) rfl
theorem q2696 : (Jvm.Cond.methodLink "HamletWells" (442 : Nat) ({ cls := "java/lang/String", name := "charAt", desc := "(I)C" } : Jvm.MethodName)) ∈ lw_all := lw_g (lw_at lw_m11 187 rfl) rfl
theorem q2708 : (Jvm.Cond.instanceMethod ({ cls := "HamletWells", name := "append", desc := "(C)I" } : Jvm.MethodName)) ∈ lw_all := lw_g (lw_at lw_m11 199 rfl) rfl
theorem q2709 : (Jvm.Cond.selects "HamletWells" ({ cls := "HamletWells", name := "append", desc := "(C)I" } : Jvm.MethodName) ({ cls := "HamletWells", name := "append", desc := "(C)I" } : Jvm.MethodName)) ∈ lw_all := lw_g (lw_at lw_m11 200 rfl) rfl
theorem q2710 : (Jvm.Cond.code ({ cls := "HamletWells", name := "append", desc := "(C)I" } : Jvm.MethodName) prog_1_method_49_code (2 : Nat) (Option.some Jvm.ClassFile.FieldType.int)) ∈ lw_all := lw_g (lw_at lw_m11 201 rfl) rfl
theorem q2712 : (Jvm.Cond.instanceMethod ({ cls := "HamletWells", name := "read", desc := "()I" } : Jvm.MethodName)) ∈ lw_all := lw_g (lw_at lw_m11 203 rfl) rfl
theorem q2713 : (Jvm.Cond.selects "HamletWells" ({ cls := "HamletWells", name := "read", desc := "()I" } : Jvm.MethodName) ({ cls := "HamletWells", name := "read", desc := "()I" } : Jvm.MethodName)) ∈ lw_all := lw_g (lw_at lw_m11 204 rfl) rfl
theorem q2714 : (Jvm.Cond.codeWith ({ cls := "HamletWells", name := "read", desc := "()I" } : Jvm.MethodName) prog_1_method_51_code (4 : Nat) (Option.some Jvm.ClassFile.FieldType.int) [((0 : Nat), (25 : Nat), (32 : Nat), (473 : Nat)), ((0 : Nat), (25 : Nat), (51 : Nat), (0 : Nat)), ((32 : Nat), (44 : Nat), (51 : Nat), (0 : Nat))]) ∈ lw_all := lw_g (lw_at lw_m11 205 rfl) rfl
theorem q2715 : (Jvm.Cond.classLink "HamletWells" (473 : Nat) "HamletWells$BadSign") ∈ lw_all := lw_g (lw_at lw_m11 206 rfl) rfl
theorem q2716 : (Jvm.Cond.classLink "HamletWells" (458 : Nat) "HamletWells$Parser") ∈ lw_all := lw_g (lw_at lw_m11 207 rfl) rfl
theorem q2718 : (Jvm.Cond.methodLinkNest "HamletWells" (460 : Nat) ({ cls := "HamletWells$Parser", name := "<init>", desc := "(LHamletWells;)V" } : Jvm.MethodName) "HamletWells") ∈ lw_tbl := lw_at lw_m11 209 rfl
theorem q2741 : (Jvm.Cond.methodLink "HamletWells" (461 : Nat) ({ cls := "HamletWells$Parser", name := "whole", desc := "()Ljava/util/ArrayList;" } : Jvm.MethodName)) ∈ lw_all := lw_g (lw_at lw_m11 232 rfl) rfl
theorem q2776 : (Jvm.Cond.fieldLinkNest "HamletWells" (475 : Nat) "HamletWells$BadSign" "place" "I" "HamletWells") ∈ lw_tbl := lw_at lw_m12 27 rfl
theorem q2910 : (Jvm.Cond.classLink "HamletWells" (465 : Nat) "HamletWells$12") ∈ lw_all := lw_g (lw_at lw_m12 161 rfl) rfl
theorem q2912 : (Jvm.Cond.methodLink "HamletWells" (467 : Nat) ({ cls := "HamletWells$12", name := "<init>", desc := "(LHamletWells;Ljava/util/ArrayList;)V" } : Jvm.MethodName)) ∈ lw_all := lw_g (lw_at lw_m12 163 rfl) rfl
theorem q2924 : (Jvm.Cond.methodLink "HamletWells" (470 : Nat) ({ cls := "HamletWells$12", name := "done", desc := "()I" } : Jvm.MethodName)) ∈ lw_all := lw_g (lw_at lw_m12 175 rfl) rfl
theorem q2929 : (Jvm.Cond.instanceMethod ({ cls := "HamletWells", name := "fault", desc := "()I" } : Jvm.MethodName)) ∈ lw_all := lw_g (lw_at lw_m12 180 rfl) rfl
theorem q2930 : (Jvm.Cond.selects "HamletWells" ({ cls := "HamletWells", name := "fault", desc := "()I" } : Jvm.MethodName) ({ cls := "HamletWells", name := "fault", desc := "()I" } : Jvm.MethodName)) ∈ lw_all := lw_g (lw_at lw_m12 181 rfl) rfl
theorem q2931 : (Jvm.Cond.code ({ cls := "HamletWells", name := "fault", desc := "()I" } : Jvm.MethodName) prog_1_method_52_code (1 : Nat) (Option.some Jvm.ClassFile.FieldType.int)) ∈ lw_all := lw_g (lw_at lw_m12 182 rfl) rfl
theorem q2933 : (Jvm.Cond.instanceMethod ({ cls := "HamletWells", name := "reason", desc := "(IZ)I" } : Jvm.MethodName)) ∈ lw_all := lw_g (lw_at lw_m12 184 rfl) rfl
theorem q2934 : (Jvm.Cond.selects "HamletWells" ({ cls := "HamletWells", name := "reason", desc := "(IZ)I" } : Jvm.MethodName) ({ cls := "HamletWells", name := "reason", desc := "(IZ)I" } : Jvm.MethodName)) ∈ lw_all := lw_g (lw_at lw_m12 185 rfl) rfl
theorem q2935 : (Jvm.Cond.code ({ cls := "HamletWells", name := "reason", desc := "(IZ)I" } : Jvm.MethodName) prog_1_method_53_code (5 : Nat) (Option.some Jvm.ClassFile.FieldType.int)) ∈ lw_all := lw_g (lw_at lw_m12 186 rfl) rfl
theorem q2936 : (Jvm.Cond.methodLink "HamletWells" (482 : Nat) ({ cls := "HamletWells$Refused", name := "getCause", desc := "()Ljava/lang/Throwable;" } : Jvm.MethodName)) ∈ lw_all := lw_g (lw_at lw_m12 187 rfl) rfl
theorem q2943 : (Jvm.Cond.instanceMethod ({ cls := "HamletWells", name := "undo", desc := "()I" } : Jvm.MethodName)) ∈ lw_all := lw_g (lw_at lw_m12 194 rfl) rfl
theorem q2944 : (Jvm.Cond.selects "HamletWells" ({ cls := "HamletWells", name := "undo", desc := "()I" } : Jvm.MethodName) ({ cls := "HamletWells", name := "undo", desc := "()I" } : Jvm.MethodName)) ∈ lw_all := lw_g (lw_at lw_m12 195 rfl) rfl
theorem q2945 : (Jvm.Cond.code ({ cls := "HamletWells", name := "undo", desc := "()I" } : Jvm.MethodName) prog_1_method_54_code (1 : Nat) (Option.some Jvm.ClassFile.FieldType.int)) ∈ lw_all := lw_g (lw_at lw_m12 196 rfl) rfl
theorem q2946 : (Jvm.Cond.methodLink "HamletWells" (492 : Nat) ({ cls := "java/util/ArrayDeque", name := "isEmpty", desc := "()Z" } : Jvm.MethodName)) ∈ lw_all := lw_g (lw_at lw_m12 197 rfl) rfl
theorem q2947 : (Jvm.Cond.methodLink "HamletWells" (495 : Nat) ({ cls := "java/util/ArrayDeque", name := "removeLast", desc := "()Ljava/lang/Object;" } : Jvm.MethodName)) ∈ lw_all := lw_g (lw_at lw_m12 198 rfl) rfl
theorem q2959 : (Jvm.Cond.instanceMethod ({ cls := "HamletWells", name := "save", desc := "()I" } : Jvm.MethodName)) ∈ lw_all := lw_g (lw_at lw_m12 210 rfl) rfl
theorem q2960 : (Jvm.Cond.selects "HamletWells" ({ cls := "HamletWells", name := "save", desc := "()I" } : Jvm.MethodName) ({ cls := "HamletWells", name := "save", desc := "()I" } : Jvm.MethodName)) ∈ lw_all := lw_g (lw_at lw_m12 211 rfl) rfl
theorem q2961 : (Jvm.Cond.code ({ cls := "HamletWells", name := "save", desc := "()I" } : Jvm.MethodName) prog_1_method_55_code (1 : Nat) (Option.some Jvm.ClassFile.FieldType.int)) ∈ lw_all := lw_g (lw_at lw_m12 212 rfl) rfl
theorem q2963 : (Jvm.Cond.instanceMethod ({ cls := "HamletWells", name := "restore", desc := "()I" } : Jvm.MethodName)) ∈ lw_all := lw_g (lw_at lw_m12 214 rfl) rfl
theorem q2964 : (Jvm.Cond.selects "HamletWells" ({ cls := "HamletWells", name := "restore", desc := "()I" } : Jvm.MethodName) ({ cls := "HamletWells", name := "restore", desc := "()I" } : Jvm.MethodName)) ∈ lw_all := lw_g (lw_at lw_m12 215 rfl) rfl
theorem q2965 : (Jvm.Cond.code ({ cls := "HamletWells", name := "restore", desc := "()I" } : Jvm.MethodName) prog_1_method_56_code (1 : Nat) (Option.some Jvm.ClassFile.FieldType.int)) ∈ lw_all := lw_g (lw_at lw_m12 216 rfl) rfl
theorem q2966 : (Jvm.Cond.methodLink "HamletWells" (501 : Nat) ({ cls := "java/util/ArrayDeque", name := "clear", desc := "()V" } : Jvm.MethodName)) ∈ lw_all := lw_g (lw_at lw_m12 217 rfl) rfl
theorem q3500 : (Jvm.Cond.castable "HamletWells" "java/lang/Object") ∈ lw_tbl := lw_at lw_m15 31 rfl
theorem in_X0 : ∀ w ∈ wsX00, w ∈ lw_all := lw_in wsX00 [333, 335, 337, 339, 341, 343, 345, 347] (by decide +kernel) (by decide +kernel)
/-! HamletWells$Province -/
set_option maxRecDepth 100000
def RX1 : String := "HamletWells$Province"
def TX1 : u_T := fun k => match k with
  | 0 => ("HamletWells$Province", "hamlets", "LHamletWells$Row;", true)
  | 1 => ("HamletWells$Province", "sites", "LHamletWells$Row;", true)
  | 2 => ("HamletWells$Province", "day", "I", false)
  | 3 => ("HamletWells$Province", "coins", "I", false)
  | 4 => ("HamletWells$Province", "left", "I", false)
  | 5 => ("HamletWells$Province", "needed", "I", false)
  | 6 => ("HamletWells$Province", "opening", "I", false)
  | 7 => ("HamletWells$Province", "moving", "I", false)
  | 8 => ("HamletWells$Province", "carrying", "I", false)
  | 9 => ("HamletWells$Province", "taxes", "I", false)
  | _ => ("HamletWells$Province", "lost", "I", false)
def tyX1 : Nat → FieldType := fun k => match k with
  | 0 => .object "HamletWells$Row"
  | 1 => .object "HamletWells$Row"
  | 2 => .int
  | 3 => .int
  | 4 => .int
  | 5 => .int
  | 6 => .int
  | 7 => .int
  | 8 => .int
  | 9 => .int
  | _ => .int
abbrev wsX10 : List Cond := u_ws RX1 TX1 11
theorem nmX1 : ∀ a, a < 11 → ∀ b, b < 11 → a ≠ b → (TX1 a).2.1 ≠ (TX1 b).2.1 := by decide +kernel
theorem tyX1_ok : ∀ k, k < 11 → parseFieldDescriptor (TX1 k).2.2.1 = some (tyX1 k) := by decide +kernel
abbrev cX1_init : ByteArray := prog_32_method_1_code
def yX1_init : MethodName := ⟨RX1, "<init>", "()V"⟩
def dkwX1_init_1 : List UInt8 := [183, 0, 11, 181, 0, 20, 42, 17, 0, 200, 181, 0, 23, 42, 6, 181, 0, 27, 177]
abbrev dktX1_init_1 : List UInt8 := dkwX1_init_1 ++ []
def dkwX1_init_0 : List UInt8 := [42, 183, 0, 3, 42, 187, 0, 9, 89, 16, 8, 183, 0, 11, 181, 0, 14, 42, 187, 0, 9, 89, 16, 6]
abbrev dktX1_init_0 : List UInt8 := dkwX1_init_0 ++ dktX1_init_1
theorem dksX1_init_0 : cX1_init.data.toList.drop 0 = dktX1_init_0 := by decide +kernel
theorem dksX1_init_1 : cX1_init.data.toList.drop 24 = dktX1_init_1 := dk_seg dksX1_init_0 24 rfl rfl
theorem dX1_init_0 : decode cX1_init 0 = .ok (.aload_n 0, 1) := dk_42 (dk_at dksX1_init_0 0 rfl rfl)
theorem dX1_init_1 : decode cX1_init 1 = .ok (.invokespecial 3, 3) := dk_183 0 3 (dk_at dksX1_init_0 1 rfl rfl)
theorem dX1_init_4 : decode cX1_init 4 = .ok (.aload_n 0, 1) := dk_42 (dk_at dksX1_init_0 4 rfl rfl)
theorem dX1_init_5 : decode cX1_init 5 = .ok (.new 9, 3) := dk_187 0 9 (dk_at dksX1_init_0 5 rfl rfl)
theorem dX1_init_8 : decode cX1_init 8 = .ok (.dup, 1) := dk_89 (dk_at dksX1_init_0 8 rfl rfl)
theorem dX1_init_9 : decode cX1_init 9 = .ok (.bipush 8, 2) := dk_16 8 (dk_at dksX1_init_0 9 rfl rfl)
theorem dX1_init_11 : decode cX1_init 11 = .ok (.invokespecial 11, 3) := dk_183 0 11 (dk_at dksX1_init_0 11 rfl rfl)
theorem dX1_init_14 : decode cX1_init 14 = .ok (.putfield 14, 3) := dk_181 0 14 (dk_at dksX1_init_0 14 rfl rfl)
theorem dX1_init_17 : decode cX1_init 17 = .ok (.aload_n 0, 1) := dk_42 (dk_at dksX1_init_0 17 rfl rfl)
theorem dX1_init_18 : decode cX1_init 18 = .ok (.new 9, 3) := dk_187 0 9 (dk_at dksX1_init_0 18 rfl rfl)
theorem dX1_init_21 : decode cX1_init 21 = .ok (.dup, 1) := dk_89 (dk_at dksX1_init_0 21 rfl rfl)
theorem dX1_init_22 : decode cX1_init 22 = .ok (.bipush 6, 2) := dk_16 6 (dk_at dksX1_init_0 22 rfl rfl)
theorem dX1_init_24 : decode cX1_init 24 = .ok (.invokespecial 11, 3) := dk_183 0 11 (dk_at dksX1_init_1 0 rfl rfl)
theorem dX1_init_27 : decode cX1_init 27 = .ok (.putfield 20, 3) := dk_181 0 20 (dk_at dksX1_init_1 3 rfl rfl)
theorem dX1_init_30 : decode cX1_init 30 = .ok (.aload_n 0, 1) := dk_42 (dk_at dksX1_init_1 6 rfl rfl)
theorem dX1_init_31 : decode cX1_init 31 = .ok (.sipush 200, 3) := dk_17 0 200 (dk_at dksX1_init_1 7 rfl rfl)
theorem dX1_init_34 : decode cX1_init 34 = .ok (.putfield 23, 3) := dk_181 0 23 (dk_at dksX1_init_1 10 rfl rfl)
theorem dX1_init_37 : decode cX1_init 37 = .ok (.aload_n 0, 1) := dk_42 (dk_at dksX1_init_1 13 rfl rfl)
theorem dX1_init_38 : decode cX1_init 38 = .ok (.iconst 3, 1) := dk_6 (dk_at dksX1_init_1 14 rfl rfl)
theorem dX1_init_39 : decode cX1_init 39 = .ok (.putfield 27, 3) := dk_181 0 27 (dk_at dksX1_init_1 15 rfl rfl)
theorem dX1_init_42 : decode cX1_init 42 = .ok (.return_, 1) := dk_177 (dk_at dksX1_init_1 18 rfl rfl)
abbrev cX1_init_2 : ByteArray := prog_32_method_2_code
def yX1_init_2 : MethodName := ⟨RX1, "<init>", "(LHamletWells$Province;)V"⟩
def dkwX1_init_2_8 : List UInt8 := [180, 0, 73, 181, 0, 73, 42, 43, 180, 0, 76, 181, 0, 76, 177]
abbrev dktX1_init_2_8 : List UInt8 := dkwX1_init_2_8 ++ []
def dkwX1_init_2_7 : List UInt8 := [180, 0, 64, 181, 0, 64, 42, 43, 180, 0, 67, 181, 0, 67, 42, 43, 180, 0, 70, 181, 0, 70, 42, 43]
abbrev dktX1_init_2_7 : List UInt8 := dkwX1_init_2_7 ++ dktX1_init_2_8
def dkwX1_init_2_6 : List UInt8 := [180, 0, 23, 181, 0, 23, 42, 43, 180, 0, 27, 181, 0, 27, 42, 43, 180, 0, 61, 181, 0, 61, 42, 43]
abbrev dktX1_init_2_6 : List UInt8 := dkwX1_init_2_6 ++ dktX1_init_2_7
def dkwX1_init_2_5 : List UInt8 := [187, 0, 53, 89, 45, 183, 0, 55, 182, 0, 49, 167, 255, 222, 42, 43, 180, 0, 58, 181, 0, 58, 42, 43]
abbrev dktX1_init_2_5 : List UInt8 := dkwX1_init_2_5 ++ dktX1_init_2_6
def dkwX1_init_2_4 : List UInt8 := [77, 44, 185, 0, 34, 1, 0, 153, 0, 31, 44, 185, 0, 40, 1, 0, 192, 0, 53, 78, 42, 180, 0, 20]
abbrev dktX1_init_2_4 : List UInt8 := dkwX1_init_2_4 ++ dktX1_init_2_5
def dkwX1_init_2_3 : List UInt8 := [180, 0, 14, 187, 0, 44, 89, 45, 183, 0, 46, 182, 0, 49, 167, 255, 222, 43, 180, 0, 20, 182, 0, 30]
abbrev dktX1_init_2_3 : List UInt8 := dkwX1_init_2_3 ++ dktX1_init_2_4
def dkwX1_init_2_2 : List UInt8 := [182, 0, 30, 77, 44, 185, 0, 34, 1, 0, 153, 0, 31, 44, 185, 0, 40, 1, 0, 192, 0, 44, 78, 42]
abbrev dktX1_init_2_2 : List UInt8 := dkwX1_init_2_2 ++ dktX1_init_2_3
def dkwX1_init_2_1 : List UInt8 := [183, 0, 11, 181, 0, 20, 42, 17, 0, 200, 181, 0, 23, 42, 6, 181, 0, 27, 43, 180, 0, 14]
abbrev dktX1_init_2_1 : List UInt8 := dkwX1_init_2_1 ++ dktX1_init_2_2
def dkwX1_init_2_0 : List UInt8 := [42, 183, 0, 3, 42, 187, 0, 9, 89, 16, 8, 183, 0, 11, 181, 0, 14, 42, 187, 0, 9, 89, 16, 6]
abbrev dktX1_init_2_0 : List UInt8 := dkwX1_init_2_0 ++ dktX1_init_2_1
theorem dksX1_init_2_0 : cX1_init_2.data.toList.drop 0 = dktX1_init_2_0 := by decide +kernel
theorem dksX1_init_2_1 : cX1_init_2.data.toList.drop 24 = dktX1_init_2_1 := dk_seg dksX1_init_2_0 24 rfl rfl
theorem dksX1_init_2_2 : cX1_init_2.data.toList.drop 46 = dktX1_init_2_2 := dk_seg dksX1_init_2_1 22 rfl rfl
theorem dksX1_init_2_3 : cX1_init_2.data.toList.drop 70 = dktX1_init_2_3 := dk_seg dksX1_init_2_2 24 rfl rfl
theorem dksX1_init_2_4 : cX1_init_2.data.toList.drop 94 = dktX1_init_2_4 := dk_seg dksX1_init_2_3 24 rfl rfl
theorem dksX1_init_2_5 : cX1_init_2.data.toList.drop 118 = dktX1_init_2_5 := dk_seg dksX1_init_2_4 24 rfl rfl
theorem dksX1_init_2_6 : cX1_init_2.data.toList.drop 142 = dktX1_init_2_6 := dk_seg dksX1_init_2_5 24 rfl rfl
theorem dksX1_init_2_7 : cX1_init_2.data.toList.drop 166 = dktX1_init_2_7 := dk_seg dksX1_init_2_6 24 rfl rfl
theorem dksX1_init_2_8 : cX1_init_2.data.toList.drop 190 = dktX1_init_2_8 := dk_seg dksX1_init_2_7 24 rfl rfl
theorem dX1_init_2_0 : decode cX1_init_2 0 = .ok (.aload_n 0, 1) := dk_42 (dk_at dksX1_init_2_0 0 rfl rfl)
theorem dX1_init_2_1 : decode cX1_init_2 1 = .ok (.invokespecial 3, 3) := dk_183 0 3 (dk_at dksX1_init_2_0 1 rfl rfl)
theorem dX1_init_2_4 : decode cX1_init_2 4 = .ok (.aload_n 0, 1) := dk_42 (dk_at dksX1_init_2_0 4 rfl rfl)
theorem dX1_init_2_5 : decode cX1_init_2 5 = .ok (.new 9, 3) := dk_187 0 9 (dk_at dksX1_init_2_0 5 rfl rfl)
theorem dX1_init_2_8 : decode cX1_init_2 8 = .ok (.dup, 1) := dk_89 (dk_at dksX1_init_2_0 8 rfl rfl)
theorem dX1_init_2_9 : decode cX1_init_2 9 = .ok (.bipush 8, 2) := dk_16 8 (dk_at dksX1_init_2_0 9 rfl rfl)
theorem dX1_init_2_11 : decode cX1_init_2 11 = .ok (.invokespecial 11, 3) := dk_183 0 11 (dk_at dksX1_init_2_0 11 rfl rfl)
theorem dX1_init_2_14 : decode cX1_init_2 14 = .ok (.putfield 14, 3) := dk_181 0 14 (dk_at dksX1_init_2_0 14 rfl rfl)
theorem dX1_init_2_17 : decode cX1_init_2 17 = .ok (.aload_n 0, 1) := dk_42 (dk_at dksX1_init_2_0 17 rfl rfl)
theorem dX1_init_2_18 : decode cX1_init_2 18 = .ok (.new 9, 3) := dk_187 0 9 (dk_at dksX1_init_2_0 18 rfl rfl)
theorem dX1_init_2_21 : decode cX1_init_2 21 = .ok (.dup, 1) := dk_89 (dk_at dksX1_init_2_0 21 rfl rfl)
theorem dX1_init_2_22 : decode cX1_init_2 22 = .ok (.bipush 6, 2) := dk_16 6 (dk_at dksX1_init_2_0 22 rfl rfl)
theorem dX1_init_2_24 : decode cX1_init_2 24 = .ok (.invokespecial 11, 3) := dk_183 0 11 (dk_at dksX1_init_2_1 0 rfl rfl)
theorem dX1_init_2_27 : decode cX1_init_2 27 = .ok (.putfield 20, 3) := dk_181 0 20 (dk_at dksX1_init_2_1 3 rfl rfl)
theorem dX1_init_2_30 : decode cX1_init_2 30 = .ok (.aload_n 0, 1) := dk_42 (dk_at dksX1_init_2_1 6 rfl rfl)
theorem dX1_init_2_31 : decode cX1_init_2 31 = .ok (.sipush 200, 3) := dk_17 0 200 (dk_at dksX1_init_2_1 7 rfl rfl)
theorem dX1_init_2_34 : decode cX1_init_2 34 = .ok (.putfield 23, 3) := dk_181 0 23 (dk_at dksX1_init_2_1 10 rfl rfl)
theorem dX1_init_2_37 : decode cX1_init_2 37 = .ok (.aload_n 0, 1) := dk_42 (dk_at dksX1_init_2_1 13 rfl rfl)
theorem dX1_init_2_38 : decode cX1_init_2 38 = .ok (.iconst 3, 1) := dk_6 (dk_at dksX1_init_2_1 14 rfl rfl)
theorem dX1_init_2_39 : decode cX1_init_2 39 = .ok (.putfield 27, 3) := dk_181 0 27 (dk_at dksX1_init_2_1 15 rfl rfl)
theorem dX1_init_2_42 : decode cX1_init_2 42 = .ok (.aload_n 1, 1) := dk_43 (dk_at dksX1_init_2_1 18 rfl rfl)
theorem dX1_init_2_43 : decode cX1_init_2 43 = .ok (.getfield 14, 3) := dk_180 0 14 (dk_at dksX1_init_2_1 19 rfl rfl)
theorem dX1_init_2_46 : decode cX1_init_2 46 = .ok (.invokevirtual 30, 3) := dk_182 0 30 (dk_at dksX1_init_2_2 0 rfl rfl)
theorem dX1_init_2_49 : decode cX1_init_2 49 = .ok (.astore_n 2, 1) := dk_77 (dk_at dksX1_init_2_2 3 rfl rfl)
theorem dX1_init_2_50 : decode cX1_init_2 50 = .ok (.aload_n 2, 1) := dk_44 (dk_at dksX1_init_2_2 4 rfl rfl)
theorem dX1_init_2_51 : decode cX1_init_2 51 = .ok (.invokeinterface 34 1, 5) := by decide +kernel
theorem dX1_init_2_56 : decode cX1_init_2 56 = .ok (.ifCond .eq 31, 3) := dk_153 0 31 (dk_at dksX1_init_2_2 10 rfl rfl)
theorem dX1_init_2_59 : decode cX1_init_2 59 = .ok (.aload_n 2, 1) := dk_44 (dk_at dksX1_init_2_2 13 rfl rfl)
theorem dX1_init_2_60 : decode cX1_init_2 60 = .ok (.invokeinterface 40 1, 5) := by decide +kernel
theorem dX1_init_2_65 : decode cX1_init_2 65 = .ok (.checkcast 44, 3) := dk_192 0 44 (dk_at dksX1_init_2_2 19 rfl rfl)
theorem dX1_init_2_68 : decode cX1_init_2 68 = .ok (.astore_n 3, 1) := dk_78 (dk_at dksX1_init_2_2 22 rfl rfl)
theorem dX1_init_2_69 : decode cX1_init_2 69 = .ok (.aload_n 0, 1) := dk_42 (dk_at dksX1_init_2_2 23 rfl rfl)
theorem dX1_init_2_70 : decode cX1_init_2 70 = .ok (.getfield 14, 3) := dk_180 0 14 (dk_at dksX1_init_2_3 0 rfl rfl)
theorem dX1_init_2_73 : decode cX1_init_2 73 = .ok (.new 44, 3) := dk_187 0 44 (dk_at dksX1_init_2_3 3 rfl rfl)
theorem dX1_init_2_76 : decode cX1_init_2 76 = .ok (.dup, 1) := dk_89 (dk_at dksX1_init_2_3 6 rfl rfl)
theorem dX1_init_2_77 : decode cX1_init_2 77 = .ok (.aload_n 3, 1) := dk_45 (dk_at dksX1_init_2_3 7 rfl rfl)
theorem dX1_init_2_78 : decode cX1_init_2 78 = .ok (.invokespecial 46, 3) := dk_183 0 46 (dk_at dksX1_init_2_3 8 rfl rfl)
theorem dX1_init_2_81 : decode cX1_init_2 81 = .ok (.invokevirtual 49, 3) := dk_182 0 49 (dk_at dksX1_init_2_3 11 rfl rfl)
theorem dX1_init_2_84 : decode cX1_init_2 84 = .ok (.goto (-34), 3) := dk_167 255 222 (dk_at dksX1_init_2_3 14 rfl rfl)
theorem dX1_init_2_87 : decode cX1_init_2 87 = .ok (.aload_n 1, 1) := dk_43 (dk_at dksX1_init_2_3 17 rfl rfl)
theorem dX1_init_2_88 : decode cX1_init_2 88 = .ok (.getfield 20, 3) := dk_180 0 20 (dk_at dksX1_init_2_3 18 rfl rfl)
theorem dX1_init_2_91 : decode cX1_init_2 91 = .ok (.invokevirtual 30, 3) := dk_182 0 30 (dk_at dksX1_init_2_3 21 rfl rfl)
theorem dX1_init_2_94 : decode cX1_init_2 94 = .ok (.astore_n 2, 1) := dk_77 (dk_at dksX1_init_2_4 0 rfl rfl)
theorem dX1_init_2_95 : decode cX1_init_2 95 = .ok (.aload_n 2, 1) := dk_44 (dk_at dksX1_init_2_4 1 rfl rfl)
theorem dX1_init_2_96 : decode cX1_init_2 96 = .ok (.invokeinterface 34 1, 5) := by decide +kernel
theorem dX1_init_2_101 : decode cX1_init_2 101 = .ok (.ifCond .eq 31, 3) := dk_153 0 31 (dk_at dksX1_init_2_4 7 rfl rfl)
theorem dX1_init_2_104 : decode cX1_init_2 104 = .ok (.aload_n 2, 1) := dk_44 (dk_at dksX1_init_2_4 10 rfl rfl)
theorem dX1_init_2_105 : decode cX1_init_2 105 = .ok (.invokeinterface 40 1, 5) := by decide +kernel
theorem dX1_init_2_110 : decode cX1_init_2 110 = .ok (.checkcast 53, 3) := dk_192 0 53 (dk_at dksX1_init_2_4 16 rfl rfl)
theorem dX1_init_2_113 : decode cX1_init_2 113 = .ok (.astore_n 3, 1) := dk_78 (dk_at dksX1_init_2_4 19 rfl rfl)
theorem dX1_init_2_114 : decode cX1_init_2 114 = .ok (.aload_n 0, 1) := dk_42 (dk_at dksX1_init_2_4 20 rfl rfl)
theorem dX1_init_2_115 : decode cX1_init_2 115 = .ok (.getfield 20, 3) := dk_180 0 20 (dk_at dksX1_init_2_4 21 rfl rfl)
theorem dX1_init_2_118 : decode cX1_init_2 118 = .ok (.new 53, 3) := dk_187 0 53 (dk_at dksX1_init_2_5 0 rfl rfl)
theorem dX1_init_2_121 : decode cX1_init_2 121 = .ok (.dup, 1) := dk_89 (dk_at dksX1_init_2_5 3 rfl rfl)
theorem dX1_init_2_122 : decode cX1_init_2 122 = .ok (.aload_n 3, 1) := dk_45 (dk_at dksX1_init_2_5 4 rfl rfl)
theorem dX1_init_2_123 : decode cX1_init_2 123 = .ok (.invokespecial 55, 3) := dk_183 0 55 (dk_at dksX1_init_2_5 5 rfl rfl)
theorem dX1_init_2_126 : decode cX1_init_2 126 = .ok (.invokevirtual 49, 3) := dk_182 0 49 (dk_at dksX1_init_2_5 8 rfl rfl)
theorem dX1_init_2_129 : decode cX1_init_2 129 = .ok (.goto (-34), 3) := dk_167 255 222 (dk_at dksX1_init_2_5 11 rfl rfl)
theorem dX1_init_2_132 : decode cX1_init_2 132 = .ok (.aload_n 0, 1) := dk_42 (dk_at dksX1_init_2_5 14 rfl rfl)
theorem dX1_init_2_133 : decode cX1_init_2 133 = .ok (.aload_n 1, 1) := dk_43 (dk_at dksX1_init_2_5 15 rfl rfl)
theorem dX1_init_2_134 : decode cX1_init_2 134 = .ok (.getfield 58, 3) := dk_180 0 58 (dk_at dksX1_init_2_5 16 rfl rfl)
theorem dX1_init_2_137 : decode cX1_init_2 137 = .ok (.putfield 58, 3) := dk_181 0 58 (dk_at dksX1_init_2_5 19 rfl rfl)
theorem dX1_init_2_140 : decode cX1_init_2 140 = .ok (.aload_n 0, 1) := dk_42 (dk_at dksX1_init_2_5 22 rfl rfl)
theorem dX1_init_2_141 : decode cX1_init_2 141 = .ok (.aload_n 1, 1) := dk_43 (dk_at dksX1_init_2_5 23 rfl rfl)
theorem dX1_init_2_142 : decode cX1_init_2 142 = .ok (.getfield 23, 3) := dk_180 0 23 (dk_at dksX1_init_2_6 0 rfl rfl)
theorem dX1_init_2_145 : decode cX1_init_2 145 = .ok (.putfield 23, 3) := dk_181 0 23 (dk_at dksX1_init_2_6 3 rfl rfl)
theorem dX1_init_2_148 : decode cX1_init_2 148 = .ok (.aload_n 0, 1) := dk_42 (dk_at dksX1_init_2_6 6 rfl rfl)
theorem dX1_init_2_149 : decode cX1_init_2 149 = .ok (.aload_n 1, 1) := dk_43 (dk_at dksX1_init_2_6 7 rfl rfl)
theorem dX1_init_2_150 : decode cX1_init_2 150 = .ok (.getfield 27, 3) := dk_180 0 27 (dk_at dksX1_init_2_6 8 rfl rfl)
theorem dX1_init_2_153 : decode cX1_init_2 153 = .ok (.putfield 27, 3) := dk_181 0 27 (dk_at dksX1_init_2_6 11 rfl rfl)
theorem dX1_init_2_156 : decode cX1_init_2 156 = .ok (.aload_n 0, 1) := dk_42 (dk_at dksX1_init_2_6 14 rfl rfl)
theorem dX1_init_2_157 : decode cX1_init_2 157 = .ok (.aload_n 1, 1) := dk_43 (dk_at dksX1_init_2_6 15 rfl rfl)
theorem dX1_init_2_158 : decode cX1_init_2 158 = .ok (.getfield 61, 3) := dk_180 0 61 (dk_at dksX1_init_2_6 16 rfl rfl)
theorem dX1_init_2_161 : decode cX1_init_2 161 = .ok (.putfield 61, 3) := dk_181 0 61 (dk_at dksX1_init_2_6 19 rfl rfl)
theorem dX1_init_2_164 : decode cX1_init_2 164 = .ok (.aload_n 0, 1) := dk_42 (dk_at dksX1_init_2_6 22 rfl rfl)
theorem dX1_init_2_165 : decode cX1_init_2 165 = .ok (.aload_n 1, 1) := dk_43 (dk_at dksX1_init_2_6 23 rfl rfl)
theorem dX1_init_2_166 : decode cX1_init_2 166 = .ok (.getfield 64, 3) := dk_180 0 64 (dk_at dksX1_init_2_7 0 rfl rfl)
theorem dX1_init_2_169 : decode cX1_init_2 169 = .ok (.putfield 64, 3) := dk_181 0 64 (dk_at dksX1_init_2_7 3 rfl rfl)
theorem dX1_init_2_172 : decode cX1_init_2 172 = .ok (.aload_n 0, 1) := dk_42 (dk_at dksX1_init_2_7 6 rfl rfl)
theorem dX1_init_2_173 : decode cX1_init_2 173 = .ok (.aload_n 1, 1) := dk_43 (dk_at dksX1_init_2_7 7 rfl rfl)
theorem dX1_init_2_174 : decode cX1_init_2 174 = .ok (.getfield 67, 3) := dk_180 0 67 (dk_at dksX1_init_2_7 8 rfl rfl)
theorem dX1_init_2_177 : decode cX1_init_2 177 = .ok (.putfield 67, 3) := dk_181 0 67 (dk_at dksX1_init_2_7 11 rfl rfl)
theorem dX1_init_2_180 : decode cX1_init_2 180 = .ok (.aload_n 0, 1) := dk_42 (dk_at dksX1_init_2_7 14 rfl rfl)
theorem dX1_init_2_181 : decode cX1_init_2 181 = .ok (.aload_n 1, 1) := dk_43 (dk_at dksX1_init_2_7 15 rfl rfl)
theorem dX1_init_2_182 : decode cX1_init_2 182 = .ok (.getfield 70, 3) := dk_180 0 70 (dk_at dksX1_init_2_7 16 rfl rfl)
theorem dX1_init_2_185 : decode cX1_init_2 185 = .ok (.putfield 70, 3) := dk_181 0 70 (dk_at dksX1_init_2_7 19 rfl rfl)
theorem dX1_init_2_188 : decode cX1_init_2 188 = .ok (.aload_n 0, 1) := dk_42 (dk_at dksX1_init_2_7 22 rfl rfl)
theorem dX1_init_2_189 : decode cX1_init_2 189 = .ok (.aload_n 1, 1) := dk_43 (dk_at dksX1_init_2_7 23 rfl rfl)
theorem dX1_init_2_190 : decode cX1_init_2 190 = .ok (.getfield 73, 3) := dk_180 0 73 (dk_at dksX1_init_2_8 0 rfl rfl)
theorem dX1_init_2_193 : decode cX1_init_2 193 = .ok (.putfield 73, 3) := dk_181 0 73 (dk_at dksX1_init_2_8 3 rfl rfl)
theorem dX1_init_2_196 : decode cX1_init_2 196 = .ok (.aload_n 0, 1) := dk_42 (dk_at dksX1_init_2_8 6 rfl rfl)
theorem dX1_init_2_197 : decode cX1_init_2 197 = .ok (.aload_n 1, 1) := dk_43 (dk_at dksX1_init_2_8 7 rfl rfl)
theorem dX1_init_2_198 : decode cX1_init_2 198 = .ok (.getfield 76, 3) := dk_180 0 76 (dk_at dksX1_init_2_8 8 rfl rfl)
theorem dX1_init_2_201 : decode cX1_init_2 201 = .ok (.putfield 76, 3) := dk_181 0 76 (dk_at dksX1_init_2_8 11 rfl rfl)
theorem dX1_init_2_204 : decode cX1_init_2 204 = .ok (.return_, 1) := dk_177 (dk_at dksX1_init_2_8 14 rfl rfl)
abbrev cX1_hamlet : ByteArray := prog_32_method_10_code
def yX1_hamlet : MethodName := ⟨RX1, "hamlet", "(III)I"⟩
def dkwX1_hamlet_1 : List UInt8 := [27, 28, 29, 183, 0, 174, 182, 0, 49, 42, 180, 0, 14, 182, 0, 144, 4, 100, 172]
abbrev dktX1_hamlet_1 : List UInt8 := dkwX1_hamlet_1 ++ []
def dkwX1_hamlet_0 : List UInt8 := [42, 180, 0, 14, 27, 28, 182, 0, 170, 42, 180, 0, 14, 187, 0, 44, 89, 42, 180, 0, 14, 182, 0, 144]
abbrev dktX1_hamlet_0 : List UInt8 := dkwX1_hamlet_0 ++ dktX1_hamlet_1
theorem dksX1_hamlet_0 : cX1_hamlet.data.toList.drop 0 = dktX1_hamlet_0 := by decide +kernel
theorem dksX1_hamlet_1 : cX1_hamlet.data.toList.drop 24 = dktX1_hamlet_1 := dk_seg dksX1_hamlet_0 24 rfl rfl
theorem dX1_hamlet_0 : decode cX1_hamlet 0 = .ok (.aload_n 0, 1) := dk_42 (dk_at dksX1_hamlet_0 0 rfl rfl)
theorem dX1_hamlet_1 : decode cX1_hamlet 1 = .ok (.getfield 14, 3) := dk_180 0 14 (dk_at dksX1_hamlet_0 1 rfl rfl)
theorem dX1_hamlet_4 : decode cX1_hamlet 4 = .ok (.iload_n 1, 1) := dk_27 (dk_at dksX1_hamlet_0 4 rfl rfl)
theorem dX1_hamlet_5 : decode cX1_hamlet 5 = .ok (.iload_n 2, 1) := dk_28 (dk_at dksX1_hamlet_0 5 rfl rfl)
theorem dX1_hamlet_6 : decode cX1_hamlet 6 = .ok (.invokevirtual 170, 3) := dk_182 0 170 (dk_at dksX1_hamlet_0 6 rfl rfl)
theorem dX1_hamlet_9 : decode cX1_hamlet 9 = .ok (.aload_n 0, 1) := dk_42 (dk_at dksX1_hamlet_0 9 rfl rfl)
theorem dX1_hamlet_10 : decode cX1_hamlet 10 = .ok (.getfield 14, 3) := dk_180 0 14 (dk_at dksX1_hamlet_0 10 rfl rfl)
theorem dX1_hamlet_13 : decode cX1_hamlet 13 = .ok (.new 44, 3) := dk_187 0 44 (dk_at dksX1_hamlet_0 13 rfl rfl)
theorem dX1_hamlet_16 : decode cX1_hamlet 16 = .ok (.dup, 1) := dk_89 (dk_at dksX1_hamlet_0 16 rfl rfl)
theorem dX1_hamlet_17 : decode cX1_hamlet 17 = .ok (.aload_n 0, 1) := dk_42 (dk_at dksX1_hamlet_0 17 rfl rfl)
theorem dX1_hamlet_18 : decode cX1_hamlet 18 = .ok (.getfield 14, 3) := dk_180 0 14 (dk_at dksX1_hamlet_0 18 rfl rfl)
theorem dX1_hamlet_21 : decode cX1_hamlet 21 = .ok (.invokevirtual 144, 3) := dk_182 0 144 (dk_at dksX1_hamlet_0 21 rfl rfl)
theorem dX1_hamlet_24 : decode cX1_hamlet 24 = .ok (.iload_n 1, 1) := dk_27 (dk_at dksX1_hamlet_1 0 rfl rfl)
theorem dX1_hamlet_25 : decode cX1_hamlet 25 = .ok (.iload_n 2, 1) := dk_28 (dk_at dksX1_hamlet_1 1 rfl rfl)
theorem dX1_hamlet_26 : decode cX1_hamlet 26 = .ok (.iload_n 3, 1) := dk_29 (dk_at dksX1_hamlet_1 2 rfl rfl)
theorem dX1_hamlet_27 : decode cX1_hamlet 27 = .ok (.invokespecial 174, 3) := dk_183 0 174 (dk_at dksX1_hamlet_1 3 rfl rfl)
theorem dX1_hamlet_30 : decode cX1_hamlet 30 = .ok (.invokevirtual 49, 3) := dk_182 0 49 (dk_at dksX1_hamlet_1 6 rfl rfl)
theorem dX1_hamlet_33 : decode cX1_hamlet 33 = .ok (.aload_n 0, 1) := dk_42 (dk_at dksX1_hamlet_1 9 rfl rfl)
theorem dX1_hamlet_34 : decode cX1_hamlet 34 = .ok (.getfield 14, 3) := dk_180 0 14 (dk_at dksX1_hamlet_1 10 rfl rfl)
theorem dX1_hamlet_37 : decode cX1_hamlet 37 = .ok (.invokevirtual 144, 3) := dk_182 0 144 (dk_at dksX1_hamlet_1 13 rfl rfl)
theorem dX1_hamlet_40 : decode cX1_hamlet 40 = .ok (.iconst 1, 1) := dk_4 (dk_at dksX1_hamlet_1 16 rfl rfl)
theorem dX1_hamlet_41 : decode cX1_hamlet 41 = .ok (.isub, 1) := dk_100 (dk_at dksX1_hamlet_1 17 rfl rfl)
theorem dX1_hamlet_42 : decode cX1_hamlet 42 = .ok (.ireturn, 1) := dk_172 (dk_at dksX1_hamlet_1 18 rfl rfl)
abbrev cX1_site : ByteArray := prog_32_method_11_code
def yX1_site : MethodName := ⟨RX1, "site", "(IIII)I"⟩
def dkwX1_site_1 : List UInt8 := [27, 28, 29, 21, 4, 183, 0, 177, 182, 0, 49, 42, 180, 0, 20, 182, 0, 144, 4, 100, 172]
abbrev dktX1_site_1 : List UInt8 := dkwX1_site_1 ++ []
def dkwX1_site_0 : List UInt8 := [42, 180, 0, 20, 27, 28, 182, 0, 170, 42, 180, 0, 20, 187, 0, 53, 89, 42, 180, 0, 20, 182, 0, 144]
abbrev dktX1_site_0 : List UInt8 := dkwX1_site_0 ++ dktX1_site_1
theorem dksX1_site_0 : cX1_site.data.toList.drop 0 = dktX1_site_0 := by decide +kernel
theorem dksX1_site_1 : cX1_site.data.toList.drop 24 = dktX1_site_1 := dk_seg dksX1_site_0 24 rfl rfl
theorem dX1_site_0 : decode cX1_site 0 = .ok (.aload_n 0, 1) := dk_42 (dk_at dksX1_site_0 0 rfl rfl)
theorem dX1_site_1 : decode cX1_site 1 = .ok (.getfield 20, 3) := dk_180 0 20 (dk_at dksX1_site_0 1 rfl rfl)
theorem dX1_site_4 : decode cX1_site 4 = .ok (.iload_n 1, 1) := dk_27 (dk_at dksX1_site_0 4 rfl rfl)
theorem dX1_site_5 : decode cX1_site 5 = .ok (.iload_n 2, 1) := dk_28 (dk_at dksX1_site_0 5 rfl rfl)
theorem dX1_site_6 : decode cX1_site 6 = .ok (.invokevirtual 170, 3) := dk_182 0 170 (dk_at dksX1_site_0 6 rfl rfl)
theorem dX1_site_9 : decode cX1_site 9 = .ok (.aload_n 0, 1) := dk_42 (dk_at dksX1_site_0 9 rfl rfl)
theorem dX1_site_10 : decode cX1_site 10 = .ok (.getfield 20, 3) := dk_180 0 20 (dk_at dksX1_site_0 10 rfl rfl)
theorem dX1_site_13 : decode cX1_site 13 = .ok (.new 53, 3) := dk_187 0 53 (dk_at dksX1_site_0 13 rfl rfl)
theorem dX1_site_16 : decode cX1_site 16 = .ok (.dup, 1) := dk_89 (dk_at dksX1_site_0 16 rfl rfl)
theorem dX1_site_17 : decode cX1_site 17 = .ok (.aload_n 0, 1) := dk_42 (dk_at dksX1_site_0 17 rfl rfl)
theorem dX1_site_18 : decode cX1_site 18 = .ok (.getfield 20, 3) := dk_180 0 20 (dk_at dksX1_site_0 18 rfl rfl)
theorem dX1_site_21 : decode cX1_site 21 = .ok (.invokevirtual 144, 3) := dk_182 0 144 (dk_at dksX1_site_0 21 rfl rfl)
theorem dX1_site_24 : decode cX1_site 24 = .ok (.iload_n 1, 1) := dk_27 (dk_at dksX1_site_1 0 rfl rfl)
theorem dX1_site_25 : decode cX1_site 25 = .ok (.iload_n 2, 1) := dk_28 (dk_at dksX1_site_1 1 rfl rfl)
theorem dX1_site_26 : decode cX1_site 26 = .ok (.iload_n 3, 1) := dk_29 (dk_at dksX1_site_1 2 rfl rfl)
theorem dX1_site_27 : decode cX1_site 27 = .ok (.iload 4, 2) := dk_21 4 (dk_at dksX1_site_1 3 rfl rfl)
theorem dX1_site_29 : decode cX1_site 29 = .ok (.invokespecial 177, 3) := dk_183 0 177 (dk_at dksX1_site_1 5 rfl rfl)
theorem dX1_site_32 : decode cX1_site 32 = .ok (.invokevirtual 49, 3) := dk_182 0 49 (dk_at dksX1_site_1 8 rfl rfl)
theorem dX1_site_35 : decode cX1_site 35 = .ok (.aload_n 0, 1) := dk_42 (dk_at dksX1_site_1 11 rfl rfl)
theorem dX1_site_36 : decode cX1_site 36 = .ok (.getfield 20, 3) := dk_180 0 20 (dk_at dksX1_site_1 12 rfl rfl)
theorem dX1_site_39 : decode cX1_site 39 = .ok (.invokevirtual 144, 3) := dk_182 0 144 (dk_at dksX1_site_1 15 rfl rfl)
theorem dX1_site_42 : decode cX1_site 42 = .ok (.iconst 1, 1) := dk_4 (dk_at dksX1_site_1 18 rfl rfl)
theorem dX1_site_43 : decode cX1_site 43 = .ok (.isub, 1) := dk_100 (dk_at dksX1_site_1 19 rfl rfl)
theorem dX1_site_44 : decode cX1_site 44 = .ok (.ireturn, 1) := dk_172 (dk_at dksX1_site_1 20 rfl rfl)
abbrev cX1_moves : ByteArray := prog_32_method_17_code
def yX1_moves : MethodName := ⟨RX1, "moves", "(II)I"⟩
def dkwX1_moves_5 : List UInt8 := [181, 0, 194, 25, 4, 4, 181, 0, 194, 21, 5, 172]
abbrev dktX1_moves_5 : List UInt8 := dkwX1_moves_5 ++ []
def dkwX1_moves_4 : List UInt8 := [42, 89, 180, 0, 23, 21, 5, 100, 181, 0, 23, 42, 89, 180, 0, 67, 21, 5, 96, 181, 0, 67, 45, 3]
abbrev dktX1_moves_4 : List UInt8 := dkwX1_moves_4 ++ dktX1_moves_5
def dkwX1_moves_3 : List UInt8 := [180, 0, 23, 21, 5, 161, 0, 7, 4, 167, 0, 4, 3, 8, 21, 5, 42, 180, 0, 23, 100, 184, 0, 183]
abbrev dktX1_moves_3 : List UInt8 := dkwX1_moves_3 ++ dktX1_moves_4
def dkwX1_moves_2 : List UInt8 := [167, 0, 4, 3, 16, 6, 42, 180, 0, 27, 184, 0, 183, 45, 25, 4, 182, 0, 166, 8, 108, 54, 5, 42]
abbrev dktX1_moves_2 : List UInt8 := dkwX1_moves_2 ++ dktX1_moves_3
def dkwX1_moves_1 : List UInt8 := [182, 0, 190, 58, 4, 45, 180, 0, 194, 16, 7, 27, 184, 0, 183, 25, 4, 180, 0, 194, 154, 0, 7, 4]
abbrev dktX1_moves_1 : List UInt8 := dkwX1_moves_1 ++ dktX1_moves_2
def dkwX1_moves_0 : List UInt8 := [27, 28, 159, 0, 7, 4, 167, 0, 4, 3, 16, 9, 27, 184, 0, 183, 42, 27, 182, 0, 190, 78, 42, 28]
abbrev dktX1_moves_0 : List UInt8 := dkwX1_moves_0 ++ dktX1_moves_1
theorem dksX1_moves_0 : cX1_moves.data.toList.drop 0 = dktX1_moves_0 := by decide +kernel
theorem dksX1_moves_1 : cX1_moves.data.toList.drop 24 = dktX1_moves_1 := dk_seg dksX1_moves_0 24 rfl rfl
theorem dksX1_moves_2 : cX1_moves.data.toList.drop 48 = dktX1_moves_2 := dk_seg dksX1_moves_1 24 rfl rfl
theorem dksX1_moves_3 : cX1_moves.data.toList.drop 72 = dktX1_moves_3 := dk_seg dksX1_moves_2 24 rfl rfl
theorem dksX1_moves_4 : cX1_moves.data.toList.drop 96 = dktX1_moves_4 := dk_seg dksX1_moves_3 24 rfl rfl
theorem dksX1_moves_5 : cX1_moves.data.toList.drop 120 = dktX1_moves_5 := dk_seg dksX1_moves_4 24 rfl rfl
theorem dX1_moves_0 : decode cX1_moves 0 = .ok (.iload_n 1, 1) := dk_27 (dk_at dksX1_moves_0 0 rfl rfl)
theorem dX1_moves_1 : decode cX1_moves 1 = .ok (.iload_n 2, 1) := dk_28 (dk_at dksX1_moves_0 1 rfl rfl)
theorem dX1_moves_2 : decode cX1_moves 2 = .ok (.if_icmp .eq 7, 3) := dk_159 0 7 (dk_at dksX1_moves_0 2 rfl rfl)
theorem dX1_moves_5 : decode cX1_moves 5 = .ok (.iconst 1, 1) := dk_4 (dk_at dksX1_moves_0 5 rfl rfl)
theorem dX1_moves_6 : decode cX1_moves 6 = .ok (.goto 4, 3) := dk_167 0 4 (dk_at dksX1_moves_0 6 rfl rfl)
theorem dX1_moves_9 : decode cX1_moves 9 = .ok (.iconst 0, 1) := dk_3 (dk_at dksX1_moves_0 9 rfl rfl)
theorem dX1_moves_10 : decode cX1_moves 10 = .ok (.bipush 9, 2) := dk_16 9 (dk_at dksX1_moves_0 10 rfl rfl)
theorem dX1_moves_12 : decode cX1_moves 12 = .ok (.iload_n 1, 1) := dk_27 (dk_at dksX1_moves_0 12 rfl rfl)
theorem dX1_moves_13 : decode cX1_moves 13 = .ok (.invokestatic 183, 3) := dk_184 0 183 (dk_at dksX1_moves_0 13 rfl rfl)
theorem dX1_moves_16 : decode cX1_moves 16 = .ok (.aload_n 0, 1) := dk_42 (dk_at dksX1_moves_0 16 rfl rfl)
theorem dX1_moves_17 : decode cX1_moves 17 = .ok (.iload_n 1, 1) := dk_27 (dk_at dksX1_moves_0 17 rfl rfl)
theorem dX1_moves_18 : decode cX1_moves 18 = .ok (.invokevirtual 190, 3) := dk_182 0 190 (dk_at dksX1_moves_0 18 rfl rfl)
theorem dX1_moves_21 : decode cX1_moves 21 = .ok (.astore_n 3, 1) := dk_78 (dk_at dksX1_moves_0 21 rfl rfl)
theorem dX1_moves_22 : decode cX1_moves 22 = .ok (.aload_n 0, 1) := dk_42 (dk_at dksX1_moves_0 22 rfl rfl)
theorem dX1_moves_23 : decode cX1_moves 23 = .ok (.iload_n 2, 1) := dk_28 (dk_at dksX1_moves_0 23 rfl rfl)
theorem dX1_moves_24 : decode cX1_moves 24 = .ok (.invokevirtual 190, 3) := dk_182 0 190 (dk_at dksX1_moves_1 0 rfl rfl)
theorem dX1_moves_27 : decode cX1_moves 27 = .ok (.astore 4, 2) := dk_58 4 (dk_at dksX1_moves_1 3 rfl rfl)
theorem dX1_moves_29 : decode cX1_moves 29 = .ok (.aload_n 3, 1) := dk_45 (dk_at dksX1_moves_1 5 rfl rfl)
theorem dX1_moves_30 : decode cX1_moves 30 = .ok (.getfield 194, 3) := dk_180 0 194 (dk_at dksX1_moves_1 6 rfl rfl)
theorem dX1_moves_33 : decode cX1_moves 33 = .ok (.bipush 7, 2) := dk_16 7 (dk_at dksX1_moves_1 9 rfl rfl)
theorem dX1_moves_35 : decode cX1_moves 35 = .ok (.iload_n 1, 1) := dk_27 (dk_at dksX1_moves_1 11 rfl rfl)
theorem dX1_moves_36 : decode cX1_moves 36 = .ok (.invokestatic 183, 3) := dk_184 0 183 (dk_at dksX1_moves_1 12 rfl rfl)
theorem dX1_moves_39 : decode cX1_moves 39 = .ok (.aload 4, 2) := dk_25 4 (dk_at dksX1_moves_1 15 rfl rfl)
theorem dX1_moves_41 : decode cX1_moves 41 = .ok (.getfield 194, 3) := dk_180 0 194 (dk_at dksX1_moves_1 17 rfl rfl)
theorem dX1_moves_44 : decode cX1_moves 44 = .ok (.ifCond .ne 7, 3) := dk_154 0 7 (dk_at dksX1_moves_1 20 rfl rfl)
theorem dX1_moves_47 : decode cX1_moves 47 = .ok (.iconst 1, 1) := dk_4 (dk_at dksX1_moves_1 23 rfl rfl)
theorem dX1_moves_48 : decode cX1_moves 48 = .ok (.goto 4, 3) := dk_167 0 4 (dk_at dksX1_moves_2 0 rfl rfl)
theorem dX1_moves_51 : decode cX1_moves 51 = .ok (.iconst 0, 1) := dk_3 (dk_at dksX1_moves_2 3 rfl rfl)
theorem dX1_moves_52 : decode cX1_moves 52 = .ok (.bipush 6, 2) := dk_16 6 (dk_at dksX1_moves_2 4 rfl rfl)
theorem dX1_moves_54 : decode cX1_moves 54 = .ok (.aload_n 0, 1) := dk_42 (dk_at dksX1_moves_2 6 rfl rfl)
theorem dX1_moves_55 : decode cX1_moves 55 = .ok (.getfield 27, 3) := dk_180 0 27 (dk_at dksX1_moves_2 7 rfl rfl)
theorem dX1_moves_58 : decode cX1_moves 58 = .ok (.invokestatic 183, 3) := dk_184 0 183 (dk_at dksX1_moves_2 10 rfl rfl)
theorem dX1_moves_61 : decode cX1_moves 61 = .ok (.aload_n 3, 1) := dk_45 (dk_at dksX1_moves_2 13 rfl rfl)
theorem dX1_moves_62 : decode cX1_moves 62 = .ok (.aload 4, 2) := dk_25 4 (dk_at dksX1_moves_2 14 rfl rfl)
theorem dX1_moves_64 : decode cX1_moves 64 = .ok (.invokevirtual 166, 3) := dk_182 0 166 (dk_at dksX1_moves_2 16 rfl rfl)
theorem dX1_moves_67 : decode cX1_moves 67 = .ok (.iconst 5, 1) := dk_8 (dk_at dksX1_moves_2 19 rfl rfl)
theorem dX1_moves_68 : decode cX1_moves 68 = .ok (.idiv, 1) := dk_108 (dk_at dksX1_moves_2 20 rfl rfl)
theorem dX1_moves_69 : decode cX1_moves 69 = .ok (.istore 5, 2) := dk_54 5 (dk_at dksX1_moves_2 21 rfl rfl)
theorem dX1_moves_71 : decode cX1_moves 71 = .ok (.aload_n 0, 1) := dk_42 (dk_at dksX1_moves_2 23 rfl rfl)
theorem dX1_moves_72 : decode cX1_moves 72 = .ok (.getfield 23, 3) := dk_180 0 23 (dk_at dksX1_moves_3 0 rfl rfl)
theorem dX1_moves_75 : decode cX1_moves 75 = .ok (.iload 5, 2) := dk_21 5 (dk_at dksX1_moves_3 3 rfl rfl)
theorem dX1_moves_77 : decode cX1_moves 77 = .ok (.if_icmp .lt 7, 3) := dk_161 0 7 (dk_at dksX1_moves_3 5 rfl rfl)
theorem dX1_moves_80 : decode cX1_moves 80 = .ok (.iconst 1, 1) := dk_4 (dk_at dksX1_moves_3 8 rfl rfl)
theorem dX1_moves_81 : decode cX1_moves 81 = .ok (.goto 4, 3) := dk_167 0 4 (dk_at dksX1_moves_3 9 rfl rfl)
theorem dX1_moves_84 : decode cX1_moves 84 = .ok (.iconst 0, 1) := dk_3 (dk_at dksX1_moves_3 12 rfl rfl)
theorem dX1_moves_85 : decode cX1_moves 85 = .ok (.iconst 5, 1) := dk_8 (dk_at dksX1_moves_3 13 rfl rfl)
theorem dX1_moves_86 : decode cX1_moves 86 = .ok (.iload 5, 2) := dk_21 5 (dk_at dksX1_moves_3 14 rfl rfl)
theorem dX1_moves_88 : decode cX1_moves 88 = .ok (.aload_n 0, 1) := dk_42 (dk_at dksX1_moves_3 16 rfl rfl)
theorem dX1_moves_89 : decode cX1_moves 89 = .ok (.getfield 23, 3) := dk_180 0 23 (dk_at dksX1_moves_3 17 rfl rfl)
theorem dX1_moves_92 : decode cX1_moves 92 = .ok (.isub, 1) := dk_100 (dk_at dksX1_moves_3 20 rfl rfl)
theorem dX1_moves_93 : decode cX1_moves 93 = .ok (.invokestatic 183, 3) := dk_184 0 183 (dk_at dksX1_moves_3 21 rfl rfl)
theorem dX1_moves_96 : decode cX1_moves 96 = .ok (.aload_n 0, 1) := dk_42 (dk_at dksX1_moves_4 0 rfl rfl)
theorem dX1_moves_97 : decode cX1_moves 97 = .ok (.dup, 1) := dk_89 (dk_at dksX1_moves_4 1 rfl rfl)
theorem dX1_moves_98 : decode cX1_moves 98 = .ok (.getfield 23, 3) := dk_180 0 23 (dk_at dksX1_moves_4 2 rfl rfl)
theorem dX1_moves_101 : decode cX1_moves 101 = .ok (.iload 5, 2) := dk_21 5 (dk_at dksX1_moves_4 5 rfl rfl)
theorem dX1_moves_103 : decode cX1_moves 103 = .ok (.isub, 1) := dk_100 (dk_at dksX1_moves_4 7 rfl rfl)
theorem dX1_moves_104 : decode cX1_moves 104 = .ok (.putfield 23, 3) := dk_181 0 23 (dk_at dksX1_moves_4 8 rfl rfl)
theorem dX1_moves_107 : decode cX1_moves 107 = .ok (.aload_n 0, 1) := dk_42 (dk_at dksX1_moves_4 11 rfl rfl)
theorem dX1_moves_108 : decode cX1_moves 108 = .ok (.dup, 1) := dk_89 (dk_at dksX1_moves_4 12 rfl rfl)
theorem dX1_moves_109 : decode cX1_moves 109 = .ok (.getfield 67, 3) := dk_180 0 67 (dk_at dksX1_moves_4 13 rfl rfl)
theorem dX1_moves_112 : decode cX1_moves 112 = .ok (.iload 5, 2) := dk_21 5 (dk_at dksX1_moves_4 16 rfl rfl)
theorem dX1_moves_114 : decode cX1_moves 114 = .ok (.iadd, 1) := dk_96 (dk_at dksX1_moves_4 18 rfl rfl)
theorem dX1_moves_115 : decode cX1_moves 115 = .ok (.putfield 67, 3) := dk_181 0 67 (dk_at dksX1_moves_4 19 rfl rfl)
theorem dX1_moves_118 : decode cX1_moves 118 = .ok (.aload_n 3, 1) := dk_45 (dk_at dksX1_moves_4 22 rfl rfl)
theorem dX1_moves_119 : decode cX1_moves 119 = .ok (.iconst 0, 1) := dk_3 (dk_at dksX1_moves_4 23 rfl rfl)
theorem dX1_moves_120 : decode cX1_moves 120 = .ok (.putfield 194, 3) := dk_181 0 194 (dk_at dksX1_moves_5 0 rfl rfl)
theorem dX1_moves_123 : decode cX1_moves 123 = .ok (.aload 4, 2) := dk_25 4 (dk_at dksX1_moves_5 3 rfl rfl)
theorem dX1_moves_125 : decode cX1_moves 125 = .ok (.iconst 1, 1) := dk_4 (dk_at dksX1_moves_5 5 rfl rfl)
theorem dX1_moves_126 : decode cX1_moves 126 = .ok (.putfield 194, 3) := dk_181 0 194 (dk_at dksX1_moves_5 6 rfl rfl)
theorem dX1_moves_129 : decode cX1_moves 129 = .ok (.iload 5, 2) := dk_21 5 (dk_at dksX1_moves_5 9 rfl rfl)
theorem dX1_moves_131 : decode cX1_moves 131 = .ok (.ireturn, 1) := dk_172 (dk_at dksX1_moves_5 11 rfl rfl)
abbrev cX1_openOne : ByteArray := prog_32_method_13_code
def yX1_openOne : MethodName := ⟨RX1, "openOne", "(I)LHamletWells$Site;"⟩
def dkwX1_openOne_1 : List UInt8 := [44, 176]
abbrev dktX1_openOne_1 : List UInt8 := dkwX1_openOne_1 ++ []
def dkwX1_openOne_0 : List UInt8 := [42, 180, 0, 20, 27, 182, 0, 151, 192, 0, 53, 77, 44, 180, 0, 133, 7, 44, 180, 0, 187, 184, 0, 183]
abbrev dktX1_openOne_0 : List UInt8 := dkwX1_openOne_0 ++ dktX1_openOne_1
theorem dksX1_openOne_0 : cX1_openOne.data.toList.drop 0 = dktX1_openOne_0 := by decide +kernel
theorem dksX1_openOne_1 : cX1_openOne.data.toList.drop 24 = dktX1_openOne_1 := dk_seg dksX1_openOne_0 24 rfl rfl
theorem dX1_openOne_0 : decode cX1_openOne 0 = .ok (.aload_n 0, 1) := dk_42 (dk_at dksX1_openOne_0 0 rfl rfl)
theorem dX1_openOne_1 : decode cX1_openOne 1 = .ok (.getfield 20, 3) := dk_180 0 20 (dk_at dksX1_openOne_0 1 rfl rfl)
theorem dX1_openOne_4 : decode cX1_openOne 4 = .ok (.iload_n 1, 1) := dk_27 (dk_at dksX1_openOne_0 4 rfl rfl)
theorem dX1_openOne_5 : decode cX1_openOne 5 = .ok (.invokevirtual 151, 3) := dk_182 0 151 (dk_at dksX1_openOne_0 5 rfl rfl)
theorem dX1_openOne_8 : decode cX1_openOne 8 = .ok (.checkcast 53, 3) := dk_192 0 53 (dk_at dksX1_openOne_0 8 rfl rfl)
theorem dX1_openOne_11 : decode cX1_openOne 11 = .ok (.astore_n 2, 1) := dk_77 (dk_at dksX1_openOne_0 11 rfl rfl)
theorem dX1_openOne_12 : decode cX1_openOne 12 = .ok (.aload_n 2, 1) := dk_44 (dk_at dksX1_openOne_0 12 rfl rfl)
theorem dX1_openOne_13 : decode cX1_openOne 13 = .ok (.getfield 133, 3) := dk_180 0 133 (dk_at dksX1_openOne_0 13 rfl rfl)
theorem dX1_openOne_16 : decode cX1_openOne 16 = .ok (.iconst 4, 1) := dk_7 (dk_at dksX1_openOne_0 16 rfl rfl)
theorem dX1_openOne_17 : decode cX1_openOne 17 = .ok (.aload_n 2, 1) := dk_44 (dk_at dksX1_openOne_0 17 rfl rfl)
theorem dX1_openOne_18 : decode cX1_openOne 18 = .ok (.getfield 187, 3) := dk_180 0 187 (dk_at dksX1_openOne_0 18 rfl rfl)
theorem dX1_openOne_21 : decode cX1_openOne 21 = .ok (.invokestatic 183, 3) := dk_184 0 183 (dk_at dksX1_openOne_0 21 rfl rfl)
theorem dX1_openOne_24 : decode cX1_openOne 24 = .ok (.aload_n 2, 1) := dk_44 (dk_at dksX1_openOne_1 0 rfl rfl)
theorem dX1_openOne_25 : decode cX1_openOne 25 = .ok (.areturn, 1) := dk_176 (dk_at dksX1_openOne_1 1 rfl rfl)
abbrev cX1_goes : ByteArray := prog_32_method_21_code
def yX1_goes : MethodName := ⟨RX1, "goes", "(I)I"⟩
def dkwX1_goes_0 : List UInt8 := [3, 61, 3, 62, 29, 27, 162, 0, 16, 28, 42, 182, 0, 234, 96, 61, 132, 3, 1, 167, 255, 241, 28, 172]
abbrev dktX1_goes_0 : List UInt8 := dkwX1_goes_0 ++ []
theorem dksX1_goes_0 : cX1_goes.data.toList.drop 0 = dktX1_goes_0 := by decide +kernel
theorem dX1_goes_0 : decode cX1_goes 0 = .ok (.iconst 0, 1) := dk_3 (dk_at dksX1_goes_0 0 rfl rfl)
theorem dX1_goes_1 : decode cX1_goes 1 = .ok (.istore_n 2, 1) := dk_61 (dk_at dksX1_goes_0 1 rfl rfl)
theorem dX1_goes_2 : decode cX1_goes 2 = .ok (.iconst 0, 1) := dk_3 (dk_at dksX1_goes_0 2 rfl rfl)
theorem dX1_goes_3 : decode cX1_goes 3 = .ok (.istore_n 3, 1) := dk_62 (dk_at dksX1_goes_0 3 rfl rfl)
theorem dX1_goes_4 : decode cX1_goes 4 = .ok (.iload_n 3, 1) := dk_29 (dk_at dksX1_goes_0 4 rfl rfl)
theorem dX1_goes_5 : decode cX1_goes 5 = .ok (.iload_n 1, 1) := dk_27 (dk_at dksX1_goes_0 5 rfl rfl)
theorem dX1_goes_6 : decode cX1_goes 6 = .ok (.if_icmp .ge 16, 3) := dk_162 0 16 (dk_at dksX1_goes_0 6 rfl rfl)
theorem dX1_goes_9 : decode cX1_goes 9 = .ok (.iload_n 2, 1) := dk_28 (dk_at dksX1_goes_0 9 rfl rfl)
theorem dX1_goes_10 : decode cX1_goes 10 = .ok (.aload_n 0, 1) := dk_42 (dk_at dksX1_goes_0 10 rfl rfl)
theorem dX1_goes_11 : decode cX1_goes 11 = .ok (.invokevirtual 234, 3) := dk_182 0 234 (dk_at dksX1_goes_0 11 rfl rfl)
theorem dX1_goes_14 : decode cX1_goes 14 = .ok (.iadd, 1) := dk_96 (dk_at dksX1_goes_0 14 rfl rfl)
theorem dX1_goes_15 : decode cX1_goes 15 = .ok (.istore_n 2, 1) := dk_61 (dk_at dksX1_goes_0 15 rfl rfl)
theorem dX1_goes_16 : decode cX1_goes 16 = .ok (.iinc 3 1, 3) := dk_132 3 1 (dk_at dksX1_goes_0 16 rfl rfl)
theorem dX1_goes_19 : decode cX1_goes 19 = .ok (.goto (-15), 3) := dk_167 255 241 (dk_at dksX1_goes_0 19 rfl rfl)
theorem dX1_goes_22 : decode cX1_goes 22 = .ok (.iload_n 2, 1) := dk_28 (dk_at dksX1_goes_0 22 rfl rfl)
theorem dX1_goes_23 : decode cX1_goes 23 = .ok (.ireturn, 1) := dk_172 (dk_at dksX1_goes_0 23 rfl rfl)
abbrev cX1_goes_2 : ByteArray := prog_32_method_20_code
def yX1_goes_2 : MethodName := ⟨RX1, "goes", "()I"⟩
def dkwX1_goes_2_11 : List UInt8 := [180, 0, 58, 4, 96, 181, 0, 58, 29, 172]
abbrev dktX1_goes_2_11 : List UInt8 := dkwX1_goes_2_11 ++ []
def dkwX1_goes_2_10 : List UInt8 := [180, 0, 61, 25, 5, 180, 0, 163, 96, 181, 0, 61, 29, 21, 6, 96, 62, 167, 255, 182, 42, 89]
abbrev dktX1_goes_2_10 : List UInt8 := dkwX1_goes_2_10 ++ dktX1_goes_2_11
def dkwX1_goes_2_9 : List UInt8 := [25, 5, 180, 0, 224, 46, 100, 100, 54, 6, 25, 5, 89, 180, 0, 231, 21, 6, 96, 181, 0, 231, 42, 89]
abbrev dktX1_goes_2_9 : List UInt8 := dkwX1_goes_2_9 ++ dktX1_goes_2_10
def dkwX1_goes_2_8 : List UInt8 := [25, 4, 185, 0, 40, 1, 0, 192, 0, 44, 58, 5, 25, 5, 180, 0, 163, 25, 5, 180, 0, 217, 43]
abbrev dktX1_goes_2_8 : List UInt8 := dkwX1_goes_2_8 ++ dktX1_goes_2_9
def dkwX1_goes_2_7 : List UInt8 := [167, 255, 224, 3, 62, 42, 180, 0, 14, 182, 0, 30, 58, 4, 25, 4, 185, 0, 34, 1, 0, 153, 0, 70]
abbrev dktX1_goes_2_7 : List UInt8 := dkwX1_goes_2_7 ++ dktX1_goes_2_8
def dkwX1_goes_2_6 : List UInt8 := [185, 0, 40, 1, 0, 192, 0, 53, 58, 4, 25, 4, 44, 25, 4, 180, 0, 130, 46, 182, 0, 228]
abbrev dktX1_goes_2_6 : List UInt8 := dkwX1_goes_2_6 ++ dktX1_goes_2_7
def dkwX1_goes_2_5 : List UInt8 := [167, 255, 211, 42, 180, 0, 20, 182, 0, 30, 78, 45, 185, 0, 34, 1, 0, 153, 0, 29, 45]
abbrev dktX1_goes_2_5 : List UInt8 := dkwX1_goes_2_5 ++ dktX1_goes_2_6
def dkwX1_goes_2_4 : List UInt8 := [180, 0, 130, 25, 4, 180, 0, 133, 153, 0, 12, 42, 25, 4, 182, 0, 225, 167, 0, 4, 3, 79]
abbrev dktX1_goes_2_4 : List UInt8 := dkwX1_goes_2_4 ++ dktX1_goes_2_5
def dkwX1_goes_2_3 : List UInt8 := [185, 0, 34, 1, 0, 153, 0, 42, 45, 185, 0, 40, 1, 0, 192, 0, 53, 58, 4, 44, 25, 4]
abbrev dktX1_goes_2_3 : List UInt8 := dkwX1_goes_2_3 ++ dktX1_goes_2_4
def dkwX1_goes_2_2 : List UInt8 := [167, 255, 227, 42, 180, 0, 20, 182, 0, 144, 188, 10, 77, 42, 180, 0, 20, 182, 0, 30, 78, 45]
abbrev dktX1_goes_2_2 : List UInt8 := dkwX1_goes_2_2 ++ dktX1_goes_2_3
def dkwX1_goes_2_1 : List UInt8 := [153, 0, 26, 44, 185, 0, 40, 1, 0, 192, 0, 44, 78, 43, 45, 180, 0, 224, 45, 180, 0, 217, 79]
abbrev dktX1_goes_2_1 : List UInt8 := dkwX1_goes_2_1 ++ dktX1_goes_2_2
def dkwX1_goes_2_0 : List UInt8 := [42, 180, 0, 14, 182, 0, 144, 188, 10, 76, 42, 180, 0, 14, 182, 0, 30, 77, 44, 185, 0, 34, 1, 0]
abbrev dktX1_goes_2_0 : List UInt8 := dkwX1_goes_2_0 ++ dktX1_goes_2_1
theorem dksX1_goes_2_0 : cX1_goes_2.data.toList.drop 0 = dktX1_goes_2_0 := by decide +kernel
theorem dksX1_goes_2_1 : cX1_goes_2.data.toList.drop 24 = dktX1_goes_2_1 := dk_seg dksX1_goes_2_0 24 rfl rfl
theorem dksX1_goes_2_2 : cX1_goes_2.data.toList.drop 47 = dktX1_goes_2_2 := dk_seg dksX1_goes_2_1 23 rfl rfl
theorem dksX1_goes_2_3 : cX1_goes_2.data.toList.drop 69 = dktX1_goes_2_3 := dk_seg dksX1_goes_2_2 22 rfl rfl
theorem dksX1_goes_2_4 : cX1_goes_2.data.toList.drop 91 = dktX1_goes_2_4 := dk_seg dksX1_goes_2_3 22 rfl rfl
theorem dksX1_goes_2_5 : cX1_goes_2.data.toList.drop 113 = dktX1_goes_2_5 := dk_seg dksX1_goes_2_4 22 rfl rfl
theorem dksX1_goes_2_6 : cX1_goes_2.data.toList.drop 134 = dktX1_goes_2_6 := dk_seg dksX1_goes_2_5 21 rfl rfl
theorem dksX1_goes_2_7 : cX1_goes_2.data.toList.drop 156 = dktX1_goes_2_7 := dk_seg dksX1_goes_2_6 22 rfl rfl
theorem dksX1_goes_2_8 : cX1_goes_2.data.toList.drop 180 = dktX1_goes_2_8 := dk_seg dksX1_goes_2_7 24 rfl rfl
theorem dksX1_goes_2_9 : cX1_goes_2.data.toList.drop 203 = dktX1_goes_2_9 := dk_seg dksX1_goes_2_8 23 rfl rfl
theorem dksX1_goes_2_10 : cX1_goes_2.data.toList.drop 227 = dktX1_goes_2_10 := dk_seg dksX1_goes_2_9 24 rfl rfl
theorem dksX1_goes_2_11 : cX1_goes_2.data.toList.drop 249 = dktX1_goes_2_11 := dk_seg dksX1_goes_2_10 22 rfl rfl
theorem dX1_goes_2_0 : decode cX1_goes_2 0 = .ok (.aload_n 0, 1) := dk_42 (dk_at dksX1_goes_2_0 0 rfl rfl)
theorem dX1_goes_2_1 : decode cX1_goes_2 1 = .ok (.getfield 14, 3) := dk_180 0 14 (dk_at dksX1_goes_2_0 1 rfl rfl)
theorem dX1_goes_2_4 : decode cX1_goes_2 4 = .ok (.invokevirtual 144, 3) := dk_182 0 144 (dk_at dksX1_goes_2_0 4 rfl rfl)
theorem dX1_goes_2_7 : decode cX1_goes_2 7 = .ok (.newarray .int, 2) := dk_188_10 (dk_at dksX1_goes_2_0 7 rfl rfl)
theorem dX1_goes_2_9 : decode cX1_goes_2 9 = .ok (.astore_n 1, 1) := dk_76 (dk_at dksX1_goes_2_0 9 rfl rfl)
theorem dX1_goes_2_10 : decode cX1_goes_2 10 = .ok (.aload_n 0, 1) := dk_42 (dk_at dksX1_goes_2_0 10 rfl rfl)
theorem dX1_goes_2_11 : decode cX1_goes_2 11 = .ok (.getfield 14, 3) := dk_180 0 14 (dk_at dksX1_goes_2_0 11 rfl rfl)
theorem dX1_goes_2_14 : decode cX1_goes_2 14 = .ok (.invokevirtual 30, 3) := dk_182 0 30 (dk_at dksX1_goes_2_0 14 rfl rfl)
theorem dX1_goes_2_17 : decode cX1_goes_2 17 = .ok (.astore_n 2, 1) := dk_77 (dk_at dksX1_goes_2_0 17 rfl rfl)
theorem dX1_goes_2_18 : decode cX1_goes_2 18 = .ok (.aload_n 2, 1) := dk_44 (dk_at dksX1_goes_2_0 18 rfl rfl)
theorem dX1_goes_2_19 : decode cX1_goes_2 19 = .ok (.invokeinterface 34 1, 5) := by decide +kernel
theorem dX1_goes_2_24 : decode cX1_goes_2 24 = .ok (.ifCond .eq 26, 3) := dk_153 0 26 (dk_at dksX1_goes_2_1 0 rfl rfl)
theorem dX1_goes_2_27 : decode cX1_goes_2 27 = .ok (.aload_n 2, 1) := dk_44 (dk_at dksX1_goes_2_1 3 rfl rfl)
theorem dX1_goes_2_28 : decode cX1_goes_2 28 = .ok (.invokeinterface 40 1, 5) := by decide +kernel
theorem dX1_goes_2_33 : decode cX1_goes_2 33 = .ok (.checkcast 44, 3) := dk_192 0 44 (dk_at dksX1_goes_2_1 9 rfl rfl)
theorem dX1_goes_2_36 : decode cX1_goes_2 36 = .ok (.astore_n 3, 1) := dk_78 (dk_at dksX1_goes_2_1 12 rfl rfl)
theorem dX1_goes_2_37 : decode cX1_goes_2 37 = .ok (.aload_n 1, 1) := dk_43 (dk_at dksX1_goes_2_1 13 rfl rfl)
theorem dX1_goes_2_38 : decode cX1_goes_2 38 = .ok (.aload_n 3, 1) := dk_45 (dk_at dksX1_goes_2_1 14 rfl rfl)
theorem dX1_goes_2_39 : decode cX1_goes_2 39 = .ok (.getfield 224, 3) := dk_180 0 224 (dk_at dksX1_goes_2_1 15 rfl rfl)
theorem dX1_goes_2_42 : decode cX1_goes_2 42 = .ok (.aload_n 3, 1) := dk_45 (dk_at dksX1_goes_2_1 18 rfl rfl)
theorem dX1_goes_2_43 : decode cX1_goes_2 43 = .ok (.getfield 217, 3) := dk_180 0 217 (dk_at dksX1_goes_2_1 19 rfl rfl)
theorem dX1_goes_2_46 : decode cX1_goes_2 46 = .ok (.iastore, 1) := dk_79 (dk_at dksX1_goes_2_1 22 rfl rfl)
theorem dX1_goes_2_47 : decode cX1_goes_2 47 = .ok (.goto (-29), 3) := dk_167 255 227 (dk_at dksX1_goes_2_2 0 rfl rfl)
theorem dX1_goes_2_50 : decode cX1_goes_2 50 = .ok (.aload_n 0, 1) := dk_42 (dk_at dksX1_goes_2_2 3 rfl rfl)
theorem dX1_goes_2_51 : decode cX1_goes_2 51 = .ok (.getfield 20, 3) := dk_180 0 20 (dk_at dksX1_goes_2_2 4 rfl rfl)
theorem dX1_goes_2_54 : decode cX1_goes_2 54 = .ok (.invokevirtual 144, 3) := dk_182 0 144 (dk_at dksX1_goes_2_2 7 rfl rfl)
theorem dX1_goes_2_57 : decode cX1_goes_2 57 = .ok (.newarray .int, 2) := dk_188_10 (dk_at dksX1_goes_2_2 10 rfl rfl)
theorem dX1_goes_2_59 : decode cX1_goes_2 59 = .ok (.astore_n 2, 1) := dk_77 (dk_at dksX1_goes_2_2 12 rfl rfl)
theorem dX1_goes_2_60 : decode cX1_goes_2 60 = .ok (.aload_n 0, 1) := dk_42 (dk_at dksX1_goes_2_2 13 rfl rfl)
theorem dX1_goes_2_61 : decode cX1_goes_2 61 = .ok (.getfield 20, 3) := dk_180 0 20 (dk_at dksX1_goes_2_2 14 rfl rfl)
theorem dX1_goes_2_64 : decode cX1_goes_2 64 = .ok (.invokevirtual 30, 3) := dk_182 0 30 (dk_at dksX1_goes_2_2 17 rfl rfl)
theorem dX1_goes_2_67 : decode cX1_goes_2 67 = .ok (.astore_n 3, 1) := dk_78 (dk_at dksX1_goes_2_2 20 rfl rfl)
theorem dX1_goes_2_68 : decode cX1_goes_2 68 = .ok (.aload_n 3, 1) := dk_45 (dk_at dksX1_goes_2_2 21 rfl rfl)
theorem dX1_goes_2_69 : decode cX1_goes_2 69 = .ok (.invokeinterface 34 1, 5) := by decide +kernel
theorem dX1_goes_2_74 : decode cX1_goes_2 74 = .ok (.ifCond .eq 42, 3) := dk_153 0 42 (dk_at dksX1_goes_2_3 5 rfl rfl)
theorem dX1_goes_2_77 : decode cX1_goes_2 77 = .ok (.aload_n 3, 1) := dk_45 (dk_at dksX1_goes_2_3 8 rfl rfl)
theorem dX1_goes_2_78 : decode cX1_goes_2 78 = .ok (.invokeinterface 40 1, 5) := by decide +kernel
theorem dX1_goes_2_83 : decode cX1_goes_2 83 = .ok (.checkcast 53, 3) := dk_192 0 53 (dk_at dksX1_goes_2_3 14 rfl rfl)
theorem dX1_goes_2_86 : decode cX1_goes_2 86 = .ok (.astore 4, 2) := dk_58 4 (dk_at dksX1_goes_2_3 17 rfl rfl)
theorem dX1_goes_2_88 : decode cX1_goes_2 88 = .ok (.aload_n 2, 1) := dk_44 (dk_at dksX1_goes_2_3 19 rfl rfl)
theorem dX1_goes_2_89 : decode cX1_goes_2 89 = .ok (.aload 4, 2) := dk_25 4 (dk_at dksX1_goes_2_3 20 rfl rfl)
theorem dX1_goes_2_91 : decode cX1_goes_2 91 = .ok (.getfield 130, 3) := dk_180 0 130 (dk_at dksX1_goes_2_4 0 rfl rfl)
theorem dX1_goes_2_94 : decode cX1_goes_2 94 = .ok (.aload 4, 2) := dk_25 4 (dk_at dksX1_goes_2_4 3 rfl rfl)
theorem dX1_goes_2_96 : decode cX1_goes_2 96 = .ok (.getfield 133, 3) := dk_180 0 133 (dk_at dksX1_goes_2_4 5 rfl rfl)
theorem dX1_goes_2_99 : decode cX1_goes_2 99 = .ok (.ifCond .eq 12, 3) := dk_153 0 12 (dk_at dksX1_goes_2_4 8 rfl rfl)
theorem dX1_goes_2_102 : decode cX1_goes_2 102 = .ok (.aload_n 0, 1) := dk_42 (dk_at dksX1_goes_2_4 11 rfl rfl)
theorem dX1_goes_2_103 : decode cX1_goes_2 103 = .ok (.aload 4, 2) := dk_25 4 (dk_at dksX1_goes_2_4 12 rfl rfl)
theorem dX1_goes_2_105 : decode cX1_goes_2 105 = .ok (.invokevirtual 225, 3) := dk_182 0 225 (dk_at dksX1_goes_2_4 14 rfl rfl)
theorem dX1_goes_2_108 : decode cX1_goes_2 108 = .ok (.goto 4, 3) := dk_167 0 4 (dk_at dksX1_goes_2_4 17 rfl rfl)
theorem dX1_goes_2_111 : decode cX1_goes_2 111 = .ok (.iconst 0, 1) := dk_3 (dk_at dksX1_goes_2_4 20 rfl rfl)
theorem dX1_goes_2_112 : decode cX1_goes_2 112 = .ok (.iastore, 1) := dk_79 (dk_at dksX1_goes_2_4 21 rfl rfl)
theorem dX1_goes_2_113 : decode cX1_goes_2 113 = .ok (.goto (-45), 3) := dk_167 255 211 (dk_at dksX1_goes_2_5 0 rfl rfl)
theorem dX1_goes_2_116 : decode cX1_goes_2 116 = .ok (.aload_n 0, 1) := dk_42 (dk_at dksX1_goes_2_5 3 rfl rfl)
theorem dX1_goes_2_117 : decode cX1_goes_2 117 = .ok (.getfield 20, 3) := dk_180 0 20 (dk_at dksX1_goes_2_5 4 rfl rfl)
theorem dX1_goes_2_120 : decode cX1_goes_2 120 = .ok (.invokevirtual 30, 3) := dk_182 0 30 (dk_at dksX1_goes_2_5 7 rfl rfl)
theorem dX1_goes_2_123 : decode cX1_goes_2 123 = .ok (.astore_n 3, 1) := dk_78 (dk_at dksX1_goes_2_5 10 rfl rfl)
theorem dX1_goes_2_124 : decode cX1_goes_2 124 = .ok (.aload_n 3, 1) := dk_45 (dk_at dksX1_goes_2_5 11 rfl rfl)
theorem dX1_goes_2_125 : decode cX1_goes_2 125 = .ok (.invokeinterface 34 1, 5) := by decide +kernel
theorem dX1_goes_2_130 : decode cX1_goes_2 130 = .ok (.ifCond .eq 29, 3) := dk_153 0 29 (dk_at dksX1_goes_2_5 17 rfl rfl)
theorem dX1_goes_2_133 : decode cX1_goes_2 133 = .ok (.aload_n 3, 1) := dk_45 (dk_at dksX1_goes_2_5 20 rfl rfl)
theorem dX1_goes_2_134 : decode cX1_goes_2 134 = .ok (.invokeinterface 40 1, 5) := by decide +kernel
theorem dX1_goes_2_139 : decode cX1_goes_2 139 = .ok (.checkcast 53, 3) := dk_192 0 53 (dk_at dksX1_goes_2_6 5 rfl rfl)
theorem dX1_goes_2_142 : decode cX1_goes_2 142 = .ok (.astore 4, 2) := dk_58 4 (dk_at dksX1_goes_2_6 8 rfl rfl)
theorem dX1_goes_2_144 : decode cX1_goes_2 144 = .ok (.aload 4, 2) := dk_25 4 (dk_at dksX1_goes_2_6 10 rfl rfl)
theorem dX1_goes_2_146 : decode cX1_goes_2 146 = .ok (.aload_n 2, 1) := dk_44 (dk_at dksX1_goes_2_6 12 rfl rfl)
theorem dX1_goes_2_147 : decode cX1_goes_2 147 = .ok (.aload 4, 2) := dk_25 4 (dk_at dksX1_goes_2_6 13 rfl rfl)
theorem dX1_goes_2_149 : decode cX1_goes_2 149 = .ok (.getfield 130, 3) := dk_180 0 130 (dk_at dksX1_goes_2_6 15 rfl rfl)
theorem dX1_goes_2_152 : decode cX1_goes_2 152 = .ok (.iaload, 1) := dk_46 (dk_at dksX1_goes_2_6 18 rfl rfl)
theorem dX1_goes_2_153 : decode cX1_goes_2 153 = .ok (.invokevirtual 228, 3) := dk_182 0 228 (dk_at dksX1_goes_2_6 19 rfl rfl)
theorem dX1_goes_2_156 : decode cX1_goes_2 156 = .ok (.goto (-32), 3) := dk_167 255 224 (dk_at dksX1_goes_2_7 0 rfl rfl)
theorem dX1_goes_2_159 : decode cX1_goes_2 159 = .ok (.iconst 0, 1) := dk_3 (dk_at dksX1_goes_2_7 3 rfl rfl)
theorem dX1_goes_2_160 : decode cX1_goes_2 160 = .ok (.istore_n 3, 1) := dk_62 (dk_at dksX1_goes_2_7 4 rfl rfl)
theorem dX1_goes_2_161 : decode cX1_goes_2 161 = .ok (.aload_n 0, 1) := dk_42 (dk_at dksX1_goes_2_7 5 rfl rfl)
theorem dX1_goes_2_162 : decode cX1_goes_2 162 = .ok (.getfield 14, 3) := dk_180 0 14 (dk_at dksX1_goes_2_7 6 rfl rfl)
theorem dX1_goes_2_165 : decode cX1_goes_2 165 = .ok (.invokevirtual 30, 3) := dk_182 0 30 (dk_at dksX1_goes_2_7 9 rfl rfl)
theorem dX1_goes_2_168 : decode cX1_goes_2 168 = .ok (.astore 4, 2) := dk_58 4 (dk_at dksX1_goes_2_7 12 rfl rfl)
theorem dX1_goes_2_170 : decode cX1_goes_2 170 = .ok (.aload 4, 2) := dk_25 4 (dk_at dksX1_goes_2_7 14 rfl rfl)
theorem dX1_goes_2_172 : decode cX1_goes_2 172 = .ok (.invokeinterface 34 1, 5) := by decide +kernel
theorem dX1_goes_2_177 : decode cX1_goes_2 177 = .ok (.ifCond .eq 70, 3) := dk_153 0 70 (dk_at dksX1_goes_2_7 21 rfl rfl)
theorem dX1_goes_2_180 : decode cX1_goes_2 180 = .ok (.aload 4, 2) := dk_25 4 (dk_at dksX1_goes_2_8 0 rfl rfl)
theorem dX1_goes_2_182 : decode cX1_goes_2 182 = .ok (.invokeinterface 40 1, 5) := by decide +kernel
theorem dX1_goes_2_187 : decode cX1_goes_2 187 = .ok (.checkcast 44, 3) := dk_192 0 44 (dk_at dksX1_goes_2_8 7 rfl rfl)
theorem dX1_goes_2_190 : decode cX1_goes_2 190 = .ok (.astore 5, 2) := dk_58 5 (dk_at dksX1_goes_2_8 10 rfl rfl)
theorem dX1_goes_2_192 : decode cX1_goes_2 192 = .ok (.aload 5, 2) := dk_25 5 (dk_at dksX1_goes_2_8 12 rfl rfl)
theorem dX1_goes_2_194 : decode cX1_goes_2 194 = .ok (.getfield 163, 3) := dk_180 0 163 (dk_at dksX1_goes_2_8 14 rfl rfl)
theorem dX1_goes_2_197 : decode cX1_goes_2 197 = .ok (.aload 5, 2) := dk_25 5 (dk_at dksX1_goes_2_8 17 rfl rfl)
theorem dX1_goes_2_199 : decode cX1_goes_2 199 = .ok (.getfield 217, 3) := dk_180 0 217 (dk_at dksX1_goes_2_8 19 rfl rfl)
theorem dX1_goes_2_202 : decode cX1_goes_2 202 = .ok (.aload_n 1, 1) := dk_43 (dk_at dksX1_goes_2_8 22 rfl rfl)
theorem dX1_goes_2_203 : decode cX1_goes_2 203 = .ok (.aload 5, 2) := dk_25 5 (dk_at dksX1_goes_2_9 0 rfl rfl)
theorem dX1_goes_2_205 : decode cX1_goes_2 205 = .ok (.getfield 224, 3) := dk_180 0 224 (dk_at dksX1_goes_2_9 2 rfl rfl)
theorem dX1_goes_2_208 : decode cX1_goes_2 208 = .ok (.iaload, 1) := dk_46 (dk_at dksX1_goes_2_9 5 rfl rfl)
theorem dX1_goes_2_209 : decode cX1_goes_2 209 = .ok (.isub, 1) := dk_100 (dk_at dksX1_goes_2_9 6 rfl rfl)
theorem dX1_goes_2_210 : decode cX1_goes_2 210 = .ok (.isub, 1) := dk_100 (dk_at dksX1_goes_2_9 7 rfl rfl)
theorem dX1_goes_2_211 : decode cX1_goes_2 211 = .ok (.istore 6, 2) := dk_54 6 (dk_at dksX1_goes_2_9 8 rfl rfl)
theorem dX1_goes_2_213 : decode cX1_goes_2 213 = .ok (.aload 5, 2) := dk_25 5 (dk_at dksX1_goes_2_9 10 rfl rfl)
theorem dX1_goes_2_215 : decode cX1_goes_2 215 = .ok (.dup, 1) := dk_89 (dk_at dksX1_goes_2_9 12 rfl rfl)
theorem dX1_goes_2_216 : decode cX1_goes_2 216 = .ok (.getfield 231, 3) := dk_180 0 231 (dk_at dksX1_goes_2_9 13 rfl rfl)
theorem dX1_goes_2_219 : decode cX1_goes_2 219 = .ok (.iload 6, 2) := dk_21 6 (dk_at dksX1_goes_2_9 16 rfl rfl)
theorem dX1_goes_2_221 : decode cX1_goes_2 221 = .ok (.iadd, 1) := dk_96 (dk_at dksX1_goes_2_9 18 rfl rfl)
theorem dX1_goes_2_222 : decode cX1_goes_2 222 = .ok (.putfield 231, 3) := dk_181 0 231 (dk_at dksX1_goes_2_9 19 rfl rfl)
theorem dX1_goes_2_225 : decode cX1_goes_2 225 = .ok (.aload_n 0, 1) := dk_42 (dk_at dksX1_goes_2_9 22 rfl rfl)
theorem dX1_goes_2_226 : decode cX1_goes_2 226 = .ok (.dup, 1) := dk_89 (dk_at dksX1_goes_2_9 23 rfl rfl)
theorem dX1_goes_2_227 : decode cX1_goes_2 227 = .ok (.getfield 61, 3) := dk_180 0 61 (dk_at dksX1_goes_2_10 0 rfl rfl)
theorem dX1_goes_2_230 : decode cX1_goes_2 230 = .ok (.aload 5, 2) := dk_25 5 (dk_at dksX1_goes_2_10 3 rfl rfl)
theorem dX1_goes_2_232 : decode cX1_goes_2 232 = .ok (.getfield 163, 3) := dk_180 0 163 (dk_at dksX1_goes_2_10 5 rfl rfl)
theorem dX1_goes_2_235 : decode cX1_goes_2 235 = .ok (.iadd, 1) := dk_96 (dk_at dksX1_goes_2_10 8 rfl rfl)
theorem dX1_goes_2_236 : decode cX1_goes_2 236 = .ok (.putfield 61, 3) := dk_181 0 61 (dk_at dksX1_goes_2_10 9 rfl rfl)
theorem dX1_goes_2_239 : decode cX1_goes_2 239 = .ok (.iload_n 3, 1) := dk_29 (dk_at dksX1_goes_2_10 12 rfl rfl)
theorem dX1_goes_2_240 : decode cX1_goes_2 240 = .ok (.iload 6, 2) := dk_21 6 (dk_at dksX1_goes_2_10 13 rfl rfl)
theorem dX1_goes_2_242 : decode cX1_goes_2 242 = .ok (.iadd, 1) := dk_96 (dk_at dksX1_goes_2_10 15 rfl rfl)
theorem dX1_goes_2_243 : decode cX1_goes_2 243 = .ok (.istore_n 3, 1) := dk_62 (dk_at dksX1_goes_2_10 16 rfl rfl)
theorem dX1_goes_2_244 : decode cX1_goes_2 244 = .ok (.goto (-74), 3) := dk_167 255 182 (dk_at dksX1_goes_2_10 17 rfl rfl)
theorem dX1_goes_2_247 : decode cX1_goes_2 247 = .ok (.aload_n 0, 1) := dk_42 (dk_at dksX1_goes_2_10 20 rfl rfl)
theorem dX1_goes_2_248 : decode cX1_goes_2 248 = .ok (.dup, 1) := dk_89 (dk_at dksX1_goes_2_10 21 rfl rfl)
theorem dX1_goes_2_249 : decode cX1_goes_2 249 = .ok (.getfield 58, 3) := dk_180 0 58 (dk_at dksX1_goes_2_11 0 rfl rfl)
theorem dX1_goes_2_252 : decode cX1_goes_2 252 = .ok (.iconst 1, 1) := dk_4 (dk_at dksX1_goes_2_11 3 rfl rfl)
theorem dX1_goes_2_253 : decode cX1_goes_2 253 = .ok (.iadd, 1) := dk_96 (dk_at dksX1_goes_2_11 4 rfl rfl)
theorem dX1_goes_2_254 : decode cX1_goes_2 254 = .ok (.putfield 58, 3) := dk_181 0 58 (dk_at dksX1_goes_2_11 5 rfl rfl)
theorem dX1_goes_2_257 : decode cX1_goes_2 257 = .ok (.iload_n 3, 1) := dk_29 (dk_at dksX1_goes_2_11 8 rfl rfl)
theorem dX1_goes_2_258 : decode cX1_goes_2 258 = .ok (.ireturn, 1) := dk_172 (dk_at dksX1_goes_2_11 9 rfl rfl)
abbrev cX1_gives : ByteArray := prog_32_method_19_code
def yX1_gives : MethodName := ⟨RX1, "gives", "(LHamletWells$Site;)I"⟩
def dkwX1_gives_3 : List UInt8 := [42, 25, 5, 21, 6, 43, 25, 5, 182, 0, 166, 182, 0, 220, 167, 255, 187, 29, 172]
abbrev dktX1_gives_3 : List UInt8 := dkwX1_gives_3 ++ []
def dkwX1_gives_2 : List UInt8 := [54, 6, 28, 21, 6, 100, 61, 29, 21, 6, 96, 62, 25, 5, 89, 180, 0, 217, 21, 6, 96, 181, 0, 217]
abbrev dktX1_gives_2 : List UInt8 := dkwX1_gives_2 ++ dktX1_gives_3
def dkwX1_gives_1 : List UInt8 := [153, 0, 65, 25, 4, 185, 0, 40, 1, 0, 192, 0, 44, 58, 5, 28, 25, 5, 180, 0, 163, 184, 0, 207]
abbrev dktX1_gives_1 : List UInt8 := dkwX1_gives_1 ++ dktX1_gives_2
def dkwX1_gives_0 : List UInt8 := [43, 182, 0, 204, 61, 3, 62, 42, 43, 182, 0, 108, 182, 0, 216, 58, 4, 25, 4, 185, 0, 34, 1, 0]
abbrev dktX1_gives_0 : List UInt8 := dkwX1_gives_0 ++ dktX1_gives_1
theorem dksX1_gives_0 : cX1_gives.data.toList.drop 0 = dktX1_gives_0 := by decide +kernel
theorem dksX1_gives_1 : cX1_gives.data.toList.drop 24 = dktX1_gives_1 := dk_seg dksX1_gives_0 24 rfl rfl
theorem dksX1_gives_2 : cX1_gives.data.toList.drop 48 = dktX1_gives_2 := dk_seg dksX1_gives_1 24 rfl rfl
theorem dksX1_gives_3 : cX1_gives.data.toList.drop 72 = dktX1_gives_3 := dk_seg dksX1_gives_2 24 rfl rfl
theorem dX1_gives_0 : decode cX1_gives 0 = .ok (.aload_n 1, 1) := dk_43 (dk_at dksX1_gives_0 0 rfl rfl)
theorem dX1_gives_1 : decode cX1_gives 1 = .ok (.invokevirtual 204, 3) := dk_182 0 204 (dk_at dksX1_gives_0 1 rfl rfl)
theorem dX1_gives_4 : decode cX1_gives 4 = .ok (.istore_n 2, 1) := dk_61 (dk_at dksX1_gives_0 4 rfl rfl)
theorem dX1_gives_5 : decode cX1_gives 5 = .ok (.iconst 0, 1) := dk_3 (dk_at dksX1_gives_0 5 rfl rfl)
theorem dX1_gives_6 : decode cX1_gives 6 = .ok (.istore_n 3, 1) := dk_62 (dk_at dksX1_gives_0 6 rfl rfl)
theorem dX1_gives_7 : decode cX1_gives 7 = .ok (.aload_n 0, 1) := dk_42 (dk_at dksX1_gives_0 7 rfl rfl)
theorem dX1_gives_8 : decode cX1_gives 8 = .ok (.aload_n 1, 1) := dk_43 (dk_at dksX1_gives_0 8 rfl rfl)
theorem dX1_gives_9 : decode cX1_gives 9 = .ok (.invokevirtual 108, 3) := dk_182 0 108 (dk_at dksX1_gives_0 9 rfl rfl)
theorem dX1_gives_12 : decode cX1_gives 12 = .ok (.invokevirtual 216, 3) := dk_182 0 216 (dk_at dksX1_gives_0 12 rfl rfl)
theorem dX1_gives_15 : decode cX1_gives 15 = .ok (.astore 4, 2) := dk_58 4 (dk_at dksX1_gives_0 15 rfl rfl)
theorem dX1_gives_17 : decode cX1_gives 17 = .ok (.aload 4, 2) := dk_25 4 (dk_at dksX1_gives_0 17 rfl rfl)
theorem dX1_gives_19 : decode cX1_gives 19 = .ok (.invokeinterface 34 1, 5) := by decide +kernel
theorem dX1_gives_24 : decode cX1_gives 24 = .ok (.ifCond .eq 65, 3) := dk_153 0 65 (dk_at dksX1_gives_1 0 rfl rfl)
theorem dX1_gives_27 : decode cX1_gives 27 = .ok (.aload 4, 2) := dk_25 4 (dk_at dksX1_gives_1 3 rfl rfl)
theorem dX1_gives_29 : decode cX1_gives 29 = .ok (.invokeinterface 40 1, 5) := by decide +kernel
theorem dX1_gives_34 : decode cX1_gives 34 = .ok (.checkcast 44, 3) := dk_192 0 44 (dk_at dksX1_gives_1 10 rfl rfl)
theorem dX1_gives_37 : decode cX1_gives 37 = .ok (.astore 5, 2) := dk_58 5 (dk_at dksX1_gives_1 13 rfl rfl)
theorem dX1_gives_39 : decode cX1_gives 39 = .ok (.iload_n 2, 1) := dk_28 (dk_at dksX1_gives_1 15 rfl rfl)
theorem dX1_gives_40 : decode cX1_gives 40 = .ok (.aload 5, 2) := dk_25 5 (dk_at dksX1_gives_1 16 rfl rfl)
theorem dX1_gives_42 : decode cX1_gives 42 = .ok (.getfield 163, 3) := dk_180 0 163 (dk_at dksX1_gives_1 18 rfl rfl)
theorem dX1_gives_45 : decode cX1_gives 45 = .ok (.invokestatic 207, 3) := dk_184 0 207 (dk_at dksX1_gives_1 21 rfl rfl)
theorem dX1_gives_48 : decode cX1_gives 48 = .ok (.istore 6, 2) := dk_54 6 (dk_at dksX1_gives_2 0 rfl rfl)
theorem dX1_gives_50 : decode cX1_gives 50 = .ok (.iload_n 2, 1) := dk_28 (dk_at dksX1_gives_2 2 rfl rfl)
theorem dX1_gives_51 : decode cX1_gives 51 = .ok (.iload 6, 2) := dk_21 6 (dk_at dksX1_gives_2 3 rfl rfl)
theorem dX1_gives_53 : decode cX1_gives 53 = .ok (.isub, 1) := dk_100 (dk_at dksX1_gives_2 5 rfl rfl)
theorem dX1_gives_54 : decode cX1_gives 54 = .ok (.istore_n 2, 1) := dk_61 (dk_at dksX1_gives_2 6 rfl rfl)
theorem dX1_gives_55 : decode cX1_gives 55 = .ok (.iload_n 3, 1) := dk_29 (dk_at dksX1_gives_2 7 rfl rfl)
theorem dX1_gives_56 : decode cX1_gives 56 = .ok (.iload 6, 2) := dk_21 6 (dk_at dksX1_gives_2 8 rfl rfl)
theorem dX1_gives_58 : decode cX1_gives 58 = .ok (.iadd, 1) := dk_96 (dk_at dksX1_gives_2 10 rfl rfl)
theorem dX1_gives_59 : decode cX1_gives 59 = .ok (.istore_n 3, 1) := dk_62 (dk_at dksX1_gives_2 11 rfl rfl)
theorem dX1_gives_60 : decode cX1_gives 60 = .ok (.aload 5, 2) := dk_25 5 (dk_at dksX1_gives_2 12 rfl rfl)
theorem dX1_gives_62 : decode cX1_gives 62 = .ok (.dup, 1) := dk_89 (dk_at dksX1_gives_2 14 rfl rfl)
theorem dX1_gives_63 : decode cX1_gives 63 = .ok (.getfield 217, 3) := dk_180 0 217 (dk_at dksX1_gives_2 15 rfl rfl)
theorem dX1_gives_66 : decode cX1_gives 66 = .ok (.iload 6, 2) := dk_21 6 (dk_at dksX1_gives_2 18 rfl rfl)
theorem dX1_gives_68 : decode cX1_gives 68 = .ok (.iadd, 1) := dk_96 (dk_at dksX1_gives_2 20 rfl rfl)
theorem dX1_gives_69 : decode cX1_gives 69 = .ok (.putfield 217, 3) := dk_181 0 217 (dk_at dksX1_gives_2 21 rfl rfl)
theorem dX1_gives_72 : decode cX1_gives 72 = .ok (.aload_n 0, 1) := dk_42 (dk_at dksX1_gives_3 0 rfl rfl)
theorem dX1_gives_73 : decode cX1_gives 73 = .ok (.aload 5, 2) := dk_25 5 (dk_at dksX1_gives_3 1 rfl rfl)
theorem dX1_gives_75 : decode cX1_gives 75 = .ok (.iload 6, 2) := dk_21 6 (dk_at dksX1_gives_3 3 rfl rfl)
theorem dX1_gives_77 : decode cX1_gives 77 = .ok (.aload_n 1, 1) := dk_43 (dk_at dksX1_gives_3 5 rfl rfl)
theorem dX1_gives_78 : decode cX1_gives 78 = .ok (.aload 5, 2) := dk_25 5 (dk_at dksX1_gives_3 6 rfl rfl)
theorem dX1_gives_80 : decode cX1_gives 80 = .ok (.invokevirtual 166, 3) := dk_182 0 166 (dk_at dksX1_gives_3 8 rfl rfl)
theorem dX1_gives_83 : decode cX1_gives 83 = .ok (.invokevirtual 220, 3) := dk_182 0 220 (dk_at dksX1_gives_3 11 rfl rfl)
theorem dX1_gives_86 : decode cX1_gives 86 = .ok (.goto (-69), 3) := dk_167 255 187 (dk_at dksX1_gives_3 14 rfl rfl)
theorem dX1_gives_89 : decode cX1_gives 89 = .ok (.iload_n 3, 1) := dk_29 (dk_at dksX1_gives_3 17 rfl rfl)
theorem dX1_gives_90 : decode cX1_gives 90 = .ok (.ireturn, 1) := dk_172 (dk_at dksX1_gives_3 18 rfl rfl)
abbrev cX1_drinkers : ByteArray := prog_32_method_5_code
def yX1_drinkers : MethodName := ⟨RX1, "drinkers", "(LHamletWells$Site;)Ljava/util/LinkedList;"⟩
def dkwX1_drinkers_2 : List UInt8 := [44, 25, 4, 182, 0, 104, 167, 255, 220, 44, 176]
abbrev dktX1_drinkers_2 : List UInt8 := dkwX1_drinkers_2 ++ []
def dkwX1_drinkers_1 : List UInt8 := [153, 0, 33, 45, 185, 0, 40, 1, 0, 192, 0, 44, 58, 4, 42, 25, 4, 182, 0, 100, 43, 166, 0, 9]
abbrev dktX1_drinkers_1 : List UInt8 := dkwX1_drinkers_1 ++ dktX1_drinkers_2
def dkwX1_drinkers_0 : List UInt8 := [187, 0, 97, 89, 183, 0, 99, 77, 42, 180, 0, 14, 182, 0, 30, 78, 45, 185, 0, 34, 1, 0]
abbrev dktX1_drinkers_0 : List UInt8 := dkwX1_drinkers_0 ++ dktX1_drinkers_1
theorem dksX1_drinkers_0 : cX1_drinkers.data.toList.drop 0 = dktX1_drinkers_0 := by decide +kernel
theorem dksX1_drinkers_1 : cX1_drinkers.data.toList.drop 22 = dktX1_drinkers_1 := dk_seg dksX1_drinkers_0 22 rfl rfl
theorem dksX1_drinkers_2 : cX1_drinkers.data.toList.drop 46 = dktX1_drinkers_2 := dk_seg dksX1_drinkers_1 24 rfl rfl
theorem dX1_drinkers_0 : decode cX1_drinkers 0 = .ok (.new 97, 3) := dk_187 0 97 (dk_at dksX1_drinkers_0 0 rfl rfl)
theorem dX1_drinkers_3 : decode cX1_drinkers 3 = .ok (.dup, 1) := dk_89 (dk_at dksX1_drinkers_0 3 rfl rfl)
theorem dX1_drinkers_4 : decode cX1_drinkers 4 = .ok (.invokespecial 99, 3) := dk_183 0 99 (dk_at dksX1_drinkers_0 4 rfl rfl)
theorem dX1_drinkers_7 : decode cX1_drinkers 7 = .ok (.astore_n 2, 1) := dk_77 (dk_at dksX1_drinkers_0 7 rfl rfl)
theorem dX1_drinkers_8 : decode cX1_drinkers 8 = .ok (.aload_n 0, 1) := dk_42 (dk_at dksX1_drinkers_0 8 rfl rfl)
theorem dX1_drinkers_9 : decode cX1_drinkers 9 = .ok (.getfield 14, 3) := dk_180 0 14 (dk_at dksX1_drinkers_0 9 rfl rfl)
theorem dX1_drinkers_12 : decode cX1_drinkers 12 = .ok (.invokevirtual 30, 3) := dk_182 0 30 (dk_at dksX1_drinkers_0 12 rfl rfl)
theorem dX1_drinkers_15 : decode cX1_drinkers 15 = .ok (.astore_n 3, 1) := dk_78 (dk_at dksX1_drinkers_0 15 rfl rfl)
theorem dX1_drinkers_16 : decode cX1_drinkers 16 = .ok (.aload_n 3, 1) := dk_45 (dk_at dksX1_drinkers_0 16 rfl rfl)
theorem dX1_drinkers_17 : decode cX1_drinkers 17 = .ok (.invokeinterface 34 1, 5) := by decide +kernel
theorem dX1_drinkers_22 : decode cX1_drinkers 22 = .ok (.ifCond .eq 33, 3) := dk_153 0 33 (dk_at dksX1_drinkers_1 0 rfl rfl)
theorem dX1_drinkers_25 : decode cX1_drinkers 25 = .ok (.aload_n 3, 1) := dk_45 (dk_at dksX1_drinkers_1 3 rfl rfl)
theorem dX1_drinkers_26 : decode cX1_drinkers 26 = .ok (.invokeinterface 40 1, 5) := by decide +kernel
theorem dX1_drinkers_31 : decode cX1_drinkers 31 = .ok (.checkcast 44, 3) := dk_192 0 44 (dk_at dksX1_drinkers_1 9 rfl rfl)
theorem dX1_drinkers_34 : decode cX1_drinkers 34 = .ok (.astore 4, 2) := dk_58 4 (dk_at dksX1_drinkers_1 12 rfl rfl)
theorem dX1_drinkers_36 : decode cX1_drinkers 36 = .ok (.aload_n 0, 1) := dk_42 (dk_at dksX1_drinkers_1 14 rfl rfl)
theorem dX1_drinkers_37 : decode cX1_drinkers 37 = .ok (.aload 4, 2) := dk_25 4 (dk_at dksX1_drinkers_1 15 rfl rfl)
theorem dX1_drinkers_39 : decode cX1_drinkers 39 = .ok (.invokevirtual 100, 3) := dk_182 0 100 (dk_at dksX1_drinkers_1 17 rfl rfl)
theorem dX1_drinkers_42 : decode cX1_drinkers 42 = .ok (.aload_n 1, 1) := dk_43 (dk_at dksX1_drinkers_1 20 rfl rfl)
theorem dX1_drinkers_43 : decode cX1_drinkers 43 = .ok (.if_acmp .ne 9, 3) := dk_166 0 9 (dk_at dksX1_drinkers_1 21 rfl rfl)
theorem dX1_drinkers_46 : decode cX1_drinkers 46 = .ok (.aload_n 2, 1) := dk_44 (dk_at dksX1_drinkers_2 0 rfl rfl)
theorem dX1_drinkers_47 : decode cX1_drinkers 47 = .ok (.aload 4, 2) := dk_25 4 (dk_at dksX1_drinkers_2 1 rfl rfl)
theorem dX1_drinkers_49 : decode cX1_drinkers 49 = .ok (.invokevirtual 104, 3) := dk_182 0 104 (dk_at dksX1_drinkers_2 3 rfl rfl)
theorem dX1_drinkers_52 : decode cX1_drinkers 52 = .ok (.goto (-36), 3) := dk_167 255 220 (dk_at dksX1_drinkers_2 6 rfl rfl)
theorem dX1_drinkers_55 : decode cX1_drinkers 55 = .ok (.aload_n 2, 1) := dk_44 (dk_at dksX1_drinkers_2 9 rfl rfl)
theorem dX1_drinkers_56 : decode cX1_drinkers 56 = .ok (.areturn, 1) := dk_176 (dk_at dksX1_drinkers_2 10 rfl rfl)
abbrev cX1_well : ByteArray := prog_32_method_4_code
def yX1_well : MethodName := ⟨RX1, "well", "(LHamletWells$Hamlet;)LHamletWells$Site;"⟩
def dkwX1_well_0 : List UInt8 := [42, 43, 187, 0, 88, 89, 42, 183, 0, 90, 182, 0, 93, 176]
abbrev dktX1_well_0 : List UInt8 := dkwX1_well_0 ++ []
theorem dksX1_well_0 : cX1_well.data.toList.drop 0 = dktX1_well_0 := by decide +kernel
theorem dX1_well_0 : decode cX1_well 0 = .ok (.aload_n 0, 1) := dk_42 (dk_at dksX1_well_0 0 rfl rfl)
theorem dX1_well_1 : decode cX1_well 1 = .ok (.aload_n 1, 1) := dk_43 (dk_at dksX1_well_0 1 rfl rfl)
theorem dX1_well_2 : decode cX1_well 2 = .ok (.new 88, 3) := dk_187 0 88 (dk_at dksX1_well_0 2 rfl rfl)
theorem dX1_well_5 : decode cX1_well 5 = .ok (.dup, 1) := dk_89 (dk_at dksX1_well_0 5 rfl rfl)
theorem dX1_well_6 : decode cX1_well 6 = .ok (.aload_n 0, 1) := dk_42 (dk_at dksX1_well_0 6 rfl rfl)
theorem dX1_well_7 : decode cX1_well 7 = .ok (.invokespecial 90, 3) := dk_183 0 90 (dk_at dksX1_well_0 7 rfl rfl)
theorem dX1_well_10 : decode cX1_well 10 = .ok (.invokevirtual 93, 3) := dk_182 0 93 (dk_at dksX1_well_0 10 rfl rfl)
theorem dX1_well_13 : decode cX1_well 13 = .ok (.areturn, 1) := dk_176 (dk_at dksX1_well_0 13 rfl rfl)
abbrev cX1_nearest : ByteArray := prog_32_method_3_code
def yX1_nearest : MethodName := ⟨RX1, "nearest", "(LHamletWells$Hamlet;LHamletWells$Asked;)LHamletWells$Site;"⟩
def dkwX1_nearest_0 : List UInt8 := [42, 180, 0, 20, 44, 187, 0, 79, 89, 42, 43, 183, 0, 81, 184, 0, 84, 192, 0, 53, 176]
abbrev dktX1_nearest_0 : List UInt8 := dkwX1_nearest_0 ++ []
theorem dksX1_nearest_0 : cX1_nearest.data.toList.drop 0 = dktX1_nearest_0 := by decide +kernel
theorem dX1_nearest_0 : decode cX1_nearest 0 = .ok (.aload_n 0, 1) := dk_42 (dk_at dksX1_nearest_0 0 rfl rfl)
theorem dX1_nearest_1 : decode cX1_nearest 1 = .ok (.getfield 20, 3) := dk_180 0 20 (dk_at dksX1_nearest_0 1 rfl rfl)
theorem dX1_nearest_4 : decode cX1_nearest 4 = .ok (.aload_n 2, 1) := dk_44 (dk_at dksX1_nearest_0 4 rfl rfl)
theorem dX1_nearest_5 : decode cX1_nearest 5 = .ok (.new 79, 3) := dk_187 0 79 (dk_at dksX1_nearest_0 5 rfl rfl)
theorem dX1_nearest_8 : decode cX1_nearest 8 = .ok (.dup, 1) := dk_89 (dk_at dksX1_nearest_0 8 rfl rfl)
theorem dX1_nearest_9 : decode cX1_nearest 9 = .ok (.aload_n 0, 1) := dk_42 (dk_at dksX1_nearest_0 9 rfl rfl)
theorem dX1_nearest_10 : decode cX1_nearest 10 = .ok (.aload_n 1, 1) := dk_43 (dk_at dksX1_nearest_0 10 rfl rfl)
theorem dX1_nearest_11 : decode cX1_nearest 11 = .ok (.invokespecial 81, 3) := dk_183 0 81 (dk_at dksX1_nearest_0 11 rfl rfl)
theorem dX1_nearest_14 : decode cX1_nearest 14 = .ok (.invokestatic 84, 3) := dk_184 0 84 (dk_at dksX1_nearest_0 14 rfl rfl)
theorem dX1_nearest_17 : decode cX1_nearest 17 = .ok (.checkcast 53, 3) := dk_192 0 53 (dk_at dksX1_nearest_0 17 rfl rfl)
theorem dX1_nearest_20 : decode cX1_nearest 20 = .ok (.areturn, 1) := dk_176 (dk_at dksX1_nearest_0 20 rfl rfl)
abbrev cX1_pays : ByteArray := prog_32_method_18_code
def yX1_pays : MethodName := ⟨RX1, "pays", "(LHamletWells$Hamlet;II)V"⟩
def dkwX1_pays_4 : List UInt8 := [180, 0, 76, 21, 5, 21, 6, 100, 96, 181, 0, 76, 177]
abbrev dktX1_pays_4 : List UInt8 := dkwX1_pays_4 ++ []
def dkwX1_pays_3 : List UInt8 := [89, 180, 0, 23, 21, 6, 96, 181, 0, 23, 42, 89, 180, 0, 73, 21, 5, 96, 181, 0, 73, 42, 89]
abbrev dktX1_pays_3 : List UInt8 := dkwX1_pays_3 ++ dktX1_pays_4
def dkwX1_pays_2 : List UInt8 := [181, 0, 213, 28, 7, 108, 54, 5, 21, 5, 17, 3, 231, 42, 180, 0, 23, 100, 184, 0, 207, 54, 6, 42]
abbrev dktX1_pays_2 : List UInt8 := dkwX1_pays_2 ++ dktX1_pays_3
def dkwX1_pays_1 : List UInt8 := [181, 0, 23, 42, 89, 180, 0, 70, 21, 4, 96, 181, 0, 70, 43, 89, 180, 0, 213, 21, 4, 96]
abbrev dktX1_pays_1 : List UInt8 := dkwX1_pays_1 ++ dktX1_pays_2
def dkwX1_pays_0 : List UInt8 := [42, 180, 0, 23, 28, 29, 104, 16, 10, 108, 184, 0, 207, 54, 4, 42, 89, 180, 0, 23, 21, 4, 100]
abbrev dktX1_pays_0 : List UInt8 := dkwX1_pays_0 ++ dktX1_pays_1
theorem dksX1_pays_0 : cX1_pays.data.toList.drop 0 = dktX1_pays_0 := by decide +kernel
theorem dksX1_pays_1 : cX1_pays.data.toList.drop 23 = dktX1_pays_1 := dk_seg dksX1_pays_0 23 rfl rfl
theorem dksX1_pays_2 : cX1_pays.data.toList.drop 45 = dktX1_pays_2 := dk_seg dksX1_pays_1 22 rfl rfl
theorem dksX1_pays_3 : cX1_pays.data.toList.drop 69 = dktX1_pays_3 := dk_seg dksX1_pays_2 24 rfl rfl
theorem dksX1_pays_4 : cX1_pays.data.toList.drop 92 = dktX1_pays_4 := dk_seg dksX1_pays_3 23 rfl rfl
theorem dX1_pays_0 : decode cX1_pays 0 = .ok (.aload_n 0, 1) := dk_42 (dk_at dksX1_pays_0 0 rfl rfl)
theorem dX1_pays_1 : decode cX1_pays 1 = .ok (.getfield 23, 3) := dk_180 0 23 (dk_at dksX1_pays_0 1 rfl rfl)
theorem dX1_pays_4 : decode cX1_pays 4 = .ok (.iload_n 2, 1) := dk_28 (dk_at dksX1_pays_0 4 rfl rfl)
theorem dX1_pays_5 : decode cX1_pays 5 = .ok (.iload_n 3, 1) := dk_29 (dk_at dksX1_pays_0 5 rfl rfl)
theorem dX1_pays_6 : decode cX1_pays 6 = .ok (.imul, 1) := dk_104 (dk_at dksX1_pays_0 6 rfl rfl)
theorem dX1_pays_7 : decode cX1_pays 7 = .ok (.bipush 10, 2) := dk_16 10 (dk_at dksX1_pays_0 7 rfl rfl)
theorem dX1_pays_9 : decode cX1_pays 9 = .ok (.idiv, 1) := dk_108 (dk_at dksX1_pays_0 9 rfl rfl)
theorem dX1_pays_10 : decode cX1_pays 10 = .ok (.invokestatic 207, 3) := dk_184 0 207 (dk_at dksX1_pays_0 10 rfl rfl)
theorem dX1_pays_13 : decode cX1_pays 13 = .ok (.istore 4, 2) := dk_54 4 (dk_at dksX1_pays_0 13 rfl rfl)
theorem dX1_pays_15 : decode cX1_pays 15 = .ok (.aload_n 0, 1) := dk_42 (dk_at dksX1_pays_0 15 rfl rfl)
theorem dX1_pays_16 : decode cX1_pays 16 = .ok (.dup, 1) := dk_89 (dk_at dksX1_pays_0 16 rfl rfl)
theorem dX1_pays_17 : decode cX1_pays 17 = .ok (.getfield 23, 3) := dk_180 0 23 (dk_at dksX1_pays_0 17 rfl rfl)
theorem dX1_pays_20 : decode cX1_pays 20 = .ok (.iload 4, 2) := dk_21 4 (dk_at dksX1_pays_0 20 rfl rfl)
theorem dX1_pays_22 : decode cX1_pays 22 = .ok (.isub, 1) := dk_100 (dk_at dksX1_pays_0 22 rfl rfl)
theorem dX1_pays_23 : decode cX1_pays 23 = .ok (.putfield 23, 3) := dk_181 0 23 (dk_at dksX1_pays_1 0 rfl rfl)
theorem dX1_pays_26 : decode cX1_pays 26 = .ok (.aload_n 0, 1) := dk_42 (dk_at dksX1_pays_1 3 rfl rfl)
theorem dX1_pays_27 : decode cX1_pays 27 = .ok (.dup, 1) := dk_89 (dk_at dksX1_pays_1 4 rfl rfl)
theorem dX1_pays_28 : decode cX1_pays 28 = .ok (.getfield 70, 3) := dk_180 0 70 (dk_at dksX1_pays_1 5 rfl rfl)
theorem dX1_pays_31 : decode cX1_pays 31 = .ok (.iload 4, 2) := dk_21 4 (dk_at dksX1_pays_1 8 rfl rfl)
theorem dX1_pays_33 : decode cX1_pays 33 = .ok (.iadd, 1) := dk_96 (dk_at dksX1_pays_1 10 rfl rfl)
theorem dX1_pays_34 : decode cX1_pays 34 = .ok (.putfield 70, 3) := dk_181 0 70 (dk_at dksX1_pays_1 11 rfl rfl)
theorem dX1_pays_37 : decode cX1_pays 37 = .ok (.aload_n 1, 1) := dk_43 (dk_at dksX1_pays_1 14 rfl rfl)
theorem dX1_pays_38 : decode cX1_pays 38 = .ok (.dup, 1) := dk_89 (dk_at dksX1_pays_1 15 rfl rfl)
theorem dX1_pays_39 : decode cX1_pays 39 = .ok (.getfield 213, 3) := dk_180 0 213 (dk_at dksX1_pays_1 16 rfl rfl)
theorem dX1_pays_42 : decode cX1_pays 42 = .ok (.iload 4, 2) := dk_21 4 (dk_at dksX1_pays_1 19 rfl rfl)
theorem dX1_pays_44 : decode cX1_pays 44 = .ok (.iadd, 1) := dk_96 (dk_at dksX1_pays_1 21 rfl rfl)
theorem dX1_pays_45 : decode cX1_pays 45 = .ok (.putfield 213, 3) := dk_181 0 213 (dk_at dksX1_pays_2 0 rfl rfl)
theorem dX1_pays_48 : decode cX1_pays 48 = .ok (.iload_n 2, 1) := dk_28 (dk_at dksX1_pays_2 3 rfl rfl)
theorem dX1_pays_49 : decode cX1_pays 49 = .ok (.iconst 4, 1) := dk_7 (dk_at dksX1_pays_2 4 rfl rfl)
theorem dX1_pays_50 : decode cX1_pays 50 = .ok (.idiv, 1) := dk_108 (dk_at dksX1_pays_2 5 rfl rfl)
theorem dX1_pays_51 : decode cX1_pays 51 = .ok (.istore 5, 2) := dk_54 5 (dk_at dksX1_pays_2 6 rfl rfl)
theorem dX1_pays_53 : decode cX1_pays 53 = .ok (.iload 5, 2) := dk_21 5 (dk_at dksX1_pays_2 8 rfl rfl)
theorem dX1_pays_55 : decode cX1_pays 55 = .ok (.sipush 999, 3) := dk_17 3 231 (dk_at dksX1_pays_2 10 rfl rfl)
theorem dX1_pays_58 : decode cX1_pays 58 = .ok (.aload_n 0, 1) := dk_42 (dk_at dksX1_pays_2 13 rfl rfl)
theorem dX1_pays_59 : decode cX1_pays 59 = .ok (.getfield 23, 3) := dk_180 0 23 (dk_at dksX1_pays_2 14 rfl rfl)
theorem dX1_pays_62 : decode cX1_pays 62 = .ok (.isub, 1) := dk_100 (dk_at dksX1_pays_2 17 rfl rfl)
theorem dX1_pays_63 : decode cX1_pays 63 = .ok (.invokestatic 207, 3) := dk_184 0 207 (dk_at dksX1_pays_2 18 rfl rfl)
theorem dX1_pays_66 : decode cX1_pays 66 = .ok (.istore 6, 2) := dk_54 6 (dk_at dksX1_pays_2 21 rfl rfl)
theorem dX1_pays_68 : decode cX1_pays 68 = .ok (.aload_n 0, 1) := dk_42 (dk_at dksX1_pays_2 23 rfl rfl)
theorem dX1_pays_69 : decode cX1_pays 69 = .ok (.dup, 1) := dk_89 (dk_at dksX1_pays_3 0 rfl rfl)
theorem dX1_pays_70 : decode cX1_pays 70 = .ok (.getfield 23, 3) := dk_180 0 23 (dk_at dksX1_pays_3 1 rfl rfl)
theorem dX1_pays_73 : decode cX1_pays 73 = .ok (.iload 6, 2) := dk_21 6 (dk_at dksX1_pays_3 4 rfl rfl)
theorem dX1_pays_75 : decode cX1_pays 75 = .ok (.iadd, 1) := dk_96 (dk_at dksX1_pays_3 6 rfl rfl)
theorem dX1_pays_76 : decode cX1_pays 76 = .ok (.putfield 23, 3) := dk_181 0 23 (dk_at dksX1_pays_3 7 rfl rfl)
theorem dX1_pays_79 : decode cX1_pays 79 = .ok (.aload_n 0, 1) := dk_42 (dk_at dksX1_pays_3 10 rfl rfl)
theorem dX1_pays_80 : decode cX1_pays 80 = .ok (.dup, 1) := dk_89 (dk_at dksX1_pays_3 11 rfl rfl)
theorem dX1_pays_81 : decode cX1_pays 81 = .ok (.getfield 73, 3) := dk_180 0 73 (dk_at dksX1_pays_3 12 rfl rfl)
theorem dX1_pays_84 : decode cX1_pays 84 = .ok (.iload 5, 2) := dk_21 5 (dk_at dksX1_pays_3 15 rfl rfl)
theorem dX1_pays_86 : decode cX1_pays 86 = .ok (.iadd, 1) := dk_96 (dk_at dksX1_pays_3 17 rfl rfl)
theorem dX1_pays_87 : decode cX1_pays 87 = .ok (.putfield 73, 3) := dk_181 0 73 (dk_at dksX1_pays_3 18 rfl rfl)
theorem dX1_pays_90 : decode cX1_pays 90 = .ok (.aload_n 0, 1) := dk_42 (dk_at dksX1_pays_3 21 rfl rfl)
theorem dX1_pays_91 : decode cX1_pays 91 = .ok (.dup, 1) := dk_89 (dk_at dksX1_pays_3 22 rfl rfl)
theorem dX1_pays_92 : decode cX1_pays 92 = .ok (.getfield 76, 3) := dk_180 0 76 (dk_at dksX1_pays_4 0 rfl rfl)
theorem dX1_pays_95 : decode cX1_pays 95 = .ok (.iload 5, 2) := dk_21 5 (dk_at dksX1_pays_4 3 rfl rfl)
theorem dX1_pays_97 : decode cX1_pays 97 = .ok (.iload 6, 2) := dk_21 6 (dk_at dksX1_pays_4 5 rfl rfl)
theorem dX1_pays_99 : decode cX1_pays 99 = .ok (.isub, 1) := dk_100 (dk_at dksX1_pays_4 7 rfl rfl)
theorem dX1_pays_100 : decode cX1_pays 100 = .ok (.iadd, 1) := dk_96 (dk_at dksX1_pays_4 8 rfl rfl)
theorem dX1_pays_101 : decode cX1_pays 101 = .ok (.putfield 76, 3) := dk_181 0 76 (dk_at dksX1_pays_4 9 rfl rfl)
theorem dX1_pays_104 : decode cX1_pays 104 = .ok (.return_, 1) := dk_177 (dk_at dksX1_pays_4 12 rfl rfl)
abbrev cX1_opens : ByteArray := prog_32_method_12_code
def yX1_opens : MethodName := ⟨RX1, "opens", "(I)I"⟩
def dkwX1_opens_4 : List UInt8 := [181, 0, 133, 42, 44, 182, 0, 108, 182, 0, 180, 172]
abbrev dktX1_opens_4 : List UInt8 := dkwX1_opens_4 ++ []
def dkwX1_opens_3 : List UInt8 := [182, 0, 155, 100, 181, 0, 23, 42, 89, 180, 0, 64, 44, 182, 0, 155, 96, 181, 0, 64, 44, 4]
abbrev dktX1_opens_3 : List UInt8 := dkwX1_opens_3 ++ dktX1_opens_4
def dkwX1_opens_2 : List UInt8 := [167, 0, 4, 3, 8, 44, 182, 0, 155, 42, 180, 0, 23, 100, 184, 0, 183, 42, 89, 180, 0, 23, 44]
abbrev dktX1_opens_2 : List UInt8 := dkwX1_opens_2 ++ dktX1_opens_3
def dkwX1_opens_1 : List UInt8 := [6, 42, 44, 182, 0, 108, 182, 0, 180, 184, 0, 183, 42, 180, 0, 23, 44, 182, 0, 155, 161, 0, 7, 4]
abbrev dktX1_opens_1 : List UInt8 := dkwX1_opens_1 ++ dktX1_opens_2
def dkwX1_opens_0 : List UInt8 := [42, 180, 0, 20, 27, 182, 0, 151, 192, 0, 53, 77, 44, 180, 0, 133, 154, 0, 7, 4, 167, 0, 4, 3]
abbrev dktX1_opens_0 : List UInt8 := dkwX1_opens_0 ++ dktX1_opens_1
theorem dksX1_opens_0 : cX1_opens.data.toList.drop 0 = dktX1_opens_0 := by decide +kernel
theorem dksX1_opens_1 : cX1_opens.data.toList.drop 24 = dktX1_opens_1 := dk_seg dksX1_opens_0 24 rfl rfl
theorem dksX1_opens_2 : cX1_opens.data.toList.drop 48 = dktX1_opens_2 := dk_seg dksX1_opens_1 24 rfl rfl
theorem dksX1_opens_3 : cX1_opens.data.toList.drop 71 = dktX1_opens_3 := dk_seg dksX1_opens_2 23 rfl rfl
theorem dksX1_opens_4 : cX1_opens.data.toList.drop 93 = dktX1_opens_4 := dk_seg dksX1_opens_3 22 rfl rfl
theorem dX1_opens_0 : decode cX1_opens 0 = .ok (.aload_n 0, 1) := dk_42 (dk_at dksX1_opens_0 0 rfl rfl)
theorem dX1_opens_1 : decode cX1_opens 1 = .ok (.getfield 20, 3) := dk_180 0 20 (dk_at dksX1_opens_0 1 rfl rfl)
theorem dX1_opens_4 : decode cX1_opens 4 = .ok (.iload_n 1, 1) := dk_27 (dk_at dksX1_opens_0 4 rfl rfl)
theorem dX1_opens_5 : decode cX1_opens 5 = .ok (.invokevirtual 151, 3) := dk_182 0 151 (dk_at dksX1_opens_0 5 rfl rfl)
theorem dX1_opens_8 : decode cX1_opens 8 = .ok (.checkcast 53, 3) := dk_192 0 53 (dk_at dksX1_opens_0 8 rfl rfl)
theorem dX1_opens_11 : decode cX1_opens 11 = .ok (.astore_n 2, 1) := dk_77 (dk_at dksX1_opens_0 11 rfl rfl)
theorem dX1_opens_12 : decode cX1_opens 12 = .ok (.aload_n 2, 1) := dk_44 (dk_at dksX1_opens_0 12 rfl rfl)
theorem dX1_opens_13 : decode cX1_opens 13 = .ok (.getfield 133, 3) := dk_180 0 133 (dk_at dksX1_opens_0 13 rfl rfl)
theorem dX1_opens_16 : decode cX1_opens 16 = .ok (.ifCond .ne 7, 3) := dk_154 0 7 (dk_at dksX1_opens_0 16 rfl rfl)
theorem dX1_opens_19 : decode cX1_opens 19 = .ok (.iconst 1, 1) := dk_4 (dk_at dksX1_opens_0 19 rfl rfl)
theorem dX1_opens_20 : decode cX1_opens 20 = .ok (.goto 4, 3) := dk_167 0 4 (dk_at dksX1_opens_0 20 rfl rfl)
theorem dX1_opens_23 : decode cX1_opens 23 = .ok (.iconst 0, 1) := dk_3 (dk_at dksX1_opens_0 23 rfl rfl)
theorem dX1_opens_24 : decode cX1_opens 24 = .ok (.iconst 3, 1) := dk_6 (dk_at dksX1_opens_1 0 rfl rfl)
theorem dX1_opens_25 : decode cX1_opens 25 = .ok (.aload_n 0, 1) := dk_42 (dk_at dksX1_opens_1 1 rfl rfl)
theorem dX1_opens_26 : decode cX1_opens 26 = .ok (.aload_n 2, 1) := dk_44 (dk_at dksX1_opens_1 2 rfl rfl)
theorem dX1_opens_27 : decode cX1_opens 27 = .ok (.invokevirtual 108, 3) := dk_182 0 108 (dk_at dksX1_opens_1 3 rfl rfl)
theorem dX1_opens_30 : decode cX1_opens 30 = .ok (.invokevirtual 180, 3) := dk_182 0 180 (dk_at dksX1_opens_1 6 rfl rfl)
theorem dX1_opens_33 : decode cX1_opens 33 = .ok (.invokestatic 183, 3) := dk_184 0 183 (dk_at dksX1_opens_1 9 rfl rfl)
theorem dX1_opens_36 : decode cX1_opens 36 = .ok (.aload_n 0, 1) := dk_42 (dk_at dksX1_opens_1 12 rfl rfl)
theorem dX1_opens_37 : decode cX1_opens 37 = .ok (.getfield 23, 3) := dk_180 0 23 (dk_at dksX1_opens_1 13 rfl rfl)
theorem dX1_opens_40 : decode cX1_opens 40 = .ok (.aload_n 2, 1) := dk_44 (dk_at dksX1_opens_1 16 rfl rfl)
theorem dX1_opens_41 : decode cX1_opens 41 = .ok (.invokevirtual 155, 3) := dk_182 0 155 (dk_at dksX1_opens_1 17 rfl rfl)
theorem dX1_opens_44 : decode cX1_opens 44 = .ok (.if_icmp .lt 7, 3) := dk_161 0 7 (dk_at dksX1_opens_1 20 rfl rfl)
theorem dX1_opens_47 : decode cX1_opens 47 = .ok (.iconst 1, 1) := dk_4 (dk_at dksX1_opens_1 23 rfl rfl)
theorem dX1_opens_48 : decode cX1_opens 48 = .ok (.goto 4, 3) := dk_167 0 4 (dk_at dksX1_opens_2 0 rfl rfl)
theorem dX1_opens_51 : decode cX1_opens 51 = .ok (.iconst 0, 1) := dk_3 (dk_at dksX1_opens_2 3 rfl rfl)
theorem dX1_opens_52 : decode cX1_opens 52 = .ok (.iconst 5, 1) := dk_8 (dk_at dksX1_opens_2 4 rfl rfl)
theorem dX1_opens_53 : decode cX1_opens 53 = .ok (.aload_n 2, 1) := dk_44 (dk_at dksX1_opens_2 5 rfl rfl)
theorem dX1_opens_54 : decode cX1_opens 54 = .ok (.invokevirtual 155, 3) := dk_182 0 155 (dk_at dksX1_opens_2 6 rfl rfl)
theorem dX1_opens_57 : decode cX1_opens 57 = .ok (.aload_n 0, 1) := dk_42 (dk_at dksX1_opens_2 9 rfl rfl)
theorem dX1_opens_58 : decode cX1_opens 58 = .ok (.getfield 23, 3) := dk_180 0 23 (dk_at dksX1_opens_2 10 rfl rfl)
theorem dX1_opens_61 : decode cX1_opens 61 = .ok (.isub, 1) := dk_100 (dk_at dksX1_opens_2 13 rfl rfl)
theorem dX1_opens_62 : decode cX1_opens 62 = .ok (.invokestatic 183, 3) := dk_184 0 183 (dk_at dksX1_opens_2 14 rfl rfl)
theorem dX1_opens_65 : decode cX1_opens 65 = .ok (.aload_n 0, 1) := dk_42 (dk_at dksX1_opens_2 17 rfl rfl)
theorem dX1_opens_66 : decode cX1_opens 66 = .ok (.dup, 1) := dk_89 (dk_at dksX1_opens_2 18 rfl rfl)
theorem dX1_opens_67 : decode cX1_opens 67 = .ok (.getfield 23, 3) := dk_180 0 23 (dk_at dksX1_opens_2 19 rfl rfl)
theorem dX1_opens_70 : decode cX1_opens 70 = .ok (.aload_n 2, 1) := dk_44 (dk_at dksX1_opens_2 22 rfl rfl)
theorem dX1_opens_71 : decode cX1_opens 71 = .ok (.invokevirtual 155, 3) := dk_182 0 155 (dk_at dksX1_opens_3 0 rfl rfl)
theorem dX1_opens_74 : decode cX1_opens 74 = .ok (.isub, 1) := dk_100 (dk_at dksX1_opens_3 3 rfl rfl)
theorem dX1_opens_75 : decode cX1_opens 75 = .ok (.putfield 23, 3) := dk_181 0 23 (dk_at dksX1_opens_3 4 rfl rfl)
theorem dX1_opens_78 : decode cX1_opens 78 = .ok (.aload_n 0, 1) := dk_42 (dk_at dksX1_opens_3 7 rfl rfl)
theorem dX1_opens_79 : decode cX1_opens 79 = .ok (.dup, 1) := dk_89 (dk_at dksX1_opens_3 8 rfl rfl)
theorem dX1_opens_80 : decode cX1_opens 80 = .ok (.getfield 64, 3) := dk_180 0 64 (dk_at dksX1_opens_3 9 rfl rfl)
theorem dX1_opens_83 : decode cX1_opens 83 = .ok (.aload_n 2, 1) := dk_44 (dk_at dksX1_opens_3 12 rfl rfl)
theorem dX1_opens_84 : decode cX1_opens 84 = .ok (.invokevirtual 155, 3) := dk_182 0 155 (dk_at dksX1_opens_3 13 rfl rfl)
theorem dX1_opens_87 : decode cX1_opens 87 = .ok (.iadd, 1) := dk_96 (dk_at dksX1_opens_3 16 rfl rfl)
theorem dX1_opens_88 : decode cX1_opens 88 = .ok (.putfield 64, 3) := dk_181 0 64 (dk_at dksX1_opens_3 17 rfl rfl)
theorem dX1_opens_91 : decode cX1_opens 91 = .ok (.aload_n 2, 1) := dk_44 (dk_at dksX1_opens_3 20 rfl rfl)
theorem dX1_opens_92 : decode cX1_opens 92 = .ok (.iconst 1, 1) := dk_4 (dk_at dksX1_opens_3 21 rfl rfl)
theorem dX1_opens_93 : decode cX1_opens 93 = .ok (.putfield 133, 3) := dk_181 0 133 (dk_at dksX1_opens_4 0 rfl rfl)
theorem dX1_opens_96 : decode cX1_opens 96 = .ok (.aload_n 0, 1) := dk_42 (dk_at dksX1_opens_4 3 rfl rfl)
theorem dX1_opens_97 : decode cX1_opens 97 = .ok (.aload_n 2, 1) := dk_44 (dk_at dksX1_opens_4 4 rfl rfl)
theorem dX1_opens_98 : decode cX1_opens 98 = .ok (.invokevirtual 108, 3) := dk_182 0 108 (dk_at dksX1_opens_4 5 rfl rfl)
theorem dX1_opens_101 : decode cX1_opens 101 = .ok (.invokevirtual 180, 3) := dk_182 0 180 (dk_at dksX1_opens_4 8 rfl rfl)
theorem dX1_opens_104 : decode cX1_opens 104 = .ok (.ireturn, 1) := dk_172 (dk_at dksX1_opens_4 11 rfl rfl)
abbrev cX1_shuts : ByteArray := prog_32_method_14_code
def yX1_shuts : MethodName := ⟨RX1, "shuts", "(I)I"⟩
def dkwX1_shuts_1 : List UInt8 := [181, 0, 194, 44, 3, 181, 0, 133, 42, 182, 0, 201, 172]
abbrev dktX1_shuts_1 : List UInt8 := dkwX1_shuts_1 ++ []
def dkwX1_shuts_0 : List UInt8 := [42, 27, 182, 0, 190, 77, 42, 89, 180, 0, 27, 44, 180, 0, 194, 184, 0, 197, 96, 181, 0, 27, 44, 3]
abbrev dktX1_shuts_0 : List UInt8 := dkwX1_shuts_0 ++ dktX1_shuts_1
theorem dksX1_shuts_0 : cX1_shuts.data.toList.drop 0 = dktX1_shuts_0 := by decide +kernel
theorem dksX1_shuts_1 : cX1_shuts.data.toList.drop 24 = dktX1_shuts_1 := dk_seg dksX1_shuts_0 24 rfl rfl
theorem dX1_shuts_0 : decode cX1_shuts 0 = .ok (.aload_n 0, 1) := dk_42 (dk_at dksX1_shuts_0 0 rfl rfl)
theorem dX1_shuts_1 : decode cX1_shuts 1 = .ok (.iload_n 1, 1) := dk_27 (dk_at dksX1_shuts_0 1 rfl rfl)
theorem dX1_shuts_2 : decode cX1_shuts 2 = .ok (.invokevirtual 190, 3) := dk_182 0 190 (dk_at dksX1_shuts_0 2 rfl rfl)
theorem dX1_shuts_5 : decode cX1_shuts 5 = .ok (.astore_n 2, 1) := dk_77 (dk_at dksX1_shuts_0 5 rfl rfl)
theorem dX1_shuts_6 : decode cX1_shuts 6 = .ok (.aload_n 0, 1) := dk_42 (dk_at dksX1_shuts_0 6 rfl rfl)
theorem dX1_shuts_7 : decode cX1_shuts 7 = .ok (.dup, 1) := dk_89 (dk_at dksX1_shuts_0 7 rfl rfl)
theorem dX1_shuts_8 : decode cX1_shuts 8 = .ok (.getfield 27, 3) := dk_180 0 27 (dk_at dksX1_shuts_0 8 rfl rfl)
theorem dX1_shuts_11 : decode cX1_shuts 11 = .ok (.aload_n 2, 1) := dk_44 (dk_at dksX1_shuts_0 11 rfl rfl)
theorem dX1_shuts_12 : decode cX1_shuts 12 = .ok (.getfield 194, 3) := dk_180 0 194 (dk_at dksX1_shuts_0 12 rfl rfl)
theorem dX1_shuts_15 : decode cX1_shuts 15 = .ok (.invokestatic 197, 3) := dk_184 0 197 (dk_at dksX1_shuts_0 15 rfl rfl)
theorem dX1_shuts_18 : decode cX1_shuts 18 = .ok (.iadd, 1) := dk_96 (dk_at dksX1_shuts_0 18 rfl rfl)
theorem dX1_shuts_19 : decode cX1_shuts 19 = .ok (.putfield 27, 3) := dk_181 0 27 (dk_at dksX1_shuts_0 19 rfl rfl)
theorem dX1_shuts_22 : decode cX1_shuts 22 = .ok (.aload_n 2, 1) := dk_44 (dk_at dksX1_shuts_0 22 rfl rfl)
theorem dX1_shuts_23 : decode cX1_shuts 23 = .ok (.iconst 0, 1) := dk_3 (dk_at dksX1_shuts_0 23 rfl rfl)
theorem dX1_shuts_24 : decode cX1_shuts 24 = .ok (.putfield 194, 3) := dk_181 0 194 (dk_at dksX1_shuts_1 0 rfl rfl)
theorem dX1_shuts_27 : decode cX1_shuts 27 = .ok (.aload_n 2, 1) := dk_44 (dk_at dksX1_shuts_1 3 rfl rfl)
theorem dX1_shuts_28 : decode cX1_shuts 28 = .ok (.iconst 0, 1) := dk_3 (dk_at dksX1_shuts_1 4 rfl rfl)
theorem dX1_shuts_29 : decode cX1_shuts 29 = .ok (.putfield 133, 3) := dk_181 0 133 (dk_at dksX1_shuts_1 5 rfl rfl)
theorem dX1_shuts_32 : decode cX1_shuts 32 = .ok (.aload_n 0, 1) := dk_42 (dk_at dksX1_shuts_1 8 rfl rfl)
theorem dX1_shuts_33 : decode cX1_shuts 33 = .ok (.invokevirtual 201, 3) := dk_182 0 201 (dk_at dksX1_shuts_1 9 rfl rfl)
theorem dX1_shuts_36 : decode cX1_shuts 36 = .ok (.ireturn, 1) := dk_172 (dk_at dksX1_shuts_1 12 rfl rfl)
abbrev cX1_openMany : ByteArray := prog_32_method_7_code
def yX1_openMany : MethodName := ⟨RX1, "openMany", "()I"⟩
def dkwX1_openMany_0 : List UInt8 := [42, 182, 0, 119, 182, 0, 123, 172]
abbrev dktX1_openMany_0 : List UInt8 := dkwX1_openMany_0 ++ []
theorem dksX1_openMany_0 : cX1_openMany.data.toList.drop 0 = dktX1_openMany_0 := by decide +kernel
theorem dX1_openMany_0 : decode cX1_openMany 0 = .ok (.aload_n 0, 1) := dk_42 (dk_at dksX1_openMany_0 0 rfl rfl)
theorem dX1_openMany_1 : decode cX1_openMany 1 = .ok (.invokevirtual 119, 3) := dk_182 0 119 (dk_at dksX1_openMany_0 1 rfl rfl)
theorem dX1_openMany_4 : decode cX1_openMany 4 = .ok (.invokevirtual 123, 3) := dk_182 0 123 (dk_at dksX1_openMany_0 4 rfl rfl)
theorem dX1_openMany_7 : decode cX1_openMany 7 = .ok (.ireturn, 1) := dk_172 (dk_at dksX1_openMany_0 7 rfl rfl)
abbrev cX1_open : ByteArray := prog_32_method_8_code
def yX1_open : MethodName := ⟨RX1, "open", "()Ljava/util/BitSet;"⟩
def dkwX1_open_2 : List UInt8 := [182, 0, 137, 167, 255, 225, 43, 176]
abbrev dktX1_open_2 : List UInt8 := dkwX1_open_2 ++ []
def dkwX1_open_1 : List UInt8 := [153, 0, 28, 44, 185, 0, 40, 1, 0, 192, 0, 53, 78, 43, 45, 180, 0, 130, 45, 180, 0, 133]
abbrev dktX1_open_1 : List UInt8 := dkwX1_open_1 ++ dktX1_open_2
def dkwX1_open_0 : List UInt8 := [187, 0, 124, 89, 183, 0, 129, 76, 42, 180, 0, 20, 182, 0, 30, 77, 44, 185, 0, 34, 1, 0]
abbrev dktX1_open_0 : List UInt8 := dkwX1_open_0 ++ dktX1_open_1
theorem dksX1_open_0 : cX1_open.data.toList.drop 0 = dktX1_open_0 := by decide +kernel
theorem dksX1_open_1 : cX1_open.data.toList.drop 22 = dktX1_open_1 := dk_seg dksX1_open_0 22 rfl rfl
theorem dksX1_open_2 : cX1_open.data.toList.drop 44 = dktX1_open_2 := dk_seg dksX1_open_1 22 rfl rfl
theorem dX1_open_0 : decode cX1_open 0 = .ok (.new 124, 3) := dk_187 0 124 (dk_at dksX1_open_0 0 rfl rfl)
theorem dX1_open_3 : decode cX1_open 3 = .ok (.dup, 1) := dk_89 (dk_at dksX1_open_0 3 rfl rfl)
theorem dX1_open_4 : decode cX1_open 4 = .ok (.invokespecial 129, 3) := dk_183 0 129 (dk_at dksX1_open_0 4 rfl rfl)
theorem dX1_open_7 : decode cX1_open 7 = .ok (.astore_n 1, 1) := dk_76 (dk_at dksX1_open_0 7 rfl rfl)
theorem dX1_open_8 : decode cX1_open 8 = .ok (.aload_n 0, 1) := dk_42 (dk_at dksX1_open_0 8 rfl rfl)
theorem dX1_open_9 : decode cX1_open 9 = .ok (.getfield 20, 3) := dk_180 0 20 (dk_at dksX1_open_0 9 rfl rfl)
theorem dX1_open_12 : decode cX1_open 12 = .ok (.invokevirtual 30, 3) := dk_182 0 30 (dk_at dksX1_open_0 12 rfl rfl)
theorem dX1_open_15 : decode cX1_open 15 = .ok (.astore_n 2, 1) := dk_77 (dk_at dksX1_open_0 15 rfl rfl)
theorem dX1_open_16 : decode cX1_open 16 = .ok (.aload_n 2, 1) := dk_44 (dk_at dksX1_open_0 16 rfl rfl)
theorem dX1_open_17 : decode cX1_open 17 = .ok (.invokeinterface 34 1, 5) := by decide +kernel
theorem dX1_open_22 : decode cX1_open 22 = .ok (.ifCond .eq 28, 3) := dk_153 0 28 (dk_at dksX1_open_1 0 rfl rfl)
theorem dX1_open_25 : decode cX1_open 25 = .ok (.aload_n 2, 1) := dk_44 (dk_at dksX1_open_1 3 rfl rfl)
theorem dX1_open_26 : decode cX1_open 26 = .ok (.invokeinterface 40 1, 5) := by decide +kernel
theorem dX1_open_31 : decode cX1_open 31 = .ok (.checkcast 53, 3) := dk_192 0 53 (dk_at dksX1_open_1 9 rfl rfl)
theorem dX1_open_34 : decode cX1_open 34 = .ok (.astore_n 3, 1) := dk_78 (dk_at dksX1_open_1 12 rfl rfl)
theorem dX1_open_35 : decode cX1_open 35 = .ok (.aload_n 1, 1) := dk_43 (dk_at dksX1_open_1 13 rfl rfl)
theorem dX1_open_36 : decode cX1_open 36 = .ok (.aload_n 3, 1) := dk_45 (dk_at dksX1_open_1 14 rfl rfl)
theorem dX1_open_37 : decode cX1_open 37 = .ok (.getfield 130, 3) := dk_180 0 130 (dk_at dksX1_open_1 15 rfl rfl)
theorem dX1_open_40 : decode cX1_open 40 = .ok (.aload_n 3, 1) := dk_45 (dk_at dksX1_open_1 18 rfl rfl)
theorem dX1_open_41 : decode cX1_open 41 = .ok (.getfield 133, 3) := dk_180 0 133 (dk_at dksX1_open_1 19 rfl rfl)
theorem dX1_open_44 : decode cX1_open 44 = .ok (.invokevirtual 137, 3) := dk_182 0 137 (dk_at dksX1_open_2 0 rfl rfl)
theorem dX1_open_47 : decode cX1_open 47 = .ok (.goto (-31), 3) := dk_167 255 225 (dk_at dksX1_open_2 3 rfl rfl)
theorem dX1_open_50 : decode cX1_open 50 = .ok (.aload_n 1, 1) := dk_43 (dk_at dksX1_open_2 6 rfl rfl)
theorem dX1_open_51 : decode cX1_open 51 = .ok (.areturn, 1) := dk_176 (dk_at dksX1_open_2 7 rfl rfl)
abbrev cX1_pumps : ByteArray := prog_32_method_15_code
def yX1_pumps : MethodName := ⟨RX1, "pumps", "(I)I"⟩
def dkwX1_pumps_2 : List UInt8 := [184, 0, 183, 44, 4, 181, 0, 194, 42, 89, 180, 0, 27, 4, 100, 181, 0, 27, 44, 182, 0, 204, 172]
abbrev dktX1_pumps_2 : List UInt8 := dkwX1_pumps_2 ++ []
def dkwX1_pumps_1 : List UInt8 := [184, 0, 183, 42, 180, 0, 27, 158, 0, 7, 4, 167, 0, 4, 3, 16, 8, 6, 42, 180, 0, 27, 100]
abbrev dktX1_pumps_1 : List UInt8 := dkwX1_pumps_1 ++ dktX1_pumps_2
def dkwX1_pumps_0 : List UInt8 := [42, 27, 182, 0, 190, 77, 44, 180, 0, 194, 154, 0, 7, 4, 167, 0, 4, 3, 16, 6, 42, 180, 0, 27]
abbrev dktX1_pumps_0 : List UInt8 := dkwX1_pumps_0 ++ dktX1_pumps_1
theorem dksX1_pumps_0 : cX1_pumps.data.toList.drop 0 = dktX1_pumps_0 := by decide +kernel
theorem dksX1_pumps_1 : cX1_pumps.data.toList.drop 24 = dktX1_pumps_1 := dk_seg dksX1_pumps_0 24 rfl rfl
theorem dksX1_pumps_2 : cX1_pumps.data.toList.drop 47 = dktX1_pumps_2 := dk_seg dksX1_pumps_1 23 rfl rfl
theorem dX1_pumps_0 : decode cX1_pumps 0 = .ok (.aload_n 0, 1) := dk_42 (dk_at dksX1_pumps_0 0 rfl rfl)
theorem dX1_pumps_1 : decode cX1_pumps 1 = .ok (.iload_n 1, 1) := dk_27 (dk_at dksX1_pumps_0 1 rfl rfl)
theorem dX1_pumps_2 : decode cX1_pumps 2 = .ok (.invokevirtual 190, 3) := dk_182 0 190 (dk_at dksX1_pumps_0 2 rfl rfl)
theorem dX1_pumps_5 : decode cX1_pumps 5 = .ok (.astore_n 2, 1) := dk_77 (dk_at dksX1_pumps_0 5 rfl rfl)
theorem dX1_pumps_6 : decode cX1_pumps 6 = .ok (.aload_n 2, 1) := dk_44 (dk_at dksX1_pumps_0 6 rfl rfl)
theorem dX1_pumps_7 : decode cX1_pumps 7 = .ok (.getfield 194, 3) := dk_180 0 194 (dk_at dksX1_pumps_0 7 rfl rfl)
theorem dX1_pumps_10 : decode cX1_pumps 10 = .ok (.ifCond .ne 7, 3) := dk_154 0 7 (dk_at dksX1_pumps_0 10 rfl rfl)
theorem dX1_pumps_13 : decode cX1_pumps 13 = .ok (.iconst 1, 1) := dk_4 (dk_at dksX1_pumps_0 13 rfl rfl)
theorem dX1_pumps_14 : decode cX1_pumps 14 = .ok (.goto 4, 3) := dk_167 0 4 (dk_at dksX1_pumps_0 14 rfl rfl)
theorem dX1_pumps_17 : decode cX1_pumps 17 = .ok (.iconst 0, 1) := dk_3 (dk_at dksX1_pumps_0 17 rfl rfl)
theorem dX1_pumps_18 : decode cX1_pumps 18 = .ok (.bipush 6, 2) := dk_16 6 (dk_at dksX1_pumps_0 18 rfl rfl)
theorem dX1_pumps_20 : decode cX1_pumps 20 = .ok (.aload_n 0, 1) := dk_42 (dk_at dksX1_pumps_0 20 rfl rfl)
theorem dX1_pumps_21 : decode cX1_pumps 21 = .ok (.getfield 27, 3) := dk_180 0 27 (dk_at dksX1_pumps_0 21 rfl rfl)
theorem dX1_pumps_24 : decode cX1_pumps 24 = .ok (.invokestatic 183, 3) := dk_184 0 183 (dk_at dksX1_pumps_1 0 rfl rfl)
theorem dX1_pumps_27 : decode cX1_pumps 27 = .ok (.aload_n 0, 1) := dk_42 (dk_at dksX1_pumps_1 3 rfl rfl)
theorem dX1_pumps_28 : decode cX1_pumps 28 = .ok (.getfield 27, 3) := dk_180 0 27 (dk_at dksX1_pumps_1 4 rfl rfl)
theorem dX1_pumps_31 : decode cX1_pumps 31 = .ok (.ifCond .le 7, 3) := dk_158 0 7 (dk_at dksX1_pumps_1 7 rfl rfl)
theorem dX1_pumps_34 : decode cX1_pumps 34 = .ok (.iconst 1, 1) := dk_4 (dk_at dksX1_pumps_1 10 rfl rfl)
theorem dX1_pumps_35 : decode cX1_pumps 35 = .ok (.goto 4, 3) := dk_167 0 4 (dk_at dksX1_pumps_1 11 rfl rfl)
theorem dX1_pumps_38 : decode cX1_pumps 38 = .ok (.iconst 0, 1) := dk_3 (dk_at dksX1_pumps_1 14 rfl rfl)
theorem dX1_pumps_39 : decode cX1_pumps 39 = .ok (.bipush 8, 2) := dk_16 8 (dk_at dksX1_pumps_1 15 rfl rfl)
theorem dX1_pumps_41 : decode cX1_pumps 41 = .ok (.iconst 3, 1) := dk_6 (dk_at dksX1_pumps_1 17 rfl rfl)
theorem dX1_pumps_42 : decode cX1_pumps 42 = .ok (.aload_n 0, 1) := dk_42 (dk_at dksX1_pumps_1 18 rfl rfl)
theorem dX1_pumps_43 : decode cX1_pumps 43 = .ok (.getfield 27, 3) := dk_180 0 27 (dk_at dksX1_pumps_1 19 rfl rfl)
theorem dX1_pumps_46 : decode cX1_pumps 46 = .ok (.isub, 1) := dk_100 (dk_at dksX1_pumps_1 22 rfl rfl)
theorem dX1_pumps_47 : decode cX1_pumps 47 = .ok (.invokestatic 183, 3) := dk_184 0 183 (dk_at dksX1_pumps_2 0 rfl rfl)
theorem dX1_pumps_50 : decode cX1_pumps 50 = .ok (.aload_n 2, 1) := dk_44 (dk_at dksX1_pumps_2 3 rfl rfl)
theorem dX1_pumps_51 : decode cX1_pumps 51 = .ok (.iconst 1, 1) := dk_4 (dk_at dksX1_pumps_2 4 rfl rfl)
theorem dX1_pumps_52 : decode cX1_pumps 52 = .ok (.putfield 194, 3) := dk_181 0 194 (dk_at dksX1_pumps_2 5 rfl rfl)
theorem dX1_pumps_55 : decode cX1_pumps 55 = .ok (.aload_n 0, 1) := dk_42 (dk_at dksX1_pumps_2 8 rfl rfl)
theorem dX1_pumps_56 : decode cX1_pumps 56 = .ok (.dup, 1) := dk_89 (dk_at dksX1_pumps_2 9 rfl rfl)
theorem dX1_pumps_57 : decode cX1_pumps 57 = .ok (.getfield 27, 3) := dk_180 0 27 (dk_at dksX1_pumps_2 10 rfl rfl)
theorem dX1_pumps_60 : decode cX1_pumps 60 = .ok (.iconst 1, 1) := dk_4 (dk_at dksX1_pumps_2 13 rfl rfl)
theorem dX1_pumps_61 : decode cX1_pumps 61 = .ok (.isub, 1) := dk_100 (dk_at dksX1_pumps_2 14 rfl rfl)
theorem dX1_pumps_62 : decode cX1_pumps 62 = .ok (.putfield 27, 3) := dk_181 0 27 (dk_at dksX1_pumps_2 15 rfl rfl)
theorem dX1_pumps_65 : decode cX1_pumps 65 = .ok (.aload_n 2, 1) := dk_44 (dk_at dksX1_pumps_2 18 rfl rfl)
theorem dX1_pumps_66 : decode cX1_pumps 66 = .ok (.invokevirtual 204, 3) := dk_182 0 204 (dk_at dksX1_pumps_2 19 rfl rfl)
theorem dX1_pumps_69 : decode cX1_pumps 69 = .ok (.ireturn, 1) := dk_172 (dk_at dksX1_pumps_2 22 rfl rfl)
abbrev cX1_unpumps : ByteArray := prog_32_method_16_code
def yX1_unpumps : MethodName := ⟨RX1, "unpumps", "(I)I"⟩
def dkwX1_unpumps_1 : List UInt8 := [180, 0, 27, 4, 96, 181, 0, 27, 42, 180, 0, 27, 172]
abbrev dktX1_unpumps_1 : List UInt8 := dkwX1_unpumps_1 ++ []
def dkwX1_unpumps_0 : List UInt8 := [42, 27, 182, 0, 190, 77, 44, 180, 0, 194, 16, 7, 27, 184, 0, 183, 44, 3, 181, 0, 194, 42, 89]
abbrev dktX1_unpumps_0 : List UInt8 := dkwX1_unpumps_0 ++ dktX1_unpumps_1
theorem dksX1_unpumps_0 : cX1_unpumps.data.toList.drop 0 = dktX1_unpumps_0 := by decide +kernel
theorem dksX1_unpumps_1 : cX1_unpumps.data.toList.drop 23 = dktX1_unpumps_1 := dk_seg dksX1_unpumps_0 23 rfl rfl
theorem dX1_unpumps_0 : decode cX1_unpumps 0 = .ok (.aload_n 0, 1) := dk_42 (dk_at dksX1_unpumps_0 0 rfl rfl)
theorem dX1_unpumps_1 : decode cX1_unpumps 1 = .ok (.iload_n 1, 1) := dk_27 (dk_at dksX1_unpumps_0 1 rfl rfl)
theorem dX1_unpumps_2 : decode cX1_unpumps 2 = .ok (.invokevirtual 190, 3) := dk_182 0 190 (dk_at dksX1_unpumps_0 2 rfl rfl)
theorem dX1_unpumps_5 : decode cX1_unpumps 5 = .ok (.astore_n 2, 1) := dk_77 (dk_at dksX1_unpumps_0 5 rfl rfl)
theorem dX1_unpumps_6 : decode cX1_unpumps 6 = .ok (.aload_n 2, 1) := dk_44 (dk_at dksX1_unpumps_0 6 rfl rfl)
theorem dX1_unpumps_7 : decode cX1_unpumps 7 = .ok (.getfield 194, 3) := dk_180 0 194 (dk_at dksX1_unpumps_0 7 rfl rfl)
theorem dX1_unpumps_10 : decode cX1_unpumps 10 = .ok (.bipush 7, 2) := dk_16 7 (dk_at dksX1_unpumps_0 10 rfl rfl)
theorem dX1_unpumps_12 : decode cX1_unpumps 12 = .ok (.iload_n 1, 1) := dk_27 (dk_at dksX1_unpumps_0 12 rfl rfl)
theorem dX1_unpumps_13 : decode cX1_unpumps 13 = .ok (.invokestatic 183, 3) := dk_184 0 183 (dk_at dksX1_unpumps_0 13 rfl rfl)
theorem dX1_unpumps_16 : decode cX1_unpumps 16 = .ok (.aload_n 2, 1) := dk_44 (dk_at dksX1_unpumps_0 16 rfl rfl)
theorem dX1_unpumps_17 : decode cX1_unpumps 17 = .ok (.iconst 0, 1) := dk_3 (dk_at dksX1_unpumps_0 17 rfl rfl)
theorem dX1_unpumps_18 : decode cX1_unpumps 18 = .ok (.putfield 194, 3) := dk_181 0 194 (dk_at dksX1_unpumps_0 18 rfl rfl)
theorem dX1_unpumps_21 : decode cX1_unpumps 21 = .ok (.aload_n 0, 1) := dk_42 (dk_at dksX1_unpumps_0 21 rfl rfl)
theorem dX1_unpumps_22 : decode cX1_unpumps 22 = .ok (.dup, 1) := dk_89 (dk_at dksX1_unpumps_0 22 rfl rfl)
theorem dX1_unpumps_23 : decode cX1_unpumps 23 = .ok (.getfield 27, 3) := dk_180 0 27 (dk_at dksX1_unpumps_1 0 rfl rfl)
theorem dX1_unpumps_26 : decode cX1_unpumps 26 = .ok (.iconst 1, 1) := dk_4 (dk_at dksX1_unpumps_1 3 rfl rfl)
theorem dX1_unpumps_27 : decode cX1_unpumps 27 = .ok (.iadd, 1) := dk_96 (dk_at dksX1_unpumps_1 4 rfl rfl)
theorem dX1_unpumps_28 : decode cX1_unpumps 28 = .ok (.putfield 27, 3) := dk_181 0 27 (dk_at dksX1_unpumps_1 5 rfl rfl)
theorem dX1_unpumps_31 : decode cX1_unpumps 31 = .ok (.aload_n 0, 1) := dk_42 (dk_at dksX1_unpumps_1 8 rfl rfl)
theorem dX1_unpumps_32 : decode cX1_unpumps 32 = .ok (.getfield 27, 3) := dk_180 0 27 (dk_at dksX1_unpumps_1 9 rfl rfl)
theorem dX1_unpumps_35 : decode cX1_unpumps 35 = .ok (.ireturn, 1) := dk_172 (dk_at dksX1_unpumps_1 12 rfl rfl)
abbrev cX1_asked : ByteArray := prog_32_method_6_code
def yX1_asked : MethodName := ⟨RX1, "asked", "(LHamletWells$Site;)I"⟩
def dkwX1_asked_0 : List UInt8 := [42, 43, 182, 0, 108, 187, 0, 112, 89, 42, 183, 0, 114, 184, 0, 115, 172]
abbrev dktX1_asked_0 : List UInt8 := dkwX1_asked_0 ++ []
theorem dksX1_asked_0 : cX1_asked.data.toList.drop 0 = dktX1_asked_0 := by decide +kernel
theorem dX1_asked_0 : decode cX1_asked 0 = .ok (.aload_n 0, 1) := dk_42 (dk_at dksX1_asked_0 0 rfl rfl)
theorem dX1_asked_1 : decode cX1_asked 1 = .ok (.aload_n 1, 1) := dk_43 (dk_at dksX1_asked_0 1 rfl rfl)
theorem dX1_asked_2 : decode cX1_asked 2 = .ok (.invokevirtual 108, 3) := dk_182 0 108 (dk_at dksX1_asked_0 2 rfl rfl)
theorem dX1_asked_5 : decode cX1_asked 5 = .ok (.new 112, 3) := dk_187 0 112 (dk_at dksX1_asked_0 5 rfl rfl)
theorem dX1_asked_8 : decode cX1_asked 8 = .ok (.dup, 1) := dk_89 (dk_at dksX1_asked_0 8 rfl rfl)
theorem dX1_asked_9 : decode cX1_asked 9 = .ok (.aload_n 0, 1) := dk_42 (dk_at dksX1_asked_0 9 rfl rfl)
theorem dX1_asked_10 : decode cX1_asked 10 = .ok (.invokespecial 114, 3) := dk_183 0 114 (dk_at dksX1_asked_0 10 rfl rfl)
theorem dX1_asked_13 : decode cX1_asked 13 = .ok (.invokestatic 115, 3) := dk_184 0 115 (dk_at dksX1_asked_0 13 rfl rfl)
theorem dX1_asked_16 : decode cX1_asked 16 = .ok (.ireturn, 1) := dk_172 (dk_at dksX1_asked_0 16 rfl rfl)
abbrev cX1_cost : ByteArray := prog_32_method_9_code
def yX1_cost : MethodName := ⟨RX1, "cost", "(Ljava/util/BitSet;)I"⟩
def dkwX1_cost_5 : List UInt8 := [182, 0, 93, 25, 5, 182, 0, 166, 104, 96, 61, 167, 255, 213, 28, 172]
abbrev dktX1_cost_5 : List UInt8 := dkwX1_cost_5 ++ []
def dkwX1_cost_4 : List UInt8 := [25, 4, 185, 0, 40, 1, 0, 192, 0, 44, 58, 5, 28, 25, 5, 180, 0, 163, 42, 25, 5, 45]
abbrev dktX1_cost_4 : List UInt8 := dkwX1_cost_4 ++ dktX1_cost_5
def dkwX1_cost_3 : List UInt8 := [183, 0, 160, 78, 42, 180, 0, 14, 182, 0, 30, 58, 4, 25, 4, 185, 0, 34, 1, 0, 153, 0, 39]
abbrev dktX1_cost_3 : List UInt8 := dkwX1_cost_3 ++ dktX1_cost_4
def dkwX1_cost_2 : List UInt8 := [182, 0, 155, 96, 61, 43, 29, 4, 96, 182, 0, 147, 62, 167, 255, 227, 187, 0, 158, 89, 42, 43]
abbrev dktX1_cost_2 : List UInt8 := dkwX1_cost_2 ++ dktX1_cost_3
def dkwX1_cost_1 : List UInt8 := [3, 61, 43, 3, 182, 0, 147, 62, 29, 155, 0, 31, 28, 42, 180, 0, 20, 29, 182, 0, 151, 192, 0, 53]
abbrev dktX1_cost_1 : List UInt8 := dkwX1_cost_1 ++ dktX1_cost_2
def dkwX1_cost_0 : List UInt8 := [43, 182, 0, 141, 153, 0, 20, 42, 180, 0, 14, 182, 0, 144, 154, 0, 7, 3, 167, 0, 5, 16, 250, 172]
abbrev dktX1_cost_0 : List UInt8 := dkwX1_cost_0 ++ dktX1_cost_1
theorem dksX1_cost_0 : cX1_cost.data.toList.drop 0 = dktX1_cost_0 := by decide +kernel
theorem dksX1_cost_1 : cX1_cost.data.toList.drop 24 = dktX1_cost_1 := dk_seg dksX1_cost_0 24 rfl rfl
theorem dksX1_cost_2 : cX1_cost.data.toList.drop 48 = dktX1_cost_2 := dk_seg dksX1_cost_1 24 rfl rfl
theorem dksX1_cost_3 : cX1_cost.data.toList.drop 70 = dktX1_cost_3 := dk_seg dksX1_cost_2 22 rfl rfl
theorem dksX1_cost_4 : cX1_cost.data.toList.drop 93 = dktX1_cost_4 := dk_seg dksX1_cost_3 23 rfl rfl
theorem dksX1_cost_5 : cX1_cost.data.toList.drop 115 = dktX1_cost_5 := dk_seg dksX1_cost_4 22 rfl rfl
theorem dX1_cost_0 : decode cX1_cost 0 = .ok (.aload_n 1, 1) := dk_43 (dk_at dksX1_cost_0 0 rfl rfl)
theorem dX1_cost_1 : decode cX1_cost 1 = .ok (.invokevirtual 141, 3) := dk_182 0 141 (dk_at dksX1_cost_0 1 rfl rfl)
theorem dX1_cost_4 : decode cX1_cost 4 = .ok (.ifCond .eq 20, 3) := dk_153 0 20 (dk_at dksX1_cost_0 4 rfl rfl)
theorem dX1_cost_7 : decode cX1_cost 7 = .ok (.aload_n 0, 1) := dk_42 (dk_at dksX1_cost_0 7 rfl rfl)
theorem dX1_cost_8 : decode cX1_cost 8 = .ok (.getfield 14, 3) := dk_180 0 14 (dk_at dksX1_cost_0 8 rfl rfl)
theorem dX1_cost_11 : decode cX1_cost 11 = .ok (.invokevirtual 144, 3) := dk_182 0 144 (dk_at dksX1_cost_0 11 rfl rfl)
theorem dX1_cost_14 : decode cX1_cost 14 = .ok (.ifCond .ne 7, 3) := dk_154 0 7 (dk_at dksX1_cost_0 14 rfl rfl)
theorem dX1_cost_17 : decode cX1_cost 17 = .ok (.iconst 0, 1) := dk_3 (dk_at dksX1_cost_0 17 rfl rfl)
theorem dX1_cost_18 : decode cX1_cost 18 = .ok (.goto 5, 3) := dk_167 0 5 (dk_at dksX1_cost_0 18 rfl rfl)
theorem dX1_cost_21 : decode cX1_cost 21 = .ok (.bipush (-6), 2) := dk_16 250 (dk_at dksX1_cost_0 21 rfl rfl)
theorem dX1_cost_23 : decode cX1_cost 23 = .ok (.ireturn, 1) := dk_172 (dk_at dksX1_cost_0 23 rfl rfl)
theorem dX1_cost_24 : decode cX1_cost 24 = .ok (.iconst 0, 1) := dk_3 (dk_at dksX1_cost_1 0 rfl rfl)
theorem dX1_cost_25 : decode cX1_cost 25 = .ok (.istore_n 2, 1) := dk_61 (dk_at dksX1_cost_1 1 rfl rfl)
theorem dX1_cost_26 : decode cX1_cost 26 = .ok (.aload_n 1, 1) := dk_43 (dk_at dksX1_cost_1 2 rfl rfl)
theorem dX1_cost_27 : decode cX1_cost 27 = .ok (.iconst 0, 1) := dk_3 (dk_at dksX1_cost_1 3 rfl rfl)
theorem dX1_cost_28 : decode cX1_cost 28 = .ok (.invokevirtual 147, 3) := dk_182 0 147 (dk_at dksX1_cost_1 4 rfl rfl)
theorem dX1_cost_31 : decode cX1_cost 31 = .ok (.istore_n 3, 1) := dk_62 (dk_at dksX1_cost_1 7 rfl rfl)
theorem dX1_cost_32 : decode cX1_cost 32 = .ok (.iload_n 3, 1) := dk_29 (dk_at dksX1_cost_1 8 rfl rfl)
theorem dX1_cost_33 : decode cX1_cost 33 = .ok (.ifCond .lt 31, 3) := dk_155 0 31 (dk_at dksX1_cost_1 9 rfl rfl)
theorem dX1_cost_36 : decode cX1_cost 36 = .ok (.iload_n 2, 1) := dk_28 (dk_at dksX1_cost_1 12 rfl rfl)
theorem dX1_cost_37 : decode cX1_cost 37 = .ok (.aload_n 0, 1) := dk_42 (dk_at dksX1_cost_1 13 rfl rfl)
theorem dX1_cost_38 : decode cX1_cost 38 = .ok (.getfield 20, 3) := dk_180 0 20 (dk_at dksX1_cost_1 14 rfl rfl)
theorem dX1_cost_41 : decode cX1_cost 41 = .ok (.iload_n 3, 1) := dk_29 (dk_at dksX1_cost_1 17 rfl rfl)
theorem dX1_cost_42 : decode cX1_cost 42 = .ok (.invokevirtual 151, 3) := dk_182 0 151 (dk_at dksX1_cost_1 18 rfl rfl)
theorem dX1_cost_45 : decode cX1_cost 45 = .ok (.checkcast 53, 3) := dk_192 0 53 (dk_at dksX1_cost_1 21 rfl rfl)
theorem dX1_cost_48 : decode cX1_cost 48 = .ok (.invokevirtual 155, 3) := dk_182 0 155 (dk_at dksX1_cost_2 0 rfl rfl)
theorem dX1_cost_51 : decode cX1_cost 51 = .ok (.iadd, 1) := dk_96 (dk_at dksX1_cost_2 3 rfl rfl)
theorem dX1_cost_52 : decode cX1_cost 52 = .ok (.istore_n 2, 1) := dk_61 (dk_at dksX1_cost_2 4 rfl rfl)
theorem dX1_cost_53 : decode cX1_cost 53 = .ok (.aload_n 1, 1) := dk_43 (dk_at dksX1_cost_2 5 rfl rfl)
theorem dX1_cost_54 : decode cX1_cost 54 = .ok (.iload_n 3, 1) := dk_29 (dk_at dksX1_cost_2 6 rfl rfl)
theorem dX1_cost_55 : decode cX1_cost 55 = .ok (.iconst 1, 1) := dk_4 (dk_at dksX1_cost_2 7 rfl rfl)
theorem dX1_cost_56 : decode cX1_cost 56 = .ok (.iadd, 1) := dk_96 (dk_at dksX1_cost_2 8 rfl rfl)
theorem dX1_cost_57 : decode cX1_cost 57 = .ok (.invokevirtual 147, 3) := dk_182 0 147 (dk_at dksX1_cost_2 9 rfl rfl)
theorem dX1_cost_60 : decode cX1_cost 60 = .ok (.istore_n 3, 1) := dk_62 (dk_at dksX1_cost_2 12 rfl rfl)
theorem dX1_cost_61 : decode cX1_cost 61 = .ok (.goto (-29), 3) := dk_167 255 227 (dk_at dksX1_cost_2 13 rfl rfl)
theorem dX1_cost_64 : decode cX1_cost 64 = .ok (.new 158, 3) := dk_187 0 158 (dk_at dksX1_cost_2 16 rfl rfl)
theorem dX1_cost_67 : decode cX1_cost 67 = .ok (.dup, 1) := dk_89 (dk_at dksX1_cost_2 19 rfl rfl)
theorem dX1_cost_68 : decode cX1_cost 68 = .ok (.aload_n 0, 1) := dk_42 (dk_at dksX1_cost_2 20 rfl rfl)
theorem dX1_cost_69 : decode cX1_cost 69 = .ok (.aload_n 1, 1) := dk_43 (dk_at dksX1_cost_2 21 rfl rfl)
theorem dX1_cost_70 : decode cX1_cost 70 = .ok (.invokespecial 160, 3) := dk_183 0 160 (dk_at dksX1_cost_3 0 rfl rfl)
theorem dX1_cost_73 : decode cX1_cost 73 = .ok (.astore_n 3, 1) := dk_78 (dk_at dksX1_cost_3 3 rfl rfl)
theorem dX1_cost_74 : decode cX1_cost 74 = .ok (.aload_n 0, 1) := dk_42 (dk_at dksX1_cost_3 4 rfl rfl)
theorem dX1_cost_75 : decode cX1_cost 75 = .ok (.getfield 14, 3) := dk_180 0 14 (dk_at dksX1_cost_3 5 rfl rfl)
theorem dX1_cost_78 : decode cX1_cost 78 = .ok (.invokevirtual 30, 3) := dk_182 0 30 (dk_at dksX1_cost_3 8 rfl rfl)
theorem dX1_cost_81 : decode cX1_cost 81 = .ok (.astore 4, 2) := dk_58 4 (dk_at dksX1_cost_3 11 rfl rfl)
theorem dX1_cost_83 : decode cX1_cost 83 = .ok (.aload 4, 2) := dk_25 4 (dk_at dksX1_cost_3 13 rfl rfl)
theorem dX1_cost_85 : decode cX1_cost 85 = .ok (.invokeinterface 34 1, 5) := by decide +kernel
theorem dX1_cost_90 : decode cX1_cost 90 = .ok (.ifCond .eq 39, 3) := dk_153 0 39 (dk_at dksX1_cost_3 20 rfl rfl)
theorem dX1_cost_93 : decode cX1_cost 93 = .ok (.aload 4, 2) := dk_25 4 (dk_at dksX1_cost_4 0 rfl rfl)
theorem dX1_cost_95 : decode cX1_cost 95 = .ok (.invokeinterface 40 1, 5) := by decide +kernel
theorem dX1_cost_100 : decode cX1_cost 100 = .ok (.checkcast 44, 3) := dk_192 0 44 (dk_at dksX1_cost_4 7 rfl rfl)
theorem dX1_cost_103 : decode cX1_cost 103 = .ok (.astore 5, 2) := dk_58 5 (dk_at dksX1_cost_4 10 rfl rfl)
theorem dX1_cost_105 : decode cX1_cost 105 = .ok (.iload_n 2, 1) := dk_28 (dk_at dksX1_cost_4 12 rfl rfl)
theorem dX1_cost_106 : decode cX1_cost 106 = .ok (.aload 5, 2) := dk_25 5 (dk_at dksX1_cost_4 13 rfl rfl)
theorem dX1_cost_108 : decode cX1_cost 108 = .ok (.getfield 163, 3) := dk_180 0 163 (dk_at dksX1_cost_4 15 rfl rfl)
theorem dX1_cost_111 : decode cX1_cost 111 = .ok (.aload_n 0, 1) := dk_42 (dk_at dksX1_cost_4 18 rfl rfl)
theorem dX1_cost_112 : decode cX1_cost 112 = .ok (.aload 5, 2) := dk_25 5 (dk_at dksX1_cost_4 19 rfl rfl)
theorem dX1_cost_114 : decode cX1_cost 114 = .ok (.aload_n 3, 1) := dk_45 (dk_at dksX1_cost_4 21 rfl rfl)
theorem dX1_cost_115 : decode cX1_cost 115 = .ok (.invokevirtual 93, 3) := dk_182 0 93 (dk_at dksX1_cost_5 0 rfl rfl)
theorem dX1_cost_118 : decode cX1_cost 118 = .ok (.aload 5, 2) := dk_25 5 (dk_at dksX1_cost_5 3 rfl rfl)
theorem dX1_cost_120 : decode cX1_cost 120 = .ok (.invokevirtual 166, 3) := dk_182 0 166 (dk_at dksX1_cost_5 5 rfl rfl)
theorem dX1_cost_123 : decode cX1_cost 123 = .ok (.imul, 1) := dk_104 (dk_at dksX1_cost_5 8 rfl rfl)
theorem dX1_cost_124 : decode cX1_cost 124 = .ok (.iadd, 1) := dk_96 (dk_at dksX1_cost_5 9 rfl rfl)
theorem dX1_cost_125 : decode cX1_cost 125 = .ok (.istore_n 2, 1) := dk_61 (dk_at dksX1_cost_5 10 rfl rfl)
theorem dX1_cost_126 : decode cX1_cost 126 = .ok (.goto (-43), 3) := dk_167 255 213 (dk_at dksX1_cost_5 11 rfl rfl)
theorem dX1_cost_129 : decode cX1_cost 129 = .ok (.iload_n 2, 1) := dk_28 (dk_at dksX1_cost_5 14 rfl rfl)
theorem dX1_cost_130 : decode cX1_cost 130 = .ok (.ireturn, 1) := dk_172 (dk_at dksX1_cost_5 15 rfl rfl)
theorem q111 : (Jvm.Cond.initialized "HamletWells$Province") ∈ lw_all := lw_g (lw_at lw_m1 2 rfl) rfl
theorem q199 : (Jvm.Cond.instantiable "HamletWells$Province" (11 : Nat)) ∈ lw_all := lw_g (lw_at lw_m1 90 rfl) rfl
theorem q201 : (Jvm.Cond.instanceMethod ({ cls := "HamletWells$Province", name := "<init>", desc := "()V" } : Jvm.MethodName)) ∈ lw_all := lw_g (lw_at lw_m1 92 rfl) rfl
theorem q202 : (Jvm.Cond.code ({ cls := "HamletWells$Province", name := "<init>", desc := "()V" } : Jvm.MethodName) prog_32_method_1_code (1 : Nat) (Option.none : Option Jvm.ClassFile.FieldType)) ∈ lw_all := lw_g (lw_at lw_m1 93 rfl) rfl
theorem q203 : (Jvm.Cond.methodLink "HamletWells$Province" (3 : Nat) ({ cls := "java/lang/Object", name := "<init>", desc := "()V" } : Jvm.MethodName)) ∈ lw_all := lw_g (lw_at lw_m1 94 rfl) rfl
theorem q204 : (Jvm.Cond.classLink "HamletWells$Province" (9 : Nat) "HamletWells$Row") ∈ lw_all := lw_g (lw_at lw_m1 95 rfl) rfl
theorem q206 : (Jvm.Cond.methodLink "HamletWells$Province" (11 : Nat) ({ cls := "HamletWells$Row", name := "<init>", desc := "(I)V" } : Jvm.MethodName)) ∈ lw_all := lw_g (lw_at lw_m1 97 rfl) rfl
theorem q250 : (Jvm.Cond.fieldLink "HamletWells$Province" (14 : Nat) "HamletWells$Province" "hamlets" "LHamletWells$Row;") ∈ lw_all := lw_g (lw_at lw_m1 141 rfl) rfl
theorem q252 : (Jvm.Cond.fieldLink "HamletWells$Province" (20 : Nat) "HamletWells$Province" "sites" "LHamletWells$Row;") ∈ lw_all := lw_g (lw_at lw_m1 143 rfl) rfl
theorem q256 : (Jvm.Cond.fieldLink "HamletWells$Province" (58 : Nat) "HamletWells$Province" "day" "I") ∈ lw_all := lw_g (lw_at lw_m1 147 rfl) rfl
theorem q258 : (Jvm.Cond.fieldLink "HamletWells$Province" (23 : Nat) "HamletWells$Province" "coins" "I") ∈ lw_all := lw_g (lw_at lw_m1 149 rfl) rfl
theorem q260 : (Jvm.Cond.fieldLink "HamletWells$Province" (27 : Nat) "HamletWells$Province" "left" "I") ∈ lw_all := lw_g (lw_at lw_m1 151 rfl) rfl
theorem q262 : (Jvm.Cond.fieldLink "HamletWells$Province" (61 : Nat) "HamletWells$Province" "needed" "I") ∈ lw_all := lw_g (lw_at lw_m1 153 rfl) rfl
theorem q264 : (Jvm.Cond.fieldLink "HamletWells$Province" (64 : Nat) "HamletWells$Province" "opening" "I") ∈ lw_all := lw_g (lw_at lw_m1 155 rfl) rfl
theorem q266 : (Jvm.Cond.fieldLink "HamletWells$Province" (67 : Nat) "HamletWells$Province" "moving" "I") ∈ lw_all := lw_g (lw_at lw_m1 157 rfl) rfl
theorem q268 : (Jvm.Cond.fieldLink "HamletWells$Province" (70 : Nat) "HamletWells$Province" "carrying" "I") ∈ lw_all := lw_g (lw_at lw_m1 159 rfl) rfl
theorem q270 : (Jvm.Cond.fieldLink "HamletWells$Province" (73 : Nat) "HamletWells$Province" "taxes" "I") ∈ lw_all := lw_g (lw_at lw_m1 161 rfl) rfl
theorem q272 : (Jvm.Cond.fieldLink "HamletWells$Province" (76 : Nat) "HamletWells$Province" "lost" "I") ∈ lw_all := lw_g (lw_at lw_m1 163 rfl) rfl
theorem q274 : (Jvm.Cond.laysFinal "HamletWells$Province" "HamletWells$Province" "hamlets" "LHamletWells$Row;") ∈ lw_all := lw_g (lw_at lw_m1 165 rfl) rfl
theorem q275 : (Jvm.Cond.soleField "HamletWells$Province" "hamlets") ∈ lw_all := lw_g (lw_at lw_m1 166 rfl) rfl
theorem q276 : (Jvm.Cond.laysFinal "HamletWells$Province" "HamletWells$Province" "sites" "LHamletWells$Row;") ∈ lw_all := lw_g (lw_at lw_m1 167 rfl) rfl
theorem q277 : (Jvm.Cond.soleField "HamletWells$Province" "sites") ∈ lw_all := lw_g (lw_at lw_m1 168 rfl) rfl
theorem q278 : (Jvm.Cond.lays "HamletWells$Province" "HamletWells$Province" "day" "I") ∈ lw_all := lw_g (lw_at lw_m1 169 rfl) rfl
theorem q279 : (Jvm.Cond.soleField "HamletWells$Province" "day") ∈ lw_all := lw_g (lw_at lw_m1 170 rfl) rfl
theorem q280 : (Jvm.Cond.lays "HamletWells$Province" "HamletWells$Province" "coins" "I") ∈ lw_all := lw_g (lw_at lw_m1 171 rfl) rfl
theorem q281 : (Jvm.Cond.soleField "HamletWells$Province" "coins") ∈ lw_all := lw_g (lw_at lw_m1 172 rfl) rfl
theorem q282 : (Jvm.Cond.lays "HamletWells$Province" "HamletWells$Province" "left" "I") ∈ lw_all := lw_g (lw_at lw_m1 173 rfl) rfl
theorem q283 : (Jvm.Cond.soleField "HamletWells$Province" "left") ∈ lw_all := lw_g (lw_at lw_m1 174 rfl) rfl
theorem q284 : (Jvm.Cond.lays "HamletWells$Province" "HamletWells$Province" "needed" "I") ∈ lw_all := lw_g (lw_at lw_m1 175 rfl) rfl
theorem q285 : (Jvm.Cond.soleField "HamletWells$Province" "needed") ∈ lw_all := lw_g (lw_at lw_m1 176 rfl) rfl
theorem q286 : (Jvm.Cond.lays "HamletWells$Province" "HamletWells$Province" "opening" "I") ∈ lw_all := lw_g (lw_at lw_m1 177 rfl) rfl
theorem q287 : (Jvm.Cond.soleField "HamletWells$Province" "opening") ∈ lw_all := lw_g (lw_at lw_m1 178 rfl) rfl
theorem q288 : (Jvm.Cond.lays "HamletWells$Province" "HamletWells$Province" "moving" "I") ∈ lw_all := lw_g (lw_at lw_m1 179 rfl) rfl
theorem q289 : (Jvm.Cond.soleField "HamletWells$Province" "moving") ∈ lw_all := lw_g (lw_at lw_m1 180 rfl) rfl
theorem q290 : (Jvm.Cond.lays "HamletWells$Province" "HamletWells$Province" "carrying" "I") ∈ lw_all := lw_g (lw_at lw_m1 181 rfl) rfl
theorem q291 : (Jvm.Cond.soleField "HamletWells$Province" "carrying") ∈ lw_all := lw_g (lw_at lw_m1 182 rfl) rfl
theorem q292 : (Jvm.Cond.lays "HamletWells$Province" "HamletWells$Province" "taxes" "I") ∈ lw_all := lw_g (lw_at lw_m1 183 rfl) rfl
theorem q293 : (Jvm.Cond.soleField "HamletWells$Province" "taxes") ∈ lw_all := lw_g (lw_at lw_m1 184 rfl) rfl
theorem q294 : (Jvm.Cond.lays "HamletWells$Province" "HamletWells$Province" "lost" "I") ∈ lw_all := lw_g (lw_at lw_m1 185 rfl) rfl
theorem q295 : (Jvm.Cond.soleField "HamletWells$Province" "lost") ∈ lw_all := lw_g (lw_at lw_m1 186 rfl) rfl
theorem q296 : (Jvm.Cond.superclass "HamletWells$Province" "java/lang/Object") ∈ lw_all := lw_g (lw_at lw_m1 187 rfl) rfl
theorem q412 : (Jvm.Cond.instanceMethod ({ cls := "HamletWells$Province", name := "<init>", desc := "(LHamletWells$Province;)V" } : Jvm.MethodName)) ∈ lw_all := lw_g (lw_at lw_m2 63 rfl) rfl
theorem q413 : (Jvm.Cond.code ({ cls := "HamletWells$Province", name := "<init>", desc := "(LHamletWells$Province;)V" } : Jvm.MethodName) prog_32_method_2_code (4 : Nat) (Option.none : Option Jvm.ClassFile.FieldType)) ∈ lw_all := lw_g (lw_at lw_m2 64 rfl) rfl
theorem q414 : (Jvm.Cond.methodLink "HamletWells$Province" (30 : Nat) ({ cls := "HamletWells$Row", name := "iterator", desc := "()Ljava/util/Iterator;" } : Jvm.MethodName)) ∈ lw_all := lw_g (lw_at lw_m2 65 rfl) rfl
theorem q443 : (Jvm.Cond.interfaceEntry "HamletWells$Province" (34 : Nat)) ∈ lw_tbl := lw_at lw_m2 94 rfl
theorem q444 : (Jvm.Cond.methodLink "HamletWells$Province" (34 : Nat) ({ cls := "java/util/Iterator", name := "hasNext", desc := "()Z" } : Jvm.MethodName)) ∈ lw_all := lw_g (lw_at lw_m2 95 rfl) rfl
theorem q493 : (Jvm.Cond.interfaceEntry "HamletWells$Province" (40 : Nat)) ∈ lw_tbl := lw_at lw_m2 144 rfl
theorem q494 : (Jvm.Cond.methodLink "HamletWells$Province" (40 : Nat) ({ cls := "java/util/Iterator", name := "next", desc := "()Ljava/lang/Object;" } : Jvm.MethodName)) ∈ lw_all := lw_g (lw_at lw_m2 145 rfl) rfl
theorem q632 : (Jvm.Cond.selects "HamletWells$Province" ({ cls := "java/lang/Object", name := "getClass", desc := "()Ljava/lang/Class;" } : Jvm.MethodName) ({ cls := "java/lang/Object", name := "getClass", desc := "()Ljava/lang/Class;" } : Jvm.MethodName)) ∈ lw_all := lw_g (lw_at lw_m3 43 rfl) rfl
theorem q955 : (Jvm.Cond.classLink "HamletWells$Province" (44 : Nat) "HamletWells$Hamlet") ∈ lw_all := lw_g (lw_at lw_m4 126 rfl) rfl
theorem q957 : (Jvm.Cond.methodLink "HamletWells$Province" (46 : Nat) ({ cls := "HamletWells$Hamlet", name := "<init>", desc := "(LHamletWells$Hamlet;)V" } : Jvm.MethodName)) ∈ lw_all := lw_g (lw_at lw_m4 128 rfl) rfl
theorem q972 : (Jvm.Cond.fieldLinkNest "HamletWells$Province" (163 : Nat) "HamletWells$Hamlet" "people" "I" "HamletWells") ∈ lw_tbl := lw_at lw_m4 143 rfl
theorem q977 : (Jvm.Cond.fieldLinkNest "HamletWells$Province" (231 : Nat) "HamletWells$Hamlet" "thirst" "I" "HamletWells") ∈ lw_tbl := lw_at lw_m4 148 rfl
theorem q981 : (Jvm.Cond.fieldLinkNest "HamletWells$Province" (217 : Nat) "HamletWells$Hamlet" "got" "I" "HamletWells") ∈ lw_tbl := lw_at lw_m4 152 rfl
theorem q984 : (Jvm.Cond.fieldLinkNest "HamletWells$Province" (213 : Nat) "HamletWells$Hamlet" "paid" "I" "HamletWells") ∈ lw_tbl := lw_at lw_m4 155 rfl
theorem q995 : (Jvm.Cond.fieldLink "HamletWells$Province" (130 : Nat) "HamletWells$Site" "number" "I") ∈ lw_all := lw_g (lw_at lw_m4 166 rfl) rfl
theorem q996 : (Jvm.Cond.fieldLink "HamletWells$Province" (224 : Nat) "HamletWells$Hamlet" "number" "I") ∈ lw_all := lw_g (lw_at lw_m4 167 rfl) rfl
theorem q1030 : (Jvm.Cond.methodLink "HamletWells$Province" (49 : Nat) ({ cls := "HamletWells$Row", name := "lays", desc := "(LHamletWells$Standing;)V" } : Jvm.MethodName)) ∈ lw_all := lw_g (lw_at lw_m4 201 rfl) rfl
theorem q1062 : (Jvm.Cond.classLink "HamletWells$Province" (53 : Nat) "HamletWells$Site") ∈ lw_all := lw_g (lw_at lw_m4 233 rfl) rfl
theorem q1064 : (Jvm.Cond.methodLink "HamletWells$Province" (55 : Nat) ({ cls := "HamletWells$Site", name := "<init>", desc := "(LHamletWells$Site;)V" } : Jvm.MethodName)) ∈ lw_all := lw_g (lw_at lw_m4 235 rfl) rfl
theorem q1073 : (Jvm.Cond.fieldLinkNest "HamletWells$Province" (187 : Nat) "HamletWells$Site" "cost" "I" "HamletWells") ∈ lw_tbl := lw_at lw_m5 4 rfl
theorem q1079 : (Jvm.Cond.fieldLinkNest "HamletWells$Province" (133 : Nat) "HamletWells$Site" "isOpen" "Z" "HamletWells") ∈ lw_tbl := lw_at lw_m5 10 rfl
theorem q1083 : (Jvm.Cond.fieldLinkNest "HamletWells$Province" (194 : Nat) "HamletWells$Site" "hasPump" "Z" "HamletWells") ∈ lw_tbl := lw_at lw_m5 14 rfl
theorem q1111 : (Jvm.Cond.instanceMethod ({ cls := "HamletWells$Province", name := "hamlet", desc := "(III)I" } : Jvm.MethodName)) ∈ lw_all := lw_g (lw_at lw_m5 42 rfl) rfl
theorem q1112 : (Jvm.Cond.selects "HamletWells$Province" ({ cls := "HamletWells$Province", name := "hamlet", desc := "(III)I" } : Jvm.MethodName) ({ cls := "HamletWells$Province", name := "hamlet", desc := "(III)I" } : Jvm.MethodName)) ∈ lw_all := lw_g (lw_at lw_m5 43 rfl) rfl
theorem q1113 : (Jvm.Cond.code ({ cls := "HamletWells$Province", name := "hamlet", desc := "(III)I" } : Jvm.MethodName) prog_32_method_10_code (4 : Nat) (Option.some Jvm.ClassFile.FieldType.int)) ∈ lw_all := lw_g (lw_at lw_m5 44 rfl) rfl
theorem q1114 : (Jvm.Cond.methodLink "HamletWells$Province" (170 : Nat) ({ cls := "HamletWells$Row", name := "asks", desc := "(II)V" } : Jvm.MethodName)) ∈ lw_all := lw_g (lw_at lw_m5 45 rfl) rfl
theorem q1164 : (Jvm.Cond.methodLink "HamletWells$Province" (144 : Nat) ({ cls := "HamletWells$Row", name := "many", desc := "()I" } : Jvm.MethodName)) ∈ lw_all := lw_g (lw_at lw_m5 95 rfl) rfl
theorem q1168 : (Jvm.Cond.methodLink "HamletWells$Province" (174 : Nat) ({ cls := "HamletWells$Hamlet", name := "<init>", desc := "(IIII)V" } : Jvm.MethodName)) ∈ lw_all := lw_g (lw_at lw_m5 99 rfl) rfl
theorem q1218 : (Jvm.Cond.instanceMethod ({ cls := "HamletWells$Province", name := "site", desc := "(IIII)I" } : Jvm.MethodName)) ∈ lw_all := lw_g (lw_at lw_m5 149 rfl) rfl
theorem q1219 : (Jvm.Cond.selects "HamletWells$Province" ({ cls := "HamletWells$Province", name := "site", desc := "(IIII)I" } : Jvm.MethodName) ({ cls := "HamletWells$Province", name := "site", desc := "(IIII)I" } : Jvm.MethodName)) ∈ lw_all := lw_g (lw_at lw_m5 150 rfl) rfl
theorem q1220 : (Jvm.Cond.code ({ cls := "HamletWells$Province", name := "site", desc := "(IIII)I" } : Jvm.MethodName) prog_32_method_11_code (5 : Nat) (Option.some Jvm.ClassFile.FieldType.int)) ∈ lw_all := lw_g (lw_at lw_m5 151 rfl) rfl
theorem q1221 : (Jvm.Cond.methodLink "HamletWells$Province" (177 : Nat) ({ cls := "HamletWells$Site", name := "<init>", desc := "(IIIII)V" } : Jvm.MethodName)) ∈ lw_all := lw_g (lw_at lw_m5 152 rfl) rfl
theorem q1232 : (Jvm.Cond.instanceMethod ({ cls := "HamletWells$Province", name := "moves", desc := "(II)I" } : Jvm.MethodName)) ∈ lw_all := lw_g (lw_at lw_m5 163 rfl) rfl
theorem q1233 : (Jvm.Cond.selects "HamletWells$Province" ({ cls := "HamletWells$Province", name := "moves", desc := "(II)I" } : Jvm.MethodName) ({ cls := "HamletWells$Province", name := "moves", desc := "(II)I" } : Jvm.MethodName)) ∈ lw_all := lw_g (lw_at lw_m5 164 rfl) rfl
theorem q1234 : (Jvm.Cond.code ({ cls := "HamletWells$Province", name := "moves", desc := "(II)I" } : Jvm.MethodName) prog_32_method_17_code (6 : Nat) (Option.some Jvm.ClassFile.FieldType.int)) ∈ lw_all := lw_g (lw_at lw_m5 165 rfl) rfl
theorem q1235 : (Jvm.Cond.methodLinkNest "HamletWells$Province" (183 : Nat) ({ cls := "HamletWells", name := "needs", desc := "(ZII)V" } : Jvm.MethodName) "HamletWells") ∈ lw_tbl := lw_at lw_m5 166 rfl
theorem q1236 : (Jvm.Cond.methodLink "HamletWells$Province" (190 : Nat) ({ cls := "HamletWells$Province", name := "openOne", desc := "(I)LHamletWells$Site;" } : Jvm.MethodName)) ∈ lw_all := lw_g (lw_at lw_m5 167 rfl) rfl
theorem q1237 : (Jvm.Cond.privateMethod ({ cls := "HamletWells$Province", name := "openOne", desc := "(I)LHamletWells$Site;" } : Jvm.MethodName)) ∈ lw_tbl := lw_at lw_m5 168 rfl
theorem q1238 : (Jvm.Cond.instanceMethod ({ cls := "HamletWells$Province", name := "openOne", desc := "(I)LHamletWells$Site;" } : Jvm.MethodName)) ∈ lw_all := lw_g (lw_at lw_m5 169 rfl) rfl
theorem q1239 : (Jvm.Cond.code ({ cls := "HamletWells$Province", name := "openOne", desc := "(I)LHamletWells$Site;" } : Jvm.MethodName) prog_32_method_13_code (3 : Nat) (Option.some (Jvm.ClassFile.FieldType.object "HamletWells$Site"))) ∈ lw_all := lw_g (lw_at lw_m5 170 rfl) rfl
theorem q1240 : (Jvm.Cond.methodLink "HamletWells$Province" (151 : Nat) ({ cls := "HamletWells$Row", name := "of", desc := "(I)LHamletWells$Standing;" } : Jvm.MethodName)) ∈ lw_all := lw_g (lw_at lw_m5 171 rfl) rfl
theorem q1245 : (Jvm.Cond.methodLink "HamletWells$Province" (166 : Nat) ({ cls := "HamletWells$Site", name := "far", desc := "(LHamletWells$Standing;)I" } : Jvm.MethodName)) ∈ lw_all := lw_g (lw_at lw_m5 176 rfl) rfl
theorem q1262 : (Jvm.Cond.instanceMethod ({ cls := "HamletWells$Province", name := "goes", desc := "(I)I" } : Jvm.MethodName)) ∈ lw_all := lw_g (lw_at lw_m5 193 rfl) rfl
theorem q1263 : (Jvm.Cond.selects "HamletWells$Province" ({ cls := "HamletWells$Province", name := "goes", desc := "(I)I" } : Jvm.MethodName) ({ cls := "HamletWells$Province", name := "goes", desc := "(I)I" } : Jvm.MethodName)) ∈ lw_all := lw_g (lw_at lw_m5 194 rfl) rfl
theorem q1264 : (Jvm.Cond.code ({ cls := "HamletWells$Province", name := "goes", desc := "(I)I" } : Jvm.MethodName) prog_32_method_21_code (4 : Nat) (Option.some Jvm.ClassFile.FieldType.int)) ∈ lw_all := lw_g (lw_at lw_m5 195 rfl) rfl
theorem q1265 : (Jvm.Cond.methodLink "HamletWells$Province" (234 : Nat) ({ cls := "HamletWells$Province", name := "goes", desc := "()I" } : Jvm.MethodName)) ∈ lw_all := lw_g (lw_at lw_m5 196 rfl) rfl
theorem q1266 : (Jvm.Cond.privateMethod ({ cls := "HamletWells$Province", name := "goes", desc := "()I" } : Jvm.MethodName)) ∈ lw_tbl := lw_at lw_m5 197 rfl
theorem q1267 : (Jvm.Cond.instanceMethod ({ cls := "HamletWells$Province", name := "goes", desc := "()I" } : Jvm.MethodName)) ∈ lw_all := lw_g (lw_at lw_m5 198 rfl) rfl
theorem q1268 : (Jvm.Cond.code ({ cls := "HamletWells$Province", name := "goes", desc := "()I" } : Jvm.MethodName) prog_32_method_20_code (7 : Nat) (Option.some Jvm.ClassFile.FieldType.int)) ∈ lw_all := lw_g (lw_at lw_m5 199 rfl) rfl
theorem q1269 : (Jvm.Cond.methodLink "HamletWells$Province" (225 : Nat) ({ cls := "HamletWells$Province", name := "gives", desc := "(LHamletWells$Site;)I" } : Jvm.MethodName)) ∈ lw_all := lw_g (lw_at lw_m5 200 rfl) rfl
theorem q1270 : (Jvm.Cond.privateMethod ({ cls := "HamletWells$Province", name := "gives", desc := "(LHamletWells$Site;)I" } : Jvm.MethodName)) ∈ lw_tbl := lw_at lw_m5 201 rfl
theorem q1271 : (Jvm.Cond.instanceMethod ({ cls := "HamletWells$Province", name := "gives", desc := "(LHamletWells$Site;)I" } : Jvm.MethodName)) ∈ lw_all := lw_g (lw_at lw_m5 202 rfl) rfl
theorem q1272 : (Jvm.Cond.code ({ cls := "HamletWells$Province", name := "gives", desc := "(LHamletWells$Site;)I" } : Jvm.MethodName) prog_32_method_19_code (7 : Nat) (Option.some Jvm.ClassFile.FieldType.int)) ∈ lw_all := lw_g (lw_at lw_m5 203 rfl) rfl
theorem q1273 : (Jvm.Cond.methodLink "HamletWells$Province" (204 : Nat) ({ cls := "HamletWells$Site", name := "gives", desc := "()I" } : Jvm.MethodName)) ∈ lw_all := lw_g (lw_at lw_m5 204 rfl) rfl
theorem q1278 : (Jvm.Cond.methodLink "HamletWells$Province" (108 : Nat) ({ cls := "HamletWells$Province", name := "drinkers", desc := "(LHamletWells$Site;)Ljava/util/LinkedList;" } : Jvm.MethodName)) ∈ lw_all := lw_g (lw_at lw_m5 209 rfl) rfl
theorem q1279 : (Jvm.Cond.instanceMethod ({ cls := "HamletWells$Province", name := "drinkers", desc := "(LHamletWells$Site;)Ljava/util/LinkedList;" } : Jvm.MethodName)) ∈ lw_all := lw_g (lw_at lw_m5 210 rfl) rfl
theorem q1280 : (Jvm.Cond.selects "HamletWells$Province" ({ cls := "HamletWells$Province", name := "drinkers", desc := "(LHamletWells$Site;)Ljava/util/LinkedList;" } : Jvm.MethodName) ({ cls := "HamletWells$Province", name := "drinkers", desc := "(LHamletWells$Site;)Ljava/util/LinkedList;" } : Jvm.MethodName)) ∈ lw_all := lw_g (lw_at lw_m5 211 rfl) rfl
theorem q1281 : (Jvm.Cond.code ({ cls := "HamletWells$Province", name := "drinkers", desc := "(LHamletWells$Site;)Ljava/util/LinkedList;" } : Jvm.MethodName) prog_32_method_5_code (5 : Nat) (Option.some (Jvm.ClassFile.FieldType.object "java/util/LinkedList"))) ∈ lw_all := lw_g (lw_at lw_m5 212 rfl) rfl
theorem q1282 : (Jvm.Cond.classLink "HamletWells$Province" (97 : Nat) "java/util/LinkedList") ∈ lw_all := lw_g (lw_at lw_m5 213 rfl) rfl
theorem q1283 : (Jvm.Cond.methodLink "HamletWells$Province" (99 : Nat) ({ cls := "java/util/LinkedList", name := "<init>", desc := "()V" } : Jvm.MethodName)) ∈ lw_all := lw_g (lw_at lw_m5 214 rfl) rfl
theorem q1303 : (Jvm.Cond.methodLink "HamletWells$Province" (100 : Nat) ({ cls := "HamletWells$Province", name := "well", desc := "(LHamletWells$Hamlet;)LHamletWells$Site;" } : Jvm.MethodName)) ∈ lw_all := lw_g (lw_at lw_m5 234 rfl) rfl
theorem q1304 : (Jvm.Cond.instanceMethod ({ cls := "HamletWells$Province", name := "well", desc := "(LHamletWells$Hamlet;)LHamletWells$Site;" } : Jvm.MethodName)) ∈ lw_all := lw_g (lw_at lw_m5 235 rfl) rfl
theorem q1305 : (Jvm.Cond.selects "HamletWells$Province" ({ cls := "HamletWells$Province", name := "well", desc := "(LHamletWells$Hamlet;)LHamletWells$Site;" } : Jvm.MethodName) ({ cls := "HamletWells$Province", name := "well", desc := "(LHamletWells$Hamlet;)LHamletWells$Site;" } : Jvm.MethodName)) ∈ lw_all := lw_g (lw_at lw_m5 236 rfl) rfl
theorem q1306 : (Jvm.Cond.code ({ cls := "HamletWells$Province", name := "well", desc := "(LHamletWells$Hamlet;)LHamletWells$Site;" } : Jvm.MethodName) prog_32_method_4_code (2 : Nat) (Option.some (Jvm.ClassFile.FieldType.object "HamletWells$Site"))) ∈ lw_all := lw_g (lw_at lw_m5 237 rfl) rfl
theorem q1307 : (Jvm.Cond.classLink "HamletWells$Province" (88 : Nat) "HamletWells$Province$2") ∈ lw_all := lw_g (lw_at lw_m5 238 rfl) rfl
theorem q1309 : (Jvm.Cond.methodLink "HamletWells$Province" (90 : Nat) ({ cls := "HamletWells$Province$2", name := "<init>", desc := "(LHamletWells$Province;)V" } : Jvm.MethodName)) ∈ lw_all := lw_g (lw_at lw_m6 0 rfl) rfl
theorem q1317 : (Jvm.Cond.methodLink "HamletWells$Province" (93 : Nat) ({ cls := "HamletWells$Province", name := "nearest", desc := "(LHamletWells$Hamlet;LHamletWells$Asked;)LHamletWells$Site;" } : Jvm.MethodName)) ∈ lw_all := lw_g (lw_at lw_m6 8 rfl) rfl
theorem q1318 : (Jvm.Cond.instanceMethod ({ cls := "HamletWells$Province", name := "nearest", desc := "(LHamletWells$Hamlet;LHamletWells$Asked;)LHamletWells$Site;" } : Jvm.MethodName)) ∈ lw_all := lw_g (lw_at lw_m6 9 rfl) rfl
theorem q1319 : (Jvm.Cond.selects "HamletWells$Province" ({ cls := "HamletWells$Province", name := "nearest", desc := "(LHamletWells$Hamlet;LHamletWells$Asked;)LHamletWells$Site;" } : Jvm.MethodName) ({ cls := "HamletWells$Province", name := "nearest", desc := "(LHamletWells$Hamlet;LHamletWells$Asked;)LHamletWells$Site;" } : Jvm.MethodName)) ∈ lw_all := lw_g (lw_at lw_m6 10 rfl) rfl
theorem q1320 : (Jvm.Cond.code ({ cls := "HamletWells$Province", name := "nearest", desc := "(LHamletWells$Hamlet;LHamletWells$Asked;)LHamletWells$Site;" } : Jvm.MethodName) prog_32_method_3_code (3 : Nat) (Option.some (Jvm.ClassFile.FieldType.object "HamletWells$Site"))) ∈ lw_all := lw_g (lw_at lw_m6 11 rfl) rfl
theorem q1321 : (Jvm.Cond.classLink "HamletWells$Province" (79 : Nat) "HamletWells$Province$1") ∈ lw_all := lw_g (lw_at lw_m6 12 rfl) rfl
theorem q1323 : (Jvm.Cond.methodLink "HamletWells$Province" (81 : Nat) ({ cls := "HamletWells$Province$1", name := "<init>", desc := "(LHamletWells$Province;LHamletWells$Hamlet;)V" } : Jvm.MethodName)) ∈ lw_all := lw_g (lw_at lw_m6 14 rfl) rfl
theorem q1334 : (Jvm.Cond.methodLinkNest "HamletWells$Province" (84 : Nat) ({ cls := "HamletWells", name := "least", desc := "(Ljava/lang/Iterable;LHamletWells$Asked;LHamletWells$Worth;)Ljava/lang/Object;" } : Jvm.MethodName) "HamletWells") ∈ lw_tbl := lw_at lw_m6 25 rfl
theorem q1648 : (Jvm.Cond.methodLink "HamletWells$Province" (104 : Nat) ({ cls := "java/util/LinkedList", name := "addLast", desc := "(Ljava/lang/Object;)V" } : Jvm.MethodName)) ∈ lw_all := lw_g (lw_at lw_m7 99 rfl) rfl
theorem q1677 : (Jvm.Cond.methodLink "HamletWells$Province" (216 : Nat) ({ cls := "java/util/LinkedList", name := "iterator", desc := "()Ljava/util/Iterator;" } : Jvm.MethodName)) ∈ lw_all := lw_g (lw_at lw_m7 128 rfl) rfl
theorem q1681 : (Jvm.Cond.methodLink "HamletWells$Province" (207 : Nat) ({ cls := "java/lang/Math", name := "min", desc := "(II)I" } : Jvm.MethodName)) ∈ lw_all := lw_g (lw_at lw_m7 132 rfl) rfl
theorem q1682 : (Jvm.Cond.methodLink "HamletWells$Province" (220 : Nat) ({ cls := "HamletWells$Province", name := "pays", desc := "(LHamletWells$Hamlet;II)V" } : Jvm.MethodName)) ∈ lw_all := lw_g (lw_at lw_m7 133 rfl) rfl
theorem q1683 : (Jvm.Cond.privateMethod ({ cls := "HamletWells$Province", name := "pays", desc := "(LHamletWells$Hamlet;II)V" } : Jvm.MethodName)) ∈ lw_tbl := lw_at lw_m7 134 rfl
theorem q1684 : (Jvm.Cond.instanceMethod ({ cls := "HamletWells$Province", name := "pays", desc := "(LHamletWells$Hamlet;II)V" } : Jvm.MethodName)) ∈ lw_all := lw_g (lw_at lw_m7 135 rfl) rfl
theorem q1685 : (Jvm.Cond.code ({ cls := "HamletWells$Province", name := "pays", desc := "(LHamletWells$Hamlet;II)V" } : Jvm.MethodName) prog_32_method_18_code (7 : Nat) (Option.none : Option Jvm.ClassFile.FieldType)) ∈ lw_all := lw_g (lw_at lw_m7 136 rfl) rfl
theorem q1686 : (Jvm.Cond.methodLink "HamletWells$Province" (228 : Nat) ({ cls := "HamletWells$Site", name := "sinks", desc := "(I)V" } : Jvm.MethodName)) ∈ lw_all := lw_g (lw_at lw_m7 137 rfl) rfl
theorem q1760 : (Jvm.Cond.instanceMethod ({ cls := "HamletWells$Province", name := "opens", desc := "(I)I" } : Jvm.MethodName)) ∈ lw_all := lw_g (lw_at lw_m7 211 rfl) rfl
theorem q1761 : (Jvm.Cond.selects "HamletWells$Province" ({ cls := "HamletWells$Province", name := "opens", desc := "(I)I" } : Jvm.MethodName) ({ cls := "HamletWells$Province", name := "opens", desc := "(I)I" } : Jvm.MethodName)) ∈ lw_all := lw_g (lw_at lw_m7 212 rfl) rfl
theorem q1762 : (Jvm.Cond.code ({ cls := "HamletWells$Province", name := "opens", desc := "(I)I" } : Jvm.MethodName) prog_32_method_12_code (3 : Nat) (Option.some Jvm.ClassFile.FieldType.int)) ∈ lw_all := lw_g (lw_at lw_m7 213 rfl) rfl
theorem q1763 : (Jvm.Cond.methodLink "HamletWells$Province" (180 : Nat) ({ cls := "java/util/LinkedList", name := "size", desc := "()I" } : Jvm.MethodName)) ∈ lw_all := lw_g (lw_at lw_m7 214 rfl) rfl
theorem q1764 : (Jvm.Cond.methodLink "HamletWells$Province" (155 : Nat) ({ cls := "HamletWells$Site", name := "opens", desc := "()I" } : Jvm.MethodName)) ∈ lw_all := lw_g (lw_at lw_m7 215 rfl) rfl
theorem q1769 : (Jvm.Cond.instanceMethod ({ cls := "HamletWells$Province", name := "shuts", desc := "(I)I" } : Jvm.MethodName)) ∈ lw_all := lw_g (lw_at lw_m7 220 rfl) rfl
theorem q1770 : (Jvm.Cond.selects "HamletWells$Province" ({ cls := "HamletWells$Province", name := "shuts", desc := "(I)I" } : Jvm.MethodName) ({ cls := "HamletWells$Province", name := "shuts", desc := "(I)I" } : Jvm.MethodName)) ∈ lw_all := lw_g (lw_at lw_m7 221 rfl) rfl
theorem q1771 : (Jvm.Cond.code ({ cls := "HamletWells$Province", name := "shuts", desc := "(I)I" } : Jvm.MethodName) prog_32_method_14_code (3 : Nat) (Option.some Jvm.ClassFile.FieldType.int)) ∈ lw_all := lw_g (lw_at lw_m7 222 rfl) rfl
theorem q1772 : (Jvm.Cond.methodLinkNest "HamletWells$Province" (197 : Nat) ({ cls := "HamletWells", name := "bit", desc := "(Z)I" } : Jvm.MethodName) "HamletWells") ∈ lw_tbl := lw_at lw_m7 223 rfl
theorem q1773 : (Jvm.Cond.methodLink "HamletWells$Province" (201 : Nat) ({ cls := "HamletWells$Province", name := "openMany", desc := "()I" } : Jvm.MethodName)) ∈ lw_all := lw_g (lw_at lw_m7 224 rfl) rfl
theorem q1774 : (Jvm.Cond.instanceMethod ({ cls := "HamletWells$Province", name := "openMany", desc := "()I" } : Jvm.MethodName)) ∈ lw_all := lw_g (lw_at lw_m7 225 rfl) rfl
theorem q1775 : (Jvm.Cond.selects "HamletWells$Province" ({ cls := "HamletWells$Province", name := "openMany", desc := "()I" } : Jvm.MethodName) ({ cls := "HamletWells$Province", name := "openMany", desc := "()I" } : Jvm.MethodName)) ∈ lw_all := lw_g (lw_at lw_m7 226 rfl) rfl
theorem q1776 : (Jvm.Cond.code ({ cls := "HamletWells$Province", name := "openMany", desc := "()I" } : Jvm.MethodName) prog_32_method_7_code (1 : Nat) (Option.some Jvm.ClassFile.FieldType.int)) ∈ lw_all := lw_g (lw_at lw_m7 227 rfl) rfl
theorem q1777 : (Jvm.Cond.methodLink "HamletWells$Province" (119 : Nat) ({ cls := "HamletWells$Province", name := "open", desc := "()Ljava/util/BitSet;" } : Jvm.MethodName)) ∈ lw_all := lw_g (lw_at lw_m7 228 rfl) rfl
theorem q1778 : (Jvm.Cond.instanceMethod ({ cls := "HamletWells$Province", name := "open", desc := "()Ljava/util/BitSet;" } : Jvm.MethodName)) ∈ lw_all := lw_g (lw_at lw_m7 229 rfl) rfl
theorem q1779 : (Jvm.Cond.selects "HamletWells$Province" ({ cls := "HamletWells$Province", name := "open", desc := "()Ljava/util/BitSet;" } : Jvm.MethodName) ({ cls := "HamletWells$Province", name := "open", desc := "()Ljava/util/BitSet;" } : Jvm.MethodName)) ∈ lw_all := lw_g (lw_at lw_m7 230 rfl) rfl
theorem q1780 : (Jvm.Cond.code ({ cls := "HamletWells$Province", name := "open", desc := "()Ljava/util/BitSet;" } : Jvm.MethodName) prog_32_method_8_code (4 : Nat) (Option.some (Jvm.ClassFile.FieldType.object "java/util/BitSet"))) ∈ lw_all := lw_g (lw_at lw_m7 231 rfl) rfl
theorem q1781 : (Jvm.Cond.classLink "HamletWells$Province" (124 : Nat) "java/util/BitSet") ∈ lw_all := lw_g (lw_at lw_m7 232 rfl) rfl
theorem q1782 : (Jvm.Cond.methodLink "HamletWells$Province" (129 : Nat) ({ cls := "java/util/BitSet", name := "<init>", desc := "()V" } : Jvm.MethodName)) ∈ lw_all := lw_g (lw_at lw_m7 233 rfl) rfl
theorem q1801 : (Jvm.Cond.methodLink "HamletWells$Province" (137 : Nat) ({ cls := "java/util/BitSet", name := "set", desc := "(IZ)V" } : Jvm.MethodName)) ∈ lw_all := lw_g (lw_at lw_m8 12 rfl) rfl
theorem q1835 : (Jvm.Cond.methodLink "HamletWells$Province" (123 : Nat) ({ cls := "java/util/BitSet", name := "cardinality", desc := "()I" } : Jvm.MethodName)) ∈ lw_all := lw_g (lw_at lw_m8 46 rfl) rfl
theorem q1846 : (Jvm.Cond.instanceMethod ({ cls := "HamletWells$Province", name := "pumps", desc := "(I)I" } : Jvm.MethodName)) ∈ lw_all := lw_g (lw_at lw_m8 57 rfl) rfl
theorem q1847 : (Jvm.Cond.selects "HamletWells$Province" ({ cls := "HamletWells$Province", name := "pumps", desc := "(I)I" } : Jvm.MethodName) ({ cls := "HamletWells$Province", name := "pumps", desc := "(I)I" } : Jvm.MethodName)) ∈ lw_all := lw_g (lw_at lw_m8 58 rfl) rfl
theorem q1848 : (Jvm.Cond.code ({ cls := "HamletWells$Province", name := "pumps", desc := "(I)I" } : Jvm.MethodName) prog_32_method_15_code (3 : Nat) (Option.some Jvm.ClassFile.FieldType.int)) ∈ lw_all := lw_g (lw_at lw_m8 59 rfl) rfl
theorem q1870 : (Jvm.Cond.instanceMethod ({ cls := "HamletWells$Province", name := "unpumps", desc := "(I)I" } : Jvm.MethodName)) ∈ lw_all := lw_g (lw_at lw_m8 81 rfl) rfl
theorem q1871 : (Jvm.Cond.selects "HamletWells$Province" ({ cls := "HamletWells$Province", name := "unpumps", desc := "(I)I" } : Jvm.MethodName) ({ cls := "HamletWells$Province", name := "unpumps", desc := "(I)I" } : Jvm.MethodName)) ∈ lw_all := lw_g (lw_at lw_m8 82 rfl) rfl
theorem q1872 : (Jvm.Cond.code ({ cls := "HamletWells$Province", name := "unpumps", desc := "(I)I" } : Jvm.MethodName) prog_32_method_16_code (3 : Nat) (Option.some Jvm.ClassFile.FieldType.int)) ∈ lw_all := lw_g (lw_at lw_m8 83 rfl) rfl
theorem q2080 : (Jvm.Cond.instanceMethod ({ cls := "HamletWells$Province", name := "asked", desc := "(LHamletWells$Site;)I" } : Jvm.MethodName)) ∈ lw_all := lw_g (lw_at lw_m9 51 rfl) rfl
theorem q2081 : (Jvm.Cond.selects "HamletWells$Province" ({ cls := "HamletWells$Province", name := "asked", desc := "(LHamletWells$Site;)I" } : Jvm.MethodName) ({ cls := "HamletWells$Province", name := "asked", desc := "(LHamletWells$Site;)I" } : Jvm.MethodName)) ∈ lw_all := lw_g (lw_at lw_m9 52 rfl) rfl
theorem q2082 : (Jvm.Cond.code ({ cls := "HamletWells$Province", name := "asked", desc := "(LHamletWells$Site;)I" } : Jvm.MethodName) prog_32_method_6_code (2 : Nat) (Option.some Jvm.ClassFile.FieldType.int)) ∈ lw_all := lw_g (lw_at lw_m9 53 rfl) rfl
theorem q2083 : (Jvm.Cond.classLink "HamletWells$Province" (112 : Nat) "HamletWells$Province$3") ∈ lw_all := lw_g (lw_at lw_m9 54 rfl) rfl
theorem q2085 : (Jvm.Cond.methodLink "HamletWells$Province" (114 : Nat) ({ cls := "HamletWells$Province$3", name := "<init>", desc := "(LHamletWells$Province;)V" } : Jvm.MethodName)) ∈ lw_all := lw_g (lw_at lw_m9 56 rfl) rfl
theorem q2093 : (Jvm.Cond.methodLinkNest "HamletWells$Province" (115 : Nat) ({ cls := "HamletWells", name := "sum", desc := "(Ljava/lang/Iterable;LHamletWells$Worth;)I" } : Jvm.MethodName) "HamletWells") ∈ lw_tbl := lw_at lw_m9 64 rfl
theorem q2119 : (Jvm.Cond.instanceMethod ({ cls := "HamletWells$Province", name := "cost", desc := "(Ljava/util/BitSet;)I" } : Jvm.MethodName)) ∈ lw_all := lw_g (lw_at lw_m9 90 rfl) rfl
theorem q2120 : (Jvm.Cond.selects "HamletWells$Province" ({ cls := "HamletWells$Province", name := "cost", desc := "(Ljava/util/BitSet;)I" } : Jvm.MethodName) ({ cls := "HamletWells$Province", name := "cost", desc := "(Ljava/util/BitSet;)I" } : Jvm.MethodName)) ∈ lw_all := lw_g (lw_at lw_m9 91 rfl) rfl
theorem q2121 : (Jvm.Cond.code ({ cls := "HamletWells$Province", name := "cost", desc := "(Ljava/util/BitSet;)I" } : Jvm.MethodName) prog_32_method_9_code (6 : Nat) (Option.some Jvm.ClassFile.FieldType.int)) ∈ lw_all := lw_g (lw_at lw_m9 92 rfl) rfl
theorem q2122 : (Jvm.Cond.methodLink "HamletWells$Province" (141 : Nat) ({ cls := "java/util/BitSet", name := "isEmpty", desc := "()Z" } : Jvm.MethodName)) ∈ lw_all := lw_g (lw_at lw_m9 93 rfl) rfl
theorem q2126 : (Jvm.Cond.methodLink "HamletWells$Province" (147 : Nat) ({ cls := "java/util/BitSet", name := "nextSetBit", desc := "(I)I" } : Jvm.MethodName)) ∈ lw_all := lw_g (lw_at lw_m9 97 rfl) rfl
theorem q2137 : (Jvm.Cond.classLink "HamletWells$Province" (158 : Nat) "HamletWells$Province$4") ∈ lw_all := lw_g (lw_at lw_m9 108 rfl) rfl
theorem q2139 : (Jvm.Cond.methodLink "HamletWells$Province" (160 : Nat) ({ cls := "HamletWells$Province$4", name := "<init>", desc := "(LHamletWells$Province;Ljava/util/BitSet;)V" } : Jvm.MethodName)) ∈ lw_all := lw_g (lw_at lw_m9 110 rfl) rfl
theorem q3501 : (Jvm.Cond.castable "HamletWells$Province" "java/lang/Object") ∈ lw_tbl := lw_at lw_m15 32 rfl
theorem in_X1 : ∀ w ∈ wsX10, w ∈ lw_all := lw_in wsX10 [274, 276, 278, 280, 282, 284, 286, 288, 290, 292, 294] (by decide +kernel) (by decide +kernel)
/-! HamletWells$Row -/
set_option maxRecDepth 100000
def RX2 : String := "HamletWells$Row"
def TX2 : u_T := fun k => match k with
  | 0 => ("HamletWells$Row", "all", "Ljava/util/ArrayList;", true)
  | _ => ("HamletWells$Row", "most", "I", true)
def tyX2 : Nat → FieldType := fun k => match k with
  | 0 => .object "java/util/ArrayList"
  | _ => .int
abbrev wsX20 : List Cond := u_ws RX2 TX2 2
theorem nmX2 : ∀ a, a < 2 → ∀ b, b < 2 → a ≠ b → (TX2 a).2.1 ≠ (TX2 b).2.1 := by decide +kernel
theorem tyX2_ok : ∀ k, k < 2 → parseFieldDescriptor (TX2 k).2.2.1 = some (tyX2 k) := by decide +kernel
abbrev cX2_init : ByteArray := prog_38_method_1_code
def yX2_init : MethodName := ⟨RX2, "<init>", "(I)V"⟩
def dkwX2_init_0 : List UInt8 := [42, 183, 0, 3, 42, 187, 0, 9, 89, 183, 0, 11, 181, 0, 12, 42, 27, 181, 0, 18, 177]
abbrev dktX2_init_0 : List UInt8 := dkwX2_init_0 ++ []
theorem dksX2_init_0 : cX2_init.data.toList.drop 0 = dktX2_init_0 := by decide +kernel
theorem dX2_init_0 : decode cX2_init 0 = .ok (.aload_n 0, 1) := dk_42 (dk_at dksX2_init_0 0 rfl rfl)
theorem dX2_init_1 : decode cX2_init 1 = .ok (.invokespecial 3, 3) := dk_183 0 3 (dk_at dksX2_init_0 1 rfl rfl)
theorem dX2_init_4 : decode cX2_init 4 = .ok (.aload_n 0, 1) := dk_42 (dk_at dksX2_init_0 4 rfl rfl)
theorem dX2_init_5 : decode cX2_init 5 = .ok (.new 9, 3) := dk_187 0 9 (dk_at dksX2_init_0 5 rfl rfl)
theorem dX2_init_8 : decode cX2_init 8 = .ok (.dup, 1) := dk_89 (dk_at dksX2_init_0 8 rfl rfl)
theorem dX2_init_9 : decode cX2_init 9 = .ok (.invokespecial 11, 3) := dk_183 0 11 (dk_at dksX2_init_0 9 rfl rfl)
theorem dX2_init_12 : decode cX2_init 12 = .ok (.putfield 12, 3) := dk_181 0 12 (dk_at dksX2_init_0 12 rfl rfl)
theorem dX2_init_15 : decode cX2_init 15 = .ok (.aload_n 0, 1) := dk_42 (dk_at dksX2_init_0 15 rfl rfl)
theorem dX2_init_16 : decode cX2_init 16 = .ok (.iload_n 1, 1) := dk_27 (dk_at dksX2_init_0 16 rfl rfl)
theorem dX2_init_17 : decode cX2_init 17 = .ok (.putfield 18, 3) := dk_181 0 18 (dk_at dksX2_init_0 17 rfl rfl)
theorem dX2_init_20 : decode cX2_init 20 = .ok (.return_, 1) := dk_177 (dk_at dksX2_init_0 20 rfl rfl)
abbrev cX2_iterator : ByteArray := prog_38_method_7_code
def yX2_iterator : MethodName := ⟨RX2, "iterator", "()Ljava/util/Iterator;"⟩
def dkwX2_iterator_0 : List UInt8 := [42, 180, 0, 12, 182, 0, 44, 176]
abbrev dktX2_iterator_0 : List UInt8 := dkwX2_iterator_0 ++ []
theorem dksX2_iterator_0 : cX2_iterator.data.toList.drop 0 = dktX2_iterator_0 := by decide +kernel
theorem dX2_iterator_0 : decode cX2_iterator 0 = .ok (.aload_n 0, 1) := dk_42 (dk_at dksX2_iterator_0 0 rfl rfl)
theorem dX2_iterator_1 : decode cX2_iterator 1 = .ok (.getfield 12, 3) := dk_180 0 12 (dk_at dksX2_iterator_0 1 rfl rfl)
theorem dX2_iterator_4 : decode cX2_iterator 4 = .ok (.invokevirtual 44, 3) := dk_182 0 44 (dk_at dksX2_iterator_0 4 rfl rfl)
theorem dX2_iterator_7 : decode cX2_iterator 7 = .ok (.areturn, 1) := dk_176 (dk_at dksX2_iterator_0 7 rfl rfl)
abbrev cX2_lays : ByteArray := prog_38_method_5_code
def yX2_lays : MethodName := ⟨RX2, "lays", "(LHamletWells$Standing;)V"⟩
def dkwX2_lays_0 : List UInt8 := [42, 180, 0, 12, 43, 182, 0, 36, 87, 177]
abbrev dktX2_lays_0 : List UInt8 := dkwX2_lays_0 ++ []
theorem dksX2_lays_0 : cX2_lays.data.toList.drop 0 = dktX2_lays_0 := by decide +kernel
theorem dX2_lays_0 : decode cX2_lays 0 = .ok (.aload_n 0, 1) := dk_42 (dk_at dksX2_lays_0 0 rfl rfl)
theorem dX2_lays_1 : decode cX2_lays 1 = .ok (.getfield 12, 3) := dk_180 0 12 (dk_at dksX2_lays_0 1 rfl rfl)
theorem dX2_lays_4 : decode cX2_lays 4 = .ok (.aload_n 1, 1) := dk_43 (dk_at dksX2_lays_0 4 rfl rfl)
theorem dX2_lays_5 : decode cX2_lays 5 = .ok (.invokevirtual 36, 3) := dk_182 0 36 (dk_at dksX2_lays_0 5 rfl rfl)
theorem dX2_lays_8 : decode cX2_lays 8 = .ok (.pop, 1) := dk_87 (dk_at dksX2_lays_0 8 rfl rfl)
theorem dX2_lays_9 : decode cX2_lays 9 = .ok (.return_, 1) := dk_177 (dk_at dksX2_lays_0 9 rfl rfl)
abbrev cX2_asks : ByteArray := prog_38_method_6_code
def yX2_asks : MethodName := ⟨RX2, "asks", "(II)V"⟩
def dkwX2_asks_3 : List UInt8 := [3, 5, 25, 4, 180, 0, 62, 184, 0, 40, 167, 255, 212, 177]
abbrev dktX2_asks_3 : List UInt8 := dkwX2_asks_3 ++ []
def dkwX2_asks_2 : List UInt8 := [185, 0, 54, 1, 0, 192, 0, 34, 58, 4, 25, 4, 27, 28, 182, 0, 58, 154, 0, 7, 4, 167, 0, 4]
abbrev dktX2_asks_2 : List UInt8 := dkwX2_asks_2 ++ dktX2_asks_3
def dkwX2_asks_1 : List UInt8 := [184, 0, 40, 42, 180, 0, 12, 182, 0, 44, 78, 45, 185, 0, 48, 1, 0, 153, 0, 41, 45]
abbrev dktX2_asks_1 : List UInt8 := dkwX2_asks_1 ++ dktX2_asks_2
def dkwX2_asks_0 : List UInt8 := [42, 180, 0, 12, 182, 0, 22, 42, 180, 0, 18, 162, 0, 7, 4, 167, 0, 4, 3, 4, 42, 180, 0, 18]
abbrev dktX2_asks_0 : List UInt8 := dkwX2_asks_0 ++ dktX2_asks_1
theorem dksX2_asks_0 : cX2_asks.data.toList.drop 0 = dktX2_asks_0 := by decide +kernel
theorem dksX2_asks_1 : cX2_asks.data.toList.drop 24 = dktX2_asks_1 := dk_seg dksX2_asks_0 24 rfl rfl
theorem dksX2_asks_2 : cX2_asks.data.toList.drop 45 = dktX2_asks_2 := dk_seg dksX2_asks_1 21 rfl rfl
theorem dksX2_asks_3 : cX2_asks.data.toList.drop 69 = dktX2_asks_3 := dk_seg dksX2_asks_2 24 rfl rfl
theorem dX2_asks_0 : decode cX2_asks 0 = .ok (.aload_n 0, 1) := dk_42 (dk_at dksX2_asks_0 0 rfl rfl)
theorem dX2_asks_1 : decode cX2_asks 1 = .ok (.getfield 12, 3) := dk_180 0 12 (dk_at dksX2_asks_0 1 rfl rfl)
theorem dX2_asks_4 : decode cX2_asks 4 = .ok (.invokevirtual 22, 3) := dk_182 0 22 (dk_at dksX2_asks_0 4 rfl rfl)
theorem dX2_asks_7 : decode cX2_asks 7 = .ok (.aload_n 0, 1) := dk_42 (dk_at dksX2_asks_0 7 rfl rfl)
theorem dX2_asks_8 : decode cX2_asks 8 = .ok (.getfield 18, 3) := dk_180 0 18 (dk_at dksX2_asks_0 8 rfl rfl)
theorem dX2_asks_11 : decode cX2_asks 11 = .ok (.if_icmp .ge 7, 3) := dk_162 0 7 (dk_at dksX2_asks_0 11 rfl rfl)
theorem dX2_asks_14 : decode cX2_asks 14 = .ok (.iconst 1, 1) := dk_4 (dk_at dksX2_asks_0 14 rfl rfl)
theorem dX2_asks_15 : decode cX2_asks 15 = .ok (.goto 4, 3) := dk_167 0 4 (dk_at dksX2_asks_0 15 rfl rfl)
theorem dX2_asks_18 : decode cX2_asks 18 = .ok (.iconst 0, 1) := dk_3 (dk_at dksX2_asks_0 18 rfl rfl)
theorem dX2_asks_19 : decode cX2_asks 19 = .ok (.iconst 1, 1) := dk_4 (dk_at dksX2_asks_0 19 rfl rfl)
theorem dX2_asks_20 : decode cX2_asks 20 = .ok (.aload_n 0, 1) := dk_42 (dk_at dksX2_asks_0 20 rfl rfl)
theorem dX2_asks_21 : decode cX2_asks 21 = .ok (.getfield 18, 3) := dk_180 0 18 (dk_at dksX2_asks_0 21 rfl rfl)
theorem dX2_asks_24 : decode cX2_asks 24 = .ok (.invokestatic 40, 3) := dk_184 0 40 (dk_at dksX2_asks_1 0 rfl rfl)
theorem dX2_asks_27 : decode cX2_asks 27 = .ok (.aload_n 0, 1) := dk_42 (dk_at dksX2_asks_1 3 rfl rfl)
theorem dX2_asks_28 : decode cX2_asks 28 = .ok (.getfield 12, 3) := dk_180 0 12 (dk_at dksX2_asks_1 4 rfl rfl)
theorem dX2_asks_31 : decode cX2_asks 31 = .ok (.invokevirtual 44, 3) := dk_182 0 44 (dk_at dksX2_asks_1 7 rfl rfl)
theorem dX2_asks_34 : decode cX2_asks 34 = .ok (.astore_n 3, 1) := dk_78 (dk_at dksX2_asks_1 10 rfl rfl)
theorem dX2_asks_35 : decode cX2_asks 35 = .ok (.aload_n 3, 1) := dk_45 (dk_at dksX2_asks_1 11 rfl rfl)
theorem dX2_asks_36 : decode cX2_asks 36 = .ok (.invokeinterface 48 1, 5) := by decide +kernel
theorem dX2_asks_41 : decode cX2_asks 41 = .ok (.ifCond .eq 41, 3) := dk_153 0 41 (dk_at dksX2_asks_1 17 rfl rfl)
theorem dX2_asks_44 : decode cX2_asks 44 = .ok (.aload_n 3, 1) := dk_45 (dk_at dksX2_asks_1 20 rfl rfl)
theorem dX2_asks_45 : decode cX2_asks 45 = .ok (.invokeinterface 54 1, 5) := by decide +kernel
theorem dX2_asks_50 : decode cX2_asks 50 = .ok (.checkcast 34, 3) := dk_192 0 34 (dk_at dksX2_asks_2 5 rfl rfl)
theorem dX2_asks_53 : decode cX2_asks 53 = .ok (.astore 4, 2) := dk_58 4 (dk_at dksX2_asks_2 8 rfl rfl)
theorem dX2_asks_55 : decode cX2_asks 55 = .ok (.aload 4, 2) := dk_25 4 (dk_at dksX2_asks_2 10 rfl rfl)
theorem dX2_asks_57 : decode cX2_asks 57 = .ok (.iload_n 1, 1) := dk_27 (dk_at dksX2_asks_2 12 rfl rfl)
theorem dX2_asks_58 : decode cX2_asks 58 = .ok (.iload_n 2, 1) := dk_28 (dk_at dksX2_asks_2 13 rfl rfl)
theorem dX2_asks_59 : decode cX2_asks 59 = .ok (.invokevirtual 58, 3) := dk_182 0 58 (dk_at dksX2_asks_2 14 rfl rfl)
theorem dX2_asks_62 : decode cX2_asks 62 = .ok (.ifCond .ne 7, 3) := dk_154 0 7 (dk_at dksX2_asks_2 17 rfl rfl)
theorem dX2_asks_65 : decode cX2_asks 65 = .ok (.iconst 1, 1) := dk_4 (dk_at dksX2_asks_2 20 rfl rfl)
theorem dX2_asks_66 : decode cX2_asks 66 = .ok (.goto 4, 3) := dk_167 0 4 (dk_at dksX2_asks_2 21 rfl rfl)
theorem dX2_asks_69 : decode cX2_asks 69 = .ok (.iconst 0, 1) := dk_3 (dk_at dksX2_asks_3 0 rfl rfl)
theorem dX2_asks_70 : decode cX2_asks 70 = .ok (.iconst 2, 1) := dk_5 (dk_at dksX2_asks_3 1 rfl rfl)
theorem dX2_asks_71 : decode cX2_asks 71 = .ok (.aload 4, 2) := dk_25 4 (dk_at dksX2_asks_3 2 rfl rfl)
theorem dX2_asks_73 : decode cX2_asks 73 = .ok (.getfield 62, 3) := dk_180 0 62 (dk_at dksX2_asks_3 4 rfl rfl)
theorem dX2_asks_76 : decode cX2_asks 76 = .ok (.invokestatic 40, 3) := dk_184 0 40 (dk_at dksX2_asks_3 7 rfl rfl)
theorem dX2_asks_79 : decode cX2_asks 79 = .ok (.goto (-44), 3) := dk_167 255 212 (dk_at dksX2_asks_3 10 rfl rfl)
theorem dX2_asks_82 : decode cX2_asks 82 = .ok (.return_, 1) := dk_177 (dk_at dksX2_asks_3 13 rfl rfl)
abbrev cX2_many : ByteArray := prog_38_method_2_code
def yX2_many : MethodName := ⟨RX2, "many", "()I"⟩
def dkwX2_many_0 : List UInt8 := [42, 180, 0, 12, 182, 0, 22, 172]
abbrev dktX2_many_0 : List UInt8 := dkwX2_many_0 ++ []
theorem dksX2_many_0 : cX2_many.data.toList.drop 0 = dktX2_many_0 := by decide +kernel
theorem dX2_many_0 : decode cX2_many 0 = .ok (.aload_n 0, 1) := dk_42 (dk_at dksX2_many_0 0 rfl rfl)
theorem dX2_many_1 : decode cX2_many 1 = .ok (.getfield 12, 3) := dk_180 0 12 (dk_at dksX2_many_0 1 rfl rfl)
theorem dX2_many_4 : decode cX2_many 4 = .ok (.invokevirtual 22, 3) := dk_182 0 22 (dk_at dksX2_many_0 4 rfl rfl)
theorem dX2_many_7 : decode cX2_many 7 = .ok (.ireturn, 1) := dk_172 (dk_at dksX2_many_0 7 rfl rfl)
abbrev cX2_has : ByteArray := prog_38_method_3_code
def yX2_has : MethodName := ⟨RX2, "has", "(I)Z"⟩
def dkwX2_has_0 : List UInt8 := [27, 3, 42, 180, 0, 12, 182, 0, 22, 4, 100, 184, 0, 26, 172]
abbrev dktX2_has_0 : List UInt8 := dkwX2_has_0 ++ []
theorem dksX2_has_0 : cX2_has.data.toList.drop 0 = dktX2_has_0 := by decide +kernel
theorem dX2_has_0 : decode cX2_has 0 = .ok (.iload_n 1, 1) := dk_27 (dk_at dksX2_has_0 0 rfl rfl)
theorem dX2_has_1 : decode cX2_has 1 = .ok (.iconst 0, 1) := dk_3 (dk_at dksX2_has_0 1 rfl rfl)
theorem dX2_has_2 : decode cX2_has 2 = .ok (.aload_n 0, 1) := dk_42 (dk_at dksX2_has_0 2 rfl rfl)
theorem dX2_has_3 : decode cX2_has 3 = .ok (.getfield 12, 3) := dk_180 0 12 (dk_at dksX2_has_0 3 rfl rfl)
theorem dX2_has_6 : decode cX2_has 6 = .ok (.invokevirtual 22, 3) := dk_182 0 22 (dk_at dksX2_has_0 6 rfl rfl)
theorem dX2_has_9 : decode cX2_has 9 = .ok (.iconst 1, 1) := dk_4 (dk_at dksX2_has_0 9 rfl rfl)
theorem dX2_has_10 : decode cX2_has 10 = .ok (.isub, 1) := dk_100 (dk_at dksX2_has_0 10 rfl rfl)
theorem dX2_has_11 : decode cX2_has 11 = .ok (.invokestatic 26, 3) := dk_184 0 26 (dk_at dksX2_has_0 11 rfl rfl)
theorem dX2_has_14 : decode cX2_has 14 = .ok (.ireturn, 1) := dk_172 (dk_at dksX2_has_0 14 rfl rfl)
abbrev cX2_of : ByteArray := prog_38_method_4_code
def yX2_of : MethodName := ⟨RX2, "of", "(I)LHamletWells$Standing;"⟩
def dkwX2_of_0 : List UInt8 := [42, 180, 0, 12, 27, 182, 0, 30, 192, 0, 34, 176]
abbrev dktX2_of_0 : List UInt8 := dkwX2_of_0 ++ []
theorem dksX2_of_0 : cX2_of.data.toList.drop 0 = dktX2_of_0 := by decide +kernel
theorem dX2_of_0 : decode cX2_of 0 = .ok (.aload_n 0, 1) := dk_42 (dk_at dksX2_of_0 0 rfl rfl)
theorem dX2_of_1 : decode cX2_of 1 = .ok (.getfield 12, 3) := dk_180 0 12 (dk_at dksX2_of_0 1 rfl rfl)
theorem dX2_of_4 : decode cX2_of 4 = .ok (.iload_n 1, 1) := dk_27 (dk_at dksX2_of_0 4 rfl rfl)
theorem dX2_of_5 : decode cX2_of 5 = .ok (.invokevirtual 30, 3) := dk_182 0 30 (dk_at dksX2_of_0 5 rfl rfl)
theorem dX2_of_8 : decode cX2_of 8 = .ok (.checkcast 34, 3) := dk_192 0 34 (dk_at dksX2_of_0 8 rfl rfl)
theorem dX2_of_11 : decode cX2_of 11 = .ok (.areturn, 1) := dk_176 (dk_at dksX2_of_0 11 rfl rfl)
theorem q112 : (Jvm.Cond.initialized "HamletWells$Row") ∈ lw_all := lw_g (lw_at lw_m1 3 rfl) rfl
theorem q205 : (Jvm.Cond.instantiable "HamletWells$Row" (2 : Nat)) ∈ lw_all := lw_g (lw_at lw_m1 96 rfl) rfl
theorem q207 : (Jvm.Cond.instanceMethod ({ cls := "HamletWells$Row", name := "<init>", desc := "(I)V" } : Jvm.MethodName)) ∈ lw_all := lw_g (lw_at lw_m1 98 rfl) rfl
theorem q208 : (Jvm.Cond.code ({ cls := "HamletWells$Row", name := "<init>", desc := "(I)V" } : Jvm.MethodName) prog_38_method_1_code (2 : Nat) (Option.none : Option Jvm.ClassFile.FieldType)) ∈ lw_all := lw_g (lw_at lw_m1 99 rfl) rfl
theorem q209 : (Jvm.Cond.methodLink "HamletWells$Row" (3 : Nat) ({ cls := "java/lang/Object", name := "<init>", desc := "()V" } : Jvm.MethodName)) ∈ lw_all := lw_g (lw_at lw_m1 100 rfl) rfl
theorem q210 : (Jvm.Cond.classLink "HamletWells$Row" (9 : Nat) "java/util/ArrayList") ∈ lw_all := lw_g (lw_at lw_m1 101 rfl) rfl
theorem q212 : (Jvm.Cond.methodLink "HamletWells$Row" (11 : Nat) ({ cls := "java/util/ArrayList", name := "<init>", desc := "()V" } : Jvm.MethodName)) ∈ lw_all := lw_g (lw_at lw_m1 103 rfl) rfl
theorem q243 : (Jvm.Cond.fieldLink "HamletWells$Row" (12 : Nat) "HamletWells$Row" "all" "Ljava/util/ArrayList;") ∈ lw_all := lw_g (lw_at lw_m1 134 rfl) rfl
theorem q244 : (Jvm.Cond.fieldLink "HamletWells$Row" (18 : Nat) "HamletWells$Row" "most" "I") ∈ lw_all := lw_g (lw_at lw_m1 135 rfl) rfl
theorem q245 : (Jvm.Cond.laysFinal "HamletWells$Row" "HamletWells$Row" "all" "Ljava/util/ArrayList;") ∈ lw_all := lw_g (lw_at lw_m1 136 rfl) rfl
theorem q246 : (Jvm.Cond.soleField "HamletWells$Row" "all") ∈ lw_all := lw_g (lw_at lw_m1 137 rfl) rfl
theorem q247 : (Jvm.Cond.laysFinal "HamletWells$Row" "HamletWells$Row" "most" "I") ∈ lw_all := lw_g (lw_at lw_m1 138 rfl) rfl
theorem q248 : (Jvm.Cond.soleField "HamletWells$Row" "most") ∈ lw_all := lw_g (lw_at lw_m1 139 rfl) rfl
theorem q249 : (Jvm.Cond.superclass "HamletWells$Row" "java/lang/Object") ∈ lw_all := lw_g (lw_at lw_m1 140 rfl) rfl
theorem q415 : (Jvm.Cond.instanceMethod ({ cls := "HamletWells$Row", name := "iterator", desc := "()Ljava/util/Iterator;" } : Jvm.MethodName)) ∈ lw_all := lw_g (lw_at lw_m2 66 rfl) rfl
theorem q416 : (Jvm.Cond.selects "HamletWells$Row" ({ cls := "HamletWells$Row", name := "iterator", desc := "()Ljava/util/Iterator;" } : Jvm.MethodName) ({ cls := "HamletWells$Row", name := "iterator", desc := "()Ljava/util/Iterator;" } : Jvm.MethodName)) ∈ lw_all := lw_g (lw_at lw_m2 67 rfl) rfl
theorem q417 : (Jvm.Cond.code ({ cls := "HamletWells$Row", name := "iterator", desc := "()Ljava/util/Iterator;" } : Jvm.MethodName) prog_38_method_7_code (1 : Nat) (Option.some (Jvm.ClassFile.FieldType.object "java/util/Iterator"))) ∈ lw_all := lw_g (lw_at lw_m2 68 rfl) rfl
theorem q418 : (Jvm.Cond.methodLink "HamletWells$Row" (44 : Nat) ({ cls := "java/util/ArrayList", name := "iterator", desc := "()Ljava/util/Iterator;" } : Jvm.MethodName)) ∈ lw_all := lw_g (lw_at lw_m2 69 rfl) rfl
theorem q638 : (Jvm.Cond.selects "HamletWells$Row" ({ cls := "java/lang/Object", name := "getClass", desc := "()Ljava/lang/Class;" } : Jvm.MethodName) ({ cls := "java/lang/Object", name := "getClass", desc := "()Ljava/lang/Class;" } : Jvm.MethodName)) ∈ lw_all := lw_g (lw_at lw_m3 49 rfl) rfl
theorem q994 : (Jvm.Cond.fieldLink "HamletWells$Row" (62 : Nat) "HamletWells$Standing" "number" "I") ∈ lw_all := lw_g (lw_at lw_m4 165 rfl) rfl
theorem q1031 : (Jvm.Cond.instanceMethod ({ cls := "HamletWells$Row", name := "lays", desc := "(LHamletWells$Standing;)V" } : Jvm.MethodName)) ∈ lw_all := lw_g (lw_at lw_m4 202 rfl) rfl
theorem q1032 : (Jvm.Cond.selects "HamletWells$Row" ({ cls := "HamletWells$Row", name := "lays", desc := "(LHamletWells$Standing;)V" } : Jvm.MethodName) ({ cls := "HamletWells$Row", name := "lays", desc := "(LHamletWells$Standing;)V" } : Jvm.MethodName)) ∈ lw_all := lw_g (lw_at lw_m4 203 rfl) rfl
theorem q1033 : (Jvm.Cond.code ({ cls := "HamletWells$Row", name := "lays", desc := "(LHamletWells$Standing;)V" } : Jvm.MethodName) prog_38_method_5_code (2 : Nat) (Option.none : Option Jvm.ClassFile.FieldType)) ∈ lw_all := lw_g (lw_at lw_m4 204 rfl) rfl
theorem q1034 : (Jvm.Cond.methodLink "HamletWells$Row" (36 : Nat) ({ cls := "java/util/ArrayList", name := "add", desc := "(Ljava/lang/Object;)Z" } : Jvm.MethodName)) ∈ lw_all := lw_g (lw_at lw_m4 205 rfl) rfl
theorem q1115 : (Jvm.Cond.instanceMethod ({ cls := "HamletWells$Row", name := "asks", desc := "(II)V" } : Jvm.MethodName)) ∈ lw_all := lw_g (lw_at lw_m5 46 rfl) rfl
theorem q1116 : (Jvm.Cond.selects "HamletWells$Row" ({ cls := "HamletWells$Row", name := "asks", desc := "(II)V" } : Jvm.MethodName) ({ cls := "HamletWells$Row", name := "asks", desc := "(II)V" } : Jvm.MethodName)) ∈ lw_all := lw_g (lw_at lw_m5 47 rfl) rfl
theorem q1117 : (Jvm.Cond.code ({ cls := "HamletWells$Row", name := "asks", desc := "(II)V" } : Jvm.MethodName) prog_38_method_6_code (5 : Nat) (Option.none : Option Jvm.ClassFile.FieldType)) ∈ lw_all := lw_g (lw_at lw_m5 48 rfl) rfl
theorem q1118 : (Jvm.Cond.methodLink "HamletWells$Row" (22 : Nat) ({ cls := "java/util/ArrayList", name := "size", desc := "()I" } : Jvm.MethodName)) ∈ lw_all := lw_g (lw_at lw_m5 49 rfl) rfl
theorem q1119 : (Jvm.Cond.methodLinkNest "HamletWells$Row" (40 : Nat) ({ cls := "HamletWells", name := "needs", desc := "(ZII)V" } : Jvm.MethodName) "HamletWells") ∈ lw_tbl := lw_at lw_m5 50 rfl
theorem q1153 : (Jvm.Cond.interfaceEntry "HamletWells$Row" (48 : Nat)) ∈ lw_tbl := lw_at lw_m5 84 rfl
theorem q1154 : (Jvm.Cond.methodLink "HamletWells$Row" (48 : Nat) ({ cls := "java/util/Iterator", name := "hasNext", desc := "()Z" } : Jvm.MethodName)) ∈ lw_all := lw_g (lw_at lw_m5 85 rfl) rfl
theorem q1155 : (Jvm.Cond.interfaceEntry "HamletWells$Row" (54 : Nat)) ∈ lw_tbl := lw_at lw_m5 86 rfl
theorem q1156 : (Jvm.Cond.methodLink "HamletWells$Row" (54 : Nat) ({ cls := "java/util/Iterator", name := "next", desc := "()Ljava/lang/Object;" } : Jvm.MethodName)) ∈ lw_all := lw_g (lw_at lw_m5 87 rfl) rfl
theorem q1157 : (Jvm.Cond.classLink "HamletWells$Row" (34 : Nat) "HamletWells$Standing") ∈ lw_all := lw_g (lw_at lw_m5 88 rfl) rfl
theorem q1158 : (Jvm.Cond.methodLink "HamletWells$Row" (58 : Nat) ({ cls := "HamletWells$Standing", name := "isAt", desc := "(II)Z" } : Jvm.MethodName)) ∈ lw_all := lw_g (lw_at lw_m5 89 rfl) rfl
theorem q1165 : (Jvm.Cond.instanceMethod ({ cls := "HamletWells$Row", name := "many", desc := "()I" } : Jvm.MethodName)) ∈ lw_all := lw_g (lw_at lw_m5 96 rfl) rfl
theorem q1166 : (Jvm.Cond.selects "HamletWells$Row" ({ cls := "HamletWells$Row", name := "many", desc := "()I" } : Jvm.MethodName) ({ cls := "HamletWells$Row", name := "many", desc := "()I" } : Jvm.MethodName)) ∈ lw_all := lw_g (lw_at lw_m5 97 rfl) rfl
theorem q1167 : (Jvm.Cond.code ({ cls := "HamletWells$Row", name := "many", desc := "()I" } : Jvm.MethodName) prog_38_method_2_code (1 : Nat) (Option.some Jvm.ClassFile.FieldType.int)) ∈ lw_all := lw_g (lw_at lw_m5 98 rfl) rfl
theorem q1226 : (Jvm.Cond.instanceMethod ({ cls := "HamletWells$Row", name := "has", desc := "(I)Z" } : Jvm.MethodName)) ∈ lw_all := lw_g (lw_at lw_m5 157 rfl) rfl
theorem q1227 : (Jvm.Cond.selects "HamletWells$Row" ({ cls := "HamletWells$Row", name := "has", desc := "(I)Z" } : Jvm.MethodName) ({ cls := "HamletWells$Row", name := "has", desc := "(I)Z" } : Jvm.MethodName)) ∈ lw_all := lw_g (lw_at lw_m5 158 rfl) rfl
theorem q1228 : (Jvm.Cond.code ({ cls := "HamletWells$Row", name := "has", desc := "(I)Z" } : Jvm.MethodName) prog_38_method_3_code (2 : Nat) (Option.some Jvm.ClassFile.FieldType.boolean)) ∈ lw_all := lw_g (lw_at lw_m5 159 rfl) rfl
theorem q1229 : (Jvm.Cond.methodLinkNest "HamletWells$Row" (26 : Nat) ({ cls := "HamletWells", name := "in", desc := "(III)Z" } : Jvm.MethodName) "HamletWells") ∈ lw_tbl := lw_at lw_m5 160 rfl
theorem q1241 : (Jvm.Cond.instanceMethod ({ cls := "HamletWells$Row", name := "of", desc := "(I)LHamletWells$Standing;" } : Jvm.MethodName)) ∈ lw_all := lw_g (lw_at lw_m5 172 rfl) rfl
theorem q1242 : (Jvm.Cond.selects "HamletWells$Row" ({ cls := "HamletWells$Row", name := "of", desc := "(I)LHamletWells$Standing;" } : Jvm.MethodName) ({ cls := "HamletWells$Row", name := "of", desc := "(I)LHamletWells$Standing;" } : Jvm.MethodName)) ∈ lw_all := lw_g (lw_at lw_m5 173 rfl) rfl
theorem q1243 : (Jvm.Cond.code ({ cls := "HamletWells$Row", name := "of", desc := "(I)LHamletWells$Standing;" } : Jvm.MethodName) prog_38_method_4_code (2 : Nat) (Option.some (Jvm.ClassFile.FieldType.object "HamletWells$Standing"))) ∈ lw_all := lw_g (lw_at lw_m5 174 rfl) rfl
theorem q1244 : (Jvm.Cond.methodLink "HamletWells$Row" (30 : Nat) ({ cls := "java/util/ArrayList", name := "get", desc := "(I)Ljava/lang/Object;" } : Jvm.MethodName)) ∈ lw_all := lw_g (lw_at lw_m5 175 rfl) rfl
theorem q1341 : (Jvm.Cond.castable "HamletWells$Row" "java/lang/Iterable") ∈ lw_tbl := lw_at lw_m6 32 rfl
theorem q1342 : (Jvm.Cond.selects "HamletWells$Row" ({ cls := "java/lang/Iterable", name := "iterator", desc := "()Ljava/util/Iterator;" } : Jvm.MethodName) ({ cls := "HamletWells$Row", name := "iterator", desc := "()Ljava/util/Iterator;" } : Jvm.MethodName)) ∈ lw_all := lw_g (lw_at lw_m6 33 rfl) rfl
theorem q1343 : (Jvm.Cond.unhidden "HamletWells$Row" "iterator" "()Ljava/util/Iterator;") ∈ lw_tbl := lw_at lw_m6 34 rfl
theorem q1344 : (Jvm.Cond.publicMethod ({ cls := "HamletWells$Row", name := "iterator", desc := "()Ljava/util/Iterator;" } : Jvm.MethodName)) ∈ lw_tbl := lw_at lw_m6 35 rfl
theorem q3502 : (Jvm.Cond.castable "HamletWells$Row" "java/lang/Object") ∈ lw_tbl := lw_at lw_m15 33 rfl
theorem in_X2 : ∀ w ∈ wsX20, w ∈ lw_all := lw_in wsX20 [245, 247] (by decide +kernel) (by decide +kernel)
/-! HamletWells$Deed -/
set_option maxRecDepth 100000
def RX4 : String := "HamletWells$Deed"
abbrev cX4_init : ByteArray := prog_19_method_1_code
def yX4_init : MethodName := ⟨RX4, "<init>", "(LHamletWells;)V"⟩
def dkwX4_init_0 : List UInt8 := [42, 43, 181, 0, 3, 42, 183, 0, 9, 177]
abbrev dktX4_init_0 : List UInt8 := dkwX4_init_0 ++ []
theorem dksX4_init_0 : cX4_init.data.toList.drop 0 = dktX4_init_0 := by decide +kernel
theorem dX4_init_0 : decode cX4_init 0 = .ok (.aload_n 0, 1) := dk_42 (dk_at dksX4_init_0 0 rfl rfl)
theorem dX4_init_1 : decode cX4_init 1 = .ok (.aload_n 1, 1) := dk_43 (dk_at dksX4_init_0 1 rfl rfl)
theorem dX4_init_2 : decode cX4_init 2 = .ok (.putfield 3, 3) := dk_181 0 3 (dk_at dksX4_init_0 2 rfl rfl)
theorem dX4_init_5 : decode cX4_init 5 = .ok (.aload_n 0, 1) := dk_42 (dk_at dksX4_init_0 5 rfl rfl)
theorem dX4_init_6 : decode cX4_init 6 = .ok (.invokespecial 9, 3) := dk_183 0 9 (dk_at dksX4_init_0 6 rfl rfl)
theorem dX4_init_9 : decode cX4_init 9 = .ok (.return_, 1) := dk_177 (dk_at dksX4_init_0 9 rfl rfl)
abbrev cX4_doneIf : ByteArray := prog_19_method_4_code
def yX4_doneIf : MethodName := ⟨RX4, "doneIf", "(ZI)I"⟩
def dkwX4_doneIf_0 : List UInt8 := [27, 153, 0, 10, 42, 182, 0, 52, 167, 0, 4, 28, 172]
abbrev dktX4_doneIf_0 : List UInt8 := dkwX4_doneIf_0 ++ []
theorem dksX4_doneIf_0 : cX4_doneIf.data.toList.drop 0 = dktX4_doneIf_0 := by decide +kernel
theorem dX4_doneIf_0 : decode cX4_doneIf 0 = .ok (.iload_n 1, 1) := dk_27 (dk_at dksX4_doneIf_0 0 rfl rfl)
theorem dX4_doneIf_1 : decode cX4_doneIf 1 = .ok (.ifCond .eq 10, 3) := dk_153 0 10 (dk_at dksX4_doneIf_0 1 rfl rfl)
theorem dX4_doneIf_4 : decode cX4_doneIf 4 = .ok (.aload_n 0, 1) := dk_42 (dk_at dksX4_doneIf_0 4 rfl rfl)
theorem dX4_doneIf_5 : decode cX4_doneIf 5 = .ok (.invokevirtual 52, 3) := dk_182 0 52 (dk_at dksX4_doneIf_0 5 rfl rfl)
theorem dX4_doneIf_8 : decode cX4_doneIf 8 = .ok (.goto 4, 3) := dk_167 0 4 (dk_at dksX4_doneIf_0 8 rfl rfl)
theorem dX4_doneIf_11 : decode cX4_doneIf 11 = .ok (.iload_n 2, 1) := dk_28 (dk_at dksX4_doneIf_0 11 rfl rfl)
theorem dX4_doneIf_12 : decode cX4_doneIf 12 = .ok (.ireturn, 1) := dk_172 (dk_at dksX4_doneIf_0 12 rfl rfl)
abbrev cX4_done : ByteArray := prog_19_method_3_code
def yX4_done : MethodName := ⟨RX4, "done", "()I"⟩
def dkwX4_done_3 : List UInt8 := [180, 0, 3, 43, 181, 0, 17, 28, 172, 77, 42, 180, 0, 3, 44, 181, 0, 48, 16, 251, 172]
abbrev dktX4_done_3 : List UInt8 := dkwX4_done_3 ++ []
def dkwX4_done_2 : List UInt8 := [182, 0, 38, 16, 8, 164, 0, 17, 42, 180, 0, 3, 180, 0, 28, 182, 0, 42, 192, 0, 15, 78, 42]
abbrev dktX4_done_2 : List UInt8 := dkwX4_done_2 ++ dktX4_done_3
def dkwX4_done_1 : List UInt8 := [180, 0, 3, 180, 0, 28, 42, 180, 0, 3, 180, 0, 17, 182, 0, 32, 42, 180, 0, 3, 180, 0, 28]
abbrev dktX4_done_1 : List UInt8 := dkwX4_done_1 ++ dktX4_done_2
def dkwX4_done_0 : List UInt8 := [187, 0, 15, 89, 42, 180, 0, 3, 180, 0, 17, 183, 0, 21, 76, 42, 43, 182, 0, 24, 61, 42]
abbrev dktX4_done_0 : List UInt8 := dkwX4_done_0 ++ dktX4_done_1
theorem dksX4_done_0 : cX4_done.data.toList.drop 0 = dktX4_done_0 := by decide +kernel
theorem dksX4_done_1 : cX4_done.data.toList.drop 22 = dktX4_done_1 := dk_seg dksX4_done_0 22 rfl rfl
theorem dksX4_done_2 : cX4_done.data.toList.drop 45 = dktX4_done_2 := dk_seg dksX4_done_1 23 rfl rfl
theorem dksX4_done_3 : cX4_done.data.toList.drop 68 = dktX4_done_3 := dk_seg dksX4_done_2 23 rfl rfl
theorem dX4_done_0 : decode cX4_done 0 = .ok (.new 15, 3) := dk_187 0 15 (dk_at dksX4_done_0 0 rfl rfl)
theorem dX4_done_3 : decode cX4_done 3 = .ok (.dup, 1) := dk_89 (dk_at dksX4_done_0 3 rfl rfl)
theorem dX4_done_4 : decode cX4_done 4 = .ok (.aload_n 0, 1) := dk_42 (dk_at dksX4_done_0 4 rfl rfl)
theorem dX4_done_5 : decode cX4_done 5 = .ok (.getfield 3, 3) := dk_180 0 3 (dk_at dksX4_done_0 5 rfl rfl)
theorem dX4_done_8 : decode cX4_done 8 = .ok (.getfield 17, 3) := dk_180 0 17 (dk_at dksX4_done_0 8 rfl rfl)
theorem dX4_done_11 : decode cX4_done 11 = .ok (.invokespecial 21, 3) := dk_183 0 21 (dk_at dksX4_done_0 11 rfl rfl)
theorem dX4_done_14 : decode cX4_done 14 = .ok (.astore_n 1, 1) := dk_76 (dk_at dksX4_done_0 14 rfl rfl)
theorem dX4_done_15 : decode cX4_done 15 = .ok (.aload_n 0, 1) := dk_42 (dk_at dksX4_done_0 15 rfl rfl)
theorem dX4_done_16 : decode cX4_done 16 = .ok (.aload_n 1, 1) := dk_43 (dk_at dksX4_done_0 16 rfl rfl)
theorem dX4_done_17 : decode cX4_done 17 = .ok (.invokevirtual 24, 3) := dk_182 0 24 (dk_at dksX4_done_0 17 rfl rfl)
theorem dX4_done_20 : decode cX4_done 20 = .ok (.istore_n 2, 1) := dk_61 (dk_at dksX4_done_0 20 rfl rfl)
theorem dX4_done_21 : decode cX4_done 21 = .ok (.aload_n 0, 1) := dk_42 (dk_at dksX4_done_0 21 rfl rfl)
theorem dX4_done_22 : decode cX4_done 22 = .ok (.getfield 3, 3) := dk_180 0 3 (dk_at dksX4_done_1 0 rfl rfl)
theorem dX4_done_25 : decode cX4_done 25 = .ok (.getfield 28, 3) := dk_180 0 28 (dk_at dksX4_done_1 3 rfl rfl)
theorem dX4_done_28 : decode cX4_done 28 = .ok (.aload_n 0, 1) := dk_42 (dk_at dksX4_done_1 6 rfl rfl)
theorem dX4_done_29 : decode cX4_done 29 = .ok (.getfield 3, 3) := dk_180 0 3 (dk_at dksX4_done_1 7 rfl rfl)
theorem dX4_done_32 : decode cX4_done 32 = .ok (.getfield 17, 3) := dk_180 0 17 (dk_at dksX4_done_1 10 rfl rfl)
theorem dX4_done_35 : decode cX4_done 35 = .ok (.invokevirtual 32, 3) := dk_182 0 32 (dk_at dksX4_done_1 13 rfl rfl)
theorem dX4_done_38 : decode cX4_done 38 = .ok (.aload_n 0, 1) := dk_42 (dk_at dksX4_done_1 16 rfl rfl)
theorem dX4_done_39 : decode cX4_done 39 = .ok (.getfield 3, 3) := dk_180 0 3 (dk_at dksX4_done_1 17 rfl rfl)
theorem dX4_done_42 : decode cX4_done 42 = .ok (.getfield 28, 3) := dk_180 0 28 (dk_at dksX4_done_1 20 rfl rfl)
theorem dX4_done_45 : decode cX4_done 45 = .ok (.invokevirtual 38, 3) := dk_182 0 38 (dk_at dksX4_done_2 0 rfl rfl)
theorem dX4_done_48 : decode cX4_done 48 = .ok (.bipush 8, 2) := dk_16 8 (dk_at dksX4_done_2 3 rfl rfl)
theorem dX4_done_50 : decode cX4_done 50 = .ok (.if_icmp .le 17, 3) := dk_164 0 17 (dk_at dksX4_done_2 5 rfl rfl)
theorem dX4_done_53 : decode cX4_done 53 = .ok (.aload_n 0, 1) := dk_42 (dk_at dksX4_done_2 8 rfl rfl)
theorem dX4_done_54 : decode cX4_done 54 = .ok (.getfield 3, 3) := dk_180 0 3 (dk_at dksX4_done_2 9 rfl rfl)
theorem dX4_done_57 : decode cX4_done 57 = .ok (.getfield 28, 3) := dk_180 0 28 (dk_at dksX4_done_2 12 rfl rfl)
theorem dX4_done_60 : decode cX4_done 60 = .ok (.invokevirtual 42, 3) := dk_182 0 42 (dk_at dksX4_done_2 15 rfl rfl)
theorem dX4_done_63 : decode cX4_done 63 = .ok (.checkcast 15, 3) := dk_192 0 15 (dk_at dksX4_done_2 18 rfl rfl)
theorem dX4_done_66 : decode cX4_done 66 = .ok (.astore_n 3, 1) := dk_78 (dk_at dksX4_done_2 21 rfl rfl)
theorem dX4_done_67 : decode cX4_done 67 = .ok (.aload_n 0, 1) := dk_42 (dk_at dksX4_done_2 22 rfl rfl)
theorem dX4_done_68 : decode cX4_done 68 = .ok (.getfield 3, 3) := dk_180 0 3 (dk_at dksX4_done_3 0 rfl rfl)
theorem dX4_done_71 : decode cX4_done 71 = .ok (.aload_n 1, 1) := dk_43 (dk_at dksX4_done_3 3 rfl rfl)
theorem dX4_done_72 : decode cX4_done 72 = .ok (.putfield 17, 3) := dk_181 0 17 (dk_at dksX4_done_3 4 rfl rfl)
theorem dX4_done_75 : decode cX4_done 75 = .ok (.iload_n 2, 1) := dk_28 (dk_at dksX4_done_3 7 rfl rfl)
theorem dX4_done_76 : decode cX4_done 76 = .ok (.ireturn, 1) := dk_172 (dk_at dksX4_done_3 8 rfl rfl)
theorem dX4_done_77 : decode cX4_done 77 = .ok (.astore_n 2, 1) := dk_77 (dk_at dksX4_done_3 9 rfl rfl)
theorem dX4_done_78 : decode cX4_done 78 = .ok (.aload_n 0, 1) := dk_42 (dk_at dksX4_done_3 10 rfl rfl)
theorem dX4_done_79 : decode cX4_done 79 = .ok (.getfield 3, 3) := dk_180 0 3 (dk_at dksX4_done_3 11 rfl rfl)
theorem dX4_done_82 : decode cX4_done 82 = .ok (.aload_n 2, 1) := dk_44 (dk_at dksX4_done_3 14 rfl rfl)
theorem dX4_done_83 : decode cX4_done 83 = .ok (.putfield 48, 3) := dk_181 0 48 (dk_at dksX4_done_3 15 rfl rfl)
theorem dX4_done_86 : decode cX4_done 86 = .ok (.bipush (-5), 2) := dk_16 251 (dk_at dksX4_done_3 18 rfl rfl)
theorem dX4_done_88 : decode cX4_done 88 = .ok (.ireturn, 1) := dk_172 (dk_at dksX4_done_3 20 rfl rfl)
theorem q118 : (Jvm.Cond.initialized "HamletWells$Deed") ∈ lw_all := lw_g (lw_at lw_m1 9 rfl) rfl
theorem q320 : (Jvm.Cond.fieldLinkNest "HamletWells$Deed" (17 : Nat) "HamletWells" "now" "LHamletWells$Province;" "HamletWells") ∈ lw_tbl := lw_at lw_m1 211 rfl
theorem q323 : (Jvm.Cond.fieldLinkNest "HamletWells$Deed" (28 : Nat) "HamletWells" "before" "Ljava/util/ArrayDeque;" "HamletWells") ∈ lw_tbl := lw_at lw_m1 214 rfl
theorem q325 : (Jvm.Cond.fieldLinkNest "HamletWells$Deed" (48 : Nat) "HamletWells" "refusal" "LHamletWells$Refused;" "HamletWells") ∈ lw_tbl := lw_at lw_m1 216 rfl
theorem q362 : (Jvm.Cond.instanceMethod ({ cls := "HamletWells$Deed", name := "<init>", desc := "(LHamletWells;)V" } : Jvm.MethodName)) ∈ lw_all := lw_g (lw_at lw_m2 13 rfl) rfl
theorem q363 : (Jvm.Cond.code ({ cls := "HamletWells$Deed", name := "<init>", desc := "(LHamletWells;)V" } : Jvm.MethodName) prog_19_method_1_code (2 : Nat) (Option.none : Option Jvm.ClassFile.FieldType)) ∈ lw_all := lw_g (lw_at lw_m2 14 rfl) rfl
theorem q364 : (Jvm.Cond.methodLink "HamletWells$Deed" (9 : Nat) ({ cls := "java/lang/Object", name := "<init>", desc := "()V" } : Jvm.MethodName)) ∈ lw_all := lw_g (lw_at lw_m2 15 rfl) rfl
theorem q369 : (Jvm.Cond.fieldLink "HamletWells$Deed" (3 : Nat) "HamletWells$Deed" "this$0" "LHamletWells;") ∈ lw_all := lw_g (lw_at lw_m2 20 rfl) rfl
theorem q379 : (Jvm.Cond.soleField "HamletWells$Deed" "this$0") ∈ lw_all := lw_g (lw_at lw_m2 30 rfl) rfl
theorem q392 : (Jvm.Cond.declares ({ cls := "HamletWells$Deed", name := "doneIf", desc := "(ZI)I" } : Jvm.MethodName)) ∈ lw_tbl := lw_at lw_m2 43 rfl
theorem q394 : (Jvm.Cond.instanceMethod ({ cls := "HamletWells$Deed", name := "doneIf", desc := "(ZI)I" } : Jvm.MethodName)) ∈ lw_all := lw_g (lw_at lw_m2 45 rfl) rfl
theorem q395 : (Jvm.Cond.code ({ cls := "HamletWells$Deed", name := "doneIf", desc := "(ZI)I" } : Jvm.MethodName) prog_19_method_4_code (3 : Nat) (Option.some Jvm.ClassFile.FieldType.int)) ∈ lw_all := lw_g (lw_at lw_m2 46 rfl) rfl
theorem q396 : (Jvm.Cond.methodLink "HamletWells$Deed" (52 : Nat) ({ cls := "HamletWells$Deed", name := "done", desc := "()I" } : Jvm.MethodName)) ∈ lw_all := lw_g (lw_at lw_m2 47 rfl) rfl
theorem q397 : (Jvm.Cond.instanceMethod ({ cls := "HamletWells$Deed", name := "done", desc := "()I" } : Jvm.MethodName)) ∈ lw_all := lw_g (lw_at lw_m2 48 rfl) rfl
theorem q398 : (Jvm.Cond.sameMethod "HamletWells$Deed" "HamletWells$Deed" "done" "()I") ∈ lw_all := lw_g (lw_at lw_m2 49 rfl) rfl
theorem q408 : (Jvm.Cond.codeWith ({ cls := "HamletWells$Deed", name := "done", desc := "()I" } : Jvm.MethodName) prog_19_method_3_code (4 : Nat) (Option.some Jvm.ClassFile.FieldType.int) [((15 : Nat), (76 : Nat), (77 : Nat), (46 : Nat))]) ∈ lw_all := lw_g (lw_at lw_m2 59 rfl) rfl
theorem q409 : (Jvm.Cond.classLink "HamletWells$Deed" (46 : Nat) "HamletWells$Refused") ∈ lw_all := lw_g (lw_at lw_m2 60 rfl) rfl
theorem q410 : (Jvm.Cond.classLink "HamletWells$Deed" (15 : Nat) "HamletWells$Province") ∈ lw_all := lw_g (lw_at lw_m2 61 rfl) rfl
theorem q411 : (Jvm.Cond.methodLink "HamletWells$Deed" (21 : Nat) ({ cls := "HamletWells$Province", name := "<init>", desc := "(LHamletWells$Province;)V" } : Jvm.MethodName)) ∈ lw_all := lw_g (lw_at lw_m2 62 rfl) rfl
theorem q1104 : (Jvm.Cond.methodLink "HamletWells$Deed" (24 : Nat) ({ cls := "HamletWells$Deed", name := "does", desc := "(LHamletWells$Province;)I" } : Jvm.MethodName)) ∈ lw_all := lw_g (lw_at lw_m5 35 rfl) rfl
theorem q1105 : (Jvm.Cond.declares ({ cls := "HamletWells$Deed", name := "does", desc := "(LHamletWells$Province;)I" } : Jvm.MethodName)) ∈ lw_tbl := lw_at lw_m5 36 rfl
theorem q1106 : (Jvm.Cond.sameMethod "HamletWells$Deed" "HamletWells$Deed" "does" "(LHamletWells$Province;)I") ∈ lw_all := lw_g (lw_at lw_m5 37 rfl) rfl
theorem q1881 : (Jvm.Cond.methodLink "HamletWells$Deed" (32 : Nat) ({ cls := "java/util/ArrayDeque", name := "addLast", desc := "(Ljava/lang/Object;)V" } : Jvm.MethodName)) ∈ lw_all := lw_g (lw_at lw_m8 92 rfl) rfl
theorem q1897 : (Jvm.Cond.methodLink "HamletWells$Deed" (38 : Nat) ({ cls := "java/util/ArrayDeque", name := "size", desc := "()I" } : Jvm.MethodName)) ∈ lw_all := lw_g (lw_at lw_m8 108 rfl) rfl
theorem q1898 : (Jvm.Cond.methodLink "HamletWells$Deed" (42 : Nat) ({ cls := "java/util/ArrayDeque", name := "removeFirst", desc := "()Ljava/lang/Object;" } : Jvm.MethodName)) ∈ lw_all := lw_g (lw_at lw_m8 109 rfl) rfl
theorem q2926 : (Jvm.Cond.declares ({ cls := "HamletWells$Deed", name := "done", desc := "()I" } : Jvm.MethodName)) ∈ lw_tbl := lw_at lw_m12 177 rfl
/-! HamletWells$1 -/
set_option maxRecDepth 100000
def RX5 : String := "HamletWells$1"
def TX5 : u_T := fun k => match k with
  | 0 => ("HamletWells$Deed", "this$0", "LHamletWells;", true)
  | 1 => ("HamletWells$1", "val$x", "I", true)
  | 2 => ("HamletWells$1", "val$y", "I", true)
  | 3 => ("HamletWells$1", "val$people", "I", true)
  | _ => ("HamletWells$1", "this$0", "LHamletWells;", true)
def tyX5 : Nat → FieldType := fun k => match k with
  | 0 => .object "HamletWells"
  | 1 => .int
  | 2 => .int
  | 3 => .int
  | _ => .object "HamletWells"
abbrev wsX50 : List Cond := u_ws RX5 TX5 5
-- two fields of one name: no nmX5
theorem tyX5_ok : ∀ k, k < 5 → parseFieldDescriptor (TX5 k).2.2.1 = some (tyX5 k) := by decide +kernel
abbrev cX5_init : ByteArray := prog_2_method_1_code
def yX5_init : MethodName := ⟨RX5, "<init>", "(LHamletWells;III)V"⟩
def dkwX5_init_1 : List UInt8 := [183, 0, 17, 177]
abbrev dktX5_init_1 : List UInt8 := dkwX5_init_1 ++ []
def dkwX5_init_0 : List UInt8 := [42, 43, 181, 0, 1, 42, 28, 181, 0, 7, 42, 29, 181, 0, 11, 42, 21, 4, 181, 0, 14, 42, 43]
abbrev dktX5_init_0 : List UInt8 := dkwX5_init_0 ++ dktX5_init_1
theorem dksX5_init_0 : cX5_init.data.toList.drop 0 = dktX5_init_0 := by decide +kernel
theorem dksX5_init_1 : cX5_init.data.toList.drop 23 = dktX5_init_1 := dk_seg dksX5_init_0 23 rfl rfl
theorem dX5_init_0 : decode cX5_init 0 = .ok (.aload_n 0, 1) := dk_42 (dk_at dksX5_init_0 0 rfl rfl)
theorem dX5_init_1 : decode cX5_init 1 = .ok (.aload_n 1, 1) := dk_43 (dk_at dksX5_init_0 1 rfl rfl)
theorem dX5_init_2 : decode cX5_init 2 = .ok (.putfield 1, 3) := dk_181 0 1 (dk_at dksX5_init_0 2 rfl rfl)
theorem dX5_init_5 : decode cX5_init 5 = .ok (.aload_n 0, 1) := dk_42 (dk_at dksX5_init_0 5 rfl rfl)
theorem dX5_init_6 : decode cX5_init 6 = .ok (.iload_n 2, 1) := dk_28 (dk_at dksX5_init_0 6 rfl rfl)
theorem dX5_init_7 : decode cX5_init 7 = .ok (.putfield 7, 3) := dk_181 0 7 (dk_at dksX5_init_0 7 rfl rfl)
theorem dX5_init_10 : decode cX5_init 10 = .ok (.aload_n 0, 1) := dk_42 (dk_at dksX5_init_0 10 rfl rfl)
theorem dX5_init_11 : decode cX5_init 11 = .ok (.iload_n 3, 1) := dk_29 (dk_at dksX5_init_0 11 rfl rfl)
theorem dX5_init_12 : decode cX5_init 12 = .ok (.putfield 11, 3) := dk_181 0 11 (dk_at dksX5_init_0 12 rfl rfl)
theorem dX5_init_15 : decode cX5_init 15 = .ok (.aload_n 0, 1) := dk_42 (dk_at dksX5_init_0 15 rfl rfl)
theorem dX5_init_16 : decode cX5_init 16 = .ok (.iload 4, 2) := dk_21 4 (dk_at dksX5_init_0 16 rfl rfl)
theorem dX5_init_18 : decode cX5_init 18 = .ok (.putfield 14, 3) := dk_181 0 14 (dk_at dksX5_init_0 18 rfl rfl)
theorem dX5_init_21 : decode cX5_init 21 = .ok (.aload_n 0, 1) := dk_42 (dk_at dksX5_init_0 21 rfl rfl)
theorem dX5_init_22 : decode cX5_init 22 = .ok (.aload_n 1, 1) := dk_43 (dk_at dksX5_init_0 22 rfl rfl)
theorem dX5_init_23 : decode cX5_init 23 = .ok (.invokespecial 17, 3) := dk_183 0 17 (dk_at dksX5_init_1 0 rfl rfl)
theorem dX5_init_26 : decode cX5_init 26 = .ok (.return_, 1) := dk_177 (dk_at dksX5_init_1 3 rfl rfl)
abbrev cX5_does : ByteArray := prog_2_method_2_code
def yX5_does : MethodName := ⟨RX5, "does", "(LHamletWells$Province;)I"⟩
def dkwX5_does_0 : List UInt8 := [43, 42, 180, 0, 7, 42, 180, 0, 11, 42, 180, 0, 14, 182, 0, 23, 172]
abbrev dktX5_does_0 : List UInt8 := dkwX5_does_0 ++ []
theorem dksX5_does_0 : cX5_does.data.toList.drop 0 = dktX5_does_0 := by decide +kernel
theorem dX5_does_0 : decode cX5_does 0 = .ok (.aload_n 1, 1) := dk_43 (dk_at dksX5_does_0 0 rfl rfl)
theorem dX5_does_1 : decode cX5_does 1 = .ok (.aload_n 0, 1) := dk_42 (dk_at dksX5_does_0 1 rfl rfl)
theorem dX5_does_2 : decode cX5_does 2 = .ok (.getfield 7, 3) := dk_180 0 7 (dk_at dksX5_does_0 2 rfl rfl)
theorem dX5_does_5 : decode cX5_does 5 = .ok (.aload_n 0, 1) := dk_42 (dk_at dksX5_does_0 5 rfl rfl)
theorem dX5_does_6 : decode cX5_does 6 = .ok (.getfield 11, 3) := dk_180 0 11 (dk_at dksX5_does_0 6 rfl rfl)
theorem dX5_does_9 : decode cX5_does 9 = .ok (.aload_n 0, 1) := dk_42 (dk_at dksX5_does_0 9 rfl rfl)
theorem dX5_does_10 : decode cX5_does 10 = .ok (.getfield 14, 3) := dk_180 0 14 (dk_at dksX5_does_0 10 rfl rfl)
theorem dX5_does_13 : decode cX5_does 13 = .ok (.invokevirtual 23, 3) := dk_182 0 23 (dk_at dksX5_does_0 13 rfl rfl)
theorem dX5_does_16 : decode cX5_does 16 = .ok (.ireturn, 1) := dk_172 (dk_at dksX5_does_0 16 rfl rfl)
theorem q119 : (Jvm.Cond.initialized "HamletWells$1") ∈ lw_all := lw_g (lw_at lw_m1 10 rfl) rfl
theorem q357 : (Jvm.Cond.instantiable "HamletWells$1" (5 : Nat)) ∈ lw_all := lw_g (lw_at lw_m2 8 rfl) rfl
theorem q359 : (Jvm.Cond.instanceMethod ({ cls := "HamletWells$1", name := "<init>", desc := "(LHamletWells;III)V" } : Jvm.MethodName)) ∈ lw_all := lw_g (lw_at lw_m2 10 rfl) rfl
theorem q360 : (Jvm.Cond.code ({ cls := "HamletWells$1", name := "<init>", desc := "(LHamletWells;III)V" } : Jvm.MethodName) prog_2_method_1_code (5 : Nat) (Option.none : Option Jvm.ClassFile.FieldType)) ∈ lw_all := lw_g (lw_at lw_m2 11 rfl) rfl
theorem q361 : (Jvm.Cond.methodLinkNest "HamletWells$1" (17 : Nat) ({ cls := "HamletWells$Deed", name := "<init>", desc := "(LHamletWells;)V" } : Jvm.MethodName) "HamletWells") ∈ lw_tbl := lw_at lw_m2 12 rfl
theorem q365 : (Jvm.Cond.fieldLink "HamletWells$1" (7 : Nat) "HamletWells$1" "val$x" "I") ∈ lw_all := lw_g (lw_at lw_m2 16 rfl) rfl
theorem q366 : (Jvm.Cond.fieldLink "HamletWells$1" (11 : Nat) "HamletWells$1" "val$y" "I") ∈ lw_all := lw_g (lw_at lw_m2 17 rfl) rfl
theorem q367 : (Jvm.Cond.fieldLink "HamletWells$1" (14 : Nat) "HamletWells$1" "val$people" "I") ∈ lw_all := lw_g (lw_at lw_m2 18 rfl) rfl
theorem q368 : (Jvm.Cond.fieldLink "HamletWells$1" (1 : Nat) "HamletWells$1" "this$0" "LHamletWells;") ∈ lw_all := lw_g (lw_at lw_m2 19 rfl) rfl
theorem q370 : (Jvm.Cond.laysFinal "HamletWells$1" "HamletWells$1" "val$x" "I") ∈ lw_all := lw_g (lw_at lw_m2 21 rfl) rfl
theorem q371 : (Jvm.Cond.soleField "HamletWells$1" "val$x") ∈ lw_all := lw_g (lw_at lw_m2 22 rfl) rfl
theorem q372 : (Jvm.Cond.laysFinal "HamletWells$1" "HamletWells$1" "val$y" "I") ∈ lw_all := lw_g (lw_at lw_m2 23 rfl) rfl
theorem q373 : (Jvm.Cond.soleField "HamletWells$1" "val$y") ∈ lw_all := lw_g (lw_at lw_m2 24 rfl) rfl
theorem q374 : (Jvm.Cond.laysFinal "HamletWells$1" "HamletWells$1" "val$people" "I") ∈ lw_all := lw_g (lw_at lw_m2 25 rfl) rfl
theorem q375 : (Jvm.Cond.soleField "HamletWells$1" "val$people") ∈ lw_all := lw_g (lw_at lw_m2 26 rfl) rfl
theorem q376 : (Jvm.Cond.laysFinal "HamletWells$1" "HamletWells$1" "this$0" "LHamletWells;") ∈ lw_all := lw_g (lw_at lw_m2 27 rfl) rfl
theorem q377 : (Jvm.Cond.soleField "HamletWells$1" "this$0") ∈ lw_all := lw_g (lw_at lw_m2 28 rfl) rfl
theorem q378 : (Jvm.Cond.laysFinal "HamletWells$1" "HamletWells$Deed" "this$0" "LHamletWells;") ∈ lw_all := lw_g (lw_at lw_m2 29 rfl) rfl
theorem q380 : (Jvm.Cond.superclass "HamletWells$1" "HamletWells$Deed") ∈ lw_all := lw_g (lw_at lw_m2 31 rfl) rfl
theorem q391 : (Jvm.Cond.sameMethod "HamletWells$1" "HamletWells$Deed" "doneIf" "(ZI)I") ∈ lw_all := lw_g (lw_at lw_m2 42 rfl) rfl
theorem q393 : (Jvm.Cond.selects "HamletWells$1" ({ cls := "HamletWells$1", name := "doneIf", desc := "(ZI)I" } : Jvm.MethodName) ({ cls := "HamletWells$Deed", name := "doneIf", desc := "(ZI)I" } : Jvm.MethodName)) ∈ lw_all := lw_g (lw_at lw_m2 44 rfl) rfl
theorem q399 : (Jvm.Cond.selects "HamletWells$1" ({ cls := "HamletWells$Deed", name := "done", desc := "()I" } : Jvm.MethodName) ({ cls := "HamletWells$Deed", name := "done", desc := "()I" } : Jvm.MethodName)) ∈ lw_all := lw_g (lw_at lw_m2 50 rfl) rfl
theorem q605 : (Jvm.Cond.selects "HamletWells$1" ({ cls := "java/lang/Object", name := "getClass", desc := "()Ljava/lang/Class;" } : Jvm.MethodName) ({ cls := "java/lang/Object", name := "getClass", desc := "()Ljava/lang/Class;" } : Jvm.MethodName)) ∈ lw_all := lw_g (lw_at lw_m3 16 rfl) rfl
theorem q1107 : (Jvm.Cond.selects "HamletWells$1" ({ cls := "HamletWells$Deed", name := "does", desc := "(LHamletWells$Province;)I" } : Jvm.MethodName) ({ cls := "HamletWells$1", name := "does", desc := "(LHamletWells$Province;)I" } : Jvm.MethodName)) ∈ lw_all := lw_g (lw_at lw_m5 38 rfl) rfl
theorem q1108 : (Jvm.Cond.instanceMethod ({ cls := "HamletWells$1", name := "does", desc := "(LHamletWells$Province;)I" } : Jvm.MethodName)) ∈ lw_all := lw_g (lw_at lw_m5 39 rfl) rfl
theorem q1109 : (Jvm.Cond.code ({ cls := "HamletWells$1", name := "does", desc := "(LHamletWells$Province;)I" } : Jvm.MethodName) prog_2_method_2_code (2 : Nat) (Option.some Jvm.ClassFile.FieldType.int)) ∈ lw_all := lw_g (lw_at lw_m5 40 rfl) rfl
theorem q1110 : (Jvm.Cond.methodLink "HamletWells$1" (23 : Nat) ({ cls := "HamletWells$Province", name := "hamlet", desc := "(III)I" } : Jvm.MethodName)) ∈ lw_all := lw_g (lw_at lw_m5 41 rfl) rfl
theorem q3506 : (Jvm.Cond.castable "HamletWells$1" "java/lang/Object") ∈ lw_tbl := lw_at lw_m15 37 rfl
theorem in_X5 : ∀ w ∈ wsX50, w ∈ lw_all := lw_in wsX50 [378, 370, 372, 374, 376] (by decide +kernel) (by decide +kernel)
/-! HamletWells$Standing -/
set_option maxRecDepth 100000
def RX6 : String := "HamletWells$Standing"
abbrev cX6_init : ByteArray := prog_40_method_1_code
def yX6_init : MethodName := ⟨RX6, "<init>", "(III)V"⟩
def dkwX6_init_0 : List UInt8 := [42, 183, 0, 1, 42, 27, 181, 0, 7, 42, 28, 181, 0, 13, 42, 29, 181, 0, 16, 177]
abbrev dktX6_init_0 : List UInt8 := dkwX6_init_0 ++ []
theorem dksX6_init_0 : cX6_init.data.toList.drop 0 = dktX6_init_0 := by decide +kernel
theorem dX6_init_0 : decode cX6_init 0 = .ok (.aload_n 0, 1) := dk_42 (dk_at dksX6_init_0 0 rfl rfl)
theorem dX6_init_1 : decode cX6_init 1 = .ok (.invokespecial 1, 3) := dk_183 0 1 (dk_at dksX6_init_0 1 rfl rfl)
theorem dX6_init_4 : decode cX6_init 4 = .ok (.aload_n 0, 1) := dk_42 (dk_at dksX6_init_0 4 rfl rfl)
theorem dX6_init_5 : decode cX6_init 5 = .ok (.iload_n 1, 1) := dk_27 (dk_at dksX6_init_0 5 rfl rfl)
theorem dX6_init_6 : decode cX6_init 6 = .ok (.putfield 7, 3) := dk_181 0 7 (dk_at dksX6_init_0 6 rfl rfl)
theorem dX6_init_9 : decode cX6_init 9 = .ok (.aload_n 0, 1) := dk_42 (dk_at dksX6_init_0 9 rfl rfl)
theorem dX6_init_10 : decode cX6_init 10 = .ok (.iload_n 2, 1) := dk_28 (dk_at dksX6_init_0 10 rfl rfl)
theorem dX6_init_11 : decode cX6_init 11 = .ok (.putfield 13, 3) := dk_181 0 13 (dk_at dksX6_init_0 11 rfl rfl)
theorem dX6_init_14 : decode cX6_init 14 = .ok (.aload_n 0, 1) := dk_42 (dk_at dksX6_init_0 14 rfl rfl)
theorem dX6_init_15 : decode cX6_init 15 = .ok (.iload_n 3, 1) := dk_29 (dk_at dksX6_init_0 15 rfl rfl)
theorem dX6_init_16 : decode cX6_init 16 = .ok (.putfield 16, 3) := dk_181 0 16 (dk_at dksX6_init_0 16 rfl rfl)
theorem dX6_init_19 : decode cX6_init 19 = .ok (.return_, 1) := dk_177 (dk_at dksX6_init_0 19 rfl rfl)
abbrev cX6_isAt : ByteArray := prog_40_method_3_code
def yX6_isAt : MethodName := ⟨RX6, "isAt", "(II)Z"⟩
def dkwX6_isAt_0 : List UInt8 := [42, 180, 0, 13, 27, 160, 0, 15, 42, 180, 0, 16, 28, 160, 0, 7, 4, 167, 0, 4, 3, 172]
abbrev dktX6_isAt_0 : List UInt8 := dkwX6_isAt_0 ++ []
theorem dksX6_isAt_0 : cX6_isAt.data.toList.drop 0 = dktX6_isAt_0 := by decide +kernel
theorem dX6_isAt_0 : decode cX6_isAt 0 = .ok (.aload_n 0, 1) := dk_42 (dk_at dksX6_isAt_0 0 rfl rfl)
theorem dX6_isAt_1 : decode cX6_isAt 1 = .ok (.getfield 13, 3) := dk_180 0 13 (dk_at dksX6_isAt_0 1 rfl rfl)
theorem dX6_isAt_4 : decode cX6_isAt 4 = .ok (.iload_n 1, 1) := dk_27 (dk_at dksX6_isAt_0 4 rfl rfl)
theorem dX6_isAt_5 : decode cX6_isAt 5 = .ok (.if_icmp .ne 15, 3) := dk_160 0 15 (dk_at dksX6_isAt_0 5 rfl rfl)
theorem dX6_isAt_8 : decode cX6_isAt 8 = .ok (.aload_n 0, 1) := dk_42 (dk_at dksX6_isAt_0 8 rfl rfl)
theorem dX6_isAt_9 : decode cX6_isAt 9 = .ok (.getfield 16, 3) := dk_180 0 16 (dk_at dksX6_isAt_0 9 rfl rfl)
theorem dX6_isAt_12 : decode cX6_isAt 12 = .ok (.iload_n 2, 1) := dk_28 (dk_at dksX6_isAt_0 12 rfl rfl)
theorem dX6_isAt_13 : decode cX6_isAt 13 = .ok (.if_icmp .ne 7, 3) := dk_160 0 7 (dk_at dksX6_isAt_0 13 rfl rfl)
theorem dX6_isAt_16 : decode cX6_isAt 16 = .ok (.iconst 1, 1) := dk_4 (dk_at dksX6_isAt_0 16 rfl rfl)
theorem dX6_isAt_17 : decode cX6_isAt 17 = .ok (.goto 4, 3) := dk_167 0 4 (dk_at dksX6_isAt_0 17 rfl rfl)
theorem dX6_isAt_20 : decode cX6_isAt 20 = .ok (.iconst 0, 1) := dk_3 (dk_at dksX6_isAt_0 20 rfl rfl)
theorem dX6_isAt_21 : decode cX6_isAt 21 = .ok (.ireturn, 1) := dk_172 (dk_at dksX6_isAt_0 21 rfl rfl)
abbrev cX6_far : ByteArray := prog_40_method_2_code
def yX6_far : MethodName := ⟨RX6, "far", "(LHamletWells$Standing;)I"⟩
def dkwX6_far_1 : List UInt8 := [96, 172]
abbrev dktX6_far_1 : List UInt8 := dkwX6_far_1 ++ []
def dkwX6_far_0 : List UInt8 := [42, 180, 0, 13, 43, 180, 0, 13, 100, 184, 0, 19, 42, 180, 0, 16, 43, 180, 0, 16, 100, 184, 0, 19]
abbrev dktX6_far_0 : List UInt8 := dkwX6_far_0 ++ dktX6_far_1
theorem dksX6_far_0 : cX6_far.data.toList.drop 0 = dktX6_far_0 := by decide +kernel
theorem dksX6_far_1 : cX6_far.data.toList.drop 24 = dktX6_far_1 := dk_seg dksX6_far_0 24 rfl rfl
theorem dX6_far_0 : decode cX6_far 0 = .ok (.aload_n 0, 1) := dk_42 (dk_at dksX6_far_0 0 rfl rfl)
theorem dX6_far_1 : decode cX6_far 1 = .ok (.getfield 13, 3) := dk_180 0 13 (dk_at dksX6_far_0 1 rfl rfl)
theorem dX6_far_4 : decode cX6_far 4 = .ok (.aload_n 1, 1) := dk_43 (dk_at dksX6_far_0 4 rfl rfl)
theorem dX6_far_5 : decode cX6_far 5 = .ok (.getfield 13, 3) := dk_180 0 13 (dk_at dksX6_far_0 5 rfl rfl)
theorem dX6_far_8 : decode cX6_far 8 = .ok (.isub, 1) := dk_100 (dk_at dksX6_far_0 8 rfl rfl)
theorem dX6_far_9 : decode cX6_far 9 = .ok (.invokestatic 19, 3) := dk_184 0 19 (dk_at dksX6_far_0 9 rfl rfl)
theorem dX6_far_12 : decode cX6_far 12 = .ok (.aload_n 0, 1) := dk_42 (dk_at dksX6_far_0 12 rfl rfl)
theorem dX6_far_13 : decode cX6_far 13 = .ok (.getfield 16, 3) := dk_180 0 16 (dk_at dksX6_far_0 13 rfl rfl)
theorem dX6_far_16 : decode cX6_far 16 = .ok (.aload_n 1, 1) := dk_43 (dk_at dksX6_far_0 16 rfl rfl)
theorem dX6_far_17 : decode cX6_far 17 = .ok (.getfield 16, 3) := dk_180 0 16 (dk_at dksX6_far_0 17 rfl rfl)
theorem dX6_far_20 : decode cX6_far 20 = .ok (.isub, 1) := dk_100 (dk_at dksX6_far_0 20 rfl rfl)
theorem dX6_far_21 : decode cX6_far 21 = .ok (.invokestatic 19, 3) := dk_184 0 19 (dk_at dksX6_far_0 21 rfl rfl)
theorem dX6_far_24 : decode cX6_far 24 = .ok (.iadd, 1) := dk_96 (dk_at dksX6_far_1 0 rfl rfl)
theorem dX6_far_25 : decode cX6_far 25 = .ok (.ireturn, 1) := dk_172 (dk_at dksX6_far_1 1 rfl rfl)
theorem q136 : (Jvm.Cond.initialized "HamletWells$Standing") ∈ lw_all := lw_g (lw_at lw_m1 27 rfl) rfl
theorem q964 : (Jvm.Cond.instanceMethod ({ cls := "HamletWells$Standing", name := "<init>", desc := "(III)V" } : Jvm.MethodName)) ∈ lw_all := lw_g (lw_at lw_m4 135 rfl) rfl
theorem q965 : (Jvm.Cond.code ({ cls := "HamletWells$Standing", name := "<init>", desc := "(III)V" } : Jvm.MethodName) prog_40_method_1_code (4 : Nat) (Option.none : Option Jvm.ClassFile.FieldType)) ∈ lw_all := lw_g (lw_at lw_m4 136 rfl) rfl
theorem q966 : (Jvm.Cond.methodLink "HamletWells$Standing" (1 : Nat) ({ cls := "java/lang/Object", name := "<init>", desc := "()V" } : Jvm.MethodName)) ∈ lw_all := lw_g (lw_at lw_m4 137 rfl) rfl
theorem q986 : (Jvm.Cond.fieldLink "HamletWells$Standing" (7 : Nat) "HamletWells$Standing" "number" "I") ∈ lw_all := lw_g (lw_at lw_m4 157 rfl) rfl
theorem q999 : (Jvm.Cond.fieldLink "HamletWells$Standing" (13 : Nat) "HamletWells$Standing" "x" "I") ∈ lw_all := lw_g (lw_at lw_m4 170 rfl) rfl
theorem q1007 : (Jvm.Cond.fieldLink "HamletWells$Standing" (16 : Nat) "HamletWells$Standing" "y" "I") ∈ lw_all := lw_g (lw_at lw_m4 178 rfl) rfl
theorem q1024 : (Jvm.Cond.soleField "HamletWells$Standing" "number") ∈ lw_all := lw_g (lw_at lw_m4 195 rfl) rfl
theorem q1026 : (Jvm.Cond.soleField "HamletWells$Standing" "x") ∈ lw_all := lw_g (lw_at lw_m4 197 rfl) rfl
theorem q1028 : (Jvm.Cond.soleField "HamletWells$Standing" "y") ∈ lw_all := lw_g (lw_at lw_m4 199 rfl) rfl
theorem q1159 : (Jvm.Cond.instanceMethod ({ cls := "HamletWells$Standing", name := "isAt", desc := "(II)Z" } : Jvm.MethodName)) ∈ lw_all := lw_g (lw_at lw_m5 90 rfl) rfl
theorem q1160 : (Jvm.Cond.sameMethod "HamletWells$Standing" "HamletWells$Standing" "isAt" "(II)Z") ∈ lw_all := lw_g (lw_at lw_m5 91 rfl) rfl
theorem q1163 : (Jvm.Cond.code ({ cls := "HamletWells$Standing", name := "isAt", desc := "(II)Z" } : Jvm.MethodName) prog_40_method_3_code (3 : Nat) (Option.some Jvm.ClassFile.FieldType.boolean)) ∈ lw_all := lw_g (lw_at lw_m5 94 rfl) rfl
theorem q1247 : (Jvm.Cond.declares ({ cls := "HamletWells$Standing", name := "far", desc := "(LHamletWells$Standing;)I" } : Jvm.MethodName)) ∈ lw_tbl := lw_at lw_m5 178 rfl
theorem q1249 : (Jvm.Cond.instanceMethod ({ cls := "HamletWells$Standing", name := "far", desc := "(LHamletWells$Standing;)I" } : Jvm.MethodName)) ∈ lw_all := lw_g (lw_at lw_m5 180 rfl) rfl
theorem q1250 : (Jvm.Cond.code ({ cls := "HamletWells$Standing", name := "far", desc := "(LHamletWells$Standing;)I" } : Jvm.MethodName) prog_40_method_2_code (2 : Nat) (Option.some Jvm.ClassFile.FieldType.int)) ∈ lw_all := lw_g (lw_at lw_m5 181 rfl) rfl
theorem q1251 : (Jvm.Cond.methodLink "HamletWells$Standing" (19 : Nat) ({ cls := "java/lang/Math", name := "abs", desc := "(I)I" } : Jvm.MethodName)) ∈ lw_all := lw_g (lw_at lw_m5 182 rfl) rfl
/-! HamletWells$Hamlet -/
set_option maxRecDepth 100000
def RX7 : String := "HamletWells$Hamlet"
def TX7 : u_T := fun k => match k with
  | 0 => ("HamletWells$Standing", "number", "I", true)
  | 1 => ("HamletWells$Standing", "x", "I", true)
  | 2 => ("HamletWells$Standing", "y", "I", true)
  | 3 => ("HamletWells$Hamlet", "people", "I", true)
  | 4 => ("HamletWells$Hamlet", "thirst", "I", false)
  | 5 => ("HamletWells$Hamlet", "got", "I", false)
  | _ => ("HamletWells$Hamlet", "paid", "I", false)
def tyX7 : Nat → FieldType := fun k => match k with
  | 0 => .int
  | 1 => .int
  | 2 => .int
  | 3 => .int
  | 4 => .int
  | 5 => .int
  | _ => .int
abbrev wsX70 : List Cond := u_ws RX7 TX7 7
theorem nmX7 : ∀ a, a < 7 → ∀ b, b < 7 → a ≠ b → (TX7 a).2.1 ≠ (TX7 b).2.1 := by decide +kernel
theorem tyX7_ok : ∀ k, k < 7 → parseFieldDescriptor (TX7 k).2.2.1 = some (tyX7 k) := by decide +kernel
abbrev cX7_init : ByteArray := prog_22_method_2_code
def yX7_init : MethodName := ⟨RX7, "<init>", "(LHamletWells$Hamlet;)V"⟩
def dkwX7_init_1 : List UInt8 := [180, 0, 25, 181, 0, 25, 42, 43, 180, 0, 28, 181, 0, 28, 42, 43, 180, 0, 31, 181, 0, 31, 177]
abbrev dktX7_init_1 : List UInt8 := dkwX7_init_1 ++ []
def dkwX7_init_0 : List UInt8 := [42, 43, 180, 0, 13, 43, 180, 0, 16, 43, 180, 0, 19, 43, 180, 0, 7, 183, 0, 22, 42, 43]
abbrev dktX7_init_0 : List UInt8 := dkwX7_init_0 ++ dktX7_init_1
theorem dksX7_init_0 : cX7_init.data.toList.drop 0 = dktX7_init_0 := by decide +kernel
theorem dksX7_init_1 : cX7_init.data.toList.drop 22 = dktX7_init_1 := dk_seg dksX7_init_0 22 rfl rfl
theorem dX7_init_0 : decode cX7_init 0 = .ok (.aload_n 0, 1) := dk_42 (dk_at dksX7_init_0 0 rfl rfl)
theorem dX7_init_1 : decode cX7_init 1 = .ok (.aload_n 1, 1) := dk_43 (dk_at dksX7_init_0 1 rfl rfl)
theorem dX7_init_2 : decode cX7_init 2 = .ok (.getfield 13, 3) := dk_180 0 13 (dk_at dksX7_init_0 2 rfl rfl)
theorem dX7_init_5 : decode cX7_init 5 = .ok (.aload_n 1, 1) := dk_43 (dk_at dksX7_init_0 5 rfl rfl)
theorem dX7_init_6 : decode cX7_init 6 = .ok (.getfield 16, 3) := dk_180 0 16 (dk_at dksX7_init_0 6 rfl rfl)
theorem dX7_init_9 : decode cX7_init 9 = .ok (.aload_n 1, 1) := dk_43 (dk_at dksX7_init_0 9 rfl rfl)
theorem dX7_init_10 : decode cX7_init 10 = .ok (.getfield 19, 3) := dk_180 0 19 (dk_at dksX7_init_0 10 rfl rfl)
theorem dX7_init_13 : decode cX7_init 13 = .ok (.aload_n 1, 1) := dk_43 (dk_at dksX7_init_0 13 rfl rfl)
theorem dX7_init_14 : decode cX7_init 14 = .ok (.getfield 7, 3) := dk_180 0 7 (dk_at dksX7_init_0 14 rfl rfl)
theorem dX7_init_17 : decode cX7_init 17 = .ok (.invokespecial 22, 3) := dk_183 0 22 (dk_at dksX7_init_0 17 rfl rfl)
theorem dX7_init_20 : decode cX7_init 20 = .ok (.aload_n 0, 1) := dk_42 (dk_at dksX7_init_0 20 rfl rfl)
theorem dX7_init_21 : decode cX7_init 21 = .ok (.aload_n 1, 1) := dk_43 (dk_at dksX7_init_0 21 rfl rfl)
theorem dX7_init_22 : decode cX7_init 22 = .ok (.getfield 25, 3) := dk_180 0 25 (dk_at dksX7_init_1 0 rfl rfl)
theorem dX7_init_25 : decode cX7_init 25 = .ok (.putfield 25, 3) := dk_181 0 25 (dk_at dksX7_init_1 3 rfl rfl)
theorem dX7_init_28 : decode cX7_init 28 = .ok (.aload_n 0, 1) := dk_42 (dk_at dksX7_init_1 6 rfl rfl)
theorem dX7_init_29 : decode cX7_init 29 = .ok (.aload_n 1, 1) := dk_43 (dk_at dksX7_init_1 7 rfl rfl)
theorem dX7_init_30 : decode cX7_init 30 = .ok (.getfield 28, 3) := dk_180 0 28 (dk_at dksX7_init_1 8 rfl rfl)
theorem dX7_init_33 : decode cX7_init 33 = .ok (.putfield 28, 3) := dk_181 0 28 (dk_at dksX7_init_1 11 rfl rfl)
theorem dX7_init_36 : decode cX7_init 36 = .ok (.aload_n 0, 1) := dk_42 (dk_at dksX7_init_1 14 rfl rfl)
theorem dX7_init_37 : decode cX7_init 37 = .ok (.aload_n 1, 1) := dk_43 (dk_at dksX7_init_1 15 rfl rfl)
theorem dX7_init_38 : decode cX7_init 38 = .ok (.getfield 31, 3) := dk_180 0 31 (dk_at dksX7_init_1 16 rfl rfl)
theorem dX7_init_41 : decode cX7_init 41 = .ok (.putfield 31, 3) := dk_181 0 31 (dk_at dksX7_init_1 19 rfl rfl)
theorem dX7_init_44 : decode cX7_init 44 = .ok (.return_, 1) := dk_177 (dk_at dksX7_init_1 22 rfl rfl)
abbrev cX7_init_2 : ByteArray := prog_22_method_1_code
def yX7_init_2 : MethodName := ⟨RX7, "<init>", "(IIII)V"⟩
def dkwX7_init_2_0 : List UInt8 := [42, 27, 28, 29, 183, 0, 1, 42, 21, 4, 181, 0, 7, 177]
abbrev dktX7_init_2_0 : List UInt8 := dkwX7_init_2_0 ++ []
theorem dksX7_init_2_0 : cX7_init_2.data.toList.drop 0 = dktX7_init_2_0 := by decide +kernel
theorem dX7_init_2_0 : decode cX7_init_2 0 = .ok (.aload_n 0, 1) := dk_42 (dk_at dksX7_init_2_0 0 rfl rfl)
theorem dX7_init_2_1 : decode cX7_init_2 1 = .ok (.iload_n 1, 1) := dk_27 (dk_at dksX7_init_2_0 1 rfl rfl)
theorem dX7_init_2_2 : decode cX7_init_2 2 = .ok (.iload_n 2, 1) := dk_28 (dk_at dksX7_init_2_0 2 rfl rfl)
theorem dX7_init_2_3 : decode cX7_init_2 3 = .ok (.iload_n 3, 1) := dk_29 (dk_at dksX7_init_2_0 3 rfl rfl)
theorem dX7_init_2_4 : decode cX7_init_2 4 = .ok (.invokespecial 1, 3) := dk_183 0 1 (dk_at dksX7_init_2_0 4 rfl rfl)
theorem dX7_init_2_7 : decode cX7_init_2 7 = .ok (.aload_n 0, 1) := dk_42 (dk_at dksX7_init_2_0 7 rfl rfl)
theorem dX7_init_2_8 : decode cX7_init_2 8 = .ok (.iload 4, 2) := dk_21 4 (dk_at dksX7_init_2_0 8 rfl rfl)
theorem dX7_init_2_10 : decode cX7_init_2 10 = .ok (.putfield 7, 3) := dk_181 0 7 (dk_at dksX7_init_2_0 10 rfl rfl)
theorem dX7_init_2_13 : decode cX7_init_2 13 = .ok (.return_, 1) := dk_177 (dk_at dksX7_init_2_0 13 rfl rfl)
theorem q137 : (Jvm.Cond.initialized "HamletWells$Hamlet") ∈ lw_all := lw_g (lw_at lw_m1 28 rfl) rfl
theorem q622 : (Jvm.Cond.selects "HamletWells$Hamlet" ({ cls := "java/lang/Object", name := "getClass", desc := "()Ljava/lang/Class;" } : Jvm.MethodName) ({ cls := "java/lang/Object", name := "getClass", desc := "()Ljava/lang/Class;" } : Jvm.MethodName)) ∈ lw_all := lw_g (lw_at lw_m3 33 rfl) rfl
theorem q956 : (Jvm.Cond.instantiable "HamletWells$Hamlet" (7 : Nat)) ∈ lw_all := lw_g (lw_at lw_m4 127 rfl) rfl
theorem q958 : (Jvm.Cond.instanceMethod ({ cls := "HamletWells$Hamlet", name := "<init>", desc := "(LHamletWells$Hamlet;)V" } : Jvm.MethodName)) ∈ lw_all := lw_g (lw_at lw_m4 129 rfl) rfl
theorem q959 : (Jvm.Cond.code ({ cls := "HamletWells$Hamlet", name := "<init>", desc := "(LHamletWells$Hamlet;)V" } : Jvm.MethodName) prog_22_method_2_code (2 : Nat) (Option.none : Option Jvm.ClassFile.FieldType)) ∈ lw_all := lw_g (lw_at lw_m4 130 rfl) rfl
theorem q960 : (Jvm.Cond.methodLink "HamletWells$Hamlet" (22 : Nat) ({ cls := "HamletWells$Hamlet", name := "<init>", desc := "(IIII)V" } : Jvm.MethodName)) ∈ lw_all := lw_g (lw_at lw_m4 131 rfl) rfl
theorem q961 : (Jvm.Cond.instanceMethod ({ cls := "HamletWells$Hamlet", name := "<init>", desc := "(IIII)V" } : Jvm.MethodName)) ∈ lw_all := lw_g (lw_at lw_m4 132 rfl) rfl
theorem q962 : (Jvm.Cond.code ({ cls := "HamletWells$Hamlet", name := "<init>", desc := "(IIII)V" } : Jvm.MethodName) prog_22_method_1_code (5 : Nat) (Option.none : Option Jvm.ClassFile.FieldType)) ∈ lw_all := lw_g (lw_at lw_m4 133 rfl) rfl
theorem q963 : (Jvm.Cond.methodLink "HamletWells$Hamlet" (1 : Nat) ({ cls := "HamletWells$Standing", name := "<init>", desc := "(III)V" } : Jvm.MethodName)) ∈ lw_all := lw_g (lw_at lw_m4 134 rfl) rfl
theorem q967 : (Jvm.Cond.fieldLink "HamletWells$Hamlet" (7 : Nat) "HamletWells$Hamlet" "people" "I") ∈ lw_all := lw_g (lw_at lw_m4 138 rfl) rfl
theorem q976 : (Jvm.Cond.fieldLink "HamletWells$Hamlet" (25 : Nat) "HamletWells$Hamlet" "thirst" "I") ∈ lw_all := lw_g (lw_at lw_m4 147 rfl) rfl
theorem q980 : (Jvm.Cond.fieldLink "HamletWells$Hamlet" (28 : Nat) "HamletWells$Hamlet" "got" "I") ∈ lw_all := lw_g (lw_at lw_m4 151 rfl) rfl
theorem q983 : (Jvm.Cond.fieldLink "HamletWells$Hamlet" (31 : Nat) "HamletWells$Hamlet" "paid" "I") ∈ lw_all := lw_g (lw_at lw_m4 154 rfl) rfl
theorem q987 : (Jvm.Cond.fieldLink "HamletWells$Hamlet" (13 : Nat) "HamletWells$Hamlet" "number" "I") ∈ lw_all := lw_g (lw_at lw_m4 158 rfl) rfl
theorem q988 : (Jvm.Cond.sameField "HamletWells$Hamlet" "HamletWells$Standing" "number" "I") ∈ lw_all := lw_g (lw_at lw_m4 159 rfl) rfl
theorem q1000 : (Jvm.Cond.fieldLink "HamletWells$Hamlet" (16 : Nat) "HamletWells$Hamlet" "x" "I") ∈ lw_all := lw_g (lw_at lw_m4 171 rfl) rfl
theorem q1001 : (Jvm.Cond.sameField "HamletWells$Hamlet" "HamletWells$Standing" "x" "I") ∈ lw_all := lw_g (lw_at lw_m4 172 rfl) rfl
theorem q1008 : (Jvm.Cond.fieldLink "HamletWells$Hamlet" (19 : Nat) "HamletWells$Hamlet" "y" "I") ∈ lw_all := lw_g (lw_at lw_m4 179 rfl) rfl
theorem q1009 : (Jvm.Cond.sameField "HamletWells$Hamlet" "HamletWells$Standing" "y" "I") ∈ lw_all := lw_g (lw_at lw_m4 180 rfl) rfl
theorem q1015 : (Jvm.Cond.laysFinal "HamletWells$Hamlet" "HamletWells$Hamlet" "people" "I") ∈ lw_all := lw_g (lw_at lw_m4 186 rfl) rfl
theorem q1016 : (Jvm.Cond.soleField "HamletWells$Hamlet" "people") ∈ lw_all := lw_g (lw_at lw_m4 187 rfl) rfl
theorem q1017 : (Jvm.Cond.lays "HamletWells$Hamlet" "HamletWells$Hamlet" "thirst" "I") ∈ lw_all := lw_g (lw_at lw_m4 188 rfl) rfl
theorem q1018 : (Jvm.Cond.soleField "HamletWells$Hamlet" "thirst") ∈ lw_all := lw_g (lw_at lw_m4 189 rfl) rfl
theorem q1019 : (Jvm.Cond.lays "HamletWells$Hamlet" "HamletWells$Hamlet" "got" "I") ∈ lw_all := lw_g (lw_at lw_m4 190 rfl) rfl
theorem q1020 : (Jvm.Cond.soleField "HamletWells$Hamlet" "got") ∈ lw_all := lw_g (lw_at lw_m4 191 rfl) rfl
theorem q1021 : (Jvm.Cond.lays "HamletWells$Hamlet" "HamletWells$Hamlet" "paid" "I") ∈ lw_all := lw_g (lw_at lw_m4 192 rfl) rfl
theorem q1022 : (Jvm.Cond.soleField "HamletWells$Hamlet" "paid") ∈ lw_all := lw_g (lw_at lw_m4 193 rfl) rfl
theorem q1023 : (Jvm.Cond.laysFinal "HamletWells$Hamlet" "HamletWells$Standing" "number" "I") ∈ lw_all := lw_g (lw_at lw_m4 194 rfl) rfl
theorem q1025 : (Jvm.Cond.laysFinal "HamletWells$Hamlet" "HamletWells$Standing" "x" "I") ∈ lw_all := lw_g (lw_at lw_m4 196 rfl) rfl
theorem q1027 : (Jvm.Cond.laysFinal "HamletWells$Hamlet" "HamletWells$Standing" "y" "I") ∈ lw_all := lw_g (lw_at lw_m4 198 rfl) rfl
theorem q1029 : (Jvm.Cond.superclass "HamletWells$Hamlet" "HamletWells$Standing") ∈ lw_all := lw_g (lw_at lw_m4 200 rfl) rfl
theorem q1161 : (Jvm.Cond.selects "HamletWells$Hamlet" ({ cls := "HamletWells$Standing", name := "isAt", desc := "(II)Z" } : Jvm.MethodName) ({ cls := "HamletWells$Standing", name := "isAt", desc := "(II)Z" } : Jvm.MethodName)) ∈ lw_all := lw_g (lw_at lw_m5 92 rfl) rfl
theorem q3492 : (Jvm.Cond.castable "HamletWells$Hamlet" "HamletWells$Standing") ∈ lw_tbl := lw_at lw_m15 23 rfl
theorem q3508 : (Jvm.Cond.castable "HamletWells$Hamlet" "java/lang/Object") ∈ lw_tbl := lw_at lw_m15 39 rfl
theorem in_X7 : ∀ w ∈ wsX70, w ∈ lw_all := lw_in wsX70 [1023, 1025, 1027, 1015, 1017, 1019, 1021] (by decide +kernel) (by decide +kernel)
/-! HamletWells$Site -/
set_option maxRecDepth 100000
def RX8 : String := "HamletWells$Site"
def TX8 : u_T := fun k => match k with
  | 0 => ("HamletWells$Standing", "number", "I", true)
  | 1 => ("HamletWells$Standing", "x", "I", true)
  | 2 => ("HamletWells$Standing", "y", "I", true)
  | 3 => ("HamletWells$Site", "told", "I", true)
  | 4 => ("HamletWells$Site", "cost", "I", true)
  | 5 => ("HamletWells$Site", "depth", "I", false)
  | 6 => ("HamletWells$Site", "isOpen", "Z", false)
  | 7 => ("HamletWells$Site", "hasPump", "Z", false)
  | _ => ("HamletWells$Site", "given", "I", false)
def tyX8 : Nat → FieldType := fun k => match k with
  | 0 => .int
  | 1 => .int
  | 2 => .int
  | 3 => .int
  | 4 => .int
  | 5 => .int
  | 6 => .boolean
  | 7 => .boolean
  | _ => .int
abbrev wsX80 : List Cond := u_ws RX8 TX8 9
theorem nmX8 : ∀ a, a < 9 → ∀ b, b < 9 → a ≠ b → (TX8 a).2.1 ≠ (TX8 b).2.1 := by decide +kernel
theorem tyX8_ok : ∀ k, k < 9 → parseFieldDescriptor (TX8 k).2.2.1 = some (tyX8 k) := by decide +kernel
abbrev cX8_init : ByteArray := prog_39_method_2_code
def yX8_init : MethodName := ⟨RX8, "<init>", "(LHamletWells$Site;)V"⟩
def dkwX8_init_2 : List UInt8 := [42, 43, 180, 0, 40, 181, 0, 40, 177]
abbrev dktX8_init_2 : List UInt8 := dkwX8_init_2 ++ []
def dkwX8_init_1 : List UInt8 := [42, 43, 180, 0, 15, 181, 0, 15, 42, 43, 180, 0, 33, 181, 0, 33, 42, 43, 180, 0, 37, 181, 0, 37]
abbrev dktX8_init_1 : List UInt8 := dkwX8_init_1 ++ dktX8_init_2
def dkwX8_init_0 : List UInt8 := [42, 43, 180, 0, 21, 43, 180, 0, 24, 43, 180, 0, 27, 43, 180, 0, 9, 43, 180, 0, 18, 183, 0, 30]
abbrev dktX8_init_0 : List UInt8 := dkwX8_init_0 ++ dktX8_init_1
theorem dksX8_init_0 : cX8_init.data.toList.drop 0 = dktX8_init_0 := by decide +kernel
theorem dksX8_init_1 : cX8_init.data.toList.drop 24 = dktX8_init_1 := dk_seg dksX8_init_0 24 rfl rfl
theorem dksX8_init_2 : cX8_init.data.toList.drop 48 = dktX8_init_2 := dk_seg dksX8_init_1 24 rfl rfl
theorem dX8_init_0 : decode cX8_init 0 = .ok (.aload_n 0, 1) := dk_42 (dk_at dksX8_init_0 0 rfl rfl)
theorem dX8_init_1 : decode cX8_init 1 = .ok (.aload_n 1, 1) := dk_43 (dk_at dksX8_init_0 1 rfl rfl)
theorem dX8_init_2 : decode cX8_init 2 = .ok (.getfield 21, 3) := dk_180 0 21 (dk_at dksX8_init_0 2 rfl rfl)
theorem dX8_init_5 : decode cX8_init 5 = .ok (.aload_n 1, 1) := dk_43 (dk_at dksX8_init_0 5 rfl rfl)
theorem dX8_init_6 : decode cX8_init 6 = .ok (.getfield 24, 3) := dk_180 0 24 (dk_at dksX8_init_0 6 rfl rfl)
theorem dX8_init_9 : decode cX8_init 9 = .ok (.aload_n 1, 1) := dk_43 (dk_at dksX8_init_0 9 rfl rfl)
theorem dX8_init_10 : decode cX8_init 10 = .ok (.getfield 27, 3) := dk_180 0 27 (dk_at dksX8_init_0 10 rfl rfl)
theorem dX8_init_13 : decode cX8_init 13 = .ok (.aload_n 1, 1) := dk_43 (dk_at dksX8_init_0 13 rfl rfl)
theorem dX8_init_14 : decode cX8_init 14 = .ok (.getfield 9, 3) := dk_180 0 9 (dk_at dksX8_init_0 14 rfl rfl)
theorem dX8_init_17 : decode cX8_init 17 = .ok (.aload_n 1, 1) := dk_43 (dk_at dksX8_init_0 17 rfl rfl)
theorem dX8_init_18 : decode cX8_init 18 = .ok (.getfield 18, 3) := dk_180 0 18 (dk_at dksX8_init_0 18 rfl rfl)
theorem dX8_init_21 : decode cX8_init 21 = .ok (.invokespecial 30, 3) := dk_183 0 30 (dk_at dksX8_init_0 21 rfl rfl)
theorem dX8_init_24 : decode cX8_init 24 = .ok (.aload_n 0, 1) := dk_42 (dk_at dksX8_init_1 0 rfl rfl)
theorem dX8_init_25 : decode cX8_init 25 = .ok (.aload_n 1, 1) := dk_43 (dk_at dksX8_init_1 1 rfl rfl)
theorem dX8_init_26 : decode cX8_init 26 = .ok (.getfield 15, 3) := dk_180 0 15 (dk_at dksX8_init_1 2 rfl rfl)
theorem dX8_init_29 : decode cX8_init 29 = .ok (.putfield 15, 3) := dk_181 0 15 (dk_at dksX8_init_1 5 rfl rfl)
theorem dX8_init_32 : decode cX8_init 32 = .ok (.aload_n 0, 1) := dk_42 (dk_at dksX8_init_1 8 rfl rfl)
theorem dX8_init_33 : decode cX8_init 33 = .ok (.aload_n 1, 1) := dk_43 (dk_at dksX8_init_1 9 rfl rfl)
theorem dX8_init_34 : decode cX8_init 34 = .ok (.getfield 33, 3) := dk_180 0 33 (dk_at dksX8_init_1 10 rfl rfl)
theorem dX8_init_37 : decode cX8_init 37 = .ok (.putfield 33, 3) := dk_181 0 33 (dk_at dksX8_init_1 13 rfl rfl)
theorem dX8_init_40 : decode cX8_init 40 = .ok (.aload_n 0, 1) := dk_42 (dk_at dksX8_init_1 16 rfl rfl)
theorem dX8_init_41 : decode cX8_init 41 = .ok (.aload_n 1, 1) := dk_43 (dk_at dksX8_init_1 17 rfl rfl)
theorem dX8_init_42 : decode cX8_init 42 = .ok (.getfield 37, 3) := dk_180 0 37 (dk_at dksX8_init_1 18 rfl rfl)
theorem dX8_init_45 : decode cX8_init 45 = .ok (.putfield 37, 3) := dk_181 0 37 (dk_at dksX8_init_1 21 rfl rfl)
theorem dX8_init_48 : decode cX8_init 48 = .ok (.aload_n 0, 1) := dk_42 (dk_at dksX8_init_2 0 rfl rfl)
theorem dX8_init_49 : decode cX8_init 49 = .ok (.aload_n 1, 1) := dk_43 (dk_at dksX8_init_2 1 rfl rfl)
theorem dX8_init_50 : decode cX8_init 50 = .ok (.getfield 40, 3) := dk_180 0 40 (dk_at dksX8_init_2 2 rfl rfl)
theorem dX8_init_53 : decode cX8_init 53 = .ok (.putfield 40, 3) := dk_181 0 40 (dk_at dksX8_init_2 5 rfl rfl)
theorem dX8_init_56 : decode cX8_init 56 = .ok (.return_, 1) := dk_177 (dk_at dksX8_init_2 8 rfl rfl)
abbrev cX8_init_2 : ByteArray := prog_39_method_1_code
def yX8_init_2 : MethodName := ⟨RX8, "<init>", "(IIIII)V"⟩
def dkwX8_init_2_1 : List UInt8 := [181, 0, 18, 177]
abbrev dktX8_init_2_1 : List UInt8 := dkwX8_init_2_1 ++ []
def dkwX8_init_2_0 : List UInt8 := [42, 27, 28, 29, 183, 0, 3, 42, 21, 4, 181, 0, 9, 42, 21, 4, 181, 0, 15, 42, 21, 5]
abbrev dktX8_init_2_0 : List UInt8 := dkwX8_init_2_0 ++ dktX8_init_2_1
theorem dksX8_init_2_0 : cX8_init_2.data.toList.drop 0 = dktX8_init_2_0 := by decide +kernel
theorem dksX8_init_2_1 : cX8_init_2.data.toList.drop 22 = dktX8_init_2_1 := dk_seg dksX8_init_2_0 22 rfl rfl
theorem dX8_init_2_0 : decode cX8_init_2 0 = .ok (.aload_n 0, 1) := dk_42 (dk_at dksX8_init_2_0 0 rfl rfl)
theorem dX8_init_2_1 : decode cX8_init_2 1 = .ok (.iload_n 1, 1) := dk_27 (dk_at dksX8_init_2_0 1 rfl rfl)
theorem dX8_init_2_2 : decode cX8_init_2 2 = .ok (.iload_n 2, 1) := dk_28 (dk_at dksX8_init_2_0 2 rfl rfl)
theorem dX8_init_2_3 : decode cX8_init_2 3 = .ok (.iload_n 3, 1) := dk_29 (dk_at dksX8_init_2_0 3 rfl rfl)
theorem dX8_init_2_4 : decode cX8_init_2 4 = .ok (.invokespecial 3, 3) := dk_183 0 3 (dk_at dksX8_init_2_0 4 rfl rfl)
theorem dX8_init_2_7 : decode cX8_init_2 7 = .ok (.aload_n 0, 1) := dk_42 (dk_at dksX8_init_2_0 7 rfl rfl)
theorem dX8_init_2_8 : decode cX8_init_2 8 = .ok (.iload 4, 2) := dk_21 4 (dk_at dksX8_init_2_0 8 rfl rfl)
theorem dX8_init_2_10 : decode cX8_init_2 10 = .ok (.putfield 9, 3) := dk_181 0 9 (dk_at dksX8_init_2_0 10 rfl rfl)
theorem dX8_init_2_13 : decode cX8_init_2 13 = .ok (.aload_n 0, 1) := dk_42 (dk_at dksX8_init_2_0 13 rfl rfl)
theorem dX8_init_2_14 : decode cX8_init_2 14 = .ok (.iload 4, 2) := dk_21 4 (dk_at dksX8_init_2_0 14 rfl rfl)
theorem dX8_init_2_16 : decode cX8_init_2 16 = .ok (.putfield 15, 3) := dk_181 0 15 (dk_at dksX8_init_2_0 16 rfl rfl)
theorem dX8_init_2_19 : decode cX8_init_2 19 = .ok (.aload_n 0, 1) := dk_42 (dk_at dksX8_init_2_0 19 rfl rfl)
theorem dX8_init_2_20 : decode cX8_init_2 20 = .ok (.iload 5, 2) := dk_21 5 (dk_at dksX8_init_2_0 20 rfl rfl)
theorem dX8_init_2_22 : decode cX8_init_2 22 = .ok (.putfield 18, 3) := dk_181 0 18 (dk_at dksX8_init_2_1 0 rfl rfl)
theorem dX8_init_2_25 : decode cX8_init_2 25 = .ok (.return_, 1) := dk_177 (dk_at dksX8_init_2_1 3 rfl rfl)
abbrev cX8_gives : ByteArray := prog_39_method_4_code
def yX8_gives : MethodName := ⟨RX8, "gives", "()I"⟩
def dkwX8_gives_1 : List UInt8 := [7, 108, 100, 184, 0, 43, 172]
abbrev dktX8_gives_1 : List UInt8 := dkwX8_gives_1 ++ []
def dkwX8_gives_0 : List UInt8 := [3, 42, 180, 0, 37, 153, 0, 13, 16, 40, 42, 180, 0, 15, 100, 167, 0, 12, 16, 10, 42, 180, 0, 15]
abbrev dktX8_gives_0 : List UInt8 := dkwX8_gives_0 ++ dktX8_gives_1
theorem dksX8_gives_0 : cX8_gives.data.toList.drop 0 = dktX8_gives_0 := by decide +kernel
theorem dksX8_gives_1 : cX8_gives.data.toList.drop 24 = dktX8_gives_1 := dk_seg dksX8_gives_0 24 rfl rfl
theorem dX8_gives_0 : decode cX8_gives 0 = .ok (.iconst 0, 1) := dk_3 (dk_at dksX8_gives_0 0 rfl rfl)
theorem dX8_gives_1 : decode cX8_gives 1 = .ok (.aload_n 0, 1) := dk_42 (dk_at dksX8_gives_0 1 rfl rfl)
theorem dX8_gives_2 : decode cX8_gives 2 = .ok (.getfield 37, 3) := dk_180 0 37 (dk_at dksX8_gives_0 2 rfl rfl)
theorem dX8_gives_5 : decode cX8_gives 5 = .ok (.ifCond .eq 13, 3) := dk_153 0 13 (dk_at dksX8_gives_0 5 rfl rfl)
theorem dX8_gives_8 : decode cX8_gives 8 = .ok (.bipush 40, 2) := dk_16 40 (dk_at dksX8_gives_0 8 rfl rfl)
theorem dX8_gives_10 : decode cX8_gives 10 = .ok (.aload_n 0, 1) := dk_42 (dk_at dksX8_gives_0 10 rfl rfl)
theorem dX8_gives_11 : decode cX8_gives 11 = .ok (.getfield 15, 3) := dk_180 0 15 (dk_at dksX8_gives_0 11 rfl rfl)
theorem dX8_gives_14 : decode cX8_gives 14 = .ok (.isub, 1) := dk_100 (dk_at dksX8_gives_0 14 rfl rfl)
theorem dX8_gives_15 : decode cX8_gives 15 = .ok (.goto 12, 3) := dk_167 0 12 (dk_at dksX8_gives_0 15 rfl rfl)
theorem dX8_gives_18 : decode cX8_gives 18 = .ok (.bipush 10, 2) := dk_16 10 (dk_at dksX8_gives_0 18 rfl rfl)
theorem dX8_gives_20 : decode cX8_gives 20 = .ok (.aload_n 0, 1) := dk_42 (dk_at dksX8_gives_0 20 rfl rfl)
theorem dX8_gives_21 : decode cX8_gives 21 = .ok (.getfield 15, 3) := dk_180 0 15 (dk_at dksX8_gives_0 21 rfl rfl)
theorem dX8_gives_24 : decode cX8_gives 24 = .ok (.iconst 4, 1) := dk_7 (dk_at dksX8_gives_1 0 rfl rfl)
theorem dX8_gives_25 : decode cX8_gives 25 = .ok (.idiv, 1) := dk_108 (dk_at dksX8_gives_1 1 rfl rfl)
theorem dX8_gives_26 : decode cX8_gives 26 = .ok (.isub, 1) := dk_100 (dk_at dksX8_gives_1 2 rfl rfl)
theorem dX8_gives_27 : decode cX8_gives 27 = .ok (.invokestatic 43, 3) := dk_184 0 43 (dk_at dksX8_gives_1 3 rfl rfl)
theorem dX8_gives_30 : decode cX8_gives 30 = .ok (.ireturn, 1) := dk_172 (dk_at dksX8_gives_1 6 rfl rfl)
abbrev cX8_sinks : ByteArray := prog_39_method_5_code
def yX8_sinks : MethodName := ⟨RX8, "sinks", "(I)V"⟩
def dkwX8_sinks_1 : List UInt8 := [96, 184, 0, 49, 167, 0, 16, 42, 180, 0, 9, 42, 180, 0, 15, 4, 100, 184, 0, 43, 181, 0, 15, 177]
abbrev dktX8_sinks_1 : List UInt8 := dkwX8_sinks_1 ++ []
def dkwX8_sinks_0 : List UInt8 := [42, 89, 180, 0, 40, 27, 96, 181, 0, 40, 42, 27, 16, 20, 161, 0, 17, 16, 40, 42, 180, 0, 15, 4]
abbrev dktX8_sinks_0 : List UInt8 := dkwX8_sinks_0 ++ dktX8_sinks_1
theorem dksX8_sinks_0 : cX8_sinks.data.toList.drop 0 = dktX8_sinks_0 := by decide +kernel
theorem dksX8_sinks_1 : cX8_sinks.data.toList.drop 24 = dktX8_sinks_1 := dk_seg dksX8_sinks_0 24 rfl rfl
theorem dX8_sinks_0 : decode cX8_sinks 0 = .ok (.aload_n 0, 1) := dk_42 (dk_at dksX8_sinks_0 0 rfl rfl)
theorem dX8_sinks_1 : decode cX8_sinks 1 = .ok (.dup, 1) := dk_89 (dk_at dksX8_sinks_0 1 rfl rfl)
theorem dX8_sinks_2 : decode cX8_sinks 2 = .ok (.getfield 40, 3) := dk_180 0 40 (dk_at dksX8_sinks_0 2 rfl rfl)
theorem dX8_sinks_5 : decode cX8_sinks 5 = .ok (.iload_n 1, 1) := dk_27 (dk_at dksX8_sinks_0 5 rfl rfl)
theorem dX8_sinks_6 : decode cX8_sinks 6 = .ok (.iadd, 1) := dk_96 (dk_at dksX8_sinks_0 6 rfl rfl)
theorem dX8_sinks_7 : decode cX8_sinks 7 = .ok (.putfield 40, 3) := dk_181 0 40 (dk_at dksX8_sinks_0 7 rfl rfl)
theorem dX8_sinks_10 : decode cX8_sinks 10 = .ok (.aload_n 0, 1) := dk_42 (dk_at dksX8_sinks_0 10 rfl rfl)
theorem dX8_sinks_11 : decode cX8_sinks 11 = .ok (.iload_n 1, 1) := dk_27 (dk_at dksX8_sinks_0 11 rfl rfl)
theorem dX8_sinks_12 : decode cX8_sinks 12 = .ok (.bipush 20, 2) := dk_16 20 (dk_at dksX8_sinks_0 12 rfl rfl)
theorem dX8_sinks_14 : decode cX8_sinks 14 = .ok (.if_icmp .lt 17, 3) := dk_161 0 17 (dk_at dksX8_sinks_0 14 rfl rfl)
theorem dX8_sinks_17 : decode cX8_sinks 17 = .ok (.bipush 40, 2) := dk_16 40 (dk_at dksX8_sinks_0 17 rfl rfl)
theorem dX8_sinks_19 : decode cX8_sinks 19 = .ok (.aload_n 0, 1) := dk_42 (dk_at dksX8_sinks_0 19 rfl rfl)
theorem dX8_sinks_20 : decode cX8_sinks 20 = .ok (.getfield 15, 3) := dk_180 0 15 (dk_at dksX8_sinks_0 20 rfl rfl)
theorem dX8_sinks_23 : decode cX8_sinks 23 = .ok (.iconst 1, 1) := dk_4 (dk_at dksX8_sinks_0 23 rfl rfl)
theorem dX8_sinks_24 : decode cX8_sinks 24 = .ok (.iadd, 1) := dk_96 (dk_at dksX8_sinks_1 0 rfl rfl)
theorem dX8_sinks_25 : decode cX8_sinks 25 = .ok (.invokestatic 49, 3) := dk_184 0 49 (dk_at dksX8_sinks_1 1 rfl rfl)
theorem dX8_sinks_28 : decode cX8_sinks 28 = .ok (.goto 16, 3) := dk_167 0 16 (dk_at dksX8_sinks_1 4 rfl rfl)
theorem dX8_sinks_31 : decode cX8_sinks 31 = .ok (.aload_n 0, 1) := dk_42 (dk_at dksX8_sinks_1 7 rfl rfl)
theorem dX8_sinks_32 : decode cX8_sinks 32 = .ok (.getfield 9, 3) := dk_180 0 9 (dk_at dksX8_sinks_1 8 rfl rfl)
theorem dX8_sinks_35 : decode cX8_sinks 35 = .ok (.aload_n 0, 1) := dk_42 (dk_at dksX8_sinks_1 11 rfl rfl)
theorem dX8_sinks_36 : decode cX8_sinks 36 = .ok (.getfield 15, 3) := dk_180 0 15 (dk_at dksX8_sinks_1 12 rfl rfl)
theorem dX8_sinks_39 : decode cX8_sinks 39 = .ok (.iconst 1, 1) := dk_4 (dk_at dksX8_sinks_1 15 rfl rfl)
theorem dX8_sinks_40 : decode cX8_sinks 40 = .ok (.isub, 1) := dk_100 (dk_at dksX8_sinks_1 16 rfl rfl)
theorem dX8_sinks_41 : decode cX8_sinks 41 = .ok (.invokestatic 43, 3) := dk_184 0 43 (dk_at dksX8_sinks_1 17 rfl rfl)
theorem dX8_sinks_44 : decode cX8_sinks 44 = .ok (.putfield 15, 3) := dk_181 0 15 (dk_at dksX8_sinks_1 20 rfl rfl)
theorem dX8_sinks_47 : decode cX8_sinks 47 = .ok (.return_, 1) := dk_177 (dk_at dksX8_sinks_1 23 rfl rfl)
abbrev cX8_opens : ByteArray := prog_39_method_3_code
def yX8_opens : MethodName := ⟨RX8, "opens", "()I"⟩
def dkwX8_opens_0 : List UInt8 := [42, 180, 0, 18, 42, 180, 0, 15, 7, 108, 96, 172]
abbrev dktX8_opens_0 : List UInt8 := dkwX8_opens_0 ++ []
theorem dksX8_opens_0 : cX8_opens.data.toList.drop 0 = dktX8_opens_0 := by decide +kernel
theorem dX8_opens_0 : decode cX8_opens 0 = .ok (.aload_n 0, 1) := dk_42 (dk_at dksX8_opens_0 0 rfl rfl)
theorem dX8_opens_1 : decode cX8_opens 1 = .ok (.getfield 18, 3) := dk_180 0 18 (dk_at dksX8_opens_0 1 rfl rfl)
theorem dX8_opens_4 : decode cX8_opens 4 = .ok (.aload_n 0, 1) := dk_42 (dk_at dksX8_opens_0 4 rfl rfl)
theorem dX8_opens_5 : decode cX8_opens 5 = .ok (.getfield 15, 3) := dk_180 0 15 (dk_at dksX8_opens_0 5 rfl rfl)
theorem dX8_opens_8 : decode cX8_opens 8 = .ok (.iconst 4, 1) := dk_7 (dk_at dksX8_opens_0 8 rfl rfl)
theorem dX8_opens_9 : decode cX8_opens 9 = .ok (.idiv, 1) := dk_108 (dk_at dksX8_opens_0 9 rfl rfl)
theorem dX8_opens_10 : decode cX8_opens 10 = .ok (.iadd, 1) := dk_96 (dk_at dksX8_opens_0 10 rfl rfl)
theorem dX8_opens_11 : decode cX8_opens 11 = .ok (.ireturn, 1) := dk_172 (dk_at dksX8_opens_0 11 rfl rfl)
theorem q138 : (Jvm.Cond.initialized "HamletWells$Site") ∈ lw_all := lw_g (lw_at lw_m1 29 rfl) rfl
theorem q639 : (Jvm.Cond.selects "HamletWells$Site" ({ cls := "java/lang/Object", name := "getClass", desc := "()Ljava/lang/Class;" } : Jvm.MethodName) ({ cls := "java/lang/Object", name := "getClass", desc := "()Ljava/lang/Class;" } : Jvm.MethodName)) ∈ lw_all := lw_g (lw_at lw_m3 50 rfl) rfl
theorem q989 : (Jvm.Cond.fieldLink "HamletWells$Site" (21 : Nat) "HamletWells$Site" "number" "I") ∈ lw_all := lw_g (lw_at lw_m4 160 rfl) rfl
theorem q990 : (Jvm.Cond.sameField "HamletWells$Site" "HamletWells$Standing" "number" "I") ∈ lw_all := lw_g (lw_at lw_m4 161 rfl) rfl
theorem q1002 : (Jvm.Cond.fieldLink "HamletWells$Site" (24 : Nat) "HamletWells$Site" "x" "I") ∈ lw_all := lw_g (lw_at lw_m4 173 rfl) rfl
theorem q1003 : (Jvm.Cond.sameField "HamletWells$Site" "HamletWells$Standing" "x" "I") ∈ lw_all := lw_g (lw_at lw_m4 174 rfl) rfl
theorem q1010 : (Jvm.Cond.fieldLink "HamletWells$Site" (27 : Nat) "HamletWells$Site" "y" "I") ∈ lw_all := lw_g (lw_at lw_m4 181 rfl) rfl
theorem q1011 : (Jvm.Cond.sameField "HamletWells$Site" "HamletWells$Standing" "y" "I") ∈ lw_all := lw_g (lw_at lw_m4 182 rfl) rfl
theorem q1063 : (Jvm.Cond.instantiable "HamletWells$Site" (9 : Nat)) ∈ lw_all := lw_g (lw_at lw_m4 234 rfl) rfl
theorem q1065 : (Jvm.Cond.instanceMethod ({ cls := "HamletWells$Site", name := "<init>", desc := "(LHamletWells$Site;)V" } : Jvm.MethodName)) ∈ lw_all := lw_g (lw_at lw_m4 236 rfl) rfl
theorem q1066 : (Jvm.Cond.code ({ cls := "HamletWells$Site", name := "<init>", desc := "(LHamletWells$Site;)V" } : Jvm.MethodName) prog_39_method_2_code (2 : Nat) (Option.none : Option Jvm.ClassFile.FieldType)) ∈ lw_all := lw_g (lw_at lw_m4 237 rfl) rfl
theorem q1067 : (Jvm.Cond.methodLink "HamletWells$Site" (30 : Nat) ({ cls := "HamletWells$Site", name := "<init>", desc := "(IIIII)V" } : Jvm.MethodName)) ∈ lw_all := lw_g (lw_at lw_m4 238 rfl) rfl
theorem q1068 : (Jvm.Cond.instanceMethod ({ cls := "HamletWells$Site", name := "<init>", desc := "(IIIII)V" } : Jvm.MethodName)) ∈ lw_all := lw_g (lw_at lw_m4 239 rfl) rfl
theorem q1069 : (Jvm.Cond.code ({ cls := "HamletWells$Site", name := "<init>", desc := "(IIIII)V" } : Jvm.MethodName) prog_39_method_1_code (6 : Nat) (Option.none : Option Jvm.ClassFile.FieldType)) ∈ lw_all := lw_g (lw_at lw_m5 0 rfl) rfl
theorem q1070 : (Jvm.Cond.methodLink "HamletWells$Site" (3 : Nat) ({ cls := "HamletWells$Standing", name := "<init>", desc := "(III)V" } : Jvm.MethodName)) ∈ lw_all := lw_g (lw_at lw_m5 1 rfl) rfl
theorem q1071 : (Jvm.Cond.fieldLink "HamletWells$Site" (9 : Nat) "HamletWells$Site" "told" "I") ∈ lw_all := lw_g (lw_at lw_m5 2 rfl) rfl
theorem q1072 : (Jvm.Cond.fieldLink "HamletWells$Site" (18 : Nat) "HamletWells$Site" "cost" "I") ∈ lw_all := lw_g (lw_at lw_m5 3 rfl) rfl
theorem q1075 : (Jvm.Cond.fieldLink "HamletWells$Site" (15 : Nat) "HamletWells$Site" "depth" "I") ∈ lw_all := lw_g (lw_at lw_m5 6 rfl) rfl
theorem q1078 : (Jvm.Cond.fieldLink "HamletWells$Site" (33 : Nat) "HamletWells$Site" "isOpen" "Z") ∈ lw_all := lw_g (lw_at lw_m5 9 rfl) rfl
theorem q1082 : (Jvm.Cond.fieldLink "HamletWells$Site" (37 : Nat) "HamletWells$Site" "hasPump" "Z") ∈ lw_all := lw_g (lw_at lw_m5 13 rfl) rfl
theorem q1086 : (Jvm.Cond.fieldLink "HamletWells$Site" (40 : Nat) "HamletWells$Site" "given" "I") ∈ lw_all := lw_g (lw_at lw_m5 17 rfl) rfl
theorem q1088 : (Jvm.Cond.laysFinal "HamletWells$Site" "HamletWells$Site" "told" "I") ∈ lw_all := lw_g (lw_at lw_m5 19 rfl) rfl
theorem q1089 : (Jvm.Cond.soleField "HamletWells$Site" "told") ∈ lw_all := lw_g (lw_at lw_m5 20 rfl) rfl
theorem q1090 : (Jvm.Cond.laysFinal "HamletWells$Site" "HamletWells$Site" "cost" "I") ∈ lw_all := lw_g (lw_at lw_m5 21 rfl) rfl
theorem q1091 : (Jvm.Cond.soleField "HamletWells$Site" "cost") ∈ lw_all := lw_g (lw_at lw_m5 22 rfl) rfl
theorem q1092 : (Jvm.Cond.lays "HamletWells$Site" "HamletWells$Site" "depth" "I") ∈ lw_all := lw_g (lw_at lw_m5 23 rfl) rfl
theorem q1093 : (Jvm.Cond.soleField "HamletWells$Site" "depth") ∈ lw_all := lw_g (lw_at lw_m5 24 rfl) rfl
theorem q1094 : (Jvm.Cond.lays "HamletWells$Site" "HamletWells$Site" "isOpen" "Z") ∈ lw_all := lw_g (lw_at lw_m5 25 rfl) rfl
theorem q1095 : (Jvm.Cond.soleField "HamletWells$Site" "isOpen") ∈ lw_all := lw_g (lw_at lw_m5 26 rfl) rfl
theorem q1096 : (Jvm.Cond.lays "HamletWells$Site" "HamletWells$Site" "hasPump" "Z") ∈ lw_all := lw_g (lw_at lw_m5 27 rfl) rfl
theorem q1097 : (Jvm.Cond.soleField "HamletWells$Site" "hasPump") ∈ lw_all := lw_g (lw_at lw_m5 28 rfl) rfl
theorem q1098 : (Jvm.Cond.lays "HamletWells$Site" "HamletWells$Site" "given" "I") ∈ lw_all := lw_g (lw_at lw_m5 29 rfl) rfl
theorem q1099 : (Jvm.Cond.soleField "HamletWells$Site" "given") ∈ lw_all := lw_g (lw_at lw_m5 30 rfl) rfl
theorem q1100 : (Jvm.Cond.laysFinal "HamletWells$Site" "HamletWells$Standing" "number" "I") ∈ lw_all := lw_g (lw_at lw_m5 31 rfl) rfl
theorem q1101 : (Jvm.Cond.laysFinal "HamletWells$Site" "HamletWells$Standing" "x" "I") ∈ lw_all := lw_g (lw_at lw_m5 32 rfl) rfl
theorem q1102 : (Jvm.Cond.laysFinal "HamletWells$Site" "HamletWells$Standing" "y" "I") ∈ lw_all := lw_g (lw_at lw_m5 33 rfl) rfl
theorem q1103 : (Jvm.Cond.superclass "HamletWells$Site" "HamletWells$Standing") ∈ lw_all := lw_g (lw_at lw_m5 34 rfl) rfl
theorem q1162 : (Jvm.Cond.selects "HamletWells$Site" ({ cls := "HamletWells$Standing", name := "isAt", desc := "(II)Z" } : Jvm.MethodName) ({ cls := "HamletWells$Standing", name := "isAt", desc := "(II)Z" } : Jvm.MethodName)) ∈ lw_all := lw_g (lw_at lw_m5 93 rfl) rfl
theorem q1246 : (Jvm.Cond.sameMethod "HamletWells$Site" "HamletWells$Standing" "far" "(LHamletWells$Standing;)I") ∈ lw_all := lw_g (lw_at lw_m5 177 rfl) rfl
theorem q1248 : (Jvm.Cond.selects "HamletWells$Site" ({ cls := "HamletWells$Site", name := "far", desc := "(LHamletWells$Standing;)I" } : Jvm.MethodName) ({ cls := "HamletWells$Standing", name := "far", desc := "(LHamletWells$Standing;)I" } : Jvm.MethodName)) ∈ lw_all := lw_g (lw_at lw_m5 179 rfl) rfl
theorem q1274 : (Jvm.Cond.instanceMethod ({ cls := "HamletWells$Site", name := "gives", desc := "()I" } : Jvm.MethodName)) ∈ lw_all := lw_g (lw_at lw_m5 205 rfl) rfl
theorem q1275 : (Jvm.Cond.selects "HamletWells$Site" ({ cls := "HamletWells$Site", name := "gives", desc := "()I" } : Jvm.MethodName) ({ cls := "HamletWells$Site", name := "gives", desc := "()I" } : Jvm.MethodName)) ∈ lw_all := lw_g (lw_at lw_m5 206 rfl) rfl
theorem q1276 : (Jvm.Cond.code ({ cls := "HamletWells$Site", name := "gives", desc := "()I" } : Jvm.MethodName) prog_39_method_4_code (1 : Nat) (Option.some Jvm.ClassFile.FieldType.int)) ∈ lw_all := lw_g (lw_at lw_m5 207 rfl) rfl
theorem q1277 : (Jvm.Cond.methodLink "HamletWells$Site" (43 : Nat) ({ cls := "java/lang/Math", name := "max", desc := "(II)I" } : Jvm.MethodName)) ∈ lw_all := lw_g (lw_at lw_m5 208 rfl) rfl
theorem q1687 : (Jvm.Cond.instanceMethod ({ cls := "HamletWells$Site", name := "sinks", desc := "(I)V" } : Jvm.MethodName)) ∈ lw_all := lw_g (lw_at lw_m7 138 rfl) rfl
theorem q1688 : (Jvm.Cond.selects "HamletWells$Site" ({ cls := "HamletWells$Site", name := "sinks", desc := "(I)V" } : Jvm.MethodName) ({ cls := "HamletWells$Site", name := "sinks", desc := "(I)V" } : Jvm.MethodName)) ∈ lw_all := lw_g (lw_at lw_m7 139 rfl) rfl
theorem q1689 : (Jvm.Cond.code ({ cls := "HamletWells$Site", name := "sinks", desc := "(I)V" } : Jvm.MethodName) prog_39_method_5_code (2 : Nat) (Option.none : Option Jvm.ClassFile.FieldType)) ∈ lw_all := lw_g (lw_at lw_m7 140 rfl) rfl
theorem q1690 : (Jvm.Cond.methodLink "HamletWells$Site" (49 : Nat) ({ cls := "java/lang/Math", name := "min", desc := "(II)I" } : Jvm.MethodName)) ∈ lw_all := lw_g (lw_at lw_m7 141 rfl) rfl
theorem q1765 : (Jvm.Cond.instanceMethod ({ cls := "HamletWells$Site", name := "opens", desc := "()I" } : Jvm.MethodName)) ∈ lw_all := lw_g (lw_at lw_m7 216 rfl) rfl
theorem q1766 : (Jvm.Cond.selects "HamletWells$Site" ({ cls := "HamletWells$Site", name := "opens", desc := "()I" } : Jvm.MethodName) ({ cls := "HamletWells$Site", name := "opens", desc := "()I" } : Jvm.MethodName)) ∈ lw_all := lw_g (lw_at lw_m7 217 rfl) rfl
theorem q1767 : (Jvm.Cond.code ({ cls := "HamletWells$Site", name := "opens", desc := "()I" } : Jvm.MethodName) prog_39_method_3_code (1 : Nat) (Option.some Jvm.ClassFile.FieldType.int)) ∈ lw_all := lw_g (lw_at lw_m7 218 rfl) rfl
theorem q3493 : (Jvm.Cond.castable "HamletWells$Site" "HamletWells$Standing") ∈ lw_tbl := lw_at lw_m15 24 rfl
theorem q3509 : (Jvm.Cond.castable "HamletWells$Site" "java/lang/Object") ∈ lw_tbl := lw_at lw_m15 40 rfl
theorem in_X8 : ∀ w ∈ wsX80, w ∈ lw_all := lw_in wsX80 [1100, 1101, 1102, 1088, 1090, 1092, 1094, 1096, 1098] (by decide +kernel) (by decide +kernel)
/-! HamletWells$Refused -/
set_option maxRecDepth 100000
def RX9 : String := "HamletWells$Refused"
def TX9 : u_T := fun k => match k with
  | 0 => ("java/lang/Throwable", "cause", "Ljava/lang/Throwable;", false)
  | 1 => ("java/lang/Throwable", "stackTrace", "[Ljava/lang/StackTraceElement;", false)
  | 2 => ("java/lang/Throwable", "suppressedExceptions", "Ljava/util/List;", false)
  | 3 => ("java/lang/Throwable", "detailMessage", "Ljava/lang/String;", false)
  | 4 => ("java/lang/Throwable", "backtrace", "Ljava/lang/Object;", false)
  | 5 => ("java/lang/Throwable", "depth", "I", false)
  | 6 => ("HamletWells$Refused", "reason", "I", true)
  | _ => ("HamletWells$Refused", "detail", "I", true)
def tyX9 : Nat → FieldType := fun k => match k with
  | 0 => .object "java/lang/Throwable"
  | 1 => .array (.object "java/lang/StackTraceElement")
  | 2 => .object "java/util/List"
  | 3 => .object "java/lang/String"
  | 4 => .object "java/lang/Object"
  | 5 => .int
  | 6 => .int
  | _ => .int
abbrev wsX90 : List Cond := u_ws RX9 TX9 8
theorem nmX9 : ∀ a, a < 8 → ∀ b, b < 8 → a ≠ b → (TX9 a).2.1 ≠ (TX9 b).2.1 := by decide +kernel
theorem tyX9_ok : ∀ k, k < 8 → parseFieldDescriptor (TX9 k).2.2.1 = some (tyX9 k) := by decide +kernel
abbrev cX9_init : ByteArray := prog_37_method_2_code
def yX9_init : MethodName := ⟨RX9, "<init>", "(II)V"⟩
def dkwX9_init_0 : List UInt8 := [42, 27, 28, 1, 183, 0, 16, 177]
abbrev dktX9_init_0 : List UInt8 := dkwX9_init_0 ++ []
theorem dksX9_init_0 : cX9_init.data.toList.drop 0 = dktX9_init_0 := by decide +kernel
theorem dX9_init_0 : decode cX9_init 0 = .ok (.aload_n 0, 1) := dk_42 (dk_at dksX9_init_0 0 rfl rfl)
theorem dX9_init_1 : decode cX9_init 1 = .ok (.iload_n 1, 1) := dk_27 (dk_at dksX9_init_0 1 rfl rfl)
theorem dX9_init_2 : decode cX9_init 2 = .ok (.iload_n 2, 1) := dk_28 (dk_at dksX9_init_0 2 rfl rfl)
theorem dX9_init_3 : decode cX9_init 3 = .ok (.aconst_null, 1) := dk_1 (dk_at dksX9_init_0 3 rfl rfl)
theorem dX9_init_4 : decode cX9_init 4 = .ok (.invokespecial 16, 3) := dk_183 0 16 (dk_at dksX9_init_0 4 rfl rfl)
theorem dX9_init_7 : decode cX9_init 7 = .ok (.return_, 1) := dk_177 (dk_at dksX9_init_0 7 rfl rfl)
abbrev cX9_init_2 : ByteArray := prog_37_method_1_code
def yX9_init_2 : MethodName := ⟨RX9, "<init>", "(IILjava/lang/Exception;)V"⟩
def dkwX9_init_2_0 : List UInt8 := [42, 1, 45, 3, 3, 183, 0, 1, 42, 27, 181, 0, 7, 42, 28, 181, 0, 13, 177]
abbrev dktX9_init_2_0 : List UInt8 := dkwX9_init_2_0 ++ []
theorem dksX9_init_2_0 : cX9_init_2.data.toList.drop 0 = dktX9_init_2_0 := by decide +kernel
theorem dX9_init_2_0 : decode cX9_init_2 0 = .ok (.aload_n 0, 1) := dk_42 (dk_at dksX9_init_2_0 0 rfl rfl)
theorem dX9_init_2_1 : decode cX9_init_2 1 = .ok (.aconst_null, 1) := dk_1 (dk_at dksX9_init_2_0 1 rfl rfl)
theorem dX9_init_2_2 : decode cX9_init_2 2 = .ok (.aload_n 3, 1) := dk_45 (dk_at dksX9_init_2_0 2 rfl rfl)
theorem dX9_init_2_3 : decode cX9_init_2 3 = .ok (.iconst 0, 1) := dk_3 (dk_at dksX9_init_2_0 3 rfl rfl)
theorem dX9_init_2_4 : decode cX9_init_2 4 = .ok (.iconst 0, 1) := dk_3 (dk_at dksX9_init_2_0 4 rfl rfl)
theorem dX9_init_2_5 : decode cX9_init_2 5 = .ok (.invokespecial 1, 3) := dk_183 0 1 (dk_at dksX9_init_2_0 5 rfl rfl)
theorem dX9_init_2_8 : decode cX9_init_2 8 = .ok (.aload_n 0, 1) := dk_42 (dk_at dksX9_init_2_0 8 rfl rfl)
theorem dX9_init_2_9 : decode cX9_init_2 9 = .ok (.iload_n 1, 1) := dk_27 (dk_at dksX9_init_2_0 9 rfl rfl)
theorem dX9_init_2_10 : decode cX9_init_2 10 = .ok (.putfield 7, 3) := dk_181 0 7 (dk_at dksX9_init_2_0 10 rfl rfl)
theorem dX9_init_2_13 : decode cX9_init_2 13 = .ok (.aload_n 0, 1) := dk_42 (dk_at dksX9_init_2_0 13 rfl rfl)
theorem dX9_init_2_14 : decode cX9_init_2 14 = .ok (.iload_n 2, 1) := dk_28 (dk_at dksX9_init_2_0 14 rfl rfl)
theorem dX9_init_2_15 : decode cX9_init_2 15 = .ok (.putfield 13, 3) := dk_181 0 13 (dk_at dksX9_init_2_0 15 rfl rfl)
theorem dX9_init_2_18 : decode cX9_init_2 18 = .ok (.return_, 1) := dk_177 (dk_at dksX9_init_2_0 18 rfl rfl)
theorem q139 : (Jvm.Cond.initialized "HamletWells$Refused") ∈ lw_all := lw_g (lw_at lw_m1 30 rfl) rfl
theorem q574 : (Jvm.Cond.selects "HamletWells$Refused" ({ cls := "java/lang/Throwable", name := "fillInStackTrace", desc := "()Ljava/lang/Throwable;" } : Jvm.MethodName) ({ cls := "java/lang/Throwable", name := "fillInStackTrace", desc := "()Ljava/lang/Throwable;" } : Jvm.MethodName)) ∈ lw_all := lw_g (lw_at lw_m2 225 rfl) rfl
theorem q598 : (Jvm.Cond.selects "HamletWells$Refused" ({ cls := "java/lang/Throwable", name := "toString", desc := "()Ljava/lang/String;" } : Jvm.MethodName) ({ cls := "java/lang/Throwable", name := "toString", desc := "()Ljava/lang/String;" } : Jvm.MethodName)) ∈ lw_all := lw_g (lw_at lw_m3 9 rfl) rfl
theorem q637 : (Jvm.Cond.selects "HamletWells$Refused" ({ cls := "java/lang/Object", name := "getClass", desc := "()Ljava/lang/Class;" } : Jvm.MethodName) ({ cls := "java/lang/Object", name := "getClass", desc := "()Ljava/lang/Class;" } : Jvm.MethodName)) ∈ lw_all := lw_g (lw_at lw_m3 48 rfl) rfl
theorem q666 : (Jvm.Cond.selects "HamletWells$Refused" ({ cls := "java/lang/Throwable", name := "getLocalizedMessage", desc := "()Ljava/lang/String;" } : Jvm.MethodName) ({ cls := "java/lang/Throwable", name := "getLocalizedMessage", desc := "()Ljava/lang/String;" } : Jvm.MethodName)) ∈ lw_all := lw_g (lw_at lw_m3 77 rfl) rfl
theorem q674 : (Jvm.Cond.selects "HamletWells$Refused" ({ cls := "java/lang/Throwable", name := "getMessage", desc := "()Ljava/lang/String;" } : Jvm.MethodName) ({ cls := "java/lang/Throwable", name := "getMessage", desc := "()Ljava/lang/String;" } : Jvm.MethodName)) ∈ lw_all := lw_g (lw_at lw_m3 85 rfl) rfl
theorem q1123 : (Jvm.Cond.instantiable "HamletWells$Refused" (8 : Nat)) ∈ lw_all := lw_g (lw_at lw_m5 54 rfl) rfl
theorem q1124 : (Jvm.Cond.castable "HamletWells$Refused" "HamletWells$Refused") ∈ lw_tbl := lw_at lw_m5 55 rfl
theorem q1125 : (Jvm.Cond.selects "HamletWells$Refused" ({ cls := "java/lang/Throwable", name := "fillInStackTrace", desc := "(I)Ljava/lang/Throwable;" } : Jvm.MethodName) ({ cls := "java/lang/Throwable", name := "fillInStackTrace", desc := "(I)Ljava/lang/Throwable;" } : Jvm.MethodName)) ∈ lw_all := lw_g (lw_at lw_m5 56 rfl) rfl
theorem q1126 : (Jvm.Cond.lays "HamletWells$Refused" "java/lang/Throwable" "cause" "Ljava/lang/Throwable;") ∈ lw_all := lw_g (lw_at lw_m5 57 rfl) rfl
theorem q1127 : (Jvm.Cond.lays "HamletWells$Refused" "java/lang/Throwable" "stackTrace" "[Ljava/lang/StackTraceElement;") ∈ lw_all := lw_g (lw_at lw_m5 58 rfl) rfl
theorem q1128 : (Jvm.Cond.lays "HamletWells$Refused" "java/lang/Throwable" "suppressedExceptions" "Ljava/util/List;") ∈ lw_all := lw_g (lw_at lw_m5 59 rfl) rfl
theorem q1129 : (Jvm.Cond.lays "HamletWells$Refused" "java/lang/Throwable" "detailMessage" "Ljava/lang/String;") ∈ lw_all := lw_g (lw_at lw_m5 60 rfl) rfl
theorem q1130 : (Jvm.Cond.lays "HamletWells$Refused" "java/lang/Throwable" "backtrace" "Ljava/lang/Object;") ∈ lw_all := lw_g (lw_at lw_m5 61 rfl) rfl
theorem q1132 : (Jvm.Cond.instanceMethod ({ cls := "HamletWells$Refused", name := "<init>", desc := "(II)V" } : Jvm.MethodName)) ∈ lw_all := lw_g (lw_at lw_m5 63 rfl) rfl
theorem q1133 : (Jvm.Cond.code ({ cls := "HamletWells$Refused", name := "<init>", desc := "(II)V" } : Jvm.MethodName) prog_37_method_2_code (3 : Nat) (Option.none : Option Jvm.ClassFile.FieldType)) ∈ lw_all := lw_g (lw_at lw_m5 64 rfl) rfl
theorem q1134 : (Jvm.Cond.methodLink "HamletWells$Refused" (16 : Nat) ({ cls := "HamletWells$Refused", name := "<init>", desc := "(IILjava/lang/Exception;)V" } : Jvm.MethodName)) ∈ lw_all := lw_g (lw_at lw_m5 65 rfl) rfl
theorem q1135 : (Jvm.Cond.instanceMethod ({ cls := "HamletWells$Refused", name := "<init>", desc := "(IILjava/lang/Exception;)V" } : Jvm.MethodName)) ∈ lw_all := lw_g (lw_at lw_m5 66 rfl) rfl
theorem q1136 : (Jvm.Cond.code ({ cls := "HamletWells$Refused", name := "<init>", desc := "(IILjava/lang/Exception;)V" } : Jvm.MethodName) prog_37_method_1_code (4 : Nat) (Option.none : Option Jvm.ClassFile.FieldType)) ∈ lw_all := lw_g (lw_at lw_m5 67 rfl) rfl
theorem q1137 : (Jvm.Cond.methodLink "HamletWells$Refused" (1 : Nat) ({ cls := "java/lang/Exception", name := "<init>", desc := "(Ljava/lang/String;Ljava/lang/Throwable;ZZ)V" } : Jvm.MethodName)) ∈ lw_all := lw_g (lw_at lw_m5 68 rfl) rfl
theorem q1143 : (Jvm.Cond.fieldLink "HamletWells$Refused" (7 : Nat) "HamletWells$Refused" "reason" "I") ∈ lw_all := lw_g (lw_at lw_m5 74 rfl) rfl
theorem q1145 : (Jvm.Cond.fieldLink "HamletWells$Refused" (13 : Nat) "HamletWells$Refused" "detail" "I") ∈ lw_all := lw_g (lw_at lw_m5 76 rfl) rfl
theorem q1147 : (Jvm.Cond.laysFinal "HamletWells$Refused" "HamletWells$Refused" "reason" "I") ∈ lw_all := lw_g (lw_at lw_m5 78 rfl) rfl
theorem q1148 : (Jvm.Cond.soleField "HamletWells$Refused" "reason") ∈ lw_all := lw_g (lw_at lw_m5 79 rfl) rfl
theorem q1149 : (Jvm.Cond.laysFinal "HamletWells$Refused" "HamletWells$Refused" "detail" "I") ∈ lw_all := lw_g (lw_at lw_m5 80 rfl) rfl
theorem q1150 : (Jvm.Cond.soleField "HamletWells$Refused" "detail") ∈ lw_all := lw_g (lw_at lw_m5 81 rfl) rfl
theorem q1151 : (Jvm.Cond.lays "HamletWells$Refused" "java/lang/Throwable" "depth" "I") ∈ lw_all := lw_g (lw_at lw_m5 82 rfl) rfl
theorem q1152 : (Jvm.Cond.superclass "HamletWells$Refused" "java/lang/Exception") ∈ lw_all := lw_g (lw_at lw_m5 83 rfl) rfl
theorem q2937 : (Jvm.Cond.sameMethod "HamletWells$Refused" "java/lang/Throwable" "getCause" "()Ljava/lang/Throwable;") ∈ lw_all := lw_g (lw_at lw_m12 188 rfl) rfl
theorem q2939 : (Jvm.Cond.selects "HamletWells$Refused" ({ cls := "HamletWells$Refused", name := "getCause", desc := "()Ljava/lang/Throwable;" } : Jvm.MethodName) ({ cls := "java/lang/Throwable", name := "getCause", desc := "()Ljava/lang/Throwable;" } : Jvm.MethodName)) ∈ lw_all := lw_g (lw_at lw_m12 190 rfl) rfl
theorem q3510 : (Jvm.Cond.castable "HamletWells$Refused" "java/lang/Object") ∈ lw_tbl := lw_at lw_m15 41 rfl
theorem in_X9 : ∀ w ∈ wsX90, w ∈ lw_all := lw_in wsX90 [1126, 1127, 1128, 1129, 1130, 1151, 1147, 1149] (by decide +kernel) (by decide +kernel)
/-! HamletWells$OutOfRange -/
set_option maxRecDepth 100000
def RX10 : String := "HamletWells$OutOfRange"
def TX10 : u_T := fun k => match k with
  | 0 => ("java/lang/Throwable", "cause", "Ljava/lang/Throwable;", false)
  | 1 => ("java/lang/Throwable", "stackTrace", "[Ljava/lang/StackTraceElement;", false)
  | 2 => ("java/lang/Throwable", "suppressedExceptions", "Ljava/util/List;", false)
  | 3 => ("java/lang/Throwable", "detailMessage", "Ljava/lang/String;", false)
  | 4 => ("java/lang/Throwable", "backtrace", "Ljava/lang/Object;", false)
  | _ => ("java/lang/Throwable", "depth", "I", false)
def tyX10 : Nat → FieldType := fun k => match k with
  | 0 => .object "java/lang/Throwable"
  | 1 => .array (.object "java/lang/StackTraceElement")
  | 2 => .object "java/util/List"
  | 3 => .object "java/lang/String"
  | 4 => .object "java/lang/Object"
  | _ => .int
abbrev wsX100 : List Cond := u_ws RX10 TX10 6
theorem nmX10 : ∀ a, a < 6 → ∀ b, b < 6 → a ≠ b → (TX10 a).2.1 ≠ (TX10 b).2.1 := by decide +kernel
theorem tyX10_ok : ∀ k, k < 6 → parseFieldDescriptor (TX10 k).2.2.1 = some (tyX10 k) := by decide +kernel
abbrev cX10_init : ByteArray := prog_24_method_1_code
def yX10_init : MethodName := ⟨RX10, "<init>", "()V"⟩
def dkwX10_init_0 : List UInt8 := [42, 1, 1, 3, 3, 183, 0, 1, 177]
abbrev dktX10_init_0 : List UInt8 := dkwX10_init_0 ++ []
theorem dksX10_init_0 : cX10_init.data.toList.drop 0 = dktX10_init_0 := by decide +kernel
theorem dX10_init_0 : decode cX10_init 0 = .ok (.aload_n 0, 1) := dk_42 (dk_at dksX10_init_0 0 rfl rfl)
theorem dX10_init_1 : decode cX10_init 1 = .ok (.aconst_null, 1) := dk_1 (dk_at dksX10_init_0 1 rfl rfl)
theorem dX10_init_2 : decode cX10_init 2 = .ok (.aconst_null, 1) := dk_1 (dk_at dksX10_init_0 2 rfl rfl)
theorem dX10_init_3 : decode cX10_init 3 = .ok (.iconst 0, 1) := dk_3 (dk_at dksX10_init_0 3 rfl rfl)
theorem dX10_init_4 : decode cX10_init 4 = .ok (.iconst 0, 1) := dk_3 (dk_at dksX10_init_0 4 rfl rfl)
theorem dX10_init_5 : decode cX10_init 5 = .ok (.invokespecial 1, 3) := dk_183 0 1 (dk_at dksX10_init_0 5 rfl rfl)
theorem dX10_init_8 : decode cX10_init 8 = .ok (.return_, 1) := dk_177 (dk_at dksX10_init_0 8 rfl rfl)
theorem q140 : (Jvm.Cond.initialized "HamletWells$OutOfRange") ∈ lw_all := lw_g (lw_at lw_m1 31 rfl) rfl
theorem q573 : (Jvm.Cond.selects "HamletWells$OutOfRange" ({ cls := "java/lang/Throwable", name := "fillInStackTrace", desc := "()Ljava/lang/Throwable;" } : Jvm.MethodName) ({ cls := "java/lang/Throwable", name := "fillInStackTrace", desc := "()Ljava/lang/Throwable;" } : Jvm.MethodName)) ∈ lw_all := lw_g (lw_at lw_m2 224 rfl) rfl
theorem q597 : (Jvm.Cond.selects "HamletWells$OutOfRange" ({ cls := "java/lang/Throwable", name := "toString", desc := "()Ljava/lang/String;" } : Jvm.MethodName) ({ cls := "java/lang/Throwable", name := "toString", desc := "()Ljava/lang/String;" } : Jvm.MethodName)) ∈ lw_all := lw_g (lw_at lw_m3 8 rfl) rfl
theorem q624 : (Jvm.Cond.selects "HamletWells$OutOfRange" ({ cls := "java/lang/Object", name := "getClass", desc := "()Ljava/lang/Class;" } : Jvm.MethodName) ({ cls := "java/lang/Object", name := "getClass", desc := "()Ljava/lang/Class;" } : Jvm.MethodName)) ∈ lw_all := lw_g (lw_at lw_m3 35 rfl) rfl
theorem q665 : (Jvm.Cond.selects "HamletWells$OutOfRange" ({ cls := "java/lang/Throwable", name := "getLocalizedMessage", desc := "()Ljava/lang/String;" } : Jvm.MethodName) ({ cls := "java/lang/Throwable", name := "getLocalizedMessage", desc := "()Ljava/lang/String;" } : Jvm.MethodName)) ∈ lw_all := lw_g (lw_at lw_m3 76 rfl) rfl
theorem q673 : (Jvm.Cond.selects "HamletWells$OutOfRange" ({ cls := "java/lang/Throwable", name := "getMessage", desc := "()Ljava/lang/String;" } : Jvm.MethodName) ({ cls := "java/lang/Throwable", name := "getMessage", desc := "()Ljava/lang/String;" } : Jvm.MethodName)) ∈ lw_all := lw_g (lw_at lw_m3 84 rfl) rfl
theorem q1193 : (Jvm.Cond.instantiable "HamletWells$OutOfRange" (6 : Nat)) ∈ lw_all := lw_g (lw_at lw_m5 124 rfl) rfl
theorem q1194 : (Jvm.Cond.castable "HamletWells$OutOfRange" "HamletWells$OutOfRange") ∈ lw_tbl := lw_at lw_m5 125 rfl
theorem q1195 : (Jvm.Cond.selects "HamletWells$OutOfRange" ({ cls := "java/lang/Throwable", name := "fillInStackTrace", desc := "(I)Ljava/lang/Throwable;" } : Jvm.MethodName) ({ cls := "java/lang/Throwable", name := "fillInStackTrace", desc := "(I)Ljava/lang/Throwable;" } : Jvm.MethodName)) ∈ lw_all := lw_g (lw_at lw_m5 126 rfl) rfl
theorem q1196 : (Jvm.Cond.lays "HamletWells$OutOfRange" "java/lang/Throwable" "cause" "Ljava/lang/Throwable;") ∈ lw_all := lw_g (lw_at lw_m5 127 rfl) rfl
theorem q1197 : (Jvm.Cond.lays "HamletWells$OutOfRange" "java/lang/Throwable" "stackTrace" "[Ljava/lang/StackTraceElement;") ∈ lw_all := lw_g (lw_at lw_m5 128 rfl) rfl
theorem q1198 : (Jvm.Cond.lays "HamletWells$OutOfRange" "java/lang/Throwable" "suppressedExceptions" "Ljava/util/List;") ∈ lw_all := lw_g (lw_at lw_m5 129 rfl) rfl
theorem q1199 : (Jvm.Cond.lays "HamletWells$OutOfRange" "java/lang/Throwable" "detailMessage" "Ljava/lang/String;") ∈ lw_all := lw_g (lw_at lw_m5 130 rfl) rfl
theorem q1200 : (Jvm.Cond.lays "HamletWells$OutOfRange" "java/lang/Throwable" "backtrace" "Ljava/lang/Object;") ∈ lw_all := lw_g (lw_at lw_m5 131 rfl) rfl
theorem q1202 : (Jvm.Cond.instanceMethod ({ cls := "HamletWells$OutOfRange", name := "<init>", desc := "()V" } : Jvm.MethodName)) ∈ lw_all := lw_g (lw_at lw_m5 133 rfl) rfl
theorem q1203 : (Jvm.Cond.code ({ cls := "HamletWells$OutOfRange", name := "<init>", desc := "()V" } : Jvm.MethodName) prog_24_method_1_code (1 : Nat) (Option.none : Option Jvm.ClassFile.FieldType)) ∈ lw_all := lw_g (lw_at lw_m5 134 rfl) rfl
theorem q1204 : (Jvm.Cond.methodLink "HamletWells$OutOfRange" (1 : Nat) ({ cls := "java/lang/Exception", name := "<init>", desc := "(Ljava/lang/String;Ljava/lang/Throwable;ZZ)V" } : Jvm.MethodName)) ∈ lw_all := lw_g (lw_at lw_m5 135 rfl) rfl
theorem q1205 : (Jvm.Cond.lays "HamletWells$OutOfRange" "java/lang/Throwable" "depth" "I") ∈ lw_all := lw_g (lw_at lw_m5 136 rfl) rfl
theorem q1206 : (Jvm.Cond.superclass "HamletWells$OutOfRange" "java/lang/Exception") ∈ lw_all := lw_g (lw_at lw_m5 137 rfl) rfl
theorem q3554 : (Jvm.Cond.castable "HamletWells$OutOfRange" "java/lang/Object") ∈ lw_tbl := lw_at lw_m15 85 rfl
theorem in_X10 : ∀ w ∈ wsX100, w ∈ lw_all := lw_in wsX100 [1196, 1197, 1198, 1199, 1200, 1205] (by decide +kernel) (by decide +kernel)
/-! HamletWells$Province$2 -/
set_option maxRecDepth 100000
def RX11 : String := "HamletWells$Province$2"
def TX11 : u_T := fun k => match k with
  | _ => ("HamletWells$Province$2", "this$0", "LHamletWells$Province;", true)
def tyX11 : Nat → FieldType := fun k => match k with
  | _ => .object "HamletWells$Province"
abbrev wsX110 : List Cond := u_ws RX11 TX11 1
theorem nmX11 : ∀ a, a < 1 → ∀ b, b < 1 → a ≠ b → (TX11 a).2.1 ≠ (TX11 b).2.1 := by decide +kernel
theorem tyX11_ok : ∀ k, k < 1 → parseFieldDescriptor (TX11 k).2.2.1 = some (tyX11 k) := by decide +kernel
abbrev cX11_init : ByteArray := prog_34_method_1_code
def yX11_init : MethodName := ⟨RX11, "<init>", "(LHamletWells$Province;)V"⟩
def dkwX11_init_0 : List UInt8 := [42, 43, 181, 0, 1, 42, 183, 0, 7, 177]
abbrev dktX11_init_0 : List UInt8 := dkwX11_init_0 ++ []
theorem dksX11_init_0 : cX11_init.data.toList.drop 0 = dktX11_init_0 := by decide +kernel
theorem dX11_init_0 : decode cX11_init 0 = .ok (.aload_n 0, 1) := dk_42 (dk_at dksX11_init_0 0 rfl rfl)
theorem dX11_init_1 : decode cX11_init 1 = .ok (.aload_n 1, 1) := dk_43 (dk_at dksX11_init_0 1 rfl rfl)
theorem dX11_init_2 : decode cX11_init 2 = .ok (.putfield 1, 3) := dk_181 0 1 (dk_at dksX11_init_0 2 rfl rfl)
theorem dX11_init_5 : decode cX11_init 5 = .ok (.aload_n 0, 1) := dk_42 (dk_at dksX11_init_0 5 rfl rfl)
theorem dX11_init_6 : decode cX11_init 6 = .ok (.invokespecial 7, 3) := dk_183 0 7 (dk_at dksX11_init_0 6 rfl rfl)
theorem dX11_init_9 : decode cX11_init 9 = .ok (.return_, 1) := dk_177 (dk_at dksX11_init_0 9 rfl rfl)
abbrev cX11_is : ByteArray := prog_34_method_3_code
def yX11_is : MethodName := ⟨RX11, "is", "(Ljava/lang/Object;)Z"⟩
def dkwX11_is_0 : List UInt8 := [42, 43, 192, 0, 14, 182, 0, 19, 172]
abbrev dktX11_is_0 : List UInt8 := dkwX11_is_0 ++ []
theorem dksX11_is_0 : cX11_is.data.toList.drop 0 = dktX11_is_0 := by decide +kernel
theorem dX11_is_0 : decode cX11_is 0 = .ok (.aload_n 0, 1) := dk_42 (dk_at dksX11_is_0 0 rfl rfl)
theorem dX11_is_1 : decode cX11_is 1 = .ok (.aload_n 1, 1) := dk_43 (dk_at dksX11_is_0 1 rfl rfl)
theorem dX11_is_2 : decode cX11_is 2 = .ok (.checkcast 14, 3) := dk_192 0 14 (dk_at dksX11_is_0 2 rfl rfl)
theorem dX11_is_5 : decode cX11_is 5 = .ok (.invokevirtual 19, 3) := dk_182 0 19 (dk_at dksX11_is_0 5 rfl rfl)
theorem dX11_is_8 : decode cX11_is 8 = .ok (.ireturn, 1) := dk_172 (dk_at dksX11_is_0 8 rfl rfl)
abbrev cX11_is_2 : ByteArray := prog_34_method_2_code
def yX11_is_2 : MethodName := ⟨RX11, "is", "(LHamletWells$Site;)Z"⟩
theorem dX11_is_2_0 : decode cX11_is_2 0 = .ok (.aload_n 1, 1) := by decide +kernel
theorem dX11_is_2_1 : decode cX11_is_2 1 = .ok (.getfield 13, 3) := by decide +kernel
theorem dX11_is_2_4 : decode cX11_is_2 4 = .ok (.ireturn, 1) := by decide +kernel
theorem q143 : (Jvm.Cond.initialized "HamletWells$Province$2") ∈ lw_all := lw_g (lw_at lw_m1 34 rfl) rfl
theorem q634 : (Jvm.Cond.selects "HamletWells$Province$2" ({ cls := "java/lang/Object", name := "getClass", desc := "()Ljava/lang/Class;" } : Jvm.MethodName) ({ cls := "java/lang/Object", name := "getClass", desc := "()Ljava/lang/Class;" } : Jvm.MethodName)) ∈ lw_all := lw_g (lw_at lw_m3 45 rfl) rfl
theorem q1077 : (Jvm.Cond.fieldLinkNest "HamletWells$Province$2" (13 : Nat) "HamletWells$Site" "isOpen" "Z" "HamletWells") ∈ lw_tbl := lw_at lw_m5 8 rfl
theorem q1308 : (Jvm.Cond.instantiable "HamletWells$Province$2" (1 : Nat)) ∈ lw_all := lw_g (lw_at lw_m5 239 rfl) rfl
theorem q1310 : (Jvm.Cond.instanceMethod ({ cls := "HamletWells$Province$2", name := "<init>", desc := "(LHamletWells$Province;)V" } : Jvm.MethodName)) ∈ lw_all := lw_g (lw_at lw_m6 1 rfl) rfl
theorem q1311 : (Jvm.Cond.code ({ cls := "HamletWells$Province$2", name := "<init>", desc := "(LHamletWells$Province;)V" } : Jvm.MethodName) prog_34_method_1_code (2 : Nat) (Option.none : Option Jvm.ClassFile.FieldType)) ∈ lw_all := lw_g (lw_at lw_m6 2 rfl) rfl
theorem q1312 : (Jvm.Cond.methodLink "HamletWells$Province$2" (7 : Nat) ({ cls := "java/lang/Object", name := "<init>", desc := "()V" } : Jvm.MethodName)) ∈ lw_all := lw_g (lw_at lw_m6 3 rfl) rfl
theorem q1313 : (Jvm.Cond.fieldLink "HamletWells$Province$2" (1 : Nat) "HamletWells$Province$2" "this$0" "LHamletWells$Province;") ∈ lw_all := lw_g (lw_at lw_m6 4 rfl) rfl
theorem q1314 : (Jvm.Cond.laysFinal "HamletWells$Province$2" "HamletWells$Province$2" "this$0" "LHamletWells$Province;") ∈ lw_all := lw_g (lw_at lw_m6 5 rfl) rfl
theorem q1315 : (Jvm.Cond.soleField "HamletWells$Province$2" "this$0") ∈ lw_all := lw_g (lw_at lw_m6 6 rfl) rfl
theorem q1316 : (Jvm.Cond.superclass "HamletWells$Province$2" "java/lang/Object") ∈ lw_all := lw_g (lw_at lw_m6 7 rfl) rfl
theorem q1502 : (Jvm.Cond.castable "HamletWells$Province$2" "HamletWells$Asked") ∈ lw_tbl := lw_at lw_m6 193 rfl
theorem q1503 : (Jvm.Cond.selects "HamletWells$Province$2" ({ cls := "HamletWells$Asked", name := "is", desc := "(Ljava/lang/Object;)Z" } : Jvm.MethodName) ({ cls := "HamletWells$Province$2", name := "is", desc := "(Ljava/lang/Object;)Z" } : Jvm.MethodName)) ∈ lw_all := lw_g (lw_at lw_m6 194 rfl) rfl
theorem q1504 : (Jvm.Cond.unhidden "HamletWells$Province$2" "is" "(Ljava/lang/Object;)Z") ∈ lw_tbl := lw_at lw_m6 195 rfl
theorem q1505 : (Jvm.Cond.instanceMethod ({ cls := "HamletWells$Province$2", name := "is", desc := "(Ljava/lang/Object;)Z" } : Jvm.MethodName)) ∈ lw_all := lw_g (lw_at lw_m6 196 rfl) rfl
theorem q1506 : (Jvm.Cond.publicMethod ({ cls := "HamletWells$Province$2", name := "is", desc := "(Ljava/lang/Object;)Z" } : Jvm.MethodName)) ∈ lw_tbl := lw_at lw_m6 197 rfl
theorem q1507 : (Jvm.Cond.code ({ cls := "HamletWells$Province$2", name := "is", desc := "(Ljava/lang/Object;)Z" } : Jvm.MethodName) prog_34_method_3_code (2 : Nat) (Option.some Jvm.ClassFile.FieldType.boolean)) ∈ lw_all := lw_g (lw_at lw_m6 198 rfl) rfl
theorem q1508 : (Jvm.Cond.classLink "HamletWells$Province$2" (14 : Nat) "HamletWells$Site") ∈ lw_all := lw_g (lw_at lw_m6 199 rfl) rfl
theorem q1509 : (Jvm.Cond.methodLink "HamletWells$Province$2" (19 : Nat) ({ cls := "HamletWells$Province$2", name := "is", desc := "(LHamletWells$Site;)Z" } : Jvm.MethodName)) ∈ lw_all := lw_g (lw_at lw_m6 200 rfl) rfl
theorem q1510 : (Jvm.Cond.instanceMethod ({ cls := "HamletWells$Province$2", name := "is", desc := "(LHamletWells$Site;)Z" } : Jvm.MethodName)) ∈ lw_all := lw_g (lw_at lw_m6 201 rfl) rfl
theorem q1511 : (Jvm.Cond.selects "HamletWells$Province$2" ({ cls := "HamletWells$Province$2", name := "is", desc := "(LHamletWells$Site;)Z" } : Jvm.MethodName) ({ cls := "HamletWells$Province$2", name := "is", desc := "(LHamletWells$Site;)Z" } : Jvm.MethodName)) ∈ lw_all := lw_g (lw_at lw_m6 202 rfl) rfl
theorem q1512 : (Jvm.Cond.code ({ cls := "HamletWells$Province$2", name := "is", desc := "(LHamletWells$Site;)Z" } : Jvm.MethodName) prog_34_method_2_code (2 : Nat) (Option.some Jvm.ClassFile.FieldType.boolean)) ∈ lw_all := lw_g (lw_at lw_m6 203 rfl) rfl
theorem q3518 : (Jvm.Cond.castable "HamletWells$Province$2" "java/lang/Object") ∈ lw_tbl := lw_at lw_m15 49 rfl
theorem in_X11 : ∀ w ∈ wsX110, w ∈ lw_all := lw_in wsX110 [1314] (by decide +kernel) (by decide +kernel)
/-! HamletWells$Province$1 -/
set_option maxRecDepth 100000
def RX12 : String := "HamletWells$Province$1"
def TX12 : u_T := fun k => match k with
  | 0 => ("HamletWells$Province$1", "val$h", "LHamletWells$Hamlet;", true)
  | _ => ("HamletWells$Province$1", "this$0", "LHamletWells$Province;", true)
def tyX12 : Nat → FieldType := fun k => match k with
  | 0 => .object "HamletWells$Hamlet"
  | _ => .object "HamletWells$Province"
abbrev wsX120 : List Cond := u_ws RX12 TX12 2
theorem nmX12 : ∀ a, a < 2 → ∀ b, b < 2 → a ≠ b → (TX12 a).2.1 ≠ (TX12 b).2.1 := by decide +kernel
theorem tyX12_ok : ∀ k, k < 2 → parseFieldDescriptor (TX12 k).2.2.1 = some (tyX12 k) := by decide +kernel
abbrev cX12_init : ByteArray := prog_33_method_1_code
def yX12_init : MethodName := ⟨RX12, "<init>", "(LHamletWells$Province;LHamletWells$Hamlet;)V"⟩
def dkwX12_init_0 : List UInt8 := [42, 43, 181, 0, 1, 42, 44, 181, 0, 7, 42, 183, 0, 11, 177]
abbrev dktX12_init_0 : List UInt8 := dkwX12_init_0 ++ []
theorem dksX12_init_0 : cX12_init.data.toList.drop 0 = dktX12_init_0 := by decide +kernel
theorem dX12_init_0 : decode cX12_init 0 = .ok (.aload_n 0, 1) := dk_42 (dk_at dksX12_init_0 0 rfl rfl)
theorem dX12_init_1 : decode cX12_init 1 = .ok (.aload_n 1, 1) := dk_43 (dk_at dksX12_init_0 1 rfl rfl)
theorem dX12_init_2 : decode cX12_init 2 = .ok (.putfield 1, 3) := dk_181 0 1 (dk_at dksX12_init_0 2 rfl rfl)
theorem dX12_init_5 : decode cX12_init 5 = .ok (.aload_n 0, 1) := dk_42 (dk_at dksX12_init_0 5 rfl rfl)
theorem dX12_init_6 : decode cX12_init 6 = .ok (.aload_n 2, 1) := dk_44 (dk_at dksX12_init_0 6 rfl rfl)
theorem dX12_init_7 : decode cX12_init 7 = .ok (.putfield 7, 3) := dk_181 0 7 (dk_at dksX12_init_0 7 rfl rfl)
theorem dX12_init_10 : decode cX12_init 10 = .ok (.aload_n 0, 1) := dk_42 (dk_at dksX12_init_0 10 rfl rfl)
theorem dX12_init_11 : decode cX12_init 11 = .ok (.invokespecial 11, 3) := dk_183 0 11 (dk_at dksX12_init_0 11 rfl rfl)
theorem dX12_init_14 : decode cX12_init 14 = .ok (.return_, 1) := dk_177 (dk_at dksX12_init_0 14 rfl rfl)
abbrev cX12_of : ByteArray := prog_33_method_3_code
def yX12_of : MethodName := ⟨RX12, "of", "(Ljava/lang/Object;)I"⟩
def dkwX12_of_0 : List UInt8 := [42, 43, 192, 0, 18, 182, 0, 23, 172]
abbrev dktX12_of_0 : List UInt8 := dkwX12_of_0 ++ []
theorem dksX12_of_0 : cX12_of.data.toList.drop 0 = dktX12_of_0 := by decide +kernel
theorem dX12_of_0 : decode cX12_of 0 = .ok (.aload_n 0, 1) := dk_42 (dk_at dksX12_of_0 0 rfl rfl)
theorem dX12_of_1 : decode cX12_of 1 = .ok (.aload_n 1, 1) := dk_43 (dk_at dksX12_of_0 1 rfl rfl)
theorem dX12_of_2 : decode cX12_of 2 = .ok (.checkcast 18, 3) := dk_192 0 18 (dk_at dksX12_of_0 2 rfl rfl)
theorem dX12_of_5 : decode cX12_of 5 = .ok (.invokevirtual 23, 3) := dk_182 0 23 (dk_at dksX12_of_0 5 rfl rfl)
theorem dX12_of_8 : decode cX12_of 8 = .ok (.ireturn, 1) := dk_172 (dk_at dksX12_of_0 8 rfl rfl)
abbrev cX12_of_2 : ByteArray := prog_33_method_2_code
def yX12_of_2 : MethodName := ⟨RX12, "of", "(LHamletWells$Site;)I"⟩
def dkwX12_of_2_0 : List UInt8 := [43, 42, 180, 0, 7, 182, 0, 17, 172]
abbrev dktX12_of_2_0 : List UInt8 := dkwX12_of_2_0 ++ []
theorem dksX12_of_2_0 : cX12_of_2.data.toList.drop 0 = dktX12_of_2_0 := by decide +kernel
theorem dX12_of_2_0 : decode cX12_of_2 0 = .ok (.aload_n 1, 1) := dk_43 (dk_at dksX12_of_2_0 0 rfl rfl)
theorem dX12_of_2_1 : decode cX12_of_2 1 = .ok (.aload_n 0, 1) := dk_42 (dk_at dksX12_of_2_0 1 rfl rfl)
theorem dX12_of_2_2 : decode cX12_of_2 2 = .ok (.getfield 7, 3) := dk_180 0 7 (dk_at dksX12_of_2_0 2 rfl rfl)
theorem dX12_of_2_5 : decode cX12_of_2 5 = .ok (.invokevirtual 17, 3) := dk_182 0 17 (dk_at dksX12_of_2_0 5 rfl rfl)
theorem dX12_of_2_8 : decode cX12_of_2 8 = .ok (.ireturn, 1) := dk_172 (dk_at dksX12_of_2_0 8 rfl rfl)
theorem q144 : (Jvm.Cond.initialized "HamletWells$Province$1") ∈ lw_all := lw_g (lw_at lw_m1 35 rfl) rfl
theorem q633 : (Jvm.Cond.selects "HamletWells$Province$1" ({ cls := "java/lang/Object", name := "getClass", desc := "()Ljava/lang/Class;" } : Jvm.MethodName) ({ cls := "java/lang/Object", name := "getClass", desc := "()Ljava/lang/Class;" } : Jvm.MethodName)) ∈ lw_all := lw_g (lw_at lw_m3 44 rfl) rfl
theorem q1322 : (Jvm.Cond.instantiable "HamletWells$Province$1" (2 : Nat)) ∈ lw_all := lw_g (lw_at lw_m6 13 rfl) rfl
theorem q1324 : (Jvm.Cond.instanceMethod ({ cls := "HamletWells$Province$1", name := "<init>", desc := "(LHamletWells$Province;LHamletWells$Hamlet;)V" } : Jvm.MethodName)) ∈ lw_all := lw_g (lw_at lw_m6 15 rfl) rfl
theorem q1325 : (Jvm.Cond.code ({ cls := "HamletWells$Province$1", name := "<init>", desc := "(LHamletWells$Province;LHamletWells$Hamlet;)V" } : Jvm.MethodName) prog_33_method_1_code (3 : Nat) (Option.none : Option Jvm.ClassFile.FieldType)) ∈ lw_all := lw_g (lw_at lw_m6 16 rfl) rfl
theorem q1326 : (Jvm.Cond.methodLink "HamletWells$Province$1" (11 : Nat) ({ cls := "java/lang/Object", name := "<init>", desc := "()V" } : Jvm.MethodName)) ∈ lw_all := lw_g (lw_at lw_m6 17 rfl) rfl
theorem q1327 : (Jvm.Cond.fieldLink "HamletWells$Province$1" (7 : Nat) "HamletWells$Province$1" "val$h" "LHamletWells$Hamlet;") ∈ lw_all := lw_g (lw_at lw_m6 18 rfl) rfl
theorem q1328 : (Jvm.Cond.fieldLink "HamletWells$Province$1" (1 : Nat) "HamletWells$Province$1" "this$0" "LHamletWells$Province;") ∈ lw_all := lw_g (lw_at lw_m6 19 rfl) rfl
theorem q1329 : (Jvm.Cond.laysFinal "HamletWells$Province$1" "HamletWells$Province$1" "val$h" "LHamletWells$Hamlet;") ∈ lw_all := lw_g (lw_at lw_m6 20 rfl) rfl
theorem q1330 : (Jvm.Cond.soleField "HamletWells$Province$1" "val$h") ∈ lw_all := lw_g (lw_at lw_m6 21 rfl) rfl
theorem q1331 : (Jvm.Cond.laysFinal "HamletWells$Province$1" "HamletWells$Province$1" "this$0" "LHamletWells$Province;") ∈ lw_all := lw_g (lw_at lw_m6 22 rfl) rfl
theorem q1332 : (Jvm.Cond.soleField "HamletWells$Province$1" "this$0") ∈ lw_all := lw_g (lw_at lw_m6 23 rfl) rfl
theorem q1333 : (Jvm.Cond.superclass "HamletWells$Province$1" "java/lang/Object") ∈ lw_all := lw_g (lw_at lw_m6 24 rfl) rfl
theorem q1614 : (Jvm.Cond.castable "HamletWells$Province$1" "HamletWells$Worth") ∈ lw_tbl := lw_at lw_m7 65 rfl
theorem q1615 : (Jvm.Cond.selects "HamletWells$Province$1" ({ cls := "HamletWells$Worth", name := "of", desc := "(Ljava/lang/Object;)I" } : Jvm.MethodName) ({ cls := "HamletWells$Province$1", name := "of", desc := "(Ljava/lang/Object;)I" } : Jvm.MethodName)) ∈ lw_all := lw_g (lw_at lw_m7 66 rfl) rfl
theorem q1616 : (Jvm.Cond.unhidden "HamletWells$Province$1" "of" "(Ljava/lang/Object;)I") ∈ lw_tbl := lw_at lw_m7 67 rfl
theorem q1617 : (Jvm.Cond.instanceMethod ({ cls := "HamletWells$Province$1", name := "of", desc := "(Ljava/lang/Object;)I" } : Jvm.MethodName)) ∈ lw_all := lw_g (lw_at lw_m7 68 rfl) rfl
theorem q1618 : (Jvm.Cond.publicMethod ({ cls := "HamletWells$Province$1", name := "of", desc := "(Ljava/lang/Object;)I" } : Jvm.MethodName)) ∈ lw_tbl := lw_at lw_m7 69 rfl
theorem q1619 : (Jvm.Cond.code ({ cls := "HamletWells$Province$1", name := "of", desc := "(Ljava/lang/Object;)I" } : Jvm.MethodName) prog_33_method_3_code (2 : Nat) (Option.some Jvm.ClassFile.FieldType.int)) ∈ lw_all := lw_g (lw_at lw_m7 70 rfl) rfl
theorem q1620 : (Jvm.Cond.classLink "HamletWells$Province$1" (18 : Nat) "HamletWells$Site") ∈ lw_all := lw_g (lw_at lw_m7 71 rfl) rfl
theorem q1621 : (Jvm.Cond.methodLink "HamletWells$Province$1" (23 : Nat) ({ cls := "HamletWells$Province$1", name := "of", desc := "(LHamletWells$Site;)I" } : Jvm.MethodName)) ∈ lw_all := lw_g (lw_at lw_m7 72 rfl) rfl
theorem q1622 : (Jvm.Cond.instanceMethod ({ cls := "HamletWells$Province$1", name := "of", desc := "(LHamletWells$Site;)I" } : Jvm.MethodName)) ∈ lw_all := lw_g (lw_at lw_m7 73 rfl) rfl
theorem q1623 : (Jvm.Cond.selects "HamletWells$Province$1" ({ cls := "HamletWells$Province$1", name := "of", desc := "(LHamletWells$Site;)I" } : Jvm.MethodName) ({ cls := "HamletWells$Province$1", name := "of", desc := "(LHamletWells$Site;)I" } : Jvm.MethodName)) ∈ lw_all := lw_g (lw_at lw_m7 74 rfl) rfl
theorem q1624 : (Jvm.Cond.code ({ cls := "HamletWells$Province$1", name := "of", desc := "(LHamletWells$Site;)I" } : Jvm.MethodName) prog_33_method_2_code (2 : Nat) (Option.some Jvm.ClassFile.FieldType.int)) ∈ lw_all := lw_g (lw_at lw_m7 75 rfl) rfl
theorem q1625 : (Jvm.Cond.methodLink "HamletWells$Province$1" (17 : Nat) ({ cls := "HamletWells$Site", name := "far", desc := "(LHamletWells$Standing;)I" } : Jvm.MethodName)) ∈ lw_all := lw_g (lw_at lw_m7 76 rfl) rfl
theorem q3519 : (Jvm.Cond.castable "HamletWells$Province$1" "java/lang/Object") ∈ lw_tbl := lw_at lw_m15 50 rfl
theorem in_X12 : ∀ w ∈ wsX120, w ∈ lw_all := lw_in wsX120 [1329, 1331] (by decide +kernel) (by decide +kernel)
/-! HamletWells$2 -/
set_option maxRecDepth 100000
def RX13 : String := "HamletWells$2"
def TX13 : u_T := fun k => match k with
  | 0 => ("HamletWells$Deed", "this$0", "LHamletWells;", true)
  | 1 => ("HamletWells$2", "val$x", "I", true)
  | 2 => ("HamletWells$2", "val$y", "I", true)
  | 3 => ("HamletWells$2", "val$depth", "I", true)
  | 4 => ("HamletWells$2", "val$cost", "I", true)
  | _ => ("HamletWells$2", "this$0", "LHamletWells;", true)
def tyX13 : Nat → FieldType := fun k => match k with
  | 0 => .object "HamletWells"
  | 1 => .int
  | 2 => .int
  | 3 => .int
  | 4 => .int
  | _ => .object "HamletWells"
abbrev wsX130 : List Cond := u_ws RX13 TX13 6
-- two fields of one name: no nmX13
theorem tyX13_ok : ∀ k, k < 6 → parseFieldDescriptor (TX13 k).2.2.1 = some (tyX13 k) := by decide +kernel
abbrev cX13_does : ByteArray := prog_6_method_2_code
def yX13_does : MethodName := ⟨RX13, "does", "(LHamletWells$Province;)I"⟩
def dkwX13_does_0 : List UInt8 := [43, 42, 180, 0, 7, 42, 180, 0, 11, 42, 180, 0, 14, 42, 180, 0, 17, 182, 0, 26, 172]
abbrev dktX13_does_0 : List UInt8 := dkwX13_does_0 ++ []
theorem dksX13_does_0 : cX13_does.data.toList.drop 0 = dktX13_does_0 := by decide +kernel
theorem dX13_does_0 : decode cX13_does 0 = .ok (.aload_n 1, 1) := dk_43 (dk_at dksX13_does_0 0 rfl rfl)
theorem dX13_does_1 : decode cX13_does 1 = .ok (.aload_n 0, 1) := dk_42 (dk_at dksX13_does_0 1 rfl rfl)
theorem dX13_does_2 : decode cX13_does 2 = .ok (.getfield 7, 3) := dk_180 0 7 (dk_at dksX13_does_0 2 rfl rfl)
theorem dX13_does_5 : decode cX13_does 5 = .ok (.aload_n 0, 1) := dk_42 (dk_at dksX13_does_0 5 rfl rfl)
theorem dX13_does_6 : decode cX13_does 6 = .ok (.getfield 11, 3) := dk_180 0 11 (dk_at dksX13_does_0 6 rfl rfl)
theorem dX13_does_9 : decode cX13_does 9 = .ok (.aload_n 0, 1) := dk_42 (dk_at dksX13_does_0 9 rfl rfl)
theorem dX13_does_10 : decode cX13_does 10 = .ok (.getfield 14, 3) := dk_180 0 14 (dk_at dksX13_does_0 10 rfl rfl)
theorem dX13_does_13 : decode cX13_does 13 = .ok (.aload_n 0, 1) := dk_42 (dk_at dksX13_does_0 13 rfl rfl)
theorem dX13_does_14 : decode cX13_does 14 = .ok (.getfield 17, 3) := dk_180 0 17 (dk_at dksX13_does_0 14 rfl rfl)
theorem dX13_does_17 : decode cX13_does 17 = .ok (.invokevirtual 26, 3) := dk_182 0 26 (dk_at dksX13_does_0 17 rfl rfl)
theorem dX13_does_20 : decode cX13_does 20 = .ok (.ireturn, 1) := dk_172 (dk_at dksX13_does_0 20 rfl rfl)
abbrev cX13_init : ByteArray := prog_6_method_1_code
def yX13_init : MethodName := ⟨RX13, "<init>", "(LHamletWells;IIII)V"⟩
def dkwX13_init_1 : List UInt8 := [181, 0, 17, 42, 43, 183, 0, 20, 177]
abbrev dktX13_init_1 : List UInt8 := dkwX13_init_1 ++ []
def dkwX13_init_0 : List UInt8 := [42, 43, 181, 0, 1, 42, 28, 181, 0, 7, 42, 29, 181, 0, 11, 42, 21, 4, 181, 0, 14, 42, 21, 5]
abbrev dktX13_init_0 : List UInt8 := dkwX13_init_0 ++ dktX13_init_1
theorem dksX13_init_0 : cX13_init.data.toList.drop 0 = dktX13_init_0 := by decide +kernel
theorem dksX13_init_1 : cX13_init.data.toList.drop 24 = dktX13_init_1 := dk_seg dksX13_init_0 24 rfl rfl
theorem dX13_init_0 : decode cX13_init 0 = .ok (.aload_n 0, 1) := dk_42 (dk_at dksX13_init_0 0 rfl rfl)
theorem dX13_init_1 : decode cX13_init 1 = .ok (.aload_n 1, 1) := dk_43 (dk_at dksX13_init_0 1 rfl rfl)
theorem dX13_init_2 : decode cX13_init 2 = .ok (.putfield 1, 3) := dk_181 0 1 (dk_at dksX13_init_0 2 rfl rfl)
theorem dX13_init_5 : decode cX13_init 5 = .ok (.aload_n 0, 1) := dk_42 (dk_at dksX13_init_0 5 rfl rfl)
theorem dX13_init_6 : decode cX13_init 6 = .ok (.iload_n 2, 1) := dk_28 (dk_at dksX13_init_0 6 rfl rfl)
theorem dX13_init_7 : decode cX13_init 7 = .ok (.putfield 7, 3) := dk_181 0 7 (dk_at dksX13_init_0 7 rfl rfl)
theorem dX13_init_10 : decode cX13_init 10 = .ok (.aload_n 0, 1) := dk_42 (dk_at dksX13_init_0 10 rfl rfl)
theorem dX13_init_11 : decode cX13_init 11 = .ok (.iload_n 3, 1) := dk_29 (dk_at dksX13_init_0 11 rfl rfl)
theorem dX13_init_12 : decode cX13_init 12 = .ok (.putfield 11, 3) := dk_181 0 11 (dk_at dksX13_init_0 12 rfl rfl)
theorem dX13_init_15 : decode cX13_init 15 = .ok (.aload_n 0, 1) := dk_42 (dk_at dksX13_init_0 15 rfl rfl)
theorem dX13_init_16 : decode cX13_init 16 = .ok (.iload 4, 2) := dk_21 4 (dk_at dksX13_init_0 16 rfl rfl)
theorem dX13_init_18 : decode cX13_init 18 = .ok (.putfield 14, 3) := dk_181 0 14 (dk_at dksX13_init_0 18 rfl rfl)
theorem dX13_init_21 : decode cX13_init 21 = .ok (.aload_n 0, 1) := dk_42 (dk_at dksX13_init_0 21 rfl rfl)
theorem dX13_init_22 : decode cX13_init 22 = .ok (.iload 5, 2) := dk_21 5 (dk_at dksX13_init_0 22 rfl rfl)
theorem dX13_init_24 : decode cX13_init 24 = .ok (.putfield 17, 3) := dk_181 0 17 (dk_at dksX13_init_1 0 rfl rfl)
theorem dX13_init_27 : decode cX13_init 27 = .ok (.aload_n 0, 1) := dk_42 (dk_at dksX13_init_1 3 rfl rfl)
theorem dX13_init_28 : decode cX13_init 28 = .ok (.aload_n 1, 1) := dk_43 (dk_at dksX13_init_1 4 rfl rfl)
theorem dX13_init_29 : decode cX13_init 29 = .ok (.invokespecial 20, 3) := dk_183 0 20 (dk_at dksX13_init_1 5 rfl rfl)
theorem dX13_init_32 : decode cX13_init 32 = .ok (.return_, 1) := dk_177 (dk_at dksX13_init_1 8 rfl rfl)
theorem q155 : (Jvm.Cond.initialized "HamletWells$2") ∈ lw_all := lw_g (lw_at lw_m1 46 rfl) rfl
theorem q401 : (Jvm.Cond.selects "HamletWells$2" ({ cls := "HamletWells$Deed", name := "done", desc := "()I" } : Jvm.MethodName) ({ cls := "HamletWells$Deed", name := "done", desc := "()I" } : Jvm.MethodName)) ∈ lw_all := lw_g (lw_at lw_m2 52 rfl) rfl
theorem q609 : (Jvm.Cond.selects "HamletWells$2" ({ cls := "java/lang/Object", name := "getClass", desc := "()Ljava/lang/Class;" } : Jvm.MethodName) ({ cls := "java/lang/Object", name := "getClass", desc := "()Ljava/lang/Class;" } : Jvm.MethodName)) ∈ lw_all := lw_g (lw_at lw_m3 20 rfl) rfl
theorem q1850 : (Jvm.Cond.selects "HamletWells$2" ({ cls := "HamletWells$Deed", name := "does", desc := "(LHamletWells$Province;)I" } : Jvm.MethodName) ({ cls := "HamletWells$2", name := "does", desc := "(LHamletWells$Province;)I" } : Jvm.MethodName)) ∈ lw_all := lw_g (lw_at lw_m8 61 rfl) rfl
theorem q1851 : (Jvm.Cond.instanceMethod ({ cls := "HamletWells$2", name := "does", desc := "(LHamletWells$Province;)I" } : Jvm.MethodName)) ∈ lw_all := lw_g (lw_at lw_m8 62 rfl) rfl
theorem q1852 : (Jvm.Cond.code ({ cls := "HamletWells$2", name := "does", desc := "(LHamletWells$Province;)I" } : Jvm.MethodName) prog_6_method_2_code (2 : Nat) (Option.some Jvm.ClassFile.FieldType.int)) ∈ lw_all := lw_g (lw_at lw_m8 63 rfl) rfl
theorem q1853 : (Jvm.Cond.methodLink "HamletWells$2" (26 : Nat) ({ cls := "HamletWells$Province", name := "site", desc := "(IIII)I" } : Jvm.MethodName)) ∈ lw_all := lw_g (lw_at lw_m8 64 rfl) rfl
theorem q1907 : (Jvm.Cond.instantiable "HamletWells$2" (6 : Nat)) ∈ lw_all := lw_g (lw_at lw_m8 118 rfl) rfl
theorem q1909 : (Jvm.Cond.instanceMethod ({ cls := "HamletWells$2", name := "<init>", desc := "(LHamletWells;IIII)V" } : Jvm.MethodName)) ∈ lw_all := lw_g (lw_at lw_m8 120 rfl) rfl
theorem q1910 : (Jvm.Cond.code ({ cls := "HamletWells$2", name := "<init>", desc := "(LHamletWells;IIII)V" } : Jvm.MethodName) prog_6_method_1_code (6 : Nat) (Option.none : Option Jvm.ClassFile.FieldType)) ∈ lw_all := lw_g (lw_at lw_m8 121 rfl) rfl
theorem q1911 : (Jvm.Cond.methodLinkNest "HamletWells$2" (20 : Nat) ({ cls := "HamletWells$Deed", name := "<init>", desc := "(LHamletWells;)V" } : Jvm.MethodName) "HamletWells") ∈ lw_tbl := lw_at lw_m8 122 rfl
theorem q1912 : (Jvm.Cond.fieldLink "HamletWells$2" (7 : Nat) "HamletWells$2" "val$x" "I") ∈ lw_all := lw_g (lw_at lw_m8 123 rfl) rfl
theorem q1913 : (Jvm.Cond.fieldLink "HamletWells$2" (11 : Nat) "HamletWells$2" "val$y" "I") ∈ lw_all := lw_g (lw_at lw_m8 124 rfl) rfl
theorem q1914 : (Jvm.Cond.fieldLink "HamletWells$2" (14 : Nat) "HamletWells$2" "val$depth" "I") ∈ lw_all := lw_g (lw_at lw_m8 125 rfl) rfl
theorem q1915 : (Jvm.Cond.fieldLink "HamletWells$2" (17 : Nat) "HamletWells$2" "val$cost" "I") ∈ lw_all := lw_g (lw_at lw_m8 126 rfl) rfl
theorem q1916 : (Jvm.Cond.fieldLink "HamletWells$2" (1 : Nat) "HamletWells$2" "this$0" "LHamletWells;") ∈ lw_all := lw_g (lw_at lw_m8 127 rfl) rfl
theorem q1917 : (Jvm.Cond.laysFinal "HamletWells$2" "HamletWells$2" "val$x" "I") ∈ lw_all := lw_g (lw_at lw_m8 128 rfl) rfl
theorem q1918 : (Jvm.Cond.soleField "HamletWells$2" "val$x") ∈ lw_all := lw_g (lw_at lw_m8 129 rfl) rfl
theorem q1919 : (Jvm.Cond.laysFinal "HamletWells$2" "HamletWells$2" "val$y" "I") ∈ lw_all := lw_g (lw_at lw_m8 130 rfl) rfl
theorem q1920 : (Jvm.Cond.soleField "HamletWells$2" "val$y") ∈ lw_all := lw_g (lw_at lw_m8 131 rfl) rfl
theorem q1921 : (Jvm.Cond.laysFinal "HamletWells$2" "HamletWells$2" "val$depth" "I") ∈ lw_all := lw_g (lw_at lw_m8 132 rfl) rfl
theorem q1922 : (Jvm.Cond.soleField "HamletWells$2" "val$depth") ∈ lw_all := lw_g (lw_at lw_m8 133 rfl) rfl
theorem q1923 : (Jvm.Cond.laysFinal "HamletWells$2" "HamletWells$2" "val$cost" "I") ∈ lw_all := lw_g (lw_at lw_m8 134 rfl) rfl
theorem q1924 : (Jvm.Cond.soleField "HamletWells$2" "val$cost") ∈ lw_all := lw_g (lw_at lw_m8 135 rfl) rfl
theorem q1925 : (Jvm.Cond.laysFinal "HamletWells$2" "HamletWells$2" "this$0" "LHamletWells;") ∈ lw_all := lw_g (lw_at lw_m8 136 rfl) rfl
theorem q1926 : (Jvm.Cond.soleField "HamletWells$2" "this$0") ∈ lw_all := lw_g (lw_at lw_m8 137 rfl) rfl
theorem q1927 : (Jvm.Cond.laysFinal "HamletWells$2" "HamletWells$Deed" "this$0" "LHamletWells;") ∈ lw_all := lw_g (lw_at lw_m8 138 rfl) rfl
theorem q1928 : (Jvm.Cond.superclass "HamletWells$2" "HamletWells$Deed") ∈ lw_all := lw_g (lw_at lw_m8 139 rfl) rfl
theorem q1931 : (Jvm.Cond.sameMethod "HamletWells$2" "HamletWells$Deed" "doneIf" "(ZI)I") ∈ lw_all := lw_g (lw_at lw_m8 142 rfl) rfl
theorem q1932 : (Jvm.Cond.selects "HamletWells$2" ({ cls := "HamletWells$2", name := "doneIf", desc := "(ZI)I" } : Jvm.MethodName) ({ cls := "HamletWells$Deed", name := "doneIf", desc := "(ZI)I" } : Jvm.MethodName)) ∈ lw_all := lw_g (lw_at lw_m8 143 rfl) rfl
theorem q3511 : (Jvm.Cond.castable "HamletWells$2" "java/lang/Object") ∈ lw_tbl := lw_at lw_m15 42 rfl
theorem in_X13 : ∀ w ∈ wsX130, w ∈ lw_all := lw_in wsX130 [1927, 1917, 1919, 1921, 1923, 1925] (by decide +kernel) (by decide +kernel)
/-! HamletWells$3 -/
set_option maxRecDepth 100000
def RX14 : String := "HamletWells$3"
def TX14 : u_T := fun k => match k with
  | 0 => ("HamletWells$Deed", "this$0", "LHamletWells;", true)
  | 1 => ("HamletWells$3", "val$site", "I", true)
  | _ => ("HamletWells$3", "this$0", "LHamletWells;", true)
def tyX14 : Nat → FieldType := fun k => match k with
  | 0 => .object "HamletWells"
  | 1 => .int
  | _ => .object "HamletWells"
abbrev wsX140 : List Cond := u_ws RX14 TX14 3
-- two fields of one name: no nmX14
theorem tyX14_ok : ∀ k, k < 3 → parseFieldDescriptor (TX14 k).2.2.1 = some (tyX14 k) := by decide +kernel
abbrev cX14_does : ByteArray := prog_7_method_2_code
def yX14_does : MethodName := ⟨RX14, "does", "(LHamletWells$Province;)I"⟩
def dkwX14_does_0 : List UInt8 := [43, 42, 180, 0, 7, 182, 0, 17, 172]
abbrev dktX14_does_0 : List UInt8 := dkwX14_does_0 ++ []
theorem dksX14_does_0 : cX14_does.data.toList.drop 0 = dktX14_does_0 := by decide +kernel
theorem dX14_does_0 : decode cX14_does 0 = .ok (.aload_n 1, 1) := dk_43 (dk_at dksX14_does_0 0 rfl rfl)
theorem dX14_does_1 : decode cX14_does 1 = .ok (.aload_n 0, 1) := dk_42 (dk_at dksX14_does_0 1 rfl rfl)
theorem dX14_does_2 : decode cX14_does 2 = .ok (.getfield 7, 3) := dk_180 0 7 (dk_at dksX14_does_0 2 rfl rfl)
theorem dX14_does_5 : decode cX14_does 5 = .ok (.invokevirtual 17, 3) := dk_182 0 17 (dk_at dksX14_does_0 5 rfl rfl)
theorem dX14_does_8 : decode cX14_does 8 = .ok (.ireturn, 1) := dk_172 (dk_at dksX14_does_0 8 rfl rfl)
abbrev cX14_init : ByteArray := prog_7_method_1_code
def yX14_init : MethodName := ⟨RX14, "<init>", "(LHamletWells;I)V"⟩
def dkwX14_init_0 : List UInt8 := [42, 43, 181, 0, 1, 42, 28, 181, 0, 7, 42, 43, 183, 0, 11, 177]
abbrev dktX14_init_0 : List UInt8 := dkwX14_init_0 ++ []
theorem dksX14_init_0 : cX14_init.data.toList.drop 0 = dktX14_init_0 := by decide +kernel
theorem dX14_init_0 : decode cX14_init 0 = .ok (.aload_n 0, 1) := dk_42 (dk_at dksX14_init_0 0 rfl rfl)
theorem dX14_init_1 : decode cX14_init 1 = .ok (.aload_n 1, 1) := dk_43 (dk_at dksX14_init_0 1 rfl rfl)
theorem dX14_init_2 : decode cX14_init 2 = .ok (.putfield 1, 3) := dk_181 0 1 (dk_at dksX14_init_0 2 rfl rfl)
theorem dX14_init_5 : decode cX14_init 5 = .ok (.aload_n 0, 1) := dk_42 (dk_at dksX14_init_0 5 rfl rfl)
theorem dX14_init_6 : decode cX14_init 6 = .ok (.iload_n 2, 1) := dk_28 (dk_at dksX14_init_0 6 rfl rfl)
theorem dX14_init_7 : decode cX14_init 7 = .ok (.putfield 7, 3) := dk_181 0 7 (dk_at dksX14_init_0 7 rfl rfl)
theorem dX14_init_10 : decode cX14_init 10 = .ok (.aload_n 0, 1) := dk_42 (dk_at dksX14_init_0 10 rfl rfl)
theorem dX14_init_11 : decode cX14_init 11 = .ok (.aload_n 1, 1) := dk_43 (dk_at dksX14_init_0 11 rfl rfl)
theorem dX14_init_12 : decode cX14_init 12 = .ok (.invokespecial 11, 3) := dk_183 0 11 (dk_at dksX14_init_0 12 rfl rfl)
theorem dX14_init_15 : decode cX14_init 15 = .ok (.return_, 1) := dk_177 (dk_at dksX14_init_0 15 rfl rfl)
theorem q156 : (Jvm.Cond.initialized "HamletWells$3") ∈ lw_all := lw_g (lw_at lw_m1 47 rfl) rfl
theorem q402 : (Jvm.Cond.selects "HamletWells$3" ({ cls := "HamletWells$Deed", name := "done", desc := "()I" } : Jvm.MethodName) ({ cls := "HamletWells$Deed", name := "done", desc := "()I" } : Jvm.MethodName)) ∈ lw_all := lw_g (lw_at lw_m2 53 rfl) rfl
theorem q610 : (Jvm.Cond.selects "HamletWells$3" ({ cls := "java/lang/Object", name := "getClass", desc := "()Ljava/lang/Class;" } : Jvm.MethodName) ({ cls := "java/lang/Object", name := "getClass", desc := "()Ljava/lang/Class;" } : Jvm.MethodName)) ∈ lw_all := lw_g (lw_at lw_m3 21 rfl) rfl
theorem q1854 : (Jvm.Cond.selects "HamletWells$3" ({ cls := "HamletWells$Deed", name := "does", desc := "(LHamletWells$Province;)I" } : Jvm.MethodName) ({ cls := "HamletWells$3", name := "does", desc := "(LHamletWells$Province;)I" } : Jvm.MethodName)) ∈ lw_all := lw_g (lw_at lw_m8 65 rfl) rfl
theorem q1855 : (Jvm.Cond.instanceMethod ({ cls := "HamletWells$3", name := "does", desc := "(LHamletWells$Province;)I" } : Jvm.MethodName)) ∈ lw_all := lw_g (lw_at lw_m8 66 rfl) rfl
theorem q1856 : (Jvm.Cond.code ({ cls := "HamletWells$3", name := "does", desc := "(LHamletWells$Province;)I" } : Jvm.MethodName) prog_7_method_2_code (2 : Nat) (Option.some Jvm.ClassFile.FieldType.int)) ∈ lw_all := lw_g (lw_at lw_m8 67 rfl) rfl
theorem q1857 : (Jvm.Cond.methodLink "HamletWells$3" (17 : Nat) ({ cls := "HamletWells$Province", name := "opens", desc := "(I)I" } : Jvm.MethodName)) ∈ lw_all := lw_g (lw_at lw_m8 68 rfl) rfl
theorem q1938 : (Jvm.Cond.instantiable "HamletWells$3" (3 : Nat)) ∈ lw_all := lw_g (lw_at lw_m8 149 rfl) rfl
theorem q1940 : (Jvm.Cond.instanceMethod ({ cls := "HamletWells$3", name := "<init>", desc := "(LHamletWells;I)V" } : Jvm.MethodName)) ∈ lw_all := lw_g (lw_at lw_m8 151 rfl) rfl
theorem q1941 : (Jvm.Cond.code ({ cls := "HamletWells$3", name := "<init>", desc := "(LHamletWells;I)V" } : Jvm.MethodName) prog_7_method_1_code (3 : Nat) (Option.none : Option Jvm.ClassFile.FieldType)) ∈ lw_all := lw_g (lw_at lw_m8 152 rfl) rfl
theorem q1942 : (Jvm.Cond.methodLinkNest "HamletWells$3" (11 : Nat) ({ cls := "HamletWells$Deed", name := "<init>", desc := "(LHamletWells;)V" } : Jvm.MethodName) "HamletWells") ∈ lw_tbl := lw_at lw_m8 153 rfl
theorem q1943 : (Jvm.Cond.fieldLink "HamletWells$3" (7 : Nat) "HamletWells$3" "val$site" "I") ∈ lw_all := lw_g (lw_at lw_m8 154 rfl) rfl
theorem q1944 : (Jvm.Cond.fieldLink "HamletWells$3" (1 : Nat) "HamletWells$3" "this$0" "LHamletWells;") ∈ lw_all := lw_g (lw_at lw_m8 155 rfl) rfl
theorem q1945 : (Jvm.Cond.laysFinal "HamletWells$3" "HamletWells$3" "val$site" "I") ∈ lw_all := lw_g (lw_at lw_m8 156 rfl) rfl
theorem q1946 : (Jvm.Cond.soleField "HamletWells$3" "val$site") ∈ lw_all := lw_g (lw_at lw_m8 157 rfl) rfl
theorem q1947 : (Jvm.Cond.laysFinal "HamletWells$3" "HamletWells$3" "this$0" "LHamletWells;") ∈ lw_all := lw_g (lw_at lw_m8 158 rfl) rfl
theorem q1948 : (Jvm.Cond.soleField "HamletWells$3" "this$0") ∈ lw_all := lw_g (lw_at lw_m8 159 rfl) rfl
theorem q1949 : (Jvm.Cond.laysFinal "HamletWells$3" "HamletWells$Deed" "this$0" "LHamletWells;") ∈ lw_all := lw_g (lw_at lw_m8 160 rfl) rfl
theorem q1950 : (Jvm.Cond.superclass "HamletWells$3" "HamletWells$Deed") ∈ lw_all := lw_g (lw_at lw_m8 161 rfl) rfl
theorem q1953 : (Jvm.Cond.sameMethod "HamletWells$3" "HamletWells$Deed" "doneIf" "(ZI)I") ∈ lw_all := lw_g (lw_at lw_m8 164 rfl) rfl
theorem q1954 : (Jvm.Cond.selects "HamletWells$3" ({ cls := "HamletWells$3", name := "doneIf", desc := "(ZI)I" } : Jvm.MethodName) ({ cls := "HamletWells$Deed", name := "doneIf", desc := "(ZI)I" } : Jvm.MethodName)) ∈ lw_all := lw_g (lw_at lw_m8 165 rfl) rfl
theorem q3512 : (Jvm.Cond.castable "HamletWells$3" "java/lang/Object") ∈ lw_tbl := lw_at lw_m15 43 rfl
theorem in_X14 : ∀ w ∈ wsX140, w ∈ lw_all := lw_in wsX140 [1949, 1945, 1947] (by decide +kernel) (by decide +kernel)
/-! HamletWells$4 -/
set_option maxRecDepth 100000
def RX15 : String := "HamletWells$4"
def TX15 : u_T := fun k => match k with
  | 0 => ("HamletWells$Deed", "this$0", "LHamletWells;", true)
  | 1 => ("HamletWells$4", "val$site", "I", true)
  | _ => ("HamletWells$4", "this$0", "LHamletWells;", true)
def tyX15 : Nat → FieldType := fun k => match k with
  | 0 => .object "HamletWells"
  | 1 => .int
  | _ => .object "HamletWells"
abbrev wsX150 : List Cond := u_ws RX15 TX15 3
-- two fields of one name: no nmX15
theorem tyX15_ok : ∀ k, k < 3 → parseFieldDescriptor (TX15 k).2.2.1 = some (tyX15 k) := by decide +kernel
abbrev cX15_does : ByteArray := prog_8_method_2_code
def yX15_does : MethodName := ⟨RX15, "does", "(LHamletWells$Province;)I"⟩
def dkwX15_does_0 : List UInt8 := [43, 42, 180, 0, 7, 182, 0, 17, 172]
abbrev dktX15_does_0 : List UInt8 := dkwX15_does_0 ++ []
theorem dksX15_does_0 : cX15_does.data.toList.drop 0 = dktX15_does_0 := by decide +kernel
theorem dX15_does_0 : decode cX15_does 0 = .ok (.aload_n 1, 1) := dk_43 (dk_at dksX15_does_0 0 rfl rfl)
theorem dX15_does_1 : decode cX15_does 1 = .ok (.aload_n 0, 1) := dk_42 (dk_at dksX15_does_0 1 rfl rfl)
theorem dX15_does_2 : decode cX15_does 2 = .ok (.getfield 7, 3) := dk_180 0 7 (dk_at dksX15_does_0 2 rfl rfl)
theorem dX15_does_5 : decode cX15_does 5 = .ok (.invokevirtual 17, 3) := dk_182 0 17 (dk_at dksX15_does_0 5 rfl rfl)
theorem dX15_does_8 : decode cX15_does 8 = .ok (.ireturn, 1) := dk_172 (dk_at dksX15_does_0 8 rfl rfl)
abbrev cX15_init : ByteArray := prog_8_method_1_code
def yX15_init : MethodName := ⟨RX15, "<init>", "(LHamletWells;I)V"⟩
def dkwX15_init_0 : List UInt8 := [42, 43, 181, 0, 1, 42, 28, 181, 0, 7, 42, 43, 183, 0, 11, 177]
abbrev dktX15_init_0 : List UInt8 := dkwX15_init_0 ++ []
theorem dksX15_init_0 : cX15_init.data.toList.drop 0 = dktX15_init_0 := by decide +kernel
theorem dX15_init_0 : decode cX15_init 0 = .ok (.aload_n 0, 1) := dk_42 (dk_at dksX15_init_0 0 rfl rfl)
theorem dX15_init_1 : decode cX15_init 1 = .ok (.aload_n 1, 1) := dk_43 (dk_at dksX15_init_0 1 rfl rfl)
theorem dX15_init_2 : decode cX15_init 2 = .ok (.putfield 1, 3) := dk_181 0 1 (dk_at dksX15_init_0 2 rfl rfl)
theorem dX15_init_5 : decode cX15_init 5 = .ok (.aload_n 0, 1) := dk_42 (dk_at dksX15_init_0 5 rfl rfl)
theorem dX15_init_6 : decode cX15_init 6 = .ok (.iload_n 2, 1) := dk_28 (dk_at dksX15_init_0 6 rfl rfl)
theorem dX15_init_7 : decode cX15_init 7 = .ok (.putfield 7, 3) := dk_181 0 7 (dk_at dksX15_init_0 7 rfl rfl)
theorem dX15_init_10 : decode cX15_init 10 = .ok (.aload_n 0, 1) := dk_42 (dk_at dksX15_init_0 10 rfl rfl)
theorem dX15_init_11 : decode cX15_init 11 = .ok (.aload_n 1, 1) := dk_43 (dk_at dksX15_init_0 11 rfl rfl)
theorem dX15_init_12 : decode cX15_init 12 = .ok (.invokespecial 11, 3) := dk_183 0 11 (dk_at dksX15_init_0 12 rfl rfl)
theorem dX15_init_15 : decode cX15_init 15 = .ok (.return_, 1) := dk_177 (dk_at dksX15_init_0 15 rfl rfl)
theorem q157 : (Jvm.Cond.initialized "HamletWells$4") ∈ lw_all := lw_g (lw_at lw_m1 48 rfl) rfl
theorem q403 : (Jvm.Cond.selects "HamletWells$4" ({ cls := "HamletWells$Deed", name := "done", desc := "()I" } : Jvm.MethodName) ({ cls := "HamletWells$Deed", name := "done", desc := "()I" } : Jvm.MethodName)) ∈ lw_all := lw_g (lw_at lw_m2 54 rfl) rfl
theorem q611 : (Jvm.Cond.selects "HamletWells$4" ({ cls := "java/lang/Object", name := "getClass", desc := "()Ljava/lang/Class;" } : Jvm.MethodName) ({ cls := "java/lang/Object", name := "getClass", desc := "()Ljava/lang/Class;" } : Jvm.MethodName)) ∈ lw_all := lw_g (lw_at lw_m3 22 rfl) rfl
theorem q1858 : (Jvm.Cond.selects "HamletWells$4" ({ cls := "HamletWells$Deed", name := "does", desc := "(LHamletWells$Province;)I" } : Jvm.MethodName) ({ cls := "HamletWells$4", name := "does", desc := "(LHamletWells$Province;)I" } : Jvm.MethodName)) ∈ lw_all := lw_g (lw_at lw_m8 69 rfl) rfl
theorem q1859 : (Jvm.Cond.instanceMethod ({ cls := "HamletWells$4", name := "does", desc := "(LHamletWells$Province;)I" } : Jvm.MethodName)) ∈ lw_all := lw_g (lw_at lw_m8 70 rfl) rfl
theorem q1860 : (Jvm.Cond.code ({ cls := "HamletWells$4", name := "does", desc := "(LHamletWells$Province;)I" } : Jvm.MethodName) prog_8_method_2_code (2 : Nat) (Option.some Jvm.ClassFile.FieldType.int)) ∈ lw_all := lw_g (lw_at lw_m8 71 rfl) rfl
theorem q1861 : (Jvm.Cond.methodLink "HamletWells$4" (17 : Nat) ({ cls := "HamletWells$Province", name := "shuts", desc := "(I)I" } : Jvm.MethodName)) ∈ lw_all := lw_g (lw_at lw_m8 72 rfl) rfl
theorem q1960 : (Jvm.Cond.instantiable "HamletWells$4" (3 : Nat)) ∈ lw_all := lw_g (lw_at lw_m8 171 rfl) rfl
theorem q1962 : (Jvm.Cond.instanceMethod ({ cls := "HamletWells$4", name := "<init>", desc := "(LHamletWells;I)V" } : Jvm.MethodName)) ∈ lw_all := lw_g (lw_at lw_m8 173 rfl) rfl
theorem q1963 : (Jvm.Cond.code ({ cls := "HamletWells$4", name := "<init>", desc := "(LHamletWells;I)V" } : Jvm.MethodName) prog_8_method_1_code (3 : Nat) (Option.none : Option Jvm.ClassFile.FieldType)) ∈ lw_all := lw_g (lw_at lw_m8 174 rfl) rfl
theorem q1964 : (Jvm.Cond.methodLinkNest "HamletWells$4" (11 : Nat) ({ cls := "HamletWells$Deed", name := "<init>", desc := "(LHamletWells;)V" } : Jvm.MethodName) "HamletWells") ∈ lw_tbl := lw_at lw_m8 175 rfl
theorem q1965 : (Jvm.Cond.fieldLink "HamletWells$4" (7 : Nat) "HamletWells$4" "val$site" "I") ∈ lw_all := lw_g (lw_at lw_m8 176 rfl) rfl
theorem q1966 : (Jvm.Cond.fieldLink "HamletWells$4" (1 : Nat) "HamletWells$4" "this$0" "LHamletWells;") ∈ lw_all := lw_g (lw_at lw_m8 177 rfl) rfl
theorem q1967 : (Jvm.Cond.laysFinal "HamletWells$4" "HamletWells$4" "val$site" "I") ∈ lw_all := lw_g (lw_at lw_m8 178 rfl) rfl
theorem q1968 : (Jvm.Cond.soleField "HamletWells$4" "val$site") ∈ lw_all := lw_g (lw_at lw_m8 179 rfl) rfl
theorem q1969 : (Jvm.Cond.laysFinal "HamletWells$4" "HamletWells$4" "this$0" "LHamletWells;") ∈ lw_all := lw_g (lw_at lw_m8 180 rfl) rfl
theorem q1970 : (Jvm.Cond.soleField "HamletWells$4" "this$0") ∈ lw_all := lw_g (lw_at lw_m8 181 rfl) rfl
theorem q1971 : (Jvm.Cond.laysFinal "HamletWells$4" "HamletWells$Deed" "this$0" "LHamletWells;") ∈ lw_all := lw_g (lw_at lw_m8 182 rfl) rfl
theorem q1972 : (Jvm.Cond.superclass "HamletWells$4" "HamletWells$Deed") ∈ lw_all := lw_g (lw_at lw_m8 183 rfl) rfl
theorem q1974 : (Jvm.Cond.sameMethod "HamletWells$4" "HamletWells$Deed" "doneIf" "(ZI)I") ∈ lw_all := lw_g (lw_at lw_m8 185 rfl) rfl
theorem q1975 : (Jvm.Cond.selects "HamletWells$4" ({ cls := "HamletWells$4", name := "doneIf", desc := "(ZI)I" } : Jvm.MethodName) ({ cls := "HamletWells$Deed", name := "doneIf", desc := "(ZI)I" } : Jvm.MethodName)) ∈ lw_all := lw_g (lw_at lw_m8 186 rfl) rfl
theorem q3513 : (Jvm.Cond.castable "HamletWells$4" "java/lang/Object") ∈ lw_tbl := lw_at lw_m15 44 rfl
theorem in_X15 : ∀ w ∈ wsX150, w ∈ lw_all := lw_in wsX150 [1971, 1967, 1969] (by decide +kernel) (by decide +kernel)
/-! HamletWells$5 -/
set_option maxRecDepth 100000
def RX16 : String := "HamletWells$5"
def TX16 : u_T := fun k => match k with
  | 0 => ("HamletWells$Deed", "this$0", "LHamletWells;", true)
  | 1 => ("HamletWells$5", "val$site", "I", true)
  | _ => ("HamletWells$5", "this$0", "LHamletWells;", true)
def tyX16 : Nat → FieldType := fun k => match k with
  | 0 => .object "HamletWells"
  | 1 => .int
  | _ => .object "HamletWells"
abbrev wsX160 : List Cond := u_ws RX16 TX16 3
-- two fields of one name: no nmX16
theorem tyX16_ok : ∀ k, k < 3 → parseFieldDescriptor (TX16 k).2.2.1 = some (tyX16 k) := by decide +kernel
abbrev cX16_does : ByteArray := prog_9_method_2_code
def yX16_does : MethodName := ⟨RX16, "does", "(LHamletWells$Province;)I"⟩
def dkwX16_does_0 : List UInt8 := [43, 42, 180, 0, 7, 182, 0, 17, 172]
abbrev dktX16_does_0 : List UInt8 := dkwX16_does_0 ++ []
theorem dksX16_does_0 : cX16_does.data.toList.drop 0 = dktX16_does_0 := by decide +kernel
theorem dX16_does_0 : decode cX16_does 0 = .ok (.aload_n 1, 1) := dk_43 (dk_at dksX16_does_0 0 rfl rfl)
theorem dX16_does_1 : decode cX16_does 1 = .ok (.aload_n 0, 1) := dk_42 (dk_at dksX16_does_0 1 rfl rfl)
theorem dX16_does_2 : decode cX16_does 2 = .ok (.getfield 7, 3) := dk_180 0 7 (dk_at dksX16_does_0 2 rfl rfl)
theorem dX16_does_5 : decode cX16_does 5 = .ok (.invokevirtual 17, 3) := dk_182 0 17 (dk_at dksX16_does_0 5 rfl rfl)
theorem dX16_does_8 : decode cX16_does 8 = .ok (.ireturn, 1) := dk_172 (dk_at dksX16_does_0 8 rfl rfl)
abbrev cX16_init : ByteArray := prog_9_method_1_code
def yX16_init : MethodName := ⟨RX16, "<init>", "(LHamletWells;I)V"⟩
def dkwX16_init_0 : List UInt8 := [42, 43, 181, 0, 1, 42, 28, 181, 0, 7, 42, 43, 183, 0, 11, 177]
abbrev dktX16_init_0 : List UInt8 := dkwX16_init_0 ++ []
theorem dksX16_init_0 : cX16_init.data.toList.drop 0 = dktX16_init_0 := by decide +kernel
theorem dX16_init_0 : decode cX16_init 0 = .ok (.aload_n 0, 1) := dk_42 (dk_at dksX16_init_0 0 rfl rfl)
theorem dX16_init_1 : decode cX16_init 1 = .ok (.aload_n 1, 1) := dk_43 (dk_at dksX16_init_0 1 rfl rfl)
theorem dX16_init_2 : decode cX16_init 2 = .ok (.putfield 1, 3) := dk_181 0 1 (dk_at dksX16_init_0 2 rfl rfl)
theorem dX16_init_5 : decode cX16_init 5 = .ok (.aload_n 0, 1) := dk_42 (dk_at dksX16_init_0 5 rfl rfl)
theorem dX16_init_6 : decode cX16_init 6 = .ok (.iload_n 2, 1) := dk_28 (dk_at dksX16_init_0 6 rfl rfl)
theorem dX16_init_7 : decode cX16_init 7 = .ok (.putfield 7, 3) := dk_181 0 7 (dk_at dksX16_init_0 7 rfl rfl)
theorem dX16_init_10 : decode cX16_init 10 = .ok (.aload_n 0, 1) := dk_42 (dk_at dksX16_init_0 10 rfl rfl)
theorem dX16_init_11 : decode cX16_init 11 = .ok (.aload_n 1, 1) := dk_43 (dk_at dksX16_init_0 11 rfl rfl)
theorem dX16_init_12 : decode cX16_init 12 = .ok (.invokespecial 11, 3) := dk_183 0 11 (dk_at dksX16_init_0 12 rfl rfl)
theorem dX16_init_15 : decode cX16_init 15 = .ok (.return_, 1) := dk_177 (dk_at dksX16_init_0 15 rfl rfl)
theorem q158 : (Jvm.Cond.initialized "HamletWells$5") ∈ lw_all := lw_g (lw_at lw_m1 49 rfl) rfl
theorem q404 : (Jvm.Cond.selects "HamletWells$5" ({ cls := "HamletWells$Deed", name := "done", desc := "()I" } : Jvm.MethodName) ({ cls := "HamletWells$Deed", name := "done", desc := "()I" } : Jvm.MethodName)) ∈ lw_all := lw_g (lw_at lw_m2 55 rfl) rfl
theorem q612 : (Jvm.Cond.selects "HamletWells$5" ({ cls := "java/lang/Object", name := "getClass", desc := "()Ljava/lang/Class;" } : Jvm.MethodName) ({ cls := "java/lang/Object", name := "getClass", desc := "()Ljava/lang/Class;" } : Jvm.MethodName)) ∈ lw_all := lw_g (lw_at lw_m3 23 rfl) rfl
theorem q1862 : (Jvm.Cond.selects "HamletWells$5" ({ cls := "HamletWells$Deed", name := "does", desc := "(LHamletWells$Province;)I" } : Jvm.MethodName) ({ cls := "HamletWells$5", name := "does", desc := "(LHamletWells$Province;)I" } : Jvm.MethodName)) ∈ lw_all := lw_g (lw_at lw_m8 73 rfl) rfl
theorem q1863 : (Jvm.Cond.instanceMethod ({ cls := "HamletWells$5", name := "does", desc := "(LHamletWells$Province;)I" } : Jvm.MethodName)) ∈ lw_all := lw_g (lw_at lw_m8 74 rfl) rfl
theorem q1864 : (Jvm.Cond.code ({ cls := "HamletWells$5", name := "does", desc := "(LHamletWells$Province;)I" } : Jvm.MethodName) prog_9_method_2_code (2 : Nat) (Option.some Jvm.ClassFile.FieldType.int)) ∈ lw_all := lw_g (lw_at lw_m8 75 rfl) rfl
theorem q1865 : (Jvm.Cond.methodLink "HamletWells$5" (17 : Nat) ({ cls := "HamletWells$Province", name := "pumps", desc := "(I)I" } : Jvm.MethodName)) ∈ lw_all := lw_g (lw_at lw_m8 76 rfl) rfl
theorem q1981 : (Jvm.Cond.instantiable "HamletWells$5" (3 : Nat)) ∈ lw_all := lw_g (lw_at lw_m8 192 rfl) rfl
theorem q1983 : (Jvm.Cond.instanceMethod ({ cls := "HamletWells$5", name := "<init>", desc := "(LHamletWells;I)V" } : Jvm.MethodName)) ∈ lw_all := lw_g (lw_at lw_m8 194 rfl) rfl
theorem q1984 : (Jvm.Cond.code ({ cls := "HamletWells$5", name := "<init>", desc := "(LHamletWells;I)V" } : Jvm.MethodName) prog_9_method_1_code (3 : Nat) (Option.none : Option Jvm.ClassFile.FieldType)) ∈ lw_all := lw_g (lw_at lw_m8 195 rfl) rfl
theorem q1985 : (Jvm.Cond.methodLinkNest "HamletWells$5" (11 : Nat) ({ cls := "HamletWells$Deed", name := "<init>", desc := "(LHamletWells;)V" } : Jvm.MethodName) "HamletWells") ∈ lw_tbl := lw_at lw_m8 196 rfl
theorem q1986 : (Jvm.Cond.fieldLink "HamletWells$5" (7 : Nat) "HamletWells$5" "val$site" "I") ∈ lw_all := lw_g (lw_at lw_m8 197 rfl) rfl
theorem q1987 : (Jvm.Cond.fieldLink "HamletWells$5" (1 : Nat) "HamletWells$5" "this$0" "LHamletWells;") ∈ lw_all := lw_g (lw_at lw_m8 198 rfl) rfl
theorem q1988 : (Jvm.Cond.laysFinal "HamletWells$5" "HamletWells$5" "val$site" "I") ∈ lw_all := lw_g (lw_at lw_m8 199 rfl) rfl
theorem q1989 : (Jvm.Cond.soleField "HamletWells$5" "val$site") ∈ lw_all := lw_g (lw_at lw_m8 200 rfl) rfl
theorem q1990 : (Jvm.Cond.laysFinal "HamletWells$5" "HamletWells$5" "this$0" "LHamletWells;") ∈ lw_all := lw_g (lw_at lw_m8 201 rfl) rfl
theorem q1991 : (Jvm.Cond.soleField "HamletWells$5" "this$0") ∈ lw_all := lw_g (lw_at lw_m8 202 rfl) rfl
theorem q1992 : (Jvm.Cond.laysFinal "HamletWells$5" "HamletWells$Deed" "this$0" "LHamletWells;") ∈ lw_all := lw_g (lw_at lw_m8 203 rfl) rfl
theorem q1993 : (Jvm.Cond.superclass "HamletWells$5" "HamletWells$Deed") ∈ lw_all := lw_g (lw_at lw_m8 204 rfl) rfl
theorem q1995 : (Jvm.Cond.sameMethod "HamletWells$5" "HamletWells$Deed" "doneIf" "(ZI)I") ∈ lw_all := lw_g (lw_at lw_m8 206 rfl) rfl
theorem q1996 : (Jvm.Cond.selects "HamletWells$5" ({ cls := "HamletWells$5", name := "doneIf", desc := "(ZI)I" } : Jvm.MethodName) ({ cls := "HamletWells$Deed", name := "doneIf", desc := "(ZI)I" } : Jvm.MethodName)) ∈ lw_all := lw_g (lw_at lw_m8 207 rfl) rfl
theorem q3514 : (Jvm.Cond.castable "HamletWells$5" "java/lang/Object") ∈ lw_tbl := lw_at lw_m15 45 rfl
theorem in_X16 : ∀ w ∈ wsX160, w ∈ lw_all := lw_in wsX160 [1992, 1988, 1990] (by decide +kernel) (by decide +kernel)
/-! HamletWells$6 -/
set_option maxRecDepth 100000
def RX17 : String := "HamletWells$6"
def TX17 : u_T := fun k => match k with
  | 0 => ("HamletWells$Deed", "this$0", "LHamletWells;", true)
  | 1 => ("HamletWells$6", "val$site", "I", true)
  | _ => ("HamletWells$6", "this$0", "LHamletWells;", true)
def tyX17 : Nat → FieldType := fun k => match k with
  | 0 => .object "HamletWells"
  | 1 => .int
  | _ => .object "HamletWells"
abbrev wsX170 : List Cond := u_ws RX17 TX17 3
-- two fields of one name: no nmX17
theorem tyX17_ok : ∀ k, k < 3 → parseFieldDescriptor (TX17 k).2.2.1 = some (tyX17 k) := by decide +kernel
abbrev cX17_does : ByteArray := prog_10_method_2_code
def yX17_does : MethodName := ⟨RX17, "does", "(LHamletWells$Province;)I"⟩
def dkwX17_does_0 : List UInt8 := [43, 42, 180, 0, 7, 182, 0, 17, 172]
abbrev dktX17_does_0 : List UInt8 := dkwX17_does_0 ++ []
theorem dksX17_does_0 : cX17_does.data.toList.drop 0 = dktX17_does_0 := by decide +kernel
theorem dX17_does_0 : decode cX17_does 0 = .ok (.aload_n 1, 1) := dk_43 (dk_at dksX17_does_0 0 rfl rfl)
theorem dX17_does_1 : decode cX17_does 1 = .ok (.aload_n 0, 1) := dk_42 (dk_at dksX17_does_0 1 rfl rfl)
theorem dX17_does_2 : decode cX17_does 2 = .ok (.getfield 7, 3) := dk_180 0 7 (dk_at dksX17_does_0 2 rfl rfl)
theorem dX17_does_5 : decode cX17_does 5 = .ok (.invokevirtual 17, 3) := dk_182 0 17 (dk_at dksX17_does_0 5 rfl rfl)
theorem dX17_does_8 : decode cX17_does 8 = .ok (.ireturn, 1) := dk_172 (dk_at dksX17_does_0 8 rfl rfl)
abbrev cX17_init : ByteArray := prog_10_method_1_code
def yX17_init : MethodName := ⟨RX17, "<init>", "(LHamletWells;I)V"⟩
def dkwX17_init_0 : List UInt8 := [42, 43, 181, 0, 1, 42, 28, 181, 0, 7, 42, 43, 183, 0, 11, 177]
abbrev dktX17_init_0 : List UInt8 := dkwX17_init_0 ++ []
theorem dksX17_init_0 : cX17_init.data.toList.drop 0 = dktX17_init_0 := by decide +kernel
theorem dX17_init_0 : decode cX17_init 0 = .ok (.aload_n 0, 1) := dk_42 (dk_at dksX17_init_0 0 rfl rfl)
theorem dX17_init_1 : decode cX17_init 1 = .ok (.aload_n 1, 1) := dk_43 (dk_at dksX17_init_0 1 rfl rfl)
theorem dX17_init_2 : decode cX17_init 2 = .ok (.putfield 1, 3) := dk_181 0 1 (dk_at dksX17_init_0 2 rfl rfl)
theorem dX17_init_5 : decode cX17_init 5 = .ok (.aload_n 0, 1) := dk_42 (dk_at dksX17_init_0 5 rfl rfl)
theorem dX17_init_6 : decode cX17_init 6 = .ok (.iload_n 2, 1) := dk_28 (dk_at dksX17_init_0 6 rfl rfl)
theorem dX17_init_7 : decode cX17_init 7 = .ok (.putfield 7, 3) := dk_181 0 7 (dk_at dksX17_init_0 7 rfl rfl)
theorem dX17_init_10 : decode cX17_init 10 = .ok (.aload_n 0, 1) := dk_42 (dk_at dksX17_init_0 10 rfl rfl)
theorem dX17_init_11 : decode cX17_init 11 = .ok (.aload_n 1, 1) := dk_43 (dk_at dksX17_init_0 11 rfl rfl)
theorem dX17_init_12 : decode cX17_init 12 = .ok (.invokespecial 11, 3) := dk_183 0 11 (dk_at dksX17_init_0 12 rfl rfl)
theorem dX17_init_15 : decode cX17_init 15 = .ok (.return_, 1) := dk_177 (dk_at dksX17_init_0 15 rfl rfl)
theorem q159 : (Jvm.Cond.initialized "HamletWells$6") ∈ lw_all := lw_g (lw_at lw_m1 50 rfl) rfl
theorem q405 : (Jvm.Cond.selects "HamletWells$6" ({ cls := "HamletWells$Deed", name := "done", desc := "()I" } : Jvm.MethodName) ({ cls := "HamletWells$Deed", name := "done", desc := "()I" } : Jvm.MethodName)) ∈ lw_all := lw_g (lw_at lw_m2 56 rfl) rfl
theorem q613 : (Jvm.Cond.selects "HamletWells$6" ({ cls := "java/lang/Object", name := "getClass", desc := "()Ljava/lang/Class;" } : Jvm.MethodName) ({ cls := "java/lang/Object", name := "getClass", desc := "()Ljava/lang/Class;" } : Jvm.MethodName)) ∈ lw_all := lw_g (lw_at lw_m3 24 rfl) rfl
theorem q1866 : (Jvm.Cond.selects "HamletWells$6" ({ cls := "HamletWells$Deed", name := "does", desc := "(LHamletWells$Province;)I" } : Jvm.MethodName) ({ cls := "HamletWells$6", name := "does", desc := "(LHamletWells$Province;)I" } : Jvm.MethodName)) ∈ lw_all := lw_g (lw_at lw_m8 77 rfl) rfl
theorem q1867 : (Jvm.Cond.instanceMethod ({ cls := "HamletWells$6", name := "does", desc := "(LHamletWells$Province;)I" } : Jvm.MethodName)) ∈ lw_all := lw_g (lw_at lw_m8 78 rfl) rfl
theorem q1868 : (Jvm.Cond.code ({ cls := "HamletWells$6", name := "does", desc := "(LHamletWells$Province;)I" } : Jvm.MethodName) prog_10_method_2_code (2 : Nat) (Option.some Jvm.ClassFile.FieldType.int)) ∈ lw_all := lw_g (lw_at lw_m8 79 rfl) rfl
theorem q1869 : (Jvm.Cond.methodLink "HamletWells$6" (17 : Nat) ({ cls := "HamletWells$Province", name := "unpumps", desc := "(I)I" } : Jvm.MethodName)) ∈ lw_all := lw_g (lw_at lw_m8 80 rfl) rfl
theorem q2002 : (Jvm.Cond.instantiable "HamletWells$6" (3 : Nat)) ∈ lw_all := lw_g (lw_at lw_m8 213 rfl) rfl
theorem q2004 : (Jvm.Cond.instanceMethod ({ cls := "HamletWells$6", name := "<init>", desc := "(LHamletWells;I)V" } : Jvm.MethodName)) ∈ lw_all := lw_g (lw_at lw_m8 215 rfl) rfl
theorem q2005 : (Jvm.Cond.code ({ cls := "HamletWells$6", name := "<init>", desc := "(LHamletWells;I)V" } : Jvm.MethodName) prog_10_method_1_code (3 : Nat) (Option.none : Option Jvm.ClassFile.FieldType)) ∈ lw_all := lw_g (lw_at lw_m8 216 rfl) rfl
theorem q2006 : (Jvm.Cond.methodLinkNest "HamletWells$6" (11 : Nat) ({ cls := "HamletWells$Deed", name := "<init>", desc := "(LHamletWells;)V" } : Jvm.MethodName) "HamletWells") ∈ lw_tbl := lw_at lw_m8 217 rfl
theorem q2007 : (Jvm.Cond.fieldLink "HamletWells$6" (7 : Nat) "HamletWells$6" "val$site" "I") ∈ lw_all := lw_g (lw_at lw_m8 218 rfl) rfl
theorem q2008 : (Jvm.Cond.fieldLink "HamletWells$6" (1 : Nat) "HamletWells$6" "this$0" "LHamletWells;") ∈ lw_all := lw_g (lw_at lw_m8 219 rfl) rfl
theorem q2009 : (Jvm.Cond.laysFinal "HamletWells$6" "HamletWells$6" "val$site" "I") ∈ lw_all := lw_g (lw_at lw_m8 220 rfl) rfl
theorem q2010 : (Jvm.Cond.soleField "HamletWells$6" "val$site") ∈ lw_all := lw_g (lw_at lw_m8 221 rfl) rfl
theorem q2011 : (Jvm.Cond.laysFinal "HamletWells$6" "HamletWells$6" "this$0" "LHamletWells;") ∈ lw_all := lw_g (lw_at lw_m8 222 rfl) rfl
theorem q2012 : (Jvm.Cond.soleField "HamletWells$6" "this$0") ∈ lw_all := lw_g (lw_at lw_m8 223 rfl) rfl
theorem q2013 : (Jvm.Cond.laysFinal "HamletWells$6" "HamletWells$Deed" "this$0" "LHamletWells;") ∈ lw_all := lw_g (lw_at lw_m8 224 rfl) rfl
theorem q2014 : (Jvm.Cond.superclass "HamletWells$6" "HamletWells$Deed") ∈ lw_all := lw_g (lw_at lw_m8 225 rfl) rfl
theorem q2016 : (Jvm.Cond.sameMethod "HamletWells$6" "HamletWells$Deed" "doneIf" "(ZI)I") ∈ lw_all := lw_g (lw_at lw_m8 227 rfl) rfl
theorem q2017 : (Jvm.Cond.selects "HamletWells$6" ({ cls := "HamletWells$6", name := "doneIf", desc := "(ZI)I" } : Jvm.MethodName) ({ cls := "HamletWells$Deed", name := "doneIf", desc := "(ZI)I" } : Jvm.MethodName)) ∈ lw_all := lw_g (lw_at lw_m8 228 rfl) rfl
theorem q3515 : (Jvm.Cond.castable "HamletWells$6" "java/lang/Object") ∈ lw_tbl := lw_at lw_m15 46 rfl
theorem in_X17 : ∀ w ∈ wsX170, w ∈ lw_all := lw_in wsX170 [2013, 2009, 2011] (by decide +kernel) (by decide +kernel)
/-! HamletWells$7 -/
set_option maxRecDepth 100000
def RX18 : String := "HamletWells$7"
def TX18 : u_T := fun k => match k with
  | 0 => ("HamletWells$Deed", "this$0", "LHamletWells;", true)
  | 1 => ("HamletWells$7", "val$from", "I", true)
  | 2 => ("HamletWells$7", "val$to", "I", true)
  | _ => ("HamletWells$7", "this$0", "LHamletWells;", true)
def tyX18 : Nat → FieldType := fun k => match k with
  | 0 => .object "HamletWells"
  | 1 => .int
  | 2 => .int
  | _ => .object "HamletWells"
abbrev wsX180 : List Cond := u_ws RX18 TX18 4
-- two fields of one name: no nmX18
theorem tyX18_ok : ∀ k, k < 4 → parseFieldDescriptor (TX18 k).2.2.1 = some (tyX18 k) := by decide +kernel
abbrev cX18_does : ByteArray := prog_11_method_2_code
def yX18_does : MethodName := ⟨RX18, "does", "(LHamletWells$Province;)I"⟩
def dkwX18_does_0 : List UInt8 := [43, 42, 180, 0, 7, 42, 180, 0, 11, 182, 0, 20, 172]
abbrev dktX18_does_0 : List UInt8 := dkwX18_does_0 ++ []
theorem dksX18_does_0 : cX18_does.data.toList.drop 0 = dktX18_does_0 := by decide +kernel
theorem dX18_does_0 : decode cX18_does 0 = .ok (.aload_n 1, 1) := dk_43 (dk_at dksX18_does_0 0 rfl rfl)
theorem dX18_does_1 : decode cX18_does 1 = .ok (.aload_n 0, 1) := dk_42 (dk_at dksX18_does_0 1 rfl rfl)
theorem dX18_does_2 : decode cX18_does 2 = .ok (.getfield 7, 3) := dk_180 0 7 (dk_at dksX18_does_0 2 rfl rfl)
theorem dX18_does_5 : decode cX18_does 5 = .ok (.aload_n 0, 1) := dk_42 (dk_at dksX18_does_0 5 rfl rfl)
theorem dX18_does_6 : decode cX18_does 6 = .ok (.getfield 11, 3) := dk_180 0 11 (dk_at dksX18_does_0 6 rfl rfl)
theorem dX18_does_9 : decode cX18_does 9 = .ok (.invokevirtual 20, 3) := dk_182 0 20 (dk_at dksX18_does_0 9 rfl rfl)
theorem dX18_does_12 : decode cX18_does 12 = .ok (.ireturn, 1) := dk_172 (dk_at dksX18_does_0 12 rfl rfl)
abbrev cX18_init : ByteArray := prog_11_method_1_code
def yX18_init : MethodName := ⟨RX18, "<init>", "(LHamletWells;II)V"⟩
def dkwX18_init_0 : List UInt8 := [42, 43, 181, 0, 1, 42, 28, 181, 0, 7, 42, 29, 181, 0, 11, 42, 43, 183, 0, 14, 177]
abbrev dktX18_init_0 : List UInt8 := dkwX18_init_0 ++ []
theorem dksX18_init_0 : cX18_init.data.toList.drop 0 = dktX18_init_0 := by decide +kernel
theorem dX18_init_0 : decode cX18_init 0 = .ok (.aload_n 0, 1) := dk_42 (dk_at dksX18_init_0 0 rfl rfl)
theorem dX18_init_1 : decode cX18_init 1 = .ok (.aload_n 1, 1) := dk_43 (dk_at dksX18_init_0 1 rfl rfl)
theorem dX18_init_2 : decode cX18_init 2 = .ok (.putfield 1, 3) := dk_181 0 1 (dk_at dksX18_init_0 2 rfl rfl)
theorem dX18_init_5 : decode cX18_init 5 = .ok (.aload_n 0, 1) := dk_42 (dk_at dksX18_init_0 5 rfl rfl)
theorem dX18_init_6 : decode cX18_init 6 = .ok (.iload_n 2, 1) := dk_28 (dk_at dksX18_init_0 6 rfl rfl)
theorem dX18_init_7 : decode cX18_init 7 = .ok (.putfield 7, 3) := dk_181 0 7 (dk_at dksX18_init_0 7 rfl rfl)
theorem dX18_init_10 : decode cX18_init 10 = .ok (.aload_n 0, 1) := dk_42 (dk_at dksX18_init_0 10 rfl rfl)
theorem dX18_init_11 : decode cX18_init 11 = .ok (.iload_n 3, 1) := dk_29 (dk_at dksX18_init_0 11 rfl rfl)
theorem dX18_init_12 : decode cX18_init 12 = .ok (.putfield 11, 3) := dk_181 0 11 (dk_at dksX18_init_0 12 rfl rfl)
theorem dX18_init_15 : decode cX18_init 15 = .ok (.aload_n 0, 1) := dk_42 (dk_at dksX18_init_0 15 rfl rfl)
theorem dX18_init_16 : decode cX18_init 16 = .ok (.aload_n 1, 1) := dk_43 (dk_at dksX18_init_0 16 rfl rfl)
theorem dX18_init_17 : decode cX18_init 17 = .ok (.invokespecial 14, 3) := dk_183 0 14 (dk_at dksX18_init_0 17 rfl rfl)
theorem dX18_init_20 : decode cX18_init 20 = .ok (.return_, 1) := dk_177 (dk_at dksX18_init_0 20 rfl rfl)
theorem q160 : (Jvm.Cond.initialized "HamletWells$7") ∈ lw_all := lw_g (lw_at lw_m1 51 rfl) rfl
theorem q406 : (Jvm.Cond.selects "HamletWells$7" ({ cls := "HamletWells$Deed", name := "done", desc := "()I" } : Jvm.MethodName) ({ cls := "HamletWells$Deed", name := "done", desc := "()I" } : Jvm.MethodName)) ∈ lw_all := lw_g (lw_at lw_m2 57 rfl) rfl
theorem q614 : (Jvm.Cond.selects "HamletWells$7" ({ cls := "java/lang/Object", name := "getClass", desc := "()Ljava/lang/Class;" } : Jvm.MethodName) ({ cls := "java/lang/Object", name := "getClass", desc := "()Ljava/lang/Class;" } : Jvm.MethodName)) ∈ lw_all := lw_g (lw_at lw_m3 25 rfl) rfl
theorem q1873 : (Jvm.Cond.selects "HamletWells$7" ({ cls := "HamletWells$Deed", name := "does", desc := "(LHamletWells$Province;)I" } : Jvm.MethodName) ({ cls := "HamletWells$7", name := "does", desc := "(LHamletWells$Province;)I" } : Jvm.MethodName)) ∈ lw_all := lw_g (lw_at lw_m8 84 rfl) rfl
theorem q1874 : (Jvm.Cond.instanceMethod ({ cls := "HamletWells$7", name := "does", desc := "(LHamletWells$Province;)I" } : Jvm.MethodName)) ∈ lw_all := lw_g (lw_at lw_m8 85 rfl) rfl
theorem q1875 : (Jvm.Cond.code ({ cls := "HamletWells$7", name := "does", desc := "(LHamletWells$Province;)I" } : Jvm.MethodName) prog_11_method_2_code (2 : Nat) (Option.some Jvm.ClassFile.FieldType.int)) ∈ lw_all := lw_g (lw_at lw_m8 86 rfl) rfl
theorem q1876 : (Jvm.Cond.methodLink "HamletWells$7" (20 : Nat) ({ cls := "HamletWells$Province", name := "moves", desc := "(II)I" } : Jvm.MethodName)) ∈ lw_all := lw_g (lw_at lw_m8 87 rfl) rfl
theorem q2023 : (Jvm.Cond.instantiable "HamletWells$7" (4 : Nat)) ∈ lw_all := lw_g (lw_at lw_m8 234 rfl) rfl
theorem q2025 : (Jvm.Cond.instanceMethod ({ cls := "HamletWells$7", name := "<init>", desc := "(LHamletWells;II)V" } : Jvm.MethodName)) ∈ lw_all := lw_g (lw_at lw_m8 236 rfl) rfl
theorem q2026 : (Jvm.Cond.code ({ cls := "HamletWells$7", name := "<init>", desc := "(LHamletWells;II)V" } : Jvm.MethodName) prog_11_method_1_code (4 : Nat) (Option.none : Option Jvm.ClassFile.FieldType)) ∈ lw_all := lw_g (lw_at lw_m8 237 rfl) rfl
theorem q2027 : (Jvm.Cond.methodLinkNest "HamletWells$7" (14 : Nat) ({ cls := "HamletWells$Deed", name := "<init>", desc := "(LHamletWells;)V" } : Jvm.MethodName) "HamletWells") ∈ lw_tbl := lw_at lw_m8 238 rfl
theorem q2028 : (Jvm.Cond.fieldLink "HamletWells$7" (7 : Nat) "HamletWells$7" "val$from" "I") ∈ lw_all := lw_g (lw_at lw_m8 239 rfl) rfl
theorem q2029 : (Jvm.Cond.fieldLink "HamletWells$7" (11 : Nat) "HamletWells$7" "val$to" "I") ∈ lw_all := lw_g (lw_at lw_m9 0 rfl) rfl
theorem q2030 : (Jvm.Cond.fieldLink "HamletWells$7" (1 : Nat) "HamletWells$7" "this$0" "LHamletWells;") ∈ lw_all := lw_g (lw_at lw_m9 1 rfl) rfl
theorem q2031 : (Jvm.Cond.laysFinal "HamletWells$7" "HamletWells$7" "val$from" "I") ∈ lw_all := lw_g (lw_at lw_m9 2 rfl) rfl
theorem q2032 : (Jvm.Cond.soleField "HamletWells$7" "val$from") ∈ lw_all := lw_g (lw_at lw_m9 3 rfl) rfl
theorem q2033 : (Jvm.Cond.laysFinal "HamletWells$7" "HamletWells$7" "val$to" "I") ∈ lw_all := lw_g (lw_at lw_m9 4 rfl) rfl
theorem q2034 : (Jvm.Cond.soleField "HamletWells$7" "val$to") ∈ lw_all := lw_g (lw_at lw_m9 5 rfl) rfl
theorem q2035 : (Jvm.Cond.laysFinal "HamletWells$7" "HamletWells$7" "this$0" "LHamletWells;") ∈ lw_all := lw_g (lw_at lw_m9 6 rfl) rfl
theorem q2036 : (Jvm.Cond.soleField "HamletWells$7" "this$0") ∈ lw_all := lw_g (lw_at lw_m9 7 rfl) rfl
theorem q2037 : (Jvm.Cond.laysFinal "HamletWells$7" "HamletWells$Deed" "this$0" "LHamletWells;") ∈ lw_all := lw_g (lw_at lw_m9 8 rfl) rfl
theorem q2038 : (Jvm.Cond.superclass "HamletWells$7" "HamletWells$Deed") ∈ lw_all := lw_g (lw_at lw_m9 9 rfl) rfl
theorem q2040 : (Jvm.Cond.sameMethod "HamletWells$7" "HamletWells$Deed" "doneIf" "(ZI)I") ∈ lw_all := lw_g (lw_at lw_m9 11 rfl) rfl
theorem q2041 : (Jvm.Cond.selects "HamletWells$7" ({ cls := "HamletWells$7", name := "doneIf", desc := "(ZI)I" } : Jvm.MethodName) ({ cls := "HamletWells$Deed", name := "doneIf", desc := "(ZI)I" } : Jvm.MethodName)) ∈ lw_all := lw_g (lw_at lw_m9 12 rfl) rfl
theorem q3516 : (Jvm.Cond.castable "HamletWells$7" "java/lang/Object") ∈ lw_tbl := lw_at lw_m15 47 rfl
theorem in_X18 : ∀ w ∈ wsX180, w ∈ lw_all := lw_in wsX180 [2037, 2031, 2033, 2035] (by decide +kernel) (by decide +kernel)
/-! HamletWells$8 -/
set_option maxRecDepth 100000
def RX19 : String := "HamletWells$8"
def TX19 : u_T := fun k => match k with
  | 0 => ("HamletWells$Deed", "this$0", "LHamletWells;", true)
  | 1 => ("HamletWells$8", "val$days", "I", true)
  | _ => ("HamletWells$8", "this$0", "LHamletWells;", true)
def tyX19 : Nat → FieldType := fun k => match k with
  | 0 => .object "HamletWells"
  | 1 => .int
  | _ => .object "HamletWells"
abbrev wsX190 : List Cond := u_ws RX19 TX19 3
-- two fields of one name: no nmX19
theorem tyX19_ok : ∀ k, k < 3 → parseFieldDescriptor (TX19 k).2.2.1 = some (tyX19 k) := by decide +kernel
abbrev cX19_does : ByteArray := prog_12_method_2_code
def yX19_does : MethodName := ⟨RX19, "does", "(LHamletWells$Province;)I"⟩
def dkwX19_does_0 : List UInt8 := [43, 42, 180, 0, 7, 182, 0, 17, 172]
abbrev dktX19_does_0 : List UInt8 := dkwX19_does_0 ++ []
theorem dksX19_does_0 : cX19_does.data.toList.drop 0 = dktX19_does_0 := by decide +kernel
theorem dX19_does_0 : decode cX19_does 0 = .ok (.aload_n 1, 1) := dk_43 (dk_at dksX19_does_0 0 rfl rfl)
theorem dX19_does_1 : decode cX19_does 1 = .ok (.aload_n 0, 1) := dk_42 (dk_at dksX19_does_0 1 rfl rfl)
theorem dX19_does_2 : decode cX19_does 2 = .ok (.getfield 7, 3) := dk_180 0 7 (dk_at dksX19_does_0 2 rfl rfl)
theorem dX19_does_5 : decode cX19_does 5 = .ok (.invokevirtual 17, 3) := dk_182 0 17 (dk_at dksX19_does_0 5 rfl rfl)
theorem dX19_does_8 : decode cX19_does 8 = .ok (.ireturn, 1) := dk_172 (dk_at dksX19_does_0 8 rfl rfl)
abbrev cX19_init : ByteArray := prog_12_method_1_code
def yX19_init : MethodName := ⟨RX19, "<init>", "(LHamletWells;I)V"⟩
def dkwX19_init_0 : List UInt8 := [42, 43, 181, 0, 1, 42, 28, 181, 0, 7, 42, 43, 183, 0, 11, 177]
abbrev dktX19_init_0 : List UInt8 := dkwX19_init_0 ++ []
theorem dksX19_init_0 : cX19_init.data.toList.drop 0 = dktX19_init_0 := by decide +kernel
theorem dX19_init_0 : decode cX19_init 0 = .ok (.aload_n 0, 1) := dk_42 (dk_at dksX19_init_0 0 rfl rfl)
theorem dX19_init_1 : decode cX19_init 1 = .ok (.aload_n 1, 1) := dk_43 (dk_at dksX19_init_0 1 rfl rfl)
theorem dX19_init_2 : decode cX19_init 2 = .ok (.putfield 1, 3) := dk_181 0 1 (dk_at dksX19_init_0 2 rfl rfl)
theorem dX19_init_5 : decode cX19_init 5 = .ok (.aload_n 0, 1) := dk_42 (dk_at dksX19_init_0 5 rfl rfl)
theorem dX19_init_6 : decode cX19_init 6 = .ok (.iload_n 2, 1) := dk_28 (dk_at dksX19_init_0 6 rfl rfl)
theorem dX19_init_7 : decode cX19_init 7 = .ok (.putfield 7, 3) := dk_181 0 7 (dk_at dksX19_init_0 7 rfl rfl)
theorem dX19_init_10 : decode cX19_init 10 = .ok (.aload_n 0, 1) := dk_42 (dk_at dksX19_init_0 10 rfl rfl)
theorem dX19_init_11 : decode cX19_init 11 = .ok (.aload_n 1, 1) := dk_43 (dk_at dksX19_init_0 11 rfl rfl)
theorem dX19_init_12 : decode cX19_init 12 = .ok (.invokespecial 11, 3) := dk_183 0 11 (dk_at dksX19_init_0 12 rfl rfl)
theorem dX19_init_15 : decode cX19_init 15 = .ok (.return_, 1) := dk_177 (dk_at dksX19_init_0 15 rfl rfl)
theorem q161 : (Jvm.Cond.initialized "HamletWells$8") ∈ lw_all := lw_g (lw_at lw_m1 52 rfl) rfl
theorem q407 : (Jvm.Cond.selects "HamletWells$8" ({ cls := "HamletWells$Deed", name := "done", desc := "()I" } : Jvm.MethodName) ({ cls := "HamletWells$Deed", name := "done", desc := "()I" } : Jvm.MethodName)) ∈ lw_all := lw_g (lw_at lw_m2 58 rfl) rfl
theorem q615 : (Jvm.Cond.selects "HamletWells$8" ({ cls := "java/lang/Object", name := "getClass", desc := "()Ljava/lang/Class;" } : Jvm.MethodName) ({ cls := "java/lang/Object", name := "getClass", desc := "()Ljava/lang/Class;" } : Jvm.MethodName)) ∈ lw_all := lw_g (lw_at lw_m3 26 rfl) rfl
theorem q1877 : (Jvm.Cond.selects "HamletWells$8" ({ cls := "HamletWells$Deed", name := "does", desc := "(LHamletWells$Province;)I" } : Jvm.MethodName) ({ cls := "HamletWells$8", name := "does", desc := "(LHamletWells$Province;)I" } : Jvm.MethodName)) ∈ lw_all := lw_g (lw_at lw_m8 88 rfl) rfl
theorem q1878 : (Jvm.Cond.instanceMethod ({ cls := "HamletWells$8", name := "does", desc := "(LHamletWells$Province;)I" } : Jvm.MethodName)) ∈ lw_all := lw_g (lw_at lw_m8 89 rfl) rfl
theorem q1879 : (Jvm.Cond.code ({ cls := "HamletWells$8", name := "does", desc := "(LHamletWells$Province;)I" } : Jvm.MethodName) prog_12_method_2_code (2 : Nat) (Option.some Jvm.ClassFile.FieldType.int)) ∈ lw_all := lw_g (lw_at lw_m8 90 rfl) rfl
theorem q1880 : (Jvm.Cond.methodLink "HamletWells$8" (17 : Nat) ({ cls := "HamletWells$Province", name := "goes", desc := "(I)I" } : Jvm.MethodName)) ∈ lw_all := lw_g (lw_at lw_m8 91 rfl) rfl
theorem q2047 : (Jvm.Cond.instantiable "HamletWells$8" (3 : Nat)) ∈ lw_all := lw_g (lw_at lw_m9 18 rfl) rfl
theorem q2049 : (Jvm.Cond.instanceMethod ({ cls := "HamletWells$8", name := "<init>", desc := "(LHamletWells;I)V" } : Jvm.MethodName)) ∈ lw_all := lw_g (lw_at lw_m9 20 rfl) rfl
theorem q2050 : (Jvm.Cond.code ({ cls := "HamletWells$8", name := "<init>", desc := "(LHamletWells;I)V" } : Jvm.MethodName) prog_12_method_1_code (3 : Nat) (Option.none : Option Jvm.ClassFile.FieldType)) ∈ lw_all := lw_g (lw_at lw_m9 21 rfl) rfl
theorem q2051 : (Jvm.Cond.methodLinkNest "HamletWells$8" (11 : Nat) ({ cls := "HamletWells$Deed", name := "<init>", desc := "(LHamletWells;)V" } : Jvm.MethodName) "HamletWells") ∈ lw_tbl := lw_at lw_m9 22 rfl
theorem q2052 : (Jvm.Cond.fieldLink "HamletWells$8" (7 : Nat) "HamletWells$8" "val$days" "I") ∈ lw_all := lw_g (lw_at lw_m9 23 rfl) rfl
theorem q2053 : (Jvm.Cond.fieldLink "HamletWells$8" (1 : Nat) "HamletWells$8" "this$0" "LHamletWells;") ∈ lw_all := lw_g (lw_at lw_m9 24 rfl) rfl
theorem q2054 : (Jvm.Cond.laysFinal "HamletWells$8" "HamletWells$8" "val$days" "I") ∈ lw_all := lw_g (lw_at lw_m9 25 rfl) rfl
theorem q2055 : (Jvm.Cond.soleField "HamletWells$8" "val$days") ∈ lw_all := lw_g (lw_at lw_m9 26 rfl) rfl
theorem q2056 : (Jvm.Cond.laysFinal "HamletWells$8" "HamletWells$8" "this$0" "LHamletWells;") ∈ lw_all := lw_g (lw_at lw_m9 27 rfl) rfl
theorem q2057 : (Jvm.Cond.soleField "HamletWells$8" "this$0") ∈ lw_all := lw_g (lw_at lw_m9 28 rfl) rfl
theorem q2058 : (Jvm.Cond.laysFinal "HamletWells$8" "HamletWells$Deed" "this$0" "LHamletWells;") ∈ lw_all := lw_g (lw_at lw_m9 29 rfl) rfl
theorem q2059 : (Jvm.Cond.superclass "HamletWells$8" "HamletWells$Deed") ∈ lw_all := lw_g (lw_at lw_m9 30 rfl) rfl
theorem q2062 : (Jvm.Cond.sameMethod "HamletWells$8" "HamletWells$Deed" "doneIf" "(ZI)I") ∈ lw_all := lw_g (lw_at lw_m9 33 rfl) rfl
theorem q2063 : (Jvm.Cond.selects "HamletWells$8" ({ cls := "HamletWells$8", name := "doneIf", desc := "(ZI)I" } : Jvm.MethodName) ({ cls := "HamletWells$Deed", name := "doneIf", desc := "(ZI)I" } : Jvm.MethodName)) ∈ lw_all := lw_g (lw_at lw_m9 34 rfl) rfl
theorem q3517 : (Jvm.Cond.castable "HamletWells$8" "java/lang/Object") ∈ lw_tbl := lw_at lw_m15 48 rfl
theorem in_X19 : ∀ w ∈ wsX190, w ∈ lw_all := lw_in wsX190 [2058, 2054, 2056] (by decide +kernel) (by decide +kernel)
/-! HamletWells$Province$3 -/
set_option maxRecDepth 100000
def RX20 : String := "HamletWells$Province$3"
def TX20 : u_T := fun k => match k with
  | _ => ("HamletWells$Province$3", "this$0", "LHamletWells$Province;", true)
def tyX20 : Nat → FieldType := fun k => match k with
  | _ => .object "HamletWells$Province"
abbrev wsX200 : List Cond := u_ws RX20 TX20 1
theorem nmX20 : ∀ a, a < 1 → ∀ b, b < 1 → a ≠ b → (TX20 a).2.1 ≠ (TX20 b).2.1 := by decide +kernel
theorem tyX20_ok : ∀ k, k < 1 → parseFieldDescriptor (TX20 k).2.2.1 = some (tyX20 k) := by decide +kernel
abbrev cX20_of : ByteArray := prog_35_method_3_code
def yX20_of : MethodName := ⟨RX20, "of", "(Ljava/lang/Object;)I"⟩
def dkwX20_of_0 : List UInt8 := [42, 43, 192, 0, 14, 182, 0, 19, 172]
abbrev dktX20_of_0 : List UInt8 := dkwX20_of_0 ++ []
theorem dksX20_of_0 : cX20_of.data.toList.drop 0 = dktX20_of_0 := by decide +kernel
theorem dX20_of_0 : decode cX20_of 0 = .ok (.aload_n 0, 1) := dk_42 (dk_at dksX20_of_0 0 rfl rfl)
theorem dX20_of_1 : decode cX20_of 1 = .ok (.aload_n 1, 1) := dk_43 (dk_at dksX20_of_0 1 rfl rfl)
theorem dX20_of_2 : decode cX20_of 2 = .ok (.checkcast 14, 3) := dk_192 0 14 (dk_at dksX20_of_0 2 rfl rfl)
theorem dX20_of_5 : decode cX20_of 5 = .ok (.invokevirtual 19, 3) := dk_182 0 19 (dk_at dksX20_of_0 5 rfl rfl)
theorem dX20_of_8 : decode cX20_of 8 = .ok (.ireturn, 1) := dk_172 (dk_at dksX20_of_0 8 rfl rfl)
abbrev cX20_of_2 : ByteArray := prog_35_method_2_code
def yX20_of_2 : MethodName := ⟨RX20, "of", "(LHamletWells$Hamlet;)I"⟩
theorem dX20_of_2_0 : decode cX20_of_2 0 = .ok (.aload_n 1, 1) := by decide +kernel
theorem dX20_of_2_1 : decode cX20_of_2 1 = .ok (.getfield 13, 3) := by decide +kernel
theorem dX20_of_2_4 : decode cX20_of_2 4 = .ok (.ireturn, 1) := by decide +kernel
abbrev cX20_init : ByteArray := prog_35_method_1_code
def yX20_init : MethodName := ⟨RX20, "<init>", "(LHamletWells$Province;)V"⟩
def dkwX20_init_0 : List UInt8 := [42, 43, 181, 0, 1, 42, 183, 0, 7, 177]
abbrev dktX20_init_0 : List UInt8 := dkwX20_init_0 ++ []
theorem dksX20_init_0 : cX20_init.data.toList.drop 0 = dktX20_init_0 := by decide +kernel
theorem dX20_init_0 : decode cX20_init 0 = .ok (.aload_n 0, 1) := dk_42 (dk_at dksX20_init_0 0 rfl rfl)
theorem dX20_init_1 : decode cX20_init 1 = .ok (.aload_n 1, 1) := dk_43 (dk_at dksX20_init_0 1 rfl rfl)
theorem dX20_init_2 : decode cX20_init 2 = .ok (.putfield 1, 3) := dk_181 0 1 (dk_at dksX20_init_0 2 rfl rfl)
theorem dX20_init_5 : decode cX20_init 5 = .ok (.aload_n 0, 1) := dk_42 (dk_at dksX20_init_0 5 rfl rfl)
theorem dX20_init_6 : decode cX20_init 6 = .ok (.invokespecial 7, 3) := dk_183 0 7 (dk_at dksX20_init_0 6 rfl rfl)
theorem dX20_init_9 : decode cX20_init 9 = .ok (.return_, 1) := dk_177 (dk_at dksX20_init_0 9 rfl rfl)
theorem q162 : (Jvm.Cond.initialized "HamletWells$Province$3") ∈ lw_all := lw_g (lw_at lw_m1 53 rfl) rfl
theorem q635 : (Jvm.Cond.selects "HamletWells$Province$3" ({ cls := "java/lang/Object", name := "getClass", desc := "()Ljava/lang/Class;" } : Jvm.MethodName) ({ cls := "java/lang/Object", name := "getClass", desc := "()Ljava/lang/Class;" } : Jvm.MethodName)) ∈ lw_all := lw_g (lw_at lw_m3 46 rfl) rfl
theorem q970 : (Jvm.Cond.fieldLinkNest "HamletWells$Province$3" (13 : Nat) "HamletWells$Hamlet" "people" "I" "HamletWells") ∈ lw_tbl := lw_at lw_m4 141 rfl
theorem q1626 : (Jvm.Cond.castable "HamletWells$Province$3" "HamletWells$Worth") ∈ lw_tbl := lw_at lw_m7 77 rfl
theorem q1627 : (Jvm.Cond.selects "HamletWells$Province$3" ({ cls := "HamletWells$Worth", name := "of", desc := "(Ljava/lang/Object;)I" } : Jvm.MethodName) ({ cls := "HamletWells$Province$3", name := "of", desc := "(Ljava/lang/Object;)I" } : Jvm.MethodName)) ∈ lw_all := lw_g (lw_at lw_m7 78 rfl) rfl
theorem q1628 : (Jvm.Cond.unhidden "HamletWells$Province$3" "of" "(Ljava/lang/Object;)I") ∈ lw_tbl := lw_at lw_m7 79 rfl
theorem q1629 : (Jvm.Cond.instanceMethod ({ cls := "HamletWells$Province$3", name := "of", desc := "(Ljava/lang/Object;)I" } : Jvm.MethodName)) ∈ lw_all := lw_g (lw_at lw_m7 80 rfl) rfl
theorem q1630 : (Jvm.Cond.publicMethod ({ cls := "HamletWells$Province$3", name := "of", desc := "(Ljava/lang/Object;)I" } : Jvm.MethodName)) ∈ lw_tbl := lw_at lw_m7 81 rfl
theorem q1631 : (Jvm.Cond.code ({ cls := "HamletWells$Province$3", name := "of", desc := "(Ljava/lang/Object;)I" } : Jvm.MethodName) prog_35_method_3_code (2 : Nat) (Option.some Jvm.ClassFile.FieldType.int)) ∈ lw_all := lw_g (lw_at lw_m7 82 rfl) rfl
theorem q1632 : (Jvm.Cond.classLink "HamletWells$Province$3" (14 : Nat) "HamletWells$Hamlet") ∈ lw_all := lw_g (lw_at lw_m7 83 rfl) rfl
theorem q1633 : (Jvm.Cond.methodLink "HamletWells$Province$3" (19 : Nat) ({ cls := "HamletWells$Province$3", name := "of", desc := "(LHamletWells$Hamlet;)I" } : Jvm.MethodName)) ∈ lw_all := lw_g (lw_at lw_m7 84 rfl) rfl
theorem q1634 : (Jvm.Cond.instanceMethod ({ cls := "HamletWells$Province$3", name := "of", desc := "(LHamletWells$Hamlet;)I" } : Jvm.MethodName)) ∈ lw_all := lw_g (lw_at lw_m7 85 rfl) rfl
theorem q1635 : (Jvm.Cond.selects "HamletWells$Province$3" ({ cls := "HamletWells$Province$3", name := "of", desc := "(LHamletWells$Hamlet;)I" } : Jvm.MethodName) ({ cls := "HamletWells$Province$3", name := "of", desc := "(LHamletWells$Hamlet;)I" } : Jvm.MethodName)) ∈ lw_all := lw_g (lw_at lw_m7 86 rfl) rfl
theorem q1636 : (Jvm.Cond.code ({ cls := "HamletWells$Province$3", name := "of", desc := "(LHamletWells$Hamlet;)I" } : Jvm.MethodName) prog_35_method_2_code (2 : Nat) (Option.some Jvm.ClassFile.FieldType.int)) ∈ lw_all := lw_g (lw_at lw_m7 87 rfl) rfl
theorem q2084 : (Jvm.Cond.instantiable "HamletWells$Province$3" (1 : Nat)) ∈ lw_all := lw_g (lw_at lw_m9 55 rfl) rfl
theorem q2086 : (Jvm.Cond.instanceMethod ({ cls := "HamletWells$Province$3", name := "<init>", desc := "(LHamletWells$Province;)V" } : Jvm.MethodName)) ∈ lw_all := lw_g (lw_at lw_m9 57 rfl) rfl
theorem q2087 : (Jvm.Cond.code ({ cls := "HamletWells$Province$3", name := "<init>", desc := "(LHamletWells$Province;)V" } : Jvm.MethodName) prog_35_method_1_code (2 : Nat) (Option.none : Option Jvm.ClassFile.FieldType)) ∈ lw_all := lw_g (lw_at lw_m9 58 rfl) rfl
theorem q2088 : (Jvm.Cond.methodLink "HamletWells$Province$3" (7 : Nat) ({ cls := "java/lang/Object", name := "<init>", desc := "()V" } : Jvm.MethodName)) ∈ lw_all := lw_g (lw_at lw_m9 59 rfl) rfl
theorem q2089 : (Jvm.Cond.fieldLink "HamletWells$Province$3" (1 : Nat) "HamletWells$Province$3" "this$0" "LHamletWells$Province;") ∈ lw_all := lw_g (lw_at lw_m9 60 rfl) rfl
theorem q2090 : (Jvm.Cond.laysFinal "HamletWells$Province$3" "HamletWells$Province$3" "this$0" "LHamletWells$Province;") ∈ lw_all := lw_g (lw_at lw_m9 61 rfl) rfl
theorem q2091 : (Jvm.Cond.soleField "HamletWells$Province$3" "this$0") ∈ lw_all := lw_g (lw_at lw_m9 62 rfl) rfl
theorem q2092 : (Jvm.Cond.superclass "HamletWells$Province$3" "java/lang/Object") ∈ lw_all := lw_g (lw_at lw_m9 63 rfl) rfl
theorem q3528 : (Jvm.Cond.castable "HamletWells$Province$3" "java/lang/Object") ∈ lw_tbl := lw_at lw_m15 59 rfl
theorem in_X20 : ∀ w ∈ wsX200, w ∈ lw_all := lw_in wsX200 [2090] (by decide +kernel) (by decide +kernel)
/-! HamletWells$Province$4 -/
set_option maxRecDepth 100000
def RX21 : String := "HamletWells$Province$4"
def TX21 : u_T := fun k => match k with
  | 0 => ("HamletWells$Province$4", "val$plan", "Ljava/util/BitSet;", true)
  | _ => ("HamletWells$Province$4", "this$0", "LHamletWells$Province;", true)
def tyX21 : Nat → FieldType := fun k => match k with
  | 0 => .object "java/util/BitSet"
  | _ => .object "HamletWells$Province"
abbrev wsX210 : List Cond := u_ws RX21 TX21 2
theorem nmX21 : ∀ a, a < 2 → ∀ b, b < 2 → a ≠ b → (TX21 a).2.1 ≠ (TX21 b).2.1 := by decide +kernel
theorem tyX21_ok : ∀ k, k < 2 → parseFieldDescriptor (TX21 k).2.2.1 = some (tyX21 k) := by decide +kernel
abbrev cX21_is : ByteArray := prog_36_method_3_code
def yX21_is : MethodName := ⟨RX21, "is", "(Ljava/lang/Object;)Z"⟩
def dkwX21_is_0 : List UInt8 := [42, 43, 192, 0, 18, 182, 0, 29, 172]
abbrev dktX21_is_0 : List UInt8 := dkwX21_is_0 ++ []
theorem dksX21_is_0 : cX21_is.data.toList.drop 0 = dktX21_is_0 := by decide +kernel
theorem dX21_is_0 : decode cX21_is 0 = .ok (.aload_n 0, 1) := dk_42 (dk_at dksX21_is_0 0 rfl rfl)
theorem dX21_is_1 : decode cX21_is 1 = .ok (.aload_n 1, 1) := dk_43 (dk_at dksX21_is_0 1 rfl rfl)
theorem dX21_is_2 : decode cX21_is 2 = .ok (.checkcast 18, 3) := dk_192 0 18 (dk_at dksX21_is_0 2 rfl rfl)
theorem dX21_is_5 : decode cX21_is 5 = .ok (.invokevirtual 29, 3) := dk_182 0 29 (dk_at dksX21_is_0 5 rfl rfl)
theorem dX21_is_8 : decode cX21_is 8 = .ok (.ireturn, 1) := dk_172 (dk_at dksX21_is_0 8 rfl rfl)
abbrev cX21_is_2 : ByteArray := prog_36_method_2_code
def yX21_is_2 : MethodName := ⟨RX21, "is", "(LHamletWells$Site;)Z"⟩
def dkwX21_is_2_0 : List UInt8 := [42, 180, 0, 7, 43, 180, 0, 17, 182, 0, 23, 172]
abbrev dktX21_is_2_0 : List UInt8 := dkwX21_is_2_0 ++ []
theorem dksX21_is_2_0 : cX21_is_2.data.toList.drop 0 = dktX21_is_2_0 := by decide +kernel
theorem dX21_is_2_0 : decode cX21_is_2 0 = .ok (.aload_n 0, 1) := dk_42 (dk_at dksX21_is_2_0 0 rfl rfl)
theorem dX21_is_2_1 : decode cX21_is_2 1 = .ok (.getfield 7, 3) := dk_180 0 7 (dk_at dksX21_is_2_0 1 rfl rfl)
theorem dX21_is_2_4 : decode cX21_is_2 4 = .ok (.aload_n 1, 1) := dk_43 (dk_at dksX21_is_2_0 4 rfl rfl)
theorem dX21_is_2_5 : decode cX21_is_2 5 = .ok (.getfield 17, 3) := dk_180 0 17 (dk_at dksX21_is_2_0 5 rfl rfl)
theorem dX21_is_2_8 : decode cX21_is_2 8 = .ok (.invokevirtual 23, 3) := dk_182 0 23 (dk_at dksX21_is_2_0 8 rfl rfl)
theorem dX21_is_2_11 : decode cX21_is_2 11 = .ok (.ireturn, 1) := dk_172 (dk_at dksX21_is_2_0 11 rfl rfl)
abbrev cX21_init : ByteArray := prog_36_method_1_code
def yX21_init : MethodName := ⟨RX21, "<init>", "(LHamletWells$Province;Ljava/util/BitSet;)V"⟩
def dkwX21_init_0 : List UInt8 := [42, 43, 181, 0, 1, 42, 44, 181, 0, 7, 42, 183, 0, 11, 177]
abbrev dktX21_init_0 : List UInt8 := dkwX21_init_0 ++ []
theorem dksX21_init_0 : cX21_init.data.toList.drop 0 = dktX21_init_0 := by decide +kernel
theorem dX21_init_0 : decode cX21_init 0 = .ok (.aload_n 0, 1) := dk_42 (dk_at dksX21_init_0 0 rfl rfl)
theorem dX21_init_1 : decode cX21_init 1 = .ok (.aload_n 1, 1) := dk_43 (dk_at dksX21_init_0 1 rfl rfl)
theorem dX21_init_2 : decode cX21_init 2 = .ok (.putfield 1, 3) := dk_181 0 1 (dk_at dksX21_init_0 2 rfl rfl)
theorem dX21_init_5 : decode cX21_init 5 = .ok (.aload_n 0, 1) := dk_42 (dk_at dksX21_init_0 5 rfl rfl)
theorem dX21_init_6 : decode cX21_init 6 = .ok (.aload_n 2, 1) := dk_44 (dk_at dksX21_init_0 6 rfl rfl)
theorem dX21_init_7 : decode cX21_init 7 = .ok (.putfield 7, 3) := dk_181 0 7 (dk_at dksX21_init_0 7 rfl rfl)
theorem dX21_init_10 : decode cX21_init 10 = .ok (.aload_n 0, 1) := dk_42 (dk_at dksX21_init_0 10 rfl rfl)
theorem dX21_init_11 : decode cX21_init 11 = .ok (.invokespecial 11, 3) := dk_183 0 11 (dk_at dksX21_init_0 11 rfl rfl)
theorem dX21_init_14 : decode cX21_init 14 = .ok (.return_, 1) := dk_177 (dk_at dksX21_init_0 14 rfl rfl)
theorem q164 : (Jvm.Cond.initialized "HamletWells$Province$4") ∈ lw_all := lw_g (lw_at lw_m1 55 rfl) rfl
theorem q636 : (Jvm.Cond.selects "HamletWells$Province$4" ({ cls := "java/lang/Object", name := "getClass", desc := "()Ljava/lang/Class;" } : Jvm.MethodName) ({ cls := "java/lang/Object", name := "getClass", desc := "()Ljava/lang/Class;" } : Jvm.MethodName)) ∈ lw_all := lw_g (lw_at lw_m3 47 rfl) rfl
theorem q991 : (Jvm.Cond.fieldLink "HamletWells$Province$4" (17 : Nat) "HamletWells$Site" "number" "I") ∈ lw_all := lw_g (lw_at lw_m4 162 rfl) rfl
theorem q1513 : (Jvm.Cond.castable "HamletWells$Province$4" "HamletWells$Asked") ∈ lw_tbl := lw_at lw_m6 204 rfl
theorem q1514 : (Jvm.Cond.selects "HamletWells$Province$4" ({ cls := "HamletWells$Asked", name := "is", desc := "(Ljava/lang/Object;)Z" } : Jvm.MethodName) ({ cls := "HamletWells$Province$4", name := "is", desc := "(Ljava/lang/Object;)Z" } : Jvm.MethodName)) ∈ lw_all := lw_g (lw_at lw_m6 205 rfl) rfl
theorem q1515 : (Jvm.Cond.unhidden "HamletWells$Province$4" "is" "(Ljava/lang/Object;)Z") ∈ lw_tbl := lw_at lw_m6 206 rfl
theorem q1516 : (Jvm.Cond.instanceMethod ({ cls := "HamletWells$Province$4", name := "is", desc := "(Ljava/lang/Object;)Z" } : Jvm.MethodName)) ∈ lw_all := lw_g (lw_at lw_m6 207 rfl) rfl
theorem q1517 : (Jvm.Cond.publicMethod ({ cls := "HamletWells$Province$4", name := "is", desc := "(Ljava/lang/Object;)Z" } : Jvm.MethodName)) ∈ lw_tbl := lw_at lw_m6 208 rfl
theorem q1518 : (Jvm.Cond.code ({ cls := "HamletWells$Province$4", name := "is", desc := "(Ljava/lang/Object;)Z" } : Jvm.MethodName) prog_36_method_3_code (2 : Nat) (Option.some Jvm.ClassFile.FieldType.boolean)) ∈ lw_all := lw_g (lw_at lw_m6 209 rfl) rfl
theorem q1519 : (Jvm.Cond.classLink "HamletWells$Province$4" (18 : Nat) "HamletWells$Site") ∈ lw_all := lw_g (lw_at lw_m6 210 rfl) rfl
theorem q1520 : (Jvm.Cond.methodLink "HamletWells$Province$4" (29 : Nat) ({ cls := "HamletWells$Province$4", name := "is", desc := "(LHamletWells$Site;)Z" } : Jvm.MethodName)) ∈ lw_all := lw_g (lw_at lw_m6 211 rfl) rfl
theorem q1521 : (Jvm.Cond.instanceMethod ({ cls := "HamletWells$Province$4", name := "is", desc := "(LHamletWells$Site;)Z" } : Jvm.MethodName)) ∈ lw_all := lw_g (lw_at lw_m6 212 rfl) rfl
theorem q1522 : (Jvm.Cond.selects "HamletWells$Province$4" ({ cls := "HamletWells$Province$4", name := "is", desc := "(LHamletWells$Site;)Z" } : Jvm.MethodName) ({ cls := "HamletWells$Province$4", name := "is", desc := "(LHamletWells$Site;)Z" } : Jvm.MethodName)) ∈ lw_all := lw_g (lw_at lw_m6 213 rfl) rfl
theorem q1523 : (Jvm.Cond.code ({ cls := "HamletWells$Province$4", name := "is", desc := "(LHamletWells$Site;)Z" } : Jvm.MethodName) prog_36_method_2_code (2 : Nat) (Option.some Jvm.ClassFile.FieldType.boolean)) ∈ lw_all := lw_g (lw_at lw_m6 214 rfl) rfl
theorem q1524 : (Jvm.Cond.methodLink "HamletWells$Province$4" (23 : Nat) ({ cls := "java/util/BitSet", name := "get", desc := "(I)Z" } : Jvm.MethodName)) ∈ lw_all := lw_g (lw_at lw_m6 215 rfl) rfl
theorem q2138 : (Jvm.Cond.instantiable "HamletWells$Province$4" (2 : Nat)) ∈ lw_all := lw_g (lw_at lw_m9 109 rfl) rfl
theorem q2140 : (Jvm.Cond.instanceMethod ({ cls := "HamletWells$Province$4", name := "<init>", desc := "(LHamletWells$Province;Ljava/util/BitSet;)V" } : Jvm.MethodName)) ∈ lw_all := lw_g (lw_at lw_m9 111 rfl) rfl
theorem q2141 : (Jvm.Cond.code ({ cls := "HamletWells$Province$4", name := "<init>", desc := "(LHamletWells$Province;Ljava/util/BitSet;)V" } : Jvm.MethodName) prog_36_method_1_code (3 : Nat) (Option.none : Option Jvm.ClassFile.FieldType)) ∈ lw_all := lw_g (lw_at lw_m9 112 rfl) rfl
theorem q2142 : (Jvm.Cond.methodLink "HamletWells$Province$4" (11 : Nat) ({ cls := "java/lang/Object", name := "<init>", desc := "()V" } : Jvm.MethodName)) ∈ lw_all := lw_g (lw_at lw_m9 113 rfl) rfl
theorem q2143 : (Jvm.Cond.fieldLink "HamletWells$Province$4" (7 : Nat) "HamletWells$Province$4" "val$plan" "Ljava/util/BitSet;") ∈ lw_all := lw_g (lw_at lw_m9 114 rfl) rfl
theorem q2144 : (Jvm.Cond.fieldLink "HamletWells$Province$4" (1 : Nat) "HamletWells$Province$4" "this$0" "LHamletWells$Province;") ∈ lw_all := lw_g (lw_at lw_m9 115 rfl) rfl
theorem q2145 : (Jvm.Cond.laysFinal "HamletWells$Province$4" "HamletWells$Province$4" "val$plan" "Ljava/util/BitSet;") ∈ lw_all := lw_g (lw_at lw_m9 116 rfl) rfl
theorem q2146 : (Jvm.Cond.soleField "HamletWells$Province$4" "val$plan") ∈ lw_all := lw_g (lw_at lw_m9 117 rfl) rfl
theorem q2147 : (Jvm.Cond.laysFinal "HamletWells$Province$4" "HamletWells$Province$4" "this$0" "LHamletWells$Province;") ∈ lw_all := lw_g (lw_at lw_m9 118 rfl) rfl
theorem q2148 : (Jvm.Cond.soleField "HamletWells$Province$4" "this$0") ∈ lw_all := lw_g (lw_at lw_m9 119 rfl) rfl
theorem q2149 : (Jvm.Cond.superclass "HamletWells$Province$4" "java/lang/Object") ∈ lw_all := lw_g (lw_at lw_m9 120 rfl) rfl
theorem q3530 : (Jvm.Cond.castable "HamletWells$Province$4" "java/lang/Object") ∈ lw_tbl := lw_at lw_m15 61 rfl
theorem in_X21 : ∀ w ∈ wsX210, w ∈ lw_all := lw_in wsX210 [2145, 2147] (by decide +kernel) (by decide +kernel)
/-! HamletWells$Swap -/
set_option maxRecDepth 100000
def RX22 : String := "HamletWells$Swap"
def TX22 : u_T := fun k => match k with
  | 0 => ("HamletWells$Swap", "out", "I", true)
  | 1 => ("HamletWells$Swap", "comes", "I", true)
  | _ => ("HamletWells$Swap", "cost", "I", true)
def tyX22 : Nat → FieldType := fun k => match k with
  | 0 => .int
  | 1 => .int
  | _ => .int
abbrev wsX220 : List Cond := u_ws RX22 TX22 3
theorem nmX22 : ∀ a, a < 3 → ∀ b, b < 3 → a ≠ b → (TX22 a).2.1 ≠ (TX22 b).2.1 := by decide +kernel
theorem tyX22_ok : ∀ k, k < 3 → parseFieldDescriptor (TX22 k).2.2.1 = some (tyX22 k) := by decide +kernel
abbrev cX22_cost : ByteArray := prog_41_method_7_code
def yX22_cost : MethodName := ⟨RX22, "cost", "()I"⟩
theorem dX22_cost_0 : decode cX22_cost 0 = .ok (.aload_n 0, 1) := by decide +kernel
theorem dX22_cost_1 : decode cX22_cost 1 = .ok (.getfield 16, 3) := by decide +kernel
theorem dX22_cost_4 : decode cX22_cost 4 = .ok (.ireturn, 1) := by decide +kernel
abbrev cX22_init : ByteArray := prog_41_method_1_code
def yX22_init : MethodName := ⟨RX22, "<init>", "(III)V"⟩
def dkwX22_init_0 : List UInt8 := [42, 183, 0, 1, 42, 27, 181, 0, 7, 42, 28, 181, 0, 13, 42, 29, 181, 0, 16, 177]
abbrev dktX22_init_0 : List UInt8 := dkwX22_init_0 ++ []
theorem dksX22_init_0 : cX22_init.data.toList.drop 0 = dktX22_init_0 := by decide +kernel
theorem dX22_init_0 : decode cX22_init 0 = .ok (.aload_n 0, 1) := dk_42 (dk_at dksX22_init_0 0 rfl rfl)
theorem dX22_init_1 : decode cX22_init 1 = .ok (.invokespecial 1, 3) := dk_183 0 1 (dk_at dksX22_init_0 1 rfl rfl)
theorem dX22_init_4 : decode cX22_init 4 = .ok (.aload_n 0, 1) := dk_42 (dk_at dksX22_init_0 4 rfl rfl)
theorem dX22_init_5 : decode cX22_init 5 = .ok (.iload_n 1, 1) := dk_27 (dk_at dksX22_init_0 5 rfl rfl)
theorem dX22_init_6 : decode cX22_init 6 = .ok (.putfield 7, 3) := dk_181 0 7 (dk_at dksX22_init_0 6 rfl rfl)
theorem dX22_init_9 : decode cX22_init 9 = .ok (.aload_n 0, 1) := dk_42 (dk_at dksX22_init_0 9 rfl rfl)
theorem dX22_init_10 : decode cX22_init 10 = .ok (.iload_n 2, 1) := dk_28 (dk_at dksX22_init_0 10 rfl rfl)
theorem dX22_init_11 : decode cX22_init 11 = .ok (.putfield 13, 3) := dk_181 0 13 (dk_at dksX22_init_0 11 rfl rfl)
theorem dX22_init_14 : decode cX22_init 14 = .ok (.aload_n 0, 1) := dk_42 (dk_at dksX22_init_0 14 rfl rfl)
theorem dX22_init_15 : decode cX22_init 15 = .ok (.iload_n 3, 1) := dk_29 (dk_at dksX22_init_0 15 rfl rfl)
theorem dX22_init_16 : decode cX22_init 16 = .ok (.putfield 16, 3) := dk_181 0 16 (dk_at dksX22_init_0 16 rfl rfl)
theorem dX22_init_19 : decode cX22_init 19 = .ok (.return_, 1) := dk_177 (dk_at dksX22_init_0 19 rfl rfl)
abbrev cX22_out : ByteArray := prog_41_method_5_code
def yX22_out : MethodName := ⟨RX22, "out", "()I"⟩
theorem dX22_out_0 : decode cX22_out 0 = .ok (.aload_n 0, 1) := by decide +kernel
theorem dX22_out_1 : decode cX22_out 1 = .ok (.getfield 7, 3) := by decide +kernel
theorem dX22_out_4 : decode cX22_out 4 = .ok (.ireturn, 1) := by decide +kernel
abbrev cX22_comes : ByteArray := prog_41_method_6_code
def yX22_comes : MethodName := ⟨RX22, "comes", "()I"⟩
theorem dX22_comes_0 : decode cX22_comes 0 = .ok (.aload_n 0, 1) := by decide +kernel
theorem dX22_comes_1 : decode cX22_comes 1 = .ok (.getfield 13, 3) := by decide +kernel
theorem dX22_comes_4 : decode cX22_comes 4 = .ok (.ireturn, 1) := by decide +kernel
theorem q166 : (Jvm.Cond.initialized "HamletWells$Swap") ∈ lw_all := lw_g (lw_at lw_m1 57 rfl) rfl
theorem q640 : (Jvm.Cond.selects "HamletWells$Swap" ({ cls := "java/lang/Object", name := "getClass", desc := "()Ljava/lang/Class;" } : Jvm.MethodName) ({ cls := "java/lang/Object", name := "getClass", desc := "()Ljava/lang/Class;" } : Jvm.MethodName)) ∈ lw_all := lw_g (lw_at lw_m3 51 rfl) rfl
theorem q1499 : (Jvm.Cond.instanceMethod ({ cls := "HamletWells$Swap", name := "cost", desc := "()I" } : Jvm.MethodName)) ∈ lw_all := lw_g (lw_at lw_m6 190 rfl) rfl
theorem q1500 : (Jvm.Cond.selects "HamletWells$Swap" ({ cls := "HamletWells$Swap", name := "cost", desc := "()I" } : Jvm.MethodName) ({ cls := "HamletWells$Swap", name := "cost", desc := "()I" } : Jvm.MethodName)) ∈ lw_all := lw_g (lw_at lw_m6 191 rfl) rfl
theorem q1501 : (Jvm.Cond.code ({ cls := "HamletWells$Swap", name := "cost", desc := "()I" } : Jvm.MethodName) prog_41_method_7_code (1 : Nat) (Option.some Jvm.ClassFile.FieldType.int)) ∈ lw_all := lw_g (lw_at lw_m6 192 rfl) rfl
theorem q2196 : (Jvm.Cond.instantiable "HamletWells$Swap" (3 : Nat)) ∈ lw_all := lw_g (lw_at lw_m9 167 rfl) rfl
theorem q2198 : (Jvm.Cond.instanceMethod ({ cls := "HamletWells$Swap", name := "<init>", desc := "(III)V" } : Jvm.MethodName)) ∈ lw_all := lw_g (lw_at lw_m9 169 rfl) rfl
theorem q2199 : (Jvm.Cond.code ({ cls := "HamletWells$Swap", name := "<init>", desc := "(III)V" } : Jvm.MethodName) prog_41_method_1_code (4 : Nat) (Option.none : Option Jvm.ClassFile.FieldType)) ∈ lw_all := lw_g (lw_at lw_m9 170 rfl) rfl
theorem q2200 : (Jvm.Cond.methodLink "HamletWells$Swap" (1 : Nat) ({ cls := "java/lang/Record", name := "<init>", desc := "()V" } : Jvm.MethodName)) ∈ lw_all := lw_g (lw_at lw_m9 171 rfl) rfl
theorem q2204 : (Jvm.Cond.fieldLink "HamletWells$Swap" (7 : Nat) "HamletWells$Swap" "out" "I") ∈ lw_all := lw_g (lw_at lw_m9 175 rfl) rfl
theorem q2205 : (Jvm.Cond.fieldLink "HamletWells$Swap" (13 : Nat) "HamletWells$Swap" "comes" "I") ∈ lw_all := lw_g (lw_at lw_m9 176 rfl) rfl
theorem q2206 : (Jvm.Cond.fieldLink "HamletWells$Swap" (16 : Nat) "HamletWells$Swap" "cost" "I") ∈ lw_all := lw_g (lw_at lw_m9 177 rfl) rfl
theorem q2207 : (Jvm.Cond.laysFinal "HamletWells$Swap" "HamletWells$Swap" "out" "I") ∈ lw_all := lw_g (lw_at lw_m9 178 rfl) rfl
theorem q2208 : (Jvm.Cond.soleField "HamletWells$Swap" "out") ∈ lw_all := lw_g (lw_at lw_m9 179 rfl) rfl
theorem q2209 : (Jvm.Cond.laysFinal "HamletWells$Swap" "HamletWells$Swap" "comes" "I") ∈ lw_all := lw_g (lw_at lw_m9 180 rfl) rfl
theorem q2210 : (Jvm.Cond.soleField "HamletWells$Swap" "comes") ∈ lw_all := lw_g (lw_at lw_m9 181 rfl) rfl
theorem q2211 : (Jvm.Cond.laysFinal "HamletWells$Swap" "HamletWells$Swap" "cost" "I") ∈ lw_all := lw_g (lw_at lw_m9 182 rfl) rfl
theorem q2212 : (Jvm.Cond.soleField "HamletWells$Swap" "cost") ∈ lw_all := lw_g (lw_at lw_m9 183 rfl) rfl
theorem q2213 : (Jvm.Cond.superclass "HamletWells$Swap" "java/lang/Record") ∈ lw_all := lw_g (lw_at lw_m9 184 rfl) rfl
theorem q2240 : (Jvm.Cond.instanceMethod ({ cls := "HamletWells$Swap", name := "out", desc := "()I" } : Jvm.MethodName)) ∈ lw_all := lw_g (lw_at lw_m9 211 rfl) rfl
theorem q2241 : (Jvm.Cond.selects "HamletWells$Swap" ({ cls := "HamletWells$Swap", name := "out", desc := "()I" } : Jvm.MethodName) ({ cls := "HamletWells$Swap", name := "out", desc := "()I" } : Jvm.MethodName)) ∈ lw_all := lw_g (lw_at lw_m9 212 rfl) rfl
theorem q2242 : (Jvm.Cond.code ({ cls := "HamletWells$Swap", name := "out", desc := "()I" } : Jvm.MethodName) prog_41_method_5_code (1 : Nat) (Option.some Jvm.ClassFile.FieldType.int)) ∈ lw_all := lw_g (lw_at lw_m9 213 rfl) rfl
theorem q2244 : (Jvm.Cond.instanceMethod ({ cls := "HamletWells$Swap", name := "comes", desc := "()I" } : Jvm.MethodName)) ∈ lw_all := lw_g (lw_at lw_m9 215 rfl) rfl
theorem q2245 : (Jvm.Cond.selects "HamletWells$Swap" ({ cls := "HamletWells$Swap", name := "comes", desc := "()I" } : Jvm.MethodName) ({ cls := "HamletWells$Swap", name := "comes", desc := "()I" } : Jvm.MethodName)) ∈ lw_all := lw_g (lw_at lw_m9 216 rfl) rfl
theorem q2246 : (Jvm.Cond.code ({ cls := "HamletWells$Swap", name := "comes", desc := "()I" } : Jvm.MethodName) prog_41_method_6_code (1 : Nat) (Option.some Jvm.ClassFile.FieldType.int)) ∈ lw_all := lw_g (lw_at lw_m9 217 rfl) rfl
theorem q3531 : (Jvm.Cond.castable "HamletWells$Swap" "java/lang/Object") ∈ lw_tbl := lw_at lw_m15 62 rfl
theorem in_X22 : ∀ w ∈ wsX220, w ∈ lw_all := lw_in wsX220 [2207, 2209, 2211] (by decide +kernel) (by decide +kernel)
/-! HamletWells$9 -/
set_option maxRecDepth 100000
def RX23 : String := "HamletWells$9"
def TX23 : u_T := fun k => match k with
  | 0 => ("HamletWells$9", "val$now", "I", true)
  | _ => ("HamletWells$9", "this$0", "LHamletWells;", true)
def tyX23 : Nat → FieldType := fun k => match k with
  | 0 => .int
  | _ => .object "HamletWells"
abbrev wsX230 : List Cond := u_ws RX23 TX23 2
theorem nmX23 : ∀ a, a < 2 → ∀ b, b < 2 → a ≠ b → (TX23 a).2.1 ≠ (TX23 b).2.1 := by decide +kernel
theorem tyX23_ok : ∀ k, k < 2 → parseFieldDescriptor (TX23 k).2.2.1 = some (tyX23 k) := by decide +kernel
abbrev cX23_is : ByteArray := prog_13_method_3_code
def yX23_is : MethodName := ⟨RX23, "is", "(Ljava/lang/Object;)Z"⟩
def dkwX23_is_0 : List UInt8 := [42, 43, 192, 0, 18, 182, 0, 23, 172]
abbrev dktX23_is_0 : List UInt8 := dkwX23_is_0 ++ []
theorem dksX23_is_0 : cX23_is.data.toList.drop 0 = dktX23_is_0 := by decide +kernel
theorem dX23_is_0 : decode cX23_is 0 = .ok (.aload_n 0, 1) := dk_42 (dk_at dksX23_is_0 0 rfl rfl)
theorem dX23_is_1 : decode cX23_is 1 = .ok (.aload_n 1, 1) := dk_43 (dk_at dksX23_is_0 1 rfl rfl)
theorem dX23_is_2 : decode cX23_is 2 = .ok (.checkcast 18, 3) := dk_192 0 18 (dk_at dksX23_is_0 2 rfl rfl)
theorem dX23_is_5 : decode cX23_is 5 = .ok (.invokevirtual 23, 3) := dk_182 0 23 (dk_at dksX23_is_0 5 rfl rfl)
theorem dX23_is_8 : decode cX23_is 8 = .ok (.ireturn, 1) := dk_172 (dk_at dksX23_is_0 8 rfl rfl)
abbrev cX23_is_2 : ByteArray := prog_13_method_2_code
def yX23_is_2 : MethodName := ⟨RX23, "is", "(LHamletWells$Swap;)Z"⟩
def dkwX23_is_2_0 : List UInt8 := [43, 182, 0, 17, 42, 180, 0, 7, 162, 0, 7, 4, 167, 0, 4, 3, 172]
abbrev dktX23_is_2_0 : List UInt8 := dkwX23_is_2_0 ++ []
theorem dksX23_is_2_0 : cX23_is_2.data.toList.drop 0 = dktX23_is_2_0 := by decide +kernel
theorem dX23_is_2_0 : decode cX23_is_2 0 = .ok (.aload_n 1, 1) := dk_43 (dk_at dksX23_is_2_0 0 rfl rfl)
theorem dX23_is_2_1 : decode cX23_is_2 1 = .ok (.invokevirtual 17, 3) := dk_182 0 17 (dk_at dksX23_is_2_0 1 rfl rfl)
theorem dX23_is_2_4 : decode cX23_is_2 4 = .ok (.aload_n 0, 1) := dk_42 (dk_at dksX23_is_2_0 4 rfl rfl)
theorem dX23_is_2_5 : decode cX23_is_2 5 = .ok (.getfield 7, 3) := dk_180 0 7 (dk_at dksX23_is_2_0 5 rfl rfl)
theorem dX23_is_2_8 : decode cX23_is_2 8 = .ok (.if_icmp .ge 7, 3) := dk_162 0 7 (dk_at dksX23_is_2_0 8 rfl rfl)
theorem dX23_is_2_11 : decode cX23_is_2 11 = .ok (.iconst 1, 1) := dk_4 (dk_at dksX23_is_2_0 11 rfl rfl)
theorem dX23_is_2_12 : decode cX23_is_2 12 = .ok (.goto 4, 3) := dk_167 0 4 (dk_at dksX23_is_2_0 12 rfl rfl)
theorem dX23_is_2_15 : decode cX23_is_2 15 = .ok (.iconst 0, 1) := dk_3 (dk_at dksX23_is_2_0 15 rfl rfl)
theorem dX23_is_2_16 : decode cX23_is_2 16 = .ok (.ireturn, 1) := dk_172 (dk_at dksX23_is_2_0 16 rfl rfl)
abbrev cX23_init : ByteArray := prog_13_method_1_code
def yX23_init : MethodName := ⟨RX23, "<init>", "(LHamletWells;I)V"⟩
def dkwX23_init_0 : List UInt8 := [42, 43, 181, 0, 1, 42, 28, 181, 0, 7, 42, 183, 0, 11, 177]
abbrev dktX23_init_0 : List UInt8 := dkwX23_init_0 ++ []
theorem dksX23_init_0 : cX23_init.data.toList.drop 0 = dktX23_init_0 := by decide +kernel
theorem dX23_init_0 : decode cX23_init 0 = .ok (.aload_n 0, 1) := dk_42 (dk_at dksX23_init_0 0 rfl rfl)
theorem dX23_init_1 : decode cX23_init 1 = .ok (.aload_n 1, 1) := dk_43 (dk_at dksX23_init_0 1 rfl rfl)
theorem dX23_init_2 : decode cX23_init 2 = .ok (.putfield 1, 3) := dk_181 0 1 (dk_at dksX23_init_0 2 rfl rfl)
theorem dX23_init_5 : decode cX23_init 5 = .ok (.aload_n 0, 1) := dk_42 (dk_at dksX23_init_0 5 rfl rfl)
theorem dX23_init_6 : decode cX23_init 6 = .ok (.iload_n 2, 1) := dk_28 (dk_at dksX23_init_0 6 rfl rfl)
theorem dX23_init_7 : decode cX23_init 7 = .ok (.putfield 7, 3) := dk_181 0 7 (dk_at dksX23_init_0 7 rfl rfl)
theorem dX23_init_10 : decode cX23_init 10 = .ok (.aload_n 0, 1) := dk_42 (dk_at dksX23_init_0 10 rfl rfl)
theorem dX23_init_11 : decode cX23_init 11 = .ok (.invokespecial 11, 3) := dk_183 0 11 (dk_at dksX23_init_0 11 rfl rfl)
theorem dX23_init_14 : decode cX23_init 14 = .ok (.return_, 1) := dk_177 (dk_at dksX23_init_0 14 rfl rfl)
theorem q167 : (Jvm.Cond.initialized "HamletWells$9") ∈ lw_all := lw_g (lw_at lw_m1 58 rfl) rfl
theorem q616 : (Jvm.Cond.selects "HamletWells$9" ({ cls := "java/lang/Object", name := "getClass", desc := "()Ljava/lang/Class;" } : Jvm.MethodName) ({ cls := "java/lang/Object", name := "getClass", desc := "()Ljava/lang/Class;" } : Jvm.MethodName)) ∈ lw_all := lw_g (lw_at lw_m3 27 rfl) rfl
theorem q1487 : (Jvm.Cond.castable "HamletWells$9" "HamletWells$Asked") ∈ lw_tbl := lw_at lw_m6 178 rfl
theorem q1488 : (Jvm.Cond.selects "HamletWells$9" ({ cls := "HamletWells$Asked", name := "is", desc := "(Ljava/lang/Object;)Z" } : Jvm.MethodName) ({ cls := "HamletWells$9", name := "is", desc := "(Ljava/lang/Object;)Z" } : Jvm.MethodName)) ∈ lw_all := lw_g (lw_at lw_m6 179 rfl) rfl
theorem q1489 : (Jvm.Cond.unhidden "HamletWells$9" "is" "(Ljava/lang/Object;)Z") ∈ lw_tbl := lw_at lw_m6 180 rfl
theorem q1490 : (Jvm.Cond.instanceMethod ({ cls := "HamletWells$9", name := "is", desc := "(Ljava/lang/Object;)Z" } : Jvm.MethodName)) ∈ lw_all := lw_g (lw_at lw_m6 181 rfl) rfl
theorem q1491 : (Jvm.Cond.publicMethod ({ cls := "HamletWells$9", name := "is", desc := "(Ljava/lang/Object;)Z" } : Jvm.MethodName)) ∈ lw_tbl := lw_at lw_m6 182 rfl
theorem q1492 : (Jvm.Cond.code ({ cls := "HamletWells$9", name := "is", desc := "(Ljava/lang/Object;)Z" } : Jvm.MethodName) prog_13_method_3_code (2 : Nat) (Option.some Jvm.ClassFile.FieldType.boolean)) ∈ lw_all := lw_g (lw_at lw_m6 183 rfl) rfl
theorem q1493 : (Jvm.Cond.classLink "HamletWells$9" (18 : Nat) "HamletWells$Swap") ∈ lw_all := lw_g (lw_at lw_m6 184 rfl) rfl
theorem q1494 : (Jvm.Cond.methodLink "HamletWells$9" (23 : Nat) ({ cls := "HamletWells$9", name := "is", desc := "(LHamletWells$Swap;)Z" } : Jvm.MethodName)) ∈ lw_all := lw_g (lw_at lw_m6 185 rfl) rfl
theorem q1495 : (Jvm.Cond.instanceMethod ({ cls := "HamletWells$9", name := "is", desc := "(LHamletWells$Swap;)Z" } : Jvm.MethodName)) ∈ lw_all := lw_g (lw_at lw_m6 186 rfl) rfl
theorem q1496 : (Jvm.Cond.selects "HamletWells$9" ({ cls := "HamletWells$9", name := "is", desc := "(LHamletWells$Swap;)Z" } : Jvm.MethodName) ({ cls := "HamletWells$9", name := "is", desc := "(LHamletWells$Swap;)Z" } : Jvm.MethodName)) ∈ lw_all := lw_g (lw_at lw_m6 187 rfl) rfl
theorem q1497 : (Jvm.Cond.code ({ cls := "HamletWells$9", name := "is", desc := "(LHamletWells$Swap;)Z" } : Jvm.MethodName) prog_13_method_2_code (2 : Nat) (Option.some Jvm.ClassFile.FieldType.boolean)) ∈ lw_all := lw_g (lw_at lw_m6 188 rfl) rfl
theorem q1498 : (Jvm.Cond.methodLink "HamletWells$9" (17 : Nat) ({ cls := "HamletWells$Swap", name := "cost", desc := "()I" } : Jvm.MethodName)) ∈ lw_all := lw_g (lw_at lw_m6 189 rfl) rfl
theorem q2216 : (Jvm.Cond.instantiable "HamletWells$9" (2 : Nat)) ∈ lw_all := lw_g (lw_at lw_m9 187 rfl) rfl
theorem q2218 : (Jvm.Cond.instanceMethod ({ cls := "HamletWells$9", name := "<init>", desc := "(LHamletWells;I)V" } : Jvm.MethodName)) ∈ lw_all := lw_g (lw_at lw_m9 189 rfl) rfl
theorem q2219 : (Jvm.Cond.code ({ cls := "HamletWells$9", name := "<init>", desc := "(LHamletWells;I)V" } : Jvm.MethodName) prog_13_method_1_code (3 : Nat) (Option.none : Option Jvm.ClassFile.FieldType)) ∈ lw_all := lw_g (lw_at lw_m9 190 rfl) rfl
theorem q2220 : (Jvm.Cond.methodLink "HamletWells$9" (11 : Nat) ({ cls := "java/lang/Object", name := "<init>", desc := "()V" } : Jvm.MethodName)) ∈ lw_all := lw_g (lw_at lw_m9 191 rfl) rfl
theorem q2221 : (Jvm.Cond.fieldLink "HamletWells$9" (7 : Nat) "HamletWells$9" "val$now" "I") ∈ lw_all := lw_g (lw_at lw_m9 192 rfl) rfl
theorem q2222 : (Jvm.Cond.fieldLink "HamletWells$9" (1 : Nat) "HamletWells$9" "this$0" "LHamletWells;") ∈ lw_all := lw_g (lw_at lw_m9 193 rfl) rfl
theorem q2223 : (Jvm.Cond.laysFinal "HamletWells$9" "HamletWells$9" "val$now" "I") ∈ lw_all := lw_g (lw_at lw_m9 194 rfl) rfl
theorem q2224 : (Jvm.Cond.soleField "HamletWells$9" "val$now") ∈ lw_all := lw_g (lw_at lw_m9 195 rfl) rfl
theorem q2225 : (Jvm.Cond.laysFinal "HamletWells$9" "HamletWells$9" "this$0" "LHamletWells;") ∈ lw_all := lw_g (lw_at lw_m9 196 rfl) rfl
theorem q2226 : (Jvm.Cond.soleField "HamletWells$9" "this$0") ∈ lw_all := lw_g (lw_at lw_m9 197 rfl) rfl
theorem q2227 : (Jvm.Cond.superclass "HamletWells$9" "java/lang/Object") ∈ lw_all := lw_g (lw_at lw_m9 198 rfl) rfl
theorem q3532 : (Jvm.Cond.castable "HamletWells$9" "java/lang/Object") ∈ lw_tbl := lw_at lw_m15 63 rfl
theorem in_X23 : ∀ w ∈ wsX230, w ∈ lw_all := lw_in wsX230 [2223, 2225] (by decide +kernel) (by decide +kernel)
/-! HamletWells$10 -/
set_option maxRecDepth 100000
def RX24 : String := "HamletWells$10"
def TX24 : u_T := fun k => match k with
  | _ => ("HamletWells$10", "this$0", "LHamletWells;", true)
def tyX24 : Nat → FieldType := fun k => match k with
  | _ => .object "HamletWells"
abbrev wsX240 : List Cond := u_ws RX24 TX24 1
theorem nmX24 : ∀ a, a < 1 → ∀ b, b < 1 → a ≠ b → (TX24 a).2.1 ≠ (TX24 b).2.1 := by decide +kernel
theorem tyX24_ok : ∀ k, k < 1 → parseFieldDescriptor (TX24 k).2.2.1 = some (tyX24 k) := by decide +kernel
abbrev cX24_of : ByteArray := prog_3_method_3_code
def yX24_of : MethodName := ⟨RX24, "of", "(Ljava/lang/Object;)I"⟩
def dkwX24_of_0 : List UInt8 := [42, 43, 192, 0, 14, 182, 0, 19, 172]
abbrev dktX24_of_0 : List UInt8 := dkwX24_of_0 ++ []
theorem dksX24_of_0 : cX24_of.data.toList.drop 0 = dktX24_of_0 := by decide +kernel
theorem dX24_of_0 : decode cX24_of 0 = .ok (.aload_n 0, 1) := dk_42 (dk_at dksX24_of_0 0 rfl rfl)
theorem dX24_of_1 : decode cX24_of 1 = .ok (.aload_n 1, 1) := dk_43 (dk_at dksX24_of_0 1 rfl rfl)
theorem dX24_of_2 : decode cX24_of 2 = .ok (.checkcast 14, 3) := dk_192 0 14 (dk_at dksX24_of_0 2 rfl rfl)
theorem dX24_of_5 : decode cX24_of 5 = .ok (.invokevirtual 19, 3) := dk_182 0 19 (dk_at dksX24_of_0 5 rfl rfl)
theorem dX24_of_8 : decode cX24_of 8 = .ok (.ireturn, 1) := dk_172 (dk_at dksX24_of_0 8 rfl rfl)
abbrev cX24_of_2 : ByteArray := prog_3_method_2_code
def yX24_of_2 : MethodName := ⟨RX24, "of", "(LHamletWells$Swap;)I"⟩
theorem dX24_of_2_0 : decode cX24_of_2 0 = .ok (.aload_n 1, 1) := by decide +kernel
theorem dX24_of_2_1 : decode cX24_of_2 1 = .ok (.invokevirtual 13, 3) := by decide +kernel
theorem dX24_of_2_4 : decode cX24_of_2 4 = .ok (.ireturn, 1) := by decide +kernel
abbrev cX24_init : ByteArray := prog_3_method_1_code
def yX24_init : MethodName := ⟨RX24, "<init>", "(LHamletWells;)V"⟩
def dkwX24_init_0 : List UInt8 := [42, 43, 181, 0, 1, 42, 183, 0, 7, 177]
abbrev dktX24_init_0 : List UInt8 := dkwX24_init_0 ++ []
theorem dksX24_init_0 : cX24_init.data.toList.drop 0 = dktX24_init_0 := by decide +kernel
theorem dX24_init_0 : decode cX24_init 0 = .ok (.aload_n 0, 1) := dk_42 (dk_at dksX24_init_0 0 rfl rfl)
theorem dX24_init_1 : decode cX24_init 1 = .ok (.aload_n 1, 1) := dk_43 (dk_at dksX24_init_0 1 rfl rfl)
theorem dX24_init_2 : decode cX24_init 2 = .ok (.putfield 1, 3) := dk_181 0 1 (dk_at dksX24_init_0 2 rfl rfl)
theorem dX24_init_5 : decode cX24_init 5 = .ok (.aload_n 0, 1) := dk_42 (dk_at dksX24_init_0 5 rfl rfl)
theorem dX24_init_6 : decode cX24_init 6 = .ok (.invokespecial 7, 3) := dk_183 0 7 (dk_at dksX24_init_0 6 rfl rfl)
theorem dX24_init_9 : decode cX24_init 9 = .ok (.return_, 1) := dk_177 (dk_at dksX24_init_0 9 rfl rfl)
theorem q168 : (Jvm.Cond.initialized "HamletWells$10") ∈ lw_all := lw_g (lw_at lw_m1 59 rfl) rfl
theorem q606 : (Jvm.Cond.selects "HamletWells$10" ({ cls := "java/lang/Object", name := "getClass", desc := "()Ljava/lang/Class;" } : Jvm.MethodName) ({ cls := "java/lang/Object", name := "getClass", desc := "()Ljava/lang/Class;" } : Jvm.MethodName)) ∈ lw_all := lw_g (lw_at lw_m3 17 rfl) rfl
theorem q1542 : (Jvm.Cond.castable "HamletWells$10" "HamletWells$Worth") ∈ lw_tbl := lw_at lw_m6 233 rfl
theorem q1543 : (Jvm.Cond.selects "HamletWells$10" ({ cls := "HamletWells$Worth", name := "of", desc := "(Ljava/lang/Object;)I" } : Jvm.MethodName) ({ cls := "HamletWells$10", name := "of", desc := "(Ljava/lang/Object;)I" } : Jvm.MethodName)) ∈ lw_all := lw_g (lw_at lw_m6 234 rfl) rfl
theorem q1544 : (Jvm.Cond.unhidden "HamletWells$10" "of" "(Ljava/lang/Object;)I") ∈ lw_tbl := lw_at lw_m6 235 rfl
theorem q1545 : (Jvm.Cond.instanceMethod ({ cls := "HamletWells$10", name := "of", desc := "(Ljava/lang/Object;)I" } : Jvm.MethodName)) ∈ lw_all := lw_g (lw_at lw_m6 236 rfl) rfl
theorem q1546 : (Jvm.Cond.publicMethod ({ cls := "HamletWells$10", name := "of", desc := "(Ljava/lang/Object;)I" } : Jvm.MethodName)) ∈ lw_tbl := lw_at lw_m6 237 rfl
theorem q1547 : (Jvm.Cond.code ({ cls := "HamletWells$10", name := "of", desc := "(Ljava/lang/Object;)I" } : Jvm.MethodName) prog_3_method_3_code (2 : Nat) (Option.some Jvm.ClassFile.FieldType.int)) ∈ lw_all := lw_g (lw_at lw_m6 238 rfl) rfl
theorem q1548 : (Jvm.Cond.classLink "HamletWells$10" (14 : Nat) "HamletWells$Swap") ∈ lw_all := lw_g (lw_at lw_m6 239 rfl) rfl
theorem q1549 : (Jvm.Cond.methodLink "HamletWells$10" (19 : Nat) ({ cls := "HamletWells$10", name := "of", desc := "(LHamletWells$Swap;)I" } : Jvm.MethodName)) ∈ lw_all := lw_g (lw_at lw_m7 0 rfl) rfl
theorem q1550 : (Jvm.Cond.instanceMethod ({ cls := "HamletWells$10", name := "of", desc := "(LHamletWells$Swap;)I" } : Jvm.MethodName)) ∈ lw_all := lw_g (lw_at lw_m7 1 rfl) rfl
theorem q1551 : (Jvm.Cond.selects "HamletWells$10" ({ cls := "HamletWells$10", name := "of", desc := "(LHamletWells$Swap;)I" } : Jvm.MethodName) ({ cls := "HamletWells$10", name := "of", desc := "(LHamletWells$Swap;)I" } : Jvm.MethodName)) ∈ lw_all := lw_g (lw_at lw_m7 2 rfl) rfl
theorem q1552 : (Jvm.Cond.code ({ cls := "HamletWells$10", name := "of", desc := "(LHamletWells$Swap;)I" } : Jvm.MethodName) prog_3_method_2_code (2 : Nat) (Option.some Jvm.ClassFile.FieldType.int)) ∈ lw_all := lw_g (lw_at lw_m7 3 rfl) rfl
theorem q1553 : (Jvm.Cond.methodLink "HamletWells$10" (13 : Nat) ({ cls := "HamletWells$Swap", name := "cost", desc := "()I" } : Jvm.MethodName)) ∈ lw_all := lw_g (lw_at lw_m7 4 rfl) rfl
theorem q2229 : (Jvm.Cond.instantiable "HamletWells$10" (1 : Nat)) ∈ lw_all := lw_g (lw_at lw_m9 200 rfl) rfl
theorem q2231 : (Jvm.Cond.instanceMethod ({ cls := "HamletWells$10", name := "<init>", desc := "(LHamletWells;)V" } : Jvm.MethodName)) ∈ lw_all := lw_g (lw_at lw_m9 202 rfl) rfl
theorem q2232 : (Jvm.Cond.code ({ cls := "HamletWells$10", name := "<init>", desc := "(LHamletWells;)V" } : Jvm.MethodName) prog_3_method_1_code (2 : Nat) (Option.none : Option Jvm.ClassFile.FieldType)) ∈ lw_all := lw_g (lw_at lw_m9 203 rfl) rfl
theorem q2233 : (Jvm.Cond.methodLink "HamletWells$10" (7 : Nat) ({ cls := "java/lang/Object", name := "<init>", desc := "()V" } : Jvm.MethodName)) ∈ lw_all := lw_g (lw_at lw_m9 204 rfl) rfl
theorem q2234 : (Jvm.Cond.fieldLink "HamletWells$10" (1 : Nat) "HamletWells$10" "this$0" "LHamletWells;") ∈ lw_all := lw_g (lw_at lw_m9 205 rfl) rfl
theorem q2235 : (Jvm.Cond.laysFinal "HamletWells$10" "HamletWells$10" "this$0" "LHamletWells;") ∈ lw_all := lw_g (lw_at lw_m9 206 rfl) rfl
theorem q2236 : (Jvm.Cond.soleField "HamletWells$10" "this$0") ∈ lw_all := lw_g (lw_at lw_m9 207 rfl) rfl
theorem q2237 : (Jvm.Cond.superclass "HamletWells$10" "java/lang/Object") ∈ lw_all := lw_g (lw_at lw_m9 208 rfl) rfl
theorem q3533 : (Jvm.Cond.castable "HamletWells$10" "java/lang/Object") ∈ lw_tbl := lw_at lw_m15 64 rfl
theorem in_X24 : ∀ w ∈ wsX240, w ∈ lw_all := lw_in wsX240 [2235] (by decide +kernel) (by decide +kernel)
/-! HamletWells$ByThirst -/
set_option maxRecDepth 100000
def RX25 : String := "HamletWells$ByThirst"
abbrev cX25_init : ByteArray := prog_17_method_1_code
def yX25_init : MethodName := ⟨RX25, "<init>", "()V"⟩
theorem dX25_init_0 : decode cX25_init 0 = .ok (.aload_n 0, 1) := by decide +kernel
theorem dX25_init_1 : decode cX25_init 1 = .ok (.invokespecial 1, 3) := by decide +kernel
theorem dX25_init_4 : decode cX25_init 4 = .ok (.return_, 1) := by decide +kernel
abbrev cX25_compare : ByteArray := prog_17_method_3_code
def yX25_compare : MethodName := ⟨RX25, "compare", "(Ljava/lang/Object;Ljava/lang/Object;)I"⟩
def dkwX25_compare_0 : List UInt8 := [42, 43, 192, 0, 8, 44, 192, 0, 8, 182, 0, 19, 172]
abbrev dktX25_compare_0 : List UInt8 := dkwX25_compare_0 ++ []
theorem dksX25_compare_0 : cX25_compare.data.toList.drop 0 = dktX25_compare_0 := by decide +kernel
theorem dX25_compare_0 : decode cX25_compare 0 = .ok (.aload_n 0, 1) := dk_42 (dk_at dksX25_compare_0 0 rfl rfl)
theorem dX25_compare_1 : decode cX25_compare 1 = .ok (.aload_n 1, 1) := dk_43 (dk_at dksX25_compare_0 1 rfl rfl)
theorem dX25_compare_2 : decode cX25_compare 2 = .ok (.checkcast 8, 3) := dk_192 0 8 (dk_at dksX25_compare_0 2 rfl rfl)
theorem dX25_compare_5 : decode cX25_compare 5 = .ok (.aload_n 2, 1) := dk_44 (dk_at dksX25_compare_0 5 rfl rfl)
theorem dX25_compare_6 : decode cX25_compare 6 = .ok (.checkcast 8, 3) := dk_192 0 8 (dk_at dksX25_compare_0 6 rfl rfl)
theorem dX25_compare_9 : decode cX25_compare 9 = .ok (.invokevirtual 19, 3) := dk_182 0 19 (dk_at dksX25_compare_0 9 rfl rfl)
theorem dX25_compare_12 : decode cX25_compare 12 = .ok (.ireturn, 1) := dk_172 (dk_at dksX25_compare_0 12 rfl rfl)
abbrev cX25_compare_2 : ByteArray := prog_17_method_2_code
def yX25_compare_2 : MethodName := ⟨RX25, "compare", "(LHamletWells$Hamlet;LHamletWells$Hamlet;)I"⟩
def dkwX25_compare_2_2 : List UInt8 := [180, 0, 16, 44, 180, 0, 16, 100, 172]
abbrev dktX25_compare_2_2 : List UInt8 := dkwX25_compare_2_2 ++ []
def dkwX25_compare_2_1 : List UInt8 := [180, 0, 13, 44, 180, 0, 13, 159, 0, 15, 44, 180, 0, 13, 43, 180, 0, 13, 100, 167, 0, 12, 43]
abbrev dktX25_compare_2_1 : List UInt8 := dkwX25_compare_2_1 ++ dktX25_compare_2_2
def dkwX25_compare_2_0 : List UInt8 := [43, 180, 0, 7, 44, 180, 0, 7, 159, 0, 13, 44, 180, 0, 7, 43, 180, 0, 7, 100, 172, 43]
abbrev dktX25_compare_2_0 : List UInt8 := dkwX25_compare_2_0 ++ dktX25_compare_2_1
theorem dksX25_compare_2_0 : cX25_compare_2.data.toList.drop 0 = dktX25_compare_2_0 := by decide +kernel
theorem dksX25_compare_2_1 : cX25_compare_2.data.toList.drop 22 = dktX25_compare_2_1 := dk_seg dksX25_compare_2_0 22 rfl rfl
theorem dksX25_compare_2_2 : cX25_compare_2.data.toList.drop 45 = dktX25_compare_2_2 := dk_seg dksX25_compare_2_1 23 rfl rfl
theorem dX25_compare_2_0 : decode cX25_compare_2 0 = .ok (.aload_n 1, 1) := dk_43 (dk_at dksX25_compare_2_0 0 rfl rfl)
theorem dX25_compare_2_1 : decode cX25_compare_2 1 = .ok (.getfield 7, 3) := dk_180 0 7 (dk_at dksX25_compare_2_0 1 rfl rfl)
theorem dX25_compare_2_4 : decode cX25_compare_2 4 = .ok (.aload_n 2, 1) := dk_44 (dk_at dksX25_compare_2_0 4 rfl rfl)
theorem dX25_compare_2_5 : decode cX25_compare_2 5 = .ok (.getfield 7, 3) := dk_180 0 7 (dk_at dksX25_compare_2_0 5 rfl rfl)
theorem dX25_compare_2_8 : decode cX25_compare_2 8 = .ok (.if_icmp .eq 13, 3) := dk_159 0 13 (dk_at dksX25_compare_2_0 8 rfl rfl)
theorem dX25_compare_2_11 : decode cX25_compare_2 11 = .ok (.aload_n 2, 1) := dk_44 (dk_at dksX25_compare_2_0 11 rfl rfl)
theorem dX25_compare_2_12 : decode cX25_compare_2 12 = .ok (.getfield 7, 3) := dk_180 0 7 (dk_at dksX25_compare_2_0 12 rfl rfl)
theorem dX25_compare_2_15 : decode cX25_compare_2 15 = .ok (.aload_n 1, 1) := dk_43 (dk_at dksX25_compare_2_0 15 rfl rfl)
theorem dX25_compare_2_16 : decode cX25_compare_2 16 = .ok (.getfield 7, 3) := dk_180 0 7 (dk_at dksX25_compare_2_0 16 rfl rfl)
theorem dX25_compare_2_19 : decode cX25_compare_2 19 = .ok (.isub, 1) := dk_100 (dk_at dksX25_compare_2_0 19 rfl rfl)
theorem dX25_compare_2_20 : decode cX25_compare_2 20 = .ok (.ireturn, 1) := dk_172 (dk_at dksX25_compare_2_0 20 rfl rfl)
theorem dX25_compare_2_21 : decode cX25_compare_2 21 = .ok (.aload_n 1, 1) := dk_43 (dk_at dksX25_compare_2_0 21 rfl rfl)
theorem dX25_compare_2_22 : decode cX25_compare_2 22 = .ok (.getfield 13, 3) := dk_180 0 13 (dk_at dksX25_compare_2_1 0 rfl rfl)
theorem dX25_compare_2_25 : decode cX25_compare_2 25 = .ok (.aload_n 2, 1) := dk_44 (dk_at dksX25_compare_2_1 3 rfl rfl)
theorem dX25_compare_2_26 : decode cX25_compare_2 26 = .ok (.getfield 13, 3) := dk_180 0 13 (dk_at dksX25_compare_2_1 4 rfl rfl)
theorem dX25_compare_2_29 : decode cX25_compare_2 29 = .ok (.if_icmp .eq 15, 3) := dk_159 0 15 (dk_at dksX25_compare_2_1 7 rfl rfl)
theorem dX25_compare_2_32 : decode cX25_compare_2 32 = .ok (.aload_n 2, 1) := dk_44 (dk_at dksX25_compare_2_1 10 rfl rfl)
theorem dX25_compare_2_33 : decode cX25_compare_2 33 = .ok (.getfield 13, 3) := dk_180 0 13 (dk_at dksX25_compare_2_1 11 rfl rfl)
theorem dX25_compare_2_36 : decode cX25_compare_2 36 = .ok (.aload_n 1, 1) := dk_43 (dk_at dksX25_compare_2_1 14 rfl rfl)
theorem dX25_compare_2_37 : decode cX25_compare_2 37 = .ok (.getfield 13, 3) := dk_180 0 13 (dk_at dksX25_compare_2_1 15 rfl rfl)
theorem dX25_compare_2_40 : decode cX25_compare_2 40 = .ok (.isub, 1) := dk_100 (dk_at dksX25_compare_2_1 18 rfl rfl)
theorem dX25_compare_2_41 : decode cX25_compare_2 41 = .ok (.goto 12, 3) := dk_167 0 12 (dk_at dksX25_compare_2_1 19 rfl rfl)
theorem dX25_compare_2_44 : decode cX25_compare_2 44 = .ok (.aload_n 1, 1) := dk_43 (dk_at dksX25_compare_2_1 22 rfl rfl)
theorem dX25_compare_2_45 : decode cX25_compare_2 45 = .ok (.getfield 16, 3) := dk_180 0 16 (dk_at dksX25_compare_2_2 0 rfl rfl)
theorem dX25_compare_2_48 : decode cX25_compare_2 48 = .ok (.aload_n 2, 1) := dk_44 (dk_at dksX25_compare_2_2 3 rfl rfl)
theorem dX25_compare_2_49 : decode cX25_compare_2 49 = .ok (.getfield 16, 3) := dk_180 0 16 (dk_at dksX25_compare_2_2 4 rfl rfl)
theorem dX25_compare_2_52 : decode cX25_compare_2 52 = .ok (.isub, 1) := dk_100 (dk_at dksX25_compare_2_2 7 rfl rfl)
theorem dX25_compare_2_53 : decode cX25_compare_2 53 = .ok (.ireturn, 1) := dk_172 (dk_at dksX25_compare_2_2 8 rfl rfl)
theorem q169 : (Jvm.Cond.initialized "HamletWells$ByThirst") ∈ lw_all := lw_g (lw_at lw_m1 60 rfl) rfl
theorem q619 : (Jvm.Cond.selects "HamletWells$ByThirst" ({ cls := "java/lang/Object", name := "getClass", desc := "()Ljava/lang/Class;" } : Jvm.MethodName) ({ cls := "java/lang/Object", name := "getClass", desc := "()Ljava/lang/Class;" } : Jvm.MethodName)) ∈ lw_all := lw_g (lw_at lw_m3 30 rfl) rfl
theorem q971 : (Jvm.Cond.fieldLinkNest "HamletWells$ByThirst" (13 : Nat) "HamletWells$Hamlet" "people" "I" "HamletWells") ∈ lw_tbl := lw_at lw_m4 142 rfl
theorem q975 : (Jvm.Cond.fieldLinkNest "HamletWells$ByThirst" (7 : Nat) "HamletWells$Hamlet" "thirst" "I" "HamletWells") ∈ lw_tbl := lw_at lw_m4 146 rfl
theorem q992 : (Jvm.Cond.fieldLink "HamletWells$ByThirst" (16 : Nat) "HamletWells$Hamlet" "number" "I") ∈ lw_all := lw_g (lw_at lw_m4 163 rfl) rfl
theorem q2264 : (Jvm.Cond.instantiable "HamletWells$ByThirst" (0 : Nat)) ∈ lw_all := lw_g (lw_at lw_m9 235 rfl) rfl
theorem q2266 : (Jvm.Cond.instanceMethod ({ cls := "HamletWells$ByThirst", name := "<init>", desc := "()V" } : Jvm.MethodName)) ∈ lw_all := lw_g (lw_at lw_m9 237 rfl) rfl
theorem q2267 : (Jvm.Cond.code ({ cls := "HamletWells$ByThirst", name := "<init>", desc := "()V" } : Jvm.MethodName) prog_17_method_1_code (1 : Nat) (Option.none : Option Jvm.ClassFile.FieldType)) ∈ lw_all := lw_g (lw_at lw_m9 238 rfl) rfl
theorem q2268 : (Jvm.Cond.methodLink "HamletWells$ByThirst" (1 : Nat) ({ cls := "java/lang/Object", name := "<init>", desc := "()V" } : Jvm.MethodName)) ∈ lw_all := lw_g (lw_at lw_m9 239 rfl) rfl
theorem q2269 : (Jvm.Cond.superclass "HamletWells$ByThirst" "java/lang/Object") ∈ lw_all := lw_g (lw_at lw_m10 0 rfl) rfl
theorem q2345 : (Jvm.Cond.castable "HamletWells$ByThirst" "java/util/Comparator") ∈ lw_tbl := lw_at lw_m10 76 rfl
theorem q2346 : (Jvm.Cond.selects "HamletWells$ByThirst" ({ cls := "java/util/Comparator", name := "compare", desc := "(Ljava/lang/Object;Ljava/lang/Object;)I" } : Jvm.MethodName) ({ cls := "HamletWells$ByThirst", name := "compare", desc := "(Ljava/lang/Object;Ljava/lang/Object;)I" } : Jvm.MethodName)) ∈ lw_all := lw_g (lw_at lw_m10 77 rfl) rfl
theorem q2347 : (Jvm.Cond.unhidden "HamletWells$ByThirst" "compare" "(Ljava/lang/Object;Ljava/lang/Object;)I") ∈ lw_tbl := lw_at lw_m10 78 rfl
theorem q2348 : (Jvm.Cond.instanceMethod ({ cls := "HamletWells$ByThirst", name := "compare", desc := "(Ljava/lang/Object;Ljava/lang/Object;)I" } : Jvm.MethodName)) ∈ lw_all := lw_g (lw_at lw_m10 79 rfl) rfl
theorem q2349 : (Jvm.Cond.publicMethod ({ cls := "HamletWells$ByThirst", name := "compare", desc := "(Ljava/lang/Object;Ljava/lang/Object;)I" } : Jvm.MethodName)) ∈ lw_tbl := lw_at lw_m10 80 rfl
theorem q2350 : (Jvm.Cond.code ({ cls := "HamletWells$ByThirst", name := "compare", desc := "(Ljava/lang/Object;Ljava/lang/Object;)I" } : Jvm.MethodName) prog_17_method_3_code (3 : Nat) (Option.some Jvm.ClassFile.FieldType.int)) ∈ lw_all := lw_g (lw_at lw_m10 81 rfl) rfl
theorem q2351 : (Jvm.Cond.classLink "HamletWells$ByThirst" (8 : Nat) "HamletWells$Hamlet") ∈ lw_all := lw_g (lw_at lw_m10 82 rfl) rfl
theorem q2352 : (Jvm.Cond.methodLink "HamletWells$ByThirst" (19 : Nat) ({ cls := "HamletWells$ByThirst", name := "compare", desc := "(LHamletWells$Hamlet;LHamletWells$Hamlet;)I" } : Jvm.MethodName)) ∈ lw_all := lw_g (lw_at lw_m10 83 rfl) rfl
theorem q2353 : (Jvm.Cond.instanceMethod ({ cls := "HamletWells$ByThirst", name := "compare", desc := "(LHamletWells$Hamlet;LHamletWells$Hamlet;)I" } : Jvm.MethodName)) ∈ lw_all := lw_g (lw_at lw_m10 84 rfl) rfl
theorem q2354 : (Jvm.Cond.selects "HamletWells$ByThirst" ({ cls := "HamletWells$ByThirst", name := "compare", desc := "(LHamletWells$Hamlet;LHamletWells$Hamlet;)I" } : Jvm.MethodName) ({ cls := "HamletWells$ByThirst", name := "compare", desc := "(LHamletWells$Hamlet;LHamletWells$Hamlet;)I" } : Jvm.MethodName)) ∈ lw_all := lw_g (lw_at lw_m10 85 rfl) rfl
theorem q2355 : (Jvm.Cond.code ({ cls := "HamletWells$ByThirst", name := "compare", desc := "(LHamletWells$Hamlet;LHamletWells$Hamlet;)I" } : Jvm.MethodName) prog_17_method_2_code (3 : Nat) (Option.some Jvm.ClassFile.FieldType.int)) ∈ lw_all := lw_g (lw_at lw_m10 86 rfl) rfl
theorem q3534 : (Jvm.Cond.castable "HamletWells$ByThirst" "java/lang/Object") ∈ lw_tbl := lw_at lw_m15 65 rfl
/-! HamletWells$ByStrain -/
set_option maxRecDepth 100000
def RX26 : String := "HamletWells$ByStrain"
def TX26 : u_T := fun k => match k with
  | _ => ("HamletWells$ByStrain", "this$0", "LHamletWells;", true)
def tyX26 : Nat → FieldType := fun k => match k with
  | _ => .object "HamletWells"
abbrev wsX260 : List Cond := u_ws RX26 TX26 1
theorem nmX26 : ∀ a, a < 1 → ∀ b, b < 1 → a ≠ b → (TX26 a).2.1 ≠ (TX26 b).2.1 := by decide +kernel
theorem tyX26_ok : ∀ k, k < 1 → parseFieldDescriptor (TX26 k).2.2.1 = some (tyX26 k) := by decide +kernel
abbrev cX26_compare : ByteArray := prog_16_method_4_code
def yX26_compare : MethodName := ⟨RX26, "compare", "(Ljava/lang/Object;Ljava/lang/Object;)I"⟩
def dkwX26_compare_0 : List UInt8 := [42, 43, 192, 0, 14, 44, 192, 0, 14, 182, 0, 38, 172]
abbrev dktX26_compare_0 : List UInt8 := dkwX26_compare_0 ++ []
theorem dksX26_compare_0 : cX26_compare.data.toList.drop 0 = dktX26_compare_0 := by decide +kernel
theorem dX26_compare_0 : decode cX26_compare 0 = .ok (.aload_n 0, 1) := dk_42 (dk_at dksX26_compare_0 0 rfl rfl)
theorem dX26_compare_1 : decode cX26_compare 1 = .ok (.aload_n 1, 1) := dk_43 (dk_at dksX26_compare_0 1 rfl rfl)
theorem dX26_compare_2 : decode cX26_compare 2 = .ok (.checkcast 14, 3) := dk_192 0 14 (dk_at dksX26_compare_0 2 rfl rfl)
theorem dX26_compare_5 : decode cX26_compare 5 = .ok (.aload_n 2, 1) := dk_44 (dk_at dksX26_compare_0 5 rfl rfl)
theorem dX26_compare_6 : decode cX26_compare 6 = .ok (.checkcast 14, 3) := dk_192 0 14 (dk_at dksX26_compare_0 6 rfl rfl)
theorem dX26_compare_9 : decode cX26_compare 9 = .ok (.invokevirtual 38, 3) := dk_182 0 38 (dk_at dksX26_compare_0 9 rfl rfl)
theorem dX26_compare_12 : decode cX26_compare 12 = .ok (.ireturn, 1) := dk_172 (dk_at dksX26_compare_0 12 rfl rfl)
abbrev cX26_compare_2 : ByteArray := prog_16_method_3_code
def yX26_compare_2 : MethodName := ⟨RX26, "compare", "(LHamletWells$Site;LHamletWells$Site;)I"⟩
def dkwX26_compare_2_1 : List UInt8 := [167, 0, 12, 43, 180, 0, 34, 44, 180, 0, 34, 100, 172]
abbrev dktX26_compare_2_1 : List UInt8 := dkwX26_compare_2_1 ++ []
def dkwX26_compare_2_0 : List UInt8 := [42, 43, 182, 0, 31, 42, 44, 182, 0, 31, 159, 0, 17, 42, 43, 182, 0, 31, 42, 44, 182, 0, 31, 100]
abbrev dktX26_compare_2_0 : List UInt8 := dkwX26_compare_2_0 ++ dktX26_compare_2_1
theorem dksX26_compare_2_0 : cX26_compare_2.data.toList.drop 0 = dktX26_compare_2_0 := by decide +kernel
theorem dksX26_compare_2_1 : cX26_compare_2.data.toList.drop 24 = dktX26_compare_2_1 := dk_seg dksX26_compare_2_0 24 rfl rfl
theorem dX26_compare_2_0 : decode cX26_compare_2 0 = .ok (.aload_n 0, 1) := dk_42 (dk_at dksX26_compare_2_0 0 rfl rfl)
theorem dX26_compare_2_1 : decode cX26_compare_2 1 = .ok (.aload_n 1, 1) := dk_43 (dk_at dksX26_compare_2_0 1 rfl rfl)
theorem dX26_compare_2_2 : decode cX26_compare_2 2 = .ok (.invokevirtual 31, 3) := dk_182 0 31 (dk_at dksX26_compare_2_0 2 rfl rfl)
theorem dX26_compare_2_5 : decode cX26_compare_2 5 = .ok (.aload_n 0, 1) := dk_42 (dk_at dksX26_compare_2_0 5 rfl rfl)
theorem dX26_compare_2_6 : decode cX26_compare_2 6 = .ok (.aload_n 2, 1) := dk_44 (dk_at dksX26_compare_2_0 6 rfl rfl)
theorem dX26_compare_2_7 : decode cX26_compare_2 7 = .ok (.invokevirtual 31, 3) := dk_182 0 31 (dk_at dksX26_compare_2_0 7 rfl rfl)
theorem dX26_compare_2_10 : decode cX26_compare_2 10 = .ok (.if_icmp .eq 17, 3) := dk_159 0 17 (dk_at dksX26_compare_2_0 10 rfl rfl)
theorem dX26_compare_2_13 : decode cX26_compare_2 13 = .ok (.aload_n 0, 1) := dk_42 (dk_at dksX26_compare_2_0 13 rfl rfl)
theorem dX26_compare_2_14 : decode cX26_compare_2 14 = .ok (.aload_n 1, 1) := dk_43 (dk_at dksX26_compare_2_0 14 rfl rfl)
theorem dX26_compare_2_15 : decode cX26_compare_2 15 = .ok (.invokevirtual 31, 3) := dk_182 0 31 (dk_at dksX26_compare_2_0 15 rfl rfl)
theorem dX26_compare_2_18 : decode cX26_compare_2 18 = .ok (.aload_n 0, 1) := dk_42 (dk_at dksX26_compare_2_0 18 rfl rfl)
theorem dX26_compare_2_19 : decode cX26_compare_2 19 = .ok (.aload_n 2, 1) := dk_44 (dk_at dksX26_compare_2_0 19 rfl rfl)
theorem dX26_compare_2_20 : decode cX26_compare_2 20 = .ok (.invokevirtual 31, 3) := dk_182 0 31 (dk_at dksX26_compare_2_0 20 rfl rfl)
theorem dX26_compare_2_23 : decode cX26_compare_2 23 = .ok (.isub, 1) := dk_100 (dk_at dksX26_compare_2_0 23 rfl rfl)
theorem dX26_compare_2_24 : decode cX26_compare_2 24 = .ok (.goto 12, 3) := dk_167 0 12 (dk_at dksX26_compare_2_1 0 rfl rfl)
theorem dX26_compare_2_27 : decode cX26_compare_2 27 = .ok (.aload_n 1, 1) := dk_43 (dk_at dksX26_compare_2_1 3 rfl rfl)
theorem dX26_compare_2_28 : decode cX26_compare_2 28 = .ok (.getfield 34, 3) := dk_180 0 34 (dk_at dksX26_compare_2_1 4 rfl rfl)
theorem dX26_compare_2_31 : decode cX26_compare_2 31 = .ok (.aload_n 2, 1) := dk_44 (dk_at dksX26_compare_2_1 7 rfl rfl)
theorem dX26_compare_2_32 : decode cX26_compare_2 32 = .ok (.getfield 34, 3) := dk_180 0 34 (dk_at dksX26_compare_2_1 8 rfl rfl)
theorem dX26_compare_2_35 : decode cX26_compare_2 35 = .ok (.isub, 1) := dk_100 (dk_at dksX26_compare_2_1 11 rfl rfl)
theorem dX26_compare_2_36 : decode cX26_compare_2 36 = .ok (.ireturn, 1) := dk_172 (dk_at dksX26_compare_2_1 12 rfl rfl)
abbrev cX26_spare : ByteArray := prog_16_method_2_code
def yX26_spare : MethodName := ⟨RX26, "spare", "(LHamletWells$Site;)I"⟩
def dkwX26_spare_0 : List UInt8 := [43, 182, 0, 13, 42, 180, 0, 1, 180, 0, 19, 43, 182, 0, 25, 100, 172]
abbrev dktX26_spare_0 : List UInt8 := dkwX26_spare_0 ++ []
theorem dksX26_spare_0 : cX26_spare.data.toList.drop 0 = dktX26_spare_0 := by decide +kernel
theorem dX26_spare_0 : decode cX26_spare 0 = .ok (.aload_n 1, 1) := dk_43 (dk_at dksX26_spare_0 0 rfl rfl)
theorem dX26_spare_1 : decode cX26_spare 1 = .ok (.invokevirtual 13, 3) := dk_182 0 13 (dk_at dksX26_spare_0 1 rfl rfl)
theorem dX26_spare_4 : decode cX26_spare 4 = .ok (.aload_n 0, 1) := dk_42 (dk_at dksX26_spare_0 4 rfl rfl)
theorem dX26_spare_5 : decode cX26_spare 5 = .ok (.getfield 1, 3) := dk_180 0 1 (dk_at dksX26_spare_0 5 rfl rfl)
theorem dX26_spare_8 : decode cX26_spare 8 = .ok (.getfield 19, 3) := dk_180 0 19 (dk_at dksX26_spare_0 8 rfl rfl)
theorem dX26_spare_11 : decode cX26_spare 11 = .ok (.aload_n 1, 1) := dk_43 (dk_at dksX26_spare_0 11 rfl rfl)
theorem dX26_spare_12 : decode cX26_spare 12 = .ok (.invokevirtual 25, 3) := dk_182 0 25 (dk_at dksX26_spare_0 12 rfl rfl)
theorem dX26_spare_15 : decode cX26_spare 15 = .ok (.isub, 1) := dk_100 (dk_at dksX26_spare_0 15 rfl rfl)
theorem dX26_spare_16 : decode cX26_spare 16 = .ok (.ireturn, 1) := dk_172 (dk_at dksX26_spare_0 16 rfl rfl)
abbrev cX26_init : ByteArray := prog_16_method_1_code
def yX26_init : MethodName := ⟨RX26, "<init>", "(LHamletWells;)V"⟩
def dkwX26_init_0 : List UInt8 := [42, 43, 181, 0, 1, 42, 183, 0, 7, 177]
abbrev dktX26_init_0 : List UInt8 := dkwX26_init_0 ++ []
theorem dksX26_init_0 : cX26_init.data.toList.drop 0 = dktX26_init_0 := by decide +kernel
theorem dX26_init_0 : decode cX26_init 0 = .ok (.aload_n 0, 1) := dk_42 (dk_at dksX26_init_0 0 rfl rfl)
theorem dX26_init_1 : decode cX26_init 1 = .ok (.aload_n 1, 1) := dk_43 (dk_at dksX26_init_0 1 rfl rfl)
theorem dX26_init_2 : decode cX26_init 2 = .ok (.putfield 1, 3) := dk_181 0 1 (dk_at dksX26_init_0 2 rfl rfl)
theorem dX26_init_5 : decode cX26_init 5 = .ok (.aload_n 0, 1) := dk_42 (dk_at dksX26_init_0 5 rfl rfl)
theorem dX26_init_6 : decode cX26_init 6 = .ok (.invokespecial 7, 3) := dk_183 0 7 (dk_at dksX26_init_0 6 rfl rfl)
theorem dX26_init_9 : decode cX26_init 9 = .ok (.return_, 1) := dk_177 (dk_at dksX26_init_0 9 rfl rfl)
theorem q174 : (Jvm.Cond.initialized "HamletWells$ByStrain") ∈ lw_all := lw_g (lw_at lw_m1 65 rfl) rfl
theorem q319 : (Jvm.Cond.fieldLinkNest "HamletWells$ByStrain" (19 : Nat) "HamletWells" "now" "LHamletWells$Province;" "HamletWells") ∈ lw_tbl := lw_at lw_m1 210 rfl
theorem q618 : (Jvm.Cond.selects "HamletWells$ByStrain" ({ cls := "java/lang/Object", name := "getClass", desc := "()Ljava/lang/Class;" } : Jvm.MethodName) ({ cls := "java/lang/Object", name := "getClass", desc := "()Ljava/lang/Class;" } : Jvm.MethodName)) ∈ lw_all := lw_g (lw_at lw_m3 29 rfl) rfl
theorem q993 : (Jvm.Cond.fieldLink "HamletWells$ByStrain" (34 : Nat) "HamletWells$Site" "number" "I") ∈ lw_all := lw_g (lw_at lw_m4 164 rfl) rfl
theorem q2327 : (Jvm.Cond.castable "HamletWells$ByStrain" "java/util/Comparator") ∈ lw_tbl := lw_at lw_m10 58 rfl
theorem q2328 : (Jvm.Cond.selects "HamletWells$ByStrain" ({ cls := "java/util/Comparator", name := "compare", desc := "(Ljava/lang/Object;Ljava/lang/Object;)I" } : Jvm.MethodName) ({ cls := "HamletWells$ByStrain", name := "compare", desc := "(Ljava/lang/Object;Ljava/lang/Object;)I" } : Jvm.MethodName)) ∈ lw_all := lw_g (lw_at lw_m10 59 rfl) rfl
theorem q2329 : (Jvm.Cond.unhidden "HamletWells$ByStrain" "compare" "(Ljava/lang/Object;Ljava/lang/Object;)I") ∈ lw_tbl := lw_at lw_m10 60 rfl
theorem q2330 : (Jvm.Cond.instanceMethod ({ cls := "HamletWells$ByStrain", name := "compare", desc := "(Ljava/lang/Object;Ljava/lang/Object;)I" } : Jvm.MethodName)) ∈ lw_all := lw_g (lw_at lw_m10 61 rfl) rfl
theorem q2331 : (Jvm.Cond.publicMethod ({ cls := "HamletWells$ByStrain", name := "compare", desc := "(Ljava/lang/Object;Ljava/lang/Object;)I" } : Jvm.MethodName)) ∈ lw_tbl := lw_at lw_m10 62 rfl
theorem q2332 : (Jvm.Cond.code ({ cls := "HamletWells$ByStrain", name := "compare", desc := "(Ljava/lang/Object;Ljava/lang/Object;)I" } : Jvm.MethodName) prog_16_method_4_code (3 : Nat) (Option.some Jvm.ClassFile.FieldType.int)) ∈ lw_all := lw_g (lw_at lw_m10 63 rfl) rfl
theorem q2333 : (Jvm.Cond.classLink "HamletWells$ByStrain" (14 : Nat) "HamletWells$Site") ∈ lw_all := lw_g (lw_at lw_m10 64 rfl) rfl
theorem q2334 : (Jvm.Cond.methodLink "HamletWells$ByStrain" (38 : Nat) ({ cls := "HamletWells$ByStrain", name := "compare", desc := "(LHamletWells$Site;LHamletWells$Site;)I" } : Jvm.MethodName)) ∈ lw_all := lw_g (lw_at lw_m10 65 rfl) rfl
theorem q2335 : (Jvm.Cond.instanceMethod ({ cls := "HamletWells$ByStrain", name := "compare", desc := "(LHamletWells$Site;LHamletWells$Site;)I" } : Jvm.MethodName)) ∈ lw_all := lw_g (lw_at lw_m10 66 rfl) rfl
theorem q2336 : (Jvm.Cond.selects "HamletWells$ByStrain" ({ cls := "HamletWells$ByStrain", name := "compare", desc := "(LHamletWells$Site;LHamletWells$Site;)I" } : Jvm.MethodName) ({ cls := "HamletWells$ByStrain", name := "compare", desc := "(LHamletWells$Site;LHamletWells$Site;)I" } : Jvm.MethodName)) ∈ lw_all := lw_g (lw_at lw_m10 67 rfl) rfl
theorem q2337 : (Jvm.Cond.code ({ cls := "HamletWells$ByStrain", name := "compare", desc := "(LHamletWells$Site;LHamletWells$Site;)I" } : Jvm.MethodName) prog_16_method_3_code (3 : Nat) (Option.some Jvm.ClassFile.FieldType.int)) ∈ lw_all := lw_g (lw_at lw_m10 68 rfl) rfl
theorem q2338 : (Jvm.Cond.methodLink "HamletWells$ByStrain" (31 : Nat) ({ cls := "HamletWells$ByStrain", name := "spare", desc := "(LHamletWells$Site;)I" } : Jvm.MethodName)) ∈ lw_all := lw_g (lw_at lw_m10 69 rfl) rfl
theorem q2339 : (Jvm.Cond.privateMethod ({ cls := "HamletWells$ByStrain", name := "spare", desc := "(LHamletWells$Site;)I" } : Jvm.MethodName)) ∈ lw_tbl := lw_at lw_m10 70 rfl
theorem q2340 : (Jvm.Cond.instanceMethod ({ cls := "HamletWells$ByStrain", name := "spare", desc := "(LHamletWells$Site;)I" } : Jvm.MethodName)) ∈ lw_all := lw_g (lw_at lw_m10 71 rfl) rfl
theorem q2341 : (Jvm.Cond.instantiable "HamletWells$ByStrain" (1 : Nat)) ∈ lw_all := lw_g (lw_at lw_m10 72 rfl) rfl
theorem q2342 : (Jvm.Cond.code ({ cls := "HamletWells$ByStrain", name := "spare", desc := "(LHamletWells$Site;)I" } : Jvm.MethodName) prog_16_method_2_code (2 : Nat) (Option.some Jvm.ClassFile.FieldType.int)) ∈ lw_all := lw_g (lw_at lw_m10 73 rfl) rfl
theorem q2343 : (Jvm.Cond.methodLink "HamletWells$ByStrain" (13 : Nat) ({ cls := "HamletWells$Site", name := "gives", desc := "()I" } : Jvm.MethodName)) ∈ lw_all := lw_g (lw_at lw_m10 74 rfl) rfl
theorem q2344 : (Jvm.Cond.methodLink "HamletWells$ByStrain" (25 : Nat) ({ cls := "HamletWells$Province", name := "asked", desc := "(LHamletWells$Site;)I" } : Jvm.MethodName)) ∈ lw_all := lw_g (lw_at lw_m10 75 rfl) rfl
theorem q2553 : (Jvm.Cond.instanceMethod ({ cls := "HamletWells$ByStrain", name := "<init>", desc := "(LHamletWells;)V" } : Jvm.MethodName)) ∈ lw_all := lw_g (lw_at lw_m11 44 rfl) rfl
theorem q2554 : (Jvm.Cond.code ({ cls := "HamletWells$ByStrain", name := "<init>", desc := "(LHamletWells;)V" } : Jvm.MethodName) prog_16_method_1_code (2 : Nat) (Option.none : Option Jvm.ClassFile.FieldType)) ∈ lw_all := lw_g (lw_at lw_m11 45 rfl) rfl
theorem q2555 : (Jvm.Cond.methodLink "HamletWells$ByStrain" (7 : Nat) ({ cls := "java/lang/Object", name := "<init>", desc := "()V" } : Jvm.MethodName)) ∈ lw_all := lw_g (lw_at lw_m11 46 rfl) rfl
theorem q2556 : (Jvm.Cond.fieldLink "HamletWells$ByStrain" (1 : Nat) "HamletWells$ByStrain" "this$0" "LHamletWells;") ∈ lw_all := lw_g (lw_at lw_m11 47 rfl) rfl
theorem q2557 : (Jvm.Cond.laysFinal "HamletWells$ByStrain" "HamletWells$ByStrain" "this$0" "LHamletWells;") ∈ lw_all := lw_g (lw_at lw_m11 48 rfl) rfl
theorem q2558 : (Jvm.Cond.soleField "HamletWells$ByStrain" "this$0") ∈ lw_all := lw_g (lw_at lw_m11 49 rfl) rfl
theorem q2559 : (Jvm.Cond.superclass "HamletWells$ByStrain" "java/lang/Object") ∈ lw_all := lw_g (lw_at lw_m11 50 rfl) rfl
theorem q3538 : (Jvm.Cond.castable "HamletWells$ByStrain" "java/lang/Object") ∈ lw_tbl := lw_at lw_m15 69 rfl
theorem in_X26 : ∀ w ∈ wsX260, w ∈ lw_all := lw_in wsX260 [2557] (by decide +kernel) (by decide +kernel)
/-! HamletWells$Given -/
set_option maxRecDepth 100000
def RX27 : String := "HamletWells$Given"
abbrev cX27_of : ByteArray := prog_20_method_3_code
def yX27_of : MethodName := ⟨RX27, "of", "(Ljava/lang/Object;)I"⟩
def dkwX27_of_0 : List UInt8 := [42, 43, 192, 0, 8, 182, 0, 13, 172]
abbrev dktX27_of_0 : List UInt8 := dkwX27_of_0 ++ []
theorem dksX27_of_0 : cX27_of.data.toList.drop 0 = dktX27_of_0 := by decide +kernel
theorem dX27_of_0 : decode cX27_of 0 = .ok (.aload_n 0, 1) := dk_42 (dk_at dksX27_of_0 0 rfl rfl)
theorem dX27_of_1 : decode cX27_of 1 = .ok (.aload_n 1, 1) := dk_43 (dk_at dksX27_of_0 1 rfl rfl)
theorem dX27_of_2 : decode cX27_of 2 = .ok (.checkcast 8, 3) := dk_192 0 8 (dk_at dksX27_of_0 2 rfl rfl)
theorem dX27_of_5 : decode cX27_of 5 = .ok (.invokevirtual 13, 3) := dk_182 0 13 (dk_at dksX27_of_0 5 rfl rfl)
theorem dX27_of_8 : decode cX27_of 8 = .ok (.ireturn, 1) := dk_172 (dk_at dksX27_of_0 8 rfl rfl)
abbrev cX27_of_2 : ByteArray := prog_20_method_2_code
def yX27_of_2 : MethodName := ⟨RX27, "of", "(LHamletWells$Site;)I"⟩
theorem dX27_of_2_0 : decode cX27_of_2 0 = .ok (.aload_n 1, 1) := by decide +kernel
theorem dX27_of_2_1 : decode cX27_of_2 1 = .ok (.getfield 7, 3) := by decide +kernel
theorem dX27_of_2_4 : decode cX27_of_2 4 = .ok (.ireturn, 1) := by decide +kernel
abbrev cX27_init : ByteArray := prog_20_method_1_code
def yX27_init : MethodName := ⟨RX27, "<init>", "()V"⟩
theorem dX27_init_0 : decode cX27_init 0 = .ok (.aload_n 0, 1) := by decide +kernel
theorem dX27_init_1 : decode cX27_init 1 = .ok (.invokespecial 1, 3) := by decide +kernel
theorem dX27_init_4 : decode cX27_init 4 = .ok (.return_, 1) := by decide +kernel
theorem q175 : (Jvm.Cond.initialized "HamletWells$Given") ∈ lw_all := lw_g (lw_at lw_m1 66 rfl) rfl
theorem q620 : (Jvm.Cond.selects "HamletWells$Given" ({ cls := "java/lang/Object", name := "getClass", desc := "()Ljava/lang/Class;" } : Jvm.MethodName) ({ cls := "java/lang/Object", name := "getClass", desc := "()Ljava/lang/Class;" } : Jvm.MethodName)) ∈ lw_all := lw_g (lw_at lw_m3 31 rfl) rfl
theorem q1085 : (Jvm.Cond.fieldLinkNest "HamletWells$Given" (7 : Nat) "HamletWells$Site" "given" "I" "HamletWells") ∈ lw_tbl := lw_at lw_m5 16 rfl
theorem q1567 : (Jvm.Cond.castable "HamletWells$Given" "HamletWells$Worth") ∈ lw_tbl := lw_at lw_m7 18 rfl
theorem q1568 : (Jvm.Cond.selects "HamletWells$Given" ({ cls := "HamletWells$Worth", name := "of", desc := "(Ljava/lang/Object;)I" } : Jvm.MethodName) ({ cls := "HamletWells$Given", name := "of", desc := "(Ljava/lang/Object;)I" } : Jvm.MethodName)) ∈ lw_all := lw_g (lw_at lw_m7 19 rfl) rfl
theorem q1569 : (Jvm.Cond.unhidden "HamletWells$Given" "of" "(Ljava/lang/Object;)I") ∈ lw_tbl := lw_at lw_m7 20 rfl
theorem q1570 : (Jvm.Cond.instanceMethod ({ cls := "HamletWells$Given", name := "of", desc := "(Ljava/lang/Object;)I" } : Jvm.MethodName)) ∈ lw_all := lw_g (lw_at lw_m7 21 rfl) rfl
theorem q1571 : (Jvm.Cond.publicMethod ({ cls := "HamletWells$Given", name := "of", desc := "(Ljava/lang/Object;)I" } : Jvm.MethodName)) ∈ lw_tbl := lw_at lw_m7 22 rfl
theorem q1572 : (Jvm.Cond.code ({ cls := "HamletWells$Given", name := "of", desc := "(Ljava/lang/Object;)I" } : Jvm.MethodName) prog_20_method_3_code (2 : Nat) (Option.some Jvm.ClassFile.FieldType.int)) ∈ lw_all := lw_g (lw_at lw_m7 23 rfl) rfl
theorem q1573 : (Jvm.Cond.classLink "HamletWells$Given" (8 : Nat) "HamletWells$Site") ∈ lw_all := lw_g (lw_at lw_m7 24 rfl) rfl
theorem q1574 : (Jvm.Cond.methodLink "HamletWells$Given" (13 : Nat) ({ cls := "HamletWells$Given", name := "of", desc := "(LHamletWells$Site;)I" } : Jvm.MethodName)) ∈ lw_all := lw_g (lw_at lw_m7 25 rfl) rfl
theorem q1575 : (Jvm.Cond.instanceMethod ({ cls := "HamletWells$Given", name := "of", desc := "(LHamletWells$Site;)I" } : Jvm.MethodName)) ∈ lw_all := lw_g (lw_at lw_m7 26 rfl) rfl
theorem q1576 : (Jvm.Cond.selects "HamletWells$Given" ({ cls := "HamletWells$Given", name := "of", desc := "(LHamletWells$Site;)I" } : Jvm.MethodName) ({ cls := "HamletWells$Given", name := "of", desc := "(LHamletWells$Site;)I" } : Jvm.MethodName)) ∈ lw_all := lw_g (lw_at lw_m7 27 rfl) rfl
theorem q1577 : (Jvm.Cond.code ({ cls := "HamletWells$Given", name := "of", desc := "(LHamletWells$Site;)I" } : Jvm.MethodName) prog_20_method_2_code (2 : Nat) (Option.some Jvm.ClassFile.FieldType.int)) ∈ lw_all := lw_g (lw_at lw_m7 28 rfl) rfl
theorem q2567 : (Jvm.Cond.instantiable "HamletWells$Given" (0 : Nat)) ∈ lw_all := lw_g (lw_at lw_m11 58 rfl) rfl
theorem q2569 : (Jvm.Cond.instanceMethod ({ cls := "HamletWells$Given", name := "<init>", desc := "()V" } : Jvm.MethodName)) ∈ lw_all := lw_g (lw_at lw_m11 60 rfl) rfl
theorem q2570 : (Jvm.Cond.code ({ cls := "HamletWells$Given", name := "<init>", desc := "()V" } : Jvm.MethodName) prog_20_method_1_code (1 : Nat) (Option.none : Option Jvm.ClassFile.FieldType)) ∈ lw_all := lw_g (lw_at lw_m11 61 rfl) rfl
theorem q2571 : (Jvm.Cond.methodLink "HamletWells$Given" (1 : Nat) ({ cls := "java/lang/Object", name := "<init>", desc := "()V" } : Jvm.MethodName)) ∈ lw_all := lw_g (lw_at lw_m11 62 rfl) rfl
theorem q2572 : (Jvm.Cond.superclass "HamletWells$Given" "java/lang/Object") ∈ lw_all := lw_g (lw_at lw_m11 63 rfl) rfl
theorem q3539 : (Jvm.Cond.castable "HamletWells$Given" "java/lang/Object") ∈ lw_tbl := lw_at lw_m15 70 rfl
/-! HamletWells$Got -/
set_option maxRecDepth 100000
def RX28 : String := "HamletWells$Got"
abbrev cX28_of : ByteArray := prog_21_method_3_code
def yX28_of : MethodName := ⟨RX28, "of", "(Ljava/lang/Object;)I"⟩
def dkwX28_of_0 : List UInt8 := [42, 43, 192, 0, 8, 182, 0, 13, 172]
abbrev dktX28_of_0 : List UInt8 := dkwX28_of_0 ++ []
theorem dksX28_of_0 : cX28_of.data.toList.drop 0 = dktX28_of_0 := by decide +kernel
theorem dX28_of_0 : decode cX28_of 0 = .ok (.aload_n 0, 1) := dk_42 (dk_at dksX28_of_0 0 rfl rfl)
theorem dX28_of_1 : decode cX28_of 1 = .ok (.aload_n 1, 1) := dk_43 (dk_at dksX28_of_0 1 rfl rfl)
theorem dX28_of_2 : decode cX28_of 2 = .ok (.checkcast 8, 3) := dk_192 0 8 (dk_at dksX28_of_0 2 rfl rfl)
theorem dX28_of_5 : decode cX28_of 5 = .ok (.invokevirtual 13, 3) := dk_182 0 13 (dk_at dksX28_of_0 5 rfl rfl)
theorem dX28_of_8 : decode cX28_of 8 = .ok (.ireturn, 1) := dk_172 (dk_at dksX28_of_0 8 rfl rfl)
abbrev cX28_of_2 : ByteArray := prog_21_method_2_code
def yX28_of_2 : MethodName := ⟨RX28, "of", "(LHamletWells$Hamlet;)I"⟩
theorem dX28_of_2_0 : decode cX28_of_2 0 = .ok (.aload_n 1, 1) := by decide +kernel
theorem dX28_of_2_1 : decode cX28_of_2 1 = .ok (.getfield 7, 3) := by decide +kernel
theorem dX28_of_2_4 : decode cX28_of_2 4 = .ok (.ireturn, 1) := by decide +kernel
abbrev cX28_init : ByteArray := prog_21_method_1_code
def yX28_init : MethodName := ⟨RX28, "<init>", "()V"⟩
theorem dX28_init_0 : decode cX28_init 0 = .ok (.aload_n 0, 1) := by decide +kernel
theorem dX28_init_1 : decode cX28_init 1 = .ok (.invokespecial 1, 3) := by decide +kernel
theorem dX28_init_4 : decode cX28_init 4 = .ok (.return_, 1) := by decide +kernel
theorem q176 : (Jvm.Cond.initialized "HamletWells$Got") ∈ lw_all := lw_g (lw_at lw_m1 67 rfl) rfl
theorem q621 : (Jvm.Cond.selects "HamletWells$Got" ({ cls := "java/lang/Object", name := "getClass", desc := "()Ljava/lang/Class;" } : Jvm.MethodName) ({ cls := "java/lang/Object", name := "getClass", desc := "()Ljava/lang/Class;" } : Jvm.MethodName)) ∈ lw_all := lw_g (lw_at lw_m3 32 rfl) rfl
theorem q979 : (Jvm.Cond.fieldLinkNest "HamletWells$Got" (7 : Nat) "HamletWells$Hamlet" "got" "I" "HamletWells") ∈ lw_tbl := lw_at lw_m4 150 rfl
theorem q1578 : (Jvm.Cond.castable "HamletWells$Got" "HamletWells$Worth") ∈ lw_tbl := lw_at lw_m7 29 rfl
theorem q1579 : (Jvm.Cond.selects "HamletWells$Got" ({ cls := "HamletWells$Worth", name := "of", desc := "(Ljava/lang/Object;)I" } : Jvm.MethodName) ({ cls := "HamletWells$Got", name := "of", desc := "(Ljava/lang/Object;)I" } : Jvm.MethodName)) ∈ lw_all := lw_g (lw_at lw_m7 30 rfl) rfl
theorem q1580 : (Jvm.Cond.unhidden "HamletWells$Got" "of" "(Ljava/lang/Object;)I") ∈ lw_tbl := lw_at lw_m7 31 rfl
theorem q1581 : (Jvm.Cond.instanceMethod ({ cls := "HamletWells$Got", name := "of", desc := "(Ljava/lang/Object;)I" } : Jvm.MethodName)) ∈ lw_all := lw_g (lw_at lw_m7 32 rfl) rfl
theorem q1582 : (Jvm.Cond.publicMethod ({ cls := "HamletWells$Got", name := "of", desc := "(Ljava/lang/Object;)I" } : Jvm.MethodName)) ∈ lw_tbl := lw_at lw_m7 33 rfl
theorem q1583 : (Jvm.Cond.code ({ cls := "HamletWells$Got", name := "of", desc := "(Ljava/lang/Object;)I" } : Jvm.MethodName) prog_21_method_3_code (2 : Nat) (Option.some Jvm.ClassFile.FieldType.int)) ∈ lw_all := lw_g (lw_at lw_m7 34 rfl) rfl
theorem q1584 : (Jvm.Cond.classLink "HamletWells$Got" (8 : Nat) "HamletWells$Hamlet") ∈ lw_all := lw_g (lw_at lw_m7 35 rfl) rfl
theorem q1585 : (Jvm.Cond.methodLink "HamletWells$Got" (13 : Nat) ({ cls := "HamletWells$Got", name := "of", desc := "(LHamletWells$Hamlet;)I" } : Jvm.MethodName)) ∈ lw_all := lw_g (lw_at lw_m7 36 rfl) rfl
theorem q1586 : (Jvm.Cond.instanceMethod ({ cls := "HamletWells$Got", name := "of", desc := "(LHamletWells$Hamlet;)I" } : Jvm.MethodName)) ∈ lw_all := lw_g (lw_at lw_m7 37 rfl) rfl
theorem q1587 : (Jvm.Cond.selects "HamletWells$Got" ({ cls := "HamletWells$Got", name := "of", desc := "(LHamletWells$Hamlet;)I" } : Jvm.MethodName) ({ cls := "HamletWells$Got", name := "of", desc := "(LHamletWells$Hamlet;)I" } : Jvm.MethodName)) ∈ lw_all := lw_g (lw_at lw_m7 38 rfl) rfl
theorem q1588 : (Jvm.Cond.code ({ cls := "HamletWells$Got", name := "of", desc := "(LHamletWells$Hamlet;)I" } : Jvm.MethodName) prog_21_method_2_code (2 : Nat) (Option.some Jvm.ClassFile.FieldType.int)) ∈ lw_all := lw_g (lw_at lw_m7 39 rfl) rfl
theorem q2575 : (Jvm.Cond.instantiable "HamletWells$Got" (0 : Nat)) ∈ lw_all := lw_g (lw_at lw_m11 66 rfl) rfl
theorem q2577 : (Jvm.Cond.instanceMethod ({ cls := "HamletWells$Got", name := "<init>", desc := "()V" } : Jvm.MethodName)) ∈ lw_all := lw_g (lw_at lw_m11 68 rfl) rfl
theorem q2578 : (Jvm.Cond.code ({ cls := "HamletWells$Got", name := "<init>", desc := "()V" } : Jvm.MethodName) prog_21_method_1_code (1 : Nat) (Option.none : Option Jvm.ClassFile.FieldType)) ∈ lw_all := lw_g (lw_at lw_m11 69 rfl) rfl
theorem q2579 : (Jvm.Cond.methodLink "HamletWells$Got" (1 : Nat) ({ cls := "java/lang/Object", name := "<init>", desc := "()V" } : Jvm.MethodName)) ∈ lw_all := lw_g (lw_at lw_m11 70 rfl) rfl
theorem q2580 : (Jvm.Cond.superclass "HamletWells$Got" "java/lang/Object") ∈ lw_all := lw_g (lw_at lw_m11 71 rfl) rfl
theorem q3540 : (Jvm.Cond.castable "HamletWells$Got" "java/lang/Object") ∈ lw_tbl := lw_at lw_m15 71 rfl
/-! HamletWells$OnWell -/
set_option maxRecDepth 100000
def RX29 : String := "HamletWells$OnWell"
abbrev cX29_of : ByteArray := prog_23_method_3_code
def yX29_of : MethodName := ⟨RX29, "of", "(Ljava/lang/Object;)I"⟩
def dkwX29_of_0 : List UInt8 := [42, 43, 192, 0, 8, 182, 0, 19, 172]
abbrev dktX29_of_0 : List UInt8 := dkwX29_of_0 ++ []
theorem dksX29_of_0 : cX29_of.data.toList.drop 0 = dktX29_of_0 := by decide +kernel
theorem dX29_of_0 : decode cX29_of 0 = .ok (.aload_n 0, 1) := dk_42 (dk_at dksX29_of_0 0 rfl rfl)
theorem dX29_of_1 : decode cX29_of 1 = .ok (.aload_n 1, 1) := dk_43 (dk_at dksX29_of_0 1 rfl rfl)
theorem dX29_of_2 : decode cX29_of 2 = .ok (.checkcast 8, 3) := dk_192 0 8 (dk_at dksX29_of_0 2 rfl rfl)
theorem dX29_of_5 : decode cX29_of 5 = .ok (.invokevirtual 19, 3) := dk_182 0 19 (dk_at dksX29_of_0 5 rfl rfl)
theorem dX29_of_8 : decode cX29_of 8 = .ok (.ireturn, 1) := dk_172 (dk_at dksX29_of_0 8 rfl rfl)
abbrev cX29_of_2 : ByteArray := prog_23_method_2_code
def yX29_of_2 : MethodName := ⟨RX29, "of", "(LHamletWells$Site;)I"⟩
def dkwX29_of_2_0 : List UInt8 := [43, 180, 0, 7, 184, 0, 13, 172]
abbrev dktX29_of_2_0 : List UInt8 := dkwX29_of_2_0 ++ []
theorem dksX29_of_2_0 : cX29_of_2.data.toList.drop 0 = dktX29_of_2_0 := by decide +kernel
theorem dX29_of_2_0 : decode cX29_of_2 0 = .ok (.aload_n 1, 1) := dk_43 (dk_at dksX29_of_2_0 0 rfl rfl)
theorem dX29_of_2_1 : decode cX29_of_2 1 = .ok (.getfield 7, 3) := dk_180 0 7 (dk_at dksX29_of_2_0 1 rfl rfl)
theorem dX29_of_2_4 : decode cX29_of_2 4 = .ok (.invokestatic 13, 3) := dk_184 0 13 (dk_at dksX29_of_2_0 4 rfl rfl)
theorem dX29_of_2_7 : decode cX29_of_2 7 = .ok (.ireturn, 1) := dk_172 (dk_at dksX29_of_2_0 7 rfl rfl)
abbrev cX29_init : ByteArray := prog_23_method_1_code
def yX29_init : MethodName := ⟨RX29, "<init>", "()V"⟩
theorem dX29_init_0 : decode cX29_init 0 = .ok (.aload_n 0, 1) := by decide +kernel
theorem dX29_init_1 : decode cX29_init 1 = .ok (.invokespecial 1, 3) := by decide +kernel
theorem dX29_init_4 : decode cX29_init 4 = .ok (.return_, 1) := by decide +kernel
theorem q177 : (Jvm.Cond.initialized "HamletWells$OnWell") ∈ lw_all := lw_g (lw_at lw_m1 68 rfl) rfl
theorem q623 : (Jvm.Cond.selects "HamletWells$OnWell" ({ cls := "java/lang/Object", name := "getClass", desc := "()Ljava/lang/Class;" } : Jvm.MethodName) ({ cls := "java/lang/Object", name := "getClass", desc := "()Ljava/lang/Class;" } : Jvm.MethodName)) ∈ lw_all := lw_g (lw_at lw_m3 34 rfl) rfl
theorem q1081 : (Jvm.Cond.fieldLinkNest "HamletWells$OnWell" (7 : Nat) "HamletWells$Site" "hasPump" "Z" "HamletWells") ∈ lw_tbl := lw_at lw_m5 12 rfl
theorem q1589 : (Jvm.Cond.castable "HamletWells$OnWell" "HamletWells$Worth") ∈ lw_tbl := lw_at lw_m7 40 rfl
theorem q1590 : (Jvm.Cond.selects "HamletWells$OnWell" ({ cls := "HamletWells$Worth", name := "of", desc := "(Ljava/lang/Object;)I" } : Jvm.MethodName) ({ cls := "HamletWells$OnWell", name := "of", desc := "(Ljava/lang/Object;)I" } : Jvm.MethodName)) ∈ lw_all := lw_g (lw_at lw_m7 41 rfl) rfl
theorem q1591 : (Jvm.Cond.unhidden "HamletWells$OnWell" "of" "(Ljava/lang/Object;)I") ∈ lw_tbl := lw_at lw_m7 42 rfl
theorem q1592 : (Jvm.Cond.instanceMethod ({ cls := "HamletWells$OnWell", name := "of", desc := "(Ljava/lang/Object;)I" } : Jvm.MethodName)) ∈ lw_all := lw_g (lw_at lw_m7 43 rfl) rfl
theorem q1593 : (Jvm.Cond.publicMethod ({ cls := "HamletWells$OnWell", name := "of", desc := "(Ljava/lang/Object;)I" } : Jvm.MethodName)) ∈ lw_tbl := lw_at lw_m7 44 rfl
theorem q1594 : (Jvm.Cond.code ({ cls := "HamletWells$OnWell", name := "of", desc := "(Ljava/lang/Object;)I" } : Jvm.MethodName) prog_23_method_3_code (2 : Nat) (Option.some Jvm.ClassFile.FieldType.int)) ∈ lw_all := lw_g (lw_at lw_m7 45 rfl) rfl
theorem q1595 : (Jvm.Cond.classLink "HamletWells$OnWell" (8 : Nat) "HamletWells$Site") ∈ lw_all := lw_g (lw_at lw_m7 46 rfl) rfl
theorem q1596 : (Jvm.Cond.methodLink "HamletWells$OnWell" (19 : Nat) ({ cls := "HamletWells$OnWell", name := "of", desc := "(LHamletWells$Site;)I" } : Jvm.MethodName)) ∈ lw_all := lw_g (lw_at lw_m7 47 rfl) rfl
theorem q1597 : (Jvm.Cond.instanceMethod ({ cls := "HamletWells$OnWell", name := "of", desc := "(LHamletWells$Site;)I" } : Jvm.MethodName)) ∈ lw_all := lw_g (lw_at lw_m7 48 rfl) rfl
theorem q1598 : (Jvm.Cond.selects "HamletWells$OnWell" ({ cls := "HamletWells$OnWell", name := "of", desc := "(LHamletWells$Site;)I" } : Jvm.MethodName) ({ cls := "HamletWells$OnWell", name := "of", desc := "(LHamletWells$Site;)I" } : Jvm.MethodName)) ∈ lw_all := lw_g (lw_at lw_m7 49 rfl) rfl
theorem q1599 : (Jvm.Cond.code ({ cls := "HamletWells$OnWell", name := "of", desc := "(LHamletWells$Site;)I" } : Jvm.MethodName) prog_23_method_2_code (2 : Nat) (Option.some Jvm.ClassFile.FieldType.int)) ∈ lw_all := lw_g (lw_at lw_m7 50 rfl) rfl
theorem q1600 : (Jvm.Cond.methodLinkNest "HamletWells$OnWell" (13 : Nat) ({ cls := "HamletWells", name := "bit", desc := "(Z)I" } : Jvm.MethodName) "HamletWells") ∈ lw_tbl := lw_at lw_m7 51 rfl
theorem q2582 : (Jvm.Cond.instantiable "HamletWells$OnWell" (0 : Nat)) ∈ lw_all := lw_g (lw_at lw_m11 73 rfl) rfl
theorem q2584 : (Jvm.Cond.instanceMethod ({ cls := "HamletWells$OnWell", name := "<init>", desc := "()V" } : Jvm.MethodName)) ∈ lw_all := lw_g (lw_at lw_m11 75 rfl) rfl
theorem q2585 : (Jvm.Cond.code ({ cls := "HamletWells$OnWell", name := "<init>", desc := "()V" } : Jvm.MethodName) prog_23_method_1_code (1 : Nat) (Option.none : Option Jvm.ClassFile.FieldType)) ∈ lw_all := lw_g (lw_at lw_m11 76 rfl) rfl
theorem q2586 : (Jvm.Cond.methodLink "HamletWells$OnWell" (1 : Nat) ({ cls := "java/lang/Object", name := "<init>", desc := "()V" } : Jvm.MethodName)) ∈ lw_all := lw_g (lw_at lw_m11 77 rfl) rfl
theorem q2587 : (Jvm.Cond.superclass "HamletWells$OnWell" "java/lang/Object") ∈ lw_all := lw_g (lw_at lw_m11 78 rfl) rfl
theorem q3541 : (Jvm.Cond.castable "HamletWells$OnWell" "java/lang/Object") ∈ lw_tbl := lw_at lw_m15 72 rfl
/-! HamletWells$People -/
set_option maxRecDepth 100000
def RX30 : String := "HamletWells$People"
abbrev cX30_of : ByteArray := prog_31_method_3_code
def yX30_of : MethodName := ⟨RX30, "of", "(Ljava/lang/Object;)I"⟩
def dkwX30_of_0 : List UInt8 := [42, 43, 192, 0, 8, 182, 0, 13, 172]
abbrev dktX30_of_0 : List UInt8 := dkwX30_of_0 ++ []
theorem dksX30_of_0 : cX30_of.data.toList.drop 0 = dktX30_of_0 := by decide +kernel
theorem dX30_of_0 : decode cX30_of 0 = .ok (.aload_n 0, 1) := dk_42 (dk_at dksX30_of_0 0 rfl rfl)
theorem dX30_of_1 : decode cX30_of 1 = .ok (.aload_n 1, 1) := dk_43 (dk_at dksX30_of_0 1 rfl rfl)
theorem dX30_of_2 : decode cX30_of 2 = .ok (.checkcast 8, 3) := dk_192 0 8 (dk_at dksX30_of_0 2 rfl rfl)
theorem dX30_of_5 : decode cX30_of 5 = .ok (.invokevirtual 13, 3) := dk_182 0 13 (dk_at dksX30_of_0 5 rfl rfl)
theorem dX30_of_8 : decode cX30_of 8 = .ok (.ireturn, 1) := dk_172 (dk_at dksX30_of_0 8 rfl rfl)
abbrev cX30_of_2 : ByteArray := prog_31_method_2_code
def yX30_of_2 : MethodName := ⟨RX30, "of", "(LHamletWells$Hamlet;)I"⟩
theorem dX30_of_2_0 : decode cX30_of_2 0 = .ok (.aload_n 1, 1) := by decide +kernel
theorem dX30_of_2_1 : decode cX30_of_2 1 = .ok (.getfield 7, 3) := by decide +kernel
theorem dX30_of_2_4 : decode cX30_of_2 4 = .ok (.ireturn, 1) := by decide +kernel
abbrev cX30_init : ByteArray := prog_31_method_1_code
def yX30_init : MethodName := ⟨RX30, "<init>", "()V"⟩
theorem dX30_init_0 : decode cX30_init 0 = .ok (.aload_n 0, 1) := by decide +kernel
theorem dX30_init_1 : decode cX30_init 1 = .ok (.invokespecial 1, 3) := by decide +kernel
theorem dX30_init_4 : decode cX30_init 4 = .ok (.return_, 1) := by decide +kernel
theorem q178 : (Jvm.Cond.initialized "HamletWells$People") ∈ lw_all := lw_g (lw_at lw_m1 69 rfl) rfl
theorem q631 : (Jvm.Cond.selects "HamletWells$People" ({ cls := "java/lang/Object", name := "getClass", desc := "()Ljava/lang/Class;" } : Jvm.MethodName) ({ cls := "java/lang/Object", name := "getClass", desc := "()Ljava/lang/Class;" } : Jvm.MethodName)) ∈ lw_all := lw_g (lw_at lw_m3 42 rfl) rfl
theorem q969 : (Jvm.Cond.fieldLinkNest "HamletWells$People" (7 : Nat) "HamletWells$Hamlet" "people" "I" "HamletWells") ∈ lw_tbl := lw_at lw_m4 140 rfl
theorem q1603 : (Jvm.Cond.castable "HamletWells$People" "HamletWells$Worth") ∈ lw_tbl := lw_at lw_m7 54 rfl
theorem q1604 : (Jvm.Cond.selects "HamletWells$People" ({ cls := "HamletWells$Worth", name := "of", desc := "(Ljava/lang/Object;)I" } : Jvm.MethodName) ({ cls := "HamletWells$People", name := "of", desc := "(Ljava/lang/Object;)I" } : Jvm.MethodName)) ∈ lw_all := lw_g (lw_at lw_m7 55 rfl) rfl
theorem q1605 : (Jvm.Cond.unhidden "HamletWells$People" "of" "(Ljava/lang/Object;)I") ∈ lw_tbl := lw_at lw_m7 56 rfl
theorem q1606 : (Jvm.Cond.instanceMethod ({ cls := "HamletWells$People", name := "of", desc := "(Ljava/lang/Object;)I" } : Jvm.MethodName)) ∈ lw_all := lw_g (lw_at lw_m7 57 rfl) rfl
theorem q1607 : (Jvm.Cond.publicMethod ({ cls := "HamletWells$People", name := "of", desc := "(Ljava/lang/Object;)I" } : Jvm.MethodName)) ∈ lw_tbl := lw_at lw_m7 58 rfl
theorem q1608 : (Jvm.Cond.code ({ cls := "HamletWells$People", name := "of", desc := "(Ljava/lang/Object;)I" } : Jvm.MethodName) prog_31_method_3_code (2 : Nat) (Option.some Jvm.ClassFile.FieldType.int)) ∈ lw_all := lw_g (lw_at lw_m7 59 rfl) rfl
theorem q1609 : (Jvm.Cond.classLink "HamletWells$People" (8 : Nat) "HamletWells$Hamlet") ∈ lw_all := lw_g (lw_at lw_m7 60 rfl) rfl
theorem q1610 : (Jvm.Cond.methodLink "HamletWells$People" (13 : Nat) ({ cls := "HamletWells$People", name := "of", desc := "(LHamletWells$Hamlet;)I" } : Jvm.MethodName)) ∈ lw_all := lw_g (lw_at lw_m7 61 rfl) rfl
theorem q1611 : (Jvm.Cond.instanceMethod ({ cls := "HamletWells$People", name := "of", desc := "(LHamletWells$Hamlet;)I" } : Jvm.MethodName)) ∈ lw_all := lw_g (lw_at lw_m7 62 rfl) rfl
theorem q1612 : (Jvm.Cond.selects "HamletWells$People" ({ cls := "HamletWells$People", name := "of", desc := "(LHamletWells$Hamlet;)I" } : Jvm.MethodName) ({ cls := "HamletWells$People", name := "of", desc := "(LHamletWells$Hamlet;)I" } : Jvm.MethodName)) ∈ lw_all := lw_g (lw_at lw_m7 63 rfl) rfl
theorem q1613 : (Jvm.Cond.code ({ cls := "HamletWells$People", name := "of", desc := "(LHamletWells$Hamlet;)I" } : Jvm.MethodName) prog_31_method_2_code (2 : Nat) (Option.some Jvm.ClassFile.FieldType.int)) ∈ lw_all := lw_g (lw_at lw_m7 64 rfl) rfl
theorem q2594 : (Jvm.Cond.instantiable "HamletWells$People" (0 : Nat)) ∈ lw_all := lw_g (lw_at lw_m11 85 rfl) rfl
theorem q2596 : (Jvm.Cond.instanceMethod ({ cls := "HamletWells$People", name := "<init>", desc := "()V" } : Jvm.MethodName)) ∈ lw_all := lw_g (lw_at lw_m11 87 rfl) rfl
theorem q2597 : (Jvm.Cond.code ({ cls := "HamletWells$People", name := "<init>", desc := "()V" } : Jvm.MethodName) prog_31_method_1_code (1 : Nat) (Option.none : Option Jvm.ClassFile.FieldType)) ∈ lw_all := lw_g (lw_at lw_m11 88 rfl) rfl
theorem q2598 : (Jvm.Cond.methodLink "HamletWells$People" (1 : Nat) ({ cls := "java/lang/Object", name := "<init>", desc := "()V" } : Jvm.MethodName)) ∈ lw_all := lw_g (lw_at lw_m11 89 rfl) rfl
theorem q2599 : (Jvm.Cond.superclass "HamletWells$People" "java/lang/Object") ∈ lw_all := lw_g (lw_at lw_m11 90 rfl) rfl
theorem q3542 : (Jvm.Cond.castable "HamletWells$People" "java/lang/Object") ∈ lw_tbl := lw_at lw_m15 73 rfl
/-! HamletWells$11 -/
set_option maxRecDepth 100000
def RX31 : String := "HamletWells$11"
def TX31 : u_T := fun k => match k with
  | _ => ("HamletWells$11", "this$0", "LHamletWells;", true)
def tyX31 : Nat → FieldType := fun k => match k with
  | _ => .object "HamletWells"
abbrev wsX310 : List Cond := u_ws RX31 TX31 1
theorem nmX31 : ∀ a, a < 1 → ∀ b, b < 1 → a ≠ b → (TX31 a).2.1 ≠ (TX31 b).2.1 := by decide +kernel
theorem tyX31_ok : ∀ k, k < 1 → parseFieldDescriptor (TX31 k).2.2.1 = some (tyX31 k) := by decide +kernel
abbrev cX31_of : ByteArray := prog_4_method_3_code
def yX31_of : MethodName := ⟨RX31, "of", "(Ljava/lang/Object;)I"⟩
def dkwX31_of_0 : List UInt8 := [42, 43, 192, 0, 14, 182, 0, 37, 172]
abbrev dktX31_of_0 : List UInt8 := dkwX31_of_0 ++ []
theorem dksX31_of_0 : cX31_of.data.toList.drop 0 = dktX31_of_0 := by decide +kernel
theorem dX31_of_0 : decode cX31_of 0 = .ok (.aload_n 0, 1) := dk_42 (dk_at dksX31_of_0 0 rfl rfl)
theorem dX31_of_1 : decode cX31_of 1 = .ok (.aload_n 1, 1) := dk_43 (dk_at dksX31_of_0 1 rfl rfl)
theorem dX31_of_2 : decode cX31_of 2 = .ok (.checkcast 14, 3) := dk_192 0 14 (dk_at dksX31_of_0 2 rfl rfl)
theorem dX31_of_5 : decode cX31_of 5 = .ok (.invokevirtual 37, 3) := dk_182 0 37 (dk_at dksX31_of_0 5 rfl rfl)
theorem dX31_of_8 : decode cX31_of 8 = .ok (.ireturn, 1) := dk_172 (dk_at dksX31_of_0 8 rfl rfl)
abbrev cX31_of_2 : ByteArray := prog_4_method_2_code
def yX31_of_2 : MethodName := ⟨RX31, "of", "(LHamletWells$Hamlet;)I"⟩
def dkwX31_of_2_0 : List UInt8 := [43, 180, 0, 13, 42, 180, 0, 1, 180, 0, 19, 43, 182, 0, 25, 43, 182, 0, 31, 104, 172]
abbrev dktX31_of_2_0 : List UInt8 := dkwX31_of_2_0 ++ []
theorem dksX31_of_2_0 : cX31_of_2.data.toList.drop 0 = dktX31_of_2_0 := by decide +kernel
theorem dX31_of_2_0 : decode cX31_of_2 0 = .ok (.aload_n 1, 1) := dk_43 (dk_at dksX31_of_2_0 0 rfl rfl)
theorem dX31_of_2_1 : decode cX31_of_2 1 = .ok (.getfield 13, 3) := dk_180 0 13 (dk_at dksX31_of_2_0 1 rfl rfl)
theorem dX31_of_2_4 : decode cX31_of_2 4 = .ok (.aload_n 0, 1) := dk_42 (dk_at dksX31_of_2_0 4 rfl rfl)
theorem dX31_of_2_5 : decode cX31_of_2 5 = .ok (.getfield 1, 3) := dk_180 0 1 (dk_at dksX31_of_2_0 5 rfl rfl)
theorem dX31_of_2_8 : decode cX31_of_2 8 = .ok (.getfield 19, 3) := dk_180 0 19 (dk_at dksX31_of_2_0 8 rfl rfl)
theorem dX31_of_2_11 : decode cX31_of_2 11 = .ok (.aload_n 1, 1) := dk_43 (dk_at dksX31_of_2_0 11 rfl rfl)
theorem dX31_of_2_12 : decode cX31_of_2 12 = .ok (.invokevirtual 25, 3) := dk_182 0 25 (dk_at dksX31_of_2_0 12 rfl rfl)
theorem dX31_of_2_15 : decode cX31_of_2 15 = .ok (.aload_n 1, 1) := dk_43 (dk_at dksX31_of_2_0 15 rfl rfl)
theorem dX31_of_2_16 : decode cX31_of_2 16 = .ok (.invokevirtual 31, 3) := dk_182 0 31 (dk_at dksX31_of_2_0 16 rfl rfl)
theorem dX31_of_2_19 : decode cX31_of_2 19 = .ok (.imul, 1) := dk_104 (dk_at dksX31_of_2_0 19 rfl rfl)
theorem dX31_of_2_20 : decode cX31_of_2 20 = .ok (.ireturn, 1) := dk_172 (dk_at dksX31_of_2_0 20 rfl rfl)
abbrev cX31_init : ByteArray := prog_4_method_1_code
def yX31_init : MethodName := ⟨RX31, "<init>", "(LHamletWells;)V"⟩
def dkwX31_init_0 : List UInt8 := [42, 43, 181, 0, 1, 42, 183, 0, 7, 177]
abbrev dktX31_init_0 : List UInt8 := dkwX31_init_0 ++ []
theorem dksX31_init_0 : cX31_init.data.toList.drop 0 = dktX31_init_0 := by decide +kernel
theorem dX31_init_0 : decode cX31_init 0 = .ok (.aload_n 0, 1) := dk_42 (dk_at dksX31_init_0 0 rfl rfl)
theorem dX31_init_1 : decode cX31_init 1 = .ok (.aload_n 1, 1) := dk_43 (dk_at dksX31_init_0 1 rfl rfl)
theorem dX31_init_2 : decode cX31_init 2 = .ok (.putfield 1, 3) := dk_181 0 1 (dk_at dksX31_init_0 2 rfl rfl)
theorem dX31_init_5 : decode cX31_init 5 = .ok (.aload_n 0, 1) := dk_42 (dk_at dksX31_init_0 5 rfl rfl)
theorem dX31_init_6 : decode cX31_init 6 = .ok (.invokespecial 7, 3) := dk_183 0 7 (dk_at dksX31_init_0 6 rfl rfl)
theorem dX31_init_9 : decode cX31_init 9 = .ok (.return_, 1) := dk_177 (dk_at dksX31_init_0 9 rfl rfl)
theorem q179 : (Jvm.Cond.initialized "HamletWells$11") ∈ lw_all := lw_g (lw_at lw_m1 70 rfl) rfl
theorem q318 : (Jvm.Cond.fieldLinkNest "HamletWells$11" (19 : Nat) "HamletWells" "now" "LHamletWells$Province;" "HamletWells") ∈ lw_tbl := lw_at lw_m1 209 rfl
theorem q607 : (Jvm.Cond.selects "HamletWells$11" ({ cls := "java/lang/Object", name := "getClass", desc := "()Ljava/lang/Class;" } : Jvm.MethodName) ({ cls := "java/lang/Object", name := "getClass", desc := "()Ljava/lang/Class;" } : Jvm.MethodName)) ∈ lw_all := lw_g (lw_at lw_m3 18 rfl) rfl
theorem q968 : (Jvm.Cond.fieldLinkNest "HamletWells$11" (13 : Nat) "HamletWells$Hamlet" "people" "I" "HamletWells") ∈ lw_tbl := lw_at lw_m4 139 rfl
theorem q1554 : (Jvm.Cond.castable "HamletWells$11" "HamletWells$Worth") ∈ lw_tbl := lw_at lw_m7 5 rfl
theorem q1555 : (Jvm.Cond.selects "HamletWells$11" ({ cls := "HamletWells$Worth", name := "of", desc := "(Ljava/lang/Object;)I" } : Jvm.MethodName) ({ cls := "HamletWells$11", name := "of", desc := "(Ljava/lang/Object;)I" } : Jvm.MethodName)) ∈ lw_all := lw_g (lw_at lw_m7 6 rfl) rfl
theorem q1556 : (Jvm.Cond.unhidden "HamletWells$11" "of" "(Ljava/lang/Object;)I") ∈ lw_tbl := lw_at lw_m7 7 rfl
theorem q1557 : (Jvm.Cond.instanceMethod ({ cls := "HamletWells$11", name := "of", desc := "(Ljava/lang/Object;)I" } : Jvm.MethodName)) ∈ lw_all := lw_g (lw_at lw_m7 8 rfl) rfl
theorem q1558 : (Jvm.Cond.publicMethod ({ cls := "HamletWells$11", name := "of", desc := "(Ljava/lang/Object;)I" } : Jvm.MethodName)) ∈ lw_tbl := lw_at lw_m7 9 rfl
theorem q1559 : (Jvm.Cond.code ({ cls := "HamletWells$11", name := "of", desc := "(Ljava/lang/Object;)I" } : Jvm.MethodName) prog_4_method_3_code (2 : Nat) (Option.some Jvm.ClassFile.FieldType.int)) ∈ lw_all := lw_g (lw_at lw_m7 10 rfl) rfl
theorem q1560 : (Jvm.Cond.classLink "HamletWells$11" (14 : Nat) "HamletWells$Hamlet") ∈ lw_all := lw_g (lw_at lw_m7 11 rfl) rfl
theorem q1561 : (Jvm.Cond.methodLink "HamletWells$11" (37 : Nat) ({ cls := "HamletWells$11", name := "of", desc := "(LHamletWells$Hamlet;)I" } : Jvm.MethodName)) ∈ lw_all := lw_g (lw_at lw_m7 12 rfl) rfl
theorem q1562 : (Jvm.Cond.instanceMethod ({ cls := "HamletWells$11", name := "of", desc := "(LHamletWells$Hamlet;)I" } : Jvm.MethodName)) ∈ lw_all := lw_g (lw_at lw_m7 13 rfl) rfl
theorem q1563 : (Jvm.Cond.selects "HamletWells$11" ({ cls := "HamletWells$11", name := "of", desc := "(LHamletWells$Hamlet;)I" } : Jvm.MethodName) ({ cls := "HamletWells$11", name := "of", desc := "(LHamletWells$Hamlet;)I" } : Jvm.MethodName)) ∈ lw_all := lw_g (lw_at lw_m7 14 rfl) rfl
theorem q1564 : (Jvm.Cond.code ({ cls := "HamletWells$11", name := "of", desc := "(LHamletWells$Hamlet;)I" } : Jvm.MethodName) prog_4_method_2_code (2 : Nat) (Option.some Jvm.ClassFile.FieldType.int)) ∈ lw_all := lw_g (lw_at lw_m7 15 rfl) rfl
theorem q1565 : (Jvm.Cond.methodLink "HamletWells$11" (25 : Nat) ({ cls := "HamletWells$Province", name := "well", desc := "(LHamletWells$Hamlet;)LHamletWells$Site;" } : Jvm.MethodName)) ∈ lw_all := lw_g (lw_at lw_m7 16 rfl) rfl
theorem q1566 : (Jvm.Cond.methodLink "HamletWells$11" (31 : Nat) ({ cls := "HamletWells$Site", name := "far", desc := "(LHamletWells$Standing;)I" } : Jvm.MethodName)) ∈ lw_all := lw_g (lw_at lw_m7 17 rfl) rfl
theorem q2601 : (Jvm.Cond.instantiable "HamletWells$11" (1 : Nat)) ∈ lw_all := lw_g (lw_at lw_m11 92 rfl) rfl
theorem q2603 : (Jvm.Cond.instanceMethod ({ cls := "HamletWells$11", name := "<init>", desc := "(LHamletWells;)V" } : Jvm.MethodName)) ∈ lw_all := lw_g (lw_at lw_m11 94 rfl) rfl
theorem q2604 : (Jvm.Cond.code ({ cls := "HamletWells$11", name := "<init>", desc := "(LHamletWells;)V" } : Jvm.MethodName) prog_4_method_1_code (2 : Nat) (Option.none : Option Jvm.ClassFile.FieldType)) ∈ lw_all := lw_g (lw_at lw_m11 95 rfl) rfl
theorem q2605 : (Jvm.Cond.methodLink "HamletWells$11" (7 : Nat) ({ cls := "java/lang/Object", name := "<init>", desc := "()V" } : Jvm.MethodName)) ∈ lw_all := lw_g (lw_at lw_m11 96 rfl) rfl
theorem q2606 : (Jvm.Cond.fieldLink "HamletWells$11" (1 : Nat) "HamletWells$11" "this$0" "LHamletWells;") ∈ lw_all := lw_g (lw_at lw_m11 97 rfl) rfl
theorem q2607 : (Jvm.Cond.laysFinal "HamletWells$11" "HamletWells$11" "this$0" "LHamletWells;") ∈ lw_all := lw_g (lw_at lw_m11 98 rfl) rfl
theorem q2608 : (Jvm.Cond.soleField "HamletWells$11" "this$0") ∈ lw_all := lw_g (lw_at lw_m11 99 rfl) rfl
theorem q2609 : (Jvm.Cond.superclass "HamletWells$11" "java/lang/Object") ∈ lw_all := lw_g (lw_at lw_m11 100 rfl) rfl
theorem q3543 : (Jvm.Cond.castable "HamletWells$11" "java/lang/Object") ∈ lw_tbl := lw_at lw_m15 74 rfl
theorem in_X31 : ∀ w ∈ wsX310, w ∈ lw_all := lw_in wsX310 [2607] (by decide +kernel) (by decide +kernel)
/-! HamletWells$Thirst -/
set_option maxRecDepth 100000
def RX32 : String := "HamletWells$Thirst"
abbrev cX32_of : ByteArray := prog_42_method_3_code
def yX32_of : MethodName := ⟨RX32, "of", "(Ljava/lang/Object;)I"⟩
def dkwX32_of_0 : List UInt8 := [42, 43, 192, 0, 8, 182, 0, 13, 172]
abbrev dktX32_of_0 : List UInt8 := dkwX32_of_0 ++ []
theorem dksX32_of_0 : cX32_of.data.toList.drop 0 = dktX32_of_0 := by decide +kernel
theorem dX32_of_0 : decode cX32_of 0 = .ok (.aload_n 0, 1) := dk_42 (dk_at dksX32_of_0 0 rfl rfl)
theorem dX32_of_1 : decode cX32_of 1 = .ok (.aload_n 1, 1) := dk_43 (dk_at dksX32_of_0 1 rfl rfl)
theorem dX32_of_2 : decode cX32_of 2 = .ok (.checkcast 8, 3) := dk_192 0 8 (dk_at dksX32_of_0 2 rfl rfl)
theorem dX32_of_5 : decode cX32_of 5 = .ok (.invokevirtual 13, 3) := dk_182 0 13 (dk_at dksX32_of_0 5 rfl rfl)
theorem dX32_of_8 : decode cX32_of 8 = .ok (.ireturn, 1) := dk_172 (dk_at dksX32_of_0 8 rfl rfl)
abbrev cX32_of_2 : ByteArray := prog_42_method_2_code
def yX32_of_2 : MethodName := ⟨RX32, "of", "(LHamletWells$Hamlet;)I"⟩
theorem dX32_of_2_0 : decode cX32_of_2 0 = .ok (.aload_n 1, 1) := by decide +kernel
theorem dX32_of_2_1 : decode cX32_of_2 1 = .ok (.getfield 7, 3) := by decide +kernel
theorem dX32_of_2_4 : decode cX32_of_2 4 = .ok (.ireturn, 1) := by decide +kernel
abbrev cX32_init : ByteArray := prog_42_method_1_code
def yX32_init : MethodName := ⟨RX32, "<init>", "()V"⟩
theorem dX32_init_0 : decode cX32_init 0 = .ok (.aload_n 0, 1) := by decide +kernel
theorem dX32_init_1 : decode cX32_init 1 = .ok (.invokespecial 1, 3) := by decide +kernel
theorem dX32_init_4 : decode cX32_init 4 = .ok (.return_, 1) := by decide +kernel
theorem q180 : (Jvm.Cond.initialized "HamletWells$Thirst") ∈ lw_all := lw_g (lw_at lw_m1 71 rfl) rfl
theorem q641 : (Jvm.Cond.selects "HamletWells$Thirst" ({ cls := "java/lang/Object", name := "getClass", desc := "()Ljava/lang/Class;" } : Jvm.MethodName) ({ cls := "java/lang/Object", name := "getClass", desc := "()Ljava/lang/Class;" } : Jvm.MethodName)) ∈ lw_all := lw_g (lw_at lw_m3 52 rfl) rfl
theorem q974 : (Jvm.Cond.fieldLinkNest "HamletWells$Thirst" (7 : Nat) "HamletWells$Hamlet" "thirst" "I" "HamletWells") ∈ lw_tbl := lw_at lw_m4 145 rfl
theorem q1637 : (Jvm.Cond.castable "HamletWells$Thirst" "HamletWells$Worth") ∈ lw_tbl := lw_at lw_m7 88 rfl
theorem q1638 : (Jvm.Cond.selects "HamletWells$Thirst" ({ cls := "HamletWells$Worth", name := "of", desc := "(Ljava/lang/Object;)I" } : Jvm.MethodName) ({ cls := "HamletWells$Thirst", name := "of", desc := "(Ljava/lang/Object;)I" } : Jvm.MethodName)) ∈ lw_all := lw_g (lw_at lw_m7 89 rfl) rfl
theorem q1639 : (Jvm.Cond.unhidden "HamletWells$Thirst" "of" "(Ljava/lang/Object;)I") ∈ lw_tbl := lw_at lw_m7 90 rfl
theorem q1640 : (Jvm.Cond.instanceMethod ({ cls := "HamletWells$Thirst", name := "of", desc := "(Ljava/lang/Object;)I" } : Jvm.MethodName)) ∈ lw_all := lw_g (lw_at lw_m7 91 rfl) rfl
theorem q1641 : (Jvm.Cond.publicMethod ({ cls := "HamletWells$Thirst", name := "of", desc := "(Ljava/lang/Object;)I" } : Jvm.MethodName)) ∈ lw_tbl := lw_at lw_m7 92 rfl
theorem q1642 : (Jvm.Cond.code ({ cls := "HamletWells$Thirst", name := "of", desc := "(Ljava/lang/Object;)I" } : Jvm.MethodName) prog_42_method_3_code (2 : Nat) (Option.some Jvm.ClassFile.FieldType.int)) ∈ lw_all := lw_g (lw_at lw_m7 93 rfl) rfl
theorem q1643 : (Jvm.Cond.classLink "HamletWells$Thirst" (8 : Nat) "HamletWells$Hamlet") ∈ lw_all := lw_g (lw_at lw_m7 94 rfl) rfl
theorem q1644 : (Jvm.Cond.methodLink "HamletWells$Thirst" (13 : Nat) ({ cls := "HamletWells$Thirst", name := "of", desc := "(LHamletWells$Hamlet;)I" } : Jvm.MethodName)) ∈ lw_all := lw_g (lw_at lw_m7 95 rfl) rfl
theorem q1645 : (Jvm.Cond.instanceMethod ({ cls := "HamletWells$Thirst", name := "of", desc := "(LHamletWells$Hamlet;)I" } : Jvm.MethodName)) ∈ lw_all := lw_g (lw_at lw_m7 96 rfl) rfl
theorem q1646 : (Jvm.Cond.selects "HamletWells$Thirst" ({ cls := "HamletWells$Thirst", name := "of", desc := "(LHamletWells$Hamlet;)I" } : Jvm.MethodName) ({ cls := "HamletWells$Thirst", name := "of", desc := "(LHamletWells$Hamlet;)I" } : Jvm.MethodName)) ∈ lw_all := lw_g (lw_at lw_m7 97 rfl) rfl
theorem q1647 : (Jvm.Cond.code ({ cls := "HamletWells$Thirst", name := "of", desc := "(LHamletWells$Hamlet;)I" } : Jvm.MethodName) prog_42_method_2_code (2 : Nat) (Option.some Jvm.ClassFile.FieldType.int)) ∈ lw_all := lw_g (lw_at lw_m7 98 rfl) rfl
theorem q2619 : (Jvm.Cond.instantiable "HamletWells$Thirst" (0 : Nat)) ∈ lw_all := lw_g (lw_at lw_m11 110 rfl) rfl
theorem q2621 : (Jvm.Cond.instanceMethod ({ cls := "HamletWells$Thirst", name := "<init>", desc := "()V" } : Jvm.MethodName)) ∈ lw_all := lw_g (lw_at lw_m11 112 rfl) rfl
theorem q2622 : (Jvm.Cond.code ({ cls := "HamletWells$Thirst", name := "<init>", desc := "()V" } : Jvm.MethodName) prog_42_method_1_code (1 : Nat) (Option.none : Option Jvm.ClassFile.FieldType)) ∈ lw_all := lw_g (lw_at lw_m11 113 rfl) rfl
theorem q2623 : (Jvm.Cond.methodLink "HamletWells$Thirst" (1 : Nat) ({ cls := "java/lang/Object", name := "<init>", desc := "()V" } : Jvm.MethodName)) ∈ lw_all := lw_g (lw_at lw_m11 114 rfl) rfl
theorem q2624 : (Jvm.Cond.superclass "HamletWells$Thirst" "java/lang/Object") ∈ lw_all := lw_g (lw_at lw_m11 115 rfl) rfl
theorem q3544 : (Jvm.Cond.castable "HamletWells$Thirst" "java/lang/Object") ∈ lw_tbl := lw_at lw_m15 75 rfl
/-! HamletWells$Parser -/
set_option maxRecDepth 100000
def RX33 : String := "HamletWells$Parser"
def TX33 : u_T := fun k => match k with
  | 0 => ("HamletWells$Parser", "words", "[Ljava/lang/String;", true)
  | 1 => ("HamletWells$Parser", "at", "I", false)
  | _ => ("HamletWells$Parser", "this$0", "LHamletWells;", true)
def tyX33 : Nat → FieldType := fun k => match k with
  | 0 => .array (.object "java/lang/String")
  | 1 => .int
  | _ => .object "HamletWells"
abbrev wsX330 : List Cond := u_ws RX33 TX33 3
theorem nmX33 : ∀ a, a < 3 → ∀ b, b < 3 → a ≠ b → (TX33 a).2.1 ≠ (TX33 b).2.1 := by decide +kernel
theorem tyX33_ok : ∀ k, k < 3 → parseFieldDescriptor (TX33 k).2.2.1 = some (tyX33 k) := by decide +kernel
abbrev cX33_init : ByteArray := prog_25_method_1_code
def yX33_init : MethodName := ⟨RX33, "<init>", "(LHamletWells;)V"⟩
def dkwX33_init_2 : List UInt8 := [18, 29, 83, 181, 0, 31, 177]
abbrev dktX33_init_2 : List UInt8 := dkwX33_init_2 ++ []
def dkwX33_init_1 : List UInt8 := [83, 89, 5, 18, 21, 83, 89, 6, 18, 23, 83, 89, 7, 18, 25, 83, 89, 8, 18, 27, 83, 89, 16, 6]
abbrev dktX33_init_1 : List UInt8 := dkwX33_init_1 ++ dktX33_init_2
def dkwX33_init_0 : List UInt8 := [42, 43, 181, 0, 3, 42, 183, 0, 9, 42, 16, 7, 189, 0, 15, 89, 3, 18, 17, 83, 89, 4, 18, 19]
abbrev dktX33_init_0 : List UInt8 := dkwX33_init_0 ++ dktX33_init_1
theorem dksX33_init_0 : cX33_init.data.toList.drop 0 = dktX33_init_0 := by decide +kernel
theorem dksX33_init_1 : cX33_init.data.toList.drop 24 = dktX33_init_1 := dk_seg dksX33_init_0 24 rfl rfl
theorem dksX33_init_2 : cX33_init.data.toList.drop 48 = dktX33_init_2 := dk_seg dksX33_init_1 24 rfl rfl
theorem dX33_init_0 : decode cX33_init 0 = .ok (.aload_n 0, 1) := dk_42 (dk_at dksX33_init_0 0 rfl rfl)
theorem dX33_init_1 : decode cX33_init 1 = .ok (.aload_n 1, 1) := dk_43 (dk_at dksX33_init_0 1 rfl rfl)
theorem dX33_init_2 : decode cX33_init 2 = .ok (.putfield 3, 3) := dk_181 0 3 (dk_at dksX33_init_0 2 rfl rfl)
theorem dX33_init_5 : decode cX33_init 5 = .ok (.aload_n 0, 1) := dk_42 (dk_at dksX33_init_0 5 rfl rfl)
theorem dX33_init_6 : decode cX33_init 6 = .ok (.invokespecial 9, 3) := dk_183 0 9 (dk_at dksX33_init_0 6 rfl rfl)
theorem dX33_init_9 : decode cX33_init 9 = .ok (.aload_n 0, 1) := dk_42 (dk_at dksX33_init_0 9 rfl rfl)
theorem dX33_init_10 : decode cX33_init 10 = .ok (.bipush 7, 2) := dk_16 7 (dk_at dksX33_init_0 10 rfl rfl)
theorem dX33_init_12 : decode cX33_init 12 = .ok (.anewarray 15, 3) := dk_189 0 15 (dk_at dksX33_init_0 12 rfl rfl)
theorem dX33_init_15 : decode cX33_init 15 = .ok (.dup, 1) := dk_89 (dk_at dksX33_init_0 15 rfl rfl)
theorem dX33_init_16 : decode cX33_init 16 = .ok (.iconst 0, 1) := dk_3 (dk_at dksX33_init_0 16 rfl rfl)
theorem dX33_init_17 : decode cX33_init 17 = .ok (.ldc 17, 2) := dk_18 17 (dk_at dksX33_init_0 17 rfl rfl)
theorem dX33_init_19 : decode cX33_init 19 = .ok (.aastore, 1) := dk_83 (dk_at dksX33_init_0 19 rfl rfl)
theorem dX33_init_20 : decode cX33_init 20 = .ok (.dup, 1) := dk_89 (dk_at dksX33_init_0 20 rfl rfl)
theorem dX33_init_21 : decode cX33_init 21 = .ok (.iconst 1, 1) := dk_4 (dk_at dksX33_init_0 21 rfl rfl)
theorem dX33_init_22 : decode cX33_init 22 = .ok (.ldc 19, 2) := dk_18 19 (dk_at dksX33_init_0 22 rfl rfl)
theorem dX33_init_24 : decode cX33_init 24 = .ok (.aastore, 1) := dk_83 (dk_at dksX33_init_1 0 rfl rfl)
theorem dX33_init_25 : decode cX33_init 25 = .ok (.dup, 1) := dk_89 (dk_at dksX33_init_1 1 rfl rfl)
theorem dX33_init_26 : decode cX33_init 26 = .ok (.iconst 2, 1) := dk_5 (dk_at dksX33_init_1 2 rfl rfl)
theorem dX33_init_27 : decode cX33_init 27 = .ok (.ldc 21, 2) := dk_18 21 (dk_at dksX33_init_1 3 rfl rfl)
theorem dX33_init_29 : decode cX33_init 29 = .ok (.aastore, 1) := dk_83 (dk_at dksX33_init_1 5 rfl rfl)
theorem dX33_init_30 : decode cX33_init 30 = .ok (.dup, 1) := dk_89 (dk_at dksX33_init_1 6 rfl rfl)
theorem dX33_init_31 : decode cX33_init 31 = .ok (.iconst 3, 1) := dk_6 (dk_at dksX33_init_1 7 rfl rfl)
theorem dX33_init_32 : decode cX33_init 32 = .ok (.ldc 23, 2) := dk_18 23 (dk_at dksX33_init_1 8 rfl rfl)
theorem dX33_init_34 : decode cX33_init 34 = .ok (.aastore, 1) := dk_83 (dk_at dksX33_init_1 10 rfl rfl)
theorem dX33_init_35 : decode cX33_init 35 = .ok (.dup, 1) := dk_89 (dk_at dksX33_init_1 11 rfl rfl)
theorem dX33_init_36 : decode cX33_init 36 = .ok (.iconst 4, 1) := dk_7 (dk_at dksX33_init_1 12 rfl rfl)
theorem dX33_init_37 : decode cX33_init 37 = .ok (.ldc 25, 2) := dk_18 25 (dk_at dksX33_init_1 13 rfl rfl)
theorem dX33_init_39 : decode cX33_init 39 = .ok (.aastore, 1) := dk_83 (dk_at dksX33_init_1 15 rfl rfl)
theorem dX33_init_40 : decode cX33_init 40 = .ok (.dup, 1) := dk_89 (dk_at dksX33_init_1 16 rfl rfl)
theorem dX33_init_41 : decode cX33_init 41 = .ok (.iconst 5, 1) := dk_8 (dk_at dksX33_init_1 17 rfl rfl)
theorem dX33_init_42 : decode cX33_init 42 = .ok (.ldc 27, 2) := dk_18 27 (dk_at dksX33_init_1 18 rfl rfl)
theorem dX33_init_44 : decode cX33_init 44 = .ok (.aastore, 1) := dk_83 (dk_at dksX33_init_1 20 rfl rfl)
theorem dX33_init_45 : decode cX33_init 45 = .ok (.dup, 1) := dk_89 (dk_at dksX33_init_1 21 rfl rfl)
theorem dX33_init_46 : decode cX33_init 46 = .ok (.bipush 6, 2) := dk_16 6 (dk_at dksX33_init_1 22 rfl rfl)
theorem dX33_init_48 : decode cX33_init 48 = .ok (.ldc 29, 2) := dk_18 29 (dk_at dksX33_init_2 0 rfl rfl)
theorem dX33_init_50 : decode cX33_init 50 = .ok (.aastore, 1) := dk_83 (dk_at dksX33_init_2 2 rfl rfl)
theorem dX33_init_51 : decode cX33_init 51 = .ok (.putfield 31, 3) := dk_181 0 31 (dk_at dksX33_init_2 3 rfl rfl)
theorem dX33_init_54 : decode cX33_init 54 = .ok (.return_, 1) := dk_177 (dk_at dksX33_init_2 6 rfl rfl)
abbrev cX33_whole : ByteArray := prog_25_method_14_code
def yX33_whole : MethodName := ⟨RX33, "whole", "()Ljava/util/ArrayList;"⟩
def dkwX33_whole_3 : List UInt8 := [180, 0, 35, 183, 0, 52, 191, 43, 176]
abbrev dktX33_whole_3 : List UInt8 := dkwX33_whole_3 ++ []
def dkwX33_whole_2 : List UInt8 := [167, 255, 228, 42, 180, 0, 35, 42, 180, 0, 3, 180, 0, 39, 162, 0, 15, 187, 0, 50, 89, 42]
abbrev dktX33_whole_2 : List UInt8 := dkwX33_whole_2 ++ dktX33_whole_3
def dkwX33_whole_1 : List UInt8 := [153, 0, 25, 42, 89, 180, 0, 35, 4, 96, 181, 0, 35, 43, 42, 182, 0, 145, 182, 0, 148, 87]
abbrev dktX33_whole_1 : List UInt8 := dkwX33_whole_1 ++ dktX33_whole_2
def dkwX33_whole_0 : List UInt8 := [187, 0, 142, 89, 183, 0, 144, 76, 43, 42, 182, 0, 145, 182, 0, 148, 87, 42, 16, 59, 182, 0, 46]
abbrev dktX33_whole_0 : List UInt8 := dkwX33_whole_0 ++ dktX33_whole_1
theorem dksX33_whole_0 : cX33_whole.data.toList.drop 0 = dktX33_whole_0 := by decide +kernel
theorem dksX33_whole_1 : cX33_whole.data.toList.drop 23 = dktX33_whole_1 := dk_seg dksX33_whole_0 23 rfl rfl
theorem dksX33_whole_2 : cX33_whole.data.toList.drop 45 = dktX33_whole_2 := dk_seg dksX33_whole_1 22 rfl rfl
theorem dksX33_whole_3 : cX33_whole.data.toList.drop 67 = dktX33_whole_3 := dk_seg dksX33_whole_2 22 rfl rfl
theorem dX33_whole_0 : decode cX33_whole 0 = .ok (.new 142, 3) := dk_187 0 142 (dk_at dksX33_whole_0 0 rfl rfl)
theorem dX33_whole_3 : decode cX33_whole 3 = .ok (.dup, 1) := dk_89 (dk_at dksX33_whole_0 3 rfl rfl)
theorem dX33_whole_4 : decode cX33_whole 4 = .ok (.invokespecial 144, 3) := dk_183 0 144 (dk_at dksX33_whole_0 4 rfl rfl)
theorem dX33_whole_7 : decode cX33_whole 7 = .ok (.astore_n 1, 1) := dk_76 (dk_at dksX33_whole_0 7 rfl rfl)
theorem dX33_whole_8 : decode cX33_whole 8 = .ok (.aload_n 1, 1) := dk_43 (dk_at dksX33_whole_0 8 rfl rfl)
theorem dX33_whole_9 : decode cX33_whole 9 = .ok (.aload_n 0, 1) := dk_42 (dk_at dksX33_whole_0 9 rfl rfl)
theorem dX33_whole_10 : decode cX33_whole 10 = .ok (.invokevirtual 145, 3) := dk_182 0 145 (dk_at dksX33_whole_0 10 rfl rfl)
theorem dX33_whole_13 : decode cX33_whole 13 = .ok (.invokevirtual 148, 3) := dk_182 0 148 (dk_at dksX33_whole_0 13 rfl rfl)
theorem dX33_whole_16 : decode cX33_whole 16 = .ok (.pop, 1) := dk_87 (dk_at dksX33_whole_0 16 rfl rfl)
theorem dX33_whole_17 : decode cX33_whole 17 = .ok (.aload_n 0, 1) := dk_42 (dk_at dksX33_whole_0 17 rfl rfl)
theorem dX33_whole_18 : decode cX33_whole 18 = .ok (.bipush 59, 2) := dk_16 59 (dk_at dksX33_whole_0 18 rfl rfl)
theorem dX33_whole_20 : decode cX33_whole 20 = .ok (.invokevirtual 46, 3) := dk_182 0 46 (dk_at dksX33_whole_0 20 rfl rfl)
theorem dX33_whole_23 : decode cX33_whole 23 = .ok (.ifCond .eq 25, 3) := dk_153 0 25 (dk_at dksX33_whole_1 0 rfl rfl)
theorem dX33_whole_26 : decode cX33_whole 26 = .ok (.aload_n 0, 1) := dk_42 (dk_at dksX33_whole_1 3 rfl rfl)
theorem dX33_whole_27 : decode cX33_whole 27 = .ok (.dup, 1) := dk_89 (dk_at dksX33_whole_1 4 rfl rfl)
theorem dX33_whole_28 : decode cX33_whole 28 = .ok (.getfield 35, 3) := dk_180 0 35 (dk_at dksX33_whole_1 5 rfl rfl)
theorem dX33_whole_31 : decode cX33_whole 31 = .ok (.iconst 1, 1) := dk_4 (dk_at dksX33_whole_1 8 rfl rfl)
theorem dX33_whole_32 : decode cX33_whole 32 = .ok (.iadd, 1) := dk_96 (dk_at dksX33_whole_1 9 rfl rfl)
theorem dX33_whole_33 : decode cX33_whole 33 = .ok (.putfield 35, 3) := dk_181 0 35 (dk_at dksX33_whole_1 10 rfl rfl)
theorem dX33_whole_36 : decode cX33_whole 36 = .ok (.aload_n 1, 1) := dk_43 (dk_at dksX33_whole_1 13 rfl rfl)
theorem dX33_whole_37 : decode cX33_whole 37 = .ok (.aload_n 0, 1) := dk_42 (dk_at dksX33_whole_1 14 rfl rfl)
theorem dX33_whole_38 : decode cX33_whole 38 = .ok (.invokevirtual 145, 3) := dk_182 0 145 (dk_at dksX33_whole_1 15 rfl rfl)
theorem dX33_whole_41 : decode cX33_whole 41 = .ok (.invokevirtual 148, 3) := dk_182 0 148 (dk_at dksX33_whole_1 18 rfl rfl)
theorem dX33_whole_44 : decode cX33_whole 44 = .ok (.pop, 1) := dk_87 (dk_at dksX33_whole_1 21 rfl rfl)
theorem dX33_whole_45 : decode cX33_whole 45 = .ok (.goto (-28), 3) := dk_167 255 228 (dk_at dksX33_whole_2 0 rfl rfl)
theorem dX33_whole_48 : decode cX33_whole 48 = .ok (.aload_n 0, 1) := dk_42 (dk_at dksX33_whole_2 3 rfl rfl)
theorem dX33_whole_49 : decode cX33_whole 49 = .ok (.getfield 35, 3) := dk_180 0 35 (dk_at dksX33_whole_2 4 rfl rfl)
theorem dX33_whole_52 : decode cX33_whole 52 = .ok (.aload_n 0, 1) := dk_42 (dk_at dksX33_whole_2 7 rfl rfl)
theorem dX33_whole_53 : decode cX33_whole 53 = .ok (.getfield 3, 3) := dk_180 0 3 (dk_at dksX33_whole_2 8 rfl rfl)
theorem dX33_whole_56 : decode cX33_whole 56 = .ok (.getfield 39, 3) := dk_180 0 39 (dk_at dksX33_whole_2 11 rfl rfl)
theorem dX33_whole_59 : decode cX33_whole 59 = .ok (.if_icmp .ge 15, 3) := dk_162 0 15 (dk_at dksX33_whole_2 14 rfl rfl)
theorem dX33_whole_62 : decode cX33_whole 62 = .ok (.new 50, 3) := dk_187 0 50 (dk_at dksX33_whole_2 17 rfl rfl)
theorem dX33_whole_65 : decode cX33_whole 65 = .ok (.dup, 1) := dk_89 (dk_at dksX33_whole_2 20 rfl rfl)
theorem dX33_whole_66 : decode cX33_whole 66 = .ok (.aload_n 0, 1) := dk_42 (dk_at dksX33_whole_2 21 rfl rfl)
theorem dX33_whole_67 : decode cX33_whole 67 = .ok (.getfield 35, 3) := dk_180 0 35 (dk_at dksX33_whole_3 0 rfl rfl)
theorem dX33_whole_70 : decode cX33_whole 70 = .ok (.invokespecial 52, 3) := dk_183 0 52 (dk_at dksX33_whole_3 3 rfl rfl)
theorem dX33_whole_73 : decode cX33_whole 73 = .ok (.athrow, 1) := dk_191 (dk_at dksX33_whole_3 6 rfl rfl)
theorem dX33_whole_74 : decode cX33_whole 74 = .ok (.aload_n 1, 1) := dk_43 (dk_at dksX33_whole_3 7 rfl rfl)
theorem dX33_whole_75 : decode cX33_whole 75 = .ok (.areturn, 1) := dk_176 (dk_at dksX33_whole_3 8 rfl rfl)
abbrev cX33_command : ByteArray := prog_25_method_13_code
def yX33_command : MethodName := ⟨RX33, "command", "()LHamletWells$Command;"⟩
def dkwX33_command_7 : List UInt8 := [182, 0, 138, 176]
abbrev dktX33_command_7 : List UInt8 := dkwX33_command_7 ++ []
def dkwX33_command_6 : List UInt8 := [42, 182, 0, 125, 176, 42, 182, 0, 129, 176, 42, 182, 0, 132, 176, 42, 182, 0, 135, 176, 42, 43]
abbrev dktX33_command_6 : List UInt8 := dkwX33_command_6 ++ dktX33_command_7
def dkwX33_command_5 : List UInt8 := [170, 0, 0, 0, 0, 50, 0, 0, 0, 0, 0, 0, 0, 3, 0, 0, 0, 30, 0, 0, 0, 35, 0, 0, 0, 40, 0, 0, 0, 45]
abbrev dktX33_command_5 : List UInt8 := dkwX33_command_5 ++ dktX33_command_6
def dkwX33_command_4 : List UInt8 := [153, 0, 5, 6, 62, 29]
abbrev dktX33_command_4 : List UInt8 := dkwX33_command_4 ++ dktX33_command_5
def dkwX33_command_3 : List UInt8 := [62, 167, 0, 28, 44, 18, 27, 182, 0, 121, 153, 0, 19, 5, 62, 167, 0, 14, 44, 18, 29, 182, 0, 121]
abbrev dktX33_command_3 : List UInt8 := dkwX33_command_3 ++ dktX33_command_4
def dkwX33_command_2 : List UInt8 := [44, 18, 17, 182, 0, 121, 153, 0, 47, 3, 62, 167, 0, 42, 44, 18, 19, 182, 0, 121, 153, 0, 33, 4]
abbrev dktX33_command_2 : List UInt8 := dkwX33_command_2 ++ dktX33_command_3
def dkwX33_command_1 : List UInt8 := [171, 0, 0, 0, 0, 0, 96, 0, 0, 0, 4, 183, 2, 23, 7, 0, 0, 0, 43, 0, 51, 59, 209, 0, 0, 0, 71, 0, 52, 100, 17, 0, 0, 0, 85, 0, 53, 223, 71, 0, 0, 0, 57]
abbrev dktX33_command_1 : List UInt8 := dkwX33_command_1 ++ dktX33_command_2
def dkwX33_command_0 : List UInt8 := [42, 182, 0, 114, 76, 43, 77, 2, 62, 44, 182, 0, 118]
abbrev dktX33_command_0 : List UInt8 := dkwX33_command_0 ++ dktX33_command_1
theorem dksX33_command_0 : cX33_command.data.toList.drop 0 = dktX33_command_0 := by decide +kernel
theorem dksX33_command_1 : cX33_command.data.toList.drop 13 = dktX33_command_1 := dk_seg dksX33_command_0 13 rfl rfl
theorem dksX33_command_2 : cX33_command.data.toList.drop 56 = dktX33_command_2 := dk_seg dksX33_command_1 43 rfl rfl
theorem dksX33_command_3 : cX33_command.data.toList.drop 80 = dktX33_command_3 := dk_seg dksX33_command_2 24 rfl rfl
theorem dksX33_command_4 : cX33_command.data.toList.drop 104 = dktX33_command_4 := dk_seg dksX33_command_3 24 rfl rfl
theorem dksX33_command_5 : cX33_command.data.toList.drop 110 = dktX33_command_5 := dk_seg dksX33_command_4 6 rfl rfl
theorem dksX33_command_6 : cX33_command.data.toList.drop 140 = dktX33_command_6 := dk_seg dksX33_command_5 30 rfl rfl
theorem dksX33_command_7 : cX33_command.data.toList.drop 162 = dktX33_command_7 := dk_seg dksX33_command_6 22 rfl rfl
theorem dX33_command_0 : decode cX33_command 0 = .ok (.aload_n 0, 1) := dk_42 (dk_at dksX33_command_0 0 rfl rfl)
theorem dX33_command_1 : decode cX33_command 1 = .ok (.invokevirtual 114, 3) := dk_182 0 114 (dk_at dksX33_command_0 1 rfl rfl)
theorem dX33_command_4 : decode cX33_command 4 = .ok (.astore_n 1, 1) := dk_76 (dk_at dksX33_command_0 4 rfl rfl)
theorem dX33_command_5 : decode cX33_command 5 = .ok (.aload_n 1, 1) := dk_43 (dk_at dksX33_command_0 5 rfl rfl)
theorem dX33_command_6 : decode cX33_command 6 = .ok (.astore_n 2, 1) := dk_77 (dk_at dksX33_command_0 6 rfl rfl)
theorem dX33_command_7 : decode cX33_command 7 = .ok (.iconst (-1), 1) := dk_2 (dk_at dksX33_command_0 7 rfl rfl)
theorem dX33_command_8 : decode cX33_command 8 = .ok (.istore_n 3, 1) := dk_62 (dk_at dksX33_command_0 8 rfl rfl)
theorem dX33_command_9 : decode cX33_command 9 = .ok (.aload_n 2, 1) := dk_44 (dk_at dksX33_command_0 9 rfl rfl)
theorem dX33_command_10 : decode cX33_command 10 = .ok (.invokevirtual 118, 3) := dk_182 0 118 (dk_at dksX33_command_0 10 rfl rfl)
theorem dX33_command_13 : decode cX33_command 13 = .ok (.lookupswitch 96 #[(-1224599801, 43), (3357649, 71), (3433489, 85), (3530567, 57)], 43) := by decide +kernel
theorem dX33_command_56 : decode cX33_command 56 = .ok (.aload_n 2, 1) := dk_44 (dk_at dksX33_command_2 0 rfl rfl)
theorem dX33_command_57 : decode cX33_command 57 = .ok (.ldc 17, 2) := dk_18 17 (dk_at dksX33_command_2 1 rfl rfl)
theorem dX33_command_59 : decode cX33_command 59 = .ok (.invokevirtual 121, 3) := dk_182 0 121 (dk_at dksX33_command_2 3 rfl rfl)
theorem dX33_command_62 : decode cX33_command 62 = .ok (.ifCond .eq 47, 3) := dk_153 0 47 (dk_at dksX33_command_2 6 rfl rfl)
theorem dX33_command_65 : decode cX33_command 65 = .ok (.iconst 0, 1) := dk_3 (dk_at dksX33_command_2 9 rfl rfl)
theorem dX33_command_66 : decode cX33_command 66 = .ok (.istore_n 3, 1) := dk_62 (dk_at dksX33_command_2 10 rfl rfl)
theorem dX33_command_67 : decode cX33_command 67 = .ok (.goto 42, 3) := dk_167 0 42 (dk_at dksX33_command_2 11 rfl rfl)
theorem dX33_command_70 : decode cX33_command 70 = .ok (.aload_n 2, 1) := dk_44 (dk_at dksX33_command_2 14 rfl rfl)
theorem dX33_command_71 : decode cX33_command 71 = .ok (.ldc 19, 2) := dk_18 19 (dk_at dksX33_command_2 15 rfl rfl)
theorem dX33_command_73 : decode cX33_command 73 = .ok (.invokevirtual 121, 3) := dk_182 0 121 (dk_at dksX33_command_2 17 rfl rfl)
theorem dX33_command_76 : decode cX33_command 76 = .ok (.ifCond .eq 33, 3) := dk_153 0 33 (dk_at dksX33_command_2 20 rfl rfl)
theorem dX33_command_79 : decode cX33_command 79 = .ok (.iconst 1, 1) := dk_4 (dk_at dksX33_command_2 23 rfl rfl)
theorem dX33_command_80 : decode cX33_command 80 = .ok (.istore_n 3, 1) := dk_62 (dk_at dksX33_command_3 0 rfl rfl)
theorem dX33_command_81 : decode cX33_command 81 = .ok (.goto 28, 3) := dk_167 0 28 (dk_at dksX33_command_3 1 rfl rfl)
theorem dX33_command_84 : decode cX33_command 84 = .ok (.aload_n 2, 1) := dk_44 (dk_at dksX33_command_3 4 rfl rfl)
theorem dX33_command_85 : decode cX33_command 85 = .ok (.ldc 27, 2) := dk_18 27 (dk_at dksX33_command_3 5 rfl rfl)
theorem dX33_command_87 : decode cX33_command 87 = .ok (.invokevirtual 121, 3) := dk_182 0 121 (dk_at dksX33_command_3 7 rfl rfl)
theorem dX33_command_90 : decode cX33_command 90 = .ok (.ifCond .eq 19, 3) := dk_153 0 19 (dk_at dksX33_command_3 10 rfl rfl)
theorem dX33_command_93 : decode cX33_command 93 = .ok (.iconst 2, 1) := dk_5 (dk_at dksX33_command_3 13 rfl rfl)
theorem dX33_command_94 : decode cX33_command 94 = .ok (.istore_n 3, 1) := dk_62 (dk_at dksX33_command_3 14 rfl rfl)
theorem dX33_command_95 : decode cX33_command 95 = .ok (.goto 14, 3) := dk_167 0 14 (dk_at dksX33_command_3 15 rfl rfl)
theorem dX33_command_98 : decode cX33_command 98 = .ok (.aload_n 2, 1) := dk_44 (dk_at dksX33_command_3 18 rfl rfl)
theorem dX33_command_99 : decode cX33_command 99 = .ok (.ldc 29, 2) := dk_18 29 (dk_at dksX33_command_3 19 rfl rfl)
theorem dX33_command_101 : decode cX33_command 101 = .ok (.invokevirtual 121, 3) := dk_182 0 121 (dk_at dksX33_command_3 21 rfl rfl)
theorem dX33_command_104 : decode cX33_command 104 = .ok (.ifCond .eq 5, 3) := dk_153 0 5 (dk_at dksX33_command_4 0 rfl rfl)
theorem dX33_command_107 : decode cX33_command 107 = .ok (.iconst 3, 1) := dk_6 (dk_at dksX33_command_4 3 rfl rfl)
theorem dX33_command_108 : decode cX33_command 108 = .ok (.istore_n 3, 1) := dk_62 (dk_at dksX33_command_4 4 rfl rfl)
theorem dX33_command_109 : decode cX33_command 109 = .ok (.iload_n 3, 1) := dk_29 (dk_at dksX33_command_4 5 rfl rfl)
theorem dX33_command_110 : decode cX33_command 110 = .ok (.tableswitch 50 0 3 #[30, 35, 40, 45], 30) := by decide +kernel
theorem dX33_command_140 : decode cX33_command 140 = .ok (.aload_n 0, 1) := dk_42 (dk_at dksX33_command_6 0 rfl rfl)
theorem dX33_command_141 : decode cX33_command 141 = .ok (.invokevirtual 125, 3) := dk_182 0 125 (dk_at dksX33_command_6 1 rfl rfl)
theorem dX33_command_144 : decode cX33_command 144 = .ok (.areturn, 1) := dk_176 (dk_at dksX33_command_6 4 rfl rfl)
theorem dX33_command_145 : decode cX33_command 145 = .ok (.aload_n 0, 1) := dk_42 (dk_at dksX33_command_6 5 rfl rfl)
theorem dX33_command_146 : decode cX33_command 146 = .ok (.invokevirtual 129, 3) := dk_182 0 129 (dk_at dksX33_command_6 6 rfl rfl)
theorem dX33_command_149 : decode cX33_command 149 = .ok (.areturn, 1) := dk_176 (dk_at dksX33_command_6 9 rfl rfl)
theorem dX33_command_150 : decode cX33_command 150 = .ok (.aload_n 0, 1) := dk_42 (dk_at dksX33_command_6 10 rfl rfl)
theorem dX33_command_151 : decode cX33_command 151 = .ok (.invokevirtual 132, 3) := dk_182 0 132 (dk_at dksX33_command_6 11 rfl rfl)
theorem dX33_command_154 : decode cX33_command 154 = .ok (.areturn, 1) := dk_176 (dk_at dksX33_command_6 14 rfl rfl)
theorem dX33_command_155 : decode cX33_command 155 = .ok (.aload_n 0, 1) := dk_42 (dk_at dksX33_command_6 15 rfl rfl)
theorem dX33_command_156 : decode cX33_command 156 = .ok (.invokevirtual 135, 3) := dk_182 0 135 (dk_at dksX33_command_6 16 rfl rfl)
theorem dX33_command_159 : decode cX33_command 159 = .ok (.areturn, 1) := dk_176 (dk_at dksX33_command_6 19 rfl rfl)
theorem dX33_command_160 : decode cX33_command 160 = .ok (.aload_n 0, 1) := dk_42 (dk_at dksX33_command_6 20 rfl rfl)
theorem dX33_command_161 : decode cX33_command 161 = .ok (.aload_n 1, 1) := dk_43 (dk_at dksX33_command_6 21 rfl rfl)
theorem dX33_command_162 : decode cX33_command 162 = .ok (.invokevirtual 138, 3) := dk_182 0 138 (dk_at dksX33_command_7 0 rfl rfl)
theorem dX33_command_165 : decode cX33_command 165 = .ok (.areturn, 1) := dk_176 (dk_at dksX33_command_7 3 rfl rfl)
abbrev cX33_word : ByteArray := prog_25_method_5_code
def yX33_word : MethodName := ⟨RX33, "word", "()Ljava/lang/String;"⟩
def dkwX33_word_3 : List UInt8 := [167, 255, 202, 187, 0, 50, 89, 42, 180, 0, 35, 27, 96, 183, 0, 52, 191]
abbrev dktX33_word_3 : List UInt8 := dkwX33_word_3 ++ []
def dkwX33_word_2 : List UInt8 := [180, 0, 35, 21, 6, 96, 181, 0, 35, 25, 5, 176, 27, 21, 6, 184, 0, 67, 60, 132, 4, 1]
abbrev dktX33_word_2 : List UInt8 := dkwX33_word_2 ++ dktX33_word_3
def dkwX33_word_1 : List UInt8 := [58, 5, 42, 25, 5, 182, 0, 63, 54, 6, 21, 6, 25, 5, 182, 0, 55, 160, 0, 17, 42, 89]
abbrev dktX33_word_1 : List UInt8 := dkwX33_word_1 ++ dktX33_word_2
def dkwX33_word_0 : List UInt8 := [3, 60, 42, 180, 0, 31, 77, 44, 190, 62, 3, 54, 4, 21, 4, 29, 162, 0, 54, 44, 21, 4, 50]
abbrev dktX33_word_0 : List UInt8 := dkwX33_word_0 ++ dktX33_word_1
theorem dksX33_word_0 : cX33_word.data.toList.drop 0 = dktX33_word_0 := by decide +kernel
theorem dksX33_word_1 : cX33_word.data.toList.drop 23 = dktX33_word_1 := dk_seg dksX33_word_0 23 rfl rfl
theorem dksX33_word_2 : cX33_word.data.toList.drop 45 = dktX33_word_2 := dk_seg dksX33_word_1 22 rfl rfl
theorem dksX33_word_3 : cX33_word.data.toList.drop 67 = dktX33_word_3 := dk_seg dksX33_word_2 22 rfl rfl
theorem dX33_word_0 : decode cX33_word 0 = .ok (.iconst 0, 1) := dk_3 (dk_at dksX33_word_0 0 rfl rfl)
theorem dX33_word_1 : decode cX33_word 1 = .ok (.istore_n 1, 1) := dk_60 (dk_at dksX33_word_0 1 rfl rfl)
theorem dX33_word_2 : decode cX33_word 2 = .ok (.aload_n 0, 1) := dk_42 (dk_at dksX33_word_0 2 rfl rfl)
theorem dX33_word_3 : decode cX33_word 3 = .ok (.getfield 31, 3) := dk_180 0 31 (dk_at dksX33_word_0 3 rfl rfl)
theorem dX33_word_6 : decode cX33_word 6 = .ok (.astore_n 2, 1) := dk_77 (dk_at dksX33_word_0 6 rfl rfl)
theorem dX33_word_7 : decode cX33_word 7 = .ok (.aload_n 2, 1) := dk_44 (dk_at dksX33_word_0 7 rfl rfl)
theorem dX33_word_8 : decode cX33_word 8 = .ok (.arraylength, 1) := dk_190 (dk_at dksX33_word_0 8 rfl rfl)
theorem dX33_word_9 : decode cX33_word 9 = .ok (.istore_n 3, 1) := dk_62 (dk_at dksX33_word_0 9 rfl rfl)
theorem dX33_word_10 : decode cX33_word 10 = .ok (.iconst 0, 1) := dk_3 (dk_at dksX33_word_0 10 rfl rfl)
theorem dX33_word_11 : decode cX33_word 11 = .ok (.istore 4, 2) := dk_54 4 (dk_at dksX33_word_0 11 rfl rfl)
theorem dX33_word_13 : decode cX33_word 13 = .ok (.iload 4, 2) := dk_21 4 (dk_at dksX33_word_0 13 rfl rfl)
theorem dX33_word_15 : decode cX33_word 15 = .ok (.iload_n 3, 1) := dk_29 (dk_at dksX33_word_0 15 rfl rfl)
theorem dX33_word_16 : decode cX33_word 16 = .ok (.if_icmp .ge 54, 3) := dk_162 0 54 (dk_at dksX33_word_0 16 rfl rfl)
theorem dX33_word_19 : decode cX33_word 19 = .ok (.aload_n 2, 1) := dk_44 (dk_at dksX33_word_0 19 rfl rfl)
theorem dX33_word_20 : decode cX33_word 20 = .ok (.iload 4, 2) := dk_21 4 (dk_at dksX33_word_0 20 rfl rfl)
theorem dX33_word_22 : decode cX33_word 22 = .ok (.aaload, 1) := dk_50 (dk_at dksX33_word_0 22 rfl rfl)
theorem dX33_word_23 : decode cX33_word 23 = .ok (.astore 5, 2) := dk_58 5 (dk_at dksX33_word_1 0 rfl rfl)
theorem dX33_word_25 : decode cX33_word 25 = .ok (.aload_n 0, 1) := dk_42 (dk_at dksX33_word_1 2 rfl rfl)
theorem dX33_word_26 : decode cX33_word 26 = .ok (.aload 5, 2) := dk_25 5 (dk_at dksX33_word_1 3 rfl rfl)
theorem dX33_word_28 : decode cX33_word 28 = .ok (.invokevirtual 63, 3) := dk_182 0 63 (dk_at dksX33_word_1 5 rfl rfl)
theorem dX33_word_31 : decode cX33_word 31 = .ok (.istore 6, 2) := dk_54 6 (dk_at dksX33_word_1 8 rfl rfl)
theorem dX33_word_33 : decode cX33_word 33 = .ok (.iload 6, 2) := dk_21 6 (dk_at dksX33_word_1 10 rfl rfl)
theorem dX33_word_35 : decode cX33_word 35 = .ok (.aload 5, 2) := dk_25 5 (dk_at dksX33_word_1 12 rfl rfl)
theorem dX33_word_37 : decode cX33_word 37 = .ok (.invokevirtual 55, 3) := dk_182 0 55 (dk_at dksX33_word_1 14 rfl rfl)
theorem dX33_word_40 : decode cX33_word 40 = .ok (.if_icmp .ne 17, 3) := dk_160 0 17 (dk_at dksX33_word_1 17 rfl rfl)
theorem dX33_word_43 : decode cX33_word 43 = .ok (.aload_n 0, 1) := dk_42 (dk_at dksX33_word_1 20 rfl rfl)
theorem dX33_word_44 : decode cX33_word 44 = .ok (.dup, 1) := dk_89 (dk_at dksX33_word_1 21 rfl rfl)
theorem dX33_word_45 : decode cX33_word 45 = .ok (.getfield 35, 3) := dk_180 0 35 (dk_at dksX33_word_2 0 rfl rfl)
theorem dX33_word_48 : decode cX33_word 48 = .ok (.iload 6, 2) := dk_21 6 (dk_at dksX33_word_2 3 rfl rfl)
theorem dX33_word_50 : decode cX33_word 50 = .ok (.iadd, 1) := dk_96 (dk_at dksX33_word_2 5 rfl rfl)
theorem dX33_word_51 : decode cX33_word 51 = .ok (.putfield 35, 3) := dk_181 0 35 (dk_at dksX33_word_2 6 rfl rfl)
theorem dX33_word_54 : decode cX33_word 54 = .ok (.aload 5, 2) := dk_25 5 (dk_at dksX33_word_2 9 rfl rfl)
theorem dX33_word_56 : decode cX33_word 56 = .ok (.areturn, 1) := dk_176 (dk_at dksX33_word_2 11 rfl rfl)
theorem dX33_word_57 : decode cX33_word 57 = .ok (.iload_n 1, 1) := dk_27 (dk_at dksX33_word_2 12 rfl rfl)
theorem dX33_word_58 : decode cX33_word 58 = .ok (.iload 6, 2) := dk_21 6 (dk_at dksX33_word_2 13 rfl rfl)
theorem dX33_word_60 : decode cX33_word 60 = .ok (.invokestatic 67, 3) := dk_184 0 67 (dk_at dksX33_word_2 15 rfl rfl)
theorem dX33_word_63 : decode cX33_word 63 = .ok (.istore_n 1, 1) := dk_60 (dk_at dksX33_word_2 18 rfl rfl)
theorem dX33_word_64 : decode cX33_word 64 = .ok (.iinc 4 1, 3) := dk_132 4 1 (dk_at dksX33_word_2 19 rfl rfl)
theorem dX33_word_67 : decode cX33_word 67 = .ok (.goto (-54), 3) := dk_167 255 202 (dk_at dksX33_word_3 0 rfl rfl)
theorem dX33_word_70 : decode cX33_word 70 = .ok (.new 50, 3) := dk_187 0 50 (dk_at dksX33_word_3 3 rfl rfl)
theorem dX33_word_73 : decode cX33_word 73 = .ok (.dup, 1) := dk_89 (dk_at dksX33_word_3 6 rfl rfl)
theorem dX33_word_74 : decode cX33_word 74 = .ok (.aload_n 0, 1) := dk_42 (dk_at dksX33_word_3 7 rfl rfl)
theorem dX33_word_75 : decode cX33_word 75 = .ok (.getfield 35, 3) := dk_180 0 35 (dk_at dksX33_word_3 8 rfl rfl)
theorem dX33_word_78 : decode cX33_word 78 = .ok (.iload_n 1, 1) := dk_27 (dk_at dksX33_word_3 11 rfl rfl)
theorem dX33_word_79 : decode cX33_word 79 = .ok (.iadd, 1) := dk_96 (dk_at dksX33_word_3 12 rfl rfl)
theorem dX33_word_80 : decode cX33_word 80 = .ok (.invokespecial 52, 3) := dk_183 0 52 (dk_at dksX33_word_3 13 rfl rfl)
theorem dX33_word_83 : decode cX33_word 83 = .ok (.athrow, 1) := dk_191 (dk_at dksX33_word_3 16 rfl rfl)
abbrev cX33_letters : ByteArray := prog_25_method_4_code
def yX33_letters : MethodName := ⟨RX33, "letters", "(Ljava/lang/String;)I"⟩
def dkwX33_letters_2 : List UInt8 := [160, 0, 9, 132, 2, 1, 167, 255, 207, 28, 172]
abbrev dktX33_letters_2 : List UInt8 := dkwX33_letters_2 ++ []
def dkwX33_letters_1 : List UInt8 := [162, 0, 31, 42, 180, 0, 3, 180, 0, 42, 42, 180, 0, 35, 28, 96, 52, 43, 28, 182, 0, 59]
abbrev dktX33_letters_1 : List UInt8 := dkwX33_letters_1 ++ dktX33_letters_2
def dkwX33_letters_0 : List UInt8 := [3, 61, 28, 43, 182, 0, 55, 162, 0, 47, 42, 180, 0, 35, 28, 96, 42, 180, 0, 3, 180, 0, 39]
abbrev dktX33_letters_0 : List UInt8 := dkwX33_letters_0 ++ dktX33_letters_1
theorem dksX33_letters_0 : cX33_letters.data.toList.drop 0 = dktX33_letters_0 := by decide +kernel
theorem dksX33_letters_1 : cX33_letters.data.toList.drop 23 = dktX33_letters_1 := dk_seg dksX33_letters_0 23 rfl rfl
theorem dksX33_letters_2 : cX33_letters.data.toList.drop 45 = dktX33_letters_2 := dk_seg dksX33_letters_1 22 rfl rfl
theorem dX33_letters_0 : decode cX33_letters 0 = .ok (.iconst 0, 1) := dk_3 (dk_at dksX33_letters_0 0 rfl rfl)
theorem dX33_letters_1 : decode cX33_letters 1 = .ok (.istore_n 2, 1) := dk_61 (dk_at dksX33_letters_0 1 rfl rfl)
theorem dX33_letters_2 : decode cX33_letters 2 = .ok (.iload_n 2, 1) := dk_28 (dk_at dksX33_letters_0 2 rfl rfl)
theorem dX33_letters_3 : decode cX33_letters 3 = .ok (.aload_n 1, 1) := dk_43 (dk_at dksX33_letters_0 3 rfl rfl)
theorem dX33_letters_4 : decode cX33_letters 4 = .ok (.invokevirtual 55, 3) := dk_182 0 55 (dk_at dksX33_letters_0 4 rfl rfl)
theorem dX33_letters_7 : decode cX33_letters 7 = .ok (.if_icmp .ge 47, 3) := dk_162 0 47 (dk_at dksX33_letters_0 7 rfl rfl)
theorem dX33_letters_10 : decode cX33_letters 10 = .ok (.aload_n 0, 1) := dk_42 (dk_at dksX33_letters_0 10 rfl rfl)
theorem dX33_letters_11 : decode cX33_letters 11 = .ok (.getfield 35, 3) := dk_180 0 35 (dk_at dksX33_letters_0 11 rfl rfl)
theorem dX33_letters_14 : decode cX33_letters 14 = .ok (.iload_n 2, 1) := dk_28 (dk_at dksX33_letters_0 14 rfl rfl)
theorem dX33_letters_15 : decode cX33_letters 15 = .ok (.iadd, 1) := dk_96 (dk_at dksX33_letters_0 15 rfl rfl)
theorem dX33_letters_16 : decode cX33_letters 16 = .ok (.aload_n 0, 1) := dk_42 (dk_at dksX33_letters_0 16 rfl rfl)
theorem dX33_letters_17 : decode cX33_letters 17 = .ok (.getfield 3, 3) := dk_180 0 3 (dk_at dksX33_letters_0 17 rfl rfl)
theorem dX33_letters_20 : decode cX33_letters 20 = .ok (.getfield 39, 3) := dk_180 0 39 (dk_at dksX33_letters_0 20 rfl rfl)
theorem dX33_letters_23 : decode cX33_letters 23 = .ok (.if_icmp .ge 31, 3) := dk_162 0 31 (dk_at dksX33_letters_1 0 rfl rfl)
theorem dX33_letters_26 : decode cX33_letters 26 = .ok (.aload_n 0, 1) := dk_42 (dk_at dksX33_letters_1 3 rfl rfl)
theorem dX33_letters_27 : decode cX33_letters 27 = .ok (.getfield 3, 3) := dk_180 0 3 (dk_at dksX33_letters_1 4 rfl rfl)
theorem dX33_letters_30 : decode cX33_letters 30 = .ok (.getfield 42, 3) := dk_180 0 42 (dk_at dksX33_letters_1 7 rfl rfl)
theorem dX33_letters_33 : decode cX33_letters 33 = .ok (.aload_n 0, 1) := dk_42 (dk_at dksX33_letters_1 10 rfl rfl)
theorem dX33_letters_34 : decode cX33_letters 34 = .ok (.getfield 35, 3) := dk_180 0 35 (dk_at dksX33_letters_1 11 rfl rfl)
theorem dX33_letters_37 : decode cX33_letters 37 = .ok (.iload_n 2, 1) := dk_28 (dk_at dksX33_letters_1 14 rfl rfl)
theorem dX33_letters_38 : decode cX33_letters 38 = .ok (.iadd, 1) := dk_96 (dk_at dksX33_letters_1 15 rfl rfl)
theorem dX33_letters_39 : decode cX33_letters 39 = .ok (.caload, 1) := dk_52 (dk_at dksX33_letters_1 16 rfl rfl)
theorem dX33_letters_40 : decode cX33_letters 40 = .ok (.aload_n 1, 1) := dk_43 (dk_at dksX33_letters_1 17 rfl rfl)
theorem dX33_letters_41 : decode cX33_letters 41 = .ok (.iload_n 2, 1) := dk_28 (dk_at dksX33_letters_1 18 rfl rfl)
theorem dX33_letters_42 : decode cX33_letters 42 = .ok (.invokevirtual 59, 3) := dk_182 0 59 (dk_at dksX33_letters_1 19 rfl rfl)
theorem dX33_letters_45 : decode cX33_letters 45 = .ok (.if_icmp .ne 9, 3) := dk_160 0 9 (dk_at dksX33_letters_2 0 rfl rfl)
theorem dX33_letters_48 : decode cX33_letters 48 = .ok (.iinc 2 1, 3) := dk_132 2 1 (dk_at dksX33_letters_2 3 rfl rfl)
theorem dX33_letters_51 : decode cX33_letters 51 = .ok (.goto (-49), 3) := dk_167 255 207 (dk_at dksX33_letters_2 6 rfl rfl)
theorem dX33_letters_54 : decode cX33_letters 54 = .ok (.iload_n 2, 1) := dk_28 (dk_at dksX33_letters_2 9 rfl rfl)
theorem dX33_letters_55 : decode cX33_letters 55 = .ok (.ireturn, 1) := dk_172 (dk_at dksX33_letters_2 10 rfl rfl)
abbrev cX33_settling : ByteArray := prog_25_method_8_code
def yX33_settling : MethodName := ⟨RX33, "settling", "()LHamletWells$Command;"⟩
def dkwX33_settling_1 : List UInt8 := [187, 0, 89, 89, 42, 27, 28, 29, 183, 0, 91, 176]
abbrev dktX33_settling_1 : List UInt8 := dkwX33_settling_1 ++ []
def dkwX33_settling_0 : List UInt8 := [42, 16, 32, 5, 182, 0, 85, 60, 42, 16, 44, 5, 182, 0, 85, 61, 42, 16, 32, 5, 182, 0, 85, 62]
abbrev dktX33_settling_0 : List UInt8 := dkwX33_settling_0 ++ dktX33_settling_1
theorem dksX33_settling_0 : cX33_settling.data.toList.drop 0 = dktX33_settling_0 := by decide +kernel
theorem dksX33_settling_1 : cX33_settling.data.toList.drop 24 = dktX33_settling_1 := dk_seg dksX33_settling_0 24 rfl rfl
theorem dX33_settling_0 : decode cX33_settling 0 = .ok (.aload_n 0, 1) := dk_42 (dk_at dksX33_settling_0 0 rfl rfl)
theorem dX33_settling_1 : decode cX33_settling 1 = .ok (.bipush 32, 2) := dk_16 32 (dk_at dksX33_settling_0 1 rfl rfl)
theorem dX33_settling_3 : decode cX33_settling 3 = .ok (.iconst 2, 1) := dk_5 (dk_at dksX33_settling_0 3 rfl rfl)
theorem dX33_settling_4 : decode cX33_settling 4 = .ok (.invokevirtual 85, 3) := dk_182 0 85 (dk_at dksX33_settling_0 4 rfl rfl)
theorem dX33_settling_7 : decode cX33_settling 7 = .ok (.istore_n 1, 1) := dk_60 (dk_at dksX33_settling_0 7 rfl rfl)
theorem dX33_settling_8 : decode cX33_settling 8 = .ok (.aload_n 0, 1) := dk_42 (dk_at dksX33_settling_0 8 rfl rfl)
theorem dX33_settling_9 : decode cX33_settling 9 = .ok (.bipush 44, 2) := dk_16 44 (dk_at dksX33_settling_0 9 rfl rfl)
theorem dX33_settling_11 : decode cX33_settling 11 = .ok (.iconst 2, 1) := dk_5 (dk_at dksX33_settling_0 11 rfl rfl)
theorem dX33_settling_12 : decode cX33_settling 12 = .ok (.invokevirtual 85, 3) := dk_182 0 85 (dk_at dksX33_settling_0 12 rfl rfl)
theorem dX33_settling_15 : decode cX33_settling 15 = .ok (.istore_n 2, 1) := dk_61 (dk_at dksX33_settling_0 15 rfl rfl)
theorem dX33_settling_16 : decode cX33_settling 16 = .ok (.aload_n 0, 1) := dk_42 (dk_at dksX33_settling_0 16 rfl rfl)
theorem dX33_settling_17 : decode cX33_settling 17 = .ok (.bipush 32, 2) := dk_16 32 (dk_at dksX33_settling_0 17 rfl rfl)
theorem dX33_settling_19 : decode cX33_settling 19 = .ok (.iconst 2, 1) := dk_5 (dk_at dksX33_settling_0 19 rfl rfl)
theorem dX33_settling_20 : decode cX33_settling 20 = .ok (.invokevirtual 85, 3) := dk_182 0 85 (dk_at dksX33_settling_0 20 rfl rfl)
theorem dX33_settling_23 : decode cX33_settling 23 = .ok (.istore_n 3, 1) := dk_62 (dk_at dksX33_settling_0 23 rfl rfl)
theorem dX33_settling_24 : decode cX33_settling 24 = .ok (.new 89, 3) := dk_187 0 89 (dk_at dksX33_settling_1 0 rfl rfl)
theorem dX33_settling_27 : decode cX33_settling 27 = .ok (.dup, 1) := dk_89 (dk_at dksX33_settling_1 3 rfl rfl)
theorem dX33_settling_28 : decode cX33_settling 28 = .ok (.aload_n 0, 1) := dk_42 (dk_at dksX33_settling_1 4 rfl rfl)
theorem dX33_settling_29 : decode cX33_settling 29 = .ok (.iload_n 1, 1) := dk_27 (dk_at dksX33_settling_1 5 rfl rfl)
theorem dX33_settling_30 : decode cX33_settling 30 = .ok (.iload_n 2, 1) := dk_28 (dk_at dksX33_settling_1 6 rfl rfl)
theorem dX33_settling_31 : decode cX33_settling 31 = .ok (.iload_n 3, 1) := dk_29 (dk_at dksX33_settling_1 7 rfl rfl)
theorem dX33_settling_32 : decode cX33_settling 32 = .ok (.invokespecial 91, 3) := dk_183 0 91 (dk_at dksX33_settling_1 8 rfl rfl)
theorem dX33_settling_35 : decode cX33_settling 35 = .ok (.areturn, 1) := dk_176 (dk_at dksX33_settling_1 11 rfl rfl)
abbrev cX33_number : ByteArray := prog_25_method_7_code
def yX33_number : MethodName := ⟨RX33, "number", "(CI)I"⟩
def dkwX33_number_3 : List UInt8 := [181, 0, 35, 132, 4, 1, 167, 255, 209, 29, 172]
abbrev dktX33_number_3 : List UInt8 := dkwX33_number_3 ++ []
def dkwX33_number_2 : List UInt8 := [180, 0, 3, 180, 0, 42, 42, 180, 0, 35, 52, 96, 16, 48, 100, 62, 42, 89, 180, 0, 35, 4, 96]
abbrev dktX33_number_2 : List UInt8 := dkwX33_number_2 ++ dktX33_number_3
def dkwX33_number_1 : List UInt8 := [3, 62, 3, 54, 4, 21, 4, 28, 162, 0, 47, 42, 182, 0, 81, 153, 0, 40, 16, 10, 29, 104, 42]
abbrev dktX33_number_1 : List UInt8 := dkwX33_number_1 ++ dktX33_number_2
def dkwX33_number_0 : List UInt8 := [42, 27, 182, 0, 77, 42, 182, 0, 81, 154, 0, 15, 187, 0, 50, 89, 42, 180, 0, 35, 183, 0, 52, 191]
abbrev dktX33_number_0 : List UInt8 := dkwX33_number_0 ++ dktX33_number_1
theorem dksX33_number_0 : cX33_number.data.toList.drop 0 = dktX33_number_0 := by decide +kernel
theorem dksX33_number_1 : cX33_number.data.toList.drop 24 = dktX33_number_1 := dk_seg dksX33_number_0 24 rfl rfl
theorem dksX33_number_2 : cX33_number.data.toList.drop 47 = dktX33_number_2 := dk_seg dksX33_number_1 23 rfl rfl
theorem dksX33_number_3 : cX33_number.data.toList.drop 70 = dktX33_number_3 := dk_seg dksX33_number_2 23 rfl rfl
theorem dX33_number_0 : decode cX33_number 0 = .ok (.aload_n 0, 1) := dk_42 (dk_at dksX33_number_0 0 rfl rfl)
theorem dX33_number_1 : decode cX33_number 1 = .ok (.iload_n 1, 1) := dk_27 (dk_at dksX33_number_0 1 rfl rfl)
theorem dX33_number_2 : decode cX33_number 2 = .ok (.invokevirtual 77, 3) := dk_182 0 77 (dk_at dksX33_number_0 2 rfl rfl)
theorem dX33_number_5 : decode cX33_number 5 = .ok (.aload_n 0, 1) := dk_42 (dk_at dksX33_number_0 5 rfl rfl)
theorem dX33_number_6 : decode cX33_number 6 = .ok (.invokevirtual 81, 3) := dk_182 0 81 (dk_at dksX33_number_0 6 rfl rfl)
theorem dX33_number_9 : decode cX33_number 9 = .ok (.ifCond .ne 15, 3) := dk_154 0 15 (dk_at dksX33_number_0 9 rfl rfl)
theorem dX33_number_12 : decode cX33_number 12 = .ok (.new 50, 3) := dk_187 0 50 (dk_at dksX33_number_0 12 rfl rfl)
theorem dX33_number_15 : decode cX33_number 15 = .ok (.dup, 1) := dk_89 (dk_at dksX33_number_0 15 rfl rfl)
theorem dX33_number_16 : decode cX33_number 16 = .ok (.aload_n 0, 1) := dk_42 (dk_at dksX33_number_0 16 rfl rfl)
theorem dX33_number_17 : decode cX33_number 17 = .ok (.getfield 35, 3) := dk_180 0 35 (dk_at dksX33_number_0 17 rfl rfl)
theorem dX33_number_20 : decode cX33_number 20 = .ok (.invokespecial 52, 3) := dk_183 0 52 (dk_at dksX33_number_0 20 rfl rfl)
theorem dX33_number_23 : decode cX33_number 23 = .ok (.athrow, 1) := dk_191 (dk_at dksX33_number_0 23 rfl rfl)
theorem dX33_number_24 : decode cX33_number 24 = .ok (.iconst 0, 1) := dk_3 (dk_at dksX33_number_1 0 rfl rfl)
theorem dX33_number_25 : decode cX33_number 25 = .ok (.istore_n 3, 1) := dk_62 (dk_at dksX33_number_1 1 rfl rfl)
theorem dX33_number_26 : decode cX33_number 26 = .ok (.iconst 0, 1) := dk_3 (dk_at dksX33_number_1 2 rfl rfl)
theorem dX33_number_27 : decode cX33_number 27 = .ok (.istore 4, 2) := dk_54 4 (dk_at dksX33_number_1 3 rfl rfl)
theorem dX33_number_29 : decode cX33_number 29 = .ok (.iload 4, 2) := dk_21 4 (dk_at dksX33_number_1 5 rfl rfl)
theorem dX33_number_31 : decode cX33_number 31 = .ok (.iload_n 2, 1) := dk_28 (dk_at dksX33_number_1 7 rfl rfl)
theorem dX33_number_32 : decode cX33_number 32 = .ok (.if_icmp .ge 47, 3) := dk_162 0 47 (dk_at dksX33_number_1 8 rfl rfl)
theorem dX33_number_35 : decode cX33_number 35 = .ok (.aload_n 0, 1) := dk_42 (dk_at dksX33_number_1 11 rfl rfl)
theorem dX33_number_36 : decode cX33_number 36 = .ok (.invokevirtual 81, 3) := dk_182 0 81 (dk_at dksX33_number_1 12 rfl rfl)
theorem dX33_number_39 : decode cX33_number 39 = .ok (.ifCond .eq 40, 3) := dk_153 0 40 (dk_at dksX33_number_1 15 rfl rfl)
theorem dX33_number_42 : decode cX33_number 42 = .ok (.bipush 10, 2) := dk_16 10 (dk_at dksX33_number_1 18 rfl rfl)
theorem dX33_number_44 : decode cX33_number 44 = .ok (.iload_n 3, 1) := dk_29 (dk_at dksX33_number_1 20 rfl rfl)
theorem dX33_number_45 : decode cX33_number 45 = .ok (.imul, 1) := dk_104 (dk_at dksX33_number_1 21 rfl rfl)
theorem dX33_number_46 : decode cX33_number 46 = .ok (.aload_n 0, 1) := dk_42 (dk_at dksX33_number_1 22 rfl rfl)
theorem dX33_number_47 : decode cX33_number 47 = .ok (.getfield 3, 3) := dk_180 0 3 (dk_at dksX33_number_2 0 rfl rfl)
theorem dX33_number_50 : decode cX33_number 50 = .ok (.getfield 42, 3) := dk_180 0 42 (dk_at dksX33_number_2 3 rfl rfl)
theorem dX33_number_53 : decode cX33_number 53 = .ok (.aload_n 0, 1) := dk_42 (dk_at dksX33_number_2 6 rfl rfl)
theorem dX33_number_54 : decode cX33_number 54 = .ok (.getfield 35, 3) := dk_180 0 35 (dk_at dksX33_number_2 7 rfl rfl)
theorem dX33_number_57 : decode cX33_number 57 = .ok (.caload, 1) := dk_52 (dk_at dksX33_number_2 10 rfl rfl)
theorem dX33_number_58 : decode cX33_number 58 = .ok (.iadd, 1) := dk_96 (dk_at dksX33_number_2 11 rfl rfl)
theorem dX33_number_59 : decode cX33_number 59 = .ok (.bipush 48, 2) := dk_16 48 (dk_at dksX33_number_2 12 rfl rfl)
theorem dX33_number_61 : decode cX33_number 61 = .ok (.isub, 1) := dk_100 (dk_at dksX33_number_2 14 rfl rfl)
theorem dX33_number_62 : decode cX33_number 62 = .ok (.istore_n 3, 1) := dk_62 (dk_at dksX33_number_2 15 rfl rfl)
theorem dX33_number_63 : decode cX33_number 63 = .ok (.aload_n 0, 1) := dk_42 (dk_at dksX33_number_2 16 rfl rfl)
theorem dX33_number_64 : decode cX33_number 64 = .ok (.dup, 1) := dk_89 (dk_at dksX33_number_2 17 rfl rfl)
theorem dX33_number_65 : decode cX33_number 65 = .ok (.getfield 35, 3) := dk_180 0 35 (dk_at dksX33_number_2 18 rfl rfl)
theorem dX33_number_68 : decode cX33_number 68 = .ok (.iconst 1, 1) := dk_4 (dk_at dksX33_number_2 21 rfl rfl)
theorem dX33_number_69 : decode cX33_number 69 = .ok (.iadd, 1) := dk_96 (dk_at dksX33_number_2 22 rfl rfl)
theorem dX33_number_70 : decode cX33_number 70 = .ok (.putfield 35, 3) := dk_181 0 35 (dk_at dksX33_number_3 0 rfl rfl)
theorem dX33_number_73 : decode cX33_number 73 = .ok (.iinc 4 1, 3) := dk_132 4 1 (dk_at dksX33_number_3 3 rfl rfl)
theorem dX33_number_76 : decode cX33_number 76 = .ok (.goto (-47), 3) := dk_167 255 209 (dk_at dksX33_number_3 6 rfl rfl)
theorem dX33_number_79 : decode cX33_number 79 = .ok (.iload_n 3, 1) := dk_29 (dk_at dksX33_number_3 9 rfl rfl)
theorem dX33_number_80 : decode cX33_number 80 = .ok (.ireturn, 1) := dk_172 (dk_at dksX33_number_3 10 rfl rfl)
abbrev cX33_takesSign : ByteArray := prog_25_method_3_code
def yX33_takesSign : MethodName := ⟨RX33, "takesSign", "(C)V"⟩
def dkwX33_takesSign_1 : List UInt8 := [180, 0, 35, 4, 96, 181, 0, 35, 177]
abbrev dktX33_takesSign_1 : List UInt8 := dkwX33_takesSign_1 ++ []
def dkwX33_takesSign_0 : List UInt8 := [42, 27, 182, 0, 46, 154, 0, 15, 187, 0, 50, 89, 42, 180, 0, 35, 183, 0, 52, 191, 42, 89]
abbrev dktX33_takesSign_0 : List UInt8 := dkwX33_takesSign_0 ++ dktX33_takesSign_1
theorem dksX33_takesSign_0 : cX33_takesSign.data.toList.drop 0 = dktX33_takesSign_0 := by decide +kernel
theorem dksX33_takesSign_1 : cX33_takesSign.data.toList.drop 22 = dktX33_takesSign_1 := dk_seg dksX33_takesSign_0 22 rfl rfl
theorem dX33_takesSign_0 : decode cX33_takesSign 0 = .ok (.aload_n 0, 1) := dk_42 (dk_at dksX33_takesSign_0 0 rfl rfl)
theorem dX33_takesSign_1 : decode cX33_takesSign 1 = .ok (.iload_n 1, 1) := dk_27 (dk_at dksX33_takesSign_0 1 rfl rfl)
theorem dX33_takesSign_2 : decode cX33_takesSign 2 = .ok (.invokevirtual 46, 3) := dk_182 0 46 (dk_at dksX33_takesSign_0 2 rfl rfl)
theorem dX33_takesSign_5 : decode cX33_takesSign 5 = .ok (.ifCond .ne 15, 3) := dk_154 0 15 (dk_at dksX33_takesSign_0 5 rfl rfl)
theorem dX33_takesSign_8 : decode cX33_takesSign 8 = .ok (.new 50, 3) := dk_187 0 50 (dk_at dksX33_takesSign_0 8 rfl rfl)
theorem dX33_takesSign_11 : decode cX33_takesSign 11 = .ok (.dup, 1) := dk_89 (dk_at dksX33_takesSign_0 11 rfl rfl)
theorem dX33_takesSign_12 : decode cX33_takesSign 12 = .ok (.aload_n 0, 1) := dk_42 (dk_at dksX33_takesSign_0 12 rfl rfl)
theorem dX33_takesSign_13 : decode cX33_takesSign 13 = .ok (.getfield 35, 3) := dk_180 0 35 (dk_at dksX33_takesSign_0 13 rfl rfl)
theorem dX33_takesSign_16 : decode cX33_takesSign 16 = .ok (.invokespecial 52, 3) := dk_183 0 52 (dk_at dksX33_takesSign_0 16 rfl rfl)
theorem dX33_takesSign_19 : decode cX33_takesSign 19 = .ok (.athrow, 1) := dk_191 (dk_at dksX33_takesSign_0 19 rfl rfl)
theorem dX33_takesSign_20 : decode cX33_takesSign 20 = .ok (.aload_n 0, 1) := dk_42 (dk_at dksX33_takesSign_0 20 rfl rfl)
theorem dX33_takesSign_21 : decode cX33_takesSign 21 = .ok (.dup, 1) := dk_89 (dk_at dksX33_takesSign_0 21 rfl rfl)
theorem dX33_takesSign_22 : decode cX33_takesSign 22 = .ok (.getfield 35, 3) := dk_180 0 35 (dk_at dksX33_takesSign_1 0 rfl rfl)
theorem dX33_takesSign_25 : decode cX33_takesSign 25 = .ok (.iconst 1, 1) := dk_4 (dk_at dksX33_takesSign_1 3 rfl rfl)
theorem dX33_takesSign_26 : decode cX33_takesSign 26 = .ok (.iadd, 1) := dk_96 (dk_at dksX33_takesSign_1 4 rfl rfl)
theorem dX33_takesSign_27 : decode cX33_takesSign 27 = .ok (.putfield 35, 3) := dk_181 0 35 (dk_at dksX33_takesSign_1 5 rfl rfl)
theorem dX33_takesSign_30 : decode cX33_takesSign 30 = .ok (.return_, 1) := dk_177 (dk_at dksX33_takesSign_1 8 rfl rfl)
abbrev cX33_isSign : ByteArray := prog_25_method_2_code
def yX33_isSign : MethodName := ⟨RX33, "isSign", "(C)Z"⟩
def dkwX33_isSign_1 : List UInt8 := [180, 0, 35, 52, 27, 160, 0, 7, 4, 167, 0, 4, 3, 172]
abbrev dktX33_isSign_1 : List UInt8 := dkwX33_isSign_1 ++ []
def dkwX33_isSign_0 : List UInt8 := [42, 180, 0, 35, 42, 180, 0, 3, 180, 0, 39, 162, 0, 23, 42, 180, 0, 3, 180, 0, 42, 42]
abbrev dktX33_isSign_0 : List UInt8 := dkwX33_isSign_0 ++ dktX33_isSign_1
theorem dksX33_isSign_0 : cX33_isSign.data.toList.drop 0 = dktX33_isSign_0 := by decide +kernel
theorem dksX33_isSign_1 : cX33_isSign.data.toList.drop 22 = dktX33_isSign_1 := dk_seg dksX33_isSign_0 22 rfl rfl
theorem dX33_isSign_0 : decode cX33_isSign 0 = .ok (.aload_n 0, 1) := dk_42 (dk_at dksX33_isSign_0 0 rfl rfl)
theorem dX33_isSign_1 : decode cX33_isSign 1 = .ok (.getfield 35, 3) := dk_180 0 35 (dk_at dksX33_isSign_0 1 rfl rfl)
theorem dX33_isSign_4 : decode cX33_isSign 4 = .ok (.aload_n 0, 1) := dk_42 (dk_at dksX33_isSign_0 4 rfl rfl)
theorem dX33_isSign_5 : decode cX33_isSign 5 = .ok (.getfield 3, 3) := dk_180 0 3 (dk_at dksX33_isSign_0 5 rfl rfl)
theorem dX33_isSign_8 : decode cX33_isSign 8 = .ok (.getfield 39, 3) := dk_180 0 39 (dk_at dksX33_isSign_0 8 rfl rfl)
theorem dX33_isSign_11 : decode cX33_isSign 11 = .ok (.if_icmp .ge 23, 3) := dk_162 0 23 (dk_at dksX33_isSign_0 11 rfl rfl)
theorem dX33_isSign_14 : decode cX33_isSign 14 = .ok (.aload_n 0, 1) := dk_42 (dk_at dksX33_isSign_0 14 rfl rfl)
theorem dX33_isSign_15 : decode cX33_isSign 15 = .ok (.getfield 3, 3) := dk_180 0 3 (dk_at dksX33_isSign_0 15 rfl rfl)
theorem dX33_isSign_18 : decode cX33_isSign 18 = .ok (.getfield 42, 3) := dk_180 0 42 (dk_at dksX33_isSign_0 18 rfl rfl)
theorem dX33_isSign_21 : decode cX33_isSign 21 = .ok (.aload_n 0, 1) := dk_42 (dk_at dksX33_isSign_0 21 rfl rfl)
theorem dX33_isSign_22 : decode cX33_isSign 22 = .ok (.getfield 35, 3) := dk_180 0 35 (dk_at dksX33_isSign_1 0 rfl rfl)
theorem dX33_isSign_25 : decode cX33_isSign 25 = .ok (.caload, 1) := dk_52 (dk_at dksX33_isSign_1 3 rfl rfl)
theorem dX33_isSign_26 : decode cX33_isSign 26 = .ok (.iload_n 1, 1) := dk_27 (dk_at dksX33_isSign_1 4 rfl rfl)
theorem dX33_isSign_27 : decode cX33_isSign 27 = .ok (.if_icmp .ne 7, 3) := dk_160 0 7 (dk_at dksX33_isSign_1 5 rfl rfl)
theorem dX33_isSign_30 : decode cX33_isSign 30 = .ok (.iconst 1, 1) := dk_4 (dk_at dksX33_isSign_1 8 rfl rfl)
theorem dX33_isSign_31 : decode cX33_isSign 31 = .ok (.goto 4, 3) := dk_167 0 4 (dk_at dksX33_isSign_1 9 rfl rfl)
theorem dX33_isSign_34 : decode cX33_isSign 34 = .ok (.iconst 0, 1) := dk_3 (dk_at dksX33_isSign_1 12 rfl rfl)
theorem dX33_isSign_35 : decode cX33_isSign 35 = .ok (.ireturn, 1) := dk_172 (dk_at dksX33_isSign_1 13 rfl rfl)
abbrev cX33_isDigit : ByteArray := prog_25_method_6_code
def yX33_isDigit : MethodName := ⟨RX33, "isDigit", "()Z"⟩
def dkwX33_isDigit_1 : List UInt8 := [180, 0, 35, 52, 16, 48, 16, 57, 184, 0, 73, 153, 0, 7, 4, 167, 0, 4, 3, 172]
abbrev dktX33_isDigit_1 : List UInt8 := dkwX33_isDigit_1 ++ []
def dkwX33_isDigit_0 : List UInt8 := [42, 180, 0, 35, 42, 180, 0, 3, 180, 0, 39, 162, 0, 29, 42, 180, 0, 3, 180, 0, 42, 42]
abbrev dktX33_isDigit_0 : List UInt8 := dkwX33_isDigit_0 ++ dktX33_isDigit_1
theorem dksX33_isDigit_0 : cX33_isDigit.data.toList.drop 0 = dktX33_isDigit_0 := by decide +kernel
theorem dksX33_isDigit_1 : cX33_isDigit.data.toList.drop 22 = dktX33_isDigit_1 := dk_seg dksX33_isDigit_0 22 rfl rfl
theorem dX33_isDigit_0 : decode cX33_isDigit 0 = .ok (.aload_n 0, 1) := dk_42 (dk_at dksX33_isDigit_0 0 rfl rfl)
theorem dX33_isDigit_1 : decode cX33_isDigit 1 = .ok (.getfield 35, 3) := dk_180 0 35 (dk_at dksX33_isDigit_0 1 rfl rfl)
theorem dX33_isDigit_4 : decode cX33_isDigit 4 = .ok (.aload_n 0, 1) := dk_42 (dk_at dksX33_isDigit_0 4 rfl rfl)
theorem dX33_isDigit_5 : decode cX33_isDigit 5 = .ok (.getfield 3, 3) := dk_180 0 3 (dk_at dksX33_isDigit_0 5 rfl rfl)
theorem dX33_isDigit_8 : decode cX33_isDigit 8 = .ok (.getfield 39, 3) := dk_180 0 39 (dk_at dksX33_isDigit_0 8 rfl rfl)
theorem dX33_isDigit_11 : decode cX33_isDigit 11 = .ok (.if_icmp .ge 29, 3) := dk_162 0 29 (dk_at dksX33_isDigit_0 11 rfl rfl)
theorem dX33_isDigit_14 : decode cX33_isDigit 14 = .ok (.aload_n 0, 1) := dk_42 (dk_at dksX33_isDigit_0 14 rfl rfl)
theorem dX33_isDigit_15 : decode cX33_isDigit 15 = .ok (.getfield 3, 3) := dk_180 0 3 (dk_at dksX33_isDigit_0 15 rfl rfl)
theorem dX33_isDigit_18 : decode cX33_isDigit 18 = .ok (.getfield 42, 3) := dk_180 0 42 (dk_at dksX33_isDigit_0 18 rfl rfl)
theorem dX33_isDigit_21 : decode cX33_isDigit 21 = .ok (.aload_n 0, 1) := dk_42 (dk_at dksX33_isDigit_0 21 rfl rfl)
theorem dX33_isDigit_22 : decode cX33_isDigit 22 = .ok (.getfield 35, 3) := dk_180 0 35 (dk_at dksX33_isDigit_1 0 rfl rfl)
theorem dX33_isDigit_25 : decode cX33_isDigit 25 = .ok (.caload, 1) := dk_52 (dk_at dksX33_isDigit_1 3 rfl rfl)
theorem dX33_isDigit_26 : decode cX33_isDigit 26 = .ok (.bipush 48, 2) := dk_16 48 (dk_at dksX33_isDigit_1 4 rfl rfl)
theorem dX33_isDigit_28 : decode cX33_isDigit 28 = .ok (.bipush 57, 2) := dk_16 57 (dk_at dksX33_isDigit_1 6 rfl rfl)
theorem dX33_isDigit_30 : decode cX33_isDigit 30 = .ok (.invokestatic 73, 3) := dk_184 0 73 (dk_at dksX33_isDigit_1 8 rfl rfl)
theorem dX33_isDigit_33 : decode cX33_isDigit 33 = .ok (.ifCond .eq 7, 3) := dk_153 0 7 (dk_at dksX33_isDigit_1 11 rfl rfl)
theorem dX33_isDigit_36 : decode cX33_isDigit 36 = .ok (.iconst 1, 1) := dk_4 (dk_at dksX33_isDigit_1 14 rfl rfl)
theorem dX33_isDigit_37 : decode cX33_isDigit 37 = .ok (.goto 4, 3) := dk_167 0 4 (dk_at dksX33_isDigit_1 15 rfl rfl)
theorem dX33_isDigit_40 : decode cX33_isDigit 40 = .ok (.iconst 0, 1) := dk_3 (dk_at dksX33_isDigit_1 18 rfl rfl)
theorem dX33_isDigit_41 : decode cX33_isDigit 41 = .ok (.ireturn, 1) := dk_172 (dk_at dksX33_isDigit_1 19 rfl rfl)
abbrev cX33_finding : ByteArray := prog_25_method_9_code
def yX33_finding : MethodName := ⟨RX33, "finding", "()LHamletWells$Command;"⟩
def dkwX33_finding_1 : List UInt8 := [42, 16, 32, 5, 182, 0, 85, 54, 4, 187, 0, 94, 89, 42, 27, 28, 29, 21, 4, 183, 0, 96, 176]
abbrev dktX33_finding_1 : List UInt8 := dkwX33_finding_1 ++ []
def dkwX33_finding_0 : List UInt8 := [42, 16, 32, 5, 182, 0, 85, 60, 42, 16, 44, 5, 182, 0, 85, 61, 42, 16, 32, 5, 182, 0, 85, 62]
abbrev dktX33_finding_0 : List UInt8 := dkwX33_finding_0 ++ dktX33_finding_1
theorem dksX33_finding_0 : cX33_finding.data.toList.drop 0 = dktX33_finding_0 := by decide +kernel
theorem dksX33_finding_1 : cX33_finding.data.toList.drop 24 = dktX33_finding_1 := dk_seg dksX33_finding_0 24 rfl rfl
theorem dX33_finding_0 : decode cX33_finding 0 = .ok (.aload_n 0, 1) := dk_42 (dk_at dksX33_finding_0 0 rfl rfl)
theorem dX33_finding_1 : decode cX33_finding 1 = .ok (.bipush 32, 2) := dk_16 32 (dk_at dksX33_finding_0 1 rfl rfl)
theorem dX33_finding_3 : decode cX33_finding 3 = .ok (.iconst 2, 1) := dk_5 (dk_at dksX33_finding_0 3 rfl rfl)
theorem dX33_finding_4 : decode cX33_finding 4 = .ok (.invokevirtual 85, 3) := dk_182 0 85 (dk_at dksX33_finding_0 4 rfl rfl)
theorem dX33_finding_7 : decode cX33_finding 7 = .ok (.istore_n 1, 1) := dk_60 (dk_at dksX33_finding_0 7 rfl rfl)
theorem dX33_finding_8 : decode cX33_finding 8 = .ok (.aload_n 0, 1) := dk_42 (dk_at dksX33_finding_0 8 rfl rfl)
theorem dX33_finding_9 : decode cX33_finding 9 = .ok (.bipush 44, 2) := dk_16 44 (dk_at dksX33_finding_0 9 rfl rfl)
theorem dX33_finding_11 : decode cX33_finding 11 = .ok (.iconst 2, 1) := dk_5 (dk_at dksX33_finding_0 11 rfl rfl)
theorem dX33_finding_12 : decode cX33_finding 12 = .ok (.invokevirtual 85, 3) := dk_182 0 85 (dk_at dksX33_finding_0 12 rfl rfl)
theorem dX33_finding_15 : decode cX33_finding 15 = .ok (.istore_n 2, 1) := dk_61 (dk_at dksX33_finding_0 15 rfl rfl)
theorem dX33_finding_16 : decode cX33_finding 16 = .ok (.aload_n 0, 1) := dk_42 (dk_at dksX33_finding_0 16 rfl rfl)
theorem dX33_finding_17 : decode cX33_finding 17 = .ok (.bipush 32, 2) := dk_16 32 (dk_at dksX33_finding_0 17 rfl rfl)
theorem dX33_finding_19 : decode cX33_finding 19 = .ok (.iconst 2, 1) := dk_5 (dk_at dksX33_finding_0 19 rfl rfl)
theorem dX33_finding_20 : decode cX33_finding 20 = .ok (.invokevirtual 85, 3) := dk_182 0 85 (dk_at dksX33_finding_0 20 rfl rfl)
theorem dX33_finding_23 : decode cX33_finding 23 = .ok (.istore_n 3, 1) := dk_62 (dk_at dksX33_finding_0 23 rfl rfl)
theorem dX33_finding_24 : decode cX33_finding 24 = .ok (.aload_n 0, 1) := dk_42 (dk_at dksX33_finding_1 0 rfl rfl)
theorem dX33_finding_25 : decode cX33_finding 25 = .ok (.bipush 32, 2) := dk_16 32 (dk_at dksX33_finding_1 1 rfl rfl)
theorem dX33_finding_27 : decode cX33_finding 27 = .ok (.iconst 2, 1) := dk_5 (dk_at dksX33_finding_1 3 rfl rfl)
theorem dX33_finding_28 : decode cX33_finding 28 = .ok (.invokevirtual 85, 3) := dk_182 0 85 (dk_at dksX33_finding_1 4 rfl rfl)
theorem dX33_finding_31 : decode cX33_finding 31 = .ok (.istore 4, 2) := dk_54 4 (dk_at dksX33_finding_1 7 rfl rfl)
theorem dX33_finding_33 : decode cX33_finding 33 = .ok (.new 94, 3) := dk_187 0 94 (dk_at dksX33_finding_1 9 rfl rfl)
theorem dX33_finding_36 : decode cX33_finding 36 = .ok (.dup, 1) := dk_89 (dk_at dksX33_finding_1 12 rfl rfl)
theorem dX33_finding_37 : decode cX33_finding 37 = .ok (.aload_n 0, 1) := dk_42 (dk_at dksX33_finding_1 13 rfl rfl)
theorem dX33_finding_38 : decode cX33_finding 38 = .ok (.iload_n 1, 1) := dk_27 (dk_at dksX33_finding_1 14 rfl rfl)
theorem dX33_finding_39 : decode cX33_finding 39 = .ok (.iload_n 2, 1) := dk_28 (dk_at dksX33_finding_1 15 rfl rfl)
theorem dX33_finding_40 : decode cX33_finding 40 = .ok (.iload_n 3, 1) := dk_29 (dk_at dksX33_finding_1 16 rfl rfl)
theorem dX33_finding_41 : decode cX33_finding 41 = .ok (.iload 4, 2) := dk_21 4 (dk_at dksX33_finding_1 17 rfl rfl)
theorem dX33_finding_43 : decode cX33_finding 43 = .ok (.invokespecial 96, 3) := dk_183 0 96 (dk_at dksX33_finding_1 19 rfl rfl)
theorem dX33_finding_46 : decode cX33_finding 46 = .ok (.areturn, 1) := dk_176 (dk_at dksX33_finding_1 22 rfl rfl)
abbrev cX33_moving : ByteArray := prog_25_method_10_code
def yX33_moving : MethodName := ⟨RX33, "moving", "()LHamletWells$Command;"⟩
def dkwX33_moving_1 : List UInt8 := [183, 0, 101, 176]
abbrev dktX33_moving_1 : List UInt8 := dkwX33_moving_1 ++ []
def dkwX33_moving_0 : List UInt8 := [42, 16, 32, 4, 182, 0, 85, 60, 42, 16, 32, 4, 182, 0, 85, 61, 187, 0, 99, 89, 42, 27, 28]
abbrev dktX33_moving_0 : List UInt8 := dkwX33_moving_0 ++ dktX33_moving_1
theorem dksX33_moving_0 : cX33_moving.data.toList.drop 0 = dktX33_moving_0 := by decide +kernel
theorem dksX33_moving_1 : cX33_moving.data.toList.drop 23 = dktX33_moving_1 := dk_seg dksX33_moving_0 23 rfl rfl
theorem dX33_moving_0 : decode cX33_moving 0 = .ok (.aload_n 0, 1) := dk_42 (dk_at dksX33_moving_0 0 rfl rfl)
theorem dX33_moving_1 : decode cX33_moving 1 = .ok (.bipush 32, 2) := dk_16 32 (dk_at dksX33_moving_0 1 rfl rfl)
theorem dX33_moving_3 : decode cX33_moving 3 = .ok (.iconst 1, 1) := dk_4 (dk_at dksX33_moving_0 3 rfl rfl)
theorem dX33_moving_4 : decode cX33_moving 4 = .ok (.invokevirtual 85, 3) := dk_182 0 85 (dk_at dksX33_moving_0 4 rfl rfl)
theorem dX33_moving_7 : decode cX33_moving 7 = .ok (.istore_n 1, 1) := dk_60 (dk_at dksX33_moving_0 7 rfl rfl)
theorem dX33_moving_8 : decode cX33_moving 8 = .ok (.aload_n 0, 1) := dk_42 (dk_at dksX33_moving_0 8 rfl rfl)
theorem dX33_moving_9 : decode cX33_moving 9 = .ok (.bipush 32, 2) := dk_16 32 (dk_at dksX33_moving_0 9 rfl rfl)
theorem dX33_moving_11 : decode cX33_moving 11 = .ok (.iconst 1, 1) := dk_4 (dk_at dksX33_moving_0 11 rfl rfl)
theorem dX33_moving_12 : decode cX33_moving 12 = .ok (.invokevirtual 85, 3) := dk_182 0 85 (dk_at dksX33_moving_0 12 rfl rfl)
theorem dX33_moving_15 : decode cX33_moving 15 = .ok (.istore_n 2, 1) := dk_61 (dk_at dksX33_moving_0 15 rfl rfl)
theorem dX33_moving_16 : decode cX33_moving 16 = .ok (.new 99, 3) := dk_187 0 99 (dk_at dksX33_moving_0 16 rfl rfl)
theorem dX33_moving_19 : decode cX33_moving 19 = .ok (.dup, 1) := dk_89 (dk_at dksX33_moving_0 19 rfl rfl)
theorem dX33_moving_20 : decode cX33_moving 20 = .ok (.aload_n 0, 1) := dk_42 (dk_at dksX33_moving_0 20 rfl rfl)
theorem dX33_moving_21 : decode cX33_moving 21 = .ok (.iload_n 1, 1) := dk_27 (dk_at dksX33_moving_0 21 rfl rfl)
theorem dX33_moving_22 : decode cX33_moving 22 = .ok (.iload_n 2, 1) := dk_28 (dk_at dksX33_moving_0 22 rfl rfl)
theorem dX33_moving_23 : decode cX33_moving 23 = .ok (.invokespecial 101, 3) := dk_183 0 101 (dk_at dksX33_moving_1 0 rfl rfl)
theorem dX33_moving_26 : decode cX33_moving 26 = .ok (.areturn, 1) := dk_176 (dk_at dksX33_moving_1 3 rfl rfl)
abbrev cX33_passing : ByteArray := prog_25_method_11_code
def yX33_passing : MethodName := ⟨RX33, "passing", "()LHamletWells$Command;"⟩
def dkwX33_passing_0 : List UInt8 := [42, 16, 32, 5, 182, 0, 85, 60, 187, 0, 104, 89, 42, 27, 183, 0, 106, 176]
abbrev dktX33_passing_0 : List UInt8 := dkwX33_passing_0 ++ []
theorem dksX33_passing_0 : cX33_passing.data.toList.drop 0 = dktX33_passing_0 := by decide +kernel
theorem dX33_passing_0 : decode cX33_passing 0 = .ok (.aload_n 0, 1) := dk_42 (dk_at dksX33_passing_0 0 rfl rfl)
theorem dX33_passing_1 : decode cX33_passing 1 = .ok (.bipush 32, 2) := dk_16 32 (dk_at dksX33_passing_0 1 rfl rfl)
theorem dX33_passing_3 : decode cX33_passing 3 = .ok (.iconst 2, 1) := dk_5 (dk_at dksX33_passing_0 3 rfl rfl)
theorem dX33_passing_4 : decode cX33_passing 4 = .ok (.invokevirtual 85, 3) := dk_182 0 85 (dk_at dksX33_passing_0 4 rfl rfl)
theorem dX33_passing_7 : decode cX33_passing 7 = .ok (.istore_n 1, 1) := dk_60 (dk_at dksX33_passing_0 7 rfl rfl)
theorem dX33_passing_8 : decode cX33_passing 8 = .ok (.new 104, 3) := dk_187 0 104 (dk_at dksX33_passing_0 8 rfl rfl)
theorem dX33_passing_11 : decode cX33_passing 11 = .ok (.dup, 1) := dk_89 (dk_at dksX33_passing_0 11 rfl rfl)
theorem dX33_passing_12 : decode cX33_passing 12 = .ok (.aload_n 0, 1) := dk_42 (dk_at dksX33_passing_0 12 rfl rfl)
theorem dX33_passing_13 : decode cX33_passing 13 = .ok (.iload_n 1, 1) := dk_27 (dk_at dksX33_passing_0 13 rfl rfl)
theorem dX33_passing_14 : decode cX33_passing 14 = .ok (.invokespecial 106, 3) := dk_183 0 106 (dk_at dksX33_passing_0 14 rfl rfl)
theorem dX33_passing_17 : decode cX33_passing 17 = .ok (.areturn, 1) := dk_176 (dk_at dksX33_passing_0 17 rfl rfl)
abbrev cX33_working : ByteArray := prog_25_method_12_code
def yX33_working : MethodName := ⟨RX33, "working", "(Ljava/lang/String;)LHamletWells$Command;"⟩
def dkwX33_working_0 : List UInt8 := [42, 16, 32, 4, 182, 0, 85, 61, 187, 0, 109, 89, 42, 28, 43, 183, 0, 111, 176]
abbrev dktX33_working_0 : List UInt8 := dkwX33_working_0 ++ []
theorem dksX33_working_0 : cX33_working.data.toList.drop 0 = dktX33_working_0 := by decide +kernel
theorem dX33_working_0 : decode cX33_working 0 = .ok (.aload_n 0, 1) := dk_42 (dk_at dksX33_working_0 0 rfl rfl)
theorem dX33_working_1 : decode cX33_working 1 = .ok (.bipush 32, 2) := dk_16 32 (dk_at dksX33_working_0 1 rfl rfl)
theorem dX33_working_3 : decode cX33_working 3 = .ok (.iconst 1, 1) := dk_4 (dk_at dksX33_working_0 3 rfl rfl)
theorem dX33_working_4 : decode cX33_working 4 = .ok (.invokevirtual 85, 3) := dk_182 0 85 (dk_at dksX33_working_0 4 rfl rfl)
theorem dX33_working_7 : decode cX33_working 7 = .ok (.istore_n 2, 1) := dk_61 (dk_at dksX33_working_0 7 rfl rfl)
theorem dX33_working_8 : decode cX33_working 8 = .ok (.new 109, 3) := dk_187 0 109 (dk_at dksX33_working_0 8 rfl rfl)
theorem dX33_working_11 : decode cX33_working 11 = .ok (.dup, 1) := dk_89 (dk_at dksX33_working_0 11 rfl rfl)
theorem dX33_working_12 : decode cX33_working 12 = .ok (.aload_n 0, 1) := dk_42 (dk_at dksX33_working_0 12 rfl rfl)
theorem dX33_working_13 : decode cX33_working 13 = .ok (.iload_n 2, 1) := dk_28 (dk_at dksX33_working_0 13 rfl rfl)
theorem dX33_working_14 : decode cX33_working 14 = .ok (.aload_n 1, 1) := dk_43 (dk_at dksX33_working_0 14 rfl rfl)
theorem dX33_working_15 : decode cX33_working 15 = .ok (.invokespecial 111, 3) := dk_183 0 111 (dk_at dksX33_working_0 15 rfl rfl)
theorem dX33_working_18 : decode cX33_working 18 = .ok (.areturn, 1) := dk_176 (dk_at dksX33_working_0 18 rfl rfl)
theorem q181 : (Jvm.Cond.initialized "HamletWells$Parser") ∈ lw_all := lw_g (lw_at lw_m1 72 rfl) rfl
theorem q328 : (Jvm.Cond.fieldLinkNest "HamletWells$Parser" (42 : Nat) "HamletWells" "input" "[C" "HamletWells") ∈ lw_tbl := lw_at lw_m1 219 rfl
theorem q330 : (Jvm.Cond.fieldLinkNest "HamletWells$Parser" (39 : Nat) "HamletWells" "fed" "I" "HamletWells") ∈ lw_tbl := lw_at lw_m1 221 rfl
theorem q625 : (Jvm.Cond.selects "HamletWells$Parser" ({ cls := "java/lang/Object", name := "getClass", desc := "()Ljava/lang/Class;" } : Jvm.MethodName) ({ cls := "java/lang/Object", name := "getClass", desc := "()Ljava/lang/Class;" } : Jvm.MethodName)) ∈ lw_all := lw_g (lw_at lw_m3 36 rfl) rfl
theorem q2717 : (Jvm.Cond.instantiable "HamletWells$Parser" (3 : Nat)) ∈ lw_all := lw_g (lw_at lw_m11 208 rfl) rfl
theorem q2719 : (Jvm.Cond.instanceMethod ({ cls := "HamletWells$Parser", name := "<init>", desc := "(LHamletWells;)V" } : Jvm.MethodName)) ∈ lw_all := lw_g (lw_at lw_m11 210 rfl) rfl
theorem q2720 : (Jvm.Cond.code ({ cls := "HamletWells$Parser", name := "<init>", desc := "(LHamletWells;)V" } : Jvm.MethodName) prog_25_method_1_code (2 : Nat) (Option.none : Option Jvm.ClassFile.FieldType)) ∈ lw_all := lw_g (lw_at lw_m11 211 rfl) rfl
theorem q2721 : (Jvm.Cond.methodLink "HamletWells$Parser" (9 : Nat) ({ cls := "java/lang/Object", name := "<init>", desc := "()V" } : Jvm.MethodName)) ∈ lw_all := lw_g (lw_at lw_m11 212 rfl) rfl
theorem q2722 : (Jvm.Cond.classLink "HamletWells$Parser" (15 : Nat) "java/lang/String") ∈ lw_all := lw_g (lw_at lw_m11 213 rfl) rfl
theorem q2724 : (Jvm.Cond.stringRef "HamletWells$Parser" (17 : Nat) "hamlet") ∈ lw_tbl := lw_at lw_m11 215 rfl
theorem q2725 : (Jvm.Cond.stringRef "HamletWells$Parser" (19 : Nat) "site") ∈ lw_tbl := lw_at lw_m11 216 rfl
theorem q2726 : (Jvm.Cond.stringRef "HamletWells$Parser" (21 : Nat) "open") ∈ lw_tbl := lw_at lw_m11 217 rfl
theorem q2727 : (Jvm.Cond.stringRef "HamletWells$Parser" (23 : Nat) "shut") ∈ lw_tbl := lw_at lw_m11 218 rfl
theorem q2728 : (Jvm.Cond.stringRef "HamletWells$Parser" (25 : Nat) "pump") ∈ lw_tbl := lw_at lw_m11 219 rfl
theorem q2729 : (Jvm.Cond.stringRef "HamletWells$Parser" (27 : Nat) "move") ∈ lw_tbl := lw_at lw_m11 220 rfl
theorem q2730 : (Jvm.Cond.stringRef "HamletWells$Parser" (29 : Nat) "pass") ∈ lw_tbl := lw_at lw_m11 221 rfl
theorem q2731 : (Jvm.Cond.fieldLink "HamletWells$Parser" (31 : Nat) "HamletWells$Parser" "words" "[Ljava/lang/String;") ∈ lw_all := lw_g (lw_at lw_m11 222 rfl) rfl
theorem q2732 : (Jvm.Cond.fieldLink "HamletWells$Parser" (35 : Nat) "HamletWells$Parser" "at" "I") ∈ lw_all := lw_g (lw_at lw_m11 223 rfl) rfl
theorem q2733 : (Jvm.Cond.fieldLink "HamletWells$Parser" (3 : Nat) "HamletWells$Parser" "this$0" "LHamletWells;") ∈ lw_all := lw_g (lw_at lw_m11 224 rfl) rfl
theorem q2734 : (Jvm.Cond.laysFinal "HamletWells$Parser" "HamletWells$Parser" "words" "[Ljava/lang/String;") ∈ lw_all := lw_g (lw_at lw_m11 225 rfl) rfl
theorem q2735 : (Jvm.Cond.soleField "HamletWells$Parser" "words") ∈ lw_all := lw_g (lw_at lw_m11 226 rfl) rfl
theorem q2736 : (Jvm.Cond.lays "HamletWells$Parser" "HamletWells$Parser" "at" "I") ∈ lw_all := lw_g (lw_at lw_m11 227 rfl) rfl
theorem q2737 : (Jvm.Cond.soleField "HamletWells$Parser" "at") ∈ lw_all := lw_g (lw_at lw_m11 228 rfl) rfl
theorem q2738 : (Jvm.Cond.laysFinal "HamletWells$Parser" "HamletWells$Parser" "this$0" "LHamletWells;") ∈ lw_all := lw_g (lw_at lw_m11 229 rfl) rfl
theorem q2739 : (Jvm.Cond.soleField "HamletWells$Parser" "this$0") ∈ lw_all := lw_g (lw_at lw_m11 230 rfl) rfl
theorem q2740 : (Jvm.Cond.superclass "HamletWells$Parser" "java/lang/Object") ∈ lw_all := lw_g (lw_at lw_m11 231 rfl) rfl
theorem q2742 : (Jvm.Cond.instanceMethod ({ cls := "HamletWells$Parser", name := "whole", desc := "()Ljava/util/ArrayList;" } : Jvm.MethodName)) ∈ lw_all := lw_g (lw_at lw_m11 233 rfl) rfl
theorem q2743 : (Jvm.Cond.selects "HamletWells$Parser" ({ cls := "HamletWells$Parser", name := "whole", desc := "()Ljava/util/ArrayList;" } : Jvm.MethodName) ({ cls := "HamletWells$Parser", name := "whole", desc := "()Ljava/util/ArrayList;" } : Jvm.MethodName)) ∈ lw_all := lw_g (lw_at lw_m11 234 rfl) rfl
theorem q2744 : (Jvm.Cond.code ({ cls := "HamletWells$Parser", name := "whole", desc := "()Ljava/util/ArrayList;" } : Jvm.MethodName) prog_25_method_14_code (2 : Nat) (Option.some (Jvm.ClassFile.FieldType.object "java/util/ArrayList"))) ∈ lw_all := lw_g (lw_at lw_m11 235 rfl) rfl
theorem q2745 : (Jvm.Cond.classLink "HamletWells$Parser" (142 : Nat) "java/util/ArrayList") ∈ lw_all := lw_g (lw_at lw_m11 236 rfl) rfl
theorem q2746 : (Jvm.Cond.methodLink "HamletWells$Parser" (144 : Nat) ({ cls := "java/util/ArrayList", name := "<init>", desc := "()V" } : Jvm.MethodName)) ∈ lw_all := lw_g (lw_at lw_m11 237 rfl) rfl
theorem q2747 : (Jvm.Cond.methodLink "HamletWells$Parser" (145 : Nat) ({ cls := "HamletWells$Parser", name := "command", desc := "()LHamletWells$Command;" } : Jvm.MethodName)) ∈ lw_all := lw_g (lw_at lw_m11 238 rfl) rfl
theorem q2748 : (Jvm.Cond.privateMethod ({ cls := "HamletWells$Parser", name := "command", desc := "()LHamletWells$Command;" } : Jvm.MethodName)) ∈ lw_tbl := lw_at lw_m11 239 rfl
theorem q2749 : (Jvm.Cond.instanceMethod ({ cls := "HamletWells$Parser", name := "command", desc := "()LHamletWells$Command;" } : Jvm.MethodName)) ∈ lw_all := lw_g (lw_at lw_m12 0 rfl) rfl
theorem q2750 : (Jvm.Cond.code ({ cls := "HamletWells$Parser", name := "command", desc := "()LHamletWells$Command;" } : Jvm.MethodName) prog_25_method_13_code (4 : Nat) (Option.some (Jvm.ClassFile.FieldType.object "HamletWells$Command"))) ∈ lw_all := lw_g (lw_at lw_m12 1 rfl) rfl
theorem q2751 : (Jvm.Cond.methodLink "HamletWells$Parser" (114 : Nat) ({ cls := "HamletWells$Parser", name := "word", desc := "()Ljava/lang/String;" } : Jvm.MethodName)) ∈ lw_all := lw_g (lw_at lw_m12 2 rfl) rfl
theorem q2752 : (Jvm.Cond.privateMethod ({ cls := "HamletWells$Parser", name := "word", desc := "()Ljava/lang/String;" } : Jvm.MethodName)) ∈ lw_tbl := lw_at lw_m12 3 rfl
theorem q2753 : (Jvm.Cond.instanceMethod ({ cls := "HamletWells$Parser", name := "word", desc := "()Ljava/lang/String;" } : Jvm.MethodName)) ∈ lw_all := lw_g (lw_at lw_m12 4 rfl) rfl
theorem q2754 : (Jvm.Cond.code ({ cls := "HamletWells$Parser", name := "word", desc := "()Ljava/lang/String;" } : Jvm.MethodName) prog_25_method_5_code (7 : Nat) (Option.some (Jvm.ClassFile.FieldType.object "java/lang/String"))) ∈ lw_all := lw_g (lw_at lw_m12 5 rfl) rfl
theorem q2755 : (Jvm.Cond.methodLink "HamletWells$Parser" (63 : Nat) ({ cls := "HamletWells$Parser", name := "letters", desc := "(Ljava/lang/String;)I" } : Jvm.MethodName)) ∈ lw_all := lw_g (lw_at lw_m12 6 rfl) rfl
theorem q2756 : (Jvm.Cond.privateMethod ({ cls := "HamletWells$Parser", name := "letters", desc := "(Ljava/lang/String;)I" } : Jvm.MethodName)) ∈ lw_tbl := lw_at lw_m12 7 rfl
theorem q2757 : (Jvm.Cond.instanceMethod ({ cls := "HamletWells$Parser", name := "letters", desc := "(Ljava/lang/String;)I" } : Jvm.MethodName)) ∈ lw_all := lw_g (lw_at lw_m12 8 rfl) rfl
theorem q2758 : (Jvm.Cond.code ({ cls := "HamletWells$Parser", name := "letters", desc := "(Ljava/lang/String;)I" } : Jvm.MethodName) prog_25_method_4_code (3 : Nat) (Option.some Jvm.ClassFile.FieldType.int)) ∈ lw_all := lw_g (lw_at lw_m12 9 rfl) rfl
theorem q2759 : (Jvm.Cond.methodLink "HamletWells$Parser" (55 : Nat) ({ cls := "java/lang/String", name := "length", desc := "()I" } : Jvm.MethodName)) ∈ lw_all := lw_g (lw_at lw_m12 10 rfl) rfl
theorem q2760 : (Jvm.Cond.methodLink "HamletWells$Parser" (59 : Nat) ({ cls := "java/lang/String", name := "charAt", desc := "(I)C" } : Jvm.MethodName)) ∈ lw_all := lw_g (lw_at lw_m12 11 rfl) rfl
theorem q2761 : (Jvm.Cond.methodLink "HamletWells$Parser" (67 : Nat) ({ cls := "java/lang/Math", name := "max", desc := "(II)I" } : Jvm.MethodName)) ∈ lw_all := lw_g (lw_at lw_m12 12 rfl) rfl
theorem q2762 : (Jvm.Cond.classLink "HamletWells$Parser" (50 : Nat) "HamletWells$BadSign") ∈ lw_all := lw_g (lw_at lw_m12 13 rfl) rfl
theorem q2771 : (Jvm.Cond.methodLink "HamletWells$Parser" (52 : Nat) ({ cls := "HamletWells$BadSign", name := "<init>", desc := "(I)V" } : Jvm.MethodName)) ∈ lw_all := lw_g (lw_at lw_m12 22 rfl) rfl
theorem q2781 : (Jvm.Cond.methodLink "HamletWells$Parser" (118 : Nat) ({ cls := "java/lang/String", name := "hashCode", desc := "()I" } : Jvm.MethodName)) ∈ lw_all := lw_g (lw_at lw_m12 32 rfl) rfl
theorem q2782 : (Jvm.Cond.methodLink "HamletWells$Parser" (121 : Nat) ({ cls := "java/lang/String", name := "equals", desc := "(Ljava/lang/Object;)Z" } : Jvm.MethodName)) ∈ lw_all := lw_g (lw_at lw_m12 33 rfl) rfl
theorem q2783 : (Jvm.Cond.methodLink "HamletWells$Parser" (125 : Nat) ({ cls := "HamletWells$Parser", name := "settling", desc := "()LHamletWells$Command;" } : Jvm.MethodName)) ∈ lw_all := lw_g (lw_at lw_m12 34 rfl) rfl
theorem q2784 : (Jvm.Cond.privateMethod ({ cls := "HamletWells$Parser", name := "settling", desc := "()LHamletWells$Command;" } : Jvm.MethodName)) ∈ lw_tbl := lw_at lw_m12 35 rfl
theorem q2785 : (Jvm.Cond.instanceMethod ({ cls := "HamletWells$Parser", name := "settling", desc := "()LHamletWells$Command;" } : Jvm.MethodName)) ∈ lw_all := lw_g (lw_at lw_m12 36 rfl) rfl
theorem q2786 : (Jvm.Cond.code ({ cls := "HamletWells$Parser", name := "settling", desc := "()LHamletWells$Command;" } : Jvm.MethodName) prog_25_method_8_code (4 : Nat) (Option.some (Jvm.ClassFile.FieldType.object "HamletWells$Command"))) ∈ lw_all := lw_g (lw_at lw_m12 37 rfl) rfl
theorem q2787 : (Jvm.Cond.methodLink "HamletWells$Parser" (85 : Nat) ({ cls := "HamletWells$Parser", name := "number", desc := "(CI)I" } : Jvm.MethodName)) ∈ lw_all := lw_g (lw_at lw_m12 38 rfl) rfl
theorem q2788 : (Jvm.Cond.privateMethod ({ cls := "HamletWells$Parser", name := "number", desc := "(CI)I" } : Jvm.MethodName)) ∈ lw_tbl := lw_at lw_m12 39 rfl
theorem q2789 : (Jvm.Cond.instanceMethod ({ cls := "HamletWells$Parser", name := "number", desc := "(CI)I" } : Jvm.MethodName)) ∈ lw_all := lw_g (lw_at lw_m12 40 rfl) rfl
theorem q2790 : (Jvm.Cond.code ({ cls := "HamletWells$Parser", name := "number", desc := "(CI)I" } : Jvm.MethodName) prog_25_method_7_code (5 : Nat) (Option.some Jvm.ClassFile.FieldType.int)) ∈ lw_all := lw_g (lw_at lw_m12 41 rfl) rfl
theorem q2791 : (Jvm.Cond.methodLink "HamletWells$Parser" (77 : Nat) ({ cls := "HamletWells$Parser", name := "takesSign", desc := "(C)V" } : Jvm.MethodName)) ∈ lw_all := lw_g (lw_at lw_m12 42 rfl) rfl
theorem q2792 : (Jvm.Cond.privateMethod ({ cls := "HamletWells$Parser", name := "takesSign", desc := "(C)V" } : Jvm.MethodName)) ∈ lw_tbl := lw_at lw_m12 43 rfl
theorem q2793 : (Jvm.Cond.instanceMethod ({ cls := "HamletWells$Parser", name := "takesSign", desc := "(C)V" } : Jvm.MethodName)) ∈ lw_all := lw_g (lw_at lw_m12 44 rfl) rfl
theorem q2794 : (Jvm.Cond.code ({ cls := "HamletWells$Parser", name := "takesSign", desc := "(C)V" } : Jvm.MethodName) prog_25_method_3_code (2 : Nat) (Option.none : Option Jvm.ClassFile.FieldType)) ∈ lw_all := lw_g (lw_at lw_m12 45 rfl) rfl
theorem q2795 : (Jvm.Cond.methodLink "HamletWells$Parser" (46 : Nat) ({ cls := "HamletWells$Parser", name := "isSign", desc := "(C)Z" } : Jvm.MethodName)) ∈ lw_all := lw_g (lw_at lw_m12 46 rfl) rfl
theorem q2796 : (Jvm.Cond.privateMethod ({ cls := "HamletWells$Parser", name := "isSign", desc := "(C)Z" } : Jvm.MethodName)) ∈ lw_tbl := lw_at lw_m12 47 rfl
theorem q2797 : (Jvm.Cond.instanceMethod ({ cls := "HamletWells$Parser", name := "isSign", desc := "(C)Z" } : Jvm.MethodName)) ∈ lw_all := lw_g (lw_at lw_m12 48 rfl) rfl
theorem q2798 : (Jvm.Cond.code ({ cls := "HamletWells$Parser", name := "isSign", desc := "(C)Z" } : Jvm.MethodName) prog_25_method_2_code (2 : Nat) (Option.some Jvm.ClassFile.FieldType.boolean)) ∈ lw_all := lw_g (lw_at lw_m12 49 rfl) rfl
theorem q2799 : (Jvm.Cond.methodLink "HamletWells$Parser" (81 : Nat) ({ cls := "HamletWells$Parser", name := "isDigit", desc := "()Z" } : Jvm.MethodName)) ∈ lw_all := lw_g (lw_at lw_m12 50 rfl) rfl
theorem q2800 : (Jvm.Cond.privateMethod ({ cls := "HamletWells$Parser", name := "isDigit", desc := "()Z" } : Jvm.MethodName)) ∈ lw_tbl := lw_at lw_m12 51 rfl
theorem q2801 : (Jvm.Cond.instanceMethod ({ cls := "HamletWells$Parser", name := "isDigit", desc := "()Z" } : Jvm.MethodName)) ∈ lw_all := lw_g (lw_at lw_m12 52 rfl) rfl
theorem q2802 : (Jvm.Cond.code ({ cls := "HamletWells$Parser", name := "isDigit", desc := "()Z" } : Jvm.MethodName) prog_25_method_6_code (1 : Nat) (Option.some Jvm.ClassFile.FieldType.boolean)) ∈ lw_all := lw_g (lw_at lw_m12 53 rfl) rfl
theorem q2803 : (Jvm.Cond.methodLinkNest "HamletWells$Parser" (73 : Nat) ({ cls := "HamletWells", name := "in", desc := "(III)Z" } : Jvm.MethodName) "HamletWells") ∈ lw_tbl := lw_at lw_m12 54 rfl
theorem q2804 : (Jvm.Cond.classLink "HamletWells$Parser" (89 : Nat) "HamletWells$Parser$1") ∈ lw_all := lw_g (lw_at lw_m12 55 rfl) rfl
theorem q2806 : (Jvm.Cond.methodLink "HamletWells$Parser" (91 : Nat) ({ cls := "HamletWells$Parser$1", name := "<init>", desc := "(LHamletWells$Parser;III)V" } : Jvm.MethodName)) ∈ lw_all := lw_g (lw_at lw_m12 57 rfl) rfl
theorem q2826 : (Jvm.Cond.methodLink "HamletWells$Parser" (129 : Nat) ({ cls := "HamletWells$Parser", name := "finding", desc := "()LHamletWells$Command;" } : Jvm.MethodName)) ∈ lw_all := lw_g (lw_at lw_m12 77 rfl) rfl
theorem q2827 : (Jvm.Cond.privateMethod ({ cls := "HamletWells$Parser", name := "finding", desc := "()LHamletWells$Command;" } : Jvm.MethodName)) ∈ lw_tbl := lw_at lw_m12 78 rfl
theorem q2828 : (Jvm.Cond.instanceMethod ({ cls := "HamletWells$Parser", name := "finding", desc := "()LHamletWells$Command;" } : Jvm.MethodName)) ∈ lw_all := lw_g (lw_at lw_m12 79 rfl) rfl
theorem q2829 : (Jvm.Cond.code ({ cls := "HamletWells$Parser", name := "finding", desc := "()LHamletWells$Command;" } : Jvm.MethodName) prog_25_method_9_code (5 : Nat) (Option.some (Jvm.ClassFile.FieldType.object "HamletWells$Command"))) ∈ lw_all := lw_g (lw_at lw_m12 80 rfl) rfl
theorem q2830 : (Jvm.Cond.classLink "HamletWells$Parser" (94 : Nat) "HamletWells$Parser$2") ∈ lw_all := lw_g (lw_at lw_m12 81 rfl) rfl
theorem q2832 : (Jvm.Cond.methodLink "HamletWells$Parser" (96 : Nat) ({ cls := "HamletWells$Parser$2", name := "<init>", desc := "(LHamletWells$Parser;IIII)V" } : Jvm.MethodName)) ∈ lw_all := lw_g (lw_at lw_m12 83 rfl) rfl
theorem q2852 : (Jvm.Cond.methodLink "HamletWells$Parser" (132 : Nat) ({ cls := "HamletWells$Parser", name := "moving", desc := "()LHamletWells$Command;" } : Jvm.MethodName)) ∈ lw_all := lw_g (lw_at lw_m12 103 rfl) rfl
theorem q2853 : (Jvm.Cond.privateMethod ({ cls := "HamletWells$Parser", name := "moving", desc := "()LHamletWells$Command;" } : Jvm.MethodName)) ∈ lw_tbl := lw_at lw_m12 104 rfl
theorem q2854 : (Jvm.Cond.instanceMethod ({ cls := "HamletWells$Parser", name := "moving", desc := "()LHamletWells$Command;" } : Jvm.MethodName)) ∈ lw_all := lw_g (lw_at lw_m12 105 rfl) rfl
theorem q2855 : (Jvm.Cond.code ({ cls := "HamletWells$Parser", name := "moving", desc := "()LHamletWells$Command;" } : Jvm.MethodName) prog_25_method_10_code (3 : Nat) (Option.some (Jvm.ClassFile.FieldType.object "HamletWells$Command"))) ∈ lw_all := lw_g (lw_at lw_m12 106 rfl) rfl
theorem q2856 : (Jvm.Cond.classLink "HamletWells$Parser" (99 : Nat) "HamletWells$Parser$3") ∈ lw_all := lw_g (lw_at lw_m12 107 rfl) rfl
theorem q2858 : (Jvm.Cond.methodLink "HamletWells$Parser" (101 : Nat) ({ cls := "HamletWells$Parser$3", name := "<init>", desc := "(LHamletWells$Parser;II)V" } : Jvm.MethodName)) ∈ lw_all := lw_g (lw_at lw_m12 109 rfl) rfl
theorem q2872 : (Jvm.Cond.methodLink "HamletWells$Parser" (135 : Nat) ({ cls := "HamletWells$Parser", name := "passing", desc := "()LHamletWells$Command;" } : Jvm.MethodName)) ∈ lw_all := lw_g (lw_at lw_m12 123 rfl) rfl
theorem q2873 : (Jvm.Cond.privateMethod ({ cls := "HamletWells$Parser", name := "passing", desc := "()LHamletWells$Command;" } : Jvm.MethodName)) ∈ lw_tbl := lw_at lw_m12 124 rfl
theorem q2874 : (Jvm.Cond.instanceMethod ({ cls := "HamletWells$Parser", name := "passing", desc := "()LHamletWells$Command;" } : Jvm.MethodName)) ∈ lw_all := lw_g (lw_at lw_m12 125 rfl) rfl
theorem q2875 : (Jvm.Cond.code ({ cls := "HamletWells$Parser", name := "passing", desc := "()LHamletWells$Command;" } : Jvm.MethodName) prog_25_method_11_code (2 : Nat) (Option.some (Jvm.ClassFile.FieldType.object "HamletWells$Command"))) ∈ lw_all := lw_g (lw_at lw_m12 126 rfl) rfl
theorem q2876 : (Jvm.Cond.classLink "HamletWells$Parser" (104 : Nat) "HamletWells$Parser$4") ∈ lw_all := lw_g (lw_at lw_m12 127 rfl) rfl
theorem q2878 : (Jvm.Cond.methodLink "HamletWells$Parser" (106 : Nat) ({ cls := "HamletWells$Parser$4", name := "<init>", desc := "(LHamletWells$Parser;I)V" } : Jvm.MethodName)) ∈ lw_all := lw_g (lw_at lw_m12 129 rfl) rfl
theorem q2889 : (Jvm.Cond.methodLink "HamletWells$Parser" (138 : Nat) ({ cls := "HamletWells$Parser", name := "working", desc := "(Ljava/lang/String;)LHamletWells$Command;" } : Jvm.MethodName)) ∈ lw_all := lw_g (lw_at lw_m12 140 rfl) rfl
theorem q2890 : (Jvm.Cond.privateMethod ({ cls := "HamletWells$Parser", name := "working", desc := "(Ljava/lang/String;)LHamletWells$Command;" } : Jvm.MethodName)) ∈ lw_tbl := lw_at lw_m12 141 rfl
theorem q2891 : (Jvm.Cond.instanceMethod ({ cls := "HamletWells$Parser", name := "working", desc := "(Ljava/lang/String;)LHamletWells$Command;" } : Jvm.MethodName)) ∈ lw_all := lw_g (lw_at lw_m12 142 rfl) rfl
theorem q2892 : (Jvm.Cond.code ({ cls := "HamletWells$Parser", name := "working", desc := "(Ljava/lang/String;)LHamletWells$Command;" } : Jvm.MethodName) prog_25_method_12_code (3 : Nat) (Option.some (Jvm.ClassFile.FieldType.object "HamletWells$Command"))) ∈ lw_all := lw_g (lw_at lw_m12 143 rfl) rfl
theorem q2893 : (Jvm.Cond.classLink "HamletWells$Parser" (109 : Nat) "HamletWells$Parser$5") ∈ lw_all := lw_g (lw_at lw_m12 144 rfl) rfl
theorem q2895 : (Jvm.Cond.methodLink "HamletWells$Parser" (111 : Nat) ({ cls := "HamletWells$Parser$5", name := "<init>", desc := "(LHamletWells$Parser;ILjava/lang/String;)V" } : Jvm.MethodName)) ∈ lw_all := lw_g (lw_at lw_m12 146 rfl) rfl
theorem q2909 : (Jvm.Cond.methodLink "HamletWells$Parser" (148 : Nat) ({ cls := "java/util/ArrayList", name := "add", desc := "(Ljava/lang/Object;)Z" } : Jvm.MethodName)) ∈ lw_all := lw_g (lw_at lw_m12 160 rfl) rfl
theorem q3545 : (Jvm.Cond.castable "HamletWells$Parser" "java/lang/Object") ∈ lw_tbl := lw_at lw_m15 76 rfl
theorem in_X33 : ∀ w ∈ wsX330, w ∈ lw_all := lw_in wsX330 [2734, 2736, 2738] (by decide +kernel) (by decide +kernel)
/-! HamletWells$BadSign -/
set_option maxRecDepth 100000
def RX34 : String := "HamletWells$BadSign"
def TX34 : u_T := fun k => match k with
  | 0 => ("java/lang/Throwable", "cause", "Ljava/lang/Throwable;", false)
  | 1 => ("java/lang/Throwable", "stackTrace", "[Ljava/lang/StackTraceElement;", false)
  | 2 => ("java/lang/Throwable", "suppressedExceptions", "Ljava/util/List;", false)
  | 3 => ("java/lang/Throwable", "detailMessage", "Ljava/lang/String;", false)
  | 4 => ("java/lang/Throwable", "backtrace", "Ljava/lang/Object;", false)
  | 5 => ("java/lang/Throwable", "depth", "I", false)
  | _ => ("HamletWells$BadSign", "place", "I", true)
def tyX34 : Nat → FieldType := fun k => match k with
  | 0 => .object "java/lang/Throwable"
  | 1 => .array (.object "java/lang/StackTraceElement")
  | 2 => .object "java/util/List"
  | 3 => .object "java/lang/String"
  | 4 => .object "java/lang/Object"
  | 5 => .int
  | _ => .int
abbrev wsX340 : List Cond := u_ws RX34 TX34 7
theorem nmX34 : ∀ a, a < 7 → ∀ b, b < 7 → a ≠ b → (TX34 a).2.1 ≠ (TX34 b).2.1 := by decide +kernel
theorem tyX34_ok : ∀ k, k < 7 → parseFieldDescriptor (TX34 k).2.2.1 = some (tyX34 k) := by decide +kernel
abbrev cX34_init : ByteArray := prog_15_method_1_code
def yX34_init : MethodName := ⟨RX34, "<init>", "(I)V"⟩
def dkwX34_init_0 : List UInt8 := [42, 1, 1, 3, 3, 183, 0, 1, 42, 27, 181, 0, 7, 177]
abbrev dktX34_init_0 : List UInt8 := dkwX34_init_0 ++ []
theorem dksX34_init_0 : cX34_init.data.toList.drop 0 = dktX34_init_0 := by decide +kernel
theorem dX34_init_0 : decode cX34_init 0 = .ok (.aload_n 0, 1) := dk_42 (dk_at dksX34_init_0 0 rfl rfl)
theorem dX34_init_1 : decode cX34_init 1 = .ok (.aconst_null, 1) := dk_1 (dk_at dksX34_init_0 1 rfl rfl)
theorem dX34_init_2 : decode cX34_init 2 = .ok (.aconst_null, 1) := dk_1 (dk_at dksX34_init_0 2 rfl rfl)
theorem dX34_init_3 : decode cX34_init 3 = .ok (.iconst 0, 1) := dk_3 (dk_at dksX34_init_0 3 rfl rfl)
theorem dX34_init_4 : decode cX34_init 4 = .ok (.iconst 0, 1) := dk_3 (dk_at dksX34_init_0 4 rfl rfl)
theorem dX34_init_5 : decode cX34_init 5 = .ok (.invokespecial 1, 3) := dk_183 0 1 (dk_at dksX34_init_0 5 rfl rfl)
theorem dX34_init_8 : decode cX34_init 8 = .ok (.aload_n 0, 1) := dk_42 (dk_at dksX34_init_0 8 rfl rfl)
theorem dX34_init_9 : decode cX34_init 9 = .ok (.iload_n 1, 1) := dk_27 (dk_at dksX34_init_0 9 rfl rfl)
theorem dX34_init_10 : decode cX34_init 10 = .ok (.putfield 7, 3) := dk_181 0 7 (dk_at dksX34_init_0 10 rfl rfl)
theorem dX34_init_13 : decode cX34_init 13 = .ok (.return_, 1) := dk_177 (dk_at dksX34_init_0 13 rfl rfl)
theorem q182 : (Jvm.Cond.initialized "HamletWells$BadSign") ∈ lw_all := lw_g (lw_at lw_m1 73 rfl) rfl
theorem q572 : (Jvm.Cond.selects "HamletWells$BadSign" ({ cls := "java/lang/Throwable", name := "fillInStackTrace", desc := "()Ljava/lang/Throwable;" } : Jvm.MethodName) ({ cls := "java/lang/Throwable", name := "fillInStackTrace", desc := "()Ljava/lang/Throwable;" } : Jvm.MethodName)) ∈ lw_all := lw_g (lw_at lw_m2 223 rfl) rfl
theorem q596 : (Jvm.Cond.selects "HamletWells$BadSign" ({ cls := "java/lang/Throwable", name := "toString", desc := "()Ljava/lang/String;" } : Jvm.MethodName) ({ cls := "java/lang/Throwable", name := "toString", desc := "()Ljava/lang/String;" } : Jvm.MethodName)) ∈ lw_all := lw_g (lw_at lw_m3 7 rfl) rfl
theorem q617 : (Jvm.Cond.selects "HamletWells$BadSign" ({ cls := "java/lang/Object", name := "getClass", desc := "()Ljava/lang/Class;" } : Jvm.MethodName) ({ cls := "java/lang/Object", name := "getClass", desc := "()Ljava/lang/Class;" } : Jvm.MethodName)) ∈ lw_all := lw_g (lw_at lw_m3 28 rfl) rfl
theorem q664 : (Jvm.Cond.selects "HamletWells$BadSign" ({ cls := "java/lang/Throwable", name := "getLocalizedMessage", desc := "()Ljava/lang/String;" } : Jvm.MethodName) ({ cls := "java/lang/Throwable", name := "getLocalizedMessage", desc := "()Ljava/lang/String;" } : Jvm.MethodName)) ∈ lw_all := lw_g (lw_at lw_m3 75 rfl) rfl
theorem q672 : (Jvm.Cond.selects "HamletWells$BadSign" ({ cls := "java/lang/Throwable", name := "getMessage", desc := "()Ljava/lang/String;" } : Jvm.MethodName) ({ cls := "java/lang/Throwable", name := "getMessage", desc := "()Ljava/lang/String;" } : Jvm.MethodName)) ∈ lw_all := lw_g (lw_at lw_m3 83 rfl) rfl
theorem q2763 : (Jvm.Cond.instantiable "HamletWells$BadSign" (7 : Nat)) ∈ lw_all := lw_g (lw_at lw_m12 14 rfl) rfl
theorem q2764 : (Jvm.Cond.castable "HamletWells$BadSign" "HamletWells$BadSign") ∈ lw_tbl := lw_at lw_m12 15 rfl
theorem q2765 : (Jvm.Cond.selects "HamletWells$BadSign" ({ cls := "java/lang/Throwable", name := "fillInStackTrace", desc := "(I)Ljava/lang/Throwable;" } : Jvm.MethodName) ({ cls := "java/lang/Throwable", name := "fillInStackTrace", desc := "(I)Ljava/lang/Throwable;" } : Jvm.MethodName)) ∈ lw_all := lw_g (lw_at lw_m12 16 rfl) rfl
theorem q2766 : (Jvm.Cond.lays "HamletWells$BadSign" "java/lang/Throwable" "cause" "Ljava/lang/Throwable;") ∈ lw_all := lw_g (lw_at lw_m12 17 rfl) rfl
theorem q2767 : (Jvm.Cond.lays "HamletWells$BadSign" "java/lang/Throwable" "stackTrace" "[Ljava/lang/StackTraceElement;") ∈ lw_all := lw_g (lw_at lw_m12 18 rfl) rfl
theorem q2768 : (Jvm.Cond.lays "HamletWells$BadSign" "java/lang/Throwable" "suppressedExceptions" "Ljava/util/List;") ∈ lw_all := lw_g (lw_at lw_m12 19 rfl) rfl
theorem q2769 : (Jvm.Cond.lays "HamletWells$BadSign" "java/lang/Throwable" "detailMessage" "Ljava/lang/String;") ∈ lw_all := lw_g (lw_at lw_m12 20 rfl) rfl
theorem q2770 : (Jvm.Cond.lays "HamletWells$BadSign" "java/lang/Throwable" "backtrace" "Ljava/lang/Object;") ∈ lw_all := lw_g (lw_at lw_m12 21 rfl) rfl
theorem q2772 : (Jvm.Cond.instanceMethod ({ cls := "HamletWells$BadSign", name := "<init>", desc := "(I)V" } : Jvm.MethodName)) ∈ lw_all := lw_g (lw_at lw_m12 23 rfl) rfl
theorem q2773 : (Jvm.Cond.code ({ cls := "HamletWells$BadSign", name := "<init>", desc := "(I)V" } : Jvm.MethodName) prog_15_method_1_code (2 : Nat) (Option.none : Option Jvm.ClassFile.FieldType)) ∈ lw_all := lw_g (lw_at lw_m12 24 rfl) rfl
theorem q2774 : (Jvm.Cond.methodLink "HamletWells$BadSign" (1 : Nat) ({ cls := "java/lang/Exception", name := "<init>", desc := "(Ljava/lang/String;Ljava/lang/Throwable;ZZ)V" } : Jvm.MethodName)) ∈ lw_all := lw_g (lw_at lw_m12 25 rfl) rfl
theorem q2775 : (Jvm.Cond.fieldLink "HamletWells$BadSign" (7 : Nat) "HamletWells$BadSign" "place" "I") ∈ lw_all := lw_g (lw_at lw_m12 26 rfl) rfl
theorem q2777 : (Jvm.Cond.laysFinal "HamletWells$BadSign" "HamletWells$BadSign" "place" "I") ∈ lw_all := lw_g (lw_at lw_m12 28 rfl) rfl
theorem q2778 : (Jvm.Cond.soleField "HamletWells$BadSign" "place") ∈ lw_all := lw_g (lw_at lw_m12 29 rfl) rfl
theorem q2779 : (Jvm.Cond.lays "HamletWells$BadSign" "java/lang/Throwable" "depth" "I") ∈ lw_all := lw_g (lw_at lw_m12 30 rfl) rfl
theorem q2780 : (Jvm.Cond.superclass "HamletWells$BadSign" "java/lang/Exception") ∈ lw_all := lw_g (lw_at lw_m12 31 rfl) rfl
theorem q3546 : (Jvm.Cond.castable "HamletWells$BadSign" "java/lang/Object") ∈ lw_tbl := lw_at lw_m15 77 rfl
theorem in_X34 : ∀ w ∈ wsX340, w ∈ lw_all := lw_in wsX340 [2766, 2767, 2768, 2769, 2770, 2779, 2777] (by decide +kernel) (by decide +kernel)
/-! HamletWells$Command -/
set_option maxRecDepth 100000
def RX35 : String := "HamletWells$Command"
abbrev cX35_init : ByteArray := prog_18_method_1_code
def yX35_init : MethodName := ⟨RX35, "<init>", "()V"⟩
theorem dX35_init_0 : decode cX35_init 0 = .ok (.aload_n 0, 1) := by decide +kernel
theorem dX35_init_1 : decode cX35_init 1 = .ok (.invokespecial 1, 3) := by decide +kernel
theorem dX35_init_4 : decode cX35_init 4 = .ok (.return_, 1) := by decide +kernel
theorem q183 : (Jvm.Cond.initialized "HamletWells$Command") ∈ lw_all := lw_g (lw_at lw_m1 74 rfl) rfl
theorem q1183 : (Jvm.Cond.declares ({ cls := "HamletWells$Command", name := "does", desc := "(LHamletWells$Province;)I" } : Jvm.MethodName)) ∈ lw_tbl := lw_at lw_m5 114 rfl
theorem q1184 : (Jvm.Cond.sameMethod "HamletWells$Command" "HamletWells$Command" "does" "(LHamletWells$Province;)I") ∈ lw_all := lw_g (lw_at lw_m5 115 rfl) rfl
theorem q2810 : (Jvm.Cond.instanceMethod ({ cls := "HamletWells$Command", name := "<init>", desc := "()V" } : Jvm.MethodName)) ∈ lw_all := lw_g (lw_at lw_m12 61 rfl) rfl
theorem q2811 : (Jvm.Cond.code ({ cls := "HamletWells$Command", name := "<init>", desc := "()V" } : Jvm.MethodName) prog_18_method_1_code (1 : Nat) (Option.none : Option Jvm.ClassFile.FieldType)) ∈ lw_all := lw_g (lw_at lw_m12 62 rfl) rfl
theorem q2812 : (Jvm.Cond.methodLink "HamletWells$Command" (1 : Nat) ({ cls := "java/lang/Object", name := "<init>", desc := "()V" } : Jvm.MethodName)) ∈ lw_all := lw_g (lw_at lw_m12 63 rfl) rfl
/-! HamletWells$Parser$1 -/
set_option maxRecDepth 100000
def RX36 : String := "HamletWells$Parser$1"
def TX36 : u_T := fun k => match k with
  | 0 => ("HamletWells$Parser$1", "val$x", "I", true)
  | 1 => ("HamletWells$Parser$1", "val$y", "I", true)
  | 2 => ("HamletWells$Parser$1", "val$people", "I", true)
  | _ => ("HamletWells$Parser$1", "this$1", "LHamletWells$Parser;", true)
def tyX36 : Nat → FieldType := fun k => match k with
  | 0 => .int
  | 1 => .int
  | 2 => .int
  | _ => .object "HamletWells$Parser"
abbrev wsX360 : List Cond := u_ws RX36 TX36 4
theorem nmX36 : ∀ a, a < 4 → ∀ b, b < 4 → a ≠ b → (TX36 a).2.1 ≠ (TX36 b).2.1 := by decide +kernel
theorem tyX36_ok : ∀ k, k < 4 → parseFieldDescriptor (TX36 k).2.2.1 = some (tyX36 k) := by decide +kernel
abbrev cX36_does : ByteArray := prog_26_method_2_code
def yX36_does : MethodName := ⟨RX36, "does", "(LHamletWells$Province;)I"⟩
def dkwX36_does_1 : List UInt8 := [184, 0, 29, 84, 184, 0, 33, 43, 42, 180, 0, 7, 42, 180, 0, 11, 42, 180, 0, 14, 182, 0, 37, 172]
abbrev dktX36_does_1 : List UInt8 := dkwX36_does_1 ++ []
def dkwX36_does_0 : List UInt8 := [5, 188, 4, 89, 3, 42, 180, 0, 7, 42, 180, 0, 11, 184, 0, 23, 84, 89, 4, 42, 180, 0, 14]
abbrev dktX36_does_0 : List UInt8 := dkwX36_does_0 ++ dktX36_does_1
theorem dksX36_does_0 : cX36_does.data.toList.drop 0 = dktX36_does_0 := by decide +kernel
theorem dksX36_does_1 : cX36_does.data.toList.drop 23 = dktX36_does_1 := dk_seg dksX36_does_0 23 rfl rfl
theorem dX36_does_0 : decode cX36_does 0 = .ok (.iconst 2, 1) := dk_5 (dk_at dksX36_does_0 0 rfl rfl)
theorem dX36_does_1 : decode cX36_does 1 = .ok (.newarray .boolean, 2) := dk_188_4 (dk_at dksX36_does_0 1 rfl rfl)
theorem dX36_does_3 : decode cX36_does 3 = .ok (.dup, 1) := dk_89 (dk_at dksX36_does_0 3 rfl rfl)
theorem dX36_does_4 : decode cX36_does 4 = .ok (.iconst 0, 1) := dk_3 (dk_at dksX36_does_0 4 rfl rfl)
theorem dX36_does_5 : decode cX36_does 5 = .ok (.aload_n 0, 1) := dk_42 (dk_at dksX36_does_0 5 rfl rfl)
theorem dX36_does_6 : decode cX36_does 6 = .ok (.getfield 7, 3) := dk_180 0 7 (dk_at dksX36_does_0 6 rfl rfl)
theorem dX36_does_9 : decode cX36_does 9 = .ok (.aload_n 0, 1) := dk_42 (dk_at dksX36_does_0 9 rfl rfl)
theorem dX36_does_10 : decode cX36_does 10 = .ok (.getfield 11, 3) := dk_180 0 11 (dk_at dksX36_does_0 10 rfl rfl)
theorem dX36_does_13 : decode cX36_does 13 = .ok (.invokestatic 23, 3) := dk_184 0 23 (dk_at dksX36_does_0 13 rfl rfl)
theorem dX36_does_16 : decode cX36_does 16 = .ok (.bastore, 1) := dk_84 (dk_at dksX36_does_0 16 rfl rfl)
theorem dX36_does_17 : decode cX36_does 17 = .ok (.dup, 1) := dk_89 (dk_at dksX36_does_0 17 rfl rfl)
theorem dX36_does_18 : decode cX36_does 18 = .ok (.iconst 1, 1) := dk_4 (dk_at dksX36_does_0 18 rfl rfl)
theorem dX36_does_19 : decode cX36_does 19 = .ok (.aload_n 0, 1) := dk_42 (dk_at dksX36_does_0 19 rfl rfl)
theorem dX36_does_20 : decode cX36_does 20 = .ok (.getfield 14, 3) := dk_180 0 14 (dk_at dksX36_does_0 20 rfl rfl)
theorem dX36_does_23 : decode cX36_does 23 = .ok (.invokestatic 29, 3) := dk_184 0 29 (dk_at dksX36_does_1 0 rfl rfl)
theorem dX36_does_26 : decode cX36_does 26 = .ok (.bastore, 1) := dk_84 (dk_at dksX36_does_1 3 rfl rfl)
theorem dX36_does_27 : decode cX36_does 27 = .ok (.invokestatic 33, 3) := dk_184 0 33 (dk_at dksX36_does_1 4 rfl rfl)
theorem dX36_does_30 : decode cX36_does 30 = .ok (.aload_n 1, 1) := dk_43 (dk_at dksX36_does_1 7 rfl rfl)
theorem dX36_does_31 : decode cX36_does 31 = .ok (.aload_n 0, 1) := dk_42 (dk_at dksX36_does_1 8 rfl rfl)
theorem dX36_does_32 : decode cX36_does 32 = .ok (.getfield 7, 3) := dk_180 0 7 (dk_at dksX36_does_1 9 rfl rfl)
theorem dX36_does_35 : decode cX36_does 35 = .ok (.aload_n 0, 1) := dk_42 (dk_at dksX36_does_1 12 rfl rfl)
theorem dX36_does_36 : decode cX36_does 36 = .ok (.getfield 11, 3) := dk_180 0 11 (dk_at dksX36_does_1 13 rfl rfl)
theorem dX36_does_39 : decode cX36_does 39 = .ok (.aload_n 0, 1) := dk_42 (dk_at dksX36_does_1 16 rfl rfl)
theorem dX36_does_40 : decode cX36_does 40 = .ok (.getfield 14, 3) := dk_180 0 14 (dk_at dksX36_does_1 17 rfl rfl)
theorem dX36_does_43 : decode cX36_does 43 = .ok (.invokevirtual 37, 3) := dk_182 0 37 (dk_at dksX36_does_1 20 rfl rfl)
theorem dX36_does_46 : decode cX36_does 46 = .ok (.ireturn, 1) := dk_172 (dk_at dksX36_does_1 23 rfl rfl)
abbrev cX36_init : ByteArray := prog_26_method_1_code
def yX36_init : MethodName := ⟨RX36, "<init>", "(LHamletWells$Parser;III)V"⟩
def dkwX36_init_1 : List UInt8 := [183, 0, 17, 177]
abbrev dktX36_init_1 : List UInt8 := dkwX36_init_1 ++ []
def dkwX36_init_0 : List UInt8 := [42, 43, 181, 0, 1, 42, 28, 181, 0, 7, 42, 29, 181, 0, 11, 42, 21, 4, 181, 0, 14, 42]
abbrev dktX36_init_0 : List UInt8 := dkwX36_init_0 ++ dktX36_init_1
theorem dksX36_init_0 : cX36_init.data.toList.drop 0 = dktX36_init_0 := by decide +kernel
theorem dksX36_init_1 : cX36_init.data.toList.drop 22 = dktX36_init_1 := dk_seg dksX36_init_0 22 rfl rfl
theorem dX36_init_0 : decode cX36_init 0 = .ok (.aload_n 0, 1) := dk_42 (dk_at dksX36_init_0 0 rfl rfl)
theorem dX36_init_1 : decode cX36_init 1 = .ok (.aload_n 1, 1) := dk_43 (dk_at dksX36_init_0 1 rfl rfl)
theorem dX36_init_2 : decode cX36_init 2 = .ok (.putfield 1, 3) := dk_181 0 1 (dk_at dksX36_init_0 2 rfl rfl)
theorem dX36_init_5 : decode cX36_init 5 = .ok (.aload_n 0, 1) := dk_42 (dk_at dksX36_init_0 5 rfl rfl)
theorem dX36_init_6 : decode cX36_init 6 = .ok (.iload_n 2, 1) := dk_28 (dk_at dksX36_init_0 6 rfl rfl)
theorem dX36_init_7 : decode cX36_init 7 = .ok (.putfield 7, 3) := dk_181 0 7 (dk_at dksX36_init_0 7 rfl rfl)
theorem dX36_init_10 : decode cX36_init 10 = .ok (.aload_n 0, 1) := dk_42 (dk_at dksX36_init_0 10 rfl rfl)
theorem dX36_init_11 : decode cX36_init 11 = .ok (.iload_n 3, 1) := dk_29 (dk_at dksX36_init_0 11 rfl rfl)
theorem dX36_init_12 : decode cX36_init 12 = .ok (.putfield 11, 3) := dk_181 0 11 (dk_at dksX36_init_0 12 rfl rfl)
theorem dX36_init_15 : decode cX36_init 15 = .ok (.aload_n 0, 1) := dk_42 (dk_at dksX36_init_0 15 rfl rfl)
theorem dX36_init_16 : decode cX36_init 16 = .ok (.iload 4, 2) := dk_21 4 (dk_at dksX36_init_0 16 rfl rfl)
theorem dX36_init_18 : decode cX36_init 18 = .ok (.putfield 14, 3) := dk_181 0 14 (dk_at dksX36_init_0 18 rfl rfl)
theorem dX36_init_21 : decode cX36_init 21 = .ok (.aload_n 0, 1) := dk_42 (dk_at dksX36_init_0 21 rfl rfl)
theorem dX36_init_22 : decode cX36_init 22 = .ok (.invokespecial 17, 3) := dk_183 0 17 (dk_at dksX36_init_1 0 rfl rfl)
theorem dX36_init_25 : decode cX36_init 25 = .ok (.return_, 1) := dk_177 (dk_at dksX36_init_1 3 rfl rfl)
theorem q184 : (Jvm.Cond.initialized "HamletWells$Parser$1") ∈ lw_all := lw_g (lw_at lw_m1 75 rfl) rfl
theorem q626 : (Jvm.Cond.selects "HamletWells$Parser$1" ({ cls := "java/lang/Object", name := "getClass", desc := "()Ljava/lang/Class;" } : Jvm.MethodName) ({ cls := "java/lang/Object", name := "getClass", desc := "()Ljava/lang/Class;" } : Jvm.MethodName)) ∈ lw_all := lw_g (lw_at lw_m3 37 rfl) rfl
theorem q1185 : (Jvm.Cond.selects "HamletWells$Parser$1" ({ cls := "HamletWells$Command", name := "does", desc := "(LHamletWells$Province;)I" } : Jvm.MethodName) ({ cls := "HamletWells$Parser$1", name := "does", desc := "(LHamletWells$Province;)I" } : Jvm.MethodName)) ∈ lw_all := lw_g (lw_at lw_m5 116 rfl) rfl
theorem q1186 : (Jvm.Cond.instanceMethod ({ cls := "HamletWells$Parser$1", name := "does", desc := "(LHamletWells$Province;)I" } : Jvm.MethodName)) ∈ lw_all := lw_g (lw_at lw_m5 117 rfl) rfl
theorem q1187 : (Jvm.Cond.code ({ cls := "HamletWells$Parser$1", name := "does", desc := "(LHamletWells$Province;)I" } : Jvm.MethodName) prog_26_method_2_code (2 : Nat) (Option.some Jvm.ClassFile.FieldType.int)) ∈ lw_all := lw_g (lw_at lw_m5 118 rfl) rfl
theorem q1188 : (Jvm.Cond.methodLinkNest "HamletWells$Parser$1" (23 : Nat) ({ cls := "HamletWells", name := "isPlace", desc := "(II)Z" } : Jvm.MethodName) "HamletWells") ∈ lw_tbl := lw_at lw_m5 119 rfl
theorem q1189 : (Jvm.Cond.methodLinkNest "HamletWells$Parser$1" (29 : Nat) ({ cls := "HamletWells", name := "arePeople", desc := "(I)Z" } : Jvm.MethodName) "HamletWells") ∈ lw_tbl := lw_at lw_m5 120 rfl
theorem q1190 : (Jvm.Cond.methodLinkNest "HamletWells$Parser$1" (33 : Nat) ({ cls := "HamletWells", name := "inRange", desc := "([Z)V" } : Jvm.MethodName) "HamletWells") ∈ lw_tbl := lw_at lw_m5 121 rfl
theorem q1208 : (Jvm.Cond.methodLink "HamletWells$Parser$1" (37 : Nat) ({ cls := "HamletWells$Province", name := "hamlet", desc := "(III)I" } : Jvm.MethodName)) ∈ lw_all := lw_g (lw_at lw_m5 139 rfl) rfl
theorem q2805 : (Jvm.Cond.instantiable "HamletWells$Parser$1" (4 : Nat)) ∈ lw_all := lw_g (lw_at lw_m12 56 rfl) rfl
theorem q2807 : (Jvm.Cond.instanceMethod ({ cls := "HamletWells$Parser$1", name := "<init>", desc := "(LHamletWells$Parser;III)V" } : Jvm.MethodName)) ∈ lw_all := lw_g (lw_at lw_m12 58 rfl) rfl
theorem q2808 : (Jvm.Cond.code ({ cls := "HamletWells$Parser$1", name := "<init>", desc := "(LHamletWells$Parser;III)V" } : Jvm.MethodName) prog_26_method_1_code (5 : Nat) (Option.none : Option Jvm.ClassFile.FieldType)) ∈ lw_all := lw_g (lw_at lw_m12 59 rfl) rfl
theorem q2809 : (Jvm.Cond.methodLinkNest "HamletWells$Parser$1" (17 : Nat) ({ cls := "HamletWells$Command", name := "<init>", desc := "()V" } : Jvm.MethodName) "HamletWells") ∈ lw_tbl := lw_at lw_m12 60 rfl
theorem q2813 : (Jvm.Cond.fieldLink "HamletWells$Parser$1" (7 : Nat) "HamletWells$Parser$1" "val$x" "I") ∈ lw_all := lw_g (lw_at lw_m12 64 rfl) rfl
theorem q2814 : (Jvm.Cond.fieldLink "HamletWells$Parser$1" (11 : Nat) "HamletWells$Parser$1" "val$y" "I") ∈ lw_all := lw_g (lw_at lw_m12 65 rfl) rfl
theorem q2815 : (Jvm.Cond.fieldLink "HamletWells$Parser$1" (14 : Nat) "HamletWells$Parser$1" "val$people" "I") ∈ lw_all := lw_g (lw_at lw_m12 66 rfl) rfl
theorem q2816 : (Jvm.Cond.fieldLink "HamletWells$Parser$1" (1 : Nat) "HamletWells$Parser$1" "this$1" "LHamletWells$Parser;") ∈ lw_all := lw_g (lw_at lw_m12 67 rfl) rfl
theorem q2817 : (Jvm.Cond.laysFinal "HamletWells$Parser$1" "HamletWells$Parser$1" "val$x" "I") ∈ lw_all := lw_g (lw_at lw_m12 68 rfl) rfl
theorem q2818 : (Jvm.Cond.soleField "HamletWells$Parser$1" "val$x") ∈ lw_all := lw_g (lw_at lw_m12 69 rfl) rfl
theorem q2819 : (Jvm.Cond.laysFinal "HamletWells$Parser$1" "HamletWells$Parser$1" "val$y" "I") ∈ lw_all := lw_g (lw_at lw_m12 70 rfl) rfl
theorem q2820 : (Jvm.Cond.soleField "HamletWells$Parser$1" "val$y") ∈ lw_all := lw_g (lw_at lw_m12 71 rfl) rfl
theorem q2821 : (Jvm.Cond.laysFinal "HamletWells$Parser$1" "HamletWells$Parser$1" "val$people" "I") ∈ lw_all := lw_g (lw_at lw_m12 72 rfl) rfl
theorem q2822 : (Jvm.Cond.soleField "HamletWells$Parser$1" "val$people") ∈ lw_all := lw_g (lw_at lw_m12 73 rfl) rfl
theorem q2823 : (Jvm.Cond.laysFinal "HamletWells$Parser$1" "HamletWells$Parser$1" "this$1" "LHamletWells$Parser;") ∈ lw_all := lw_g (lw_at lw_m12 74 rfl) rfl
theorem q2824 : (Jvm.Cond.soleField "HamletWells$Parser$1" "this$1") ∈ lw_all := lw_g (lw_at lw_m12 75 rfl) rfl
theorem q2825 : (Jvm.Cond.superclass "HamletWells$Parser$1" "HamletWells$Command") ∈ lw_all := lw_g (lw_at lw_m12 76 rfl) rfl
theorem q3494 : (Jvm.Cond.castable "HamletWells$Parser$1" "HamletWells$Command") ∈ lw_tbl := lw_at lw_m15 25 rfl
theorem q3548 : (Jvm.Cond.castable "HamletWells$Parser$1" "java/lang/Object") ∈ lw_tbl := lw_at lw_m15 79 rfl
theorem in_X36 : ∀ w ∈ wsX360, w ∈ lw_all := lw_in wsX360 [2817, 2819, 2821, 2823] (by decide +kernel) (by decide +kernel)
/-! HamletWells$Parser$2 -/
set_option maxRecDepth 100000
def RX37 : String := "HamletWells$Parser$2"
def TX37 : u_T := fun k => match k with
  | 0 => ("HamletWells$Parser$2", "val$x", "I", true)
  | 1 => ("HamletWells$Parser$2", "val$y", "I", true)
  | 2 => ("HamletWells$Parser$2", "val$depth", "I", true)
  | 3 => ("HamletWells$Parser$2", "val$cost", "I", true)
  | _ => ("HamletWells$Parser$2", "this$1", "LHamletWells$Parser;", true)
def tyX37 : Nat → FieldType := fun k => match k with
  | 0 => .int
  | 1 => .int
  | 2 => .int
  | 3 => .int
  | _ => .object "HamletWells$Parser"
abbrev wsX370 : List Cond := u_ws RX37 TX37 5
theorem nmX37 : ∀ a, a < 5 → ∀ b, b < 5 → a ≠ b → (TX37 a).2.1 ≠ (TX37 b).2.1 := by decide +kernel
theorem tyX37_ok : ∀ k, k < 5 → parseFieldDescriptor (TX37 k).2.2.1 = some (tyX37 k) := by decide +kernel
abbrev cX37_does : ByteArray := prog_27_method_2_code
def yX37_does : MethodName := ⟨RX37, "does", "(LHamletWells$Province;)I"⟩
def dkwX37_does_2 : List UInt8 := [180, 0, 17, 182, 0, 39, 172]
abbrev dktX37_does_2 : List UInt8 := dkwX37_does_2 ++ []
def dkwX37_does_1 : List UInt8 := [180, 0, 17, 184, 0, 32, 84, 184, 0, 35, 43, 42, 180, 0, 7, 42, 180, 0, 11, 42, 180, 0, 14, 42]
abbrev dktX37_does_1 : List UInt8 := dkwX37_does_1 ++ dktX37_does_2
def dkwX37_does_0 : List UInt8 := [5, 188, 4, 89, 3, 42, 180, 0, 7, 42, 180, 0, 11, 184, 0, 26, 84, 89, 4, 42, 180, 0, 14, 42]
abbrev dktX37_does_0 : List UInt8 := dkwX37_does_0 ++ dktX37_does_1
theorem dksX37_does_0 : cX37_does.data.toList.drop 0 = dktX37_does_0 := by decide +kernel
theorem dksX37_does_1 : cX37_does.data.toList.drop 24 = dktX37_does_1 := dk_seg dksX37_does_0 24 rfl rfl
theorem dksX37_does_2 : cX37_does.data.toList.drop 48 = dktX37_does_2 := dk_seg dksX37_does_1 24 rfl rfl
theorem dX37_does_0 : decode cX37_does 0 = .ok (.iconst 2, 1) := dk_5 (dk_at dksX37_does_0 0 rfl rfl)
theorem dX37_does_1 : decode cX37_does 1 = .ok (.newarray .boolean, 2) := dk_188_4 (dk_at dksX37_does_0 1 rfl rfl)
theorem dX37_does_3 : decode cX37_does 3 = .ok (.dup, 1) := dk_89 (dk_at dksX37_does_0 3 rfl rfl)
theorem dX37_does_4 : decode cX37_does 4 = .ok (.iconst 0, 1) := dk_3 (dk_at dksX37_does_0 4 rfl rfl)
theorem dX37_does_5 : decode cX37_does 5 = .ok (.aload_n 0, 1) := dk_42 (dk_at dksX37_does_0 5 rfl rfl)
theorem dX37_does_6 : decode cX37_does 6 = .ok (.getfield 7, 3) := dk_180 0 7 (dk_at dksX37_does_0 6 rfl rfl)
theorem dX37_does_9 : decode cX37_does 9 = .ok (.aload_n 0, 1) := dk_42 (dk_at dksX37_does_0 9 rfl rfl)
theorem dX37_does_10 : decode cX37_does 10 = .ok (.getfield 11, 3) := dk_180 0 11 (dk_at dksX37_does_0 10 rfl rfl)
theorem dX37_does_13 : decode cX37_does 13 = .ok (.invokestatic 26, 3) := dk_184 0 26 (dk_at dksX37_does_0 13 rfl rfl)
theorem dX37_does_16 : decode cX37_does 16 = .ok (.bastore, 1) := dk_84 (dk_at dksX37_does_0 16 rfl rfl)
theorem dX37_does_17 : decode cX37_does 17 = .ok (.dup, 1) := dk_89 (dk_at dksX37_does_0 17 rfl rfl)
theorem dX37_does_18 : decode cX37_does 18 = .ok (.iconst 1, 1) := dk_4 (dk_at dksX37_does_0 18 rfl rfl)
theorem dX37_does_19 : decode cX37_does 19 = .ok (.aload_n 0, 1) := dk_42 (dk_at dksX37_does_0 19 rfl rfl)
theorem dX37_does_20 : decode cX37_does 20 = .ok (.getfield 14, 3) := dk_180 0 14 (dk_at dksX37_does_0 20 rfl rfl)
theorem dX37_does_23 : decode cX37_does 23 = .ok (.aload_n 0, 1) := dk_42 (dk_at dksX37_does_0 23 rfl rfl)
theorem dX37_does_24 : decode cX37_does 24 = .ok (.getfield 17, 3) := dk_180 0 17 (dk_at dksX37_does_1 0 rfl rfl)
theorem dX37_does_27 : decode cX37_does 27 = .ok (.invokestatic 32, 3) := dk_184 0 32 (dk_at dksX37_does_1 3 rfl rfl)
theorem dX37_does_30 : decode cX37_does 30 = .ok (.bastore, 1) := dk_84 (dk_at dksX37_does_1 6 rfl rfl)
theorem dX37_does_31 : decode cX37_does 31 = .ok (.invokestatic 35, 3) := dk_184 0 35 (dk_at dksX37_does_1 7 rfl rfl)
theorem dX37_does_34 : decode cX37_does 34 = .ok (.aload_n 1, 1) := dk_43 (dk_at dksX37_does_1 10 rfl rfl)
theorem dX37_does_35 : decode cX37_does 35 = .ok (.aload_n 0, 1) := dk_42 (dk_at dksX37_does_1 11 rfl rfl)
theorem dX37_does_36 : decode cX37_does 36 = .ok (.getfield 7, 3) := dk_180 0 7 (dk_at dksX37_does_1 12 rfl rfl)
theorem dX37_does_39 : decode cX37_does 39 = .ok (.aload_n 0, 1) := dk_42 (dk_at dksX37_does_1 15 rfl rfl)
theorem dX37_does_40 : decode cX37_does 40 = .ok (.getfield 11, 3) := dk_180 0 11 (dk_at dksX37_does_1 16 rfl rfl)
theorem dX37_does_43 : decode cX37_does 43 = .ok (.aload_n 0, 1) := dk_42 (dk_at dksX37_does_1 19 rfl rfl)
theorem dX37_does_44 : decode cX37_does 44 = .ok (.getfield 14, 3) := dk_180 0 14 (dk_at dksX37_does_1 20 rfl rfl)
theorem dX37_does_47 : decode cX37_does 47 = .ok (.aload_n 0, 1) := dk_42 (dk_at dksX37_does_1 23 rfl rfl)
theorem dX37_does_48 : decode cX37_does 48 = .ok (.getfield 17, 3) := dk_180 0 17 (dk_at dksX37_does_2 0 rfl rfl)
theorem dX37_does_51 : decode cX37_does 51 = .ok (.invokevirtual 39, 3) := dk_182 0 39 (dk_at dksX37_does_2 3 rfl rfl)
theorem dX37_does_54 : decode cX37_does 54 = .ok (.ireturn, 1) := dk_172 (dk_at dksX37_does_2 6 rfl rfl)
abbrev cX37_init : ByteArray := prog_27_method_1_code
def yX37_init : MethodName := ⟨RX37, "<init>", "(LHamletWells$Parser;IIII)V"⟩
def dkwX37_init_1 : List UInt8 := [181, 0, 17, 42, 183, 0, 20, 177]
abbrev dktX37_init_1 : List UInt8 := dkwX37_init_1 ++ []
def dkwX37_init_0 : List UInt8 := [42, 43, 181, 0, 1, 42, 28, 181, 0, 7, 42, 29, 181, 0, 11, 42, 21, 4, 181, 0, 14, 42, 21, 5]
abbrev dktX37_init_0 : List UInt8 := dkwX37_init_0 ++ dktX37_init_1
theorem dksX37_init_0 : cX37_init.data.toList.drop 0 = dktX37_init_0 := by decide +kernel
theorem dksX37_init_1 : cX37_init.data.toList.drop 24 = dktX37_init_1 := dk_seg dksX37_init_0 24 rfl rfl
theorem dX37_init_0 : decode cX37_init 0 = .ok (.aload_n 0, 1) := dk_42 (dk_at dksX37_init_0 0 rfl rfl)
theorem dX37_init_1 : decode cX37_init 1 = .ok (.aload_n 1, 1) := dk_43 (dk_at dksX37_init_0 1 rfl rfl)
theorem dX37_init_2 : decode cX37_init 2 = .ok (.putfield 1, 3) := dk_181 0 1 (dk_at dksX37_init_0 2 rfl rfl)
theorem dX37_init_5 : decode cX37_init 5 = .ok (.aload_n 0, 1) := dk_42 (dk_at dksX37_init_0 5 rfl rfl)
theorem dX37_init_6 : decode cX37_init 6 = .ok (.iload_n 2, 1) := dk_28 (dk_at dksX37_init_0 6 rfl rfl)
theorem dX37_init_7 : decode cX37_init 7 = .ok (.putfield 7, 3) := dk_181 0 7 (dk_at dksX37_init_0 7 rfl rfl)
theorem dX37_init_10 : decode cX37_init 10 = .ok (.aload_n 0, 1) := dk_42 (dk_at dksX37_init_0 10 rfl rfl)
theorem dX37_init_11 : decode cX37_init 11 = .ok (.iload_n 3, 1) := dk_29 (dk_at dksX37_init_0 11 rfl rfl)
theorem dX37_init_12 : decode cX37_init 12 = .ok (.putfield 11, 3) := dk_181 0 11 (dk_at dksX37_init_0 12 rfl rfl)
theorem dX37_init_15 : decode cX37_init 15 = .ok (.aload_n 0, 1) := dk_42 (dk_at dksX37_init_0 15 rfl rfl)
theorem dX37_init_16 : decode cX37_init 16 = .ok (.iload 4, 2) := dk_21 4 (dk_at dksX37_init_0 16 rfl rfl)
theorem dX37_init_18 : decode cX37_init 18 = .ok (.putfield 14, 3) := dk_181 0 14 (dk_at dksX37_init_0 18 rfl rfl)
theorem dX37_init_21 : decode cX37_init 21 = .ok (.aload_n 0, 1) := dk_42 (dk_at dksX37_init_0 21 rfl rfl)
theorem dX37_init_22 : decode cX37_init 22 = .ok (.iload 5, 2) := dk_21 5 (dk_at dksX37_init_0 22 rfl rfl)
theorem dX37_init_24 : decode cX37_init 24 = .ok (.putfield 17, 3) := dk_181 0 17 (dk_at dksX37_init_1 0 rfl rfl)
theorem dX37_init_27 : decode cX37_init 27 = .ok (.aload_n 0, 1) := dk_42 (dk_at dksX37_init_1 3 rfl rfl)
theorem dX37_init_28 : decode cX37_init 28 = .ok (.invokespecial 20, 3) := dk_183 0 20 (dk_at dksX37_init_1 4 rfl rfl)
theorem dX37_init_31 : decode cX37_init 31 = .ok (.return_, 1) := dk_177 (dk_at dksX37_init_1 7 rfl rfl)
theorem q185 : (Jvm.Cond.initialized "HamletWells$Parser$2") ∈ lw_all := lw_g (lw_at lw_m1 76 rfl) rfl
theorem q627 : (Jvm.Cond.selects "HamletWells$Parser$2" ({ cls := "java/lang/Object", name := "getClass", desc := "()Ljava/lang/Class;" } : Jvm.MethodName) ({ cls := "java/lang/Object", name := "getClass", desc := "()Ljava/lang/Class;" } : Jvm.MethodName)) ∈ lw_all := lw_g (lw_at lw_m3 38 rfl) rfl
theorem q1209 : (Jvm.Cond.selects "HamletWells$Parser$2" ({ cls := "HamletWells$Command", name := "does", desc := "(LHamletWells$Province;)I" } : Jvm.MethodName) ({ cls := "HamletWells$Parser$2", name := "does", desc := "(LHamletWells$Province;)I" } : Jvm.MethodName)) ∈ lw_all := lw_g (lw_at lw_m5 140 rfl) rfl
theorem q1210 : (Jvm.Cond.instanceMethod ({ cls := "HamletWells$Parser$2", name := "does", desc := "(LHamletWells$Province;)I" } : Jvm.MethodName)) ∈ lw_all := lw_g (lw_at lw_m5 141 rfl) rfl
theorem q1211 : (Jvm.Cond.code ({ cls := "HamletWells$Parser$2", name := "does", desc := "(LHamletWells$Province;)I" } : Jvm.MethodName) prog_27_method_2_code (2 : Nat) (Option.some Jvm.ClassFile.FieldType.int)) ∈ lw_all := lw_g (lw_at lw_m5 142 rfl) rfl
theorem q1212 : (Jvm.Cond.methodLinkNest "HamletWells$Parser$2" (26 : Nat) ({ cls := "HamletWells", name := "isPlace", desc := "(II)Z" } : Jvm.MethodName) "HamletWells") ∈ lw_tbl := lw_at lw_m5 143 rfl
theorem q1213 : (Jvm.Cond.methodLinkNest "HamletWells$Parser$2" (32 : Nat) ({ cls := "HamletWells", name := "isSite", desc := "(II)Z" } : Jvm.MethodName) "HamletWells") ∈ lw_tbl := lw_at lw_m5 144 rfl
theorem q1216 : (Jvm.Cond.methodLinkNest "HamletWells$Parser$2" (35 : Nat) ({ cls := "HamletWells", name := "inRange", desc := "([Z)V" } : Jvm.MethodName) "HamletWells") ∈ lw_tbl := lw_at lw_m5 147 rfl
theorem q1217 : (Jvm.Cond.methodLink "HamletWells$Parser$2" (39 : Nat) ({ cls := "HamletWells$Province", name := "site", desc := "(IIII)I" } : Jvm.MethodName)) ∈ lw_all := lw_g (lw_at lw_m5 148 rfl) rfl
theorem q2831 : (Jvm.Cond.instantiable "HamletWells$Parser$2" (5 : Nat)) ∈ lw_all := lw_g (lw_at lw_m12 82 rfl) rfl
theorem q2833 : (Jvm.Cond.instanceMethod ({ cls := "HamletWells$Parser$2", name := "<init>", desc := "(LHamletWells$Parser;IIII)V" } : Jvm.MethodName)) ∈ lw_all := lw_g (lw_at lw_m12 84 rfl) rfl
theorem q2834 : (Jvm.Cond.code ({ cls := "HamletWells$Parser$2", name := "<init>", desc := "(LHamletWells$Parser;IIII)V" } : Jvm.MethodName) prog_27_method_1_code (6 : Nat) (Option.none : Option Jvm.ClassFile.FieldType)) ∈ lw_all := lw_g (lw_at lw_m12 85 rfl) rfl
theorem q2835 : (Jvm.Cond.methodLinkNest "HamletWells$Parser$2" (20 : Nat) ({ cls := "HamletWells$Command", name := "<init>", desc := "()V" } : Jvm.MethodName) "HamletWells") ∈ lw_tbl := lw_at lw_m12 86 rfl
theorem q2836 : (Jvm.Cond.fieldLink "HamletWells$Parser$2" (7 : Nat) "HamletWells$Parser$2" "val$x" "I") ∈ lw_all := lw_g (lw_at lw_m12 87 rfl) rfl
theorem q2837 : (Jvm.Cond.fieldLink "HamletWells$Parser$2" (11 : Nat) "HamletWells$Parser$2" "val$y" "I") ∈ lw_all := lw_g (lw_at lw_m12 88 rfl) rfl
theorem q2838 : (Jvm.Cond.fieldLink "HamletWells$Parser$2" (14 : Nat) "HamletWells$Parser$2" "val$depth" "I") ∈ lw_all := lw_g (lw_at lw_m12 89 rfl) rfl
theorem q2839 : (Jvm.Cond.fieldLink "HamletWells$Parser$2" (17 : Nat) "HamletWells$Parser$2" "val$cost" "I") ∈ lw_all := lw_g (lw_at lw_m12 90 rfl) rfl
theorem q2840 : (Jvm.Cond.fieldLink "HamletWells$Parser$2" (1 : Nat) "HamletWells$Parser$2" "this$1" "LHamletWells$Parser;") ∈ lw_all := lw_g (lw_at lw_m12 91 rfl) rfl
theorem q2841 : (Jvm.Cond.laysFinal "HamletWells$Parser$2" "HamletWells$Parser$2" "val$x" "I") ∈ lw_all := lw_g (lw_at lw_m12 92 rfl) rfl
theorem q2842 : (Jvm.Cond.soleField "HamletWells$Parser$2" "val$x") ∈ lw_all := lw_g (lw_at lw_m12 93 rfl) rfl
theorem q2843 : (Jvm.Cond.laysFinal "HamletWells$Parser$2" "HamletWells$Parser$2" "val$y" "I") ∈ lw_all := lw_g (lw_at lw_m12 94 rfl) rfl
theorem q2844 : (Jvm.Cond.soleField "HamletWells$Parser$2" "val$y") ∈ lw_all := lw_g (lw_at lw_m12 95 rfl) rfl
theorem q2845 : (Jvm.Cond.laysFinal "HamletWells$Parser$2" "HamletWells$Parser$2" "val$depth" "I") ∈ lw_all := lw_g (lw_at lw_m12 96 rfl) rfl
theorem q2846 : (Jvm.Cond.soleField "HamletWells$Parser$2" "val$depth") ∈ lw_all := lw_g (lw_at lw_m12 97 rfl) rfl
theorem q2847 : (Jvm.Cond.laysFinal "HamletWells$Parser$2" "HamletWells$Parser$2" "val$cost" "I") ∈ lw_all := lw_g (lw_at lw_m12 98 rfl) rfl
theorem q2848 : (Jvm.Cond.soleField "HamletWells$Parser$2" "val$cost") ∈ lw_all := lw_g (lw_at lw_m12 99 rfl) rfl
theorem q2849 : (Jvm.Cond.laysFinal "HamletWells$Parser$2" "HamletWells$Parser$2" "this$1" "LHamletWells$Parser;") ∈ lw_all := lw_g (lw_at lw_m12 100 rfl) rfl
theorem q2850 : (Jvm.Cond.soleField "HamletWells$Parser$2" "this$1") ∈ lw_all := lw_g (lw_at lw_m12 101 rfl) rfl
theorem q2851 : (Jvm.Cond.superclass "HamletWells$Parser$2" "HamletWells$Command") ∈ lw_all := lw_g (lw_at lw_m12 102 rfl) rfl
theorem q3495 : (Jvm.Cond.castable "HamletWells$Parser$2" "HamletWells$Command") ∈ lw_tbl := lw_at lw_m15 26 rfl
theorem q3549 : (Jvm.Cond.castable "HamletWells$Parser$2" "java/lang/Object") ∈ lw_tbl := lw_at lw_m15 80 rfl
theorem in_X37 : ∀ w ∈ wsX370, w ∈ lw_all := lw_in wsX370 [2841, 2843, 2845, 2847, 2849] (by decide +kernel) (by decide +kernel)
/-! HamletWells$Parser$3 -/
set_option maxRecDepth 100000
def RX38 : String := "HamletWells$Parser$3"
def TX38 : u_T := fun k => match k with
  | 0 => ("HamletWells$Parser$3", "val$from", "I", true)
  | 1 => ("HamletWells$Parser$3", "val$to", "I", true)
  | _ => ("HamletWells$Parser$3", "this$1", "LHamletWells$Parser;", true)
def tyX38 : Nat → FieldType := fun k => match k with
  | 0 => .int
  | 1 => .int
  | _ => .object "HamletWells$Parser"
abbrev wsX380 : List Cond := u_ws RX38 TX38 3
theorem nmX38 : ∀ a, a < 3 → ∀ b, b < 3 → a ≠ b → (TX38 a).2.1 ≠ (TX38 b).2.1 := by decide +kernel
theorem tyX38_ok : ∀ k, k < 3 → parseFieldDescriptor (TX38 k).2.2.1 = some (tyX38 k) := by decide +kernel
abbrev cX38_does : ByteArray := prog_28_method_2_code
def yX38_does : MethodName := ⟨RX38, "does", "(LHamletWells$Province;)I"⟩
def dkwX38_does_1 : List UInt8 := [180, 0, 11, 182, 0, 26, 84, 184, 0, 32, 43, 42, 180, 0, 7, 42, 180, 0, 11, 182, 0, 38, 172]
abbrev dktX38_does_1 : List UInt8 := dkwX38_does_1 ++ []
def dkwX38_does_0 : List UInt8 := [5, 188, 4, 89, 3, 43, 180, 0, 20, 42, 180, 0, 7, 182, 0, 26, 84, 89, 4, 43, 180, 0, 20, 42]
abbrev dktX38_does_0 : List UInt8 := dkwX38_does_0 ++ dktX38_does_1
theorem dksX38_does_0 : cX38_does.data.toList.drop 0 = dktX38_does_0 := by decide +kernel
theorem dksX38_does_1 : cX38_does.data.toList.drop 24 = dktX38_does_1 := dk_seg dksX38_does_0 24 rfl rfl
theorem dX38_does_0 : decode cX38_does 0 = .ok (.iconst 2, 1) := dk_5 (dk_at dksX38_does_0 0 rfl rfl)
theorem dX38_does_1 : decode cX38_does 1 = .ok (.newarray .boolean, 2) := dk_188_4 (dk_at dksX38_does_0 1 rfl rfl)
theorem dX38_does_3 : decode cX38_does 3 = .ok (.dup, 1) := dk_89 (dk_at dksX38_does_0 3 rfl rfl)
theorem dX38_does_4 : decode cX38_does 4 = .ok (.iconst 0, 1) := dk_3 (dk_at dksX38_does_0 4 rfl rfl)
theorem dX38_does_5 : decode cX38_does 5 = .ok (.aload_n 1, 1) := dk_43 (dk_at dksX38_does_0 5 rfl rfl)
theorem dX38_does_6 : decode cX38_does 6 = .ok (.getfield 20, 3) := dk_180 0 20 (dk_at dksX38_does_0 6 rfl rfl)
theorem dX38_does_9 : decode cX38_does 9 = .ok (.aload_n 0, 1) := dk_42 (dk_at dksX38_does_0 9 rfl rfl)
theorem dX38_does_10 : decode cX38_does 10 = .ok (.getfield 7, 3) := dk_180 0 7 (dk_at dksX38_does_0 10 rfl rfl)
theorem dX38_does_13 : decode cX38_does 13 = .ok (.invokevirtual 26, 3) := dk_182 0 26 (dk_at dksX38_does_0 13 rfl rfl)
theorem dX38_does_16 : decode cX38_does 16 = .ok (.bastore, 1) := dk_84 (dk_at dksX38_does_0 16 rfl rfl)
theorem dX38_does_17 : decode cX38_does 17 = .ok (.dup, 1) := dk_89 (dk_at dksX38_does_0 17 rfl rfl)
theorem dX38_does_18 : decode cX38_does 18 = .ok (.iconst 1, 1) := dk_4 (dk_at dksX38_does_0 18 rfl rfl)
theorem dX38_does_19 : decode cX38_does 19 = .ok (.aload_n 1, 1) := dk_43 (dk_at dksX38_does_0 19 rfl rfl)
theorem dX38_does_20 : decode cX38_does 20 = .ok (.getfield 20, 3) := dk_180 0 20 (dk_at dksX38_does_0 20 rfl rfl)
theorem dX38_does_23 : decode cX38_does 23 = .ok (.aload_n 0, 1) := dk_42 (dk_at dksX38_does_0 23 rfl rfl)
theorem dX38_does_24 : decode cX38_does 24 = .ok (.getfield 11, 3) := dk_180 0 11 (dk_at dksX38_does_1 0 rfl rfl)
theorem dX38_does_27 : decode cX38_does 27 = .ok (.invokevirtual 26, 3) := dk_182 0 26 (dk_at dksX38_does_1 3 rfl rfl)
theorem dX38_does_30 : decode cX38_does 30 = .ok (.bastore, 1) := dk_84 (dk_at dksX38_does_1 6 rfl rfl)
theorem dX38_does_31 : decode cX38_does 31 = .ok (.invokestatic 32, 3) := dk_184 0 32 (dk_at dksX38_does_1 7 rfl rfl)
theorem dX38_does_34 : decode cX38_does 34 = .ok (.aload_n 1, 1) := dk_43 (dk_at dksX38_does_1 10 rfl rfl)
theorem dX38_does_35 : decode cX38_does 35 = .ok (.aload_n 0, 1) := dk_42 (dk_at dksX38_does_1 11 rfl rfl)
theorem dX38_does_36 : decode cX38_does 36 = .ok (.getfield 7, 3) := dk_180 0 7 (dk_at dksX38_does_1 12 rfl rfl)
theorem dX38_does_39 : decode cX38_does 39 = .ok (.aload_n 0, 1) := dk_42 (dk_at dksX38_does_1 15 rfl rfl)
theorem dX38_does_40 : decode cX38_does 40 = .ok (.getfield 11, 3) := dk_180 0 11 (dk_at dksX38_does_1 16 rfl rfl)
theorem dX38_does_43 : decode cX38_does 43 = .ok (.invokevirtual 38, 3) := dk_182 0 38 (dk_at dksX38_does_1 19 rfl rfl)
theorem dX38_does_46 : decode cX38_does 46 = .ok (.ireturn, 1) := dk_172 (dk_at dksX38_does_1 22 rfl rfl)
abbrev cX38_init : ByteArray := prog_28_method_1_code
def yX38_init : MethodName := ⟨RX38, "<init>", "(LHamletWells$Parser;II)V"⟩
def dkwX38_init_0 : List UInt8 := [42, 43, 181, 0, 1, 42, 28, 181, 0, 7, 42, 29, 181, 0, 11, 42, 183, 0, 14, 177]
abbrev dktX38_init_0 : List UInt8 := dkwX38_init_0 ++ []
theorem dksX38_init_0 : cX38_init.data.toList.drop 0 = dktX38_init_0 := by decide +kernel
theorem dX38_init_0 : decode cX38_init 0 = .ok (.aload_n 0, 1) := dk_42 (dk_at dksX38_init_0 0 rfl rfl)
theorem dX38_init_1 : decode cX38_init 1 = .ok (.aload_n 1, 1) := dk_43 (dk_at dksX38_init_0 1 rfl rfl)
theorem dX38_init_2 : decode cX38_init 2 = .ok (.putfield 1, 3) := dk_181 0 1 (dk_at dksX38_init_0 2 rfl rfl)
theorem dX38_init_5 : decode cX38_init 5 = .ok (.aload_n 0, 1) := dk_42 (dk_at dksX38_init_0 5 rfl rfl)
theorem dX38_init_6 : decode cX38_init 6 = .ok (.iload_n 2, 1) := dk_28 (dk_at dksX38_init_0 6 rfl rfl)
theorem dX38_init_7 : decode cX38_init 7 = .ok (.putfield 7, 3) := dk_181 0 7 (dk_at dksX38_init_0 7 rfl rfl)
theorem dX38_init_10 : decode cX38_init 10 = .ok (.aload_n 0, 1) := dk_42 (dk_at dksX38_init_0 10 rfl rfl)
theorem dX38_init_11 : decode cX38_init 11 = .ok (.iload_n 3, 1) := dk_29 (dk_at dksX38_init_0 11 rfl rfl)
theorem dX38_init_12 : decode cX38_init 12 = .ok (.putfield 11, 3) := dk_181 0 11 (dk_at dksX38_init_0 12 rfl rfl)
theorem dX38_init_15 : decode cX38_init 15 = .ok (.aload_n 0, 1) := dk_42 (dk_at dksX38_init_0 15 rfl rfl)
theorem dX38_init_16 : decode cX38_init 16 = .ok (.invokespecial 14, 3) := dk_183 0 14 (dk_at dksX38_init_0 16 rfl rfl)
theorem dX38_init_19 : decode cX38_init 19 = .ok (.return_, 1) := dk_177 (dk_at dksX38_init_0 19 rfl rfl)
theorem q186 : (Jvm.Cond.initialized "HamletWells$Parser$3") ∈ lw_all := lw_g (lw_at lw_m1 77 rfl) rfl
theorem q253 : (Jvm.Cond.fieldLinkNest "HamletWells$Parser$3" (20 : Nat) "HamletWells$Province" "sites" "LHamletWells$Row;" "HamletWells") ∈ lw_tbl := lw_at lw_m1 144 rfl
theorem q628 : (Jvm.Cond.selects "HamletWells$Parser$3" ({ cls := "java/lang/Object", name := "getClass", desc := "()Ljava/lang/Class;" } : Jvm.MethodName) ({ cls := "java/lang/Object", name := "getClass", desc := "()Ljava/lang/Class;" } : Jvm.MethodName)) ∈ lw_all := lw_g (lw_at lw_m3 39 rfl) rfl
theorem q1222 : (Jvm.Cond.selects "HamletWells$Parser$3" ({ cls := "HamletWells$Command", name := "does", desc := "(LHamletWells$Province;)I" } : Jvm.MethodName) ({ cls := "HamletWells$Parser$3", name := "does", desc := "(LHamletWells$Province;)I" } : Jvm.MethodName)) ∈ lw_all := lw_g (lw_at lw_m5 153 rfl) rfl
theorem q1223 : (Jvm.Cond.instanceMethod ({ cls := "HamletWells$Parser$3", name := "does", desc := "(LHamletWells$Province;)I" } : Jvm.MethodName)) ∈ lw_all := lw_g (lw_at lw_m5 154 rfl) rfl
theorem q1224 : (Jvm.Cond.code ({ cls := "HamletWells$Parser$3", name := "does", desc := "(LHamletWells$Province;)I" } : Jvm.MethodName) prog_28_method_2_code (2 : Nat) (Option.some Jvm.ClassFile.FieldType.int)) ∈ lw_all := lw_g (lw_at lw_m5 155 rfl) rfl
theorem q1225 : (Jvm.Cond.methodLink "HamletWells$Parser$3" (26 : Nat) ({ cls := "HamletWells$Row", name := "has", desc := "(I)Z" } : Jvm.MethodName)) ∈ lw_all := lw_g (lw_at lw_m5 156 rfl) rfl
theorem q1230 : (Jvm.Cond.methodLinkNest "HamletWells$Parser$3" (32 : Nat) ({ cls := "HamletWells", name := "inRange", desc := "([Z)V" } : Jvm.MethodName) "HamletWells") ∈ lw_tbl := lw_at lw_m5 161 rfl
theorem q1231 : (Jvm.Cond.methodLink "HamletWells$Parser$3" (38 : Nat) ({ cls := "HamletWells$Province", name := "moves", desc := "(II)I" } : Jvm.MethodName)) ∈ lw_all := lw_g (lw_at lw_m5 162 rfl) rfl
theorem q2857 : (Jvm.Cond.instantiable "HamletWells$Parser$3" (3 : Nat)) ∈ lw_all := lw_g (lw_at lw_m12 108 rfl) rfl
theorem q2859 : (Jvm.Cond.instanceMethod ({ cls := "HamletWells$Parser$3", name := "<init>", desc := "(LHamletWells$Parser;II)V" } : Jvm.MethodName)) ∈ lw_all := lw_g (lw_at lw_m12 110 rfl) rfl
theorem q2860 : (Jvm.Cond.code ({ cls := "HamletWells$Parser$3", name := "<init>", desc := "(LHamletWells$Parser;II)V" } : Jvm.MethodName) prog_28_method_1_code (4 : Nat) (Option.none : Option Jvm.ClassFile.FieldType)) ∈ lw_all := lw_g (lw_at lw_m12 111 rfl) rfl
theorem q2861 : (Jvm.Cond.methodLinkNest "HamletWells$Parser$3" (14 : Nat) ({ cls := "HamletWells$Command", name := "<init>", desc := "()V" } : Jvm.MethodName) "HamletWells") ∈ lw_tbl := lw_at lw_m12 112 rfl
theorem q2862 : (Jvm.Cond.fieldLink "HamletWells$Parser$3" (7 : Nat) "HamletWells$Parser$3" "val$from" "I") ∈ lw_all := lw_g (lw_at lw_m12 113 rfl) rfl
theorem q2863 : (Jvm.Cond.fieldLink "HamletWells$Parser$3" (11 : Nat) "HamletWells$Parser$3" "val$to" "I") ∈ lw_all := lw_g (lw_at lw_m12 114 rfl) rfl
theorem q2864 : (Jvm.Cond.fieldLink "HamletWells$Parser$3" (1 : Nat) "HamletWells$Parser$3" "this$1" "LHamletWells$Parser;") ∈ lw_all := lw_g (lw_at lw_m12 115 rfl) rfl
theorem q2865 : (Jvm.Cond.laysFinal "HamletWells$Parser$3" "HamletWells$Parser$3" "val$from" "I") ∈ lw_all := lw_g (lw_at lw_m12 116 rfl) rfl
theorem q2866 : (Jvm.Cond.soleField "HamletWells$Parser$3" "val$from") ∈ lw_all := lw_g (lw_at lw_m12 117 rfl) rfl
theorem q2867 : (Jvm.Cond.laysFinal "HamletWells$Parser$3" "HamletWells$Parser$3" "val$to" "I") ∈ lw_all := lw_g (lw_at lw_m12 118 rfl) rfl
theorem q2868 : (Jvm.Cond.soleField "HamletWells$Parser$3" "val$to") ∈ lw_all := lw_g (lw_at lw_m12 119 rfl) rfl
theorem q2869 : (Jvm.Cond.laysFinal "HamletWells$Parser$3" "HamletWells$Parser$3" "this$1" "LHamletWells$Parser;") ∈ lw_all := lw_g (lw_at lw_m12 120 rfl) rfl
theorem q2870 : (Jvm.Cond.soleField "HamletWells$Parser$3" "this$1") ∈ lw_all := lw_g (lw_at lw_m12 121 rfl) rfl
theorem q2871 : (Jvm.Cond.superclass "HamletWells$Parser$3" "HamletWells$Command") ∈ lw_all := lw_g (lw_at lw_m12 122 rfl) rfl
theorem q3496 : (Jvm.Cond.castable "HamletWells$Parser$3" "HamletWells$Command") ∈ lw_tbl := lw_at lw_m15 27 rfl
theorem q3550 : (Jvm.Cond.castable "HamletWells$Parser$3" "java/lang/Object") ∈ lw_tbl := lw_at lw_m15 81 rfl
theorem in_X38 : ∀ w ∈ wsX380, w ∈ lw_all := lw_in wsX380 [2865, 2867, 2869] (by decide +kernel) (by decide +kernel)
/-! HamletWells$Parser$4 -/
set_option maxRecDepth 100000
def RX39 : String := "HamletWells$Parser$4"
def TX39 : u_T := fun k => match k with
  | 0 => ("HamletWells$Parser$4", "val$days", "I", true)
  | _ => ("HamletWells$Parser$4", "this$1", "LHamletWells$Parser;", true)
def tyX39 : Nat → FieldType := fun k => match k with
  | 0 => .int
  | _ => .object "HamletWells$Parser"
abbrev wsX390 : List Cond := u_ws RX39 TX39 2
theorem nmX39 : ∀ a, a < 2 → ∀ b, b < 2 → a ≠ b → (TX39 a).2.1 ≠ (TX39 b).2.1 := by decide +kernel
theorem tyX39_ok : ∀ k, k < 2 → parseFieldDescriptor (TX39 k).2.2.1 = some (tyX39 k) := by decide +kernel
abbrev cX39_does : ByteArray := prog_29_method_2_code
def yX39_does : MethodName := ⟨RX39, "does", "(LHamletWells$Province;)I"⟩
def dkwX39_does_1 : List UInt8 := [172]
abbrev dktX39_does_1 : List UInt8 := dkwX39_does_1 ++ []
def dkwX39_does_0 : List UInt8 := [4, 188, 4, 89, 3, 42, 180, 0, 7, 184, 0, 17, 84, 184, 0, 23, 43, 42, 180, 0, 7, 182, 0, 27]
abbrev dktX39_does_0 : List UInt8 := dkwX39_does_0 ++ dktX39_does_1
theorem dksX39_does_0 : cX39_does.data.toList.drop 0 = dktX39_does_0 := by decide +kernel
theorem dksX39_does_1 : cX39_does.data.toList.drop 24 = dktX39_does_1 := dk_seg dksX39_does_0 24 rfl rfl
theorem dX39_does_0 : decode cX39_does 0 = .ok (.iconst 1, 1) := dk_4 (dk_at dksX39_does_0 0 rfl rfl)
theorem dX39_does_1 : decode cX39_does 1 = .ok (.newarray .boolean, 2) := dk_188_4 (dk_at dksX39_does_0 1 rfl rfl)
theorem dX39_does_3 : decode cX39_does 3 = .ok (.dup, 1) := dk_89 (dk_at dksX39_does_0 3 rfl rfl)
theorem dX39_does_4 : decode cX39_does 4 = .ok (.iconst 0, 1) := dk_3 (dk_at dksX39_does_0 4 rfl rfl)
theorem dX39_does_5 : decode cX39_does 5 = .ok (.aload_n 0, 1) := dk_42 (dk_at dksX39_does_0 5 rfl rfl)
theorem dX39_does_6 : decode cX39_does 6 = .ok (.getfield 7, 3) := dk_180 0 7 (dk_at dksX39_does_0 6 rfl rfl)
theorem dX39_does_9 : decode cX39_does 9 = .ok (.invokestatic 17, 3) := dk_184 0 17 (dk_at dksX39_does_0 9 rfl rfl)
theorem dX39_does_12 : decode cX39_does 12 = .ok (.bastore, 1) := dk_84 (dk_at dksX39_does_0 12 rfl rfl)
theorem dX39_does_13 : decode cX39_does 13 = .ok (.invokestatic 23, 3) := dk_184 0 23 (dk_at dksX39_does_0 13 rfl rfl)
theorem dX39_does_16 : decode cX39_does 16 = .ok (.aload_n 1, 1) := dk_43 (dk_at dksX39_does_0 16 rfl rfl)
theorem dX39_does_17 : decode cX39_does 17 = .ok (.aload_n 0, 1) := dk_42 (dk_at dksX39_does_0 17 rfl rfl)
theorem dX39_does_18 : decode cX39_does 18 = .ok (.getfield 7, 3) := dk_180 0 7 (dk_at dksX39_does_0 18 rfl rfl)
theorem dX39_does_21 : decode cX39_does 21 = .ok (.invokevirtual 27, 3) := dk_182 0 27 (dk_at dksX39_does_0 21 rfl rfl)
theorem dX39_does_24 : decode cX39_does 24 = .ok (.ireturn, 1) := dk_172 (dk_at dksX39_does_1 0 rfl rfl)
abbrev cX39_init : ByteArray := prog_29_method_1_code
def yX39_init : MethodName := ⟨RX39, "<init>", "(LHamletWells$Parser;I)V"⟩
def dkwX39_init_0 : List UInt8 := [42, 43, 181, 0, 1, 42, 28, 181, 0, 7, 42, 183, 0, 11, 177]
abbrev dktX39_init_0 : List UInt8 := dkwX39_init_0 ++ []
theorem dksX39_init_0 : cX39_init.data.toList.drop 0 = dktX39_init_0 := by decide +kernel
theorem dX39_init_0 : decode cX39_init 0 = .ok (.aload_n 0, 1) := dk_42 (dk_at dksX39_init_0 0 rfl rfl)
theorem dX39_init_1 : decode cX39_init 1 = .ok (.aload_n 1, 1) := dk_43 (dk_at dksX39_init_0 1 rfl rfl)
theorem dX39_init_2 : decode cX39_init 2 = .ok (.putfield 1, 3) := dk_181 0 1 (dk_at dksX39_init_0 2 rfl rfl)
theorem dX39_init_5 : decode cX39_init 5 = .ok (.aload_n 0, 1) := dk_42 (dk_at dksX39_init_0 5 rfl rfl)
theorem dX39_init_6 : decode cX39_init 6 = .ok (.iload_n 2, 1) := dk_28 (dk_at dksX39_init_0 6 rfl rfl)
theorem dX39_init_7 : decode cX39_init 7 = .ok (.putfield 7, 3) := dk_181 0 7 (dk_at dksX39_init_0 7 rfl rfl)
theorem dX39_init_10 : decode cX39_init 10 = .ok (.aload_n 0, 1) := dk_42 (dk_at dksX39_init_0 10 rfl rfl)
theorem dX39_init_11 : decode cX39_init 11 = .ok (.invokespecial 11, 3) := dk_183 0 11 (dk_at dksX39_init_0 11 rfl rfl)
theorem dX39_init_14 : decode cX39_init 14 = .ok (.return_, 1) := dk_177 (dk_at dksX39_init_0 14 rfl rfl)
theorem q187 : (Jvm.Cond.initialized "HamletWells$Parser$4") ∈ lw_all := lw_g (lw_at lw_m1 78 rfl) rfl
theorem q629 : (Jvm.Cond.selects "HamletWells$Parser$4" ({ cls := "java/lang/Object", name := "getClass", desc := "()Ljava/lang/Class;" } : Jvm.MethodName) ({ cls := "java/lang/Object", name := "getClass", desc := "()Ljava/lang/Class;" } : Jvm.MethodName)) ∈ lw_all := lw_g (lw_at lw_m3 40 rfl) rfl
theorem q1254 : (Jvm.Cond.selects "HamletWells$Parser$4" ({ cls := "HamletWells$Command", name := "does", desc := "(LHamletWells$Province;)I" } : Jvm.MethodName) ({ cls := "HamletWells$Parser$4", name := "does", desc := "(LHamletWells$Province;)I" } : Jvm.MethodName)) ∈ lw_all := lw_g (lw_at lw_m5 185 rfl) rfl
theorem q1255 : (Jvm.Cond.instanceMethod ({ cls := "HamletWells$Parser$4", name := "does", desc := "(LHamletWells$Province;)I" } : Jvm.MethodName)) ∈ lw_all := lw_g (lw_at lw_m5 186 rfl) rfl
theorem q1256 : (Jvm.Cond.code ({ cls := "HamletWells$Parser$4", name := "does", desc := "(LHamletWells$Province;)I" } : Jvm.MethodName) prog_29_method_2_code (2 : Nat) (Option.some Jvm.ClassFile.FieldType.int)) ∈ lw_all := lw_g (lw_at lw_m5 187 rfl) rfl
theorem q1257 : (Jvm.Cond.methodLinkNest "HamletWells$Parser$4" (17 : Nat) ({ cls := "HamletWells", name := "areDays", desc := "(I)Z" } : Jvm.MethodName) "HamletWells") ∈ lw_tbl := lw_at lw_m5 188 rfl
theorem q1260 : (Jvm.Cond.methodLinkNest "HamletWells$Parser$4" (23 : Nat) ({ cls := "HamletWells", name := "inRange", desc := "([Z)V" } : Jvm.MethodName) "HamletWells") ∈ lw_tbl := lw_at lw_m5 191 rfl
theorem q1261 : (Jvm.Cond.methodLink "HamletWells$Parser$4" (27 : Nat) ({ cls := "HamletWells$Province", name := "goes", desc := "(I)I" } : Jvm.MethodName)) ∈ lw_all := lw_g (lw_at lw_m5 192 rfl) rfl
theorem q2877 : (Jvm.Cond.instantiable "HamletWells$Parser$4" (2 : Nat)) ∈ lw_all := lw_g (lw_at lw_m12 128 rfl) rfl
theorem q2879 : (Jvm.Cond.instanceMethod ({ cls := "HamletWells$Parser$4", name := "<init>", desc := "(LHamletWells$Parser;I)V" } : Jvm.MethodName)) ∈ lw_all := lw_g (lw_at lw_m12 130 rfl) rfl
theorem q2880 : (Jvm.Cond.code ({ cls := "HamletWells$Parser$4", name := "<init>", desc := "(LHamletWells$Parser;I)V" } : Jvm.MethodName) prog_29_method_1_code (3 : Nat) (Option.none : Option Jvm.ClassFile.FieldType)) ∈ lw_all := lw_g (lw_at lw_m12 131 rfl) rfl
theorem q2881 : (Jvm.Cond.methodLinkNest "HamletWells$Parser$4" (11 : Nat) ({ cls := "HamletWells$Command", name := "<init>", desc := "()V" } : Jvm.MethodName) "HamletWells") ∈ lw_tbl := lw_at lw_m12 132 rfl
theorem q2882 : (Jvm.Cond.fieldLink "HamletWells$Parser$4" (7 : Nat) "HamletWells$Parser$4" "val$days" "I") ∈ lw_all := lw_g (lw_at lw_m12 133 rfl) rfl
theorem q2883 : (Jvm.Cond.fieldLink "HamletWells$Parser$4" (1 : Nat) "HamletWells$Parser$4" "this$1" "LHamletWells$Parser;") ∈ lw_all := lw_g (lw_at lw_m12 134 rfl) rfl
theorem q2884 : (Jvm.Cond.laysFinal "HamletWells$Parser$4" "HamletWells$Parser$4" "val$days" "I") ∈ lw_all := lw_g (lw_at lw_m12 135 rfl) rfl
theorem q2885 : (Jvm.Cond.soleField "HamletWells$Parser$4" "val$days") ∈ lw_all := lw_g (lw_at lw_m12 136 rfl) rfl
theorem q2886 : (Jvm.Cond.laysFinal "HamletWells$Parser$4" "HamletWells$Parser$4" "this$1" "LHamletWells$Parser;") ∈ lw_all := lw_g (lw_at lw_m12 137 rfl) rfl
theorem q2887 : (Jvm.Cond.soleField "HamletWells$Parser$4" "this$1") ∈ lw_all := lw_g (lw_at lw_m12 138 rfl) rfl
theorem q2888 : (Jvm.Cond.superclass "HamletWells$Parser$4" "HamletWells$Command") ∈ lw_all := lw_g (lw_at lw_m12 139 rfl) rfl
theorem q3497 : (Jvm.Cond.castable "HamletWells$Parser$4" "HamletWells$Command") ∈ lw_tbl := lw_at lw_m15 28 rfl
theorem q3551 : (Jvm.Cond.castable "HamletWells$Parser$4" "java/lang/Object") ∈ lw_tbl := lw_at lw_m15 82 rfl
theorem in_X39 : ∀ w ∈ wsX390, w ∈ lw_all := lw_in wsX390 [2884, 2886] (by decide +kernel) (by decide +kernel)
/-! HamletWells$Parser$5 -/
set_option maxRecDepth 100000
def RX40 : String := "HamletWells$Parser$5"
def TX40 : u_T := fun k => match k with
  | 0 => ("HamletWells$Parser$5", "val$site", "I", true)
  | 1 => ("HamletWells$Parser$5", "val$word", "Ljava/lang/String;", true)
  | _ => ("HamletWells$Parser$5", "this$1", "LHamletWells$Parser;", true)
def tyX40 : Nat → FieldType := fun k => match k with
  | 0 => .int
  | 1 => .object "java/lang/String"
  | _ => .object "HamletWells$Parser"
abbrev wsX400 : List Cond := u_ws RX40 TX40 3
theorem nmX40 : ∀ a, a < 3 → ∀ b, b < 3 → a ≠ b → (TX40 a).2.1 ≠ (TX40 b).2.1 := by decide +kernel
theorem tyX40_ok : ∀ k, k < 3 → parseFieldDescriptor (TX40 k).2.2.1 = some (tyX40 k) := by decide +kernel
abbrev cX40_does : ByteArray := prog_30_method_2_code
def yX40_does : MethodName := ⟨RX40, "does", "(LHamletWells$Province;)I"⟩
def dkwX40_does_7 : List UInt8 := [182, 0, 60, 172]
abbrev dktX40_does_7 : List UInt8 := dkwX40_does_7 ++ []
def dkwX40_does_6 : List UInt8 := [43, 42, 180, 0, 7, 182, 0, 53, 172, 43, 42, 180, 0, 7, 182, 0, 57, 172, 43, 42, 180, 0, 7]
abbrev dktX40_does_6 : List UInt8 := dkwX40_does_6 ++ dktX40_does_7
def dkwX40_does_5 : List UInt8 := [171, 0, 0, 0, 0, 44, 0, 0, 0, 2, 0, 0, 0, 0, 0, 0, 0, 26, 0, 0, 0, 1, 0, 0, 0, 35]
abbrev dktX40_does_5 : List UInt8 := dkwX40_does_5 ++ dktX40_does_6
def dkwX40_does_4 : List UInt8 := [62, 29]
abbrev dktX40_does_4 : List UInt8 := dkwX40_does_4 ++ dktX40_does_5
def dkwX40_does_3 : List UInt8 := [44, 18, 45, 182, 0, 47, 153, 0, 19, 3, 62, 167, 0, 14, 44, 18, 51, 182, 0, 47, 153, 0, 5, 4]
abbrev dktX40_does_3 : List UInt8 := dkwX40_does_3 ++ dktX40_does_4
def dkwX40_does_2 : List UInt8 := [171, 0, 0, 0, 50, 0, 0, 0, 2, 0, 52, 38, 74, 0, 0, 0, 25, 0, 53, 219, 180, 0, 0, 0, 39]
abbrev dktX40_does_2 : List UInt8 := dkwX40_does_2 ++ dktX40_does_3
def dkwX40_does_1 : List UInt8 := [77, 2, 62, 44, 182, 0, 39]
abbrev dktX40_does_1 : List UInt8 := dkwX40_does_1 ++ dktX40_does_2
def dkwX40_does_0 : List UInt8 := [4, 188, 4, 89, 3, 43, 180, 0, 21, 42, 180, 0, 7, 182, 0, 27, 84, 184, 0, 33, 42, 180, 0, 11]
abbrev dktX40_does_0 : List UInt8 := dkwX40_does_0 ++ dktX40_does_1
theorem dksX40_does_0 : cX40_does.data.toList.drop 0 = dktX40_does_0 := by decide +kernel
theorem dksX40_does_1 : cX40_does.data.toList.drop 24 = dktX40_does_1 := dk_seg dksX40_does_0 24 rfl rfl
theorem dksX40_does_2 : cX40_does.data.toList.drop 31 = dktX40_does_2 := dk_seg dksX40_does_1 7 rfl rfl
theorem dksX40_does_3 : cX40_does.data.toList.drop 56 = dktX40_does_3 := dk_seg dksX40_does_2 25 rfl rfl
theorem dksX40_does_4 : cX40_does.data.toList.drop 80 = dktX40_does_4 := dk_seg dksX40_does_3 24 rfl rfl
theorem dksX40_does_5 : cX40_does.data.toList.drop 82 = dktX40_does_5 := dk_seg dksX40_does_4 2 rfl rfl
theorem dksX40_does_6 : cX40_does.data.toList.drop 108 = dktX40_does_6 := dk_seg dksX40_does_5 26 rfl rfl
theorem dksX40_does_7 : cX40_does.data.toList.drop 131 = dktX40_does_7 := dk_seg dksX40_does_6 23 rfl rfl
theorem dX40_does_0 : decode cX40_does 0 = .ok (.iconst 1, 1) := dk_4 (dk_at dksX40_does_0 0 rfl rfl)
theorem dX40_does_1 : decode cX40_does 1 = .ok (.newarray .boolean, 2) := dk_188_4 (dk_at dksX40_does_0 1 rfl rfl)
theorem dX40_does_3 : decode cX40_does 3 = .ok (.dup, 1) := dk_89 (dk_at dksX40_does_0 3 rfl rfl)
theorem dX40_does_4 : decode cX40_does 4 = .ok (.iconst 0, 1) := dk_3 (dk_at dksX40_does_0 4 rfl rfl)
theorem dX40_does_5 : decode cX40_does 5 = .ok (.aload_n 1, 1) := dk_43 (dk_at dksX40_does_0 5 rfl rfl)
theorem dX40_does_6 : decode cX40_does 6 = .ok (.getfield 21, 3) := dk_180 0 21 (dk_at dksX40_does_0 6 rfl rfl)
theorem dX40_does_9 : decode cX40_does 9 = .ok (.aload_n 0, 1) := dk_42 (dk_at dksX40_does_0 9 rfl rfl)
theorem dX40_does_10 : decode cX40_does 10 = .ok (.getfield 7, 3) := dk_180 0 7 (dk_at dksX40_does_0 10 rfl rfl)
theorem dX40_does_13 : decode cX40_does 13 = .ok (.invokevirtual 27, 3) := dk_182 0 27 (dk_at dksX40_does_0 13 rfl rfl)
theorem dX40_does_16 : decode cX40_does 16 = .ok (.bastore, 1) := dk_84 (dk_at dksX40_does_0 16 rfl rfl)
theorem dX40_does_17 : decode cX40_does 17 = .ok (.invokestatic 33, 3) := dk_184 0 33 (dk_at dksX40_does_0 17 rfl rfl)
theorem dX40_does_20 : decode cX40_does 20 = .ok (.aload_n 0, 1) := dk_42 (dk_at dksX40_does_0 20 rfl rfl)
theorem dX40_does_21 : decode cX40_does 21 = .ok (.getfield 11, 3) := dk_180 0 11 (dk_at dksX40_does_0 21 rfl rfl)
theorem dX40_does_24 : decode cX40_does 24 = .ok (.astore_n 2, 1) := dk_77 (dk_at dksX40_does_1 0 rfl rfl)
theorem dX40_does_25 : decode cX40_does 25 = .ok (.iconst (-1), 1) := dk_2 (dk_at dksX40_does_1 1 rfl rfl)
theorem dX40_does_26 : decode cX40_does 26 = .ok (.istore_n 3, 1) := dk_62 (dk_at dksX40_does_1 2 rfl rfl)
theorem dX40_does_27 : decode cX40_does 27 = .ok (.aload_n 2, 1) := dk_44 (dk_at dksX40_does_1 3 rfl rfl)
theorem dX40_does_28 : decode cX40_does 28 = .ok (.invokevirtual 39, 3) := dk_182 0 39 (dk_at dksX40_does_1 4 rfl rfl)
theorem dX40_does_31 : decode cX40_does 31 = .ok (.lookupswitch 50 #[(3417674, 25), (3529652, 39)], 25) := by decide +kernel
theorem dX40_does_56 : decode cX40_does 56 = .ok (.aload_n 2, 1) := dk_44 (dk_at dksX40_does_3 0 rfl rfl)
theorem dX40_does_57 : decode cX40_does 57 = .ok (.ldc 45, 2) := dk_18 45 (dk_at dksX40_does_3 1 rfl rfl)
theorem dX40_does_59 : decode cX40_does 59 = .ok (.invokevirtual 47, 3) := dk_182 0 47 (dk_at dksX40_does_3 3 rfl rfl)
theorem dX40_does_62 : decode cX40_does 62 = .ok (.ifCond .eq 19, 3) := dk_153 0 19 (dk_at dksX40_does_3 6 rfl rfl)
theorem dX40_does_65 : decode cX40_does 65 = .ok (.iconst 0, 1) := dk_3 (dk_at dksX40_does_3 9 rfl rfl)
theorem dX40_does_66 : decode cX40_does 66 = .ok (.istore_n 3, 1) := dk_62 (dk_at dksX40_does_3 10 rfl rfl)
theorem dX40_does_67 : decode cX40_does 67 = .ok (.goto 14, 3) := dk_167 0 14 (dk_at dksX40_does_3 11 rfl rfl)
theorem dX40_does_70 : decode cX40_does 70 = .ok (.aload_n 2, 1) := dk_44 (dk_at dksX40_does_3 14 rfl rfl)
theorem dX40_does_71 : decode cX40_does 71 = .ok (.ldc 51, 2) := dk_18 51 (dk_at dksX40_does_3 15 rfl rfl)
theorem dX40_does_73 : decode cX40_does 73 = .ok (.invokevirtual 47, 3) := dk_182 0 47 (dk_at dksX40_does_3 17 rfl rfl)
theorem dX40_does_76 : decode cX40_does 76 = .ok (.ifCond .eq 5, 3) := dk_153 0 5 (dk_at dksX40_does_3 20 rfl rfl)
theorem dX40_does_79 : decode cX40_does 79 = .ok (.iconst 1, 1) := dk_4 (dk_at dksX40_does_3 23 rfl rfl)
theorem dX40_does_80 : decode cX40_does 80 = .ok (.istore_n 3, 1) := dk_62 (dk_at dksX40_does_4 0 rfl rfl)
theorem dX40_does_81 : decode cX40_does 81 = .ok (.iload_n 3, 1) := dk_29 (dk_at dksX40_does_4 1 rfl rfl)
theorem dX40_does_82 : decode cX40_does 82 = .ok (.lookupswitch 44 #[(0, 26), (1, 35)], 26) := by decide +kernel
theorem dX40_does_108 : decode cX40_does 108 = .ok (.aload_n 1, 1) := dk_43 (dk_at dksX40_does_6 0 rfl rfl)
theorem dX40_does_109 : decode cX40_does 109 = .ok (.aload_n 0, 1) := dk_42 (dk_at dksX40_does_6 1 rfl rfl)
theorem dX40_does_110 : decode cX40_does 110 = .ok (.getfield 7, 3) := dk_180 0 7 (dk_at dksX40_does_6 2 rfl rfl)
theorem dX40_does_113 : decode cX40_does 113 = .ok (.invokevirtual 53, 3) := dk_182 0 53 (dk_at dksX40_does_6 5 rfl rfl)
theorem dX40_does_116 : decode cX40_does 116 = .ok (.ireturn, 1) := dk_172 (dk_at dksX40_does_6 8 rfl rfl)
theorem dX40_does_117 : decode cX40_does 117 = .ok (.aload_n 1, 1) := dk_43 (dk_at dksX40_does_6 9 rfl rfl)
theorem dX40_does_118 : decode cX40_does 118 = .ok (.aload_n 0, 1) := dk_42 (dk_at dksX40_does_6 10 rfl rfl)
theorem dX40_does_119 : decode cX40_does 119 = .ok (.getfield 7, 3) := dk_180 0 7 (dk_at dksX40_does_6 11 rfl rfl)
theorem dX40_does_122 : decode cX40_does 122 = .ok (.invokevirtual 57, 3) := dk_182 0 57 (dk_at dksX40_does_6 14 rfl rfl)
theorem dX40_does_125 : decode cX40_does 125 = .ok (.ireturn, 1) := dk_172 (dk_at dksX40_does_6 17 rfl rfl)
theorem dX40_does_126 : decode cX40_does 126 = .ok (.aload_n 1, 1) := dk_43 (dk_at dksX40_does_6 18 rfl rfl)
theorem dX40_does_127 : decode cX40_does 127 = .ok (.aload_n 0, 1) := dk_42 (dk_at dksX40_does_6 19 rfl rfl)
theorem dX40_does_128 : decode cX40_does 128 = .ok (.getfield 7, 3) := dk_180 0 7 (dk_at dksX40_does_6 20 rfl rfl)
theorem dX40_does_131 : decode cX40_does 131 = .ok (.invokevirtual 60, 3) := dk_182 0 60 (dk_at dksX40_does_7 0 rfl rfl)
theorem dX40_does_134 : decode cX40_does 134 = .ok (.ireturn, 1) := dk_172 (dk_at dksX40_does_7 3 rfl rfl)
abbrev cX40_init : ByteArray := prog_30_method_1_code
def yX40_init : MethodName := ⟨RX40, "<init>", "(LHamletWells$Parser;ILjava/lang/String;)V"⟩
def dkwX40_init_0 : List UInt8 := [42, 43, 181, 0, 1, 42, 28, 181, 0, 7, 42, 45, 181, 0, 11, 42, 183, 0, 15, 177]
abbrev dktX40_init_0 : List UInt8 := dkwX40_init_0 ++ []
theorem dksX40_init_0 : cX40_init.data.toList.drop 0 = dktX40_init_0 := by decide +kernel
theorem dX40_init_0 : decode cX40_init 0 = .ok (.aload_n 0, 1) := dk_42 (dk_at dksX40_init_0 0 rfl rfl)
theorem dX40_init_1 : decode cX40_init 1 = .ok (.aload_n 1, 1) := dk_43 (dk_at dksX40_init_0 1 rfl rfl)
theorem dX40_init_2 : decode cX40_init 2 = .ok (.putfield 1, 3) := dk_181 0 1 (dk_at dksX40_init_0 2 rfl rfl)
theorem dX40_init_5 : decode cX40_init 5 = .ok (.aload_n 0, 1) := dk_42 (dk_at dksX40_init_0 5 rfl rfl)
theorem dX40_init_6 : decode cX40_init 6 = .ok (.iload_n 2, 1) := dk_28 (dk_at dksX40_init_0 6 rfl rfl)
theorem dX40_init_7 : decode cX40_init 7 = .ok (.putfield 7, 3) := dk_181 0 7 (dk_at dksX40_init_0 7 rfl rfl)
theorem dX40_init_10 : decode cX40_init 10 = .ok (.aload_n 0, 1) := dk_42 (dk_at dksX40_init_0 10 rfl rfl)
theorem dX40_init_11 : decode cX40_init 11 = .ok (.aload_n 3, 1) := dk_45 (dk_at dksX40_init_0 11 rfl rfl)
theorem dX40_init_12 : decode cX40_init 12 = .ok (.putfield 11, 3) := dk_181 0 11 (dk_at dksX40_init_0 12 rfl rfl)
theorem dX40_init_15 : decode cX40_init 15 = .ok (.aload_n 0, 1) := dk_42 (dk_at dksX40_init_0 15 rfl rfl)
theorem dX40_init_16 : decode cX40_init 16 = .ok (.invokespecial 15, 3) := dk_183 0 15 (dk_at dksX40_init_0 16 rfl rfl)
theorem dX40_init_19 : decode cX40_init 19 = .ok (.return_, 1) := dk_177 (dk_at dksX40_init_0 19 rfl rfl)
theorem q188 : (Jvm.Cond.initialized "HamletWells$Parser$5") ∈ lw_all := lw_g (lw_at lw_m1 79 rfl) rfl
theorem q254 : (Jvm.Cond.fieldLinkNest "HamletWells$Parser$5" (21 : Nat) "HamletWells$Province" "sites" "LHamletWells$Row;" "HamletWells") ∈ lw_tbl := lw_at lw_m1 145 rfl
theorem q630 : (Jvm.Cond.selects "HamletWells$Parser$5" ({ cls := "java/lang/Object", name := "getClass", desc := "()Ljava/lang/Class;" } : Jvm.MethodName) ({ cls := "java/lang/Object", name := "getClass", desc := "()Ljava/lang/Class;" } : Jvm.MethodName)) ∈ lw_all := lw_g (lw_at lw_m3 41 rfl) rfl
theorem q1691 : (Jvm.Cond.selects "HamletWells$Parser$5" ({ cls := "HamletWells$Command", name := "does", desc := "(LHamletWells$Province;)I" } : Jvm.MethodName) ({ cls := "HamletWells$Parser$5", name := "does", desc := "(LHamletWells$Province;)I" } : Jvm.MethodName)) ∈ lw_all := lw_g (lw_at lw_m7 142 rfl) rfl
theorem q1692 : (Jvm.Cond.instanceMethod ({ cls := "HamletWells$Parser$5", name := "does", desc := "(LHamletWells$Province;)I" } : Jvm.MethodName)) ∈ lw_all := lw_g (lw_at lw_m7 143 rfl) rfl
theorem q1693 : (Jvm.Cond.code ({ cls := "HamletWells$Parser$5", name := "does", desc := "(LHamletWells$Province;)I" } : Jvm.MethodName) prog_30_method_2_code (4 : Nat) (Option.some Jvm.ClassFile.FieldType.int)) ∈ lw_all := lw_g (lw_at lw_m7 144 rfl) rfl
theorem q1694 : (Jvm.Cond.methodLink "HamletWells$Parser$5" (27 : Nat) ({ cls := "HamletWells$Row", name := "has", desc := "(I)Z" } : Jvm.MethodName)) ∈ lw_all := lw_g (lw_at lw_m7 145 rfl) rfl
theorem q1695 : (Jvm.Cond.methodLinkNest "HamletWells$Parser$5" (33 : Nat) ({ cls := "HamletWells", name := "inRange", desc := "([Z)V" } : Jvm.MethodName) "HamletWells") ∈ lw_tbl := lw_at lw_m7 146 rfl
theorem q1696 : (Jvm.Cond.methodLink "HamletWells$Parser$5" (39 : Nat) ({ cls := "java/lang/String", name := "hashCode", desc := "()I" } : Jvm.MethodName)) ∈ lw_all := lw_g (lw_at lw_m7 147 rfl) rfl
theorem q1749 : (Jvm.Cond.stringRef "HamletWells$Parser$5" (45 : Nat) "open") ∈ lw_tbl := lw_at lw_m7 200 rfl
theorem q1750 : (Jvm.Cond.methodLink "HamletWells$Parser$5" (47 : Nat) ({ cls := "java/lang/String", name := "equals", desc := "(Ljava/lang/Object;)Z" } : Jvm.MethodName)) ∈ lw_all := lw_g (lw_at lw_m7 201 rfl) rfl
theorem q1758 : (Jvm.Cond.stringRef "HamletWells$Parser$5" (51 : Nat) "shut") ∈ lw_tbl := lw_at lw_m7 209 rfl
theorem q1759 : (Jvm.Cond.methodLink "HamletWells$Parser$5" (53 : Nat) ({ cls := "HamletWells$Province", name := "opens", desc := "(I)I" } : Jvm.MethodName)) ∈ lw_all := lw_g (lw_at lw_m7 210 rfl) rfl
theorem q1768 : (Jvm.Cond.methodLink "HamletWells$Parser$5" (57 : Nat) ({ cls := "HamletWells$Province", name := "shuts", desc := "(I)I" } : Jvm.MethodName)) ∈ lw_all := lw_g (lw_at lw_m7 219 rfl) rfl
theorem q1845 : (Jvm.Cond.methodLink "HamletWells$Parser$5" (60 : Nat) ({ cls := "HamletWells$Province", name := "pumps", desc := "(I)I" } : Jvm.MethodName)) ∈ lw_all := lw_g (lw_at lw_m8 56 rfl) rfl
theorem q2894 : (Jvm.Cond.instantiable "HamletWells$Parser$5" (3 : Nat)) ∈ lw_all := lw_g (lw_at lw_m12 145 rfl) rfl
theorem q2896 : (Jvm.Cond.instanceMethod ({ cls := "HamletWells$Parser$5", name := "<init>", desc := "(LHamletWells$Parser;ILjava/lang/String;)V" } : Jvm.MethodName)) ∈ lw_all := lw_g (lw_at lw_m12 147 rfl) rfl
theorem q2897 : (Jvm.Cond.code ({ cls := "HamletWells$Parser$5", name := "<init>", desc := "(LHamletWells$Parser;ILjava/lang/String;)V" } : Jvm.MethodName) prog_30_method_1_code (4 : Nat) (Option.none : Option Jvm.ClassFile.FieldType)) ∈ lw_all := lw_g (lw_at lw_m12 148 rfl) rfl
theorem q2898 : (Jvm.Cond.methodLinkNest "HamletWells$Parser$5" (15 : Nat) ({ cls := "HamletWells$Command", name := "<init>", desc := "()V" } : Jvm.MethodName) "HamletWells") ∈ lw_tbl := lw_at lw_m12 149 rfl
theorem q2899 : (Jvm.Cond.fieldLink "HamletWells$Parser$5" (7 : Nat) "HamletWells$Parser$5" "val$site" "I") ∈ lw_all := lw_g (lw_at lw_m12 150 rfl) rfl
theorem q2900 : (Jvm.Cond.fieldLink "HamletWells$Parser$5" (11 : Nat) "HamletWells$Parser$5" "val$word" "Ljava/lang/String;") ∈ lw_all := lw_g (lw_at lw_m12 151 rfl) rfl
theorem q2901 : (Jvm.Cond.fieldLink "HamletWells$Parser$5" (1 : Nat) "HamletWells$Parser$5" "this$1" "LHamletWells$Parser;") ∈ lw_all := lw_g (lw_at lw_m12 152 rfl) rfl
theorem q2902 : (Jvm.Cond.laysFinal "HamletWells$Parser$5" "HamletWells$Parser$5" "val$site" "I") ∈ lw_all := lw_g (lw_at lw_m12 153 rfl) rfl
theorem q2903 : (Jvm.Cond.soleField "HamletWells$Parser$5" "val$site") ∈ lw_all := lw_g (lw_at lw_m12 154 rfl) rfl
theorem q2904 : (Jvm.Cond.laysFinal "HamletWells$Parser$5" "HamletWells$Parser$5" "val$word" "Ljava/lang/String;") ∈ lw_all := lw_g (lw_at lw_m12 155 rfl) rfl
theorem q2905 : (Jvm.Cond.soleField "HamletWells$Parser$5" "val$word") ∈ lw_all := lw_g (lw_at lw_m12 156 rfl) rfl
theorem q2906 : (Jvm.Cond.laysFinal "HamletWells$Parser$5" "HamletWells$Parser$5" "this$1" "LHamletWells$Parser;") ∈ lw_all := lw_g (lw_at lw_m12 157 rfl) rfl
theorem q2907 : (Jvm.Cond.soleField "HamletWells$Parser$5" "this$1") ∈ lw_all := lw_g (lw_at lw_m12 158 rfl) rfl
theorem q2908 : (Jvm.Cond.superclass "HamletWells$Parser$5" "HamletWells$Command") ∈ lw_all := lw_g (lw_at lw_m12 159 rfl) rfl
theorem q3498 : (Jvm.Cond.castable "HamletWells$Parser$5" "HamletWells$Command") ∈ lw_tbl := lw_at lw_m15 29 rfl
theorem q3552 : (Jvm.Cond.castable "HamletWells$Parser$5" "java/lang/Object") ∈ lw_tbl := lw_at lw_m15 83 rfl
theorem in_X40 : ∀ w ∈ wsX400, w ∈ lw_all := lw_in wsX400 [2902, 2904, 2906] (by decide +kernel) (by decide +kernel)
/-! HamletWells$12 -/
set_option maxRecDepth 100000
def RX41 : String := "HamletWells$12"
def TX41 : u_T := fun k => match k with
  | 0 => ("HamletWells$Deed", "this$0", "LHamletWells;", true)
  | 1 => ("HamletWells$12", "val$all", "Ljava/util/ArrayList;", true)
  | _ => ("HamletWells$12", "this$0", "LHamletWells;", true)
def tyX41 : Nat → FieldType := fun k => match k with
  | 0 => .object "HamletWells"
  | 1 => .object "java/util/ArrayList"
  | _ => .object "HamletWells"
abbrev wsX410 : List Cond := u_ws RX41 TX41 3
-- two fields of one name: no nmX41
theorem tyX41_ok : ∀ k, k < 3 → parseFieldDescriptor (TX41 k).2.2.1 = some (tyX41 k) := by decide +kernel
abbrev cX41_does : ByteArray := prog_5_method_2_code
def yX41_does : MethodName := ⟨RX41, "does", "(LHamletWells$Province;)I"⟩
def dkwX41_does_0 : List UInt8 := [43, 42, 180, 0, 7, 184, 0, 17, 172]
abbrev dktX41_does_0 : List UInt8 := dkwX41_does_0 ++ []
theorem dksX41_does_0 : cX41_does.data.toList.drop 0 = dktX41_does_0 := by decide +kernel
theorem dX41_does_0 : decode cX41_does 0 = .ok (.aload_n 1, 1) := dk_43 (dk_at dksX41_does_0 0 rfl rfl)
theorem dX41_does_1 : decode cX41_does 1 = .ok (.aload_n 0, 1) := dk_42 (dk_at dksX41_does_0 1 rfl rfl)
theorem dX41_does_2 : decode cX41_does 2 = .ok (.getfield 7, 3) := dk_180 0 7 (dk_at dksX41_does_0 2 rfl rfl)
theorem dX41_does_5 : decode cX41_does 5 = .ok (.invokestatic 17, 3) := dk_184 0 17 (dk_at dksX41_does_0 5 rfl rfl)
theorem dX41_does_8 : decode cX41_does 8 = .ok (.ireturn, 1) := dk_172 (dk_at dksX41_does_0 8 rfl rfl)
abbrev cX41_init : ByteArray := prog_5_method_1_code
def yX41_init : MethodName := ⟨RX41, "<init>", "(LHamletWells;Ljava/util/ArrayList;)V"⟩
def dkwX41_init_0 : List UInt8 := [42, 43, 181, 0, 1, 42, 44, 181, 0, 7, 42, 43, 183, 0, 11, 177]
abbrev dktX41_init_0 : List UInt8 := dkwX41_init_0 ++ []
theorem dksX41_init_0 : cX41_init.data.toList.drop 0 = dktX41_init_0 := by decide +kernel
theorem dX41_init_0 : decode cX41_init 0 = .ok (.aload_n 0, 1) := dk_42 (dk_at dksX41_init_0 0 rfl rfl)
theorem dX41_init_1 : decode cX41_init 1 = .ok (.aload_n 1, 1) := dk_43 (dk_at dksX41_init_0 1 rfl rfl)
theorem dX41_init_2 : decode cX41_init 2 = .ok (.putfield 1, 3) := dk_181 0 1 (dk_at dksX41_init_0 2 rfl rfl)
theorem dX41_init_5 : decode cX41_init 5 = .ok (.aload_n 0, 1) := dk_42 (dk_at dksX41_init_0 5 rfl rfl)
theorem dX41_init_6 : decode cX41_init 6 = .ok (.aload_n 2, 1) := dk_44 (dk_at dksX41_init_0 6 rfl rfl)
theorem dX41_init_7 : decode cX41_init 7 = .ok (.putfield 7, 3) := dk_181 0 7 (dk_at dksX41_init_0 7 rfl rfl)
theorem dX41_init_10 : decode cX41_init 10 = .ok (.aload_n 0, 1) := dk_42 (dk_at dksX41_init_0 10 rfl rfl)
theorem dX41_init_11 : decode cX41_init 11 = .ok (.aload_n 1, 1) := dk_43 (dk_at dksX41_init_0 11 rfl rfl)
theorem dX41_init_12 : decode cX41_init 12 = .ok (.invokespecial 11, 3) := dk_183 0 11 (dk_at dksX41_init_0 12 rfl rfl)
theorem dX41_init_15 : decode cX41_init 15 = .ok (.return_, 1) := dk_177 (dk_at dksX41_init_0 15 rfl rfl)
theorem q189 : (Jvm.Cond.initialized "HamletWells$12") ∈ lw_all := lw_g (lw_at lw_m1 80 rfl) rfl
theorem q400 : (Jvm.Cond.selects "HamletWells$12" ({ cls := "HamletWells$Deed", name := "done", desc := "()I" } : Jvm.MethodName) ({ cls := "HamletWells$Deed", name := "done", desc := "()I" } : Jvm.MethodName)) ∈ lw_all := lw_g (lw_at lw_m2 51 rfl) rfl
theorem q608 : (Jvm.Cond.selects "HamletWells$12" ({ cls := "java/lang/Object", name := "getClass", desc := "()Ljava/lang/Class;" } : Jvm.MethodName) ({ cls := "java/lang/Object", name := "getClass", desc := "()Ljava/lang/Class;" } : Jvm.MethodName)) ∈ lw_all := lw_g (lw_at lw_m3 19 rfl) rfl
theorem q1169 : (Jvm.Cond.selects "HamletWells$12" ({ cls := "HamletWells$Deed", name := "does", desc := "(LHamletWells$Province;)I" } : Jvm.MethodName) ({ cls := "HamletWells$12", name := "does", desc := "(LHamletWells$Province;)I" } : Jvm.MethodName)) ∈ lw_all := lw_g (lw_at lw_m5 100 rfl) rfl
theorem q1170 : (Jvm.Cond.instanceMethod ({ cls := "HamletWells$12", name := "does", desc := "(LHamletWells$Province;)I" } : Jvm.MethodName)) ∈ lw_all := lw_g (lw_at lw_m5 101 rfl) rfl
theorem q1171 : (Jvm.Cond.code ({ cls := "HamletWells$12", name := "does", desc := "(LHamletWells$Province;)I" } : Jvm.MethodName) prog_5_method_2_code (2 : Nat) (Option.some Jvm.ClassFile.FieldType.int)) ∈ lw_all := lw_g (lw_at lw_m5 102 rfl) rfl
theorem q1172 : (Jvm.Cond.methodLinkNest "HamletWells$12" (17 : Nat) ({ cls := "HamletWells", name := "doesAll", desc := "(LHamletWells$Province;Ljava/util/ArrayList;)I" } : Jvm.MethodName) "HamletWells") ∈ lw_tbl := lw_at lw_m5 103 rfl
theorem q2911 : (Jvm.Cond.instantiable "HamletWells$12" (3 : Nat)) ∈ lw_all := lw_g (lw_at lw_m12 162 rfl) rfl
theorem q2913 : (Jvm.Cond.instanceMethod ({ cls := "HamletWells$12", name := "<init>", desc := "(LHamletWells;Ljava/util/ArrayList;)V" } : Jvm.MethodName)) ∈ lw_all := lw_g (lw_at lw_m12 164 rfl) rfl
theorem q2914 : (Jvm.Cond.code ({ cls := "HamletWells$12", name := "<init>", desc := "(LHamletWells;Ljava/util/ArrayList;)V" } : Jvm.MethodName) prog_5_method_1_code (3 : Nat) (Option.none : Option Jvm.ClassFile.FieldType)) ∈ lw_all := lw_g (lw_at lw_m12 165 rfl) rfl
theorem q2915 : (Jvm.Cond.methodLinkNest "HamletWells$12" (11 : Nat) ({ cls := "HamletWells$Deed", name := "<init>", desc := "(LHamletWells;)V" } : Jvm.MethodName) "HamletWells") ∈ lw_tbl := lw_at lw_m12 166 rfl
theorem q2916 : (Jvm.Cond.fieldLink "HamletWells$12" (7 : Nat) "HamletWells$12" "val$all" "Ljava/util/ArrayList;") ∈ lw_all := lw_g (lw_at lw_m12 167 rfl) rfl
theorem q2917 : (Jvm.Cond.fieldLink "HamletWells$12" (1 : Nat) "HamletWells$12" "this$0" "LHamletWells;") ∈ lw_all := lw_g (lw_at lw_m12 168 rfl) rfl
theorem q2918 : (Jvm.Cond.laysFinal "HamletWells$12" "HamletWells$12" "val$all" "Ljava/util/ArrayList;") ∈ lw_all := lw_g (lw_at lw_m12 169 rfl) rfl
theorem q2919 : (Jvm.Cond.soleField "HamletWells$12" "val$all") ∈ lw_all := lw_g (lw_at lw_m12 170 rfl) rfl
theorem q2920 : (Jvm.Cond.laysFinal "HamletWells$12" "HamletWells$12" "this$0" "LHamletWells;") ∈ lw_all := lw_g (lw_at lw_m12 171 rfl) rfl
theorem q2921 : (Jvm.Cond.soleField "HamletWells$12" "this$0") ∈ lw_all := lw_g (lw_at lw_m12 172 rfl) rfl
theorem q2922 : (Jvm.Cond.laysFinal "HamletWells$12" "HamletWells$Deed" "this$0" "LHamletWells;") ∈ lw_all := lw_g (lw_at lw_m12 173 rfl) rfl
theorem q2923 : (Jvm.Cond.superclass "HamletWells$12" "HamletWells$Deed") ∈ lw_all := lw_g (lw_at lw_m12 174 rfl) rfl
theorem q2925 : (Jvm.Cond.sameMethod "HamletWells$12" "HamletWells$Deed" "done" "()I") ∈ lw_all := lw_g (lw_at lw_m12 176 rfl) rfl
theorem q2927 : (Jvm.Cond.selects "HamletWells$12" ({ cls := "HamletWells$12", name := "done", desc := "()I" } : Jvm.MethodName) ({ cls := "HamletWells$Deed", name := "done", desc := "()I" } : Jvm.MethodName)) ∈ lw_all := lw_g (lw_at lw_m12 178 rfl) rfl
theorem q3553 : (Jvm.Cond.castable "HamletWells$12" "java/lang/Object") ∈ lw_tbl := lw_at lw_m15 84 rfl
theorem in_X41 : ∀ w ∈ wsX410, w ∈ lw_all := lw_in wsX410 [2922, 2918, 2920] (by decide +kernel) (by decide +kernel)
