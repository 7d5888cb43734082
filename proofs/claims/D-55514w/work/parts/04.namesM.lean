/-! HamletWellsModel -/
set_option maxRecDepth 100000
def RX3 : String := "HamletWellsModel"
def TX3 : u_T := fun k => match k with
  | 0 => ("HamletWellsModel", "whys", "[I", true)
  | 1 => ("HamletWellsModel", "details", "[I", true)
  | 2 => ("HamletWellsModel", "reasonNow", "I", false)
  | 3 => ("HamletWellsModel", "detailNow", "I", false)
  | 4 => ("HamletWellsModel", "w", "[I", true)
  | 5 => ("HamletWellsModel", "undos", "[I", true)
  | 6 => ("HamletWellsModel", "savedRow", "[I", true)
  | 7 => ("HamletWellsModel", "mind", "[I", true)
  | 8 => ("HamletWellsModel", "changes", "I", false)
  | 9 => ("HamletWellsModel", "firstChange", "I", false)
  | 10 => ("HamletWellsModel", "isSaved", "Z", false)
  | 11 => ("HamletWellsModel", "leastFrom", "I", false)
  | 12 => ("HamletWellsModel", "line", "[C", true)
  | 13 => ("HamletWellsModel", "lineLength", "I", false)
  | 14 => ("HamletWellsModel", "input", "[C", true)
  | 15 => ("HamletWellsModel", "length", "I", false)
  | 16 => ("HamletWellsModel", "at", "I", false)
  | 17 => ("HamletWellsModel", "faultAt", "I", false)
  | 18 => ("HamletWellsModel", "numbers", "[I", true)
  | 19 => ("HamletWellsModel", "sort", "I", false)
  | _ => ("HamletWellsModel", "done", "I", false)
def tyX3 : Nat → FieldType := fun k => match k with
  | 0 => .array .int
  | 1 => .array .int
  | 2 => .int
  | 3 => .int
  | 4 => .array .int
  | 5 => .array .int
  | 6 => .array .int
  | 7 => .array .int
  | 8 => .int
  | 9 => .int
  | 10 => .boolean
  | 11 => .int
  | 12 => .array .char
  | 13 => .int
  | 14 => .array .char
  | 15 => .int
  | 16 => .int
  | 17 => .int
  | 18 => .array .int
  | 19 => .int
  | _ => .int
abbrev wsX30 : List Cond := u_ws RX3 TX3 21
set_option maxRecDepth 100000 in
theorem nmX3 : ∀ a, a < 21 → ∀ b, b < 21 → a ≠ b → (TX3 a).2.1 ≠ (TX3 b).2.1 := by decide +kernel
set_option maxRecDepth 100000 in
theorem tyX3_ok : ∀ k, k < 21 → parseFieldDescriptor (TX3 k).2.2.1 = some (tyX3 k) := by decide +kernel
abbrev cX3_init : ByteArray := prog_45_method_1_code
def yX3_init : MethodName := ⟨RX3, "<init>", "()V"⟩
def dkwX3_init_4 : List UInt8 := [6, 79, 177]
abbrev dktX3_init_4 : List UInt8 := dkwX3_init_4 ++ []
def dkwX3_init_3 : List UInt8 := [181, 0, 35, 42, 7, 188, 10, 181, 0, 39, 42, 180, 0, 16, 4, 17, 0, 200, 79, 42, 180, 0, 16, 7]
abbrev dktX3_init_3 : List UInt8 := dkwX3_init_3 ++ dktX3_init_4
def dkwX3_init_2 : List UInt8 := [188, 10, 181, 0, 25, 42, 16, 40, 188, 5, 181, 0, 28, 42, 16, 60, 188, 5, 181, 0, 32, 42, 2]
abbrev dktX3_init_2 : List UInt8 := dkwX3_init_2 ++ dktX3_init_3
def dkwX3_init_1 : List UInt8 := [181, 0, 16, 42, 17, 3, 128, 188, 10, 181, 0, 19, 42, 16, 112, 188, 10, 181, 0, 22, 42, 16, 112]
abbrev dktX3_init_1 : List UInt8 := dkwX3_init_1 ++ dktX3_init_2
def dkwX3_init_0 : List UInt8 := [42, 183, 0, 1, 42, 5, 188, 10, 181, 0, 7, 42, 5, 188, 10, 181, 0, 13, 42, 16, 112, 188, 10]
abbrev dktX3_init_0 : List UInt8 := dkwX3_init_0 ++ dktX3_init_1
theorem dksX3_init_0 : cX3_init.data.toList.drop 0 = dktX3_init_0 := by decide +kernel
theorem dksX3_init_1 : cX3_init.data.toList.drop 23 = dktX3_init_1 := dk_seg dksX3_init_0 23 rfl rfl
theorem dksX3_init_2 : cX3_init.data.toList.drop 46 = dktX3_init_2 := dk_seg dksX3_init_1 23 rfl rfl
theorem dksX3_init_3 : cX3_init.data.toList.drop 69 = dktX3_init_3 := dk_seg dksX3_init_2 23 rfl rfl
theorem dksX3_init_4 : cX3_init.data.toList.drop 93 = dktX3_init_4 := dk_seg dksX3_init_3 24 rfl rfl
theorem dX3_init_0 : decode cX3_init 0 = .ok (.aload_n 0, 1) := dk_42 (dk_at dksX3_init_0 0 rfl rfl)
theorem dX3_init_1 : decode cX3_init 1 = .ok (.invokespecial 1, 3) := dk_183 0 1 (dk_at dksX3_init_0 1 rfl rfl)
theorem dX3_init_4 : decode cX3_init 4 = .ok (.aload_n 0, 1) := dk_42 (dk_at dksX3_init_0 4 rfl rfl)
theorem dX3_init_5 : decode cX3_init 5 = .ok (.iconst 2, 1) := dk_5 (dk_at dksX3_init_0 5 rfl rfl)
theorem dX3_init_6 : decode cX3_init 6 = .ok (.newarray .int, 2) := dk_188_10 (dk_at dksX3_init_0 6 rfl rfl)
theorem dX3_init_8 : decode cX3_init 8 = .ok (.putfield 7, 3) := dk_181 0 7 (dk_at dksX3_init_0 8 rfl rfl)
theorem dX3_init_11 : decode cX3_init 11 = .ok (.aload_n 0, 1) := dk_42 (dk_at dksX3_init_0 11 rfl rfl)
theorem dX3_init_12 : decode cX3_init 12 = .ok (.iconst 2, 1) := dk_5 (dk_at dksX3_init_0 12 rfl rfl)
theorem dX3_init_13 : decode cX3_init 13 = .ok (.newarray .int, 2) := dk_188_10 (dk_at dksX3_init_0 13 rfl rfl)
theorem dX3_init_15 : decode cX3_init 15 = .ok (.putfield 13, 3) := dk_181 0 13 (dk_at dksX3_init_0 15 rfl rfl)
theorem dX3_init_18 : decode cX3_init 18 = .ok (.aload_n 0, 1) := dk_42 (dk_at dksX3_init_0 18 rfl rfl)
theorem dX3_init_19 : decode cX3_init 19 = .ok (.bipush 112, 2) := dk_16 112 (dk_at dksX3_init_0 19 rfl rfl)
theorem dX3_init_21 : decode cX3_init 21 = .ok (.newarray .int, 2) := dk_188_10 (dk_at dksX3_init_0 21 rfl rfl)
theorem dX3_init_23 : decode cX3_init 23 = .ok (.putfield 16, 3) := dk_181 0 16 (dk_at dksX3_init_1 0 rfl rfl)
theorem dX3_init_26 : decode cX3_init 26 = .ok (.aload_n 0, 1) := dk_42 (dk_at dksX3_init_1 3 rfl rfl)
theorem dX3_init_27 : decode cX3_init 27 = .ok (.sipush 896, 3) := dk_17 3 128 (dk_at dksX3_init_1 4 rfl rfl)
theorem dX3_init_30 : decode cX3_init 30 = .ok (.newarray .int, 2) := dk_188_10 (dk_at dksX3_init_1 7 rfl rfl)
theorem dX3_init_32 : decode cX3_init 32 = .ok (.putfield 19, 3) := dk_181 0 19 (dk_at dksX3_init_1 9 rfl rfl)
theorem dX3_init_35 : decode cX3_init 35 = .ok (.aload_n 0, 1) := dk_42 (dk_at dksX3_init_1 12 rfl rfl)
theorem dX3_init_36 : decode cX3_init 36 = .ok (.bipush 112, 2) := dk_16 112 (dk_at dksX3_init_1 13 rfl rfl)
theorem dX3_init_38 : decode cX3_init 38 = .ok (.newarray .int, 2) := dk_188_10 (dk_at dksX3_init_1 15 rfl rfl)
theorem dX3_init_40 : decode cX3_init 40 = .ok (.putfield 22, 3) := dk_181 0 22 (dk_at dksX3_init_1 17 rfl rfl)
theorem dX3_init_43 : decode cX3_init 43 = .ok (.aload_n 0, 1) := dk_42 (dk_at dksX3_init_1 20 rfl rfl)
theorem dX3_init_44 : decode cX3_init 44 = .ok (.bipush 112, 2) := dk_16 112 (dk_at dksX3_init_1 21 rfl rfl)
theorem dX3_init_46 : decode cX3_init 46 = .ok (.newarray .int, 2) := dk_188_10 (dk_at dksX3_init_2 0 rfl rfl)
theorem dX3_init_48 : decode cX3_init 48 = .ok (.putfield 25, 3) := dk_181 0 25 (dk_at dksX3_init_2 2 rfl rfl)
theorem dX3_init_51 : decode cX3_init 51 = .ok (.aload_n 0, 1) := dk_42 (dk_at dksX3_init_2 5 rfl rfl)
theorem dX3_init_52 : decode cX3_init 52 = .ok (.bipush 40, 2) := dk_16 40 (dk_at dksX3_init_2 6 rfl rfl)
theorem dX3_init_54 : decode cX3_init 54 = .ok (.newarray .char, 2) := dk_188_5 (dk_at dksX3_init_2 8 rfl rfl)
theorem dX3_init_56 : decode cX3_init 56 = .ok (.putfield 28, 3) := dk_181 0 28 (dk_at dksX3_init_2 10 rfl rfl)
theorem dX3_init_59 : decode cX3_init 59 = .ok (.aload_n 0, 1) := dk_42 (dk_at dksX3_init_2 13 rfl rfl)
theorem dX3_init_60 : decode cX3_init 60 = .ok (.bipush 60, 2) := dk_16 60 (dk_at dksX3_init_2 14 rfl rfl)
theorem dX3_init_62 : decode cX3_init 62 = .ok (.newarray .char, 2) := dk_188_5 (dk_at dksX3_init_2 16 rfl rfl)
theorem dX3_init_64 : decode cX3_init 64 = .ok (.putfield 32, 3) := dk_181 0 32 (dk_at dksX3_init_2 18 rfl rfl)
theorem dX3_init_67 : decode cX3_init 67 = .ok (.aload_n 0, 1) := dk_42 (dk_at dksX3_init_2 21 rfl rfl)
theorem dX3_init_68 : decode cX3_init 68 = .ok (.iconst (-1), 1) := dk_2 (dk_at dksX3_init_2 22 rfl rfl)
theorem dX3_init_69 : decode cX3_init 69 = .ok (.putfield 35, 3) := dk_181 0 35 (dk_at dksX3_init_3 0 rfl rfl)
theorem dX3_init_72 : decode cX3_init 72 = .ok (.aload_n 0, 1) := dk_42 (dk_at dksX3_init_3 3 rfl rfl)
theorem dX3_init_73 : decode cX3_init 73 = .ok (.iconst 4, 1) := dk_7 (dk_at dksX3_init_3 4 rfl rfl)
theorem dX3_init_74 : decode cX3_init 74 = .ok (.newarray .int, 2) := dk_188_10 (dk_at dksX3_init_3 5 rfl rfl)
theorem dX3_init_76 : decode cX3_init 76 = .ok (.putfield 39, 3) := dk_181 0 39 (dk_at dksX3_init_3 7 rfl rfl)
theorem dX3_init_79 : decode cX3_init 79 = .ok (.aload_n 0, 1) := dk_42 (dk_at dksX3_init_3 10 rfl rfl)
theorem dX3_init_80 : decode cX3_init 80 = .ok (.getfield 16, 3) := dk_180 0 16 (dk_at dksX3_init_3 11 rfl rfl)
theorem dX3_init_83 : decode cX3_init 83 = .ok (.iconst 1, 1) := dk_4 (dk_at dksX3_init_3 14 rfl rfl)
theorem dX3_init_84 : decode cX3_init 84 = .ok (.sipush 200, 3) := dk_17 0 200 (dk_at dksX3_init_3 15 rfl rfl)
theorem dX3_init_87 : decode cX3_init 87 = .ok (.iastore, 1) := dk_79 (dk_at dksX3_init_3 18 rfl rfl)
theorem dX3_init_88 : decode cX3_init 88 = .ok (.aload_n 0, 1) := dk_42 (dk_at dksX3_init_3 19 rfl rfl)
theorem dX3_init_89 : decode cX3_init 89 = .ok (.getfield 16, 3) := dk_180 0 16 (dk_at dksX3_init_3 20 rfl rfl)
theorem dX3_init_92 : decode cX3_init 92 = .ok (.iconst 4, 1) := dk_7 (dk_at dksX3_init_3 23 rfl rfl)
theorem dX3_init_93 : decode cX3_init 93 = .ok (.iconst 3, 1) := dk_6 (dk_at dksX3_init_4 0 rfl rfl)
theorem dX3_init_94 : decode cX3_init 94 = .ok (.iastore, 1) := dk_79 (dk_at dksX3_init_4 1 rfl rfl)
theorem dX3_init_95 : decode cX3_init 95 = .ok (.return_, 1) := dk_177 (dk_at dksX3_init_4 2 rfl rfl)
abbrev cX3_reason : ByteArray := prog_45_method_7_code
def yX3_reason : MethodName := ⟨RX3, "reason", "(IZ)I"⟩
def dkwX3_reason_2 : List UInt8 := [167, 0, 9, 42, 180, 0, 7, 27, 46, 172]
abbrev dktX3_reason_2 : List UInt8 := dkwX3_reason_2 ++ []
def dkwX3_reason_1 : List UInt8 := [42, 180, 0, 7, 27, 46, 154, 0, 6, 16, 250, 172, 28, 153, 0, 12, 42, 180, 0, 13, 27, 46]
abbrev dktX3_reason_1 : List UInt8 := dkwX3_reason_1 ++ dktX3_reason_2
def dkwX3_reason_0 : List UInt8 := [27, 3, 4, 184, 0, 52, 154, 0, 6, 16, 254, 172, 42, 180, 0, 7, 3, 46, 154, 0, 6, 16, 253, 172]
abbrev dktX3_reason_0 : List UInt8 := dkwX3_reason_0 ++ dktX3_reason_1
theorem dksX3_reason_0 : cX3_reason.data.toList.drop 0 = dktX3_reason_0 := by decide +kernel
theorem dksX3_reason_1 : cX3_reason.data.toList.drop 24 = dktX3_reason_1 := dk_seg dksX3_reason_0 24 rfl rfl
theorem dksX3_reason_2 : cX3_reason.data.toList.drop 46 = dktX3_reason_2 := dk_seg dksX3_reason_1 22 rfl rfl
theorem dX3_reason_0 : decode cX3_reason 0 = .ok (.iload_n 1, 1) := dk_27 (dk_at dksX3_reason_0 0 rfl rfl)
theorem dX3_reason_1 : decode cX3_reason 1 = .ok (.iconst 0, 1) := dk_3 (dk_at dksX3_reason_0 1 rfl rfl)
theorem dX3_reason_2 : decode cX3_reason 2 = .ok (.iconst 1, 1) := dk_4 (dk_at dksX3_reason_0 2 rfl rfl)
theorem dX3_reason_3 : decode cX3_reason 3 = .ok (.invokestatic 52, 3) := dk_184 0 52 (dk_at dksX3_reason_0 3 rfl rfl)
theorem dX3_reason_6 : decode cX3_reason 6 = .ok (.ifCond .ne 6, 3) := dk_154 0 6 (dk_at dksX3_reason_0 6 rfl rfl)
theorem dX3_reason_9 : decode cX3_reason 9 = .ok (.bipush (-2), 2) := dk_16 254 (dk_at dksX3_reason_0 9 rfl rfl)
theorem dX3_reason_11 : decode cX3_reason 11 = .ok (.ireturn, 1) := dk_172 (dk_at dksX3_reason_0 11 rfl rfl)
theorem dX3_reason_12 : decode cX3_reason 12 = .ok (.aload_n 0, 1) := dk_42 (dk_at dksX3_reason_0 12 rfl rfl)
theorem dX3_reason_13 : decode cX3_reason 13 = .ok (.getfield 7, 3) := dk_180 0 7 (dk_at dksX3_reason_0 13 rfl rfl)
theorem dX3_reason_16 : decode cX3_reason 16 = .ok (.iconst 0, 1) := dk_3 (dk_at dksX3_reason_0 16 rfl rfl)
theorem dX3_reason_17 : decode cX3_reason 17 = .ok (.iaload, 1) := dk_46 (dk_at dksX3_reason_0 17 rfl rfl)
theorem dX3_reason_18 : decode cX3_reason 18 = .ok (.ifCond .ne 6, 3) := dk_154 0 6 (dk_at dksX3_reason_0 18 rfl rfl)
theorem dX3_reason_21 : decode cX3_reason 21 = .ok (.bipush (-3), 2) := dk_16 253 (dk_at dksX3_reason_0 21 rfl rfl)
theorem dX3_reason_23 : decode cX3_reason 23 = .ok (.ireturn, 1) := dk_172 (dk_at dksX3_reason_0 23 rfl rfl)
theorem dX3_reason_24 : decode cX3_reason 24 = .ok (.aload_n 0, 1) := dk_42 (dk_at dksX3_reason_1 0 rfl rfl)
theorem dX3_reason_25 : decode cX3_reason 25 = .ok (.getfield 7, 3) := dk_180 0 7 (dk_at dksX3_reason_1 1 rfl rfl)
theorem dX3_reason_28 : decode cX3_reason 28 = .ok (.iload_n 1, 1) := dk_27 (dk_at dksX3_reason_1 4 rfl rfl)
theorem dX3_reason_29 : decode cX3_reason 29 = .ok (.iaload, 1) := dk_46 (dk_at dksX3_reason_1 5 rfl rfl)
theorem dX3_reason_30 : decode cX3_reason 30 = .ok (.ifCond .ne 6, 3) := dk_154 0 6 (dk_at dksX3_reason_1 6 rfl rfl)
theorem dX3_reason_33 : decode cX3_reason 33 = .ok (.bipush (-6), 2) := dk_16 250 (dk_at dksX3_reason_1 9 rfl rfl)
theorem dX3_reason_35 : decode cX3_reason 35 = .ok (.ireturn, 1) := dk_172 (dk_at dksX3_reason_1 11 rfl rfl)
theorem dX3_reason_36 : decode cX3_reason 36 = .ok (.iload_n 2, 1) := dk_28 (dk_at dksX3_reason_1 12 rfl rfl)
theorem dX3_reason_37 : decode cX3_reason 37 = .ok (.ifCond .eq 12, 3) := dk_153 0 12 (dk_at dksX3_reason_1 13 rfl rfl)
theorem dX3_reason_40 : decode cX3_reason 40 = .ok (.aload_n 0, 1) := dk_42 (dk_at dksX3_reason_1 16 rfl rfl)
theorem dX3_reason_41 : decode cX3_reason 41 = .ok (.getfield 13, 3) := dk_180 0 13 (dk_at dksX3_reason_1 17 rfl rfl)
theorem dX3_reason_44 : decode cX3_reason 44 = .ok (.iload_n 1, 1) := dk_27 (dk_at dksX3_reason_1 20 rfl rfl)
theorem dX3_reason_45 : decode cX3_reason 45 = .ok (.iaload, 1) := dk_46 (dk_at dksX3_reason_1 21 rfl rfl)
theorem dX3_reason_46 : decode cX3_reason 46 = .ok (.goto 9, 3) := dk_167 0 9 (dk_at dksX3_reason_2 0 rfl rfl)
theorem dX3_reason_49 : decode cX3_reason 49 = .ok (.aload_n 0, 1) := dk_42 (dk_at dksX3_reason_2 3 rfl rfl)
theorem dX3_reason_50 : decode cX3_reason 50 = .ok (.getfield 7, 3) := dk_180 0 7 (dk_at dksX3_reason_2 4 rfl rfl)
theorem dX3_reason_53 : decode cX3_reason 53 = .ok (.iload_n 1, 1) := dk_27 (dk_at dksX3_reason_2 7 rfl rfl)
theorem dX3_reason_54 : decode cX3_reason 54 = .ok (.iaload, 1) := dk_46 (dk_at dksX3_reason_2 8 rfl rfl)
theorem dX3_reason_55 : decode cX3_reason 55 = .ok (.ireturn, 1) := dk_172 (dk_at dksX3_reason_2 9 rfl rfl)
abbrev cX3_isBetween : ByteArray := prog_45_method_2_code
def yX3_isBetween : MethodName := ⟨RX3, "isBetween", "(III)Z"⟩
def dkwX3_isBetween_0 : List UInt8 := [27, 26, 163, 0, 12, 26, 28, 163, 0, 7, 4, 167, 0, 4, 3, 172]
abbrev dktX3_isBetween_0 : List UInt8 := dkwX3_isBetween_0 ++ []
theorem dksX3_isBetween_0 : cX3_isBetween.data.toList.drop 0 = dktX3_isBetween_0 := by decide +kernel
theorem dX3_isBetween_0 : decode cX3_isBetween 0 = .ok (.iload_n 1, 1) := dk_27 (dk_at dksX3_isBetween_0 0 rfl rfl)
theorem dX3_isBetween_1 : decode cX3_isBetween 1 = .ok (.iload_n 0, 1) := dk_26 (dk_at dksX3_isBetween_0 1 rfl rfl)
theorem dX3_isBetween_2 : decode cX3_isBetween 2 = .ok (.if_icmp .gt 12, 3) := dk_163 0 12 (dk_at dksX3_isBetween_0 2 rfl rfl)
theorem dX3_isBetween_5 : decode cX3_isBetween 5 = .ok (.iload_n 0, 1) := dk_26 (dk_at dksX3_isBetween_0 5 rfl rfl)
theorem dX3_isBetween_6 : decode cX3_isBetween 6 = .ok (.iload_n 2, 1) := dk_28 (dk_at dksX3_isBetween_0 6 rfl rfl)
theorem dX3_isBetween_7 : decode cX3_isBetween 7 = .ok (.if_icmp .gt 7, 3) := dk_163 0 7 (dk_at dksX3_isBetween_0 7 rfl rfl)
theorem dX3_isBetween_10 : decode cX3_isBetween 10 = .ok (.iconst 1, 1) := dk_4 (dk_at dksX3_isBetween_0 10 rfl rfl)
theorem dX3_isBetween_11 : decode cX3_isBetween 11 = .ok (.goto 4, 3) := dk_167 0 4 (dk_at dksX3_isBetween_0 11 rfl rfl)
theorem dX3_isBetween_14 : decode cX3_isBetween 14 = .ok (.iconst 0, 1) := dk_3 (dk_at dksX3_isBetween_0 14 rfl rfl)
theorem dX3_isBetween_15 : decode cX3_isBetween 15 = .ok (.ireturn, 1) := dk_172 (dk_at dksX3_isBetween_0 15 rfl rfl)
abbrev cX3_hamlet : ByteArray := prog_45_method_35_code
def yX3_hamlet : MethodName := ⟨RX3, "hamlet", "(III)I"⟩
def dkwX3_hamlet_1 : List UInt8 := [182, 0, 119, 42, 27, 28, 29, 182, 0, 122, 172]
abbrev dktX3_hamlet_1 : List UInt8 := dkwX3_hamlet_1 ++ []
def dkwX3_hamlet_0 : List UInt8 := [42, 27, 28, 29, 182, 0, 112, 54, 4, 21, 4, 153, 0, 10, 42, 21, 4, 182, 0, 116, 172, 42]
abbrev dktX3_hamlet_0 : List UInt8 := dkwX3_hamlet_0 ++ dktX3_hamlet_1
theorem dksX3_hamlet_0 : cX3_hamlet.data.toList.drop 0 = dktX3_hamlet_0 := by decide +kernel
theorem dksX3_hamlet_1 : cX3_hamlet.data.toList.drop 22 = dktX3_hamlet_1 := dk_seg dksX3_hamlet_0 22 rfl rfl
theorem dX3_hamlet_0 : decode cX3_hamlet 0 = .ok (.aload_n 0, 1) := dk_42 (dk_at dksX3_hamlet_0 0 rfl rfl)
theorem dX3_hamlet_1 : decode cX3_hamlet 1 = .ok (.iload_n 1, 1) := dk_27 (dk_at dksX3_hamlet_0 1 rfl rfl)
theorem dX3_hamlet_2 : decode cX3_hamlet 2 = .ok (.iload_n 2, 1) := dk_28 (dk_at dksX3_hamlet_0 2 rfl rfl)
theorem dX3_hamlet_3 : decode cX3_hamlet 3 = .ok (.iload_n 3, 1) := dk_29 (dk_at dksX3_hamlet_0 3 rfl rfl)
theorem dX3_hamlet_4 : decode cX3_hamlet 4 = .ok (.invokevirtual 112, 3) := dk_182 0 112 (dk_at dksX3_hamlet_0 4 rfl rfl)
theorem dX3_hamlet_7 : decode cX3_hamlet 7 = .ok (.istore 4, 2) := dk_54 4 (dk_at dksX3_hamlet_0 7 rfl rfl)
theorem dX3_hamlet_9 : decode cX3_hamlet 9 = .ok (.iload 4, 2) := dk_21 4 (dk_at dksX3_hamlet_0 9 rfl rfl)
theorem dX3_hamlet_11 : decode cX3_hamlet 11 = .ok (.ifCond .eq 10, 3) := dk_153 0 10 (dk_at dksX3_hamlet_0 11 rfl rfl)
theorem dX3_hamlet_14 : decode cX3_hamlet 14 = .ok (.aload_n 0, 1) := dk_42 (dk_at dksX3_hamlet_0 14 rfl rfl)
theorem dX3_hamlet_15 : decode cX3_hamlet 15 = .ok (.iload 4, 2) := dk_21 4 (dk_at dksX3_hamlet_0 15 rfl rfl)
theorem dX3_hamlet_17 : decode cX3_hamlet 17 = .ok (.invokevirtual 116, 3) := dk_182 0 116 (dk_at dksX3_hamlet_0 17 rfl rfl)
theorem dX3_hamlet_20 : decode cX3_hamlet 20 = .ok (.ireturn, 1) := dk_172 (dk_at dksX3_hamlet_0 20 rfl rfl)
theorem dX3_hamlet_21 : decode cX3_hamlet 21 = .ok (.aload_n 0, 1) := dk_42 (dk_at dksX3_hamlet_0 21 rfl rfl)
theorem dX3_hamlet_22 : decode cX3_hamlet 22 = .ok (.invokevirtual 119, 3) := dk_182 0 119 (dk_at dksX3_hamlet_1 0 rfl rfl)
theorem dX3_hamlet_25 : decode cX3_hamlet 25 = .ok (.aload_n 0, 1) := dk_42 (dk_at dksX3_hamlet_1 3 rfl rfl)
theorem dX3_hamlet_26 : decode cX3_hamlet 26 = .ok (.iload_n 1, 1) := dk_27 (dk_at dksX3_hamlet_1 4 rfl rfl)
theorem dX3_hamlet_27 : decode cX3_hamlet 27 = .ok (.iload_n 2, 1) := dk_28 (dk_at dksX3_hamlet_1 5 rfl rfl)
theorem dX3_hamlet_28 : decode cX3_hamlet 28 = .ok (.iload_n 3, 1) := dk_29 (dk_at dksX3_hamlet_1 6 rfl rfl)
theorem dX3_hamlet_29 : decode cX3_hamlet 29 = .ok (.invokevirtual 122, 3) := dk_182 0 122 (dk_at dksX3_hamlet_1 7 rfl rfl)
theorem dX3_hamlet_32 : decode cX3_hamlet 32 = .ok (.ireturn, 1) := dk_172 (dk_at dksX3_hamlet_1 10 rfl rfl)
abbrev cX3_notHamlet : ByteArray := prog_45_method_33_code
def yX3_notHamlet : MethodName := ⟨RX3, "notHamlet", "(III)I"⟩
def dkwX3_notHamlet_2 : List UInt8 := [155, 0, 17, 42, 5, 42, 27, 28, 182, 0, 109, 182, 0, 106, 167, 0, 4, 3, 172]
abbrev dktX3_notHamlet_2 : List UInt8 := dkwX3_notHamlet_2 ++ []
def dkwX3_notHamlet_1 : List UInt8 := [180, 0, 16, 5, 46, 16, 8, 160, 0, 11, 42, 4, 16, 8, 182, 0, 106, 172, 42, 27, 28, 182, 0, 109]
abbrev dktX3_notHamlet_1 : List UInt8 := dkwX3_notHamlet_1 ++ dktX3_notHamlet_2
def dkwX3_notHamlet_0 : List UInt8 := [27, 28, 184, 0, 103, 153, 0, 13, 29, 4, 16, 20, 184, 0, 52, 154, 0, 6, 16, 254, 172, 42]
abbrev dktX3_notHamlet_0 : List UInt8 := dkwX3_notHamlet_0 ++ dktX3_notHamlet_1
theorem dksX3_notHamlet_0 : cX3_notHamlet.data.toList.drop 0 = dktX3_notHamlet_0 := by decide +kernel
theorem dksX3_notHamlet_1 : cX3_notHamlet.data.toList.drop 22 = dktX3_notHamlet_1 := dk_seg dksX3_notHamlet_0 22 rfl rfl
theorem dksX3_notHamlet_2 : cX3_notHamlet.data.toList.drop 46 = dktX3_notHamlet_2 := dk_seg dksX3_notHamlet_1 24 rfl rfl
theorem dX3_notHamlet_0 : decode cX3_notHamlet 0 = .ok (.iload_n 1, 1) := dk_27 (dk_at dksX3_notHamlet_0 0 rfl rfl)
theorem dX3_notHamlet_1 : decode cX3_notHamlet 1 = .ok (.iload_n 2, 1) := dk_28 (dk_at dksX3_notHamlet_0 1 rfl rfl)
theorem dX3_notHamlet_2 : decode cX3_notHamlet 2 = .ok (.invokestatic 103, 3) := dk_184 0 103 (dk_at dksX3_notHamlet_0 2 rfl rfl)
theorem dX3_notHamlet_5 : decode cX3_notHamlet 5 = .ok (.ifCond .eq 13, 3) := dk_153 0 13 (dk_at dksX3_notHamlet_0 5 rfl rfl)
theorem dX3_notHamlet_8 : decode cX3_notHamlet 8 = .ok (.iload_n 3, 1) := dk_29 (dk_at dksX3_notHamlet_0 8 rfl rfl)
theorem dX3_notHamlet_9 : decode cX3_notHamlet 9 = .ok (.iconst 1, 1) := dk_4 (dk_at dksX3_notHamlet_0 9 rfl rfl)
theorem dX3_notHamlet_10 : decode cX3_notHamlet 10 = .ok (.bipush 20, 2) := dk_16 20 (dk_at dksX3_notHamlet_0 10 rfl rfl)
theorem dX3_notHamlet_12 : decode cX3_notHamlet 12 = .ok (.invokestatic 52, 3) := dk_184 0 52 (dk_at dksX3_notHamlet_0 12 rfl rfl)
theorem dX3_notHamlet_15 : decode cX3_notHamlet 15 = .ok (.ifCond .ne 6, 3) := dk_154 0 6 (dk_at dksX3_notHamlet_0 15 rfl rfl)
theorem dX3_notHamlet_18 : decode cX3_notHamlet 18 = .ok (.bipush (-2), 2) := dk_16 254 (dk_at dksX3_notHamlet_0 18 rfl rfl)
theorem dX3_notHamlet_20 : decode cX3_notHamlet 20 = .ok (.ireturn, 1) := dk_172 (dk_at dksX3_notHamlet_0 20 rfl rfl)
theorem dX3_notHamlet_21 : decode cX3_notHamlet 21 = .ok (.aload_n 0, 1) := dk_42 (dk_at dksX3_notHamlet_0 21 rfl rfl)
theorem dX3_notHamlet_22 : decode cX3_notHamlet 22 = .ok (.getfield 16, 3) := dk_180 0 16 (dk_at dksX3_notHamlet_1 0 rfl rfl)
theorem dX3_notHamlet_25 : decode cX3_notHamlet 25 = .ok (.iconst 2, 1) := dk_5 (dk_at dksX3_notHamlet_1 3 rfl rfl)
theorem dX3_notHamlet_26 : decode cX3_notHamlet 26 = .ok (.iaload, 1) := dk_46 (dk_at dksX3_notHamlet_1 4 rfl rfl)
theorem dX3_notHamlet_27 : decode cX3_notHamlet 27 = .ok (.bipush 8, 2) := dk_16 8 (dk_at dksX3_notHamlet_1 5 rfl rfl)
theorem dX3_notHamlet_29 : decode cX3_notHamlet 29 = .ok (.if_icmp .ne 11, 3) := dk_160 0 11 (dk_at dksX3_notHamlet_1 7 rfl rfl)
theorem dX3_notHamlet_32 : decode cX3_notHamlet 32 = .ok (.aload_n 0, 1) := dk_42 (dk_at dksX3_notHamlet_1 10 rfl rfl)
theorem dX3_notHamlet_33 : decode cX3_notHamlet 33 = .ok (.iconst 1, 1) := dk_4 (dk_at dksX3_notHamlet_1 11 rfl rfl)
theorem dX3_notHamlet_34 : decode cX3_notHamlet 34 = .ok (.bipush 8, 2) := dk_16 8 (dk_at dksX3_notHamlet_1 12 rfl rfl)
theorem dX3_notHamlet_36 : decode cX3_notHamlet 36 = .ok (.invokevirtual 106, 3) := dk_182 0 106 (dk_at dksX3_notHamlet_1 14 rfl rfl)
theorem dX3_notHamlet_39 : decode cX3_notHamlet 39 = .ok (.ireturn, 1) := dk_172 (dk_at dksX3_notHamlet_1 17 rfl rfl)
theorem dX3_notHamlet_40 : decode cX3_notHamlet 40 = .ok (.aload_n 0, 1) := dk_42 (dk_at dksX3_notHamlet_1 18 rfl rfl)
theorem dX3_notHamlet_41 : decode cX3_notHamlet 41 = .ok (.iload_n 1, 1) := dk_27 (dk_at dksX3_notHamlet_1 19 rfl rfl)
theorem dX3_notHamlet_42 : decode cX3_notHamlet 42 = .ok (.iload_n 2, 1) := dk_28 (dk_at dksX3_notHamlet_1 20 rfl rfl)
theorem dX3_notHamlet_43 : decode cX3_notHamlet 43 = .ok (.invokevirtual 109, 3) := dk_182 0 109 (dk_at dksX3_notHamlet_1 21 rfl rfl)
theorem dX3_notHamlet_46 : decode cX3_notHamlet 46 = .ok (.ifCond .lt 17, 3) := dk_155 0 17 (dk_at dksX3_notHamlet_2 0 rfl rfl)
theorem dX3_notHamlet_49 : decode cX3_notHamlet 49 = .ok (.aload_n 0, 1) := dk_42 (dk_at dksX3_notHamlet_2 3 rfl rfl)
theorem dX3_notHamlet_50 : decode cX3_notHamlet 50 = .ok (.iconst 2, 1) := dk_5 (dk_at dksX3_notHamlet_2 4 rfl rfl)
theorem dX3_notHamlet_51 : decode cX3_notHamlet 51 = .ok (.aload_n 0, 1) := dk_42 (dk_at dksX3_notHamlet_2 5 rfl rfl)
theorem dX3_notHamlet_52 : decode cX3_notHamlet 52 = .ok (.iload_n 1, 1) := dk_27 (dk_at dksX3_notHamlet_2 6 rfl rfl)
theorem dX3_notHamlet_53 : decode cX3_notHamlet 53 = .ok (.iload_n 2, 1) := dk_28 (dk_at dksX3_notHamlet_2 7 rfl rfl)
theorem dX3_notHamlet_54 : decode cX3_notHamlet 54 = .ok (.invokevirtual 109, 3) := dk_182 0 109 (dk_at dksX3_notHamlet_2 8 rfl rfl)
theorem dX3_notHamlet_57 : decode cX3_notHamlet 57 = .ok (.invokevirtual 106, 3) := dk_182 0 106 (dk_at dksX3_notHamlet_2 11 rfl rfl)
theorem dX3_notHamlet_60 : decode cX3_notHamlet 60 = .ok (.goto 4, 3) := dk_167 0 4 (dk_at dksX3_notHamlet_2 14 rfl rfl)
theorem dX3_notHamlet_63 : decode cX3_notHamlet 63 = .ok (.iconst 0, 1) := dk_3 (dk_at dksX3_notHamlet_2 17 rfl rfl)
theorem dX3_notHamlet_64 : decode cX3_notHamlet 64 = .ok (.ireturn, 1) := dk_172 (dk_at dksX3_notHamlet_2 18 rfl rfl)
abbrev cX3_isPlace : ByteArray := prog_45_method_30_code
def yX3_isPlace : MethodName := ⟨RX3, "isPlace", "(II)Z"⟩
def dkwX3_isPlace_1 : List UInt8 := [3, 172]
abbrev dktX3_isPlace_1 : List UInt8 := dkwX3_isPlace_1 ++ []
def dkwX3_isPlace_0 : List UInt8 := [26, 3, 16, 30, 184, 0, 52, 153, 0, 17, 27, 3, 16, 30, 184, 0, 52, 153, 0, 7, 4, 167, 0, 4]
abbrev dktX3_isPlace_0 : List UInt8 := dkwX3_isPlace_0 ++ dktX3_isPlace_1
theorem dksX3_isPlace_0 : cX3_isPlace.data.toList.drop 0 = dktX3_isPlace_0 := by decide +kernel
theorem dksX3_isPlace_1 : cX3_isPlace.data.toList.drop 24 = dktX3_isPlace_1 := dk_seg dksX3_isPlace_0 24 rfl rfl
theorem dX3_isPlace_0 : decode cX3_isPlace 0 = .ok (.iload_n 0, 1) := dk_26 (dk_at dksX3_isPlace_0 0 rfl rfl)
theorem dX3_isPlace_1 : decode cX3_isPlace 1 = .ok (.iconst 0, 1) := dk_3 (dk_at dksX3_isPlace_0 1 rfl rfl)
theorem dX3_isPlace_2 : decode cX3_isPlace 2 = .ok (.bipush 30, 2) := dk_16 30 (dk_at dksX3_isPlace_0 2 rfl rfl)
theorem dX3_isPlace_4 : decode cX3_isPlace 4 = .ok (.invokestatic 52, 3) := dk_184 0 52 (dk_at dksX3_isPlace_0 4 rfl rfl)
theorem dX3_isPlace_7 : decode cX3_isPlace 7 = .ok (.ifCond .eq 17, 3) := dk_153 0 17 (dk_at dksX3_isPlace_0 7 rfl rfl)
theorem dX3_isPlace_10 : decode cX3_isPlace 10 = .ok (.iload_n 1, 1) := dk_27 (dk_at dksX3_isPlace_0 10 rfl rfl)
theorem dX3_isPlace_11 : decode cX3_isPlace 11 = .ok (.iconst 0, 1) := dk_3 (dk_at dksX3_isPlace_0 11 rfl rfl)
theorem dX3_isPlace_12 : decode cX3_isPlace 12 = .ok (.bipush 30, 2) := dk_16 30 (dk_at dksX3_isPlace_0 12 rfl rfl)
theorem dX3_isPlace_14 : decode cX3_isPlace 14 = .ok (.invokestatic 52, 3) := dk_184 0 52 (dk_at dksX3_isPlace_0 14 rfl rfl)
theorem dX3_isPlace_17 : decode cX3_isPlace 17 = .ok (.ifCond .eq 7, 3) := dk_153 0 7 (dk_at dksX3_isPlace_0 17 rfl rfl)
theorem dX3_isPlace_20 : decode cX3_isPlace 20 = .ok (.iconst 1, 1) := dk_4 (dk_at dksX3_isPlace_0 20 rfl rfl)
theorem dX3_isPlace_21 : decode cX3_isPlace 21 = .ok (.goto 4, 3) := dk_167 0 4 (dk_at dksX3_isPlace_0 21 rfl rfl)
theorem dX3_isPlace_24 : decode cX3_isPlace 24 = .ok (.iconst 0, 1) := dk_3 (dk_at dksX3_isPlace_1 0 rfl rfl)
theorem dX3_isPlace_25 : decode cX3_isPlace 25 = .ok (.ireturn, 1) := dk_172 (dk_at dksX3_isPlace_1 1 rfl rfl)
abbrev cX3_isNot : ByteArray := prog_45_method_4_code
def yX3_isNot : MethodName := ⟨RX3, "isNot", "(II)I"⟩
def dkwX3_isNot_0 : List UInt8 := [42, 27, 181, 0, 42, 42, 28, 181, 0, 45, 16, 251, 172]
abbrev dktX3_isNot_0 : List UInt8 := dkwX3_isNot_0 ++ []
theorem dksX3_isNot_0 : cX3_isNot.data.toList.drop 0 = dktX3_isNot_0 := by decide +kernel
theorem dX3_isNot_0 : decode cX3_isNot 0 = .ok (.aload_n 0, 1) := dk_42 (dk_at dksX3_isNot_0 0 rfl rfl)
theorem dX3_isNot_1 : decode cX3_isNot 1 = .ok (.iload_n 1, 1) := dk_27 (dk_at dksX3_isNot_0 1 rfl rfl)
theorem dX3_isNot_2 : decode cX3_isNot 2 = .ok (.putfield 42, 3) := dk_181 0 42 (dk_at dksX3_isNot_0 2 rfl rfl)
theorem dX3_isNot_5 : decode cX3_isNot 5 = .ok (.aload_n 0, 1) := dk_42 (dk_at dksX3_isNot_0 5 rfl rfl)
theorem dX3_isNot_6 : decode cX3_isNot 6 = .ok (.iload_n 2, 1) := dk_28 (dk_at dksX3_isNot_0 6 rfl rfl)
theorem dX3_isNot_7 : decode cX3_isNot 7 = .ok (.putfield 45, 3) := dk_181 0 45 (dk_at dksX3_isNot_0 7 rfl rfl)
theorem dX3_isNot_10 : decode cX3_isNot 10 = .ok (.bipush (-5), 2) := dk_16 251 (dk_at dksX3_isNot_0 10 rfl rfl)
theorem dX3_isNot_12 : decode cX3_isNot 12 = .ok (.ireturn, 1) := dk_172 (dk_at dksX3_isNot_0 12 rfl rfl)
abbrev cX3_hamletAt : ByteArray := prog_45_method_31_code
def yX3_hamletAt : MethodName := ⟨RX3, "hamletAt", "(II)I"⟩
def dkwX3_hamletAt_1 : List UInt8 := [4, 182, 0, 72, 28, 160, 0, 5, 29, 172, 132, 3, 1, 167, 255, 221, 2, 172]
abbrev dktX3_hamletAt_1 : List UInt8 := dkwX3_hamletAt_1 ++ []
def dkwX3_hamletAt_0 : List UInt8 := [3, 62, 29, 42, 180, 0, 16, 5, 46, 162, 0, 31, 42, 29, 3, 182, 0, 72, 27, 160, 0, 15, 42, 29]
abbrev dktX3_hamletAt_0 : List UInt8 := dkwX3_hamletAt_0 ++ dktX3_hamletAt_1
theorem dksX3_hamletAt_0 : cX3_hamletAt.data.toList.drop 0 = dktX3_hamletAt_0 := by decide +kernel
theorem dksX3_hamletAt_1 : cX3_hamletAt.data.toList.drop 24 = dktX3_hamletAt_1 := dk_seg dksX3_hamletAt_0 24 rfl rfl
theorem dX3_hamletAt_0 : decode cX3_hamletAt 0 = .ok (.iconst 0, 1) := dk_3 (dk_at dksX3_hamletAt_0 0 rfl rfl)
theorem dX3_hamletAt_1 : decode cX3_hamletAt 1 = .ok (.istore_n 3, 1) := dk_62 (dk_at dksX3_hamletAt_0 1 rfl rfl)
theorem dX3_hamletAt_2 : decode cX3_hamletAt 2 = .ok (.iload_n 3, 1) := dk_29 (dk_at dksX3_hamletAt_0 2 rfl rfl)
theorem dX3_hamletAt_3 : decode cX3_hamletAt 3 = .ok (.aload_n 0, 1) := dk_42 (dk_at dksX3_hamletAt_0 3 rfl rfl)
theorem dX3_hamletAt_4 : decode cX3_hamletAt 4 = .ok (.getfield 16, 3) := dk_180 0 16 (dk_at dksX3_hamletAt_0 4 rfl rfl)
theorem dX3_hamletAt_7 : decode cX3_hamletAt 7 = .ok (.iconst 2, 1) := dk_5 (dk_at dksX3_hamletAt_0 7 rfl rfl)
theorem dX3_hamletAt_8 : decode cX3_hamletAt 8 = .ok (.iaload, 1) := dk_46 (dk_at dksX3_hamletAt_0 8 rfl rfl)
theorem dX3_hamletAt_9 : decode cX3_hamletAt 9 = .ok (.if_icmp .ge 31, 3) := dk_162 0 31 (dk_at dksX3_hamletAt_0 9 rfl rfl)
theorem dX3_hamletAt_12 : decode cX3_hamletAt 12 = .ok (.aload_n 0, 1) := dk_42 (dk_at dksX3_hamletAt_0 12 rfl rfl)
theorem dX3_hamletAt_13 : decode cX3_hamletAt 13 = .ok (.iload_n 3, 1) := dk_29 (dk_at dksX3_hamletAt_0 13 rfl rfl)
theorem dX3_hamletAt_14 : decode cX3_hamletAt 14 = .ok (.iconst 0, 1) := dk_3 (dk_at dksX3_hamletAt_0 14 rfl rfl)
theorem dX3_hamletAt_15 : decode cX3_hamletAt 15 = .ok (.invokevirtual 72, 3) := dk_182 0 72 (dk_at dksX3_hamletAt_0 15 rfl rfl)
theorem dX3_hamletAt_18 : decode cX3_hamletAt 18 = .ok (.iload_n 1, 1) := dk_27 (dk_at dksX3_hamletAt_0 18 rfl rfl)
theorem dX3_hamletAt_19 : decode cX3_hamletAt 19 = .ok (.if_icmp .ne 15, 3) := dk_160 0 15 (dk_at dksX3_hamletAt_0 19 rfl rfl)
theorem dX3_hamletAt_22 : decode cX3_hamletAt 22 = .ok (.aload_n 0, 1) := dk_42 (dk_at dksX3_hamletAt_0 22 rfl rfl)
theorem dX3_hamletAt_23 : decode cX3_hamletAt 23 = .ok (.iload_n 3, 1) := dk_29 (dk_at dksX3_hamletAt_0 23 rfl rfl)
theorem dX3_hamletAt_24 : decode cX3_hamletAt 24 = .ok (.iconst 1, 1) := dk_4 (dk_at dksX3_hamletAt_1 0 rfl rfl)
theorem dX3_hamletAt_25 : decode cX3_hamletAt 25 = .ok (.invokevirtual 72, 3) := dk_182 0 72 (dk_at dksX3_hamletAt_1 1 rfl rfl)
theorem dX3_hamletAt_28 : decode cX3_hamletAt 28 = .ok (.iload_n 2, 1) := dk_28 (dk_at dksX3_hamletAt_1 4 rfl rfl)
theorem dX3_hamletAt_29 : decode cX3_hamletAt 29 = .ok (.if_icmp .ne 5, 3) := dk_160 0 5 (dk_at dksX3_hamletAt_1 5 rfl rfl)
theorem dX3_hamletAt_32 : decode cX3_hamletAt 32 = .ok (.iload_n 3, 1) := dk_29 (dk_at dksX3_hamletAt_1 8 rfl rfl)
theorem dX3_hamletAt_33 : decode cX3_hamletAt 33 = .ok (.ireturn, 1) := dk_172 (dk_at dksX3_hamletAt_1 9 rfl rfl)
theorem dX3_hamletAt_34 : decode cX3_hamletAt 34 = .ok (.iinc 3 1, 3) := dk_132 3 1 (dk_at dksX3_hamletAt_1 10 rfl rfl)
theorem dX3_hamletAt_37 : decode cX3_hamletAt 37 = .ok (.goto (-35), 3) := dk_167 255 221 (dk_at dksX3_hamletAt_1 13 rfl rfl)
theorem dX3_hamletAt_40 : decode cX3_hamletAt 40 = .ok (.iconst (-1), 1) := dk_2 (dk_at dksX3_hamletAt_1 16 rfl rfl)
theorem dX3_hamletAt_41 : decode cX3_hamletAt 41 = .ok (.ireturn, 1) := dk_172 (dk_at dksX3_hamletAt_1 17 rfl rfl)
abbrev cX3_hamletIs : ByteArray := prog_45_method_14_code
def yX3_hamletIs : MethodName := ⟨RX3, "hamletIs", "(II)I"⟩
def dkwX3_hamletIs_0 : List UInt8 := [42, 180, 0, 16, 16, 13, 16, 6, 27, 104, 96, 28, 96, 46, 172]
abbrev dktX3_hamletIs_0 : List UInt8 := dkwX3_hamletIs_0 ++ []
theorem dksX3_hamletIs_0 : cX3_hamletIs.data.toList.drop 0 = dktX3_hamletIs_0 := by decide +kernel
theorem dX3_hamletIs_0 : decode cX3_hamletIs 0 = .ok (.aload_n 0, 1) := dk_42 (dk_at dksX3_hamletIs_0 0 rfl rfl)
theorem dX3_hamletIs_1 : decode cX3_hamletIs 1 = .ok (.getfield 16, 3) := dk_180 0 16 (dk_at dksX3_hamletIs_0 1 rfl rfl)
theorem dX3_hamletIs_4 : decode cX3_hamletIs 4 = .ok (.bipush 13, 2) := dk_16 13 (dk_at dksX3_hamletIs_0 4 rfl rfl)
theorem dX3_hamletIs_6 : decode cX3_hamletIs 6 = .ok (.bipush 6, 2) := dk_16 6 (dk_at dksX3_hamletIs_0 6 rfl rfl)
theorem dX3_hamletIs_8 : decode cX3_hamletIs 8 = .ok (.iload_n 1, 1) := dk_27 (dk_at dksX3_hamletIs_0 8 rfl rfl)
theorem dX3_hamletIs_9 : decode cX3_hamletIs 9 = .ok (.imul, 1) := dk_104 (dk_at dksX3_hamletIs_0 9 rfl rfl)
theorem dX3_hamletIs_10 : decode cX3_hamletIs 10 = .ok (.iadd, 1) := dk_96 (dk_at dksX3_hamletIs_0 10 rfl rfl)
theorem dX3_hamletIs_11 : decode cX3_hamletIs 11 = .ok (.iload_n 2, 1) := dk_28 (dk_at dksX3_hamletIs_0 11 rfl rfl)
theorem dX3_hamletIs_12 : decode cX3_hamletIs 12 = .ok (.iadd, 1) := dk_96 (dk_at dksX3_hamletIs_0 12 rfl rfl)
theorem dX3_hamletIs_13 : decode cX3_hamletIs 13 = .ok (.iaload, 1) := dk_46 (dk_at dksX3_hamletIs_0 13 rfl rfl)
theorem dX3_hamletIs_14 : decode cX3_hamletIs 14 = .ok (.ireturn, 1) := dk_172 (dk_at dksX3_hamletIs_0 14 rfl rfl)
abbrev cX3_refuses : ByteArray := prog_45_method_6_code
def yX3_refuses : MethodName := ⟨RX3, "refuses", "(I)I"⟩
def dkwX3_refuses_1 : List UInt8 := [3, 182, 0, 48, 27, 172]
abbrev dktX3_refuses_1 : List UInt8 := dkwX3_refuses_1 ++ []
def dkwX3_refuses_0 : List UInt8 := [27, 16, 251, 159, 0, 5, 27, 172, 42, 3, 42, 180, 0, 42, 42, 180, 0, 45, 182, 0, 48, 42, 4, 3]
abbrev dktX3_refuses_0 : List UInt8 := dkwX3_refuses_0 ++ dktX3_refuses_1
theorem dksX3_refuses_0 : cX3_refuses.data.toList.drop 0 = dktX3_refuses_0 := by decide +kernel
theorem dksX3_refuses_1 : cX3_refuses.data.toList.drop 24 = dktX3_refuses_1 := dk_seg dksX3_refuses_0 24 rfl rfl
theorem dX3_refuses_0 : decode cX3_refuses 0 = .ok (.iload_n 1, 1) := dk_27 (dk_at dksX3_refuses_0 0 rfl rfl)
theorem dX3_refuses_1 : decode cX3_refuses 1 = .ok (.bipush (-5), 2) := dk_16 251 (dk_at dksX3_refuses_0 1 rfl rfl)
theorem dX3_refuses_3 : decode cX3_refuses 3 = .ok (.if_icmp .eq 5, 3) := dk_159 0 5 (dk_at dksX3_refuses_0 3 rfl rfl)
theorem dX3_refuses_6 : decode cX3_refuses 6 = .ok (.iload_n 1, 1) := dk_27 (dk_at dksX3_refuses_0 6 rfl rfl)
theorem dX3_refuses_7 : decode cX3_refuses 7 = .ok (.ireturn, 1) := dk_172 (dk_at dksX3_refuses_0 7 rfl rfl)
theorem dX3_refuses_8 : decode cX3_refuses 8 = .ok (.aload_n 0, 1) := dk_42 (dk_at dksX3_refuses_0 8 rfl rfl)
theorem dX3_refuses_9 : decode cX3_refuses 9 = .ok (.iconst 0, 1) := dk_3 (dk_at dksX3_refuses_0 9 rfl rfl)
theorem dX3_refuses_10 : decode cX3_refuses 10 = .ok (.aload_n 0, 1) := dk_42 (dk_at dksX3_refuses_0 10 rfl rfl)
theorem dX3_refuses_11 : decode cX3_refuses 11 = .ok (.getfield 42, 3) := dk_180 0 42 (dk_at dksX3_refuses_0 11 rfl rfl)
theorem dX3_refuses_14 : decode cX3_refuses 14 = .ok (.aload_n 0, 1) := dk_42 (dk_at dksX3_refuses_0 14 rfl rfl)
theorem dX3_refuses_15 : decode cX3_refuses 15 = .ok (.getfield 45, 3) := dk_180 0 45 (dk_at dksX3_refuses_0 15 rfl rfl)
theorem dX3_refuses_18 : decode cX3_refuses 18 = .ok (.invokevirtual 48, 3) := dk_182 0 48 (dk_at dksX3_refuses_0 18 rfl rfl)
theorem dX3_refuses_21 : decode cX3_refuses 21 = .ok (.aload_n 0, 1) := dk_42 (dk_at dksX3_refuses_0 21 rfl rfl)
theorem dX3_refuses_22 : decode cX3_refuses 22 = .ok (.iconst 1, 1) := dk_4 (dk_at dksX3_refuses_0 22 rfl rfl)
theorem dX3_refuses_23 : decode cX3_refuses 23 = .ok (.iconst 0, 1) := dk_3 (dk_at dksX3_refuses_0 23 rfl rfl)
theorem dX3_refuses_24 : decode cX3_refuses 24 = .ok (.iconst 0, 1) := dk_3 (dk_at dksX3_refuses_1 0 rfl rfl)
theorem dX3_refuses_25 : decode cX3_refuses 25 = .ok (.invokevirtual 48, 3) := dk_182 0 48 (dk_at dksX3_refuses_1 1 rfl rfl)
theorem dX3_refuses_28 : decode cX3_refuses 28 = .ok (.iload_n 1, 1) := dk_27 (dk_at dksX3_refuses_1 4 rfl rfl)
theorem dX3_refuses_29 : decode cX3_refuses 29 = .ok (.ireturn, 1) := dk_172 (dk_at dksX3_refuses_1 5 rfl rfl)
abbrev cX3_keepsAt : ByteArray := prog_45_method_5_code
def yX3_keepsAt : MethodName := ⟨RX3, "keepsAt", "(III)V"⟩
def dkwX3_keepsAt_0 : List UInt8 := [42, 180, 0, 7, 27, 28, 79, 42, 180, 0, 13, 27, 29, 79, 177]
abbrev dktX3_keepsAt_0 : List UInt8 := dkwX3_keepsAt_0 ++ []
theorem dksX3_keepsAt_0 : cX3_keepsAt.data.toList.drop 0 = dktX3_keepsAt_0 := by decide +kernel
theorem dX3_keepsAt_0 : decode cX3_keepsAt 0 = .ok (.aload_n 0, 1) := dk_42 (dk_at dksX3_keepsAt_0 0 rfl rfl)
theorem dX3_keepsAt_1 : decode cX3_keepsAt 1 = .ok (.getfield 7, 3) := dk_180 0 7 (dk_at dksX3_keepsAt_0 1 rfl rfl)
theorem dX3_keepsAt_4 : decode cX3_keepsAt 4 = .ok (.iload_n 1, 1) := dk_27 (dk_at dksX3_keepsAt_0 4 rfl rfl)
theorem dX3_keepsAt_5 : decode cX3_keepsAt 5 = .ok (.iload_n 2, 1) := dk_28 (dk_at dksX3_keepsAt_0 5 rfl rfl)
theorem dX3_keepsAt_6 : decode cX3_keepsAt 6 = .ok (.iastore, 1) := dk_79 (dk_at dksX3_keepsAt_0 6 rfl rfl)
theorem dX3_keepsAt_7 : decode cX3_keepsAt 7 = .ok (.aload_n 0, 1) := dk_42 (dk_at dksX3_keepsAt_0 7 rfl rfl)
theorem dX3_keepsAt_8 : decode cX3_keepsAt 8 = .ok (.getfield 13, 3) := dk_180 0 13 (dk_at dksX3_keepsAt_0 8 rfl rfl)
theorem dX3_keepsAt_11 : decode cX3_keepsAt 11 = .ok (.iload_n 1, 1) := dk_27 (dk_at dksX3_keepsAt_0 11 rfl rfl)
theorem dX3_keepsAt_12 : decode cX3_keepsAt 12 = .ok (.iload_n 3, 1) := dk_29 (dk_at dksX3_keepsAt_0 12 rfl rfl)
theorem dX3_keepsAt_13 : decode cX3_keepsAt 13 = .ok (.iastore, 1) := dk_79 (dk_at dksX3_keepsAt_0 13 rfl rfl)
theorem dX3_keepsAt_14 : decode cX3_keepsAt 14 = .ok (.return_, 1) := dk_177 (dk_at dksX3_keepsAt_0 14 rfl rfl)
abbrev cX3_remembers : ByteArray := prog_45_method_11_code
def yX3_remembers : MethodName := ⟨RX3, "remembers", "()V"⟩
def dkwX3_remembers_0 : List UInt8 := [42, 182, 0, 62, 42, 182, 0, 65, 177]
abbrev dktX3_remembers_0 : List UInt8 := dkwX3_remembers_0 ++ []
theorem dksX3_remembers_0 : cX3_remembers.data.toList.drop 0 = dktX3_remembers_0 := by decide +kernel
theorem dX3_remembers_0 : decode cX3_remembers 0 = .ok (.aload_n 0, 1) := dk_42 (dk_at dksX3_remembers_0 0 rfl rfl)
theorem dX3_remembers_1 : decode cX3_remembers 1 = .ok (.invokevirtual 62, 3) := dk_182 0 62 (dk_at dksX3_remembers_0 1 rfl rfl)
theorem dX3_remembers_4 : decode cX3_remembers 4 = .ok (.aload_n 0, 1) := dk_42 (dk_at dksX3_remembers_0 4 rfl rfl)
theorem dX3_remembers_5 : decode cX3_remembers 5 = .ok (.invokevirtual 65, 3) := dk_182 0 65 (dk_at dksX3_remembers_0 5 rfl rfl)
theorem dX3_remembers_8 : decode cX3_remembers 8 = .ok (.return_, 1) := dk_177 (dk_at dksX3_remembers_0 8 rfl rfl)
abbrev cX3_thinks : ByteArray := prog_45_method_8_code
def yX3_thinks : MethodName := ⟨RX3, "thinks", "()V"⟩
def dkwX3_thinks_1 : List UInt8 := [167, 255, 235, 177]
abbrev dktX3_thinks_1 : List UInt8 := dkwX3_thinks_1 ++ []
def dkwX3_thinks_0 : List UInt8 := [3, 60, 27, 16, 112, 162, 0, 21, 42, 180, 0, 25, 27, 42, 180, 0, 16, 27, 46, 79, 132, 1, 1]
abbrev dktX3_thinks_0 : List UInt8 := dkwX3_thinks_0 ++ dktX3_thinks_1
theorem dksX3_thinks_0 : cX3_thinks.data.toList.drop 0 = dktX3_thinks_0 := by decide +kernel
theorem dksX3_thinks_1 : cX3_thinks.data.toList.drop 23 = dktX3_thinks_1 := dk_seg dksX3_thinks_0 23 rfl rfl
theorem dX3_thinks_0 : decode cX3_thinks 0 = .ok (.iconst 0, 1) := dk_3 (dk_at dksX3_thinks_0 0 rfl rfl)
theorem dX3_thinks_1 : decode cX3_thinks 1 = .ok (.istore_n 1, 1) := dk_60 (dk_at dksX3_thinks_0 1 rfl rfl)
theorem dX3_thinks_2 : decode cX3_thinks 2 = .ok (.iload_n 1, 1) := dk_27 (dk_at dksX3_thinks_0 2 rfl rfl)
theorem dX3_thinks_3 : decode cX3_thinks 3 = .ok (.bipush 112, 2) := dk_16 112 (dk_at dksX3_thinks_0 3 rfl rfl)
theorem dX3_thinks_5 : decode cX3_thinks 5 = .ok (.if_icmp .ge 21, 3) := dk_162 0 21 (dk_at dksX3_thinks_0 5 rfl rfl)
theorem dX3_thinks_8 : decode cX3_thinks 8 = .ok (.aload_n 0, 1) := dk_42 (dk_at dksX3_thinks_0 8 rfl rfl)
theorem dX3_thinks_9 : decode cX3_thinks 9 = .ok (.getfield 25, 3) := dk_180 0 25 (dk_at dksX3_thinks_0 9 rfl rfl)
theorem dX3_thinks_12 : decode cX3_thinks 12 = .ok (.iload_n 1, 1) := dk_27 (dk_at dksX3_thinks_0 12 rfl rfl)
theorem dX3_thinks_13 : decode cX3_thinks 13 = .ok (.aload_n 0, 1) := dk_42 (dk_at dksX3_thinks_0 13 rfl rfl)
theorem dX3_thinks_14 : decode cX3_thinks 14 = .ok (.getfield 16, 3) := dk_180 0 16 (dk_at dksX3_thinks_0 14 rfl rfl)
theorem dX3_thinks_17 : decode cX3_thinks 17 = .ok (.iload_n 1, 1) := dk_27 (dk_at dksX3_thinks_0 17 rfl rfl)
theorem dX3_thinks_18 : decode cX3_thinks 18 = .ok (.iaload, 1) := dk_46 (dk_at dksX3_thinks_0 18 rfl rfl)
theorem dX3_thinks_19 : decode cX3_thinks 19 = .ok (.iastore, 1) := dk_79 (dk_at dksX3_thinks_0 19 rfl rfl)
theorem dX3_thinks_20 : decode cX3_thinks 20 = .ok (.iinc 1 1, 3) := dk_132 1 1 (dk_at dksX3_thinks_0 20 rfl rfl)
theorem dX3_thinks_23 : decode cX3_thinks 23 = .ok (.goto (-21), 3) := dk_167 255 235 (dk_at dksX3_thinks_1 0 rfl rfl)
theorem dX3_thinks_26 : decode cX3_thinks 26 = .ok (.return_, 1) := dk_177 (dk_at dksX3_thinks_1 3 rfl rfl)
abbrev cX3_keepsMind : ByteArray := prog_45_method_10_code
def yX3_keepsMind : MethodName := ⟨RX3, "keepsMind", "()V"⟩
def dkwX3_keepsMind_3 : List UInt8 := [132, 2, 1, 167, 255, 230, 42, 89, 180, 0, 56, 4, 96, 181, 0, 56, 177]
abbrev dktX3_keepsMind_3 : List UInt8 := dkwX3_keepsMind_3 ++ []
def dkwX3_keepsMind_2 : List UInt8 := [16, 112, 162, 0, 26, 42, 180, 0, 19, 16, 112, 27, 104, 28, 96, 42, 180, 0, 25, 28, 46, 79]
abbrev dktX3_keepsMind_2 : List UInt8 := dkwX3_keepsMind_2 ++ dktX3_keepsMind_3
def dkwX3_keepsMind_1 : List UInt8 := [180, 0, 56, 4, 100, 181, 0, 56, 42, 180, 0, 59, 42, 180, 0, 56, 96, 16, 8, 112, 60, 3, 61, 28]
abbrev dktX3_keepsMind_1 : List UInt8 := dkwX3_keepsMind_1 ++ dktX3_keepsMind_2
def dkwX3_keepsMind_0 : List UInt8 := [42, 180, 0, 56, 16, 8, 160, 0, 26, 42, 42, 180, 0, 59, 4, 96, 16, 8, 112, 181, 0, 59, 42, 89]
abbrev dktX3_keepsMind_0 : List UInt8 := dkwX3_keepsMind_0 ++ dktX3_keepsMind_1
theorem dksX3_keepsMind_0 : cX3_keepsMind.data.toList.drop 0 = dktX3_keepsMind_0 := by decide +kernel
theorem dksX3_keepsMind_1 : cX3_keepsMind.data.toList.drop 24 = dktX3_keepsMind_1 := dk_seg dksX3_keepsMind_0 24 rfl rfl
theorem dksX3_keepsMind_2 : cX3_keepsMind.data.toList.drop 48 = dktX3_keepsMind_2 := dk_seg dksX3_keepsMind_1 24 rfl rfl
theorem dksX3_keepsMind_3 : cX3_keepsMind.data.toList.drop 70 = dktX3_keepsMind_3 := dk_seg dksX3_keepsMind_2 22 rfl rfl
theorem dX3_keepsMind_0 : decode cX3_keepsMind 0 = .ok (.aload_n 0, 1) := dk_42 (dk_at dksX3_keepsMind_0 0 rfl rfl)
theorem dX3_keepsMind_1 : decode cX3_keepsMind 1 = .ok (.getfield 56, 3) := dk_180 0 56 (dk_at dksX3_keepsMind_0 1 rfl rfl)
theorem dX3_keepsMind_4 : decode cX3_keepsMind 4 = .ok (.bipush 8, 2) := dk_16 8 (dk_at dksX3_keepsMind_0 4 rfl rfl)
theorem dX3_keepsMind_6 : decode cX3_keepsMind 6 = .ok (.if_icmp .ne 26, 3) := dk_160 0 26 (dk_at dksX3_keepsMind_0 6 rfl rfl)
theorem dX3_keepsMind_9 : decode cX3_keepsMind 9 = .ok (.aload_n 0, 1) := dk_42 (dk_at dksX3_keepsMind_0 9 rfl rfl)
theorem dX3_keepsMind_10 : decode cX3_keepsMind 10 = .ok (.aload_n 0, 1) := dk_42 (dk_at dksX3_keepsMind_0 10 rfl rfl)
theorem dX3_keepsMind_11 : decode cX3_keepsMind 11 = .ok (.getfield 59, 3) := dk_180 0 59 (dk_at dksX3_keepsMind_0 11 rfl rfl)
theorem dX3_keepsMind_14 : decode cX3_keepsMind 14 = .ok (.iconst 1, 1) := dk_4 (dk_at dksX3_keepsMind_0 14 rfl rfl)
theorem dX3_keepsMind_15 : decode cX3_keepsMind 15 = .ok (.iadd, 1) := dk_96 (dk_at dksX3_keepsMind_0 15 rfl rfl)
theorem dX3_keepsMind_16 : decode cX3_keepsMind 16 = .ok (.bipush 8, 2) := dk_16 8 (dk_at dksX3_keepsMind_0 16 rfl rfl)
theorem dX3_keepsMind_18 : decode cX3_keepsMind 18 = .ok (.irem, 1) := dk_112 (dk_at dksX3_keepsMind_0 18 rfl rfl)
theorem dX3_keepsMind_19 : decode cX3_keepsMind 19 = .ok (.putfield 59, 3) := dk_181 0 59 (dk_at dksX3_keepsMind_0 19 rfl rfl)
theorem dX3_keepsMind_22 : decode cX3_keepsMind 22 = .ok (.aload_n 0, 1) := dk_42 (dk_at dksX3_keepsMind_0 22 rfl rfl)
theorem dX3_keepsMind_23 : decode cX3_keepsMind 23 = .ok (.dup, 1) := dk_89 (dk_at dksX3_keepsMind_0 23 rfl rfl)
theorem dX3_keepsMind_24 : decode cX3_keepsMind 24 = .ok (.getfield 56, 3) := dk_180 0 56 (dk_at dksX3_keepsMind_1 0 rfl rfl)
theorem dX3_keepsMind_27 : decode cX3_keepsMind 27 = .ok (.iconst 1, 1) := dk_4 (dk_at dksX3_keepsMind_1 3 rfl rfl)
theorem dX3_keepsMind_28 : decode cX3_keepsMind 28 = .ok (.isub, 1) := dk_100 (dk_at dksX3_keepsMind_1 4 rfl rfl)
theorem dX3_keepsMind_29 : decode cX3_keepsMind 29 = .ok (.putfield 56, 3) := dk_181 0 56 (dk_at dksX3_keepsMind_1 5 rfl rfl)
theorem dX3_keepsMind_32 : decode cX3_keepsMind 32 = .ok (.aload_n 0, 1) := dk_42 (dk_at dksX3_keepsMind_1 8 rfl rfl)
theorem dX3_keepsMind_33 : decode cX3_keepsMind 33 = .ok (.getfield 59, 3) := dk_180 0 59 (dk_at dksX3_keepsMind_1 9 rfl rfl)
theorem dX3_keepsMind_36 : decode cX3_keepsMind 36 = .ok (.aload_n 0, 1) := dk_42 (dk_at dksX3_keepsMind_1 12 rfl rfl)
theorem dX3_keepsMind_37 : decode cX3_keepsMind 37 = .ok (.getfield 56, 3) := dk_180 0 56 (dk_at dksX3_keepsMind_1 13 rfl rfl)
theorem dX3_keepsMind_40 : decode cX3_keepsMind 40 = .ok (.iadd, 1) := dk_96 (dk_at dksX3_keepsMind_1 16 rfl rfl)
theorem dX3_keepsMind_41 : decode cX3_keepsMind 41 = .ok (.bipush 8, 2) := dk_16 8 (dk_at dksX3_keepsMind_1 17 rfl rfl)
theorem dX3_keepsMind_43 : decode cX3_keepsMind 43 = .ok (.irem, 1) := dk_112 (dk_at dksX3_keepsMind_1 19 rfl rfl)
theorem dX3_keepsMind_44 : decode cX3_keepsMind 44 = .ok (.istore_n 1, 1) := dk_60 (dk_at dksX3_keepsMind_1 20 rfl rfl)
theorem dX3_keepsMind_45 : decode cX3_keepsMind 45 = .ok (.iconst 0, 1) := dk_3 (dk_at dksX3_keepsMind_1 21 rfl rfl)
theorem dX3_keepsMind_46 : decode cX3_keepsMind 46 = .ok (.istore_n 2, 1) := dk_61 (dk_at dksX3_keepsMind_1 22 rfl rfl)
theorem dX3_keepsMind_47 : decode cX3_keepsMind 47 = .ok (.iload_n 2, 1) := dk_28 (dk_at dksX3_keepsMind_1 23 rfl rfl)
theorem dX3_keepsMind_48 : decode cX3_keepsMind 48 = .ok (.bipush 112, 2) := dk_16 112 (dk_at dksX3_keepsMind_2 0 rfl rfl)
theorem dX3_keepsMind_50 : decode cX3_keepsMind 50 = .ok (.if_icmp .ge 26, 3) := dk_162 0 26 (dk_at dksX3_keepsMind_2 2 rfl rfl)
theorem dX3_keepsMind_53 : decode cX3_keepsMind 53 = .ok (.aload_n 0, 1) := dk_42 (dk_at dksX3_keepsMind_2 5 rfl rfl)
theorem dX3_keepsMind_54 : decode cX3_keepsMind 54 = .ok (.getfield 19, 3) := dk_180 0 19 (dk_at dksX3_keepsMind_2 6 rfl rfl)
theorem dX3_keepsMind_57 : decode cX3_keepsMind 57 = .ok (.bipush 112, 2) := dk_16 112 (dk_at dksX3_keepsMind_2 9 rfl rfl)
theorem dX3_keepsMind_59 : decode cX3_keepsMind 59 = .ok (.iload_n 1, 1) := dk_27 (dk_at dksX3_keepsMind_2 11 rfl rfl)
theorem dX3_keepsMind_60 : decode cX3_keepsMind 60 = .ok (.imul, 1) := dk_104 (dk_at dksX3_keepsMind_2 12 rfl rfl)
theorem dX3_keepsMind_61 : decode cX3_keepsMind 61 = .ok (.iload_n 2, 1) := dk_28 (dk_at dksX3_keepsMind_2 13 rfl rfl)
theorem dX3_keepsMind_62 : decode cX3_keepsMind 62 = .ok (.iadd, 1) := dk_96 (dk_at dksX3_keepsMind_2 14 rfl rfl)
theorem dX3_keepsMind_63 : decode cX3_keepsMind 63 = .ok (.aload_n 0, 1) := dk_42 (dk_at dksX3_keepsMind_2 15 rfl rfl)
theorem dX3_keepsMind_64 : decode cX3_keepsMind 64 = .ok (.getfield 25, 3) := dk_180 0 25 (dk_at dksX3_keepsMind_2 16 rfl rfl)
theorem dX3_keepsMind_67 : decode cX3_keepsMind 67 = .ok (.iload_n 2, 1) := dk_28 (dk_at dksX3_keepsMind_2 19 rfl rfl)
theorem dX3_keepsMind_68 : decode cX3_keepsMind 68 = .ok (.iaload, 1) := dk_46 (dk_at dksX3_keepsMind_2 20 rfl rfl)
theorem dX3_keepsMind_69 : decode cX3_keepsMind 69 = .ok (.iastore, 1) := dk_79 (dk_at dksX3_keepsMind_2 21 rfl rfl)
theorem dX3_keepsMind_70 : decode cX3_keepsMind 70 = .ok (.iinc 2 1, 3) := dk_132 2 1 (dk_at dksX3_keepsMind_3 0 rfl rfl)
theorem dX3_keepsMind_73 : decode cX3_keepsMind 73 = .ok (.goto (-26), 3) := dk_167 255 230 (dk_at dksX3_keepsMind_3 3 rfl rfl)
theorem dX3_keepsMind_76 : decode cX3_keepsMind 76 = .ok (.aload_n 0, 1) := dk_42 (dk_at dksX3_keepsMind_3 6 rfl rfl)
theorem dX3_keepsMind_77 : decode cX3_keepsMind 77 = .ok (.dup, 1) := dk_89 (dk_at dksX3_keepsMind_3 7 rfl rfl)
theorem dX3_keepsMind_78 : decode cX3_keepsMind 78 = .ok (.getfield 56, 3) := dk_180 0 56 (dk_at dksX3_keepsMind_3 8 rfl rfl)
theorem dX3_keepsMind_81 : decode cX3_keepsMind 81 = .ok (.iconst 1, 1) := dk_4 (dk_at dksX3_keepsMind_3 11 rfl rfl)
theorem dX3_keepsMind_82 : decode cX3_keepsMind 82 = .ok (.iadd, 1) := dk_96 (dk_at dksX3_keepsMind_3 12 rfl rfl)
theorem dX3_keepsMind_83 : decode cX3_keepsMind 83 = .ok (.putfield 56, 3) := dk_181 0 56 (dk_at dksX3_keepsMind_3 13 rfl rfl)
theorem dX3_keepsMind_86 : decode cX3_keepsMind 86 = .ok (.return_, 1) := dk_177 (dk_at dksX3_keepsMind_3 16 rfl rfl)
abbrev cX3_tellsHamlet : ByteArray := prog_45_method_34_code
def yX3_tellsHamlet : MethodName := ⟨RX3, "tellsHamlet", "(III)I"⟩
def dkwX3_tellsHamlet_3 : List UInt8 := [180, 0, 16, 5, 92, 46, 4, 96, 79, 42, 180, 0, 16, 5, 46, 4, 100, 172]
abbrev dktX3_tellsHamlet_3 : List UInt8 := dkwX3_tellsHamlet_3 ++ []
def dkwX3_tellsHamlet_2 : List UInt8 := [96, 27, 79, 42, 180, 0, 16, 21, 4, 4, 96, 28, 79, 42, 180, 0, 16, 21, 4, 5, 96, 29, 79, 42]
abbrev dktX3_tellsHamlet_2 : List UInt8 := dkwX3_tellsHamlet_2 ++ dktX3_tellsHamlet_3
def dkwX3_tellsHamlet_1 : List UInt8 := [42, 180, 0, 16, 21, 4, 21, 5, 96, 3, 79, 132, 5, 1, 167, 255, 235, 42, 180, 0, 16, 21, 4, 3]
abbrev dktX3_tellsHamlet_1 : List UInt8 := dkwX3_tellsHamlet_1 ++ dktX3_tellsHamlet_2
def dkwX3_tellsHamlet_0 : List UInt8 := [16, 13, 16, 6, 42, 180, 0, 16, 5, 46, 104, 96, 54, 4, 3, 54, 5, 21, 5, 16, 6, 162, 0, 20]
abbrev dktX3_tellsHamlet_0 : List UInt8 := dkwX3_tellsHamlet_0 ++ dktX3_tellsHamlet_1
theorem dksX3_tellsHamlet_0 : cX3_tellsHamlet.data.toList.drop 0 = dktX3_tellsHamlet_0 := by decide +kernel
theorem dksX3_tellsHamlet_1 : cX3_tellsHamlet.data.toList.drop 24 = dktX3_tellsHamlet_1 := dk_seg dksX3_tellsHamlet_0 24 rfl rfl
theorem dksX3_tellsHamlet_2 : cX3_tellsHamlet.data.toList.drop 48 = dktX3_tellsHamlet_2 := dk_seg dksX3_tellsHamlet_1 24 rfl rfl
theorem dksX3_tellsHamlet_3 : cX3_tellsHamlet.data.toList.drop 72 = dktX3_tellsHamlet_3 := dk_seg dksX3_tellsHamlet_2 24 rfl rfl
theorem dX3_tellsHamlet_0 : decode cX3_tellsHamlet 0 = .ok (.bipush 13, 2) := dk_16 13 (dk_at dksX3_tellsHamlet_0 0 rfl rfl)
theorem dX3_tellsHamlet_2 : decode cX3_tellsHamlet 2 = .ok (.bipush 6, 2) := dk_16 6 (dk_at dksX3_tellsHamlet_0 2 rfl rfl)
theorem dX3_tellsHamlet_4 : decode cX3_tellsHamlet 4 = .ok (.aload_n 0, 1) := dk_42 (dk_at dksX3_tellsHamlet_0 4 rfl rfl)
theorem dX3_tellsHamlet_5 : decode cX3_tellsHamlet 5 = .ok (.getfield 16, 3) := dk_180 0 16 (dk_at dksX3_tellsHamlet_0 5 rfl rfl)
theorem dX3_tellsHamlet_8 : decode cX3_tellsHamlet 8 = .ok (.iconst 2, 1) := dk_5 (dk_at dksX3_tellsHamlet_0 8 rfl rfl)
theorem dX3_tellsHamlet_9 : decode cX3_tellsHamlet 9 = .ok (.iaload, 1) := dk_46 (dk_at dksX3_tellsHamlet_0 9 rfl rfl)
theorem dX3_tellsHamlet_10 : decode cX3_tellsHamlet 10 = .ok (.imul, 1) := dk_104 (dk_at dksX3_tellsHamlet_0 10 rfl rfl)
theorem dX3_tellsHamlet_11 : decode cX3_tellsHamlet 11 = .ok (.iadd, 1) := dk_96 (dk_at dksX3_tellsHamlet_0 11 rfl rfl)
theorem dX3_tellsHamlet_12 : decode cX3_tellsHamlet 12 = .ok (.istore 4, 2) := dk_54 4 (dk_at dksX3_tellsHamlet_0 12 rfl rfl)
theorem dX3_tellsHamlet_14 : decode cX3_tellsHamlet 14 = .ok (.iconst 0, 1) := dk_3 (dk_at dksX3_tellsHamlet_0 14 rfl rfl)
theorem dX3_tellsHamlet_15 : decode cX3_tellsHamlet 15 = .ok (.istore 5, 2) := dk_54 5 (dk_at dksX3_tellsHamlet_0 15 rfl rfl)
theorem dX3_tellsHamlet_17 : decode cX3_tellsHamlet 17 = .ok (.iload 5, 2) := dk_21 5 (dk_at dksX3_tellsHamlet_0 17 rfl rfl)
theorem dX3_tellsHamlet_19 : decode cX3_tellsHamlet 19 = .ok (.bipush 6, 2) := dk_16 6 (dk_at dksX3_tellsHamlet_0 19 rfl rfl)
theorem dX3_tellsHamlet_21 : decode cX3_tellsHamlet 21 = .ok (.if_icmp .ge 20, 3) := dk_162 0 20 (dk_at dksX3_tellsHamlet_0 21 rfl rfl)
theorem dX3_tellsHamlet_24 : decode cX3_tellsHamlet 24 = .ok (.aload_n 0, 1) := dk_42 (dk_at dksX3_tellsHamlet_1 0 rfl rfl)
theorem dX3_tellsHamlet_25 : decode cX3_tellsHamlet 25 = .ok (.getfield 16, 3) := dk_180 0 16 (dk_at dksX3_tellsHamlet_1 1 rfl rfl)
theorem dX3_tellsHamlet_28 : decode cX3_tellsHamlet 28 = .ok (.iload 4, 2) := dk_21 4 (dk_at dksX3_tellsHamlet_1 4 rfl rfl)
theorem dX3_tellsHamlet_30 : decode cX3_tellsHamlet 30 = .ok (.iload 5, 2) := dk_21 5 (dk_at dksX3_tellsHamlet_1 6 rfl rfl)
theorem dX3_tellsHamlet_32 : decode cX3_tellsHamlet 32 = .ok (.iadd, 1) := dk_96 (dk_at dksX3_tellsHamlet_1 8 rfl rfl)
theorem dX3_tellsHamlet_33 : decode cX3_tellsHamlet 33 = .ok (.iconst 0, 1) := dk_3 (dk_at dksX3_tellsHamlet_1 9 rfl rfl)
theorem dX3_tellsHamlet_34 : decode cX3_tellsHamlet 34 = .ok (.iastore, 1) := dk_79 (dk_at dksX3_tellsHamlet_1 10 rfl rfl)
theorem dX3_tellsHamlet_35 : decode cX3_tellsHamlet 35 = .ok (.iinc 5 1, 3) := dk_132 5 1 (dk_at dksX3_tellsHamlet_1 11 rfl rfl)
theorem dX3_tellsHamlet_38 : decode cX3_tellsHamlet 38 = .ok (.goto (-21), 3) := dk_167 255 235 (dk_at dksX3_tellsHamlet_1 14 rfl rfl)
theorem dX3_tellsHamlet_41 : decode cX3_tellsHamlet 41 = .ok (.aload_n 0, 1) := dk_42 (dk_at dksX3_tellsHamlet_1 17 rfl rfl)
theorem dX3_tellsHamlet_42 : decode cX3_tellsHamlet 42 = .ok (.getfield 16, 3) := dk_180 0 16 (dk_at dksX3_tellsHamlet_1 18 rfl rfl)
theorem dX3_tellsHamlet_45 : decode cX3_tellsHamlet 45 = .ok (.iload 4, 2) := dk_21 4 (dk_at dksX3_tellsHamlet_1 21 rfl rfl)
theorem dX3_tellsHamlet_47 : decode cX3_tellsHamlet 47 = .ok (.iconst 0, 1) := dk_3 (dk_at dksX3_tellsHamlet_1 23 rfl rfl)
theorem dX3_tellsHamlet_48 : decode cX3_tellsHamlet 48 = .ok (.iadd, 1) := dk_96 (dk_at dksX3_tellsHamlet_2 0 rfl rfl)
theorem dX3_tellsHamlet_49 : decode cX3_tellsHamlet 49 = .ok (.iload_n 1, 1) := dk_27 (dk_at dksX3_tellsHamlet_2 1 rfl rfl)
theorem dX3_tellsHamlet_50 : decode cX3_tellsHamlet 50 = .ok (.iastore, 1) := dk_79 (dk_at dksX3_tellsHamlet_2 2 rfl rfl)
theorem dX3_tellsHamlet_51 : decode cX3_tellsHamlet 51 = .ok (.aload_n 0, 1) := dk_42 (dk_at dksX3_tellsHamlet_2 3 rfl rfl)
theorem dX3_tellsHamlet_52 : decode cX3_tellsHamlet 52 = .ok (.getfield 16, 3) := dk_180 0 16 (dk_at dksX3_tellsHamlet_2 4 rfl rfl)
theorem dX3_tellsHamlet_55 : decode cX3_tellsHamlet 55 = .ok (.iload 4, 2) := dk_21 4 (dk_at dksX3_tellsHamlet_2 7 rfl rfl)
theorem dX3_tellsHamlet_57 : decode cX3_tellsHamlet 57 = .ok (.iconst 1, 1) := dk_4 (dk_at dksX3_tellsHamlet_2 9 rfl rfl)
theorem dX3_tellsHamlet_58 : decode cX3_tellsHamlet 58 = .ok (.iadd, 1) := dk_96 (dk_at dksX3_tellsHamlet_2 10 rfl rfl)
theorem dX3_tellsHamlet_59 : decode cX3_tellsHamlet 59 = .ok (.iload_n 2, 1) := dk_28 (dk_at dksX3_tellsHamlet_2 11 rfl rfl)
theorem dX3_tellsHamlet_60 : decode cX3_tellsHamlet 60 = .ok (.iastore, 1) := dk_79 (dk_at dksX3_tellsHamlet_2 12 rfl rfl)
theorem dX3_tellsHamlet_61 : decode cX3_tellsHamlet 61 = .ok (.aload_n 0, 1) := dk_42 (dk_at dksX3_tellsHamlet_2 13 rfl rfl)
theorem dX3_tellsHamlet_62 : decode cX3_tellsHamlet 62 = .ok (.getfield 16, 3) := dk_180 0 16 (dk_at dksX3_tellsHamlet_2 14 rfl rfl)
theorem dX3_tellsHamlet_65 : decode cX3_tellsHamlet 65 = .ok (.iload 4, 2) := dk_21 4 (dk_at dksX3_tellsHamlet_2 17 rfl rfl)
theorem dX3_tellsHamlet_67 : decode cX3_tellsHamlet 67 = .ok (.iconst 2, 1) := dk_5 (dk_at dksX3_tellsHamlet_2 19 rfl rfl)
theorem dX3_tellsHamlet_68 : decode cX3_tellsHamlet 68 = .ok (.iadd, 1) := dk_96 (dk_at dksX3_tellsHamlet_2 20 rfl rfl)
theorem dX3_tellsHamlet_69 : decode cX3_tellsHamlet 69 = .ok (.iload_n 3, 1) := dk_29 (dk_at dksX3_tellsHamlet_2 21 rfl rfl)
theorem dX3_tellsHamlet_70 : decode cX3_tellsHamlet 70 = .ok (.iastore, 1) := dk_79 (dk_at dksX3_tellsHamlet_2 22 rfl rfl)
theorem dX3_tellsHamlet_71 : decode cX3_tellsHamlet 71 = .ok (.aload_n 0, 1) := dk_42 (dk_at dksX3_tellsHamlet_2 23 rfl rfl)
theorem dX3_tellsHamlet_72 : decode cX3_tellsHamlet 72 = .ok (.getfield 16, 3) := dk_180 0 16 (dk_at dksX3_tellsHamlet_3 0 rfl rfl)
theorem dX3_tellsHamlet_75 : decode cX3_tellsHamlet 75 = .ok (.iconst 2, 1) := dk_5 (dk_at dksX3_tellsHamlet_3 3 rfl rfl)
theorem dX3_tellsHamlet_76 : decode cX3_tellsHamlet 76 = .ok (.dup2, 1) := dk_92 (dk_at dksX3_tellsHamlet_3 4 rfl rfl)
theorem dX3_tellsHamlet_77 : decode cX3_tellsHamlet 77 = .ok (.iaload, 1) := dk_46 (dk_at dksX3_tellsHamlet_3 5 rfl rfl)
theorem dX3_tellsHamlet_78 : decode cX3_tellsHamlet 78 = .ok (.iconst 1, 1) := dk_4 (dk_at dksX3_tellsHamlet_3 6 rfl rfl)
theorem dX3_tellsHamlet_79 : decode cX3_tellsHamlet 79 = .ok (.iadd, 1) := dk_96 (dk_at dksX3_tellsHamlet_3 7 rfl rfl)
theorem dX3_tellsHamlet_80 : decode cX3_tellsHamlet 80 = .ok (.iastore, 1) := dk_79 (dk_at dksX3_tellsHamlet_3 8 rfl rfl)
theorem dX3_tellsHamlet_81 : decode cX3_tellsHamlet 81 = .ok (.aload_n 0, 1) := dk_42 (dk_at dksX3_tellsHamlet_3 9 rfl rfl)
theorem dX3_tellsHamlet_82 : decode cX3_tellsHamlet 82 = .ok (.getfield 16, 3) := dk_180 0 16 (dk_at dksX3_tellsHamlet_3 10 rfl rfl)
theorem dX3_tellsHamlet_85 : decode cX3_tellsHamlet 85 = .ok (.iconst 2, 1) := dk_5 (dk_at dksX3_tellsHamlet_3 13 rfl rfl)
theorem dX3_tellsHamlet_86 : decode cX3_tellsHamlet 86 = .ok (.iaload, 1) := dk_46 (dk_at dksX3_tellsHamlet_3 14 rfl rfl)
theorem dX3_tellsHamlet_87 : decode cX3_tellsHamlet 87 = .ok (.iconst 1, 1) := dk_4 (dk_at dksX3_tellsHamlet_3 15 rfl rfl)
theorem dX3_tellsHamlet_88 : decode cX3_tellsHamlet 88 = .ok (.isub, 1) := dk_100 (dk_at dksX3_tellsHamlet_3 16 rfl rfl)
theorem dX3_tellsHamlet_89 : decode cX3_tellsHamlet 89 = .ok (.ireturn, 1) := dk_172 (dk_at dksX3_tellsHamlet_3 17 rfl rfl)
abbrev cX3_site : ByteArray := prog_45_method_38_code
def yX3_site : MethodName := ⟨RX3, "site", "(IIII)I"⟩
def dkwX3_site_1 : List UInt8 := [182, 0, 119, 42, 27, 28, 29, 21, 4, 182, 0, 135, 172]
abbrev dktX3_site_1 : List UInt8 := dkwX3_site_1 ++ []
def dkwX3_site_0 : List UInt8 := [42, 27, 28, 29, 21, 4, 182, 0, 131, 54, 5, 21, 5, 153, 0, 10, 42, 21, 5, 182, 0, 116, 172, 42]
abbrev dktX3_site_0 : List UInt8 := dkwX3_site_0 ++ dktX3_site_1
theorem dksX3_site_0 : cX3_site.data.toList.drop 0 = dktX3_site_0 := by decide +kernel
theorem dksX3_site_1 : cX3_site.data.toList.drop 24 = dktX3_site_1 := dk_seg dksX3_site_0 24 rfl rfl
theorem dX3_site_0 : decode cX3_site 0 = .ok (.aload_n 0, 1) := dk_42 (dk_at dksX3_site_0 0 rfl rfl)
theorem dX3_site_1 : decode cX3_site 1 = .ok (.iload_n 1, 1) := dk_27 (dk_at dksX3_site_0 1 rfl rfl)
theorem dX3_site_2 : decode cX3_site 2 = .ok (.iload_n 2, 1) := dk_28 (dk_at dksX3_site_0 2 rfl rfl)
theorem dX3_site_3 : decode cX3_site 3 = .ok (.iload_n 3, 1) := dk_29 (dk_at dksX3_site_0 3 rfl rfl)
theorem dX3_site_4 : decode cX3_site 4 = .ok (.iload 4, 2) := dk_21 4 (dk_at dksX3_site_0 4 rfl rfl)
theorem dX3_site_6 : decode cX3_site 6 = .ok (.invokevirtual 131, 3) := dk_182 0 131 (dk_at dksX3_site_0 6 rfl rfl)
theorem dX3_site_9 : decode cX3_site 9 = .ok (.istore 5, 2) := dk_54 5 (dk_at dksX3_site_0 9 rfl rfl)
theorem dX3_site_11 : decode cX3_site 11 = .ok (.iload 5, 2) := dk_21 5 (dk_at dksX3_site_0 11 rfl rfl)
theorem dX3_site_13 : decode cX3_site 13 = .ok (.ifCond .eq 10, 3) := dk_153 0 10 (dk_at dksX3_site_0 13 rfl rfl)
theorem dX3_site_16 : decode cX3_site 16 = .ok (.aload_n 0, 1) := dk_42 (dk_at dksX3_site_0 16 rfl rfl)
theorem dX3_site_17 : decode cX3_site 17 = .ok (.iload 5, 2) := dk_21 5 (dk_at dksX3_site_0 17 rfl rfl)
theorem dX3_site_19 : decode cX3_site 19 = .ok (.invokevirtual 116, 3) := dk_182 0 116 (dk_at dksX3_site_0 19 rfl rfl)
theorem dX3_site_22 : decode cX3_site 22 = .ok (.ireturn, 1) := dk_172 (dk_at dksX3_site_0 22 rfl rfl)
theorem dX3_site_23 : decode cX3_site 23 = .ok (.aload_n 0, 1) := dk_42 (dk_at dksX3_site_0 23 rfl rfl)
theorem dX3_site_24 : decode cX3_site 24 = .ok (.invokevirtual 119, 3) := dk_182 0 119 (dk_at dksX3_site_1 0 rfl rfl)
theorem dX3_site_27 : decode cX3_site 27 = .ok (.aload_n 0, 1) := dk_42 (dk_at dksX3_site_1 3 rfl rfl)
theorem dX3_site_28 : decode cX3_site 28 = .ok (.iload_n 1, 1) := dk_27 (dk_at dksX3_site_1 4 rfl rfl)
theorem dX3_site_29 : decode cX3_site 29 = .ok (.iload_n 2, 1) := dk_28 (dk_at dksX3_site_1 5 rfl rfl)
theorem dX3_site_30 : decode cX3_site 30 = .ok (.iload_n 3, 1) := dk_29 (dk_at dksX3_site_1 6 rfl rfl)
theorem dX3_site_31 : decode cX3_site 31 = .ok (.iload 4, 2) := dk_21 4 (dk_at dksX3_site_1 7 rfl rfl)
theorem dX3_site_33 : decode cX3_site 33 = .ok (.invokevirtual 135, 3) := dk_182 0 135 (dk_at dksX3_site_1 9 rfl rfl)
theorem dX3_site_36 : decode cX3_site 36 = .ok (.ireturn, 1) := dk_172 (dk_at dksX3_site_1 12 rfl rfl)
abbrev cX3_notSite : ByteArray := prog_45_method_36_code
def yX3_notSite : MethodName := ⟨RX3, "notSite", "(IIII)I"⟩
def dkwX3_notSite_3 : List UInt8 := [167, 0, 4, 3, 172]
abbrev dktX3_notSite_3 : List UInt8 := dkwX3_notSite_3 ++ []
def dkwX3_notSite_2 : List UInt8 := [182, 0, 106, 172, 42, 27, 28, 182, 0, 125, 155, 0, 17, 42, 5, 42, 27, 28, 182, 0, 125, 182, 0, 106]
abbrev dktX3_notSite_2 : List UInt8 := dkwX3_notSite_2 ++ dktX3_notSite_3
def dkwX3_notSite_1 : List UInt8 := [184, 0, 52, 154, 0, 6, 16, 254, 172, 42, 180, 0, 16, 6, 46, 16, 6, 160, 0, 11, 42, 4, 16, 6]
abbrev dktX3_notSite_1 : List UInt8 := dkwX3_notSite_1 ++ dktX3_notSite_2
def dkwX3_notSite_0 : List UInt8 := [27, 28, 184, 0, 103, 153, 0, 24, 29, 4, 16, 40, 184, 0, 52, 153, 0, 14, 21, 4, 3, 16, 99]
abbrev dktX3_notSite_0 : List UInt8 := dkwX3_notSite_0 ++ dktX3_notSite_1
theorem dksX3_notSite_0 : cX3_notSite.data.toList.drop 0 = dktX3_notSite_0 := by decide +kernel
theorem dksX3_notSite_1 : cX3_notSite.data.toList.drop 23 = dktX3_notSite_1 := dk_seg dksX3_notSite_0 23 rfl rfl
theorem dksX3_notSite_2 : cX3_notSite.data.toList.drop 47 = dktX3_notSite_2 := dk_seg dksX3_notSite_1 24 rfl rfl
theorem dksX3_notSite_3 : cX3_notSite.data.toList.drop 71 = dktX3_notSite_3 := dk_seg dksX3_notSite_2 24 rfl rfl
theorem dX3_notSite_0 : decode cX3_notSite 0 = .ok (.iload_n 1, 1) := dk_27 (dk_at dksX3_notSite_0 0 rfl rfl)
theorem dX3_notSite_1 : decode cX3_notSite 1 = .ok (.iload_n 2, 1) := dk_28 (dk_at dksX3_notSite_0 1 rfl rfl)
theorem dX3_notSite_2 : decode cX3_notSite 2 = .ok (.invokestatic 103, 3) := dk_184 0 103 (dk_at dksX3_notSite_0 2 rfl rfl)
theorem dX3_notSite_5 : decode cX3_notSite 5 = .ok (.ifCond .eq 24, 3) := dk_153 0 24 (dk_at dksX3_notSite_0 5 rfl rfl)
theorem dX3_notSite_8 : decode cX3_notSite 8 = .ok (.iload_n 3, 1) := dk_29 (dk_at dksX3_notSite_0 8 rfl rfl)
theorem dX3_notSite_9 : decode cX3_notSite 9 = .ok (.iconst 1, 1) := dk_4 (dk_at dksX3_notSite_0 9 rfl rfl)
theorem dX3_notSite_10 : decode cX3_notSite 10 = .ok (.bipush 40, 2) := dk_16 40 (dk_at dksX3_notSite_0 10 rfl rfl)
theorem dX3_notSite_12 : decode cX3_notSite 12 = .ok (.invokestatic 52, 3) := dk_184 0 52 (dk_at dksX3_notSite_0 12 rfl rfl)
theorem dX3_notSite_15 : decode cX3_notSite 15 = .ok (.ifCond .eq 14, 3) := dk_153 0 14 (dk_at dksX3_notSite_0 15 rfl rfl)
theorem dX3_notSite_18 : decode cX3_notSite 18 = .ok (.iload 4, 2) := dk_21 4 (dk_at dksX3_notSite_0 18 rfl rfl)
theorem dX3_notSite_20 : decode cX3_notSite 20 = .ok (.iconst 0, 1) := dk_3 (dk_at dksX3_notSite_0 20 rfl rfl)
theorem dX3_notSite_21 : decode cX3_notSite 21 = .ok (.bipush 99, 2) := dk_16 99 (dk_at dksX3_notSite_0 21 rfl rfl)
theorem dX3_notSite_23 : decode cX3_notSite 23 = .ok (.invokestatic 52, 3) := dk_184 0 52 (dk_at dksX3_notSite_1 0 rfl rfl)
theorem dX3_notSite_26 : decode cX3_notSite 26 = .ok (.ifCond .ne 6, 3) := dk_154 0 6 (dk_at dksX3_notSite_1 3 rfl rfl)
theorem dX3_notSite_29 : decode cX3_notSite 29 = .ok (.bipush (-2), 2) := dk_16 254 (dk_at dksX3_notSite_1 6 rfl rfl)
theorem dX3_notSite_31 : decode cX3_notSite 31 = .ok (.ireturn, 1) := dk_172 (dk_at dksX3_notSite_1 8 rfl rfl)
theorem dX3_notSite_32 : decode cX3_notSite 32 = .ok (.aload_n 0, 1) := dk_42 (dk_at dksX3_notSite_1 9 rfl rfl)
theorem dX3_notSite_33 : decode cX3_notSite 33 = .ok (.getfield 16, 3) := dk_180 0 16 (dk_at dksX3_notSite_1 10 rfl rfl)
theorem dX3_notSite_36 : decode cX3_notSite 36 = .ok (.iconst 3, 1) := dk_6 (dk_at dksX3_notSite_1 13 rfl rfl)
theorem dX3_notSite_37 : decode cX3_notSite 37 = .ok (.iaload, 1) := dk_46 (dk_at dksX3_notSite_1 14 rfl rfl)
theorem dX3_notSite_38 : decode cX3_notSite 38 = .ok (.bipush 6, 2) := dk_16 6 (dk_at dksX3_notSite_1 15 rfl rfl)
theorem dX3_notSite_40 : decode cX3_notSite 40 = .ok (.if_icmp .ne 11, 3) := dk_160 0 11 (dk_at dksX3_notSite_1 17 rfl rfl)
theorem dX3_notSite_43 : decode cX3_notSite 43 = .ok (.aload_n 0, 1) := dk_42 (dk_at dksX3_notSite_1 20 rfl rfl)
theorem dX3_notSite_44 : decode cX3_notSite 44 = .ok (.iconst 1, 1) := dk_4 (dk_at dksX3_notSite_1 21 rfl rfl)
theorem dX3_notSite_45 : decode cX3_notSite 45 = .ok (.bipush 6, 2) := dk_16 6 (dk_at dksX3_notSite_1 22 rfl rfl)
theorem dX3_notSite_47 : decode cX3_notSite 47 = .ok (.invokevirtual 106, 3) := dk_182 0 106 (dk_at dksX3_notSite_2 0 rfl rfl)
theorem dX3_notSite_50 : decode cX3_notSite 50 = .ok (.ireturn, 1) := dk_172 (dk_at dksX3_notSite_2 3 rfl rfl)
theorem dX3_notSite_51 : decode cX3_notSite 51 = .ok (.aload_n 0, 1) := dk_42 (dk_at dksX3_notSite_2 4 rfl rfl)
theorem dX3_notSite_52 : decode cX3_notSite 52 = .ok (.iload_n 1, 1) := dk_27 (dk_at dksX3_notSite_2 5 rfl rfl)
theorem dX3_notSite_53 : decode cX3_notSite 53 = .ok (.iload_n 2, 1) := dk_28 (dk_at dksX3_notSite_2 6 rfl rfl)
theorem dX3_notSite_54 : decode cX3_notSite 54 = .ok (.invokevirtual 125, 3) := dk_182 0 125 (dk_at dksX3_notSite_2 7 rfl rfl)
theorem dX3_notSite_57 : decode cX3_notSite 57 = .ok (.ifCond .lt 17, 3) := dk_155 0 17 (dk_at dksX3_notSite_2 10 rfl rfl)
theorem dX3_notSite_60 : decode cX3_notSite 60 = .ok (.aload_n 0, 1) := dk_42 (dk_at dksX3_notSite_2 13 rfl rfl)
theorem dX3_notSite_61 : decode cX3_notSite 61 = .ok (.iconst 2, 1) := dk_5 (dk_at dksX3_notSite_2 14 rfl rfl)
theorem dX3_notSite_62 : decode cX3_notSite 62 = .ok (.aload_n 0, 1) := dk_42 (dk_at dksX3_notSite_2 15 rfl rfl)
theorem dX3_notSite_63 : decode cX3_notSite 63 = .ok (.iload_n 1, 1) := dk_27 (dk_at dksX3_notSite_2 16 rfl rfl)
theorem dX3_notSite_64 : decode cX3_notSite 64 = .ok (.iload_n 2, 1) := dk_28 (dk_at dksX3_notSite_2 17 rfl rfl)
theorem dX3_notSite_65 : decode cX3_notSite 65 = .ok (.invokevirtual 125, 3) := dk_182 0 125 (dk_at dksX3_notSite_2 18 rfl rfl)
theorem dX3_notSite_68 : decode cX3_notSite 68 = .ok (.invokevirtual 106, 3) := dk_182 0 106 (dk_at dksX3_notSite_2 21 rfl rfl)
theorem dX3_notSite_71 : decode cX3_notSite 71 = .ok (.goto 4, 3) := dk_167 0 4 (dk_at dksX3_notSite_3 0 rfl rfl)
theorem dX3_notSite_74 : decode cX3_notSite 74 = .ok (.iconst 0, 1) := dk_3 (dk_at dksX3_notSite_3 3 rfl rfl)
theorem dX3_notSite_75 : decode cX3_notSite 75 = .ok (.ireturn, 1) := dk_172 (dk_at dksX3_notSite_3 4 rfl rfl)
abbrev cX3_siteAt : ByteArray := prog_45_method_32_code
def yX3_siteAt : MethodName := ⟨RX3, "siteAt", "(II)I"⟩
def dkwX3_siteAt_1 : List UInt8 := [4, 182, 0, 68, 28, 160, 0, 5, 29, 172, 132, 3, 1, 167, 255, 221, 2, 172]
abbrev dktX3_siteAt_1 : List UInt8 := dkwX3_siteAt_1 ++ []
def dkwX3_siteAt_0 : List UInt8 := [3, 62, 29, 42, 180, 0, 16, 6, 46, 162, 0, 31, 42, 29, 3, 182, 0, 68, 27, 160, 0, 15, 42, 29]
abbrev dktX3_siteAt_0 : List UInt8 := dkwX3_siteAt_0 ++ dktX3_siteAt_1
theorem dksX3_siteAt_0 : cX3_siteAt.data.toList.drop 0 = dktX3_siteAt_0 := by decide +kernel
theorem dksX3_siteAt_1 : cX3_siteAt.data.toList.drop 24 = dktX3_siteAt_1 := dk_seg dksX3_siteAt_0 24 rfl rfl
theorem dX3_siteAt_0 : decode cX3_siteAt 0 = .ok (.iconst 0, 1) := dk_3 (dk_at dksX3_siteAt_0 0 rfl rfl)
theorem dX3_siteAt_1 : decode cX3_siteAt 1 = .ok (.istore_n 3, 1) := dk_62 (dk_at dksX3_siteAt_0 1 rfl rfl)
theorem dX3_siteAt_2 : decode cX3_siteAt 2 = .ok (.iload_n 3, 1) := dk_29 (dk_at dksX3_siteAt_0 2 rfl rfl)
theorem dX3_siteAt_3 : decode cX3_siteAt 3 = .ok (.aload_n 0, 1) := dk_42 (dk_at dksX3_siteAt_0 3 rfl rfl)
theorem dX3_siteAt_4 : decode cX3_siteAt 4 = .ok (.getfield 16, 3) := dk_180 0 16 (dk_at dksX3_siteAt_0 4 rfl rfl)
theorem dX3_siteAt_7 : decode cX3_siteAt 7 = .ok (.iconst 3, 1) := dk_6 (dk_at dksX3_siteAt_0 7 rfl rfl)
theorem dX3_siteAt_8 : decode cX3_siteAt 8 = .ok (.iaload, 1) := dk_46 (dk_at dksX3_siteAt_0 8 rfl rfl)
theorem dX3_siteAt_9 : decode cX3_siteAt 9 = .ok (.if_icmp .ge 31, 3) := dk_162 0 31 (dk_at dksX3_siteAt_0 9 rfl rfl)
theorem dX3_siteAt_12 : decode cX3_siteAt 12 = .ok (.aload_n 0, 1) := dk_42 (dk_at dksX3_siteAt_0 12 rfl rfl)
theorem dX3_siteAt_13 : decode cX3_siteAt 13 = .ok (.iload_n 3, 1) := dk_29 (dk_at dksX3_siteAt_0 13 rfl rfl)
theorem dX3_siteAt_14 : decode cX3_siteAt 14 = .ok (.iconst 0, 1) := dk_3 (dk_at dksX3_siteAt_0 14 rfl rfl)
theorem dX3_siteAt_15 : decode cX3_siteAt 15 = .ok (.invokevirtual 68, 3) := dk_182 0 68 (dk_at dksX3_siteAt_0 15 rfl rfl)
theorem dX3_siteAt_18 : decode cX3_siteAt 18 = .ok (.iload_n 1, 1) := dk_27 (dk_at dksX3_siteAt_0 18 rfl rfl)
theorem dX3_siteAt_19 : decode cX3_siteAt 19 = .ok (.if_icmp .ne 15, 3) := dk_160 0 15 (dk_at dksX3_siteAt_0 19 rfl rfl)
theorem dX3_siteAt_22 : decode cX3_siteAt 22 = .ok (.aload_n 0, 1) := dk_42 (dk_at dksX3_siteAt_0 22 rfl rfl)
theorem dX3_siteAt_23 : decode cX3_siteAt 23 = .ok (.iload_n 3, 1) := dk_29 (dk_at dksX3_siteAt_0 23 rfl rfl)
theorem dX3_siteAt_24 : decode cX3_siteAt 24 = .ok (.iconst 1, 1) := dk_4 (dk_at dksX3_siteAt_1 0 rfl rfl)
theorem dX3_siteAt_25 : decode cX3_siteAt 25 = .ok (.invokevirtual 68, 3) := dk_182 0 68 (dk_at dksX3_siteAt_1 1 rfl rfl)
theorem dX3_siteAt_28 : decode cX3_siteAt 28 = .ok (.iload_n 2, 1) := dk_28 (dk_at dksX3_siteAt_1 4 rfl rfl)
theorem dX3_siteAt_29 : decode cX3_siteAt 29 = .ok (.if_icmp .ne 5, 3) := dk_160 0 5 (dk_at dksX3_siteAt_1 5 rfl rfl)
theorem dX3_siteAt_32 : decode cX3_siteAt 32 = .ok (.iload_n 3, 1) := dk_29 (dk_at dksX3_siteAt_1 8 rfl rfl)
theorem dX3_siteAt_33 : decode cX3_siteAt 33 = .ok (.ireturn, 1) := dk_172 (dk_at dksX3_siteAt_1 9 rfl rfl)
theorem dX3_siteAt_34 : decode cX3_siteAt 34 = .ok (.iinc 3 1, 3) := dk_132 3 1 (dk_at dksX3_siteAt_1 10 rfl rfl)
theorem dX3_siteAt_37 : decode cX3_siteAt 37 = .ok (.goto (-35), 3) := dk_167 255 221 (dk_at dksX3_siteAt_1 13 rfl rfl)
theorem dX3_siteAt_40 : decode cX3_siteAt 40 = .ok (.iconst (-1), 1) := dk_2 (dk_at dksX3_siteAt_1 16 rfl rfl)
theorem dX3_siteAt_41 : decode cX3_siteAt 41 = .ok (.ireturn, 1) := dk_172 (dk_at dksX3_siteAt_1 17 rfl rfl)
abbrev cX3_siteIs : ByteArray := prog_45_method_15_code
def yX3_siteIs : MethodName := ⟨RX3, "siteIs", "(II)I"⟩
def dkwX3_siteIs_0 : List UInt8 := [42, 180, 0, 16, 16, 61, 16, 8, 27, 104, 96, 28, 96, 46, 172]
abbrev dktX3_siteIs_0 : List UInt8 := dkwX3_siteIs_0 ++ []
theorem dksX3_siteIs_0 : cX3_siteIs.data.toList.drop 0 = dktX3_siteIs_0 := by decide +kernel
theorem dX3_siteIs_0 : decode cX3_siteIs 0 = .ok (.aload_n 0, 1) := dk_42 (dk_at dksX3_siteIs_0 0 rfl rfl)
theorem dX3_siteIs_1 : decode cX3_siteIs 1 = .ok (.getfield 16, 3) := dk_180 0 16 (dk_at dksX3_siteIs_0 1 rfl rfl)
theorem dX3_siteIs_4 : decode cX3_siteIs 4 = .ok (.bipush 61, 2) := dk_16 61 (dk_at dksX3_siteIs_0 4 rfl rfl)
theorem dX3_siteIs_6 : decode cX3_siteIs 6 = .ok (.bipush 8, 2) := dk_16 8 (dk_at dksX3_siteIs_0 6 rfl rfl)
theorem dX3_siteIs_8 : decode cX3_siteIs 8 = .ok (.iload_n 1, 1) := dk_27 (dk_at dksX3_siteIs_0 8 rfl rfl)
theorem dX3_siteIs_9 : decode cX3_siteIs 9 = .ok (.imul, 1) := dk_104 (dk_at dksX3_siteIs_0 9 rfl rfl)
theorem dX3_siteIs_10 : decode cX3_siteIs 10 = .ok (.iadd, 1) := dk_96 (dk_at dksX3_siteIs_0 10 rfl rfl)
theorem dX3_siteIs_11 : decode cX3_siteIs 11 = .ok (.iload_n 2, 1) := dk_28 (dk_at dksX3_siteIs_0 11 rfl rfl)
theorem dX3_siteIs_12 : decode cX3_siteIs 12 = .ok (.iadd, 1) := dk_96 (dk_at dksX3_siteIs_0 12 rfl rfl)
theorem dX3_siteIs_13 : decode cX3_siteIs 13 = .ok (.iaload, 1) := dk_46 (dk_at dksX3_siteIs_0 13 rfl rfl)
theorem dX3_siteIs_14 : decode cX3_siteIs 14 = .ok (.ireturn, 1) := dk_172 (dk_at dksX3_siteIs_0 14 rfl rfl)
abbrev cX3_tellsSite : ByteArray := prog_45_method_37_code
def yX3_tellsSite : MethodName := ⟨RX3, "tellsSite", "(IIII)I"⟩
def dkwX3_tellsSite_3 : List UInt8 := [29, 182, 0, 128, 42, 21, 5, 7, 21, 4, 182, 0, 128, 21, 5, 172]
abbrev dktX3_tellsSite_3 : List UInt8 := dkwX3_tellsSite_3 ++ []
def dkwX3_tellsSite_2 : List UInt8 := [27, 182, 0, 128, 42, 21, 5, 4, 28, 182, 0, 128, 42, 21, 5, 5, 29, 182, 0, 128, 42, 21, 5, 6]
abbrev dktX3_tellsSite_2 : List UInt8 := dkwX3_tellsSite_2 ++ dktX3_tellsSite_3
def dkwX3_tellsSite_1 : List UInt8 := [16, 8, 162, 0, 18, 42, 21, 5, 21, 6, 3, 182, 0, 128, 132, 6, 1, 167, 255, 237, 42, 21, 5, 3]
abbrev dktX3_tellsSite_1 : List UInt8 := dkwX3_tellsSite_1 ++ dktX3_tellsSite_2
def dkwX3_tellsSite_0 : List UInt8 := [42, 180, 0, 16, 6, 46, 54, 5, 42, 180, 0, 16, 6, 92, 46, 4, 96, 79, 3, 54, 6, 21, 6]
abbrev dktX3_tellsSite_0 : List UInt8 := dkwX3_tellsSite_0 ++ dktX3_tellsSite_1
theorem dksX3_tellsSite_0 : cX3_tellsSite.data.toList.drop 0 = dktX3_tellsSite_0 := by decide +kernel
theorem dksX3_tellsSite_1 : cX3_tellsSite.data.toList.drop 23 = dktX3_tellsSite_1 := dk_seg dksX3_tellsSite_0 23 rfl rfl
theorem dksX3_tellsSite_2 : cX3_tellsSite.data.toList.drop 47 = dktX3_tellsSite_2 := dk_seg dksX3_tellsSite_1 24 rfl rfl
theorem dksX3_tellsSite_3 : cX3_tellsSite.data.toList.drop 71 = dktX3_tellsSite_3 := dk_seg dksX3_tellsSite_2 24 rfl rfl
theorem dX3_tellsSite_0 : decode cX3_tellsSite 0 = .ok (.aload_n 0, 1) := dk_42 (dk_at dksX3_tellsSite_0 0 rfl rfl)
theorem dX3_tellsSite_1 : decode cX3_tellsSite 1 = .ok (.getfield 16, 3) := dk_180 0 16 (dk_at dksX3_tellsSite_0 1 rfl rfl)
theorem dX3_tellsSite_4 : decode cX3_tellsSite 4 = .ok (.iconst 3, 1) := dk_6 (dk_at dksX3_tellsSite_0 4 rfl rfl)
theorem dX3_tellsSite_5 : decode cX3_tellsSite 5 = .ok (.iaload, 1) := dk_46 (dk_at dksX3_tellsSite_0 5 rfl rfl)
theorem dX3_tellsSite_6 : decode cX3_tellsSite 6 = .ok (.istore 5, 2) := dk_54 5 (dk_at dksX3_tellsSite_0 6 rfl rfl)
theorem dX3_tellsSite_8 : decode cX3_tellsSite 8 = .ok (.aload_n 0, 1) := dk_42 (dk_at dksX3_tellsSite_0 8 rfl rfl)
theorem dX3_tellsSite_9 : decode cX3_tellsSite 9 = .ok (.getfield 16, 3) := dk_180 0 16 (dk_at dksX3_tellsSite_0 9 rfl rfl)
theorem dX3_tellsSite_12 : decode cX3_tellsSite 12 = .ok (.iconst 3, 1) := dk_6 (dk_at dksX3_tellsSite_0 12 rfl rfl)
theorem dX3_tellsSite_13 : decode cX3_tellsSite 13 = .ok (.dup2, 1) := dk_92 (dk_at dksX3_tellsSite_0 13 rfl rfl)
theorem dX3_tellsSite_14 : decode cX3_tellsSite 14 = .ok (.iaload, 1) := dk_46 (dk_at dksX3_tellsSite_0 14 rfl rfl)
theorem dX3_tellsSite_15 : decode cX3_tellsSite 15 = .ok (.iconst 1, 1) := dk_4 (dk_at dksX3_tellsSite_0 15 rfl rfl)
theorem dX3_tellsSite_16 : decode cX3_tellsSite 16 = .ok (.iadd, 1) := dk_96 (dk_at dksX3_tellsSite_0 16 rfl rfl)
theorem dX3_tellsSite_17 : decode cX3_tellsSite 17 = .ok (.iastore, 1) := dk_79 (dk_at dksX3_tellsSite_0 17 rfl rfl)
theorem dX3_tellsSite_18 : decode cX3_tellsSite 18 = .ok (.iconst 0, 1) := dk_3 (dk_at dksX3_tellsSite_0 18 rfl rfl)
theorem dX3_tellsSite_19 : decode cX3_tellsSite 19 = .ok (.istore 6, 2) := dk_54 6 (dk_at dksX3_tellsSite_0 19 rfl rfl)
theorem dX3_tellsSite_21 : decode cX3_tellsSite 21 = .ok (.iload 6, 2) := dk_21 6 (dk_at dksX3_tellsSite_0 21 rfl rfl)
theorem dX3_tellsSite_23 : decode cX3_tellsSite 23 = .ok (.bipush 8, 2) := dk_16 8 (dk_at dksX3_tellsSite_1 0 rfl rfl)
theorem dX3_tellsSite_25 : decode cX3_tellsSite 25 = .ok (.if_icmp .ge 18, 3) := dk_162 0 18 (dk_at dksX3_tellsSite_1 2 rfl rfl)
theorem dX3_tellsSite_28 : decode cX3_tellsSite 28 = .ok (.aload_n 0, 1) := dk_42 (dk_at dksX3_tellsSite_1 5 rfl rfl)
theorem dX3_tellsSite_29 : decode cX3_tellsSite 29 = .ok (.iload 5, 2) := dk_21 5 (dk_at dksX3_tellsSite_1 6 rfl rfl)
theorem dX3_tellsSite_31 : decode cX3_tellsSite 31 = .ok (.iload 6, 2) := dk_21 6 (dk_at dksX3_tellsSite_1 8 rfl rfl)
theorem dX3_tellsSite_33 : decode cX3_tellsSite 33 = .ok (.iconst 0, 1) := dk_3 (dk_at dksX3_tellsSite_1 10 rfl rfl)
theorem dX3_tellsSite_34 : decode cX3_tellsSite 34 = .ok (.invokevirtual 128, 3) := dk_182 0 128 (dk_at dksX3_tellsSite_1 11 rfl rfl)
theorem dX3_tellsSite_37 : decode cX3_tellsSite 37 = .ok (.iinc 6 1, 3) := dk_132 6 1 (dk_at dksX3_tellsSite_1 14 rfl rfl)
theorem dX3_tellsSite_40 : decode cX3_tellsSite 40 = .ok (.goto (-19), 3) := dk_167 255 237 (dk_at dksX3_tellsSite_1 17 rfl rfl)
theorem dX3_tellsSite_43 : decode cX3_tellsSite 43 = .ok (.aload_n 0, 1) := dk_42 (dk_at dksX3_tellsSite_1 20 rfl rfl)
theorem dX3_tellsSite_44 : decode cX3_tellsSite 44 = .ok (.iload 5, 2) := dk_21 5 (dk_at dksX3_tellsSite_1 21 rfl rfl)
theorem dX3_tellsSite_46 : decode cX3_tellsSite 46 = .ok (.iconst 0, 1) := dk_3 (dk_at dksX3_tellsSite_1 23 rfl rfl)
theorem dX3_tellsSite_47 : decode cX3_tellsSite 47 = .ok (.iload_n 1, 1) := dk_27 (dk_at dksX3_tellsSite_2 0 rfl rfl)
theorem dX3_tellsSite_48 : decode cX3_tellsSite 48 = .ok (.invokevirtual 128, 3) := dk_182 0 128 (dk_at dksX3_tellsSite_2 1 rfl rfl)
theorem dX3_tellsSite_51 : decode cX3_tellsSite 51 = .ok (.aload_n 0, 1) := dk_42 (dk_at dksX3_tellsSite_2 4 rfl rfl)
theorem dX3_tellsSite_52 : decode cX3_tellsSite 52 = .ok (.iload 5, 2) := dk_21 5 (dk_at dksX3_tellsSite_2 5 rfl rfl)
theorem dX3_tellsSite_54 : decode cX3_tellsSite 54 = .ok (.iconst 1, 1) := dk_4 (dk_at dksX3_tellsSite_2 7 rfl rfl)
theorem dX3_tellsSite_55 : decode cX3_tellsSite 55 = .ok (.iload_n 2, 1) := dk_28 (dk_at dksX3_tellsSite_2 8 rfl rfl)
theorem dX3_tellsSite_56 : decode cX3_tellsSite 56 = .ok (.invokevirtual 128, 3) := dk_182 0 128 (dk_at dksX3_tellsSite_2 9 rfl rfl)
theorem dX3_tellsSite_59 : decode cX3_tellsSite 59 = .ok (.aload_n 0, 1) := dk_42 (dk_at dksX3_tellsSite_2 12 rfl rfl)
theorem dX3_tellsSite_60 : decode cX3_tellsSite 60 = .ok (.iload 5, 2) := dk_21 5 (dk_at dksX3_tellsSite_2 13 rfl rfl)
theorem dX3_tellsSite_62 : decode cX3_tellsSite 62 = .ok (.iconst 2, 1) := dk_5 (dk_at dksX3_tellsSite_2 15 rfl rfl)
theorem dX3_tellsSite_63 : decode cX3_tellsSite 63 = .ok (.iload_n 3, 1) := dk_29 (dk_at dksX3_tellsSite_2 16 rfl rfl)
theorem dX3_tellsSite_64 : decode cX3_tellsSite 64 = .ok (.invokevirtual 128, 3) := dk_182 0 128 (dk_at dksX3_tellsSite_2 17 rfl rfl)
theorem dX3_tellsSite_67 : decode cX3_tellsSite 67 = .ok (.aload_n 0, 1) := dk_42 (dk_at dksX3_tellsSite_2 20 rfl rfl)
theorem dX3_tellsSite_68 : decode cX3_tellsSite 68 = .ok (.iload 5, 2) := dk_21 5 (dk_at dksX3_tellsSite_2 21 rfl rfl)
theorem dX3_tellsSite_70 : decode cX3_tellsSite 70 = .ok (.iconst 3, 1) := dk_6 (dk_at dksX3_tellsSite_2 23 rfl rfl)
theorem dX3_tellsSite_71 : decode cX3_tellsSite 71 = .ok (.iload_n 3, 1) := dk_29 (dk_at dksX3_tellsSite_3 0 rfl rfl)
theorem dX3_tellsSite_72 : decode cX3_tellsSite 72 = .ok (.invokevirtual 128, 3) := dk_182 0 128 (dk_at dksX3_tellsSite_3 1 rfl rfl)
theorem dX3_tellsSite_75 : decode cX3_tellsSite 75 = .ok (.aload_n 0, 1) := dk_42 (dk_at dksX3_tellsSite_3 4 rfl rfl)
theorem dX3_tellsSite_76 : decode cX3_tellsSite 76 = .ok (.iload 5, 2) := dk_21 5 (dk_at dksX3_tellsSite_3 5 rfl rfl)
theorem dX3_tellsSite_78 : decode cX3_tellsSite 78 = .ok (.iconst 4, 1) := dk_7 (dk_at dksX3_tellsSite_3 7 rfl rfl)
theorem dX3_tellsSite_79 : decode cX3_tellsSite 79 = .ok (.iload 4, 2) := dk_21 4 (dk_at dksX3_tellsSite_3 8 rfl rfl)
theorem dX3_tellsSite_81 : decode cX3_tellsSite 81 = .ok (.invokevirtual 128, 3) := dk_182 0 128 (dk_at dksX3_tellsSite_3 10 rfl rfl)
theorem dX3_tellsSite_84 : decode cX3_tellsSite 84 = .ok (.iload 5, 2) := dk_21 5 (dk_at dksX3_tellsSite_3 13 rfl rfl)
theorem dX3_tellsSite_86 : decode cX3_tellsSite 86 = .ok (.ireturn, 1) := dk_172 (dk_at dksX3_tellsSite_3 15 rfl rfl)
abbrev cX3_setsSite : ByteArray := prog_45_method_16_code
def yX3_setsSite : MethodName := ⟨RX3, "setsSite", "(III)V"⟩
def dkwX3_setsSite_0 : List UInt8 := [42, 180, 0, 16, 16, 61, 16, 8, 27, 104, 96, 28, 96, 29, 79, 177]
abbrev dktX3_setsSite_0 : List UInt8 := dkwX3_setsSite_0 ++ []
theorem dksX3_setsSite_0 : cX3_setsSite.data.toList.drop 0 = dktX3_setsSite_0 := by decide +kernel
theorem dX3_setsSite_0 : decode cX3_setsSite 0 = .ok (.aload_n 0, 1) := dk_42 (dk_at dksX3_setsSite_0 0 rfl rfl)
theorem dX3_setsSite_1 : decode cX3_setsSite 1 = .ok (.getfield 16, 3) := dk_180 0 16 (dk_at dksX3_setsSite_0 1 rfl rfl)
theorem dX3_setsSite_4 : decode cX3_setsSite 4 = .ok (.bipush 61, 2) := dk_16 61 (dk_at dksX3_setsSite_0 4 rfl rfl)
theorem dX3_setsSite_6 : decode cX3_setsSite 6 = .ok (.bipush 8, 2) := dk_16 8 (dk_at dksX3_setsSite_0 6 rfl rfl)
theorem dX3_setsSite_8 : decode cX3_setsSite 8 = .ok (.iload_n 1, 1) := dk_27 (dk_at dksX3_setsSite_0 8 rfl rfl)
theorem dX3_setsSite_9 : decode cX3_setsSite 9 = .ok (.imul, 1) := dk_104 (dk_at dksX3_setsSite_0 9 rfl rfl)
theorem dX3_setsSite_10 : decode cX3_setsSite 10 = .ok (.iadd, 1) := dk_96 (dk_at dksX3_setsSite_0 10 rfl rfl)
theorem dX3_setsSite_11 : decode cX3_setsSite 11 = .ok (.iload_n 2, 1) := dk_28 (dk_at dksX3_setsSite_0 11 rfl rfl)
theorem dX3_setsSite_12 : decode cX3_setsSite 12 = .ok (.iadd, 1) := dk_96 (dk_at dksX3_setsSite_0 12 rfl rfl)
theorem dX3_setsSite_13 : decode cX3_setsSite 13 = .ok (.iload_n 3, 1) := dk_29 (dk_at dksX3_setsSite_0 13 rfl rfl)
theorem dX3_setsSite_14 : decode cX3_setsSite 14 = .ok (.iastore, 1) := dk_79 (dk_at dksX3_setsSite_0 14 rfl rfl)
theorem dX3_setsSite_15 : decode cX3_setsSite 15 = .ok (.return_, 1) := dk_177 (dk_at dksX3_setsSite_0 15 rfl rfl)
abbrev cX3_open : ByteArray := prog_45_method_41_code
def yX3_open : MethodName := ⟨RX3, "open", "(I)I"⟩
def dkwX3_open_1 : List UInt8 := [182, 0, 150, 172]
abbrev dktX3_open_1 : List UInt8 := dkwX3_open_1 ++ []
def dkwX3_open_0 : List UInt8 := [42, 27, 182, 0, 147, 61, 28, 153, 0, 9, 42, 28, 182, 0, 116, 172, 42, 182, 0, 119, 42, 27]
abbrev dktX3_open_0 : List UInt8 := dkwX3_open_0 ++ dktX3_open_1
theorem dksX3_open_0 : cX3_open.data.toList.drop 0 = dktX3_open_0 := by decide +kernel
theorem dksX3_open_1 : cX3_open.data.toList.drop 22 = dktX3_open_1 := dk_seg dksX3_open_0 22 rfl rfl
theorem dX3_open_0 : decode cX3_open 0 = .ok (.aload_n 0, 1) := dk_42 (dk_at dksX3_open_0 0 rfl rfl)
theorem dX3_open_1 : decode cX3_open 1 = .ok (.iload_n 1, 1) := dk_27 (dk_at dksX3_open_0 1 rfl rfl)
theorem dX3_open_2 : decode cX3_open 2 = .ok (.invokevirtual 147, 3) := dk_182 0 147 (dk_at dksX3_open_0 2 rfl rfl)
theorem dX3_open_5 : decode cX3_open 5 = .ok (.istore_n 2, 1) := dk_61 (dk_at dksX3_open_0 5 rfl rfl)
theorem dX3_open_6 : decode cX3_open 6 = .ok (.iload_n 2, 1) := dk_28 (dk_at dksX3_open_0 6 rfl rfl)
theorem dX3_open_7 : decode cX3_open 7 = .ok (.ifCond .eq 9, 3) := dk_153 0 9 (dk_at dksX3_open_0 7 rfl rfl)
theorem dX3_open_10 : decode cX3_open 10 = .ok (.aload_n 0, 1) := dk_42 (dk_at dksX3_open_0 10 rfl rfl)
theorem dX3_open_11 : decode cX3_open 11 = .ok (.iload_n 2, 1) := dk_28 (dk_at dksX3_open_0 11 rfl rfl)
theorem dX3_open_12 : decode cX3_open 12 = .ok (.invokevirtual 116, 3) := dk_182 0 116 (dk_at dksX3_open_0 12 rfl rfl)
theorem dX3_open_15 : decode cX3_open 15 = .ok (.ireturn, 1) := dk_172 (dk_at dksX3_open_0 15 rfl rfl)
theorem dX3_open_16 : decode cX3_open 16 = .ok (.aload_n 0, 1) := dk_42 (dk_at dksX3_open_0 16 rfl rfl)
theorem dX3_open_17 : decode cX3_open 17 = .ok (.invokevirtual 119, 3) := dk_182 0 119 (dk_at dksX3_open_0 17 rfl rfl)
theorem dX3_open_20 : decode cX3_open 20 = .ok (.aload_n 0, 1) := dk_42 (dk_at dksX3_open_0 20 rfl rfl)
theorem dX3_open_21 : decode cX3_open 21 = .ok (.iload_n 1, 1) := dk_27 (dk_at dksX3_open_0 21 rfl rfl)
theorem dX3_open_22 : decode cX3_open 22 = .ok (.invokevirtual 150, 3) := dk_182 0 150 (dk_at dksX3_open_1 0 rfl rfl)
theorem dX3_open_25 : decode cX3_open 25 = .ok (.ireturn, 1) := dk_172 (dk_at dksX3_open_1 3 rfl rfl)
abbrev cX3_notOpen : ByteArray := prog_45_method_39_code
def yX3_notOpen : MethodName := ⟨RX3, "notOpen", "(I)I"⟩
def dkwX3_notOpen_2 : List UInt8 := [27, 182, 0, 144, 42, 180, 0, 16, 4, 46, 100, 182, 0, 106, 167, 0, 4, 3, 172]
abbrev dktX3_notOpen_2 : List UInt8 := dkwX3_notOpen_2 ++ []
def dkwX3_notOpen_1 : List UInt8 := [182, 0, 141, 182, 0, 106, 172, 42, 180, 0, 16, 4, 46, 42, 27, 182, 0, 144, 162, 0, 23, 42, 8, 42]
abbrev dktX3_notOpen_1 : List UInt8 := dkwX3_notOpen_1 ++ dktX3_notOpen_2
def dkwX3_notOpen_0 : List UInt8 := [42, 27, 182, 0, 138, 154, 0, 5, 2, 172, 42, 27, 182, 0, 78, 153, 0, 14, 42, 6, 42, 27]
abbrev dktX3_notOpen_0 : List UInt8 := dkwX3_notOpen_0 ++ dktX3_notOpen_1
theorem dksX3_notOpen_0 : cX3_notOpen.data.toList.drop 0 = dktX3_notOpen_0 := by decide +kernel
theorem dksX3_notOpen_1 : cX3_notOpen.data.toList.drop 22 = dktX3_notOpen_1 := dk_seg dksX3_notOpen_0 22 rfl rfl
theorem dksX3_notOpen_2 : cX3_notOpen.data.toList.drop 46 = dktX3_notOpen_2 := dk_seg dksX3_notOpen_1 24 rfl rfl
theorem dX3_notOpen_0 : decode cX3_notOpen 0 = .ok (.aload_n 0, 1) := dk_42 (dk_at dksX3_notOpen_0 0 rfl rfl)
theorem dX3_notOpen_1 : decode cX3_notOpen 1 = .ok (.iload_n 1, 1) := dk_27 (dk_at dksX3_notOpen_0 1 rfl rfl)
theorem dX3_notOpen_2 : decode cX3_notOpen 2 = .ok (.invokevirtual 138, 3) := dk_182 0 138 (dk_at dksX3_notOpen_0 2 rfl rfl)
theorem dX3_notOpen_5 : decode cX3_notOpen 5 = .ok (.ifCond .ne 5, 3) := dk_154 0 5 (dk_at dksX3_notOpen_0 5 rfl rfl)
theorem dX3_notOpen_8 : decode cX3_notOpen 8 = .ok (.iconst (-1), 1) := dk_2 (dk_at dksX3_notOpen_0 8 rfl rfl)
theorem dX3_notOpen_9 : decode cX3_notOpen 9 = .ok (.ireturn, 1) := dk_172 (dk_at dksX3_notOpen_0 9 rfl rfl)
theorem dX3_notOpen_10 : decode cX3_notOpen 10 = .ok (.aload_n 0, 1) := dk_42 (dk_at dksX3_notOpen_0 10 rfl rfl)
theorem dX3_notOpen_11 : decode cX3_notOpen 11 = .ok (.iload_n 1, 1) := dk_27 (dk_at dksX3_notOpen_0 11 rfl rfl)
theorem dX3_notOpen_12 : decode cX3_notOpen 12 = .ok (.invokevirtual 78, 3) := dk_182 0 78 (dk_at dksX3_notOpen_0 12 rfl rfl)
theorem dX3_notOpen_15 : decode cX3_notOpen 15 = .ok (.ifCond .eq 14, 3) := dk_153 0 14 (dk_at dksX3_notOpen_0 15 rfl rfl)
theorem dX3_notOpen_18 : decode cX3_notOpen 18 = .ok (.aload_n 0, 1) := dk_42 (dk_at dksX3_notOpen_0 18 rfl rfl)
theorem dX3_notOpen_19 : decode cX3_notOpen 19 = .ok (.iconst 3, 1) := dk_6 (dk_at dksX3_notOpen_0 19 rfl rfl)
theorem dX3_notOpen_20 : decode cX3_notOpen 20 = .ok (.aload_n 0, 1) := dk_42 (dk_at dksX3_notOpen_0 20 rfl rfl)
theorem dX3_notOpen_21 : decode cX3_notOpen 21 = .ok (.iload_n 1, 1) := dk_27 (dk_at dksX3_notOpen_0 21 rfl rfl)
theorem dX3_notOpen_22 : decode cX3_notOpen 22 = .ok (.invokevirtual 141, 3) := dk_182 0 141 (dk_at dksX3_notOpen_1 0 rfl rfl)
theorem dX3_notOpen_25 : decode cX3_notOpen 25 = .ok (.invokevirtual 106, 3) := dk_182 0 106 (dk_at dksX3_notOpen_1 3 rfl rfl)
theorem dX3_notOpen_28 : decode cX3_notOpen 28 = .ok (.ireturn, 1) := dk_172 (dk_at dksX3_notOpen_1 6 rfl rfl)
theorem dX3_notOpen_29 : decode cX3_notOpen 29 = .ok (.aload_n 0, 1) := dk_42 (dk_at dksX3_notOpen_1 7 rfl rfl)
theorem dX3_notOpen_30 : decode cX3_notOpen 30 = .ok (.getfield 16, 3) := dk_180 0 16 (dk_at dksX3_notOpen_1 8 rfl rfl)
theorem dX3_notOpen_33 : decode cX3_notOpen 33 = .ok (.iconst 1, 1) := dk_4 (dk_at dksX3_notOpen_1 11 rfl rfl)
theorem dX3_notOpen_34 : decode cX3_notOpen 34 = .ok (.iaload, 1) := dk_46 (dk_at dksX3_notOpen_1 12 rfl rfl)
theorem dX3_notOpen_35 : decode cX3_notOpen 35 = .ok (.aload_n 0, 1) := dk_42 (dk_at dksX3_notOpen_1 13 rfl rfl)
theorem dX3_notOpen_36 : decode cX3_notOpen 36 = .ok (.iload_n 1, 1) := dk_27 (dk_at dksX3_notOpen_1 14 rfl rfl)
theorem dX3_notOpen_37 : decode cX3_notOpen 37 = .ok (.invokevirtual 144, 3) := dk_182 0 144 (dk_at dksX3_notOpen_1 15 rfl rfl)
theorem dX3_notOpen_40 : decode cX3_notOpen 40 = .ok (.if_icmp .ge 23, 3) := dk_162 0 23 (dk_at dksX3_notOpen_1 18 rfl rfl)
theorem dX3_notOpen_43 : decode cX3_notOpen 43 = .ok (.aload_n 0, 1) := dk_42 (dk_at dksX3_notOpen_1 21 rfl rfl)
theorem dX3_notOpen_44 : decode cX3_notOpen 44 = .ok (.iconst 5, 1) := dk_8 (dk_at dksX3_notOpen_1 22 rfl rfl)
theorem dX3_notOpen_45 : decode cX3_notOpen 45 = .ok (.aload_n 0, 1) := dk_42 (dk_at dksX3_notOpen_1 23 rfl rfl)
theorem dX3_notOpen_46 : decode cX3_notOpen 46 = .ok (.iload_n 1, 1) := dk_27 (dk_at dksX3_notOpen_2 0 rfl rfl)
theorem dX3_notOpen_47 : decode cX3_notOpen 47 = .ok (.invokevirtual 144, 3) := dk_182 0 144 (dk_at dksX3_notOpen_2 1 rfl rfl)
theorem dX3_notOpen_50 : decode cX3_notOpen 50 = .ok (.aload_n 0, 1) := dk_42 (dk_at dksX3_notOpen_2 4 rfl rfl)
theorem dX3_notOpen_51 : decode cX3_notOpen 51 = .ok (.getfield 16, 3) := dk_180 0 16 (dk_at dksX3_notOpen_2 5 rfl rfl)
theorem dX3_notOpen_54 : decode cX3_notOpen 54 = .ok (.iconst 1, 1) := dk_4 (dk_at dksX3_notOpen_2 8 rfl rfl)
theorem dX3_notOpen_55 : decode cX3_notOpen 55 = .ok (.iaload, 1) := dk_46 (dk_at dksX3_notOpen_2 9 rfl rfl)
theorem dX3_notOpen_56 : decode cX3_notOpen 56 = .ok (.isub, 1) := dk_100 (dk_at dksX3_notOpen_2 10 rfl rfl)
theorem dX3_notOpen_57 : decode cX3_notOpen 57 = .ok (.invokevirtual 106, 3) := dk_182 0 106 (dk_at dksX3_notOpen_2 11 rfl rfl)
theorem dX3_notOpen_60 : decode cX3_notOpen 60 = .ok (.goto 4, 3) := dk_167 0 4 (dk_at dksX3_notOpen_2 14 rfl rfl)
theorem dX3_notOpen_63 : decode cX3_notOpen 63 = .ok (.iconst 0, 1) := dk_3 (dk_at dksX3_notOpen_2 17 rfl rfl)
theorem dX3_notOpen_64 : decode cX3_notOpen 64 = .ok (.ireturn, 1) := dk_172 (dk_at dksX3_notOpen_2 18 rfl rfl)
abbrev cX3_isSite : ByteArray := prog_45_method_13_code
def yX3_isSite : MethodName := ⟨RX3, "isSite", "(I)Z"⟩
def dkwX3_isSite_0 : List UInt8 := [27, 3, 42, 180, 0, 16, 6, 46, 4, 100, 184, 0, 52, 172]
abbrev dktX3_isSite_0 : List UInt8 := dkwX3_isSite_0 ++ []
theorem dksX3_isSite_0 : cX3_isSite.data.toList.drop 0 = dktX3_isSite_0 := by decide +kernel
theorem dX3_isSite_0 : decode cX3_isSite 0 = .ok (.iload_n 1, 1) := dk_27 (dk_at dksX3_isSite_0 0 rfl rfl)
theorem dX3_isSite_1 : decode cX3_isSite 1 = .ok (.iconst 0, 1) := dk_3 (dk_at dksX3_isSite_0 1 rfl rfl)
theorem dX3_isSite_2 : decode cX3_isSite 2 = .ok (.aload_n 0, 1) := dk_42 (dk_at dksX3_isSite_0 2 rfl rfl)
theorem dX3_isSite_3 : decode cX3_isSite 3 = .ok (.getfield 16, 3) := dk_180 0 16 (dk_at dksX3_isSite_0 3 rfl rfl)
theorem dX3_isSite_6 : decode cX3_isSite 6 = .ok (.iconst 3, 1) := dk_6 (dk_at dksX3_isSite_0 6 rfl rfl)
theorem dX3_isSite_7 : decode cX3_isSite 7 = .ok (.iaload, 1) := dk_46 (dk_at dksX3_isSite_0 7 rfl rfl)
theorem dX3_isSite_8 : decode cX3_isSite 8 = .ok (.iconst 1, 1) := dk_4 (dk_at dksX3_isSite_0 8 rfl rfl)
theorem dX3_isSite_9 : decode cX3_isSite 9 = .ok (.isub, 1) := dk_100 (dk_at dksX3_isSite_0 9 rfl rfl)
theorem dX3_isSite_10 : decode cX3_isSite 10 = .ok (.invokestatic 52, 3) := dk_184 0 52 (dk_at dksX3_isSite_0 10 rfl rfl)
theorem dX3_isSite_13 : decode cX3_isSite 13 = .ok (.ireturn, 1) := dk_172 (dk_at dksX3_isSite_0 13 rfl rfl)
abbrev cX3_isWell : ByteArray := prog_45_method_17_code
def yX3_isWell : MethodName := ⟨RX3, "isWell", "(I)Z"⟩
def dkwX3_isWell_0 : List UInt8 := [42, 27, 8, 182, 0, 68, 4, 160, 0, 7, 4, 167, 0, 4, 3, 172]
abbrev dktX3_isWell_0 : List UInt8 := dkwX3_isWell_0 ++ []
theorem dksX3_isWell_0 : cX3_isWell.data.toList.drop 0 = dktX3_isWell_0 := by decide +kernel
theorem dX3_isWell_0 : decode cX3_isWell 0 = .ok (.aload_n 0, 1) := dk_42 (dk_at dksX3_isWell_0 0 rfl rfl)
theorem dX3_isWell_1 : decode cX3_isWell 1 = .ok (.iload_n 1, 1) := dk_27 (dk_at dksX3_isWell_0 1 rfl rfl)
theorem dX3_isWell_2 : decode cX3_isWell 2 = .ok (.iconst 5, 1) := dk_8 (dk_at dksX3_isWell_0 2 rfl rfl)
theorem dX3_isWell_3 : decode cX3_isWell 3 = .ok (.invokevirtual 68, 3) := dk_182 0 68 (dk_at dksX3_isWell_0 3 rfl rfl)
theorem dX3_isWell_6 : decode cX3_isWell 6 = .ok (.iconst 1, 1) := dk_4 (dk_at dksX3_isWell_0 6 rfl rfl)
theorem dX3_isWell_7 : decode cX3_isWell 7 = .ok (.if_icmp .ne 7, 3) := dk_160 0 7 (dk_at dksX3_isWell_0 7 rfl rfl)
theorem dX3_isWell_10 : decode cX3_isWell 10 = .ok (.iconst 1, 1) := dk_4 (dk_at dksX3_isWell_0 10 rfl rfl)
theorem dX3_isWell_11 : decode cX3_isWell 11 = .ok (.goto 4, 3) := dk_167 0 4 (dk_at dksX3_isWell_0 11 rfl rfl)
theorem dX3_isWell_14 : decode cX3_isWell 14 = .ok (.iconst 0, 1) := dk_3 (dk_at dksX3_isWell_0 14 rfl rfl)
theorem dX3_isWell_15 : decode cX3_isWell 15 = .ok (.ireturn, 1) := dk_172 (dk_at dksX3_isWell_0 15 rfl rfl)
abbrev cX3_hamletsOf : ByteArray := prog_45_method_25_code
def yX3_hamletsOf : MethodName := ⟨RX3, "hamletsOf", "(I)I"⟩
def dkwX3_hamletsOf_1 : List UInt8 := [4, 167, 0, 4, 3, 96, 61, 132, 3, 1, 167, 255, 226, 28, 172]
abbrev dktX3_hamletsOf_1 : List UInt8 := dkwX3_hamletsOf_1 ++ []
def dkwX3_hamletsOf_0 : List UInt8 := [3, 61, 3, 62, 29, 42, 180, 0, 16, 5, 46, 162, 0, 26, 28, 42, 29, 182, 0, 96, 27, 160, 0, 7]
abbrev dktX3_hamletsOf_0 : List UInt8 := dkwX3_hamletsOf_0 ++ dktX3_hamletsOf_1
theorem dksX3_hamletsOf_0 : cX3_hamletsOf.data.toList.drop 0 = dktX3_hamletsOf_0 := by decide +kernel
theorem dksX3_hamletsOf_1 : cX3_hamletsOf.data.toList.drop 24 = dktX3_hamletsOf_1 := dk_seg dksX3_hamletsOf_0 24 rfl rfl
theorem dX3_hamletsOf_0 : decode cX3_hamletsOf 0 = .ok (.iconst 0, 1) := dk_3 (dk_at dksX3_hamletsOf_0 0 rfl rfl)
theorem dX3_hamletsOf_1 : decode cX3_hamletsOf 1 = .ok (.istore_n 2, 1) := dk_61 (dk_at dksX3_hamletsOf_0 1 rfl rfl)
theorem dX3_hamletsOf_2 : decode cX3_hamletsOf 2 = .ok (.iconst 0, 1) := dk_3 (dk_at dksX3_hamletsOf_0 2 rfl rfl)
theorem dX3_hamletsOf_3 : decode cX3_hamletsOf 3 = .ok (.istore_n 3, 1) := dk_62 (dk_at dksX3_hamletsOf_0 3 rfl rfl)
theorem dX3_hamletsOf_4 : decode cX3_hamletsOf 4 = .ok (.iload_n 3, 1) := dk_29 (dk_at dksX3_hamletsOf_0 4 rfl rfl)
theorem dX3_hamletsOf_5 : decode cX3_hamletsOf 5 = .ok (.aload_n 0, 1) := dk_42 (dk_at dksX3_hamletsOf_0 5 rfl rfl)
theorem dX3_hamletsOf_6 : decode cX3_hamletsOf 6 = .ok (.getfield 16, 3) := dk_180 0 16 (dk_at dksX3_hamletsOf_0 6 rfl rfl)
theorem dX3_hamletsOf_9 : decode cX3_hamletsOf 9 = .ok (.iconst 2, 1) := dk_5 (dk_at dksX3_hamletsOf_0 9 rfl rfl)
theorem dX3_hamletsOf_10 : decode cX3_hamletsOf 10 = .ok (.iaload, 1) := dk_46 (dk_at dksX3_hamletsOf_0 10 rfl rfl)
theorem dX3_hamletsOf_11 : decode cX3_hamletsOf 11 = .ok (.if_icmp .ge 26, 3) := dk_162 0 26 (dk_at dksX3_hamletsOf_0 11 rfl rfl)
theorem dX3_hamletsOf_14 : decode cX3_hamletsOf 14 = .ok (.iload_n 2, 1) := dk_28 (dk_at dksX3_hamletsOf_0 14 rfl rfl)
theorem dX3_hamletsOf_15 : decode cX3_hamletsOf 15 = .ok (.aload_n 0, 1) := dk_42 (dk_at dksX3_hamletsOf_0 15 rfl rfl)
theorem dX3_hamletsOf_16 : decode cX3_hamletsOf 16 = .ok (.iload_n 3, 1) := dk_29 (dk_at dksX3_hamletsOf_0 16 rfl rfl)
theorem dX3_hamletsOf_17 : decode cX3_hamletsOf 17 = .ok (.invokevirtual 96, 3) := dk_182 0 96 (dk_at dksX3_hamletsOf_0 17 rfl rfl)
theorem dX3_hamletsOf_20 : decode cX3_hamletsOf 20 = .ok (.iload_n 1, 1) := dk_27 (dk_at dksX3_hamletsOf_0 20 rfl rfl)
theorem dX3_hamletsOf_21 : decode cX3_hamletsOf 21 = .ok (.if_icmp .ne 7, 3) := dk_160 0 7 (dk_at dksX3_hamletsOf_0 21 rfl rfl)
theorem dX3_hamletsOf_24 : decode cX3_hamletsOf 24 = .ok (.iconst 1, 1) := dk_4 (dk_at dksX3_hamletsOf_1 0 rfl rfl)
theorem dX3_hamletsOf_25 : decode cX3_hamletsOf 25 = .ok (.goto 4, 3) := dk_167 0 4 (dk_at dksX3_hamletsOf_1 1 rfl rfl)
theorem dX3_hamletsOf_28 : decode cX3_hamletsOf 28 = .ok (.iconst 0, 1) := dk_3 (dk_at dksX3_hamletsOf_1 4 rfl rfl)
theorem dX3_hamletsOf_29 : decode cX3_hamletsOf 29 = .ok (.iadd, 1) := dk_96 (dk_at dksX3_hamletsOf_1 5 rfl rfl)
theorem dX3_hamletsOf_30 : decode cX3_hamletsOf 30 = .ok (.istore_n 2, 1) := dk_61 (dk_at dksX3_hamletsOf_1 6 rfl rfl)
theorem dX3_hamletsOf_31 : decode cX3_hamletsOf 31 = .ok (.iinc 3 1, 3) := dk_132 3 1 (dk_at dksX3_hamletsOf_1 7 rfl rfl)
theorem dX3_hamletsOf_34 : decode cX3_hamletsOf 34 = .ok (.goto (-30), 3) := dk_167 255 226 (dk_at dksX3_hamletsOf_1 10 rfl rfl)
theorem dX3_hamletsOf_37 : decode cX3_hamletsOf 37 = .ok (.iload_n 2, 1) := dk_28 (dk_at dksX3_hamletsOf_1 13 rfl rfl)
theorem dX3_hamletsOf_38 : decode cX3_hamletsOf 38 = .ok (.ireturn, 1) := dk_172 (dk_at dksX3_hamletsOf_1 14 rfl rfl)
abbrev cX3_well : ByteArray := prog_45_method_24_code
def yX3_well : MethodName := ⟨RX3, "well", "(I)I"⟩
def dkwX3_well_0 : List UInt8 := [42, 27, 42, 182, 0, 89, 182, 0, 93, 172]
abbrev dktX3_well_0 : List UInt8 := dkwX3_well_0 ++ []
theorem dksX3_well_0 : cX3_well.data.toList.drop 0 = dktX3_well_0 := by decide +kernel
theorem dX3_well_0 : decode cX3_well 0 = .ok (.aload_n 0, 1) := dk_42 (dk_at dksX3_well_0 0 rfl rfl)
theorem dX3_well_1 : decode cX3_well 1 = .ok (.iload_n 1, 1) := dk_27 (dk_at dksX3_well_0 1 rfl rfl)
theorem dX3_well_2 : decode cX3_well 2 = .ok (.aload_n 0, 1) := dk_42 (dk_at dksX3_well_0 2 rfl rfl)
theorem dX3_well_3 : decode cX3_well 3 = .ok (.invokevirtual 89, 3) := dk_182 0 89 (dk_at dksX3_well_0 3 rfl rfl)
theorem dX3_well_6 : decode cX3_well 6 = .ok (.invokevirtual 93, 3) := dk_182 0 93 (dk_at dksX3_well_0 6 rfl rfl)
theorem dX3_well_9 : decode cX3_well 9 = .ok (.ireturn, 1) := dk_172 (dk_at dksX3_well_0 9 rfl rfl)
abbrev cX3_openOnes : ByteArray := prog_45_method_21_code
def yX3_openOnes : MethodName := ⟨RX3, "openOnes", "()I"⟩
def dkwX3_openOnes_1 : List UInt8 := [28, 120, 167, 0, 4, 3, 128, 60, 132, 2, 1, 167, 255, 225, 27, 172]
abbrev dktX3_openOnes_1 : List UInt8 := dkwX3_openOnes_1 ++ []
def dkwX3_openOnes_0 : List UInt8 := [3, 60, 3, 61, 28, 42, 180, 0, 16, 6, 46, 162, 0, 27, 27, 42, 28, 182, 0, 78, 153, 0, 9, 4]
abbrev dktX3_openOnes_0 : List UInt8 := dkwX3_openOnes_0 ++ dktX3_openOnes_1
theorem dksX3_openOnes_0 : cX3_openOnes.data.toList.drop 0 = dktX3_openOnes_0 := by decide +kernel
theorem dksX3_openOnes_1 : cX3_openOnes.data.toList.drop 24 = dktX3_openOnes_1 := dk_seg dksX3_openOnes_0 24 rfl rfl
theorem dX3_openOnes_0 : decode cX3_openOnes 0 = .ok (.iconst 0, 1) := dk_3 (dk_at dksX3_openOnes_0 0 rfl rfl)
theorem dX3_openOnes_1 : decode cX3_openOnes 1 = .ok (.istore_n 1, 1) := dk_60 (dk_at dksX3_openOnes_0 1 rfl rfl)
theorem dX3_openOnes_2 : decode cX3_openOnes 2 = .ok (.iconst 0, 1) := dk_3 (dk_at dksX3_openOnes_0 2 rfl rfl)
theorem dX3_openOnes_3 : decode cX3_openOnes 3 = .ok (.istore_n 2, 1) := dk_61 (dk_at dksX3_openOnes_0 3 rfl rfl)
theorem dX3_openOnes_4 : decode cX3_openOnes 4 = .ok (.iload_n 2, 1) := dk_28 (dk_at dksX3_openOnes_0 4 rfl rfl)
theorem dX3_openOnes_5 : decode cX3_openOnes 5 = .ok (.aload_n 0, 1) := dk_42 (dk_at dksX3_openOnes_0 5 rfl rfl)
theorem dX3_openOnes_6 : decode cX3_openOnes 6 = .ok (.getfield 16, 3) := dk_180 0 16 (dk_at dksX3_openOnes_0 6 rfl rfl)
theorem dX3_openOnes_9 : decode cX3_openOnes 9 = .ok (.iconst 3, 1) := dk_6 (dk_at dksX3_openOnes_0 9 rfl rfl)
theorem dX3_openOnes_10 : decode cX3_openOnes 10 = .ok (.iaload, 1) := dk_46 (dk_at dksX3_openOnes_0 10 rfl rfl)
theorem dX3_openOnes_11 : decode cX3_openOnes 11 = .ok (.if_icmp .ge 27, 3) := dk_162 0 27 (dk_at dksX3_openOnes_0 11 rfl rfl)
theorem dX3_openOnes_14 : decode cX3_openOnes 14 = .ok (.iload_n 1, 1) := dk_27 (dk_at dksX3_openOnes_0 14 rfl rfl)
theorem dX3_openOnes_15 : decode cX3_openOnes 15 = .ok (.aload_n 0, 1) := dk_42 (dk_at dksX3_openOnes_0 15 rfl rfl)
theorem dX3_openOnes_16 : decode cX3_openOnes 16 = .ok (.iload_n 2, 1) := dk_28 (dk_at dksX3_openOnes_0 16 rfl rfl)
theorem dX3_openOnes_17 : decode cX3_openOnes 17 = .ok (.invokevirtual 78, 3) := dk_182 0 78 (dk_at dksX3_openOnes_0 17 rfl rfl)
theorem dX3_openOnes_20 : decode cX3_openOnes 20 = .ok (.ifCond .eq 9, 3) := dk_153 0 9 (dk_at dksX3_openOnes_0 20 rfl rfl)
theorem dX3_openOnes_23 : decode cX3_openOnes 23 = .ok (.iconst 1, 1) := dk_4 (dk_at dksX3_openOnes_0 23 rfl rfl)
theorem dX3_openOnes_24 : decode cX3_openOnes 24 = .ok (.iload_n 2, 1) := dk_28 (dk_at dksX3_openOnes_1 0 rfl rfl)
theorem dX3_openOnes_25 : decode cX3_openOnes 25 = .ok (.ishl, 1) := dk_120 (dk_at dksX3_openOnes_1 1 rfl rfl)
theorem dX3_openOnes_26 : decode cX3_openOnes 26 = .ok (.goto 4, 3) := dk_167 0 4 (dk_at dksX3_openOnes_1 2 rfl rfl)
theorem dX3_openOnes_29 : decode cX3_openOnes 29 = .ok (.iconst 0, 1) := dk_3 (dk_at dksX3_openOnes_1 5 rfl rfl)
theorem dX3_openOnes_30 : decode cX3_openOnes 30 = .ok (.ior, 1) := dk_128 (dk_at dksX3_openOnes_1 6 rfl rfl)
theorem dX3_openOnes_31 : decode cX3_openOnes 31 = .ok (.istore_n 1, 1) := dk_60 (dk_at dksX3_openOnes_1 7 rfl rfl)
theorem dX3_openOnes_32 : decode cX3_openOnes 32 = .ok (.iinc 2 1, 3) := dk_132 2 1 (dk_at dksX3_openOnes_1 8 rfl rfl)
theorem dX3_openOnes_35 : decode cX3_openOnes 35 = .ok (.goto (-31), 3) := dk_167 255 225 (dk_at dksX3_openOnes_1 11 rfl rfl)
theorem dX3_openOnes_38 : decode cX3_openOnes 38 = .ok (.iload_n 1, 1) := dk_27 (dk_at dksX3_openOnes_1 14 rfl rfl)
theorem dX3_openOnes_39 : decode cX3_openOnes 39 = .ok (.ireturn, 1) := dk_172 (dk_at dksX3_openOnes_1 15 rfl rfl)
abbrev cX3_nearest : ByteArray := prog_45_method_23_code
def yX3_nearest : MethodName := ⟨RX3, "nearest", "(II)I"⟩
def dkwX3_nearest_2 : List UInt8 := [21, 4, 167, 0, 4, 29, 62, 132, 4, 1, 167, 255, 206, 29, 172]
abbrev dktX3_nearest_2 : List UInt8 := dkwX3_nearest_2 ++ []
def dkwX3_nearest_1 : List UInt8 := [153, 0, 28, 29, 155, 0, 19, 42, 27, 21, 4, 182, 0, 86, 42, 27, 29, 182, 0, 86, 162, 0, 8]
abbrev dktX3_nearest_1 : List UInt8 := dkwX3_nearest_1 ++ dktX3_nearest_2
def dkwX3_nearest_0 : List UInt8 := [2, 62, 3, 54, 4, 21, 4, 42, 180, 0, 16, 6, 46, 162, 0, 45, 28, 21, 4, 184, 0, 82]
abbrev dktX3_nearest_0 : List UInt8 := dkwX3_nearest_0 ++ dktX3_nearest_1
theorem dksX3_nearest_0 : cX3_nearest.data.toList.drop 0 = dktX3_nearest_0 := by decide +kernel
theorem dksX3_nearest_1 : cX3_nearest.data.toList.drop 22 = dktX3_nearest_1 := dk_seg dksX3_nearest_0 22 rfl rfl
theorem dksX3_nearest_2 : cX3_nearest.data.toList.drop 45 = dktX3_nearest_2 := dk_seg dksX3_nearest_1 23 rfl rfl
theorem dX3_nearest_0 : decode cX3_nearest 0 = .ok (.iconst (-1), 1) := dk_2 (dk_at dksX3_nearest_0 0 rfl rfl)
theorem dX3_nearest_1 : decode cX3_nearest 1 = .ok (.istore_n 3, 1) := dk_62 (dk_at dksX3_nearest_0 1 rfl rfl)
theorem dX3_nearest_2 : decode cX3_nearest 2 = .ok (.iconst 0, 1) := dk_3 (dk_at dksX3_nearest_0 2 rfl rfl)
theorem dX3_nearest_3 : decode cX3_nearest 3 = .ok (.istore 4, 2) := dk_54 4 (dk_at dksX3_nearest_0 3 rfl rfl)
theorem dX3_nearest_5 : decode cX3_nearest 5 = .ok (.iload 4, 2) := dk_21 4 (dk_at dksX3_nearest_0 5 rfl rfl)
theorem dX3_nearest_7 : decode cX3_nearest 7 = .ok (.aload_n 0, 1) := dk_42 (dk_at dksX3_nearest_0 7 rfl rfl)
theorem dX3_nearest_8 : decode cX3_nearest 8 = .ok (.getfield 16, 3) := dk_180 0 16 (dk_at dksX3_nearest_0 8 rfl rfl)
theorem dX3_nearest_11 : decode cX3_nearest 11 = .ok (.iconst 3, 1) := dk_6 (dk_at dksX3_nearest_0 11 rfl rfl)
theorem dX3_nearest_12 : decode cX3_nearest 12 = .ok (.iaload, 1) := dk_46 (dk_at dksX3_nearest_0 12 rfl rfl)
theorem dX3_nearest_13 : decode cX3_nearest 13 = .ok (.if_icmp .ge 45, 3) := dk_162 0 45 (dk_at dksX3_nearest_0 13 rfl rfl)
theorem dX3_nearest_16 : decode cX3_nearest 16 = .ok (.iload_n 2, 1) := dk_28 (dk_at dksX3_nearest_0 16 rfl rfl)
theorem dX3_nearest_17 : decode cX3_nearest 17 = .ok (.iload 4, 2) := dk_21 4 (dk_at dksX3_nearest_0 17 rfl rfl)
theorem dX3_nearest_19 : decode cX3_nearest 19 = .ok (.invokestatic 82, 3) := dk_184 0 82 (dk_at dksX3_nearest_0 19 rfl rfl)
theorem dX3_nearest_22 : decode cX3_nearest 22 = .ok (.ifCond .eq 28, 3) := dk_153 0 28 (dk_at dksX3_nearest_1 0 rfl rfl)
theorem dX3_nearest_25 : decode cX3_nearest 25 = .ok (.iload_n 3, 1) := dk_29 (dk_at dksX3_nearest_1 3 rfl rfl)
theorem dX3_nearest_26 : decode cX3_nearest 26 = .ok (.ifCond .lt 19, 3) := dk_155 0 19 (dk_at dksX3_nearest_1 4 rfl rfl)
theorem dX3_nearest_29 : decode cX3_nearest 29 = .ok (.aload_n 0, 1) := dk_42 (dk_at dksX3_nearest_1 7 rfl rfl)
theorem dX3_nearest_30 : decode cX3_nearest 30 = .ok (.iload_n 1, 1) := dk_27 (dk_at dksX3_nearest_1 8 rfl rfl)
theorem dX3_nearest_31 : decode cX3_nearest 31 = .ok (.iload 4, 2) := dk_21 4 (dk_at dksX3_nearest_1 9 rfl rfl)
theorem dX3_nearest_33 : decode cX3_nearest 33 = .ok (.invokevirtual 86, 3) := dk_182 0 86 (dk_at dksX3_nearest_1 11 rfl rfl)
theorem dX3_nearest_36 : decode cX3_nearest 36 = .ok (.aload_n 0, 1) := dk_42 (dk_at dksX3_nearest_1 14 rfl rfl)
theorem dX3_nearest_37 : decode cX3_nearest 37 = .ok (.iload_n 1, 1) := dk_27 (dk_at dksX3_nearest_1 15 rfl rfl)
theorem dX3_nearest_38 : decode cX3_nearest 38 = .ok (.iload_n 3, 1) := dk_29 (dk_at dksX3_nearest_1 16 rfl rfl)
theorem dX3_nearest_39 : decode cX3_nearest 39 = .ok (.invokevirtual 86, 3) := dk_182 0 86 (dk_at dksX3_nearest_1 17 rfl rfl)
theorem dX3_nearest_42 : decode cX3_nearest 42 = .ok (.if_icmp .ge 8, 3) := dk_162 0 8 (dk_at dksX3_nearest_1 20 rfl rfl)
theorem dX3_nearest_45 : decode cX3_nearest 45 = .ok (.iload 4, 2) := dk_21 4 (dk_at dksX3_nearest_2 0 rfl rfl)
theorem dX3_nearest_47 : decode cX3_nearest 47 = .ok (.goto 4, 3) := dk_167 0 4 (dk_at dksX3_nearest_2 2 rfl rfl)
theorem dX3_nearest_50 : decode cX3_nearest 50 = .ok (.iload_n 3, 1) := dk_29 (dk_at dksX3_nearest_2 5 rfl rfl)
theorem dX3_nearest_51 : decode cX3_nearest 51 = .ok (.istore_n 3, 1) := dk_62 (dk_at dksX3_nearest_2 6 rfl rfl)
theorem dX3_nearest_52 : decode cX3_nearest 52 = .ok (.iinc 4 1, 3) := dk_132 4 1 (dk_at dksX3_nearest_2 7 rfl rfl)
theorem dX3_nearest_55 : decode cX3_nearest 55 = .ok (.goto (-50), 3) := dk_167 255 206 (dk_at dksX3_nearest_2 10 rfl rfl)
theorem dX3_nearest_58 : decode cX3_nearest 58 = .ok (.iload_n 3, 1) := dk_29 (dk_at dksX3_nearest_2 13 rfl rfl)
theorem dX3_nearest_59 : decode cX3_nearest 59 = .ok (.ireturn, 1) := dk_172 (dk_at dksX3_nearest_2 14 rfl rfl)
abbrev cX3_has : ByteArray := prog_45_method_3_code
def yX3_has : MethodName := ⟨RX3, "has", "(II)Z"⟩
def dkwX3_has_0 : List UInt8 := [26, 27, 122, 4, 126, 4, 160, 0, 7, 4, 167, 0, 4, 3, 172]
abbrev dktX3_has_0 : List UInt8 := dkwX3_has_0 ++ []
theorem dksX3_has_0 : cX3_has.data.toList.drop 0 = dktX3_has_0 := by decide +kernel
theorem dX3_has_0 : decode cX3_has 0 = .ok (.iload_n 0, 1) := dk_26 (dk_at dksX3_has_0 0 rfl rfl)
theorem dX3_has_1 : decode cX3_has 1 = .ok (.iload_n 1, 1) := dk_27 (dk_at dksX3_has_0 1 rfl rfl)
theorem dX3_has_2 : decode cX3_has 2 = .ok (.ishr, 1) := dk_122 (dk_at dksX3_has_0 2 rfl rfl)
theorem dX3_has_3 : decode cX3_has 3 = .ok (.iconst 1, 1) := dk_4 (dk_at dksX3_has_0 3 rfl rfl)
theorem dX3_has_4 : decode cX3_has 4 = .ok (.iand, 1) := dk_126 (dk_at dksX3_has_0 4 rfl rfl)
theorem dX3_has_5 : decode cX3_has 5 = .ok (.iconst 1, 1) := dk_4 (dk_at dksX3_has_0 5 rfl rfl)
theorem dX3_has_6 : decode cX3_has 6 = .ok (.if_icmp .ne 7, 3) := dk_160 0 7 (dk_at dksX3_has_0 6 rfl rfl)
theorem dX3_has_9 : decode cX3_has 9 = .ok (.iconst 1, 1) := dk_4 (dk_at dksX3_has_0 9 rfl rfl)
theorem dX3_has_10 : decode cX3_has 10 = .ok (.goto 4, 3) := dk_167 0 4 (dk_at dksX3_has_0 10 rfl rfl)
theorem dX3_has_13 : decode cX3_has 13 = .ok (.iconst 0, 1) := dk_3 (dk_at dksX3_has_0 13 rfl rfl)
theorem dX3_has_14 : decode cX3_has 14 = .ok (.ireturn, 1) := dk_172 (dk_at dksX3_has_0 14 rfl rfl)
abbrev cX3_far : ByteArray := prog_45_method_20_code
def yX3_far : MethodName := ⟨RX3, "far", "(II)I"⟩
def dkwX3_far_1 : List UInt8 := [182, 0, 68, 184, 0, 75, 96, 172]
abbrev dktX3_far_1 : List UInt8 := dkwX3_far_1 ++ []
def dkwX3_far_0 : List UInt8 := [42, 27, 3, 182, 0, 72, 42, 28, 3, 182, 0, 68, 184, 0, 75, 42, 27, 4, 182, 0, 72, 42, 28, 4]
abbrev dktX3_far_0 : List UInt8 := dkwX3_far_0 ++ dktX3_far_1
theorem dksX3_far_0 : cX3_far.data.toList.drop 0 = dktX3_far_0 := by decide +kernel
theorem dksX3_far_1 : cX3_far.data.toList.drop 24 = dktX3_far_1 := dk_seg dksX3_far_0 24 rfl rfl
theorem dX3_far_0 : decode cX3_far 0 = .ok (.aload_n 0, 1) := dk_42 (dk_at dksX3_far_0 0 rfl rfl)
theorem dX3_far_1 : decode cX3_far 1 = .ok (.iload_n 1, 1) := dk_27 (dk_at dksX3_far_0 1 rfl rfl)
theorem dX3_far_2 : decode cX3_far 2 = .ok (.iconst 0, 1) := dk_3 (dk_at dksX3_far_0 2 rfl rfl)
theorem dX3_far_3 : decode cX3_far 3 = .ok (.invokevirtual 72, 3) := dk_182 0 72 (dk_at dksX3_far_0 3 rfl rfl)
theorem dX3_far_6 : decode cX3_far 6 = .ok (.aload_n 0, 1) := dk_42 (dk_at dksX3_far_0 6 rfl rfl)
theorem dX3_far_7 : decode cX3_far 7 = .ok (.iload_n 2, 1) := dk_28 (dk_at dksX3_far_0 7 rfl rfl)
theorem dX3_far_8 : decode cX3_far 8 = .ok (.iconst 0, 1) := dk_3 (dk_at dksX3_far_0 8 rfl rfl)
theorem dX3_far_9 : decode cX3_far 9 = .ok (.invokevirtual 68, 3) := dk_182 0 68 (dk_at dksX3_far_0 9 rfl rfl)
theorem dX3_far_12 : decode cX3_far 12 = .ok (.invokestatic 75, 3) := dk_184 0 75 (dk_at dksX3_far_0 12 rfl rfl)
theorem dX3_far_15 : decode cX3_far 15 = .ok (.aload_n 0, 1) := dk_42 (dk_at dksX3_far_0 15 rfl rfl)
theorem dX3_far_16 : decode cX3_far 16 = .ok (.iload_n 1, 1) := dk_27 (dk_at dksX3_far_0 16 rfl rfl)
theorem dX3_far_17 : decode cX3_far 17 = .ok (.iconst 1, 1) := dk_4 (dk_at dksX3_far_0 17 rfl rfl)
theorem dX3_far_18 : decode cX3_far 18 = .ok (.invokevirtual 72, 3) := dk_182 0 72 (dk_at dksX3_far_0 18 rfl rfl)
theorem dX3_far_21 : decode cX3_far 21 = .ok (.aload_n 0, 1) := dk_42 (dk_at dksX3_far_0 21 rfl rfl)
theorem dX3_far_22 : decode cX3_far 22 = .ok (.iload_n 2, 1) := dk_28 (dk_at dksX3_far_0 22 rfl rfl)
theorem dX3_far_23 : decode cX3_far 23 = .ok (.iconst 1, 1) := dk_4 (dk_at dksX3_far_0 23 rfl rfl)
theorem dX3_far_24 : decode cX3_far 24 = .ok (.invokevirtual 68, 3) := dk_182 0 68 (dk_at dksX3_far_1 0 rfl rfl)
theorem dX3_far_27 : decode cX3_far 27 = .ok (.invokestatic 75, 3) := dk_184 0 75 (dk_at dksX3_far_1 3 rfl rfl)
theorem dX3_far_30 : decode cX3_far 30 = .ok (.iadd, 1) := dk_96 (dk_at dksX3_far_1 6 rfl rfl)
theorem dX3_far_31 : decode cX3_far 31 = .ok (.ireturn, 1) := dk_172 (dk_at dksX3_far_1 7 rfl rfl)
abbrev cX3_away : ByteArray := prog_45_method_19_code
def yX3_away : MethodName := ⟨RX3, "away", "(II)I"⟩
def dkwX3_away_0 : List UInt8 := [26, 27, 162, 0, 9, 27, 26, 100, 167, 0, 6, 26, 27, 100, 172]
abbrev dktX3_away_0 : List UInt8 := dkwX3_away_0 ++ []
theorem dksX3_away_0 : cX3_away.data.toList.drop 0 = dktX3_away_0 := by decide +kernel
theorem dX3_away_0 : decode cX3_away 0 = .ok (.iload_n 0, 1) := dk_26 (dk_at dksX3_away_0 0 rfl rfl)
theorem dX3_away_1 : decode cX3_away 1 = .ok (.iload_n 1, 1) := dk_27 (dk_at dksX3_away_0 1 rfl rfl)
theorem dX3_away_2 : decode cX3_away 2 = .ok (.if_icmp .ge 9, 3) := dk_162 0 9 (dk_at dksX3_away_0 2 rfl rfl)
theorem dX3_away_5 : decode cX3_away 5 = .ok (.iload_n 1, 1) := dk_27 (dk_at dksX3_away_0 5 rfl rfl)
theorem dX3_away_6 : decode cX3_away 6 = .ok (.iload_n 0, 1) := dk_26 (dk_at dksX3_away_0 6 rfl rfl)
theorem dX3_away_7 : decode cX3_away 7 = .ok (.isub, 1) := dk_100 (dk_at dksX3_away_0 7 rfl rfl)
theorem dX3_away_8 : decode cX3_away 8 = .ok (.goto 6, 3) := dk_167 0 6 (dk_at dksX3_away_0 8 rfl rfl)
theorem dX3_away_11 : decode cX3_away 11 = .ok (.iload_n 0, 1) := dk_26 (dk_at dksX3_away_0 11 rfl rfl)
theorem dX3_away_12 : decode cX3_away 12 = .ok (.iload_n 1, 1) := dk_27 (dk_at dksX3_away_0 12 rfl rfl)
theorem dX3_away_13 : decode cX3_away 13 = .ok (.isub, 1) := dk_100 (dk_at dksX3_away_0 13 rfl rfl)
theorem dX3_away_14 : decode cX3_away 14 = .ok (.ireturn, 1) := dk_172 (dk_at dksX3_away_0 14 rfl rfl)
abbrev cX3_price : ByteArray := prog_45_method_28_code
def yX3_price : MethodName := ⟨RX3, "price", "(I)I"⟩
def dkwX3_price_0 : List UInt8 := [42, 27, 7, 182, 0, 68, 42, 27, 6, 182, 0, 68, 7, 108, 96, 172]
abbrev dktX3_price_0 : List UInt8 := dkwX3_price_0 ++ []
theorem dksX3_price_0 : cX3_price.data.toList.drop 0 = dktX3_price_0 := by decide +kernel
theorem dX3_price_0 : decode cX3_price 0 = .ok (.aload_n 0, 1) := dk_42 (dk_at dksX3_price_0 0 rfl rfl)
theorem dX3_price_1 : decode cX3_price 1 = .ok (.iload_n 1, 1) := dk_27 (dk_at dksX3_price_0 1 rfl rfl)
theorem dX3_price_2 : decode cX3_price 2 = .ok (.iconst 4, 1) := dk_7 (dk_at dksX3_price_0 2 rfl rfl)
theorem dX3_price_3 : decode cX3_price 3 = .ok (.invokevirtual 68, 3) := dk_182 0 68 (dk_at dksX3_price_0 3 rfl rfl)
theorem dX3_price_6 : decode cX3_price 6 = .ok (.aload_n 0, 1) := dk_42 (dk_at dksX3_price_0 6 rfl rfl)
theorem dX3_price_7 : decode cX3_price 7 = .ok (.iload_n 1, 1) := dk_27 (dk_at dksX3_price_0 7 rfl rfl)
theorem dX3_price_8 : decode cX3_price 8 = .ok (.iconst 3, 1) := dk_6 (dk_at dksX3_price_0 8 rfl rfl)
theorem dX3_price_9 : decode cX3_price 9 = .ok (.invokevirtual 68, 3) := dk_182 0 68 (dk_at dksX3_price_0 9 rfl rfl)
theorem dX3_price_12 : decode cX3_price 12 = .ok (.iconst 4, 1) := dk_7 (dk_at dksX3_price_0 12 rfl rfl)
theorem dX3_price_13 : decode cX3_price 13 = .ok (.idiv, 1) := dk_108 (dk_at dksX3_price_0 13 rfl rfl)
theorem dX3_price_14 : decode cX3_price 14 = .ok (.iadd, 1) := dk_96 (dk_at dksX3_price_0 14 rfl rfl)
theorem dX3_price_15 : decode cX3_price 15 = .ok (.ireturn, 1) := dk_172 (dk_at dksX3_price_0 15 rfl rfl)
abbrev cX3_opens : ByteArray := prog_45_method_40_code
def yX3_opens : MethodName := ⟨RX3, "opens", "(I)I"⟩
def dkwX3_opens_1 : List UInt8 := [182, 0, 144, 96, 79, 42, 27, 8, 4, 182, 0, 128, 42, 27, 182, 0, 141, 172]
abbrev dktX3_opens_1 : List UInt8 := dkwX3_opens_1 ++ []
def dkwX3_opens_0 : List UInt8 := [42, 180, 0, 16, 4, 92, 46, 42, 27, 182, 0, 144, 100, 79, 42, 180, 0, 16, 16, 7, 92, 46, 42, 27]
abbrev dktX3_opens_0 : List UInt8 := dkwX3_opens_0 ++ dktX3_opens_1
theorem dksX3_opens_0 : cX3_opens.data.toList.drop 0 = dktX3_opens_0 := by decide +kernel
theorem dksX3_opens_1 : cX3_opens.data.toList.drop 24 = dktX3_opens_1 := dk_seg dksX3_opens_0 24 rfl rfl
theorem dX3_opens_0 : decode cX3_opens 0 = .ok (.aload_n 0, 1) := dk_42 (dk_at dksX3_opens_0 0 rfl rfl)
theorem dX3_opens_1 : decode cX3_opens 1 = .ok (.getfield 16, 3) := dk_180 0 16 (dk_at dksX3_opens_0 1 rfl rfl)
theorem dX3_opens_4 : decode cX3_opens 4 = .ok (.iconst 1, 1) := dk_4 (dk_at dksX3_opens_0 4 rfl rfl)
theorem dX3_opens_5 : decode cX3_opens 5 = .ok (.dup2, 1) := dk_92 (dk_at dksX3_opens_0 5 rfl rfl)
theorem dX3_opens_6 : decode cX3_opens 6 = .ok (.iaload, 1) := dk_46 (dk_at dksX3_opens_0 6 rfl rfl)
theorem dX3_opens_7 : decode cX3_opens 7 = .ok (.aload_n 0, 1) := dk_42 (dk_at dksX3_opens_0 7 rfl rfl)
theorem dX3_opens_8 : decode cX3_opens 8 = .ok (.iload_n 1, 1) := dk_27 (dk_at dksX3_opens_0 8 rfl rfl)
theorem dX3_opens_9 : decode cX3_opens 9 = .ok (.invokevirtual 144, 3) := dk_182 0 144 (dk_at dksX3_opens_0 9 rfl rfl)
theorem dX3_opens_12 : decode cX3_opens 12 = .ok (.isub, 1) := dk_100 (dk_at dksX3_opens_0 12 rfl rfl)
theorem dX3_opens_13 : decode cX3_opens 13 = .ok (.iastore, 1) := dk_79 (dk_at dksX3_opens_0 13 rfl rfl)
theorem dX3_opens_14 : decode cX3_opens 14 = .ok (.aload_n 0, 1) := dk_42 (dk_at dksX3_opens_0 14 rfl rfl)
theorem dX3_opens_15 : decode cX3_opens 15 = .ok (.getfield 16, 3) := dk_180 0 16 (dk_at dksX3_opens_0 15 rfl rfl)
theorem dX3_opens_18 : decode cX3_opens 18 = .ok (.bipush 7, 2) := dk_16 7 (dk_at dksX3_opens_0 18 rfl rfl)
theorem dX3_opens_20 : decode cX3_opens 20 = .ok (.dup2, 1) := dk_92 (dk_at dksX3_opens_0 20 rfl rfl)
theorem dX3_opens_21 : decode cX3_opens 21 = .ok (.iaload, 1) := dk_46 (dk_at dksX3_opens_0 21 rfl rfl)
theorem dX3_opens_22 : decode cX3_opens 22 = .ok (.aload_n 0, 1) := dk_42 (dk_at dksX3_opens_0 22 rfl rfl)
theorem dX3_opens_23 : decode cX3_opens 23 = .ok (.iload_n 1, 1) := dk_27 (dk_at dksX3_opens_0 23 rfl rfl)
theorem dX3_opens_24 : decode cX3_opens 24 = .ok (.invokevirtual 144, 3) := dk_182 0 144 (dk_at dksX3_opens_1 0 rfl rfl)
theorem dX3_opens_27 : decode cX3_opens 27 = .ok (.iadd, 1) := dk_96 (dk_at dksX3_opens_1 3 rfl rfl)
theorem dX3_opens_28 : decode cX3_opens 28 = .ok (.iastore, 1) := dk_79 (dk_at dksX3_opens_1 4 rfl rfl)
theorem dX3_opens_29 : decode cX3_opens 29 = .ok (.aload_n 0, 1) := dk_42 (dk_at dksX3_opens_1 5 rfl rfl)
theorem dX3_opens_30 : decode cX3_opens 30 = .ok (.iload_n 1, 1) := dk_27 (dk_at dksX3_opens_1 6 rfl rfl)
theorem dX3_opens_31 : decode cX3_opens 31 = .ok (.iconst 5, 1) := dk_8 (dk_at dksX3_opens_1 7 rfl rfl)
theorem dX3_opens_32 : decode cX3_opens 32 = .ok (.iconst 1, 1) := dk_4 (dk_at dksX3_opens_1 8 rfl rfl)
theorem dX3_opens_33 : decode cX3_opens 33 = .ok (.invokevirtual 128, 3) := dk_182 0 128 (dk_at dksX3_opens_1 9 rfl rfl)
theorem dX3_opens_36 : decode cX3_opens 36 = .ok (.aload_n 0, 1) := dk_42 (dk_at dksX3_opens_1 12 rfl rfl)
theorem dX3_opens_37 : decode cX3_opens 37 = .ok (.iload_n 1, 1) := dk_27 (dk_at dksX3_opens_1 13 rfl rfl)
theorem dX3_opens_38 : decode cX3_opens 38 = .ok (.invokevirtual 141, 3) := dk_182 0 141 (dk_at dksX3_opens_1 14 rfl rfl)
theorem dX3_opens_41 : decode cX3_opens 41 = .ok (.ireturn, 1) := dk_172 (dk_at dksX3_opens_1 17 rfl rfl)
abbrev cX3_shut : ByteArray := prog_45_method_44_code
def yX3_shut : MethodName := ⟨RX3, "shut", "(I)I"⟩
def dkwX3_shut_1 : List UInt8 := [182, 0, 159, 172]
abbrev dktX3_shut_1 : List UInt8 := dkwX3_shut_1 ++ []
def dkwX3_shut_0 : List UInt8 := [42, 27, 182, 0, 156, 61, 28, 153, 0, 9, 42, 28, 182, 0, 116, 172, 42, 182, 0, 119, 42, 27]
abbrev dktX3_shut_0 : List UInt8 := dkwX3_shut_0 ++ dktX3_shut_1
theorem dksX3_shut_0 : cX3_shut.data.toList.drop 0 = dktX3_shut_0 := by decide +kernel
theorem dksX3_shut_1 : cX3_shut.data.toList.drop 22 = dktX3_shut_1 := dk_seg dksX3_shut_0 22 rfl rfl
theorem dX3_shut_0 : decode cX3_shut 0 = .ok (.aload_n 0, 1) := dk_42 (dk_at dksX3_shut_0 0 rfl rfl)
theorem dX3_shut_1 : decode cX3_shut 1 = .ok (.iload_n 1, 1) := dk_27 (dk_at dksX3_shut_0 1 rfl rfl)
theorem dX3_shut_2 : decode cX3_shut 2 = .ok (.invokevirtual 156, 3) := dk_182 0 156 (dk_at dksX3_shut_0 2 rfl rfl)
theorem dX3_shut_5 : decode cX3_shut 5 = .ok (.istore_n 2, 1) := dk_61 (dk_at dksX3_shut_0 5 rfl rfl)
theorem dX3_shut_6 : decode cX3_shut 6 = .ok (.iload_n 2, 1) := dk_28 (dk_at dksX3_shut_0 6 rfl rfl)
theorem dX3_shut_7 : decode cX3_shut 7 = .ok (.ifCond .eq 9, 3) := dk_153 0 9 (dk_at dksX3_shut_0 7 rfl rfl)
theorem dX3_shut_10 : decode cX3_shut 10 = .ok (.aload_n 0, 1) := dk_42 (dk_at dksX3_shut_0 10 rfl rfl)
theorem dX3_shut_11 : decode cX3_shut 11 = .ok (.iload_n 2, 1) := dk_28 (dk_at dksX3_shut_0 11 rfl rfl)
theorem dX3_shut_12 : decode cX3_shut 12 = .ok (.invokevirtual 116, 3) := dk_182 0 116 (dk_at dksX3_shut_0 12 rfl rfl)
theorem dX3_shut_15 : decode cX3_shut 15 = .ok (.ireturn, 1) := dk_172 (dk_at dksX3_shut_0 15 rfl rfl)
theorem dX3_shut_16 : decode cX3_shut 16 = .ok (.aload_n 0, 1) := dk_42 (dk_at dksX3_shut_0 16 rfl rfl)
theorem dX3_shut_17 : decode cX3_shut 17 = .ok (.invokevirtual 119, 3) := dk_182 0 119 (dk_at dksX3_shut_0 17 rfl rfl)
theorem dX3_shut_20 : decode cX3_shut 20 = .ok (.aload_n 0, 1) := dk_42 (dk_at dksX3_shut_0 20 rfl rfl)
theorem dX3_shut_21 : decode cX3_shut 21 = .ok (.iload_n 1, 1) := dk_27 (dk_at dksX3_shut_0 21 rfl rfl)
theorem dX3_shut_22 : decode cX3_shut 22 = .ok (.invokevirtual 159, 3) := dk_182 0 159 (dk_at dksX3_shut_1 0 rfl rfl)
theorem dX3_shut_25 : decode cX3_shut 25 = .ok (.ireturn, 1) := dk_172 (dk_at dksX3_shut_1 3 rfl rfl)
abbrev cX3_notShut : ByteArray := prog_45_method_42_code
def yX3_notShut : MethodName := ⟨RX3, "notShut", "(I)I"⟩
def dkwX3_notShut_1 : List UInt8 := [42, 27, 7, 182, 0, 68, 182, 0, 106, 172]
abbrev dktX3_notShut_1 : List UInt8 := dkwX3_notShut_1 ++ []
def dkwX3_notShut_0 : List UInt8 := [42, 27, 182, 0, 138, 154, 0, 5, 2, 172, 42, 27, 182, 0, 78, 153, 0, 7, 3, 167, 0, 14, 42, 7]
abbrev dktX3_notShut_0 : List UInt8 := dkwX3_notShut_0 ++ dktX3_notShut_1
theorem dksX3_notShut_0 : cX3_notShut.data.toList.drop 0 = dktX3_notShut_0 := by decide +kernel
theorem dksX3_notShut_1 : cX3_notShut.data.toList.drop 24 = dktX3_notShut_1 := dk_seg dksX3_notShut_0 24 rfl rfl
theorem dX3_notShut_0 : decode cX3_notShut 0 = .ok (.aload_n 0, 1) := dk_42 (dk_at dksX3_notShut_0 0 rfl rfl)
theorem dX3_notShut_1 : decode cX3_notShut 1 = .ok (.iload_n 1, 1) := dk_27 (dk_at dksX3_notShut_0 1 rfl rfl)
theorem dX3_notShut_2 : decode cX3_notShut 2 = .ok (.invokevirtual 138, 3) := dk_182 0 138 (dk_at dksX3_notShut_0 2 rfl rfl)
theorem dX3_notShut_5 : decode cX3_notShut 5 = .ok (.ifCond .ne 5, 3) := dk_154 0 5 (dk_at dksX3_notShut_0 5 rfl rfl)
theorem dX3_notShut_8 : decode cX3_notShut 8 = .ok (.iconst (-1), 1) := dk_2 (dk_at dksX3_notShut_0 8 rfl rfl)
theorem dX3_notShut_9 : decode cX3_notShut 9 = .ok (.ireturn, 1) := dk_172 (dk_at dksX3_notShut_0 9 rfl rfl)
theorem dX3_notShut_10 : decode cX3_notShut 10 = .ok (.aload_n 0, 1) := dk_42 (dk_at dksX3_notShut_0 10 rfl rfl)
theorem dX3_notShut_11 : decode cX3_notShut 11 = .ok (.iload_n 1, 1) := dk_27 (dk_at dksX3_notShut_0 11 rfl rfl)
theorem dX3_notShut_12 : decode cX3_notShut 12 = .ok (.invokevirtual 78, 3) := dk_182 0 78 (dk_at dksX3_notShut_0 12 rfl rfl)
theorem dX3_notShut_15 : decode cX3_notShut 15 = .ok (.ifCond .eq 7, 3) := dk_153 0 7 (dk_at dksX3_notShut_0 15 rfl rfl)
theorem dX3_notShut_18 : decode cX3_notShut 18 = .ok (.iconst 0, 1) := dk_3 (dk_at dksX3_notShut_0 18 rfl rfl)
theorem dX3_notShut_19 : decode cX3_notShut 19 = .ok (.goto 14, 3) := dk_167 0 14 (dk_at dksX3_notShut_0 19 rfl rfl)
theorem dX3_notShut_22 : decode cX3_notShut 22 = .ok (.aload_n 0, 1) := dk_42 (dk_at dksX3_notShut_0 22 rfl rfl)
theorem dX3_notShut_23 : decode cX3_notShut 23 = .ok (.iconst 4, 1) := dk_7 (dk_at dksX3_notShut_0 23 rfl rfl)
theorem dX3_notShut_24 : decode cX3_notShut 24 = .ok (.aload_n 0, 1) := dk_42 (dk_at dksX3_notShut_1 0 rfl rfl)
theorem dX3_notShut_25 : decode cX3_notShut 25 = .ok (.iload_n 1, 1) := dk_27 (dk_at dksX3_notShut_1 1 rfl rfl)
theorem dX3_notShut_26 : decode cX3_notShut 26 = .ok (.iconst 4, 1) := dk_7 (dk_at dksX3_notShut_1 2 rfl rfl)
theorem dX3_notShut_27 : decode cX3_notShut 27 = .ok (.invokevirtual 68, 3) := dk_182 0 68 (dk_at dksX3_notShut_1 3 rfl rfl)
theorem dX3_notShut_30 : decode cX3_notShut 30 = .ok (.invokevirtual 106, 3) := dk_182 0 106 (dk_at dksX3_notShut_1 6 rfl rfl)
theorem dX3_notShut_33 : decode cX3_notShut 33 = .ok (.ireturn, 1) := dk_172 (dk_at dksX3_notShut_1 9 rfl rfl)
abbrev cX3_shuts : ByteArray := prog_45_method_43_code
def yX3_shuts : MethodName := ⟨RX3, "shuts", "(I)I"⟩
def dkwX3_shuts_1 : List UInt8 := [42, 27, 8, 3, 182, 0, 128, 42, 182, 0, 89, 184, 0, 153, 172]
abbrev dktX3_shuts_1 : List UInt8 := dkwX3_shuts_1 ++ []
def dkwX3_shuts_0 : List UInt8 := [42, 180, 0, 16, 7, 92, 46, 42, 27, 16, 6, 182, 0, 68, 96, 79, 42, 27, 16, 6, 3, 182, 0, 128]
abbrev dktX3_shuts_0 : List UInt8 := dkwX3_shuts_0 ++ dktX3_shuts_1
theorem dksX3_shuts_0 : cX3_shuts.data.toList.drop 0 = dktX3_shuts_0 := by decide +kernel
theorem dksX3_shuts_1 : cX3_shuts.data.toList.drop 24 = dktX3_shuts_1 := dk_seg dksX3_shuts_0 24 rfl rfl
theorem dX3_shuts_0 : decode cX3_shuts 0 = .ok (.aload_n 0, 1) := dk_42 (dk_at dksX3_shuts_0 0 rfl rfl)
theorem dX3_shuts_1 : decode cX3_shuts 1 = .ok (.getfield 16, 3) := dk_180 0 16 (dk_at dksX3_shuts_0 1 rfl rfl)
theorem dX3_shuts_4 : decode cX3_shuts 4 = .ok (.iconst 4, 1) := dk_7 (dk_at dksX3_shuts_0 4 rfl rfl)
theorem dX3_shuts_5 : decode cX3_shuts 5 = .ok (.dup2, 1) := dk_92 (dk_at dksX3_shuts_0 5 rfl rfl)
theorem dX3_shuts_6 : decode cX3_shuts 6 = .ok (.iaload, 1) := dk_46 (dk_at dksX3_shuts_0 6 rfl rfl)
theorem dX3_shuts_7 : decode cX3_shuts 7 = .ok (.aload_n 0, 1) := dk_42 (dk_at dksX3_shuts_0 7 rfl rfl)
theorem dX3_shuts_8 : decode cX3_shuts 8 = .ok (.iload_n 1, 1) := dk_27 (dk_at dksX3_shuts_0 8 rfl rfl)
theorem dX3_shuts_9 : decode cX3_shuts 9 = .ok (.bipush 6, 2) := dk_16 6 (dk_at dksX3_shuts_0 9 rfl rfl)
theorem dX3_shuts_11 : decode cX3_shuts 11 = .ok (.invokevirtual 68, 3) := dk_182 0 68 (dk_at dksX3_shuts_0 11 rfl rfl)
theorem dX3_shuts_14 : decode cX3_shuts 14 = .ok (.iadd, 1) := dk_96 (dk_at dksX3_shuts_0 14 rfl rfl)
theorem dX3_shuts_15 : decode cX3_shuts 15 = .ok (.iastore, 1) := dk_79 (dk_at dksX3_shuts_0 15 rfl rfl)
theorem dX3_shuts_16 : decode cX3_shuts 16 = .ok (.aload_n 0, 1) := dk_42 (dk_at dksX3_shuts_0 16 rfl rfl)
theorem dX3_shuts_17 : decode cX3_shuts 17 = .ok (.iload_n 1, 1) := dk_27 (dk_at dksX3_shuts_0 17 rfl rfl)
theorem dX3_shuts_18 : decode cX3_shuts 18 = .ok (.bipush 6, 2) := dk_16 6 (dk_at dksX3_shuts_0 18 rfl rfl)
theorem dX3_shuts_20 : decode cX3_shuts 20 = .ok (.iconst 0, 1) := dk_3 (dk_at dksX3_shuts_0 20 rfl rfl)
theorem dX3_shuts_21 : decode cX3_shuts 21 = .ok (.invokevirtual 128, 3) := dk_182 0 128 (dk_at dksX3_shuts_0 21 rfl rfl)
theorem dX3_shuts_24 : decode cX3_shuts 24 = .ok (.aload_n 0, 1) := dk_42 (dk_at dksX3_shuts_1 0 rfl rfl)
theorem dX3_shuts_25 : decode cX3_shuts 25 = .ok (.iload_n 1, 1) := dk_27 (dk_at dksX3_shuts_1 1 rfl rfl)
theorem dX3_shuts_26 : decode cX3_shuts 26 = .ok (.iconst 5, 1) := dk_8 (dk_at dksX3_shuts_1 2 rfl rfl)
theorem dX3_shuts_27 : decode cX3_shuts 27 = .ok (.iconst 0, 1) := dk_3 (dk_at dksX3_shuts_1 3 rfl rfl)
theorem dX3_shuts_28 : decode cX3_shuts 28 = .ok (.invokevirtual 128, 3) := dk_182 0 128 (dk_at dksX3_shuts_1 4 rfl rfl)
theorem dX3_shuts_31 : decode cX3_shuts 31 = .ok (.aload_n 0, 1) := dk_42 (dk_at dksX3_shuts_1 7 rfl rfl)
theorem dX3_shuts_32 : decode cX3_shuts 32 = .ok (.invokevirtual 89, 3) := dk_182 0 89 (dk_at dksX3_shuts_1 8 rfl rfl)
theorem dX3_shuts_35 : decode cX3_shuts 35 = .ok (.invokestatic 153, 3) := dk_184 0 153 (dk_at dksX3_shuts_1 11 rfl rfl)
theorem dX3_shuts_38 : decode cX3_shuts 38 = .ok (.ireturn, 1) := dk_172 (dk_at dksX3_shuts_1 14 rfl rfl)
abbrev cX3_sizeOf : ByteArray := prog_45_method_22_code
def yX3_sizeOf : MethodName := ⟨RX3, "sizeOf", "(I)I"⟩
def dkwX3_sizeOf_1 : List UInt8 := [27, 172]
abbrev dktX3_sizeOf_1 : List UInt8 := dkwX3_sizeOf_1 ++ []
def dkwX3_sizeOf_0 : List UInt8 := [3, 60, 3, 61, 28, 16, 6, 162, 0, 17, 27, 26, 28, 122, 4, 126, 96, 60, 132, 2, 1, 167, 255, 239]
abbrev dktX3_sizeOf_0 : List UInt8 := dkwX3_sizeOf_0 ++ dktX3_sizeOf_1
theorem dksX3_sizeOf_0 : cX3_sizeOf.data.toList.drop 0 = dktX3_sizeOf_0 := by decide +kernel
theorem dksX3_sizeOf_1 : cX3_sizeOf.data.toList.drop 24 = dktX3_sizeOf_1 := dk_seg dksX3_sizeOf_0 24 rfl rfl
theorem dX3_sizeOf_0 : decode cX3_sizeOf 0 = .ok (.iconst 0, 1) := dk_3 (dk_at dksX3_sizeOf_0 0 rfl rfl)
theorem dX3_sizeOf_1 : decode cX3_sizeOf 1 = .ok (.istore_n 1, 1) := dk_60 (dk_at dksX3_sizeOf_0 1 rfl rfl)
theorem dX3_sizeOf_2 : decode cX3_sizeOf 2 = .ok (.iconst 0, 1) := dk_3 (dk_at dksX3_sizeOf_0 2 rfl rfl)
theorem dX3_sizeOf_3 : decode cX3_sizeOf 3 = .ok (.istore_n 2, 1) := dk_61 (dk_at dksX3_sizeOf_0 3 rfl rfl)
theorem dX3_sizeOf_4 : decode cX3_sizeOf 4 = .ok (.iload_n 2, 1) := dk_28 (dk_at dksX3_sizeOf_0 4 rfl rfl)
theorem dX3_sizeOf_5 : decode cX3_sizeOf 5 = .ok (.bipush 6, 2) := dk_16 6 (dk_at dksX3_sizeOf_0 5 rfl rfl)
theorem dX3_sizeOf_7 : decode cX3_sizeOf 7 = .ok (.if_icmp .ge 17, 3) := dk_162 0 17 (dk_at dksX3_sizeOf_0 7 rfl rfl)
theorem dX3_sizeOf_10 : decode cX3_sizeOf 10 = .ok (.iload_n 1, 1) := dk_27 (dk_at dksX3_sizeOf_0 10 rfl rfl)
theorem dX3_sizeOf_11 : decode cX3_sizeOf 11 = .ok (.iload_n 0, 1) := dk_26 (dk_at dksX3_sizeOf_0 11 rfl rfl)
theorem dX3_sizeOf_12 : decode cX3_sizeOf 12 = .ok (.iload_n 2, 1) := dk_28 (dk_at dksX3_sizeOf_0 12 rfl rfl)
theorem dX3_sizeOf_13 : decode cX3_sizeOf 13 = .ok (.ishr, 1) := dk_122 (dk_at dksX3_sizeOf_0 13 rfl rfl)
theorem dX3_sizeOf_14 : decode cX3_sizeOf 14 = .ok (.iconst 1, 1) := dk_4 (dk_at dksX3_sizeOf_0 14 rfl rfl)
theorem dX3_sizeOf_15 : decode cX3_sizeOf 15 = .ok (.iand, 1) := dk_126 (dk_at dksX3_sizeOf_0 15 rfl rfl)
theorem dX3_sizeOf_16 : decode cX3_sizeOf 16 = .ok (.iadd, 1) := dk_96 (dk_at dksX3_sizeOf_0 16 rfl rfl)
theorem dX3_sizeOf_17 : decode cX3_sizeOf 17 = .ok (.istore_n 1, 1) := dk_60 (dk_at dksX3_sizeOf_0 17 rfl rfl)
theorem dX3_sizeOf_18 : decode cX3_sizeOf 18 = .ok (.iinc 2 1, 3) := dk_132 2 1 (dk_at dksX3_sizeOf_0 18 rfl rfl)
theorem dX3_sizeOf_21 : decode cX3_sizeOf 21 = .ok (.goto (-17), 3) := dk_167 255 239 (dk_at dksX3_sizeOf_0 21 rfl rfl)
theorem dX3_sizeOf_24 : decode cX3_sizeOf 24 = .ok (.iload_n 1, 1) := dk_27 (dk_at dksX3_sizeOf_1 0 rfl rfl)
theorem dX3_sizeOf_25 : decode cX3_sizeOf 25 = .ok (.ireturn, 1) := dk_172 (dk_at dksX3_sizeOf_1 1 rfl rfl)
abbrev cX3_pump : ByteArray := prog_45_method_47_code
def yX3_pump : MethodName := ⟨RX3, "pump", "(I)I"⟩
def dkwX3_pump_1 : List UInt8 := [182, 0, 168, 172]
abbrev dktX3_pump_1 : List UInt8 := dkwX3_pump_1 ++ []
def dkwX3_pump_0 : List UInt8 := [42, 27, 182, 0, 165, 61, 28, 153, 0, 9, 42, 28, 182, 0, 116, 172, 42, 182, 0, 119, 42, 27]
abbrev dktX3_pump_0 : List UInt8 := dkwX3_pump_0 ++ dktX3_pump_1
theorem dksX3_pump_0 : cX3_pump.data.toList.drop 0 = dktX3_pump_0 := by decide +kernel
theorem dksX3_pump_1 : cX3_pump.data.toList.drop 22 = dktX3_pump_1 := dk_seg dksX3_pump_0 22 rfl rfl
theorem dX3_pump_0 : decode cX3_pump 0 = .ok (.aload_n 0, 1) := dk_42 (dk_at dksX3_pump_0 0 rfl rfl)
theorem dX3_pump_1 : decode cX3_pump 1 = .ok (.iload_n 1, 1) := dk_27 (dk_at dksX3_pump_0 1 rfl rfl)
theorem dX3_pump_2 : decode cX3_pump 2 = .ok (.invokevirtual 165, 3) := dk_182 0 165 (dk_at dksX3_pump_0 2 rfl rfl)
theorem dX3_pump_5 : decode cX3_pump 5 = .ok (.istore_n 2, 1) := dk_61 (dk_at dksX3_pump_0 5 rfl rfl)
theorem dX3_pump_6 : decode cX3_pump 6 = .ok (.iload_n 2, 1) := dk_28 (dk_at dksX3_pump_0 6 rfl rfl)
theorem dX3_pump_7 : decode cX3_pump 7 = .ok (.ifCond .eq 9, 3) := dk_153 0 9 (dk_at dksX3_pump_0 7 rfl rfl)
theorem dX3_pump_10 : decode cX3_pump 10 = .ok (.aload_n 0, 1) := dk_42 (dk_at dksX3_pump_0 10 rfl rfl)
theorem dX3_pump_11 : decode cX3_pump 11 = .ok (.iload_n 2, 1) := dk_28 (dk_at dksX3_pump_0 11 rfl rfl)
theorem dX3_pump_12 : decode cX3_pump 12 = .ok (.invokevirtual 116, 3) := dk_182 0 116 (dk_at dksX3_pump_0 12 rfl rfl)
theorem dX3_pump_15 : decode cX3_pump 15 = .ok (.ireturn, 1) := dk_172 (dk_at dksX3_pump_0 15 rfl rfl)
theorem dX3_pump_16 : decode cX3_pump 16 = .ok (.aload_n 0, 1) := dk_42 (dk_at dksX3_pump_0 16 rfl rfl)
theorem dX3_pump_17 : decode cX3_pump 17 = .ok (.invokevirtual 119, 3) := dk_182 0 119 (dk_at dksX3_pump_0 17 rfl rfl)
theorem dX3_pump_20 : decode cX3_pump 20 = .ok (.aload_n 0, 1) := dk_42 (dk_at dksX3_pump_0 20 rfl rfl)
theorem dX3_pump_21 : decode cX3_pump 21 = .ok (.iload_n 1, 1) := dk_27 (dk_at dksX3_pump_0 21 rfl rfl)
theorem dX3_pump_22 : decode cX3_pump 22 = .ok (.invokevirtual 168, 3) := dk_182 0 168 (dk_at dksX3_pump_1 0 rfl rfl)
theorem dX3_pump_25 : decode cX3_pump 25 = .ok (.ireturn, 1) := dk_172 (dk_at dksX3_pump_1 3 rfl rfl)
abbrev cX3_notPump : ByteArray := prog_45_method_45_code
def yX3_notPump : MethodName := ⟨RX3, "notPump", "(I)I"⟩
def dkwX3_notPump_3 : List UInt8 := [172]
abbrev dktX3_notPump_3 : List UInt8 := dkwX3_notPump_3 ++ []
def dkwX3_notPump_2 : List UInt8 := [182, 0, 106, 172, 42, 180, 0, 16, 7, 46, 154, 0, 13, 42, 16, 8, 6, 182, 0, 106, 167, 0, 4, 3]
abbrev dktX3_notPump_2 : List UInt8 := dkwX3_notPump_2 ++ dktX3_notPump_3
def dkwX3_notPump_1 : List UInt8 := [182, 0, 68, 182, 0, 106, 172, 42, 27, 182, 0, 100, 153, 0, 16, 42, 16, 6, 42, 180, 0, 16, 7, 46]
abbrev dktX3_notPump_1 : List UInt8 := dkwX3_notPump_1 ++ dktX3_notPump_2
def dkwX3_notPump_0 : List UInt8 := [42, 27, 182, 0, 138, 154, 0, 5, 2, 172, 42, 27, 182, 0, 78, 154, 0, 15, 42, 7, 42, 27, 7]
abbrev dktX3_notPump_0 : List UInt8 := dkwX3_notPump_0 ++ dktX3_notPump_1
theorem dksX3_notPump_0 : cX3_notPump.data.toList.drop 0 = dktX3_notPump_0 := by decide +kernel
theorem dksX3_notPump_1 : cX3_notPump.data.toList.drop 23 = dktX3_notPump_1 := dk_seg dksX3_notPump_0 23 rfl rfl
theorem dksX3_notPump_2 : cX3_notPump.data.toList.drop 47 = dktX3_notPump_2 := dk_seg dksX3_notPump_1 24 rfl rfl
theorem dksX3_notPump_3 : cX3_notPump.data.toList.drop 71 = dktX3_notPump_3 := dk_seg dksX3_notPump_2 24 rfl rfl
theorem dX3_notPump_0 : decode cX3_notPump 0 = .ok (.aload_n 0, 1) := dk_42 (dk_at dksX3_notPump_0 0 rfl rfl)
theorem dX3_notPump_1 : decode cX3_notPump 1 = .ok (.iload_n 1, 1) := dk_27 (dk_at dksX3_notPump_0 1 rfl rfl)
theorem dX3_notPump_2 : decode cX3_notPump 2 = .ok (.invokevirtual 138, 3) := dk_182 0 138 (dk_at dksX3_notPump_0 2 rfl rfl)
theorem dX3_notPump_5 : decode cX3_notPump 5 = .ok (.ifCond .ne 5, 3) := dk_154 0 5 (dk_at dksX3_notPump_0 5 rfl rfl)
theorem dX3_notPump_8 : decode cX3_notPump 8 = .ok (.iconst (-1), 1) := dk_2 (dk_at dksX3_notPump_0 8 rfl rfl)
theorem dX3_notPump_9 : decode cX3_notPump 9 = .ok (.ireturn, 1) := dk_172 (dk_at dksX3_notPump_0 9 rfl rfl)
theorem dX3_notPump_10 : decode cX3_notPump 10 = .ok (.aload_n 0, 1) := dk_42 (dk_at dksX3_notPump_0 10 rfl rfl)
theorem dX3_notPump_11 : decode cX3_notPump 11 = .ok (.iload_n 1, 1) := dk_27 (dk_at dksX3_notPump_0 11 rfl rfl)
theorem dX3_notPump_12 : decode cX3_notPump 12 = .ok (.invokevirtual 78, 3) := dk_182 0 78 (dk_at dksX3_notPump_0 12 rfl rfl)
theorem dX3_notPump_15 : decode cX3_notPump 15 = .ok (.ifCond .ne 15, 3) := dk_154 0 15 (dk_at dksX3_notPump_0 15 rfl rfl)
theorem dX3_notPump_18 : decode cX3_notPump 18 = .ok (.aload_n 0, 1) := dk_42 (dk_at dksX3_notPump_0 18 rfl rfl)
theorem dX3_notPump_19 : decode cX3_notPump 19 = .ok (.iconst 4, 1) := dk_7 (dk_at dksX3_notPump_0 19 rfl rfl)
theorem dX3_notPump_20 : decode cX3_notPump 20 = .ok (.aload_n 0, 1) := dk_42 (dk_at dksX3_notPump_0 20 rfl rfl)
theorem dX3_notPump_21 : decode cX3_notPump 21 = .ok (.iload_n 1, 1) := dk_27 (dk_at dksX3_notPump_0 21 rfl rfl)
theorem dX3_notPump_22 : decode cX3_notPump 22 = .ok (.iconst 4, 1) := dk_7 (dk_at dksX3_notPump_0 22 rfl rfl)
theorem dX3_notPump_23 : decode cX3_notPump 23 = .ok (.invokevirtual 68, 3) := dk_182 0 68 (dk_at dksX3_notPump_1 0 rfl rfl)
theorem dX3_notPump_26 : decode cX3_notPump 26 = .ok (.invokevirtual 106, 3) := dk_182 0 106 (dk_at dksX3_notPump_1 3 rfl rfl)
theorem dX3_notPump_29 : decode cX3_notPump 29 = .ok (.ireturn, 1) := dk_172 (dk_at dksX3_notPump_1 6 rfl rfl)
theorem dX3_notPump_30 : decode cX3_notPump 30 = .ok (.aload_n 0, 1) := dk_42 (dk_at dksX3_notPump_1 7 rfl rfl)
theorem dX3_notPump_31 : decode cX3_notPump 31 = .ok (.iload_n 1, 1) := dk_27 (dk_at dksX3_notPump_1 8 rfl rfl)
theorem dX3_notPump_32 : decode cX3_notPump 32 = .ok (.invokevirtual 100, 3) := dk_182 0 100 (dk_at dksX3_notPump_1 9 rfl rfl)
theorem dX3_notPump_35 : decode cX3_notPump 35 = .ok (.ifCond .eq 16, 3) := dk_153 0 16 (dk_at dksX3_notPump_1 12 rfl rfl)
theorem dX3_notPump_38 : decode cX3_notPump 38 = .ok (.aload_n 0, 1) := dk_42 (dk_at dksX3_notPump_1 15 rfl rfl)
theorem dX3_notPump_39 : decode cX3_notPump 39 = .ok (.bipush 6, 2) := dk_16 6 (dk_at dksX3_notPump_1 16 rfl rfl)
theorem dX3_notPump_41 : decode cX3_notPump 41 = .ok (.aload_n 0, 1) := dk_42 (dk_at dksX3_notPump_1 18 rfl rfl)
theorem dX3_notPump_42 : decode cX3_notPump 42 = .ok (.getfield 16, 3) := dk_180 0 16 (dk_at dksX3_notPump_1 19 rfl rfl)
theorem dX3_notPump_45 : decode cX3_notPump 45 = .ok (.iconst 4, 1) := dk_7 (dk_at dksX3_notPump_1 22 rfl rfl)
theorem dX3_notPump_46 : decode cX3_notPump 46 = .ok (.iaload, 1) := dk_46 (dk_at dksX3_notPump_1 23 rfl rfl)
theorem dX3_notPump_47 : decode cX3_notPump 47 = .ok (.invokevirtual 106, 3) := dk_182 0 106 (dk_at dksX3_notPump_2 0 rfl rfl)
theorem dX3_notPump_50 : decode cX3_notPump 50 = .ok (.ireturn, 1) := dk_172 (dk_at dksX3_notPump_2 3 rfl rfl)
theorem dX3_notPump_51 : decode cX3_notPump 51 = .ok (.aload_n 0, 1) := dk_42 (dk_at dksX3_notPump_2 4 rfl rfl)
theorem dX3_notPump_52 : decode cX3_notPump 52 = .ok (.getfield 16, 3) := dk_180 0 16 (dk_at dksX3_notPump_2 5 rfl rfl)
theorem dX3_notPump_55 : decode cX3_notPump 55 = .ok (.iconst 4, 1) := dk_7 (dk_at dksX3_notPump_2 8 rfl rfl)
theorem dX3_notPump_56 : decode cX3_notPump 56 = .ok (.iaload, 1) := dk_46 (dk_at dksX3_notPump_2 9 rfl rfl)
theorem dX3_notPump_57 : decode cX3_notPump 57 = .ok (.ifCond .ne 13, 3) := dk_154 0 13 (dk_at dksX3_notPump_2 10 rfl rfl)
theorem dX3_notPump_60 : decode cX3_notPump 60 = .ok (.aload_n 0, 1) := dk_42 (dk_at dksX3_notPump_2 13 rfl rfl)
theorem dX3_notPump_61 : decode cX3_notPump 61 = .ok (.bipush 8, 2) := dk_16 8 (dk_at dksX3_notPump_2 14 rfl rfl)
theorem dX3_notPump_63 : decode cX3_notPump 63 = .ok (.iconst 3, 1) := dk_6 (dk_at dksX3_notPump_2 16 rfl rfl)
theorem dX3_notPump_64 : decode cX3_notPump 64 = .ok (.invokevirtual 106, 3) := dk_182 0 106 (dk_at dksX3_notPump_2 17 rfl rfl)
theorem dX3_notPump_67 : decode cX3_notPump 67 = .ok (.goto 4, 3) := dk_167 0 4 (dk_at dksX3_notPump_2 20 rfl rfl)
theorem dX3_notPump_70 : decode cX3_notPump 70 = .ok (.iconst 0, 1) := dk_3 (dk_at dksX3_notPump_2 23 rfl rfl)
theorem dX3_notPump_71 : decode cX3_notPump 71 = .ok (.ireturn, 1) := dk_172 (dk_at dksX3_notPump_3 0 rfl rfl)
abbrev cX3_hasPump : ByteArray := prog_45_method_18_code
def yX3_hasPump : MethodName := ⟨RX3, "hasPump", "(I)Z"⟩
def dkwX3_hasPump_0 : List UInt8 := [42, 27, 16, 6, 182, 0, 68, 4, 160, 0, 7, 4, 167, 0, 4, 3, 172]
abbrev dktX3_hasPump_0 : List UInt8 := dkwX3_hasPump_0 ++ []
theorem dksX3_hasPump_0 : cX3_hasPump.data.toList.drop 0 = dktX3_hasPump_0 := by decide +kernel
theorem dX3_hasPump_0 : decode cX3_hasPump 0 = .ok (.aload_n 0, 1) := dk_42 (dk_at dksX3_hasPump_0 0 rfl rfl)
theorem dX3_hasPump_1 : decode cX3_hasPump 1 = .ok (.iload_n 1, 1) := dk_27 (dk_at dksX3_hasPump_0 1 rfl rfl)
theorem dX3_hasPump_2 : decode cX3_hasPump 2 = .ok (.bipush 6, 2) := dk_16 6 (dk_at dksX3_hasPump_0 2 rfl rfl)
theorem dX3_hasPump_4 : decode cX3_hasPump 4 = .ok (.invokevirtual 68, 3) := dk_182 0 68 (dk_at dksX3_hasPump_0 4 rfl rfl)
theorem dX3_hasPump_7 : decode cX3_hasPump 7 = .ok (.iconst 1, 1) := dk_4 (dk_at dksX3_hasPump_0 7 rfl rfl)
theorem dX3_hasPump_8 : decode cX3_hasPump 8 = .ok (.if_icmp .ne 7, 3) := dk_160 0 7 (dk_at dksX3_hasPump_0 8 rfl rfl)
theorem dX3_hasPump_11 : decode cX3_hasPump 11 = .ok (.iconst 1, 1) := dk_4 (dk_at dksX3_hasPump_0 11 rfl rfl)
theorem dX3_hasPump_12 : decode cX3_hasPump 12 = .ok (.goto 4, 3) := dk_167 0 4 (dk_at dksX3_hasPump_0 12 rfl rfl)
theorem dX3_hasPump_15 : decode cX3_hasPump 15 = .ok (.iconst 0, 1) := dk_3 (dk_at dksX3_hasPump_0 15 rfl rfl)
theorem dX3_hasPump_16 : decode cX3_hasPump 16 = .ok (.ireturn, 1) := dk_172 (dk_at dksX3_hasPump_0 16 rfl rfl)
abbrev cX3_pumps : ByteArray := prog_45_method_46_code
def yX3_pumps : MethodName := ⟨RX3, "pumps", "(I)I"⟩
def dkwX3_pumps_0 : List UInt8 := [42, 180, 0, 16, 7, 92, 46, 4, 100, 79, 42, 27, 16, 6, 4, 182, 0, 128, 42, 27, 182, 0, 162, 172]
abbrev dktX3_pumps_0 : List UInt8 := dkwX3_pumps_0 ++ []
theorem dksX3_pumps_0 : cX3_pumps.data.toList.drop 0 = dktX3_pumps_0 := by decide +kernel
theorem dX3_pumps_0 : decode cX3_pumps 0 = .ok (.aload_n 0, 1) := dk_42 (dk_at dksX3_pumps_0 0 rfl rfl)
theorem dX3_pumps_1 : decode cX3_pumps 1 = .ok (.getfield 16, 3) := dk_180 0 16 (dk_at dksX3_pumps_0 1 rfl rfl)
theorem dX3_pumps_4 : decode cX3_pumps 4 = .ok (.iconst 4, 1) := dk_7 (dk_at dksX3_pumps_0 4 rfl rfl)
theorem dX3_pumps_5 : decode cX3_pumps 5 = .ok (.dup2, 1) := dk_92 (dk_at dksX3_pumps_0 5 rfl rfl)
theorem dX3_pumps_6 : decode cX3_pumps 6 = .ok (.iaload, 1) := dk_46 (dk_at dksX3_pumps_0 6 rfl rfl)
theorem dX3_pumps_7 : decode cX3_pumps 7 = .ok (.iconst 1, 1) := dk_4 (dk_at dksX3_pumps_0 7 rfl rfl)
theorem dX3_pumps_8 : decode cX3_pumps 8 = .ok (.isub, 1) := dk_100 (dk_at dksX3_pumps_0 8 rfl rfl)
theorem dX3_pumps_9 : decode cX3_pumps 9 = .ok (.iastore, 1) := dk_79 (dk_at dksX3_pumps_0 9 rfl rfl)
theorem dX3_pumps_10 : decode cX3_pumps 10 = .ok (.aload_n 0, 1) := dk_42 (dk_at dksX3_pumps_0 10 rfl rfl)
theorem dX3_pumps_11 : decode cX3_pumps 11 = .ok (.iload_n 1, 1) := dk_27 (dk_at dksX3_pumps_0 11 rfl rfl)
theorem dX3_pumps_12 : decode cX3_pumps 12 = .ok (.bipush 6, 2) := dk_16 6 (dk_at dksX3_pumps_0 12 rfl rfl)
theorem dX3_pumps_14 : decode cX3_pumps 14 = .ok (.iconst 1, 1) := dk_4 (dk_at dksX3_pumps_0 14 rfl rfl)
theorem dX3_pumps_15 : decode cX3_pumps 15 = .ok (.invokevirtual 128, 3) := dk_182 0 128 (dk_at dksX3_pumps_0 15 rfl rfl)
theorem dX3_pumps_18 : decode cX3_pumps 18 = .ok (.aload_n 0, 1) := dk_42 (dk_at dksX3_pumps_0 18 rfl rfl)
theorem dX3_pumps_19 : decode cX3_pumps 19 = .ok (.iload_n 1, 1) := dk_27 (dk_at dksX3_pumps_0 19 rfl rfl)
theorem dX3_pumps_20 : decode cX3_pumps 20 = .ok (.invokevirtual 162, 3) := dk_182 0 162 (dk_at dksX3_pumps_0 20 rfl rfl)
theorem dX3_pumps_23 : decode cX3_pumps 23 = .ok (.ireturn, 1) := dk_172 (dk_at dksX3_pumps_0 23 rfl rfl)
abbrev cX3_gives : ByteArray := prog_45_method_27_code
def yX3_gives : MethodName := ⟨RX3, "gives", "(I)I"⟩
def dkwX3_gives_1 : List UInt8 := [6, 182, 0, 68, 7, 108, 100, 61, 28, 156, 0, 7, 3, 167, 0, 4, 28, 172]
abbrev dktX3_gives_1 : List UInt8 := dkwX3_gives_1 ++ []
def dkwX3_gives_0 : List UInt8 := [42, 27, 182, 0, 100, 153, 0, 15, 16, 40, 42, 27, 6, 182, 0, 68, 100, 167, 0, 14, 16, 10, 42, 27]
abbrev dktX3_gives_0 : List UInt8 := dkwX3_gives_0 ++ dktX3_gives_1
theorem dksX3_gives_0 : cX3_gives.data.toList.drop 0 = dktX3_gives_0 := by decide +kernel
theorem dksX3_gives_1 : cX3_gives.data.toList.drop 24 = dktX3_gives_1 := dk_seg dksX3_gives_0 24 rfl rfl
theorem dX3_gives_0 : decode cX3_gives 0 = .ok (.aload_n 0, 1) := dk_42 (dk_at dksX3_gives_0 0 rfl rfl)
theorem dX3_gives_1 : decode cX3_gives 1 = .ok (.iload_n 1, 1) := dk_27 (dk_at dksX3_gives_0 1 rfl rfl)
theorem dX3_gives_2 : decode cX3_gives 2 = .ok (.invokevirtual 100, 3) := dk_182 0 100 (dk_at dksX3_gives_0 2 rfl rfl)
theorem dX3_gives_5 : decode cX3_gives 5 = .ok (.ifCond .eq 15, 3) := dk_153 0 15 (dk_at dksX3_gives_0 5 rfl rfl)
theorem dX3_gives_8 : decode cX3_gives 8 = .ok (.bipush 40, 2) := dk_16 40 (dk_at dksX3_gives_0 8 rfl rfl)
theorem dX3_gives_10 : decode cX3_gives 10 = .ok (.aload_n 0, 1) := dk_42 (dk_at dksX3_gives_0 10 rfl rfl)
theorem dX3_gives_11 : decode cX3_gives 11 = .ok (.iload_n 1, 1) := dk_27 (dk_at dksX3_gives_0 11 rfl rfl)
theorem dX3_gives_12 : decode cX3_gives 12 = .ok (.iconst 3, 1) := dk_6 (dk_at dksX3_gives_0 12 rfl rfl)
theorem dX3_gives_13 : decode cX3_gives 13 = .ok (.invokevirtual 68, 3) := dk_182 0 68 (dk_at dksX3_gives_0 13 rfl rfl)
theorem dX3_gives_16 : decode cX3_gives 16 = .ok (.isub, 1) := dk_100 (dk_at dksX3_gives_0 16 rfl rfl)
theorem dX3_gives_17 : decode cX3_gives 17 = .ok (.goto 14, 3) := dk_167 0 14 (dk_at dksX3_gives_0 17 rfl rfl)
theorem dX3_gives_20 : decode cX3_gives 20 = .ok (.bipush 10, 2) := dk_16 10 (dk_at dksX3_gives_0 20 rfl rfl)
theorem dX3_gives_22 : decode cX3_gives 22 = .ok (.aload_n 0, 1) := dk_42 (dk_at dksX3_gives_0 22 rfl rfl)
theorem dX3_gives_23 : decode cX3_gives 23 = .ok (.iload_n 1, 1) := dk_27 (dk_at dksX3_gives_0 23 rfl rfl)
theorem dX3_gives_24 : decode cX3_gives 24 = .ok (.iconst 3, 1) := dk_6 (dk_at dksX3_gives_1 0 rfl rfl)
theorem dX3_gives_25 : decode cX3_gives 25 = .ok (.invokevirtual 68, 3) := dk_182 0 68 (dk_at dksX3_gives_1 1 rfl rfl)
theorem dX3_gives_28 : decode cX3_gives 28 = .ok (.iconst 4, 1) := dk_7 (dk_at dksX3_gives_1 4 rfl rfl)
theorem dX3_gives_29 : decode cX3_gives 29 = .ok (.idiv, 1) := dk_108 (dk_at dksX3_gives_1 5 rfl rfl)
theorem dX3_gives_30 : decode cX3_gives 30 = .ok (.isub, 1) := dk_100 (dk_at dksX3_gives_1 6 rfl rfl)
theorem dX3_gives_31 : decode cX3_gives 31 = .ok (.istore_n 2, 1) := dk_61 (dk_at dksX3_gives_1 7 rfl rfl)
theorem dX3_gives_32 : decode cX3_gives 32 = .ok (.iload_n 2, 1) := dk_28 (dk_at dksX3_gives_1 8 rfl rfl)
theorem dX3_gives_33 : decode cX3_gives 33 = .ok (.ifCond .ge 7, 3) := dk_156 0 7 (dk_at dksX3_gives_1 9 rfl rfl)
theorem dX3_gives_36 : decode cX3_gives 36 = .ok (.iconst 0, 1) := dk_3 (dk_at dksX3_gives_1 12 rfl rfl)
theorem dX3_gives_37 : decode cX3_gives 37 = .ok (.goto 4, 3) := dk_167 0 4 (dk_at dksX3_gives_1 13 rfl rfl)
theorem dX3_gives_40 : decode cX3_gives 40 = .ok (.iload_n 2, 1) := dk_28 (dk_at dksX3_gives_1 16 rfl rfl)
theorem dX3_gives_41 : decode cX3_gives 41 = .ok (.ireturn, 1) := dk_172 (dk_at dksX3_gives_1 17 rfl rfl)
abbrev cX3_unpump : ByteArray := prog_45_method_49_code
def yX3_unpump : MethodName := ⟨RX3, "unpump", "(I)I"⟩
def dkwX3_unpump_1 : List UInt8 := [3, 182, 0, 128, 42, 180, 0, 16, 7, 92, 46, 4, 96, 79, 42, 180, 0, 16, 7, 46, 172]
abbrev dktX3_unpump_1 : List UInt8 := dkwX3_unpump_1 ++ []
def dkwX3_unpump_0 : List UInt8 := [42, 27, 182, 0, 171, 61, 28, 153, 0, 9, 42, 28, 182, 0, 116, 172, 42, 182, 0, 119, 42, 27, 16, 6]
abbrev dktX3_unpump_0 : List UInt8 := dkwX3_unpump_0 ++ dktX3_unpump_1
theorem dksX3_unpump_0 : cX3_unpump.data.toList.drop 0 = dktX3_unpump_0 := by decide +kernel
theorem dksX3_unpump_1 : cX3_unpump.data.toList.drop 24 = dktX3_unpump_1 := dk_seg dksX3_unpump_0 24 rfl rfl
theorem dX3_unpump_0 : decode cX3_unpump 0 = .ok (.aload_n 0, 1) := dk_42 (dk_at dksX3_unpump_0 0 rfl rfl)
theorem dX3_unpump_1 : decode cX3_unpump 1 = .ok (.iload_n 1, 1) := dk_27 (dk_at dksX3_unpump_0 1 rfl rfl)
theorem dX3_unpump_2 : decode cX3_unpump 2 = .ok (.invokevirtual 171, 3) := dk_182 0 171 (dk_at dksX3_unpump_0 2 rfl rfl)
theorem dX3_unpump_5 : decode cX3_unpump 5 = .ok (.istore_n 2, 1) := dk_61 (dk_at dksX3_unpump_0 5 rfl rfl)
theorem dX3_unpump_6 : decode cX3_unpump 6 = .ok (.iload_n 2, 1) := dk_28 (dk_at dksX3_unpump_0 6 rfl rfl)
theorem dX3_unpump_7 : decode cX3_unpump 7 = .ok (.ifCond .eq 9, 3) := dk_153 0 9 (dk_at dksX3_unpump_0 7 rfl rfl)
theorem dX3_unpump_10 : decode cX3_unpump 10 = .ok (.aload_n 0, 1) := dk_42 (dk_at dksX3_unpump_0 10 rfl rfl)
theorem dX3_unpump_11 : decode cX3_unpump 11 = .ok (.iload_n 2, 1) := dk_28 (dk_at dksX3_unpump_0 11 rfl rfl)
theorem dX3_unpump_12 : decode cX3_unpump 12 = .ok (.invokevirtual 116, 3) := dk_182 0 116 (dk_at dksX3_unpump_0 12 rfl rfl)
theorem dX3_unpump_15 : decode cX3_unpump 15 = .ok (.ireturn, 1) := dk_172 (dk_at dksX3_unpump_0 15 rfl rfl)
theorem dX3_unpump_16 : decode cX3_unpump 16 = .ok (.aload_n 0, 1) := dk_42 (dk_at dksX3_unpump_0 16 rfl rfl)
theorem dX3_unpump_17 : decode cX3_unpump 17 = .ok (.invokevirtual 119, 3) := dk_182 0 119 (dk_at dksX3_unpump_0 17 rfl rfl)
theorem dX3_unpump_20 : decode cX3_unpump 20 = .ok (.aload_n 0, 1) := dk_42 (dk_at dksX3_unpump_0 20 rfl rfl)
theorem dX3_unpump_21 : decode cX3_unpump 21 = .ok (.iload_n 1, 1) := dk_27 (dk_at dksX3_unpump_0 21 rfl rfl)
theorem dX3_unpump_22 : decode cX3_unpump 22 = .ok (.bipush 6, 2) := dk_16 6 (dk_at dksX3_unpump_0 22 rfl rfl)
theorem dX3_unpump_24 : decode cX3_unpump 24 = .ok (.iconst 0, 1) := dk_3 (dk_at dksX3_unpump_1 0 rfl rfl)
theorem dX3_unpump_25 : decode cX3_unpump 25 = .ok (.invokevirtual 128, 3) := dk_182 0 128 (dk_at dksX3_unpump_1 1 rfl rfl)
theorem dX3_unpump_28 : decode cX3_unpump 28 = .ok (.aload_n 0, 1) := dk_42 (dk_at dksX3_unpump_1 4 rfl rfl)
theorem dX3_unpump_29 : decode cX3_unpump 29 = .ok (.getfield 16, 3) := dk_180 0 16 (dk_at dksX3_unpump_1 5 rfl rfl)
theorem dX3_unpump_32 : decode cX3_unpump 32 = .ok (.iconst 4, 1) := dk_7 (dk_at dksX3_unpump_1 8 rfl rfl)
theorem dX3_unpump_33 : decode cX3_unpump 33 = .ok (.dup2, 1) := dk_92 (dk_at dksX3_unpump_1 9 rfl rfl)
theorem dX3_unpump_34 : decode cX3_unpump 34 = .ok (.iaload, 1) := dk_46 (dk_at dksX3_unpump_1 10 rfl rfl)
theorem dX3_unpump_35 : decode cX3_unpump 35 = .ok (.iconst 1, 1) := dk_4 (dk_at dksX3_unpump_1 11 rfl rfl)
theorem dX3_unpump_36 : decode cX3_unpump 36 = .ok (.iadd, 1) := dk_96 (dk_at dksX3_unpump_1 12 rfl rfl)
theorem dX3_unpump_37 : decode cX3_unpump 37 = .ok (.iastore, 1) := dk_79 (dk_at dksX3_unpump_1 13 rfl rfl)
theorem dX3_unpump_38 : decode cX3_unpump 38 = .ok (.aload_n 0, 1) := dk_42 (dk_at dksX3_unpump_1 14 rfl rfl)
theorem dX3_unpump_39 : decode cX3_unpump 39 = .ok (.getfield 16, 3) := dk_180 0 16 (dk_at dksX3_unpump_1 15 rfl rfl)
theorem dX3_unpump_42 : decode cX3_unpump 42 = .ok (.iconst 4, 1) := dk_7 (dk_at dksX3_unpump_1 18 rfl rfl)
theorem dX3_unpump_43 : decode cX3_unpump 43 = .ok (.iaload, 1) := dk_46 (dk_at dksX3_unpump_1 19 rfl rfl)
theorem dX3_unpump_44 : decode cX3_unpump 44 = .ok (.ireturn, 1) := dk_172 (dk_at dksX3_unpump_1 20 rfl rfl)
abbrev cX3_notUnpump : ByteArray := prog_45_method_48_code
def yX3_notUnpump : MethodName := ⟨RX3, "notUnpump", "(I)I"⟩
def dkwX3_notUnpump_2 : List UInt8 := [182, 0, 106, 172]
abbrev dktX3_notUnpump_2 : List UInt8 := dkwX3_notUnpump_2 ++ []
def dkwX3_notUnpump_1 : List UInt8 := [182, 0, 68, 182, 0, 106, 172, 42, 27, 182, 0, 100, 153, 0, 7, 3, 167, 0, 10, 42, 16, 7, 27]
abbrev dktX3_notUnpump_1 : List UInt8 := dkwX3_notUnpump_1 ++ dktX3_notUnpump_2
def dkwX3_notUnpump_0 : List UInt8 := [42, 27, 182, 0, 138, 154, 0, 5, 2, 172, 42, 27, 182, 0, 78, 154, 0, 15, 42, 7, 42, 27, 7]
abbrev dktX3_notUnpump_0 : List UInt8 := dkwX3_notUnpump_0 ++ dktX3_notUnpump_1
theorem dksX3_notUnpump_0 : cX3_notUnpump.data.toList.drop 0 = dktX3_notUnpump_0 := by decide +kernel
theorem dksX3_notUnpump_1 : cX3_notUnpump.data.toList.drop 23 = dktX3_notUnpump_1 := dk_seg dksX3_notUnpump_0 23 rfl rfl
theorem dksX3_notUnpump_2 : cX3_notUnpump.data.toList.drop 46 = dktX3_notUnpump_2 := dk_seg dksX3_notUnpump_1 23 rfl rfl
theorem dX3_notUnpump_0 : decode cX3_notUnpump 0 = .ok (.aload_n 0, 1) := dk_42 (dk_at dksX3_notUnpump_0 0 rfl rfl)
theorem dX3_notUnpump_1 : decode cX3_notUnpump 1 = .ok (.iload_n 1, 1) := dk_27 (dk_at dksX3_notUnpump_0 1 rfl rfl)
theorem dX3_notUnpump_2 : decode cX3_notUnpump 2 = .ok (.invokevirtual 138, 3) := dk_182 0 138 (dk_at dksX3_notUnpump_0 2 rfl rfl)
theorem dX3_notUnpump_5 : decode cX3_notUnpump 5 = .ok (.ifCond .ne 5, 3) := dk_154 0 5 (dk_at dksX3_notUnpump_0 5 rfl rfl)
theorem dX3_notUnpump_8 : decode cX3_notUnpump 8 = .ok (.iconst (-1), 1) := dk_2 (dk_at dksX3_notUnpump_0 8 rfl rfl)
theorem dX3_notUnpump_9 : decode cX3_notUnpump 9 = .ok (.ireturn, 1) := dk_172 (dk_at dksX3_notUnpump_0 9 rfl rfl)
theorem dX3_notUnpump_10 : decode cX3_notUnpump 10 = .ok (.aload_n 0, 1) := dk_42 (dk_at dksX3_notUnpump_0 10 rfl rfl)
theorem dX3_notUnpump_11 : decode cX3_notUnpump 11 = .ok (.iload_n 1, 1) := dk_27 (dk_at dksX3_notUnpump_0 11 rfl rfl)
theorem dX3_notUnpump_12 : decode cX3_notUnpump 12 = .ok (.invokevirtual 78, 3) := dk_182 0 78 (dk_at dksX3_notUnpump_0 12 rfl rfl)
theorem dX3_notUnpump_15 : decode cX3_notUnpump 15 = .ok (.ifCond .ne 15, 3) := dk_154 0 15 (dk_at dksX3_notUnpump_0 15 rfl rfl)
theorem dX3_notUnpump_18 : decode cX3_notUnpump 18 = .ok (.aload_n 0, 1) := dk_42 (dk_at dksX3_notUnpump_0 18 rfl rfl)
theorem dX3_notUnpump_19 : decode cX3_notUnpump 19 = .ok (.iconst 4, 1) := dk_7 (dk_at dksX3_notUnpump_0 19 rfl rfl)
theorem dX3_notUnpump_20 : decode cX3_notUnpump 20 = .ok (.aload_n 0, 1) := dk_42 (dk_at dksX3_notUnpump_0 20 rfl rfl)
theorem dX3_notUnpump_21 : decode cX3_notUnpump 21 = .ok (.iload_n 1, 1) := dk_27 (dk_at dksX3_notUnpump_0 21 rfl rfl)
theorem dX3_notUnpump_22 : decode cX3_notUnpump 22 = .ok (.iconst 4, 1) := dk_7 (dk_at dksX3_notUnpump_0 22 rfl rfl)
theorem dX3_notUnpump_23 : decode cX3_notUnpump 23 = .ok (.invokevirtual 68, 3) := dk_182 0 68 (dk_at dksX3_notUnpump_1 0 rfl rfl)
theorem dX3_notUnpump_26 : decode cX3_notUnpump 26 = .ok (.invokevirtual 106, 3) := dk_182 0 106 (dk_at dksX3_notUnpump_1 3 rfl rfl)
theorem dX3_notUnpump_29 : decode cX3_notUnpump 29 = .ok (.ireturn, 1) := dk_172 (dk_at dksX3_notUnpump_1 6 rfl rfl)
theorem dX3_notUnpump_30 : decode cX3_notUnpump 30 = .ok (.aload_n 0, 1) := dk_42 (dk_at dksX3_notUnpump_1 7 rfl rfl)
theorem dX3_notUnpump_31 : decode cX3_notUnpump 31 = .ok (.iload_n 1, 1) := dk_27 (dk_at dksX3_notUnpump_1 8 rfl rfl)
theorem dX3_notUnpump_32 : decode cX3_notUnpump 32 = .ok (.invokevirtual 100, 3) := dk_182 0 100 (dk_at dksX3_notUnpump_1 9 rfl rfl)
theorem dX3_notUnpump_35 : decode cX3_notUnpump 35 = .ok (.ifCond .eq 7, 3) := dk_153 0 7 (dk_at dksX3_notUnpump_1 12 rfl rfl)
theorem dX3_notUnpump_38 : decode cX3_notUnpump 38 = .ok (.iconst 0, 1) := dk_3 (dk_at dksX3_notUnpump_1 15 rfl rfl)
theorem dX3_notUnpump_39 : decode cX3_notUnpump 39 = .ok (.goto 10, 3) := dk_167 0 10 (dk_at dksX3_notUnpump_1 16 rfl rfl)
theorem dX3_notUnpump_42 : decode cX3_notUnpump 42 = .ok (.aload_n 0, 1) := dk_42 (dk_at dksX3_notUnpump_1 19 rfl rfl)
theorem dX3_notUnpump_43 : decode cX3_notUnpump 43 = .ok (.bipush 7, 2) := dk_16 7 (dk_at dksX3_notUnpump_1 20 rfl rfl)
theorem dX3_notUnpump_45 : decode cX3_notUnpump 45 = .ok (.iload_n 1, 1) := dk_27 (dk_at dksX3_notUnpump_1 22 rfl rfl)
theorem dX3_notUnpump_46 : decode cX3_notUnpump 46 = .ok (.invokevirtual 106, 3) := dk_182 0 106 (dk_at dksX3_notUnpump_2 0 rfl rfl)
theorem dX3_notUnpump_49 : decode cX3_notUnpump 49 = .ok (.ireturn, 1) := dk_172 (dk_at dksX3_notUnpump_2 3 rfl rfl)
abbrev cX3_move : ByteArray := prog_45_method_53_code
def yX3_move : MethodName := ⟨RX3, "move", "(II)I"⟩
def dkwX3_move_1 : List UInt8 := [182, 0, 180, 172]
abbrev dktX3_move_1 : List UInt8 := dkwX3_move_1 ++ []
def dkwX3_move_0 : List UInt8 := [42, 27, 28, 182, 0, 177, 62, 29, 153, 0, 9, 42, 29, 182, 0, 116, 172, 42, 182, 0, 119, 42, 27, 28]
abbrev dktX3_move_0 : List UInt8 := dkwX3_move_0 ++ dktX3_move_1
theorem dksX3_move_0 : cX3_move.data.toList.drop 0 = dktX3_move_0 := by decide +kernel
theorem dksX3_move_1 : cX3_move.data.toList.drop 24 = dktX3_move_1 := dk_seg dksX3_move_0 24 rfl rfl
theorem dX3_move_0 : decode cX3_move 0 = .ok (.aload_n 0, 1) := dk_42 (dk_at dksX3_move_0 0 rfl rfl)
theorem dX3_move_1 : decode cX3_move 1 = .ok (.iload_n 1, 1) := dk_27 (dk_at dksX3_move_0 1 rfl rfl)
theorem dX3_move_2 : decode cX3_move 2 = .ok (.iload_n 2, 1) := dk_28 (dk_at dksX3_move_0 2 rfl rfl)
theorem dX3_move_3 : decode cX3_move 3 = .ok (.invokevirtual 177, 3) := dk_182 0 177 (dk_at dksX3_move_0 3 rfl rfl)
theorem dX3_move_6 : decode cX3_move 6 = .ok (.istore_n 3, 1) := dk_62 (dk_at dksX3_move_0 6 rfl rfl)
theorem dX3_move_7 : decode cX3_move 7 = .ok (.iload_n 3, 1) := dk_29 (dk_at dksX3_move_0 7 rfl rfl)
theorem dX3_move_8 : decode cX3_move 8 = .ok (.ifCond .eq 9, 3) := dk_153 0 9 (dk_at dksX3_move_0 8 rfl rfl)
theorem dX3_move_11 : decode cX3_move 11 = .ok (.aload_n 0, 1) := dk_42 (dk_at dksX3_move_0 11 rfl rfl)
theorem dX3_move_12 : decode cX3_move 12 = .ok (.iload_n 3, 1) := dk_29 (dk_at dksX3_move_0 12 rfl rfl)
theorem dX3_move_13 : decode cX3_move 13 = .ok (.invokevirtual 116, 3) := dk_182 0 116 (dk_at dksX3_move_0 13 rfl rfl)
theorem dX3_move_16 : decode cX3_move 16 = .ok (.ireturn, 1) := dk_172 (dk_at dksX3_move_0 16 rfl rfl)
theorem dX3_move_17 : decode cX3_move 17 = .ok (.aload_n 0, 1) := dk_42 (dk_at dksX3_move_0 17 rfl rfl)
theorem dX3_move_18 : decode cX3_move 18 = .ok (.invokevirtual 119, 3) := dk_182 0 119 (dk_at dksX3_move_0 18 rfl rfl)
theorem dX3_move_21 : decode cX3_move 21 = .ok (.aload_n 0, 1) := dk_42 (dk_at dksX3_move_0 21 rfl rfl)
theorem dX3_move_22 : decode cX3_move 22 = .ok (.iload_n 1, 1) := dk_27 (dk_at dksX3_move_0 22 rfl rfl)
theorem dX3_move_23 : decode cX3_move 23 = .ok (.iload_n 2, 1) := dk_28 (dk_at dksX3_move_0 23 rfl rfl)
theorem dX3_move_24 : decode cX3_move 24 = .ok (.invokevirtual 180, 3) := dk_182 0 180 (dk_at dksX3_move_1 0 rfl rfl)
theorem dX3_move_27 : decode cX3_move 27 = .ok (.ireturn, 1) := dk_172 (dk_at dksX3_move_1 3 rfl rfl)
abbrev cX3_notMove : ByteArray := prog_45_method_51_code
def yX3_notMove : MethodName := ⟨RX3, "notMove", "(II)I"⟩
def dkwX3_notMove_6 : List UInt8 := [167, 0, 4, 3, 172]
abbrev dktX3_notMove_6 : List UInt8 := dkwX3_notMove_6 ++ []
def dkwX3_notMove_5 : List UInt8 := [182, 0, 174, 162, 0, 24, 42, 8, 42, 27, 28, 182, 0, 174, 42, 180, 0, 16, 4, 46, 100, 182, 0, 106]
abbrev dktX3_notMove_5 : List UInt8 := dkwX3_notMove_5 ++ dktX3_notMove_6
def dkwX3_notMove_4 : List UInt8 := [42, 16, 6, 42, 180, 0, 16, 7, 46, 182, 0, 106, 172, 42, 180, 0, 16, 4, 46, 42, 27, 28]
abbrev dktX3_notMove_4 : List UInt8 := dkwX3_notMove_4 ++ dktX3_notMove_5
def dkwX3_notMove_3 : List UInt8 := [42, 27, 182, 0, 100, 154, 0, 11, 42, 16, 7, 27, 182, 0, 106, 172, 42, 28, 182, 0, 100, 153, 0, 16]
abbrev dktX3_notMove_3 : List UInt8 := dkwX3_notMove_3 ++ dktX3_notMove_4
def dkwX3_notMove_2 : List UInt8 := [182, 0, 106, 172, 42, 28, 182, 0, 78, 154, 0, 15, 42, 7, 42, 28, 7, 182, 0, 68, 182, 0, 106, 172]
abbrev dktX3_notMove_2 : List UInt8 := dkwX3_notMove_2 ++ dktX3_notMove_3
def dkwX3_notMove_1 : List UInt8 := [16, 9, 27, 182, 0, 106, 172, 42, 27, 182, 0, 78, 154, 0, 15, 42, 7, 42, 27, 7, 182, 0, 68]
abbrev dktX3_notMove_1 : List UInt8 := dkwX3_notMove_1 ++ dktX3_notMove_2
def dkwX3_notMove_0 : List UInt8 := [42, 27, 182, 0, 138, 153, 0, 11, 42, 28, 182, 0, 138, 154, 0, 5, 2, 172, 27, 28, 160, 0, 11, 42]
abbrev dktX3_notMove_0 : List UInt8 := dkwX3_notMove_0 ++ dktX3_notMove_1
theorem dksX3_notMove_0 : cX3_notMove.data.toList.drop 0 = dktX3_notMove_0 := by decide +kernel
theorem dksX3_notMove_1 : cX3_notMove.data.toList.drop 24 = dktX3_notMove_1 := dk_seg dksX3_notMove_0 24 rfl rfl
theorem dksX3_notMove_2 : cX3_notMove.data.toList.drop 47 = dktX3_notMove_2 := dk_seg dksX3_notMove_1 23 rfl rfl
theorem dksX3_notMove_3 : cX3_notMove.data.toList.drop 71 = dktX3_notMove_3 := dk_seg dksX3_notMove_2 24 rfl rfl
theorem dksX3_notMove_4 : cX3_notMove.data.toList.drop 95 = dktX3_notMove_4 := dk_seg dksX3_notMove_3 24 rfl rfl
theorem dksX3_notMove_5 : cX3_notMove.data.toList.drop 117 = dktX3_notMove_5 := dk_seg dksX3_notMove_4 22 rfl rfl
theorem dksX3_notMove_6 : cX3_notMove.data.toList.drop 141 = dktX3_notMove_6 := dk_seg dksX3_notMove_5 24 rfl rfl
theorem dX3_notMove_0 : decode cX3_notMove 0 = .ok (.aload_n 0, 1) := dk_42 (dk_at dksX3_notMove_0 0 rfl rfl)
theorem dX3_notMove_1 : decode cX3_notMove 1 = .ok (.iload_n 1, 1) := dk_27 (dk_at dksX3_notMove_0 1 rfl rfl)
theorem dX3_notMove_2 : decode cX3_notMove 2 = .ok (.invokevirtual 138, 3) := dk_182 0 138 (dk_at dksX3_notMove_0 2 rfl rfl)
theorem dX3_notMove_5 : decode cX3_notMove 5 = .ok (.ifCond .eq 11, 3) := dk_153 0 11 (dk_at dksX3_notMove_0 5 rfl rfl)
theorem dX3_notMove_8 : decode cX3_notMove 8 = .ok (.aload_n 0, 1) := dk_42 (dk_at dksX3_notMove_0 8 rfl rfl)
theorem dX3_notMove_9 : decode cX3_notMove 9 = .ok (.iload_n 2, 1) := dk_28 (dk_at dksX3_notMove_0 9 rfl rfl)
theorem dX3_notMove_10 : decode cX3_notMove 10 = .ok (.invokevirtual 138, 3) := dk_182 0 138 (dk_at dksX3_notMove_0 10 rfl rfl)
theorem dX3_notMove_13 : decode cX3_notMove 13 = .ok (.ifCond .ne 5, 3) := dk_154 0 5 (dk_at dksX3_notMove_0 13 rfl rfl)
theorem dX3_notMove_16 : decode cX3_notMove 16 = .ok (.iconst (-1), 1) := dk_2 (dk_at dksX3_notMove_0 16 rfl rfl)
theorem dX3_notMove_17 : decode cX3_notMove 17 = .ok (.ireturn, 1) := dk_172 (dk_at dksX3_notMove_0 17 rfl rfl)
theorem dX3_notMove_18 : decode cX3_notMove 18 = .ok (.iload_n 1, 1) := dk_27 (dk_at dksX3_notMove_0 18 rfl rfl)
theorem dX3_notMove_19 : decode cX3_notMove 19 = .ok (.iload_n 2, 1) := dk_28 (dk_at dksX3_notMove_0 19 rfl rfl)
theorem dX3_notMove_20 : decode cX3_notMove 20 = .ok (.if_icmp .ne 11, 3) := dk_160 0 11 (dk_at dksX3_notMove_0 20 rfl rfl)
theorem dX3_notMove_23 : decode cX3_notMove 23 = .ok (.aload_n 0, 1) := dk_42 (dk_at dksX3_notMove_0 23 rfl rfl)
theorem dX3_notMove_24 : decode cX3_notMove 24 = .ok (.bipush 9, 2) := dk_16 9 (dk_at dksX3_notMove_1 0 rfl rfl)
theorem dX3_notMove_26 : decode cX3_notMove 26 = .ok (.iload_n 1, 1) := dk_27 (dk_at dksX3_notMove_1 2 rfl rfl)
theorem dX3_notMove_27 : decode cX3_notMove 27 = .ok (.invokevirtual 106, 3) := dk_182 0 106 (dk_at dksX3_notMove_1 3 rfl rfl)
theorem dX3_notMove_30 : decode cX3_notMove 30 = .ok (.ireturn, 1) := dk_172 (dk_at dksX3_notMove_1 6 rfl rfl)
theorem dX3_notMove_31 : decode cX3_notMove 31 = .ok (.aload_n 0, 1) := dk_42 (dk_at dksX3_notMove_1 7 rfl rfl)
theorem dX3_notMove_32 : decode cX3_notMove 32 = .ok (.iload_n 1, 1) := dk_27 (dk_at dksX3_notMove_1 8 rfl rfl)
theorem dX3_notMove_33 : decode cX3_notMove 33 = .ok (.invokevirtual 78, 3) := dk_182 0 78 (dk_at dksX3_notMove_1 9 rfl rfl)
theorem dX3_notMove_36 : decode cX3_notMove 36 = .ok (.ifCond .ne 15, 3) := dk_154 0 15 (dk_at dksX3_notMove_1 12 rfl rfl)
theorem dX3_notMove_39 : decode cX3_notMove 39 = .ok (.aload_n 0, 1) := dk_42 (dk_at dksX3_notMove_1 15 rfl rfl)
theorem dX3_notMove_40 : decode cX3_notMove 40 = .ok (.iconst 4, 1) := dk_7 (dk_at dksX3_notMove_1 16 rfl rfl)
theorem dX3_notMove_41 : decode cX3_notMove 41 = .ok (.aload_n 0, 1) := dk_42 (dk_at dksX3_notMove_1 17 rfl rfl)
theorem dX3_notMove_42 : decode cX3_notMove 42 = .ok (.iload_n 1, 1) := dk_27 (dk_at dksX3_notMove_1 18 rfl rfl)
theorem dX3_notMove_43 : decode cX3_notMove 43 = .ok (.iconst 4, 1) := dk_7 (dk_at dksX3_notMove_1 19 rfl rfl)
theorem dX3_notMove_44 : decode cX3_notMove 44 = .ok (.invokevirtual 68, 3) := dk_182 0 68 (dk_at dksX3_notMove_1 20 rfl rfl)
theorem dX3_notMove_47 : decode cX3_notMove 47 = .ok (.invokevirtual 106, 3) := dk_182 0 106 (dk_at dksX3_notMove_2 0 rfl rfl)
theorem dX3_notMove_50 : decode cX3_notMove 50 = .ok (.ireturn, 1) := dk_172 (dk_at dksX3_notMove_2 3 rfl rfl)
theorem dX3_notMove_51 : decode cX3_notMove 51 = .ok (.aload_n 0, 1) := dk_42 (dk_at dksX3_notMove_2 4 rfl rfl)
theorem dX3_notMove_52 : decode cX3_notMove 52 = .ok (.iload_n 2, 1) := dk_28 (dk_at dksX3_notMove_2 5 rfl rfl)
theorem dX3_notMove_53 : decode cX3_notMove 53 = .ok (.invokevirtual 78, 3) := dk_182 0 78 (dk_at dksX3_notMove_2 6 rfl rfl)
theorem dX3_notMove_56 : decode cX3_notMove 56 = .ok (.ifCond .ne 15, 3) := dk_154 0 15 (dk_at dksX3_notMove_2 9 rfl rfl)
theorem dX3_notMove_59 : decode cX3_notMove 59 = .ok (.aload_n 0, 1) := dk_42 (dk_at dksX3_notMove_2 12 rfl rfl)
theorem dX3_notMove_60 : decode cX3_notMove 60 = .ok (.iconst 4, 1) := dk_7 (dk_at dksX3_notMove_2 13 rfl rfl)
theorem dX3_notMove_61 : decode cX3_notMove 61 = .ok (.aload_n 0, 1) := dk_42 (dk_at dksX3_notMove_2 14 rfl rfl)
theorem dX3_notMove_62 : decode cX3_notMove 62 = .ok (.iload_n 2, 1) := dk_28 (dk_at dksX3_notMove_2 15 rfl rfl)
theorem dX3_notMove_63 : decode cX3_notMove 63 = .ok (.iconst 4, 1) := dk_7 (dk_at dksX3_notMove_2 16 rfl rfl)
theorem dX3_notMove_64 : decode cX3_notMove 64 = .ok (.invokevirtual 68, 3) := dk_182 0 68 (dk_at dksX3_notMove_2 17 rfl rfl)
theorem dX3_notMove_67 : decode cX3_notMove 67 = .ok (.invokevirtual 106, 3) := dk_182 0 106 (dk_at dksX3_notMove_2 20 rfl rfl)
theorem dX3_notMove_70 : decode cX3_notMove 70 = .ok (.ireturn, 1) := dk_172 (dk_at dksX3_notMove_2 23 rfl rfl)
theorem dX3_notMove_71 : decode cX3_notMove 71 = .ok (.aload_n 0, 1) := dk_42 (dk_at dksX3_notMove_3 0 rfl rfl)
theorem dX3_notMove_72 : decode cX3_notMove 72 = .ok (.iload_n 1, 1) := dk_27 (dk_at dksX3_notMove_3 1 rfl rfl)
theorem dX3_notMove_73 : decode cX3_notMove 73 = .ok (.invokevirtual 100, 3) := dk_182 0 100 (dk_at dksX3_notMove_3 2 rfl rfl)
theorem dX3_notMove_76 : decode cX3_notMove 76 = .ok (.ifCond .ne 11, 3) := dk_154 0 11 (dk_at dksX3_notMove_3 5 rfl rfl)
theorem dX3_notMove_79 : decode cX3_notMove 79 = .ok (.aload_n 0, 1) := dk_42 (dk_at dksX3_notMove_3 8 rfl rfl)
theorem dX3_notMove_80 : decode cX3_notMove 80 = .ok (.bipush 7, 2) := dk_16 7 (dk_at dksX3_notMove_3 9 rfl rfl)
theorem dX3_notMove_82 : decode cX3_notMove 82 = .ok (.iload_n 1, 1) := dk_27 (dk_at dksX3_notMove_3 11 rfl rfl)
theorem dX3_notMove_83 : decode cX3_notMove 83 = .ok (.invokevirtual 106, 3) := dk_182 0 106 (dk_at dksX3_notMove_3 12 rfl rfl)
theorem dX3_notMove_86 : decode cX3_notMove 86 = .ok (.ireturn, 1) := dk_172 (dk_at dksX3_notMove_3 15 rfl rfl)
theorem dX3_notMove_87 : decode cX3_notMove 87 = .ok (.aload_n 0, 1) := dk_42 (dk_at dksX3_notMove_3 16 rfl rfl)
theorem dX3_notMove_88 : decode cX3_notMove 88 = .ok (.iload_n 2, 1) := dk_28 (dk_at dksX3_notMove_3 17 rfl rfl)
theorem dX3_notMove_89 : decode cX3_notMove 89 = .ok (.invokevirtual 100, 3) := dk_182 0 100 (dk_at dksX3_notMove_3 18 rfl rfl)
theorem dX3_notMove_92 : decode cX3_notMove 92 = .ok (.ifCond .eq 16, 3) := dk_153 0 16 (dk_at dksX3_notMove_3 21 rfl rfl)
theorem dX3_notMove_95 : decode cX3_notMove 95 = .ok (.aload_n 0, 1) := dk_42 (dk_at dksX3_notMove_4 0 rfl rfl)
theorem dX3_notMove_96 : decode cX3_notMove 96 = .ok (.bipush 6, 2) := dk_16 6 (dk_at dksX3_notMove_4 1 rfl rfl)
theorem dX3_notMove_98 : decode cX3_notMove 98 = .ok (.aload_n 0, 1) := dk_42 (dk_at dksX3_notMove_4 3 rfl rfl)
theorem dX3_notMove_99 : decode cX3_notMove 99 = .ok (.getfield 16, 3) := dk_180 0 16 (dk_at dksX3_notMove_4 4 rfl rfl)
theorem dX3_notMove_102 : decode cX3_notMove 102 = .ok (.iconst 4, 1) := dk_7 (dk_at dksX3_notMove_4 7 rfl rfl)
theorem dX3_notMove_103 : decode cX3_notMove 103 = .ok (.iaload, 1) := dk_46 (dk_at dksX3_notMove_4 8 rfl rfl)
theorem dX3_notMove_104 : decode cX3_notMove 104 = .ok (.invokevirtual 106, 3) := dk_182 0 106 (dk_at dksX3_notMove_4 9 rfl rfl)
theorem dX3_notMove_107 : decode cX3_notMove 107 = .ok (.ireturn, 1) := dk_172 (dk_at dksX3_notMove_4 12 rfl rfl)
theorem dX3_notMove_108 : decode cX3_notMove 108 = .ok (.aload_n 0, 1) := dk_42 (dk_at dksX3_notMove_4 13 rfl rfl)
theorem dX3_notMove_109 : decode cX3_notMove 109 = .ok (.getfield 16, 3) := dk_180 0 16 (dk_at dksX3_notMove_4 14 rfl rfl)
theorem dX3_notMove_112 : decode cX3_notMove 112 = .ok (.iconst 1, 1) := dk_4 (dk_at dksX3_notMove_4 17 rfl rfl)
theorem dX3_notMove_113 : decode cX3_notMove 113 = .ok (.iaload, 1) := dk_46 (dk_at dksX3_notMove_4 18 rfl rfl)
theorem dX3_notMove_114 : decode cX3_notMove 114 = .ok (.aload_n 0, 1) := dk_42 (dk_at dksX3_notMove_4 19 rfl rfl)
theorem dX3_notMove_115 : decode cX3_notMove 115 = .ok (.iload_n 1, 1) := dk_27 (dk_at dksX3_notMove_4 20 rfl rfl)
theorem dX3_notMove_116 : decode cX3_notMove 116 = .ok (.iload_n 2, 1) := dk_28 (dk_at dksX3_notMove_4 21 rfl rfl)
theorem dX3_notMove_117 : decode cX3_notMove 117 = .ok (.invokevirtual 174, 3) := dk_182 0 174 (dk_at dksX3_notMove_5 0 rfl rfl)
theorem dX3_notMove_120 : decode cX3_notMove 120 = .ok (.if_icmp .ge 24, 3) := dk_162 0 24 (dk_at dksX3_notMove_5 3 rfl rfl)
theorem dX3_notMove_123 : decode cX3_notMove 123 = .ok (.aload_n 0, 1) := dk_42 (dk_at dksX3_notMove_5 6 rfl rfl)
theorem dX3_notMove_124 : decode cX3_notMove 124 = .ok (.iconst 5, 1) := dk_8 (dk_at dksX3_notMove_5 7 rfl rfl)
theorem dX3_notMove_125 : decode cX3_notMove 125 = .ok (.aload_n 0, 1) := dk_42 (dk_at dksX3_notMove_5 8 rfl rfl)
theorem dX3_notMove_126 : decode cX3_notMove 126 = .ok (.iload_n 1, 1) := dk_27 (dk_at dksX3_notMove_5 9 rfl rfl)
theorem dX3_notMove_127 : decode cX3_notMove 127 = .ok (.iload_n 2, 1) := dk_28 (dk_at dksX3_notMove_5 10 rfl rfl)
theorem dX3_notMove_128 : decode cX3_notMove 128 = .ok (.invokevirtual 174, 3) := dk_182 0 174 (dk_at dksX3_notMove_5 11 rfl rfl)
theorem dX3_notMove_131 : decode cX3_notMove 131 = .ok (.aload_n 0, 1) := dk_42 (dk_at dksX3_notMove_5 14 rfl rfl)
theorem dX3_notMove_132 : decode cX3_notMove 132 = .ok (.getfield 16, 3) := dk_180 0 16 (dk_at dksX3_notMove_5 15 rfl rfl)
theorem dX3_notMove_135 : decode cX3_notMove 135 = .ok (.iconst 1, 1) := dk_4 (dk_at dksX3_notMove_5 18 rfl rfl)
theorem dX3_notMove_136 : decode cX3_notMove 136 = .ok (.iaload, 1) := dk_46 (dk_at dksX3_notMove_5 19 rfl rfl)
theorem dX3_notMove_137 : decode cX3_notMove 137 = .ok (.isub, 1) := dk_100 (dk_at dksX3_notMove_5 20 rfl rfl)
theorem dX3_notMove_138 : decode cX3_notMove 138 = .ok (.invokevirtual 106, 3) := dk_182 0 106 (dk_at dksX3_notMove_5 21 rfl rfl)
theorem dX3_notMove_141 : decode cX3_notMove 141 = .ok (.goto 4, 3) := dk_167 0 4 (dk_at dksX3_notMove_6 0 rfl rfl)
theorem dX3_notMove_144 : decode cX3_notMove 144 = .ok (.iconst 0, 1) := dk_3 (dk_at dksX3_notMove_6 3 rfl rfl)
theorem dX3_notMove_145 : decode cX3_notMove 145 = .ok (.ireturn, 1) := dk_172 (dk_at dksX3_notMove_6 4 rfl rfl)
abbrev cX3_toll : ByteArray := prog_45_method_50_code
def yX3_toll : MethodName := ⟨RX3, "toll", "(II)I"⟩
def dkwX3_toll_1 : List UInt8 := [182, 0, 68, 184, 0, 75, 96, 8, 108, 172]
abbrev dktX3_toll_1 : List UInt8 := dkwX3_toll_1 ++ []
def dkwX3_toll_0 : List UInt8 := [42, 27, 3, 182, 0, 68, 42, 28, 3, 182, 0, 68, 184, 0, 75, 42, 27, 4, 182, 0, 68, 42, 28, 4]
abbrev dktX3_toll_0 : List UInt8 := dkwX3_toll_0 ++ dktX3_toll_1
theorem dksX3_toll_0 : cX3_toll.data.toList.drop 0 = dktX3_toll_0 := by decide +kernel
theorem dksX3_toll_1 : cX3_toll.data.toList.drop 24 = dktX3_toll_1 := dk_seg dksX3_toll_0 24 rfl rfl
theorem dX3_toll_0 : decode cX3_toll 0 = .ok (.aload_n 0, 1) := dk_42 (dk_at dksX3_toll_0 0 rfl rfl)
theorem dX3_toll_1 : decode cX3_toll 1 = .ok (.iload_n 1, 1) := dk_27 (dk_at dksX3_toll_0 1 rfl rfl)
theorem dX3_toll_2 : decode cX3_toll 2 = .ok (.iconst 0, 1) := dk_3 (dk_at dksX3_toll_0 2 rfl rfl)
theorem dX3_toll_3 : decode cX3_toll 3 = .ok (.invokevirtual 68, 3) := dk_182 0 68 (dk_at dksX3_toll_0 3 rfl rfl)
theorem dX3_toll_6 : decode cX3_toll 6 = .ok (.aload_n 0, 1) := dk_42 (dk_at dksX3_toll_0 6 rfl rfl)
theorem dX3_toll_7 : decode cX3_toll 7 = .ok (.iload_n 2, 1) := dk_28 (dk_at dksX3_toll_0 7 rfl rfl)
theorem dX3_toll_8 : decode cX3_toll 8 = .ok (.iconst 0, 1) := dk_3 (dk_at dksX3_toll_0 8 rfl rfl)
theorem dX3_toll_9 : decode cX3_toll 9 = .ok (.invokevirtual 68, 3) := dk_182 0 68 (dk_at dksX3_toll_0 9 rfl rfl)
theorem dX3_toll_12 : decode cX3_toll 12 = .ok (.invokestatic 75, 3) := dk_184 0 75 (dk_at dksX3_toll_0 12 rfl rfl)
theorem dX3_toll_15 : decode cX3_toll 15 = .ok (.aload_n 0, 1) := dk_42 (dk_at dksX3_toll_0 15 rfl rfl)
theorem dX3_toll_16 : decode cX3_toll 16 = .ok (.iload_n 1, 1) := dk_27 (dk_at dksX3_toll_0 16 rfl rfl)
theorem dX3_toll_17 : decode cX3_toll 17 = .ok (.iconst 1, 1) := dk_4 (dk_at dksX3_toll_0 17 rfl rfl)
theorem dX3_toll_18 : decode cX3_toll 18 = .ok (.invokevirtual 68, 3) := dk_182 0 68 (dk_at dksX3_toll_0 18 rfl rfl)
theorem dX3_toll_21 : decode cX3_toll 21 = .ok (.aload_n 0, 1) := dk_42 (dk_at dksX3_toll_0 21 rfl rfl)
theorem dX3_toll_22 : decode cX3_toll 22 = .ok (.iload_n 2, 1) := dk_28 (dk_at dksX3_toll_0 22 rfl rfl)
theorem dX3_toll_23 : decode cX3_toll 23 = .ok (.iconst 1, 1) := dk_4 (dk_at dksX3_toll_0 23 rfl rfl)
theorem dX3_toll_24 : decode cX3_toll 24 = .ok (.invokevirtual 68, 3) := dk_182 0 68 (dk_at dksX3_toll_1 0 rfl rfl)
theorem dX3_toll_27 : decode cX3_toll 27 = .ok (.invokestatic 75, 3) := dk_184 0 75 (dk_at dksX3_toll_1 3 rfl rfl)
theorem dX3_toll_30 : decode cX3_toll 30 = .ok (.iadd, 1) := dk_96 (dk_at dksX3_toll_1 6 rfl rfl)
theorem dX3_toll_31 : decode cX3_toll 31 = .ok (.iconst 5, 1) := dk_8 (dk_at dksX3_toll_1 7 rfl rfl)
theorem dX3_toll_32 : decode cX3_toll 32 = .ok (.idiv, 1) := dk_108 (dk_at dksX3_toll_1 8 rfl rfl)
theorem dX3_toll_33 : decode cX3_toll 33 = .ok (.ireturn, 1) := dk_172 (dk_at dksX3_toll_1 9 rfl rfl)
abbrev cX3_moves : ByteArray := prog_45_method_52_code
def yX3_moves : MethodName := ⟨RX3, "moves", "(II)I"⟩
def dkwX3_moves_2 : List UInt8 := [27, 28, 182, 0, 174, 172]
abbrev dktX3_moves_2 : List UInt8 := dkwX3_moves_2 ++ []
def dkwX3_moves_1 : List UInt8 := [27, 28, 182, 0, 174, 96, 79, 42, 27, 16, 6, 3, 182, 0, 128, 42, 28, 16, 6, 4, 182, 0, 128, 42]
abbrev dktX3_moves_1 : List UInt8 := dkwX3_moves_1 ++ dktX3_moves_2
def dkwX3_moves_0 : List UInt8 := [42, 180, 0, 16, 4, 92, 46, 42, 27, 28, 182, 0, 174, 100, 79, 42, 180, 0, 16, 16, 8, 92, 46, 42]
abbrev dktX3_moves_0 : List UInt8 := dkwX3_moves_0 ++ dktX3_moves_1
theorem dksX3_moves_0 : cX3_moves.data.toList.drop 0 = dktX3_moves_0 := by decide +kernel
theorem dksX3_moves_1 : cX3_moves.data.toList.drop 24 = dktX3_moves_1 := dk_seg dksX3_moves_0 24 rfl rfl
theorem dksX3_moves_2 : cX3_moves.data.toList.drop 48 = dktX3_moves_2 := dk_seg dksX3_moves_1 24 rfl rfl
theorem dX3_moves_0 : decode cX3_moves 0 = .ok (.aload_n 0, 1) := dk_42 (dk_at dksX3_moves_0 0 rfl rfl)
theorem dX3_moves_1 : decode cX3_moves 1 = .ok (.getfield 16, 3) := dk_180 0 16 (dk_at dksX3_moves_0 1 rfl rfl)
theorem dX3_moves_4 : decode cX3_moves 4 = .ok (.iconst 1, 1) := dk_4 (dk_at dksX3_moves_0 4 rfl rfl)
theorem dX3_moves_5 : decode cX3_moves 5 = .ok (.dup2, 1) := dk_92 (dk_at dksX3_moves_0 5 rfl rfl)
theorem dX3_moves_6 : decode cX3_moves 6 = .ok (.iaload, 1) := dk_46 (dk_at dksX3_moves_0 6 rfl rfl)
theorem dX3_moves_7 : decode cX3_moves 7 = .ok (.aload_n 0, 1) := dk_42 (dk_at dksX3_moves_0 7 rfl rfl)
theorem dX3_moves_8 : decode cX3_moves 8 = .ok (.iload_n 1, 1) := dk_27 (dk_at dksX3_moves_0 8 rfl rfl)
theorem dX3_moves_9 : decode cX3_moves 9 = .ok (.iload_n 2, 1) := dk_28 (dk_at dksX3_moves_0 9 rfl rfl)
theorem dX3_moves_10 : decode cX3_moves 10 = .ok (.invokevirtual 174, 3) := dk_182 0 174 (dk_at dksX3_moves_0 10 rfl rfl)
theorem dX3_moves_13 : decode cX3_moves 13 = .ok (.isub, 1) := dk_100 (dk_at dksX3_moves_0 13 rfl rfl)
theorem dX3_moves_14 : decode cX3_moves 14 = .ok (.iastore, 1) := dk_79 (dk_at dksX3_moves_0 14 rfl rfl)
theorem dX3_moves_15 : decode cX3_moves 15 = .ok (.aload_n 0, 1) := dk_42 (dk_at dksX3_moves_0 15 rfl rfl)
theorem dX3_moves_16 : decode cX3_moves 16 = .ok (.getfield 16, 3) := dk_180 0 16 (dk_at dksX3_moves_0 16 rfl rfl)
theorem dX3_moves_19 : decode cX3_moves 19 = .ok (.bipush 8, 2) := dk_16 8 (dk_at dksX3_moves_0 19 rfl rfl)
theorem dX3_moves_21 : decode cX3_moves 21 = .ok (.dup2, 1) := dk_92 (dk_at dksX3_moves_0 21 rfl rfl)
theorem dX3_moves_22 : decode cX3_moves 22 = .ok (.iaload, 1) := dk_46 (dk_at dksX3_moves_0 22 rfl rfl)
theorem dX3_moves_23 : decode cX3_moves 23 = .ok (.aload_n 0, 1) := dk_42 (dk_at dksX3_moves_0 23 rfl rfl)
theorem dX3_moves_24 : decode cX3_moves 24 = .ok (.iload_n 1, 1) := dk_27 (dk_at dksX3_moves_1 0 rfl rfl)
theorem dX3_moves_25 : decode cX3_moves 25 = .ok (.iload_n 2, 1) := dk_28 (dk_at dksX3_moves_1 1 rfl rfl)
theorem dX3_moves_26 : decode cX3_moves 26 = .ok (.invokevirtual 174, 3) := dk_182 0 174 (dk_at dksX3_moves_1 2 rfl rfl)
theorem dX3_moves_29 : decode cX3_moves 29 = .ok (.iadd, 1) := dk_96 (dk_at dksX3_moves_1 5 rfl rfl)
theorem dX3_moves_30 : decode cX3_moves 30 = .ok (.iastore, 1) := dk_79 (dk_at dksX3_moves_1 6 rfl rfl)
theorem dX3_moves_31 : decode cX3_moves 31 = .ok (.aload_n 0, 1) := dk_42 (dk_at dksX3_moves_1 7 rfl rfl)
theorem dX3_moves_32 : decode cX3_moves 32 = .ok (.iload_n 1, 1) := dk_27 (dk_at dksX3_moves_1 8 rfl rfl)
theorem dX3_moves_33 : decode cX3_moves 33 = .ok (.bipush 6, 2) := dk_16 6 (dk_at dksX3_moves_1 9 rfl rfl)
theorem dX3_moves_35 : decode cX3_moves 35 = .ok (.iconst 0, 1) := dk_3 (dk_at dksX3_moves_1 11 rfl rfl)
theorem dX3_moves_36 : decode cX3_moves 36 = .ok (.invokevirtual 128, 3) := dk_182 0 128 (dk_at dksX3_moves_1 12 rfl rfl)
theorem dX3_moves_39 : decode cX3_moves 39 = .ok (.aload_n 0, 1) := dk_42 (dk_at dksX3_moves_1 15 rfl rfl)
theorem dX3_moves_40 : decode cX3_moves 40 = .ok (.iload_n 2, 1) := dk_28 (dk_at dksX3_moves_1 16 rfl rfl)
theorem dX3_moves_41 : decode cX3_moves 41 = .ok (.bipush 6, 2) := dk_16 6 (dk_at dksX3_moves_1 17 rfl rfl)
theorem dX3_moves_43 : decode cX3_moves 43 = .ok (.iconst 1, 1) := dk_4 (dk_at dksX3_moves_1 19 rfl rfl)
theorem dX3_moves_44 : decode cX3_moves 44 = .ok (.invokevirtual 128, 3) := dk_182 0 128 (dk_at dksX3_moves_1 20 rfl rfl)
theorem dX3_moves_47 : decode cX3_moves 47 = .ok (.aload_n 0, 1) := dk_42 (dk_at dksX3_moves_1 23 rfl rfl)
theorem dX3_moves_48 : decode cX3_moves 48 = .ok (.iload_n 1, 1) := dk_27 (dk_at dksX3_moves_2 0 rfl rfl)
theorem dX3_moves_49 : decode cX3_moves 49 = .ok (.iload_n 2, 1) := dk_28 (dk_at dksX3_moves_2 1 rfl rfl)
theorem dX3_moves_50 : decode cX3_moves 50 = .ok (.invokevirtual 174, 3) := dk_182 0 174 (dk_at dksX3_moves_2 2 rfl rfl)
theorem dX3_moves_53 : decode cX3_moves 53 = .ok (.ireturn, 1) := dk_172 (dk_at dksX3_moves_2 5 rfl rfl)
abbrev cX3_pass : ByteArray := prog_45_method_60_code
def yX3_pass : MethodName := ⟨RX3, "pass", "(I)I"⟩
def dkwX3_pass_0 : List UInt8 := [27, 4, 16, 30, 184, 0, 52, 154, 0, 6, 16, 254, 172, 42, 182, 0, 119, 42, 27, 182, 0, 201, 172]
abbrev dktX3_pass_0 : List UInt8 := dkwX3_pass_0 ++ []
theorem dksX3_pass_0 : cX3_pass.data.toList.drop 0 = dktX3_pass_0 := by decide +kernel
theorem dX3_pass_0 : decode cX3_pass 0 = .ok (.iload_n 1, 1) := dk_27 (dk_at dksX3_pass_0 0 rfl rfl)
theorem dX3_pass_1 : decode cX3_pass 1 = .ok (.iconst 1, 1) := dk_4 (dk_at dksX3_pass_0 1 rfl rfl)
theorem dX3_pass_2 : decode cX3_pass 2 = .ok (.bipush 30, 2) := dk_16 30 (dk_at dksX3_pass_0 2 rfl rfl)
theorem dX3_pass_4 : decode cX3_pass 4 = .ok (.invokestatic 52, 3) := dk_184 0 52 (dk_at dksX3_pass_0 4 rfl rfl)
theorem dX3_pass_7 : decode cX3_pass 7 = .ok (.ifCond .ne 6, 3) := dk_154 0 6 (dk_at dksX3_pass_0 7 rfl rfl)
theorem dX3_pass_10 : decode cX3_pass 10 = .ok (.bipush (-2), 2) := dk_16 254 (dk_at dksX3_pass_0 10 rfl rfl)
theorem dX3_pass_12 : decode cX3_pass 12 = .ok (.ireturn, 1) := dk_172 (dk_at dksX3_pass_0 12 rfl rfl)
theorem dX3_pass_13 : decode cX3_pass 13 = .ok (.aload_n 0, 1) := dk_42 (dk_at dksX3_pass_0 13 rfl rfl)
theorem dX3_pass_14 : decode cX3_pass 14 = .ok (.invokevirtual 119, 3) := dk_182 0 119 (dk_at dksX3_pass_0 14 rfl rfl)
theorem dX3_pass_17 : decode cX3_pass 17 = .ok (.aload_n 0, 1) := dk_42 (dk_at dksX3_pass_0 17 rfl rfl)
theorem dX3_pass_18 : decode cX3_pass 18 = .ok (.iload_n 1, 1) := dk_27 (dk_at dksX3_pass_0 18 rfl rfl)
theorem dX3_pass_19 : decode cX3_pass 19 = .ok (.invokevirtual 201, 3) := dk_182 0 201 (dk_at dksX3_pass_0 19 rfl rfl)
theorem dX3_pass_22 : decode cX3_pass 22 = .ok (.ireturn, 1) := dk_172 (dk_at dksX3_pass_0 22 rfl rfl)
abbrev cX3_passes : ByteArray := prog_45_method_59_code
def yX3_passes : MethodName := ⟨RX3, "passes", "(I)I"⟩
def dkwX3_passes_1 : List UInt8 := [42, 180, 0, 16, 8, 46, 28, 100, 172]
abbrev dktX3_passes_1 : List UInt8 := dkwX3_passes_1 ++ []
def dkwX3_passes_0 : List UInt8 := [42, 180, 0, 16, 8, 46, 61, 3, 62, 29, 27, 162, 0, 13, 42, 182, 0, 198, 132, 3, 1, 167, 255, 244]
abbrev dktX3_passes_0 : List UInt8 := dkwX3_passes_0 ++ dktX3_passes_1
theorem dksX3_passes_0 : cX3_passes.data.toList.drop 0 = dktX3_passes_0 := by decide +kernel
theorem dksX3_passes_1 : cX3_passes.data.toList.drop 24 = dktX3_passes_1 := dk_seg dksX3_passes_0 24 rfl rfl
theorem dX3_passes_0 : decode cX3_passes 0 = .ok (.aload_n 0, 1) := dk_42 (dk_at dksX3_passes_0 0 rfl rfl)
theorem dX3_passes_1 : decode cX3_passes 1 = .ok (.getfield 16, 3) := dk_180 0 16 (dk_at dksX3_passes_0 1 rfl rfl)
theorem dX3_passes_4 : decode cX3_passes 4 = .ok (.iconst 5, 1) := dk_8 (dk_at dksX3_passes_0 4 rfl rfl)
theorem dX3_passes_5 : decode cX3_passes 5 = .ok (.iaload, 1) := dk_46 (dk_at dksX3_passes_0 5 rfl rfl)
theorem dX3_passes_6 : decode cX3_passes 6 = .ok (.istore_n 2, 1) := dk_61 (dk_at dksX3_passes_0 6 rfl rfl)
theorem dX3_passes_7 : decode cX3_passes 7 = .ok (.iconst 0, 1) := dk_3 (dk_at dksX3_passes_0 7 rfl rfl)
theorem dX3_passes_8 : decode cX3_passes 8 = .ok (.istore_n 3, 1) := dk_62 (dk_at dksX3_passes_0 8 rfl rfl)
theorem dX3_passes_9 : decode cX3_passes 9 = .ok (.iload_n 3, 1) := dk_29 (dk_at dksX3_passes_0 9 rfl rfl)
theorem dX3_passes_10 : decode cX3_passes 10 = .ok (.iload_n 1, 1) := dk_27 (dk_at dksX3_passes_0 10 rfl rfl)
theorem dX3_passes_11 : decode cX3_passes 11 = .ok (.if_icmp .ge 13, 3) := dk_162 0 13 (dk_at dksX3_passes_0 11 rfl rfl)
theorem dX3_passes_14 : decode cX3_passes 14 = .ok (.aload_n 0, 1) := dk_42 (dk_at dksX3_passes_0 14 rfl rfl)
theorem dX3_passes_15 : decode cX3_passes 15 = .ok (.invokevirtual 198, 3) := dk_182 0 198 (dk_at dksX3_passes_0 15 rfl rfl)
theorem dX3_passes_18 : decode cX3_passes 18 = .ok (.iinc 3 1, 3) := dk_132 3 1 (dk_at dksX3_passes_0 18 rfl rfl)
theorem dX3_passes_21 : decode cX3_passes 21 = .ok (.goto (-12), 3) := dk_167 255 244 (dk_at dksX3_passes_0 21 rfl rfl)
theorem dX3_passes_24 : decode cX3_passes 24 = .ok (.aload_n 0, 1) := dk_42 (dk_at dksX3_passes_1 0 rfl rfl)
theorem dX3_passes_25 : decode cX3_passes 25 = .ok (.getfield 16, 3) := dk_180 0 16 (dk_at dksX3_passes_1 1 rfl rfl)
theorem dX3_passes_28 : decode cX3_passes 28 = .ok (.iconst 5, 1) := dk_8 (dk_at dksX3_passes_1 4 rfl rfl)
theorem dX3_passes_29 : decode cX3_passes 29 = .ok (.iaload, 1) := dk_46 (dk_at dksX3_passes_1 5 rfl rfl)
theorem dX3_passes_30 : decode cX3_passes 30 = .ok (.iload_n 2, 1) := dk_28 (dk_at dksX3_passes_1 6 rfl rfl)
theorem dX3_passes_31 : decode cX3_passes 31 = .ok (.isub, 1) := dk_100 (dk_at dksX3_passes_1 7 rfl rfl)
theorem dX3_passes_32 : decode cX3_passes 32 = .ok (.ireturn, 1) := dk_172 (dk_at dksX3_passes_1 8 rfl rfl)
abbrev cX3_dayEnds : ByteArray := prog_45_method_58_code
def yX3_dayEnds : MethodName := ⟨RX3, "dayEnds", "()V"⟩
def dkwX3_dayEnds_3 : List UInt8 := [182, 0, 190, 132, 1, 1, 167, 255, 221, 42, 180, 0, 16, 3, 92, 46, 4, 96, 79, 177]
abbrev dktX3_dayEnds_3 : List UInt8 := dkwX3_dayEnds_3 ++ []
def dkwX3_dayEnds_2 : List UInt8 := [162, 0, 31, 42, 27, 182, 0, 78, 153, 0, 11, 42, 27, 182, 0, 194, 167, 0, 9, 42, 27, 3]
abbrev dktX3_dayEnds_2 : List UInt8 := dkwX3_dayEnds_2 ++ dktX3_dayEnds_3
def dkwX3_dayEnds_1 : List UInt8 := [5, 182, 0, 72, 182, 0, 183, 132, 1, 1, 167, 255, 224, 3, 60, 27, 42, 180, 0, 16, 6, 46]
abbrev dktX3_dayEnds_1 : List UInt8 := dkwX3_dayEnds_1 ++ dktX3_dayEnds_2
def dkwX3_dayEnds_0 : List UInt8 := [3, 60, 27, 42, 180, 0, 16, 5, 46, 162, 0, 28, 42, 27, 182, 0, 96, 156, 0, 14, 42, 27, 42, 27]
abbrev dktX3_dayEnds_0 : List UInt8 := dkwX3_dayEnds_0 ++ dktX3_dayEnds_1
theorem dksX3_dayEnds_0 : cX3_dayEnds.data.toList.drop 0 = dktX3_dayEnds_0 := by decide +kernel
theorem dksX3_dayEnds_1 : cX3_dayEnds.data.toList.drop 24 = dktX3_dayEnds_1 := dk_seg dksX3_dayEnds_0 24 rfl rfl
theorem dksX3_dayEnds_2 : cX3_dayEnds.data.toList.drop 46 = dktX3_dayEnds_2 := dk_seg dksX3_dayEnds_1 22 rfl rfl
theorem dksX3_dayEnds_3 : cX3_dayEnds.data.toList.drop 68 = dktX3_dayEnds_3 := dk_seg dksX3_dayEnds_2 22 rfl rfl
theorem dX3_dayEnds_0 : decode cX3_dayEnds 0 = .ok (.iconst 0, 1) := dk_3 (dk_at dksX3_dayEnds_0 0 rfl rfl)
theorem dX3_dayEnds_1 : decode cX3_dayEnds 1 = .ok (.istore_n 1, 1) := dk_60 (dk_at dksX3_dayEnds_0 1 rfl rfl)
theorem dX3_dayEnds_2 : decode cX3_dayEnds 2 = .ok (.iload_n 1, 1) := dk_27 (dk_at dksX3_dayEnds_0 2 rfl rfl)
theorem dX3_dayEnds_3 : decode cX3_dayEnds 3 = .ok (.aload_n 0, 1) := dk_42 (dk_at dksX3_dayEnds_0 3 rfl rfl)
theorem dX3_dayEnds_4 : decode cX3_dayEnds 4 = .ok (.getfield 16, 3) := dk_180 0 16 (dk_at dksX3_dayEnds_0 4 rfl rfl)
theorem dX3_dayEnds_7 : decode cX3_dayEnds 7 = .ok (.iconst 2, 1) := dk_5 (dk_at dksX3_dayEnds_0 7 rfl rfl)
theorem dX3_dayEnds_8 : decode cX3_dayEnds 8 = .ok (.iaload, 1) := dk_46 (dk_at dksX3_dayEnds_0 8 rfl rfl)
theorem dX3_dayEnds_9 : decode cX3_dayEnds 9 = .ok (.if_icmp .ge 28, 3) := dk_162 0 28 (dk_at dksX3_dayEnds_0 9 rfl rfl)
theorem dX3_dayEnds_12 : decode cX3_dayEnds 12 = .ok (.aload_n 0, 1) := dk_42 (dk_at dksX3_dayEnds_0 12 rfl rfl)
theorem dX3_dayEnds_13 : decode cX3_dayEnds 13 = .ok (.iload_n 1, 1) := dk_27 (dk_at dksX3_dayEnds_0 13 rfl rfl)
theorem dX3_dayEnds_14 : decode cX3_dayEnds 14 = .ok (.invokevirtual 96, 3) := dk_182 0 96 (dk_at dksX3_dayEnds_0 14 rfl rfl)
theorem dX3_dayEnds_17 : decode cX3_dayEnds 17 = .ok (.ifCond .ge 14, 3) := dk_156 0 14 (dk_at dksX3_dayEnds_0 17 rfl rfl)
theorem dX3_dayEnds_20 : decode cX3_dayEnds 20 = .ok (.aload_n 0, 1) := dk_42 (dk_at dksX3_dayEnds_0 20 rfl rfl)
theorem dX3_dayEnds_21 : decode cX3_dayEnds 21 = .ok (.iload_n 1, 1) := dk_27 (dk_at dksX3_dayEnds_0 21 rfl rfl)
theorem dX3_dayEnds_22 : decode cX3_dayEnds 22 = .ok (.aload_n 0, 1) := dk_42 (dk_at dksX3_dayEnds_0 22 rfl rfl)
theorem dX3_dayEnds_23 : decode cX3_dayEnds 23 = .ok (.iload_n 1, 1) := dk_27 (dk_at dksX3_dayEnds_0 23 rfl rfl)
theorem dX3_dayEnds_24 : decode cX3_dayEnds 24 = .ok (.iconst 2, 1) := dk_5 (dk_at dksX3_dayEnds_1 0 rfl rfl)
theorem dX3_dayEnds_25 : decode cX3_dayEnds 25 = .ok (.invokevirtual 72, 3) := dk_182 0 72 (dk_at dksX3_dayEnds_1 1 rfl rfl)
theorem dX3_dayEnds_28 : decode cX3_dayEnds 28 = .ok (.invokevirtual 183, 3) := dk_182 0 183 (dk_at dksX3_dayEnds_1 4 rfl rfl)
theorem dX3_dayEnds_31 : decode cX3_dayEnds 31 = .ok (.iinc 1 1, 3) := dk_132 1 1 (dk_at dksX3_dayEnds_1 7 rfl rfl)
theorem dX3_dayEnds_34 : decode cX3_dayEnds 34 = .ok (.goto (-32), 3) := dk_167 255 224 (dk_at dksX3_dayEnds_1 10 rfl rfl)
theorem dX3_dayEnds_37 : decode cX3_dayEnds 37 = .ok (.iconst 0, 1) := dk_3 (dk_at dksX3_dayEnds_1 13 rfl rfl)
theorem dX3_dayEnds_38 : decode cX3_dayEnds 38 = .ok (.istore_n 1, 1) := dk_60 (dk_at dksX3_dayEnds_1 14 rfl rfl)
theorem dX3_dayEnds_39 : decode cX3_dayEnds 39 = .ok (.iload_n 1, 1) := dk_27 (dk_at dksX3_dayEnds_1 15 rfl rfl)
theorem dX3_dayEnds_40 : decode cX3_dayEnds 40 = .ok (.aload_n 0, 1) := dk_42 (dk_at dksX3_dayEnds_1 16 rfl rfl)
theorem dX3_dayEnds_41 : decode cX3_dayEnds 41 = .ok (.getfield 16, 3) := dk_180 0 16 (dk_at dksX3_dayEnds_1 17 rfl rfl)
theorem dX3_dayEnds_44 : decode cX3_dayEnds 44 = .ok (.iconst 3, 1) := dk_6 (dk_at dksX3_dayEnds_1 20 rfl rfl)
theorem dX3_dayEnds_45 : decode cX3_dayEnds 45 = .ok (.iaload, 1) := dk_46 (dk_at dksX3_dayEnds_1 21 rfl rfl)
theorem dX3_dayEnds_46 : decode cX3_dayEnds 46 = .ok (.if_icmp .ge 31, 3) := dk_162 0 31 (dk_at dksX3_dayEnds_2 0 rfl rfl)
theorem dX3_dayEnds_49 : decode cX3_dayEnds 49 = .ok (.aload_n 0, 1) := dk_42 (dk_at dksX3_dayEnds_2 3 rfl rfl)
theorem dX3_dayEnds_50 : decode cX3_dayEnds 50 = .ok (.iload_n 1, 1) := dk_27 (dk_at dksX3_dayEnds_2 4 rfl rfl)
theorem dX3_dayEnds_51 : decode cX3_dayEnds 51 = .ok (.invokevirtual 78, 3) := dk_182 0 78 (dk_at dksX3_dayEnds_2 5 rfl rfl)
theorem dX3_dayEnds_54 : decode cX3_dayEnds 54 = .ok (.ifCond .eq 11, 3) := dk_153 0 11 (dk_at dksX3_dayEnds_2 8 rfl rfl)
theorem dX3_dayEnds_57 : decode cX3_dayEnds 57 = .ok (.aload_n 0, 1) := dk_42 (dk_at dksX3_dayEnds_2 11 rfl rfl)
theorem dX3_dayEnds_58 : decode cX3_dayEnds 58 = .ok (.iload_n 1, 1) := dk_27 (dk_at dksX3_dayEnds_2 12 rfl rfl)
theorem dX3_dayEnds_59 : decode cX3_dayEnds 59 = .ok (.invokevirtual 194, 3) := dk_182 0 194 (dk_at dksX3_dayEnds_2 13 rfl rfl)
theorem dX3_dayEnds_62 : decode cX3_dayEnds 62 = .ok (.goto 9, 3) := dk_167 0 9 (dk_at dksX3_dayEnds_2 16 rfl rfl)
theorem dX3_dayEnds_65 : decode cX3_dayEnds 65 = .ok (.aload_n 0, 1) := dk_42 (dk_at dksX3_dayEnds_2 19 rfl rfl)
theorem dX3_dayEnds_66 : decode cX3_dayEnds 66 = .ok (.iload_n 1, 1) := dk_27 (dk_at dksX3_dayEnds_2 20 rfl rfl)
theorem dX3_dayEnds_67 : decode cX3_dayEnds 67 = .ok (.iconst 0, 1) := dk_3 (dk_at dksX3_dayEnds_2 21 rfl rfl)
theorem dX3_dayEnds_68 : decode cX3_dayEnds 68 = .ok (.invokevirtual 190, 3) := dk_182 0 190 (dk_at dksX3_dayEnds_3 0 rfl rfl)
theorem dX3_dayEnds_71 : decode cX3_dayEnds 71 = .ok (.iinc 1 1, 3) := dk_132 1 1 (dk_at dksX3_dayEnds_3 3 rfl rfl)
theorem dX3_dayEnds_74 : decode cX3_dayEnds 74 = .ok (.goto (-35), 3) := dk_167 255 221 (dk_at dksX3_dayEnds_3 6 rfl rfl)
theorem dX3_dayEnds_77 : decode cX3_dayEnds 77 = .ok (.aload_n 0, 1) := dk_42 (dk_at dksX3_dayEnds_3 9 rfl rfl)
theorem dX3_dayEnds_78 : decode cX3_dayEnds 78 = .ok (.getfield 16, 3) := dk_180 0 16 (dk_at dksX3_dayEnds_3 10 rfl rfl)
theorem dX3_dayEnds_81 : decode cX3_dayEnds 81 = .ok (.iconst 0, 1) := dk_3 (dk_at dksX3_dayEnds_3 13 rfl rfl)
theorem dX3_dayEnds_82 : decode cX3_dayEnds 82 = .ok (.dup2, 1) := dk_92 (dk_at dksX3_dayEnds_3 14 rfl rfl)
theorem dX3_dayEnds_83 : decode cX3_dayEnds 83 = .ok (.iaload, 1) := dk_46 (dk_at dksX3_dayEnds_3 15 rfl rfl)
theorem dX3_dayEnds_84 : decode cX3_dayEnds 84 = .ok (.iconst 1, 1) := dk_4 (dk_at dksX3_dayEnds_3 16 rfl rfl)
theorem dX3_dayEnds_85 : decode cX3_dayEnds 85 = .ok (.iadd, 1) := dk_96 (dk_at dksX3_dayEnds_3 17 rfl rfl)
theorem dX3_dayEnds_86 : decode cX3_dayEnds 86 = .ok (.iastore, 1) := dk_79 (dk_at dksX3_dayEnds_3 18 rfl rfl)
theorem dX3_dayEnds_87 : decode cX3_dayEnds 87 = .ok (.return_, 1) := dk_177 (dk_at dksX3_dayEnds_3 19 rfl rfl)
abbrev cX3_thirsts : ByteArray := prog_45_method_54_code
def yX3_thirsts : MethodName := ⟨RX3, "thirsts", "(II)V"⟩
def dkwX3_thirsts_1 : List UInt8 := [46, 28, 96, 79, 177]
abbrev dktX3_thirsts_1 : List UInt8 := dkwX3_thirsts_1 ++ []
def dkwX3_thirsts_0 : List UInt8 := [42, 180, 0, 16, 16, 13, 16, 6, 27, 104, 96, 6, 96, 92, 46, 28, 96, 79, 42, 180, 0, 16, 8, 92]
abbrev dktX3_thirsts_0 : List UInt8 := dkwX3_thirsts_0 ++ dktX3_thirsts_1
theorem dksX3_thirsts_0 : cX3_thirsts.data.toList.drop 0 = dktX3_thirsts_0 := by decide +kernel
theorem dksX3_thirsts_1 : cX3_thirsts.data.toList.drop 24 = dktX3_thirsts_1 := dk_seg dksX3_thirsts_0 24 rfl rfl
theorem dX3_thirsts_0 : decode cX3_thirsts 0 = .ok (.aload_n 0, 1) := dk_42 (dk_at dksX3_thirsts_0 0 rfl rfl)
theorem dX3_thirsts_1 : decode cX3_thirsts 1 = .ok (.getfield 16, 3) := dk_180 0 16 (dk_at dksX3_thirsts_0 1 rfl rfl)
theorem dX3_thirsts_4 : decode cX3_thirsts 4 = .ok (.bipush 13, 2) := dk_16 13 (dk_at dksX3_thirsts_0 4 rfl rfl)
theorem dX3_thirsts_6 : decode cX3_thirsts 6 = .ok (.bipush 6, 2) := dk_16 6 (dk_at dksX3_thirsts_0 6 rfl rfl)
theorem dX3_thirsts_8 : decode cX3_thirsts 8 = .ok (.iload_n 1, 1) := dk_27 (dk_at dksX3_thirsts_0 8 rfl rfl)
theorem dX3_thirsts_9 : decode cX3_thirsts 9 = .ok (.imul, 1) := dk_104 (dk_at dksX3_thirsts_0 9 rfl rfl)
theorem dX3_thirsts_10 : decode cX3_thirsts 10 = .ok (.iadd, 1) := dk_96 (dk_at dksX3_thirsts_0 10 rfl rfl)
theorem dX3_thirsts_11 : decode cX3_thirsts 11 = .ok (.iconst 3, 1) := dk_6 (dk_at dksX3_thirsts_0 11 rfl rfl)
theorem dX3_thirsts_12 : decode cX3_thirsts 12 = .ok (.iadd, 1) := dk_96 (dk_at dksX3_thirsts_0 12 rfl rfl)
theorem dX3_thirsts_13 : decode cX3_thirsts 13 = .ok (.dup2, 1) := dk_92 (dk_at dksX3_thirsts_0 13 rfl rfl)
theorem dX3_thirsts_14 : decode cX3_thirsts 14 = .ok (.iaload, 1) := dk_46 (dk_at dksX3_thirsts_0 14 rfl rfl)
theorem dX3_thirsts_15 : decode cX3_thirsts 15 = .ok (.iload_n 2, 1) := dk_28 (dk_at dksX3_thirsts_0 15 rfl rfl)
theorem dX3_thirsts_16 : decode cX3_thirsts 16 = .ok (.iadd, 1) := dk_96 (dk_at dksX3_thirsts_0 16 rfl rfl)
theorem dX3_thirsts_17 : decode cX3_thirsts 17 = .ok (.iastore, 1) := dk_79 (dk_at dksX3_thirsts_0 17 rfl rfl)
theorem dX3_thirsts_18 : decode cX3_thirsts 18 = .ok (.aload_n 0, 1) := dk_42 (dk_at dksX3_thirsts_0 18 rfl rfl)
theorem dX3_thirsts_19 : decode cX3_thirsts 19 = .ok (.getfield 16, 3) := dk_180 0 16 (dk_at dksX3_thirsts_0 19 rfl rfl)
theorem dX3_thirsts_22 : decode cX3_thirsts 22 = .ok (.iconst 5, 1) := dk_8 (dk_at dksX3_thirsts_0 22 rfl rfl)
theorem dX3_thirsts_23 : decode cX3_thirsts 23 = .ok (.dup2, 1) := dk_92 (dk_at dksX3_thirsts_0 23 rfl rfl)
theorem dX3_thirsts_24 : decode cX3_thirsts 24 = .ok (.iaload, 1) := dk_46 (dk_at dksX3_thirsts_1 0 rfl rfl)
theorem dX3_thirsts_25 : decode cX3_thirsts 25 = .ok (.iload_n 2, 1) := dk_28 (dk_at dksX3_thirsts_1 1 rfl rfl)
theorem dX3_thirsts_26 : decode cX3_thirsts 26 = .ok (.iadd, 1) := dk_96 (dk_at dksX3_thirsts_1 2 rfl rfl)
theorem dX3_thirsts_27 : decode cX3_thirsts 27 = .ok (.iastore, 1) := dk_79 (dk_at dksX3_thirsts_1 3 rfl rfl)
theorem dX3_thirsts_28 : decode cX3_thirsts 28 = .ok (.return_, 1) := dk_177 (dk_at dksX3_thirsts_1 4 rfl rfl)
abbrev cX3_wellGives : ByteArray := prog_45_method_56_code
def yX3_wellGives : MethodName := ⟨RX3, "wellGives", "(I)V"⟩
def dkwX3_wellGives_5 : List UInt8 := [161, 0, 7, 4, 167, 0, 4, 3, 182, 0, 190, 177]
abbrev dktX3_wellGives_5 : List UInt8 := dkwX3_wellGives_5 ++ []
def dkwX3_wellGives_4 : List UInt8 := [79, 42, 27, 16, 7, 42, 27, 16, 7, 182, 0, 68, 29, 96, 182, 0, 128, 42, 27, 29, 16, 20]
abbrev dktX3_wellGives_4 : List UInt8 := dkwX3_wellGives_4 ++ dktX3_wellGives_5
def dkwX3_wellGives_3 : List UInt8 := [21, 4, 27, 21, 5, 182, 0, 187, 132, 4, 1, 167, 255, 186, 42, 180, 0, 16, 16, 6, 92, 46, 29, 96]
abbrev dktX3_wellGives_3 : List UInt8 := dkwX3_wellGives_3 ++ dktX3_wellGives_4
def dkwX3_wellGives_2 : List UInt8 := [21, 4, 5, 182, 0, 72, 167, 0, 4, 28, 54, 5, 28, 21, 5, 100, 61, 29, 21, 5, 96, 62, 42]
abbrev dktX3_wellGives_2 : List UInt8 := dkwX3_wellGives_2 ++ dktX3_wellGives_3
def dkwX3_wellGives_1 : List UInt8 := [21, 4, 182, 0, 96, 27, 159, 0, 6, 167, 0, 46, 42, 21, 4, 5, 182, 0, 72, 28, 162, 0, 13, 42]
abbrev dktX3_wellGives_1 : List UInt8 := dkwX3_wellGives_1 ++ dktX3_wellGives_2
def dkwX3_wellGives_0 : List UInt8 := [42, 27, 182, 0, 162, 61, 3, 62, 3, 54, 4, 21, 4, 42, 180, 0, 16, 5, 46, 162, 0, 65, 42]
abbrev dktX3_wellGives_0 : List UInt8 := dkwX3_wellGives_0 ++ dktX3_wellGives_1
theorem dksX3_wellGives_0 : cX3_wellGives.data.toList.drop 0 = dktX3_wellGives_0 := by decide +kernel
theorem dksX3_wellGives_1 : cX3_wellGives.data.toList.drop 23 = dktX3_wellGives_1 := dk_seg dksX3_wellGives_0 23 rfl rfl
theorem dksX3_wellGives_2 : cX3_wellGives.data.toList.drop 47 = dktX3_wellGives_2 := dk_seg dksX3_wellGives_1 24 rfl rfl
theorem dksX3_wellGives_3 : cX3_wellGives.data.toList.drop 70 = dktX3_wellGives_3 := dk_seg dksX3_wellGives_2 23 rfl rfl
theorem dksX3_wellGives_4 : cX3_wellGives.data.toList.drop 94 = dktX3_wellGives_4 := dk_seg dksX3_wellGives_3 24 rfl rfl
theorem dksX3_wellGives_5 : cX3_wellGives.data.toList.drop 116 = dktX3_wellGives_5 := dk_seg dksX3_wellGives_4 22 rfl rfl
theorem dX3_wellGives_0 : decode cX3_wellGives 0 = .ok (.aload_n 0, 1) := dk_42 (dk_at dksX3_wellGives_0 0 rfl rfl)
theorem dX3_wellGives_1 : decode cX3_wellGives 1 = .ok (.iload_n 1, 1) := dk_27 (dk_at dksX3_wellGives_0 1 rfl rfl)
theorem dX3_wellGives_2 : decode cX3_wellGives 2 = .ok (.invokevirtual 162, 3) := dk_182 0 162 (dk_at dksX3_wellGives_0 2 rfl rfl)
theorem dX3_wellGives_5 : decode cX3_wellGives 5 = .ok (.istore_n 2, 1) := dk_61 (dk_at dksX3_wellGives_0 5 rfl rfl)
theorem dX3_wellGives_6 : decode cX3_wellGives 6 = .ok (.iconst 0, 1) := dk_3 (dk_at dksX3_wellGives_0 6 rfl rfl)
theorem dX3_wellGives_7 : decode cX3_wellGives 7 = .ok (.istore_n 3, 1) := dk_62 (dk_at dksX3_wellGives_0 7 rfl rfl)
theorem dX3_wellGives_8 : decode cX3_wellGives 8 = .ok (.iconst 0, 1) := dk_3 (dk_at dksX3_wellGives_0 8 rfl rfl)
theorem dX3_wellGives_9 : decode cX3_wellGives 9 = .ok (.istore 4, 2) := dk_54 4 (dk_at dksX3_wellGives_0 9 rfl rfl)
theorem dX3_wellGives_11 : decode cX3_wellGives 11 = .ok (.iload 4, 2) := dk_21 4 (dk_at dksX3_wellGives_0 11 rfl rfl)
theorem dX3_wellGives_13 : decode cX3_wellGives 13 = .ok (.aload_n 0, 1) := dk_42 (dk_at dksX3_wellGives_0 13 rfl rfl)
theorem dX3_wellGives_14 : decode cX3_wellGives 14 = .ok (.getfield 16, 3) := dk_180 0 16 (dk_at dksX3_wellGives_0 14 rfl rfl)
theorem dX3_wellGives_17 : decode cX3_wellGives 17 = .ok (.iconst 2, 1) := dk_5 (dk_at dksX3_wellGives_0 17 rfl rfl)
theorem dX3_wellGives_18 : decode cX3_wellGives 18 = .ok (.iaload, 1) := dk_46 (dk_at dksX3_wellGives_0 18 rfl rfl)
theorem dX3_wellGives_19 : decode cX3_wellGives 19 = .ok (.if_icmp .ge 65, 3) := dk_162 0 65 (dk_at dksX3_wellGives_0 19 rfl rfl)
theorem dX3_wellGives_22 : decode cX3_wellGives 22 = .ok (.aload_n 0, 1) := dk_42 (dk_at dksX3_wellGives_0 22 rfl rfl)
theorem dX3_wellGives_23 : decode cX3_wellGives 23 = .ok (.iload 4, 2) := dk_21 4 (dk_at dksX3_wellGives_1 0 rfl rfl)
theorem dX3_wellGives_25 : decode cX3_wellGives 25 = .ok (.invokevirtual 96, 3) := dk_182 0 96 (dk_at dksX3_wellGives_1 2 rfl rfl)
theorem dX3_wellGives_28 : decode cX3_wellGives 28 = .ok (.iload_n 1, 1) := dk_27 (dk_at dksX3_wellGives_1 5 rfl rfl)
theorem dX3_wellGives_29 : decode cX3_wellGives 29 = .ok (.if_icmp .eq 6, 3) := dk_159 0 6 (dk_at dksX3_wellGives_1 6 rfl rfl)
theorem dX3_wellGives_32 : decode cX3_wellGives 32 = .ok (.goto 46, 3) := dk_167 0 46 (dk_at dksX3_wellGives_1 9 rfl rfl)
theorem dX3_wellGives_35 : decode cX3_wellGives 35 = .ok (.aload_n 0, 1) := dk_42 (dk_at dksX3_wellGives_1 12 rfl rfl)
theorem dX3_wellGives_36 : decode cX3_wellGives 36 = .ok (.iload 4, 2) := dk_21 4 (dk_at dksX3_wellGives_1 13 rfl rfl)
theorem dX3_wellGives_38 : decode cX3_wellGives 38 = .ok (.iconst 2, 1) := dk_5 (dk_at dksX3_wellGives_1 15 rfl rfl)
theorem dX3_wellGives_39 : decode cX3_wellGives 39 = .ok (.invokevirtual 72, 3) := dk_182 0 72 (dk_at dksX3_wellGives_1 16 rfl rfl)
theorem dX3_wellGives_42 : decode cX3_wellGives 42 = .ok (.iload_n 2, 1) := dk_28 (dk_at dksX3_wellGives_1 19 rfl rfl)
theorem dX3_wellGives_43 : decode cX3_wellGives 43 = .ok (.if_icmp .ge 13, 3) := dk_162 0 13 (dk_at dksX3_wellGives_1 20 rfl rfl)
theorem dX3_wellGives_46 : decode cX3_wellGives 46 = .ok (.aload_n 0, 1) := dk_42 (dk_at dksX3_wellGives_1 23 rfl rfl)
theorem dX3_wellGives_47 : decode cX3_wellGives 47 = .ok (.iload 4, 2) := dk_21 4 (dk_at dksX3_wellGives_2 0 rfl rfl)
theorem dX3_wellGives_49 : decode cX3_wellGives 49 = .ok (.iconst 2, 1) := dk_5 (dk_at dksX3_wellGives_2 2 rfl rfl)
theorem dX3_wellGives_50 : decode cX3_wellGives 50 = .ok (.invokevirtual 72, 3) := dk_182 0 72 (dk_at dksX3_wellGives_2 3 rfl rfl)
theorem dX3_wellGives_53 : decode cX3_wellGives 53 = .ok (.goto 4, 3) := dk_167 0 4 (dk_at dksX3_wellGives_2 6 rfl rfl)
theorem dX3_wellGives_56 : decode cX3_wellGives 56 = .ok (.iload_n 2, 1) := dk_28 (dk_at dksX3_wellGives_2 9 rfl rfl)
theorem dX3_wellGives_57 : decode cX3_wellGives 57 = .ok (.istore 5, 2) := dk_54 5 (dk_at dksX3_wellGives_2 10 rfl rfl)
theorem dX3_wellGives_59 : decode cX3_wellGives 59 = .ok (.iload_n 2, 1) := dk_28 (dk_at dksX3_wellGives_2 12 rfl rfl)
theorem dX3_wellGives_60 : decode cX3_wellGives 60 = .ok (.iload 5, 2) := dk_21 5 (dk_at dksX3_wellGives_2 13 rfl rfl)
theorem dX3_wellGives_62 : decode cX3_wellGives 62 = .ok (.isub, 1) := dk_100 (dk_at dksX3_wellGives_2 15 rfl rfl)
theorem dX3_wellGives_63 : decode cX3_wellGives 63 = .ok (.istore_n 2, 1) := dk_61 (dk_at dksX3_wellGives_2 16 rfl rfl)
theorem dX3_wellGives_64 : decode cX3_wellGives 64 = .ok (.iload_n 3, 1) := dk_29 (dk_at dksX3_wellGives_2 17 rfl rfl)
theorem dX3_wellGives_65 : decode cX3_wellGives 65 = .ok (.iload 5, 2) := dk_21 5 (dk_at dksX3_wellGives_2 18 rfl rfl)
theorem dX3_wellGives_67 : decode cX3_wellGives 67 = .ok (.iadd, 1) := dk_96 (dk_at dksX3_wellGives_2 20 rfl rfl)
theorem dX3_wellGives_68 : decode cX3_wellGives 68 = .ok (.istore_n 3, 1) := dk_62 (dk_at dksX3_wellGives_2 21 rfl rfl)
theorem dX3_wellGives_69 : decode cX3_wellGives 69 = .ok (.aload_n 0, 1) := dk_42 (dk_at dksX3_wellGives_2 22 rfl rfl)
theorem dX3_wellGives_70 : decode cX3_wellGives 70 = .ok (.iload 4, 2) := dk_21 4 (dk_at dksX3_wellGives_3 0 rfl rfl)
theorem dX3_wellGives_72 : decode cX3_wellGives 72 = .ok (.iload_n 1, 1) := dk_27 (dk_at dksX3_wellGives_3 2 rfl rfl)
theorem dX3_wellGives_73 : decode cX3_wellGives 73 = .ok (.iload 5, 2) := dk_21 5 (dk_at dksX3_wellGives_3 3 rfl rfl)
theorem dX3_wellGives_75 : decode cX3_wellGives 75 = .ok (.invokevirtual 187, 3) := dk_182 0 187 (dk_at dksX3_wellGives_3 5 rfl rfl)
theorem dX3_wellGives_78 : decode cX3_wellGives 78 = .ok (.iinc 4 1, 3) := dk_132 4 1 (dk_at dksX3_wellGives_3 8 rfl rfl)
theorem dX3_wellGives_81 : decode cX3_wellGives 81 = .ok (.goto (-70), 3) := dk_167 255 186 (dk_at dksX3_wellGives_3 11 rfl rfl)
theorem dX3_wellGives_84 : decode cX3_wellGives 84 = .ok (.aload_n 0, 1) := dk_42 (dk_at dksX3_wellGives_3 14 rfl rfl)
theorem dX3_wellGives_85 : decode cX3_wellGives 85 = .ok (.getfield 16, 3) := dk_180 0 16 (dk_at dksX3_wellGives_3 15 rfl rfl)
theorem dX3_wellGives_88 : decode cX3_wellGives 88 = .ok (.bipush 6, 2) := dk_16 6 (dk_at dksX3_wellGives_3 18 rfl rfl)
theorem dX3_wellGives_90 : decode cX3_wellGives 90 = .ok (.dup2, 1) := dk_92 (dk_at dksX3_wellGives_3 20 rfl rfl)
theorem dX3_wellGives_91 : decode cX3_wellGives 91 = .ok (.iaload, 1) := dk_46 (dk_at dksX3_wellGives_3 21 rfl rfl)
theorem dX3_wellGives_92 : decode cX3_wellGives 92 = .ok (.iload_n 3, 1) := dk_29 (dk_at dksX3_wellGives_3 22 rfl rfl)
theorem dX3_wellGives_93 : decode cX3_wellGives 93 = .ok (.iadd, 1) := dk_96 (dk_at dksX3_wellGives_3 23 rfl rfl)
theorem dX3_wellGives_94 : decode cX3_wellGives 94 = .ok (.iastore, 1) := dk_79 (dk_at dksX3_wellGives_4 0 rfl rfl)
theorem dX3_wellGives_95 : decode cX3_wellGives 95 = .ok (.aload_n 0, 1) := dk_42 (dk_at dksX3_wellGives_4 1 rfl rfl)
theorem dX3_wellGives_96 : decode cX3_wellGives 96 = .ok (.iload_n 1, 1) := dk_27 (dk_at dksX3_wellGives_4 2 rfl rfl)
theorem dX3_wellGives_97 : decode cX3_wellGives 97 = .ok (.bipush 7, 2) := dk_16 7 (dk_at dksX3_wellGives_4 3 rfl rfl)
theorem dX3_wellGives_99 : decode cX3_wellGives 99 = .ok (.aload_n 0, 1) := dk_42 (dk_at dksX3_wellGives_4 5 rfl rfl)
theorem dX3_wellGives_100 : decode cX3_wellGives 100 = .ok (.iload_n 1, 1) := dk_27 (dk_at dksX3_wellGives_4 6 rfl rfl)
theorem dX3_wellGives_101 : decode cX3_wellGives 101 = .ok (.bipush 7, 2) := dk_16 7 (dk_at dksX3_wellGives_4 7 rfl rfl)
theorem dX3_wellGives_103 : decode cX3_wellGives 103 = .ok (.invokevirtual 68, 3) := dk_182 0 68 (dk_at dksX3_wellGives_4 9 rfl rfl)
theorem dX3_wellGives_106 : decode cX3_wellGives 106 = .ok (.iload_n 3, 1) := dk_29 (dk_at dksX3_wellGives_4 12 rfl rfl)
theorem dX3_wellGives_107 : decode cX3_wellGives 107 = .ok (.iadd, 1) := dk_96 (dk_at dksX3_wellGives_4 13 rfl rfl)
theorem dX3_wellGives_108 : decode cX3_wellGives 108 = .ok (.invokevirtual 128, 3) := dk_182 0 128 (dk_at dksX3_wellGives_4 14 rfl rfl)
theorem dX3_wellGives_111 : decode cX3_wellGives 111 = .ok (.aload_n 0, 1) := dk_42 (dk_at dksX3_wellGives_4 17 rfl rfl)
theorem dX3_wellGives_112 : decode cX3_wellGives 112 = .ok (.iload_n 1, 1) := dk_27 (dk_at dksX3_wellGives_4 18 rfl rfl)
theorem dX3_wellGives_113 : decode cX3_wellGives 113 = .ok (.iload_n 3, 1) := dk_29 (dk_at dksX3_wellGives_4 19 rfl rfl)
theorem dX3_wellGives_114 : decode cX3_wellGives 114 = .ok (.bipush 20, 2) := dk_16 20 (dk_at dksX3_wellGives_4 20 rfl rfl)
theorem dX3_wellGives_116 : decode cX3_wellGives 116 = .ok (.if_icmp .lt 7, 3) := dk_161 0 7 (dk_at dksX3_wellGives_5 0 rfl rfl)
theorem dX3_wellGives_119 : decode cX3_wellGives 119 = .ok (.iconst 1, 1) := dk_4 (dk_at dksX3_wellGives_5 3 rfl rfl)
theorem dX3_wellGives_120 : decode cX3_wellGives 120 = .ok (.goto 4, 3) := dk_167 0 4 (dk_at dksX3_wellGives_5 4 rfl rfl)
theorem dX3_wellGives_123 : decode cX3_wellGives 123 = .ok (.iconst 0, 1) := dk_3 (dk_at dksX3_wellGives_5 7 rfl rfl)
theorem dX3_wellGives_124 : decode cX3_wellGives 124 = .ok (.invokevirtual 190, 3) := dk_182 0 190 (dk_at dksX3_wellGives_5 8 rfl rfl)
theorem dX3_wellGives_127 : decode cX3_wellGives 127 = .ok (.return_, 1) := dk_177 (dk_at dksX3_wellGives_5 11 rfl rfl)
abbrev cX3_gets : ByteArray := prog_45_method_55_code
def yX3_gets : MethodName := ⟨RX3, "gets", "(III)V"⟩
def dkwX3_gets_7 : List UInt8 := [4, 46, 17, 3, 231, 100, 96, 79, 42, 180, 0, 16, 4, 17, 3, 231, 79, 177]
abbrev dktX3_gets_7 : List UInt8 := dkwX3_gets_7 ++ []
def dkwX3_gets_6 : List UInt8 := [180, 0, 16, 4, 46, 17, 3, 231, 163, 0, 4, 177, 42, 180, 0, 16, 16, 11, 92, 46, 42, 180, 0, 16]
abbrev dktX3_gets_6 : List UInt8 := dkwX3_gets_6 ++ dktX3_gets_7
def dkwX3_gets_5 : List UInt8 := [180, 0, 16, 16, 10, 92, 46, 21, 5, 96, 79, 42, 180, 0, 16, 4, 92, 46, 21, 5, 96, 79, 42]
abbrev dktX3_gets_5 : List UInt8 := dkwX3_gets_5 ++ dktX3_gets_6
def dkwX3_gets_4 : List UInt8 := [180, 0, 16, 16, 13, 16, 6, 27, 104, 96, 8, 96, 92, 46, 21, 4, 96, 79, 29, 7, 108, 54, 5, 42]
abbrev dktX3_gets_4 : List UInt8 := dkwX3_gets_4 ++ dktX3_gets_5
def dkwX3_gets_3 : List UInt8 := [180, 0, 16, 4, 92, 46, 21, 4, 100, 79, 42, 180, 0, 16, 16, 9, 92, 46, 21, 4, 96, 79, 42]
abbrev dktX3_gets_3 : List UInt8 := dkwX3_gets_3 ++ dktX3_gets_4
def dkwX3_gets_2 : List UInt8 := [180, 0, 16, 4, 46, 164, 0, 12, 42, 180, 0, 16, 4, 46, 167, 0, 5, 21, 4, 54, 4, 42]
abbrev dktX3_gets_2 : List UInt8 := dkwX3_gets_2 ++ dktX3_gets_3
def dkwX3_gets_1 : List UInt8 := [182, 0, 72, 29, 100, 182, 0, 183, 29, 42, 27, 28, 182, 0, 86, 104, 16, 10, 108, 54, 4, 21, 4, 42]
abbrev dktX3_gets_1 : List UInt8 := dkwX3_gets_1 ++ dktX3_gets_2
def dkwX3_gets_0 : List UInt8 := [42, 180, 0, 16, 16, 13, 16, 6, 27, 104, 96, 7, 96, 92, 46, 29, 96, 79, 42, 27, 42, 27, 5]
abbrev dktX3_gets_0 : List UInt8 := dkwX3_gets_0 ++ dktX3_gets_1
theorem dksX3_gets_0 : cX3_gets.data.toList.drop 0 = dktX3_gets_0 := by decide +kernel
theorem dksX3_gets_1 : cX3_gets.data.toList.drop 23 = dktX3_gets_1 := dk_seg dksX3_gets_0 23 rfl rfl
theorem dksX3_gets_2 : cX3_gets.data.toList.drop 47 = dktX3_gets_2 := dk_seg dksX3_gets_1 24 rfl rfl
theorem dksX3_gets_3 : cX3_gets.data.toList.drop 69 = dktX3_gets_3 := dk_seg dksX3_gets_2 22 rfl rfl
theorem dksX3_gets_4 : cX3_gets.data.toList.drop 92 = dktX3_gets_4 := dk_seg dksX3_gets_3 23 rfl rfl
theorem dksX3_gets_5 : cX3_gets.data.toList.drop 116 = dktX3_gets_5 := dk_seg dksX3_gets_4 24 rfl rfl
theorem dksX3_gets_6 : cX3_gets.data.toList.drop 139 = dktX3_gets_6 := dk_seg dksX3_gets_5 23 rfl rfl
theorem dksX3_gets_7 : cX3_gets.data.toList.drop 163 = dktX3_gets_7 := dk_seg dksX3_gets_6 24 rfl rfl
theorem dX3_gets_0 : decode cX3_gets 0 = .ok (.aload_n 0, 1) := dk_42 (dk_at dksX3_gets_0 0 rfl rfl)
theorem dX3_gets_1 : decode cX3_gets 1 = .ok (.getfield 16, 3) := dk_180 0 16 (dk_at dksX3_gets_0 1 rfl rfl)
theorem dX3_gets_4 : decode cX3_gets 4 = .ok (.bipush 13, 2) := dk_16 13 (dk_at dksX3_gets_0 4 rfl rfl)
theorem dX3_gets_6 : decode cX3_gets 6 = .ok (.bipush 6, 2) := dk_16 6 (dk_at dksX3_gets_0 6 rfl rfl)
theorem dX3_gets_8 : decode cX3_gets 8 = .ok (.iload_n 1, 1) := dk_27 (dk_at dksX3_gets_0 8 rfl rfl)
theorem dX3_gets_9 : decode cX3_gets 9 = .ok (.imul, 1) := dk_104 (dk_at dksX3_gets_0 9 rfl rfl)
theorem dX3_gets_10 : decode cX3_gets 10 = .ok (.iadd, 1) := dk_96 (dk_at dksX3_gets_0 10 rfl rfl)
theorem dX3_gets_11 : decode cX3_gets 11 = .ok (.iconst 4, 1) := dk_7 (dk_at dksX3_gets_0 11 rfl rfl)
theorem dX3_gets_12 : decode cX3_gets 12 = .ok (.iadd, 1) := dk_96 (dk_at dksX3_gets_0 12 rfl rfl)
theorem dX3_gets_13 : decode cX3_gets 13 = .ok (.dup2, 1) := dk_92 (dk_at dksX3_gets_0 13 rfl rfl)
theorem dX3_gets_14 : decode cX3_gets 14 = .ok (.iaload, 1) := dk_46 (dk_at dksX3_gets_0 14 rfl rfl)
theorem dX3_gets_15 : decode cX3_gets 15 = .ok (.iload_n 3, 1) := dk_29 (dk_at dksX3_gets_0 15 rfl rfl)
theorem dX3_gets_16 : decode cX3_gets 16 = .ok (.iadd, 1) := dk_96 (dk_at dksX3_gets_0 16 rfl rfl)
theorem dX3_gets_17 : decode cX3_gets 17 = .ok (.iastore, 1) := dk_79 (dk_at dksX3_gets_0 17 rfl rfl)
theorem dX3_gets_18 : decode cX3_gets 18 = .ok (.aload_n 0, 1) := dk_42 (dk_at dksX3_gets_0 18 rfl rfl)
theorem dX3_gets_19 : decode cX3_gets 19 = .ok (.iload_n 1, 1) := dk_27 (dk_at dksX3_gets_0 19 rfl rfl)
theorem dX3_gets_20 : decode cX3_gets 20 = .ok (.aload_n 0, 1) := dk_42 (dk_at dksX3_gets_0 20 rfl rfl)
theorem dX3_gets_21 : decode cX3_gets 21 = .ok (.iload_n 1, 1) := dk_27 (dk_at dksX3_gets_0 21 rfl rfl)
theorem dX3_gets_22 : decode cX3_gets 22 = .ok (.iconst 2, 1) := dk_5 (dk_at dksX3_gets_0 22 rfl rfl)
theorem dX3_gets_23 : decode cX3_gets 23 = .ok (.invokevirtual 72, 3) := dk_182 0 72 (dk_at dksX3_gets_1 0 rfl rfl)
theorem dX3_gets_26 : decode cX3_gets 26 = .ok (.iload_n 3, 1) := dk_29 (dk_at dksX3_gets_1 3 rfl rfl)
theorem dX3_gets_27 : decode cX3_gets 27 = .ok (.isub, 1) := dk_100 (dk_at dksX3_gets_1 4 rfl rfl)
theorem dX3_gets_28 : decode cX3_gets 28 = .ok (.invokevirtual 183, 3) := dk_182 0 183 (dk_at dksX3_gets_1 5 rfl rfl)
theorem dX3_gets_31 : decode cX3_gets 31 = .ok (.iload_n 3, 1) := dk_29 (dk_at dksX3_gets_1 8 rfl rfl)
theorem dX3_gets_32 : decode cX3_gets 32 = .ok (.aload_n 0, 1) := dk_42 (dk_at dksX3_gets_1 9 rfl rfl)
theorem dX3_gets_33 : decode cX3_gets 33 = .ok (.iload_n 1, 1) := dk_27 (dk_at dksX3_gets_1 10 rfl rfl)
theorem dX3_gets_34 : decode cX3_gets 34 = .ok (.iload_n 2, 1) := dk_28 (dk_at dksX3_gets_1 11 rfl rfl)
theorem dX3_gets_35 : decode cX3_gets 35 = .ok (.invokevirtual 86, 3) := dk_182 0 86 (dk_at dksX3_gets_1 12 rfl rfl)
theorem dX3_gets_38 : decode cX3_gets 38 = .ok (.imul, 1) := dk_104 (dk_at dksX3_gets_1 15 rfl rfl)
theorem dX3_gets_39 : decode cX3_gets 39 = .ok (.bipush 10, 2) := dk_16 10 (dk_at dksX3_gets_1 16 rfl rfl)
theorem dX3_gets_41 : decode cX3_gets 41 = .ok (.idiv, 1) := dk_108 (dk_at dksX3_gets_1 18 rfl rfl)
theorem dX3_gets_42 : decode cX3_gets 42 = .ok (.istore 4, 2) := dk_54 4 (dk_at dksX3_gets_1 19 rfl rfl)
theorem dX3_gets_44 : decode cX3_gets 44 = .ok (.iload 4, 2) := dk_21 4 (dk_at dksX3_gets_1 21 rfl rfl)
theorem dX3_gets_46 : decode cX3_gets 46 = .ok (.aload_n 0, 1) := dk_42 (dk_at dksX3_gets_1 23 rfl rfl)
theorem dX3_gets_47 : decode cX3_gets 47 = .ok (.getfield 16, 3) := dk_180 0 16 (dk_at dksX3_gets_2 0 rfl rfl)
theorem dX3_gets_50 : decode cX3_gets 50 = .ok (.iconst 1, 1) := dk_4 (dk_at dksX3_gets_2 3 rfl rfl)
theorem dX3_gets_51 : decode cX3_gets 51 = .ok (.iaload, 1) := dk_46 (dk_at dksX3_gets_2 4 rfl rfl)
theorem dX3_gets_52 : decode cX3_gets 52 = .ok (.if_icmp .le 12, 3) := dk_164 0 12 (dk_at dksX3_gets_2 5 rfl rfl)
theorem dX3_gets_55 : decode cX3_gets 55 = .ok (.aload_n 0, 1) := dk_42 (dk_at dksX3_gets_2 8 rfl rfl)
theorem dX3_gets_56 : decode cX3_gets 56 = .ok (.getfield 16, 3) := dk_180 0 16 (dk_at dksX3_gets_2 9 rfl rfl)
theorem dX3_gets_59 : decode cX3_gets 59 = .ok (.iconst 1, 1) := dk_4 (dk_at dksX3_gets_2 12 rfl rfl)
theorem dX3_gets_60 : decode cX3_gets 60 = .ok (.iaload, 1) := dk_46 (dk_at dksX3_gets_2 13 rfl rfl)
theorem dX3_gets_61 : decode cX3_gets 61 = .ok (.goto 5, 3) := dk_167 0 5 (dk_at dksX3_gets_2 14 rfl rfl)
theorem dX3_gets_64 : decode cX3_gets 64 = .ok (.iload 4, 2) := dk_21 4 (dk_at dksX3_gets_2 17 rfl rfl)
theorem dX3_gets_66 : decode cX3_gets 66 = .ok (.istore 4, 2) := dk_54 4 (dk_at dksX3_gets_2 19 rfl rfl)
theorem dX3_gets_68 : decode cX3_gets 68 = .ok (.aload_n 0, 1) := dk_42 (dk_at dksX3_gets_2 21 rfl rfl)
theorem dX3_gets_69 : decode cX3_gets 69 = .ok (.getfield 16, 3) := dk_180 0 16 (dk_at dksX3_gets_3 0 rfl rfl)
theorem dX3_gets_72 : decode cX3_gets 72 = .ok (.iconst 1, 1) := dk_4 (dk_at dksX3_gets_3 3 rfl rfl)
theorem dX3_gets_73 : decode cX3_gets 73 = .ok (.dup2, 1) := dk_92 (dk_at dksX3_gets_3 4 rfl rfl)
theorem dX3_gets_74 : decode cX3_gets 74 = .ok (.iaload, 1) := dk_46 (dk_at dksX3_gets_3 5 rfl rfl)
theorem dX3_gets_75 : decode cX3_gets 75 = .ok (.iload 4, 2) := dk_21 4 (dk_at dksX3_gets_3 6 rfl rfl)
theorem dX3_gets_77 : decode cX3_gets 77 = .ok (.isub, 1) := dk_100 (dk_at dksX3_gets_3 8 rfl rfl)
theorem dX3_gets_78 : decode cX3_gets 78 = .ok (.iastore, 1) := dk_79 (dk_at dksX3_gets_3 9 rfl rfl)
theorem dX3_gets_79 : decode cX3_gets 79 = .ok (.aload_n 0, 1) := dk_42 (dk_at dksX3_gets_3 10 rfl rfl)
theorem dX3_gets_80 : decode cX3_gets 80 = .ok (.getfield 16, 3) := dk_180 0 16 (dk_at dksX3_gets_3 11 rfl rfl)
theorem dX3_gets_83 : decode cX3_gets 83 = .ok (.bipush 9, 2) := dk_16 9 (dk_at dksX3_gets_3 14 rfl rfl)
theorem dX3_gets_85 : decode cX3_gets 85 = .ok (.dup2, 1) := dk_92 (dk_at dksX3_gets_3 16 rfl rfl)
theorem dX3_gets_86 : decode cX3_gets 86 = .ok (.iaload, 1) := dk_46 (dk_at dksX3_gets_3 17 rfl rfl)
theorem dX3_gets_87 : decode cX3_gets 87 = .ok (.iload 4, 2) := dk_21 4 (dk_at dksX3_gets_3 18 rfl rfl)
theorem dX3_gets_89 : decode cX3_gets 89 = .ok (.iadd, 1) := dk_96 (dk_at dksX3_gets_3 20 rfl rfl)
theorem dX3_gets_90 : decode cX3_gets 90 = .ok (.iastore, 1) := dk_79 (dk_at dksX3_gets_3 21 rfl rfl)
theorem dX3_gets_91 : decode cX3_gets 91 = .ok (.aload_n 0, 1) := dk_42 (dk_at dksX3_gets_3 22 rfl rfl)
theorem dX3_gets_92 : decode cX3_gets 92 = .ok (.getfield 16, 3) := dk_180 0 16 (dk_at dksX3_gets_4 0 rfl rfl)
theorem dX3_gets_95 : decode cX3_gets 95 = .ok (.bipush 13, 2) := dk_16 13 (dk_at dksX3_gets_4 3 rfl rfl)
theorem dX3_gets_97 : decode cX3_gets 97 = .ok (.bipush 6, 2) := dk_16 6 (dk_at dksX3_gets_4 5 rfl rfl)
theorem dX3_gets_99 : decode cX3_gets 99 = .ok (.iload_n 1, 1) := dk_27 (dk_at dksX3_gets_4 7 rfl rfl)
theorem dX3_gets_100 : decode cX3_gets 100 = .ok (.imul, 1) := dk_104 (dk_at dksX3_gets_4 8 rfl rfl)
theorem dX3_gets_101 : decode cX3_gets 101 = .ok (.iadd, 1) := dk_96 (dk_at dksX3_gets_4 9 rfl rfl)
theorem dX3_gets_102 : decode cX3_gets 102 = .ok (.iconst 5, 1) := dk_8 (dk_at dksX3_gets_4 10 rfl rfl)
theorem dX3_gets_103 : decode cX3_gets 103 = .ok (.iadd, 1) := dk_96 (dk_at dksX3_gets_4 11 rfl rfl)
theorem dX3_gets_104 : decode cX3_gets 104 = .ok (.dup2, 1) := dk_92 (dk_at dksX3_gets_4 12 rfl rfl)
theorem dX3_gets_105 : decode cX3_gets 105 = .ok (.iaload, 1) := dk_46 (dk_at dksX3_gets_4 13 rfl rfl)
theorem dX3_gets_106 : decode cX3_gets 106 = .ok (.iload 4, 2) := dk_21 4 (dk_at dksX3_gets_4 14 rfl rfl)
theorem dX3_gets_108 : decode cX3_gets 108 = .ok (.iadd, 1) := dk_96 (dk_at dksX3_gets_4 16 rfl rfl)
theorem dX3_gets_109 : decode cX3_gets 109 = .ok (.iastore, 1) := dk_79 (dk_at dksX3_gets_4 17 rfl rfl)
theorem dX3_gets_110 : decode cX3_gets 110 = .ok (.iload_n 3, 1) := dk_29 (dk_at dksX3_gets_4 18 rfl rfl)
theorem dX3_gets_111 : decode cX3_gets 111 = .ok (.iconst 4, 1) := dk_7 (dk_at dksX3_gets_4 19 rfl rfl)
theorem dX3_gets_112 : decode cX3_gets 112 = .ok (.idiv, 1) := dk_108 (dk_at dksX3_gets_4 20 rfl rfl)
theorem dX3_gets_113 : decode cX3_gets 113 = .ok (.istore 5, 2) := dk_54 5 (dk_at dksX3_gets_4 21 rfl rfl)
theorem dX3_gets_115 : decode cX3_gets 115 = .ok (.aload_n 0, 1) := dk_42 (dk_at dksX3_gets_4 23 rfl rfl)
theorem dX3_gets_116 : decode cX3_gets 116 = .ok (.getfield 16, 3) := dk_180 0 16 (dk_at dksX3_gets_5 0 rfl rfl)
theorem dX3_gets_119 : decode cX3_gets 119 = .ok (.bipush 10, 2) := dk_16 10 (dk_at dksX3_gets_5 3 rfl rfl)
theorem dX3_gets_121 : decode cX3_gets 121 = .ok (.dup2, 1) := dk_92 (dk_at dksX3_gets_5 5 rfl rfl)
theorem dX3_gets_122 : decode cX3_gets 122 = .ok (.iaload, 1) := dk_46 (dk_at dksX3_gets_5 6 rfl rfl)
theorem dX3_gets_123 : decode cX3_gets 123 = .ok (.iload 5, 2) := dk_21 5 (dk_at dksX3_gets_5 7 rfl rfl)
theorem dX3_gets_125 : decode cX3_gets 125 = .ok (.iadd, 1) := dk_96 (dk_at dksX3_gets_5 9 rfl rfl)
theorem dX3_gets_126 : decode cX3_gets 126 = .ok (.iastore, 1) := dk_79 (dk_at dksX3_gets_5 10 rfl rfl)
theorem dX3_gets_127 : decode cX3_gets 127 = .ok (.aload_n 0, 1) := dk_42 (dk_at dksX3_gets_5 11 rfl rfl)
theorem dX3_gets_128 : decode cX3_gets 128 = .ok (.getfield 16, 3) := dk_180 0 16 (dk_at dksX3_gets_5 12 rfl rfl)
theorem dX3_gets_131 : decode cX3_gets 131 = .ok (.iconst 1, 1) := dk_4 (dk_at dksX3_gets_5 15 rfl rfl)
theorem dX3_gets_132 : decode cX3_gets 132 = .ok (.dup2, 1) := dk_92 (dk_at dksX3_gets_5 16 rfl rfl)
theorem dX3_gets_133 : decode cX3_gets 133 = .ok (.iaload, 1) := dk_46 (dk_at dksX3_gets_5 17 rfl rfl)
theorem dX3_gets_134 : decode cX3_gets 134 = .ok (.iload 5, 2) := dk_21 5 (dk_at dksX3_gets_5 18 rfl rfl)
theorem dX3_gets_136 : decode cX3_gets 136 = .ok (.iadd, 1) := dk_96 (dk_at dksX3_gets_5 20 rfl rfl)
theorem dX3_gets_137 : decode cX3_gets 137 = .ok (.iastore, 1) := dk_79 (dk_at dksX3_gets_5 21 rfl rfl)
theorem dX3_gets_138 : decode cX3_gets 138 = .ok (.aload_n 0, 1) := dk_42 (dk_at dksX3_gets_5 22 rfl rfl)
theorem dX3_gets_139 : decode cX3_gets 139 = .ok (.getfield 16, 3) := dk_180 0 16 (dk_at dksX3_gets_6 0 rfl rfl)
theorem dX3_gets_142 : decode cX3_gets 142 = .ok (.iconst 1, 1) := dk_4 (dk_at dksX3_gets_6 3 rfl rfl)
theorem dX3_gets_143 : decode cX3_gets 143 = .ok (.iaload, 1) := dk_46 (dk_at dksX3_gets_6 4 rfl rfl)
theorem dX3_gets_144 : decode cX3_gets 144 = .ok (.sipush 999, 3) := dk_17 3 231 (dk_at dksX3_gets_6 5 rfl rfl)
theorem dX3_gets_147 : decode cX3_gets 147 = .ok (.if_icmp .gt 4, 3) := dk_163 0 4 (dk_at dksX3_gets_6 8 rfl rfl)
theorem dX3_gets_150 : decode cX3_gets 150 = .ok (.return_, 1) := dk_177 (dk_at dksX3_gets_6 11 rfl rfl)
theorem dX3_gets_151 : decode cX3_gets 151 = .ok (.aload_n 0, 1) := dk_42 (dk_at dksX3_gets_6 12 rfl rfl)
theorem dX3_gets_152 : decode cX3_gets 152 = .ok (.getfield 16, 3) := dk_180 0 16 (dk_at dksX3_gets_6 13 rfl rfl)
theorem dX3_gets_155 : decode cX3_gets 155 = .ok (.bipush 11, 2) := dk_16 11 (dk_at dksX3_gets_6 16 rfl rfl)
theorem dX3_gets_157 : decode cX3_gets 157 = .ok (.dup2, 1) := dk_92 (dk_at dksX3_gets_6 18 rfl rfl)
theorem dX3_gets_158 : decode cX3_gets 158 = .ok (.iaload, 1) := dk_46 (dk_at dksX3_gets_6 19 rfl rfl)
theorem dX3_gets_159 : decode cX3_gets 159 = .ok (.aload_n 0, 1) := dk_42 (dk_at dksX3_gets_6 20 rfl rfl)
theorem dX3_gets_160 : decode cX3_gets 160 = .ok (.getfield 16, 3) := dk_180 0 16 (dk_at dksX3_gets_6 21 rfl rfl)
theorem dX3_gets_163 : decode cX3_gets 163 = .ok (.iconst 1, 1) := dk_4 (dk_at dksX3_gets_7 0 rfl rfl)
theorem dX3_gets_164 : decode cX3_gets 164 = .ok (.iaload, 1) := dk_46 (dk_at dksX3_gets_7 1 rfl rfl)
theorem dX3_gets_165 : decode cX3_gets 165 = .ok (.sipush 999, 3) := dk_17 3 231 (dk_at dksX3_gets_7 2 rfl rfl)
theorem dX3_gets_168 : decode cX3_gets 168 = .ok (.isub, 1) := dk_100 (dk_at dksX3_gets_7 5 rfl rfl)
theorem dX3_gets_169 : decode cX3_gets 169 = .ok (.iadd, 1) := dk_96 (dk_at dksX3_gets_7 6 rfl rfl)
theorem dX3_gets_170 : decode cX3_gets 170 = .ok (.iastore, 1) := dk_79 (dk_at dksX3_gets_7 7 rfl rfl)
theorem dX3_gets_171 : decode cX3_gets 171 = .ok (.aload_n 0, 1) := dk_42 (dk_at dksX3_gets_7 8 rfl rfl)
theorem dX3_gets_172 : decode cX3_gets 172 = .ok (.getfield 16, 3) := dk_180 0 16 (dk_at dksX3_gets_7 9 rfl rfl)
theorem dX3_gets_175 : decode cX3_gets 175 = .ok (.iconst 1, 1) := dk_4 (dk_at dksX3_gets_7 12 rfl rfl)
theorem dX3_gets_176 : decode cX3_gets 176 = .ok (.sipush 999, 3) := dk_17 3 231 (dk_at dksX3_gets_7 13 rfl rfl)
theorem dX3_gets_179 : decode cX3_gets 179 = .ok (.iastore, 1) := dk_79 (dk_at dksX3_gets_7 16 rfl rfl)
theorem dX3_gets_180 : decode cX3_gets 180 = .ok (.return_, 1) := dk_177 (dk_at dksX3_gets_7 17 rfl rfl)
abbrev cX3_sinks : ByteArray := prog_45_method_57_code
def yX3_sinks : MethodName := ⟨RX3, "sinks", "(IZ)V"⟩
def dkwX3_sinks_2 : List UInt8 := [182, 0, 128, 177]
abbrev dktX3_sinks_2 : List UInt8 := dkwX3_sinks_2 ++ []
def dkwX3_sinks_1 : List UInt8 := [182, 0, 128, 28, 154, 0, 22, 29, 42, 27, 5, 182, 0, 68, 164, 0, 12, 42, 27, 6, 29, 4, 100]
abbrev dktX3_sinks_1 : List UInt8 := dkwX3_sinks_1 ++ dktX3_sinks_2
def dkwX3_sinks_0 : List UInt8 := [42, 27, 6, 182, 0, 68, 62, 28, 153, 0, 18, 29, 16, 40, 162, 0, 12, 42, 27, 6, 29, 4, 96]
abbrev dktX3_sinks_0 : List UInt8 := dkwX3_sinks_0 ++ dktX3_sinks_1
theorem dksX3_sinks_0 : cX3_sinks.data.toList.drop 0 = dktX3_sinks_0 := by decide +kernel
theorem dksX3_sinks_1 : cX3_sinks.data.toList.drop 23 = dktX3_sinks_1 := dk_seg dksX3_sinks_0 23 rfl rfl
theorem dksX3_sinks_2 : cX3_sinks.data.toList.drop 46 = dktX3_sinks_2 := dk_seg dksX3_sinks_1 23 rfl rfl
theorem dX3_sinks_0 : decode cX3_sinks 0 = .ok (.aload_n 0, 1) := dk_42 (dk_at dksX3_sinks_0 0 rfl rfl)
theorem dX3_sinks_1 : decode cX3_sinks 1 = .ok (.iload_n 1, 1) := dk_27 (dk_at dksX3_sinks_0 1 rfl rfl)
theorem dX3_sinks_2 : decode cX3_sinks 2 = .ok (.iconst 3, 1) := dk_6 (dk_at dksX3_sinks_0 2 rfl rfl)
theorem dX3_sinks_3 : decode cX3_sinks 3 = .ok (.invokevirtual 68, 3) := dk_182 0 68 (dk_at dksX3_sinks_0 3 rfl rfl)
theorem dX3_sinks_6 : decode cX3_sinks 6 = .ok (.istore_n 3, 1) := dk_62 (dk_at dksX3_sinks_0 6 rfl rfl)
theorem dX3_sinks_7 : decode cX3_sinks 7 = .ok (.iload_n 2, 1) := dk_28 (dk_at dksX3_sinks_0 7 rfl rfl)
theorem dX3_sinks_8 : decode cX3_sinks 8 = .ok (.ifCond .eq 18, 3) := dk_153 0 18 (dk_at dksX3_sinks_0 8 rfl rfl)
theorem dX3_sinks_11 : decode cX3_sinks 11 = .ok (.iload_n 3, 1) := dk_29 (dk_at dksX3_sinks_0 11 rfl rfl)
theorem dX3_sinks_12 : decode cX3_sinks 12 = .ok (.bipush 40, 2) := dk_16 40 (dk_at dksX3_sinks_0 12 rfl rfl)
theorem dX3_sinks_14 : decode cX3_sinks 14 = .ok (.if_icmp .ge 12, 3) := dk_162 0 12 (dk_at dksX3_sinks_0 14 rfl rfl)
theorem dX3_sinks_17 : decode cX3_sinks 17 = .ok (.aload_n 0, 1) := dk_42 (dk_at dksX3_sinks_0 17 rfl rfl)
theorem dX3_sinks_18 : decode cX3_sinks 18 = .ok (.iload_n 1, 1) := dk_27 (dk_at dksX3_sinks_0 18 rfl rfl)
theorem dX3_sinks_19 : decode cX3_sinks 19 = .ok (.iconst 3, 1) := dk_6 (dk_at dksX3_sinks_0 19 rfl rfl)
theorem dX3_sinks_20 : decode cX3_sinks 20 = .ok (.iload_n 3, 1) := dk_29 (dk_at dksX3_sinks_0 20 rfl rfl)
theorem dX3_sinks_21 : decode cX3_sinks 21 = .ok (.iconst 1, 1) := dk_4 (dk_at dksX3_sinks_0 21 rfl rfl)
theorem dX3_sinks_22 : decode cX3_sinks 22 = .ok (.iadd, 1) := dk_96 (dk_at dksX3_sinks_0 22 rfl rfl)
theorem dX3_sinks_23 : decode cX3_sinks 23 = .ok (.invokevirtual 128, 3) := dk_182 0 128 (dk_at dksX3_sinks_1 0 rfl rfl)
theorem dX3_sinks_26 : decode cX3_sinks 26 = .ok (.iload_n 2, 1) := dk_28 (dk_at dksX3_sinks_1 3 rfl rfl)
theorem dX3_sinks_27 : decode cX3_sinks 27 = .ok (.ifCond .ne 22, 3) := dk_154 0 22 (dk_at dksX3_sinks_1 4 rfl rfl)
theorem dX3_sinks_30 : decode cX3_sinks 30 = .ok (.iload_n 3, 1) := dk_29 (dk_at dksX3_sinks_1 7 rfl rfl)
theorem dX3_sinks_31 : decode cX3_sinks 31 = .ok (.aload_n 0, 1) := dk_42 (dk_at dksX3_sinks_1 8 rfl rfl)
theorem dX3_sinks_32 : decode cX3_sinks 32 = .ok (.iload_n 1, 1) := dk_27 (dk_at dksX3_sinks_1 9 rfl rfl)
theorem dX3_sinks_33 : decode cX3_sinks 33 = .ok (.iconst 2, 1) := dk_5 (dk_at dksX3_sinks_1 10 rfl rfl)
theorem dX3_sinks_34 : decode cX3_sinks 34 = .ok (.invokevirtual 68, 3) := dk_182 0 68 (dk_at dksX3_sinks_1 11 rfl rfl)
theorem dX3_sinks_37 : decode cX3_sinks 37 = .ok (.if_icmp .le 12, 3) := dk_164 0 12 (dk_at dksX3_sinks_1 14 rfl rfl)
theorem dX3_sinks_40 : decode cX3_sinks 40 = .ok (.aload_n 0, 1) := dk_42 (dk_at dksX3_sinks_1 17 rfl rfl)
theorem dX3_sinks_41 : decode cX3_sinks 41 = .ok (.iload_n 1, 1) := dk_27 (dk_at dksX3_sinks_1 18 rfl rfl)
theorem dX3_sinks_42 : decode cX3_sinks 42 = .ok (.iconst 3, 1) := dk_6 (dk_at dksX3_sinks_1 19 rfl rfl)
theorem dX3_sinks_43 : decode cX3_sinks 43 = .ok (.iload_n 3, 1) := dk_29 (dk_at dksX3_sinks_1 20 rfl rfl)
theorem dX3_sinks_44 : decode cX3_sinks 44 = .ok (.iconst 1, 1) := dk_4 (dk_at dksX3_sinks_1 21 rfl rfl)
theorem dX3_sinks_45 : decode cX3_sinks 45 = .ok (.isub, 1) := dk_100 (dk_at dksX3_sinks_1 22 rfl rfl)
theorem dX3_sinks_46 : decode cX3_sinks 46 = .ok (.invokevirtual 128, 3) := dk_182 0 128 (dk_at dksX3_sinks_2 0 rfl rfl)
theorem dX3_sinks_49 : decode cX3_sinks 49 = .ok (.return_, 1) := dk_177 (dk_at dksX3_sinks_2 3 rfl rfl)
abbrev cX3_thirstIn : ByteArray := prog_45_method_61_code
def yX3_thirstIn : MethodName := ⟨RX3, "thirstIn", "(I)I"⟩
def dkwX3_thirstIn_1 : List UInt8 := [182, 0, 204, 28, 172]
abbrev dktX3_thirstIn_1 : List UInt8 := dkwX3_thirstIn_1 ++ []
def dkwX3_thirstIn_0 : List UInt8 := [27, 3, 16, 30, 184, 0, 52, 154, 0, 6, 16, 254, 172, 42, 182, 0, 62, 42, 27, 182, 0, 201, 61, 42]
abbrev dktX3_thirstIn_0 : List UInt8 := dkwX3_thirstIn_0 ++ dktX3_thirstIn_1
theorem dksX3_thirstIn_0 : cX3_thirstIn.data.toList.drop 0 = dktX3_thirstIn_0 := by decide +kernel
theorem dksX3_thirstIn_1 : cX3_thirstIn.data.toList.drop 24 = dktX3_thirstIn_1 := dk_seg dksX3_thirstIn_0 24 rfl rfl
theorem dX3_thirstIn_0 : decode cX3_thirstIn 0 = .ok (.iload_n 1, 1) := dk_27 (dk_at dksX3_thirstIn_0 0 rfl rfl)
theorem dX3_thirstIn_1 : decode cX3_thirstIn 1 = .ok (.iconst 0, 1) := dk_3 (dk_at dksX3_thirstIn_0 1 rfl rfl)
theorem dX3_thirstIn_2 : decode cX3_thirstIn 2 = .ok (.bipush 30, 2) := dk_16 30 (dk_at dksX3_thirstIn_0 2 rfl rfl)
theorem dX3_thirstIn_4 : decode cX3_thirstIn 4 = .ok (.invokestatic 52, 3) := dk_184 0 52 (dk_at dksX3_thirstIn_0 4 rfl rfl)
theorem dX3_thirstIn_7 : decode cX3_thirstIn 7 = .ok (.ifCond .ne 6, 3) := dk_154 0 6 (dk_at dksX3_thirstIn_0 7 rfl rfl)
theorem dX3_thirstIn_10 : decode cX3_thirstIn 10 = .ok (.bipush (-2), 2) := dk_16 254 (dk_at dksX3_thirstIn_0 10 rfl rfl)
theorem dX3_thirstIn_12 : decode cX3_thirstIn 12 = .ok (.ireturn, 1) := dk_172 (dk_at dksX3_thirstIn_0 12 rfl rfl)
theorem dX3_thirstIn_13 : decode cX3_thirstIn 13 = .ok (.aload_n 0, 1) := dk_42 (dk_at dksX3_thirstIn_0 13 rfl rfl)
theorem dX3_thirstIn_14 : decode cX3_thirstIn 14 = .ok (.invokevirtual 62, 3) := dk_182 0 62 (dk_at dksX3_thirstIn_0 14 rfl rfl)
theorem dX3_thirstIn_17 : decode cX3_thirstIn 17 = .ok (.aload_n 0, 1) := dk_42 (dk_at dksX3_thirstIn_0 17 rfl rfl)
theorem dX3_thirstIn_18 : decode cX3_thirstIn 18 = .ok (.iload_n 1, 1) := dk_27 (dk_at dksX3_thirstIn_0 18 rfl rfl)
theorem dX3_thirstIn_19 : decode cX3_thirstIn 19 = .ok (.invokevirtual 201, 3) := dk_182 0 201 (dk_at dksX3_thirstIn_0 19 rfl rfl)
theorem dX3_thirstIn_22 : decode cX3_thirstIn 22 = .ok (.istore_n 2, 1) := dk_61 (dk_at dksX3_thirstIn_0 22 rfl rfl)
theorem dX3_thirstIn_23 : decode cX3_thirstIn 23 = .ok (.aload_n 0, 1) := dk_42 (dk_at dksX3_thirstIn_0 23 rfl rfl)
theorem dX3_thirstIn_24 : decode cX3_thirstIn 24 = .ok (.invokevirtual 204, 3) := dk_182 0 204 (dk_at dksX3_thirstIn_1 0 rfl rfl)
theorem dX3_thirstIn_27 : decode cX3_thirstIn 27 = .ok (.iload_n 2, 1) := dk_28 (dk_at dksX3_thirstIn_1 3 rfl rfl)
theorem dX3_thirstIn_28 : decode cX3_thirstIn 28 = .ok (.ireturn, 1) := dk_172 (dk_at dksX3_thirstIn_1 4 rfl rfl)
abbrev cX3_forgets : ByteArray := prog_45_method_9_code
def yX3_forgets : MethodName := ⟨RX3, "forgets", "()V"⟩
def dkwX3_forgets_1 : List UInt8 := [167, 255, 235, 177]
abbrev dktX3_forgets_1 : List UInt8 := dkwX3_forgets_1 ++ []
def dkwX3_forgets_0 : List UInt8 := [3, 60, 27, 16, 112, 162, 0, 21, 42, 180, 0, 16, 27, 42, 180, 0, 25, 27, 46, 79, 132, 1, 1]
abbrev dktX3_forgets_0 : List UInt8 := dkwX3_forgets_0 ++ dktX3_forgets_1
theorem dksX3_forgets_0 : cX3_forgets.data.toList.drop 0 = dktX3_forgets_0 := by decide +kernel
theorem dksX3_forgets_1 : cX3_forgets.data.toList.drop 23 = dktX3_forgets_1 := dk_seg dksX3_forgets_0 23 rfl rfl
theorem dX3_forgets_0 : decode cX3_forgets 0 = .ok (.iconst 0, 1) := dk_3 (dk_at dksX3_forgets_0 0 rfl rfl)
theorem dX3_forgets_1 : decode cX3_forgets 1 = .ok (.istore_n 1, 1) := dk_60 (dk_at dksX3_forgets_0 1 rfl rfl)
theorem dX3_forgets_2 : decode cX3_forgets 2 = .ok (.iload_n 1, 1) := dk_27 (dk_at dksX3_forgets_0 2 rfl rfl)
theorem dX3_forgets_3 : decode cX3_forgets 3 = .ok (.bipush 112, 2) := dk_16 112 (dk_at dksX3_forgets_0 3 rfl rfl)
theorem dX3_forgets_5 : decode cX3_forgets 5 = .ok (.if_icmp .ge 21, 3) := dk_162 0 21 (dk_at dksX3_forgets_0 5 rfl rfl)
theorem dX3_forgets_8 : decode cX3_forgets 8 = .ok (.aload_n 0, 1) := dk_42 (dk_at dksX3_forgets_0 8 rfl rfl)
theorem dX3_forgets_9 : decode cX3_forgets 9 = .ok (.getfield 16, 3) := dk_180 0 16 (dk_at dksX3_forgets_0 9 rfl rfl)
theorem dX3_forgets_12 : decode cX3_forgets 12 = .ok (.iload_n 1, 1) := dk_27 (dk_at dksX3_forgets_0 12 rfl rfl)
theorem dX3_forgets_13 : decode cX3_forgets 13 = .ok (.aload_n 0, 1) := dk_42 (dk_at dksX3_forgets_0 13 rfl rfl)
theorem dX3_forgets_14 : decode cX3_forgets 14 = .ok (.getfield 25, 3) := dk_180 0 25 (dk_at dksX3_forgets_0 14 rfl rfl)
theorem dX3_forgets_17 : decode cX3_forgets 17 = .ok (.iload_n 1, 1) := dk_27 (dk_at dksX3_forgets_0 17 rfl rfl)
theorem dX3_forgets_18 : decode cX3_forgets 18 = .ok (.iaload, 1) := dk_46 (dk_at dksX3_forgets_0 18 rfl rfl)
theorem dX3_forgets_19 : decode cX3_forgets 19 = .ok (.iastore, 1) := dk_79 (dk_at dksX3_forgets_0 19 rfl rfl)
theorem dX3_forgets_20 : decode cX3_forgets 20 = .ok (.iinc 1 1, 3) := dk_132 1 1 (dk_at dksX3_forgets_0 20 rfl rfl)
theorem dX3_forgets_23 : decode cX3_forgets 23 = .ok (.goto (-21), 3) := dk_167 255 235 (dk_at dksX3_forgets_1 0 rfl rfl)
theorem dX3_forgets_26 : decode cX3_forgets 26 = .ok (.return_, 1) := dk_177 (dk_at dksX3_forgets_1 3 rfl rfl)
abbrev cX3_hamletOf : ByteArray := prog_45_method_63_code
def yX3_hamletOf : MethodName := ⟨RX3, "hamletOf", "(II)I"⟩
def dkwX3_hamletOf_4 : List UInt8 := [182, 0, 72, 172, 42, 27, 7, 182, 0, 72, 172, 42, 27, 8, 182, 0, 72, 172, 16, 254, 172]
abbrev dktX3_hamletOf_4 : List UInt8 := dkwX3_hamletOf_4 ++ []
def dkwX3_hamletOf_3 : List UInt8 := [156, 0, 8, 16, 250, 167, 0, 13, 42, 27, 42, 27, 182, 0, 96, 182, 0, 86, 172, 42, 27, 6]
abbrev dktX3_hamletOf_3 : List UInt8 := dkwX3_hamletOf_3 ++ dktX3_hamletOf_4
def dkwX3_hamletOf_2 : List UInt8 := [42, 27, 28, 182, 0, 72, 172, 42, 42, 27, 182, 0, 96, 182, 0, 210, 172, 42, 27, 182, 0, 96]
abbrev dktX3_hamletOf_2 : List UInt8 := dkwX3_hamletOf_2 ++ dktX3_hamletOf_3
def dkwX3_hamletOf_1 : List UInt8 := [170, 0, 0, 0, 107, 0, 0, 0, 0, 0, 0, 0, 7, 0, 0, 0, 45, 0, 0, 0, 45, 0, 0, 0, 45, 0, 0, 0, 52, 0, 0, 0, 62, 0, 0, 0, 86, 0, 0, 0, 93, 0, 0, 0, 100]
abbrev dktX3_hamletOf_1 : List UInt8 := dkwX3_hamletOf_1 ++ dktX3_hamletOf_2
def dkwX3_hamletOf_0 : List UInt8 := [42, 27, 182, 0, 207, 154, 0, 5, 2, 172, 28]
abbrev dktX3_hamletOf_0 : List UInt8 := dkwX3_hamletOf_0 ++ dktX3_hamletOf_1
theorem dksX3_hamletOf_0 : cX3_hamletOf.data.toList.drop 0 = dktX3_hamletOf_0 := by decide +kernel
theorem dksX3_hamletOf_1 : cX3_hamletOf.data.toList.drop 11 = dktX3_hamletOf_1 := dk_seg dksX3_hamletOf_0 11 rfl rfl
theorem dksX3_hamletOf_2 : cX3_hamletOf.data.toList.drop 56 = dktX3_hamletOf_2 := dk_seg dksX3_hamletOf_1 45 rfl rfl
theorem dksX3_hamletOf_3 : cX3_hamletOf.data.toList.drop 78 = dktX3_hamletOf_3 := dk_seg dksX3_hamletOf_2 22 rfl rfl
theorem dksX3_hamletOf_4 : cX3_hamletOf.data.toList.drop 100 = dktX3_hamletOf_4 := dk_seg dksX3_hamletOf_3 22 rfl rfl
theorem dX3_hamletOf_0 : decode cX3_hamletOf 0 = .ok (.aload_n 0, 1) := dk_42 (dk_at dksX3_hamletOf_0 0 rfl rfl)
theorem dX3_hamletOf_1 : decode cX3_hamletOf 1 = .ok (.iload_n 1, 1) := dk_27 (dk_at dksX3_hamletOf_0 1 rfl rfl)
theorem dX3_hamletOf_2 : decode cX3_hamletOf 2 = .ok (.invokevirtual 207, 3) := dk_182 0 207 (dk_at dksX3_hamletOf_0 2 rfl rfl)
theorem dX3_hamletOf_5 : decode cX3_hamletOf 5 = .ok (.ifCond .ne 5, 3) := dk_154 0 5 (dk_at dksX3_hamletOf_0 5 rfl rfl)
theorem dX3_hamletOf_8 : decode cX3_hamletOf 8 = .ok (.iconst (-1), 1) := dk_2 (dk_at dksX3_hamletOf_0 8 rfl rfl)
theorem dX3_hamletOf_9 : decode cX3_hamletOf 9 = .ok (.ireturn, 1) := dk_172 (dk_at dksX3_hamletOf_0 9 rfl rfl)
theorem dX3_hamletOf_10 : decode cX3_hamletOf 10 = .ok (.iload_n 2, 1) := dk_28 (dk_at dksX3_hamletOf_0 10 rfl rfl)
theorem dX3_hamletOf_11 : decode cX3_hamletOf 11 = .ok (.tableswitch 107 0 7 #[45, 45, 45, 52, 62, 86, 93, 100], 45) := by decide +kernel
theorem dX3_hamletOf_56 : decode cX3_hamletOf 56 = .ok (.aload_n 0, 1) := dk_42 (dk_at dksX3_hamletOf_2 0 rfl rfl)
theorem dX3_hamletOf_57 : decode cX3_hamletOf 57 = .ok (.iload_n 1, 1) := dk_27 (dk_at dksX3_hamletOf_2 1 rfl rfl)
theorem dX3_hamletOf_58 : decode cX3_hamletOf 58 = .ok (.iload_n 2, 1) := dk_28 (dk_at dksX3_hamletOf_2 2 rfl rfl)
theorem dX3_hamletOf_59 : decode cX3_hamletOf 59 = .ok (.invokevirtual 72, 3) := dk_182 0 72 (dk_at dksX3_hamletOf_2 3 rfl rfl)
theorem dX3_hamletOf_62 : decode cX3_hamletOf 62 = .ok (.ireturn, 1) := dk_172 (dk_at dksX3_hamletOf_2 6 rfl rfl)
theorem dX3_hamletOf_63 : decode cX3_hamletOf 63 = .ok (.aload_n 0, 1) := dk_42 (dk_at dksX3_hamletOf_2 7 rfl rfl)
theorem dX3_hamletOf_64 : decode cX3_hamletOf 64 = .ok (.aload_n 0, 1) := dk_42 (dk_at dksX3_hamletOf_2 8 rfl rfl)
theorem dX3_hamletOf_65 : decode cX3_hamletOf 65 = .ok (.iload_n 1, 1) := dk_27 (dk_at dksX3_hamletOf_2 9 rfl rfl)
theorem dX3_hamletOf_66 : decode cX3_hamletOf 66 = .ok (.invokevirtual 96, 3) := dk_182 0 96 (dk_at dksX3_hamletOf_2 10 rfl rfl)
theorem dX3_hamletOf_69 : decode cX3_hamletOf 69 = .ok (.invokevirtual 210, 3) := dk_182 0 210 (dk_at dksX3_hamletOf_2 13 rfl rfl)
theorem dX3_hamletOf_72 : decode cX3_hamletOf 72 = .ok (.ireturn, 1) := dk_172 (dk_at dksX3_hamletOf_2 16 rfl rfl)
theorem dX3_hamletOf_73 : decode cX3_hamletOf 73 = .ok (.aload_n 0, 1) := dk_42 (dk_at dksX3_hamletOf_2 17 rfl rfl)
theorem dX3_hamletOf_74 : decode cX3_hamletOf 74 = .ok (.iload_n 1, 1) := dk_27 (dk_at dksX3_hamletOf_2 18 rfl rfl)
theorem dX3_hamletOf_75 : decode cX3_hamletOf 75 = .ok (.invokevirtual 96, 3) := dk_182 0 96 (dk_at dksX3_hamletOf_2 19 rfl rfl)
theorem dX3_hamletOf_78 : decode cX3_hamletOf 78 = .ok (.ifCond .ge 8, 3) := dk_156 0 8 (dk_at dksX3_hamletOf_3 0 rfl rfl)
theorem dX3_hamletOf_81 : decode cX3_hamletOf 81 = .ok (.bipush (-6), 2) := dk_16 250 (dk_at dksX3_hamletOf_3 3 rfl rfl)
theorem dX3_hamletOf_83 : decode cX3_hamletOf 83 = .ok (.goto 13, 3) := dk_167 0 13 (dk_at dksX3_hamletOf_3 5 rfl rfl)
theorem dX3_hamletOf_86 : decode cX3_hamletOf 86 = .ok (.aload_n 0, 1) := dk_42 (dk_at dksX3_hamletOf_3 8 rfl rfl)
theorem dX3_hamletOf_87 : decode cX3_hamletOf 87 = .ok (.iload_n 1, 1) := dk_27 (dk_at dksX3_hamletOf_3 9 rfl rfl)
theorem dX3_hamletOf_88 : decode cX3_hamletOf 88 = .ok (.aload_n 0, 1) := dk_42 (dk_at dksX3_hamletOf_3 10 rfl rfl)
theorem dX3_hamletOf_89 : decode cX3_hamletOf 89 = .ok (.iload_n 1, 1) := dk_27 (dk_at dksX3_hamletOf_3 11 rfl rfl)
theorem dX3_hamletOf_90 : decode cX3_hamletOf 90 = .ok (.invokevirtual 96, 3) := dk_182 0 96 (dk_at dksX3_hamletOf_3 12 rfl rfl)
theorem dX3_hamletOf_93 : decode cX3_hamletOf 93 = .ok (.invokevirtual 86, 3) := dk_182 0 86 (dk_at dksX3_hamletOf_3 15 rfl rfl)
theorem dX3_hamletOf_96 : decode cX3_hamletOf 96 = .ok (.ireturn, 1) := dk_172 (dk_at dksX3_hamletOf_3 18 rfl rfl)
theorem dX3_hamletOf_97 : decode cX3_hamletOf 97 = .ok (.aload_n 0, 1) := dk_42 (dk_at dksX3_hamletOf_3 19 rfl rfl)
theorem dX3_hamletOf_98 : decode cX3_hamletOf 98 = .ok (.iload_n 1, 1) := dk_27 (dk_at dksX3_hamletOf_3 20 rfl rfl)
theorem dX3_hamletOf_99 : decode cX3_hamletOf 99 = .ok (.iconst 3, 1) := dk_6 (dk_at dksX3_hamletOf_3 21 rfl rfl)
theorem dX3_hamletOf_100 : decode cX3_hamletOf 100 = .ok (.invokevirtual 72, 3) := dk_182 0 72 (dk_at dksX3_hamletOf_4 0 rfl rfl)
theorem dX3_hamletOf_103 : decode cX3_hamletOf 103 = .ok (.ireturn, 1) := dk_172 (dk_at dksX3_hamletOf_4 3 rfl rfl)
theorem dX3_hamletOf_104 : decode cX3_hamletOf 104 = .ok (.aload_n 0, 1) := dk_42 (dk_at dksX3_hamletOf_4 4 rfl rfl)
theorem dX3_hamletOf_105 : decode cX3_hamletOf 105 = .ok (.iload_n 1, 1) := dk_27 (dk_at dksX3_hamletOf_4 5 rfl rfl)
theorem dX3_hamletOf_106 : decode cX3_hamletOf 106 = .ok (.iconst 4, 1) := dk_7 (dk_at dksX3_hamletOf_4 6 rfl rfl)
theorem dX3_hamletOf_107 : decode cX3_hamletOf 107 = .ok (.invokevirtual 72, 3) := dk_182 0 72 (dk_at dksX3_hamletOf_4 7 rfl rfl)
theorem dX3_hamletOf_110 : decode cX3_hamletOf 110 = .ok (.ireturn, 1) := dk_172 (dk_at dksX3_hamletOf_4 10 rfl rfl)
theorem dX3_hamletOf_111 : decode cX3_hamletOf 111 = .ok (.aload_n 0, 1) := dk_42 (dk_at dksX3_hamletOf_4 11 rfl rfl)
theorem dX3_hamletOf_112 : decode cX3_hamletOf 112 = .ok (.iload_n 1, 1) := dk_27 (dk_at dksX3_hamletOf_4 12 rfl rfl)
theorem dX3_hamletOf_113 : decode cX3_hamletOf 113 = .ok (.iconst 5, 1) := dk_8 (dk_at dksX3_hamletOf_4 13 rfl rfl)
theorem dX3_hamletOf_114 : decode cX3_hamletOf 114 = .ok (.invokevirtual 72, 3) := dk_182 0 72 (dk_at dksX3_hamletOf_4 14 rfl rfl)
theorem dX3_hamletOf_117 : decode cX3_hamletOf 117 = .ok (.ireturn, 1) := dk_172 (dk_at dksX3_hamletOf_4 17 rfl rfl)
theorem dX3_hamletOf_118 : decode cX3_hamletOf 118 = .ok (.bipush (-2), 2) := dk_16 254 (dk_at dksX3_hamletOf_4 18 rfl rfl)
theorem dX3_hamletOf_120 : decode cX3_hamletOf 120 = .ok (.ireturn, 1) := dk_172 (dk_at dksX3_hamletOf_4 20 rfl rfl)
abbrev cX3_isHamlet : ByteArray := prog_45_method_12_code
def yX3_isHamlet : MethodName := ⟨RX3, "isHamlet", "(I)Z"⟩
def dkwX3_isHamlet_0 : List UInt8 := [27, 3, 42, 180, 0, 16, 5, 46, 4, 100, 184, 0, 52, 172]
abbrev dktX3_isHamlet_0 : List UInt8 := dkwX3_isHamlet_0 ++ []
theorem dksX3_isHamlet_0 : cX3_isHamlet.data.toList.drop 0 = dktX3_isHamlet_0 := by decide +kernel
theorem dX3_isHamlet_0 : decode cX3_isHamlet 0 = .ok (.iload_n 1, 1) := dk_27 (dk_at dksX3_isHamlet_0 0 rfl rfl)
theorem dX3_isHamlet_1 : decode cX3_isHamlet 1 = .ok (.iconst 0, 1) := dk_3 (dk_at dksX3_isHamlet_0 1 rfl rfl)
theorem dX3_isHamlet_2 : decode cX3_isHamlet 2 = .ok (.aload_n 0, 1) := dk_42 (dk_at dksX3_isHamlet_0 2 rfl rfl)
theorem dX3_isHamlet_3 : decode cX3_isHamlet 3 = .ok (.getfield 16, 3) := dk_180 0 16 (dk_at dksX3_isHamlet_0 3 rfl rfl)
theorem dX3_isHamlet_6 : decode cX3_isHamlet 6 = .ok (.iconst 2, 1) := dk_5 (dk_at dksX3_isHamlet_0 6 rfl rfl)
theorem dX3_isHamlet_7 : decode cX3_isHamlet 7 = .ok (.iaload, 1) := dk_46 (dk_at dksX3_isHamlet_0 7 rfl rfl)
theorem dX3_isHamlet_8 : decode cX3_isHamlet 8 = .ok (.iconst 1, 1) := dk_4 (dk_at dksX3_isHamlet_0 8 rfl rfl)
theorem dX3_isHamlet_9 : decode cX3_isHamlet 9 = .ok (.isub, 1) := dk_100 (dk_at dksX3_isHamlet_0 9 rfl rfl)
theorem dX3_isHamlet_10 : decode cX3_isHamlet 10 = .ok (.invokestatic 52, 3) := dk_184 0 52 (dk_at dksX3_isHamlet_0 10 rfl rfl)
theorem dX3_isHamlet_13 : decode cX3_isHamlet 13 = .ok (.ireturn, 1) := dk_172 (dk_at dksX3_isHamlet_0 13 rfl rfl)
abbrev cX3_orNothing : ByteArray := prog_45_method_62_code
def yX3_orNothing : MethodName := ⟨RX3, "orNothing", "(I)I"⟩
def dkwX3_orNothing_0 : List UInt8 := [27, 156, 0, 8, 16, 250, 167, 0, 4, 27, 172]
abbrev dktX3_orNothing_0 : List UInt8 := dkwX3_orNothing_0 ++ []
theorem dksX3_orNothing_0 : cX3_orNothing.data.toList.drop 0 = dktX3_orNothing_0 := by decide +kernel
theorem dX3_orNothing_0 : decode cX3_orNothing 0 = .ok (.iload_n 1, 1) := dk_27 (dk_at dksX3_orNothing_0 0 rfl rfl)
theorem dX3_orNothing_1 : decode cX3_orNothing 1 = .ok (.ifCond .ge 8, 3) := dk_156 0 8 (dk_at dksX3_orNothing_0 1 rfl rfl)
theorem dX3_orNothing_4 : decode cX3_orNothing 4 = .ok (.bipush (-6), 2) := dk_16 250 (dk_at dksX3_orNothing_0 4 rfl rfl)
theorem dX3_orNothing_6 : decode cX3_orNothing 6 = .ok (.goto 4, 3) := dk_167 0 4 (dk_at dksX3_orNothing_0 6 rfl rfl)
theorem dX3_orNothing_9 : decode cX3_orNothing 9 = .ok (.iload_n 1, 1) := dk_27 (dk_at dksX3_orNothing_0 9 rfl rfl)
theorem dX3_orNothing_10 : decode cX3_orNothing 10 = .ok (.ireturn, 1) := dk_172 (dk_at dksX3_orNothing_0 10 rfl rfl)
abbrev cX3_siteOf : ByteArray := prog_45_method_64_code
def yX3_siteOf : MethodName := ⟨RX3, "siteOf", "(II)I"⟩
def dkwX3_siteOf_3 : List UInt8 := [182, 0, 213, 172, 42, 27, 182, 0, 141, 172, 42, 27, 16, 7, 182, 0, 68, 172, 16, 254, 172]
abbrev dktX3_siteOf_3 : List UInt8 := dkwX3_siteOf_3 ++ []
def dkwX3_siteOf_2 : List UInt8 := [42, 27, 28, 182, 0, 68, 172, 42, 27, 28, 4, 96, 182, 0, 68, 172, 42, 27, 182, 0, 162, 172, 42, 27]
abbrev dktX3_siteOf_2 : List UInt8 := dkwX3_siteOf_2 ++ dktX3_siteOf_3
def dkwX3_siteOf_1 : List UInt8 := [170, 0, 0, 0, 95, 0, 0, 0, 0, 0, 0, 0, 9, 0, 0, 0, 53, 0, 0, 0, 53, 0, 0, 0, 60, 0, 0, 0, 60, 0, 0, 0, 60, 0, 0, 0, 60, 0, 0, 0, 69, 0, 0, 0, 75, 0, 0, 0, 81, 0, 0, 0, 87]
abbrev dktX3_siteOf_1 : List UInt8 := dkwX3_siteOf_1 ++ dktX3_siteOf_2
def dkwX3_siteOf_0 : List UInt8 := [42, 27, 182, 0, 138, 154, 0, 5, 2, 172, 28]
abbrev dktX3_siteOf_0 : List UInt8 := dkwX3_siteOf_0 ++ dktX3_siteOf_1
theorem dksX3_siteOf_0 : cX3_siteOf.data.toList.drop 0 = dktX3_siteOf_0 := by decide +kernel
theorem dksX3_siteOf_1 : cX3_siteOf.data.toList.drop 11 = dktX3_siteOf_1 := dk_seg dksX3_siteOf_0 11 rfl rfl
theorem dksX3_siteOf_2 : cX3_siteOf.data.toList.drop 64 = dktX3_siteOf_2 := dk_seg dksX3_siteOf_1 53 rfl rfl
theorem dksX3_siteOf_3 : cX3_siteOf.data.toList.drop 88 = dktX3_siteOf_3 := dk_seg dksX3_siteOf_2 24 rfl rfl
theorem dX3_siteOf_0 : decode cX3_siteOf 0 = .ok (.aload_n 0, 1) := dk_42 (dk_at dksX3_siteOf_0 0 rfl rfl)
theorem dX3_siteOf_1 : decode cX3_siteOf 1 = .ok (.iload_n 1, 1) := dk_27 (dk_at dksX3_siteOf_0 1 rfl rfl)
theorem dX3_siteOf_2 : decode cX3_siteOf 2 = .ok (.invokevirtual 138, 3) := dk_182 0 138 (dk_at dksX3_siteOf_0 2 rfl rfl)
theorem dX3_siteOf_5 : decode cX3_siteOf 5 = .ok (.ifCond .ne 5, 3) := dk_154 0 5 (dk_at dksX3_siteOf_0 5 rfl rfl)
theorem dX3_siteOf_8 : decode cX3_siteOf 8 = .ok (.iconst (-1), 1) := dk_2 (dk_at dksX3_siteOf_0 8 rfl rfl)
theorem dX3_siteOf_9 : decode cX3_siteOf 9 = .ok (.ireturn, 1) := dk_172 (dk_at dksX3_siteOf_0 9 rfl rfl)
theorem dX3_siteOf_10 : decode cX3_siteOf 10 = .ok (.iload_n 2, 1) := dk_28 (dk_at dksX3_siteOf_0 10 rfl rfl)
theorem dX3_siteOf_11 : decode cX3_siteOf 11 = .ok (.tableswitch 95 0 9 #[53, 53, 60, 60, 60, 60, 69, 75, 81, 87], 53) := by decide +kernel
theorem dX3_siteOf_64 : decode cX3_siteOf 64 = .ok (.aload_n 0, 1) := dk_42 (dk_at dksX3_siteOf_2 0 rfl rfl)
theorem dX3_siteOf_65 : decode cX3_siteOf 65 = .ok (.iload_n 1, 1) := dk_27 (dk_at dksX3_siteOf_2 1 rfl rfl)
theorem dX3_siteOf_66 : decode cX3_siteOf 66 = .ok (.iload_n 2, 1) := dk_28 (dk_at dksX3_siteOf_2 2 rfl rfl)
theorem dX3_siteOf_67 : decode cX3_siteOf 67 = .ok (.invokevirtual 68, 3) := dk_182 0 68 (dk_at dksX3_siteOf_2 3 rfl rfl)
theorem dX3_siteOf_70 : decode cX3_siteOf 70 = .ok (.ireturn, 1) := dk_172 (dk_at dksX3_siteOf_2 6 rfl rfl)
theorem dX3_siteOf_71 : decode cX3_siteOf 71 = .ok (.aload_n 0, 1) := dk_42 (dk_at dksX3_siteOf_2 7 rfl rfl)
theorem dX3_siteOf_72 : decode cX3_siteOf 72 = .ok (.iload_n 1, 1) := dk_27 (dk_at dksX3_siteOf_2 8 rfl rfl)
theorem dX3_siteOf_73 : decode cX3_siteOf 73 = .ok (.iload_n 2, 1) := dk_28 (dk_at dksX3_siteOf_2 9 rfl rfl)
theorem dX3_siteOf_74 : decode cX3_siteOf 74 = .ok (.iconst 1, 1) := dk_4 (dk_at dksX3_siteOf_2 10 rfl rfl)
theorem dX3_siteOf_75 : decode cX3_siteOf 75 = .ok (.iadd, 1) := dk_96 (dk_at dksX3_siteOf_2 11 rfl rfl)
theorem dX3_siteOf_76 : decode cX3_siteOf 76 = .ok (.invokevirtual 68, 3) := dk_182 0 68 (dk_at dksX3_siteOf_2 12 rfl rfl)
theorem dX3_siteOf_79 : decode cX3_siteOf 79 = .ok (.ireturn, 1) := dk_172 (dk_at dksX3_siteOf_2 15 rfl rfl)
theorem dX3_siteOf_80 : decode cX3_siteOf 80 = .ok (.aload_n 0, 1) := dk_42 (dk_at dksX3_siteOf_2 16 rfl rfl)
theorem dX3_siteOf_81 : decode cX3_siteOf 81 = .ok (.iload_n 1, 1) := dk_27 (dk_at dksX3_siteOf_2 17 rfl rfl)
theorem dX3_siteOf_82 : decode cX3_siteOf 82 = .ok (.invokevirtual 162, 3) := dk_182 0 162 (dk_at dksX3_siteOf_2 18 rfl rfl)
theorem dX3_siteOf_85 : decode cX3_siteOf 85 = .ok (.ireturn, 1) := dk_172 (dk_at dksX3_siteOf_2 21 rfl rfl)
theorem dX3_siteOf_86 : decode cX3_siteOf 86 = .ok (.aload_n 0, 1) := dk_42 (dk_at dksX3_siteOf_2 22 rfl rfl)
theorem dX3_siteOf_87 : decode cX3_siteOf 87 = .ok (.iload_n 1, 1) := dk_27 (dk_at dksX3_siteOf_2 23 rfl rfl)
theorem dX3_siteOf_88 : decode cX3_siteOf 88 = .ok (.invokevirtual 213, 3) := dk_182 0 213 (dk_at dksX3_siteOf_3 0 rfl rfl)
theorem dX3_siteOf_91 : decode cX3_siteOf 91 = .ok (.ireturn, 1) := dk_172 (dk_at dksX3_siteOf_3 3 rfl rfl)
theorem dX3_siteOf_92 : decode cX3_siteOf 92 = .ok (.aload_n 0, 1) := dk_42 (dk_at dksX3_siteOf_3 4 rfl rfl)
theorem dX3_siteOf_93 : decode cX3_siteOf 93 = .ok (.iload_n 1, 1) := dk_27 (dk_at dksX3_siteOf_3 5 rfl rfl)
theorem dX3_siteOf_94 : decode cX3_siteOf 94 = .ok (.invokevirtual 141, 3) := dk_182 0 141 (dk_at dksX3_siteOf_3 6 rfl rfl)
theorem dX3_siteOf_97 : decode cX3_siteOf 97 = .ok (.ireturn, 1) := dk_172 (dk_at dksX3_siteOf_3 9 rfl rfl)
theorem dX3_siteOf_98 : decode cX3_siteOf 98 = .ok (.aload_n 0, 1) := dk_42 (dk_at dksX3_siteOf_3 10 rfl rfl)
theorem dX3_siteOf_99 : decode cX3_siteOf 99 = .ok (.iload_n 1, 1) := dk_27 (dk_at dksX3_siteOf_3 11 rfl rfl)
theorem dX3_siteOf_100 : decode cX3_siteOf 100 = .ok (.bipush 7, 2) := dk_16 7 (dk_at dksX3_siteOf_3 12 rfl rfl)
theorem dX3_siteOf_102 : decode cX3_siteOf 102 = .ok (.invokevirtual 68, 3) := dk_182 0 68 (dk_at dksX3_siteOf_3 14 rfl rfl)
theorem dX3_siteOf_105 : decode cX3_siteOf 105 = .ok (.ireturn, 1) := dk_172 (dk_at dksX3_siteOf_3 17 rfl rfl)
theorem dX3_siteOf_106 : decode cX3_siteOf 106 = .ok (.bipush (-2), 2) := dk_16 254 (dk_at dksX3_siteOf_3 18 rfl rfl)
theorem dX3_siteOf_108 : decode cX3_siteOf 108 = .ok (.ireturn, 1) := dk_172 (dk_at dksX3_siteOf_3 20 rfl rfl)
abbrev cX3_asked : ByteArray := prog_45_method_26_code
def yX3_asked : MethodName := ⟨RX3, "asked", "(I)I"⟩
def dkwX3_asked_1 : List UInt8 := [42, 29, 5, 182, 0, 72, 167, 0, 4, 3, 96, 61, 132, 3, 1, 167, 255, 221, 28, 172]
abbrev dktX3_asked_1 : List UInt8 := dkwX3_asked_1 ++ []
def dkwX3_asked_0 : List UInt8 := [3, 61, 3, 62, 29, 42, 180, 0, 16, 5, 46, 162, 0, 31, 28, 42, 29, 182, 0, 96, 27, 160, 0, 12]
abbrev dktX3_asked_0 : List UInt8 := dkwX3_asked_0 ++ dktX3_asked_1
theorem dksX3_asked_0 : cX3_asked.data.toList.drop 0 = dktX3_asked_0 := by decide +kernel
theorem dksX3_asked_1 : cX3_asked.data.toList.drop 24 = dktX3_asked_1 := dk_seg dksX3_asked_0 24 rfl rfl
theorem dX3_asked_0 : decode cX3_asked 0 = .ok (.iconst 0, 1) := dk_3 (dk_at dksX3_asked_0 0 rfl rfl)
theorem dX3_asked_1 : decode cX3_asked 1 = .ok (.istore_n 2, 1) := dk_61 (dk_at dksX3_asked_0 1 rfl rfl)
theorem dX3_asked_2 : decode cX3_asked 2 = .ok (.iconst 0, 1) := dk_3 (dk_at dksX3_asked_0 2 rfl rfl)
theorem dX3_asked_3 : decode cX3_asked 3 = .ok (.istore_n 3, 1) := dk_62 (dk_at dksX3_asked_0 3 rfl rfl)
theorem dX3_asked_4 : decode cX3_asked 4 = .ok (.iload_n 3, 1) := dk_29 (dk_at dksX3_asked_0 4 rfl rfl)
theorem dX3_asked_5 : decode cX3_asked 5 = .ok (.aload_n 0, 1) := dk_42 (dk_at dksX3_asked_0 5 rfl rfl)
theorem dX3_asked_6 : decode cX3_asked 6 = .ok (.getfield 16, 3) := dk_180 0 16 (dk_at dksX3_asked_0 6 rfl rfl)
theorem dX3_asked_9 : decode cX3_asked 9 = .ok (.iconst 2, 1) := dk_5 (dk_at dksX3_asked_0 9 rfl rfl)
theorem dX3_asked_10 : decode cX3_asked 10 = .ok (.iaload, 1) := dk_46 (dk_at dksX3_asked_0 10 rfl rfl)
theorem dX3_asked_11 : decode cX3_asked 11 = .ok (.if_icmp .ge 31, 3) := dk_162 0 31 (dk_at dksX3_asked_0 11 rfl rfl)
theorem dX3_asked_14 : decode cX3_asked 14 = .ok (.iload_n 2, 1) := dk_28 (dk_at dksX3_asked_0 14 rfl rfl)
theorem dX3_asked_15 : decode cX3_asked 15 = .ok (.aload_n 0, 1) := dk_42 (dk_at dksX3_asked_0 15 rfl rfl)
theorem dX3_asked_16 : decode cX3_asked 16 = .ok (.iload_n 3, 1) := dk_29 (dk_at dksX3_asked_0 16 rfl rfl)
theorem dX3_asked_17 : decode cX3_asked 17 = .ok (.invokevirtual 96, 3) := dk_182 0 96 (dk_at dksX3_asked_0 17 rfl rfl)
theorem dX3_asked_20 : decode cX3_asked 20 = .ok (.iload_n 1, 1) := dk_27 (dk_at dksX3_asked_0 20 rfl rfl)
theorem dX3_asked_21 : decode cX3_asked 21 = .ok (.if_icmp .ne 12, 3) := dk_160 0 12 (dk_at dksX3_asked_0 21 rfl rfl)
theorem dX3_asked_24 : decode cX3_asked 24 = .ok (.aload_n 0, 1) := dk_42 (dk_at dksX3_asked_1 0 rfl rfl)
theorem dX3_asked_25 : decode cX3_asked 25 = .ok (.iload_n 3, 1) := dk_29 (dk_at dksX3_asked_1 1 rfl rfl)
theorem dX3_asked_26 : decode cX3_asked 26 = .ok (.iconst 2, 1) := dk_5 (dk_at dksX3_asked_1 2 rfl rfl)
theorem dX3_asked_27 : decode cX3_asked 27 = .ok (.invokevirtual 72, 3) := dk_182 0 72 (dk_at dksX3_asked_1 3 rfl rfl)
theorem dX3_asked_30 : decode cX3_asked 30 = .ok (.goto 4, 3) := dk_167 0 4 (dk_at dksX3_asked_1 6 rfl rfl)
theorem dX3_asked_33 : decode cX3_asked 33 = .ok (.iconst 0, 1) := dk_3 (dk_at dksX3_asked_1 9 rfl rfl)
theorem dX3_asked_34 : decode cX3_asked 34 = .ok (.iadd, 1) := dk_96 (dk_at dksX3_asked_1 10 rfl rfl)
theorem dX3_asked_35 : decode cX3_asked 35 = .ok (.istore_n 2, 1) := dk_61 (dk_at dksX3_asked_1 11 rfl rfl)
theorem dX3_asked_36 : decode cX3_asked 36 = .ok (.iinc 3 1, 3) := dk_132 3 1 (dk_at dksX3_asked_1 12 rfl rfl)
theorem dX3_asked_39 : decode cX3_asked 39 = .ok (.goto (-35), 3) := dk_167 255 221 (dk_at dksX3_asked_1 15 rfl rfl)
theorem dX3_asked_42 : decode cX3_asked 42 = .ok (.iload_n 2, 1) := dk_28 (dk_at dksX3_asked_1 18 rfl rfl)
theorem dX3_asked_43 : decode cX3_asked 43 = .ok (.ireturn, 1) := dk_172 (dk_at dksX3_asked_1 19 rfl rfl)
abbrev cX3_drinker : ByteArray := prog_45_method_65_code
def yX3_drinker : MethodName := ⟨RX3, "drinker", "(II)I"⟩
def dkwX3_drinker_2 : List UInt8 := [132, 3, 1, 132, 4, 1, 167, 255, 218, 2, 172]
abbrev dktX3_drinker_2 : List UInt8 := dkwX3_drinker_2 ++ []
def dkwX3_drinker_1 : List UInt8 := [162, 0, 33, 42, 21, 4, 182, 0, 96, 27, 159, 0, 6, 167, 0, 14, 29, 28, 160, 0, 6, 21, 4, 172]
abbrev dktX3_drinker_1 : List UInt8 := dkwX3_drinker_1 ++ dktX3_drinker_2
def dkwX3_drinker_0 : List UInt8 := [42, 27, 182, 0, 138, 154, 0, 5, 2, 172, 3, 62, 3, 54, 4, 21, 4, 42, 180, 0, 16, 5, 46]
abbrev dktX3_drinker_0 : List UInt8 := dkwX3_drinker_0 ++ dktX3_drinker_1
theorem dksX3_drinker_0 : cX3_drinker.data.toList.drop 0 = dktX3_drinker_0 := by decide +kernel
theorem dksX3_drinker_1 : cX3_drinker.data.toList.drop 23 = dktX3_drinker_1 := dk_seg dksX3_drinker_0 23 rfl rfl
theorem dksX3_drinker_2 : cX3_drinker.data.toList.drop 47 = dktX3_drinker_2 := dk_seg dksX3_drinker_1 24 rfl rfl
theorem dX3_drinker_0 : decode cX3_drinker 0 = .ok (.aload_n 0, 1) := dk_42 (dk_at dksX3_drinker_0 0 rfl rfl)
theorem dX3_drinker_1 : decode cX3_drinker 1 = .ok (.iload_n 1, 1) := dk_27 (dk_at dksX3_drinker_0 1 rfl rfl)
theorem dX3_drinker_2 : decode cX3_drinker 2 = .ok (.invokevirtual 138, 3) := dk_182 0 138 (dk_at dksX3_drinker_0 2 rfl rfl)
theorem dX3_drinker_5 : decode cX3_drinker 5 = .ok (.ifCond .ne 5, 3) := dk_154 0 5 (dk_at dksX3_drinker_0 5 rfl rfl)
theorem dX3_drinker_8 : decode cX3_drinker 8 = .ok (.iconst (-1), 1) := dk_2 (dk_at dksX3_drinker_0 8 rfl rfl)
theorem dX3_drinker_9 : decode cX3_drinker 9 = .ok (.ireturn, 1) := dk_172 (dk_at dksX3_drinker_0 9 rfl rfl)
theorem dX3_drinker_10 : decode cX3_drinker 10 = .ok (.iconst 0, 1) := dk_3 (dk_at dksX3_drinker_0 10 rfl rfl)
theorem dX3_drinker_11 : decode cX3_drinker 11 = .ok (.istore_n 3, 1) := dk_62 (dk_at dksX3_drinker_0 11 rfl rfl)
theorem dX3_drinker_12 : decode cX3_drinker 12 = .ok (.iconst 0, 1) := dk_3 (dk_at dksX3_drinker_0 12 rfl rfl)
theorem dX3_drinker_13 : decode cX3_drinker 13 = .ok (.istore 4, 2) := dk_54 4 (dk_at dksX3_drinker_0 13 rfl rfl)
theorem dX3_drinker_15 : decode cX3_drinker 15 = .ok (.iload 4, 2) := dk_21 4 (dk_at dksX3_drinker_0 15 rfl rfl)
theorem dX3_drinker_17 : decode cX3_drinker 17 = .ok (.aload_n 0, 1) := dk_42 (dk_at dksX3_drinker_0 17 rfl rfl)
theorem dX3_drinker_18 : decode cX3_drinker 18 = .ok (.getfield 16, 3) := dk_180 0 16 (dk_at dksX3_drinker_0 18 rfl rfl)
theorem dX3_drinker_21 : decode cX3_drinker 21 = .ok (.iconst 2, 1) := dk_5 (dk_at dksX3_drinker_0 21 rfl rfl)
theorem dX3_drinker_22 : decode cX3_drinker 22 = .ok (.iaload, 1) := dk_46 (dk_at dksX3_drinker_0 22 rfl rfl)
theorem dX3_drinker_23 : decode cX3_drinker 23 = .ok (.if_icmp .ge 33, 3) := dk_162 0 33 (dk_at dksX3_drinker_1 0 rfl rfl)
theorem dX3_drinker_26 : decode cX3_drinker 26 = .ok (.aload_n 0, 1) := dk_42 (dk_at dksX3_drinker_1 3 rfl rfl)
theorem dX3_drinker_27 : decode cX3_drinker 27 = .ok (.iload 4, 2) := dk_21 4 (dk_at dksX3_drinker_1 4 rfl rfl)
theorem dX3_drinker_29 : decode cX3_drinker 29 = .ok (.invokevirtual 96, 3) := dk_182 0 96 (dk_at dksX3_drinker_1 6 rfl rfl)
theorem dX3_drinker_32 : decode cX3_drinker 32 = .ok (.iload_n 1, 1) := dk_27 (dk_at dksX3_drinker_1 9 rfl rfl)
theorem dX3_drinker_33 : decode cX3_drinker 33 = .ok (.if_icmp .eq 6, 3) := dk_159 0 6 (dk_at dksX3_drinker_1 10 rfl rfl)
theorem dX3_drinker_36 : decode cX3_drinker 36 = .ok (.goto 14, 3) := dk_167 0 14 (dk_at dksX3_drinker_1 13 rfl rfl)
theorem dX3_drinker_39 : decode cX3_drinker 39 = .ok (.iload_n 3, 1) := dk_29 (dk_at dksX3_drinker_1 16 rfl rfl)
theorem dX3_drinker_40 : decode cX3_drinker 40 = .ok (.iload_n 2, 1) := dk_28 (dk_at dksX3_drinker_1 17 rfl rfl)
theorem dX3_drinker_41 : decode cX3_drinker 41 = .ok (.if_icmp .ne 6, 3) := dk_160 0 6 (dk_at dksX3_drinker_1 18 rfl rfl)
theorem dX3_drinker_44 : decode cX3_drinker 44 = .ok (.iload 4, 2) := dk_21 4 (dk_at dksX3_drinker_1 21 rfl rfl)
theorem dX3_drinker_46 : decode cX3_drinker 46 = .ok (.ireturn, 1) := dk_172 (dk_at dksX3_drinker_1 23 rfl rfl)
theorem dX3_drinker_47 : decode cX3_drinker 47 = .ok (.iinc 3 1, 3) := dk_132 3 1 (dk_at dksX3_drinker_2 0 rfl rfl)
theorem dX3_drinker_50 : decode cX3_drinker 50 = .ok (.iinc 4 1, 3) := dk_132 4 1 (dk_at dksX3_drinker_2 3 rfl rfl)
theorem dX3_drinker_53 : decode cX3_drinker 53 = .ok (.goto (-38), 3) := dk_167 255 218 (dk_at dksX3_drinker_2 6 rfl rfl)
theorem dX3_drinker_56 : decode cX3_drinker 56 = .ok (.iconst (-1), 1) := dk_2 (dk_at dksX3_drinker_2 9 rfl rfl)
theorem dX3_drinker_57 : decode cX3_drinker 57 = .ok (.ireturn, 1) := dk_172 (dk_at dksX3_drinker_2 10 rfl rfl)
abbrev cX3_cost : ByteArray := prog_45_method_69_code
def yX3_cost : MethodName := ⟨RX3, "cost", "(I)I"⟩
def dkwX3_cost_1 : List UInt8 := [182, 0, 222, 167, 0, 5, 16, 250, 172]
abbrev dktX3_cost_1 : List UInt8 := dkwX3_cost_1 ++ []
def dkwX3_cost_0 : List UInt8 := [42, 27, 182, 0, 216, 154, 0, 8, 16, 254, 167, 0, 21, 42, 27, 182, 0, 219, 153, 0, 11, 42, 27]
abbrev dktX3_cost_0 : List UInt8 := dkwX3_cost_0 ++ dktX3_cost_1
theorem dksX3_cost_0 : cX3_cost.data.toList.drop 0 = dktX3_cost_0 := by decide +kernel
theorem dksX3_cost_1 : cX3_cost.data.toList.drop 23 = dktX3_cost_1 := dk_seg dksX3_cost_0 23 rfl rfl
theorem dX3_cost_0 : decode cX3_cost 0 = .ok (.aload_n 0, 1) := dk_42 (dk_at dksX3_cost_0 0 rfl rfl)
theorem dX3_cost_1 : decode cX3_cost 1 = .ok (.iload_n 1, 1) := dk_27 (dk_at dksX3_cost_0 1 rfl rfl)
theorem dX3_cost_2 : decode cX3_cost 2 = .ok (.invokevirtual 216, 3) := dk_182 0 216 (dk_at dksX3_cost_0 2 rfl rfl)
theorem dX3_cost_5 : decode cX3_cost 5 = .ok (.ifCond .ne 8, 3) := dk_154 0 8 (dk_at dksX3_cost_0 5 rfl rfl)
theorem dX3_cost_8 : decode cX3_cost 8 = .ok (.bipush (-2), 2) := dk_16 254 (dk_at dksX3_cost_0 8 rfl rfl)
theorem dX3_cost_10 : decode cX3_cost 10 = .ok (.goto 21, 3) := dk_167 0 21 (dk_at dksX3_cost_0 10 rfl rfl)
theorem dX3_cost_13 : decode cX3_cost 13 = .ok (.aload_n 0, 1) := dk_42 (dk_at dksX3_cost_0 13 rfl rfl)
theorem dX3_cost_14 : decode cX3_cost 14 = .ok (.iload_n 1, 1) := dk_27 (dk_at dksX3_cost_0 14 rfl rfl)
theorem dX3_cost_15 : decode cX3_cost 15 = .ok (.invokevirtual 219, 3) := dk_182 0 219 (dk_at dksX3_cost_0 15 rfl rfl)
theorem dX3_cost_18 : decode cX3_cost 18 = .ok (.ifCond .eq 11, 3) := dk_153 0 11 (dk_at dksX3_cost_0 18 rfl rfl)
theorem dX3_cost_21 : decode cX3_cost 21 = .ok (.aload_n 0, 1) := dk_42 (dk_at dksX3_cost_0 21 rfl rfl)
theorem dX3_cost_22 : decode cX3_cost 22 = .ok (.iload_n 1, 1) := dk_27 (dk_at dksX3_cost_0 22 rfl rfl)
theorem dX3_cost_23 : decode cX3_cost 23 = .ok (.invokevirtual 222, 3) := dk_182 0 222 (dk_at dksX3_cost_1 0 rfl rfl)
theorem dX3_cost_26 : decode cX3_cost 26 = .ok (.goto 5, 3) := dk_167 0 5 (dk_at dksX3_cost_1 3 rfl rfl)
theorem dX3_cost_29 : decode cX3_cost 29 = .ok (.bipush (-6), 2) := dk_16 250 (dk_at dksX3_cost_1 6 rfl rfl)
theorem dX3_cost_31 : decode cX3_cost 31 = .ok (.ireturn, 1) := dk_172 (dk_at dksX3_cost_1 8 rfl rfl)
abbrev cX3_isSet : ByteArray := prog_45_method_68_code
def yX3_isSet : MethodName := ⟨RX3, "isSet", "(I)Z"⟩
def dkwX3_isSet_0 : List UInt8 := [27, 3, 4, 42, 180, 0, 16, 6, 46, 120, 4, 100, 184, 0, 52, 172]
abbrev dktX3_isSet_0 : List UInt8 := dkwX3_isSet_0 ++ []
theorem dksX3_isSet_0 : cX3_isSet.data.toList.drop 0 = dktX3_isSet_0 := by decide +kernel
theorem dX3_isSet_0 : decode cX3_isSet 0 = .ok (.iload_n 1, 1) := dk_27 (dk_at dksX3_isSet_0 0 rfl rfl)
theorem dX3_isSet_1 : decode cX3_isSet 1 = .ok (.iconst 0, 1) := dk_3 (dk_at dksX3_isSet_0 1 rfl rfl)
theorem dX3_isSet_2 : decode cX3_isSet 2 = .ok (.iconst 1, 1) := dk_4 (dk_at dksX3_isSet_0 2 rfl rfl)
theorem dX3_isSet_3 : decode cX3_isSet 3 = .ok (.aload_n 0, 1) := dk_42 (dk_at dksX3_isSet_0 3 rfl rfl)
theorem dX3_isSet_4 : decode cX3_isSet 4 = .ok (.getfield 16, 3) := dk_180 0 16 (dk_at dksX3_isSet_0 4 rfl rfl)
theorem dX3_isSet_7 : decode cX3_isSet 7 = .ok (.iconst 3, 1) := dk_6 (dk_at dksX3_isSet_0 7 rfl rfl)
theorem dX3_isSet_8 : decode cX3_isSet 8 = .ok (.iaload, 1) := dk_46 (dk_at dksX3_isSet_0 8 rfl rfl)
theorem dX3_isSet_9 : decode cX3_isSet 9 = .ok (.ishl, 1) := dk_120 (dk_at dksX3_isSet_0 9 rfl rfl)
theorem dX3_isSet_10 : decode cX3_isSet 10 = .ok (.iconst 1, 1) := dk_4 (dk_at dksX3_isSet_0 10 rfl rfl)
theorem dX3_isSet_11 : decode cX3_isSet 11 = .ok (.isub, 1) := dk_100 (dk_at dksX3_isSet_0 11 rfl rfl)
theorem dX3_isSet_12 : decode cX3_isSet 12 = .ok (.invokestatic 52, 3) := dk_184 0 52 (dk_at dksX3_isSet_0 12 rfl rfl)
theorem dX3_isSet_15 : decode cX3_isSet 15 = .ok (.ireturn, 1) := dk_172 (dk_at dksX3_isSet_0 15 rfl rfl)
abbrev cX3_isPlan : ByteArray := prog_45_method_66_code
def yX3_isPlan : MethodName := ⟨RX3, "isPlan", "(I)Z"⟩
def dkwX3_isPlan_0 : List UInt8 := [27, 154, 0, 12, 42, 180, 0, 16, 5, 46, 154, 0, 7, 4, 167, 0, 4, 3, 172]
abbrev dktX3_isPlan_0 : List UInt8 := dkwX3_isPlan_0 ++ []
theorem dksX3_isPlan_0 : cX3_isPlan.data.toList.drop 0 = dktX3_isPlan_0 := by decide +kernel
theorem dX3_isPlan_0 : decode cX3_isPlan 0 = .ok (.iload_n 1, 1) := dk_27 (dk_at dksX3_isPlan_0 0 rfl rfl)
theorem dX3_isPlan_1 : decode cX3_isPlan 1 = .ok (.ifCond .ne 12, 3) := dk_154 0 12 (dk_at dksX3_isPlan_0 1 rfl rfl)
theorem dX3_isPlan_4 : decode cX3_isPlan 4 = .ok (.aload_n 0, 1) := dk_42 (dk_at dksX3_isPlan_0 4 rfl rfl)
theorem dX3_isPlan_5 : decode cX3_isPlan 5 = .ok (.getfield 16, 3) := dk_180 0 16 (dk_at dksX3_isPlan_0 5 rfl rfl)
theorem dX3_isPlan_8 : decode cX3_isPlan 8 = .ok (.iconst 2, 1) := dk_5 (dk_at dksX3_isPlan_0 8 rfl rfl)
theorem dX3_isPlan_9 : decode cX3_isPlan 9 = .ok (.iaload, 1) := dk_46 (dk_at dksX3_isPlan_0 9 rfl rfl)
theorem dX3_isPlan_10 : decode cX3_isPlan 10 = .ok (.ifCond .ne 7, 3) := dk_154 0 7 (dk_at dksX3_isPlan_0 10 rfl rfl)
theorem dX3_isPlan_13 : decode cX3_isPlan 13 = .ok (.iconst 1, 1) := dk_4 (dk_at dksX3_isPlan_0 13 rfl rfl)
theorem dX3_isPlan_14 : decode cX3_isPlan 14 = .ok (.goto 4, 3) := dk_167 0 4 (dk_at dksX3_isPlan_0 14 rfl rfl)
theorem dX3_isPlan_17 : decode cX3_isPlan 17 = .ok (.iconst 0, 1) := dk_3 (dk_at dksX3_isPlan_0 17 rfl rfl)
theorem dX3_isPlan_18 : decode cX3_isPlan 18 = .ok (.ireturn, 1) := dk_172 (dk_at dksX3_isPlan_0 18 rfl rfl)
abbrev cX3_costOf : ByteArray := prog_45_method_67_code
def yX3_costOf : MethodName := ⟨RX3, "costOf", "(I)I"⟩
def dkwX3_costOf_3 : List UInt8 := [61, 132, 3, 1, 167, 255, 222, 28, 172]
abbrev dktX3_costOf_3 : List UInt8 := dkwX3_costOf_3 ++ []
def dkwX3_costOf_2 : List UInt8 := [46, 162, 0, 30, 28, 42, 29, 5, 182, 0, 72, 42, 29, 42, 29, 27, 182, 0, 93, 182, 0, 86, 104, 96]
abbrev dktX3_costOf_2 : List UInt8 := dkwX3_costOf_2 ++ dktX3_costOf_3
def dkwX3_costOf_1 : List UInt8 := [29, 182, 0, 144, 167, 0, 4, 3, 96, 61, 132, 3, 1, 167, 255, 223, 3, 62, 29, 42, 180, 0, 16, 5]
abbrev dktX3_costOf_1 : List UInt8 := dkwX3_costOf_1 ++ dktX3_costOf_2
def dkwX3_costOf_0 : List UInt8 := [3, 61, 3, 62, 29, 42, 180, 0, 16, 6, 46, 162, 0, 29, 28, 27, 29, 184, 0, 82, 153, 0, 11, 42]
abbrev dktX3_costOf_0 : List UInt8 := dkwX3_costOf_0 ++ dktX3_costOf_1
theorem dksX3_costOf_0 : cX3_costOf.data.toList.drop 0 = dktX3_costOf_0 := by decide +kernel
theorem dksX3_costOf_1 : cX3_costOf.data.toList.drop 24 = dktX3_costOf_1 := dk_seg dksX3_costOf_0 24 rfl rfl
theorem dksX3_costOf_2 : cX3_costOf.data.toList.drop 48 = dktX3_costOf_2 := dk_seg dksX3_costOf_1 24 rfl rfl
theorem dksX3_costOf_3 : cX3_costOf.data.toList.drop 72 = dktX3_costOf_3 := dk_seg dksX3_costOf_2 24 rfl rfl
theorem dX3_costOf_0 : decode cX3_costOf 0 = .ok (.iconst 0, 1) := dk_3 (dk_at dksX3_costOf_0 0 rfl rfl)
theorem dX3_costOf_1 : decode cX3_costOf 1 = .ok (.istore_n 2, 1) := dk_61 (dk_at dksX3_costOf_0 1 rfl rfl)
theorem dX3_costOf_2 : decode cX3_costOf 2 = .ok (.iconst 0, 1) := dk_3 (dk_at dksX3_costOf_0 2 rfl rfl)
theorem dX3_costOf_3 : decode cX3_costOf 3 = .ok (.istore_n 3, 1) := dk_62 (dk_at dksX3_costOf_0 3 rfl rfl)
theorem dX3_costOf_4 : decode cX3_costOf 4 = .ok (.iload_n 3, 1) := dk_29 (dk_at dksX3_costOf_0 4 rfl rfl)
theorem dX3_costOf_5 : decode cX3_costOf 5 = .ok (.aload_n 0, 1) := dk_42 (dk_at dksX3_costOf_0 5 rfl rfl)
theorem dX3_costOf_6 : decode cX3_costOf 6 = .ok (.getfield 16, 3) := dk_180 0 16 (dk_at dksX3_costOf_0 6 rfl rfl)
theorem dX3_costOf_9 : decode cX3_costOf 9 = .ok (.iconst 3, 1) := dk_6 (dk_at dksX3_costOf_0 9 rfl rfl)
theorem dX3_costOf_10 : decode cX3_costOf 10 = .ok (.iaload, 1) := dk_46 (dk_at dksX3_costOf_0 10 rfl rfl)
theorem dX3_costOf_11 : decode cX3_costOf 11 = .ok (.if_icmp .ge 29, 3) := dk_162 0 29 (dk_at dksX3_costOf_0 11 rfl rfl)
theorem dX3_costOf_14 : decode cX3_costOf 14 = .ok (.iload_n 2, 1) := dk_28 (dk_at dksX3_costOf_0 14 rfl rfl)
theorem dX3_costOf_15 : decode cX3_costOf 15 = .ok (.iload_n 1, 1) := dk_27 (dk_at dksX3_costOf_0 15 rfl rfl)
theorem dX3_costOf_16 : decode cX3_costOf 16 = .ok (.iload_n 3, 1) := dk_29 (dk_at dksX3_costOf_0 16 rfl rfl)
theorem dX3_costOf_17 : decode cX3_costOf 17 = .ok (.invokestatic 82, 3) := dk_184 0 82 (dk_at dksX3_costOf_0 17 rfl rfl)
theorem dX3_costOf_20 : decode cX3_costOf 20 = .ok (.ifCond .eq 11, 3) := dk_153 0 11 (dk_at dksX3_costOf_0 20 rfl rfl)
theorem dX3_costOf_23 : decode cX3_costOf 23 = .ok (.aload_n 0, 1) := dk_42 (dk_at dksX3_costOf_0 23 rfl rfl)
theorem dX3_costOf_24 : decode cX3_costOf 24 = .ok (.iload_n 3, 1) := dk_29 (dk_at dksX3_costOf_1 0 rfl rfl)
theorem dX3_costOf_25 : decode cX3_costOf 25 = .ok (.invokevirtual 144, 3) := dk_182 0 144 (dk_at dksX3_costOf_1 1 rfl rfl)
theorem dX3_costOf_28 : decode cX3_costOf 28 = .ok (.goto 4, 3) := dk_167 0 4 (dk_at dksX3_costOf_1 4 rfl rfl)
theorem dX3_costOf_31 : decode cX3_costOf 31 = .ok (.iconst 0, 1) := dk_3 (dk_at dksX3_costOf_1 7 rfl rfl)
theorem dX3_costOf_32 : decode cX3_costOf 32 = .ok (.iadd, 1) := dk_96 (dk_at dksX3_costOf_1 8 rfl rfl)
theorem dX3_costOf_33 : decode cX3_costOf 33 = .ok (.istore_n 2, 1) := dk_61 (dk_at dksX3_costOf_1 9 rfl rfl)
theorem dX3_costOf_34 : decode cX3_costOf 34 = .ok (.iinc 3 1, 3) := dk_132 3 1 (dk_at dksX3_costOf_1 10 rfl rfl)
theorem dX3_costOf_37 : decode cX3_costOf 37 = .ok (.goto (-33), 3) := dk_167 255 223 (dk_at dksX3_costOf_1 13 rfl rfl)
theorem dX3_costOf_40 : decode cX3_costOf 40 = .ok (.iconst 0, 1) := dk_3 (dk_at dksX3_costOf_1 16 rfl rfl)
theorem dX3_costOf_41 : decode cX3_costOf 41 = .ok (.istore_n 3, 1) := dk_62 (dk_at dksX3_costOf_1 17 rfl rfl)
theorem dX3_costOf_42 : decode cX3_costOf 42 = .ok (.iload_n 3, 1) := dk_29 (dk_at dksX3_costOf_1 18 rfl rfl)
theorem dX3_costOf_43 : decode cX3_costOf 43 = .ok (.aload_n 0, 1) := dk_42 (dk_at dksX3_costOf_1 19 rfl rfl)
theorem dX3_costOf_44 : decode cX3_costOf 44 = .ok (.getfield 16, 3) := dk_180 0 16 (dk_at dksX3_costOf_1 20 rfl rfl)
theorem dX3_costOf_47 : decode cX3_costOf 47 = .ok (.iconst 2, 1) := dk_5 (dk_at dksX3_costOf_1 23 rfl rfl)
theorem dX3_costOf_48 : decode cX3_costOf 48 = .ok (.iaload, 1) := dk_46 (dk_at dksX3_costOf_2 0 rfl rfl)
theorem dX3_costOf_49 : decode cX3_costOf 49 = .ok (.if_icmp .ge 30, 3) := dk_162 0 30 (dk_at dksX3_costOf_2 1 rfl rfl)
theorem dX3_costOf_52 : decode cX3_costOf 52 = .ok (.iload_n 2, 1) := dk_28 (dk_at dksX3_costOf_2 4 rfl rfl)
theorem dX3_costOf_53 : decode cX3_costOf 53 = .ok (.aload_n 0, 1) := dk_42 (dk_at dksX3_costOf_2 5 rfl rfl)
theorem dX3_costOf_54 : decode cX3_costOf 54 = .ok (.iload_n 3, 1) := dk_29 (dk_at dksX3_costOf_2 6 rfl rfl)
theorem dX3_costOf_55 : decode cX3_costOf 55 = .ok (.iconst 2, 1) := dk_5 (dk_at dksX3_costOf_2 7 rfl rfl)
theorem dX3_costOf_56 : decode cX3_costOf 56 = .ok (.invokevirtual 72, 3) := dk_182 0 72 (dk_at dksX3_costOf_2 8 rfl rfl)
theorem dX3_costOf_59 : decode cX3_costOf 59 = .ok (.aload_n 0, 1) := dk_42 (dk_at dksX3_costOf_2 11 rfl rfl)
theorem dX3_costOf_60 : decode cX3_costOf 60 = .ok (.iload_n 3, 1) := dk_29 (dk_at dksX3_costOf_2 12 rfl rfl)
theorem dX3_costOf_61 : decode cX3_costOf 61 = .ok (.aload_n 0, 1) := dk_42 (dk_at dksX3_costOf_2 13 rfl rfl)
theorem dX3_costOf_62 : decode cX3_costOf 62 = .ok (.iload_n 3, 1) := dk_29 (dk_at dksX3_costOf_2 14 rfl rfl)
theorem dX3_costOf_63 : decode cX3_costOf 63 = .ok (.iload_n 1, 1) := dk_27 (dk_at dksX3_costOf_2 15 rfl rfl)
theorem dX3_costOf_64 : decode cX3_costOf 64 = .ok (.invokevirtual 93, 3) := dk_182 0 93 (dk_at dksX3_costOf_2 16 rfl rfl)
theorem dX3_costOf_67 : decode cX3_costOf 67 = .ok (.invokevirtual 86, 3) := dk_182 0 86 (dk_at dksX3_costOf_2 19 rfl rfl)
theorem dX3_costOf_70 : decode cX3_costOf 70 = .ok (.imul, 1) := dk_104 (dk_at dksX3_costOf_2 22 rfl rfl)
theorem dX3_costOf_71 : decode cX3_costOf 71 = .ok (.iadd, 1) := dk_96 (dk_at dksX3_costOf_2 23 rfl rfl)
theorem dX3_costOf_72 : decode cX3_costOf 72 = .ok (.istore_n 2, 1) := dk_61 (dk_at dksX3_costOf_3 0 rfl rfl)
theorem dX3_costOf_73 : decode cX3_costOf 73 = .ok (.iinc 3 1, 3) := dk_132 3 1 (dk_at dksX3_costOf_3 1 rfl rfl)
theorem dX3_costOf_76 : decode cX3_costOf 76 = .ok (.goto (-34), 3) := dk_167 255 222 (dk_at dksX3_costOf_3 4 rfl rfl)
theorem dX3_costOf_79 : decode cX3_costOf 79 = .ok (.iload_n 2, 1) := dk_28 (dk_at dksX3_costOf_3 7 rfl rfl)
theorem dX3_costOf_80 : decode cX3_costOf 80 = .ok (.ireturn, 1) := dk_172 (dk_at dksX3_costOf_3 8 rfl rfl)
abbrev cX3_cheapest : ByteArray := prog_45_method_71_code
def yX3_cheapest : MethodName := ⟨RX3, "cheapest", "()I"⟩
theorem dX3_cheapest_0 : decode cX3_cheapest 0 = .ok (.aload_n 0, 1) := by decide +kernel
theorem dX3_cheapest_1 : decode cX3_cheapest 1 = .ok (.invokevirtual 225, 3) := by decide +kernel
theorem dX3_cheapest_4 : decode cX3_cheapest 4 = .ok (.ireturn, 1) := by decide +kernel
abbrev cX3_best : ByteArray := prog_45_method_70_code
def yX3_best : MethodName := ⟨RX3, "best", "()I"⟩
def dkwX3_best_2 : List UInt8 := [27, 60, 132, 2, 1, 167, 255, 210, 27, 172]
abbrev dktX3_best_2 : List UInt8 := dkwX3_best_2 ++ []
def dkwX3_best_1 : List UInt8 := [153, 0, 24, 27, 155, 0, 16, 42, 28, 182, 0, 222, 42, 27, 182, 0, 222, 162, 0, 7, 28, 167, 0, 4]
abbrev dktX3_best_1 : List UInt8 := dkwX3_best_1 ++ dktX3_best_2
def dkwX3_best_0 : List UInt8 := [16, 250, 60, 3, 61, 28, 4, 42, 180, 0, 16, 6, 46, 120, 162, 0, 40, 42, 28, 182, 0, 219]
abbrev dktX3_best_0 : List UInt8 := dkwX3_best_0 ++ dktX3_best_1
theorem dksX3_best_0 : cX3_best.data.toList.drop 0 = dktX3_best_0 := by decide +kernel
theorem dksX3_best_1 : cX3_best.data.toList.drop 22 = dktX3_best_1 := dk_seg dksX3_best_0 22 rfl rfl
theorem dksX3_best_2 : cX3_best.data.toList.drop 46 = dktX3_best_2 := dk_seg dksX3_best_1 24 rfl rfl
theorem dX3_best_0 : decode cX3_best 0 = .ok (.bipush (-6), 2) := dk_16 250 (dk_at dksX3_best_0 0 rfl rfl)
theorem dX3_best_2 : decode cX3_best 2 = .ok (.istore_n 1, 1) := dk_60 (dk_at dksX3_best_0 2 rfl rfl)
theorem dX3_best_3 : decode cX3_best 3 = .ok (.iconst 0, 1) := dk_3 (dk_at dksX3_best_0 3 rfl rfl)
theorem dX3_best_4 : decode cX3_best 4 = .ok (.istore_n 2, 1) := dk_61 (dk_at dksX3_best_0 4 rfl rfl)
theorem dX3_best_5 : decode cX3_best 5 = .ok (.iload_n 2, 1) := dk_28 (dk_at dksX3_best_0 5 rfl rfl)
theorem dX3_best_6 : decode cX3_best 6 = .ok (.iconst 1, 1) := dk_4 (dk_at dksX3_best_0 6 rfl rfl)
theorem dX3_best_7 : decode cX3_best 7 = .ok (.aload_n 0, 1) := dk_42 (dk_at dksX3_best_0 7 rfl rfl)
theorem dX3_best_8 : decode cX3_best 8 = .ok (.getfield 16, 3) := dk_180 0 16 (dk_at dksX3_best_0 8 rfl rfl)
theorem dX3_best_11 : decode cX3_best 11 = .ok (.iconst 3, 1) := dk_6 (dk_at dksX3_best_0 11 rfl rfl)
theorem dX3_best_12 : decode cX3_best 12 = .ok (.iaload, 1) := dk_46 (dk_at dksX3_best_0 12 rfl rfl)
theorem dX3_best_13 : decode cX3_best 13 = .ok (.ishl, 1) := dk_120 (dk_at dksX3_best_0 13 rfl rfl)
theorem dX3_best_14 : decode cX3_best 14 = .ok (.if_icmp .ge 40, 3) := dk_162 0 40 (dk_at dksX3_best_0 14 rfl rfl)
theorem dX3_best_17 : decode cX3_best 17 = .ok (.aload_n 0, 1) := dk_42 (dk_at dksX3_best_0 17 rfl rfl)
theorem dX3_best_18 : decode cX3_best 18 = .ok (.iload_n 2, 1) := dk_28 (dk_at dksX3_best_0 18 rfl rfl)
theorem dX3_best_19 : decode cX3_best 19 = .ok (.invokevirtual 219, 3) := dk_182 0 219 (dk_at dksX3_best_0 19 rfl rfl)
theorem dX3_best_22 : decode cX3_best 22 = .ok (.ifCond .eq 24, 3) := dk_153 0 24 (dk_at dksX3_best_1 0 rfl rfl)
theorem dX3_best_25 : decode cX3_best 25 = .ok (.iload_n 1, 1) := dk_27 (dk_at dksX3_best_1 3 rfl rfl)
theorem dX3_best_26 : decode cX3_best 26 = .ok (.ifCond .lt 16, 3) := dk_155 0 16 (dk_at dksX3_best_1 4 rfl rfl)
theorem dX3_best_29 : decode cX3_best 29 = .ok (.aload_n 0, 1) := dk_42 (dk_at dksX3_best_1 7 rfl rfl)
theorem dX3_best_30 : decode cX3_best 30 = .ok (.iload_n 2, 1) := dk_28 (dk_at dksX3_best_1 8 rfl rfl)
theorem dX3_best_31 : decode cX3_best 31 = .ok (.invokevirtual 222, 3) := dk_182 0 222 (dk_at dksX3_best_1 9 rfl rfl)
theorem dX3_best_34 : decode cX3_best 34 = .ok (.aload_n 0, 1) := dk_42 (dk_at dksX3_best_1 12 rfl rfl)
theorem dX3_best_35 : decode cX3_best 35 = .ok (.iload_n 1, 1) := dk_27 (dk_at dksX3_best_1 13 rfl rfl)
theorem dX3_best_36 : decode cX3_best 36 = .ok (.invokevirtual 222, 3) := dk_182 0 222 (dk_at dksX3_best_1 14 rfl rfl)
theorem dX3_best_39 : decode cX3_best 39 = .ok (.if_icmp .ge 7, 3) := dk_162 0 7 (dk_at dksX3_best_1 17 rfl rfl)
theorem dX3_best_42 : decode cX3_best 42 = .ok (.iload_n 2, 1) := dk_28 (dk_at dksX3_best_1 20 rfl rfl)
theorem dX3_best_43 : decode cX3_best 43 = .ok (.goto 4, 3) := dk_167 0 4 (dk_at dksX3_best_1 21 rfl rfl)
theorem dX3_best_46 : decode cX3_best 46 = .ok (.iload_n 1, 1) := dk_27 (dk_at dksX3_best_2 0 rfl rfl)
theorem dX3_best_47 : decode cX3_best 47 = .ok (.istore_n 1, 1) := dk_60 (dk_at dksX3_best_2 1 rfl rfl)
theorem dX3_best_48 : decode cX3_best 48 = .ok (.iinc 2 1, 3) := dk_132 2 1 (dk_at dksX3_best_2 2 rfl rfl)
theorem dX3_best_51 : decode cX3_best 51 = .ok (.goto (-46), 3) := dk_167 255 210 (dk_at dksX3_best_2 5 rfl rfl)
theorem dX3_best_54 : decode cX3_best 54 = .ok (.iload_n 1, 1) := dk_27 (dk_at dksX3_best_2 8 rfl rfl)
theorem dX3_best_55 : decode cX3_best 55 = .ok (.ireturn, 1) := dk_172 (dk_at dksX3_best_2 9 rfl rfl)
abbrev cX3_cheapestAgain : ByteArray := prog_45_method_73_code
def yX3_cheapestAgain : MethodName := ⟨RX3, "cheapestAgain", "()I"⟩
def dkwX3_cheapestAgain_0 : List UInt8 := [42, 16, 250, 181, 0, 228, 42, 4, 42, 180, 0, 16, 6, 46, 120, 182, 0, 231, 42, 180, 0, 228, 172]
abbrev dktX3_cheapestAgain_0 : List UInt8 := dkwX3_cheapestAgain_0 ++ []
theorem dksX3_cheapestAgain_0 : cX3_cheapestAgain.data.toList.drop 0 = dktX3_cheapestAgain_0 := by decide +kernel
theorem dX3_cheapestAgain_0 : decode cX3_cheapestAgain 0 = .ok (.aload_n 0, 1) := dk_42 (dk_at dksX3_cheapestAgain_0 0 rfl rfl)
theorem dX3_cheapestAgain_1 : decode cX3_cheapestAgain 1 = .ok (.bipush (-6), 2) := dk_16 250 (dk_at dksX3_cheapestAgain_0 1 rfl rfl)
theorem dX3_cheapestAgain_3 : decode cX3_cheapestAgain 3 = .ok (.putfield 228, 3) := dk_181 0 228 (dk_at dksX3_cheapestAgain_0 3 rfl rfl)
theorem dX3_cheapestAgain_6 : decode cX3_cheapestAgain 6 = .ok (.aload_n 0, 1) := dk_42 (dk_at dksX3_cheapestAgain_0 6 rfl rfl)
theorem dX3_cheapestAgain_7 : decode cX3_cheapestAgain 7 = .ok (.iconst 1, 1) := dk_4 (dk_at dksX3_cheapestAgain_0 7 rfl rfl)
theorem dX3_cheapestAgain_8 : decode cX3_cheapestAgain 8 = .ok (.aload_n 0, 1) := dk_42 (dk_at dksX3_cheapestAgain_0 8 rfl rfl)
theorem dX3_cheapestAgain_9 : decode cX3_cheapestAgain 9 = .ok (.getfield 16, 3) := dk_180 0 16 (dk_at dksX3_cheapestAgain_0 9 rfl rfl)
theorem dX3_cheapestAgain_12 : decode cX3_cheapestAgain 12 = .ok (.iconst 3, 1) := dk_6 (dk_at dksX3_cheapestAgain_0 12 rfl rfl)
theorem dX3_cheapestAgain_13 : decode cX3_cheapestAgain 13 = .ok (.iaload, 1) := dk_46 (dk_at dksX3_cheapestAgain_0 13 rfl rfl)
theorem dX3_cheapestAgain_14 : decode cX3_cheapestAgain 14 = .ok (.ishl, 1) := dk_120 (dk_at dksX3_cheapestAgain_0 14 rfl rfl)
theorem dX3_cheapestAgain_15 : decode cX3_cheapestAgain 15 = .ok (.invokevirtual 231, 3) := dk_182 0 231 (dk_at dksX3_cheapestAgain_0 15 rfl rfl)
theorem dX3_cheapestAgain_18 : decode cX3_cheapestAgain 18 = .ok (.aload_n 0, 1) := dk_42 (dk_at dksX3_cheapestAgain_0 18 rfl rfl)
theorem dX3_cheapestAgain_19 : decode cX3_cheapestAgain 19 = .ok (.getfield 228, 3) := dk_180 0 228 (dk_at dksX3_cheapestAgain_0 19 rfl rfl)
theorem dX3_cheapestAgain_22 : decode cX3_cheapestAgain 22 = .ok (.ireturn, 1) := dk_172 (dk_at dksX3_cheapestAgain_0 22 rfl rfl)
abbrev cX3_finds : ByteArray := prog_45_method_72_code
def yX3_finds : MethodName := ⟨RX3, "finds", "(I)V"⟩
def dkwX3_finds_5 : List UInt8 := [167, 255, 139, 177]
abbrev dktX3_finds_5 : List UInt8 := dkwX3_finds_5 ++ []
def dkwX3_finds_4 : List UInt8 := [21, 4, 42, 180, 0, 228, 162, 0, 8, 21, 4, 167, 0, 7, 42, 180, 0, 228, 181, 0, 228, 132, 2, 1]
abbrev dktX3_finds_4 : List UInt8 := dkwX3_finds_4 ++ dktX3_finds_5
def dkwX3_finds_3 : List UInt8 := [180, 0, 228, 164, 0, 6, 167, 0, 39, 42, 28, 182, 0, 222, 54, 4, 42, 42, 180, 0, 228, 155, 0, 12]
abbrev dktX3_finds_3 : List UInt8 := dkwX3_finds_3 ++ dktX3_finds_4
def dkwX3_finds_2 : List UInt8 := [182, 0, 144, 167, 0, 4, 3, 96, 62, 132, 4, 1, 167, 255, 220, 42, 180, 0, 228, 155, 0, 14, 29, 42]
abbrev dktX3_finds_2 : List UInt8 := dkwX3_finds_2 ++ dktX3_finds_3
def dkwX3_finds_1 : List UInt8 := [21, 4, 42, 180, 0, 16, 6, 46, 162, 0, 31, 29, 28, 21, 4, 184, 0, 82, 153, 0, 12, 42, 21, 4]
abbrev dktX3_finds_1 : List UInt8 := dkwX3_finds_1 ++ dktX3_finds_2
def dkwX3_finds_0 : List UInt8 := [3, 61, 28, 27, 162, 0, 118, 42, 28, 182, 0, 219, 154, 0, 6, 167, 0, 101, 3, 62, 3, 54, 4]
abbrev dktX3_finds_0 : List UInt8 := dkwX3_finds_0 ++ dktX3_finds_1
theorem dksX3_finds_0 : cX3_finds.data.toList.drop 0 = dktX3_finds_0 := by decide +kernel
theorem dksX3_finds_1 : cX3_finds.data.toList.drop 23 = dktX3_finds_1 := dk_seg dksX3_finds_0 23 rfl rfl
theorem dksX3_finds_2 : cX3_finds.data.toList.drop 47 = dktX3_finds_2 := dk_seg dksX3_finds_1 24 rfl rfl
theorem dksX3_finds_3 : cX3_finds.data.toList.drop 71 = dktX3_finds_3 := dk_seg dksX3_finds_2 24 rfl rfl
theorem dksX3_finds_4 : cX3_finds.data.toList.drop 95 = dktX3_finds_4 := dk_seg dksX3_finds_3 24 rfl rfl
theorem dksX3_finds_5 : cX3_finds.data.toList.drop 119 = dktX3_finds_5 := dk_seg dksX3_finds_4 24 rfl rfl
theorem dX3_finds_0 : decode cX3_finds 0 = .ok (.iconst 0, 1) := dk_3 (dk_at dksX3_finds_0 0 rfl rfl)
theorem dX3_finds_1 : decode cX3_finds 1 = .ok (.istore_n 2, 1) := dk_61 (dk_at dksX3_finds_0 1 rfl rfl)
theorem dX3_finds_2 : decode cX3_finds 2 = .ok (.iload_n 2, 1) := dk_28 (dk_at dksX3_finds_0 2 rfl rfl)
theorem dX3_finds_3 : decode cX3_finds 3 = .ok (.iload_n 1, 1) := dk_27 (dk_at dksX3_finds_0 3 rfl rfl)
theorem dX3_finds_4 : decode cX3_finds 4 = .ok (.if_icmp .ge 118, 3) := dk_162 0 118 (dk_at dksX3_finds_0 4 rfl rfl)
theorem dX3_finds_7 : decode cX3_finds 7 = .ok (.aload_n 0, 1) := dk_42 (dk_at dksX3_finds_0 7 rfl rfl)
theorem dX3_finds_8 : decode cX3_finds 8 = .ok (.iload_n 2, 1) := dk_28 (dk_at dksX3_finds_0 8 rfl rfl)
theorem dX3_finds_9 : decode cX3_finds 9 = .ok (.invokevirtual 219, 3) := dk_182 0 219 (dk_at dksX3_finds_0 9 rfl rfl)
theorem dX3_finds_12 : decode cX3_finds 12 = .ok (.ifCond .ne 6, 3) := dk_154 0 6 (dk_at dksX3_finds_0 12 rfl rfl)
theorem dX3_finds_15 : decode cX3_finds 15 = .ok (.goto 101, 3) := dk_167 0 101 (dk_at dksX3_finds_0 15 rfl rfl)
theorem dX3_finds_18 : decode cX3_finds 18 = .ok (.iconst 0, 1) := dk_3 (dk_at dksX3_finds_0 18 rfl rfl)
theorem dX3_finds_19 : decode cX3_finds 19 = .ok (.istore_n 3, 1) := dk_62 (dk_at dksX3_finds_0 19 rfl rfl)
theorem dX3_finds_20 : decode cX3_finds 20 = .ok (.iconst 0, 1) := dk_3 (dk_at dksX3_finds_0 20 rfl rfl)
theorem dX3_finds_21 : decode cX3_finds 21 = .ok (.istore 4, 2) := dk_54 4 (dk_at dksX3_finds_0 21 rfl rfl)
theorem dX3_finds_23 : decode cX3_finds 23 = .ok (.iload 4, 2) := dk_21 4 (dk_at dksX3_finds_1 0 rfl rfl)
theorem dX3_finds_25 : decode cX3_finds 25 = .ok (.aload_n 0, 1) := dk_42 (dk_at dksX3_finds_1 2 rfl rfl)
theorem dX3_finds_26 : decode cX3_finds 26 = .ok (.getfield 16, 3) := dk_180 0 16 (dk_at dksX3_finds_1 3 rfl rfl)
theorem dX3_finds_29 : decode cX3_finds 29 = .ok (.iconst 3, 1) := dk_6 (dk_at dksX3_finds_1 6 rfl rfl)
theorem dX3_finds_30 : decode cX3_finds 30 = .ok (.iaload, 1) := dk_46 (dk_at dksX3_finds_1 7 rfl rfl)
theorem dX3_finds_31 : decode cX3_finds 31 = .ok (.if_icmp .ge 31, 3) := dk_162 0 31 (dk_at dksX3_finds_1 8 rfl rfl)
theorem dX3_finds_34 : decode cX3_finds 34 = .ok (.iload_n 3, 1) := dk_29 (dk_at dksX3_finds_1 11 rfl rfl)
theorem dX3_finds_35 : decode cX3_finds 35 = .ok (.iload_n 2, 1) := dk_28 (dk_at dksX3_finds_1 12 rfl rfl)
theorem dX3_finds_36 : decode cX3_finds 36 = .ok (.iload 4, 2) := dk_21 4 (dk_at dksX3_finds_1 13 rfl rfl)
theorem dX3_finds_38 : decode cX3_finds 38 = .ok (.invokestatic 82, 3) := dk_184 0 82 (dk_at dksX3_finds_1 15 rfl rfl)
theorem dX3_finds_41 : decode cX3_finds 41 = .ok (.ifCond .eq 12, 3) := dk_153 0 12 (dk_at dksX3_finds_1 18 rfl rfl)
theorem dX3_finds_44 : decode cX3_finds 44 = .ok (.aload_n 0, 1) := dk_42 (dk_at dksX3_finds_1 21 rfl rfl)
theorem dX3_finds_45 : decode cX3_finds 45 = .ok (.iload 4, 2) := dk_21 4 (dk_at dksX3_finds_1 22 rfl rfl)
theorem dX3_finds_47 : decode cX3_finds 47 = .ok (.invokevirtual 144, 3) := dk_182 0 144 (dk_at dksX3_finds_2 0 rfl rfl)
theorem dX3_finds_50 : decode cX3_finds 50 = .ok (.goto 4, 3) := dk_167 0 4 (dk_at dksX3_finds_2 3 rfl rfl)
theorem dX3_finds_53 : decode cX3_finds 53 = .ok (.iconst 0, 1) := dk_3 (dk_at dksX3_finds_2 6 rfl rfl)
theorem dX3_finds_54 : decode cX3_finds 54 = .ok (.iadd, 1) := dk_96 (dk_at dksX3_finds_2 7 rfl rfl)
theorem dX3_finds_55 : decode cX3_finds 55 = .ok (.istore_n 3, 1) := dk_62 (dk_at dksX3_finds_2 8 rfl rfl)
theorem dX3_finds_56 : decode cX3_finds 56 = .ok (.iinc 4 1, 3) := dk_132 4 1 (dk_at dksX3_finds_2 9 rfl rfl)
theorem dX3_finds_59 : decode cX3_finds 59 = .ok (.goto (-36), 3) := dk_167 255 220 (dk_at dksX3_finds_2 12 rfl rfl)
theorem dX3_finds_62 : decode cX3_finds 62 = .ok (.aload_n 0, 1) := dk_42 (dk_at dksX3_finds_2 15 rfl rfl)
theorem dX3_finds_63 : decode cX3_finds 63 = .ok (.getfield 228, 3) := dk_180 0 228 (dk_at dksX3_finds_2 16 rfl rfl)
theorem dX3_finds_66 : decode cX3_finds 66 = .ok (.ifCond .lt 14, 3) := dk_155 0 14 (dk_at dksX3_finds_2 19 rfl rfl)
theorem dX3_finds_69 : decode cX3_finds 69 = .ok (.iload_n 3, 1) := dk_29 (dk_at dksX3_finds_2 22 rfl rfl)
theorem dX3_finds_70 : decode cX3_finds 70 = .ok (.aload_n 0, 1) := dk_42 (dk_at dksX3_finds_2 23 rfl rfl)
theorem dX3_finds_71 : decode cX3_finds 71 = .ok (.getfield 228, 3) := dk_180 0 228 (dk_at dksX3_finds_3 0 rfl rfl)
theorem dX3_finds_74 : decode cX3_finds 74 = .ok (.if_icmp .le 6, 3) := dk_164 0 6 (dk_at dksX3_finds_3 3 rfl rfl)
theorem dX3_finds_77 : decode cX3_finds 77 = .ok (.goto 39, 3) := dk_167 0 39 (dk_at dksX3_finds_3 6 rfl rfl)
theorem dX3_finds_80 : decode cX3_finds 80 = .ok (.aload_n 0, 1) := dk_42 (dk_at dksX3_finds_3 9 rfl rfl)
theorem dX3_finds_81 : decode cX3_finds 81 = .ok (.iload_n 2, 1) := dk_28 (dk_at dksX3_finds_3 10 rfl rfl)
theorem dX3_finds_82 : decode cX3_finds 82 = .ok (.invokevirtual 222, 3) := dk_182 0 222 (dk_at dksX3_finds_3 11 rfl rfl)
theorem dX3_finds_85 : decode cX3_finds 85 = .ok (.istore 4, 2) := dk_54 4 (dk_at dksX3_finds_3 14 rfl rfl)
theorem dX3_finds_87 : decode cX3_finds 87 = .ok (.aload_n 0, 1) := dk_42 (dk_at dksX3_finds_3 16 rfl rfl)
theorem dX3_finds_88 : decode cX3_finds 88 = .ok (.aload_n 0, 1) := dk_42 (dk_at dksX3_finds_3 17 rfl rfl)
theorem dX3_finds_89 : decode cX3_finds 89 = .ok (.getfield 228, 3) := dk_180 0 228 (dk_at dksX3_finds_3 18 rfl rfl)
theorem dX3_finds_92 : decode cX3_finds 92 = .ok (.ifCond .lt 12, 3) := dk_155 0 12 (dk_at dksX3_finds_3 21 rfl rfl)
theorem dX3_finds_95 : decode cX3_finds 95 = .ok (.iload 4, 2) := dk_21 4 (dk_at dksX3_finds_4 0 rfl rfl)
theorem dX3_finds_97 : decode cX3_finds 97 = .ok (.aload_n 0, 1) := dk_42 (dk_at dksX3_finds_4 2 rfl rfl)
theorem dX3_finds_98 : decode cX3_finds 98 = .ok (.getfield 228, 3) := dk_180 0 228 (dk_at dksX3_finds_4 3 rfl rfl)
theorem dX3_finds_101 : decode cX3_finds 101 = .ok (.if_icmp .ge 8, 3) := dk_162 0 8 (dk_at dksX3_finds_4 6 rfl rfl)
theorem dX3_finds_104 : decode cX3_finds 104 = .ok (.iload 4, 2) := dk_21 4 (dk_at dksX3_finds_4 9 rfl rfl)
theorem dX3_finds_106 : decode cX3_finds 106 = .ok (.goto 7, 3) := dk_167 0 7 (dk_at dksX3_finds_4 11 rfl rfl)
theorem dX3_finds_109 : decode cX3_finds 109 = .ok (.aload_n 0, 1) := dk_42 (dk_at dksX3_finds_4 14 rfl rfl)
theorem dX3_finds_110 : decode cX3_finds 110 = .ok (.getfield 228, 3) := dk_180 0 228 (dk_at dksX3_finds_4 15 rfl rfl)
theorem dX3_finds_113 : decode cX3_finds 113 = .ok (.putfield 228, 3) := dk_181 0 228 (dk_at dksX3_finds_4 18 rfl rfl)
theorem dX3_finds_116 : decode cX3_finds 116 = .ok (.iinc 2 1, 3) := dk_132 2 1 (dk_at dksX3_finds_4 21 rfl rfl)
theorem dX3_finds_119 : decode cX3_finds 119 = .ok (.goto (-117), 3) := dk_167 255 139 (dk_at dksX3_finds_5 0 rfl rfl)
theorem dX3_finds_122 : decode cX3_finds 122 = .ok (.return_, 1) := dk_177 (dk_at dksX3_finds_5 3 rfl rfl)
abbrev cX3_greedy : ByteArray := prog_45_method_75_code
def yX3_greedy : MethodName := ⟨RX3, "greedy", "()I"⟩
def dkwX3_greedy_3 : List UInt8 := [153, 0, 7, 27, 167, 0, 5, 16, 250, 172]
abbrev dktX3_greedy_3 : List UInt8 := dkwX3_greedy_3 ++ []
def dkwX3_greedy_2 : List UInt8 := [3, 61, 27, 28, 153, 0, 9, 4, 29, 120, 167, 0, 4, 3, 128, 60, 167, 255, 197, 42, 27, 182, 0, 219]
abbrev dktX3_greedy_2 : List UInt8 := dkwX3_greedy_2 ++ dktX3_greedy_3
def dkwX3_greedy_1 : List UInt8 := [153, 0, 20, 42, 27, 4, 29, 120, 128, 182, 0, 222, 42, 27, 182, 0, 222, 162, 0, 7, 4, 167, 0, 4]
abbrev dktX3_greedy_1 : List UInt8 := dkwX3_greedy_1 ++ dktX3_greedy_2
def dkwX3_greedy_0 : List UInt8 := [3, 60, 4, 61, 28, 153, 0, 61, 42, 27, 182, 0, 234, 62, 29, 155, 0, 32, 42, 27, 182, 0, 219]
abbrev dktX3_greedy_0 : List UInt8 := dkwX3_greedy_0 ++ dktX3_greedy_1
theorem dksX3_greedy_0 : cX3_greedy.data.toList.drop 0 = dktX3_greedy_0 := by decide +kernel
theorem dksX3_greedy_1 : cX3_greedy.data.toList.drop 23 = dktX3_greedy_1 := dk_seg dksX3_greedy_0 23 rfl rfl
theorem dksX3_greedy_2 : cX3_greedy.data.toList.drop 47 = dktX3_greedy_2 := dk_seg dksX3_greedy_1 24 rfl rfl
theorem dksX3_greedy_3 : cX3_greedy.data.toList.drop 71 = dktX3_greedy_3 := dk_seg dksX3_greedy_2 24 rfl rfl
theorem dX3_greedy_0 : decode cX3_greedy 0 = .ok (.iconst 0, 1) := dk_3 (dk_at dksX3_greedy_0 0 rfl rfl)
theorem dX3_greedy_1 : decode cX3_greedy 1 = .ok (.istore_n 1, 1) := dk_60 (dk_at dksX3_greedy_0 1 rfl rfl)
theorem dX3_greedy_2 : decode cX3_greedy 2 = .ok (.iconst 1, 1) := dk_4 (dk_at dksX3_greedy_0 2 rfl rfl)
theorem dX3_greedy_3 : decode cX3_greedy 3 = .ok (.istore_n 2, 1) := dk_61 (dk_at dksX3_greedy_0 3 rfl rfl)
theorem dX3_greedy_4 : decode cX3_greedy 4 = .ok (.iload_n 2, 1) := dk_28 (dk_at dksX3_greedy_0 4 rfl rfl)
theorem dX3_greedy_5 : decode cX3_greedy 5 = .ok (.ifCond .eq 61, 3) := dk_153 0 61 (dk_at dksX3_greedy_0 5 rfl rfl)
theorem dX3_greedy_8 : decode cX3_greedy 8 = .ok (.aload_n 0, 1) := dk_42 (dk_at dksX3_greedy_0 8 rfl rfl)
theorem dX3_greedy_9 : decode cX3_greedy 9 = .ok (.iload_n 1, 1) := dk_27 (dk_at dksX3_greedy_0 9 rfl rfl)
theorem dX3_greedy_10 : decode cX3_greedy 10 = .ok (.invokevirtual 234, 3) := dk_182 0 234 (dk_at dksX3_greedy_0 10 rfl rfl)
theorem dX3_greedy_13 : decode cX3_greedy 13 = .ok (.istore_n 3, 1) := dk_62 (dk_at dksX3_greedy_0 13 rfl rfl)
theorem dX3_greedy_14 : decode cX3_greedy 14 = .ok (.iload_n 3, 1) := dk_29 (dk_at dksX3_greedy_0 14 rfl rfl)
theorem dX3_greedy_15 : decode cX3_greedy 15 = .ok (.ifCond .lt 32, 3) := dk_155 0 32 (dk_at dksX3_greedy_0 15 rfl rfl)
theorem dX3_greedy_18 : decode cX3_greedy 18 = .ok (.aload_n 0, 1) := dk_42 (dk_at dksX3_greedy_0 18 rfl rfl)
theorem dX3_greedy_19 : decode cX3_greedy 19 = .ok (.iload_n 1, 1) := dk_27 (dk_at dksX3_greedy_0 19 rfl rfl)
theorem dX3_greedy_20 : decode cX3_greedy 20 = .ok (.invokevirtual 219, 3) := dk_182 0 219 (dk_at dksX3_greedy_0 20 rfl rfl)
theorem dX3_greedy_23 : decode cX3_greedy 23 = .ok (.ifCond .eq 20, 3) := dk_153 0 20 (dk_at dksX3_greedy_1 0 rfl rfl)
theorem dX3_greedy_26 : decode cX3_greedy 26 = .ok (.aload_n 0, 1) := dk_42 (dk_at dksX3_greedy_1 3 rfl rfl)
theorem dX3_greedy_27 : decode cX3_greedy 27 = .ok (.iload_n 1, 1) := dk_27 (dk_at dksX3_greedy_1 4 rfl rfl)
theorem dX3_greedy_28 : decode cX3_greedy 28 = .ok (.iconst 1, 1) := dk_4 (dk_at dksX3_greedy_1 5 rfl rfl)
theorem dX3_greedy_29 : decode cX3_greedy 29 = .ok (.iload_n 3, 1) := dk_29 (dk_at dksX3_greedy_1 6 rfl rfl)
theorem dX3_greedy_30 : decode cX3_greedy 30 = .ok (.ishl, 1) := dk_120 (dk_at dksX3_greedy_1 7 rfl rfl)
theorem dX3_greedy_31 : decode cX3_greedy 31 = .ok (.ior, 1) := dk_128 (dk_at dksX3_greedy_1 8 rfl rfl)
theorem dX3_greedy_32 : decode cX3_greedy 32 = .ok (.invokevirtual 222, 3) := dk_182 0 222 (dk_at dksX3_greedy_1 9 rfl rfl)
theorem dX3_greedy_35 : decode cX3_greedy 35 = .ok (.aload_n 0, 1) := dk_42 (dk_at dksX3_greedy_1 12 rfl rfl)
theorem dX3_greedy_36 : decode cX3_greedy 36 = .ok (.iload_n 1, 1) := dk_27 (dk_at dksX3_greedy_1 13 rfl rfl)
theorem dX3_greedy_37 : decode cX3_greedy 37 = .ok (.invokevirtual 222, 3) := dk_182 0 222 (dk_at dksX3_greedy_1 14 rfl rfl)
theorem dX3_greedy_40 : decode cX3_greedy 40 = .ok (.if_icmp .ge 7, 3) := dk_162 0 7 (dk_at dksX3_greedy_1 17 rfl rfl)
theorem dX3_greedy_43 : decode cX3_greedy 43 = .ok (.iconst 1, 1) := dk_4 (dk_at dksX3_greedy_1 20 rfl rfl)
theorem dX3_greedy_44 : decode cX3_greedy 44 = .ok (.goto 4, 3) := dk_167 0 4 (dk_at dksX3_greedy_1 21 rfl rfl)
theorem dX3_greedy_47 : decode cX3_greedy 47 = .ok (.iconst 0, 1) := dk_3 (dk_at dksX3_greedy_2 0 rfl rfl)
theorem dX3_greedy_48 : decode cX3_greedy 48 = .ok (.istore_n 2, 1) := dk_61 (dk_at dksX3_greedy_2 1 rfl rfl)
theorem dX3_greedy_49 : decode cX3_greedy 49 = .ok (.iload_n 1, 1) := dk_27 (dk_at dksX3_greedy_2 2 rfl rfl)
theorem dX3_greedy_50 : decode cX3_greedy 50 = .ok (.iload_n 2, 1) := dk_28 (dk_at dksX3_greedy_2 3 rfl rfl)
theorem dX3_greedy_51 : decode cX3_greedy 51 = .ok (.ifCond .eq 9, 3) := dk_153 0 9 (dk_at dksX3_greedy_2 4 rfl rfl)
theorem dX3_greedy_54 : decode cX3_greedy 54 = .ok (.iconst 1, 1) := dk_4 (dk_at dksX3_greedy_2 7 rfl rfl)
theorem dX3_greedy_55 : decode cX3_greedy 55 = .ok (.iload_n 3, 1) := dk_29 (dk_at dksX3_greedy_2 8 rfl rfl)
theorem dX3_greedy_56 : decode cX3_greedy 56 = .ok (.ishl, 1) := dk_120 (dk_at dksX3_greedy_2 9 rfl rfl)
theorem dX3_greedy_57 : decode cX3_greedy 57 = .ok (.goto 4, 3) := dk_167 0 4 (dk_at dksX3_greedy_2 10 rfl rfl)
theorem dX3_greedy_60 : decode cX3_greedy 60 = .ok (.iconst 0, 1) := dk_3 (dk_at dksX3_greedy_2 13 rfl rfl)
theorem dX3_greedy_61 : decode cX3_greedy 61 = .ok (.ior, 1) := dk_128 (dk_at dksX3_greedy_2 14 rfl rfl)
theorem dX3_greedy_62 : decode cX3_greedy 62 = .ok (.istore_n 1, 1) := dk_60 (dk_at dksX3_greedy_2 15 rfl rfl)
theorem dX3_greedy_63 : decode cX3_greedy 63 = .ok (.goto (-59), 3) := dk_167 255 197 (dk_at dksX3_greedy_2 16 rfl rfl)
theorem dX3_greedy_66 : decode cX3_greedy 66 = .ok (.aload_n 0, 1) := dk_42 (dk_at dksX3_greedy_2 19 rfl rfl)
theorem dX3_greedy_67 : decode cX3_greedy 67 = .ok (.iload_n 1, 1) := dk_27 (dk_at dksX3_greedy_2 20 rfl rfl)
theorem dX3_greedy_68 : decode cX3_greedy 68 = .ok (.invokevirtual 219, 3) := dk_182 0 219 (dk_at dksX3_greedy_2 21 rfl rfl)
theorem dX3_greedy_71 : decode cX3_greedy 71 = .ok (.ifCond .eq 7, 3) := dk_153 0 7 (dk_at dksX3_greedy_3 0 rfl rfl)
theorem dX3_greedy_74 : decode cX3_greedy 74 = .ok (.iload_n 1, 1) := dk_27 (dk_at dksX3_greedy_3 3 rfl rfl)
theorem dX3_greedy_75 : decode cX3_greedy 75 = .ok (.goto 5, 3) := dk_167 0 5 (dk_at dksX3_greedy_3 4 rfl rfl)
theorem dX3_greedy_78 : decode cX3_greedy 78 = .ok (.bipush (-6), 2) := dk_16 250 (dk_at dksX3_greedy_3 7 rfl rfl)
theorem dX3_greedy_80 : decode cX3_greedy 80 = .ok (.ireturn, 1) := dk_172 (dk_at dksX3_greedy_3 9 rfl rfl)
abbrev cX3_next : ByteArray := prog_45_method_74_code
def yX3_next : MethodName := ⟨RX3, "next", "(I)I"⟩
def dkwX3_next_2 : List UInt8 := [182, 0, 222, 162, 0, 7, 29, 167, 0, 4, 28, 61, 132, 3, 1, 167, 255, 201, 28, 172]
abbrev dktX3_next_2 : List UInt8 := dkwX3_next_2 ++ []
def dkwX3_next_1 : List UInt8 := [167, 0, 34, 28, 155, 0, 24, 42, 27, 4, 29, 120, 128, 182, 0, 222, 42, 27, 4, 28, 120, 128]
abbrev dktX3_next_1 : List UInt8 := dkwX3_next_1 ++ dktX3_next_2
def dkwX3_next_0 : List UInt8 := [2, 61, 3, 62, 29, 42, 180, 0, 16, 6, 46, 162, 0, 51, 27, 29, 184, 0, 82, 153, 0, 6]
abbrev dktX3_next_0 : List UInt8 := dkwX3_next_0 ++ dktX3_next_1
theorem dksX3_next_0 : cX3_next.data.toList.drop 0 = dktX3_next_0 := by decide +kernel
theorem dksX3_next_1 : cX3_next.data.toList.drop 22 = dktX3_next_1 := dk_seg dksX3_next_0 22 rfl rfl
theorem dksX3_next_2 : cX3_next.data.toList.drop 44 = dktX3_next_2 := dk_seg dksX3_next_1 22 rfl rfl
theorem dX3_next_0 : decode cX3_next 0 = .ok (.iconst (-1), 1) := dk_2 (dk_at dksX3_next_0 0 rfl rfl)
theorem dX3_next_1 : decode cX3_next 1 = .ok (.istore_n 2, 1) := dk_61 (dk_at dksX3_next_0 1 rfl rfl)
theorem dX3_next_2 : decode cX3_next 2 = .ok (.iconst 0, 1) := dk_3 (dk_at dksX3_next_0 2 rfl rfl)
theorem dX3_next_3 : decode cX3_next 3 = .ok (.istore_n 3, 1) := dk_62 (dk_at dksX3_next_0 3 rfl rfl)
theorem dX3_next_4 : decode cX3_next 4 = .ok (.iload_n 3, 1) := dk_29 (dk_at dksX3_next_0 4 rfl rfl)
theorem dX3_next_5 : decode cX3_next 5 = .ok (.aload_n 0, 1) := dk_42 (dk_at dksX3_next_0 5 rfl rfl)
theorem dX3_next_6 : decode cX3_next 6 = .ok (.getfield 16, 3) := dk_180 0 16 (dk_at dksX3_next_0 6 rfl rfl)
theorem dX3_next_9 : decode cX3_next 9 = .ok (.iconst 3, 1) := dk_6 (dk_at dksX3_next_0 9 rfl rfl)
theorem dX3_next_10 : decode cX3_next 10 = .ok (.iaload, 1) := dk_46 (dk_at dksX3_next_0 10 rfl rfl)
theorem dX3_next_11 : decode cX3_next 11 = .ok (.if_icmp .ge 51, 3) := dk_162 0 51 (dk_at dksX3_next_0 11 rfl rfl)
theorem dX3_next_14 : decode cX3_next 14 = .ok (.iload_n 1, 1) := dk_27 (dk_at dksX3_next_0 14 rfl rfl)
theorem dX3_next_15 : decode cX3_next 15 = .ok (.iload_n 3, 1) := dk_29 (dk_at dksX3_next_0 15 rfl rfl)
theorem dX3_next_16 : decode cX3_next 16 = .ok (.invokestatic 82, 3) := dk_184 0 82 (dk_at dksX3_next_0 16 rfl rfl)
theorem dX3_next_19 : decode cX3_next 19 = .ok (.ifCond .eq 6, 3) := dk_153 0 6 (dk_at dksX3_next_0 19 rfl rfl)
theorem dX3_next_22 : decode cX3_next 22 = .ok (.goto 34, 3) := dk_167 0 34 (dk_at dksX3_next_1 0 rfl rfl)
theorem dX3_next_25 : decode cX3_next 25 = .ok (.iload_n 2, 1) := dk_28 (dk_at dksX3_next_1 3 rfl rfl)
theorem dX3_next_26 : decode cX3_next 26 = .ok (.ifCond .lt 24, 3) := dk_155 0 24 (dk_at dksX3_next_1 4 rfl rfl)
theorem dX3_next_29 : decode cX3_next 29 = .ok (.aload_n 0, 1) := dk_42 (dk_at dksX3_next_1 7 rfl rfl)
theorem dX3_next_30 : decode cX3_next 30 = .ok (.iload_n 1, 1) := dk_27 (dk_at dksX3_next_1 8 rfl rfl)
theorem dX3_next_31 : decode cX3_next 31 = .ok (.iconst 1, 1) := dk_4 (dk_at dksX3_next_1 9 rfl rfl)
theorem dX3_next_32 : decode cX3_next 32 = .ok (.iload_n 3, 1) := dk_29 (dk_at dksX3_next_1 10 rfl rfl)
theorem dX3_next_33 : decode cX3_next 33 = .ok (.ishl, 1) := dk_120 (dk_at dksX3_next_1 11 rfl rfl)
theorem dX3_next_34 : decode cX3_next 34 = .ok (.ior, 1) := dk_128 (dk_at dksX3_next_1 12 rfl rfl)
theorem dX3_next_35 : decode cX3_next 35 = .ok (.invokevirtual 222, 3) := dk_182 0 222 (dk_at dksX3_next_1 13 rfl rfl)
theorem dX3_next_38 : decode cX3_next 38 = .ok (.aload_n 0, 1) := dk_42 (dk_at dksX3_next_1 16 rfl rfl)
theorem dX3_next_39 : decode cX3_next 39 = .ok (.iload_n 1, 1) := dk_27 (dk_at dksX3_next_1 17 rfl rfl)
theorem dX3_next_40 : decode cX3_next 40 = .ok (.iconst 1, 1) := dk_4 (dk_at dksX3_next_1 18 rfl rfl)
theorem dX3_next_41 : decode cX3_next 41 = .ok (.iload_n 2, 1) := dk_28 (dk_at dksX3_next_1 19 rfl rfl)
theorem dX3_next_42 : decode cX3_next 42 = .ok (.ishl, 1) := dk_120 (dk_at dksX3_next_1 20 rfl rfl)
theorem dX3_next_43 : decode cX3_next 43 = .ok (.ior, 1) := dk_128 (dk_at dksX3_next_1 21 rfl rfl)
theorem dX3_next_44 : decode cX3_next 44 = .ok (.invokevirtual 222, 3) := dk_182 0 222 (dk_at dksX3_next_2 0 rfl rfl)
theorem dX3_next_47 : decode cX3_next 47 = .ok (.if_icmp .ge 7, 3) := dk_162 0 7 (dk_at dksX3_next_2 3 rfl rfl)
theorem dX3_next_50 : decode cX3_next 50 = .ok (.iload_n 3, 1) := dk_29 (dk_at dksX3_next_2 6 rfl rfl)
theorem dX3_next_51 : decode cX3_next 51 = .ok (.goto 4, 3) := dk_167 0 4 (dk_at dksX3_next_2 7 rfl rfl)
theorem dX3_next_54 : decode cX3_next 54 = .ok (.iload_n 2, 1) := dk_28 (dk_at dksX3_next_2 10 rfl rfl)
theorem dX3_next_55 : decode cX3_next 55 = .ok (.istore_n 2, 1) := dk_61 (dk_at dksX3_next_2 11 rfl rfl)
theorem dX3_next_56 : decode cX3_next 56 = .ok (.iinc 3 1, 3) := dk_132 3 1 (dk_at dksX3_next_2 12 rfl rfl)
theorem dX3_next_59 : decode cX3_next 59 = .ok (.goto (-55), 3) := dk_167 255 201 (dk_at dksX3_next_2 15 rfl rfl)
theorem dX3_next_62 : decode cX3_next 62 = .ok (.iload_n 2, 1) := dk_28 (dk_at dksX3_next_2 18 rfl rfl)
theorem dX3_next_63 : decode cX3_next 63 = .ok (.ireturn, 1) := dk_172 (dk_at dksX3_next_2 19 rfl rfl)
abbrev cX3_swap : ByteArray := prog_45_method_76_code
def yX3_swap : MethodName := ⟨RX3, "swap", "(I)I"⟩
def dkwX3_swap_5 : List UInt8 := [132, 5, 1, 167, 255, 181, 132, 4, 1, 167, 255, 161, 28, 172]
abbrev dktX3_swap_5 : List UInt8 := dkwX3_swap_5 ++ []
def dkwX3_swap_4 : List UInt8 := [54, 6, 21, 6, 29, 161, 0, 6, 167, 0, 15, 21, 6, 62, 16, 10, 21, 4, 104, 21, 5, 96, 61]
abbrev dktX3_swap_4 : List UInt8 := dkwX3_swap_4 ++ dktX3_swap_5
def dkwX3_swap_3 : List UInt8 := [153, 0, 6, 167, 0, 43, 42, 27, 4, 21, 4, 120, 2, 130, 126, 4, 21, 5, 120, 128, 182, 0, 222]
abbrev dktX3_swap_3 : List UInt8 := dkwX3_swap_3 ++ dktX3_swap_4
def dkwX3_swap_2 : List UInt8 := [180, 0, 16, 6, 46, 162, 0, 70, 27, 21, 4, 184, 0, 82, 153, 0, 55, 27, 21, 5, 184, 0, 82]
abbrev dktX3_swap_2 : List UInt8 := dkwX3_swap_2 ++ dktX3_swap_3
def dkwX3_swap_1 : List UInt8 := [182, 0, 222, 62, 3, 54, 4, 21, 4, 42, 180, 0, 16, 6, 46, 162, 0, 90, 3, 54, 5, 21, 5, 42]
abbrev dktX3_swap_1 : List UInt8 := dkwX3_swap_1 ++ dktX3_swap_2
def dkwX3_swap_0 : List UInt8 := [42, 27, 182, 0, 216, 154, 0, 6, 16, 254, 172, 27, 154, 0, 6, 16, 250, 172, 16, 250, 61, 42, 27]
abbrev dktX3_swap_0 : List UInt8 := dkwX3_swap_0 ++ dktX3_swap_1
theorem dksX3_swap_0 : cX3_swap.data.toList.drop 0 = dktX3_swap_0 := by decide +kernel
theorem dksX3_swap_1 : cX3_swap.data.toList.drop 23 = dktX3_swap_1 := dk_seg dksX3_swap_0 23 rfl rfl
theorem dksX3_swap_2 : cX3_swap.data.toList.drop 47 = dktX3_swap_2 := dk_seg dksX3_swap_1 24 rfl rfl
theorem dksX3_swap_3 : cX3_swap.data.toList.drop 70 = dktX3_swap_3 := dk_seg dksX3_swap_2 23 rfl rfl
theorem dksX3_swap_4 : cX3_swap.data.toList.drop 93 = dktX3_swap_4 := dk_seg dksX3_swap_3 23 rfl rfl
theorem dksX3_swap_5 : cX3_swap.data.toList.drop 116 = dktX3_swap_5 := dk_seg dksX3_swap_4 23 rfl rfl
theorem dX3_swap_0 : decode cX3_swap 0 = .ok (.aload_n 0, 1) := dk_42 (dk_at dksX3_swap_0 0 rfl rfl)
theorem dX3_swap_1 : decode cX3_swap 1 = .ok (.iload_n 1, 1) := dk_27 (dk_at dksX3_swap_0 1 rfl rfl)
theorem dX3_swap_2 : decode cX3_swap 2 = .ok (.invokevirtual 216, 3) := dk_182 0 216 (dk_at dksX3_swap_0 2 rfl rfl)
theorem dX3_swap_5 : decode cX3_swap 5 = .ok (.ifCond .ne 6, 3) := dk_154 0 6 (dk_at dksX3_swap_0 5 rfl rfl)
theorem dX3_swap_8 : decode cX3_swap 8 = .ok (.bipush (-2), 2) := dk_16 254 (dk_at dksX3_swap_0 8 rfl rfl)
theorem dX3_swap_10 : decode cX3_swap 10 = .ok (.ireturn, 1) := dk_172 (dk_at dksX3_swap_0 10 rfl rfl)
theorem dX3_swap_11 : decode cX3_swap 11 = .ok (.iload_n 1, 1) := dk_27 (dk_at dksX3_swap_0 11 rfl rfl)
theorem dX3_swap_12 : decode cX3_swap 12 = .ok (.ifCond .ne 6, 3) := dk_154 0 6 (dk_at dksX3_swap_0 12 rfl rfl)
theorem dX3_swap_15 : decode cX3_swap 15 = .ok (.bipush (-6), 2) := dk_16 250 (dk_at dksX3_swap_0 15 rfl rfl)
theorem dX3_swap_17 : decode cX3_swap 17 = .ok (.ireturn, 1) := dk_172 (dk_at dksX3_swap_0 17 rfl rfl)
theorem dX3_swap_18 : decode cX3_swap 18 = .ok (.bipush (-6), 2) := dk_16 250 (dk_at dksX3_swap_0 18 rfl rfl)
theorem dX3_swap_20 : decode cX3_swap 20 = .ok (.istore_n 2, 1) := dk_61 (dk_at dksX3_swap_0 20 rfl rfl)
theorem dX3_swap_21 : decode cX3_swap 21 = .ok (.aload_n 0, 1) := dk_42 (dk_at dksX3_swap_0 21 rfl rfl)
theorem dX3_swap_22 : decode cX3_swap 22 = .ok (.iload_n 1, 1) := dk_27 (dk_at dksX3_swap_0 22 rfl rfl)
theorem dX3_swap_23 : decode cX3_swap 23 = .ok (.invokevirtual 222, 3) := dk_182 0 222 (dk_at dksX3_swap_1 0 rfl rfl)
theorem dX3_swap_26 : decode cX3_swap 26 = .ok (.istore_n 3, 1) := dk_62 (dk_at dksX3_swap_1 3 rfl rfl)
theorem dX3_swap_27 : decode cX3_swap 27 = .ok (.iconst 0, 1) := dk_3 (dk_at dksX3_swap_1 4 rfl rfl)
theorem dX3_swap_28 : decode cX3_swap 28 = .ok (.istore 4, 2) := dk_54 4 (dk_at dksX3_swap_1 5 rfl rfl)
theorem dX3_swap_30 : decode cX3_swap 30 = .ok (.iload 4, 2) := dk_21 4 (dk_at dksX3_swap_1 7 rfl rfl)
theorem dX3_swap_32 : decode cX3_swap 32 = .ok (.aload_n 0, 1) := dk_42 (dk_at dksX3_swap_1 9 rfl rfl)
theorem dX3_swap_33 : decode cX3_swap 33 = .ok (.getfield 16, 3) := dk_180 0 16 (dk_at dksX3_swap_1 10 rfl rfl)
theorem dX3_swap_36 : decode cX3_swap 36 = .ok (.iconst 3, 1) := dk_6 (dk_at dksX3_swap_1 13 rfl rfl)
theorem dX3_swap_37 : decode cX3_swap 37 = .ok (.iaload, 1) := dk_46 (dk_at dksX3_swap_1 14 rfl rfl)
theorem dX3_swap_38 : decode cX3_swap 38 = .ok (.if_icmp .ge 90, 3) := dk_162 0 90 (dk_at dksX3_swap_1 15 rfl rfl)
theorem dX3_swap_41 : decode cX3_swap 41 = .ok (.iconst 0, 1) := dk_3 (dk_at dksX3_swap_1 18 rfl rfl)
theorem dX3_swap_42 : decode cX3_swap 42 = .ok (.istore 5, 2) := dk_54 5 (dk_at dksX3_swap_1 19 rfl rfl)
theorem dX3_swap_44 : decode cX3_swap 44 = .ok (.iload 5, 2) := dk_21 5 (dk_at dksX3_swap_1 21 rfl rfl)
theorem dX3_swap_46 : decode cX3_swap 46 = .ok (.aload_n 0, 1) := dk_42 (dk_at dksX3_swap_1 23 rfl rfl)
theorem dX3_swap_47 : decode cX3_swap 47 = .ok (.getfield 16, 3) := dk_180 0 16 (dk_at dksX3_swap_2 0 rfl rfl)
theorem dX3_swap_50 : decode cX3_swap 50 = .ok (.iconst 3, 1) := dk_6 (dk_at dksX3_swap_2 3 rfl rfl)
theorem dX3_swap_51 : decode cX3_swap 51 = .ok (.iaload, 1) := dk_46 (dk_at dksX3_swap_2 4 rfl rfl)
theorem dX3_swap_52 : decode cX3_swap 52 = .ok (.if_icmp .ge 70, 3) := dk_162 0 70 (dk_at dksX3_swap_2 5 rfl rfl)
theorem dX3_swap_55 : decode cX3_swap 55 = .ok (.iload_n 1, 1) := dk_27 (dk_at dksX3_swap_2 8 rfl rfl)
theorem dX3_swap_56 : decode cX3_swap 56 = .ok (.iload 4, 2) := dk_21 4 (dk_at dksX3_swap_2 9 rfl rfl)
theorem dX3_swap_58 : decode cX3_swap 58 = .ok (.invokestatic 82, 3) := dk_184 0 82 (dk_at dksX3_swap_2 11 rfl rfl)
theorem dX3_swap_61 : decode cX3_swap 61 = .ok (.ifCond .eq 55, 3) := dk_153 0 55 (dk_at dksX3_swap_2 14 rfl rfl)
theorem dX3_swap_64 : decode cX3_swap 64 = .ok (.iload_n 1, 1) := dk_27 (dk_at dksX3_swap_2 17 rfl rfl)
theorem dX3_swap_65 : decode cX3_swap 65 = .ok (.iload 5, 2) := dk_21 5 (dk_at dksX3_swap_2 18 rfl rfl)
theorem dX3_swap_67 : decode cX3_swap 67 = .ok (.invokestatic 82, 3) := dk_184 0 82 (dk_at dksX3_swap_2 20 rfl rfl)
theorem dX3_swap_70 : decode cX3_swap 70 = .ok (.ifCond .eq 6, 3) := dk_153 0 6 (dk_at dksX3_swap_3 0 rfl rfl)
theorem dX3_swap_73 : decode cX3_swap 73 = .ok (.goto 43, 3) := dk_167 0 43 (dk_at dksX3_swap_3 3 rfl rfl)
theorem dX3_swap_76 : decode cX3_swap 76 = .ok (.aload_n 0, 1) := dk_42 (dk_at dksX3_swap_3 6 rfl rfl)
theorem dX3_swap_77 : decode cX3_swap 77 = .ok (.iload_n 1, 1) := dk_27 (dk_at dksX3_swap_3 7 rfl rfl)
theorem dX3_swap_78 : decode cX3_swap 78 = .ok (.iconst 1, 1) := dk_4 (dk_at dksX3_swap_3 8 rfl rfl)
theorem dX3_swap_79 : decode cX3_swap 79 = .ok (.iload 4, 2) := dk_21 4 (dk_at dksX3_swap_3 9 rfl rfl)
theorem dX3_swap_81 : decode cX3_swap 81 = .ok (.ishl, 1) := dk_120 (dk_at dksX3_swap_3 11 rfl rfl)
theorem dX3_swap_82 : decode cX3_swap 82 = .ok (.iconst (-1), 1) := dk_2 (dk_at dksX3_swap_3 12 rfl rfl)
theorem dX3_swap_83 : decode cX3_swap 83 = .ok (.ixor, 1) := dk_130 (dk_at dksX3_swap_3 13 rfl rfl)
theorem dX3_swap_84 : decode cX3_swap 84 = .ok (.iand, 1) := dk_126 (dk_at dksX3_swap_3 14 rfl rfl)
theorem dX3_swap_85 : decode cX3_swap 85 = .ok (.iconst 1, 1) := dk_4 (dk_at dksX3_swap_3 15 rfl rfl)
theorem dX3_swap_86 : decode cX3_swap 86 = .ok (.iload 5, 2) := dk_21 5 (dk_at dksX3_swap_3 16 rfl rfl)
theorem dX3_swap_88 : decode cX3_swap 88 = .ok (.ishl, 1) := dk_120 (dk_at dksX3_swap_3 18 rfl rfl)
theorem dX3_swap_89 : decode cX3_swap 89 = .ok (.ior, 1) := dk_128 (dk_at dksX3_swap_3 19 rfl rfl)
theorem dX3_swap_90 : decode cX3_swap 90 = .ok (.invokevirtual 222, 3) := dk_182 0 222 (dk_at dksX3_swap_3 20 rfl rfl)
theorem dX3_swap_93 : decode cX3_swap 93 = .ok (.istore 6, 2) := dk_54 6 (dk_at dksX3_swap_4 0 rfl rfl)
theorem dX3_swap_95 : decode cX3_swap 95 = .ok (.iload 6, 2) := dk_21 6 (dk_at dksX3_swap_4 2 rfl rfl)
theorem dX3_swap_97 : decode cX3_swap 97 = .ok (.iload_n 3, 1) := dk_29 (dk_at dksX3_swap_4 4 rfl rfl)
theorem dX3_swap_98 : decode cX3_swap 98 = .ok (.if_icmp .lt 6, 3) := dk_161 0 6 (dk_at dksX3_swap_4 5 rfl rfl)
theorem dX3_swap_101 : decode cX3_swap 101 = .ok (.goto 15, 3) := dk_167 0 15 (dk_at dksX3_swap_4 8 rfl rfl)
theorem dX3_swap_104 : decode cX3_swap 104 = .ok (.iload 6, 2) := dk_21 6 (dk_at dksX3_swap_4 11 rfl rfl)
theorem dX3_swap_106 : decode cX3_swap 106 = .ok (.istore_n 3, 1) := dk_62 (dk_at dksX3_swap_4 13 rfl rfl)
theorem dX3_swap_107 : decode cX3_swap 107 = .ok (.bipush 10, 2) := dk_16 10 (dk_at dksX3_swap_4 14 rfl rfl)
theorem dX3_swap_109 : decode cX3_swap 109 = .ok (.iload 4, 2) := dk_21 4 (dk_at dksX3_swap_4 16 rfl rfl)
theorem dX3_swap_111 : decode cX3_swap 111 = .ok (.imul, 1) := dk_104 (dk_at dksX3_swap_4 18 rfl rfl)
theorem dX3_swap_112 : decode cX3_swap 112 = .ok (.iload 5, 2) := dk_21 5 (dk_at dksX3_swap_4 19 rfl rfl)
theorem dX3_swap_114 : decode cX3_swap 114 = .ok (.iadd, 1) := dk_96 (dk_at dksX3_swap_4 21 rfl rfl)
theorem dX3_swap_115 : decode cX3_swap 115 = .ok (.istore_n 2, 1) := dk_61 (dk_at dksX3_swap_4 22 rfl rfl)
theorem dX3_swap_116 : decode cX3_swap 116 = .ok (.iinc 5 1, 3) := dk_132 5 1 (dk_at dksX3_swap_5 0 rfl rfl)
theorem dX3_swap_119 : decode cX3_swap 119 = .ok (.goto (-75), 3) := dk_167 255 181 (dk_at dksX3_swap_5 3 rfl rfl)
theorem dX3_swap_122 : decode cX3_swap 122 = .ok (.iinc 4 1, 3) := dk_132 4 1 (dk_at dksX3_swap_5 6 rfl rfl)
theorem dX3_swap_125 : decode cX3_swap 125 = .ok (.goto (-95), 3) := dk_167 255 161 (dk_at dksX3_swap_5 9 rfl rfl)
theorem dX3_swap_128 : decode cX3_swap 128 = .ok (.iload_n 2, 1) := dk_28 (dk_at dksX3_swap_5 12 rfl rfl)
theorem dX3_swap_129 : decode cX3_swap 129 = .ok (.ireturn, 1) := dk_172 (dk_at dksX3_swap_5 13 rfl rfl)
abbrev cX3_saves : ByteArray := prog_45_method_77_code
def yX3_saves : MethodName := ⟨RX3, "saves", "(I)I"⟩
def dkwX3_saves_2 : List UInt8 := [100, 172]
abbrev dktX3_saves_2 : List UInt8 := dkwX3_saves_2 ++ []
def dkwX3_saves_1 : List UInt8 := [17, 216, 240, 172, 42, 42, 182, 0, 89, 182, 0, 222, 42, 42, 182, 0, 89, 4, 27, 120, 128, 182, 0, 222]
abbrev dktX3_saves_1 : List UInt8 := dkwX3_saves_1 ++ dktX3_saves_2
def dkwX3_saves_0 : List UInt8 := [42, 27, 182, 0, 138, 153, 0, 18, 42, 27, 182, 0, 78, 154, 0, 10, 42, 182, 0, 89, 154, 0, 7]
abbrev dktX3_saves_0 : List UInt8 := dkwX3_saves_0 ++ dktX3_saves_1
theorem dksX3_saves_0 : cX3_saves.data.toList.drop 0 = dktX3_saves_0 := by decide +kernel
theorem dksX3_saves_1 : cX3_saves.data.toList.drop 23 = dktX3_saves_1 := dk_seg dksX3_saves_0 23 rfl rfl
theorem dksX3_saves_2 : cX3_saves.data.toList.drop 47 = dktX3_saves_2 := dk_seg dksX3_saves_1 24 rfl rfl
theorem dX3_saves_0 : decode cX3_saves 0 = .ok (.aload_n 0, 1) := dk_42 (dk_at dksX3_saves_0 0 rfl rfl)
theorem dX3_saves_1 : decode cX3_saves 1 = .ok (.iload_n 1, 1) := dk_27 (dk_at dksX3_saves_0 1 rfl rfl)
theorem dX3_saves_2 : decode cX3_saves 2 = .ok (.invokevirtual 138, 3) := dk_182 0 138 (dk_at dksX3_saves_0 2 rfl rfl)
theorem dX3_saves_5 : decode cX3_saves 5 = .ok (.ifCond .eq 18, 3) := dk_153 0 18 (dk_at dksX3_saves_0 5 rfl rfl)
theorem dX3_saves_8 : decode cX3_saves 8 = .ok (.aload_n 0, 1) := dk_42 (dk_at dksX3_saves_0 8 rfl rfl)
theorem dX3_saves_9 : decode cX3_saves 9 = .ok (.iload_n 1, 1) := dk_27 (dk_at dksX3_saves_0 9 rfl rfl)
theorem dX3_saves_10 : decode cX3_saves 10 = .ok (.invokevirtual 78, 3) := dk_182 0 78 (dk_at dksX3_saves_0 10 rfl rfl)
theorem dX3_saves_13 : decode cX3_saves 13 = .ok (.ifCond .ne 10, 3) := dk_154 0 10 (dk_at dksX3_saves_0 13 rfl rfl)
theorem dX3_saves_16 : decode cX3_saves 16 = .ok (.aload_n 0, 1) := dk_42 (dk_at dksX3_saves_0 16 rfl rfl)
theorem dX3_saves_17 : decode cX3_saves 17 = .ok (.invokevirtual 89, 3) := dk_182 0 89 (dk_at dksX3_saves_0 17 rfl rfl)
theorem dX3_saves_20 : decode cX3_saves 20 = .ok (.ifCond .ne 7, 3) := dk_154 0 7 (dk_at dksX3_saves_0 20 rfl rfl)
theorem dX3_saves_23 : decode cX3_saves 23 = .ok (.sipush (-10000), 3) := dk_17 216 240 (dk_at dksX3_saves_1 0 rfl rfl)
theorem dX3_saves_26 : decode cX3_saves 26 = .ok (.ireturn, 1) := dk_172 (dk_at dksX3_saves_1 3 rfl rfl)
theorem dX3_saves_27 : decode cX3_saves 27 = .ok (.aload_n 0, 1) := dk_42 (dk_at dksX3_saves_1 4 rfl rfl)
theorem dX3_saves_28 : decode cX3_saves 28 = .ok (.aload_n 0, 1) := dk_42 (dk_at dksX3_saves_1 5 rfl rfl)
theorem dX3_saves_29 : decode cX3_saves 29 = .ok (.invokevirtual 89, 3) := dk_182 0 89 (dk_at dksX3_saves_1 6 rfl rfl)
theorem dX3_saves_32 : decode cX3_saves 32 = .ok (.invokevirtual 222, 3) := dk_182 0 222 (dk_at dksX3_saves_1 9 rfl rfl)
theorem dX3_saves_35 : decode cX3_saves 35 = .ok (.aload_n 0, 1) := dk_42 (dk_at dksX3_saves_1 12 rfl rfl)
theorem dX3_saves_36 : decode cX3_saves 36 = .ok (.aload_n 0, 1) := dk_42 (dk_at dksX3_saves_1 13 rfl rfl)
theorem dX3_saves_37 : decode cX3_saves 37 = .ok (.invokevirtual 89, 3) := dk_182 0 89 (dk_at dksX3_saves_1 14 rfl rfl)
theorem dX3_saves_40 : decode cX3_saves 40 = .ok (.iconst 1, 1) := dk_4 (dk_at dksX3_saves_1 17 rfl rfl)
theorem dX3_saves_41 : decode cX3_saves 41 = .ok (.iload_n 1, 1) := dk_27 (dk_at dksX3_saves_1 18 rfl rfl)
theorem dX3_saves_42 : decode cX3_saves 42 = .ok (.ishl, 1) := dk_120 (dk_at dksX3_saves_1 19 rfl rfl)
theorem dX3_saves_43 : decode cX3_saves 43 = .ok (.ior, 1) := dk_128 (dk_at dksX3_saves_1 20 rfl rfl)
theorem dX3_saves_44 : decode cX3_saves 44 = .ok (.invokevirtual 222, 3) := dk_182 0 222 (dk_at dksX3_saves_1 21 rfl rfl)
theorem dX3_saves_47 : decode cX3_saves 47 = .ok (.isub, 1) := dk_100 (dk_at dksX3_saves_2 0 rfl rfl)
theorem dX3_saves_48 : decode cX3_saves 48 = .ok (.ireturn, 1) := dk_172 (dk_at dksX3_saves_2 1 rfl rfl)
abbrev cX3_thirsty : ByteArray := prog_45_method_79_code
def yX3_thirsty : MethodName := ⟨RX3, "thirsty", "(I)I"⟩
def dkwX3_thirsty_2 : List UInt8 := [132, 4, 1, 167, 255, 224, 29, 27, 160, 0, 5, 28, 172, 132, 2, 1, 167, 255, 196, 2, 172]
abbrev dktX3_thirsty_2 : List UInt8 := dkwX3_thirsty_2 ++ []
def dkwX3_thirsty_1 : List UInt8 := [46, 162, 0, 27, 29, 42, 21, 4, 28, 182, 0, 237, 153, 0, 7, 4, 167, 0, 4, 3, 96, 62]
abbrev dktX3_thirsty_1 : List UInt8 := dkwX3_thirsty_1 ++ dktX3_thirsty_2
def dkwX3_thirsty_0 : List UInt8 := [3, 61, 28, 42, 180, 0, 16, 5, 46, 162, 0, 56, 3, 62, 3, 54, 4, 21, 4, 42, 180, 0, 16, 5]
abbrev dktX3_thirsty_0 : List UInt8 := dkwX3_thirsty_0 ++ dktX3_thirsty_1
theorem dksX3_thirsty_0 : cX3_thirsty.data.toList.drop 0 = dktX3_thirsty_0 := by decide +kernel
theorem dksX3_thirsty_1 : cX3_thirsty.data.toList.drop 24 = dktX3_thirsty_1 := dk_seg dksX3_thirsty_0 24 rfl rfl
theorem dksX3_thirsty_2 : cX3_thirsty.data.toList.drop 46 = dktX3_thirsty_2 := dk_seg dksX3_thirsty_1 22 rfl rfl
theorem dX3_thirsty_0 : decode cX3_thirsty 0 = .ok (.iconst 0, 1) := dk_3 (dk_at dksX3_thirsty_0 0 rfl rfl)
theorem dX3_thirsty_1 : decode cX3_thirsty 1 = .ok (.istore_n 2, 1) := dk_61 (dk_at dksX3_thirsty_0 1 rfl rfl)
theorem dX3_thirsty_2 : decode cX3_thirsty 2 = .ok (.iload_n 2, 1) := dk_28 (dk_at dksX3_thirsty_0 2 rfl rfl)
theorem dX3_thirsty_3 : decode cX3_thirsty 3 = .ok (.aload_n 0, 1) := dk_42 (dk_at dksX3_thirsty_0 3 rfl rfl)
theorem dX3_thirsty_4 : decode cX3_thirsty 4 = .ok (.getfield 16, 3) := dk_180 0 16 (dk_at dksX3_thirsty_0 4 rfl rfl)
theorem dX3_thirsty_7 : decode cX3_thirsty 7 = .ok (.iconst 2, 1) := dk_5 (dk_at dksX3_thirsty_0 7 rfl rfl)
theorem dX3_thirsty_8 : decode cX3_thirsty 8 = .ok (.iaload, 1) := dk_46 (dk_at dksX3_thirsty_0 8 rfl rfl)
theorem dX3_thirsty_9 : decode cX3_thirsty 9 = .ok (.if_icmp .ge 56, 3) := dk_162 0 56 (dk_at dksX3_thirsty_0 9 rfl rfl)
theorem dX3_thirsty_12 : decode cX3_thirsty 12 = .ok (.iconst 0, 1) := dk_3 (dk_at dksX3_thirsty_0 12 rfl rfl)
theorem dX3_thirsty_13 : decode cX3_thirsty 13 = .ok (.istore_n 3, 1) := dk_62 (dk_at dksX3_thirsty_0 13 rfl rfl)
theorem dX3_thirsty_14 : decode cX3_thirsty 14 = .ok (.iconst 0, 1) := dk_3 (dk_at dksX3_thirsty_0 14 rfl rfl)
theorem dX3_thirsty_15 : decode cX3_thirsty 15 = .ok (.istore 4, 2) := dk_54 4 (dk_at dksX3_thirsty_0 15 rfl rfl)
theorem dX3_thirsty_17 : decode cX3_thirsty 17 = .ok (.iload 4, 2) := dk_21 4 (dk_at dksX3_thirsty_0 17 rfl rfl)
theorem dX3_thirsty_19 : decode cX3_thirsty 19 = .ok (.aload_n 0, 1) := dk_42 (dk_at dksX3_thirsty_0 19 rfl rfl)
theorem dX3_thirsty_20 : decode cX3_thirsty 20 = .ok (.getfield 16, 3) := dk_180 0 16 (dk_at dksX3_thirsty_0 20 rfl rfl)
theorem dX3_thirsty_23 : decode cX3_thirsty 23 = .ok (.iconst 2, 1) := dk_5 (dk_at dksX3_thirsty_0 23 rfl rfl)
theorem dX3_thirsty_24 : decode cX3_thirsty 24 = .ok (.iaload, 1) := dk_46 (dk_at dksX3_thirsty_1 0 rfl rfl)
theorem dX3_thirsty_25 : decode cX3_thirsty 25 = .ok (.if_icmp .ge 27, 3) := dk_162 0 27 (dk_at dksX3_thirsty_1 1 rfl rfl)
theorem dX3_thirsty_28 : decode cX3_thirsty 28 = .ok (.iload_n 3, 1) := dk_29 (dk_at dksX3_thirsty_1 4 rfl rfl)
theorem dX3_thirsty_29 : decode cX3_thirsty 29 = .ok (.aload_n 0, 1) := dk_42 (dk_at dksX3_thirsty_1 5 rfl rfl)
theorem dX3_thirsty_30 : decode cX3_thirsty 30 = .ok (.iload 4, 2) := dk_21 4 (dk_at dksX3_thirsty_1 6 rfl rfl)
theorem dX3_thirsty_32 : decode cX3_thirsty 32 = .ok (.iload_n 2, 1) := dk_28 (dk_at dksX3_thirsty_1 8 rfl rfl)
theorem dX3_thirsty_33 : decode cX3_thirsty 33 = .ok (.invokevirtual 237, 3) := dk_182 0 237 (dk_at dksX3_thirsty_1 9 rfl rfl)
theorem dX3_thirsty_36 : decode cX3_thirsty 36 = .ok (.ifCond .eq 7, 3) := dk_153 0 7 (dk_at dksX3_thirsty_1 12 rfl rfl)
theorem dX3_thirsty_39 : decode cX3_thirsty 39 = .ok (.iconst 1, 1) := dk_4 (dk_at dksX3_thirsty_1 15 rfl rfl)
theorem dX3_thirsty_40 : decode cX3_thirsty 40 = .ok (.goto 4, 3) := dk_167 0 4 (dk_at dksX3_thirsty_1 16 rfl rfl)
theorem dX3_thirsty_43 : decode cX3_thirsty 43 = .ok (.iconst 0, 1) := dk_3 (dk_at dksX3_thirsty_1 19 rfl rfl)
theorem dX3_thirsty_44 : decode cX3_thirsty 44 = .ok (.iadd, 1) := dk_96 (dk_at dksX3_thirsty_1 20 rfl rfl)
theorem dX3_thirsty_45 : decode cX3_thirsty 45 = .ok (.istore_n 3, 1) := dk_62 (dk_at dksX3_thirsty_1 21 rfl rfl)
theorem dX3_thirsty_46 : decode cX3_thirsty 46 = .ok (.iinc 4 1, 3) := dk_132 4 1 (dk_at dksX3_thirsty_2 0 rfl rfl)
theorem dX3_thirsty_49 : decode cX3_thirsty 49 = .ok (.goto (-32), 3) := dk_167 255 224 (dk_at dksX3_thirsty_2 3 rfl rfl)
theorem dX3_thirsty_52 : decode cX3_thirsty 52 = .ok (.iload_n 3, 1) := dk_29 (dk_at dksX3_thirsty_2 6 rfl rfl)
theorem dX3_thirsty_53 : decode cX3_thirsty 53 = .ok (.iload_n 1, 1) := dk_27 (dk_at dksX3_thirsty_2 7 rfl rfl)
theorem dX3_thirsty_54 : decode cX3_thirsty 54 = .ok (.if_icmp .ne 5, 3) := dk_160 0 5 (dk_at dksX3_thirsty_2 8 rfl rfl)
theorem dX3_thirsty_57 : decode cX3_thirsty 57 = .ok (.iload_n 2, 1) := dk_28 (dk_at dksX3_thirsty_2 11 rfl rfl)
theorem dX3_thirsty_58 : decode cX3_thirsty 58 = .ok (.ireturn, 1) := dk_172 (dk_at dksX3_thirsty_2 12 rfl rfl)
theorem dX3_thirsty_59 : decode cX3_thirsty 59 = .ok (.iinc 2 1, 3) := dk_132 2 1 (dk_at dksX3_thirsty_2 13 rfl rfl)
theorem dX3_thirsty_62 : decode cX3_thirsty 62 = .ok (.goto (-60), 3) := dk_167 255 196 (dk_at dksX3_thirsty_2 16 rfl rfl)
theorem dX3_thirsty_65 : decode cX3_thirsty 65 = .ok (.iconst (-1), 1) := dk_2 (dk_at dksX3_thirsty_2 19 rfl rfl)
theorem dX3_thirsty_66 : decode cX3_thirsty 66 = .ok (.ireturn, 1) := dk_172 (dk_at dksX3_thirsty_2 20 rfl rfl)
abbrev cX3_isThirstier : ByteArray := prog_45_method_78_code
def yX3_isThirstier : MethodName := ⟨RX3, "isThirstier", "(II)Z"⟩
def dkwX3_isThirstier_3 : List UInt8 := [167, 0, 13, 27, 28, 162, 0, 7, 4, 167, 0, 4, 3, 172]
abbrev dktX3_isThirstier_3 : List UInt8 := dkwX3_isThirstier_3 ++ []
def dkwX3_isThirstier_2 : List UInt8 := [159, 0, 26, 42, 27, 5, 182, 0, 72, 42, 28, 5, 182, 0, 72, 164, 0, 7, 4, 167, 0, 17, 3]
abbrev dktX3_isThirstier_2 : List UInt8 := dkwX3_isThirstier_2 ++ dktX3_isThirstier_3
def dkwX3_isThirstier_1 : List UInt8 := [182, 0, 72, 164, 0, 7, 4, 167, 0, 4, 3, 172, 42, 27, 5, 182, 0, 72, 42, 28, 5, 182, 0, 72]
abbrev dktX3_isThirstier_1 : List UInt8 := dkwX3_isThirstier_1 ++ dktX3_isThirstier_2
def dkwX3_isThirstier_0 : List UInt8 := [42, 27, 6, 182, 0, 72, 42, 28, 6, 182, 0, 72, 159, 0, 24, 42, 27, 6, 182, 0, 72, 42, 28, 6]
abbrev dktX3_isThirstier_0 : List UInt8 := dkwX3_isThirstier_0 ++ dktX3_isThirstier_1
theorem dksX3_isThirstier_0 : cX3_isThirstier.data.toList.drop 0 = dktX3_isThirstier_0 := by decide +kernel
theorem dksX3_isThirstier_1 : cX3_isThirstier.data.toList.drop 24 = dktX3_isThirstier_1 := dk_seg dksX3_isThirstier_0 24 rfl rfl
theorem dksX3_isThirstier_2 : cX3_isThirstier.data.toList.drop 48 = dktX3_isThirstier_2 := dk_seg dksX3_isThirstier_1 24 rfl rfl
theorem dksX3_isThirstier_3 : cX3_isThirstier.data.toList.drop 71 = dktX3_isThirstier_3 := dk_seg dksX3_isThirstier_2 23 rfl rfl
theorem dX3_isThirstier_0 : decode cX3_isThirstier 0 = .ok (.aload_n 0, 1) := dk_42 (dk_at dksX3_isThirstier_0 0 rfl rfl)
theorem dX3_isThirstier_1 : decode cX3_isThirstier 1 = .ok (.iload_n 1, 1) := dk_27 (dk_at dksX3_isThirstier_0 1 rfl rfl)
theorem dX3_isThirstier_2 : decode cX3_isThirstier 2 = .ok (.iconst 3, 1) := dk_6 (dk_at dksX3_isThirstier_0 2 rfl rfl)
theorem dX3_isThirstier_3 : decode cX3_isThirstier 3 = .ok (.invokevirtual 72, 3) := dk_182 0 72 (dk_at dksX3_isThirstier_0 3 rfl rfl)
theorem dX3_isThirstier_6 : decode cX3_isThirstier 6 = .ok (.aload_n 0, 1) := dk_42 (dk_at dksX3_isThirstier_0 6 rfl rfl)
theorem dX3_isThirstier_7 : decode cX3_isThirstier 7 = .ok (.iload_n 2, 1) := dk_28 (dk_at dksX3_isThirstier_0 7 rfl rfl)
theorem dX3_isThirstier_8 : decode cX3_isThirstier 8 = .ok (.iconst 3, 1) := dk_6 (dk_at dksX3_isThirstier_0 8 rfl rfl)
theorem dX3_isThirstier_9 : decode cX3_isThirstier 9 = .ok (.invokevirtual 72, 3) := dk_182 0 72 (dk_at dksX3_isThirstier_0 9 rfl rfl)
theorem dX3_isThirstier_12 : decode cX3_isThirstier 12 = .ok (.if_icmp .eq 24, 3) := dk_159 0 24 (dk_at dksX3_isThirstier_0 12 rfl rfl)
theorem dX3_isThirstier_15 : decode cX3_isThirstier 15 = .ok (.aload_n 0, 1) := dk_42 (dk_at dksX3_isThirstier_0 15 rfl rfl)
theorem dX3_isThirstier_16 : decode cX3_isThirstier 16 = .ok (.iload_n 1, 1) := dk_27 (dk_at dksX3_isThirstier_0 16 rfl rfl)
theorem dX3_isThirstier_17 : decode cX3_isThirstier 17 = .ok (.iconst 3, 1) := dk_6 (dk_at dksX3_isThirstier_0 17 rfl rfl)
theorem dX3_isThirstier_18 : decode cX3_isThirstier 18 = .ok (.invokevirtual 72, 3) := dk_182 0 72 (dk_at dksX3_isThirstier_0 18 rfl rfl)
theorem dX3_isThirstier_21 : decode cX3_isThirstier 21 = .ok (.aload_n 0, 1) := dk_42 (dk_at dksX3_isThirstier_0 21 rfl rfl)
theorem dX3_isThirstier_22 : decode cX3_isThirstier 22 = .ok (.iload_n 2, 1) := dk_28 (dk_at dksX3_isThirstier_0 22 rfl rfl)
theorem dX3_isThirstier_23 : decode cX3_isThirstier 23 = .ok (.iconst 3, 1) := dk_6 (dk_at dksX3_isThirstier_0 23 rfl rfl)
theorem dX3_isThirstier_24 : decode cX3_isThirstier 24 = .ok (.invokevirtual 72, 3) := dk_182 0 72 (dk_at dksX3_isThirstier_1 0 rfl rfl)
theorem dX3_isThirstier_27 : decode cX3_isThirstier 27 = .ok (.if_icmp .le 7, 3) := dk_164 0 7 (dk_at dksX3_isThirstier_1 3 rfl rfl)
theorem dX3_isThirstier_30 : decode cX3_isThirstier 30 = .ok (.iconst 1, 1) := dk_4 (dk_at dksX3_isThirstier_1 6 rfl rfl)
theorem dX3_isThirstier_31 : decode cX3_isThirstier 31 = .ok (.goto 4, 3) := dk_167 0 4 (dk_at dksX3_isThirstier_1 7 rfl rfl)
theorem dX3_isThirstier_34 : decode cX3_isThirstier 34 = .ok (.iconst 0, 1) := dk_3 (dk_at dksX3_isThirstier_1 10 rfl rfl)
theorem dX3_isThirstier_35 : decode cX3_isThirstier 35 = .ok (.ireturn, 1) := dk_172 (dk_at dksX3_isThirstier_1 11 rfl rfl)
theorem dX3_isThirstier_36 : decode cX3_isThirstier 36 = .ok (.aload_n 0, 1) := dk_42 (dk_at dksX3_isThirstier_1 12 rfl rfl)
theorem dX3_isThirstier_37 : decode cX3_isThirstier 37 = .ok (.iload_n 1, 1) := dk_27 (dk_at dksX3_isThirstier_1 13 rfl rfl)
theorem dX3_isThirstier_38 : decode cX3_isThirstier 38 = .ok (.iconst 2, 1) := dk_5 (dk_at dksX3_isThirstier_1 14 rfl rfl)
theorem dX3_isThirstier_39 : decode cX3_isThirstier 39 = .ok (.invokevirtual 72, 3) := dk_182 0 72 (dk_at dksX3_isThirstier_1 15 rfl rfl)
theorem dX3_isThirstier_42 : decode cX3_isThirstier 42 = .ok (.aload_n 0, 1) := dk_42 (dk_at dksX3_isThirstier_1 18 rfl rfl)
theorem dX3_isThirstier_43 : decode cX3_isThirstier 43 = .ok (.iload_n 2, 1) := dk_28 (dk_at dksX3_isThirstier_1 19 rfl rfl)
theorem dX3_isThirstier_44 : decode cX3_isThirstier 44 = .ok (.iconst 2, 1) := dk_5 (dk_at dksX3_isThirstier_1 20 rfl rfl)
theorem dX3_isThirstier_45 : decode cX3_isThirstier 45 = .ok (.invokevirtual 72, 3) := dk_182 0 72 (dk_at dksX3_isThirstier_1 21 rfl rfl)
theorem dX3_isThirstier_48 : decode cX3_isThirstier 48 = .ok (.if_icmp .eq 26, 3) := dk_159 0 26 (dk_at dksX3_isThirstier_2 0 rfl rfl)
theorem dX3_isThirstier_51 : decode cX3_isThirstier 51 = .ok (.aload_n 0, 1) := dk_42 (dk_at dksX3_isThirstier_2 3 rfl rfl)
theorem dX3_isThirstier_52 : decode cX3_isThirstier 52 = .ok (.iload_n 1, 1) := dk_27 (dk_at dksX3_isThirstier_2 4 rfl rfl)
theorem dX3_isThirstier_53 : decode cX3_isThirstier 53 = .ok (.iconst 2, 1) := dk_5 (dk_at dksX3_isThirstier_2 5 rfl rfl)
theorem dX3_isThirstier_54 : decode cX3_isThirstier 54 = .ok (.invokevirtual 72, 3) := dk_182 0 72 (dk_at dksX3_isThirstier_2 6 rfl rfl)
theorem dX3_isThirstier_57 : decode cX3_isThirstier 57 = .ok (.aload_n 0, 1) := dk_42 (dk_at dksX3_isThirstier_2 9 rfl rfl)
theorem dX3_isThirstier_58 : decode cX3_isThirstier 58 = .ok (.iload_n 2, 1) := dk_28 (dk_at dksX3_isThirstier_2 10 rfl rfl)
theorem dX3_isThirstier_59 : decode cX3_isThirstier 59 = .ok (.iconst 2, 1) := dk_5 (dk_at dksX3_isThirstier_2 11 rfl rfl)
theorem dX3_isThirstier_60 : decode cX3_isThirstier 60 = .ok (.invokevirtual 72, 3) := dk_182 0 72 (dk_at dksX3_isThirstier_2 12 rfl rfl)
theorem dX3_isThirstier_63 : decode cX3_isThirstier 63 = .ok (.if_icmp .le 7, 3) := dk_164 0 7 (dk_at dksX3_isThirstier_2 15 rfl rfl)
theorem dX3_isThirstier_66 : decode cX3_isThirstier 66 = .ok (.iconst 1, 1) := dk_4 (dk_at dksX3_isThirstier_2 18 rfl rfl)
theorem dX3_isThirstier_67 : decode cX3_isThirstier 67 = .ok (.goto 17, 3) := dk_167 0 17 (dk_at dksX3_isThirstier_2 19 rfl rfl)
theorem dX3_isThirstier_70 : decode cX3_isThirstier 70 = .ok (.iconst 0, 1) := dk_3 (dk_at dksX3_isThirstier_2 22 rfl rfl)
theorem dX3_isThirstier_71 : decode cX3_isThirstier 71 = .ok (.goto 13, 3) := dk_167 0 13 (dk_at dksX3_isThirstier_3 0 rfl rfl)
theorem dX3_isThirstier_74 : decode cX3_isThirstier 74 = .ok (.iload_n 1, 1) := dk_27 (dk_at dksX3_isThirstier_3 3 rfl rfl)
theorem dX3_isThirstier_75 : decode cX3_isThirstier 75 = .ok (.iload_n 2, 1) := dk_28 (dk_at dksX3_isThirstier_3 4 rfl rfl)
theorem dX3_isThirstier_76 : decode cX3_isThirstier 76 = .ok (.if_icmp .ge 7, 3) := dk_162 0 7 (dk_at dksX3_isThirstier_3 5 rfl rfl)
theorem dX3_isThirstier_79 : decode cX3_isThirstier 79 = .ok (.iconst 1, 1) := dk_4 (dk_at dksX3_isThirstier_3 8 rfl rfl)
theorem dX3_isThirstier_80 : decode cX3_isThirstier 80 = .ok (.goto 4, 3) := dk_167 0 4 (dk_at dksX3_isThirstier_3 9 rfl rfl)
theorem dX3_isThirstier_83 : decode cX3_isThirstier 83 = .ok (.iconst 0, 1) := dk_3 (dk_at dksX3_isThirstier_3 12 rfl rfl)
theorem dX3_isThirstier_84 : decode cX3_isThirstier 84 = .ok (.ireturn, 1) := dk_172 (dk_at dksX3_isThirstier_3 13 rfl rfl)
abbrev cX3_strained : ByteArray := prog_45_method_81_code
def yX3_strained : MethodName := ⟨RX3, "strained", "(I)I"⟩
def dkwX3_strained_4 : List UInt8 := [167, 255, 191, 29, 27, 160, 0, 5, 28, 172, 132, 2, 1, 167, 255, 152, 2, 172]
abbrev dktX3_strained_4 : List UInt8 := dkwX3_strained_4 ++ []
def dkwX3_strained_3 : List UInt8 := [28, 182, 0, 240, 160, 0, 13, 21, 4, 28, 162, 0, 7, 4, 167, 0, 4, 3, 96, 62, 132, 4, 1]
abbrev dktX3_strained_3 : List UInt8 := dkwX3_strained_3 ++ dktX3_strained_4
def dkwX3_strained_2 : List UInt8 := [153, 0, 41, 42, 21, 4, 182, 0, 240, 42, 28, 182, 0, 240, 161, 0, 23, 42, 21, 4, 182, 0, 240, 42]
abbrev dktX3_strained_2 : List UInt8 := dkwX3_strained_2 ++ dktX3_strained_3
def dkwX3_strained_1 : List UInt8 := [62, 3, 54, 4, 21, 4, 42, 180, 0, 16, 6, 46, 162, 0, 60, 29, 42, 21, 4, 182, 0, 78]
abbrev dktX3_strained_1 : List UInt8 := dkwX3_strained_1 ++ dktX3_strained_2
def dkwX3_strained_0 : List UInt8 := [3, 61, 28, 42, 180, 0, 16, 6, 46, 162, 0, 100, 42, 28, 182, 0, 78, 154, 0, 6, 167, 0, 83, 3]
abbrev dktX3_strained_0 : List UInt8 := dkwX3_strained_0 ++ dktX3_strained_1
theorem dksX3_strained_0 : cX3_strained.data.toList.drop 0 = dktX3_strained_0 := by decide +kernel
theorem dksX3_strained_1 : cX3_strained.data.toList.drop 24 = dktX3_strained_1 := dk_seg dksX3_strained_0 24 rfl rfl
theorem dksX3_strained_2 : cX3_strained.data.toList.drop 46 = dktX3_strained_2 := dk_seg dksX3_strained_1 22 rfl rfl
theorem dksX3_strained_3 : cX3_strained.data.toList.drop 70 = dktX3_strained_3 := dk_seg dksX3_strained_2 24 rfl rfl
theorem dksX3_strained_4 : cX3_strained.data.toList.drop 93 = dktX3_strained_4 := dk_seg dksX3_strained_3 23 rfl rfl
theorem dX3_strained_0 : decode cX3_strained 0 = .ok (.iconst 0, 1) := dk_3 (dk_at dksX3_strained_0 0 rfl rfl)
theorem dX3_strained_1 : decode cX3_strained 1 = .ok (.istore_n 2, 1) := dk_61 (dk_at dksX3_strained_0 1 rfl rfl)
theorem dX3_strained_2 : decode cX3_strained 2 = .ok (.iload_n 2, 1) := dk_28 (dk_at dksX3_strained_0 2 rfl rfl)
theorem dX3_strained_3 : decode cX3_strained 3 = .ok (.aload_n 0, 1) := dk_42 (dk_at dksX3_strained_0 3 rfl rfl)
theorem dX3_strained_4 : decode cX3_strained 4 = .ok (.getfield 16, 3) := dk_180 0 16 (dk_at dksX3_strained_0 4 rfl rfl)
theorem dX3_strained_7 : decode cX3_strained 7 = .ok (.iconst 3, 1) := dk_6 (dk_at dksX3_strained_0 7 rfl rfl)
theorem dX3_strained_8 : decode cX3_strained 8 = .ok (.iaload, 1) := dk_46 (dk_at dksX3_strained_0 8 rfl rfl)
theorem dX3_strained_9 : decode cX3_strained 9 = .ok (.if_icmp .ge 100, 3) := dk_162 0 100 (dk_at dksX3_strained_0 9 rfl rfl)
theorem dX3_strained_12 : decode cX3_strained 12 = .ok (.aload_n 0, 1) := dk_42 (dk_at dksX3_strained_0 12 rfl rfl)
theorem dX3_strained_13 : decode cX3_strained 13 = .ok (.iload_n 2, 1) := dk_28 (dk_at dksX3_strained_0 13 rfl rfl)
theorem dX3_strained_14 : decode cX3_strained 14 = .ok (.invokevirtual 78, 3) := dk_182 0 78 (dk_at dksX3_strained_0 14 rfl rfl)
theorem dX3_strained_17 : decode cX3_strained 17 = .ok (.ifCond .ne 6, 3) := dk_154 0 6 (dk_at dksX3_strained_0 17 rfl rfl)
theorem dX3_strained_20 : decode cX3_strained 20 = .ok (.goto 83, 3) := dk_167 0 83 (dk_at dksX3_strained_0 20 rfl rfl)
theorem dX3_strained_23 : decode cX3_strained 23 = .ok (.iconst 0, 1) := dk_3 (dk_at dksX3_strained_0 23 rfl rfl)
theorem dX3_strained_24 : decode cX3_strained 24 = .ok (.istore_n 3, 1) := dk_62 (dk_at dksX3_strained_1 0 rfl rfl)
theorem dX3_strained_25 : decode cX3_strained 25 = .ok (.iconst 0, 1) := dk_3 (dk_at dksX3_strained_1 1 rfl rfl)
theorem dX3_strained_26 : decode cX3_strained 26 = .ok (.istore 4, 2) := dk_54 4 (dk_at dksX3_strained_1 2 rfl rfl)
theorem dX3_strained_28 : decode cX3_strained 28 = .ok (.iload 4, 2) := dk_21 4 (dk_at dksX3_strained_1 4 rfl rfl)
theorem dX3_strained_30 : decode cX3_strained 30 = .ok (.aload_n 0, 1) := dk_42 (dk_at dksX3_strained_1 6 rfl rfl)
theorem dX3_strained_31 : decode cX3_strained 31 = .ok (.getfield 16, 3) := dk_180 0 16 (dk_at dksX3_strained_1 7 rfl rfl)
theorem dX3_strained_34 : decode cX3_strained 34 = .ok (.iconst 3, 1) := dk_6 (dk_at dksX3_strained_1 10 rfl rfl)
theorem dX3_strained_35 : decode cX3_strained 35 = .ok (.iaload, 1) := dk_46 (dk_at dksX3_strained_1 11 rfl rfl)
theorem dX3_strained_36 : decode cX3_strained 36 = .ok (.if_icmp .ge 60, 3) := dk_162 0 60 (dk_at dksX3_strained_1 12 rfl rfl)
theorem dX3_strained_39 : decode cX3_strained 39 = .ok (.iload_n 3, 1) := dk_29 (dk_at dksX3_strained_1 15 rfl rfl)
theorem dX3_strained_40 : decode cX3_strained 40 = .ok (.aload_n 0, 1) := dk_42 (dk_at dksX3_strained_1 16 rfl rfl)
theorem dX3_strained_41 : decode cX3_strained 41 = .ok (.iload 4, 2) := dk_21 4 (dk_at dksX3_strained_1 17 rfl rfl)
theorem dX3_strained_43 : decode cX3_strained 43 = .ok (.invokevirtual 78, 3) := dk_182 0 78 (dk_at dksX3_strained_1 19 rfl rfl)
theorem dX3_strained_46 : decode cX3_strained 46 = .ok (.ifCond .eq 41, 3) := dk_153 0 41 (dk_at dksX3_strained_2 0 rfl rfl)
theorem dX3_strained_49 : decode cX3_strained 49 = .ok (.aload_n 0, 1) := dk_42 (dk_at dksX3_strained_2 3 rfl rfl)
theorem dX3_strained_50 : decode cX3_strained 50 = .ok (.iload 4, 2) := dk_21 4 (dk_at dksX3_strained_2 4 rfl rfl)
theorem dX3_strained_52 : decode cX3_strained 52 = .ok (.invokevirtual 240, 3) := dk_182 0 240 (dk_at dksX3_strained_2 6 rfl rfl)
theorem dX3_strained_55 : decode cX3_strained 55 = .ok (.aload_n 0, 1) := dk_42 (dk_at dksX3_strained_2 9 rfl rfl)
theorem dX3_strained_56 : decode cX3_strained 56 = .ok (.iload_n 2, 1) := dk_28 (dk_at dksX3_strained_2 10 rfl rfl)
theorem dX3_strained_57 : decode cX3_strained 57 = .ok (.invokevirtual 240, 3) := dk_182 0 240 (dk_at dksX3_strained_2 11 rfl rfl)
theorem dX3_strained_60 : decode cX3_strained 60 = .ok (.if_icmp .lt 23, 3) := dk_161 0 23 (dk_at dksX3_strained_2 14 rfl rfl)
theorem dX3_strained_63 : decode cX3_strained 63 = .ok (.aload_n 0, 1) := dk_42 (dk_at dksX3_strained_2 17 rfl rfl)
theorem dX3_strained_64 : decode cX3_strained 64 = .ok (.iload 4, 2) := dk_21 4 (dk_at dksX3_strained_2 18 rfl rfl)
theorem dX3_strained_66 : decode cX3_strained 66 = .ok (.invokevirtual 240, 3) := dk_182 0 240 (dk_at dksX3_strained_2 20 rfl rfl)
theorem dX3_strained_69 : decode cX3_strained 69 = .ok (.aload_n 0, 1) := dk_42 (dk_at dksX3_strained_2 23 rfl rfl)
theorem dX3_strained_70 : decode cX3_strained 70 = .ok (.iload_n 2, 1) := dk_28 (dk_at dksX3_strained_3 0 rfl rfl)
theorem dX3_strained_71 : decode cX3_strained 71 = .ok (.invokevirtual 240, 3) := dk_182 0 240 (dk_at dksX3_strained_3 1 rfl rfl)
theorem dX3_strained_74 : decode cX3_strained 74 = .ok (.if_icmp .ne 13, 3) := dk_160 0 13 (dk_at dksX3_strained_3 4 rfl rfl)
theorem dX3_strained_77 : decode cX3_strained 77 = .ok (.iload 4, 2) := dk_21 4 (dk_at dksX3_strained_3 7 rfl rfl)
theorem dX3_strained_79 : decode cX3_strained 79 = .ok (.iload_n 2, 1) := dk_28 (dk_at dksX3_strained_3 9 rfl rfl)
theorem dX3_strained_80 : decode cX3_strained 80 = .ok (.if_icmp .ge 7, 3) := dk_162 0 7 (dk_at dksX3_strained_3 10 rfl rfl)
theorem dX3_strained_83 : decode cX3_strained 83 = .ok (.iconst 1, 1) := dk_4 (dk_at dksX3_strained_3 13 rfl rfl)
theorem dX3_strained_84 : decode cX3_strained 84 = .ok (.goto 4, 3) := dk_167 0 4 (dk_at dksX3_strained_3 14 rfl rfl)
theorem dX3_strained_87 : decode cX3_strained 87 = .ok (.iconst 0, 1) := dk_3 (dk_at dksX3_strained_3 17 rfl rfl)
theorem dX3_strained_88 : decode cX3_strained 88 = .ok (.iadd, 1) := dk_96 (dk_at dksX3_strained_3 18 rfl rfl)
theorem dX3_strained_89 : decode cX3_strained 89 = .ok (.istore_n 3, 1) := dk_62 (dk_at dksX3_strained_3 19 rfl rfl)
theorem dX3_strained_90 : decode cX3_strained 90 = .ok (.iinc 4 1, 3) := dk_132 4 1 (dk_at dksX3_strained_3 20 rfl rfl)
theorem dX3_strained_93 : decode cX3_strained 93 = .ok (.goto (-65), 3) := dk_167 255 191 (dk_at dksX3_strained_4 0 rfl rfl)
theorem dX3_strained_96 : decode cX3_strained 96 = .ok (.iload_n 3, 1) := dk_29 (dk_at dksX3_strained_4 3 rfl rfl)
theorem dX3_strained_97 : decode cX3_strained 97 = .ok (.iload_n 1, 1) := dk_27 (dk_at dksX3_strained_4 4 rfl rfl)
theorem dX3_strained_98 : decode cX3_strained 98 = .ok (.if_icmp .ne 5, 3) := dk_160 0 5 (dk_at dksX3_strained_4 5 rfl rfl)
theorem dX3_strained_101 : decode cX3_strained 101 = .ok (.iload_n 2, 1) := dk_28 (dk_at dksX3_strained_4 8 rfl rfl)
theorem dX3_strained_102 : decode cX3_strained 102 = .ok (.ireturn, 1) := dk_172 (dk_at dksX3_strained_4 9 rfl rfl)
theorem dX3_strained_103 : decode cX3_strained 103 = .ok (.iinc 2 1, 3) := dk_132 2 1 (dk_at dksX3_strained_4 10 rfl rfl)
theorem dX3_strained_106 : decode cX3_strained 106 = .ok (.goto (-104), 3) := dk_167 255 152 (dk_at dksX3_strained_4 13 rfl rfl)
theorem dX3_strained_109 : decode cX3_strained 109 = .ok (.iconst (-1), 1) := dk_2 (dk_at dksX3_strained_4 16 rfl rfl)
theorem dX3_strained_110 : decode cX3_strained 110 = .ok (.ireturn, 1) := dk_172 (dk_at dksX3_strained_4 17 rfl rfl)
abbrev cX3_spare : ByteArray := prog_45_method_80_code
def yX3_spare : MethodName := ⟨RX3, "spare", "(I)I"⟩
def dkwX3_spare_0 : List UInt8 := [42, 27, 182, 0, 162, 42, 27, 182, 0, 213, 100, 172]
abbrev dktX3_spare_0 : List UInt8 := dkwX3_spare_0 ++ []
theorem dksX3_spare_0 : cX3_spare.data.toList.drop 0 = dktX3_spare_0 := by decide +kernel
theorem dX3_spare_0 : decode cX3_spare 0 = .ok (.aload_n 0, 1) := dk_42 (dk_at dksX3_spare_0 0 rfl rfl)
theorem dX3_spare_1 : decode cX3_spare 1 = .ok (.iload_n 1, 1) := dk_27 (dk_at dksX3_spare_0 1 rfl rfl)
theorem dX3_spare_2 : decode cX3_spare 2 = .ok (.invokevirtual 162, 3) := dk_182 0 162 (dk_at dksX3_spare_0 2 rfl rfl)
theorem dX3_spare_5 : decode cX3_spare 5 = .ok (.aload_n 0, 1) := dk_42 (dk_at dksX3_spare_0 5 rfl rfl)
theorem dX3_spare_6 : decode cX3_spare 6 = .ok (.iload_n 1, 1) := dk_27 (dk_at dksX3_spare_0 6 rfl rfl)
theorem dX3_spare_7 : decode cX3_spare 7 = .ok (.invokevirtual 213, 3) := dk_182 0 213 (dk_at dksX3_spare_0 7 rfl rfl)
theorem dX3_spare_10 : decode cX3_spare 10 = .ok (.isub, 1) := dk_100 (dk_at dksX3_spare_0 10 rfl rfl)
theorem dX3_spare_11 : decode cX3_spare 11 = .ok (.ireturn, 1) := dk_172 (dk_at dksX3_spare_0 11 rfl rfl)
abbrev cX3_isCounted : ByteArray := prog_45_method_83_code
def yX3_isCounted : MethodName := ⟨RX3, "isCounted", "()Z"⟩
def dkwX3_isCounted_8 : List UInt8 := [160, 0, 7, 4, 167, 0, 4, 3, 172]
abbrev dktX3_isCounted_8 : List UInt8 := dkwX3_isCounted_8 ++ []
def dkwX3_isCounted_7 : List UInt8 := [180, 0, 16, 7, 46, 96, 6, 160, 0, 24, 42, 182, 0, 89, 153, 0, 13, 28, 42, 180, 0, 16, 5, 46]
abbrev dktX3_isCounted_7 : List UInt8 := dkwX3_isCounted_7 ++ dktX3_isCounted_8
def dkwX3_isCounted_6 : List UInt8 := [4, 167, 0, 4, 3, 54, 5, 27, 29, 160, 0, 44, 21, 5, 153, 0, 39, 42, 182, 0, 246, 42]
abbrev dktX3_isCounted_6 : List UInt8 := dkwX3_isCounted_6 ++ dktX3_isCounted_7
def dkwX3_isCounted_5 : List UInt8 := [156, 0, 7, 4, 167, 0, 25, 3, 167, 0, 21, 42, 21, 4, 182, 0, 222, 42, 182, 0, 243, 160, 0, 7]
abbrev dktX3_isCounted_5 : List UInt8 := dkwX3_isCounted_5 ++ dktX3_isCounted_6
def dkwX3_isCounted_4 : List UInt8 := [62, 132, 4, 1, 167, 255, 232, 42, 182, 0, 225, 54, 4, 21, 4, 156, 0, 18, 42, 182, 0, 243]
abbrev dktX3_isCounted_4 : List UInt8 := dkwX3_isCounted_4 ++ dktX3_isCounted_5
def dkwX3_isCounted_3 : List UInt8 := [62, 3, 54, 4, 21, 4, 42, 180, 0, 16, 5, 46, 162, 0, 19, 29, 42, 21, 4, 7, 182, 0, 72, 96]
abbrev dktX3_isCounted_3 : List UInt8 := dkwX3_isCounted_3 ++ dktX3_isCounted_4
def dkwX3_isCounted_2 : List UInt8 := [182, 0, 78, 153, 0, 11, 42, 29, 182, 0, 141, 167, 0, 4, 3, 96, 61, 132, 3, 1, 167, 255, 223, 3]
abbrev dktX3_isCounted_2 : List UInt8 := dkwX3_isCounted_2 ++ dktX3_isCounted_3
def dkwX3_isCounted_1 : List UInt8 := [96, 60, 132, 3, 1, 167, 255, 233, 3, 62, 29, 42, 180, 0, 16, 6, 46, 162, 0, 29, 28, 42, 29]
abbrev dktX3_isCounted_1 : List UInt8 := dkwX3_isCounted_1 ++ dktX3_isCounted_2
def dkwX3_isCounted_0 : List UInt8 := [3, 60, 3, 61, 3, 62, 29, 42, 180, 0, 16, 6, 46, 162, 0, 19, 27, 42, 29, 16, 7, 182, 0, 68]
abbrev dktX3_isCounted_0 : List UInt8 := dkwX3_isCounted_0 ++ dktX3_isCounted_1
theorem dksX3_isCounted_0 : cX3_isCounted.data.toList.drop 0 = dktX3_isCounted_0 := by decide +kernel
theorem dksX3_isCounted_1 : cX3_isCounted.data.toList.drop 24 = dktX3_isCounted_1 := dk_seg dksX3_isCounted_0 24 rfl rfl
theorem dksX3_isCounted_2 : cX3_isCounted.data.toList.drop 47 = dktX3_isCounted_2 := dk_seg dksX3_isCounted_1 23 rfl rfl
theorem dksX3_isCounted_3 : cX3_isCounted.data.toList.drop 71 = dktX3_isCounted_3 := dk_seg dksX3_isCounted_2 24 rfl rfl
theorem dksX3_isCounted_4 : cX3_isCounted.data.toList.drop 95 = dktX3_isCounted_4 := dk_seg dksX3_isCounted_3 24 rfl rfl
theorem dksX3_isCounted_5 : cX3_isCounted.data.toList.drop 117 = dktX3_isCounted_5 := dk_seg dksX3_isCounted_4 22 rfl rfl
theorem dksX3_isCounted_6 : cX3_isCounted.data.toList.drop 141 = dktX3_isCounted_6 := dk_seg dksX3_isCounted_5 24 rfl rfl
theorem dksX3_isCounted_7 : cX3_isCounted.data.toList.drop 163 = dktX3_isCounted_7 := dk_seg dksX3_isCounted_6 22 rfl rfl
theorem dksX3_isCounted_8 : cX3_isCounted.data.toList.drop 187 = dktX3_isCounted_8 := dk_seg dksX3_isCounted_7 24 rfl rfl
theorem dX3_isCounted_0 : decode cX3_isCounted 0 = .ok (.iconst 0, 1) := dk_3 (dk_at dksX3_isCounted_0 0 rfl rfl)
theorem dX3_isCounted_1 : decode cX3_isCounted 1 = .ok (.istore_n 1, 1) := dk_60 (dk_at dksX3_isCounted_0 1 rfl rfl)
theorem dX3_isCounted_2 : decode cX3_isCounted 2 = .ok (.iconst 0, 1) := dk_3 (dk_at dksX3_isCounted_0 2 rfl rfl)
theorem dX3_isCounted_3 : decode cX3_isCounted 3 = .ok (.istore_n 2, 1) := dk_61 (dk_at dksX3_isCounted_0 3 rfl rfl)
theorem dX3_isCounted_4 : decode cX3_isCounted 4 = .ok (.iconst 0, 1) := dk_3 (dk_at dksX3_isCounted_0 4 rfl rfl)
theorem dX3_isCounted_5 : decode cX3_isCounted 5 = .ok (.istore_n 3, 1) := dk_62 (dk_at dksX3_isCounted_0 5 rfl rfl)
theorem dX3_isCounted_6 : decode cX3_isCounted 6 = .ok (.iload_n 3, 1) := dk_29 (dk_at dksX3_isCounted_0 6 rfl rfl)
theorem dX3_isCounted_7 : decode cX3_isCounted 7 = .ok (.aload_n 0, 1) := dk_42 (dk_at dksX3_isCounted_0 7 rfl rfl)
theorem dX3_isCounted_8 : decode cX3_isCounted 8 = .ok (.getfield 16, 3) := dk_180 0 16 (dk_at dksX3_isCounted_0 8 rfl rfl)
theorem dX3_isCounted_11 : decode cX3_isCounted 11 = .ok (.iconst 3, 1) := dk_6 (dk_at dksX3_isCounted_0 11 rfl rfl)
theorem dX3_isCounted_12 : decode cX3_isCounted 12 = .ok (.iaload, 1) := dk_46 (dk_at dksX3_isCounted_0 12 rfl rfl)
theorem dX3_isCounted_13 : decode cX3_isCounted 13 = .ok (.if_icmp .ge 19, 3) := dk_162 0 19 (dk_at dksX3_isCounted_0 13 rfl rfl)
theorem dX3_isCounted_16 : decode cX3_isCounted 16 = .ok (.iload_n 1, 1) := dk_27 (dk_at dksX3_isCounted_0 16 rfl rfl)
theorem dX3_isCounted_17 : decode cX3_isCounted 17 = .ok (.aload_n 0, 1) := dk_42 (dk_at dksX3_isCounted_0 17 rfl rfl)
theorem dX3_isCounted_18 : decode cX3_isCounted 18 = .ok (.iload_n 3, 1) := dk_29 (dk_at dksX3_isCounted_0 18 rfl rfl)
theorem dX3_isCounted_19 : decode cX3_isCounted 19 = .ok (.bipush 7, 2) := dk_16 7 (dk_at dksX3_isCounted_0 19 rfl rfl)
theorem dX3_isCounted_21 : decode cX3_isCounted 21 = .ok (.invokevirtual 68, 3) := dk_182 0 68 (dk_at dksX3_isCounted_0 21 rfl rfl)
theorem dX3_isCounted_24 : decode cX3_isCounted 24 = .ok (.iadd, 1) := dk_96 (dk_at dksX3_isCounted_1 0 rfl rfl)
theorem dX3_isCounted_25 : decode cX3_isCounted 25 = .ok (.istore_n 1, 1) := dk_60 (dk_at dksX3_isCounted_1 1 rfl rfl)
theorem dX3_isCounted_26 : decode cX3_isCounted 26 = .ok (.iinc 3 1, 3) := dk_132 3 1 (dk_at dksX3_isCounted_1 2 rfl rfl)
theorem dX3_isCounted_29 : decode cX3_isCounted 29 = .ok (.goto (-23), 3) := dk_167 255 233 (dk_at dksX3_isCounted_1 5 rfl rfl)
theorem dX3_isCounted_32 : decode cX3_isCounted 32 = .ok (.iconst 0, 1) := dk_3 (dk_at dksX3_isCounted_1 8 rfl rfl)
theorem dX3_isCounted_33 : decode cX3_isCounted 33 = .ok (.istore_n 3, 1) := dk_62 (dk_at dksX3_isCounted_1 9 rfl rfl)
theorem dX3_isCounted_34 : decode cX3_isCounted 34 = .ok (.iload_n 3, 1) := dk_29 (dk_at dksX3_isCounted_1 10 rfl rfl)
theorem dX3_isCounted_35 : decode cX3_isCounted 35 = .ok (.aload_n 0, 1) := dk_42 (dk_at dksX3_isCounted_1 11 rfl rfl)
theorem dX3_isCounted_36 : decode cX3_isCounted 36 = .ok (.getfield 16, 3) := dk_180 0 16 (dk_at dksX3_isCounted_1 12 rfl rfl)
theorem dX3_isCounted_39 : decode cX3_isCounted 39 = .ok (.iconst 3, 1) := dk_6 (dk_at dksX3_isCounted_1 15 rfl rfl)
theorem dX3_isCounted_40 : decode cX3_isCounted 40 = .ok (.iaload, 1) := dk_46 (dk_at dksX3_isCounted_1 16 rfl rfl)
theorem dX3_isCounted_41 : decode cX3_isCounted 41 = .ok (.if_icmp .ge 29, 3) := dk_162 0 29 (dk_at dksX3_isCounted_1 17 rfl rfl)
theorem dX3_isCounted_44 : decode cX3_isCounted 44 = .ok (.iload_n 2, 1) := dk_28 (dk_at dksX3_isCounted_1 20 rfl rfl)
theorem dX3_isCounted_45 : decode cX3_isCounted 45 = .ok (.aload_n 0, 1) := dk_42 (dk_at dksX3_isCounted_1 21 rfl rfl)
theorem dX3_isCounted_46 : decode cX3_isCounted 46 = .ok (.iload_n 3, 1) := dk_29 (dk_at dksX3_isCounted_1 22 rfl rfl)
theorem dX3_isCounted_47 : decode cX3_isCounted 47 = .ok (.invokevirtual 78, 3) := dk_182 0 78 (dk_at dksX3_isCounted_2 0 rfl rfl)
theorem dX3_isCounted_50 : decode cX3_isCounted 50 = .ok (.ifCond .eq 11, 3) := dk_153 0 11 (dk_at dksX3_isCounted_2 3 rfl rfl)
theorem dX3_isCounted_53 : decode cX3_isCounted 53 = .ok (.aload_n 0, 1) := dk_42 (dk_at dksX3_isCounted_2 6 rfl rfl)
theorem dX3_isCounted_54 : decode cX3_isCounted 54 = .ok (.iload_n 3, 1) := dk_29 (dk_at dksX3_isCounted_2 7 rfl rfl)
theorem dX3_isCounted_55 : decode cX3_isCounted 55 = .ok (.invokevirtual 141, 3) := dk_182 0 141 (dk_at dksX3_isCounted_2 8 rfl rfl)
theorem dX3_isCounted_58 : decode cX3_isCounted 58 = .ok (.goto 4, 3) := dk_167 0 4 (dk_at dksX3_isCounted_2 11 rfl rfl)
theorem dX3_isCounted_61 : decode cX3_isCounted 61 = .ok (.iconst 0, 1) := dk_3 (dk_at dksX3_isCounted_2 14 rfl rfl)
theorem dX3_isCounted_62 : decode cX3_isCounted 62 = .ok (.iadd, 1) := dk_96 (dk_at dksX3_isCounted_2 15 rfl rfl)
theorem dX3_isCounted_63 : decode cX3_isCounted 63 = .ok (.istore_n 2, 1) := dk_61 (dk_at dksX3_isCounted_2 16 rfl rfl)
theorem dX3_isCounted_64 : decode cX3_isCounted 64 = .ok (.iinc 3 1, 3) := dk_132 3 1 (dk_at dksX3_isCounted_2 17 rfl rfl)
theorem dX3_isCounted_67 : decode cX3_isCounted 67 = .ok (.goto (-33), 3) := dk_167 255 223 (dk_at dksX3_isCounted_2 20 rfl rfl)
theorem dX3_isCounted_70 : decode cX3_isCounted 70 = .ok (.iconst 0, 1) := dk_3 (dk_at dksX3_isCounted_2 23 rfl rfl)
theorem dX3_isCounted_71 : decode cX3_isCounted 71 = .ok (.istore_n 3, 1) := dk_62 (dk_at dksX3_isCounted_3 0 rfl rfl)
theorem dX3_isCounted_72 : decode cX3_isCounted 72 = .ok (.iconst 0, 1) := dk_3 (dk_at dksX3_isCounted_3 1 rfl rfl)
theorem dX3_isCounted_73 : decode cX3_isCounted 73 = .ok (.istore 4, 2) := dk_54 4 (dk_at dksX3_isCounted_3 2 rfl rfl)
theorem dX3_isCounted_75 : decode cX3_isCounted 75 = .ok (.iload 4, 2) := dk_21 4 (dk_at dksX3_isCounted_3 4 rfl rfl)
theorem dX3_isCounted_77 : decode cX3_isCounted 77 = .ok (.aload_n 0, 1) := dk_42 (dk_at dksX3_isCounted_3 6 rfl rfl)
theorem dX3_isCounted_78 : decode cX3_isCounted 78 = .ok (.getfield 16, 3) := dk_180 0 16 (dk_at dksX3_isCounted_3 7 rfl rfl)
theorem dX3_isCounted_81 : decode cX3_isCounted 81 = .ok (.iconst 2, 1) := dk_5 (dk_at dksX3_isCounted_3 10 rfl rfl)
theorem dX3_isCounted_82 : decode cX3_isCounted 82 = .ok (.iaload, 1) := dk_46 (dk_at dksX3_isCounted_3 11 rfl rfl)
theorem dX3_isCounted_83 : decode cX3_isCounted 83 = .ok (.if_icmp .ge 19, 3) := dk_162 0 19 (dk_at dksX3_isCounted_3 12 rfl rfl)
theorem dX3_isCounted_86 : decode cX3_isCounted 86 = .ok (.iload_n 3, 1) := dk_29 (dk_at dksX3_isCounted_3 15 rfl rfl)
theorem dX3_isCounted_87 : decode cX3_isCounted 87 = .ok (.aload_n 0, 1) := dk_42 (dk_at dksX3_isCounted_3 16 rfl rfl)
theorem dX3_isCounted_88 : decode cX3_isCounted 88 = .ok (.iload 4, 2) := dk_21 4 (dk_at dksX3_isCounted_3 17 rfl rfl)
theorem dX3_isCounted_90 : decode cX3_isCounted 90 = .ok (.iconst 4, 1) := dk_7 (dk_at dksX3_isCounted_3 19 rfl rfl)
theorem dX3_isCounted_91 : decode cX3_isCounted 91 = .ok (.invokevirtual 72, 3) := dk_182 0 72 (dk_at dksX3_isCounted_3 20 rfl rfl)
theorem dX3_isCounted_94 : decode cX3_isCounted 94 = .ok (.iadd, 1) := dk_96 (dk_at dksX3_isCounted_3 23 rfl rfl)
theorem dX3_isCounted_95 : decode cX3_isCounted 95 = .ok (.istore_n 3, 1) := dk_62 (dk_at dksX3_isCounted_4 0 rfl rfl)
theorem dX3_isCounted_96 : decode cX3_isCounted 96 = .ok (.iinc 4 1, 3) := dk_132 4 1 (dk_at dksX3_isCounted_4 1 rfl rfl)
theorem dX3_isCounted_99 : decode cX3_isCounted 99 = .ok (.goto (-24), 3) := dk_167 255 232 (dk_at dksX3_isCounted_4 4 rfl rfl)
theorem dX3_isCounted_102 : decode cX3_isCounted 102 = .ok (.aload_n 0, 1) := dk_42 (dk_at dksX3_isCounted_4 7 rfl rfl)
theorem dX3_isCounted_103 : decode cX3_isCounted 103 = .ok (.invokevirtual 225, 3) := dk_182 0 225 (dk_at dksX3_isCounted_4 8 rfl rfl)
theorem dX3_isCounted_106 : decode cX3_isCounted 106 = .ok (.istore 4, 2) := dk_54 4 (dk_at dksX3_isCounted_4 11 rfl rfl)
theorem dX3_isCounted_108 : decode cX3_isCounted 108 = .ok (.iload 4, 2) := dk_21 4 (dk_at dksX3_isCounted_4 13 rfl rfl)
theorem dX3_isCounted_110 : decode cX3_isCounted 110 = .ok (.ifCond .ge 18, 3) := dk_156 0 18 (dk_at dksX3_isCounted_4 15 rfl rfl)
theorem dX3_isCounted_113 : decode cX3_isCounted 113 = .ok (.aload_n 0, 1) := dk_42 (dk_at dksX3_isCounted_4 18 rfl rfl)
theorem dX3_isCounted_114 : decode cX3_isCounted 114 = .ok (.invokevirtual 243, 3) := dk_182 0 243 (dk_at dksX3_isCounted_4 19 rfl rfl)
theorem dX3_isCounted_117 : decode cX3_isCounted 117 = .ok (.ifCond .ge 7, 3) := dk_156 0 7 (dk_at dksX3_isCounted_5 0 rfl rfl)
theorem dX3_isCounted_120 : decode cX3_isCounted 120 = .ok (.iconst 1, 1) := dk_4 (dk_at dksX3_isCounted_5 3 rfl rfl)
theorem dX3_isCounted_121 : decode cX3_isCounted 121 = .ok (.goto 25, 3) := dk_167 0 25 (dk_at dksX3_isCounted_5 4 rfl rfl)
theorem dX3_isCounted_124 : decode cX3_isCounted 124 = .ok (.iconst 0, 1) := dk_3 (dk_at dksX3_isCounted_5 7 rfl rfl)
theorem dX3_isCounted_125 : decode cX3_isCounted 125 = .ok (.goto 21, 3) := dk_167 0 21 (dk_at dksX3_isCounted_5 8 rfl rfl)
theorem dX3_isCounted_128 : decode cX3_isCounted 128 = .ok (.aload_n 0, 1) := dk_42 (dk_at dksX3_isCounted_5 11 rfl rfl)
theorem dX3_isCounted_129 : decode cX3_isCounted 129 = .ok (.iload 4, 2) := dk_21 4 (dk_at dksX3_isCounted_5 12 rfl rfl)
theorem dX3_isCounted_131 : decode cX3_isCounted 131 = .ok (.invokevirtual 222, 3) := dk_182 0 222 (dk_at dksX3_isCounted_5 14 rfl rfl)
theorem dX3_isCounted_134 : decode cX3_isCounted 134 = .ok (.aload_n 0, 1) := dk_42 (dk_at dksX3_isCounted_5 17 rfl rfl)
theorem dX3_isCounted_135 : decode cX3_isCounted 135 = .ok (.invokevirtual 243, 3) := dk_182 0 243 (dk_at dksX3_isCounted_5 18 rfl rfl)
theorem dX3_isCounted_138 : decode cX3_isCounted 138 = .ok (.if_icmp .ne 7, 3) := dk_160 0 7 (dk_at dksX3_isCounted_5 21 rfl rfl)
theorem dX3_isCounted_141 : decode cX3_isCounted 141 = .ok (.iconst 1, 1) := dk_4 (dk_at dksX3_isCounted_6 0 rfl rfl)
theorem dX3_isCounted_142 : decode cX3_isCounted 142 = .ok (.goto 4, 3) := dk_167 0 4 (dk_at dksX3_isCounted_6 1 rfl rfl)
theorem dX3_isCounted_145 : decode cX3_isCounted 145 = .ok (.iconst 0, 1) := dk_3 (dk_at dksX3_isCounted_6 4 rfl rfl)
theorem dX3_isCounted_146 : decode cX3_isCounted 146 = .ok (.istore 5, 2) := dk_54 5 (dk_at dksX3_isCounted_6 5 rfl rfl)
theorem dX3_isCounted_148 : decode cX3_isCounted 148 = .ok (.iload_n 1, 1) := dk_27 (dk_at dksX3_isCounted_6 7 rfl rfl)
theorem dX3_isCounted_149 : decode cX3_isCounted 149 = .ok (.iload_n 3, 1) := dk_29 (dk_at dksX3_isCounted_6 8 rfl rfl)
theorem dX3_isCounted_150 : decode cX3_isCounted 150 = .ok (.if_icmp .ne 44, 3) := dk_160 0 44 (dk_at dksX3_isCounted_6 9 rfl rfl)
theorem dX3_isCounted_153 : decode cX3_isCounted 153 = .ok (.iload 5, 2) := dk_21 5 (dk_at dksX3_isCounted_6 12 rfl rfl)
theorem dX3_isCounted_155 : decode cX3_isCounted 155 = .ok (.ifCond .eq 39, 3) := dk_153 0 39 (dk_at dksX3_isCounted_6 14 rfl rfl)
theorem dX3_isCounted_158 : decode cX3_isCounted 158 = .ok (.aload_n 0, 1) := dk_42 (dk_at dksX3_isCounted_6 17 rfl rfl)
theorem dX3_isCounted_159 : decode cX3_isCounted 159 = .ok (.invokevirtual 246, 3) := dk_182 0 246 (dk_at dksX3_isCounted_6 18 rfl rfl)
theorem dX3_isCounted_162 : decode cX3_isCounted 162 = .ok (.aload_n 0, 1) := dk_42 (dk_at dksX3_isCounted_6 21 rfl rfl)
theorem dX3_isCounted_163 : decode cX3_isCounted 163 = .ok (.getfield 16, 3) := dk_180 0 16 (dk_at dksX3_isCounted_7 0 rfl rfl)
theorem dX3_isCounted_166 : decode cX3_isCounted 166 = .ok (.iconst 4, 1) := dk_7 (dk_at dksX3_isCounted_7 3 rfl rfl)
theorem dX3_isCounted_167 : decode cX3_isCounted 167 = .ok (.iaload, 1) := dk_46 (dk_at dksX3_isCounted_7 4 rfl rfl)
theorem dX3_isCounted_168 : decode cX3_isCounted 168 = .ok (.iadd, 1) := dk_96 (dk_at dksX3_isCounted_7 5 rfl rfl)
theorem dX3_isCounted_169 : decode cX3_isCounted 169 = .ok (.iconst 3, 1) := dk_6 (dk_at dksX3_isCounted_7 6 rfl rfl)
theorem dX3_isCounted_170 : decode cX3_isCounted 170 = .ok (.if_icmp .ne 24, 3) := dk_160 0 24 (dk_at dksX3_isCounted_7 7 rfl rfl)
theorem dX3_isCounted_173 : decode cX3_isCounted 173 = .ok (.aload_n 0, 1) := dk_42 (dk_at dksX3_isCounted_7 10 rfl rfl)
theorem dX3_isCounted_174 : decode cX3_isCounted 174 = .ok (.invokevirtual 89, 3) := dk_182 0 89 (dk_at dksX3_isCounted_7 11 rfl rfl)
theorem dX3_isCounted_177 : decode cX3_isCounted 177 = .ok (.ifCond .eq 13, 3) := dk_153 0 13 (dk_at dksX3_isCounted_7 14 rfl rfl)
theorem dX3_isCounted_180 : decode cX3_isCounted 180 = .ok (.iload_n 2, 1) := dk_28 (dk_at dksX3_isCounted_7 17 rfl rfl)
theorem dX3_isCounted_181 : decode cX3_isCounted 181 = .ok (.aload_n 0, 1) := dk_42 (dk_at dksX3_isCounted_7 18 rfl rfl)
theorem dX3_isCounted_182 : decode cX3_isCounted 182 = .ok (.getfield 16, 3) := dk_180 0 16 (dk_at dksX3_isCounted_7 19 rfl rfl)
theorem dX3_isCounted_185 : decode cX3_isCounted 185 = .ok (.iconst 2, 1) := dk_5 (dk_at dksX3_isCounted_7 22 rfl rfl)
theorem dX3_isCounted_186 : decode cX3_isCounted 186 = .ok (.iaload, 1) := dk_46 (dk_at dksX3_isCounted_7 23 rfl rfl)
theorem dX3_isCounted_187 : decode cX3_isCounted 187 = .ok (.if_icmp .ne 7, 3) := dk_160 0 7 (dk_at dksX3_isCounted_8 0 rfl rfl)
theorem dX3_isCounted_190 : decode cX3_isCounted 190 = .ok (.iconst 1, 1) := dk_4 (dk_at dksX3_isCounted_8 3 rfl rfl)
theorem dX3_isCounted_191 : decode cX3_isCounted 191 = .ok (.goto 4, 3) := dk_167 0 4 (dk_at dksX3_isCounted_8 4 rfl rfl)
theorem dX3_isCounted_194 : decode cX3_isCounted 194 = .ok (.iconst 0, 1) := dk_3 (dk_at dksX3_isCounted_8 7 rfl rfl)
theorem dX3_isCounted_195 : decode cX3_isCounted 195 = .ok (.ireturn, 1) := dk_172 (dk_at dksX3_isCounted_8 8 rfl rfl)
abbrev cX3_pumpsOn : ByteArray := prog_45_method_82_code
def yX3_pumpsOn : MethodName := ⟨RX3, "pumpsOn", "()I"⟩
def dkwX3_pumpsOn_1 : List UInt8 := [132, 2, 1, 167, 255, 233, 27, 172]
abbrev dktX3_pumpsOn_1 : List UInt8 := dkwX3_pumpsOn_1 ++ []
def dkwX3_pumpsOn_0 : List UInt8 := [3, 60, 3, 61, 28, 42, 180, 0, 16, 6, 46, 162, 0, 19, 27, 42, 28, 16, 6, 182, 0, 68, 96, 60]
abbrev dktX3_pumpsOn_0 : List UInt8 := dkwX3_pumpsOn_0 ++ dktX3_pumpsOn_1
theorem dksX3_pumpsOn_0 : cX3_pumpsOn.data.toList.drop 0 = dktX3_pumpsOn_0 := by decide +kernel
theorem dksX3_pumpsOn_1 : cX3_pumpsOn.data.toList.drop 24 = dktX3_pumpsOn_1 := dk_seg dksX3_pumpsOn_0 24 rfl rfl
theorem dX3_pumpsOn_0 : decode cX3_pumpsOn 0 = .ok (.iconst 0, 1) := dk_3 (dk_at dksX3_pumpsOn_0 0 rfl rfl)
theorem dX3_pumpsOn_1 : decode cX3_pumpsOn 1 = .ok (.istore_n 1, 1) := dk_60 (dk_at dksX3_pumpsOn_0 1 rfl rfl)
theorem dX3_pumpsOn_2 : decode cX3_pumpsOn 2 = .ok (.iconst 0, 1) := dk_3 (dk_at dksX3_pumpsOn_0 2 rfl rfl)
theorem dX3_pumpsOn_3 : decode cX3_pumpsOn 3 = .ok (.istore_n 2, 1) := dk_61 (dk_at dksX3_pumpsOn_0 3 rfl rfl)
theorem dX3_pumpsOn_4 : decode cX3_pumpsOn 4 = .ok (.iload_n 2, 1) := dk_28 (dk_at dksX3_pumpsOn_0 4 rfl rfl)
theorem dX3_pumpsOn_5 : decode cX3_pumpsOn 5 = .ok (.aload_n 0, 1) := dk_42 (dk_at dksX3_pumpsOn_0 5 rfl rfl)
theorem dX3_pumpsOn_6 : decode cX3_pumpsOn 6 = .ok (.getfield 16, 3) := dk_180 0 16 (dk_at dksX3_pumpsOn_0 6 rfl rfl)
theorem dX3_pumpsOn_9 : decode cX3_pumpsOn 9 = .ok (.iconst 3, 1) := dk_6 (dk_at dksX3_pumpsOn_0 9 rfl rfl)
theorem dX3_pumpsOn_10 : decode cX3_pumpsOn 10 = .ok (.iaload, 1) := dk_46 (dk_at dksX3_pumpsOn_0 10 rfl rfl)
theorem dX3_pumpsOn_11 : decode cX3_pumpsOn 11 = .ok (.if_icmp .ge 19, 3) := dk_162 0 19 (dk_at dksX3_pumpsOn_0 11 rfl rfl)
theorem dX3_pumpsOn_14 : decode cX3_pumpsOn 14 = .ok (.iload_n 1, 1) := dk_27 (dk_at dksX3_pumpsOn_0 14 rfl rfl)
theorem dX3_pumpsOn_15 : decode cX3_pumpsOn 15 = .ok (.aload_n 0, 1) := dk_42 (dk_at dksX3_pumpsOn_0 15 rfl rfl)
theorem dX3_pumpsOn_16 : decode cX3_pumpsOn 16 = .ok (.iload_n 2, 1) := dk_28 (dk_at dksX3_pumpsOn_0 16 rfl rfl)
theorem dX3_pumpsOn_17 : decode cX3_pumpsOn 17 = .ok (.bipush 6, 2) := dk_16 6 (dk_at dksX3_pumpsOn_0 17 rfl rfl)
theorem dX3_pumpsOn_19 : decode cX3_pumpsOn 19 = .ok (.invokevirtual 68, 3) := dk_182 0 68 (dk_at dksX3_pumpsOn_0 19 rfl rfl)
theorem dX3_pumpsOn_22 : decode cX3_pumpsOn 22 = .ok (.iadd, 1) := dk_96 (dk_at dksX3_pumpsOn_0 22 rfl rfl)
theorem dX3_pumpsOn_23 : decode cX3_pumpsOn 23 = .ok (.istore_n 1, 1) := dk_60 (dk_at dksX3_pumpsOn_0 23 rfl rfl)
theorem dX3_pumpsOn_24 : decode cX3_pumpsOn 24 = .ok (.iinc 2 1, 3) := dk_132 2 1 (dk_at dksX3_pumpsOn_1 0 rfl rfl)
theorem dX3_pumpsOn_27 : decode cX3_pumpsOn 27 = .ok (.goto (-23), 3) := dk_167 255 233 (dk_at dksX3_pumpsOn_1 3 rfl rfl)
theorem dX3_pumpsOn_30 : decode cX3_pumpsOn 30 = .ok (.iload_n 1, 1) := dk_27 (dk_at dksX3_pumpsOn_1 6 rfl rfl)
theorem dX3_pumpsOn_31 : decode cX3_pumpsOn 31 = .ok (.ireturn, 1) := dk_172 (dk_at dksX3_pumpsOn_1 7 rfl rfl)
abbrev cX3_meanWay : ByteArray := prog_45_method_84_code
def yX3_meanWay : MethodName := ⟨RX3, "meanWay", "()D"⟩
def dkwX3_meanWay_2 : List UInt8 := [182, 0, 86, 104, 96, 60, 132, 2, 1, 167, 255, 223, 27, 135, 42, 182, 0, 249, 135, 111, 175]
abbrev dktX3_meanWay_2 : List UInt8 := dkwX3_meanWay_2 ++ []
def dkwX3_meanWay_1 : List UInt8 := [180, 0, 16, 5, 46, 162, 0, 29, 27, 42, 28, 5, 182, 0, 72, 42, 28, 42, 28, 182, 0, 96]
abbrev dktX3_meanWay_1 : List UInt8 := dkwX3_meanWay_1 ++ dktX3_meanWay_2
def dkwX3_meanWay_0 : List UInt8 := [42, 180, 0, 16, 5, 46, 153, 0, 10, 42, 182, 0, 89, 154, 0, 5, 14, 175, 3, 60, 3, 61, 28, 42]
abbrev dktX3_meanWay_0 : List UInt8 := dkwX3_meanWay_0 ++ dktX3_meanWay_1
theorem dksX3_meanWay_0 : cX3_meanWay.data.toList.drop 0 = dktX3_meanWay_0 := by decide +kernel
theorem dksX3_meanWay_1 : cX3_meanWay.data.toList.drop 24 = dktX3_meanWay_1 := dk_seg dksX3_meanWay_0 24 rfl rfl
theorem dksX3_meanWay_2 : cX3_meanWay.data.toList.drop 46 = dktX3_meanWay_2 := dk_seg dksX3_meanWay_1 22 rfl rfl
theorem dX3_meanWay_0 : decode cX3_meanWay 0 = .ok (.aload_n 0, 1) := dk_42 (dk_at dksX3_meanWay_0 0 rfl rfl)
theorem dX3_meanWay_1 : decode cX3_meanWay 1 = .ok (.getfield 16, 3) := dk_180 0 16 (dk_at dksX3_meanWay_0 1 rfl rfl)
theorem dX3_meanWay_4 : decode cX3_meanWay 4 = .ok (.iconst 2, 1) := dk_5 (dk_at dksX3_meanWay_0 4 rfl rfl)
theorem dX3_meanWay_5 : decode cX3_meanWay 5 = .ok (.iaload, 1) := dk_46 (dk_at dksX3_meanWay_0 5 rfl rfl)
theorem dX3_meanWay_6 : decode cX3_meanWay 6 = .ok (.ifCond .eq 10, 3) := dk_153 0 10 (dk_at dksX3_meanWay_0 6 rfl rfl)
theorem dX3_meanWay_9 : decode cX3_meanWay 9 = .ok (.aload_n 0, 1) := dk_42 (dk_at dksX3_meanWay_0 9 rfl rfl)
theorem dX3_meanWay_10 : decode cX3_meanWay 10 = .ok (.invokevirtual 89, 3) := dk_182 0 89 (dk_at dksX3_meanWay_0 10 rfl rfl)
theorem dX3_meanWay_13 : decode cX3_meanWay 13 = .ok (.ifCond .ne 5, 3) := dk_154 0 5 (dk_at dksX3_meanWay_0 13 rfl rfl)
theorem dX3_meanWay_16 : decode cX3_meanWay 16 = .ok (.dconst 0, 1) := dk_14 (dk_at dksX3_meanWay_0 16 rfl rfl)
theorem dX3_meanWay_17 : decode cX3_meanWay 17 = .ok (.dreturn, 1) := dk_175 (dk_at dksX3_meanWay_0 17 rfl rfl)
theorem dX3_meanWay_18 : decode cX3_meanWay 18 = .ok (.iconst 0, 1) := dk_3 (dk_at dksX3_meanWay_0 18 rfl rfl)
theorem dX3_meanWay_19 : decode cX3_meanWay 19 = .ok (.istore_n 1, 1) := dk_60 (dk_at dksX3_meanWay_0 19 rfl rfl)
theorem dX3_meanWay_20 : decode cX3_meanWay 20 = .ok (.iconst 0, 1) := dk_3 (dk_at dksX3_meanWay_0 20 rfl rfl)
theorem dX3_meanWay_21 : decode cX3_meanWay 21 = .ok (.istore_n 2, 1) := dk_61 (dk_at dksX3_meanWay_0 21 rfl rfl)
theorem dX3_meanWay_22 : decode cX3_meanWay 22 = .ok (.iload_n 2, 1) := dk_28 (dk_at dksX3_meanWay_0 22 rfl rfl)
theorem dX3_meanWay_23 : decode cX3_meanWay 23 = .ok (.aload_n 0, 1) := dk_42 (dk_at dksX3_meanWay_0 23 rfl rfl)
theorem dX3_meanWay_24 : decode cX3_meanWay 24 = .ok (.getfield 16, 3) := dk_180 0 16 (dk_at dksX3_meanWay_1 0 rfl rfl)
theorem dX3_meanWay_27 : decode cX3_meanWay 27 = .ok (.iconst 2, 1) := dk_5 (dk_at dksX3_meanWay_1 3 rfl rfl)
theorem dX3_meanWay_28 : decode cX3_meanWay 28 = .ok (.iaload, 1) := dk_46 (dk_at dksX3_meanWay_1 4 rfl rfl)
theorem dX3_meanWay_29 : decode cX3_meanWay 29 = .ok (.if_icmp .ge 29, 3) := dk_162 0 29 (dk_at dksX3_meanWay_1 5 rfl rfl)
theorem dX3_meanWay_32 : decode cX3_meanWay 32 = .ok (.iload_n 1, 1) := dk_27 (dk_at dksX3_meanWay_1 8 rfl rfl)
theorem dX3_meanWay_33 : decode cX3_meanWay 33 = .ok (.aload_n 0, 1) := dk_42 (dk_at dksX3_meanWay_1 9 rfl rfl)
theorem dX3_meanWay_34 : decode cX3_meanWay 34 = .ok (.iload_n 2, 1) := dk_28 (dk_at dksX3_meanWay_1 10 rfl rfl)
theorem dX3_meanWay_35 : decode cX3_meanWay 35 = .ok (.iconst 2, 1) := dk_5 (dk_at dksX3_meanWay_1 11 rfl rfl)
theorem dX3_meanWay_36 : decode cX3_meanWay 36 = .ok (.invokevirtual 72, 3) := dk_182 0 72 (dk_at dksX3_meanWay_1 12 rfl rfl)
theorem dX3_meanWay_39 : decode cX3_meanWay 39 = .ok (.aload_n 0, 1) := dk_42 (dk_at dksX3_meanWay_1 15 rfl rfl)
theorem dX3_meanWay_40 : decode cX3_meanWay 40 = .ok (.iload_n 2, 1) := dk_28 (dk_at dksX3_meanWay_1 16 rfl rfl)
theorem dX3_meanWay_41 : decode cX3_meanWay 41 = .ok (.aload_n 0, 1) := dk_42 (dk_at dksX3_meanWay_1 17 rfl rfl)
theorem dX3_meanWay_42 : decode cX3_meanWay 42 = .ok (.iload_n 2, 1) := dk_28 (dk_at dksX3_meanWay_1 18 rfl rfl)
theorem dX3_meanWay_43 : decode cX3_meanWay 43 = .ok (.invokevirtual 96, 3) := dk_182 0 96 (dk_at dksX3_meanWay_1 19 rfl rfl)
theorem dX3_meanWay_46 : decode cX3_meanWay 46 = .ok (.invokevirtual 86, 3) := dk_182 0 86 (dk_at dksX3_meanWay_2 0 rfl rfl)
theorem dX3_meanWay_49 : decode cX3_meanWay 49 = .ok (.imul, 1) := dk_104 (dk_at dksX3_meanWay_2 3 rfl rfl)
theorem dX3_meanWay_50 : decode cX3_meanWay 50 = .ok (.iadd, 1) := dk_96 (dk_at dksX3_meanWay_2 4 rfl rfl)
theorem dX3_meanWay_51 : decode cX3_meanWay 51 = .ok (.istore_n 1, 1) := dk_60 (dk_at dksX3_meanWay_2 5 rfl rfl)
theorem dX3_meanWay_52 : decode cX3_meanWay 52 = .ok (.iinc 2 1, 3) := dk_132 2 1 (dk_at dksX3_meanWay_2 6 rfl rfl)
theorem dX3_meanWay_55 : decode cX3_meanWay 55 = .ok (.goto (-33), 3) := dk_167 255 223 (dk_at dksX3_meanWay_2 9 rfl rfl)
theorem dX3_meanWay_58 : decode cX3_meanWay 58 = .ok (.iload_n 1, 1) := dk_27 (dk_at dksX3_meanWay_2 12 rfl rfl)
theorem dX3_meanWay_59 : decode cX3_meanWay 59 = .ok (.i2d, 1) := dk_135 (dk_at dksX3_meanWay_2 13 rfl rfl)
theorem dX3_meanWay_60 : decode cX3_meanWay 60 = .ok (.aload_n 0, 1) := dk_42 (dk_at dksX3_meanWay_2 14 rfl rfl)
theorem dX3_meanWay_61 : decode cX3_meanWay 61 = .ok (.invokevirtual 249, 3) := dk_182 0 249 (dk_at dksX3_meanWay_2 15 rfl rfl)
theorem dX3_meanWay_64 : decode cX3_meanWay 64 = .ok (.i2d, 1) := dk_135 (dk_at dksX3_meanWay_2 18 rfl rfl)
theorem dX3_meanWay_65 : decode cX3_meanWay 65 = .ok (.ddiv, 1) := dk_111 (dk_at dksX3_meanWay_2 19 rfl rfl)
theorem dX3_meanWay_66 : decode cX3_meanWay 66 = .ok (.dreturn, 1) := dk_175 (dk_at dksX3_meanWay_2 20 rfl rfl)
abbrev cX3_people : ByteArray := prog_45_method_29_code
def yX3_people : MethodName := ⟨RX3, "people", "()I"⟩
def dkwX3_people_1 : List UInt8 := [132, 2, 1, 167, 255, 234, 27, 172]
abbrev dktX3_people_1 : List UInt8 := dkwX3_people_1 ++ []
def dkwX3_people_0 : List UInt8 := [3, 60, 3, 61, 28, 42, 180, 0, 16, 5, 46, 162, 0, 18, 27, 42, 28, 5, 182, 0, 72, 96, 60]
abbrev dktX3_people_0 : List UInt8 := dkwX3_people_0 ++ dktX3_people_1
theorem dksX3_people_0 : cX3_people.data.toList.drop 0 = dktX3_people_0 := by decide +kernel
theorem dksX3_people_1 : cX3_people.data.toList.drop 23 = dktX3_people_1 := dk_seg dksX3_people_0 23 rfl rfl
theorem dX3_people_0 : decode cX3_people 0 = .ok (.iconst 0, 1) := dk_3 (dk_at dksX3_people_0 0 rfl rfl)
theorem dX3_people_1 : decode cX3_people 1 = .ok (.istore_n 1, 1) := dk_60 (dk_at dksX3_people_0 1 rfl rfl)
theorem dX3_people_2 : decode cX3_people 2 = .ok (.iconst 0, 1) := dk_3 (dk_at dksX3_people_0 2 rfl rfl)
theorem dX3_people_3 : decode cX3_people 3 = .ok (.istore_n 2, 1) := dk_61 (dk_at dksX3_people_0 3 rfl rfl)
theorem dX3_people_4 : decode cX3_people 4 = .ok (.iload_n 2, 1) := dk_28 (dk_at dksX3_people_0 4 rfl rfl)
theorem dX3_people_5 : decode cX3_people 5 = .ok (.aload_n 0, 1) := dk_42 (dk_at dksX3_people_0 5 rfl rfl)
theorem dX3_people_6 : decode cX3_people 6 = .ok (.getfield 16, 3) := dk_180 0 16 (dk_at dksX3_people_0 6 rfl rfl)
theorem dX3_people_9 : decode cX3_people 9 = .ok (.iconst 2, 1) := dk_5 (dk_at dksX3_people_0 9 rfl rfl)
theorem dX3_people_10 : decode cX3_people 10 = .ok (.iaload, 1) := dk_46 (dk_at dksX3_people_0 10 rfl rfl)
theorem dX3_people_11 : decode cX3_people 11 = .ok (.if_icmp .ge 18, 3) := dk_162 0 18 (dk_at dksX3_people_0 11 rfl rfl)
theorem dX3_people_14 : decode cX3_people 14 = .ok (.iload_n 1, 1) := dk_27 (dk_at dksX3_people_0 14 rfl rfl)
theorem dX3_people_15 : decode cX3_people 15 = .ok (.aload_n 0, 1) := dk_42 (dk_at dksX3_people_0 15 rfl rfl)
theorem dX3_people_16 : decode cX3_people 16 = .ok (.iload_n 2, 1) := dk_28 (dk_at dksX3_people_0 16 rfl rfl)
theorem dX3_people_17 : decode cX3_people 17 = .ok (.iconst 2, 1) := dk_5 (dk_at dksX3_people_0 17 rfl rfl)
theorem dX3_people_18 : decode cX3_people 18 = .ok (.invokevirtual 72, 3) := dk_182 0 72 (dk_at dksX3_people_0 18 rfl rfl)
theorem dX3_people_21 : decode cX3_people 21 = .ok (.iadd, 1) := dk_96 (dk_at dksX3_people_0 21 rfl rfl)
theorem dX3_people_22 : decode cX3_people 22 = .ok (.istore_n 1, 1) := dk_60 (dk_at dksX3_people_0 22 rfl rfl)
theorem dX3_people_23 : decode cX3_people 23 = .ok (.iinc 2 1, 3) := dk_132 2 1 (dk_at dksX3_people_1 0 rfl rfl)
theorem dX3_people_26 : decode cX3_people 26 = .ok (.goto (-22), 3) := dk_167 255 234 (dk_at dksX3_people_1 3 rfl rfl)
theorem dX3_people_29 : decode cX3_people 29 = .ok (.iload_n 1, 1) := dk_27 (dk_at dksX3_people_1 6 rfl rfl)
theorem dX3_people_30 : decode cX3_people 30 = .ok (.ireturn, 1) := dk_172 (dk_at dksX3_people_1 7 rfl rfl)
abbrev cX3_waterShare : ByteArray := prog_45_method_85_code
def yX3_waterShare : MethodName := ⟨RX3, "waterShare", "()F"⟩
def dkwX3_waterShare_1 : List UInt8 := [180, 0, 16, 16, 6, 46, 134, 27, 134, 110, 174]
abbrev dktX3_waterShare_1 : List UInt8 := dkwX3_waterShare_1 ++ []
def dkwX3_waterShare_0 : List UInt8 := [42, 180, 0, 16, 16, 6, 46, 42, 180, 0, 16, 8, 46, 96, 60, 27, 154, 0, 7, 11, 167, 0, 14, 42]
abbrev dktX3_waterShare_0 : List UInt8 := dkwX3_waterShare_0 ++ dktX3_waterShare_1
theorem dksX3_waterShare_0 : cX3_waterShare.data.toList.drop 0 = dktX3_waterShare_0 := by decide +kernel
theorem dksX3_waterShare_1 : cX3_waterShare.data.toList.drop 24 = dktX3_waterShare_1 := dk_seg dksX3_waterShare_0 24 rfl rfl
theorem dX3_waterShare_0 : decode cX3_waterShare 0 = .ok (.aload_n 0, 1) := dk_42 (dk_at dksX3_waterShare_0 0 rfl rfl)
theorem dX3_waterShare_1 : decode cX3_waterShare 1 = .ok (.getfield 16, 3) := dk_180 0 16 (dk_at dksX3_waterShare_0 1 rfl rfl)
theorem dX3_waterShare_4 : decode cX3_waterShare 4 = .ok (.bipush 6, 2) := dk_16 6 (dk_at dksX3_waterShare_0 4 rfl rfl)
theorem dX3_waterShare_6 : decode cX3_waterShare 6 = .ok (.iaload, 1) := dk_46 (dk_at dksX3_waterShare_0 6 rfl rfl)
theorem dX3_waterShare_7 : decode cX3_waterShare 7 = .ok (.aload_n 0, 1) := dk_42 (dk_at dksX3_waterShare_0 7 rfl rfl)
theorem dX3_waterShare_8 : decode cX3_waterShare 8 = .ok (.getfield 16, 3) := dk_180 0 16 (dk_at dksX3_waterShare_0 8 rfl rfl)
theorem dX3_waterShare_11 : decode cX3_waterShare 11 = .ok (.iconst 5, 1) := dk_8 (dk_at dksX3_waterShare_0 11 rfl rfl)
theorem dX3_waterShare_12 : decode cX3_waterShare 12 = .ok (.iaload, 1) := dk_46 (dk_at dksX3_waterShare_0 12 rfl rfl)
theorem dX3_waterShare_13 : decode cX3_waterShare 13 = .ok (.iadd, 1) := dk_96 (dk_at dksX3_waterShare_0 13 rfl rfl)
theorem dX3_waterShare_14 : decode cX3_waterShare 14 = .ok (.istore_n 1, 1) := dk_60 (dk_at dksX3_waterShare_0 14 rfl rfl)
theorem dX3_waterShare_15 : decode cX3_waterShare 15 = .ok (.iload_n 1, 1) := dk_27 (dk_at dksX3_waterShare_0 15 rfl rfl)
theorem dX3_waterShare_16 : decode cX3_waterShare 16 = .ok (.ifCond .ne 7, 3) := dk_154 0 7 (dk_at dksX3_waterShare_0 16 rfl rfl)
theorem dX3_waterShare_19 : decode cX3_waterShare 19 = .ok (.fconst 0, 1) := dk_11 (dk_at dksX3_waterShare_0 19 rfl rfl)
theorem dX3_waterShare_20 : decode cX3_waterShare 20 = .ok (.goto 14, 3) := dk_167 0 14 (dk_at dksX3_waterShare_0 20 rfl rfl)
theorem dX3_waterShare_23 : decode cX3_waterShare 23 = .ok (.aload_n 0, 1) := dk_42 (dk_at dksX3_waterShare_0 23 rfl rfl)
theorem dX3_waterShare_24 : decode cX3_waterShare 24 = .ok (.getfield 16, 3) := dk_180 0 16 (dk_at dksX3_waterShare_1 0 rfl rfl)
theorem dX3_waterShare_27 : decode cX3_waterShare 27 = .ok (.bipush 6, 2) := dk_16 6 (dk_at dksX3_waterShare_1 3 rfl rfl)
theorem dX3_waterShare_29 : decode cX3_waterShare 29 = .ok (.iaload, 1) := dk_46 (dk_at dksX3_waterShare_1 5 rfl rfl)
theorem dX3_waterShare_30 : decode cX3_waterShare 30 = .ok (.i2f, 1) := dk_134 (dk_at dksX3_waterShare_1 6 rfl rfl)
theorem dX3_waterShare_31 : decode cX3_waterShare 31 = .ok (.iload_n 1, 1) := dk_27 (dk_at dksX3_waterShare_1 7 rfl rfl)
theorem dX3_waterShare_32 : decode cX3_waterShare 32 = .ok (.i2f, 1) := dk_134 (dk_at dksX3_waterShare_1 8 rfl rfl)
theorem dX3_waterShare_33 : decode cX3_waterShare 33 = .ok (.fdiv, 1) := dk_110 (dk_at dksX3_waterShare_1 9 rfl rfl)
theorem dX3_waterShare_34 : decode cX3_waterShare 34 = .ok (.freturn, 1) := dk_174 (dk_at dksX3_waterShare_1 10 rfl rfl)
abbrev cX3_account : ByteArray := prog_45_method_86_code
def yX3_account : MethodName := ⟨RX3, "account", "(I)I"⟩
def dkwX3_account_4 : List UInt8 := [172]
abbrev dktX3_account_4 : List UInt8 := dkwX3_account_4 ++ []
def dkwX3_account_3 : List UInt8 := [7, 46, 172, 42, 180, 0, 16, 27, 5, 100, 46, 172, 42, 180, 0, 252, 172, 42, 180, 0, 56, 172, 16, 254]
abbrev dktX3_account_3 : List UInt8 := dkwX3_account_3 ++ dktX3_account_4
def dkwX3_account_2 : List UInt8 := [42, 180, 0, 16, 27, 46, 172, 42, 182, 0, 89, 184, 0, 153, 172, 42, 182, 0, 249, 172, 42, 180, 0, 16]
abbrev dktX3_account_2 : List UInt8 := dkwX3_account_2 ++ dktX3_account_3
def dkwX3_account_1 : List UInt8 := [170, 0, 0, 0, 0, 0, 125, 0, 0, 0, 0, 0, 0, 0, 15, 0, 0, 0, 79, 0, 0, 0, 79, 0, 0, 0, 79, 0, 0, 0, 79, 0, 0, 0, 86, 0, 0, 0, 94, 0, 0, 0, 99, 0, 0, 0, 106, 0, 0, 0, 106, 0, 0, 0, 106, 0, 0, 0, 106, 0, 0, 0, 106, 0, 0, 0, 106, 0, 0, 0, 106, 0, 0, 0, 115, 0, 0, 0, 120]
abbrev dktX3_account_1 : List UInt8 := dkwX3_account_1 ++ dktX3_account_2
def dkwX3_account_0 : List UInt8 := [27]
abbrev dktX3_account_0 : List UInt8 := dkwX3_account_0 ++ dktX3_account_1
theorem dksX3_account_0 : cX3_account.data.toList.drop 0 = dktX3_account_0 := by decide +kernel
theorem dksX3_account_1 : cX3_account.data.toList.drop 1 = dktX3_account_1 := dk_seg dksX3_account_0 1 rfl rfl
theorem dksX3_account_2 : cX3_account.data.toList.drop 80 = dktX3_account_2 := dk_seg dksX3_account_1 79 rfl rfl
theorem dksX3_account_3 : cX3_account.data.toList.drop 104 = dktX3_account_3 := dk_seg dksX3_account_2 24 rfl rfl
theorem dksX3_account_4 : cX3_account.data.toList.drop 128 = dktX3_account_4 := dk_seg dksX3_account_3 24 rfl rfl
theorem dX3_account_0 : decode cX3_account 0 = .ok (.iload_n 1, 1) := dk_27 (dk_at dksX3_account_0 0 rfl rfl)
theorem dX3_account_1 : decode cX3_account 1 = .ok (.tableswitch 125 0 15 #[79, 79, 79, 79, 86, 94, 99, 106, 106, 106, 106, 106, 106, 106, 115, 120], 79) := by decide +kernel
theorem dX3_account_80 : decode cX3_account 80 = .ok (.aload_n 0, 1) := dk_42 (dk_at dksX3_account_2 0 rfl rfl)
theorem dX3_account_81 : decode cX3_account 81 = .ok (.getfield 16, 3) := dk_180 0 16 (dk_at dksX3_account_2 1 rfl rfl)
theorem dX3_account_84 : decode cX3_account 84 = .ok (.iload_n 1, 1) := dk_27 (dk_at dksX3_account_2 4 rfl rfl)
theorem dX3_account_85 : decode cX3_account 85 = .ok (.iaload, 1) := dk_46 (dk_at dksX3_account_2 5 rfl rfl)
theorem dX3_account_86 : decode cX3_account 86 = .ok (.ireturn, 1) := dk_172 (dk_at dksX3_account_2 6 rfl rfl)
theorem dX3_account_87 : decode cX3_account 87 = .ok (.aload_n 0, 1) := dk_42 (dk_at dksX3_account_2 7 rfl rfl)
theorem dX3_account_88 : decode cX3_account 88 = .ok (.invokevirtual 89, 3) := dk_182 0 89 (dk_at dksX3_account_2 8 rfl rfl)
theorem dX3_account_91 : decode cX3_account 91 = .ok (.invokestatic 153, 3) := dk_184 0 153 (dk_at dksX3_account_2 11 rfl rfl)
theorem dX3_account_94 : decode cX3_account 94 = .ok (.ireturn, 1) := dk_172 (dk_at dksX3_account_2 14 rfl rfl)
theorem dX3_account_95 : decode cX3_account 95 = .ok (.aload_n 0, 1) := dk_42 (dk_at dksX3_account_2 15 rfl rfl)
theorem dX3_account_96 : decode cX3_account 96 = .ok (.invokevirtual 249, 3) := dk_182 0 249 (dk_at dksX3_account_2 16 rfl rfl)
theorem dX3_account_99 : decode cX3_account 99 = .ok (.ireturn, 1) := dk_172 (dk_at dksX3_account_2 19 rfl rfl)
theorem dX3_account_100 : decode cX3_account 100 = .ok (.aload_n 0, 1) := dk_42 (dk_at dksX3_account_2 20 rfl rfl)
theorem dX3_account_101 : decode cX3_account 101 = .ok (.getfield 16, 3) := dk_180 0 16 (dk_at dksX3_account_2 21 rfl rfl)
theorem dX3_account_104 : decode cX3_account 104 = .ok (.iconst 4, 1) := dk_7 (dk_at dksX3_account_3 0 rfl rfl)
theorem dX3_account_105 : decode cX3_account 105 = .ok (.iaload, 1) := dk_46 (dk_at dksX3_account_3 1 rfl rfl)
theorem dX3_account_106 : decode cX3_account 106 = .ok (.ireturn, 1) := dk_172 (dk_at dksX3_account_3 2 rfl rfl)
theorem dX3_account_107 : decode cX3_account 107 = .ok (.aload_n 0, 1) := dk_42 (dk_at dksX3_account_3 3 rfl rfl)
theorem dX3_account_108 : decode cX3_account 108 = .ok (.getfield 16, 3) := dk_180 0 16 (dk_at dksX3_account_3 4 rfl rfl)
theorem dX3_account_111 : decode cX3_account 111 = .ok (.iload_n 1, 1) := dk_27 (dk_at dksX3_account_3 7 rfl rfl)
theorem dX3_account_112 : decode cX3_account 112 = .ok (.iconst 2, 1) := dk_5 (dk_at dksX3_account_3 8 rfl rfl)
theorem dX3_account_113 : decode cX3_account 113 = .ok (.isub, 1) := dk_100 (dk_at dksX3_account_3 9 rfl rfl)
theorem dX3_account_114 : decode cX3_account 114 = .ok (.iaload, 1) := dk_46 (dk_at dksX3_account_3 10 rfl rfl)
theorem dX3_account_115 : decode cX3_account 115 = .ok (.ireturn, 1) := dk_172 (dk_at dksX3_account_3 11 rfl rfl)
theorem dX3_account_116 : decode cX3_account 116 = .ok (.aload_n 0, 1) := dk_42 (dk_at dksX3_account_3 12 rfl rfl)
theorem dX3_account_117 : decode cX3_account 117 = .ok (.getfield 252, 3) := dk_180 0 252 (dk_at dksX3_account_3 13 rfl rfl)
theorem dX3_account_120 : decode cX3_account 120 = .ok (.ireturn, 1) := dk_172 (dk_at dksX3_account_3 16 rfl rfl)
theorem dX3_account_121 : decode cX3_account 121 = .ok (.aload_n 0, 1) := dk_42 (dk_at dksX3_account_3 17 rfl rfl)
theorem dX3_account_122 : decode cX3_account 122 = .ok (.getfield 56, 3) := dk_180 0 56 (dk_at dksX3_account_3 18 rfl rfl)
theorem dX3_account_125 : decode cX3_account 125 = .ok (.ireturn, 1) := dk_172 (dk_at dksX3_account_3 21 rfl rfl)
theorem dX3_account_126 : decode cX3_account 126 = .ok (.bipush (-2), 2) := dk_16 254 (dk_at dksX3_account_3 22 rfl rfl)
theorem dX3_account_128 : decode cX3_account 128 = .ok (.ireturn, 1) := dk_172 (dk_at dksX3_account_4 0 rfl rfl)
abbrev cX3_write : ByteArray := prog_45_method_90_code
def yX3_write : MethodName := ⟨RX3, "write", "(I)I"⟩
def dkwX3_write_5 : List UInt8 := [180, 0, 255, 172]
abbrev dktX3_write_5 : List UInt8 := dkwX3_write_5 ++ []
def dkwX3_write_4 : List UInt8 := [182, 0, 96, 27, 160, 0, 11, 42, 16, 97, 28, 96, 182, 1, 2, 132, 2, 1, 167, 255, 226, 42]
abbrev dktX3_write_4 : List UInt8 := dkwX3_write_4 ++ dktX3_write_5
def dkwX3_write_3 : List UInt8 := [153, 0, 9, 42, 16, 112, 182, 1, 2, 3, 61, 28, 42, 180, 0, 16, 5, 46, 162, 0, 26, 42, 28]
abbrev dktX3_write_3 : List UInt8 := dkwX3_write_3 ++ dktX3_write_4
def dkwX3_write_2 : List UInt8 := [27, 182, 0, 78, 153, 0, 8, 16, 111, 167, 0, 5, 16, 45, 182, 1, 2, 42, 27, 182, 0, 100]
abbrev dktX3_write_2 : List UInt8 := dkwX3_write_2 ++ dktX3_write_3
def dkwX3_write_1 : List UInt8 := [182, 0, 68, 42, 27, 4, 182, 0, 68, 182, 1, 8, 42, 42, 27, 6, 182, 0, 68, 182, 1, 5, 42, 42]
abbrev dktX3_write_1 : List UInt8 := dkwX3_write_1 ++ dktX3_write_2
def dkwX3_write_0 : List UInt8 := [42, 27, 182, 0, 138, 154, 0, 5, 2, 172, 42, 3, 181, 0, 255, 42, 27, 182, 1, 5, 42, 42, 27, 3]
abbrev dktX3_write_0 : List UInt8 := dkwX3_write_0 ++ dktX3_write_1
theorem dksX3_write_0 : cX3_write.data.toList.drop 0 = dktX3_write_0 := by decide +kernel
theorem dksX3_write_1 : cX3_write.data.toList.drop 24 = dktX3_write_1 := dk_seg dksX3_write_0 24 rfl rfl
theorem dksX3_write_2 : cX3_write.data.toList.drop 48 = dktX3_write_2 := dk_seg dksX3_write_1 24 rfl rfl
theorem dksX3_write_3 : cX3_write.data.toList.drop 70 = dktX3_write_3 := dk_seg dksX3_write_2 22 rfl rfl
theorem dksX3_write_4 : cX3_write.data.toList.drop 93 = dktX3_write_4 := dk_seg dksX3_write_3 23 rfl rfl
theorem dksX3_write_5 : cX3_write.data.toList.drop 115 = dktX3_write_5 := dk_seg dksX3_write_4 22 rfl rfl
theorem dX3_write_0 : decode cX3_write 0 = .ok (.aload_n 0, 1) := dk_42 (dk_at dksX3_write_0 0 rfl rfl)
theorem dX3_write_1 : decode cX3_write 1 = .ok (.iload_n 1, 1) := dk_27 (dk_at dksX3_write_0 1 rfl rfl)
theorem dX3_write_2 : decode cX3_write 2 = .ok (.invokevirtual 138, 3) := dk_182 0 138 (dk_at dksX3_write_0 2 rfl rfl)
theorem dX3_write_5 : decode cX3_write 5 = .ok (.ifCond .ne 5, 3) := dk_154 0 5 (dk_at dksX3_write_0 5 rfl rfl)
theorem dX3_write_8 : decode cX3_write 8 = .ok (.iconst (-1), 1) := dk_2 (dk_at dksX3_write_0 8 rfl rfl)
theorem dX3_write_9 : decode cX3_write 9 = .ok (.ireturn, 1) := dk_172 (dk_at dksX3_write_0 9 rfl rfl)
theorem dX3_write_10 : decode cX3_write 10 = .ok (.aload_n 0, 1) := dk_42 (dk_at dksX3_write_0 10 rfl rfl)
theorem dX3_write_11 : decode cX3_write 11 = .ok (.iconst 0, 1) := dk_3 (dk_at dksX3_write_0 11 rfl rfl)
theorem dX3_write_12 : decode cX3_write 12 = .ok (.putfield 255, 3) := dk_181 0 255 (dk_at dksX3_write_0 12 rfl rfl)
theorem dX3_write_15 : decode cX3_write 15 = .ok (.aload_n 0, 1) := dk_42 (dk_at dksX3_write_0 15 rfl rfl)
theorem dX3_write_16 : decode cX3_write 16 = .ok (.iload_n 1, 1) := dk_27 (dk_at dksX3_write_0 16 rfl rfl)
theorem dX3_write_17 : decode cX3_write 17 = .ok (.invokevirtual 261, 3) := dk_182 1 5 (dk_at dksX3_write_0 17 rfl rfl)
theorem dX3_write_20 : decode cX3_write 20 = .ok (.aload_n 0, 1) := dk_42 (dk_at dksX3_write_0 20 rfl rfl)
theorem dX3_write_21 : decode cX3_write 21 = .ok (.aload_n 0, 1) := dk_42 (dk_at dksX3_write_0 21 rfl rfl)
theorem dX3_write_22 : decode cX3_write 22 = .ok (.iload_n 1, 1) := dk_27 (dk_at dksX3_write_0 22 rfl rfl)
theorem dX3_write_23 : decode cX3_write 23 = .ok (.iconst 0, 1) := dk_3 (dk_at dksX3_write_0 23 rfl rfl)
theorem dX3_write_24 : decode cX3_write 24 = .ok (.invokevirtual 68, 3) := dk_182 0 68 (dk_at dksX3_write_1 0 rfl rfl)
theorem dX3_write_27 : decode cX3_write 27 = .ok (.aload_n 0, 1) := dk_42 (dk_at dksX3_write_1 3 rfl rfl)
theorem dX3_write_28 : decode cX3_write 28 = .ok (.iload_n 1, 1) := dk_27 (dk_at dksX3_write_1 4 rfl rfl)
theorem dX3_write_29 : decode cX3_write 29 = .ok (.iconst 1, 1) := dk_4 (dk_at dksX3_write_1 5 rfl rfl)
theorem dX3_write_30 : decode cX3_write 30 = .ok (.invokevirtual 68, 3) := dk_182 0 68 (dk_at dksX3_write_1 6 rfl rfl)
theorem dX3_write_33 : decode cX3_write 33 = .ok (.invokevirtual 264, 3) := dk_182 1 8 (dk_at dksX3_write_1 9 rfl rfl)
theorem dX3_write_36 : decode cX3_write 36 = .ok (.aload_n 0, 1) := dk_42 (dk_at dksX3_write_1 12 rfl rfl)
theorem dX3_write_37 : decode cX3_write 37 = .ok (.aload_n 0, 1) := dk_42 (dk_at dksX3_write_1 13 rfl rfl)
theorem dX3_write_38 : decode cX3_write 38 = .ok (.iload_n 1, 1) := dk_27 (dk_at dksX3_write_1 14 rfl rfl)
theorem dX3_write_39 : decode cX3_write 39 = .ok (.iconst 3, 1) := dk_6 (dk_at dksX3_write_1 15 rfl rfl)
theorem dX3_write_40 : decode cX3_write 40 = .ok (.invokevirtual 68, 3) := dk_182 0 68 (dk_at dksX3_write_1 16 rfl rfl)
theorem dX3_write_43 : decode cX3_write 43 = .ok (.invokevirtual 261, 3) := dk_182 1 5 (dk_at dksX3_write_1 19 rfl rfl)
theorem dX3_write_46 : decode cX3_write 46 = .ok (.aload_n 0, 1) := dk_42 (dk_at dksX3_write_1 22 rfl rfl)
theorem dX3_write_47 : decode cX3_write 47 = .ok (.aload_n 0, 1) := dk_42 (dk_at dksX3_write_1 23 rfl rfl)
theorem dX3_write_48 : decode cX3_write 48 = .ok (.iload_n 1, 1) := dk_27 (dk_at dksX3_write_2 0 rfl rfl)
theorem dX3_write_49 : decode cX3_write 49 = .ok (.invokevirtual 78, 3) := dk_182 0 78 (dk_at dksX3_write_2 1 rfl rfl)
theorem dX3_write_52 : decode cX3_write 52 = .ok (.ifCond .eq 8, 3) := dk_153 0 8 (dk_at dksX3_write_2 4 rfl rfl)
theorem dX3_write_55 : decode cX3_write 55 = .ok (.bipush 111, 2) := dk_16 111 (dk_at dksX3_write_2 7 rfl rfl)
theorem dX3_write_57 : decode cX3_write 57 = .ok (.goto 5, 3) := dk_167 0 5 (dk_at dksX3_write_2 9 rfl rfl)
theorem dX3_write_60 : decode cX3_write 60 = .ok (.bipush 45, 2) := dk_16 45 (dk_at dksX3_write_2 12 rfl rfl)
theorem dX3_write_62 : decode cX3_write 62 = .ok (.invokevirtual 258, 3) := dk_182 1 2 (dk_at dksX3_write_2 14 rfl rfl)
theorem dX3_write_65 : decode cX3_write 65 = .ok (.aload_n 0, 1) := dk_42 (dk_at dksX3_write_2 17 rfl rfl)
theorem dX3_write_66 : decode cX3_write 66 = .ok (.iload_n 1, 1) := dk_27 (dk_at dksX3_write_2 18 rfl rfl)
theorem dX3_write_67 : decode cX3_write 67 = .ok (.invokevirtual 100, 3) := dk_182 0 100 (dk_at dksX3_write_2 19 rfl rfl)
theorem dX3_write_70 : decode cX3_write 70 = .ok (.ifCond .eq 9, 3) := dk_153 0 9 (dk_at dksX3_write_3 0 rfl rfl)
theorem dX3_write_73 : decode cX3_write 73 = .ok (.aload_n 0, 1) := dk_42 (dk_at dksX3_write_3 3 rfl rfl)
theorem dX3_write_74 : decode cX3_write 74 = .ok (.bipush 112, 2) := dk_16 112 (dk_at dksX3_write_3 4 rfl rfl)
theorem dX3_write_76 : decode cX3_write 76 = .ok (.invokevirtual 258, 3) := dk_182 1 2 (dk_at dksX3_write_3 6 rfl rfl)
theorem dX3_write_79 : decode cX3_write 79 = .ok (.iconst 0, 1) := dk_3 (dk_at dksX3_write_3 9 rfl rfl)
theorem dX3_write_80 : decode cX3_write 80 = .ok (.istore_n 2, 1) := dk_61 (dk_at dksX3_write_3 10 rfl rfl)
theorem dX3_write_81 : decode cX3_write 81 = .ok (.iload_n 2, 1) := dk_28 (dk_at dksX3_write_3 11 rfl rfl)
theorem dX3_write_82 : decode cX3_write 82 = .ok (.aload_n 0, 1) := dk_42 (dk_at dksX3_write_3 12 rfl rfl)
theorem dX3_write_83 : decode cX3_write 83 = .ok (.getfield 16, 3) := dk_180 0 16 (dk_at dksX3_write_3 13 rfl rfl)
theorem dX3_write_86 : decode cX3_write 86 = .ok (.iconst 2, 1) := dk_5 (dk_at dksX3_write_3 16 rfl rfl)
theorem dX3_write_87 : decode cX3_write 87 = .ok (.iaload, 1) := dk_46 (dk_at dksX3_write_3 17 rfl rfl)
theorem dX3_write_88 : decode cX3_write 88 = .ok (.if_icmp .ge 26, 3) := dk_162 0 26 (dk_at dksX3_write_3 18 rfl rfl)
theorem dX3_write_91 : decode cX3_write 91 = .ok (.aload_n 0, 1) := dk_42 (dk_at dksX3_write_3 21 rfl rfl)
theorem dX3_write_92 : decode cX3_write 92 = .ok (.iload_n 2, 1) := dk_28 (dk_at dksX3_write_3 22 rfl rfl)
theorem dX3_write_93 : decode cX3_write 93 = .ok (.invokevirtual 96, 3) := dk_182 0 96 (dk_at dksX3_write_4 0 rfl rfl)
theorem dX3_write_96 : decode cX3_write 96 = .ok (.iload_n 1, 1) := dk_27 (dk_at dksX3_write_4 3 rfl rfl)
theorem dX3_write_97 : decode cX3_write 97 = .ok (.if_icmp .ne 11, 3) := dk_160 0 11 (dk_at dksX3_write_4 4 rfl rfl)
theorem dX3_write_100 : decode cX3_write 100 = .ok (.aload_n 0, 1) := dk_42 (dk_at dksX3_write_4 7 rfl rfl)
theorem dX3_write_101 : decode cX3_write 101 = .ok (.bipush 97, 2) := dk_16 97 (dk_at dksX3_write_4 8 rfl rfl)
theorem dX3_write_103 : decode cX3_write 103 = .ok (.iload_n 2, 1) := dk_28 (dk_at dksX3_write_4 10 rfl rfl)
theorem dX3_write_104 : decode cX3_write 104 = .ok (.iadd, 1) := dk_96 (dk_at dksX3_write_4 11 rfl rfl)
theorem dX3_write_105 : decode cX3_write 105 = .ok (.invokevirtual 258, 3) := dk_182 1 2 (dk_at dksX3_write_4 12 rfl rfl)
theorem dX3_write_108 : decode cX3_write 108 = .ok (.iinc 2 1, 3) := dk_132 2 1 (dk_at dksX3_write_4 15 rfl rfl)
theorem dX3_write_111 : decode cX3_write 111 = .ok (.goto (-30), 3) := dk_167 255 226 (dk_at dksX3_write_4 18 rfl rfl)
theorem dX3_write_114 : decode cX3_write 114 = .ok (.aload_n 0, 1) := dk_42 (dk_at dksX3_write_4 21 rfl rfl)
theorem dX3_write_115 : decode cX3_write 115 = .ok (.getfield 255, 3) := dk_180 0 255 (dk_at dksX3_write_5 0 rfl rfl)
theorem dX3_write_118 : decode cX3_write 118 = .ok (.ireturn, 1) := dk_172 (dk_at dksX3_write_5 3 rfl rfl)
abbrev cX3_putsNumber : ByteArray := prog_45_method_88_code
def yX3_putsNumber : MethodName := ⟨RX3, "putsNumber", "(I)V"⟩
def dkwX3_putsNumber_1 : List UInt8 := [42, 16, 48, 27, 29, 108, 16, 10, 112, 96, 182, 1, 2, 29, 16, 10, 108, 62, 167, 255, 234, 177]
abbrev dktX3_putsNumber_1 : List UInt8 := dkwX3_putsNumber_1 ++ []
def dkwX3_putsNumber_0 : List UInt8 := [4, 61, 28, 27, 16, 10, 108, 163, 0, 11, 28, 16, 10, 104, 61, 167, 255, 243, 28, 62, 29, 158, 0, 24]
abbrev dktX3_putsNumber_0 : List UInt8 := dkwX3_putsNumber_0 ++ dktX3_putsNumber_1
theorem dksX3_putsNumber_0 : cX3_putsNumber.data.toList.drop 0 = dktX3_putsNumber_0 := by decide +kernel
theorem dksX3_putsNumber_1 : cX3_putsNumber.data.toList.drop 24 = dktX3_putsNumber_1 := dk_seg dksX3_putsNumber_0 24 rfl rfl
theorem dX3_putsNumber_0 : decode cX3_putsNumber 0 = .ok (.iconst 1, 1) := dk_4 (dk_at dksX3_putsNumber_0 0 rfl rfl)
theorem dX3_putsNumber_1 : decode cX3_putsNumber 1 = .ok (.istore_n 2, 1) := dk_61 (dk_at dksX3_putsNumber_0 1 rfl rfl)
theorem dX3_putsNumber_2 : decode cX3_putsNumber 2 = .ok (.iload_n 2, 1) := dk_28 (dk_at dksX3_putsNumber_0 2 rfl rfl)
theorem dX3_putsNumber_3 : decode cX3_putsNumber 3 = .ok (.iload_n 1, 1) := dk_27 (dk_at dksX3_putsNumber_0 3 rfl rfl)
theorem dX3_putsNumber_4 : decode cX3_putsNumber 4 = .ok (.bipush 10, 2) := dk_16 10 (dk_at dksX3_putsNumber_0 4 rfl rfl)
theorem dX3_putsNumber_6 : decode cX3_putsNumber 6 = .ok (.idiv, 1) := dk_108 (dk_at dksX3_putsNumber_0 6 rfl rfl)
theorem dX3_putsNumber_7 : decode cX3_putsNumber 7 = .ok (.if_icmp .gt 11, 3) := dk_163 0 11 (dk_at dksX3_putsNumber_0 7 rfl rfl)
theorem dX3_putsNumber_10 : decode cX3_putsNumber 10 = .ok (.iload_n 2, 1) := dk_28 (dk_at dksX3_putsNumber_0 10 rfl rfl)
theorem dX3_putsNumber_11 : decode cX3_putsNumber 11 = .ok (.bipush 10, 2) := dk_16 10 (dk_at dksX3_putsNumber_0 11 rfl rfl)
theorem dX3_putsNumber_13 : decode cX3_putsNumber 13 = .ok (.imul, 1) := dk_104 (dk_at dksX3_putsNumber_0 13 rfl rfl)
theorem dX3_putsNumber_14 : decode cX3_putsNumber 14 = .ok (.istore_n 2, 1) := dk_61 (dk_at dksX3_putsNumber_0 14 rfl rfl)
theorem dX3_putsNumber_15 : decode cX3_putsNumber 15 = .ok (.goto (-13), 3) := dk_167 255 243 (dk_at dksX3_putsNumber_0 15 rfl rfl)
theorem dX3_putsNumber_18 : decode cX3_putsNumber 18 = .ok (.iload_n 2, 1) := dk_28 (dk_at dksX3_putsNumber_0 18 rfl rfl)
theorem dX3_putsNumber_19 : decode cX3_putsNumber 19 = .ok (.istore_n 3, 1) := dk_62 (dk_at dksX3_putsNumber_0 19 rfl rfl)
theorem dX3_putsNumber_20 : decode cX3_putsNumber 20 = .ok (.iload_n 3, 1) := dk_29 (dk_at dksX3_putsNumber_0 20 rfl rfl)
theorem dX3_putsNumber_21 : decode cX3_putsNumber 21 = .ok (.ifCond .le 24, 3) := dk_158 0 24 (dk_at dksX3_putsNumber_0 21 rfl rfl)
theorem dX3_putsNumber_24 : decode cX3_putsNumber 24 = .ok (.aload_n 0, 1) := dk_42 (dk_at dksX3_putsNumber_1 0 rfl rfl)
theorem dX3_putsNumber_25 : decode cX3_putsNumber 25 = .ok (.bipush 48, 2) := dk_16 48 (dk_at dksX3_putsNumber_1 1 rfl rfl)
theorem dX3_putsNumber_27 : decode cX3_putsNumber 27 = .ok (.iload_n 1, 1) := dk_27 (dk_at dksX3_putsNumber_1 3 rfl rfl)
theorem dX3_putsNumber_28 : decode cX3_putsNumber 28 = .ok (.iload_n 3, 1) := dk_29 (dk_at dksX3_putsNumber_1 4 rfl rfl)
theorem dX3_putsNumber_29 : decode cX3_putsNumber 29 = .ok (.idiv, 1) := dk_108 (dk_at dksX3_putsNumber_1 5 rfl rfl)
theorem dX3_putsNumber_30 : decode cX3_putsNumber 30 = .ok (.bipush 10, 2) := dk_16 10 (dk_at dksX3_putsNumber_1 6 rfl rfl)
theorem dX3_putsNumber_32 : decode cX3_putsNumber 32 = .ok (.irem, 1) := dk_112 (dk_at dksX3_putsNumber_1 8 rfl rfl)
theorem dX3_putsNumber_33 : decode cX3_putsNumber 33 = .ok (.iadd, 1) := dk_96 (dk_at dksX3_putsNumber_1 9 rfl rfl)
theorem dX3_putsNumber_34 : decode cX3_putsNumber 34 = .ok (.invokevirtual 258, 3) := dk_182 1 2 (dk_at dksX3_putsNumber_1 10 rfl rfl)
theorem dX3_putsNumber_37 : decode cX3_putsNumber 37 = .ok (.iload_n 3, 1) := dk_29 (dk_at dksX3_putsNumber_1 13 rfl rfl)
theorem dX3_putsNumber_38 : decode cX3_putsNumber 38 = .ok (.bipush 10, 2) := dk_16 10 (dk_at dksX3_putsNumber_1 14 rfl rfl)
theorem dX3_putsNumber_40 : decode cX3_putsNumber 40 = .ok (.idiv, 1) := dk_108 (dk_at dksX3_putsNumber_1 16 rfl rfl)
theorem dX3_putsNumber_41 : decode cX3_putsNumber 41 = .ok (.istore_n 3, 1) := dk_62 (dk_at dksX3_putsNumber_1 17 rfl rfl)
theorem dX3_putsNumber_42 : decode cX3_putsNumber 42 = .ok (.goto (-22), 3) := dk_167 255 234 (dk_at dksX3_putsNumber_1 18 rfl rfl)
theorem dX3_putsNumber_45 : decode cX3_putsNumber 45 = .ok (.return_, 1) := dk_177 (dk_at dksX3_putsNumber_1 21 rfl rfl)
abbrev cX3_puts : ByteArray := prog_45_method_87_code
def yX3_puts : MethodName := ⟨RX3, "puts", "(I)V"⟩
def dkwX3_puts_0 : List UInt8 := [42, 180, 0, 28, 42, 180, 0, 255, 27, 146, 85, 42, 89, 180, 0, 255, 4, 96, 181, 0, 255, 177]
abbrev dktX3_puts_0 : List UInt8 := dkwX3_puts_0 ++ []
theorem dksX3_puts_0 : cX3_puts.data.toList.drop 0 = dktX3_puts_0 := by decide +kernel
theorem dX3_puts_0 : decode cX3_puts 0 = .ok (.aload_n 0, 1) := dk_42 (dk_at dksX3_puts_0 0 rfl rfl)
theorem dX3_puts_1 : decode cX3_puts 1 = .ok (.getfield 28, 3) := dk_180 0 28 (dk_at dksX3_puts_0 1 rfl rfl)
theorem dX3_puts_4 : decode cX3_puts 4 = .ok (.aload_n 0, 1) := dk_42 (dk_at dksX3_puts_0 4 rfl rfl)
theorem dX3_puts_5 : decode cX3_puts 5 = .ok (.getfield 255, 3) := dk_180 0 255 (dk_at dksX3_puts_0 5 rfl rfl)
theorem dX3_puts_8 : decode cX3_puts 8 = .ok (.iload_n 1, 1) := dk_27 (dk_at dksX3_puts_0 8 rfl rfl)
theorem dX3_puts_9 : decode cX3_puts 9 = .ok (.i2c, 1) := dk_146 (dk_at dksX3_puts_0 9 rfl rfl)
theorem dX3_puts_10 : decode cX3_puts 10 = .ok (.castore, 1) := dk_85 (dk_at dksX3_puts_0 10 rfl rfl)
theorem dX3_puts_11 : decode cX3_puts 11 = .ok (.aload_n 0, 1) := dk_42 (dk_at dksX3_puts_0 11 rfl rfl)
theorem dX3_puts_12 : decode cX3_puts 12 = .ok (.dup, 1) := dk_89 (dk_at dksX3_puts_0 12 rfl rfl)
theorem dX3_puts_13 : decode cX3_puts 13 = .ok (.getfield 255, 3) := dk_180 0 255 (dk_at dksX3_puts_0 13 rfl rfl)
theorem dX3_puts_16 : decode cX3_puts 16 = .ok (.iconst 1, 1) := dk_4 (dk_at dksX3_puts_0 16 rfl rfl)
theorem dX3_puts_17 : decode cX3_puts 17 = .ok (.iadd, 1) := dk_96 (dk_at dksX3_puts_0 17 rfl rfl)
theorem dX3_puts_18 : decode cX3_puts 18 = .ok (.putfield 255, 3) := dk_181 0 255 (dk_at dksX3_puts_0 18 rfl rfl)
theorem dX3_puts_21 : decode cX3_puts 21 = .ok (.return_, 1) := dk_177 (dk_at dksX3_puts_0 21 rfl rfl)
abbrev cX3_putsPlace : ByteArray := prog_45_method_89_code
def yX3_putsPlace : MethodName := ⟨RX3, "putsPlace", "(II)V"⟩
def dkwX3_putsPlace_1 : List UInt8 := [16, 32, 182, 1, 2, 177]
abbrev dktX3_putsPlace_1 : List UInt8 := dkwX3_putsPlace_1 ++ []
def dkwX3_putsPlace_0 : List UInt8 := [42, 16, 64, 182, 1, 2, 42, 27, 182, 1, 5, 42, 16, 44, 182, 1, 2, 42, 28, 182, 1, 5, 42]
abbrev dktX3_putsPlace_0 : List UInt8 := dkwX3_putsPlace_0 ++ dktX3_putsPlace_1
theorem dksX3_putsPlace_0 : cX3_putsPlace.data.toList.drop 0 = dktX3_putsPlace_0 := by decide +kernel
theorem dksX3_putsPlace_1 : cX3_putsPlace.data.toList.drop 23 = dktX3_putsPlace_1 := dk_seg dksX3_putsPlace_0 23 rfl rfl
theorem dX3_putsPlace_0 : decode cX3_putsPlace 0 = .ok (.aload_n 0, 1) := dk_42 (dk_at dksX3_putsPlace_0 0 rfl rfl)
theorem dX3_putsPlace_1 : decode cX3_putsPlace 1 = .ok (.bipush 64, 2) := dk_16 64 (dk_at dksX3_putsPlace_0 1 rfl rfl)
theorem dX3_putsPlace_3 : decode cX3_putsPlace 3 = .ok (.invokevirtual 258, 3) := dk_182 1 2 (dk_at dksX3_putsPlace_0 3 rfl rfl)
theorem dX3_putsPlace_6 : decode cX3_putsPlace 6 = .ok (.aload_n 0, 1) := dk_42 (dk_at dksX3_putsPlace_0 6 rfl rfl)
theorem dX3_putsPlace_7 : decode cX3_putsPlace 7 = .ok (.iload_n 1, 1) := dk_27 (dk_at dksX3_putsPlace_0 7 rfl rfl)
theorem dX3_putsPlace_8 : decode cX3_putsPlace 8 = .ok (.invokevirtual 261, 3) := dk_182 1 5 (dk_at dksX3_putsPlace_0 8 rfl rfl)
theorem dX3_putsPlace_11 : decode cX3_putsPlace 11 = .ok (.aload_n 0, 1) := dk_42 (dk_at dksX3_putsPlace_0 11 rfl rfl)
theorem dX3_putsPlace_12 : decode cX3_putsPlace 12 = .ok (.bipush 44, 2) := dk_16 44 (dk_at dksX3_putsPlace_0 12 rfl rfl)
theorem dX3_putsPlace_14 : decode cX3_putsPlace 14 = .ok (.invokevirtual 258, 3) := dk_182 1 2 (dk_at dksX3_putsPlace_0 14 rfl rfl)
theorem dX3_putsPlace_17 : decode cX3_putsPlace 17 = .ok (.aload_n 0, 1) := dk_42 (dk_at dksX3_putsPlace_0 17 rfl rfl)
theorem dX3_putsPlace_18 : decode cX3_putsPlace 18 = .ok (.iload_n 2, 1) := dk_28 (dk_at dksX3_putsPlace_0 18 rfl rfl)
theorem dX3_putsPlace_19 : decode cX3_putsPlace 19 = .ok (.invokevirtual 261, 3) := dk_182 1 5 (dk_at dksX3_putsPlace_0 19 rfl rfl)
theorem dX3_putsPlace_22 : decode cX3_putsPlace 22 = .ok (.aload_n 0, 1) := dk_42 (dk_at dksX3_putsPlace_0 22 rfl rfl)
theorem dX3_putsPlace_23 : decode cX3_putsPlace 23 = .ok (.bipush 32, 2) := dk_16 32 (dk_at dksX3_putsPlace_1 0 rfl rfl)
theorem dX3_putsPlace_25 : decode cX3_putsPlace 25 = .ok (.invokevirtual 258, 3) := dk_182 1 2 (dk_at dksX3_putsPlace_1 2 rfl rfl)
theorem dX3_putsPlace_28 : decode cX3_putsPlace 28 = .ok (.return_, 1) := dk_177 (dk_at dksX3_putsPlace_1 5 rfl rfl)
abbrev cX3_writeHamlet : ByteArray := prog_45_method_91_code
def yX3_writeHamlet : MethodName := ⟨RX3, "writeHamlet", "(I)I"⟩
def dkwX3_writeHamlet_4 : List UInt8 := [182, 0, 72, 182, 1, 5, 42, 180, 0, 255, 172]
abbrev dktX3_writeHamlet_4 : List UInt8 := dkwX3_writeHamlet_4 ++ []
def dkwX3_writeHamlet_3 : List UInt8 := [182, 1, 5, 42, 27, 6, 182, 0, 72, 158, 0, 19, 42, 16, 33, 182, 1, 2, 42, 42, 27, 6]
abbrev dktX3_writeHamlet_3 : List UInt8 := dkwX3_writeHamlet_3 ++ dktX3_writeHamlet_4
def dkwX3_writeHamlet_2 : List UInt8 := [182, 1, 5, 42, 27, 182, 0, 96, 155, 0, 18, 42, 16, 62, 182, 1, 2, 42, 42, 27, 182, 0, 96]
abbrev dktX3_writeHamlet_2 : List UInt8 := dkwX3_writeHamlet_2 ++ dktX3_writeHamlet_3
def dkwX3_writeHamlet_1 : List UInt8 := [42, 27, 3, 182, 0, 72, 42, 27, 4, 182, 0, 72, 182, 1, 8, 42, 42, 27, 5, 182, 0, 72]
abbrev dktX3_writeHamlet_1 : List UInt8 := dkwX3_writeHamlet_1 ++ dktX3_writeHamlet_2
def dkwX3_writeHamlet_0 : List UInt8 := [42, 27, 182, 0, 207, 154, 0, 5, 2, 172, 42, 3, 181, 0, 255, 42, 16, 97, 27, 96, 182, 1, 2, 42]
abbrev dktX3_writeHamlet_0 : List UInt8 := dkwX3_writeHamlet_0 ++ dktX3_writeHamlet_1
theorem dksX3_writeHamlet_0 : cX3_writeHamlet.data.toList.drop 0 = dktX3_writeHamlet_0 := by decide +kernel
theorem dksX3_writeHamlet_1 : cX3_writeHamlet.data.toList.drop 24 = dktX3_writeHamlet_1 := dk_seg dksX3_writeHamlet_0 24 rfl rfl
theorem dksX3_writeHamlet_2 : cX3_writeHamlet.data.toList.drop 46 = dktX3_writeHamlet_2 := dk_seg dksX3_writeHamlet_1 22 rfl rfl
theorem dksX3_writeHamlet_3 : cX3_writeHamlet.data.toList.drop 69 = dktX3_writeHamlet_3 := dk_seg dksX3_writeHamlet_2 23 rfl rfl
theorem dksX3_writeHamlet_4 : cX3_writeHamlet.data.toList.drop 91 = dktX3_writeHamlet_4 := dk_seg dksX3_writeHamlet_3 22 rfl rfl
theorem dX3_writeHamlet_0 : decode cX3_writeHamlet 0 = .ok (.aload_n 0, 1) := dk_42 (dk_at dksX3_writeHamlet_0 0 rfl rfl)
theorem dX3_writeHamlet_1 : decode cX3_writeHamlet 1 = .ok (.iload_n 1, 1) := dk_27 (dk_at dksX3_writeHamlet_0 1 rfl rfl)
theorem dX3_writeHamlet_2 : decode cX3_writeHamlet 2 = .ok (.invokevirtual 207, 3) := dk_182 0 207 (dk_at dksX3_writeHamlet_0 2 rfl rfl)
theorem dX3_writeHamlet_5 : decode cX3_writeHamlet 5 = .ok (.ifCond .ne 5, 3) := dk_154 0 5 (dk_at dksX3_writeHamlet_0 5 rfl rfl)
theorem dX3_writeHamlet_8 : decode cX3_writeHamlet 8 = .ok (.iconst (-1), 1) := dk_2 (dk_at dksX3_writeHamlet_0 8 rfl rfl)
theorem dX3_writeHamlet_9 : decode cX3_writeHamlet 9 = .ok (.ireturn, 1) := dk_172 (dk_at dksX3_writeHamlet_0 9 rfl rfl)
theorem dX3_writeHamlet_10 : decode cX3_writeHamlet 10 = .ok (.aload_n 0, 1) := dk_42 (dk_at dksX3_writeHamlet_0 10 rfl rfl)
theorem dX3_writeHamlet_11 : decode cX3_writeHamlet 11 = .ok (.iconst 0, 1) := dk_3 (dk_at dksX3_writeHamlet_0 11 rfl rfl)
theorem dX3_writeHamlet_12 : decode cX3_writeHamlet 12 = .ok (.putfield 255, 3) := dk_181 0 255 (dk_at dksX3_writeHamlet_0 12 rfl rfl)
theorem dX3_writeHamlet_15 : decode cX3_writeHamlet 15 = .ok (.aload_n 0, 1) := dk_42 (dk_at dksX3_writeHamlet_0 15 rfl rfl)
theorem dX3_writeHamlet_16 : decode cX3_writeHamlet 16 = .ok (.bipush 97, 2) := dk_16 97 (dk_at dksX3_writeHamlet_0 16 rfl rfl)
theorem dX3_writeHamlet_18 : decode cX3_writeHamlet 18 = .ok (.iload_n 1, 1) := dk_27 (dk_at dksX3_writeHamlet_0 18 rfl rfl)
theorem dX3_writeHamlet_19 : decode cX3_writeHamlet 19 = .ok (.iadd, 1) := dk_96 (dk_at dksX3_writeHamlet_0 19 rfl rfl)
theorem dX3_writeHamlet_20 : decode cX3_writeHamlet 20 = .ok (.invokevirtual 258, 3) := dk_182 1 2 (dk_at dksX3_writeHamlet_0 20 rfl rfl)
theorem dX3_writeHamlet_23 : decode cX3_writeHamlet 23 = .ok (.aload_n 0, 1) := dk_42 (dk_at dksX3_writeHamlet_0 23 rfl rfl)
theorem dX3_writeHamlet_24 : decode cX3_writeHamlet 24 = .ok (.aload_n 0, 1) := dk_42 (dk_at dksX3_writeHamlet_1 0 rfl rfl)
theorem dX3_writeHamlet_25 : decode cX3_writeHamlet 25 = .ok (.iload_n 1, 1) := dk_27 (dk_at dksX3_writeHamlet_1 1 rfl rfl)
theorem dX3_writeHamlet_26 : decode cX3_writeHamlet 26 = .ok (.iconst 0, 1) := dk_3 (dk_at dksX3_writeHamlet_1 2 rfl rfl)
theorem dX3_writeHamlet_27 : decode cX3_writeHamlet 27 = .ok (.invokevirtual 72, 3) := dk_182 0 72 (dk_at dksX3_writeHamlet_1 3 rfl rfl)
theorem dX3_writeHamlet_30 : decode cX3_writeHamlet 30 = .ok (.aload_n 0, 1) := dk_42 (dk_at dksX3_writeHamlet_1 6 rfl rfl)
theorem dX3_writeHamlet_31 : decode cX3_writeHamlet 31 = .ok (.iload_n 1, 1) := dk_27 (dk_at dksX3_writeHamlet_1 7 rfl rfl)
theorem dX3_writeHamlet_32 : decode cX3_writeHamlet 32 = .ok (.iconst 1, 1) := dk_4 (dk_at dksX3_writeHamlet_1 8 rfl rfl)
theorem dX3_writeHamlet_33 : decode cX3_writeHamlet 33 = .ok (.invokevirtual 72, 3) := dk_182 0 72 (dk_at dksX3_writeHamlet_1 9 rfl rfl)
theorem dX3_writeHamlet_36 : decode cX3_writeHamlet 36 = .ok (.invokevirtual 264, 3) := dk_182 1 8 (dk_at dksX3_writeHamlet_1 12 rfl rfl)
theorem dX3_writeHamlet_39 : decode cX3_writeHamlet 39 = .ok (.aload_n 0, 1) := dk_42 (dk_at dksX3_writeHamlet_1 15 rfl rfl)
theorem dX3_writeHamlet_40 : decode cX3_writeHamlet 40 = .ok (.aload_n 0, 1) := dk_42 (dk_at dksX3_writeHamlet_1 16 rfl rfl)
theorem dX3_writeHamlet_41 : decode cX3_writeHamlet 41 = .ok (.iload_n 1, 1) := dk_27 (dk_at dksX3_writeHamlet_1 17 rfl rfl)
theorem dX3_writeHamlet_42 : decode cX3_writeHamlet 42 = .ok (.iconst 2, 1) := dk_5 (dk_at dksX3_writeHamlet_1 18 rfl rfl)
theorem dX3_writeHamlet_43 : decode cX3_writeHamlet 43 = .ok (.invokevirtual 72, 3) := dk_182 0 72 (dk_at dksX3_writeHamlet_1 19 rfl rfl)
theorem dX3_writeHamlet_46 : decode cX3_writeHamlet 46 = .ok (.invokevirtual 261, 3) := dk_182 1 5 (dk_at dksX3_writeHamlet_2 0 rfl rfl)
theorem dX3_writeHamlet_49 : decode cX3_writeHamlet 49 = .ok (.aload_n 0, 1) := dk_42 (dk_at dksX3_writeHamlet_2 3 rfl rfl)
theorem dX3_writeHamlet_50 : decode cX3_writeHamlet 50 = .ok (.iload_n 1, 1) := dk_27 (dk_at dksX3_writeHamlet_2 4 rfl rfl)
theorem dX3_writeHamlet_51 : decode cX3_writeHamlet 51 = .ok (.invokevirtual 96, 3) := dk_182 0 96 (dk_at dksX3_writeHamlet_2 5 rfl rfl)
theorem dX3_writeHamlet_54 : decode cX3_writeHamlet 54 = .ok (.ifCond .lt 18, 3) := dk_155 0 18 (dk_at dksX3_writeHamlet_2 8 rfl rfl)
theorem dX3_writeHamlet_57 : decode cX3_writeHamlet 57 = .ok (.aload_n 0, 1) := dk_42 (dk_at dksX3_writeHamlet_2 11 rfl rfl)
theorem dX3_writeHamlet_58 : decode cX3_writeHamlet 58 = .ok (.bipush 62, 2) := dk_16 62 (dk_at dksX3_writeHamlet_2 12 rfl rfl)
theorem dX3_writeHamlet_60 : decode cX3_writeHamlet 60 = .ok (.invokevirtual 258, 3) := dk_182 1 2 (dk_at dksX3_writeHamlet_2 14 rfl rfl)
theorem dX3_writeHamlet_63 : decode cX3_writeHamlet 63 = .ok (.aload_n 0, 1) := dk_42 (dk_at dksX3_writeHamlet_2 17 rfl rfl)
theorem dX3_writeHamlet_64 : decode cX3_writeHamlet 64 = .ok (.aload_n 0, 1) := dk_42 (dk_at dksX3_writeHamlet_2 18 rfl rfl)
theorem dX3_writeHamlet_65 : decode cX3_writeHamlet 65 = .ok (.iload_n 1, 1) := dk_27 (dk_at dksX3_writeHamlet_2 19 rfl rfl)
theorem dX3_writeHamlet_66 : decode cX3_writeHamlet 66 = .ok (.invokevirtual 96, 3) := dk_182 0 96 (dk_at dksX3_writeHamlet_2 20 rfl rfl)
theorem dX3_writeHamlet_69 : decode cX3_writeHamlet 69 = .ok (.invokevirtual 261, 3) := dk_182 1 5 (dk_at dksX3_writeHamlet_3 0 rfl rfl)
theorem dX3_writeHamlet_72 : decode cX3_writeHamlet 72 = .ok (.aload_n 0, 1) := dk_42 (dk_at dksX3_writeHamlet_3 3 rfl rfl)
theorem dX3_writeHamlet_73 : decode cX3_writeHamlet 73 = .ok (.iload_n 1, 1) := dk_27 (dk_at dksX3_writeHamlet_3 4 rfl rfl)
theorem dX3_writeHamlet_74 : decode cX3_writeHamlet 74 = .ok (.iconst 3, 1) := dk_6 (dk_at dksX3_writeHamlet_3 5 rfl rfl)
theorem dX3_writeHamlet_75 : decode cX3_writeHamlet 75 = .ok (.invokevirtual 72, 3) := dk_182 0 72 (dk_at dksX3_writeHamlet_3 6 rfl rfl)
theorem dX3_writeHamlet_78 : decode cX3_writeHamlet 78 = .ok (.ifCond .le 19, 3) := dk_158 0 19 (dk_at dksX3_writeHamlet_3 9 rfl rfl)
theorem dX3_writeHamlet_81 : decode cX3_writeHamlet 81 = .ok (.aload_n 0, 1) := dk_42 (dk_at dksX3_writeHamlet_3 12 rfl rfl)
theorem dX3_writeHamlet_82 : decode cX3_writeHamlet 82 = .ok (.bipush 33, 2) := dk_16 33 (dk_at dksX3_writeHamlet_3 13 rfl rfl)
theorem dX3_writeHamlet_84 : decode cX3_writeHamlet 84 = .ok (.invokevirtual 258, 3) := dk_182 1 2 (dk_at dksX3_writeHamlet_3 15 rfl rfl)
theorem dX3_writeHamlet_87 : decode cX3_writeHamlet 87 = .ok (.aload_n 0, 1) := dk_42 (dk_at dksX3_writeHamlet_3 18 rfl rfl)
theorem dX3_writeHamlet_88 : decode cX3_writeHamlet 88 = .ok (.aload_n 0, 1) := dk_42 (dk_at dksX3_writeHamlet_3 19 rfl rfl)
theorem dX3_writeHamlet_89 : decode cX3_writeHamlet 89 = .ok (.iload_n 1, 1) := dk_27 (dk_at dksX3_writeHamlet_3 20 rfl rfl)
theorem dX3_writeHamlet_90 : decode cX3_writeHamlet 90 = .ok (.iconst 3, 1) := dk_6 (dk_at dksX3_writeHamlet_3 21 rfl rfl)
theorem dX3_writeHamlet_91 : decode cX3_writeHamlet 91 = .ok (.invokevirtual 72, 3) := dk_182 0 72 (dk_at dksX3_writeHamlet_4 0 rfl rfl)
theorem dX3_writeHamlet_94 : decode cX3_writeHamlet 94 = .ok (.invokevirtual 261, 3) := dk_182 1 5 (dk_at dksX3_writeHamlet_4 3 rfl rfl)
theorem dX3_writeHamlet_97 : decode cX3_writeHamlet 97 = .ok (.aload_n 0, 1) := dk_42 (dk_at dksX3_writeHamlet_4 6 rfl rfl)
theorem dX3_writeHamlet_98 : decode cX3_writeHamlet 98 = .ok (.getfield 255, 3) := dk_180 0 255 (dk_at dksX3_writeHamlet_4 7 rfl rfl)
theorem dX3_writeHamlet_101 : decode cX3_writeHamlet 101 = .ok (.ireturn, 1) := dk_172 (dk_at dksX3_writeHamlet_4 10 rfl rfl)
abbrev cX3_written : ByteArray := prog_45_method_92_code
def yX3_written : MethodName := ⟨RX3, "written", "(I)I"⟩
def dkwX3_written_1 : List UInt8 := [172]
abbrev dktX3_written_1 : List UInt8 := dkwX3_written_1 ++ []
def dkwX3_written_0 : List UInt8 := [27, 3, 42, 180, 0, 255, 4, 100, 184, 0, 52, 153, 0, 12, 42, 180, 0, 28, 27, 52, 167, 0, 4, 2]
abbrev dktX3_written_0 : List UInt8 := dkwX3_written_0 ++ dktX3_written_1
theorem dksX3_written_0 : cX3_written.data.toList.drop 0 = dktX3_written_0 := by decide +kernel
theorem dksX3_written_1 : cX3_written.data.toList.drop 24 = dktX3_written_1 := dk_seg dksX3_written_0 24 rfl rfl
theorem dX3_written_0 : decode cX3_written 0 = .ok (.iload_n 1, 1) := dk_27 (dk_at dksX3_written_0 0 rfl rfl)
theorem dX3_written_1 : decode cX3_written 1 = .ok (.iconst 0, 1) := dk_3 (dk_at dksX3_written_0 1 rfl rfl)
theorem dX3_written_2 : decode cX3_written 2 = .ok (.aload_n 0, 1) := dk_42 (dk_at dksX3_written_0 2 rfl rfl)
theorem dX3_written_3 : decode cX3_written 3 = .ok (.getfield 255, 3) := dk_180 0 255 (dk_at dksX3_written_0 3 rfl rfl)
theorem dX3_written_6 : decode cX3_written 6 = .ok (.iconst 1, 1) := dk_4 (dk_at dksX3_written_0 6 rfl rfl)
theorem dX3_written_7 : decode cX3_written 7 = .ok (.isub, 1) := dk_100 (dk_at dksX3_written_0 7 rfl rfl)
theorem dX3_written_8 : decode cX3_written 8 = .ok (.invokestatic 52, 3) := dk_184 0 52 (dk_at dksX3_written_0 8 rfl rfl)
theorem dX3_written_11 : decode cX3_written 11 = .ok (.ifCond .eq 12, 3) := dk_153 0 12 (dk_at dksX3_written_0 11 rfl rfl)
theorem dX3_written_14 : decode cX3_written 14 = .ok (.aload_n 0, 1) := dk_42 (dk_at dksX3_written_0 14 rfl rfl)
theorem dX3_written_15 : decode cX3_written 15 = .ok (.getfield 28, 3) := dk_180 0 28 (dk_at dksX3_written_0 15 rfl rfl)
theorem dX3_written_18 : decode cX3_written 18 = .ok (.iload_n 1, 1) := dk_27 (dk_at dksX3_written_0 18 rfl rfl)
theorem dX3_written_19 : decode cX3_written 19 = .ok (.caload, 1) := dk_52 (dk_at dksX3_written_0 19 rfl rfl)
theorem dX3_written_20 : decode cX3_written 20 = .ok (.goto 4, 3) := dk_167 0 4 (dk_at dksX3_written_0 20 rfl rfl)
theorem dX3_written_23 : decode cX3_written 23 = .ok (.iconst (-1), 1) := dk_2 (dk_at dksX3_written_0 23 rfl rfl)
theorem dX3_written_24 : decode cX3_written 24 = .ok (.ireturn, 1) := dk_172 (dk_at dksX3_written_1 0 rfl rfl)
abbrev cX3_append : ByteArray := prog_45_method_93_code
def yX3_append : MethodName := ⟨RX3, "append", "(C)I"⟩
def dkwX3_append_2 : List UInt8 := [180, 0, 252, 172]
abbrev dktX3_append_2 : List UInt8 := dkwX3_append_2 ++ []
def dkwX3_append_1 : List UInt8 := [16, 252, 172, 42, 180, 0, 32, 42, 180, 0, 252, 27, 85, 42, 89, 180, 0, 252, 4, 96, 181, 0, 252, 42]
abbrev dktX3_append_1 : List UInt8 := dkwX3_append_1 ++ dktX3_append_2
def dkwX3_append_0 : List UInt8 := [27, 16, 32, 16, 126, 184, 0, 52, 154, 0, 6, 16, 254, 172, 42, 180, 0, 252, 16, 60, 160, 0, 6]
abbrev dktX3_append_0 : List UInt8 := dkwX3_append_0 ++ dktX3_append_1
theorem dksX3_append_0 : cX3_append.data.toList.drop 0 = dktX3_append_0 := by decide +kernel
theorem dksX3_append_1 : cX3_append.data.toList.drop 23 = dktX3_append_1 := dk_seg dksX3_append_0 23 rfl rfl
theorem dksX3_append_2 : cX3_append.data.toList.drop 47 = dktX3_append_2 := dk_seg dksX3_append_1 24 rfl rfl
theorem dX3_append_0 : decode cX3_append 0 = .ok (.iload_n 1, 1) := dk_27 (dk_at dksX3_append_0 0 rfl rfl)
theorem dX3_append_1 : decode cX3_append 1 = .ok (.bipush 32, 2) := dk_16 32 (dk_at dksX3_append_0 1 rfl rfl)
theorem dX3_append_3 : decode cX3_append 3 = .ok (.bipush 126, 2) := dk_16 126 (dk_at dksX3_append_0 3 rfl rfl)
theorem dX3_append_5 : decode cX3_append 5 = .ok (.invokestatic 52, 3) := dk_184 0 52 (dk_at dksX3_append_0 5 rfl rfl)
theorem dX3_append_8 : decode cX3_append 8 = .ok (.ifCond .ne 6, 3) := dk_154 0 6 (dk_at dksX3_append_0 8 rfl rfl)
theorem dX3_append_11 : decode cX3_append 11 = .ok (.bipush (-2), 2) := dk_16 254 (dk_at dksX3_append_0 11 rfl rfl)
theorem dX3_append_13 : decode cX3_append 13 = .ok (.ireturn, 1) := dk_172 (dk_at dksX3_append_0 13 rfl rfl)
theorem dX3_append_14 : decode cX3_append 14 = .ok (.aload_n 0, 1) := dk_42 (dk_at dksX3_append_0 14 rfl rfl)
theorem dX3_append_15 : decode cX3_append 15 = .ok (.getfield 252, 3) := dk_180 0 252 (dk_at dksX3_append_0 15 rfl rfl)
theorem dX3_append_18 : decode cX3_append 18 = .ok (.bipush 60, 2) := dk_16 60 (dk_at dksX3_append_0 18 rfl rfl)
theorem dX3_append_20 : decode cX3_append 20 = .ok (.if_icmp .ne 6, 3) := dk_160 0 6 (dk_at dksX3_append_0 20 rfl rfl)
theorem dX3_append_23 : decode cX3_append 23 = .ok (.bipush (-4), 2) := dk_16 252 (dk_at dksX3_append_1 0 rfl rfl)
theorem dX3_append_25 : decode cX3_append 25 = .ok (.ireturn, 1) := dk_172 (dk_at dksX3_append_1 2 rfl rfl)
theorem dX3_append_26 : decode cX3_append 26 = .ok (.aload_n 0, 1) := dk_42 (dk_at dksX3_append_1 3 rfl rfl)
theorem dX3_append_27 : decode cX3_append 27 = .ok (.getfield 32, 3) := dk_180 0 32 (dk_at dksX3_append_1 4 rfl rfl)
theorem dX3_append_30 : decode cX3_append 30 = .ok (.aload_n 0, 1) := dk_42 (dk_at dksX3_append_1 7 rfl rfl)
theorem dX3_append_31 : decode cX3_append 31 = .ok (.getfield 252, 3) := dk_180 0 252 (dk_at dksX3_append_1 8 rfl rfl)
theorem dX3_append_34 : decode cX3_append 34 = .ok (.iload_n 1, 1) := dk_27 (dk_at dksX3_append_1 11 rfl rfl)
theorem dX3_append_35 : decode cX3_append 35 = .ok (.castore, 1) := dk_85 (dk_at dksX3_append_1 12 rfl rfl)
theorem dX3_append_36 : decode cX3_append 36 = .ok (.aload_n 0, 1) := dk_42 (dk_at dksX3_append_1 13 rfl rfl)
theorem dX3_append_37 : decode cX3_append 37 = .ok (.dup, 1) := dk_89 (dk_at dksX3_append_1 14 rfl rfl)
theorem dX3_append_38 : decode cX3_append 38 = .ok (.getfield 252, 3) := dk_180 0 252 (dk_at dksX3_append_1 15 rfl rfl)
theorem dX3_append_41 : decode cX3_append 41 = .ok (.iconst 1, 1) := dk_4 (dk_at dksX3_append_1 18 rfl rfl)
theorem dX3_append_42 : decode cX3_append 42 = .ok (.iadd, 1) := dk_96 (dk_at dksX3_append_1 19 rfl rfl)
theorem dX3_append_43 : decode cX3_append 43 = .ok (.putfield 252, 3) := dk_181 0 252 (dk_at dksX3_append_1 20 rfl rfl)
theorem dX3_append_46 : decode cX3_append 46 = .ok (.aload_n 0, 1) := dk_42 (dk_at dksX3_append_1 23 rfl rfl)
theorem dX3_append_47 : decode cX3_append 47 = .ok (.getfield 252, 3) := dk_180 0 252 (dk_at dksX3_append_2 0 rfl rfl)
theorem dX3_append_50 : decode cX3_append 50 = .ok (.ireturn, 1) := dk_172 (dk_at dksX3_append_2 3 rfl rfl)
abbrev cX3_fault : ByteArray := prog_45_method_94_code
def yX3_fault : MethodName := ⟨RX3, "fault", "()I"⟩
def dkwX3_fault_0 : List UInt8 := [42, 180, 0, 35, 156, 0, 8, 16, 253, 167, 0, 7, 42, 180, 0, 35, 172]
abbrev dktX3_fault_0 : List UInt8 := dkwX3_fault_0 ++ []
theorem dksX3_fault_0 : cX3_fault.data.toList.drop 0 = dktX3_fault_0 := by decide +kernel
theorem dX3_fault_0 : decode cX3_fault 0 = .ok (.aload_n 0, 1) := dk_42 (dk_at dksX3_fault_0 0 rfl rfl)
theorem dX3_fault_1 : decode cX3_fault 1 = .ok (.getfield 35, 3) := dk_180 0 35 (dk_at dksX3_fault_0 1 rfl rfl)
theorem dX3_fault_4 : decode cX3_fault 4 = .ok (.ifCond .ge 8, 3) := dk_156 0 8 (dk_at dksX3_fault_0 4 rfl rfl)
theorem dX3_fault_7 : decode cX3_fault 7 = .ok (.bipush (-3), 2) := dk_16 253 (dk_at dksX3_fault_0 7 rfl rfl)
theorem dX3_fault_9 : decode cX3_fault 9 = .ok (.goto 7, 3) := dk_167 0 7 (dk_at dksX3_fault_0 9 rfl rfl)
theorem dX3_fault_12 : decode cX3_fault 12 = .ok (.aload_n 0, 1) := dk_42 (dk_at dksX3_fault_0 12 rfl rfl)
theorem dX3_fault_13 : decode cX3_fault 13 = .ok (.getfield 35, 3) := dk_180 0 35 (dk_at dksX3_fault_0 13 rfl rfl)
theorem dX3_fault_16 : decode cX3_fault 16 = .ok (.ireturn, 1) := dk_172 (dk_at dksX3_fault_0 16 rfl rfl)
abbrev cX3_read : ByteArray := prog_45_method_107_code
def yX3_read : MethodName := ⟨RX3, "read", "()I"⟩
def dkwX3_read_4 : List UInt8 := [3, 182, 0, 48, 16, 251, 172]
abbrev dktX3_read_4 : List UInt8 := dkwX3_read_4 ++ []
def dkwX3_read_3 : List UInt8 := [160, 0, 10, 42, 180, 0, 42, 167, 0, 4, 3, 27, 16, 251, 160, 0, 10, 42, 180, 0, 45, 167, 0, 4]
abbrev dktX3_read_3 : List UInt8 := dkwX3_read_3 ++ dktX3_read_4
def dkwX3_read_2 : List UInt8 := [180, 1, 41, 172, 42, 182, 0, 204, 42, 3, 16, 10, 42, 180, 1, 41, 182, 0, 48, 42, 4, 27, 16, 251]
abbrev dktX3_read_2 : List UInt8 := dkwX3_read_2 ++ dktX3_read_3
def dkwX3_read_1 : List UInt8 := [182, 0, 62, 42, 182, 1, 53, 60, 42, 3, 181, 0, 252, 27, 154, 0, 12, 42, 182, 0, 65, 42]
abbrev dktX3_read_1 : List UInt8 := dkwX3_read_1 ++ dktX3_read_2
def dkwX3_read_0 : List UInt8 := [42, 182, 1, 50, 154, 0, 19, 42, 42, 180, 1, 11, 181, 0, 35, 42, 3, 181, 0, 252, 16, 254, 172, 42]
abbrev dktX3_read_0 : List UInt8 := dkwX3_read_0 ++ dktX3_read_1
theorem dksX3_read_0 : cX3_read.data.toList.drop 0 = dktX3_read_0 := by decide +kernel
theorem dksX3_read_1 : cX3_read.data.toList.drop 24 = dktX3_read_1 := dk_seg dksX3_read_0 24 rfl rfl
theorem dksX3_read_2 : cX3_read.data.toList.drop 46 = dktX3_read_2 := dk_seg dksX3_read_1 22 rfl rfl
theorem dksX3_read_3 : cX3_read.data.toList.drop 70 = dktX3_read_3 := dk_seg dksX3_read_2 24 rfl rfl
theorem dksX3_read_4 : cX3_read.data.toList.drop 94 = dktX3_read_4 := dk_seg dksX3_read_3 24 rfl rfl
theorem dX3_read_0 : decode cX3_read 0 = .ok (.aload_n 0, 1) := dk_42 (dk_at dksX3_read_0 0 rfl rfl)
theorem dX3_read_1 : decode cX3_read 1 = .ok (.invokevirtual 306, 3) := dk_182 1 50 (dk_at dksX3_read_0 1 rfl rfl)
theorem dX3_read_4 : decode cX3_read 4 = .ok (.ifCond .ne 19, 3) := dk_154 0 19 (dk_at dksX3_read_0 4 rfl rfl)
theorem dX3_read_7 : decode cX3_read 7 = .ok (.aload_n 0, 1) := dk_42 (dk_at dksX3_read_0 7 rfl rfl)
theorem dX3_read_8 : decode cX3_read 8 = .ok (.aload_n 0, 1) := dk_42 (dk_at dksX3_read_0 8 rfl rfl)
theorem dX3_read_9 : decode cX3_read 9 = .ok (.getfield 267, 3) := dk_180 1 11 (dk_at dksX3_read_0 9 rfl rfl)
theorem dX3_read_12 : decode cX3_read 12 = .ok (.putfield 35, 3) := dk_181 0 35 (dk_at dksX3_read_0 12 rfl rfl)
theorem dX3_read_15 : decode cX3_read 15 = .ok (.aload_n 0, 1) := dk_42 (dk_at dksX3_read_0 15 rfl rfl)
theorem dX3_read_16 : decode cX3_read 16 = .ok (.iconst 0, 1) := dk_3 (dk_at dksX3_read_0 16 rfl rfl)
theorem dX3_read_17 : decode cX3_read 17 = .ok (.putfield 252, 3) := dk_181 0 252 (dk_at dksX3_read_0 17 rfl rfl)
theorem dX3_read_20 : decode cX3_read 20 = .ok (.bipush (-2), 2) := dk_16 254 (dk_at dksX3_read_0 20 rfl rfl)
theorem dX3_read_22 : decode cX3_read 22 = .ok (.ireturn, 1) := dk_172 (dk_at dksX3_read_0 22 rfl rfl)
theorem dX3_read_23 : decode cX3_read 23 = .ok (.aload_n 0, 1) := dk_42 (dk_at dksX3_read_0 23 rfl rfl)
theorem dX3_read_24 : decode cX3_read 24 = .ok (.invokevirtual 62, 3) := dk_182 0 62 (dk_at dksX3_read_1 0 rfl rfl)
theorem dX3_read_27 : decode cX3_read 27 = .ok (.aload_n 0, 1) := dk_42 (dk_at dksX3_read_1 3 rfl rfl)
theorem dX3_read_28 : decode cX3_read 28 = .ok (.invokevirtual 309, 3) := dk_182 1 53 (dk_at dksX3_read_1 4 rfl rfl)
theorem dX3_read_31 : decode cX3_read 31 = .ok (.istore_n 1, 1) := dk_60 (dk_at dksX3_read_1 7 rfl rfl)
theorem dX3_read_32 : decode cX3_read 32 = .ok (.aload_n 0, 1) := dk_42 (dk_at dksX3_read_1 8 rfl rfl)
theorem dX3_read_33 : decode cX3_read 33 = .ok (.iconst 0, 1) := dk_3 (dk_at dksX3_read_1 9 rfl rfl)
theorem dX3_read_34 : decode cX3_read 34 = .ok (.putfield 252, 3) := dk_181 0 252 (dk_at dksX3_read_1 10 rfl rfl)
theorem dX3_read_37 : decode cX3_read 37 = .ok (.iload_n 1, 1) := dk_27 (dk_at dksX3_read_1 13 rfl rfl)
theorem dX3_read_38 : decode cX3_read 38 = .ok (.ifCond .ne 12, 3) := dk_154 0 12 (dk_at dksX3_read_1 14 rfl rfl)
theorem dX3_read_41 : decode cX3_read 41 = .ok (.aload_n 0, 1) := dk_42 (dk_at dksX3_read_1 17 rfl rfl)
theorem dX3_read_42 : decode cX3_read 42 = .ok (.invokevirtual 65, 3) := dk_182 0 65 (dk_at dksX3_read_1 18 rfl rfl)
theorem dX3_read_45 : decode cX3_read 45 = .ok (.aload_n 0, 1) := dk_42 (dk_at dksX3_read_1 21 rfl rfl)
theorem dX3_read_46 : decode cX3_read 46 = .ok (.getfield 297, 3) := dk_180 1 41 (dk_at dksX3_read_2 0 rfl rfl)
theorem dX3_read_49 : decode cX3_read 49 = .ok (.ireturn, 1) := dk_172 (dk_at dksX3_read_2 3 rfl rfl)
theorem dX3_read_50 : decode cX3_read 50 = .ok (.aload_n 0, 1) := dk_42 (dk_at dksX3_read_2 4 rfl rfl)
theorem dX3_read_51 : decode cX3_read 51 = .ok (.invokevirtual 204, 3) := dk_182 0 204 (dk_at dksX3_read_2 5 rfl rfl)
theorem dX3_read_54 : decode cX3_read 54 = .ok (.aload_n 0, 1) := dk_42 (dk_at dksX3_read_2 8 rfl rfl)
theorem dX3_read_55 : decode cX3_read 55 = .ok (.iconst 0, 1) := dk_3 (dk_at dksX3_read_2 9 rfl rfl)
theorem dX3_read_56 : decode cX3_read 56 = .ok (.bipush 10, 2) := dk_16 10 (dk_at dksX3_read_2 10 rfl rfl)
theorem dX3_read_58 : decode cX3_read 58 = .ok (.aload_n 0, 1) := dk_42 (dk_at dksX3_read_2 12 rfl rfl)
theorem dX3_read_59 : decode cX3_read 59 = .ok (.getfield 297, 3) := dk_180 1 41 (dk_at dksX3_read_2 13 rfl rfl)
theorem dX3_read_62 : decode cX3_read 62 = .ok (.invokevirtual 48, 3) := dk_182 0 48 (dk_at dksX3_read_2 16 rfl rfl)
theorem dX3_read_65 : decode cX3_read 65 = .ok (.aload_n 0, 1) := dk_42 (dk_at dksX3_read_2 19 rfl rfl)
theorem dX3_read_66 : decode cX3_read 66 = .ok (.iconst 1, 1) := dk_4 (dk_at dksX3_read_2 20 rfl rfl)
theorem dX3_read_67 : decode cX3_read 67 = .ok (.iload_n 1, 1) := dk_27 (dk_at dksX3_read_2 21 rfl rfl)
theorem dX3_read_68 : decode cX3_read 68 = .ok (.bipush (-5), 2) := dk_16 251 (dk_at dksX3_read_2 22 rfl rfl)
theorem dX3_read_70 : decode cX3_read 70 = .ok (.if_icmp .ne 10, 3) := dk_160 0 10 (dk_at dksX3_read_3 0 rfl rfl)
theorem dX3_read_73 : decode cX3_read 73 = .ok (.aload_n 0, 1) := dk_42 (dk_at dksX3_read_3 3 rfl rfl)
theorem dX3_read_74 : decode cX3_read 74 = .ok (.getfield 42, 3) := dk_180 0 42 (dk_at dksX3_read_3 4 rfl rfl)
theorem dX3_read_77 : decode cX3_read 77 = .ok (.goto 4, 3) := dk_167 0 4 (dk_at dksX3_read_3 7 rfl rfl)
theorem dX3_read_80 : decode cX3_read 80 = .ok (.iconst 0, 1) := dk_3 (dk_at dksX3_read_3 10 rfl rfl)
theorem dX3_read_81 : decode cX3_read 81 = .ok (.iload_n 1, 1) := dk_27 (dk_at dksX3_read_3 11 rfl rfl)
theorem dX3_read_82 : decode cX3_read 82 = .ok (.bipush (-5), 2) := dk_16 251 (dk_at dksX3_read_3 12 rfl rfl)
theorem dX3_read_84 : decode cX3_read 84 = .ok (.if_icmp .ne 10, 3) := dk_160 0 10 (dk_at dksX3_read_3 14 rfl rfl)
theorem dX3_read_87 : decode cX3_read 87 = .ok (.aload_n 0, 1) := dk_42 (dk_at dksX3_read_3 17 rfl rfl)
theorem dX3_read_88 : decode cX3_read 88 = .ok (.getfield 45, 3) := dk_180 0 45 (dk_at dksX3_read_3 18 rfl rfl)
theorem dX3_read_91 : decode cX3_read 91 = .ok (.goto 4, 3) := dk_167 0 4 (dk_at dksX3_read_3 21 rfl rfl)
theorem dX3_read_94 : decode cX3_read 94 = .ok (.iconst 0, 1) := dk_3 (dk_at dksX3_read_4 0 rfl rfl)
theorem dX3_read_95 : decode cX3_read 95 = .ok (.invokevirtual 48, 3) := dk_182 0 48 (dk_at dksX3_read_4 1 rfl rfl)
theorem dX3_read_98 : decode cX3_read 98 = .ok (.bipush (-5), 2) := dk_16 251 (dk_at dksX3_read_4 4 rfl rfl)
theorem dX3_read_100 : decode cX3_read 100 = .ok (.ireturn, 1) := dk_172 (dk_at dksX3_read_4 6 rfl rfl)
abbrev cX3_readsAll : ByteArray := prog_45_method_103_code
def yX3_readsAll : MethodName := ⟨RX3, "readsAll", "()Z"⟩
def dkwX3_readsAll_1 : List UInt8 := [182, 1, 19, 60, 167, 255, 236, 42, 180, 1, 11, 42, 180, 0, 252, 160, 0, 7, 4, 167, 0, 4, 3, 172]
abbrev dktX3_readsAll_1 : List UInt8 := dkwX3_readsAll_1 ++ []
def dkwX3_readsAll_0 : List UInt8 := [42, 3, 181, 1, 11, 4, 60, 27, 153, 0, 22, 42, 182, 1, 38, 154, 0, 5, 3, 172, 42, 16, 59]
abbrev dktX3_readsAll_0 : List UInt8 := dkwX3_readsAll_0 ++ dktX3_readsAll_1
theorem dksX3_readsAll_0 : cX3_readsAll.data.toList.drop 0 = dktX3_readsAll_0 := by decide +kernel
theorem dksX3_readsAll_1 : cX3_readsAll.data.toList.drop 23 = dktX3_readsAll_1 := dk_seg dksX3_readsAll_0 23 rfl rfl
theorem dX3_readsAll_0 : decode cX3_readsAll 0 = .ok (.aload_n 0, 1) := dk_42 (dk_at dksX3_readsAll_0 0 rfl rfl)
theorem dX3_readsAll_1 : decode cX3_readsAll 1 = .ok (.iconst 0, 1) := dk_3 (dk_at dksX3_readsAll_0 1 rfl rfl)
theorem dX3_readsAll_2 : decode cX3_readsAll 2 = .ok (.putfield 267, 3) := dk_181 1 11 (dk_at dksX3_readsAll_0 2 rfl rfl)
theorem dX3_readsAll_5 : decode cX3_readsAll 5 = .ok (.iconst 1, 1) := dk_4 (dk_at dksX3_readsAll_0 5 rfl rfl)
theorem dX3_readsAll_6 : decode cX3_readsAll 6 = .ok (.istore_n 1, 1) := dk_60 (dk_at dksX3_readsAll_0 6 rfl rfl)
theorem dX3_readsAll_7 : decode cX3_readsAll 7 = .ok (.iload_n 1, 1) := dk_27 (dk_at dksX3_readsAll_0 7 rfl rfl)
theorem dX3_readsAll_8 : decode cX3_readsAll 8 = .ok (.ifCond .eq 22, 3) := dk_153 0 22 (dk_at dksX3_readsAll_0 8 rfl rfl)
theorem dX3_readsAll_11 : decode cX3_readsAll 11 = .ok (.aload_n 0, 1) := dk_42 (dk_at dksX3_readsAll_0 11 rfl rfl)
theorem dX3_readsAll_12 : decode cX3_readsAll 12 = .ok (.invokevirtual 294, 3) := dk_182 1 38 (dk_at dksX3_readsAll_0 12 rfl rfl)
theorem dX3_readsAll_15 : decode cX3_readsAll 15 = .ok (.ifCond .ne 5, 3) := dk_154 0 5 (dk_at dksX3_readsAll_0 15 rfl rfl)
theorem dX3_readsAll_18 : decode cX3_readsAll 18 = .ok (.iconst 0, 1) := dk_3 (dk_at dksX3_readsAll_0 18 rfl rfl)
theorem dX3_readsAll_19 : decode cX3_readsAll 19 = .ok (.ireturn, 1) := dk_172 (dk_at dksX3_readsAll_0 19 rfl rfl)
theorem dX3_readsAll_20 : decode cX3_readsAll 20 = .ok (.aload_n 0, 1) := dk_42 (dk_at dksX3_readsAll_0 20 rfl rfl)
theorem dX3_readsAll_21 : decode cX3_readsAll 21 = .ok (.bipush 59, 2) := dk_16 59 (dk_at dksX3_readsAll_0 21 rfl rfl)
theorem dX3_readsAll_23 : decode cX3_readsAll 23 = .ok (.invokevirtual 275, 3) := dk_182 1 19 (dk_at dksX3_readsAll_1 0 rfl rfl)
theorem dX3_readsAll_26 : decode cX3_readsAll 26 = .ok (.istore_n 1, 1) := dk_60 (dk_at dksX3_readsAll_1 3 rfl rfl)
theorem dX3_readsAll_27 : decode cX3_readsAll 27 = .ok (.goto (-20), 3) := dk_167 255 236 (dk_at dksX3_readsAll_1 4 rfl rfl)
theorem dX3_readsAll_30 : decode cX3_readsAll 30 = .ok (.aload_n 0, 1) := dk_42 (dk_at dksX3_readsAll_1 7 rfl rfl)
theorem dX3_readsAll_31 : decode cX3_readsAll 31 = .ok (.getfield 267, 3) := dk_180 1 11 (dk_at dksX3_readsAll_1 8 rfl rfl)
theorem dX3_readsAll_34 : decode cX3_readsAll 34 = .ok (.aload_n 0, 1) := dk_42 (dk_at dksX3_readsAll_1 11 rfl rfl)
theorem dX3_readsAll_35 : decode cX3_readsAll 35 = .ok (.getfield 252, 3) := dk_180 0 252 (dk_at dksX3_readsAll_1 12 rfl rfl)
theorem dX3_readsAll_38 : decode cX3_readsAll 38 = .ok (.if_icmp .ne 7, 3) := dk_160 0 7 (dk_at dksX3_readsAll_1 15 rfl rfl)
theorem dX3_readsAll_41 : decode cX3_readsAll 41 = .ok (.iconst 1, 1) := dk_4 (dk_at dksX3_readsAll_1 18 rfl rfl)
theorem dX3_readsAll_42 : decode cX3_readsAll 42 = .ok (.goto 4, 3) := dk_167 0 4 (dk_at dksX3_readsAll_1 19 rfl rfl)
theorem dX3_readsAll_45 : decode cX3_readsAll 45 = .ok (.iconst 0, 1) := dk_3 (dk_at dksX3_readsAll_1 22 rfl rfl)
theorem dX3_readsAll_46 : decode cX3_readsAll 46 = .ok (.ireturn, 1) := dk_172 (dk_at dksX3_readsAll_1 23 rfl rfl)
abbrev cX3_readsCommand : ByteArray := prog_45_method_102_code
def yX3_readsCommand : MethodName := ⟨RX3, "readsCommand", "()Z"⟩
def dkwX3_readsCommand_11 : List UInt8 := [167, 0, 4, 3, 172]
abbrev dktX3_readsCommand_11 : List UInt8 := dkwX3_readsCommand_11 ++ []
def dkwX3_readsCommand_10 : List UInt8 := [182, 1, 16, 153, 0, 24, 42, 16, 32, 182, 1, 19, 153, 0, 15, 42, 4, 182, 1, 16, 153, 0, 7, 4]
abbrev dktX3_readsCommand_10 : List UInt8 := dkwX3_readsCommand_10 ++ dktX3_readsCommand_11
def dkwX3_readsCommand_9 : List UInt8 := [153, 0, 50, 42, 16, 101, 182, 1, 19, 153, 0, 41, 42, 16, 32, 182, 1, 19, 153, 0, 32, 42, 3]
abbrev dktX3_readsCommand_9 : List UInt8 := dkwX3_readsCommand_9 ++ dktX3_readsCommand_10
def dkwX3_readsCommand_8 : List UInt8 := [42, 16, 109, 182, 1, 19, 153, 0, 68, 42, 16, 111, 182, 1, 19, 153, 0, 59, 42, 16, 118, 182, 1, 19]
abbrev dktX3_readsCommand_8 : List UInt8 := dkwX3_readsCommand_8 ++ dktX3_readsCommand_9
def dkwX3_readsCommand_7 : List UInt8 := [167, 0, 4, 3, 172, 42, 16, 112, 182, 1, 19, 153, 0, 8, 42, 182, 1, 35, 172, 42, 8, 181, 1, 25]
abbrev dktX3_readsCommand_7 : List UInt8 := dkwX3_readsCommand_7 ++ dktX3_readsCommand_8
def dkwX3_readsCommand_6 : List UInt8 := [182, 1, 19, 153, 0, 24, 42, 16, 32, 182, 1, 19, 153, 0, 15, 42, 3, 182, 1, 16, 153, 0, 7, 4]
abbrev dktX3_readsCommand_6 : List UInt8 := dkwX3_readsCommand_6 ++ dktX3_readsCommand_7
def dkwX3_readsCommand_5 : List UInt8 := [181, 1, 25, 42, 16, 112, 182, 1, 19, 153, 0, 42, 42, 16, 101, 182, 1, 19, 153, 0, 33, 42, 16, 110]
abbrev dktX3_readsCommand_5 : List UInt8 := dkwX3_readsCommand_5 ++ dktX3_readsCommand_6
def dkwX3_readsCommand_4 : List UInt8 := [182, 1, 19, 153, 0, 8, 42, 182, 1, 32, 172, 42, 16, 111, 182, 1, 19, 153, 0, 58, 42, 5]
abbrev dktX3_readsCommand_4 : List UInt8 := dkwX3_readsCommand_4 ++ dktX3_readsCommand_5
def dkwX3_readsCommand_3 : List UInt8 := [182, 1, 19, 153, 0, 15, 42, 5, 182, 1, 22, 153, 0, 7, 4, 167, 0, 4, 3, 172, 42, 16, 115]
abbrev dktX3_readsCommand_3 : List UInt8 := dkwX3_readsCommand_3 ++ dktX3_readsCommand_4
def dkwX3_readsCommand_2 : List UInt8 := [153, 0, 40, 42, 16, 116, 182, 1, 19, 153, 0, 31, 42, 182, 1, 28, 153, 0, 24, 42, 16, 32]
abbrev dktX3_readsCommand_2 : List UInt8 := dkwX3_readsCommand_2 ++ dktX3_readsCommand_3
def dkwX3_readsCommand_1 : List UInt8 := [16, 109, 182, 1, 19, 153, 0, 58, 42, 16, 108, 182, 1, 19, 153, 0, 49, 42, 16, 101, 182, 1, 19]
abbrev dktX3_readsCommand_1 : List UInt8 := dkwX3_readsCommand_1 ++ dktX3_readsCommand_2
def dkwX3_readsCommand_0 : List UInt8 := [42, 16, 104, 182, 1, 19, 153, 0, 83, 42, 3, 181, 1, 25, 42, 16, 97, 182, 1, 19, 153, 0, 67, 42]
abbrev dktX3_readsCommand_0 : List UInt8 := dkwX3_readsCommand_0 ++ dktX3_readsCommand_1
theorem dksX3_readsCommand_0 : cX3_readsCommand.data.toList.drop 0 = dktX3_readsCommand_0 := by decide +kernel
theorem dksX3_readsCommand_1 : cX3_readsCommand.data.toList.drop 24 = dktX3_readsCommand_1 := dk_seg dksX3_readsCommand_0 24 rfl rfl
theorem dksX3_readsCommand_2 : cX3_readsCommand.data.toList.drop 47 = dktX3_readsCommand_2 := dk_seg dksX3_readsCommand_1 23 rfl rfl
theorem dksX3_readsCommand_3 : cX3_readsCommand.data.toList.drop 69 = dktX3_readsCommand_3 := dk_seg dksX3_readsCommand_2 22 rfl rfl
theorem dksX3_readsCommand_4 : cX3_readsCommand.data.toList.drop 92 = dktX3_readsCommand_4 := dk_seg dksX3_readsCommand_3 23 rfl rfl
theorem dksX3_readsCommand_5 : cX3_readsCommand.data.toList.drop 114 = dktX3_readsCommand_5 := dk_seg dksX3_readsCommand_4 22 rfl rfl
theorem dksX3_readsCommand_6 : cX3_readsCommand.data.toList.drop 138 = dktX3_readsCommand_6 := dk_seg dksX3_readsCommand_5 24 rfl rfl
theorem dksX3_readsCommand_7 : cX3_readsCommand.data.toList.drop 162 = dktX3_readsCommand_7 := dk_seg dksX3_readsCommand_6 24 rfl rfl
theorem dksX3_readsCommand_8 : cX3_readsCommand.data.toList.drop 186 = dktX3_readsCommand_8 := dk_seg dksX3_readsCommand_7 24 rfl rfl
theorem dksX3_readsCommand_9 : cX3_readsCommand.data.toList.drop 210 = dktX3_readsCommand_9 := dk_seg dksX3_readsCommand_8 24 rfl rfl
theorem dksX3_readsCommand_10 : cX3_readsCommand.data.toList.drop 233 = dktX3_readsCommand_10 := dk_seg dksX3_readsCommand_9 23 rfl rfl
theorem dksX3_readsCommand_11 : cX3_readsCommand.data.toList.drop 257 = dktX3_readsCommand_11 := dk_seg dksX3_readsCommand_10 24 rfl rfl
theorem dX3_readsCommand_0 : decode cX3_readsCommand 0 = .ok (.aload_n 0, 1) := dk_42 (dk_at dksX3_readsCommand_0 0 rfl rfl)
theorem dX3_readsCommand_1 : decode cX3_readsCommand 1 = .ok (.bipush 104, 2) := dk_16 104 (dk_at dksX3_readsCommand_0 1 rfl rfl)
theorem dX3_readsCommand_3 : decode cX3_readsCommand 3 = .ok (.invokevirtual 275, 3) := dk_182 1 19 (dk_at dksX3_readsCommand_0 3 rfl rfl)
theorem dX3_readsCommand_6 : decode cX3_readsCommand 6 = .ok (.ifCond .eq 83, 3) := dk_153 0 83 (dk_at dksX3_readsCommand_0 6 rfl rfl)
theorem dX3_readsCommand_9 : decode cX3_readsCommand 9 = .ok (.aload_n 0, 1) := dk_42 (dk_at dksX3_readsCommand_0 9 rfl rfl)
theorem dX3_readsCommand_10 : decode cX3_readsCommand 10 = .ok (.iconst 0, 1) := dk_3 (dk_at dksX3_readsCommand_0 10 rfl rfl)
theorem dX3_readsCommand_11 : decode cX3_readsCommand 11 = .ok (.putfield 281, 3) := dk_181 1 25 (dk_at dksX3_readsCommand_0 11 rfl rfl)
theorem dX3_readsCommand_14 : decode cX3_readsCommand 14 = .ok (.aload_n 0, 1) := dk_42 (dk_at dksX3_readsCommand_0 14 rfl rfl)
theorem dX3_readsCommand_15 : decode cX3_readsCommand 15 = .ok (.bipush 97, 2) := dk_16 97 (dk_at dksX3_readsCommand_0 15 rfl rfl)
theorem dX3_readsCommand_17 : decode cX3_readsCommand 17 = .ok (.invokevirtual 275, 3) := dk_182 1 19 (dk_at dksX3_readsCommand_0 17 rfl rfl)
theorem dX3_readsCommand_20 : decode cX3_readsCommand 20 = .ok (.ifCond .eq 67, 3) := dk_153 0 67 (dk_at dksX3_readsCommand_0 20 rfl rfl)
theorem dX3_readsCommand_23 : decode cX3_readsCommand 23 = .ok (.aload_n 0, 1) := dk_42 (dk_at dksX3_readsCommand_0 23 rfl rfl)
theorem dX3_readsCommand_24 : decode cX3_readsCommand 24 = .ok (.bipush 109, 2) := dk_16 109 (dk_at dksX3_readsCommand_1 0 rfl rfl)
theorem dX3_readsCommand_26 : decode cX3_readsCommand 26 = .ok (.invokevirtual 275, 3) := dk_182 1 19 (dk_at dksX3_readsCommand_1 2 rfl rfl)
theorem dX3_readsCommand_29 : decode cX3_readsCommand 29 = .ok (.ifCond .eq 58, 3) := dk_153 0 58 (dk_at dksX3_readsCommand_1 5 rfl rfl)
theorem dX3_readsCommand_32 : decode cX3_readsCommand 32 = .ok (.aload_n 0, 1) := dk_42 (dk_at dksX3_readsCommand_1 8 rfl rfl)
theorem dX3_readsCommand_33 : decode cX3_readsCommand 33 = .ok (.bipush 108, 2) := dk_16 108 (dk_at dksX3_readsCommand_1 9 rfl rfl)
theorem dX3_readsCommand_35 : decode cX3_readsCommand 35 = .ok (.invokevirtual 275, 3) := dk_182 1 19 (dk_at dksX3_readsCommand_1 11 rfl rfl)
theorem dX3_readsCommand_38 : decode cX3_readsCommand 38 = .ok (.ifCond .eq 49, 3) := dk_153 0 49 (dk_at dksX3_readsCommand_1 14 rfl rfl)
theorem dX3_readsCommand_41 : decode cX3_readsCommand 41 = .ok (.aload_n 0, 1) := dk_42 (dk_at dksX3_readsCommand_1 17 rfl rfl)
theorem dX3_readsCommand_42 : decode cX3_readsCommand 42 = .ok (.bipush 101, 2) := dk_16 101 (dk_at dksX3_readsCommand_1 18 rfl rfl)
theorem dX3_readsCommand_44 : decode cX3_readsCommand 44 = .ok (.invokevirtual 275, 3) := dk_182 1 19 (dk_at dksX3_readsCommand_1 20 rfl rfl)
theorem dX3_readsCommand_47 : decode cX3_readsCommand 47 = .ok (.ifCond .eq 40, 3) := dk_153 0 40 (dk_at dksX3_readsCommand_2 0 rfl rfl)
theorem dX3_readsCommand_50 : decode cX3_readsCommand 50 = .ok (.aload_n 0, 1) := dk_42 (dk_at dksX3_readsCommand_2 3 rfl rfl)
theorem dX3_readsCommand_51 : decode cX3_readsCommand 51 = .ok (.bipush 116, 2) := dk_16 116 (dk_at dksX3_readsCommand_2 4 rfl rfl)
theorem dX3_readsCommand_53 : decode cX3_readsCommand 53 = .ok (.invokevirtual 275, 3) := dk_182 1 19 (dk_at dksX3_readsCommand_2 6 rfl rfl)
theorem dX3_readsCommand_56 : decode cX3_readsCommand 56 = .ok (.ifCond .eq 31, 3) := dk_153 0 31 (dk_at dksX3_readsCommand_2 9 rfl rfl)
theorem dX3_readsCommand_59 : decode cX3_readsCommand 59 = .ok (.aload_n 0, 1) := dk_42 (dk_at dksX3_readsCommand_2 12 rfl rfl)
theorem dX3_readsCommand_60 : decode cX3_readsCommand 60 = .ok (.invokevirtual 284, 3) := dk_182 1 28 (dk_at dksX3_readsCommand_2 13 rfl rfl)
theorem dX3_readsCommand_63 : decode cX3_readsCommand 63 = .ok (.ifCond .eq 24, 3) := dk_153 0 24 (dk_at dksX3_readsCommand_2 16 rfl rfl)
theorem dX3_readsCommand_66 : decode cX3_readsCommand 66 = .ok (.aload_n 0, 1) := dk_42 (dk_at dksX3_readsCommand_2 19 rfl rfl)
theorem dX3_readsCommand_67 : decode cX3_readsCommand 67 = .ok (.bipush 32, 2) := dk_16 32 (dk_at dksX3_readsCommand_2 20 rfl rfl)
theorem dX3_readsCommand_69 : decode cX3_readsCommand 69 = .ok (.invokevirtual 275, 3) := dk_182 1 19 (dk_at dksX3_readsCommand_3 0 rfl rfl)
theorem dX3_readsCommand_72 : decode cX3_readsCommand 72 = .ok (.ifCond .eq 15, 3) := dk_153 0 15 (dk_at dksX3_readsCommand_3 3 rfl rfl)
theorem dX3_readsCommand_75 : decode cX3_readsCommand 75 = .ok (.aload_n 0, 1) := dk_42 (dk_at dksX3_readsCommand_3 6 rfl rfl)
theorem dX3_readsCommand_76 : decode cX3_readsCommand 76 = .ok (.iconst 2, 1) := dk_5 (dk_at dksX3_readsCommand_3 7 rfl rfl)
theorem dX3_readsCommand_77 : decode cX3_readsCommand 77 = .ok (.invokevirtual 278, 3) := dk_182 1 22 (dk_at dksX3_readsCommand_3 8 rfl rfl)
theorem dX3_readsCommand_80 : decode cX3_readsCommand 80 = .ok (.ifCond .eq 7, 3) := dk_153 0 7 (dk_at dksX3_readsCommand_3 11 rfl rfl)
theorem dX3_readsCommand_83 : decode cX3_readsCommand 83 = .ok (.iconst 1, 1) := dk_4 (dk_at dksX3_readsCommand_3 14 rfl rfl)
theorem dX3_readsCommand_84 : decode cX3_readsCommand 84 = .ok (.goto 4, 3) := dk_167 0 4 (dk_at dksX3_readsCommand_3 15 rfl rfl)
theorem dX3_readsCommand_87 : decode cX3_readsCommand 87 = .ok (.iconst 0, 1) := dk_3 (dk_at dksX3_readsCommand_3 18 rfl rfl)
theorem dX3_readsCommand_88 : decode cX3_readsCommand 88 = .ok (.ireturn, 1) := dk_172 (dk_at dksX3_readsCommand_3 19 rfl rfl)
theorem dX3_readsCommand_89 : decode cX3_readsCommand 89 = .ok (.aload_n 0, 1) := dk_42 (dk_at dksX3_readsCommand_3 20 rfl rfl)
theorem dX3_readsCommand_90 : decode cX3_readsCommand 90 = .ok (.bipush 115, 2) := dk_16 115 (dk_at dksX3_readsCommand_3 21 rfl rfl)
theorem dX3_readsCommand_92 : decode cX3_readsCommand 92 = .ok (.invokevirtual 275, 3) := dk_182 1 19 (dk_at dksX3_readsCommand_4 0 rfl rfl)
theorem dX3_readsCommand_95 : decode cX3_readsCommand 95 = .ok (.ifCond .eq 8, 3) := dk_153 0 8 (dk_at dksX3_readsCommand_4 3 rfl rfl)
theorem dX3_readsCommand_98 : decode cX3_readsCommand 98 = .ok (.aload_n 0, 1) := dk_42 (dk_at dksX3_readsCommand_4 6 rfl rfl)
theorem dX3_readsCommand_99 : decode cX3_readsCommand 99 = .ok (.invokevirtual 288, 3) := dk_182 1 32 (dk_at dksX3_readsCommand_4 7 rfl rfl)
theorem dX3_readsCommand_102 : decode cX3_readsCommand 102 = .ok (.ireturn, 1) := dk_172 (dk_at dksX3_readsCommand_4 10 rfl rfl)
theorem dX3_readsCommand_103 : decode cX3_readsCommand 103 = .ok (.aload_n 0, 1) := dk_42 (dk_at dksX3_readsCommand_4 11 rfl rfl)
theorem dX3_readsCommand_104 : decode cX3_readsCommand 104 = .ok (.bipush 111, 2) := dk_16 111 (dk_at dksX3_readsCommand_4 12 rfl rfl)
theorem dX3_readsCommand_106 : decode cX3_readsCommand 106 = .ok (.invokevirtual 275, 3) := dk_182 1 19 (dk_at dksX3_readsCommand_4 14 rfl rfl)
theorem dX3_readsCommand_109 : decode cX3_readsCommand 109 = .ok (.ifCond .eq 58, 3) := dk_153 0 58 (dk_at dksX3_readsCommand_4 17 rfl rfl)
theorem dX3_readsCommand_112 : decode cX3_readsCommand 112 = .ok (.aload_n 0, 1) := dk_42 (dk_at dksX3_readsCommand_4 20 rfl rfl)
theorem dX3_readsCommand_113 : decode cX3_readsCommand 113 = .ok (.iconst 2, 1) := dk_5 (dk_at dksX3_readsCommand_4 21 rfl rfl)
theorem dX3_readsCommand_114 : decode cX3_readsCommand 114 = .ok (.putfield 281, 3) := dk_181 1 25 (dk_at dksX3_readsCommand_5 0 rfl rfl)
theorem dX3_readsCommand_117 : decode cX3_readsCommand 117 = .ok (.aload_n 0, 1) := dk_42 (dk_at dksX3_readsCommand_5 3 rfl rfl)
theorem dX3_readsCommand_118 : decode cX3_readsCommand 118 = .ok (.bipush 112, 2) := dk_16 112 (dk_at dksX3_readsCommand_5 4 rfl rfl)
theorem dX3_readsCommand_120 : decode cX3_readsCommand 120 = .ok (.invokevirtual 275, 3) := dk_182 1 19 (dk_at dksX3_readsCommand_5 6 rfl rfl)
theorem dX3_readsCommand_123 : decode cX3_readsCommand 123 = .ok (.ifCond .eq 42, 3) := dk_153 0 42 (dk_at dksX3_readsCommand_5 9 rfl rfl)
theorem dX3_readsCommand_126 : decode cX3_readsCommand 126 = .ok (.aload_n 0, 1) := dk_42 (dk_at dksX3_readsCommand_5 12 rfl rfl)
theorem dX3_readsCommand_127 : decode cX3_readsCommand 127 = .ok (.bipush 101, 2) := dk_16 101 (dk_at dksX3_readsCommand_5 13 rfl rfl)
theorem dX3_readsCommand_129 : decode cX3_readsCommand 129 = .ok (.invokevirtual 275, 3) := dk_182 1 19 (dk_at dksX3_readsCommand_5 15 rfl rfl)
theorem dX3_readsCommand_132 : decode cX3_readsCommand 132 = .ok (.ifCond .eq 33, 3) := dk_153 0 33 (dk_at dksX3_readsCommand_5 18 rfl rfl)
theorem dX3_readsCommand_135 : decode cX3_readsCommand 135 = .ok (.aload_n 0, 1) := dk_42 (dk_at dksX3_readsCommand_5 21 rfl rfl)
theorem dX3_readsCommand_136 : decode cX3_readsCommand 136 = .ok (.bipush 110, 2) := dk_16 110 (dk_at dksX3_readsCommand_5 22 rfl rfl)
theorem dX3_readsCommand_138 : decode cX3_readsCommand 138 = .ok (.invokevirtual 275, 3) := dk_182 1 19 (dk_at dksX3_readsCommand_6 0 rfl rfl)
theorem dX3_readsCommand_141 : decode cX3_readsCommand 141 = .ok (.ifCond .eq 24, 3) := dk_153 0 24 (dk_at dksX3_readsCommand_6 3 rfl rfl)
theorem dX3_readsCommand_144 : decode cX3_readsCommand 144 = .ok (.aload_n 0, 1) := dk_42 (dk_at dksX3_readsCommand_6 6 rfl rfl)
theorem dX3_readsCommand_145 : decode cX3_readsCommand 145 = .ok (.bipush 32, 2) := dk_16 32 (dk_at dksX3_readsCommand_6 7 rfl rfl)
theorem dX3_readsCommand_147 : decode cX3_readsCommand 147 = .ok (.invokevirtual 275, 3) := dk_182 1 19 (dk_at dksX3_readsCommand_6 9 rfl rfl)
theorem dX3_readsCommand_150 : decode cX3_readsCommand 150 = .ok (.ifCond .eq 15, 3) := dk_153 0 15 (dk_at dksX3_readsCommand_6 12 rfl rfl)
theorem dX3_readsCommand_153 : decode cX3_readsCommand 153 = .ok (.aload_n 0, 1) := dk_42 (dk_at dksX3_readsCommand_6 15 rfl rfl)
theorem dX3_readsCommand_154 : decode cX3_readsCommand 154 = .ok (.iconst 0, 1) := dk_3 (dk_at dksX3_readsCommand_6 16 rfl rfl)
theorem dX3_readsCommand_155 : decode cX3_readsCommand 155 = .ok (.invokevirtual 272, 3) := dk_182 1 16 (dk_at dksX3_readsCommand_6 17 rfl rfl)
theorem dX3_readsCommand_158 : decode cX3_readsCommand 158 = .ok (.ifCond .eq 7, 3) := dk_153 0 7 (dk_at dksX3_readsCommand_6 20 rfl rfl)
theorem dX3_readsCommand_161 : decode cX3_readsCommand 161 = .ok (.iconst 1, 1) := dk_4 (dk_at dksX3_readsCommand_6 23 rfl rfl)
theorem dX3_readsCommand_162 : decode cX3_readsCommand 162 = .ok (.goto 4, 3) := dk_167 0 4 (dk_at dksX3_readsCommand_7 0 rfl rfl)
theorem dX3_readsCommand_165 : decode cX3_readsCommand 165 = .ok (.iconst 0, 1) := dk_3 (dk_at dksX3_readsCommand_7 3 rfl rfl)
theorem dX3_readsCommand_166 : decode cX3_readsCommand 166 = .ok (.ireturn, 1) := dk_172 (dk_at dksX3_readsCommand_7 4 rfl rfl)
theorem dX3_readsCommand_167 : decode cX3_readsCommand 167 = .ok (.aload_n 0, 1) := dk_42 (dk_at dksX3_readsCommand_7 5 rfl rfl)
theorem dX3_readsCommand_168 : decode cX3_readsCommand 168 = .ok (.bipush 112, 2) := dk_16 112 (dk_at dksX3_readsCommand_7 6 rfl rfl)
theorem dX3_readsCommand_170 : decode cX3_readsCommand 170 = .ok (.invokevirtual 275, 3) := dk_182 1 19 (dk_at dksX3_readsCommand_7 8 rfl rfl)
theorem dX3_readsCommand_173 : decode cX3_readsCommand 173 = .ok (.ifCond .eq 8, 3) := dk_153 0 8 (dk_at dksX3_readsCommand_7 11 rfl rfl)
theorem dX3_readsCommand_176 : decode cX3_readsCommand 176 = .ok (.aload_n 0, 1) := dk_42 (dk_at dksX3_readsCommand_7 14 rfl rfl)
theorem dX3_readsCommand_177 : decode cX3_readsCommand 177 = .ok (.invokevirtual 291, 3) := dk_182 1 35 (dk_at dksX3_readsCommand_7 15 rfl rfl)
theorem dX3_readsCommand_180 : decode cX3_readsCommand 180 = .ok (.ireturn, 1) := dk_172 (dk_at dksX3_readsCommand_7 18 rfl rfl)
theorem dX3_readsCommand_181 : decode cX3_readsCommand 181 = .ok (.aload_n 0, 1) := dk_42 (dk_at dksX3_readsCommand_7 19 rfl rfl)
theorem dX3_readsCommand_182 : decode cX3_readsCommand 182 = .ok (.iconst 5, 1) := dk_8 (dk_at dksX3_readsCommand_7 20 rfl rfl)
theorem dX3_readsCommand_183 : decode cX3_readsCommand 183 = .ok (.putfield 281, 3) := dk_181 1 25 (dk_at dksX3_readsCommand_7 21 rfl rfl)
theorem dX3_readsCommand_186 : decode cX3_readsCommand 186 = .ok (.aload_n 0, 1) := dk_42 (dk_at dksX3_readsCommand_8 0 rfl rfl)
theorem dX3_readsCommand_187 : decode cX3_readsCommand 187 = .ok (.bipush 109, 2) := dk_16 109 (dk_at dksX3_readsCommand_8 1 rfl rfl)
theorem dX3_readsCommand_189 : decode cX3_readsCommand 189 = .ok (.invokevirtual 275, 3) := dk_182 1 19 (dk_at dksX3_readsCommand_8 3 rfl rfl)
theorem dX3_readsCommand_192 : decode cX3_readsCommand 192 = .ok (.ifCond .eq 68, 3) := dk_153 0 68 (dk_at dksX3_readsCommand_8 6 rfl rfl)
theorem dX3_readsCommand_195 : decode cX3_readsCommand 195 = .ok (.aload_n 0, 1) := dk_42 (dk_at dksX3_readsCommand_8 9 rfl rfl)
theorem dX3_readsCommand_196 : decode cX3_readsCommand 196 = .ok (.bipush 111, 2) := dk_16 111 (dk_at dksX3_readsCommand_8 10 rfl rfl)
theorem dX3_readsCommand_198 : decode cX3_readsCommand 198 = .ok (.invokevirtual 275, 3) := dk_182 1 19 (dk_at dksX3_readsCommand_8 12 rfl rfl)
theorem dX3_readsCommand_201 : decode cX3_readsCommand 201 = .ok (.ifCond .eq 59, 3) := dk_153 0 59 (dk_at dksX3_readsCommand_8 15 rfl rfl)
theorem dX3_readsCommand_204 : decode cX3_readsCommand 204 = .ok (.aload_n 0, 1) := dk_42 (dk_at dksX3_readsCommand_8 18 rfl rfl)
theorem dX3_readsCommand_205 : decode cX3_readsCommand 205 = .ok (.bipush 118, 2) := dk_16 118 (dk_at dksX3_readsCommand_8 19 rfl rfl)
theorem dX3_readsCommand_207 : decode cX3_readsCommand 207 = .ok (.invokevirtual 275, 3) := dk_182 1 19 (dk_at dksX3_readsCommand_8 21 rfl rfl)
theorem dX3_readsCommand_210 : decode cX3_readsCommand 210 = .ok (.ifCond .eq 50, 3) := dk_153 0 50 (dk_at dksX3_readsCommand_9 0 rfl rfl)
theorem dX3_readsCommand_213 : decode cX3_readsCommand 213 = .ok (.aload_n 0, 1) := dk_42 (dk_at dksX3_readsCommand_9 3 rfl rfl)
theorem dX3_readsCommand_214 : decode cX3_readsCommand 214 = .ok (.bipush 101, 2) := dk_16 101 (dk_at dksX3_readsCommand_9 4 rfl rfl)
theorem dX3_readsCommand_216 : decode cX3_readsCommand 216 = .ok (.invokevirtual 275, 3) := dk_182 1 19 (dk_at dksX3_readsCommand_9 6 rfl rfl)
theorem dX3_readsCommand_219 : decode cX3_readsCommand 219 = .ok (.ifCond .eq 41, 3) := dk_153 0 41 (dk_at dksX3_readsCommand_9 9 rfl rfl)
theorem dX3_readsCommand_222 : decode cX3_readsCommand 222 = .ok (.aload_n 0, 1) := dk_42 (dk_at dksX3_readsCommand_9 12 rfl rfl)
theorem dX3_readsCommand_223 : decode cX3_readsCommand 223 = .ok (.bipush 32, 2) := dk_16 32 (dk_at dksX3_readsCommand_9 13 rfl rfl)
theorem dX3_readsCommand_225 : decode cX3_readsCommand 225 = .ok (.invokevirtual 275, 3) := dk_182 1 19 (dk_at dksX3_readsCommand_9 15 rfl rfl)
theorem dX3_readsCommand_228 : decode cX3_readsCommand 228 = .ok (.ifCond .eq 32, 3) := dk_153 0 32 (dk_at dksX3_readsCommand_9 18 rfl rfl)
theorem dX3_readsCommand_231 : decode cX3_readsCommand 231 = .ok (.aload_n 0, 1) := dk_42 (dk_at dksX3_readsCommand_9 21 rfl rfl)
theorem dX3_readsCommand_232 : decode cX3_readsCommand 232 = .ok (.iconst 0, 1) := dk_3 (dk_at dksX3_readsCommand_9 22 rfl rfl)
theorem dX3_readsCommand_233 : decode cX3_readsCommand 233 = .ok (.invokevirtual 272, 3) := dk_182 1 16 (dk_at dksX3_readsCommand_10 0 rfl rfl)
theorem dX3_readsCommand_236 : decode cX3_readsCommand 236 = .ok (.ifCond .eq 24, 3) := dk_153 0 24 (dk_at dksX3_readsCommand_10 3 rfl rfl)
theorem dX3_readsCommand_239 : decode cX3_readsCommand 239 = .ok (.aload_n 0, 1) := dk_42 (dk_at dksX3_readsCommand_10 6 rfl rfl)
theorem dX3_readsCommand_240 : decode cX3_readsCommand 240 = .ok (.bipush 32, 2) := dk_16 32 (dk_at dksX3_readsCommand_10 7 rfl rfl)
theorem dX3_readsCommand_242 : decode cX3_readsCommand 242 = .ok (.invokevirtual 275, 3) := dk_182 1 19 (dk_at dksX3_readsCommand_10 9 rfl rfl)
theorem dX3_readsCommand_245 : decode cX3_readsCommand 245 = .ok (.ifCond .eq 15, 3) := dk_153 0 15 (dk_at dksX3_readsCommand_10 12 rfl rfl)
theorem dX3_readsCommand_248 : decode cX3_readsCommand 248 = .ok (.aload_n 0, 1) := dk_42 (dk_at dksX3_readsCommand_10 15 rfl rfl)
theorem dX3_readsCommand_249 : decode cX3_readsCommand 249 = .ok (.iconst 1, 1) := dk_4 (dk_at dksX3_readsCommand_10 16 rfl rfl)
theorem dX3_readsCommand_250 : decode cX3_readsCommand 250 = .ok (.invokevirtual 272, 3) := dk_182 1 16 (dk_at dksX3_readsCommand_10 17 rfl rfl)
theorem dX3_readsCommand_253 : decode cX3_readsCommand 253 = .ok (.ifCond .eq 7, 3) := dk_153 0 7 (dk_at dksX3_readsCommand_10 20 rfl rfl)
theorem dX3_readsCommand_256 : decode cX3_readsCommand 256 = .ok (.iconst 1, 1) := dk_4 (dk_at dksX3_readsCommand_10 23 rfl rfl)
theorem dX3_readsCommand_257 : decode cX3_readsCommand 257 = .ok (.goto 4, 3) := dk_167 0 4 (dk_at dksX3_readsCommand_11 0 rfl rfl)
theorem dX3_readsCommand_260 : decode cX3_readsCommand 260 = .ok (.iconst 0, 1) := dk_3 (dk_at dksX3_readsCommand_11 3 rfl rfl)
theorem dX3_readsCommand_261 : decode cX3_readsCommand 261 = .ok (.ireturn, 1) := dk_172 (dk_at dksX3_readsCommand_11 4 rfl rfl)
abbrev cX3_reads : ByteArray := prog_45_method_96_code
def yX3_reads : MethodName := ⟨RX3, "reads", "(I)Z"⟩
def dkwX3_reads_0 : List UInt8 := [42, 182, 1, 14, 27, 159, 0, 5, 3, 172, 42, 89, 180, 1, 11, 4, 96, 181, 1, 11, 4, 172]
abbrev dktX3_reads_0 : List UInt8 := dkwX3_reads_0 ++ []
theorem dksX3_reads_0 : cX3_reads.data.toList.drop 0 = dktX3_reads_0 := by decide +kernel
theorem dX3_reads_0 : decode cX3_reads 0 = .ok (.aload_n 0, 1) := dk_42 (dk_at dksX3_reads_0 0 rfl rfl)
theorem dX3_reads_1 : decode cX3_reads 1 = .ok (.invokevirtual 270, 3) := dk_182 1 14 (dk_at dksX3_reads_0 1 rfl rfl)
theorem dX3_reads_4 : decode cX3_reads 4 = .ok (.iload_n 1, 1) := dk_27 (dk_at dksX3_reads_0 4 rfl rfl)
theorem dX3_reads_5 : decode cX3_reads 5 = .ok (.if_icmp .eq 5, 3) := dk_159 0 5 (dk_at dksX3_reads_0 5 rfl rfl)
theorem dX3_reads_8 : decode cX3_reads 8 = .ok (.iconst 0, 1) := dk_3 (dk_at dksX3_reads_0 8 rfl rfl)
theorem dX3_reads_9 : decode cX3_reads 9 = .ok (.ireturn, 1) := dk_172 (dk_at dksX3_reads_0 9 rfl rfl)
theorem dX3_reads_10 : decode cX3_reads 10 = .ok (.aload_n 0, 1) := dk_42 (dk_at dksX3_reads_0 10 rfl rfl)
theorem dX3_reads_11 : decode cX3_reads 11 = .ok (.dup, 1) := dk_89 (dk_at dksX3_reads_0 11 rfl rfl)
theorem dX3_reads_12 : decode cX3_reads 12 = .ok (.getfield 267, 3) := dk_180 1 11 (dk_at dksX3_reads_0 12 rfl rfl)
theorem dX3_reads_15 : decode cX3_reads 15 = .ok (.iconst 1, 1) := dk_4 (dk_at dksX3_reads_0 15 rfl rfl)
theorem dX3_reads_16 : decode cX3_reads 16 = .ok (.iadd, 1) := dk_96 (dk_at dksX3_reads_0 16 rfl rfl)
theorem dX3_reads_17 : decode cX3_reads 17 = .ok (.putfield 267, 3) := dk_181 1 11 (dk_at dksX3_reads_0 17 rfl rfl)
theorem dX3_reads_20 : decode cX3_reads 20 = .ok (.iconst 1, 1) := dk_4 (dk_at dksX3_reads_0 20 rfl rfl)
theorem dX3_reads_21 : decode cX3_reads 21 = .ok (.ireturn, 1) := dk_172 (dk_at dksX3_reads_0 21 rfl rfl)
abbrev cX3_next_2 : ByteArray := prog_45_method_95_code
def yX3_next_2 : MethodName := ⟨RX3, "next", "()I"⟩
def dkwX3_next_2_1 : List UInt8 := [172]
abbrev dktX3_next_2_1 : List UInt8 := dkwX3_next_2_1 ++ []
def dkwX3_next_2_0 : List UInt8 := [42, 180, 1, 11, 42, 180, 0, 252, 162, 0, 15, 42, 180, 0, 32, 42, 180, 1, 11, 52, 167, 0, 4, 2]
abbrev dktX3_next_2_0 : List UInt8 := dkwX3_next_2_0 ++ dktX3_next_2_1
theorem dksX3_next_2_0 : cX3_next_2.data.toList.drop 0 = dktX3_next_2_0 := by decide +kernel
theorem dksX3_next_2_1 : cX3_next_2.data.toList.drop 24 = dktX3_next_2_1 := dk_seg dksX3_next_2_0 24 rfl rfl
theorem dX3_next_2_0 : decode cX3_next_2 0 = .ok (.aload_n 0, 1) := dk_42 (dk_at dksX3_next_2_0 0 rfl rfl)
theorem dX3_next_2_1 : decode cX3_next_2 1 = .ok (.getfield 267, 3) := dk_180 1 11 (dk_at dksX3_next_2_0 1 rfl rfl)
theorem dX3_next_2_4 : decode cX3_next_2 4 = .ok (.aload_n 0, 1) := dk_42 (dk_at dksX3_next_2_0 4 rfl rfl)
theorem dX3_next_2_5 : decode cX3_next_2 5 = .ok (.getfield 252, 3) := dk_180 0 252 (dk_at dksX3_next_2_0 5 rfl rfl)
theorem dX3_next_2_8 : decode cX3_next_2 8 = .ok (.if_icmp .ge 15, 3) := dk_162 0 15 (dk_at dksX3_next_2_0 8 rfl rfl)
theorem dX3_next_2_11 : decode cX3_next_2 11 = .ok (.aload_n 0, 1) := dk_42 (dk_at dksX3_next_2_0 11 rfl rfl)
theorem dX3_next_2_12 : decode cX3_next_2 12 = .ok (.getfield 32, 3) := dk_180 0 32 (dk_at dksX3_next_2_0 12 rfl rfl)
theorem dX3_next_2_15 : decode cX3_next_2 15 = .ok (.aload_n 0, 1) := dk_42 (dk_at dksX3_next_2_0 15 rfl rfl)
theorem dX3_next_2_16 : decode cX3_next_2 16 = .ok (.getfield 267, 3) := dk_180 1 11 (dk_at dksX3_next_2_0 16 rfl rfl)
theorem dX3_next_2_19 : decode cX3_next_2 19 = .ok (.caload, 1) := dk_52 (dk_at dksX3_next_2_0 19 rfl rfl)
theorem dX3_next_2_20 : decode cX3_next_2 20 = .ok (.goto 4, 3) := dk_167 0 4 (dk_at dksX3_next_2_0 20 rfl rfl)
theorem dX3_next_2_23 : decode cX3_next_2 23 = .ok (.iconst (-1), 1) := dk_2 (dk_at dksX3_next_2_0 23 rfl rfl)
theorem dX3_next_2_24 : decode cX3_next_2 24 = .ok (.ireturn, 1) := dk_172 (dk_at dksX3_next_2_1 0 rfl rfl)
abbrev cX3_readsPlace : ByteArray := prog_45_method_99_code
def yX3_readsPlace : MethodName := ⟨RX3, "readsPlace", "()Z"⟩
def dkwX3_readsPlace_1 : List UInt8 := [153, 0, 15, 42, 4, 182, 1, 22, 153, 0, 7, 4, 167, 0, 4, 3, 172]
abbrev dktX3_readsPlace_1 : List UInt8 := dkwX3_readsPlace_1 ++ []
def dkwX3_readsPlace_0 : List UInt8 := [42, 16, 32, 182, 1, 19, 153, 0, 32, 42, 3, 182, 1, 22, 153, 0, 24, 42, 16, 44, 182, 1, 19]
abbrev dktX3_readsPlace_0 : List UInt8 := dkwX3_readsPlace_0 ++ dktX3_readsPlace_1
theorem dksX3_readsPlace_0 : cX3_readsPlace.data.toList.drop 0 = dktX3_readsPlace_0 := by decide +kernel
theorem dksX3_readsPlace_1 : cX3_readsPlace.data.toList.drop 23 = dktX3_readsPlace_1 := dk_seg dksX3_readsPlace_0 23 rfl rfl
theorem dX3_readsPlace_0 : decode cX3_readsPlace 0 = .ok (.aload_n 0, 1) := dk_42 (dk_at dksX3_readsPlace_0 0 rfl rfl)
theorem dX3_readsPlace_1 : decode cX3_readsPlace 1 = .ok (.bipush 32, 2) := dk_16 32 (dk_at dksX3_readsPlace_0 1 rfl rfl)
theorem dX3_readsPlace_3 : decode cX3_readsPlace 3 = .ok (.invokevirtual 275, 3) := dk_182 1 19 (dk_at dksX3_readsPlace_0 3 rfl rfl)
theorem dX3_readsPlace_6 : decode cX3_readsPlace 6 = .ok (.ifCond .eq 32, 3) := dk_153 0 32 (dk_at dksX3_readsPlace_0 6 rfl rfl)
theorem dX3_readsPlace_9 : decode cX3_readsPlace 9 = .ok (.aload_n 0, 1) := dk_42 (dk_at dksX3_readsPlace_0 9 rfl rfl)
theorem dX3_readsPlace_10 : decode cX3_readsPlace 10 = .ok (.iconst 0, 1) := dk_3 (dk_at dksX3_readsPlace_0 10 rfl rfl)
theorem dX3_readsPlace_11 : decode cX3_readsPlace 11 = .ok (.invokevirtual 278, 3) := dk_182 1 22 (dk_at dksX3_readsPlace_0 11 rfl rfl)
theorem dX3_readsPlace_14 : decode cX3_readsPlace 14 = .ok (.ifCond .eq 24, 3) := dk_153 0 24 (dk_at dksX3_readsPlace_0 14 rfl rfl)
theorem dX3_readsPlace_17 : decode cX3_readsPlace 17 = .ok (.aload_n 0, 1) := dk_42 (dk_at dksX3_readsPlace_0 17 rfl rfl)
theorem dX3_readsPlace_18 : decode cX3_readsPlace 18 = .ok (.bipush 44, 2) := dk_16 44 (dk_at dksX3_readsPlace_0 18 rfl rfl)
theorem dX3_readsPlace_20 : decode cX3_readsPlace 20 = .ok (.invokevirtual 275, 3) := dk_182 1 19 (dk_at dksX3_readsPlace_0 20 rfl rfl)
theorem dX3_readsPlace_23 : decode cX3_readsPlace 23 = .ok (.ifCond .eq 15, 3) := dk_153 0 15 (dk_at dksX3_readsPlace_1 0 rfl rfl)
theorem dX3_readsPlace_26 : decode cX3_readsPlace 26 = .ok (.aload_n 0, 1) := dk_42 (dk_at dksX3_readsPlace_1 3 rfl rfl)
theorem dX3_readsPlace_27 : decode cX3_readsPlace 27 = .ok (.iconst 1, 1) := dk_4 (dk_at dksX3_readsPlace_1 4 rfl rfl)
theorem dX3_readsPlace_28 : decode cX3_readsPlace 28 = .ok (.invokevirtual 278, 3) := dk_182 1 22 (dk_at dksX3_readsPlace_1 5 rfl rfl)
theorem dX3_readsPlace_31 : decode cX3_readsPlace 31 = .ok (.ifCond .eq 7, 3) := dk_153 0 7 (dk_at dksX3_readsPlace_1 8 rfl rfl)
theorem dX3_readsPlace_34 : decode cX3_readsPlace 34 = .ok (.iconst 1, 1) := dk_4 (dk_at dksX3_readsPlace_1 11 rfl rfl)
theorem dX3_readsPlace_35 : decode cX3_readsPlace 35 = .ok (.goto 4, 3) := dk_167 0 4 (dk_at dksX3_readsPlace_1 12 rfl rfl)
theorem dX3_readsPlace_38 : decode cX3_readsPlace 38 = .ok (.iconst 0, 1) := dk_3 (dk_at dksX3_readsPlace_1 15 rfl rfl)
theorem dX3_readsPlace_39 : decode cX3_readsPlace 39 = .ok (.ireturn, 1) := dk_172 (dk_at dksX3_readsPlace_1 16 rfl rfl)
abbrev cX3_readsNumber : ByteArray := prog_45_method_98_code
def yX3_readsNumber : MethodName := ⟨RX3, "readsNumber", "(I)Z"⟩
def dkwX3_readsNumber_1 : List UInt8 := [153, 0, 16, 42, 180, 0, 39, 27, 92, 46, 16, 10, 28, 104, 96, 79, 4, 172]
abbrev dktX3_readsNumber_1 : List UInt8 := dkwX3_readsNumber_1 ++ []
def dkwX3_readsNumber_0 : List UInt8 := [42, 27, 182, 1, 16, 154, 0, 5, 3, 172, 42, 180, 0, 39, 27, 46, 61, 42, 27, 182, 1, 16]
abbrev dktX3_readsNumber_0 : List UInt8 := dkwX3_readsNumber_0 ++ dktX3_readsNumber_1
theorem dksX3_readsNumber_0 : cX3_readsNumber.data.toList.drop 0 = dktX3_readsNumber_0 := by decide +kernel
theorem dksX3_readsNumber_1 : cX3_readsNumber.data.toList.drop 22 = dktX3_readsNumber_1 := dk_seg dksX3_readsNumber_0 22 rfl rfl
theorem dX3_readsNumber_0 : decode cX3_readsNumber 0 = .ok (.aload_n 0, 1) := dk_42 (dk_at dksX3_readsNumber_0 0 rfl rfl)
theorem dX3_readsNumber_1 : decode cX3_readsNumber 1 = .ok (.iload_n 1, 1) := dk_27 (dk_at dksX3_readsNumber_0 1 rfl rfl)
theorem dX3_readsNumber_2 : decode cX3_readsNumber 2 = .ok (.invokevirtual 272, 3) := dk_182 1 16 (dk_at dksX3_readsNumber_0 2 rfl rfl)
theorem dX3_readsNumber_5 : decode cX3_readsNumber 5 = .ok (.ifCond .ne 5, 3) := dk_154 0 5 (dk_at dksX3_readsNumber_0 5 rfl rfl)
theorem dX3_readsNumber_8 : decode cX3_readsNumber 8 = .ok (.iconst 0, 1) := dk_3 (dk_at dksX3_readsNumber_0 8 rfl rfl)
theorem dX3_readsNumber_9 : decode cX3_readsNumber 9 = .ok (.ireturn, 1) := dk_172 (dk_at dksX3_readsNumber_0 9 rfl rfl)
theorem dX3_readsNumber_10 : decode cX3_readsNumber 10 = .ok (.aload_n 0, 1) := dk_42 (dk_at dksX3_readsNumber_0 10 rfl rfl)
theorem dX3_readsNumber_11 : decode cX3_readsNumber 11 = .ok (.getfield 39, 3) := dk_180 0 39 (dk_at dksX3_readsNumber_0 11 rfl rfl)
theorem dX3_readsNumber_14 : decode cX3_readsNumber 14 = .ok (.iload_n 1, 1) := dk_27 (dk_at dksX3_readsNumber_0 14 rfl rfl)
theorem dX3_readsNumber_15 : decode cX3_readsNumber 15 = .ok (.iaload, 1) := dk_46 (dk_at dksX3_readsNumber_0 15 rfl rfl)
theorem dX3_readsNumber_16 : decode cX3_readsNumber 16 = .ok (.istore_n 2, 1) := dk_61 (dk_at dksX3_readsNumber_0 16 rfl rfl)
theorem dX3_readsNumber_17 : decode cX3_readsNumber 17 = .ok (.aload_n 0, 1) := dk_42 (dk_at dksX3_readsNumber_0 17 rfl rfl)
theorem dX3_readsNumber_18 : decode cX3_readsNumber 18 = .ok (.iload_n 1, 1) := dk_27 (dk_at dksX3_readsNumber_0 18 rfl rfl)
theorem dX3_readsNumber_19 : decode cX3_readsNumber 19 = .ok (.invokevirtual 272, 3) := dk_182 1 16 (dk_at dksX3_readsNumber_0 19 rfl rfl)
theorem dX3_readsNumber_22 : decode cX3_readsNumber 22 = .ok (.ifCond .eq 16, 3) := dk_153 0 16 (dk_at dksX3_readsNumber_1 0 rfl rfl)
theorem dX3_readsNumber_25 : decode cX3_readsNumber 25 = .ok (.aload_n 0, 1) := dk_42 (dk_at dksX3_readsNumber_1 3 rfl rfl)
theorem dX3_readsNumber_26 : decode cX3_readsNumber 26 = .ok (.getfield 39, 3) := dk_180 0 39 (dk_at dksX3_readsNumber_1 4 rfl rfl)
theorem dX3_readsNumber_29 : decode cX3_readsNumber 29 = .ok (.iload_n 1, 1) := dk_27 (dk_at dksX3_readsNumber_1 7 rfl rfl)
theorem dX3_readsNumber_30 : decode cX3_readsNumber 30 = .ok (.dup2, 1) := dk_92 (dk_at dksX3_readsNumber_1 8 rfl rfl)
theorem dX3_readsNumber_31 : decode cX3_readsNumber 31 = .ok (.iaload, 1) := dk_46 (dk_at dksX3_readsNumber_1 9 rfl rfl)
theorem dX3_readsNumber_32 : decode cX3_readsNumber 32 = .ok (.bipush 10, 2) := dk_16 10 (dk_at dksX3_readsNumber_1 10 rfl rfl)
theorem dX3_readsNumber_34 : decode cX3_readsNumber 34 = .ok (.iload_n 2, 1) := dk_28 (dk_at dksX3_readsNumber_1 12 rfl rfl)
theorem dX3_readsNumber_35 : decode cX3_readsNumber 35 = .ok (.imul, 1) := dk_104 (dk_at dksX3_readsNumber_1 13 rfl rfl)
theorem dX3_readsNumber_36 : decode cX3_readsNumber 36 = .ok (.iadd, 1) := dk_96 (dk_at dksX3_readsNumber_1 14 rfl rfl)
theorem dX3_readsNumber_37 : decode cX3_readsNumber 37 = .ok (.iastore, 1) := dk_79 (dk_at dksX3_readsNumber_1 15 rfl rfl)
theorem dX3_readsNumber_38 : decode cX3_readsNumber 38 = .ok (.iconst 1, 1) := dk_4 (dk_at dksX3_readsNumber_1 16 rfl rfl)
theorem dX3_readsNumber_39 : decode cX3_readsNumber 39 = .ok (.ireturn, 1) := dk_172 (dk_at dksX3_readsNumber_1 17 rfl rfl)
abbrev cX3_readsDigit : ByteArray := prog_45_method_97_code
def yX3_readsDigit : MethodName := ⟨RX3, "readsDigit", "(I)Z"⟩
def dkwX3_readsDigit_1 : List UInt8 := [182, 1, 14, 16, 48, 100, 79, 42, 89, 180, 1, 11, 4, 96, 181, 1, 11, 4, 172]
abbrev dktX3_readsDigit_1 : List UInt8 := dkwX3_readsDigit_1 ++ []
def dkwX3_readsDigit_0 : List UInt8 := [42, 182, 1, 14, 16, 48, 16, 57, 184, 0, 52, 154, 0, 5, 3, 172, 42, 180, 0, 39, 27, 42]
abbrev dktX3_readsDigit_0 : List UInt8 := dkwX3_readsDigit_0 ++ dktX3_readsDigit_1
theorem dksX3_readsDigit_0 : cX3_readsDigit.data.toList.drop 0 = dktX3_readsDigit_0 := by decide +kernel
theorem dksX3_readsDigit_1 : cX3_readsDigit.data.toList.drop 22 = dktX3_readsDigit_1 := dk_seg dksX3_readsDigit_0 22 rfl rfl
theorem dX3_readsDigit_0 : decode cX3_readsDigit 0 = .ok (.aload_n 0, 1) := dk_42 (dk_at dksX3_readsDigit_0 0 rfl rfl)
theorem dX3_readsDigit_1 : decode cX3_readsDigit 1 = .ok (.invokevirtual 270, 3) := dk_182 1 14 (dk_at dksX3_readsDigit_0 1 rfl rfl)
theorem dX3_readsDigit_4 : decode cX3_readsDigit 4 = .ok (.bipush 48, 2) := dk_16 48 (dk_at dksX3_readsDigit_0 4 rfl rfl)
theorem dX3_readsDigit_6 : decode cX3_readsDigit 6 = .ok (.bipush 57, 2) := dk_16 57 (dk_at dksX3_readsDigit_0 6 rfl rfl)
theorem dX3_readsDigit_8 : decode cX3_readsDigit 8 = .ok (.invokestatic 52, 3) := dk_184 0 52 (dk_at dksX3_readsDigit_0 8 rfl rfl)
theorem dX3_readsDigit_11 : decode cX3_readsDigit 11 = .ok (.ifCond .ne 5, 3) := dk_154 0 5 (dk_at dksX3_readsDigit_0 11 rfl rfl)
theorem dX3_readsDigit_14 : decode cX3_readsDigit 14 = .ok (.iconst 0, 1) := dk_3 (dk_at dksX3_readsDigit_0 14 rfl rfl)
theorem dX3_readsDigit_15 : decode cX3_readsDigit 15 = .ok (.ireturn, 1) := dk_172 (dk_at dksX3_readsDigit_0 15 rfl rfl)
theorem dX3_readsDigit_16 : decode cX3_readsDigit 16 = .ok (.aload_n 0, 1) := dk_42 (dk_at dksX3_readsDigit_0 16 rfl rfl)
theorem dX3_readsDigit_17 : decode cX3_readsDigit 17 = .ok (.getfield 39, 3) := dk_180 0 39 (dk_at dksX3_readsDigit_0 17 rfl rfl)
theorem dX3_readsDigit_20 : decode cX3_readsDigit 20 = .ok (.iload_n 1, 1) := dk_27 (dk_at dksX3_readsDigit_0 20 rfl rfl)
theorem dX3_readsDigit_21 : decode cX3_readsDigit 21 = .ok (.aload_n 0, 1) := dk_42 (dk_at dksX3_readsDigit_0 21 rfl rfl)
theorem dX3_readsDigit_22 : decode cX3_readsDigit 22 = .ok (.invokevirtual 270, 3) := dk_182 1 14 (dk_at dksX3_readsDigit_1 0 rfl rfl)
theorem dX3_readsDigit_25 : decode cX3_readsDigit 25 = .ok (.bipush 48, 2) := dk_16 48 (dk_at dksX3_readsDigit_1 3 rfl rfl)
theorem dX3_readsDigit_27 : decode cX3_readsDigit 27 = .ok (.isub, 1) := dk_100 (dk_at dksX3_readsDigit_1 5 rfl rfl)
theorem dX3_readsDigit_28 : decode cX3_readsDigit 28 = .ok (.iastore, 1) := dk_79 (dk_at dksX3_readsDigit_1 6 rfl rfl)
theorem dX3_readsDigit_29 : decode cX3_readsDigit 29 = .ok (.aload_n 0, 1) := dk_42 (dk_at dksX3_readsDigit_1 7 rfl rfl)
theorem dX3_readsDigit_30 : decode cX3_readsDigit 30 = .ok (.dup, 1) := dk_89 (dk_at dksX3_readsDigit_1 8 rfl rfl)
theorem dX3_readsDigit_31 : decode cX3_readsDigit 31 = .ok (.getfield 267, 3) := dk_180 1 11 (dk_at dksX3_readsDigit_1 9 rfl rfl)
theorem dX3_readsDigit_34 : decode cX3_readsDigit 34 = .ok (.iconst 1, 1) := dk_4 (dk_at dksX3_readsDigit_1 12 rfl rfl)
theorem dX3_readsDigit_35 : decode cX3_readsDigit 35 = .ok (.iadd, 1) := dk_96 (dk_at dksX3_readsDigit_1 13 rfl rfl)
theorem dX3_readsDigit_36 : decode cX3_readsDigit 36 = .ok (.putfield 267, 3) := dk_181 1 11 (dk_at dksX3_readsDigit_1 14 rfl rfl)
theorem dX3_readsDigit_39 : decode cX3_readsDigit 39 = .ok (.iconst 1, 1) := dk_4 (dk_at dksX3_readsDigit_1 17 rfl rfl)
theorem dX3_readsDigit_40 : decode cX3_readsDigit 40 = .ok (.ireturn, 1) := dk_172 (dk_at dksX3_readsDigit_1 18 rfl rfl)
abbrev cX3_readsS : ByteArray := prog_45_method_100_code
def yX3_readsS : MethodName := ⟨RX3, "readsS", "()Z"⟩
def dkwX3_readsS_5 : List UInt8 := [153, 0, 15, 42, 3, 182, 1, 16, 153, 0, 7, 4, 167, 0, 4, 3, 172]
abbrev dktX3_readsS_5 : List UInt8 := dkwX3_readsS_5 ++ []
def dkwX3_readsS_4 : List UInt8 := [16, 117, 182, 1, 19, 153, 0, 33, 42, 16, 116, 182, 1, 19, 153, 0, 24, 42, 16, 32, 182, 1, 19]
abbrev dktX3_readsS_4 : List UInt8 := dkwX3_readsS_4 ++ dktX3_readsS_5
def dkwX3_readsS_3 : List UInt8 := [153, 0, 7, 4, 167, 0, 4, 3, 172, 42, 6, 181, 1, 25, 42, 16, 104, 182, 1, 19, 153, 0, 42, 42]
abbrev dktX3_readsS_3 : List UInt8 := dkwX3_readsS_3 ++ dktX3_readsS_4
def dkwX3_readsS_2 : List UInt8 := [42, 5, 182, 1, 22, 153, 0, 24, 42, 16, 32, 182, 1, 19, 153, 0, 15, 42, 6, 182, 1, 22]
abbrev dktX3_readsS_2 : List UInt8 := dkwX3_readsS_2 ++ dktX3_readsS_3
def dkwX3_readsS_1 : List UInt8 := [16, 101, 182, 1, 19, 153, 0, 48, 42, 182, 1, 28, 153, 0, 41, 42, 16, 32, 182, 1, 19, 153, 0, 32]
abbrev dktX3_readsS_1 : List UInt8 := dkwX3_readsS_1 ++ dktX3_readsS_2
def dkwX3_readsS_0 : List UInt8 := [42, 16, 105, 182, 1, 19, 153, 0, 73, 42, 4, 181, 1, 25, 42, 16, 116, 182, 1, 19, 153, 0, 57, 42]
abbrev dktX3_readsS_0 : List UInt8 := dkwX3_readsS_0 ++ dktX3_readsS_1
theorem dksX3_readsS_0 : cX3_readsS.data.toList.drop 0 = dktX3_readsS_0 := by decide +kernel
theorem dksX3_readsS_1 : cX3_readsS.data.toList.drop 24 = dktX3_readsS_1 := dk_seg dksX3_readsS_0 24 rfl rfl
theorem dksX3_readsS_2 : cX3_readsS.data.toList.drop 48 = dktX3_readsS_2 := dk_seg dksX3_readsS_1 24 rfl rfl
theorem dksX3_readsS_3 : cX3_readsS.data.toList.drop 70 = dktX3_readsS_3 := dk_seg dksX3_readsS_2 22 rfl rfl
theorem dksX3_readsS_4 : cX3_readsS.data.toList.drop 94 = dktX3_readsS_4 := dk_seg dksX3_readsS_3 24 rfl rfl
theorem dksX3_readsS_5 : cX3_readsS.data.toList.drop 117 = dktX3_readsS_5 := dk_seg dksX3_readsS_4 23 rfl rfl
theorem dX3_readsS_0 : decode cX3_readsS 0 = .ok (.aload_n 0, 1) := dk_42 (dk_at dksX3_readsS_0 0 rfl rfl)
theorem dX3_readsS_1 : decode cX3_readsS 1 = .ok (.bipush 105, 2) := dk_16 105 (dk_at dksX3_readsS_0 1 rfl rfl)
theorem dX3_readsS_3 : decode cX3_readsS 3 = .ok (.invokevirtual 275, 3) := dk_182 1 19 (dk_at dksX3_readsS_0 3 rfl rfl)
theorem dX3_readsS_6 : decode cX3_readsS 6 = .ok (.ifCond .eq 73, 3) := dk_153 0 73 (dk_at dksX3_readsS_0 6 rfl rfl)
theorem dX3_readsS_9 : decode cX3_readsS 9 = .ok (.aload_n 0, 1) := dk_42 (dk_at dksX3_readsS_0 9 rfl rfl)
theorem dX3_readsS_10 : decode cX3_readsS 10 = .ok (.iconst 1, 1) := dk_4 (dk_at dksX3_readsS_0 10 rfl rfl)
theorem dX3_readsS_11 : decode cX3_readsS 11 = .ok (.putfield 281, 3) := dk_181 1 25 (dk_at dksX3_readsS_0 11 rfl rfl)
theorem dX3_readsS_14 : decode cX3_readsS 14 = .ok (.aload_n 0, 1) := dk_42 (dk_at dksX3_readsS_0 14 rfl rfl)
theorem dX3_readsS_15 : decode cX3_readsS 15 = .ok (.bipush 116, 2) := dk_16 116 (dk_at dksX3_readsS_0 15 rfl rfl)
theorem dX3_readsS_17 : decode cX3_readsS 17 = .ok (.invokevirtual 275, 3) := dk_182 1 19 (dk_at dksX3_readsS_0 17 rfl rfl)
theorem dX3_readsS_20 : decode cX3_readsS 20 = .ok (.ifCond .eq 57, 3) := dk_153 0 57 (dk_at dksX3_readsS_0 20 rfl rfl)
theorem dX3_readsS_23 : decode cX3_readsS 23 = .ok (.aload_n 0, 1) := dk_42 (dk_at dksX3_readsS_0 23 rfl rfl)
theorem dX3_readsS_24 : decode cX3_readsS 24 = .ok (.bipush 101, 2) := dk_16 101 (dk_at dksX3_readsS_1 0 rfl rfl)
theorem dX3_readsS_26 : decode cX3_readsS 26 = .ok (.invokevirtual 275, 3) := dk_182 1 19 (dk_at dksX3_readsS_1 2 rfl rfl)
theorem dX3_readsS_29 : decode cX3_readsS 29 = .ok (.ifCond .eq 48, 3) := dk_153 0 48 (dk_at dksX3_readsS_1 5 rfl rfl)
theorem dX3_readsS_32 : decode cX3_readsS 32 = .ok (.aload_n 0, 1) := dk_42 (dk_at dksX3_readsS_1 8 rfl rfl)
theorem dX3_readsS_33 : decode cX3_readsS 33 = .ok (.invokevirtual 284, 3) := dk_182 1 28 (dk_at dksX3_readsS_1 9 rfl rfl)
theorem dX3_readsS_36 : decode cX3_readsS 36 = .ok (.ifCond .eq 41, 3) := dk_153 0 41 (dk_at dksX3_readsS_1 12 rfl rfl)
theorem dX3_readsS_39 : decode cX3_readsS 39 = .ok (.aload_n 0, 1) := dk_42 (dk_at dksX3_readsS_1 15 rfl rfl)
theorem dX3_readsS_40 : decode cX3_readsS 40 = .ok (.bipush 32, 2) := dk_16 32 (dk_at dksX3_readsS_1 16 rfl rfl)
theorem dX3_readsS_42 : decode cX3_readsS 42 = .ok (.invokevirtual 275, 3) := dk_182 1 19 (dk_at dksX3_readsS_1 18 rfl rfl)
theorem dX3_readsS_45 : decode cX3_readsS 45 = .ok (.ifCond .eq 32, 3) := dk_153 0 32 (dk_at dksX3_readsS_1 21 rfl rfl)
theorem dX3_readsS_48 : decode cX3_readsS 48 = .ok (.aload_n 0, 1) := dk_42 (dk_at dksX3_readsS_2 0 rfl rfl)
theorem dX3_readsS_49 : decode cX3_readsS 49 = .ok (.iconst 2, 1) := dk_5 (dk_at dksX3_readsS_2 1 rfl rfl)
theorem dX3_readsS_50 : decode cX3_readsS 50 = .ok (.invokevirtual 278, 3) := dk_182 1 22 (dk_at dksX3_readsS_2 2 rfl rfl)
theorem dX3_readsS_53 : decode cX3_readsS 53 = .ok (.ifCond .eq 24, 3) := dk_153 0 24 (dk_at dksX3_readsS_2 5 rfl rfl)
theorem dX3_readsS_56 : decode cX3_readsS 56 = .ok (.aload_n 0, 1) := dk_42 (dk_at dksX3_readsS_2 8 rfl rfl)
theorem dX3_readsS_57 : decode cX3_readsS 57 = .ok (.bipush 32, 2) := dk_16 32 (dk_at dksX3_readsS_2 9 rfl rfl)
theorem dX3_readsS_59 : decode cX3_readsS 59 = .ok (.invokevirtual 275, 3) := dk_182 1 19 (dk_at dksX3_readsS_2 11 rfl rfl)
theorem dX3_readsS_62 : decode cX3_readsS 62 = .ok (.ifCond .eq 15, 3) := dk_153 0 15 (dk_at dksX3_readsS_2 14 rfl rfl)
theorem dX3_readsS_65 : decode cX3_readsS 65 = .ok (.aload_n 0, 1) := dk_42 (dk_at dksX3_readsS_2 17 rfl rfl)
theorem dX3_readsS_66 : decode cX3_readsS 66 = .ok (.iconst 3, 1) := dk_6 (dk_at dksX3_readsS_2 18 rfl rfl)
theorem dX3_readsS_67 : decode cX3_readsS 67 = .ok (.invokevirtual 278, 3) := dk_182 1 22 (dk_at dksX3_readsS_2 19 rfl rfl)
theorem dX3_readsS_70 : decode cX3_readsS 70 = .ok (.ifCond .eq 7, 3) := dk_153 0 7 (dk_at dksX3_readsS_3 0 rfl rfl)
theorem dX3_readsS_73 : decode cX3_readsS 73 = .ok (.iconst 1, 1) := dk_4 (dk_at dksX3_readsS_3 3 rfl rfl)
theorem dX3_readsS_74 : decode cX3_readsS 74 = .ok (.goto 4, 3) := dk_167 0 4 (dk_at dksX3_readsS_3 4 rfl rfl)
theorem dX3_readsS_77 : decode cX3_readsS 77 = .ok (.iconst 0, 1) := dk_3 (dk_at dksX3_readsS_3 7 rfl rfl)
theorem dX3_readsS_78 : decode cX3_readsS 78 = .ok (.ireturn, 1) := dk_172 (dk_at dksX3_readsS_3 8 rfl rfl)
theorem dX3_readsS_79 : decode cX3_readsS 79 = .ok (.aload_n 0, 1) := dk_42 (dk_at dksX3_readsS_3 9 rfl rfl)
theorem dX3_readsS_80 : decode cX3_readsS 80 = .ok (.iconst 3, 1) := dk_6 (dk_at dksX3_readsS_3 10 rfl rfl)
theorem dX3_readsS_81 : decode cX3_readsS 81 = .ok (.putfield 281, 3) := dk_181 1 25 (dk_at dksX3_readsS_3 11 rfl rfl)
theorem dX3_readsS_84 : decode cX3_readsS 84 = .ok (.aload_n 0, 1) := dk_42 (dk_at dksX3_readsS_3 14 rfl rfl)
theorem dX3_readsS_85 : decode cX3_readsS 85 = .ok (.bipush 104, 2) := dk_16 104 (dk_at dksX3_readsS_3 15 rfl rfl)
theorem dX3_readsS_87 : decode cX3_readsS 87 = .ok (.invokevirtual 275, 3) := dk_182 1 19 (dk_at dksX3_readsS_3 17 rfl rfl)
theorem dX3_readsS_90 : decode cX3_readsS 90 = .ok (.ifCond .eq 42, 3) := dk_153 0 42 (dk_at dksX3_readsS_3 20 rfl rfl)
theorem dX3_readsS_93 : decode cX3_readsS 93 = .ok (.aload_n 0, 1) := dk_42 (dk_at dksX3_readsS_3 23 rfl rfl)
theorem dX3_readsS_94 : decode cX3_readsS 94 = .ok (.bipush 117, 2) := dk_16 117 (dk_at dksX3_readsS_4 0 rfl rfl)
theorem dX3_readsS_96 : decode cX3_readsS 96 = .ok (.invokevirtual 275, 3) := dk_182 1 19 (dk_at dksX3_readsS_4 2 rfl rfl)
theorem dX3_readsS_99 : decode cX3_readsS 99 = .ok (.ifCond .eq 33, 3) := dk_153 0 33 (dk_at dksX3_readsS_4 5 rfl rfl)
theorem dX3_readsS_102 : decode cX3_readsS 102 = .ok (.aload_n 0, 1) := dk_42 (dk_at dksX3_readsS_4 8 rfl rfl)
theorem dX3_readsS_103 : decode cX3_readsS 103 = .ok (.bipush 116, 2) := dk_16 116 (dk_at dksX3_readsS_4 9 rfl rfl)
theorem dX3_readsS_105 : decode cX3_readsS 105 = .ok (.invokevirtual 275, 3) := dk_182 1 19 (dk_at dksX3_readsS_4 11 rfl rfl)
theorem dX3_readsS_108 : decode cX3_readsS 108 = .ok (.ifCond .eq 24, 3) := dk_153 0 24 (dk_at dksX3_readsS_4 14 rfl rfl)
theorem dX3_readsS_111 : decode cX3_readsS 111 = .ok (.aload_n 0, 1) := dk_42 (dk_at dksX3_readsS_4 17 rfl rfl)
theorem dX3_readsS_112 : decode cX3_readsS 112 = .ok (.bipush 32, 2) := dk_16 32 (dk_at dksX3_readsS_4 18 rfl rfl)
theorem dX3_readsS_114 : decode cX3_readsS 114 = .ok (.invokevirtual 275, 3) := dk_182 1 19 (dk_at dksX3_readsS_4 20 rfl rfl)
theorem dX3_readsS_117 : decode cX3_readsS 117 = .ok (.ifCond .eq 15, 3) := dk_153 0 15 (dk_at dksX3_readsS_5 0 rfl rfl)
theorem dX3_readsS_120 : decode cX3_readsS 120 = .ok (.aload_n 0, 1) := dk_42 (dk_at dksX3_readsS_5 3 rfl rfl)
theorem dX3_readsS_121 : decode cX3_readsS 121 = .ok (.iconst 0, 1) := dk_3 (dk_at dksX3_readsS_5 4 rfl rfl)
theorem dX3_readsS_122 : decode cX3_readsS 122 = .ok (.invokevirtual 272, 3) := dk_182 1 16 (dk_at dksX3_readsS_5 5 rfl rfl)
theorem dX3_readsS_125 : decode cX3_readsS 125 = .ok (.ifCond .eq 7, 3) := dk_153 0 7 (dk_at dksX3_readsS_5 8 rfl rfl)
theorem dX3_readsS_128 : decode cX3_readsS 128 = .ok (.iconst 1, 1) := dk_4 (dk_at dksX3_readsS_5 11 rfl rfl)
theorem dX3_readsS_129 : decode cX3_readsS 129 = .ok (.goto 4, 3) := dk_167 0 4 (dk_at dksX3_readsS_5 12 rfl rfl)
theorem dX3_readsS_132 : decode cX3_readsS 132 = .ok (.iconst 0, 1) := dk_3 (dk_at dksX3_readsS_5 15 rfl rfl)
theorem dX3_readsS_133 : decode cX3_readsS 133 = .ok (.ireturn, 1) := dk_172 (dk_at dksX3_readsS_5 16 rfl rfl)
abbrev cX3_readsP : ByteArray := prog_45_method_101_code
def yX3_readsP : MethodName := ⟨RX3, "readsP", "()Z"⟩
def dkwX3_readsP_4 : List UInt8 := [153, 0, 15, 42, 3, 182, 1, 22, 153, 0, 7, 4, 167, 0, 4, 3, 172]
abbrev dktX3_readsP_4 : List UInt8 := dkwX3_readsP_4 ++ []
def dkwX3_readsP_3 : List UInt8 := [42, 16, 115, 182, 1, 19, 153, 0, 33, 42, 16, 115, 182, 1, 19, 153, 0, 24, 42, 16, 32, 182, 1, 19]
abbrev dktX3_readsP_3 : List UInt8 := dkwX3_readsP_3 ++ dktX3_readsP_4
def dkwX3_readsP_2 : List UInt8 := [153, 0, 7, 4, 167, 0, 4, 3, 172, 42, 16, 6, 181, 1, 25, 42, 16, 97, 182, 1, 19, 153, 0, 42]
abbrev dktX3_readsP_2 : List UInt8 := dkwX3_readsP_2 ++ dktX3_readsP_3
def dkwX3_readsP_1 : List UInt8 := [16, 112, 182, 1, 19, 153, 0, 24, 42, 16, 32, 182, 1, 19, 153, 0, 15, 42, 3, 182, 1, 16]
abbrev dktX3_readsP_1 : List UInt8 := dkwX3_readsP_1 ++ dktX3_readsP_2
def dkwX3_readsP_0 : List UInt8 := [42, 16, 117, 182, 1, 19, 153, 0, 49, 42, 7, 181, 1, 25, 42, 16, 109, 182, 1, 19, 153, 0, 33, 42]
abbrev dktX3_readsP_0 : List UInt8 := dkwX3_readsP_0 ++ dktX3_readsP_1
theorem dksX3_readsP_0 : cX3_readsP.data.toList.drop 0 = dktX3_readsP_0 := by decide +kernel
theorem dksX3_readsP_1 : cX3_readsP.data.toList.drop 24 = dktX3_readsP_1 := dk_seg dksX3_readsP_0 24 rfl rfl
theorem dksX3_readsP_2 : cX3_readsP.data.toList.drop 46 = dktX3_readsP_2 := dk_seg dksX3_readsP_1 22 rfl rfl
theorem dksX3_readsP_3 : cX3_readsP.data.toList.drop 70 = dktX3_readsP_3 := dk_seg dksX3_readsP_2 24 rfl rfl
theorem dksX3_readsP_4 : cX3_readsP.data.toList.drop 94 = dktX3_readsP_4 := dk_seg dksX3_readsP_3 24 rfl rfl
theorem dX3_readsP_0 : decode cX3_readsP 0 = .ok (.aload_n 0, 1) := dk_42 (dk_at dksX3_readsP_0 0 rfl rfl)
theorem dX3_readsP_1 : decode cX3_readsP 1 = .ok (.bipush 117, 2) := dk_16 117 (dk_at dksX3_readsP_0 1 rfl rfl)
theorem dX3_readsP_3 : decode cX3_readsP 3 = .ok (.invokevirtual 275, 3) := dk_182 1 19 (dk_at dksX3_readsP_0 3 rfl rfl)
theorem dX3_readsP_6 : decode cX3_readsP 6 = .ok (.ifCond .eq 49, 3) := dk_153 0 49 (dk_at dksX3_readsP_0 6 rfl rfl)
theorem dX3_readsP_9 : decode cX3_readsP 9 = .ok (.aload_n 0, 1) := dk_42 (dk_at dksX3_readsP_0 9 rfl rfl)
theorem dX3_readsP_10 : decode cX3_readsP 10 = .ok (.iconst 4, 1) := dk_7 (dk_at dksX3_readsP_0 10 rfl rfl)
theorem dX3_readsP_11 : decode cX3_readsP 11 = .ok (.putfield 281, 3) := dk_181 1 25 (dk_at dksX3_readsP_0 11 rfl rfl)
theorem dX3_readsP_14 : decode cX3_readsP 14 = .ok (.aload_n 0, 1) := dk_42 (dk_at dksX3_readsP_0 14 rfl rfl)
theorem dX3_readsP_15 : decode cX3_readsP 15 = .ok (.bipush 109, 2) := dk_16 109 (dk_at dksX3_readsP_0 15 rfl rfl)
theorem dX3_readsP_17 : decode cX3_readsP 17 = .ok (.invokevirtual 275, 3) := dk_182 1 19 (dk_at dksX3_readsP_0 17 rfl rfl)
theorem dX3_readsP_20 : decode cX3_readsP 20 = .ok (.ifCond .eq 33, 3) := dk_153 0 33 (dk_at dksX3_readsP_0 20 rfl rfl)
theorem dX3_readsP_23 : decode cX3_readsP 23 = .ok (.aload_n 0, 1) := dk_42 (dk_at dksX3_readsP_0 23 rfl rfl)
theorem dX3_readsP_24 : decode cX3_readsP 24 = .ok (.bipush 112, 2) := dk_16 112 (dk_at dksX3_readsP_1 0 rfl rfl)
theorem dX3_readsP_26 : decode cX3_readsP 26 = .ok (.invokevirtual 275, 3) := dk_182 1 19 (dk_at dksX3_readsP_1 2 rfl rfl)
theorem dX3_readsP_29 : decode cX3_readsP 29 = .ok (.ifCond .eq 24, 3) := dk_153 0 24 (dk_at dksX3_readsP_1 5 rfl rfl)
theorem dX3_readsP_32 : decode cX3_readsP 32 = .ok (.aload_n 0, 1) := dk_42 (dk_at dksX3_readsP_1 8 rfl rfl)
theorem dX3_readsP_33 : decode cX3_readsP 33 = .ok (.bipush 32, 2) := dk_16 32 (dk_at dksX3_readsP_1 9 rfl rfl)
theorem dX3_readsP_35 : decode cX3_readsP 35 = .ok (.invokevirtual 275, 3) := dk_182 1 19 (dk_at dksX3_readsP_1 11 rfl rfl)
theorem dX3_readsP_38 : decode cX3_readsP 38 = .ok (.ifCond .eq 15, 3) := dk_153 0 15 (dk_at dksX3_readsP_1 14 rfl rfl)
theorem dX3_readsP_41 : decode cX3_readsP 41 = .ok (.aload_n 0, 1) := dk_42 (dk_at dksX3_readsP_1 17 rfl rfl)
theorem dX3_readsP_42 : decode cX3_readsP 42 = .ok (.iconst 0, 1) := dk_3 (dk_at dksX3_readsP_1 18 rfl rfl)
theorem dX3_readsP_43 : decode cX3_readsP 43 = .ok (.invokevirtual 272, 3) := dk_182 1 16 (dk_at dksX3_readsP_1 19 rfl rfl)
theorem dX3_readsP_46 : decode cX3_readsP 46 = .ok (.ifCond .eq 7, 3) := dk_153 0 7 (dk_at dksX3_readsP_2 0 rfl rfl)
theorem dX3_readsP_49 : decode cX3_readsP 49 = .ok (.iconst 1, 1) := dk_4 (dk_at dksX3_readsP_2 3 rfl rfl)
theorem dX3_readsP_50 : decode cX3_readsP 50 = .ok (.goto 4, 3) := dk_167 0 4 (dk_at dksX3_readsP_2 4 rfl rfl)
theorem dX3_readsP_53 : decode cX3_readsP 53 = .ok (.iconst 0, 1) := dk_3 (dk_at dksX3_readsP_2 7 rfl rfl)
theorem dX3_readsP_54 : decode cX3_readsP 54 = .ok (.ireturn, 1) := dk_172 (dk_at dksX3_readsP_2 8 rfl rfl)
theorem dX3_readsP_55 : decode cX3_readsP 55 = .ok (.aload_n 0, 1) := dk_42 (dk_at dksX3_readsP_2 9 rfl rfl)
theorem dX3_readsP_56 : decode cX3_readsP 56 = .ok (.bipush 6, 2) := dk_16 6 (dk_at dksX3_readsP_2 10 rfl rfl)
theorem dX3_readsP_58 : decode cX3_readsP 58 = .ok (.putfield 281, 3) := dk_181 1 25 (dk_at dksX3_readsP_2 12 rfl rfl)
theorem dX3_readsP_61 : decode cX3_readsP 61 = .ok (.aload_n 0, 1) := dk_42 (dk_at dksX3_readsP_2 15 rfl rfl)
theorem dX3_readsP_62 : decode cX3_readsP 62 = .ok (.bipush 97, 2) := dk_16 97 (dk_at dksX3_readsP_2 16 rfl rfl)
theorem dX3_readsP_64 : decode cX3_readsP 64 = .ok (.invokevirtual 275, 3) := dk_182 1 19 (dk_at dksX3_readsP_2 18 rfl rfl)
theorem dX3_readsP_67 : decode cX3_readsP 67 = .ok (.ifCond .eq 42, 3) := dk_153 0 42 (dk_at dksX3_readsP_2 21 rfl rfl)
theorem dX3_readsP_70 : decode cX3_readsP 70 = .ok (.aload_n 0, 1) := dk_42 (dk_at dksX3_readsP_3 0 rfl rfl)
theorem dX3_readsP_71 : decode cX3_readsP 71 = .ok (.bipush 115, 2) := dk_16 115 (dk_at dksX3_readsP_3 1 rfl rfl)
theorem dX3_readsP_73 : decode cX3_readsP 73 = .ok (.invokevirtual 275, 3) := dk_182 1 19 (dk_at dksX3_readsP_3 3 rfl rfl)
theorem dX3_readsP_76 : decode cX3_readsP 76 = .ok (.ifCond .eq 33, 3) := dk_153 0 33 (dk_at dksX3_readsP_3 6 rfl rfl)
theorem dX3_readsP_79 : decode cX3_readsP 79 = .ok (.aload_n 0, 1) := dk_42 (dk_at dksX3_readsP_3 9 rfl rfl)
theorem dX3_readsP_80 : decode cX3_readsP 80 = .ok (.bipush 115, 2) := dk_16 115 (dk_at dksX3_readsP_3 10 rfl rfl)
theorem dX3_readsP_82 : decode cX3_readsP 82 = .ok (.invokevirtual 275, 3) := dk_182 1 19 (dk_at dksX3_readsP_3 12 rfl rfl)
theorem dX3_readsP_85 : decode cX3_readsP 85 = .ok (.ifCond .eq 24, 3) := dk_153 0 24 (dk_at dksX3_readsP_3 15 rfl rfl)
theorem dX3_readsP_88 : decode cX3_readsP 88 = .ok (.aload_n 0, 1) := dk_42 (dk_at dksX3_readsP_3 18 rfl rfl)
theorem dX3_readsP_89 : decode cX3_readsP 89 = .ok (.bipush 32, 2) := dk_16 32 (dk_at dksX3_readsP_3 19 rfl rfl)
theorem dX3_readsP_91 : decode cX3_readsP 91 = .ok (.invokevirtual 275, 3) := dk_182 1 19 (dk_at dksX3_readsP_3 21 rfl rfl)
theorem dX3_readsP_94 : decode cX3_readsP 94 = .ok (.ifCond .eq 15, 3) := dk_153 0 15 (dk_at dksX3_readsP_4 0 rfl rfl)
theorem dX3_readsP_97 : decode cX3_readsP 97 = .ok (.aload_n 0, 1) := dk_42 (dk_at dksX3_readsP_4 3 rfl rfl)
theorem dX3_readsP_98 : decode cX3_readsP 98 = .ok (.iconst 0, 1) := dk_3 (dk_at dksX3_readsP_4 4 rfl rfl)
theorem dX3_readsP_99 : decode cX3_readsP 99 = .ok (.invokevirtual 278, 3) := dk_182 1 22 (dk_at dksX3_readsP_4 5 rfl rfl)
theorem dX3_readsP_102 : decode cX3_readsP 102 = .ok (.ifCond .eq 7, 3) := dk_153 0 7 (dk_at dksX3_readsP_4 8 rfl rfl)
theorem dX3_readsP_105 : decode cX3_readsP 105 = .ok (.iconst 1, 1) := dk_4 (dk_at dksX3_readsP_4 11 rfl rfl)
theorem dX3_readsP_106 : decode cX3_readsP 106 = .ok (.goto 4, 3) := dk_167 0 4 (dk_at dksX3_readsP_4 12 rfl rfl)
theorem dX3_readsP_109 : decode cX3_readsP 109 = .ok (.iconst 0, 1) := dk_3 (dk_at dksX3_readsP_4 15 rfl rfl)
theorem dX3_readsP_110 : decode cX3_readsP 110 = .ok (.ireturn, 1) := dk_172 (dk_at dksX3_readsP_4 16 rfl rfl)
abbrev cX3_notAll : ByteArray := prog_45_method_106_code
def yX3_notAll : MethodName := ⟨RX3, "notAll", "()I"⟩
def dkwX3_notAll_2 : List UInt8 := [181, 1, 41, 42, 16, 59, 182, 1, 19, 60, 167, 255, 214, 3, 172]
abbrev dktX3_notAll_2 : List UInt8 := dkwX3_notAll_2 ++ []
def dkwX3_notAll_1 : List UInt8 := [182, 1, 44, 61, 28, 153, 0, 5, 28, 172, 42, 182, 1, 47, 87, 42, 89, 180, 1, 41, 4, 96]
abbrev dktX3_notAll_1 : List UInt8 := dkwX3_notAll_1 ++ dktX3_notAll_2
def dkwX3_notAll_0 : List UInt8 := [42, 3, 181, 1, 41, 42, 3, 181, 1, 11, 4, 60, 27, 153, 0, 44, 42, 182, 1, 38, 87, 42]
abbrev dktX3_notAll_0 : List UInt8 := dkwX3_notAll_0 ++ dktX3_notAll_1
theorem dksX3_notAll_0 : cX3_notAll.data.toList.drop 0 = dktX3_notAll_0 := by decide +kernel
theorem dksX3_notAll_1 : cX3_notAll.data.toList.drop 22 = dktX3_notAll_1 := dk_seg dksX3_notAll_0 22 rfl rfl
theorem dksX3_notAll_2 : cX3_notAll.data.toList.drop 44 = dktX3_notAll_2 := dk_seg dksX3_notAll_1 22 rfl rfl
theorem dX3_notAll_0 : decode cX3_notAll 0 = .ok (.aload_n 0, 1) := dk_42 (dk_at dksX3_notAll_0 0 rfl rfl)
theorem dX3_notAll_1 : decode cX3_notAll 1 = .ok (.iconst 0, 1) := dk_3 (dk_at dksX3_notAll_0 1 rfl rfl)
theorem dX3_notAll_2 : decode cX3_notAll 2 = .ok (.putfield 297, 3) := dk_181 1 41 (dk_at dksX3_notAll_0 2 rfl rfl)
theorem dX3_notAll_5 : decode cX3_notAll 5 = .ok (.aload_n 0, 1) := dk_42 (dk_at dksX3_notAll_0 5 rfl rfl)
theorem dX3_notAll_6 : decode cX3_notAll 6 = .ok (.iconst 0, 1) := dk_3 (dk_at dksX3_notAll_0 6 rfl rfl)
theorem dX3_notAll_7 : decode cX3_notAll 7 = .ok (.putfield 267, 3) := dk_181 1 11 (dk_at dksX3_notAll_0 7 rfl rfl)
theorem dX3_notAll_10 : decode cX3_notAll 10 = .ok (.iconst 1, 1) := dk_4 (dk_at dksX3_notAll_0 10 rfl rfl)
theorem dX3_notAll_11 : decode cX3_notAll 11 = .ok (.istore_n 1, 1) := dk_60 (dk_at dksX3_notAll_0 11 rfl rfl)
theorem dX3_notAll_12 : decode cX3_notAll 12 = .ok (.iload_n 1, 1) := dk_27 (dk_at dksX3_notAll_0 12 rfl rfl)
theorem dX3_notAll_13 : decode cX3_notAll 13 = .ok (.ifCond .eq 44, 3) := dk_153 0 44 (dk_at dksX3_notAll_0 13 rfl rfl)
theorem dX3_notAll_16 : decode cX3_notAll 16 = .ok (.aload_n 0, 1) := dk_42 (dk_at dksX3_notAll_0 16 rfl rfl)
theorem dX3_notAll_17 : decode cX3_notAll 17 = .ok (.invokevirtual 294, 3) := dk_182 1 38 (dk_at dksX3_notAll_0 17 rfl rfl)
theorem dX3_notAll_20 : decode cX3_notAll 20 = .ok (.pop, 1) := dk_87 (dk_at dksX3_notAll_0 20 rfl rfl)
theorem dX3_notAll_21 : decode cX3_notAll 21 = .ok (.aload_n 0, 1) := dk_42 (dk_at dksX3_notAll_0 21 rfl rfl)
theorem dX3_notAll_22 : decode cX3_notAll 22 = .ok (.invokevirtual 300, 3) := dk_182 1 44 (dk_at dksX3_notAll_1 0 rfl rfl)
theorem dX3_notAll_25 : decode cX3_notAll 25 = .ok (.istore_n 2, 1) := dk_61 (dk_at dksX3_notAll_1 3 rfl rfl)
theorem dX3_notAll_26 : decode cX3_notAll 26 = .ok (.iload_n 2, 1) := dk_28 (dk_at dksX3_notAll_1 4 rfl rfl)
theorem dX3_notAll_27 : decode cX3_notAll 27 = .ok (.ifCond .eq 5, 3) := dk_153 0 5 (dk_at dksX3_notAll_1 5 rfl rfl)
theorem dX3_notAll_30 : decode cX3_notAll 30 = .ok (.iload_n 2, 1) := dk_28 (dk_at dksX3_notAll_1 8 rfl rfl)
theorem dX3_notAll_31 : decode cX3_notAll 31 = .ok (.ireturn, 1) := dk_172 (dk_at dksX3_notAll_1 9 rfl rfl)
theorem dX3_notAll_32 : decode cX3_notAll 32 = .ok (.aload_n 0, 1) := dk_42 (dk_at dksX3_notAll_1 10 rfl rfl)
theorem dX3_notAll_33 : decode cX3_notAll 33 = .ok (.invokevirtual 303, 3) := dk_182 1 47 (dk_at dksX3_notAll_1 11 rfl rfl)
theorem dX3_notAll_36 : decode cX3_notAll 36 = .ok (.pop, 1) := dk_87 (dk_at dksX3_notAll_1 14 rfl rfl)
theorem dX3_notAll_37 : decode cX3_notAll 37 = .ok (.aload_n 0, 1) := dk_42 (dk_at dksX3_notAll_1 15 rfl rfl)
theorem dX3_notAll_38 : decode cX3_notAll 38 = .ok (.dup, 1) := dk_89 (dk_at dksX3_notAll_1 16 rfl rfl)
theorem dX3_notAll_39 : decode cX3_notAll 39 = .ok (.getfield 297, 3) := dk_180 1 41 (dk_at dksX3_notAll_1 17 rfl rfl)
theorem dX3_notAll_42 : decode cX3_notAll 42 = .ok (.iconst 1, 1) := dk_4 (dk_at dksX3_notAll_1 20 rfl rfl)
theorem dX3_notAll_43 : decode cX3_notAll 43 = .ok (.iadd, 1) := dk_96 (dk_at dksX3_notAll_1 21 rfl rfl)
theorem dX3_notAll_44 : decode cX3_notAll 44 = .ok (.putfield 297, 3) := dk_181 1 41 (dk_at dksX3_notAll_2 0 rfl rfl)
theorem dX3_notAll_47 : decode cX3_notAll 47 = .ok (.aload_n 0, 1) := dk_42 (dk_at dksX3_notAll_2 3 rfl rfl)
theorem dX3_notAll_48 : decode cX3_notAll 48 = .ok (.bipush 59, 2) := dk_16 59 (dk_at dksX3_notAll_2 4 rfl rfl)
theorem dX3_notAll_50 : decode cX3_notAll 50 = .ok (.invokevirtual 275, 3) := dk_182 1 19 (dk_at dksX3_notAll_2 6 rfl rfl)
theorem dX3_notAll_53 : decode cX3_notAll 53 = .ok (.istore_n 1, 1) := dk_60 (dk_at dksX3_notAll_2 9 rfl rfl)
theorem dX3_notAll_54 : decode cX3_notAll 54 = .ok (.goto (-42), 3) := dk_167 255 214 (dk_at dksX3_notAll_2 10 rfl rfl)
theorem dX3_notAll_57 : decode cX3_notAll 57 = .ok (.iconst 0, 1) := dk_3 (dk_at dksX3_notAll_2 13 rfl rfl)
theorem dX3_notAll_58 : decode cX3_notAll 58 = .ok (.ireturn, 1) := dk_172 (dk_at dksX3_notAll_2 14 rfl rfl)
abbrev cX3_notNow : ByteArray := prog_45_method_104_code
def yX3_notNow : MethodName := ⟨RX3, "notNow", "()I"⟩
def dkwX3_notNow_5 : List UInt8 := [27, 4, 16, 30, 184, 0, 52, 153, 0, 7, 3, 167, 0, 5, 16, 254, 172]
abbrev dktX3_notNow_5 : List UInt8 := dkwX3_notNow_5 ++ []
def dkwX3_notNow_4 : List UInt8 := [42, 27, 182, 0, 156, 172, 42, 27, 182, 0, 165, 172, 42, 27, 42, 180, 0, 39, 4, 46, 182, 0, 177, 172]
abbrev dktX3_notNow_4 : List UInt8 := dkwX3_notNow_4 ++ dktX3_notNow_5
def dkwX3_notNow_3 : List UInt8 := [4, 46, 42, 180, 0, 39, 5, 46, 42, 180, 0, 39, 6, 46, 182, 0, 131, 172, 42, 27, 182, 0, 147, 172]
abbrev dktX3_notNow_3 : List UInt8 := dkwX3_notNow_3 ++ dktX3_notNow_4
def dkwX3_notNow_2 : List UInt8 := [42, 27, 42, 180, 0, 39, 4, 46, 42, 180, 0, 39, 5, 46, 182, 0, 112, 172, 42, 27, 42, 180, 0, 39]
abbrev dktX3_notNow_2 : List UInt8 := dkwX3_notNow_2 ++ dktX3_notNow_3
def dkwX3_notNow_1 : List UInt8 := [170, 0, 0, 0, 109, 0, 0, 0, 0, 0, 0, 0, 5, 0, 0, 0, 37, 0, 0, 0, 55, 0, 0, 0, 79, 0, 0, 0, 85, 0, 0, 0, 91, 0, 0, 0, 97]
abbrev dktX3_notNow_1 : List UInt8 := dkwX3_notNow_1 ++ dktX3_notNow_2
def dkwX3_notNow_0 : List UInt8 := [42, 180, 0, 39, 3, 46, 60, 42, 180, 1, 25]
abbrev dktX3_notNow_0 : List UInt8 := dkwX3_notNow_0 ++ dktX3_notNow_1
theorem dksX3_notNow_0 : cX3_notNow.data.toList.drop 0 = dktX3_notNow_0 := by decide +kernel
theorem dksX3_notNow_1 : cX3_notNow.data.toList.drop 11 = dktX3_notNow_1 := dk_seg dksX3_notNow_0 11 rfl rfl
theorem dksX3_notNow_2 : cX3_notNow.data.toList.drop 48 = dktX3_notNow_2 := dk_seg dksX3_notNow_1 37 rfl rfl
theorem dksX3_notNow_3 : cX3_notNow.data.toList.drop 72 = dktX3_notNow_3 := dk_seg dksX3_notNow_2 24 rfl rfl
theorem dksX3_notNow_4 : cX3_notNow.data.toList.drop 96 = dktX3_notNow_4 := dk_seg dksX3_notNow_3 24 rfl rfl
theorem dksX3_notNow_5 : cX3_notNow.data.toList.drop 120 = dktX3_notNow_5 := dk_seg dksX3_notNow_4 24 rfl rfl
theorem dX3_notNow_0 : decode cX3_notNow 0 = .ok (.aload_n 0, 1) := dk_42 (dk_at dksX3_notNow_0 0 rfl rfl)
theorem dX3_notNow_1 : decode cX3_notNow 1 = .ok (.getfield 39, 3) := dk_180 0 39 (dk_at dksX3_notNow_0 1 rfl rfl)
theorem dX3_notNow_4 : decode cX3_notNow 4 = .ok (.iconst 0, 1) := dk_3 (dk_at dksX3_notNow_0 4 rfl rfl)
theorem dX3_notNow_5 : decode cX3_notNow 5 = .ok (.iaload, 1) := dk_46 (dk_at dksX3_notNow_0 5 rfl rfl)
theorem dX3_notNow_6 : decode cX3_notNow 6 = .ok (.istore_n 1, 1) := dk_60 (dk_at dksX3_notNow_0 6 rfl rfl)
theorem dX3_notNow_7 : decode cX3_notNow 7 = .ok (.aload_n 0, 1) := dk_42 (dk_at dksX3_notNow_0 7 rfl rfl)
theorem dX3_notNow_8 : decode cX3_notNow 8 = .ok (.getfield 281, 3) := dk_180 1 25 (dk_at dksX3_notNow_0 8 rfl rfl)
theorem dX3_notNow_11 : decode cX3_notNow 11 = .ok (.tableswitch 109 0 5 #[37, 55, 79, 85, 91, 97], 37) := by decide +kernel
theorem dX3_notNow_48 : decode cX3_notNow 48 = .ok (.aload_n 0, 1) := dk_42 (dk_at dksX3_notNow_2 0 rfl rfl)
theorem dX3_notNow_49 : decode cX3_notNow 49 = .ok (.iload_n 1, 1) := dk_27 (dk_at dksX3_notNow_2 1 rfl rfl)
theorem dX3_notNow_50 : decode cX3_notNow 50 = .ok (.aload_n 0, 1) := dk_42 (dk_at dksX3_notNow_2 2 rfl rfl)
theorem dX3_notNow_51 : decode cX3_notNow 51 = .ok (.getfield 39, 3) := dk_180 0 39 (dk_at dksX3_notNow_2 3 rfl rfl)
theorem dX3_notNow_54 : decode cX3_notNow 54 = .ok (.iconst 1, 1) := dk_4 (dk_at dksX3_notNow_2 6 rfl rfl)
theorem dX3_notNow_55 : decode cX3_notNow 55 = .ok (.iaload, 1) := dk_46 (dk_at dksX3_notNow_2 7 rfl rfl)
theorem dX3_notNow_56 : decode cX3_notNow 56 = .ok (.aload_n 0, 1) := dk_42 (dk_at dksX3_notNow_2 8 rfl rfl)
theorem dX3_notNow_57 : decode cX3_notNow 57 = .ok (.getfield 39, 3) := dk_180 0 39 (dk_at dksX3_notNow_2 9 rfl rfl)
theorem dX3_notNow_60 : decode cX3_notNow 60 = .ok (.iconst 2, 1) := dk_5 (dk_at dksX3_notNow_2 12 rfl rfl)
theorem dX3_notNow_61 : decode cX3_notNow 61 = .ok (.iaload, 1) := dk_46 (dk_at dksX3_notNow_2 13 rfl rfl)
theorem dX3_notNow_62 : decode cX3_notNow 62 = .ok (.invokevirtual 112, 3) := dk_182 0 112 (dk_at dksX3_notNow_2 14 rfl rfl)
theorem dX3_notNow_65 : decode cX3_notNow 65 = .ok (.ireturn, 1) := dk_172 (dk_at dksX3_notNow_2 17 rfl rfl)
theorem dX3_notNow_66 : decode cX3_notNow 66 = .ok (.aload_n 0, 1) := dk_42 (dk_at dksX3_notNow_2 18 rfl rfl)
theorem dX3_notNow_67 : decode cX3_notNow 67 = .ok (.iload_n 1, 1) := dk_27 (dk_at dksX3_notNow_2 19 rfl rfl)
theorem dX3_notNow_68 : decode cX3_notNow 68 = .ok (.aload_n 0, 1) := dk_42 (dk_at dksX3_notNow_2 20 rfl rfl)
theorem dX3_notNow_69 : decode cX3_notNow 69 = .ok (.getfield 39, 3) := dk_180 0 39 (dk_at dksX3_notNow_2 21 rfl rfl)
theorem dX3_notNow_72 : decode cX3_notNow 72 = .ok (.iconst 1, 1) := dk_4 (dk_at dksX3_notNow_3 0 rfl rfl)
theorem dX3_notNow_73 : decode cX3_notNow 73 = .ok (.iaload, 1) := dk_46 (dk_at dksX3_notNow_3 1 rfl rfl)
theorem dX3_notNow_74 : decode cX3_notNow 74 = .ok (.aload_n 0, 1) := dk_42 (dk_at dksX3_notNow_3 2 rfl rfl)
theorem dX3_notNow_75 : decode cX3_notNow 75 = .ok (.getfield 39, 3) := dk_180 0 39 (dk_at dksX3_notNow_3 3 rfl rfl)
theorem dX3_notNow_78 : decode cX3_notNow 78 = .ok (.iconst 2, 1) := dk_5 (dk_at dksX3_notNow_3 6 rfl rfl)
theorem dX3_notNow_79 : decode cX3_notNow 79 = .ok (.iaload, 1) := dk_46 (dk_at dksX3_notNow_3 7 rfl rfl)
theorem dX3_notNow_80 : decode cX3_notNow 80 = .ok (.aload_n 0, 1) := dk_42 (dk_at dksX3_notNow_3 8 rfl rfl)
theorem dX3_notNow_81 : decode cX3_notNow 81 = .ok (.getfield 39, 3) := dk_180 0 39 (dk_at dksX3_notNow_3 9 rfl rfl)
theorem dX3_notNow_84 : decode cX3_notNow 84 = .ok (.iconst 3, 1) := dk_6 (dk_at dksX3_notNow_3 12 rfl rfl)
theorem dX3_notNow_85 : decode cX3_notNow 85 = .ok (.iaload, 1) := dk_46 (dk_at dksX3_notNow_3 13 rfl rfl)
theorem dX3_notNow_86 : decode cX3_notNow 86 = .ok (.invokevirtual 131, 3) := dk_182 0 131 (dk_at dksX3_notNow_3 14 rfl rfl)
theorem dX3_notNow_89 : decode cX3_notNow 89 = .ok (.ireturn, 1) := dk_172 (dk_at dksX3_notNow_3 17 rfl rfl)
theorem dX3_notNow_90 : decode cX3_notNow 90 = .ok (.aload_n 0, 1) := dk_42 (dk_at dksX3_notNow_3 18 rfl rfl)
theorem dX3_notNow_91 : decode cX3_notNow 91 = .ok (.iload_n 1, 1) := dk_27 (dk_at dksX3_notNow_3 19 rfl rfl)
theorem dX3_notNow_92 : decode cX3_notNow 92 = .ok (.invokevirtual 147, 3) := dk_182 0 147 (dk_at dksX3_notNow_3 20 rfl rfl)
theorem dX3_notNow_95 : decode cX3_notNow 95 = .ok (.ireturn, 1) := dk_172 (dk_at dksX3_notNow_3 23 rfl rfl)
theorem dX3_notNow_96 : decode cX3_notNow 96 = .ok (.aload_n 0, 1) := dk_42 (dk_at dksX3_notNow_4 0 rfl rfl)
theorem dX3_notNow_97 : decode cX3_notNow 97 = .ok (.iload_n 1, 1) := dk_27 (dk_at dksX3_notNow_4 1 rfl rfl)
theorem dX3_notNow_98 : decode cX3_notNow 98 = .ok (.invokevirtual 156, 3) := dk_182 0 156 (dk_at dksX3_notNow_4 2 rfl rfl)
theorem dX3_notNow_101 : decode cX3_notNow 101 = .ok (.ireturn, 1) := dk_172 (dk_at dksX3_notNow_4 5 rfl rfl)
theorem dX3_notNow_102 : decode cX3_notNow 102 = .ok (.aload_n 0, 1) := dk_42 (dk_at dksX3_notNow_4 6 rfl rfl)
theorem dX3_notNow_103 : decode cX3_notNow 103 = .ok (.iload_n 1, 1) := dk_27 (dk_at dksX3_notNow_4 7 rfl rfl)
theorem dX3_notNow_104 : decode cX3_notNow 104 = .ok (.invokevirtual 165, 3) := dk_182 0 165 (dk_at dksX3_notNow_4 8 rfl rfl)
theorem dX3_notNow_107 : decode cX3_notNow 107 = .ok (.ireturn, 1) := dk_172 (dk_at dksX3_notNow_4 11 rfl rfl)
theorem dX3_notNow_108 : decode cX3_notNow 108 = .ok (.aload_n 0, 1) := dk_42 (dk_at dksX3_notNow_4 12 rfl rfl)
theorem dX3_notNow_109 : decode cX3_notNow 109 = .ok (.iload_n 1, 1) := dk_27 (dk_at dksX3_notNow_4 13 rfl rfl)
theorem dX3_notNow_110 : decode cX3_notNow 110 = .ok (.aload_n 0, 1) := dk_42 (dk_at dksX3_notNow_4 14 rfl rfl)
theorem dX3_notNow_111 : decode cX3_notNow 111 = .ok (.getfield 39, 3) := dk_180 0 39 (dk_at dksX3_notNow_4 15 rfl rfl)
theorem dX3_notNow_114 : decode cX3_notNow 114 = .ok (.iconst 1, 1) := dk_4 (dk_at dksX3_notNow_4 18 rfl rfl)
theorem dX3_notNow_115 : decode cX3_notNow 115 = .ok (.iaload, 1) := dk_46 (dk_at dksX3_notNow_4 19 rfl rfl)
theorem dX3_notNow_116 : decode cX3_notNow 116 = .ok (.invokevirtual 177, 3) := dk_182 0 177 (dk_at dksX3_notNow_4 20 rfl rfl)
theorem dX3_notNow_119 : decode cX3_notNow 119 = .ok (.ireturn, 1) := dk_172 (dk_at dksX3_notNow_4 23 rfl rfl)
theorem dX3_notNow_120 : decode cX3_notNow 120 = .ok (.iload_n 1, 1) := dk_27 (dk_at dksX3_notNow_5 0 rfl rfl)
theorem dX3_notNow_121 : decode cX3_notNow 121 = .ok (.iconst 1, 1) := dk_4 (dk_at dksX3_notNow_5 1 rfl rfl)
theorem dX3_notNow_122 : decode cX3_notNow 122 = .ok (.bipush 30, 2) := dk_16 30 (dk_at dksX3_notNow_5 2 rfl rfl)
theorem dX3_notNow_124 : decode cX3_notNow 124 = .ok (.invokestatic 52, 3) := dk_184 0 52 (dk_at dksX3_notNow_5 4 rfl rfl)
theorem dX3_notNow_127 : decode cX3_notNow 127 = .ok (.ifCond .eq 7, 3) := dk_153 0 7 (dk_at dksX3_notNow_5 7 rfl rfl)
theorem dX3_notNow_130 : decode cX3_notNow 130 = .ok (.iconst 0, 1) := dk_3 (dk_at dksX3_notNow_5 10 rfl rfl)
theorem dX3_notNow_131 : decode cX3_notNow 131 = .ok (.goto 5, 3) := dk_167 0 5 (dk_at dksX3_notNow_5 11 rfl rfl)
theorem dX3_notNow_134 : decode cX3_notNow 134 = .ok (.bipush (-2), 2) := dk_16 254 (dk_at dksX3_notNow_5 14 rfl rfl)
theorem dX3_notNow_136 : decode cX3_notNow 136 = .ok (.ireturn, 1) := dk_172 (dk_at dksX3_notNow_5 16 rfl rfl)
abbrev cX3_doesNow : ByteArray := prog_45_method_105_code
def yX3_doesNow : MethodName := ⟨RX3, "doesNow", "()I"⟩
def dkwX3_doesNow_5 : List UInt8 := [42, 27, 182, 0, 201, 172]
abbrev dktX3_doesNow_5 : List UInt8 := dkwX3_doesNow_5 ++ []
def dkwX3_doesNow_4 : List UInt8 := [42, 27, 182, 0, 159, 172, 42, 27, 182, 0, 168, 172, 42, 27, 42, 180, 0, 39, 4, 46, 182, 0, 180, 172]
abbrev dktX3_doesNow_4 : List UInt8 := dkwX3_doesNow_4 ++ dktX3_doesNow_5
def dkwX3_doesNow_3 : List UInt8 := [4, 46, 42, 180, 0, 39, 5, 46, 42, 180, 0, 39, 6, 46, 182, 0, 135, 172, 42, 27, 182, 0, 150, 172]
abbrev dktX3_doesNow_3 : List UInt8 := dkwX3_doesNow_3 ++ dktX3_doesNow_4
def dkwX3_doesNow_2 : List UInt8 := [42, 27, 42, 180, 0, 39, 4, 46, 42, 180, 0, 39, 5, 46, 182, 0, 122, 172, 42, 27, 42, 180, 0, 39]
abbrev dktX3_doesNow_2 : List UInt8 := dkwX3_doesNow_2 ++ dktX3_doesNow_3
def dkwX3_doesNow_1 : List UInt8 := [170, 0, 0, 0, 109, 0, 0, 0, 0, 0, 0, 0, 5, 0, 0, 0, 37, 0, 0, 0, 55, 0, 0, 0, 79, 0, 0, 0, 85, 0, 0, 0, 91, 0, 0, 0, 97]
abbrev dktX3_doesNow_1 : List UInt8 := dkwX3_doesNow_1 ++ dktX3_doesNow_2
def dkwX3_doesNow_0 : List UInt8 := [42, 180, 0, 39, 3, 46, 60, 42, 180, 1, 25]
abbrev dktX3_doesNow_0 : List UInt8 := dkwX3_doesNow_0 ++ dktX3_doesNow_1
theorem dksX3_doesNow_0 : cX3_doesNow.data.toList.drop 0 = dktX3_doesNow_0 := by decide +kernel
theorem dksX3_doesNow_1 : cX3_doesNow.data.toList.drop 11 = dktX3_doesNow_1 := dk_seg dksX3_doesNow_0 11 rfl rfl
theorem dksX3_doesNow_2 : cX3_doesNow.data.toList.drop 48 = dktX3_doesNow_2 := dk_seg dksX3_doesNow_1 37 rfl rfl
theorem dksX3_doesNow_3 : cX3_doesNow.data.toList.drop 72 = dktX3_doesNow_3 := dk_seg dksX3_doesNow_2 24 rfl rfl
theorem dksX3_doesNow_4 : cX3_doesNow.data.toList.drop 96 = dktX3_doesNow_4 := dk_seg dksX3_doesNow_3 24 rfl rfl
theorem dksX3_doesNow_5 : cX3_doesNow.data.toList.drop 120 = dktX3_doesNow_5 := dk_seg dksX3_doesNow_4 24 rfl rfl
theorem dX3_doesNow_0 : decode cX3_doesNow 0 = .ok (.aload_n 0, 1) := dk_42 (dk_at dksX3_doesNow_0 0 rfl rfl)
theorem dX3_doesNow_1 : decode cX3_doesNow 1 = .ok (.getfield 39, 3) := dk_180 0 39 (dk_at dksX3_doesNow_0 1 rfl rfl)
theorem dX3_doesNow_4 : decode cX3_doesNow 4 = .ok (.iconst 0, 1) := dk_3 (dk_at dksX3_doesNow_0 4 rfl rfl)
theorem dX3_doesNow_5 : decode cX3_doesNow 5 = .ok (.iaload, 1) := dk_46 (dk_at dksX3_doesNow_0 5 rfl rfl)
theorem dX3_doesNow_6 : decode cX3_doesNow 6 = .ok (.istore_n 1, 1) := dk_60 (dk_at dksX3_doesNow_0 6 rfl rfl)
theorem dX3_doesNow_7 : decode cX3_doesNow 7 = .ok (.aload_n 0, 1) := dk_42 (dk_at dksX3_doesNow_0 7 rfl rfl)
theorem dX3_doesNow_8 : decode cX3_doesNow 8 = .ok (.getfield 281, 3) := dk_180 1 25 (dk_at dksX3_doesNow_0 8 rfl rfl)
theorem dX3_doesNow_11 : decode cX3_doesNow 11 = .ok (.tableswitch 109 0 5 #[37, 55, 79, 85, 91, 97], 37) := by decide +kernel
theorem dX3_doesNow_48 : decode cX3_doesNow 48 = .ok (.aload_n 0, 1) := dk_42 (dk_at dksX3_doesNow_2 0 rfl rfl)
theorem dX3_doesNow_49 : decode cX3_doesNow 49 = .ok (.iload_n 1, 1) := dk_27 (dk_at dksX3_doesNow_2 1 rfl rfl)
theorem dX3_doesNow_50 : decode cX3_doesNow 50 = .ok (.aload_n 0, 1) := dk_42 (dk_at dksX3_doesNow_2 2 rfl rfl)
theorem dX3_doesNow_51 : decode cX3_doesNow 51 = .ok (.getfield 39, 3) := dk_180 0 39 (dk_at dksX3_doesNow_2 3 rfl rfl)
theorem dX3_doesNow_54 : decode cX3_doesNow 54 = .ok (.iconst 1, 1) := dk_4 (dk_at dksX3_doesNow_2 6 rfl rfl)
theorem dX3_doesNow_55 : decode cX3_doesNow 55 = .ok (.iaload, 1) := dk_46 (dk_at dksX3_doesNow_2 7 rfl rfl)
theorem dX3_doesNow_56 : decode cX3_doesNow 56 = .ok (.aload_n 0, 1) := dk_42 (dk_at dksX3_doesNow_2 8 rfl rfl)
theorem dX3_doesNow_57 : decode cX3_doesNow 57 = .ok (.getfield 39, 3) := dk_180 0 39 (dk_at dksX3_doesNow_2 9 rfl rfl)
theorem dX3_doesNow_60 : decode cX3_doesNow 60 = .ok (.iconst 2, 1) := dk_5 (dk_at dksX3_doesNow_2 12 rfl rfl)
theorem dX3_doesNow_61 : decode cX3_doesNow 61 = .ok (.iaload, 1) := dk_46 (dk_at dksX3_doesNow_2 13 rfl rfl)
theorem dX3_doesNow_62 : decode cX3_doesNow 62 = .ok (.invokevirtual 122, 3) := dk_182 0 122 (dk_at dksX3_doesNow_2 14 rfl rfl)
theorem dX3_doesNow_65 : decode cX3_doesNow 65 = .ok (.ireturn, 1) := dk_172 (dk_at dksX3_doesNow_2 17 rfl rfl)
theorem dX3_doesNow_66 : decode cX3_doesNow 66 = .ok (.aload_n 0, 1) := dk_42 (dk_at dksX3_doesNow_2 18 rfl rfl)
theorem dX3_doesNow_67 : decode cX3_doesNow 67 = .ok (.iload_n 1, 1) := dk_27 (dk_at dksX3_doesNow_2 19 rfl rfl)
theorem dX3_doesNow_68 : decode cX3_doesNow 68 = .ok (.aload_n 0, 1) := dk_42 (dk_at dksX3_doesNow_2 20 rfl rfl)
theorem dX3_doesNow_69 : decode cX3_doesNow 69 = .ok (.getfield 39, 3) := dk_180 0 39 (dk_at dksX3_doesNow_2 21 rfl rfl)
theorem dX3_doesNow_72 : decode cX3_doesNow 72 = .ok (.iconst 1, 1) := dk_4 (dk_at dksX3_doesNow_3 0 rfl rfl)
theorem dX3_doesNow_73 : decode cX3_doesNow 73 = .ok (.iaload, 1) := dk_46 (dk_at dksX3_doesNow_3 1 rfl rfl)
theorem dX3_doesNow_74 : decode cX3_doesNow 74 = .ok (.aload_n 0, 1) := dk_42 (dk_at dksX3_doesNow_3 2 rfl rfl)
theorem dX3_doesNow_75 : decode cX3_doesNow 75 = .ok (.getfield 39, 3) := dk_180 0 39 (dk_at dksX3_doesNow_3 3 rfl rfl)
theorem dX3_doesNow_78 : decode cX3_doesNow 78 = .ok (.iconst 2, 1) := dk_5 (dk_at dksX3_doesNow_3 6 rfl rfl)
theorem dX3_doesNow_79 : decode cX3_doesNow 79 = .ok (.iaload, 1) := dk_46 (dk_at dksX3_doesNow_3 7 rfl rfl)
theorem dX3_doesNow_80 : decode cX3_doesNow 80 = .ok (.aload_n 0, 1) := dk_42 (dk_at dksX3_doesNow_3 8 rfl rfl)
theorem dX3_doesNow_81 : decode cX3_doesNow 81 = .ok (.getfield 39, 3) := dk_180 0 39 (dk_at dksX3_doesNow_3 9 rfl rfl)
theorem dX3_doesNow_84 : decode cX3_doesNow 84 = .ok (.iconst 3, 1) := dk_6 (dk_at dksX3_doesNow_3 12 rfl rfl)
theorem dX3_doesNow_85 : decode cX3_doesNow 85 = .ok (.iaload, 1) := dk_46 (dk_at dksX3_doesNow_3 13 rfl rfl)
theorem dX3_doesNow_86 : decode cX3_doesNow 86 = .ok (.invokevirtual 135, 3) := dk_182 0 135 (dk_at dksX3_doesNow_3 14 rfl rfl)
theorem dX3_doesNow_89 : decode cX3_doesNow 89 = .ok (.ireturn, 1) := dk_172 (dk_at dksX3_doesNow_3 17 rfl rfl)
theorem dX3_doesNow_90 : decode cX3_doesNow 90 = .ok (.aload_n 0, 1) := dk_42 (dk_at dksX3_doesNow_3 18 rfl rfl)
theorem dX3_doesNow_91 : decode cX3_doesNow 91 = .ok (.iload_n 1, 1) := dk_27 (dk_at dksX3_doesNow_3 19 rfl rfl)
theorem dX3_doesNow_92 : decode cX3_doesNow 92 = .ok (.invokevirtual 150, 3) := dk_182 0 150 (dk_at dksX3_doesNow_3 20 rfl rfl)
theorem dX3_doesNow_95 : decode cX3_doesNow 95 = .ok (.ireturn, 1) := dk_172 (dk_at dksX3_doesNow_3 23 rfl rfl)
theorem dX3_doesNow_96 : decode cX3_doesNow 96 = .ok (.aload_n 0, 1) := dk_42 (dk_at dksX3_doesNow_4 0 rfl rfl)
theorem dX3_doesNow_97 : decode cX3_doesNow 97 = .ok (.iload_n 1, 1) := dk_27 (dk_at dksX3_doesNow_4 1 rfl rfl)
theorem dX3_doesNow_98 : decode cX3_doesNow 98 = .ok (.invokevirtual 159, 3) := dk_182 0 159 (dk_at dksX3_doesNow_4 2 rfl rfl)
theorem dX3_doesNow_101 : decode cX3_doesNow 101 = .ok (.ireturn, 1) := dk_172 (dk_at dksX3_doesNow_4 5 rfl rfl)
theorem dX3_doesNow_102 : decode cX3_doesNow 102 = .ok (.aload_n 0, 1) := dk_42 (dk_at dksX3_doesNow_4 6 rfl rfl)
theorem dX3_doesNow_103 : decode cX3_doesNow 103 = .ok (.iload_n 1, 1) := dk_27 (dk_at dksX3_doesNow_4 7 rfl rfl)
theorem dX3_doesNow_104 : decode cX3_doesNow 104 = .ok (.invokevirtual 168, 3) := dk_182 0 168 (dk_at dksX3_doesNow_4 8 rfl rfl)
theorem dX3_doesNow_107 : decode cX3_doesNow 107 = .ok (.ireturn, 1) := dk_172 (dk_at dksX3_doesNow_4 11 rfl rfl)
theorem dX3_doesNow_108 : decode cX3_doesNow 108 = .ok (.aload_n 0, 1) := dk_42 (dk_at dksX3_doesNow_4 12 rfl rfl)
theorem dX3_doesNow_109 : decode cX3_doesNow 109 = .ok (.iload_n 1, 1) := dk_27 (dk_at dksX3_doesNow_4 13 rfl rfl)
theorem dX3_doesNow_110 : decode cX3_doesNow 110 = .ok (.aload_n 0, 1) := dk_42 (dk_at dksX3_doesNow_4 14 rfl rfl)
theorem dX3_doesNow_111 : decode cX3_doesNow 111 = .ok (.getfield 39, 3) := dk_180 0 39 (dk_at dksX3_doesNow_4 15 rfl rfl)
theorem dX3_doesNow_114 : decode cX3_doesNow 114 = .ok (.iconst 1, 1) := dk_4 (dk_at dksX3_doesNow_4 18 rfl rfl)
theorem dX3_doesNow_115 : decode cX3_doesNow 115 = .ok (.iaload, 1) := dk_46 (dk_at dksX3_doesNow_4 19 rfl rfl)
theorem dX3_doesNow_116 : decode cX3_doesNow 116 = .ok (.invokevirtual 180, 3) := dk_182 0 180 (dk_at dksX3_doesNow_4 20 rfl rfl)
theorem dX3_doesNow_119 : decode cX3_doesNow 119 = .ok (.ireturn, 1) := dk_172 (dk_at dksX3_doesNow_4 23 rfl rfl)
theorem dX3_doesNow_120 : decode cX3_doesNow 120 = .ok (.aload_n 0, 1) := dk_42 (dk_at dksX3_doesNow_5 0 rfl rfl)
theorem dX3_doesNow_121 : decode cX3_doesNow 121 = .ok (.iload_n 1, 1) := dk_27 (dk_at dksX3_doesNow_5 1 rfl rfl)
theorem dX3_doesNow_122 : decode cX3_doesNow 122 = .ok (.invokevirtual 201, 3) := dk_182 0 201 (dk_at dksX3_doesNow_5 2 rfl rfl)
theorem dX3_doesNow_125 : decode cX3_doesNow 125 = .ok (.ireturn, 1) := dk_172 (dk_at dksX3_doesNow_5 5 rfl rfl)
abbrev cX3_undo : ByteArray := prog_45_method_108_code
def yX3_undo : MethodName := ⟨RX3, "undo", "()I"⟩
def dkwX3_undo_2 : List UInt8 := [180, 0, 19, 16, 112, 27, 104, 28, 96, 46, 79, 132, 2, 1, 167, 255, 230, 42, 180, 0, 56, 172]
abbrev dktX3_undo_2 : List UInt8 := dkwX3_undo_2 ++ []
def dkwX3_undo_1 : List UInt8 := [42, 180, 0, 56, 96, 16, 8, 112, 60, 3, 61, 28, 16, 112, 162, 0, 26, 42, 180, 0, 16, 28, 42]
abbrev dktX3_undo_1 : List UInt8 := dkwX3_undo_1 ++ dktX3_undo_2
def dkwX3_undo_0 : List UInt8 := [42, 180, 0, 56, 154, 0, 6, 16, 253, 172, 42, 89, 180, 0, 56, 4, 100, 181, 0, 56, 42, 180, 0, 59]
abbrev dktX3_undo_0 : List UInt8 := dkwX3_undo_0 ++ dktX3_undo_1
theorem dksX3_undo_0 : cX3_undo.data.toList.drop 0 = dktX3_undo_0 := by decide +kernel
theorem dksX3_undo_1 : cX3_undo.data.toList.drop 24 = dktX3_undo_1 := dk_seg dksX3_undo_0 24 rfl rfl
theorem dksX3_undo_2 : cX3_undo.data.toList.drop 47 = dktX3_undo_2 := dk_seg dksX3_undo_1 23 rfl rfl
theorem dX3_undo_0 : decode cX3_undo 0 = .ok (.aload_n 0, 1) := dk_42 (dk_at dksX3_undo_0 0 rfl rfl)
theorem dX3_undo_1 : decode cX3_undo 1 = .ok (.getfield 56, 3) := dk_180 0 56 (dk_at dksX3_undo_0 1 rfl rfl)
theorem dX3_undo_4 : decode cX3_undo 4 = .ok (.ifCond .ne 6, 3) := dk_154 0 6 (dk_at dksX3_undo_0 4 rfl rfl)
theorem dX3_undo_7 : decode cX3_undo 7 = .ok (.bipush (-3), 2) := dk_16 253 (dk_at dksX3_undo_0 7 rfl rfl)
theorem dX3_undo_9 : decode cX3_undo 9 = .ok (.ireturn, 1) := dk_172 (dk_at dksX3_undo_0 9 rfl rfl)
theorem dX3_undo_10 : decode cX3_undo 10 = .ok (.aload_n 0, 1) := dk_42 (dk_at dksX3_undo_0 10 rfl rfl)
theorem dX3_undo_11 : decode cX3_undo 11 = .ok (.dup, 1) := dk_89 (dk_at dksX3_undo_0 11 rfl rfl)
theorem dX3_undo_12 : decode cX3_undo 12 = .ok (.getfield 56, 3) := dk_180 0 56 (dk_at dksX3_undo_0 12 rfl rfl)
theorem dX3_undo_15 : decode cX3_undo 15 = .ok (.iconst 1, 1) := dk_4 (dk_at dksX3_undo_0 15 rfl rfl)
theorem dX3_undo_16 : decode cX3_undo 16 = .ok (.isub, 1) := dk_100 (dk_at dksX3_undo_0 16 rfl rfl)
theorem dX3_undo_17 : decode cX3_undo 17 = .ok (.putfield 56, 3) := dk_181 0 56 (dk_at dksX3_undo_0 17 rfl rfl)
theorem dX3_undo_20 : decode cX3_undo 20 = .ok (.aload_n 0, 1) := dk_42 (dk_at dksX3_undo_0 20 rfl rfl)
theorem dX3_undo_21 : decode cX3_undo 21 = .ok (.getfield 59, 3) := dk_180 0 59 (dk_at dksX3_undo_0 21 rfl rfl)
theorem dX3_undo_24 : decode cX3_undo 24 = .ok (.aload_n 0, 1) := dk_42 (dk_at dksX3_undo_1 0 rfl rfl)
theorem dX3_undo_25 : decode cX3_undo 25 = .ok (.getfield 56, 3) := dk_180 0 56 (dk_at dksX3_undo_1 1 rfl rfl)
theorem dX3_undo_28 : decode cX3_undo 28 = .ok (.iadd, 1) := dk_96 (dk_at dksX3_undo_1 4 rfl rfl)
theorem dX3_undo_29 : decode cX3_undo 29 = .ok (.bipush 8, 2) := dk_16 8 (dk_at dksX3_undo_1 5 rfl rfl)
theorem dX3_undo_31 : decode cX3_undo 31 = .ok (.irem, 1) := dk_112 (dk_at dksX3_undo_1 7 rfl rfl)
theorem dX3_undo_32 : decode cX3_undo 32 = .ok (.istore_n 1, 1) := dk_60 (dk_at dksX3_undo_1 8 rfl rfl)
theorem dX3_undo_33 : decode cX3_undo 33 = .ok (.iconst 0, 1) := dk_3 (dk_at dksX3_undo_1 9 rfl rfl)
theorem dX3_undo_34 : decode cX3_undo 34 = .ok (.istore_n 2, 1) := dk_61 (dk_at dksX3_undo_1 10 rfl rfl)
theorem dX3_undo_35 : decode cX3_undo 35 = .ok (.iload_n 2, 1) := dk_28 (dk_at dksX3_undo_1 11 rfl rfl)
theorem dX3_undo_36 : decode cX3_undo 36 = .ok (.bipush 112, 2) := dk_16 112 (dk_at dksX3_undo_1 12 rfl rfl)
theorem dX3_undo_38 : decode cX3_undo 38 = .ok (.if_icmp .ge 26, 3) := dk_162 0 26 (dk_at dksX3_undo_1 14 rfl rfl)
theorem dX3_undo_41 : decode cX3_undo 41 = .ok (.aload_n 0, 1) := dk_42 (dk_at dksX3_undo_1 17 rfl rfl)
theorem dX3_undo_42 : decode cX3_undo 42 = .ok (.getfield 16, 3) := dk_180 0 16 (dk_at dksX3_undo_1 18 rfl rfl)
theorem dX3_undo_45 : decode cX3_undo 45 = .ok (.iload_n 2, 1) := dk_28 (dk_at dksX3_undo_1 21 rfl rfl)
theorem dX3_undo_46 : decode cX3_undo 46 = .ok (.aload_n 0, 1) := dk_42 (dk_at dksX3_undo_1 22 rfl rfl)
theorem dX3_undo_47 : decode cX3_undo 47 = .ok (.getfield 19, 3) := dk_180 0 19 (dk_at dksX3_undo_2 0 rfl rfl)
theorem dX3_undo_50 : decode cX3_undo 50 = .ok (.bipush 112, 2) := dk_16 112 (dk_at dksX3_undo_2 3 rfl rfl)
theorem dX3_undo_52 : decode cX3_undo 52 = .ok (.iload_n 1, 1) := dk_27 (dk_at dksX3_undo_2 5 rfl rfl)
theorem dX3_undo_53 : decode cX3_undo 53 = .ok (.imul, 1) := dk_104 (dk_at dksX3_undo_2 6 rfl rfl)
theorem dX3_undo_54 : decode cX3_undo 54 = .ok (.iload_n 2, 1) := dk_28 (dk_at dksX3_undo_2 7 rfl rfl)
theorem dX3_undo_55 : decode cX3_undo 55 = .ok (.iadd, 1) := dk_96 (dk_at dksX3_undo_2 8 rfl rfl)
theorem dX3_undo_56 : decode cX3_undo 56 = .ok (.iaload, 1) := dk_46 (dk_at dksX3_undo_2 9 rfl rfl)
theorem dX3_undo_57 : decode cX3_undo 57 = .ok (.iastore, 1) := dk_79 (dk_at dksX3_undo_2 10 rfl rfl)
theorem dX3_undo_58 : decode cX3_undo 58 = .ok (.iinc 2 1, 3) := dk_132 2 1 (dk_at dksX3_undo_2 11 rfl rfl)
theorem dX3_undo_61 : decode cX3_undo 61 = .ok (.goto (-26), 3) := dk_167 255 230 (dk_at dksX3_undo_2 14 rfl rfl)
theorem dX3_undo_64 : decode cX3_undo 64 = .ok (.aload_n 0, 1) := dk_42 (dk_at dksX3_undo_2 17 rfl rfl)
theorem dX3_undo_65 : decode cX3_undo 65 = .ok (.getfield 56, 3) := dk_180 0 56 (dk_at dksX3_undo_2 18 rfl rfl)
theorem dX3_undo_68 : decode cX3_undo 68 = .ok (.ireturn, 1) := dk_172 (dk_at dksX3_undo_2 21 rfl rfl)
abbrev cX3_save : ByteArray := prog_45_method_109_code
def yX3_save : MethodName := ⟨RX3, "save", "()I"⟩
def dkwX3_save_1 : List UInt8 := [167, 255, 235, 42, 4, 181, 1, 56, 42, 180, 0, 16, 3, 46, 172]
abbrev dktX3_save_1 : List UInt8 := dkwX3_save_1 ++ []
def dkwX3_save_0 : List UInt8 := [3, 60, 27, 16, 112, 162, 0, 21, 42, 180, 0, 22, 27, 42, 180, 0, 16, 27, 46, 79, 132, 1, 1]
abbrev dktX3_save_0 : List UInt8 := dkwX3_save_0 ++ dktX3_save_1
theorem dksX3_save_0 : cX3_save.data.toList.drop 0 = dktX3_save_0 := by decide +kernel
theorem dksX3_save_1 : cX3_save.data.toList.drop 23 = dktX3_save_1 := dk_seg dksX3_save_0 23 rfl rfl
theorem dX3_save_0 : decode cX3_save 0 = .ok (.iconst 0, 1) := dk_3 (dk_at dksX3_save_0 0 rfl rfl)
theorem dX3_save_1 : decode cX3_save 1 = .ok (.istore_n 1, 1) := dk_60 (dk_at dksX3_save_0 1 rfl rfl)
theorem dX3_save_2 : decode cX3_save 2 = .ok (.iload_n 1, 1) := dk_27 (dk_at dksX3_save_0 2 rfl rfl)
theorem dX3_save_3 : decode cX3_save 3 = .ok (.bipush 112, 2) := dk_16 112 (dk_at dksX3_save_0 3 rfl rfl)
theorem dX3_save_5 : decode cX3_save 5 = .ok (.if_icmp .ge 21, 3) := dk_162 0 21 (dk_at dksX3_save_0 5 rfl rfl)
theorem dX3_save_8 : decode cX3_save 8 = .ok (.aload_n 0, 1) := dk_42 (dk_at dksX3_save_0 8 rfl rfl)
theorem dX3_save_9 : decode cX3_save 9 = .ok (.getfield 22, 3) := dk_180 0 22 (dk_at dksX3_save_0 9 rfl rfl)
theorem dX3_save_12 : decode cX3_save 12 = .ok (.iload_n 1, 1) := dk_27 (dk_at dksX3_save_0 12 rfl rfl)
theorem dX3_save_13 : decode cX3_save 13 = .ok (.aload_n 0, 1) := dk_42 (dk_at dksX3_save_0 13 rfl rfl)
theorem dX3_save_14 : decode cX3_save 14 = .ok (.getfield 16, 3) := dk_180 0 16 (dk_at dksX3_save_0 14 rfl rfl)
theorem dX3_save_17 : decode cX3_save 17 = .ok (.iload_n 1, 1) := dk_27 (dk_at dksX3_save_0 17 rfl rfl)
theorem dX3_save_18 : decode cX3_save 18 = .ok (.iaload, 1) := dk_46 (dk_at dksX3_save_0 18 rfl rfl)
theorem dX3_save_19 : decode cX3_save 19 = .ok (.iastore, 1) := dk_79 (dk_at dksX3_save_0 19 rfl rfl)
theorem dX3_save_20 : decode cX3_save 20 = .ok (.iinc 1 1, 3) := dk_132 1 1 (dk_at dksX3_save_0 20 rfl rfl)
theorem dX3_save_23 : decode cX3_save 23 = .ok (.goto (-21), 3) := dk_167 255 235 (dk_at dksX3_save_1 0 rfl rfl)
theorem dX3_save_26 : decode cX3_save 26 = .ok (.aload_n 0, 1) := dk_42 (dk_at dksX3_save_1 3 rfl rfl)
theorem dX3_save_27 : decode cX3_save 27 = .ok (.iconst 1, 1) := dk_4 (dk_at dksX3_save_1 4 rfl rfl)
theorem dX3_save_28 : decode cX3_save 28 = .ok (.putfield 312, 3) := dk_181 1 56 (dk_at dksX3_save_1 5 rfl rfl)
theorem dX3_save_31 : decode cX3_save 31 = .ok (.aload_n 0, 1) := dk_42 (dk_at dksX3_save_1 8 rfl rfl)
theorem dX3_save_32 : decode cX3_save 32 = .ok (.getfield 16, 3) := dk_180 0 16 (dk_at dksX3_save_1 9 rfl rfl)
theorem dX3_save_35 : decode cX3_save 35 = .ok (.iconst 0, 1) := dk_3 (dk_at dksX3_save_1 12 rfl rfl)
theorem dX3_save_36 : decode cX3_save 36 = .ok (.iaload, 1) := dk_46 (dk_at dksX3_save_1 13 rfl rfl)
theorem dX3_save_37 : decode cX3_save 37 = .ok (.ireturn, 1) := dk_172 (dk_at dksX3_save_1 14 rfl rfl)
abbrev cX3_restore : ByteArray := prog_45_method_110_code
def yX3_restore : MethodName := ⟨RX3, "restore", "()I"⟩
def dkwX3_restore_2 : List UInt8 := [180, 0, 16, 3, 46, 172]
abbrev dktX3_restore_2 : List UInt8 := dkwX3_restore_2 ++ []
def dkwX3_restore_1 : List UInt8 := [180, 0, 22, 27, 46, 79, 132, 1, 1, 167, 255, 235, 42, 3, 181, 0, 56, 42, 3, 181, 0, 59, 42]
abbrev dktX3_restore_1 : List UInt8 := dkwX3_restore_1 ++ dktX3_restore_2
def dkwX3_restore_0 : List UInt8 := [42, 180, 1, 56, 154, 0, 6, 16, 253, 172, 3, 60, 27, 16, 112, 162, 0, 21, 42, 180, 0, 16, 27, 42]
abbrev dktX3_restore_0 : List UInt8 := dkwX3_restore_0 ++ dktX3_restore_1
theorem dksX3_restore_0 : cX3_restore.data.toList.drop 0 = dktX3_restore_0 := by decide +kernel
theorem dksX3_restore_1 : cX3_restore.data.toList.drop 24 = dktX3_restore_1 := dk_seg dksX3_restore_0 24 rfl rfl
theorem dksX3_restore_2 : cX3_restore.data.toList.drop 47 = dktX3_restore_2 := dk_seg dksX3_restore_1 23 rfl rfl
theorem dX3_restore_0 : decode cX3_restore 0 = .ok (.aload_n 0, 1) := dk_42 (dk_at dksX3_restore_0 0 rfl rfl)
theorem dX3_restore_1 : decode cX3_restore 1 = .ok (.getfield 312, 3) := dk_180 1 56 (dk_at dksX3_restore_0 1 rfl rfl)
theorem dX3_restore_4 : decode cX3_restore 4 = .ok (.ifCond .ne 6, 3) := dk_154 0 6 (dk_at dksX3_restore_0 4 rfl rfl)
theorem dX3_restore_7 : decode cX3_restore 7 = .ok (.bipush (-3), 2) := dk_16 253 (dk_at dksX3_restore_0 7 rfl rfl)
theorem dX3_restore_9 : decode cX3_restore 9 = .ok (.ireturn, 1) := dk_172 (dk_at dksX3_restore_0 9 rfl rfl)
theorem dX3_restore_10 : decode cX3_restore 10 = .ok (.iconst 0, 1) := dk_3 (dk_at dksX3_restore_0 10 rfl rfl)
theorem dX3_restore_11 : decode cX3_restore 11 = .ok (.istore_n 1, 1) := dk_60 (dk_at dksX3_restore_0 11 rfl rfl)
theorem dX3_restore_12 : decode cX3_restore 12 = .ok (.iload_n 1, 1) := dk_27 (dk_at dksX3_restore_0 12 rfl rfl)
theorem dX3_restore_13 : decode cX3_restore 13 = .ok (.bipush 112, 2) := dk_16 112 (dk_at dksX3_restore_0 13 rfl rfl)
theorem dX3_restore_15 : decode cX3_restore 15 = .ok (.if_icmp .ge 21, 3) := dk_162 0 21 (dk_at dksX3_restore_0 15 rfl rfl)
theorem dX3_restore_18 : decode cX3_restore 18 = .ok (.aload_n 0, 1) := dk_42 (dk_at dksX3_restore_0 18 rfl rfl)
theorem dX3_restore_19 : decode cX3_restore 19 = .ok (.getfield 16, 3) := dk_180 0 16 (dk_at dksX3_restore_0 19 rfl rfl)
theorem dX3_restore_22 : decode cX3_restore 22 = .ok (.iload_n 1, 1) := dk_27 (dk_at dksX3_restore_0 22 rfl rfl)
theorem dX3_restore_23 : decode cX3_restore 23 = .ok (.aload_n 0, 1) := dk_42 (dk_at dksX3_restore_0 23 rfl rfl)
theorem dX3_restore_24 : decode cX3_restore 24 = .ok (.getfield 22, 3) := dk_180 0 22 (dk_at dksX3_restore_1 0 rfl rfl)
theorem dX3_restore_27 : decode cX3_restore 27 = .ok (.iload_n 1, 1) := dk_27 (dk_at dksX3_restore_1 3 rfl rfl)
theorem dX3_restore_28 : decode cX3_restore 28 = .ok (.iaload, 1) := dk_46 (dk_at dksX3_restore_1 4 rfl rfl)
theorem dX3_restore_29 : decode cX3_restore 29 = .ok (.iastore, 1) := dk_79 (dk_at dksX3_restore_1 5 rfl rfl)
theorem dX3_restore_30 : decode cX3_restore 30 = .ok (.iinc 1 1, 3) := dk_132 1 1 (dk_at dksX3_restore_1 6 rfl rfl)
theorem dX3_restore_33 : decode cX3_restore 33 = .ok (.goto (-21), 3) := dk_167 255 235 (dk_at dksX3_restore_1 9 rfl rfl)
theorem dX3_restore_36 : decode cX3_restore 36 = .ok (.aload_n 0, 1) := dk_42 (dk_at dksX3_restore_1 12 rfl rfl)
theorem dX3_restore_37 : decode cX3_restore 37 = .ok (.iconst 0, 1) := dk_3 (dk_at dksX3_restore_1 13 rfl rfl)
theorem dX3_restore_38 : decode cX3_restore 38 = .ok (.putfield 56, 3) := dk_181 0 56 (dk_at dksX3_restore_1 14 rfl rfl)
theorem dX3_restore_41 : decode cX3_restore 41 = .ok (.aload_n 0, 1) := dk_42 (dk_at dksX3_restore_1 17 rfl rfl)
theorem dX3_restore_42 : decode cX3_restore 42 = .ok (.iconst 0, 1) := dk_3 (dk_at dksX3_restore_1 18 rfl rfl)
theorem dX3_restore_43 : decode cX3_restore 43 = .ok (.putfield 59, 3) := dk_181 0 59 (dk_at dksX3_restore_1 19 rfl rfl)
theorem dX3_restore_46 : decode cX3_restore 46 = .ok (.aload_n 0, 1) := dk_42 (dk_at dksX3_restore_1 22 rfl rfl)
theorem dX3_restore_47 : decode cX3_restore 47 = .ok (.getfield 16, 3) := dk_180 0 16 (dk_at dksX3_restore_2 0 rfl rfl)
theorem dX3_restore_50 : decode cX3_restore 50 = .ok (.iconst 0, 1) := dk_3 (dk_at dksX3_restore_2 3 rfl rfl)
theorem dX3_restore_51 : decode cX3_restore 51 = .ok (.iaload, 1) := dk_46 (dk_at dksX3_restore_2 4 rfl rfl)
theorem dX3_restore_52 : decode cX3_restore 52 = .ok (.ireturn, 1) := dk_172 (dk_at dksX3_restore_2 5 rfl rfl)
theorem q117 : (Jvm.Cond.initialized "HamletWellsModel") ∈ lw_all := lw_g (lw_at lw_m1 8 rfl) rfl
theorem q642 : (Jvm.Cond.selects "HamletWellsModel" ({ cls := "java/lang/Object", name := "getClass", desc := "()Ljava/lang/Class;" } : Jvm.MethodName) ({ cls := "java/lang/Object", name := "getClass", desc := "()Ljava/lang/Class;" } : Jvm.MethodName)) ∈ lw_all := lw_g (lw_at lw_m3 53 rfl) rfl
theorem q2974 : (Jvm.Cond.instantiable "HamletWellsModel" (21 : Nat)) ∈ lw_all := lw_g (lw_at lw_m12 225 rfl) rfl
theorem q2976 : (Jvm.Cond.instanceMethod ({ cls := "HamletWellsModel", name := "<init>", desc := "()V" } : Jvm.MethodName)) ∈ lw_all := lw_g (lw_at lw_m12 227 rfl) rfl
theorem q2977 : (Jvm.Cond.code ({ cls := "HamletWellsModel", name := "<init>", desc := "()V" } : Jvm.MethodName) prog_45_method_1_code (1 : Nat) (Option.none : Option Jvm.ClassFile.FieldType)) ∈ lw_all := lw_g (lw_at lw_m12 228 rfl) rfl
theorem q2978 : (Jvm.Cond.methodLink "HamletWellsModel" (1 : Nat) ({ cls := "java/lang/Object", name := "<init>", desc := "()V" } : Jvm.MethodName)) ∈ lw_all := lw_g (lw_at lw_m12 229 rfl) rfl
theorem q2979 : (Jvm.Cond.fieldLink "HamletWellsModel" (7 : Nat) "HamletWellsModel" "whys" "[I") ∈ lw_all := lw_g (lw_at lw_m12 230 rfl) rfl
theorem q2980 : (Jvm.Cond.fieldLink "HamletWellsModel" (13 : Nat) "HamletWellsModel" "details" "[I") ∈ lw_all := lw_g (lw_at lw_m12 231 rfl) rfl
theorem q2981 : (Jvm.Cond.fieldLink "HamletWellsModel" (42 : Nat) "HamletWellsModel" "reasonNow" "I") ∈ lw_all := lw_g (lw_at lw_m12 232 rfl) rfl
theorem q2982 : (Jvm.Cond.fieldLink "HamletWellsModel" (45 : Nat) "HamletWellsModel" "detailNow" "I") ∈ lw_all := lw_g (lw_at lw_m12 233 rfl) rfl
theorem q2983 : (Jvm.Cond.fieldLink "HamletWellsModel" (16 : Nat) "HamletWellsModel" "w" "[I") ∈ lw_all := lw_g (lw_at lw_m12 234 rfl) rfl
theorem q2984 : (Jvm.Cond.fieldLink "HamletWellsModel" (19 : Nat) "HamletWellsModel" "undos" "[I") ∈ lw_all := lw_g (lw_at lw_m12 235 rfl) rfl
theorem q2985 : (Jvm.Cond.fieldLink "HamletWellsModel" (22 : Nat) "HamletWellsModel" "savedRow" "[I") ∈ lw_all := lw_g (lw_at lw_m12 236 rfl) rfl
theorem q2986 : (Jvm.Cond.fieldLink "HamletWellsModel" (25 : Nat) "HamletWellsModel" "mind" "[I") ∈ lw_all := lw_g (lw_at lw_m12 237 rfl) rfl
theorem q2987 : (Jvm.Cond.fieldLink "HamletWellsModel" (56 : Nat) "HamletWellsModel" "changes" "I") ∈ lw_all := lw_g (lw_at lw_m12 238 rfl) rfl
theorem q2988 : (Jvm.Cond.fieldLink "HamletWellsModel" (59 : Nat) "HamletWellsModel" "firstChange" "I") ∈ lw_all := lw_g (lw_at lw_m12 239 rfl) rfl
theorem q2989 : (Jvm.Cond.fieldLink "HamletWellsModel" (312 : Nat) "HamletWellsModel" "isSaved" "Z") ∈ lw_all := lw_g (lw_at lw_m13 0 rfl) rfl
theorem q2990 : (Jvm.Cond.fieldLink "HamletWellsModel" (228 : Nat) "HamletWellsModel" "leastFrom" "I") ∈ lw_all := lw_g (lw_at lw_m13 1 rfl) rfl
theorem q2991 : (Jvm.Cond.fieldLink "HamletWellsModel" (28 : Nat) "HamletWellsModel" "line" "[C") ∈ lw_all := lw_g (lw_at lw_m13 2 rfl) rfl
theorem q2992 : (Jvm.Cond.fieldLink "HamletWellsModel" (255 : Nat) "HamletWellsModel" "lineLength" "I") ∈ lw_all := lw_g (lw_at lw_m13 3 rfl) rfl
theorem q2993 : (Jvm.Cond.fieldLink "HamletWellsModel" (32 : Nat) "HamletWellsModel" "input" "[C") ∈ lw_all := lw_g (lw_at lw_m13 4 rfl) rfl
theorem q2994 : (Jvm.Cond.fieldLink "HamletWellsModel" (252 : Nat) "HamletWellsModel" "length" "I") ∈ lw_all := lw_g (lw_at lw_m13 5 rfl) rfl
theorem q2995 : (Jvm.Cond.fieldLink "HamletWellsModel" (267 : Nat) "HamletWellsModel" "at" "I") ∈ lw_all := lw_g (lw_at lw_m13 6 rfl) rfl
theorem q2996 : (Jvm.Cond.fieldLink "HamletWellsModel" (35 : Nat) "HamletWellsModel" "faultAt" "I") ∈ lw_all := lw_g (lw_at lw_m13 7 rfl) rfl
theorem q2997 : (Jvm.Cond.fieldLink "HamletWellsModel" (39 : Nat) "HamletWellsModel" "numbers" "[I") ∈ lw_all := lw_g (lw_at lw_m13 8 rfl) rfl
theorem q2998 : (Jvm.Cond.fieldLink "HamletWellsModel" (281 : Nat) "HamletWellsModel" "sort" "I") ∈ lw_all := lw_g (lw_at lw_m13 9 rfl) rfl
theorem q2999 : (Jvm.Cond.fieldLink "HamletWellsModel" (297 : Nat) "HamletWellsModel" "done" "I") ∈ lw_all := lw_g (lw_at lw_m13 10 rfl) rfl
theorem q3000 : (Jvm.Cond.laysFinal "HamletWellsModel" "HamletWellsModel" "whys" "[I") ∈ lw_all := lw_g (lw_at lw_m13 11 rfl) rfl
theorem q3001 : (Jvm.Cond.soleField "HamletWellsModel" "whys") ∈ lw_all := lw_g (lw_at lw_m13 12 rfl) rfl
theorem q3002 : (Jvm.Cond.laysFinal "HamletWellsModel" "HamletWellsModel" "details" "[I") ∈ lw_all := lw_g (lw_at lw_m13 13 rfl) rfl
theorem q3003 : (Jvm.Cond.soleField "HamletWellsModel" "details") ∈ lw_all := lw_g (lw_at lw_m13 14 rfl) rfl
theorem q3004 : (Jvm.Cond.lays "HamletWellsModel" "HamletWellsModel" "reasonNow" "I") ∈ lw_all := lw_g (lw_at lw_m13 15 rfl) rfl
theorem q3005 : (Jvm.Cond.soleField "HamletWellsModel" "reasonNow") ∈ lw_all := lw_g (lw_at lw_m13 16 rfl) rfl
theorem q3006 : (Jvm.Cond.lays "HamletWellsModel" "HamletWellsModel" "detailNow" "I") ∈ lw_all := lw_g (lw_at lw_m13 17 rfl) rfl
theorem q3007 : (Jvm.Cond.soleField "HamletWellsModel" "detailNow") ∈ lw_all := lw_g (lw_at lw_m13 18 rfl) rfl
theorem q3008 : (Jvm.Cond.laysFinal "HamletWellsModel" "HamletWellsModel" "w" "[I") ∈ lw_all := lw_g (lw_at lw_m13 19 rfl) rfl
theorem q3009 : (Jvm.Cond.soleField "HamletWellsModel" "w") ∈ lw_all := lw_g (lw_at lw_m13 20 rfl) rfl
theorem q3010 : (Jvm.Cond.laysFinal "HamletWellsModel" "HamletWellsModel" "undos" "[I") ∈ lw_all := lw_g (lw_at lw_m13 21 rfl) rfl
theorem q3011 : (Jvm.Cond.soleField "HamletWellsModel" "undos") ∈ lw_all := lw_g (lw_at lw_m13 22 rfl) rfl
theorem q3012 : (Jvm.Cond.laysFinal "HamletWellsModel" "HamletWellsModel" "savedRow" "[I") ∈ lw_all := lw_g (lw_at lw_m13 23 rfl) rfl
theorem q3013 : (Jvm.Cond.soleField "HamletWellsModel" "savedRow") ∈ lw_all := lw_g (lw_at lw_m13 24 rfl) rfl
theorem q3014 : (Jvm.Cond.laysFinal "HamletWellsModel" "HamletWellsModel" "mind" "[I") ∈ lw_all := lw_g (lw_at lw_m13 25 rfl) rfl
theorem q3015 : (Jvm.Cond.soleField "HamletWellsModel" "mind") ∈ lw_all := lw_g (lw_at lw_m13 26 rfl) rfl
theorem q3016 : (Jvm.Cond.lays "HamletWellsModel" "HamletWellsModel" "changes" "I") ∈ lw_all := lw_g (lw_at lw_m13 27 rfl) rfl
theorem q3017 : (Jvm.Cond.soleField "HamletWellsModel" "changes") ∈ lw_all := lw_g (lw_at lw_m13 28 rfl) rfl
theorem q3018 : (Jvm.Cond.lays "HamletWellsModel" "HamletWellsModel" "firstChange" "I") ∈ lw_all := lw_g (lw_at lw_m13 29 rfl) rfl
theorem q3019 : (Jvm.Cond.soleField "HamletWellsModel" "firstChange") ∈ lw_all := lw_g (lw_at lw_m13 30 rfl) rfl
theorem q3020 : (Jvm.Cond.lays "HamletWellsModel" "HamletWellsModel" "isSaved" "Z") ∈ lw_all := lw_g (lw_at lw_m13 31 rfl) rfl
theorem q3021 : (Jvm.Cond.soleField "HamletWellsModel" "isSaved") ∈ lw_all := lw_g (lw_at lw_m13 32 rfl) rfl
theorem q3022 : (Jvm.Cond.lays "HamletWellsModel" "HamletWellsModel" "leastFrom" "I") ∈ lw_all := lw_g (lw_at lw_m13 33 rfl) rfl
theorem q3023 : (Jvm.Cond.soleField "HamletWellsModel" "leastFrom") ∈ lw_all := lw_g (lw_at lw_m13 34 rfl) rfl
theorem q3024 : (Jvm.Cond.laysFinal "HamletWellsModel" "HamletWellsModel" "line" "[C") ∈ lw_all := lw_g (lw_at lw_m13 35 rfl) rfl
theorem q3025 : (Jvm.Cond.soleField "HamletWellsModel" "line") ∈ lw_all := lw_g (lw_at lw_m13 36 rfl) rfl
theorem q3026 : (Jvm.Cond.lays "HamletWellsModel" "HamletWellsModel" "lineLength" "I") ∈ lw_all := lw_g (lw_at lw_m13 37 rfl) rfl
theorem q3027 : (Jvm.Cond.soleField "HamletWellsModel" "lineLength") ∈ lw_all := lw_g (lw_at lw_m13 38 rfl) rfl
theorem q3028 : (Jvm.Cond.laysFinal "HamletWellsModel" "HamletWellsModel" "input" "[C") ∈ lw_all := lw_g (lw_at lw_m13 39 rfl) rfl
theorem q3029 : (Jvm.Cond.soleField "HamletWellsModel" "input") ∈ lw_all := lw_g (lw_at lw_m13 40 rfl) rfl
theorem q3030 : (Jvm.Cond.lays "HamletWellsModel" "HamletWellsModel" "length" "I") ∈ lw_all := lw_g (lw_at lw_m13 41 rfl) rfl
theorem q3031 : (Jvm.Cond.soleField "HamletWellsModel" "length") ∈ lw_all := lw_g (lw_at lw_m13 42 rfl) rfl
theorem q3032 : (Jvm.Cond.lays "HamletWellsModel" "HamletWellsModel" "at" "I") ∈ lw_all := lw_g (lw_at lw_m13 43 rfl) rfl
theorem q3033 : (Jvm.Cond.soleField "HamletWellsModel" "at") ∈ lw_all := lw_g (lw_at lw_m13 44 rfl) rfl
theorem q3034 : (Jvm.Cond.lays "HamletWellsModel" "HamletWellsModel" "faultAt" "I") ∈ lw_all := lw_g (lw_at lw_m13 45 rfl) rfl
theorem q3035 : (Jvm.Cond.soleField "HamletWellsModel" "faultAt") ∈ lw_all := lw_g (lw_at lw_m13 46 rfl) rfl
theorem q3036 : (Jvm.Cond.laysFinal "HamletWellsModel" "HamletWellsModel" "numbers" "[I") ∈ lw_all := lw_g (lw_at lw_m13 47 rfl) rfl
theorem q3037 : (Jvm.Cond.soleField "HamletWellsModel" "numbers") ∈ lw_all := lw_g (lw_at lw_m13 48 rfl) rfl
theorem q3038 : (Jvm.Cond.lays "HamletWellsModel" "HamletWellsModel" "sort" "I") ∈ lw_all := lw_g (lw_at lw_m13 49 rfl) rfl
theorem q3039 : (Jvm.Cond.soleField "HamletWellsModel" "sort") ∈ lw_all := lw_g (lw_at lw_m13 50 rfl) rfl
theorem q3040 : (Jvm.Cond.lays "HamletWellsModel" "HamletWellsModel" "done" "I") ∈ lw_all := lw_g (lw_at lw_m13 51 rfl) rfl
theorem q3041 : (Jvm.Cond.soleField "HamletWellsModel" "done") ∈ lw_all := lw_g (lw_at lw_m13 52 rfl) rfl
theorem q3042 : (Jvm.Cond.superclass "HamletWellsModel" "java/lang/Object") ∈ lw_all := lw_g (lw_at lw_m13 53 rfl) rfl
theorem q3044 : (Jvm.Cond.instanceMethod ({ cls := "HamletWellsModel", name := "reason", desc := "(IZ)I" } : Jvm.MethodName)) ∈ lw_all := lw_g (lw_at lw_m13 55 rfl) rfl
theorem q3045 : (Jvm.Cond.selects "HamletWellsModel" ({ cls := "HamletWellsModel", name := "reason", desc := "(IZ)I" } : Jvm.MethodName) ({ cls := "HamletWellsModel", name := "reason", desc := "(IZ)I" } : Jvm.MethodName)) ∈ lw_all := lw_g (lw_at lw_m13 56 rfl) rfl
theorem q3046 : (Jvm.Cond.code ({ cls := "HamletWellsModel", name := "reason", desc := "(IZ)I" } : Jvm.MethodName) prog_45_method_7_code (3 : Nat) (Option.some Jvm.ClassFile.FieldType.int)) ∈ lw_all := lw_g (lw_at lw_m13 57 rfl) rfl
theorem q3047 : (Jvm.Cond.methodLink "HamletWellsModel" (52 : Nat) ({ cls := "HamletWellsModel", name := "isBetween", desc := "(III)Z" } : Jvm.MethodName)) ∈ lw_all := lw_g (lw_at lw_m13 58 rfl) rfl
theorem q3048 : (Jvm.Cond.static ({ cls := "HamletWellsModel", name := "isBetween", desc := "(III)Z" } : Jvm.MethodName)) ∈ lw_all := lw_g (lw_at lw_m13 59 rfl) rfl
theorem q3049 : (Jvm.Cond.code ({ cls := "HamletWellsModel", name := "isBetween", desc := "(III)Z" } : Jvm.MethodName) prog_45_method_2_code (3 : Nat) (Option.some Jvm.ClassFile.FieldType.boolean)) ∈ lw_all := lw_g (lw_at lw_m13 60 rfl) rfl
theorem q3051 : (Jvm.Cond.instanceMethod ({ cls := "HamletWellsModel", name := "hamlet", desc := "(III)I" } : Jvm.MethodName)) ∈ lw_all := lw_g (lw_at lw_m13 62 rfl) rfl
theorem q3052 : (Jvm.Cond.selects "HamletWellsModel" ({ cls := "HamletWellsModel", name := "hamlet", desc := "(III)I" } : Jvm.MethodName) ({ cls := "HamletWellsModel", name := "hamlet", desc := "(III)I" } : Jvm.MethodName)) ∈ lw_all := lw_g (lw_at lw_m13 63 rfl) rfl
theorem q3053 : (Jvm.Cond.code ({ cls := "HamletWellsModel", name := "hamlet", desc := "(III)I" } : Jvm.MethodName) prog_45_method_35_code (5 : Nat) (Option.some Jvm.ClassFile.FieldType.int)) ∈ lw_all := lw_g (lw_at lw_m13 64 rfl) rfl
theorem q3054 : (Jvm.Cond.methodLink "HamletWellsModel" (112 : Nat) ({ cls := "HamletWellsModel", name := "notHamlet", desc := "(III)I" } : Jvm.MethodName)) ∈ lw_all := lw_g (lw_at lw_m13 65 rfl) rfl
theorem q3055 : (Jvm.Cond.privateMethod ({ cls := "HamletWellsModel", name := "notHamlet", desc := "(III)I" } : Jvm.MethodName)) ∈ lw_tbl := lw_at lw_m13 66 rfl
theorem q3056 : (Jvm.Cond.instanceMethod ({ cls := "HamletWellsModel", name := "notHamlet", desc := "(III)I" } : Jvm.MethodName)) ∈ lw_all := lw_g (lw_at lw_m13 67 rfl) rfl
theorem q3057 : (Jvm.Cond.code ({ cls := "HamletWellsModel", name := "notHamlet", desc := "(III)I" } : Jvm.MethodName) prog_45_method_33_code (4 : Nat) (Option.some Jvm.ClassFile.FieldType.int)) ∈ lw_all := lw_g (lw_at lw_m13 68 rfl) rfl
theorem q3058 : (Jvm.Cond.methodLink "HamletWellsModel" (103 : Nat) ({ cls := "HamletWellsModel", name := "isPlace", desc := "(II)Z" } : Jvm.MethodName)) ∈ lw_all := lw_g (lw_at lw_m13 69 rfl) rfl
theorem q3059 : (Jvm.Cond.static ({ cls := "HamletWellsModel", name := "isPlace", desc := "(II)Z" } : Jvm.MethodName)) ∈ lw_all := lw_g (lw_at lw_m13 70 rfl) rfl
theorem q3060 : (Jvm.Cond.code ({ cls := "HamletWellsModel", name := "isPlace", desc := "(II)Z" } : Jvm.MethodName) prog_45_method_30_code (2 : Nat) (Option.some Jvm.ClassFile.FieldType.boolean)) ∈ lw_all := lw_g (lw_at lw_m13 71 rfl) rfl
theorem q3061 : (Jvm.Cond.methodLink "HamletWellsModel" (106 : Nat) ({ cls := "HamletWellsModel", name := "isNot", desc := "(II)I" } : Jvm.MethodName)) ∈ lw_all := lw_g (lw_at lw_m13 72 rfl) rfl
theorem q3062 : (Jvm.Cond.privateMethod ({ cls := "HamletWellsModel", name := "isNot", desc := "(II)I" } : Jvm.MethodName)) ∈ lw_tbl := lw_at lw_m13 73 rfl
theorem q3063 : (Jvm.Cond.instanceMethod ({ cls := "HamletWellsModel", name := "isNot", desc := "(II)I" } : Jvm.MethodName)) ∈ lw_all := lw_g (lw_at lw_m13 74 rfl) rfl
theorem q3064 : (Jvm.Cond.code ({ cls := "HamletWellsModel", name := "isNot", desc := "(II)I" } : Jvm.MethodName) prog_45_method_4_code (3 : Nat) (Option.some Jvm.ClassFile.FieldType.int)) ∈ lw_all := lw_g (lw_at lw_m13 75 rfl) rfl
theorem q3065 : (Jvm.Cond.methodLink "HamletWellsModel" (109 : Nat) ({ cls := "HamletWellsModel", name := "hamletAt", desc := "(II)I" } : Jvm.MethodName)) ∈ lw_all := lw_g (lw_at lw_m13 76 rfl) rfl
theorem q3066 : (Jvm.Cond.privateMethod ({ cls := "HamletWellsModel", name := "hamletAt", desc := "(II)I" } : Jvm.MethodName)) ∈ lw_tbl := lw_at lw_m13 77 rfl
theorem q3067 : (Jvm.Cond.instanceMethod ({ cls := "HamletWellsModel", name := "hamletAt", desc := "(II)I" } : Jvm.MethodName)) ∈ lw_all := lw_g (lw_at lw_m13 78 rfl) rfl
theorem q3068 : (Jvm.Cond.code ({ cls := "HamletWellsModel", name := "hamletAt", desc := "(II)I" } : Jvm.MethodName) prog_45_method_31_code (4 : Nat) (Option.some Jvm.ClassFile.FieldType.int)) ∈ lw_all := lw_g (lw_at lw_m13 79 rfl) rfl
theorem q3069 : (Jvm.Cond.methodLink "HamletWellsModel" (72 : Nat) ({ cls := "HamletWellsModel", name := "hamletIs", desc := "(II)I" } : Jvm.MethodName)) ∈ lw_all := lw_g (lw_at lw_m13 80 rfl) rfl
theorem q3070 : (Jvm.Cond.privateMethod ({ cls := "HamletWellsModel", name := "hamletIs", desc := "(II)I" } : Jvm.MethodName)) ∈ lw_tbl := lw_at lw_m13 81 rfl
theorem q3071 : (Jvm.Cond.instanceMethod ({ cls := "HamletWellsModel", name := "hamletIs", desc := "(II)I" } : Jvm.MethodName)) ∈ lw_all := lw_g (lw_at lw_m13 82 rfl) rfl
theorem q3072 : (Jvm.Cond.code ({ cls := "HamletWellsModel", name := "hamletIs", desc := "(II)I" } : Jvm.MethodName) prog_45_method_14_code (3 : Nat) (Option.some Jvm.ClassFile.FieldType.int)) ∈ lw_all := lw_g (lw_at lw_m13 83 rfl) rfl
theorem q3073 : (Jvm.Cond.methodLink "HamletWellsModel" (116 : Nat) ({ cls := "HamletWellsModel", name := "refuses", desc := "(I)I" } : Jvm.MethodName)) ∈ lw_all := lw_g (lw_at lw_m13 84 rfl) rfl
theorem q3074 : (Jvm.Cond.privateMethod ({ cls := "HamletWellsModel", name := "refuses", desc := "(I)I" } : Jvm.MethodName)) ∈ lw_tbl := lw_at lw_m13 85 rfl
theorem q3075 : (Jvm.Cond.instanceMethod ({ cls := "HamletWellsModel", name := "refuses", desc := "(I)I" } : Jvm.MethodName)) ∈ lw_all := lw_g (lw_at lw_m13 86 rfl) rfl
theorem q3076 : (Jvm.Cond.code ({ cls := "HamletWellsModel", name := "refuses", desc := "(I)I" } : Jvm.MethodName) prog_45_method_6_code (2 : Nat) (Option.some Jvm.ClassFile.FieldType.int)) ∈ lw_all := lw_g (lw_at lw_m13 87 rfl) rfl
theorem q3077 : (Jvm.Cond.methodLink "HamletWellsModel" (48 : Nat) ({ cls := "HamletWellsModel", name := "keepsAt", desc := "(III)V" } : Jvm.MethodName)) ∈ lw_all := lw_g (lw_at lw_m13 88 rfl) rfl
theorem q3078 : (Jvm.Cond.privateMethod ({ cls := "HamletWellsModel", name := "keepsAt", desc := "(III)V" } : Jvm.MethodName)) ∈ lw_tbl := lw_at lw_m13 89 rfl
theorem q3079 : (Jvm.Cond.instanceMethod ({ cls := "HamletWellsModel", name := "keepsAt", desc := "(III)V" } : Jvm.MethodName)) ∈ lw_all := lw_g (lw_at lw_m13 90 rfl) rfl
theorem q3080 : (Jvm.Cond.code ({ cls := "HamletWellsModel", name := "keepsAt", desc := "(III)V" } : Jvm.MethodName) prog_45_method_5_code (4 : Nat) (Option.none : Option Jvm.ClassFile.FieldType)) ∈ lw_all := lw_g (lw_at lw_m13 91 rfl) rfl
theorem q3081 : (Jvm.Cond.methodLink "HamletWellsModel" (119 : Nat) ({ cls := "HamletWellsModel", name := "remembers", desc := "()V" } : Jvm.MethodName)) ∈ lw_all := lw_g (lw_at lw_m13 92 rfl) rfl
theorem q3082 : (Jvm.Cond.privateMethod ({ cls := "HamletWellsModel", name := "remembers", desc := "()V" } : Jvm.MethodName)) ∈ lw_tbl := lw_at lw_m13 93 rfl
theorem q3083 : (Jvm.Cond.instanceMethod ({ cls := "HamletWellsModel", name := "remembers", desc := "()V" } : Jvm.MethodName)) ∈ lw_all := lw_g (lw_at lw_m13 94 rfl) rfl
theorem q3084 : (Jvm.Cond.code ({ cls := "HamletWellsModel", name := "remembers", desc := "()V" } : Jvm.MethodName) prog_45_method_11_code (1 : Nat) (Option.none : Option Jvm.ClassFile.FieldType)) ∈ lw_all := lw_g (lw_at lw_m13 95 rfl) rfl
theorem q3085 : (Jvm.Cond.methodLink "HamletWellsModel" (62 : Nat) ({ cls := "HamletWellsModel", name := "thinks", desc := "()V" } : Jvm.MethodName)) ∈ lw_all := lw_g (lw_at lw_m13 96 rfl) rfl
theorem q3086 : (Jvm.Cond.privateMethod ({ cls := "HamletWellsModel", name := "thinks", desc := "()V" } : Jvm.MethodName)) ∈ lw_tbl := lw_at lw_m13 97 rfl
theorem q3087 : (Jvm.Cond.instanceMethod ({ cls := "HamletWellsModel", name := "thinks", desc := "()V" } : Jvm.MethodName)) ∈ lw_all := lw_g (lw_at lw_m13 98 rfl) rfl
theorem q3088 : (Jvm.Cond.code ({ cls := "HamletWellsModel", name := "thinks", desc := "()V" } : Jvm.MethodName) prog_45_method_8_code (2 : Nat) (Option.none : Option Jvm.ClassFile.FieldType)) ∈ lw_all := lw_g (lw_at lw_m13 99 rfl) rfl
theorem q3089 : (Jvm.Cond.methodLink "HamletWellsModel" (65 : Nat) ({ cls := "HamletWellsModel", name := "keepsMind", desc := "()V" } : Jvm.MethodName)) ∈ lw_all := lw_g (lw_at lw_m13 100 rfl) rfl
theorem q3090 : (Jvm.Cond.privateMethod ({ cls := "HamletWellsModel", name := "keepsMind", desc := "()V" } : Jvm.MethodName)) ∈ lw_tbl := lw_at lw_m13 101 rfl
theorem q3091 : (Jvm.Cond.instanceMethod ({ cls := "HamletWellsModel", name := "keepsMind", desc := "()V" } : Jvm.MethodName)) ∈ lw_all := lw_g (lw_at lw_m13 102 rfl) rfl
theorem q3092 : (Jvm.Cond.code ({ cls := "HamletWellsModel", name := "keepsMind", desc := "()V" } : Jvm.MethodName) prog_45_method_10_code (3 : Nat) (Option.none : Option Jvm.ClassFile.FieldType)) ∈ lw_all := lw_g (lw_at lw_m13 103 rfl) rfl
theorem q3093 : (Jvm.Cond.methodLink "HamletWellsModel" (122 : Nat) ({ cls := "HamletWellsModel", name := "tellsHamlet", desc := "(III)I" } : Jvm.MethodName)) ∈ lw_all := lw_g (lw_at lw_m13 104 rfl) rfl
theorem q3094 : (Jvm.Cond.privateMethod ({ cls := "HamletWellsModel", name := "tellsHamlet", desc := "(III)I" } : Jvm.MethodName)) ∈ lw_tbl := lw_at lw_m13 105 rfl
theorem q3095 : (Jvm.Cond.instanceMethod ({ cls := "HamletWellsModel", name := "tellsHamlet", desc := "(III)I" } : Jvm.MethodName)) ∈ lw_all := lw_g (lw_at lw_m13 106 rfl) rfl
theorem q3096 : (Jvm.Cond.code ({ cls := "HamletWellsModel", name := "tellsHamlet", desc := "(III)I" } : Jvm.MethodName) prog_45_method_34_code (6 : Nat) (Option.some Jvm.ClassFile.FieldType.int)) ∈ lw_all := lw_g (lw_at lw_m13 107 rfl) rfl
theorem q3098 : (Jvm.Cond.instanceMethod ({ cls := "HamletWellsModel", name := "site", desc := "(IIII)I" } : Jvm.MethodName)) ∈ lw_all := lw_g (lw_at lw_m13 109 rfl) rfl
theorem q3099 : (Jvm.Cond.selects "HamletWellsModel" ({ cls := "HamletWellsModel", name := "site", desc := "(IIII)I" } : Jvm.MethodName) ({ cls := "HamletWellsModel", name := "site", desc := "(IIII)I" } : Jvm.MethodName)) ∈ lw_all := lw_g (lw_at lw_m13 110 rfl) rfl
theorem q3100 : (Jvm.Cond.code ({ cls := "HamletWellsModel", name := "site", desc := "(IIII)I" } : Jvm.MethodName) prog_45_method_38_code (6 : Nat) (Option.some Jvm.ClassFile.FieldType.int)) ∈ lw_all := lw_g (lw_at lw_m13 111 rfl) rfl
theorem q3101 : (Jvm.Cond.methodLink "HamletWellsModel" (131 : Nat) ({ cls := "HamletWellsModel", name := "notSite", desc := "(IIII)I" } : Jvm.MethodName)) ∈ lw_all := lw_g (lw_at lw_m13 112 rfl) rfl
theorem q3102 : (Jvm.Cond.privateMethod ({ cls := "HamletWellsModel", name := "notSite", desc := "(IIII)I" } : Jvm.MethodName)) ∈ lw_tbl := lw_at lw_m13 113 rfl
theorem q3103 : (Jvm.Cond.instanceMethod ({ cls := "HamletWellsModel", name := "notSite", desc := "(IIII)I" } : Jvm.MethodName)) ∈ lw_all := lw_g (lw_at lw_m13 114 rfl) rfl
theorem q3104 : (Jvm.Cond.code ({ cls := "HamletWellsModel", name := "notSite", desc := "(IIII)I" } : Jvm.MethodName) prog_45_method_36_code (5 : Nat) (Option.some Jvm.ClassFile.FieldType.int)) ∈ lw_all := lw_g (lw_at lw_m13 115 rfl) rfl
theorem q3105 : (Jvm.Cond.methodLink "HamletWellsModel" (125 : Nat) ({ cls := "HamletWellsModel", name := "siteAt", desc := "(II)I" } : Jvm.MethodName)) ∈ lw_all := lw_g (lw_at lw_m13 116 rfl) rfl
theorem q3106 : (Jvm.Cond.privateMethod ({ cls := "HamletWellsModel", name := "siteAt", desc := "(II)I" } : Jvm.MethodName)) ∈ lw_tbl := lw_at lw_m13 117 rfl
theorem q3107 : (Jvm.Cond.instanceMethod ({ cls := "HamletWellsModel", name := "siteAt", desc := "(II)I" } : Jvm.MethodName)) ∈ lw_all := lw_g (lw_at lw_m13 118 rfl) rfl
theorem q3108 : (Jvm.Cond.code ({ cls := "HamletWellsModel", name := "siteAt", desc := "(II)I" } : Jvm.MethodName) prog_45_method_32_code (4 : Nat) (Option.some Jvm.ClassFile.FieldType.int)) ∈ lw_all := lw_g (lw_at lw_m13 119 rfl) rfl
theorem q3109 : (Jvm.Cond.methodLink "HamletWellsModel" (68 : Nat) ({ cls := "HamletWellsModel", name := "siteIs", desc := "(II)I" } : Jvm.MethodName)) ∈ lw_all := lw_g (lw_at lw_m13 120 rfl) rfl
theorem q3110 : (Jvm.Cond.privateMethod ({ cls := "HamletWellsModel", name := "siteIs", desc := "(II)I" } : Jvm.MethodName)) ∈ lw_tbl := lw_at lw_m13 121 rfl
theorem q3111 : (Jvm.Cond.instanceMethod ({ cls := "HamletWellsModel", name := "siteIs", desc := "(II)I" } : Jvm.MethodName)) ∈ lw_all := lw_g (lw_at lw_m13 122 rfl) rfl
theorem q3112 : (Jvm.Cond.code ({ cls := "HamletWellsModel", name := "siteIs", desc := "(II)I" } : Jvm.MethodName) prog_45_method_15_code (3 : Nat) (Option.some Jvm.ClassFile.FieldType.int)) ∈ lw_all := lw_g (lw_at lw_m13 123 rfl) rfl
theorem q3113 : (Jvm.Cond.methodLink "HamletWellsModel" (135 : Nat) ({ cls := "HamletWellsModel", name := "tellsSite", desc := "(IIII)I" } : Jvm.MethodName)) ∈ lw_all := lw_g (lw_at lw_m13 124 rfl) rfl
theorem q3114 : (Jvm.Cond.privateMethod ({ cls := "HamletWellsModel", name := "tellsSite", desc := "(IIII)I" } : Jvm.MethodName)) ∈ lw_tbl := lw_at lw_m13 125 rfl
theorem q3115 : (Jvm.Cond.instanceMethod ({ cls := "HamletWellsModel", name := "tellsSite", desc := "(IIII)I" } : Jvm.MethodName)) ∈ lw_all := lw_g (lw_at lw_m13 126 rfl) rfl
theorem q3116 : (Jvm.Cond.code ({ cls := "HamletWellsModel", name := "tellsSite", desc := "(IIII)I" } : Jvm.MethodName) prog_45_method_37_code (7 : Nat) (Option.some Jvm.ClassFile.FieldType.int)) ∈ lw_all := lw_g (lw_at lw_m13 127 rfl) rfl
theorem q3117 : (Jvm.Cond.methodLink "HamletWellsModel" (128 : Nat) ({ cls := "HamletWellsModel", name := "setsSite", desc := "(III)V" } : Jvm.MethodName)) ∈ lw_all := lw_g (lw_at lw_m13 128 rfl) rfl
theorem q3118 : (Jvm.Cond.privateMethod ({ cls := "HamletWellsModel", name := "setsSite", desc := "(III)V" } : Jvm.MethodName)) ∈ lw_tbl := lw_at lw_m13 129 rfl
theorem q3119 : (Jvm.Cond.instanceMethod ({ cls := "HamletWellsModel", name := "setsSite", desc := "(III)V" } : Jvm.MethodName)) ∈ lw_all := lw_g (lw_at lw_m13 130 rfl) rfl
theorem q3120 : (Jvm.Cond.code ({ cls := "HamletWellsModel", name := "setsSite", desc := "(III)V" } : Jvm.MethodName) prog_45_method_16_code (4 : Nat) (Option.none : Option Jvm.ClassFile.FieldType)) ∈ lw_all := lw_g (lw_at lw_m13 131 rfl) rfl
theorem q3122 : (Jvm.Cond.instanceMethod ({ cls := "HamletWellsModel", name := "open", desc := "(I)I" } : Jvm.MethodName)) ∈ lw_all := lw_g (lw_at lw_m13 133 rfl) rfl
theorem q3123 : (Jvm.Cond.selects "HamletWellsModel" ({ cls := "HamletWellsModel", name := "open", desc := "(I)I" } : Jvm.MethodName) ({ cls := "HamletWellsModel", name := "open", desc := "(I)I" } : Jvm.MethodName)) ∈ lw_all := lw_g (lw_at lw_m13 134 rfl) rfl
theorem q3124 : (Jvm.Cond.code ({ cls := "HamletWellsModel", name := "open", desc := "(I)I" } : Jvm.MethodName) prog_45_method_41_code (3 : Nat) (Option.some Jvm.ClassFile.FieldType.int)) ∈ lw_all := lw_g (lw_at lw_m13 135 rfl) rfl
theorem q3125 : (Jvm.Cond.methodLink "HamletWellsModel" (147 : Nat) ({ cls := "HamletWellsModel", name := "notOpen", desc := "(I)I" } : Jvm.MethodName)) ∈ lw_all := lw_g (lw_at lw_m13 136 rfl) rfl
theorem q3126 : (Jvm.Cond.privateMethod ({ cls := "HamletWellsModel", name := "notOpen", desc := "(I)I" } : Jvm.MethodName)) ∈ lw_tbl := lw_at lw_m13 137 rfl
theorem q3127 : (Jvm.Cond.instanceMethod ({ cls := "HamletWellsModel", name := "notOpen", desc := "(I)I" } : Jvm.MethodName)) ∈ lw_all := lw_g (lw_at lw_m13 138 rfl) rfl
theorem q3128 : (Jvm.Cond.code ({ cls := "HamletWellsModel", name := "notOpen", desc := "(I)I" } : Jvm.MethodName) prog_45_method_39_code (2 : Nat) (Option.some Jvm.ClassFile.FieldType.int)) ∈ lw_all := lw_g (lw_at lw_m13 139 rfl) rfl
theorem q3129 : (Jvm.Cond.methodLink "HamletWellsModel" (138 : Nat) ({ cls := "HamletWellsModel", name := "isSite", desc := "(I)Z" } : Jvm.MethodName)) ∈ lw_all := lw_g (lw_at lw_m13 140 rfl) rfl
theorem q3130 : (Jvm.Cond.privateMethod ({ cls := "HamletWellsModel", name := "isSite", desc := "(I)Z" } : Jvm.MethodName)) ∈ lw_tbl := lw_at lw_m13 141 rfl
theorem q3131 : (Jvm.Cond.instanceMethod ({ cls := "HamletWellsModel", name := "isSite", desc := "(I)Z" } : Jvm.MethodName)) ∈ lw_all := lw_g (lw_at lw_m13 142 rfl) rfl
theorem q3132 : (Jvm.Cond.code ({ cls := "HamletWellsModel", name := "isSite", desc := "(I)Z" } : Jvm.MethodName) prog_45_method_13_code (2 : Nat) (Option.some Jvm.ClassFile.FieldType.boolean)) ∈ lw_all := lw_g (lw_at lw_m13 143 rfl) rfl
theorem q3133 : (Jvm.Cond.methodLink "HamletWellsModel" (78 : Nat) ({ cls := "HamletWellsModel", name := "isWell", desc := "(I)Z" } : Jvm.MethodName)) ∈ lw_all := lw_g (lw_at lw_m13 144 rfl) rfl
theorem q3134 : (Jvm.Cond.privateMethod ({ cls := "HamletWellsModel", name := "isWell", desc := "(I)Z" } : Jvm.MethodName)) ∈ lw_tbl := lw_at lw_m13 145 rfl
theorem q3135 : (Jvm.Cond.instanceMethod ({ cls := "HamletWellsModel", name := "isWell", desc := "(I)Z" } : Jvm.MethodName)) ∈ lw_all := lw_g (lw_at lw_m13 146 rfl) rfl
theorem q3136 : (Jvm.Cond.code ({ cls := "HamletWellsModel", name := "isWell", desc := "(I)Z" } : Jvm.MethodName) prog_45_method_17_code (2 : Nat) (Option.some Jvm.ClassFile.FieldType.boolean)) ∈ lw_all := lw_g (lw_at lw_m13 147 rfl) rfl
theorem q3137 : (Jvm.Cond.methodLink "HamletWellsModel" (141 : Nat) ({ cls := "HamletWellsModel", name := "hamletsOf", desc := "(I)I" } : Jvm.MethodName)) ∈ lw_all := lw_g (lw_at lw_m13 148 rfl) rfl
theorem q3138 : (Jvm.Cond.privateMethod ({ cls := "HamletWellsModel", name := "hamletsOf", desc := "(I)I" } : Jvm.MethodName)) ∈ lw_tbl := lw_at lw_m13 149 rfl
theorem q3139 : (Jvm.Cond.instanceMethod ({ cls := "HamletWellsModel", name := "hamletsOf", desc := "(I)I" } : Jvm.MethodName)) ∈ lw_all := lw_g (lw_at lw_m13 150 rfl) rfl
theorem q3140 : (Jvm.Cond.code ({ cls := "HamletWellsModel", name := "hamletsOf", desc := "(I)I" } : Jvm.MethodName) prog_45_method_25_code (4 : Nat) (Option.some Jvm.ClassFile.FieldType.int)) ∈ lw_all := lw_g (lw_at lw_m13 151 rfl) rfl
theorem q3141 : (Jvm.Cond.methodLink "HamletWellsModel" (96 : Nat) ({ cls := "HamletWellsModel", name := "well", desc := "(I)I" } : Jvm.MethodName)) ∈ lw_all := lw_g (lw_at lw_m13 152 rfl) rfl
theorem q3142 : (Jvm.Cond.privateMethod ({ cls := "HamletWellsModel", name := "well", desc := "(I)I" } : Jvm.MethodName)) ∈ lw_tbl := lw_at lw_m13 153 rfl
theorem q3143 : (Jvm.Cond.instanceMethod ({ cls := "HamletWellsModel", name := "well", desc := "(I)I" } : Jvm.MethodName)) ∈ lw_all := lw_g (lw_at lw_m13 154 rfl) rfl
theorem q3144 : (Jvm.Cond.code ({ cls := "HamletWellsModel", name := "well", desc := "(I)I" } : Jvm.MethodName) prog_45_method_24_code (2 : Nat) (Option.some Jvm.ClassFile.FieldType.int)) ∈ lw_all := lw_g (lw_at lw_m13 155 rfl) rfl
theorem q3145 : (Jvm.Cond.methodLink "HamletWellsModel" (89 : Nat) ({ cls := "HamletWellsModel", name := "openOnes", desc := "()I" } : Jvm.MethodName)) ∈ lw_all := lw_g (lw_at lw_m13 156 rfl) rfl
theorem q3146 : (Jvm.Cond.privateMethod ({ cls := "HamletWellsModel", name := "openOnes", desc := "()I" } : Jvm.MethodName)) ∈ lw_tbl := lw_at lw_m13 157 rfl
theorem q3147 : (Jvm.Cond.instanceMethod ({ cls := "HamletWellsModel", name := "openOnes", desc := "()I" } : Jvm.MethodName)) ∈ lw_all := lw_g (lw_at lw_m13 158 rfl) rfl
theorem q3148 : (Jvm.Cond.code ({ cls := "HamletWellsModel", name := "openOnes", desc := "()I" } : Jvm.MethodName) prog_45_method_21_code (3 : Nat) (Option.some Jvm.ClassFile.FieldType.int)) ∈ lw_all := lw_g (lw_at lw_m13 159 rfl) rfl
theorem q3149 : (Jvm.Cond.methodLink "HamletWellsModel" (93 : Nat) ({ cls := "HamletWellsModel", name := "nearest", desc := "(II)I" } : Jvm.MethodName)) ∈ lw_all := lw_g (lw_at lw_m13 160 rfl) rfl
theorem q3150 : (Jvm.Cond.privateMethod ({ cls := "HamletWellsModel", name := "nearest", desc := "(II)I" } : Jvm.MethodName)) ∈ lw_tbl := lw_at lw_m13 161 rfl
theorem q3151 : (Jvm.Cond.instanceMethod ({ cls := "HamletWellsModel", name := "nearest", desc := "(II)I" } : Jvm.MethodName)) ∈ lw_all := lw_g (lw_at lw_m13 162 rfl) rfl
theorem q3152 : (Jvm.Cond.code ({ cls := "HamletWellsModel", name := "nearest", desc := "(II)I" } : Jvm.MethodName) prog_45_method_23_code (5 : Nat) (Option.some Jvm.ClassFile.FieldType.int)) ∈ lw_all := lw_g (lw_at lw_m13 163 rfl) rfl
theorem q3153 : (Jvm.Cond.methodLink "HamletWellsModel" (82 : Nat) ({ cls := "HamletWellsModel", name := "has", desc := "(II)Z" } : Jvm.MethodName)) ∈ lw_all := lw_g (lw_at lw_m13 164 rfl) rfl
theorem q3154 : (Jvm.Cond.static ({ cls := "HamletWellsModel", name := "has", desc := "(II)Z" } : Jvm.MethodName)) ∈ lw_all := lw_g (lw_at lw_m13 165 rfl) rfl
theorem q3155 : (Jvm.Cond.code ({ cls := "HamletWellsModel", name := "has", desc := "(II)Z" } : Jvm.MethodName) prog_45_method_3_code (2 : Nat) (Option.some Jvm.ClassFile.FieldType.boolean)) ∈ lw_all := lw_g (lw_at lw_m13 166 rfl) rfl
theorem q3156 : (Jvm.Cond.methodLink "HamletWellsModel" (86 : Nat) ({ cls := "HamletWellsModel", name := "far", desc := "(II)I" } : Jvm.MethodName)) ∈ lw_all := lw_g (lw_at lw_m13 167 rfl) rfl
theorem q3157 : (Jvm.Cond.privateMethod ({ cls := "HamletWellsModel", name := "far", desc := "(II)I" } : Jvm.MethodName)) ∈ lw_tbl := lw_at lw_m13 168 rfl
theorem q3158 : (Jvm.Cond.instanceMethod ({ cls := "HamletWellsModel", name := "far", desc := "(II)I" } : Jvm.MethodName)) ∈ lw_all := lw_g (lw_at lw_m13 169 rfl) rfl
theorem q3159 : (Jvm.Cond.code ({ cls := "HamletWellsModel", name := "far", desc := "(II)I" } : Jvm.MethodName) prog_45_method_20_code (3 : Nat) (Option.some Jvm.ClassFile.FieldType.int)) ∈ lw_all := lw_g (lw_at lw_m13 170 rfl) rfl
theorem q3160 : (Jvm.Cond.methodLink "HamletWellsModel" (75 : Nat) ({ cls := "HamletWellsModel", name := "away", desc := "(II)I" } : Jvm.MethodName)) ∈ lw_all := lw_g (lw_at lw_m13 171 rfl) rfl
theorem q3161 : (Jvm.Cond.static ({ cls := "HamletWellsModel", name := "away", desc := "(II)I" } : Jvm.MethodName)) ∈ lw_all := lw_g (lw_at lw_m13 172 rfl) rfl
theorem q3162 : (Jvm.Cond.code ({ cls := "HamletWellsModel", name := "away", desc := "(II)I" } : Jvm.MethodName) prog_45_method_19_code (2 : Nat) (Option.some Jvm.ClassFile.FieldType.int)) ∈ lw_all := lw_g (lw_at lw_m13 173 rfl) rfl
theorem q3163 : (Jvm.Cond.methodLink "HamletWellsModel" (144 : Nat) ({ cls := "HamletWellsModel", name := "price", desc := "(I)I" } : Jvm.MethodName)) ∈ lw_all := lw_g (lw_at lw_m13 174 rfl) rfl
theorem q3164 : (Jvm.Cond.privateMethod ({ cls := "HamletWellsModel", name := "price", desc := "(I)I" } : Jvm.MethodName)) ∈ lw_tbl := lw_at lw_m13 175 rfl
theorem q3165 : (Jvm.Cond.instanceMethod ({ cls := "HamletWellsModel", name := "price", desc := "(I)I" } : Jvm.MethodName)) ∈ lw_all := lw_g (lw_at lw_m13 176 rfl) rfl
theorem q3166 : (Jvm.Cond.code ({ cls := "HamletWellsModel", name := "price", desc := "(I)I" } : Jvm.MethodName) prog_45_method_28_code (2 : Nat) (Option.some Jvm.ClassFile.FieldType.int)) ∈ lw_all := lw_g (lw_at lw_m13 177 rfl) rfl
theorem q3167 : (Jvm.Cond.methodLink "HamletWellsModel" (150 : Nat) ({ cls := "HamletWellsModel", name := "opens", desc := "(I)I" } : Jvm.MethodName)) ∈ lw_all := lw_g (lw_at lw_m13 178 rfl) rfl
theorem q3168 : (Jvm.Cond.privateMethod ({ cls := "HamletWellsModel", name := "opens", desc := "(I)I" } : Jvm.MethodName)) ∈ lw_tbl := lw_at lw_m13 179 rfl
theorem q3169 : (Jvm.Cond.instanceMethod ({ cls := "HamletWellsModel", name := "opens", desc := "(I)I" } : Jvm.MethodName)) ∈ lw_all := lw_g (lw_at lw_m13 180 rfl) rfl
theorem q3170 : (Jvm.Cond.code ({ cls := "HamletWellsModel", name := "opens", desc := "(I)I" } : Jvm.MethodName) prog_45_method_40_code (2 : Nat) (Option.some Jvm.ClassFile.FieldType.int)) ∈ lw_all := lw_g (lw_at lw_m13 181 rfl) rfl
theorem q3172 : (Jvm.Cond.instanceMethod ({ cls := "HamletWellsModel", name := "shut", desc := "(I)I" } : Jvm.MethodName)) ∈ lw_all := lw_g (lw_at lw_m13 183 rfl) rfl
theorem q3173 : (Jvm.Cond.selects "HamletWellsModel" ({ cls := "HamletWellsModel", name := "shut", desc := "(I)I" } : Jvm.MethodName) ({ cls := "HamletWellsModel", name := "shut", desc := "(I)I" } : Jvm.MethodName)) ∈ lw_all := lw_g (lw_at lw_m13 184 rfl) rfl
theorem q3174 : (Jvm.Cond.code ({ cls := "HamletWellsModel", name := "shut", desc := "(I)I" } : Jvm.MethodName) prog_45_method_44_code (3 : Nat) (Option.some Jvm.ClassFile.FieldType.int)) ∈ lw_all := lw_g (lw_at lw_m13 185 rfl) rfl
theorem q3175 : (Jvm.Cond.methodLink "HamletWellsModel" (156 : Nat) ({ cls := "HamletWellsModel", name := "notShut", desc := "(I)I" } : Jvm.MethodName)) ∈ lw_all := lw_g (lw_at lw_m13 186 rfl) rfl
theorem q3176 : (Jvm.Cond.privateMethod ({ cls := "HamletWellsModel", name := "notShut", desc := "(I)I" } : Jvm.MethodName)) ∈ lw_tbl := lw_at lw_m13 187 rfl
theorem q3177 : (Jvm.Cond.instanceMethod ({ cls := "HamletWellsModel", name := "notShut", desc := "(I)I" } : Jvm.MethodName)) ∈ lw_all := lw_g (lw_at lw_m13 188 rfl) rfl
theorem q3178 : (Jvm.Cond.code ({ cls := "HamletWellsModel", name := "notShut", desc := "(I)I" } : Jvm.MethodName) prog_45_method_42_code (2 : Nat) (Option.some Jvm.ClassFile.FieldType.int)) ∈ lw_all := lw_g (lw_at lw_m13 189 rfl) rfl
theorem q3179 : (Jvm.Cond.methodLink "HamletWellsModel" (159 : Nat) ({ cls := "HamletWellsModel", name := "shuts", desc := "(I)I" } : Jvm.MethodName)) ∈ lw_all := lw_g (lw_at lw_m13 190 rfl) rfl
theorem q3180 : (Jvm.Cond.privateMethod ({ cls := "HamletWellsModel", name := "shuts", desc := "(I)I" } : Jvm.MethodName)) ∈ lw_tbl := lw_at lw_m13 191 rfl
theorem q3181 : (Jvm.Cond.instanceMethod ({ cls := "HamletWellsModel", name := "shuts", desc := "(I)I" } : Jvm.MethodName)) ∈ lw_all := lw_g (lw_at lw_m13 192 rfl) rfl
theorem q3182 : (Jvm.Cond.code ({ cls := "HamletWellsModel", name := "shuts", desc := "(I)I" } : Jvm.MethodName) prog_45_method_43_code (2 : Nat) (Option.some Jvm.ClassFile.FieldType.int)) ∈ lw_all := lw_g (lw_at lw_m13 193 rfl) rfl
theorem q3183 : (Jvm.Cond.methodLink "HamletWellsModel" (153 : Nat) ({ cls := "HamletWellsModel", name := "sizeOf", desc := "(I)I" } : Jvm.MethodName)) ∈ lw_all := lw_g (lw_at lw_m13 194 rfl) rfl
theorem q3184 : (Jvm.Cond.static ({ cls := "HamletWellsModel", name := "sizeOf", desc := "(I)I" } : Jvm.MethodName)) ∈ lw_all := lw_g (lw_at lw_m13 195 rfl) rfl
theorem q3185 : (Jvm.Cond.code ({ cls := "HamletWellsModel", name := "sizeOf", desc := "(I)I" } : Jvm.MethodName) prog_45_method_22_code (3 : Nat) (Option.some Jvm.ClassFile.FieldType.int)) ∈ lw_all := lw_g (lw_at lw_m13 196 rfl) rfl
theorem q3187 : (Jvm.Cond.instanceMethod ({ cls := "HamletWellsModel", name := "pump", desc := "(I)I" } : Jvm.MethodName)) ∈ lw_all := lw_g (lw_at lw_m13 198 rfl) rfl
theorem q3188 : (Jvm.Cond.selects "HamletWellsModel" ({ cls := "HamletWellsModel", name := "pump", desc := "(I)I" } : Jvm.MethodName) ({ cls := "HamletWellsModel", name := "pump", desc := "(I)I" } : Jvm.MethodName)) ∈ lw_all := lw_g (lw_at lw_m13 199 rfl) rfl
theorem q3189 : (Jvm.Cond.code ({ cls := "HamletWellsModel", name := "pump", desc := "(I)I" } : Jvm.MethodName) prog_45_method_47_code (3 : Nat) (Option.some Jvm.ClassFile.FieldType.int)) ∈ lw_all := lw_g (lw_at lw_m13 200 rfl) rfl
theorem q3190 : (Jvm.Cond.methodLink "HamletWellsModel" (165 : Nat) ({ cls := "HamletWellsModel", name := "notPump", desc := "(I)I" } : Jvm.MethodName)) ∈ lw_all := lw_g (lw_at lw_m13 201 rfl) rfl
theorem q3191 : (Jvm.Cond.privateMethod ({ cls := "HamletWellsModel", name := "notPump", desc := "(I)I" } : Jvm.MethodName)) ∈ lw_tbl := lw_at lw_m13 202 rfl
theorem q3192 : (Jvm.Cond.instanceMethod ({ cls := "HamletWellsModel", name := "notPump", desc := "(I)I" } : Jvm.MethodName)) ∈ lw_all := lw_g (lw_at lw_m13 203 rfl) rfl
theorem q3193 : (Jvm.Cond.code ({ cls := "HamletWellsModel", name := "notPump", desc := "(I)I" } : Jvm.MethodName) prog_45_method_45_code (2 : Nat) (Option.some Jvm.ClassFile.FieldType.int)) ∈ lw_all := lw_g (lw_at lw_m13 204 rfl) rfl
theorem q3194 : (Jvm.Cond.methodLink "HamletWellsModel" (100 : Nat) ({ cls := "HamletWellsModel", name := "hasPump", desc := "(I)Z" } : Jvm.MethodName)) ∈ lw_all := lw_g (lw_at lw_m13 205 rfl) rfl
theorem q3195 : (Jvm.Cond.privateMethod ({ cls := "HamletWellsModel", name := "hasPump", desc := "(I)Z" } : Jvm.MethodName)) ∈ lw_tbl := lw_at lw_m13 206 rfl
theorem q3196 : (Jvm.Cond.instanceMethod ({ cls := "HamletWellsModel", name := "hasPump", desc := "(I)Z" } : Jvm.MethodName)) ∈ lw_all := lw_g (lw_at lw_m13 207 rfl) rfl
theorem q3197 : (Jvm.Cond.code ({ cls := "HamletWellsModel", name := "hasPump", desc := "(I)Z" } : Jvm.MethodName) prog_45_method_18_code (2 : Nat) (Option.some Jvm.ClassFile.FieldType.boolean)) ∈ lw_all := lw_g (lw_at lw_m13 208 rfl) rfl
theorem q3198 : (Jvm.Cond.methodLink "HamletWellsModel" (168 : Nat) ({ cls := "HamletWellsModel", name := "pumps", desc := "(I)I" } : Jvm.MethodName)) ∈ lw_all := lw_g (lw_at lw_m13 209 rfl) rfl
theorem q3199 : (Jvm.Cond.privateMethod ({ cls := "HamletWellsModel", name := "pumps", desc := "(I)I" } : Jvm.MethodName)) ∈ lw_tbl := lw_at lw_m13 210 rfl
theorem q3200 : (Jvm.Cond.instanceMethod ({ cls := "HamletWellsModel", name := "pumps", desc := "(I)I" } : Jvm.MethodName)) ∈ lw_all := lw_g (lw_at lw_m13 211 rfl) rfl
theorem q3201 : (Jvm.Cond.code ({ cls := "HamletWellsModel", name := "pumps", desc := "(I)I" } : Jvm.MethodName) prog_45_method_46_code (2 : Nat) (Option.some Jvm.ClassFile.FieldType.int)) ∈ lw_all := lw_g (lw_at lw_m13 212 rfl) rfl
theorem q3202 : (Jvm.Cond.methodLink "HamletWellsModel" (162 : Nat) ({ cls := "HamletWellsModel", name := "gives", desc := "(I)I" } : Jvm.MethodName)) ∈ lw_all := lw_g (lw_at lw_m13 213 rfl) rfl
theorem q3203 : (Jvm.Cond.privateMethod ({ cls := "HamletWellsModel", name := "gives", desc := "(I)I" } : Jvm.MethodName)) ∈ lw_tbl := lw_at lw_m13 214 rfl
theorem q3204 : (Jvm.Cond.instanceMethod ({ cls := "HamletWellsModel", name := "gives", desc := "(I)I" } : Jvm.MethodName)) ∈ lw_all := lw_g (lw_at lw_m13 215 rfl) rfl
theorem q3205 : (Jvm.Cond.code ({ cls := "HamletWellsModel", name := "gives", desc := "(I)I" } : Jvm.MethodName) prog_45_method_27_code (3 : Nat) (Option.some Jvm.ClassFile.FieldType.int)) ∈ lw_all := lw_g (lw_at lw_m13 216 rfl) rfl
theorem q3207 : (Jvm.Cond.instanceMethod ({ cls := "HamletWellsModel", name := "unpump", desc := "(I)I" } : Jvm.MethodName)) ∈ lw_all := lw_g (lw_at lw_m13 218 rfl) rfl
theorem q3208 : (Jvm.Cond.selects "HamletWellsModel" ({ cls := "HamletWellsModel", name := "unpump", desc := "(I)I" } : Jvm.MethodName) ({ cls := "HamletWellsModel", name := "unpump", desc := "(I)I" } : Jvm.MethodName)) ∈ lw_all := lw_g (lw_at lw_m13 219 rfl) rfl
theorem q3209 : (Jvm.Cond.code ({ cls := "HamletWellsModel", name := "unpump", desc := "(I)I" } : Jvm.MethodName) prog_45_method_49_code (3 : Nat) (Option.some Jvm.ClassFile.FieldType.int)) ∈ lw_all := lw_g (lw_at lw_m13 220 rfl) rfl
theorem q3210 : (Jvm.Cond.methodLink "HamletWellsModel" (171 : Nat) ({ cls := "HamletWellsModel", name := "notUnpump", desc := "(I)I" } : Jvm.MethodName)) ∈ lw_all := lw_g (lw_at lw_m13 221 rfl) rfl
theorem q3211 : (Jvm.Cond.privateMethod ({ cls := "HamletWellsModel", name := "notUnpump", desc := "(I)I" } : Jvm.MethodName)) ∈ lw_tbl := lw_at lw_m13 222 rfl
theorem q3212 : (Jvm.Cond.instanceMethod ({ cls := "HamletWellsModel", name := "notUnpump", desc := "(I)I" } : Jvm.MethodName)) ∈ lw_all := lw_g (lw_at lw_m13 223 rfl) rfl
theorem q3213 : (Jvm.Cond.code ({ cls := "HamletWellsModel", name := "notUnpump", desc := "(I)I" } : Jvm.MethodName) prog_45_method_48_code (2 : Nat) (Option.some Jvm.ClassFile.FieldType.int)) ∈ lw_all := lw_g (lw_at lw_m13 224 rfl) rfl
theorem q3215 : (Jvm.Cond.instanceMethod ({ cls := "HamletWellsModel", name := "move", desc := "(II)I" } : Jvm.MethodName)) ∈ lw_all := lw_g (lw_at lw_m13 226 rfl) rfl
theorem q3216 : (Jvm.Cond.selects "HamletWellsModel" ({ cls := "HamletWellsModel", name := "move", desc := "(II)I" } : Jvm.MethodName) ({ cls := "HamletWellsModel", name := "move", desc := "(II)I" } : Jvm.MethodName)) ∈ lw_all := lw_g (lw_at lw_m13 227 rfl) rfl
theorem q3217 : (Jvm.Cond.code ({ cls := "HamletWellsModel", name := "move", desc := "(II)I" } : Jvm.MethodName) prog_45_method_53_code (4 : Nat) (Option.some Jvm.ClassFile.FieldType.int)) ∈ lw_all := lw_g (lw_at lw_m13 228 rfl) rfl
theorem q3218 : (Jvm.Cond.methodLink "HamletWellsModel" (177 : Nat) ({ cls := "HamletWellsModel", name := "notMove", desc := "(II)I" } : Jvm.MethodName)) ∈ lw_all := lw_g (lw_at lw_m13 229 rfl) rfl
theorem q3219 : (Jvm.Cond.privateMethod ({ cls := "HamletWellsModel", name := "notMove", desc := "(II)I" } : Jvm.MethodName)) ∈ lw_tbl := lw_at lw_m13 230 rfl
theorem q3220 : (Jvm.Cond.instanceMethod ({ cls := "HamletWellsModel", name := "notMove", desc := "(II)I" } : Jvm.MethodName)) ∈ lw_all := lw_g (lw_at lw_m13 231 rfl) rfl
theorem q3221 : (Jvm.Cond.code ({ cls := "HamletWellsModel", name := "notMove", desc := "(II)I" } : Jvm.MethodName) prog_45_method_51_code (3 : Nat) (Option.some Jvm.ClassFile.FieldType.int)) ∈ lw_all := lw_g (lw_at lw_m13 232 rfl) rfl
theorem q3222 : (Jvm.Cond.methodLink "HamletWellsModel" (174 : Nat) ({ cls := "HamletWellsModel", name := "toll", desc := "(II)I" } : Jvm.MethodName)) ∈ lw_all := lw_g (lw_at lw_m13 233 rfl) rfl
theorem q3223 : (Jvm.Cond.privateMethod ({ cls := "HamletWellsModel", name := "toll", desc := "(II)I" } : Jvm.MethodName)) ∈ lw_tbl := lw_at lw_m13 234 rfl
theorem q3224 : (Jvm.Cond.instanceMethod ({ cls := "HamletWellsModel", name := "toll", desc := "(II)I" } : Jvm.MethodName)) ∈ lw_all := lw_g (lw_at lw_m13 235 rfl) rfl
theorem q3225 : (Jvm.Cond.code ({ cls := "HamletWellsModel", name := "toll", desc := "(II)I" } : Jvm.MethodName) prog_45_method_50_code (3 : Nat) (Option.some Jvm.ClassFile.FieldType.int)) ∈ lw_all := lw_g (lw_at lw_m13 236 rfl) rfl
theorem q3226 : (Jvm.Cond.methodLink "HamletWellsModel" (180 : Nat) ({ cls := "HamletWellsModel", name := "moves", desc := "(II)I" } : Jvm.MethodName)) ∈ lw_all := lw_g (lw_at lw_m13 237 rfl) rfl
theorem q3227 : (Jvm.Cond.privateMethod ({ cls := "HamletWellsModel", name := "moves", desc := "(II)I" } : Jvm.MethodName)) ∈ lw_tbl := lw_at lw_m13 238 rfl
theorem q3228 : (Jvm.Cond.instanceMethod ({ cls := "HamletWellsModel", name := "moves", desc := "(II)I" } : Jvm.MethodName)) ∈ lw_all := lw_g (lw_at lw_m13 239 rfl) rfl
theorem q3229 : (Jvm.Cond.code ({ cls := "HamletWellsModel", name := "moves", desc := "(II)I" } : Jvm.MethodName) prog_45_method_52_code (3 : Nat) (Option.some Jvm.ClassFile.FieldType.int)) ∈ lw_all := lw_g (lw_at lw_m14 0 rfl) rfl
theorem q3231 : (Jvm.Cond.instanceMethod ({ cls := "HamletWellsModel", name := "pass", desc := "(I)I" } : Jvm.MethodName)) ∈ lw_all := lw_g (lw_at lw_m14 2 rfl) rfl
theorem q3232 : (Jvm.Cond.selects "HamletWellsModel" ({ cls := "HamletWellsModel", name := "pass", desc := "(I)I" } : Jvm.MethodName) ({ cls := "HamletWellsModel", name := "pass", desc := "(I)I" } : Jvm.MethodName)) ∈ lw_all := lw_g (lw_at lw_m14 3 rfl) rfl
theorem q3233 : (Jvm.Cond.code ({ cls := "HamletWellsModel", name := "pass", desc := "(I)I" } : Jvm.MethodName) prog_45_method_60_code (2 : Nat) (Option.some Jvm.ClassFile.FieldType.int)) ∈ lw_all := lw_g (lw_at lw_m14 4 rfl) rfl
theorem q3234 : (Jvm.Cond.methodLink "HamletWellsModel" (201 : Nat) ({ cls := "HamletWellsModel", name := "passes", desc := "(I)I" } : Jvm.MethodName)) ∈ lw_all := lw_g (lw_at lw_m14 5 rfl) rfl
theorem q3235 : (Jvm.Cond.privateMethod ({ cls := "HamletWellsModel", name := "passes", desc := "(I)I" } : Jvm.MethodName)) ∈ lw_tbl := lw_at lw_m14 6 rfl
theorem q3236 : (Jvm.Cond.instanceMethod ({ cls := "HamletWellsModel", name := "passes", desc := "(I)I" } : Jvm.MethodName)) ∈ lw_all := lw_g (lw_at lw_m14 7 rfl) rfl
theorem q3237 : (Jvm.Cond.code ({ cls := "HamletWellsModel", name := "passes", desc := "(I)I" } : Jvm.MethodName) prog_45_method_59_code (4 : Nat) (Option.some Jvm.ClassFile.FieldType.int)) ∈ lw_all := lw_g (lw_at lw_m14 8 rfl) rfl
theorem q3238 : (Jvm.Cond.methodLink "HamletWellsModel" (198 : Nat) ({ cls := "HamletWellsModel", name := "dayEnds", desc := "()V" } : Jvm.MethodName)) ∈ lw_all := lw_g (lw_at lw_m14 9 rfl) rfl
theorem q3239 : (Jvm.Cond.privateMethod ({ cls := "HamletWellsModel", name := "dayEnds", desc := "()V" } : Jvm.MethodName)) ∈ lw_tbl := lw_at lw_m14 10 rfl
theorem q3240 : (Jvm.Cond.instanceMethod ({ cls := "HamletWellsModel", name := "dayEnds", desc := "()V" } : Jvm.MethodName)) ∈ lw_all := lw_g (lw_at lw_m14 11 rfl) rfl
theorem q3241 : (Jvm.Cond.code ({ cls := "HamletWellsModel", name := "dayEnds", desc := "()V" } : Jvm.MethodName) prog_45_method_58_code (2 : Nat) (Option.none : Option Jvm.ClassFile.FieldType)) ∈ lw_all := lw_g (lw_at lw_m14 12 rfl) rfl
theorem q3242 : (Jvm.Cond.methodLink "HamletWellsModel" (183 : Nat) ({ cls := "HamletWellsModel", name := "thirsts", desc := "(II)V" } : Jvm.MethodName)) ∈ lw_all := lw_g (lw_at lw_m14 13 rfl) rfl
theorem q3243 : (Jvm.Cond.privateMethod ({ cls := "HamletWellsModel", name := "thirsts", desc := "(II)V" } : Jvm.MethodName)) ∈ lw_tbl := lw_at lw_m14 14 rfl
theorem q3244 : (Jvm.Cond.instanceMethod ({ cls := "HamletWellsModel", name := "thirsts", desc := "(II)V" } : Jvm.MethodName)) ∈ lw_all := lw_g (lw_at lw_m14 15 rfl) rfl
theorem q3245 : (Jvm.Cond.code ({ cls := "HamletWellsModel", name := "thirsts", desc := "(II)V" } : Jvm.MethodName) prog_45_method_54_code (3 : Nat) (Option.none : Option Jvm.ClassFile.FieldType)) ∈ lw_all := lw_g (lw_at lw_m14 16 rfl) rfl
theorem q3246 : (Jvm.Cond.methodLink "HamletWellsModel" (194 : Nat) ({ cls := "HamletWellsModel", name := "wellGives", desc := "(I)V" } : Jvm.MethodName)) ∈ lw_all := lw_g (lw_at lw_m14 17 rfl) rfl
theorem q3247 : (Jvm.Cond.privateMethod ({ cls := "HamletWellsModel", name := "wellGives", desc := "(I)V" } : Jvm.MethodName)) ∈ lw_tbl := lw_at lw_m14 18 rfl
theorem q3248 : (Jvm.Cond.instanceMethod ({ cls := "HamletWellsModel", name := "wellGives", desc := "(I)V" } : Jvm.MethodName)) ∈ lw_all := lw_g (lw_at lw_m14 19 rfl) rfl
theorem q3249 : (Jvm.Cond.code ({ cls := "HamletWellsModel", name := "wellGives", desc := "(I)V" } : Jvm.MethodName) prog_45_method_56_code (6 : Nat) (Option.none : Option Jvm.ClassFile.FieldType)) ∈ lw_all := lw_g (lw_at lw_m14 20 rfl) rfl
theorem q3250 : (Jvm.Cond.methodLink "HamletWellsModel" (187 : Nat) ({ cls := "HamletWellsModel", name := "gets", desc := "(III)V" } : Jvm.MethodName)) ∈ lw_all := lw_g (lw_at lw_m14 21 rfl) rfl
theorem q3251 : (Jvm.Cond.privateMethod ({ cls := "HamletWellsModel", name := "gets", desc := "(III)V" } : Jvm.MethodName)) ∈ lw_tbl := lw_at lw_m14 22 rfl
theorem q3252 : (Jvm.Cond.instanceMethod ({ cls := "HamletWellsModel", name := "gets", desc := "(III)V" } : Jvm.MethodName)) ∈ lw_all := lw_g (lw_at lw_m14 23 rfl) rfl
theorem q3253 : (Jvm.Cond.code ({ cls := "HamletWellsModel", name := "gets", desc := "(III)V" } : Jvm.MethodName) prog_45_method_55_code (6 : Nat) (Option.none : Option Jvm.ClassFile.FieldType)) ∈ lw_all := lw_g (lw_at lw_m14 24 rfl) rfl
theorem q3254 : (Jvm.Cond.methodLink "HamletWellsModel" (190 : Nat) ({ cls := "HamletWellsModel", name := "sinks", desc := "(IZ)V" } : Jvm.MethodName)) ∈ lw_all := lw_g (lw_at lw_m14 25 rfl) rfl
theorem q3255 : (Jvm.Cond.privateMethod ({ cls := "HamletWellsModel", name := "sinks", desc := "(IZ)V" } : Jvm.MethodName)) ∈ lw_tbl := lw_at lw_m14 26 rfl
theorem q3256 : (Jvm.Cond.instanceMethod ({ cls := "HamletWellsModel", name := "sinks", desc := "(IZ)V" } : Jvm.MethodName)) ∈ lw_all := lw_g (lw_at lw_m14 27 rfl) rfl
theorem q3257 : (Jvm.Cond.code ({ cls := "HamletWellsModel", name := "sinks", desc := "(IZ)V" } : Jvm.MethodName) prog_45_method_57_code (4 : Nat) (Option.none : Option Jvm.ClassFile.FieldType)) ∈ lw_all := lw_g (lw_at lw_m14 28 rfl) rfl
theorem q3259 : (Jvm.Cond.instanceMethod ({ cls := "HamletWellsModel", name := "thirstIn", desc := "(I)I" } : Jvm.MethodName)) ∈ lw_all := lw_g (lw_at lw_m14 30 rfl) rfl
theorem q3260 : (Jvm.Cond.selects "HamletWellsModel" ({ cls := "HamletWellsModel", name := "thirstIn", desc := "(I)I" } : Jvm.MethodName) ({ cls := "HamletWellsModel", name := "thirstIn", desc := "(I)I" } : Jvm.MethodName)) ∈ lw_all := lw_g (lw_at lw_m14 31 rfl) rfl
theorem q3261 : (Jvm.Cond.code ({ cls := "HamletWellsModel", name := "thirstIn", desc := "(I)I" } : Jvm.MethodName) prog_45_method_61_code (3 : Nat) (Option.some Jvm.ClassFile.FieldType.int)) ∈ lw_all := lw_g (lw_at lw_m14 32 rfl) rfl
theorem q3262 : (Jvm.Cond.methodLink "HamletWellsModel" (204 : Nat) ({ cls := "HamletWellsModel", name := "forgets", desc := "()V" } : Jvm.MethodName)) ∈ lw_all := lw_g (lw_at lw_m14 33 rfl) rfl
theorem q3263 : (Jvm.Cond.privateMethod ({ cls := "HamletWellsModel", name := "forgets", desc := "()V" } : Jvm.MethodName)) ∈ lw_tbl := lw_at lw_m14 34 rfl
theorem q3264 : (Jvm.Cond.instanceMethod ({ cls := "HamletWellsModel", name := "forgets", desc := "()V" } : Jvm.MethodName)) ∈ lw_all := lw_g (lw_at lw_m14 35 rfl) rfl
theorem q3265 : (Jvm.Cond.code ({ cls := "HamletWellsModel", name := "forgets", desc := "()V" } : Jvm.MethodName) prog_45_method_9_code (2 : Nat) (Option.none : Option Jvm.ClassFile.FieldType)) ∈ lw_all := lw_g (lw_at lw_m14 36 rfl) rfl
theorem q3267 : (Jvm.Cond.instanceMethod ({ cls := "HamletWellsModel", name := "hamletOf", desc := "(II)I" } : Jvm.MethodName)) ∈ lw_all := lw_g (lw_at lw_m14 38 rfl) rfl
theorem q3268 : (Jvm.Cond.selects "HamletWellsModel" ({ cls := "HamletWellsModel", name := "hamletOf", desc := "(II)I" } : Jvm.MethodName) ({ cls := "HamletWellsModel", name := "hamletOf", desc := "(II)I" } : Jvm.MethodName)) ∈ lw_all := lw_g (lw_at lw_m14 39 rfl) rfl
theorem q3269 : (Jvm.Cond.code ({ cls := "HamletWellsModel", name := "hamletOf", desc := "(II)I" } : Jvm.MethodName) prog_45_method_63_code (3 : Nat) (Option.some Jvm.ClassFile.FieldType.int)) ∈ lw_all := lw_g (lw_at lw_m14 40 rfl) rfl
theorem q3270 : (Jvm.Cond.methodLink "HamletWellsModel" (207 : Nat) ({ cls := "HamletWellsModel", name := "isHamlet", desc := "(I)Z" } : Jvm.MethodName)) ∈ lw_all := lw_g (lw_at lw_m14 41 rfl) rfl
theorem q3271 : (Jvm.Cond.privateMethod ({ cls := "HamletWellsModel", name := "isHamlet", desc := "(I)Z" } : Jvm.MethodName)) ∈ lw_tbl := lw_at lw_m14 42 rfl
theorem q3272 : (Jvm.Cond.instanceMethod ({ cls := "HamletWellsModel", name := "isHamlet", desc := "(I)Z" } : Jvm.MethodName)) ∈ lw_all := lw_g (lw_at lw_m14 43 rfl) rfl
theorem q3273 : (Jvm.Cond.code ({ cls := "HamletWellsModel", name := "isHamlet", desc := "(I)Z" } : Jvm.MethodName) prog_45_method_12_code (2 : Nat) (Option.some Jvm.ClassFile.FieldType.boolean)) ∈ lw_all := lw_g (lw_at lw_m14 44 rfl) rfl
theorem q3274 : (Jvm.Cond.methodLink "HamletWellsModel" (210 : Nat) ({ cls := "HamletWellsModel", name := "orNothing", desc := "(I)I" } : Jvm.MethodName)) ∈ lw_all := lw_g (lw_at lw_m14 45 rfl) rfl
theorem q3275 : (Jvm.Cond.privateMethod ({ cls := "HamletWellsModel", name := "orNothing", desc := "(I)I" } : Jvm.MethodName)) ∈ lw_tbl := lw_at lw_m14 46 rfl
theorem q3276 : (Jvm.Cond.instanceMethod ({ cls := "HamletWellsModel", name := "orNothing", desc := "(I)I" } : Jvm.MethodName)) ∈ lw_all := lw_g (lw_at lw_m14 47 rfl) rfl
theorem q3277 : (Jvm.Cond.code ({ cls := "HamletWellsModel", name := "orNothing", desc := "(I)I" } : Jvm.MethodName) prog_45_method_62_code (2 : Nat) (Option.some Jvm.ClassFile.FieldType.int)) ∈ lw_all := lw_g (lw_at lw_m14 48 rfl) rfl
theorem q3279 : (Jvm.Cond.instanceMethod ({ cls := "HamletWellsModel", name := "siteOf", desc := "(II)I" } : Jvm.MethodName)) ∈ lw_all := lw_g (lw_at lw_m14 50 rfl) rfl
theorem q3280 : (Jvm.Cond.selects "HamletWellsModel" ({ cls := "HamletWellsModel", name := "siteOf", desc := "(II)I" } : Jvm.MethodName) ({ cls := "HamletWellsModel", name := "siteOf", desc := "(II)I" } : Jvm.MethodName)) ∈ lw_all := lw_g (lw_at lw_m14 51 rfl) rfl
theorem q3281 : (Jvm.Cond.code ({ cls := "HamletWellsModel", name := "siteOf", desc := "(II)I" } : Jvm.MethodName) prog_45_method_64_code (3 : Nat) (Option.some Jvm.ClassFile.FieldType.int)) ∈ lw_all := lw_g (lw_at lw_m14 52 rfl) rfl
theorem q3282 : (Jvm.Cond.methodLink "HamletWellsModel" (213 : Nat) ({ cls := "HamletWellsModel", name := "asked", desc := "(I)I" } : Jvm.MethodName)) ∈ lw_all := lw_g (lw_at lw_m14 53 rfl) rfl
theorem q3283 : (Jvm.Cond.privateMethod ({ cls := "HamletWellsModel", name := "asked", desc := "(I)I" } : Jvm.MethodName)) ∈ lw_tbl := lw_at lw_m14 54 rfl
theorem q3284 : (Jvm.Cond.instanceMethod ({ cls := "HamletWellsModel", name := "asked", desc := "(I)I" } : Jvm.MethodName)) ∈ lw_all := lw_g (lw_at lw_m14 55 rfl) rfl
theorem q3285 : (Jvm.Cond.code ({ cls := "HamletWellsModel", name := "asked", desc := "(I)I" } : Jvm.MethodName) prog_45_method_26_code (4 : Nat) (Option.some Jvm.ClassFile.FieldType.int)) ∈ lw_all := lw_g (lw_at lw_m14 56 rfl) rfl
theorem q3287 : (Jvm.Cond.instanceMethod ({ cls := "HamletWellsModel", name := "drinker", desc := "(II)I" } : Jvm.MethodName)) ∈ lw_all := lw_g (lw_at lw_m14 58 rfl) rfl
theorem q3288 : (Jvm.Cond.selects "HamletWellsModel" ({ cls := "HamletWellsModel", name := "drinker", desc := "(II)I" } : Jvm.MethodName) ({ cls := "HamletWellsModel", name := "drinker", desc := "(II)I" } : Jvm.MethodName)) ∈ lw_all := lw_g (lw_at lw_m14 59 rfl) rfl
theorem q3289 : (Jvm.Cond.code ({ cls := "HamletWellsModel", name := "drinker", desc := "(II)I" } : Jvm.MethodName) prog_45_method_65_code (5 : Nat) (Option.some Jvm.ClassFile.FieldType.int)) ∈ lw_all := lw_g (lw_at lw_m14 60 rfl) rfl
theorem q3291 : (Jvm.Cond.instanceMethod ({ cls := "HamletWellsModel", name := "cost", desc := "(I)I" } : Jvm.MethodName)) ∈ lw_all := lw_g (lw_at lw_m14 62 rfl) rfl
theorem q3292 : (Jvm.Cond.selects "HamletWellsModel" ({ cls := "HamletWellsModel", name := "cost", desc := "(I)I" } : Jvm.MethodName) ({ cls := "HamletWellsModel", name := "cost", desc := "(I)I" } : Jvm.MethodName)) ∈ lw_all := lw_g (lw_at lw_m14 63 rfl) rfl
theorem q3293 : (Jvm.Cond.code ({ cls := "HamletWellsModel", name := "cost", desc := "(I)I" } : Jvm.MethodName) prog_45_method_69_code (2 : Nat) (Option.some Jvm.ClassFile.FieldType.int)) ∈ lw_all := lw_g (lw_at lw_m14 64 rfl) rfl
theorem q3294 : (Jvm.Cond.methodLink "HamletWellsModel" (216 : Nat) ({ cls := "HamletWellsModel", name := "isSet", desc := "(I)Z" } : Jvm.MethodName)) ∈ lw_all := lw_g (lw_at lw_m14 65 rfl) rfl
theorem q3295 : (Jvm.Cond.privateMethod ({ cls := "HamletWellsModel", name := "isSet", desc := "(I)Z" } : Jvm.MethodName)) ∈ lw_tbl := lw_at lw_m14 66 rfl
theorem q3296 : (Jvm.Cond.instanceMethod ({ cls := "HamletWellsModel", name := "isSet", desc := "(I)Z" } : Jvm.MethodName)) ∈ lw_all := lw_g (lw_at lw_m14 67 rfl) rfl
theorem q3297 : (Jvm.Cond.code ({ cls := "HamletWellsModel", name := "isSet", desc := "(I)Z" } : Jvm.MethodName) prog_45_method_68_code (2 : Nat) (Option.some Jvm.ClassFile.FieldType.boolean)) ∈ lw_all := lw_g (lw_at lw_m14 68 rfl) rfl
theorem q3298 : (Jvm.Cond.methodLink "HamletWellsModel" (219 : Nat) ({ cls := "HamletWellsModel", name := "isPlan", desc := "(I)Z" } : Jvm.MethodName)) ∈ lw_all := lw_g (lw_at lw_m14 69 rfl) rfl
theorem q3299 : (Jvm.Cond.privateMethod ({ cls := "HamletWellsModel", name := "isPlan", desc := "(I)Z" } : Jvm.MethodName)) ∈ lw_tbl := lw_at lw_m14 70 rfl
theorem q3300 : (Jvm.Cond.instanceMethod ({ cls := "HamletWellsModel", name := "isPlan", desc := "(I)Z" } : Jvm.MethodName)) ∈ lw_all := lw_g (lw_at lw_m14 71 rfl) rfl
theorem q3301 : (Jvm.Cond.code ({ cls := "HamletWellsModel", name := "isPlan", desc := "(I)Z" } : Jvm.MethodName) prog_45_method_66_code (2 : Nat) (Option.some Jvm.ClassFile.FieldType.boolean)) ∈ lw_all := lw_g (lw_at lw_m14 72 rfl) rfl
theorem q3302 : (Jvm.Cond.methodLink "HamletWellsModel" (222 : Nat) ({ cls := "HamletWellsModel", name := "costOf", desc := "(I)I" } : Jvm.MethodName)) ∈ lw_all := lw_g (lw_at lw_m14 73 rfl) rfl
theorem q3303 : (Jvm.Cond.privateMethod ({ cls := "HamletWellsModel", name := "costOf", desc := "(I)I" } : Jvm.MethodName)) ∈ lw_tbl := lw_at lw_m14 74 rfl
theorem q3304 : (Jvm.Cond.instanceMethod ({ cls := "HamletWellsModel", name := "costOf", desc := "(I)I" } : Jvm.MethodName)) ∈ lw_all := lw_g (lw_at lw_m14 75 rfl) rfl
theorem q3305 : (Jvm.Cond.code ({ cls := "HamletWellsModel", name := "costOf", desc := "(I)I" } : Jvm.MethodName) prog_45_method_67_code (4 : Nat) (Option.some Jvm.ClassFile.FieldType.int)) ∈ lw_all := lw_g (lw_at lw_m14 76 rfl) rfl
theorem q3307 : (Jvm.Cond.instanceMethod ({ cls := "HamletWellsModel", name := "cheapest", desc := "()I" } : Jvm.MethodName)) ∈ lw_all := lw_g (lw_at lw_m14 78 rfl) rfl
theorem q3308 : (Jvm.Cond.selects "HamletWellsModel" ({ cls := "HamletWellsModel", name := "cheapest", desc := "()I" } : Jvm.MethodName) ({ cls := "HamletWellsModel", name := "cheapest", desc := "()I" } : Jvm.MethodName)) ∈ lw_all := lw_g (lw_at lw_m14 79 rfl) rfl
theorem q3309 : (Jvm.Cond.code ({ cls := "HamletWellsModel", name := "cheapest", desc := "()I" } : Jvm.MethodName) prog_45_method_71_code (1 : Nat) (Option.some Jvm.ClassFile.FieldType.int)) ∈ lw_all := lw_g (lw_at lw_m14 80 rfl) rfl
theorem q3310 : (Jvm.Cond.methodLink "HamletWellsModel" (225 : Nat) ({ cls := "HamletWellsModel", name := "best", desc := "()I" } : Jvm.MethodName)) ∈ lw_all := lw_g (lw_at lw_m14 81 rfl) rfl
theorem q3311 : (Jvm.Cond.privateMethod ({ cls := "HamletWellsModel", name := "best", desc := "()I" } : Jvm.MethodName)) ∈ lw_tbl := lw_at lw_m14 82 rfl
theorem q3312 : (Jvm.Cond.instanceMethod ({ cls := "HamletWellsModel", name := "best", desc := "()I" } : Jvm.MethodName)) ∈ lw_all := lw_g (lw_at lw_m14 83 rfl) rfl
theorem q3313 : (Jvm.Cond.code ({ cls := "HamletWellsModel", name := "best", desc := "()I" } : Jvm.MethodName) prog_45_method_70_code (3 : Nat) (Option.some Jvm.ClassFile.FieldType.int)) ∈ lw_all := lw_g (lw_at lw_m14 84 rfl) rfl
theorem q3315 : (Jvm.Cond.instanceMethod ({ cls := "HamletWellsModel", name := "cheapestAgain", desc := "()I" } : Jvm.MethodName)) ∈ lw_all := lw_g (lw_at lw_m14 86 rfl) rfl
theorem q3316 : (Jvm.Cond.selects "HamletWellsModel" ({ cls := "HamletWellsModel", name := "cheapestAgain", desc := "()I" } : Jvm.MethodName) ({ cls := "HamletWellsModel", name := "cheapestAgain", desc := "()I" } : Jvm.MethodName)) ∈ lw_all := lw_g (lw_at lw_m14 87 rfl) rfl
theorem q3317 : (Jvm.Cond.code ({ cls := "HamletWellsModel", name := "cheapestAgain", desc := "()I" } : Jvm.MethodName) prog_45_method_73_code (1 : Nat) (Option.some Jvm.ClassFile.FieldType.int)) ∈ lw_all := lw_g (lw_at lw_m14 88 rfl) rfl
theorem q3318 : (Jvm.Cond.methodLink "HamletWellsModel" (231 : Nat) ({ cls := "HamletWellsModel", name := "finds", desc := "(I)V" } : Jvm.MethodName)) ∈ lw_all := lw_g (lw_at lw_m14 89 rfl) rfl
theorem q3319 : (Jvm.Cond.privateMethod ({ cls := "HamletWellsModel", name := "finds", desc := "(I)V" } : Jvm.MethodName)) ∈ lw_tbl := lw_at lw_m14 90 rfl
theorem q3320 : (Jvm.Cond.instanceMethod ({ cls := "HamletWellsModel", name := "finds", desc := "(I)V" } : Jvm.MethodName)) ∈ lw_all := lw_g (lw_at lw_m14 91 rfl) rfl
theorem q3321 : (Jvm.Cond.code ({ cls := "HamletWellsModel", name := "finds", desc := "(I)V" } : Jvm.MethodName) prog_45_method_72_code (5 : Nat) (Option.none : Option Jvm.ClassFile.FieldType)) ∈ lw_all := lw_g (lw_at lw_m14 92 rfl) rfl
theorem q3323 : (Jvm.Cond.instanceMethod ({ cls := "HamletWellsModel", name := "greedy", desc := "()I" } : Jvm.MethodName)) ∈ lw_all := lw_g (lw_at lw_m14 94 rfl) rfl
theorem q3324 : (Jvm.Cond.selects "HamletWellsModel" ({ cls := "HamletWellsModel", name := "greedy", desc := "()I" } : Jvm.MethodName) ({ cls := "HamletWellsModel", name := "greedy", desc := "()I" } : Jvm.MethodName)) ∈ lw_all := lw_g (lw_at lw_m14 95 rfl) rfl
theorem q3325 : (Jvm.Cond.code ({ cls := "HamletWellsModel", name := "greedy", desc := "()I" } : Jvm.MethodName) prog_45_method_75_code (4 : Nat) (Option.some Jvm.ClassFile.FieldType.int)) ∈ lw_all := lw_g (lw_at lw_m14 96 rfl) rfl
theorem q3326 : (Jvm.Cond.methodLink "HamletWellsModel" (234 : Nat) ({ cls := "HamletWellsModel", name := "next", desc := "(I)I" } : Jvm.MethodName)) ∈ lw_all := lw_g (lw_at lw_m14 97 rfl) rfl
theorem q3327 : (Jvm.Cond.privateMethod ({ cls := "HamletWellsModel", name := "next", desc := "(I)I" } : Jvm.MethodName)) ∈ lw_tbl := lw_at lw_m14 98 rfl
theorem q3328 : (Jvm.Cond.instanceMethod ({ cls := "HamletWellsModel", name := "next", desc := "(I)I" } : Jvm.MethodName)) ∈ lw_all := lw_g (lw_at lw_m14 99 rfl) rfl
theorem q3329 : (Jvm.Cond.code ({ cls := "HamletWellsModel", name := "next", desc := "(I)I" } : Jvm.MethodName) prog_45_method_74_code (4 : Nat) (Option.some Jvm.ClassFile.FieldType.int)) ∈ lw_all := lw_g (lw_at lw_m14 100 rfl) rfl
theorem q3331 : (Jvm.Cond.instanceMethod ({ cls := "HamletWellsModel", name := "swap", desc := "(I)I" } : Jvm.MethodName)) ∈ lw_all := lw_g (lw_at lw_m14 102 rfl) rfl
theorem q3332 : (Jvm.Cond.selects "HamletWellsModel" ({ cls := "HamletWellsModel", name := "swap", desc := "(I)I" } : Jvm.MethodName) ({ cls := "HamletWellsModel", name := "swap", desc := "(I)I" } : Jvm.MethodName)) ∈ lw_all := lw_g (lw_at lw_m14 103 rfl) rfl
theorem q3333 : (Jvm.Cond.code ({ cls := "HamletWellsModel", name := "swap", desc := "(I)I" } : Jvm.MethodName) prog_45_method_76_code (7 : Nat) (Option.some Jvm.ClassFile.FieldType.int)) ∈ lw_all := lw_g (lw_at lw_m14 104 rfl) rfl
theorem q3335 : (Jvm.Cond.instanceMethod ({ cls := "HamletWellsModel", name := "saves", desc := "(I)I" } : Jvm.MethodName)) ∈ lw_all := lw_g (lw_at lw_m14 106 rfl) rfl
theorem q3336 : (Jvm.Cond.selects "HamletWellsModel" ({ cls := "HamletWellsModel", name := "saves", desc := "(I)I" } : Jvm.MethodName) ({ cls := "HamletWellsModel", name := "saves", desc := "(I)I" } : Jvm.MethodName)) ∈ lw_all := lw_g (lw_at lw_m14 107 rfl) rfl
theorem q3337 : (Jvm.Cond.code ({ cls := "HamletWellsModel", name := "saves", desc := "(I)I" } : Jvm.MethodName) prog_45_method_77_code (2 : Nat) (Option.some Jvm.ClassFile.FieldType.int)) ∈ lw_all := lw_g (lw_at lw_m14 108 rfl) rfl
theorem q3339 : (Jvm.Cond.instanceMethod ({ cls := "HamletWellsModel", name := "thirsty", desc := "(I)I" } : Jvm.MethodName)) ∈ lw_all := lw_g (lw_at lw_m14 110 rfl) rfl
theorem q3340 : (Jvm.Cond.selects "HamletWellsModel" ({ cls := "HamletWellsModel", name := "thirsty", desc := "(I)I" } : Jvm.MethodName) ({ cls := "HamletWellsModel", name := "thirsty", desc := "(I)I" } : Jvm.MethodName)) ∈ lw_all := lw_g (lw_at lw_m14 111 rfl) rfl
theorem q3341 : (Jvm.Cond.code ({ cls := "HamletWellsModel", name := "thirsty", desc := "(I)I" } : Jvm.MethodName) prog_45_method_79_code (5 : Nat) (Option.some Jvm.ClassFile.FieldType.int)) ∈ lw_all := lw_g (lw_at lw_m14 112 rfl) rfl
theorem q3342 : (Jvm.Cond.methodLink "HamletWellsModel" (237 : Nat) ({ cls := "HamletWellsModel", name := "isThirstier", desc := "(II)Z" } : Jvm.MethodName)) ∈ lw_all := lw_g (lw_at lw_m14 113 rfl) rfl
theorem q3343 : (Jvm.Cond.privateMethod ({ cls := "HamletWellsModel", name := "isThirstier", desc := "(II)Z" } : Jvm.MethodName)) ∈ lw_tbl := lw_at lw_m14 114 rfl
theorem q3344 : (Jvm.Cond.instanceMethod ({ cls := "HamletWellsModel", name := "isThirstier", desc := "(II)Z" } : Jvm.MethodName)) ∈ lw_all := lw_g (lw_at lw_m14 115 rfl) rfl
theorem q3345 : (Jvm.Cond.code ({ cls := "HamletWellsModel", name := "isThirstier", desc := "(II)Z" } : Jvm.MethodName) prog_45_method_78_code (3 : Nat) (Option.some Jvm.ClassFile.FieldType.boolean)) ∈ lw_all := lw_g (lw_at lw_m14 116 rfl) rfl
theorem q3347 : (Jvm.Cond.instanceMethod ({ cls := "HamletWellsModel", name := "strained", desc := "(I)I" } : Jvm.MethodName)) ∈ lw_all := lw_g (lw_at lw_m14 118 rfl) rfl
theorem q3348 : (Jvm.Cond.selects "HamletWellsModel" ({ cls := "HamletWellsModel", name := "strained", desc := "(I)I" } : Jvm.MethodName) ({ cls := "HamletWellsModel", name := "strained", desc := "(I)I" } : Jvm.MethodName)) ∈ lw_all := lw_g (lw_at lw_m14 119 rfl) rfl
theorem q3349 : (Jvm.Cond.code ({ cls := "HamletWellsModel", name := "strained", desc := "(I)I" } : Jvm.MethodName) prog_45_method_81_code (5 : Nat) (Option.some Jvm.ClassFile.FieldType.int)) ∈ lw_all := lw_g (lw_at lw_m14 120 rfl) rfl
theorem q3350 : (Jvm.Cond.methodLink "HamletWellsModel" (240 : Nat) ({ cls := "HamletWellsModel", name := "spare", desc := "(I)I" } : Jvm.MethodName)) ∈ lw_all := lw_g (lw_at lw_m14 121 rfl) rfl
theorem q3351 : (Jvm.Cond.privateMethod ({ cls := "HamletWellsModel", name := "spare", desc := "(I)I" } : Jvm.MethodName)) ∈ lw_tbl := lw_at lw_m14 122 rfl
theorem q3352 : (Jvm.Cond.instanceMethod ({ cls := "HamletWellsModel", name := "spare", desc := "(I)I" } : Jvm.MethodName)) ∈ lw_all := lw_g (lw_at lw_m14 123 rfl) rfl
theorem q3353 : (Jvm.Cond.code ({ cls := "HamletWellsModel", name := "spare", desc := "(I)I" } : Jvm.MethodName) prog_45_method_80_code (2 : Nat) (Option.some Jvm.ClassFile.FieldType.int)) ∈ lw_all := lw_g (lw_at lw_m14 124 rfl) rfl
theorem q3355 : (Jvm.Cond.instanceMethod ({ cls := "HamletWellsModel", name := "isCounted", desc := "()Z" } : Jvm.MethodName)) ∈ lw_all := lw_g (lw_at lw_m14 126 rfl) rfl
theorem q3356 : (Jvm.Cond.selects "HamletWellsModel" ({ cls := "HamletWellsModel", name := "isCounted", desc := "()Z" } : Jvm.MethodName) ({ cls := "HamletWellsModel", name := "isCounted", desc := "()Z" } : Jvm.MethodName)) ∈ lw_all := lw_g (lw_at lw_m14 127 rfl) rfl
theorem q3357 : (Jvm.Cond.code ({ cls := "HamletWellsModel", name := "isCounted", desc := "()Z" } : Jvm.MethodName) prog_45_method_83_code (6 : Nat) (Option.some Jvm.ClassFile.FieldType.boolean)) ∈ lw_all := lw_g (lw_at lw_m14 128 rfl) rfl
theorem q3358 : (Jvm.Cond.methodLink "HamletWellsModel" (243 : Nat) ({ cls := "HamletWellsModel", name := "cheapestAgain", desc := "()I" } : Jvm.MethodName)) ∈ lw_all := lw_g (lw_at lw_m14 129 rfl) rfl
theorem q3359 : (Jvm.Cond.methodLink "HamletWellsModel" (246 : Nat) ({ cls := "HamletWellsModel", name := "pumpsOn", desc := "()I" } : Jvm.MethodName)) ∈ lw_all := lw_g (lw_at lw_m14 130 rfl) rfl
theorem q3360 : (Jvm.Cond.privateMethod ({ cls := "HamletWellsModel", name := "pumpsOn", desc := "()I" } : Jvm.MethodName)) ∈ lw_tbl := lw_at lw_m14 131 rfl
theorem q3361 : (Jvm.Cond.instanceMethod ({ cls := "HamletWellsModel", name := "pumpsOn", desc := "()I" } : Jvm.MethodName)) ∈ lw_all := lw_g (lw_at lw_m14 132 rfl) rfl
theorem q3362 : (Jvm.Cond.code ({ cls := "HamletWellsModel", name := "pumpsOn", desc := "()I" } : Jvm.MethodName) prog_45_method_82_code (3 : Nat) (Option.some Jvm.ClassFile.FieldType.int)) ∈ lw_all := lw_g (lw_at lw_m14 133 rfl) rfl
theorem q3364 : (Jvm.Cond.instanceMethod ({ cls := "HamletWellsModel", name := "meanWay", desc := "()D" } : Jvm.MethodName)) ∈ lw_all := lw_g (lw_at lw_m14 135 rfl) rfl
theorem q3365 : (Jvm.Cond.selects "HamletWellsModel" ({ cls := "HamletWellsModel", name := "meanWay", desc := "()D" } : Jvm.MethodName) ({ cls := "HamletWellsModel", name := "meanWay", desc := "()D" } : Jvm.MethodName)) ∈ lw_all := lw_g (lw_at lw_m14 136 rfl) rfl
theorem q3366 : (Jvm.Cond.code ({ cls := "HamletWellsModel", name := "meanWay", desc := "()D" } : Jvm.MethodName) prog_45_method_84_code (3 : Nat) (Option.some Jvm.ClassFile.FieldType.double)) ∈ lw_all := lw_g (lw_at lw_m14 137 rfl) rfl
theorem q3367 : (Jvm.Cond.methodLink "HamletWellsModel" (249 : Nat) ({ cls := "HamletWellsModel", name := "people", desc := "()I" } : Jvm.MethodName)) ∈ lw_all := lw_g (lw_at lw_m14 138 rfl) rfl
theorem q3368 : (Jvm.Cond.privateMethod ({ cls := "HamletWellsModel", name := "people", desc := "()I" } : Jvm.MethodName)) ∈ lw_tbl := lw_at lw_m14 139 rfl
theorem q3369 : (Jvm.Cond.instanceMethod ({ cls := "HamletWellsModel", name := "people", desc := "()I" } : Jvm.MethodName)) ∈ lw_all := lw_g (lw_at lw_m14 140 rfl) rfl
theorem q3370 : (Jvm.Cond.code ({ cls := "HamletWellsModel", name := "people", desc := "()I" } : Jvm.MethodName) prog_45_method_29_code (3 : Nat) (Option.some Jvm.ClassFile.FieldType.int)) ∈ lw_all := lw_g (lw_at lw_m14 141 rfl) rfl
theorem q3372 : (Jvm.Cond.instanceMethod ({ cls := "HamletWellsModel", name := "waterShare", desc := "()F" } : Jvm.MethodName)) ∈ lw_all := lw_g (lw_at lw_m14 143 rfl) rfl
theorem q3373 : (Jvm.Cond.selects "HamletWellsModel" ({ cls := "HamletWellsModel", name := "waterShare", desc := "()F" } : Jvm.MethodName) ({ cls := "HamletWellsModel", name := "waterShare", desc := "()F" } : Jvm.MethodName)) ∈ lw_all := lw_g (lw_at lw_m14 144 rfl) rfl
theorem q3374 : (Jvm.Cond.code ({ cls := "HamletWellsModel", name := "waterShare", desc := "()F" } : Jvm.MethodName) prog_45_method_85_code (2 : Nat) (Option.some Jvm.ClassFile.FieldType.float)) ∈ lw_all := lw_g (lw_at lw_m14 145 rfl) rfl
theorem q3376 : (Jvm.Cond.instanceMethod ({ cls := "HamletWellsModel", name := "account", desc := "(I)I" } : Jvm.MethodName)) ∈ lw_all := lw_g (lw_at lw_m14 147 rfl) rfl
theorem q3377 : (Jvm.Cond.selects "HamletWellsModel" ({ cls := "HamletWellsModel", name := "account", desc := "(I)I" } : Jvm.MethodName) ({ cls := "HamletWellsModel", name := "account", desc := "(I)I" } : Jvm.MethodName)) ∈ lw_all := lw_g (lw_at lw_m14 148 rfl) rfl
theorem q3378 : (Jvm.Cond.code ({ cls := "HamletWellsModel", name := "account", desc := "(I)I" } : Jvm.MethodName) prog_45_method_86_code (2 : Nat) (Option.some Jvm.ClassFile.FieldType.int)) ∈ lw_all := lw_g (lw_at lw_m14 149 rfl) rfl
theorem q3380 : (Jvm.Cond.instanceMethod ({ cls := "HamletWellsModel", name := "write", desc := "(I)I" } : Jvm.MethodName)) ∈ lw_all := lw_g (lw_at lw_m14 151 rfl) rfl
theorem q3381 : (Jvm.Cond.selects "HamletWellsModel" ({ cls := "HamletWellsModel", name := "write", desc := "(I)I" } : Jvm.MethodName) ({ cls := "HamletWellsModel", name := "write", desc := "(I)I" } : Jvm.MethodName)) ∈ lw_all := lw_g (lw_at lw_m14 152 rfl) rfl
theorem q3382 : (Jvm.Cond.code ({ cls := "HamletWellsModel", name := "write", desc := "(I)I" } : Jvm.MethodName) prog_45_method_90_code (3 : Nat) (Option.some Jvm.ClassFile.FieldType.int)) ∈ lw_all := lw_g (lw_at lw_m14 153 rfl) rfl
theorem q3383 : (Jvm.Cond.methodLink "HamletWellsModel" (261 : Nat) ({ cls := "HamletWellsModel", name := "putsNumber", desc := "(I)V" } : Jvm.MethodName)) ∈ lw_all := lw_g (lw_at lw_m14 154 rfl) rfl
theorem q3384 : (Jvm.Cond.privateMethod ({ cls := "HamletWellsModel", name := "putsNumber", desc := "(I)V" } : Jvm.MethodName)) ∈ lw_tbl := lw_at lw_m14 155 rfl
theorem q3385 : (Jvm.Cond.instanceMethod ({ cls := "HamletWellsModel", name := "putsNumber", desc := "(I)V" } : Jvm.MethodName)) ∈ lw_all := lw_g (lw_at lw_m14 156 rfl) rfl
theorem q3386 : (Jvm.Cond.code ({ cls := "HamletWellsModel", name := "putsNumber", desc := "(I)V" } : Jvm.MethodName) prog_45_method_88_code (4 : Nat) (Option.none : Option Jvm.ClassFile.FieldType)) ∈ lw_all := lw_g (lw_at lw_m14 157 rfl) rfl
theorem q3387 : (Jvm.Cond.methodLink "HamletWellsModel" (258 : Nat) ({ cls := "HamletWellsModel", name := "puts", desc := "(I)V" } : Jvm.MethodName)) ∈ lw_all := lw_g (lw_at lw_m14 158 rfl) rfl
theorem q3388 : (Jvm.Cond.privateMethod ({ cls := "HamletWellsModel", name := "puts", desc := "(I)V" } : Jvm.MethodName)) ∈ lw_tbl := lw_at lw_m14 159 rfl
theorem q3389 : (Jvm.Cond.instanceMethod ({ cls := "HamletWellsModel", name := "puts", desc := "(I)V" } : Jvm.MethodName)) ∈ lw_all := lw_g (lw_at lw_m14 160 rfl) rfl
theorem q3390 : (Jvm.Cond.code ({ cls := "HamletWellsModel", name := "puts", desc := "(I)V" } : Jvm.MethodName) prog_45_method_87_code (2 : Nat) (Option.none : Option Jvm.ClassFile.FieldType)) ∈ lw_all := lw_g (lw_at lw_m14 161 rfl) rfl
theorem q3391 : (Jvm.Cond.methodLink "HamletWellsModel" (264 : Nat) ({ cls := "HamletWellsModel", name := "putsPlace", desc := "(II)V" } : Jvm.MethodName)) ∈ lw_all := lw_g (lw_at lw_m14 162 rfl) rfl
theorem q3392 : (Jvm.Cond.privateMethod ({ cls := "HamletWellsModel", name := "putsPlace", desc := "(II)V" } : Jvm.MethodName)) ∈ lw_tbl := lw_at lw_m14 163 rfl
theorem q3393 : (Jvm.Cond.instanceMethod ({ cls := "HamletWellsModel", name := "putsPlace", desc := "(II)V" } : Jvm.MethodName)) ∈ lw_all := lw_g (lw_at lw_m14 164 rfl) rfl
theorem q3394 : (Jvm.Cond.code ({ cls := "HamletWellsModel", name := "putsPlace", desc := "(II)V" } : Jvm.MethodName) prog_45_method_89_code (3 : Nat) (Option.none : Option Jvm.ClassFile.FieldType)) ∈ lw_all := lw_g (lw_at lw_m14 165 rfl) rfl
theorem q3396 : (Jvm.Cond.instanceMethod ({ cls := "HamletWellsModel", name := "writeHamlet", desc := "(I)I" } : Jvm.MethodName)) ∈ lw_all := lw_g (lw_at lw_m14 167 rfl) rfl
theorem q3397 : (Jvm.Cond.selects "HamletWellsModel" ({ cls := "HamletWellsModel", name := "writeHamlet", desc := "(I)I" } : Jvm.MethodName) ({ cls := "HamletWellsModel", name := "writeHamlet", desc := "(I)I" } : Jvm.MethodName)) ∈ lw_all := lw_g (lw_at lw_m14 168 rfl) rfl
theorem q3398 : (Jvm.Cond.code ({ cls := "HamletWellsModel", name := "writeHamlet", desc := "(I)I" } : Jvm.MethodName) prog_45_method_91_code (2 : Nat) (Option.some Jvm.ClassFile.FieldType.int)) ∈ lw_all := lw_g (lw_at lw_m14 169 rfl) rfl
theorem q3400 : (Jvm.Cond.instanceMethod ({ cls := "HamletWellsModel", name := "written", desc := "(I)I" } : Jvm.MethodName)) ∈ lw_all := lw_g (lw_at lw_m14 171 rfl) rfl
theorem q3401 : (Jvm.Cond.selects "HamletWellsModel" ({ cls := "HamletWellsModel", name := "written", desc := "(I)I" } : Jvm.MethodName) ({ cls := "HamletWellsModel", name := "written", desc := "(I)I" } : Jvm.MethodName)) ∈ lw_all := lw_g (lw_at lw_m14 172 rfl) rfl
theorem q3402 : (Jvm.Cond.code ({ cls := "HamletWellsModel", name := "written", desc := "(I)I" } : Jvm.MethodName) prog_45_method_92_code (2 : Nat) (Option.some Jvm.ClassFile.FieldType.int)) ∈ lw_all := lw_g (lw_at lw_m14 173 rfl) rfl
theorem q3404 : (Jvm.Cond.instanceMethod ({ cls := "HamletWellsModel", name := "append", desc := "(C)I" } : Jvm.MethodName)) ∈ lw_all := lw_g (lw_at lw_m14 175 rfl) rfl
theorem q3405 : (Jvm.Cond.selects "HamletWellsModel" ({ cls := "HamletWellsModel", name := "append", desc := "(C)I" } : Jvm.MethodName) ({ cls := "HamletWellsModel", name := "append", desc := "(C)I" } : Jvm.MethodName)) ∈ lw_all := lw_g (lw_at lw_m14 176 rfl) rfl
theorem q3406 : (Jvm.Cond.code ({ cls := "HamletWellsModel", name := "append", desc := "(C)I" } : Jvm.MethodName) prog_45_method_93_code (2 : Nat) (Option.some Jvm.ClassFile.FieldType.int)) ∈ lw_all := lw_g (lw_at lw_m14 177 rfl) rfl
theorem q3408 : (Jvm.Cond.instanceMethod ({ cls := "HamletWellsModel", name := "fault", desc := "()I" } : Jvm.MethodName)) ∈ lw_all := lw_g (lw_at lw_m14 179 rfl) rfl
theorem q3409 : (Jvm.Cond.selects "HamletWellsModel" ({ cls := "HamletWellsModel", name := "fault", desc := "()I" } : Jvm.MethodName) ({ cls := "HamletWellsModel", name := "fault", desc := "()I" } : Jvm.MethodName)) ∈ lw_all := lw_g (lw_at lw_m14 180 rfl) rfl
theorem q3410 : (Jvm.Cond.code ({ cls := "HamletWellsModel", name := "fault", desc := "()I" } : Jvm.MethodName) prog_45_method_94_code (1 : Nat) (Option.some Jvm.ClassFile.FieldType.int)) ∈ lw_all := lw_g (lw_at lw_m14 181 rfl) rfl
theorem q3412 : (Jvm.Cond.instanceMethod ({ cls := "HamletWellsModel", name := "read", desc := "()I" } : Jvm.MethodName)) ∈ lw_all := lw_g (lw_at lw_m14 183 rfl) rfl
theorem q3413 : (Jvm.Cond.selects "HamletWellsModel" ({ cls := "HamletWellsModel", name := "read", desc := "()I" } : Jvm.MethodName) ({ cls := "HamletWellsModel", name := "read", desc := "()I" } : Jvm.MethodName)) ∈ lw_all := lw_g (lw_at lw_m14 184 rfl) rfl
theorem q3414 : (Jvm.Cond.code ({ cls := "HamletWellsModel", name := "read", desc := "()I" } : Jvm.MethodName) prog_45_method_107_code (2 : Nat) (Option.some Jvm.ClassFile.FieldType.int)) ∈ lw_all := lw_g (lw_at lw_m14 185 rfl) rfl
theorem q3415 : (Jvm.Cond.methodLink "HamletWellsModel" (306 : Nat) ({ cls := "HamletWellsModel", name := "readsAll", desc := "()Z" } : Jvm.MethodName)) ∈ lw_all := lw_g (lw_at lw_m14 186 rfl) rfl
theorem q3416 : (Jvm.Cond.privateMethod ({ cls := "HamletWellsModel", name := "readsAll", desc := "()Z" } : Jvm.MethodName)) ∈ lw_tbl := lw_at lw_m14 187 rfl
theorem q3417 : (Jvm.Cond.instanceMethod ({ cls := "HamletWellsModel", name := "readsAll", desc := "()Z" } : Jvm.MethodName)) ∈ lw_all := lw_g (lw_at lw_m14 188 rfl) rfl
theorem q3418 : (Jvm.Cond.code ({ cls := "HamletWellsModel", name := "readsAll", desc := "()Z" } : Jvm.MethodName) prog_45_method_103_code (2 : Nat) (Option.some Jvm.ClassFile.FieldType.boolean)) ∈ lw_all := lw_g (lw_at lw_m14 189 rfl) rfl
theorem q3419 : (Jvm.Cond.methodLink "HamletWellsModel" (294 : Nat) ({ cls := "HamletWellsModel", name := "readsCommand", desc := "()Z" } : Jvm.MethodName)) ∈ lw_all := lw_g (lw_at lw_m14 190 rfl) rfl
theorem q3420 : (Jvm.Cond.privateMethod ({ cls := "HamletWellsModel", name := "readsCommand", desc := "()Z" } : Jvm.MethodName)) ∈ lw_tbl := lw_at lw_m14 191 rfl
theorem q3421 : (Jvm.Cond.instanceMethod ({ cls := "HamletWellsModel", name := "readsCommand", desc := "()Z" } : Jvm.MethodName)) ∈ lw_all := lw_g (lw_at lw_m14 192 rfl) rfl
theorem q3422 : (Jvm.Cond.code ({ cls := "HamletWellsModel", name := "readsCommand", desc := "()Z" } : Jvm.MethodName) prog_45_method_102_code (1 : Nat) (Option.some Jvm.ClassFile.FieldType.boolean)) ∈ lw_all := lw_g (lw_at lw_m14 193 rfl) rfl
theorem q3423 : (Jvm.Cond.methodLink "HamletWellsModel" (275 : Nat) ({ cls := "HamletWellsModel", name := "reads", desc := "(I)Z" } : Jvm.MethodName)) ∈ lw_all := lw_g (lw_at lw_m14 194 rfl) rfl
theorem q3424 : (Jvm.Cond.privateMethod ({ cls := "HamletWellsModel", name := "reads", desc := "(I)Z" } : Jvm.MethodName)) ∈ lw_tbl := lw_at lw_m14 195 rfl
theorem q3425 : (Jvm.Cond.instanceMethod ({ cls := "HamletWellsModel", name := "reads", desc := "(I)Z" } : Jvm.MethodName)) ∈ lw_all := lw_g (lw_at lw_m14 196 rfl) rfl
theorem q3426 : (Jvm.Cond.code ({ cls := "HamletWellsModel", name := "reads", desc := "(I)Z" } : Jvm.MethodName) prog_45_method_96_code (2 : Nat) (Option.some Jvm.ClassFile.FieldType.boolean)) ∈ lw_all := lw_g (lw_at lw_m14 197 rfl) rfl
theorem q3427 : (Jvm.Cond.methodLink "HamletWellsModel" (270 : Nat) ({ cls := "HamletWellsModel", name := "next", desc := "()I" } : Jvm.MethodName)) ∈ lw_all := lw_g (lw_at lw_m14 198 rfl) rfl
theorem q3428 : (Jvm.Cond.privateMethod ({ cls := "HamletWellsModel", name := "next", desc := "()I" } : Jvm.MethodName)) ∈ lw_tbl := lw_at lw_m14 199 rfl
theorem q3429 : (Jvm.Cond.instanceMethod ({ cls := "HamletWellsModel", name := "next", desc := "()I" } : Jvm.MethodName)) ∈ lw_all := lw_g (lw_at lw_m14 200 rfl) rfl
theorem q3430 : (Jvm.Cond.code ({ cls := "HamletWellsModel", name := "next", desc := "()I" } : Jvm.MethodName) prog_45_method_95_code (1 : Nat) (Option.some Jvm.ClassFile.FieldType.int)) ∈ lw_all := lw_g (lw_at lw_m14 201 rfl) rfl
theorem q3431 : (Jvm.Cond.methodLink "HamletWellsModel" (284 : Nat) ({ cls := "HamletWellsModel", name := "readsPlace", desc := "()Z" } : Jvm.MethodName)) ∈ lw_all := lw_g (lw_at lw_m14 202 rfl) rfl
theorem q3432 : (Jvm.Cond.privateMethod ({ cls := "HamletWellsModel", name := "readsPlace", desc := "()Z" } : Jvm.MethodName)) ∈ lw_tbl := lw_at lw_m14 203 rfl
theorem q3433 : (Jvm.Cond.instanceMethod ({ cls := "HamletWellsModel", name := "readsPlace", desc := "()Z" } : Jvm.MethodName)) ∈ lw_all := lw_g (lw_at lw_m14 204 rfl) rfl
theorem q3434 : (Jvm.Cond.code ({ cls := "HamletWellsModel", name := "readsPlace", desc := "()Z" } : Jvm.MethodName) prog_45_method_99_code (1 : Nat) (Option.some Jvm.ClassFile.FieldType.boolean)) ∈ lw_all := lw_g (lw_at lw_m14 205 rfl) rfl
theorem q3435 : (Jvm.Cond.methodLink "HamletWellsModel" (278 : Nat) ({ cls := "HamletWellsModel", name := "readsNumber", desc := "(I)Z" } : Jvm.MethodName)) ∈ lw_all := lw_g (lw_at lw_m14 206 rfl) rfl
theorem q3436 : (Jvm.Cond.privateMethod ({ cls := "HamletWellsModel", name := "readsNumber", desc := "(I)Z" } : Jvm.MethodName)) ∈ lw_tbl := lw_at lw_m14 207 rfl
theorem q3437 : (Jvm.Cond.instanceMethod ({ cls := "HamletWellsModel", name := "readsNumber", desc := "(I)Z" } : Jvm.MethodName)) ∈ lw_all := lw_g (lw_at lw_m14 208 rfl) rfl
theorem q3438 : (Jvm.Cond.code ({ cls := "HamletWellsModel", name := "readsNumber", desc := "(I)Z" } : Jvm.MethodName) prog_45_method_98_code (3 : Nat) (Option.some Jvm.ClassFile.FieldType.boolean)) ∈ lw_all := lw_g (lw_at lw_m14 209 rfl) rfl
theorem q3439 : (Jvm.Cond.methodLink "HamletWellsModel" (272 : Nat) ({ cls := "HamletWellsModel", name := "readsDigit", desc := "(I)Z" } : Jvm.MethodName)) ∈ lw_all := lw_g (lw_at lw_m14 210 rfl) rfl
theorem q3440 : (Jvm.Cond.privateMethod ({ cls := "HamletWellsModel", name := "readsDigit", desc := "(I)Z" } : Jvm.MethodName)) ∈ lw_tbl := lw_at lw_m14 211 rfl
theorem q3441 : (Jvm.Cond.instanceMethod ({ cls := "HamletWellsModel", name := "readsDigit", desc := "(I)Z" } : Jvm.MethodName)) ∈ lw_all := lw_g (lw_at lw_m14 212 rfl) rfl
theorem q3442 : (Jvm.Cond.code ({ cls := "HamletWellsModel", name := "readsDigit", desc := "(I)Z" } : Jvm.MethodName) prog_45_method_97_code (2 : Nat) (Option.some Jvm.ClassFile.FieldType.boolean)) ∈ lw_all := lw_g (lw_at lw_m14 213 rfl) rfl
theorem q3443 : (Jvm.Cond.methodLink "HamletWellsModel" (288 : Nat) ({ cls := "HamletWellsModel", name := "readsS", desc := "()Z" } : Jvm.MethodName)) ∈ lw_all := lw_g (lw_at lw_m14 214 rfl) rfl
theorem q3444 : (Jvm.Cond.privateMethod ({ cls := "HamletWellsModel", name := "readsS", desc := "()Z" } : Jvm.MethodName)) ∈ lw_tbl := lw_at lw_m14 215 rfl
theorem q3445 : (Jvm.Cond.instanceMethod ({ cls := "HamletWellsModel", name := "readsS", desc := "()Z" } : Jvm.MethodName)) ∈ lw_all := lw_g (lw_at lw_m14 216 rfl) rfl
theorem q3446 : (Jvm.Cond.code ({ cls := "HamletWellsModel", name := "readsS", desc := "()Z" } : Jvm.MethodName) prog_45_method_100_code (1 : Nat) (Option.some Jvm.ClassFile.FieldType.boolean)) ∈ lw_all := lw_g (lw_at lw_m14 217 rfl) rfl
theorem q3447 : (Jvm.Cond.methodLink "HamletWellsModel" (291 : Nat) ({ cls := "HamletWellsModel", name := "readsP", desc := "()Z" } : Jvm.MethodName)) ∈ lw_all := lw_g (lw_at lw_m14 218 rfl) rfl
theorem q3448 : (Jvm.Cond.privateMethod ({ cls := "HamletWellsModel", name := "readsP", desc := "()Z" } : Jvm.MethodName)) ∈ lw_tbl := lw_at lw_m14 219 rfl
theorem q3449 : (Jvm.Cond.instanceMethod ({ cls := "HamletWellsModel", name := "readsP", desc := "()Z" } : Jvm.MethodName)) ∈ lw_all := lw_g (lw_at lw_m14 220 rfl) rfl
theorem q3450 : (Jvm.Cond.code ({ cls := "HamletWellsModel", name := "readsP", desc := "()Z" } : Jvm.MethodName) prog_45_method_101_code (1 : Nat) (Option.some Jvm.ClassFile.FieldType.boolean)) ∈ lw_all := lw_g (lw_at lw_m14 221 rfl) rfl
theorem q3451 : (Jvm.Cond.methodLink "HamletWellsModel" (309 : Nat) ({ cls := "HamletWellsModel", name := "notAll", desc := "()I" } : Jvm.MethodName)) ∈ lw_all := lw_g (lw_at lw_m14 222 rfl) rfl
theorem q3452 : (Jvm.Cond.privateMethod ({ cls := "HamletWellsModel", name := "notAll", desc := "()I" } : Jvm.MethodName)) ∈ lw_tbl := lw_at lw_m14 223 rfl
theorem q3453 : (Jvm.Cond.instanceMethod ({ cls := "HamletWellsModel", name := "notAll", desc := "()I" } : Jvm.MethodName)) ∈ lw_all := lw_g (lw_at lw_m14 224 rfl) rfl
theorem q3454 : (Jvm.Cond.code ({ cls := "HamletWellsModel", name := "notAll", desc := "()I" } : Jvm.MethodName) prog_45_method_106_code (3 : Nat) (Option.some Jvm.ClassFile.FieldType.int)) ∈ lw_all := lw_g (lw_at lw_m14 225 rfl) rfl
theorem q3455 : (Jvm.Cond.methodLink "HamletWellsModel" (300 : Nat) ({ cls := "HamletWellsModel", name := "notNow", desc := "()I" } : Jvm.MethodName)) ∈ lw_all := lw_g (lw_at lw_m14 226 rfl) rfl
theorem q3456 : (Jvm.Cond.privateMethod ({ cls := "HamletWellsModel", name := "notNow", desc := "()I" } : Jvm.MethodName)) ∈ lw_tbl := lw_at lw_m14 227 rfl
theorem q3457 : (Jvm.Cond.instanceMethod ({ cls := "HamletWellsModel", name := "notNow", desc := "()I" } : Jvm.MethodName)) ∈ lw_all := lw_g (lw_at lw_m14 228 rfl) rfl
theorem q3458 : (Jvm.Cond.code ({ cls := "HamletWellsModel", name := "notNow", desc := "()I" } : Jvm.MethodName) prog_45_method_104_code (2 : Nat) (Option.some Jvm.ClassFile.FieldType.int)) ∈ lw_all := lw_g (lw_at lw_m14 229 rfl) rfl
theorem q3459 : (Jvm.Cond.methodLink "HamletWellsModel" (303 : Nat) ({ cls := "HamletWellsModel", name := "doesNow", desc := "()I" } : Jvm.MethodName)) ∈ lw_all := lw_g (lw_at lw_m14 230 rfl) rfl
theorem q3460 : (Jvm.Cond.privateMethod ({ cls := "HamletWellsModel", name := "doesNow", desc := "()I" } : Jvm.MethodName)) ∈ lw_tbl := lw_at lw_m14 231 rfl
theorem q3461 : (Jvm.Cond.instanceMethod ({ cls := "HamletWellsModel", name := "doesNow", desc := "()I" } : Jvm.MethodName)) ∈ lw_all := lw_g (lw_at lw_m14 232 rfl) rfl
theorem q3462 : (Jvm.Cond.code ({ cls := "HamletWellsModel", name := "doesNow", desc := "()I" } : Jvm.MethodName) prog_45_method_105_code (2 : Nat) (Option.some Jvm.ClassFile.FieldType.int)) ∈ lw_all := lw_g (lw_at lw_m14 233 rfl) rfl
theorem q3464 : (Jvm.Cond.instanceMethod ({ cls := "HamletWellsModel", name := "undo", desc := "()I" } : Jvm.MethodName)) ∈ lw_all := lw_g (lw_at lw_m14 235 rfl) rfl
theorem q3465 : (Jvm.Cond.selects "HamletWellsModel" ({ cls := "HamletWellsModel", name := "undo", desc := "()I" } : Jvm.MethodName) ({ cls := "HamletWellsModel", name := "undo", desc := "()I" } : Jvm.MethodName)) ∈ lw_all := lw_g (lw_at lw_m14 236 rfl) rfl
theorem q3466 : (Jvm.Cond.code ({ cls := "HamletWellsModel", name := "undo", desc := "()I" } : Jvm.MethodName) prog_45_method_108_code (3 : Nat) (Option.some Jvm.ClassFile.FieldType.int)) ∈ lw_all := lw_g (lw_at lw_m14 237 rfl) rfl
theorem q3468 : (Jvm.Cond.instanceMethod ({ cls := "HamletWellsModel", name := "save", desc := "()I" } : Jvm.MethodName)) ∈ lw_all := lw_g (lw_at lw_m14 239 rfl) rfl
theorem q3469 : (Jvm.Cond.selects "HamletWellsModel" ({ cls := "HamletWellsModel", name := "save", desc := "()I" } : Jvm.MethodName) ({ cls := "HamletWellsModel", name := "save", desc := "()I" } : Jvm.MethodName)) ∈ lw_all := lw_g (lw_at lw_m15 0 rfl) rfl
theorem q3470 : (Jvm.Cond.code ({ cls := "HamletWellsModel", name := "save", desc := "()I" } : Jvm.MethodName) prog_45_method_109_code (2 : Nat) (Option.some Jvm.ClassFile.FieldType.int)) ∈ lw_all := lw_g (lw_at lw_m15 1 rfl) rfl
theorem q3472 : (Jvm.Cond.instanceMethod ({ cls := "HamletWellsModel", name := "restore", desc := "()I" } : Jvm.MethodName)) ∈ lw_all := lw_g (lw_at lw_m15 3 rfl) rfl
theorem q3473 : (Jvm.Cond.selects "HamletWellsModel" ({ cls := "HamletWellsModel", name := "restore", desc := "()I" } : Jvm.MethodName) ({ cls := "HamletWellsModel", name := "restore", desc := "()I" } : Jvm.MethodName)) ∈ lw_all := lw_g (lw_at lw_m15 4 rfl) rfl
theorem q3474 : (Jvm.Cond.code ({ cls := "HamletWellsModel", name := "restore", desc := "()I" } : Jvm.MethodName) prog_45_method_110_code (2 : Nat) (Option.some Jvm.ClassFile.FieldType.int)) ∈ lw_all := lw_g (lw_at lw_m15 5 rfl) rfl
theorem q3505 : (Jvm.Cond.castable "HamletWellsModel" "java/lang/Object") ∈ lw_tbl := lw_at lw_m15 36 rfl
theorem in_X3 : ∀ w ∈ wsX30, w ∈ lw_all := lw_in wsX30 [3000, 3002, 3004, 3006, 3008, 3010, 3012, 3014, 3016, 3018, 3020, 3022, 3024, 3026, 3028, 3030, 3032, 3034, 3036, 3038, 3040] (by decide +kernel) (by decide +kernel)
/-! the law's own entry -/
set_option maxRecDepth 100000
abbrev cL_law : ByteArray := code
def dkwL_law_39 : List UInt8 := [4, 172]
abbrev dktL_law_39 : List UInt8 := dkwL_law_39 ++ []
def dkwL_law_38 : List UInt8 := [159, 0, 18, 3, 172, 43, 182, 0, 155, 44, 182, 0, 158, 159, 0, 5, 3, 172, 132, 3, 5, 167, 252, 7]
abbrev dktL_law_38 : List UInt8 := dkwL_law_38 ++ dktL_law_39
def dkwL_law_37 : List UInt8 := [3, 172, 43, 182, 0, 147, 44, 182, 0, 150, 159, 0, 31, 3, 172, 43, 182, 0, 151, 44, 182, 0, 154]
abbrev dktL_law_37 : List UInt8 := dkwL_law_37 ++ dktL_law_38
def dkwL_law_36 : List UInt8 := [42, 29, 4, 96, 46, 42, 29, 5, 96, 46, 153, 0, 7, 4, 167, 0, 4, 3, 182, 0, 146, 159, 0, 44]
abbrev dktL_law_36 : List UInt8 := dkwL_law_36 ++ dktL_law_37
def dkwL_law_35 : List UInt8 := [172, 43, 42, 29, 4, 96, 46, 42, 29, 5, 96, 46, 153, 0, 7, 4, 167, 0, 4, 3, 182, 0, 142, 44]
abbrev dktL_law_35 : List UInt8 := dkwL_law_35 ++ dktL_law_36
def dkwL_law_34 : List UInt8 := [182, 0, 134, 44, 182, 0, 137, 159, 0, 106, 3, 172, 43, 182, 0, 138, 44, 182, 0, 141, 159, 0, 93, 3]
abbrev dktL_law_34 : List UInt8 := dkwL_law_34 ++ dktL_law_35
def dkwL_law_33 : List UInt8 := [96, 46, 146, 182, 0, 129, 44, 42, 29, 4, 96, 46, 146, 182, 0, 133, 159, 0, 119, 3, 172, 43]
abbrev dktL_law_33 : List UInt8 := dkwL_law_33 ++ dktL_law_34
def dkwL_law_32 : List UInt8 := [4, 96, 46, 182, 0, 125, 44, 42, 29, 4, 96, 46, 182, 0, 128, 159, 0, 144, 3, 172, 43, 42, 29, 4]
abbrev dktL_law_32 : List UInt8 := dkwL_law_32 ++ dktL_law_33
def dkwL_law_31 : List UInt8 := [29, 4, 96, 46, 182, 0, 121, 44, 42, 29, 4, 96, 46, 182, 0, 124, 159, 0, 167, 3, 172, 43, 42, 29]
abbrev dktL_law_31 : List UInt8 := dkwL_law_31 ++ dktL_law_32
def dkwL_law_30 : List UInt8 := [42, 29, 4, 96, 46, 182, 0, 117, 44, 42, 29, 4, 96, 46, 182, 0, 120, 159, 0, 190, 3, 172, 43, 42]
abbrev dktL_law_30 : List UInt8 := dkwL_law_30 ++ dktL_law_31
def dkwL_law_29 : List UInt8 := [43, 42, 29, 4, 96, 46, 182, 0, 113, 44, 42, 29, 4, 96, 46, 182, 0, 116, 159, 0, 213, 3, 172, 43]
abbrev dktL_law_29 : List UInt8 := dkwL_law_29 ++ dktL_law_30
def dkwL_law_28 : List UInt8 := [153, 0, 21, 24, 4, 24, 4, 151, 153, 0, 11, 24, 6, 24, 6, 151, 154, 0, 5, 3, 172, 167, 0, 234]
abbrev dktL_law_28 : List UInt8 := dkwL_law_28 ++ dktL_law_29
def dkwL_law_27 : List UInt8 := [167, 1, 21, 43, 182, 0, 108, 141, 57, 4, 44, 182, 0, 112, 141, 57, 6, 24, 4, 24, 6, 151]
abbrev dktL_law_27 : List UInt8 := dkwL_law_27 ++ dktL_law_28
def dkwL_law_26 : List UInt8 := [24, 6, 151, 153, 0, 21, 24, 4, 24, 4, 151, 153, 0, 11, 24, 6, 24, 6, 151, 154, 0, 5, 3, 172]
abbrev dktL_law_26 : List UInt8 := dkwL_law_26 ++ dktL_law_27
def dkwL_law_25 : List UInt8 := [44, 182, 0, 102, 159, 1, 64, 3, 172, 43, 182, 0, 103, 57, 4, 44, 182, 0, 107, 57, 6, 24, 4]
abbrev dktL_law_25 : List UInt8 := dkwL_law_25 ++ dktL_law_26
def dkwL_law_24 : List UInt8 := [4, 96, 46, 182, 0, 94, 44, 42, 29, 4, 96, 46, 182, 0, 97, 159, 1, 77, 3, 172, 43, 182, 0, 98]
abbrev dktL_law_24 : List UInt8 := dkwL_law_24 ++ dktL_law_25
def dkwL_law_23 : List UInt8 := [29, 4, 96, 46, 182, 0, 90, 44, 42, 29, 4, 96, 46, 182, 0, 93, 159, 1, 100, 3, 172, 43, 42, 29]
abbrev dktL_law_23 : List UInt8 := dkwL_law_23 ++ dktL_law_24
def dkwL_law_22 : List UInt8 := [42, 29, 4, 96, 46, 182, 0, 86, 44, 42, 29, 4, 96, 46, 182, 0, 89, 159, 1, 123, 3, 172, 43, 42]
abbrev dktL_law_22 : List UInt8 := dkwL_law_22 ++ dktL_law_23
def dkwL_law_21 : List UInt8 := [43, 42, 29, 4, 96, 46, 182, 0, 82, 44, 42, 29, 4, 96, 46, 182, 0, 85, 159, 1, 146, 3, 172, 43]
abbrev dktL_law_21 : List UInt8 := dkwL_law_21 ++ dktL_law_22
def dkwL_law_20 : List UInt8 := [172, 43, 42, 29, 4, 96, 46, 182, 0, 78, 44, 42, 29, 4, 96, 46, 182, 0, 81, 159, 1, 169, 3, 172]
abbrev dktL_law_20 : List UInt8 := dkwL_law_20 ++ dktL_law_21
def dkwL_law_19 : List UInt8 := [182, 0, 70, 44, 182, 0, 73, 159, 1, 205, 3, 172, 43, 182, 0, 74, 44, 182, 0, 77, 159, 1, 192, 3]
abbrev dktL_law_19 : List UInt8 := dkwL_law_19 ++ dktL_law_20
def dkwL_law_18 : List UInt8 := [182, 0, 64, 159, 1, 231, 3, 172, 43, 182, 0, 65, 44, 182, 0, 69, 159, 1, 218, 3, 172, 43]
abbrev dktL_law_18 : List UInt8 := dkwL_law_18 ++ dktL_law_19
def dkwL_law_17 : List UInt8 := [182, 0, 60, 159, 1, 254, 3, 172, 43, 42, 29, 4, 96, 46, 182, 0, 61, 44, 42, 29, 4, 96, 46]
abbrev dktL_law_17 : List UInt8 := dkwL_law_17 ++ dktL_law_18
def dkwL_law_16 : List UInt8 := [42, 29, 4, 96, 46, 42, 29, 5, 96, 46, 182, 0, 57, 44, 42, 29, 4, 96, 46, 42, 29, 5, 96, 46]
abbrev dktL_law_16 : List UInt8 := dkwL_law_16 ++ dktL_law_17
def dkwL_law_15 : List UInt8 := [46, 182, 0, 53, 44, 42, 29, 4, 96, 46, 42, 29, 5, 96, 46, 182, 0, 56, 159, 2, 31, 3, 172, 43]
abbrev dktL_law_15 : List UInt8 := dkwL_law_15 ++ dktL_law_16
def dkwL_law_14 : List UInt8 := [46, 42, 29, 5, 96, 46, 182, 0, 52, 159, 2, 64, 3, 172, 43, 42, 29, 4, 96, 46, 42, 29, 5, 96]
abbrev dktL_law_14 : List UInt8 := dkwL_law_14 ++ dktL_law_15
def dkwL_law_13 : List UInt8 := [159, 2, 97, 3, 172, 43, 42, 29, 4, 96, 46, 42, 29, 5, 96, 46, 182, 0, 49, 44, 42, 29, 4, 96]
abbrev dktL_law_13 : List UInt8 := dkwL_law_13 ++ dktL_law_14
def dkwL_law_12 : List UInt8 := [159, 2, 120, 3, 172, 43, 42, 29, 4, 96, 46, 182, 0, 45, 44, 42, 29, 4, 96, 46, 182, 0, 48]
abbrev dktL_law_12 : List UInt8 := dkwL_law_12 ++ dktL_law_13
def dkwL_law_11 : List UInt8 := [96, 46, 42, 29, 5, 96, 46, 182, 0, 40, 44, 42, 29, 4, 96, 46, 42, 29, 5, 96, 46, 182, 0, 44]
abbrev dktL_law_11 : List UInt8 := dkwL_law_11 ++ dktL_law_12
def dkwL_law_10 : List UInt8 := [4, 96, 46, 182, 0, 36, 44, 42, 29, 4, 96, 46, 182, 0, 39, 159, 2, 153, 3, 172, 43, 42, 29, 4]
abbrev dktL_law_10 : List UInt8 := dkwL_law_10 ++ dktL_law_11
def dkwL_law_9 : List UInt8 := [29, 4, 96, 46, 182, 0, 32, 44, 42, 29, 4, 96, 46, 182, 0, 35, 159, 2, 176, 3, 172, 43, 42, 29]
abbrev dktL_law_9 : List UInt8 := dkwL_law_9 ++ dktL_law_10
def dkwL_law_8 : List UInt8 := [42, 29, 4, 96, 46, 182, 0, 28, 44, 42, 29, 4, 96, 46, 182, 0, 31, 159, 2, 199, 3, 172, 43, 42]
abbrev dktL_law_8 : List UInt8 := dkwL_law_8 ++ dktL_law_9
def dkwL_law_7 : List UInt8 := [43, 42, 29, 4, 96, 46, 182, 0, 23, 44, 42, 29, 4, 96, 46, 182, 0, 27, 159, 2, 222, 3, 172, 43]
abbrev dktL_law_7 : List UInt8 := dkwL_law_7 ++ dktL_law_8
def dkwL_law_6 : List UInt8 := [46, 42, 29, 5, 96, 46, 42, 29, 6, 96, 46, 42, 29, 7, 96, 46, 182, 0, 22, 159, 2, 245, 3, 172]
abbrev dktL_law_6 : List UInt8 := dkwL_law_6 ++ dktL_law_7
def dkwL_law_5 : List UInt8 := [46, 42, 29, 5, 96, 46, 42, 29, 6, 96, 46, 42, 29, 7, 96, 46, 182, 0, 18, 44, 42, 29, 4, 96]
abbrev dktL_law_5 : List UInt8 := dkwL_law_5 ++ dktL_law_6
def dkwL_law_4 : List UInt8 := [46, 42, 29, 5, 96, 46, 42, 29, 6, 96, 46, 182, 0, 17, 159, 3, 42, 3, 172, 43, 42, 29, 4, 96]
abbrev dktL_law_4 : List UInt8 := dkwL_law_4 ++ dktL_law_5
def dkwL_law_3 : List UInt8 := [43, 42, 29, 4, 96, 46, 42, 29, 5, 96, 46, 42, 29, 6, 96, 46, 182, 0, 13, 44, 42, 29, 4, 96]
abbrev dktL_law_3 : List UInt8 := dkwL_law_3 ++ dktL_law_4
def dkwL_law_2 : List UInt8 := [170, 0, 0, 0, 0, 0, 3, 232, 0, 0, 0, 0, 0, 0, 0, 33, 0, 0, 0, 152, 0, 0, 0, 195, 0, 0, 0, 248, 0, 0, 1, 15, 0, 0, 1, 38, 0, 0, 1, 61, 0, 0, 1, 84, 0, 0, 1, 117, 0, 0, 1, 140, 0, 0, 1, 173, 0, 0, 1, 206, 0, 0, 1, 239, 0, 0, 2, 6, 0, 0, 2, 19, 0, 0, 2, 32, 0, 0, 2, 45, 0, 0, 2, 68, 0, 0, 2, 91, 0, 0, 2, 114, 0, 0, 2, 137, 0, 0, 2, 160, 0, 0, 2, 173, 0, 0, 2, 214, 0, 0, 3, 1, 0, 0, 3, 24, 0, 0, 3, 47, 0, 0, 3, 70, 0, 0, 3, 93, 0, 0, 3, 118, 0, 0, 3, 131, 0, 0, 3, 144, 0, 0, 3, 193, 0, 0, 3, 206, 0, 0, 3, 219]
abbrev dktL_law_2 : List UInt8 := dkwL_law_2 ++ dktL_law_3
def dkwL_law_1 : List UInt8 := [163, 3, 247, 42, 29, 46, 16, 63, 126]
abbrev dktL_law_1 : List UInt8 := dkwL_law_1 ++ dktL_law_2
def dkwL_law_0 : List UInt8 := [187, 0, 7, 89, 183, 0, 9, 76, 187, 0, 10, 89, 183, 0, 12, 77, 3, 62, 29, 42, 190, 8, 100]
abbrev dktL_law_0 : List UInt8 := dkwL_law_0 ++ dktL_law_1
theorem dksL_law_0 : cL_law.data.toList.drop 0 = dktL_law_0 := by decide +kernel
theorem dksL_law_1 : cL_law.data.toList.drop 23 = dktL_law_1 := dk_seg dksL_law_0 23 rfl rfl
theorem dksL_law_2 : cL_law.data.toList.drop 32 = dktL_law_2 := dk_seg dksL_law_1 9 rfl rfl
theorem dksL_law_3 : cL_law.data.toList.drop 184 = dktL_law_3 := dk_seg dksL_law_2 152 rfl rfl
theorem dksL_law_4 : cL_law.data.toList.drop 208 = dktL_law_4 := dk_seg dksL_law_3 24 rfl rfl
theorem dksL_law_5 : cL_law.data.toList.drop 232 = dktL_law_5 := dk_seg dksL_law_4 24 rfl rfl
theorem dksL_law_6 : cL_law.data.toList.drop 256 = dktL_law_6 := dk_seg dksL_law_5 24 rfl rfl
theorem dksL_law_7 : cL_law.data.toList.drop 280 = dktL_law_7 := dk_seg dksL_law_6 24 rfl rfl
theorem dksL_law_8 : cL_law.data.toList.drop 304 = dktL_law_8 := dk_seg dksL_law_7 24 rfl rfl
theorem dksL_law_9 : cL_law.data.toList.drop 328 = dktL_law_9 := dk_seg dksL_law_8 24 rfl rfl
theorem dksL_law_10 : cL_law.data.toList.drop 352 = dktL_law_10 := dk_seg dksL_law_9 24 rfl rfl
theorem dksL_law_11 : cL_law.data.toList.drop 376 = dktL_law_11 := dk_seg dksL_law_10 24 rfl rfl
theorem dksL_law_12 : cL_law.data.toList.drop 400 = dktL_law_12 := dk_seg dksL_law_11 24 rfl rfl
theorem dksL_law_13 : cL_law.data.toList.drop 423 = dktL_law_13 := dk_seg dksL_law_12 23 rfl rfl
theorem dksL_law_14 : cL_law.data.toList.drop 447 = dktL_law_14 := dk_seg dksL_law_13 24 rfl rfl
theorem dksL_law_15 : cL_law.data.toList.drop 471 = dktL_law_15 := dk_seg dksL_law_14 24 rfl rfl
theorem dksL_law_16 : cL_law.data.toList.drop 495 = dktL_law_16 := dk_seg dksL_law_15 24 rfl rfl
theorem dksL_law_17 : cL_law.data.toList.drop 519 = dktL_law_17 := dk_seg dksL_law_16 24 rfl rfl
theorem dksL_law_18 : cL_law.data.toList.drop 542 = dktL_law_18 := dk_seg dksL_law_17 23 rfl rfl
theorem dksL_law_19 : cL_law.data.toList.drop 564 = dktL_law_19 := dk_seg dksL_law_18 22 rfl rfl
theorem dksL_law_20 : cL_law.data.toList.drop 588 = dktL_law_20 := dk_seg dksL_law_19 24 rfl rfl
theorem dksL_law_21 : cL_law.data.toList.drop 612 = dktL_law_21 := dk_seg dksL_law_20 24 rfl rfl
theorem dksL_law_22 : cL_law.data.toList.drop 636 = dktL_law_22 := dk_seg dksL_law_21 24 rfl rfl
theorem dksL_law_23 : cL_law.data.toList.drop 660 = dktL_law_23 := dk_seg dksL_law_22 24 rfl rfl
theorem dksL_law_24 : cL_law.data.toList.drop 684 = dktL_law_24 := dk_seg dksL_law_23 24 rfl rfl
theorem dksL_law_25 : cL_law.data.toList.drop 708 = dktL_law_25 := dk_seg dksL_law_24 24 rfl rfl
theorem dksL_law_26 : cL_law.data.toList.drop 731 = dktL_law_26 := dk_seg dksL_law_25 23 rfl rfl
theorem dksL_law_27 : cL_law.data.toList.drop 755 = dktL_law_27 := dk_seg dksL_law_26 24 rfl rfl
theorem dksL_law_28 : cL_law.data.toList.drop 777 = dktL_law_28 := dk_seg dksL_law_27 22 rfl rfl
theorem dksL_law_29 : cL_law.data.toList.drop 801 = dktL_law_29 := dk_seg dksL_law_28 24 rfl rfl
theorem dksL_law_30 : cL_law.data.toList.drop 825 = dktL_law_30 := dk_seg dksL_law_29 24 rfl rfl
theorem dksL_law_31 : cL_law.data.toList.drop 849 = dktL_law_31 := dk_seg dksL_law_30 24 rfl rfl
theorem dksL_law_32 : cL_law.data.toList.drop 873 = dktL_law_32 := dk_seg dksL_law_31 24 rfl rfl
theorem dksL_law_33 : cL_law.data.toList.drop 897 = dktL_law_33 := dk_seg dksL_law_32 24 rfl rfl
theorem dksL_law_34 : cL_law.data.toList.drop 919 = dktL_law_34 := dk_seg dksL_law_33 22 rfl rfl
theorem dksL_law_35 : cL_law.data.toList.drop 943 = dktL_law_35 := dk_seg dksL_law_34 24 rfl rfl
theorem dksL_law_36 : cL_law.data.toList.drop 967 = dktL_law_36 := dk_seg dksL_law_35 24 rfl rfl
theorem dksL_law_37 : cL_law.data.toList.drop 991 = dktL_law_37 := dk_seg dksL_law_36 24 rfl rfl
theorem dksL_law_38 : cL_law.data.toList.drop 1014 = dktL_law_38 := dk_seg dksL_law_37 23 rfl rfl
theorem dksL_law_39 : cL_law.data.toList.drop 1038 = dktL_law_39 := dk_seg dksL_law_38 24 rfl rfl
theorem dL_law_0 : decode cL_law 0 = .ok (.new 7, 3) := dk_187 0 7 (dk_at dksL_law_0 0 rfl rfl)
theorem dL_law_3 : decode cL_law 3 = .ok (.dup, 1) := dk_89 (dk_at dksL_law_0 3 rfl rfl)
theorem dL_law_4 : decode cL_law 4 = .ok (.invokespecial 9, 3) := dk_183 0 9 (dk_at dksL_law_0 4 rfl rfl)
theorem dL_law_7 : decode cL_law 7 = .ok (.astore_n 1, 1) := dk_76 (dk_at dksL_law_0 7 rfl rfl)
theorem dL_law_8 : decode cL_law 8 = .ok (.new 10, 3) := dk_187 0 10 (dk_at dksL_law_0 8 rfl rfl)
theorem dL_law_11 : decode cL_law 11 = .ok (.dup, 1) := dk_89 (dk_at dksL_law_0 11 rfl rfl)
theorem dL_law_12 : decode cL_law 12 = .ok (.invokespecial 12, 3) := dk_183 0 12 (dk_at dksL_law_0 12 rfl rfl)
theorem dL_law_15 : decode cL_law 15 = .ok (.astore_n 2, 1) := dk_77 (dk_at dksL_law_0 15 rfl rfl)
theorem dL_law_16 : decode cL_law 16 = .ok (.iconst 0, 1) := dk_3 (dk_at dksL_law_0 16 rfl rfl)
theorem dL_law_17 : decode cL_law 17 = .ok (.istore_n 3, 1) := dk_62 (dk_at dksL_law_0 17 rfl rfl)
theorem dL_law_18 : decode cL_law 18 = .ok (.iload_n 3, 1) := dk_29 (dk_at dksL_law_0 18 rfl rfl)
theorem dL_law_19 : decode cL_law 19 = .ok (.aload_n 0, 1) := dk_42 (dk_at dksL_law_0 19 rfl rfl)
theorem dL_law_20 : decode cL_law 20 = .ok (.arraylength, 1) := dk_190 (dk_at dksL_law_0 20 rfl rfl)
theorem dL_law_21 : decode cL_law 21 = .ok (.iconst 5, 1) := dk_8 (dk_at dksL_law_0 21 rfl rfl)
theorem dL_law_22 : decode cL_law 22 = .ok (.isub, 1) := dk_100 (dk_at dksL_law_0 22 rfl rfl)
theorem dL_law_23 : decode cL_law 23 = .ok (.if_icmp .gt 1015, 3) := dk_163 3 247 (dk_at dksL_law_1 0 rfl rfl)
theorem dL_law_26 : decode cL_law 26 = .ok (.aload_n 0, 1) := dk_42 (dk_at dksL_law_1 3 rfl rfl)
theorem dL_law_27 : decode cL_law 27 = .ok (.iload_n 3, 1) := dk_29 (dk_at dksL_law_1 4 rfl rfl)
theorem dL_law_28 : decode cL_law 28 = .ok (.iaload, 1) := dk_46 (dk_at dksL_law_1 5 rfl rfl)
theorem dL_law_29 : decode cL_law 29 = .ok (.bipush 63, 2) := dk_16 63 (dk_at dksL_law_1 6 rfl rfl)
theorem dL_law_31 : decode cL_law 31 = .ok (.iand, 1) := dk_126 (dk_at dksL_law_1 8 rfl rfl)
theorem dL_law_32 : decode cL_law 32 = .ok (.tableswitch 1000 0 33 #[152, 195, 248, 271, 294, 317, 340, 373, 396, 429, 462, 495, 518, 531, 544, 557, 580, 603, 626, 649, 672, 685, 726, 769, 792, 815, 838, 861, 886, 899, 912, 961, 974, 987], 152) := by decide +kernel
theorem dL_law_184 : decode cL_law 184 = .ok (.aload_n 1, 1) := dk_43 (dk_at dksL_law_3 0 rfl rfl)
theorem dL_law_185 : decode cL_law 185 = .ok (.aload_n 0, 1) := dk_42 (dk_at dksL_law_3 1 rfl rfl)
theorem dL_law_186 : decode cL_law 186 = .ok (.iload_n 3, 1) := dk_29 (dk_at dksL_law_3 2 rfl rfl)
theorem dL_law_187 : decode cL_law 187 = .ok (.iconst 1, 1) := dk_4 (dk_at dksL_law_3 3 rfl rfl)
theorem dL_law_188 : decode cL_law 188 = .ok (.iadd, 1) := dk_96 (dk_at dksL_law_3 4 rfl rfl)
theorem dL_law_189 : decode cL_law 189 = .ok (.iaload, 1) := dk_46 (dk_at dksL_law_3 5 rfl rfl)
theorem dL_law_190 : decode cL_law 190 = .ok (.aload_n 0, 1) := dk_42 (dk_at dksL_law_3 6 rfl rfl)
theorem dL_law_191 : decode cL_law 191 = .ok (.iload_n 3, 1) := dk_29 (dk_at dksL_law_3 7 rfl rfl)
theorem dL_law_192 : decode cL_law 192 = .ok (.iconst 2, 1) := dk_5 (dk_at dksL_law_3 8 rfl rfl)
theorem dL_law_193 : decode cL_law 193 = .ok (.iadd, 1) := dk_96 (dk_at dksL_law_3 9 rfl rfl)
theorem dL_law_194 : decode cL_law 194 = .ok (.iaload, 1) := dk_46 (dk_at dksL_law_3 10 rfl rfl)
theorem dL_law_195 : decode cL_law 195 = .ok (.aload_n 0, 1) := dk_42 (dk_at dksL_law_3 11 rfl rfl)
theorem dL_law_196 : decode cL_law 196 = .ok (.iload_n 3, 1) := dk_29 (dk_at dksL_law_3 12 rfl rfl)
theorem dL_law_197 : decode cL_law 197 = .ok (.iconst 3, 1) := dk_6 (dk_at dksL_law_3 13 rfl rfl)
theorem dL_law_198 : decode cL_law 198 = .ok (.iadd, 1) := dk_96 (dk_at dksL_law_3 14 rfl rfl)
theorem dL_law_199 : decode cL_law 199 = .ok (.iaload, 1) := dk_46 (dk_at dksL_law_3 15 rfl rfl)
theorem dL_law_200 : decode cL_law 200 = .ok (.invokevirtual 13, 3) := dk_182 0 13 (dk_at dksL_law_3 16 rfl rfl)
theorem dL_law_203 : decode cL_law 203 = .ok (.aload_n 2, 1) := dk_44 (dk_at dksL_law_3 19 rfl rfl)
theorem dL_law_204 : decode cL_law 204 = .ok (.aload_n 0, 1) := dk_42 (dk_at dksL_law_3 20 rfl rfl)
theorem dL_law_205 : decode cL_law 205 = .ok (.iload_n 3, 1) := dk_29 (dk_at dksL_law_3 21 rfl rfl)
theorem dL_law_206 : decode cL_law 206 = .ok (.iconst 1, 1) := dk_4 (dk_at dksL_law_3 22 rfl rfl)
theorem dL_law_207 : decode cL_law 207 = .ok (.iadd, 1) := dk_96 (dk_at dksL_law_3 23 rfl rfl)
theorem dL_law_208 : decode cL_law 208 = .ok (.iaload, 1) := dk_46 (dk_at dksL_law_4 0 rfl rfl)
theorem dL_law_209 : decode cL_law 209 = .ok (.aload_n 0, 1) := dk_42 (dk_at dksL_law_4 1 rfl rfl)
theorem dL_law_210 : decode cL_law 210 = .ok (.iload_n 3, 1) := dk_29 (dk_at dksL_law_4 2 rfl rfl)
theorem dL_law_211 : decode cL_law 211 = .ok (.iconst 2, 1) := dk_5 (dk_at dksL_law_4 3 rfl rfl)
theorem dL_law_212 : decode cL_law 212 = .ok (.iadd, 1) := dk_96 (dk_at dksL_law_4 4 rfl rfl)
theorem dL_law_213 : decode cL_law 213 = .ok (.iaload, 1) := dk_46 (dk_at dksL_law_4 5 rfl rfl)
theorem dL_law_214 : decode cL_law 214 = .ok (.aload_n 0, 1) := dk_42 (dk_at dksL_law_4 6 rfl rfl)
theorem dL_law_215 : decode cL_law 215 = .ok (.iload_n 3, 1) := dk_29 (dk_at dksL_law_4 7 rfl rfl)
theorem dL_law_216 : decode cL_law 216 = .ok (.iconst 3, 1) := dk_6 (dk_at dksL_law_4 8 rfl rfl)
theorem dL_law_217 : decode cL_law 217 = .ok (.iadd, 1) := dk_96 (dk_at dksL_law_4 9 rfl rfl)
theorem dL_law_218 : decode cL_law 218 = .ok (.iaload, 1) := dk_46 (dk_at dksL_law_4 10 rfl rfl)
theorem dL_law_219 : decode cL_law 219 = .ok (.invokevirtual 17, 3) := dk_182 0 17 (dk_at dksL_law_4 11 rfl rfl)
theorem dL_law_222 : decode cL_law 222 = .ok (.if_icmp .eq 810, 3) := dk_159 3 42 (dk_at dksL_law_4 14 rfl rfl)
theorem dL_law_225 : decode cL_law 225 = .ok (.iconst 0, 1) := dk_3 (dk_at dksL_law_4 17 rfl rfl)
theorem dL_law_226 : decode cL_law 226 = .ok (.ireturn, 1) := dk_172 (dk_at dksL_law_4 18 rfl rfl)
theorem dL_law_227 : decode cL_law 227 = .ok (.aload_n 1, 1) := dk_43 (dk_at dksL_law_4 19 rfl rfl)
theorem dL_law_228 : decode cL_law 228 = .ok (.aload_n 0, 1) := dk_42 (dk_at dksL_law_4 20 rfl rfl)
theorem dL_law_229 : decode cL_law 229 = .ok (.iload_n 3, 1) := dk_29 (dk_at dksL_law_4 21 rfl rfl)
theorem dL_law_230 : decode cL_law 230 = .ok (.iconst 1, 1) := dk_4 (dk_at dksL_law_4 22 rfl rfl)
theorem dL_law_231 : decode cL_law 231 = .ok (.iadd, 1) := dk_96 (dk_at dksL_law_4 23 rfl rfl)
theorem dL_law_232 : decode cL_law 232 = .ok (.iaload, 1) := dk_46 (dk_at dksL_law_5 0 rfl rfl)
theorem dL_law_233 : decode cL_law 233 = .ok (.aload_n 0, 1) := dk_42 (dk_at dksL_law_5 1 rfl rfl)
theorem dL_law_234 : decode cL_law 234 = .ok (.iload_n 3, 1) := dk_29 (dk_at dksL_law_5 2 rfl rfl)
theorem dL_law_235 : decode cL_law 235 = .ok (.iconst 2, 1) := dk_5 (dk_at dksL_law_5 3 rfl rfl)
theorem dL_law_236 : decode cL_law 236 = .ok (.iadd, 1) := dk_96 (dk_at dksL_law_5 4 rfl rfl)
theorem dL_law_237 : decode cL_law 237 = .ok (.iaload, 1) := dk_46 (dk_at dksL_law_5 5 rfl rfl)
theorem dL_law_238 : decode cL_law 238 = .ok (.aload_n 0, 1) := dk_42 (dk_at dksL_law_5 6 rfl rfl)
theorem dL_law_239 : decode cL_law 239 = .ok (.iload_n 3, 1) := dk_29 (dk_at dksL_law_5 7 rfl rfl)
theorem dL_law_240 : decode cL_law 240 = .ok (.iconst 3, 1) := dk_6 (dk_at dksL_law_5 8 rfl rfl)
theorem dL_law_241 : decode cL_law 241 = .ok (.iadd, 1) := dk_96 (dk_at dksL_law_5 9 rfl rfl)
theorem dL_law_242 : decode cL_law 242 = .ok (.iaload, 1) := dk_46 (dk_at dksL_law_5 10 rfl rfl)
theorem dL_law_243 : decode cL_law 243 = .ok (.aload_n 0, 1) := dk_42 (dk_at dksL_law_5 11 rfl rfl)
theorem dL_law_244 : decode cL_law 244 = .ok (.iload_n 3, 1) := dk_29 (dk_at dksL_law_5 12 rfl rfl)
theorem dL_law_245 : decode cL_law 245 = .ok (.iconst 4, 1) := dk_7 (dk_at dksL_law_5 13 rfl rfl)
theorem dL_law_246 : decode cL_law 246 = .ok (.iadd, 1) := dk_96 (dk_at dksL_law_5 14 rfl rfl)
theorem dL_law_247 : decode cL_law 247 = .ok (.iaload, 1) := dk_46 (dk_at dksL_law_5 15 rfl rfl)
theorem dL_law_248 : decode cL_law 248 = .ok (.invokevirtual 18, 3) := dk_182 0 18 (dk_at dksL_law_5 16 rfl rfl)
theorem dL_law_251 : decode cL_law 251 = .ok (.aload_n 2, 1) := dk_44 (dk_at dksL_law_5 19 rfl rfl)
theorem dL_law_252 : decode cL_law 252 = .ok (.aload_n 0, 1) := dk_42 (dk_at dksL_law_5 20 rfl rfl)
theorem dL_law_253 : decode cL_law 253 = .ok (.iload_n 3, 1) := dk_29 (dk_at dksL_law_5 21 rfl rfl)
theorem dL_law_254 : decode cL_law 254 = .ok (.iconst 1, 1) := dk_4 (dk_at dksL_law_5 22 rfl rfl)
theorem dL_law_255 : decode cL_law 255 = .ok (.iadd, 1) := dk_96 (dk_at dksL_law_5 23 rfl rfl)
theorem dL_law_256 : decode cL_law 256 = .ok (.iaload, 1) := dk_46 (dk_at dksL_law_6 0 rfl rfl)
theorem dL_law_257 : decode cL_law 257 = .ok (.aload_n 0, 1) := dk_42 (dk_at dksL_law_6 1 rfl rfl)
theorem dL_law_258 : decode cL_law 258 = .ok (.iload_n 3, 1) := dk_29 (dk_at dksL_law_6 2 rfl rfl)
theorem dL_law_259 : decode cL_law 259 = .ok (.iconst 2, 1) := dk_5 (dk_at dksL_law_6 3 rfl rfl)
theorem dL_law_260 : decode cL_law 260 = .ok (.iadd, 1) := dk_96 (dk_at dksL_law_6 4 rfl rfl)
theorem dL_law_261 : decode cL_law 261 = .ok (.iaload, 1) := dk_46 (dk_at dksL_law_6 5 rfl rfl)
theorem dL_law_262 : decode cL_law 262 = .ok (.aload_n 0, 1) := dk_42 (dk_at dksL_law_6 6 rfl rfl)
theorem dL_law_263 : decode cL_law 263 = .ok (.iload_n 3, 1) := dk_29 (dk_at dksL_law_6 7 rfl rfl)
theorem dL_law_264 : decode cL_law 264 = .ok (.iconst 3, 1) := dk_6 (dk_at dksL_law_6 8 rfl rfl)
theorem dL_law_265 : decode cL_law 265 = .ok (.iadd, 1) := dk_96 (dk_at dksL_law_6 9 rfl rfl)
theorem dL_law_266 : decode cL_law 266 = .ok (.iaload, 1) := dk_46 (dk_at dksL_law_6 10 rfl rfl)
theorem dL_law_267 : decode cL_law 267 = .ok (.aload_n 0, 1) := dk_42 (dk_at dksL_law_6 11 rfl rfl)
theorem dL_law_268 : decode cL_law 268 = .ok (.iload_n 3, 1) := dk_29 (dk_at dksL_law_6 12 rfl rfl)
theorem dL_law_269 : decode cL_law 269 = .ok (.iconst 4, 1) := dk_7 (dk_at dksL_law_6 13 rfl rfl)
theorem dL_law_270 : decode cL_law 270 = .ok (.iadd, 1) := dk_96 (dk_at dksL_law_6 14 rfl rfl)
theorem dL_law_271 : decode cL_law 271 = .ok (.iaload, 1) := dk_46 (dk_at dksL_law_6 15 rfl rfl)
theorem dL_law_272 : decode cL_law 272 = .ok (.invokevirtual 22, 3) := dk_182 0 22 (dk_at dksL_law_6 16 rfl rfl)
theorem dL_law_275 : decode cL_law 275 = .ok (.if_icmp .eq 757, 3) := dk_159 2 245 (dk_at dksL_law_6 19 rfl rfl)
theorem dL_law_278 : decode cL_law 278 = .ok (.iconst 0, 1) := dk_3 (dk_at dksL_law_6 22 rfl rfl)
theorem dL_law_279 : decode cL_law 279 = .ok (.ireturn, 1) := dk_172 (dk_at dksL_law_6 23 rfl rfl)
theorem dL_law_280 : decode cL_law 280 = .ok (.aload_n 1, 1) := dk_43 (dk_at dksL_law_7 0 rfl rfl)
theorem dL_law_281 : decode cL_law 281 = .ok (.aload_n 0, 1) := dk_42 (dk_at dksL_law_7 1 rfl rfl)
theorem dL_law_282 : decode cL_law 282 = .ok (.iload_n 3, 1) := dk_29 (dk_at dksL_law_7 2 rfl rfl)
theorem dL_law_283 : decode cL_law 283 = .ok (.iconst 1, 1) := dk_4 (dk_at dksL_law_7 3 rfl rfl)
theorem dL_law_284 : decode cL_law 284 = .ok (.iadd, 1) := dk_96 (dk_at dksL_law_7 4 rfl rfl)
theorem dL_law_285 : decode cL_law 285 = .ok (.iaload, 1) := dk_46 (dk_at dksL_law_7 5 rfl rfl)
theorem dL_law_286 : decode cL_law 286 = .ok (.invokevirtual 23, 3) := dk_182 0 23 (dk_at dksL_law_7 6 rfl rfl)
theorem dL_law_289 : decode cL_law 289 = .ok (.aload_n 2, 1) := dk_44 (dk_at dksL_law_7 9 rfl rfl)
theorem dL_law_290 : decode cL_law 290 = .ok (.aload_n 0, 1) := dk_42 (dk_at dksL_law_7 10 rfl rfl)
theorem dL_law_291 : decode cL_law 291 = .ok (.iload_n 3, 1) := dk_29 (dk_at dksL_law_7 11 rfl rfl)
theorem dL_law_292 : decode cL_law 292 = .ok (.iconst 1, 1) := dk_4 (dk_at dksL_law_7 12 rfl rfl)
theorem dL_law_293 : decode cL_law 293 = .ok (.iadd, 1) := dk_96 (dk_at dksL_law_7 13 rfl rfl)
theorem dL_law_294 : decode cL_law 294 = .ok (.iaload, 1) := dk_46 (dk_at dksL_law_7 14 rfl rfl)
theorem dL_law_295 : decode cL_law 295 = .ok (.invokevirtual 27, 3) := dk_182 0 27 (dk_at dksL_law_7 15 rfl rfl)
theorem dL_law_298 : decode cL_law 298 = .ok (.if_icmp .eq 734, 3) := dk_159 2 222 (dk_at dksL_law_7 18 rfl rfl)
theorem dL_law_301 : decode cL_law 301 = .ok (.iconst 0, 1) := dk_3 (dk_at dksL_law_7 21 rfl rfl)
theorem dL_law_302 : decode cL_law 302 = .ok (.ireturn, 1) := dk_172 (dk_at dksL_law_7 22 rfl rfl)
theorem dL_law_303 : decode cL_law 303 = .ok (.aload_n 1, 1) := dk_43 (dk_at dksL_law_7 23 rfl rfl)
theorem dL_law_304 : decode cL_law 304 = .ok (.aload_n 0, 1) := dk_42 (dk_at dksL_law_8 0 rfl rfl)
theorem dL_law_305 : decode cL_law 305 = .ok (.iload_n 3, 1) := dk_29 (dk_at dksL_law_8 1 rfl rfl)
theorem dL_law_306 : decode cL_law 306 = .ok (.iconst 1, 1) := dk_4 (dk_at dksL_law_8 2 rfl rfl)
theorem dL_law_307 : decode cL_law 307 = .ok (.iadd, 1) := dk_96 (dk_at dksL_law_8 3 rfl rfl)
theorem dL_law_308 : decode cL_law 308 = .ok (.iaload, 1) := dk_46 (dk_at dksL_law_8 4 rfl rfl)
theorem dL_law_309 : decode cL_law 309 = .ok (.invokevirtual 28, 3) := dk_182 0 28 (dk_at dksL_law_8 5 rfl rfl)
theorem dL_law_312 : decode cL_law 312 = .ok (.aload_n 2, 1) := dk_44 (dk_at dksL_law_8 8 rfl rfl)
theorem dL_law_313 : decode cL_law 313 = .ok (.aload_n 0, 1) := dk_42 (dk_at dksL_law_8 9 rfl rfl)
theorem dL_law_314 : decode cL_law 314 = .ok (.iload_n 3, 1) := dk_29 (dk_at dksL_law_8 10 rfl rfl)
theorem dL_law_315 : decode cL_law 315 = .ok (.iconst 1, 1) := dk_4 (dk_at dksL_law_8 11 rfl rfl)
theorem dL_law_316 : decode cL_law 316 = .ok (.iadd, 1) := dk_96 (dk_at dksL_law_8 12 rfl rfl)
theorem dL_law_317 : decode cL_law 317 = .ok (.iaload, 1) := dk_46 (dk_at dksL_law_8 13 rfl rfl)
theorem dL_law_318 : decode cL_law 318 = .ok (.invokevirtual 31, 3) := dk_182 0 31 (dk_at dksL_law_8 14 rfl rfl)
theorem dL_law_321 : decode cL_law 321 = .ok (.if_icmp .eq 711, 3) := dk_159 2 199 (dk_at dksL_law_8 17 rfl rfl)
theorem dL_law_324 : decode cL_law 324 = .ok (.iconst 0, 1) := dk_3 (dk_at dksL_law_8 20 rfl rfl)
theorem dL_law_325 : decode cL_law 325 = .ok (.ireturn, 1) := dk_172 (dk_at dksL_law_8 21 rfl rfl)
theorem dL_law_326 : decode cL_law 326 = .ok (.aload_n 1, 1) := dk_43 (dk_at dksL_law_8 22 rfl rfl)
theorem dL_law_327 : decode cL_law 327 = .ok (.aload_n 0, 1) := dk_42 (dk_at dksL_law_8 23 rfl rfl)
theorem dL_law_328 : decode cL_law 328 = .ok (.iload_n 3, 1) := dk_29 (dk_at dksL_law_9 0 rfl rfl)
theorem dL_law_329 : decode cL_law 329 = .ok (.iconst 1, 1) := dk_4 (dk_at dksL_law_9 1 rfl rfl)
theorem dL_law_330 : decode cL_law 330 = .ok (.iadd, 1) := dk_96 (dk_at dksL_law_9 2 rfl rfl)
theorem dL_law_331 : decode cL_law 331 = .ok (.iaload, 1) := dk_46 (dk_at dksL_law_9 3 rfl rfl)
theorem dL_law_332 : decode cL_law 332 = .ok (.invokevirtual 32, 3) := dk_182 0 32 (dk_at dksL_law_9 4 rfl rfl)
theorem dL_law_335 : decode cL_law 335 = .ok (.aload_n 2, 1) := dk_44 (dk_at dksL_law_9 7 rfl rfl)
theorem dL_law_336 : decode cL_law 336 = .ok (.aload_n 0, 1) := dk_42 (dk_at dksL_law_9 8 rfl rfl)
theorem dL_law_337 : decode cL_law 337 = .ok (.iload_n 3, 1) := dk_29 (dk_at dksL_law_9 9 rfl rfl)
theorem dL_law_338 : decode cL_law 338 = .ok (.iconst 1, 1) := dk_4 (dk_at dksL_law_9 10 rfl rfl)
theorem dL_law_339 : decode cL_law 339 = .ok (.iadd, 1) := dk_96 (dk_at dksL_law_9 11 rfl rfl)
theorem dL_law_340 : decode cL_law 340 = .ok (.iaload, 1) := dk_46 (dk_at dksL_law_9 12 rfl rfl)
theorem dL_law_341 : decode cL_law 341 = .ok (.invokevirtual 35, 3) := dk_182 0 35 (dk_at dksL_law_9 13 rfl rfl)
theorem dL_law_344 : decode cL_law 344 = .ok (.if_icmp .eq 688, 3) := dk_159 2 176 (dk_at dksL_law_9 16 rfl rfl)
theorem dL_law_347 : decode cL_law 347 = .ok (.iconst 0, 1) := dk_3 (dk_at dksL_law_9 19 rfl rfl)
theorem dL_law_348 : decode cL_law 348 = .ok (.ireturn, 1) := dk_172 (dk_at dksL_law_9 20 rfl rfl)
theorem dL_law_349 : decode cL_law 349 = .ok (.aload_n 1, 1) := dk_43 (dk_at dksL_law_9 21 rfl rfl)
theorem dL_law_350 : decode cL_law 350 = .ok (.aload_n 0, 1) := dk_42 (dk_at dksL_law_9 22 rfl rfl)
theorem dL_law_351 : decode cL_law 351 = .ok (.iload_n 3, 1) := dk_29 (dk_at dksL_law_9 23 rfl rfl)
theorem dL_law_352 : decode cL_law 352 = .ok (.iconst 1, 1) := dk_4 (dk_at dksL_law_10 0 rfl rfl)
theorem dL_law_353 : decode cL_law 353 = .ok (.iadd, 1) := dk_96 (dk_at dksL_law_10 1 rfl rfl)
theorem dL_law_354 : decode cL_law 354 = .ok (.iaload, 1) := dk_46 (dk_at dksL_law_10 2 rfl rfl)
theorem dL_law_355 : decode cL_law 355 = .ok (.invokevirtual 36, 3) := dk_182 0 36 (dk_at dksL_law_10 3 rfl rfl)
theorem dL_law_358 : decode cL_law 358 = .ok (.aload_n 2, 1) := dk_44 (dk_at dksL_law_10 6 rfl rfl)
theorem dL_law_359 : decode cL_law 359 = .ok (.aload_n 0, 1) := dk_42 (dk_at dksL_law_10 7 rfl rfl)
theorem dL_law_360 : decode cL_law 360 = .ok (.iload_n 3, 1) := dk_29 (dk_at dksL_law_10 8 rfl rfl)
theorem dL_law_361 : decode cL_law 361 = .ok (.iconst 1, 1) := dk_4 (dk_at dksL_law_10 9 rfl rfl)
theorem dL_law_362 : decode cL_law 362 = .ok (.iadd, 1) := dk_96 (dk_at dksL_law_10 10 rfl rfl)
theorem dL_law_363 : decode cL_law 363 = .ok (.iaload, 1) := dk_46 (dk_at dksL_law_10 11 rfl rfl)
theorem dL_law_364 : decode cL_law 364 = .ok (.invokevirtual 39, 3) := dk_182 0 39 (dk_at dksL_law_10 12 rfl rfl)
theorem dL_law_367 : decode cL_law 367 = .ok (.if_icmp .eq 665, 3) := dk_159 2 153 (dk_at dksL_law_10 15 rfl rfl)
theorem dL_law_370 : decode cL_law 370 = .ok (.iconst 0, 1) := dk_3 (dk_at dksL_law_10 18 rfl rfl)
theorem dL_law_371 : decode cL_law 371 = .ok (.ireturn, 1) := dk_172 (dk_at dksL_law_10 19 rfl rfl)
theorem dL_law_372 : decode cL_law 372 = .ok (.aload_n 1, 1) := dk_43 (dk_at dksL_law_10 20 rfl rfl)
theorem dL_law_373 : decode cL_law 373 = .ok (.aload_n 0, 1) := dk_42 (dk_at dksL_law_10 21 rfl rfl)
theorem dL_law_374 : decode cL_law 374 = .ok (.iload_n 3, 1) := dk_29 (dk_at dksL_law_10 22 rfl rfl)
theorem dL_law_375 : decode cL_law 375 = .ok (.iconst 1, 1) := dk_4 (dk_at dksL_law_10 23 rfl rfl)
theorem dL_law_376 : decode cL_law 376 = .ok (.iadd, 1) := dk_96 (dk_at dksL_law_11 0 rfl rfl)
theorem dL_law_377 : decode cL_law 377 = .ok (.iaload, 1) := dk_46 (dk_at dksL_law_11 1 rfl rfl)
theorem dL_law_378 : decode cL_law 378 = .ok (.aload_n 0, 1) := dk_42 (dk_at dksL_law_11 2 rfl rfl)
theorem dL_law_379 : decode cL_law 379 = .ok (.iload_n 3, 1) := dk_29 (dk_at dksL_law_11 3 rfl rfl)
theorem dL_law_380 : decode cL_law 380 = .ok (.iconst 2, 1) := dk_5 (dk_at dksL_law_11 4 rfl rfl)
theorem dL_law_381 : decode cL_law 381 = .ok (.iadd, 1) := dk_96 (dk_at dksL_law_11 5 rfl rfl)
theorem dL_law_382 : decode cL_law 382 = .ok (.iaload, 1) := dk_46 (dk_at dksL_law_11 6 rfl rfl)
theorem dL_law_383 : decode cL_law 383 = .ok (.invokevirtual 40, 3) := dk_182 0 40 (dk_at dksL_law_11 7 rfl rfl)
theorem dL_law_386 : decode cL_law 386 = .ok (.aload_n 2, 1) := dk_44 (dk_at dksL_law_11 10 rfl rfl)
theorem dL_law_387 : decode cL_law 387 = .ok (.aload_n 0, 1) := dk_42 (dk_at dksL_law_11 11 rfl rfl)
theorem dL_law_388 : decode cL_law 388 = .ok (.iload_n 3, 1) := dk_29 (dk_at dksL_law_11 12 rfl rfl)
theorem dL_law_389 : decode cL_law 389 = .ok (.iconst 1, 1) := dk_4 (dk_at dksL_law_11 13 rfl rfl)
theorem dL_law_390 : decode cL_law 390 = .ok (.iadd, 1) := dk_96 (dk_at dksL_law_11 14 rfl rfl)
theorem dL_law_391 : decode cL_law 391 = .ok (.iaload, 1) := dk_46 (dk_at dksL_law_11 15 rfl rfl)
theorem dL_law_392 : decode cL_law 392 = .ok (.aload_n 0, 1) := dk_42 (dk_at dksL_law_11 16 rfl rfl)
theorem dL_law_393 : decode cL_law 393 = .ok (.iload_n 3, 1) := dk_29 (dk_at dksL_law_11 17 rfl rfl)
theorem dL_law_394 : decode cL_law 394 = .ok (.iconst 2, 1) := dk_5 (dk_at dksL_law_11 18 rfl rfl)
theorem dL_law_395 : decode cL_law 395 = .ok (.iadd, 1) := dk_96 (dk_at dksL_law_11 19 rfl rfl)
theorem dL_law_396 : decode cL_law 396 = .ok (.iaload, 1) := dk_46 (dk_at dksL_law_11 20 rfl rfl)
theorem dL_law_397 : decode cL_law 397 = .ok (.invokevirtual 44, 3) := dk_182 0 44 (dk_at dksL_law_11 21 rfl rfl)
theorem dL_law_400 : decode cL_law 400 = .ok (.if_icmp .eq 632, 3) := dk_159 2 120 (dk_at dksL_law_12 0 rfl rfl)
theorem dL_law_403 : decode cL_law 403 = .ok (.iconst 0, 1) := dk_3 (dk_at dksL_law_12 3 rfl rfl)
theorem dL_law_404 : decode cL_law 404 = .ok (.ireturn, 1) := dk_172 (dk_at dksL_law_12 4 rfl rfl)
theorem dL_law_405 : decode cL_law 405 = .ok (.aload_n 1, 1) := dk_43 (dk_at dksL_law_12 5 rfl rfl)
theorem dL_law_406 : decode cL_law 406 = .ok (.aload_n 0, 1) := dk_42 (dk_at dksL_law_12 6 rfl rfl)
theorem dL_law_407 : decode cL_law 407 = .ok (.iload_n 3, 1) := dk_29 (dk_at dksL_law_12 7 rfl rfl)
theorem dL_law_408 : decode cL_law 408 = .ok (.iconst 1, 1) := dk_4 (dk_at dksL_law_12 8 rfl rfl)
theorem dL_law_409 : decode cL_law 409 = .ok (.iadd, 1) := dk_96 (dk_at dksL_law_12 9 rfl rfl)
theorem dL_law_410 : decode cL_law 410 = .ok (.iaload, 1) := dk_46 (dk_at dksL_law_12 10 rfl rfl)
theorem dL_law_411 : decode cL_law 411 = .ok (.invokevirtual 45, 3) := dk_182 0 45 (dk_at dksL_law_12 11 rfl rfl)
theorem dL_law_414 : decode cL_law 414 = .ok (.aload_n 2, 1) := dk_44 (dk_at dksL_law_12 14 rfl rfl)
theorem dL_law_415 : decode cL_law 415 = .ok (.aload_n 0, 1) := dk_42 (dk_at dksL_law_12 15 rfl rfl)
theorem dL_law_416 : decode cL_law 416 = .ok (.iload_n 3, 1) := dk_29 (dk_at dksL_law_12 16 rfl rfl)
theorem dL_law_417 : decode cL_law 417 = .ok (.iconst 1, 1) := dk_4 (dk_at dksL_law_12 17 rfl rfl)
theorem dL_law_418 : decode cL_law 418 = .ok (.iadd, 1) := dk_96 (dk_at dksL_law_12 18 rfl rfl)
theorem dL_law_419 : decode cL_law 419 = .ok (.iaload, 1) := dk_46 (dk_at dksL_law_12 19 rfl rfl)
theorem dL_law_420 : decode cL_law 420 = .ok (.invokevirtual 48, 3) := dk_182 0 48 (dk_at dksL_law_12 20 rfl rfl)
theorem dL_law_423 : decode cL_law 423 = .ok (.if_icmp .eq 609, 3) := dk_159 2 97 (dk_at dksL_law_13 0 rfl rfl)
theorem dL_law_426 : decode cL_law 426 = .ok (.iconst 0, 1) := dk_3 (dk_at dksL_law_13 3 rfl rfl)
theorem dL_law_427 : decode cL_law 427 = .ok (.ireturn, 1) := dk_172 (dk_at dksL_law_13 4 rfl rfl)
theorem dL_law_428 : decode cL_law 428 = .ok (.aload_n 1, 1) := dk_43 (dk_at dksL_law_13 5 rfl rfl)
theorem dL_law_429 : decode cL_law 429 = .ok (.aload_n 0, 1) := dk_42 (dk_at dksL_law_13 6 rfl rfl)
theorem dL_law_430 : decode cL_law 430 = .ok (.iload_n 3, 1) := dk_29 (dk_at dksL_law_13 7 rfl rfl)
theorem dL_law_431 : decode cL_law 431 = .ok (.iconst 1, 1) := dk_4 (dk_at dksL_law_13 8 rfl rfl)
theorem dL_law_432 : decode cL_law 432 = .ok (.iadd, 1) := dk_96 (dk_at dksL_law_13 9 rfl rfl)
theorem dL_law_433 : decode cL_law 433 = .ok (.iaload, 1) := dk_46 (dk_at dksL_law_13 10 rfl rfl)
theorem dL_law_434 : decode cL_law 434 = .ok (.aload_n 0, 1) := dk_42 (dk_at dksL_law_13 11 rfl rfl)
theorem dL_law_435 : decode cL_law 435 = .ok (.iload_n 3, 1) := dk_29 (dk_at dksL_law_13 12 rfl rfl)
theorem dL_law_436 : decode cL_law 436 = .ok (.iconst 2, 1) := dk_5 (dk_at dksL_law_13 13 rfl rfl)
theorem dL_law_437 : decode cL_law 437 = .ok (.iadd, 1) := dk_96 (dk_at dksL_law_13 14 rfl rfl)
theorem dL_law_438 : decode cL_law 438 = .ok (.iaload, 1) := dk_46 (dk_at dksL_law_13 15 rfl rfl)
theorem dL_law_439 : decode cL_law 439 = .ok (.invokevirtual 49, 3) := dk_182 0 49 (dk_at dksL_law_13 16 rfl rfl)
theorem dL_law_442 : decode cL_law 442 = .ok (.aload_n 2, 1) := dk_44 (dk_at dksL_law_13 19 rfl rfl)
theorem dL_law_443 : decode cL_law 443 = .ok (.aload_n 0, 1) := dk_42 (dk_at dksL_law_13 20 rfl rfl)
theorem dL_law_444 : decode cL_law 444 = .ok (.iload_n 3, 1) := dk_29 (dk_at dksL_law_13 21 rfl rfl)
theorem dL_law_445 : decode cL_law 445 = .ok (.iconst 1, 1) := dk_4 (dk_at dksL_law_13 22 rfl rfl)
theorem dL_law_446 : decode cL_law 446 = .ok (.iadd, 1) := dk_96 (dk_at dksL_law_13 23 rfl rfl)
theorem dL_law_447 : decode cL_law 447 = .ok (.iaload, 1) := dk_46 (dk_at dksL_law_14 0 rfl rfl)
theorem dL_law_448 : decode cL_law 448 = .ok (.aload_n 0, 1) := dk_42 (dk_at dksL_law_14 1 rfl rfl)
theorem dL_law_449 : decode cL_law 449 = .ok (.iload_n 3, 1) := dk_29 (dk_at dksL_law_14 2 rfl rfl)
theorem dL_law_450 : decode cL_law 450 = .ok (.iconst 2, 1) := dk_5 (dk_at dksL_law_14 3 rfl rfl)
theorem dL_law_451 : decode cL_law 451 = .ok (.iadd, 1) := dk_96 (dk_at dksL_law_14 4 rfl rfl)
theorem dL_law_452 : decode cL_law 452 = .ok (.iaload, 1) := dk_46 (dk_at dksL_law_14 5 rfl rfl)
theorem dL_law_453 : decode cL_law 453 = .ok (.invokevirtual 52, 3) := dk_182 0 52 (dk_at dksL_law_14 6 rfl rfl)
theorem dL_law_456 : decode cL_law 456 = .ok (.if_icmp .eq 576, 3) := dk_159 2 64 (dk_at dksL_law_14 9 rfl rfl)
theorem dL_law_459 : decode cL_law 459 = .ok (.iconst 0, 1) := dk_3 (dk_at dksL_law_14 12 rfl rfl)
theorem dL_law_460 : decode cL_law 460 = .ok (.ireturn, 1) := dk_172 (dk_at dksL_law_14 13 rfl rfl)
theorem dL_law_461 : decode cL_law 461 = .ok (.aload_n 1, 1) := dk_43 (dk_at dksL_law_14 14 rfl rfl)
theorem dL_law_462 : decode cL_law 462 = .ok (.aload_n 0, 1) := dk_42 (dk_at dksL_law_14 15 rfl rfl)
theorem dL_law_463 : decode cL_law 463 = .ok (.iload_n 3, 1) := dk_29 (dk_at dksL_law_14 16 rfl rfl)
theorem dL_law_464 : decode cL_law 464 = .ok (.iconst 1, 1) := dk_4 (dk_at dksL_law_14 17 rfl rfl)
theorem dL_law_465 : decode cL_law 465 = .ok (.iadd, 1) := dk_96 (dk_at dksL_law_14 18 rfl rfl)
theorem dL_law_466 : decode cL_law 466 = .ok (.iaload, 1) := dk_46 (dk_at dksL_law_14 19 rfl rfl)
theorem dL_law_467 : decode cL_law 467 = .ok (.aload_n 0, 1) := dk_42 (dk_at dksL_law_14 20 rfl rfl)
theorem dL_law_468 : decode cL_law 468 = .ok (.iload_n 3, 1) := dk_29 (dk_at dksL_law_14 21 rfl rfl)
theorem dL_law_469 : decode cL_law 469 = .ok (.iconst 2, 1) := dk_5 (dk_at dksL_law_14 22 rfl rfl)
theorem dL_law_470 : decode cL_law 470 = .ok (.iadd, 1) := dk_96 (dk_at dksL_law_14 23 rfl rfl)
theorem dL_law_471 : decode cL_law 471 = .ok (.iaload, 1) := dk_46 (dk_at dksL_law_15 0 rfl rfl)
theorem dL_law_472 : decode cL_law 472 = .ok (.invokevirtual 53, 3) := dk_182 0 53 (dk_at dksL_law_15 1 rfl rfl)
theorem dL_law_475 : decode cL_law 475 = .ok (.aload_n 2, 1) := dk_44 (dk_at dksL_law_15 4 rfl rfl)
theorem dL_law_476 : decode cL_law 476 = .ok (.aload_n 0, 1) := dk_42 (dk_at dksL_law_15 5 rfl rfl)
theorem dL_law_477 : decode cL_law 477 = .ok (.iload_n 3, 1) := dk_29 (dk_at dksL_law_15 6 rfl rfl)
theorem dL_law_478 : decode cL_law 478 = .ok (.iconst 1, 1) := dk_4 (dk_at dksL_law_15 7 rfl rfl)
theorem dL_law_479 : decode cL_law 479 = .ok (.iadd, 1) := dk_96 (dk_at dksL_law_15 8 rfl rfl)
theorem dL_law_480 : decode cL_law 480 = .ok (.iaload, 1) := dk_46 (dk_at dksL_law_15 9 rfl rfl)
theorem dL_law_481 : decode cL_law 481 = .ok (.aload_n 0, 1) := dk_42 (dk_at dksL_law_15 10 rfl rfl)
theorem dL_law_482 : decode cL_law 482 = .ok (.iload_n 3, 1) := dk_29 (dk_at dksL_law_15 11 rfl rfl)
theorem dL_law_483 : decode cL_law 483 = .ok (.iconst 2, 1) := dk_5 (dk_at dksL_law_15 12 rfl rfl)
theorem dL_law_484 : decode cL_law 484 = .ok (.iadd, 1) := dk_96 (dk_at dksL_law_15 13 rfl rfl)
theorem dL_law_485 : decode cL_law 485 = .ok (.iaload, 1) := dk_46 (dk_at dksL_law_15 14 rfl rfl)
theorem dL_law_486 : decode cL_law 486 = .ok (.invokevirtual 56, 3) := dk_182 0 56 (dk_at dksL_law_15 15 rfl rfl)
theorem dL_law_489 : decode cL_law 489 = .ok (.if_icmp .eq 543, 3) := dk_159 2 31 (dk_at dksL_law_15 18 rfl rfl)
theorem dL_law_492 : decode cL_law 492 = .ok (.iconst 0, 1) := dk_3 (dk_at dksL_law_15 21 rfl rfl)
theorem dL_law_493 : decode cL_law 493 = .ok (.ireturn, 1) := dk_172 (dk_at dksL_law_15 22 rfl rfl)
theorem dL_law_494 : decode cL_law 494 = .ok (.aload_n 1, 1) := dk_43 (dk_at dksL_law_15 23 rfl rfl)
theorem dL_law_495 : decode cL_law 495 = .ok (.aload_n 0, 1) := dk_42 (dk_at dksL_law_16 0 rfl rfl)
theorem dL_law_496 : decode cL_law 496 = .ok (.iload_n 3, 1) := dk_29 (dk_at dksL_law_16 1 rfl rfl)
theorem dL_law_497 : decode cL_law 497 = .ok (.iconst 1, 1) := dk_4 (dk_at dksL_law_16 2 rfl rfl)
theorem dL_law_498 : decode cL_law 498 = .ok (.iadd, 1) := dk_96 (dk_at dksL_law_16 3 rfl rfl)
theorem dL_law_499 : decode cL_law 499 = .ok (.iaload, 1) := dk_46 (dk_at dksL_law_16 4 rfl rfl)
theorem dL_law_500 : decode cL_law 500 = .ok (.aload_n 0, 1) := dk_42 (dk_at dksL_law_16 5 rfl rfl)
theorem dL_law_501 : decode cL_law 501 = .ok (.iload_n 3, 1) := dk_29 (dk_at dksL_law_16 6 rfl rfl)
theorem dL_law_502 : decode cL_law 502 = .ok (.iconst 2, 1) := dk_5 (dk_at dksL_law_16 7 rfl rfl)
theorem dL_law_503 : decode cL_law 503 = .ok (.iadd, 1) := dk_96 (dk_at dksL_law_16 8 rfl rfl)
theorem dL_law_504 : decode cL_law 504 = .ok (.iaload, 1) := dk_46 (dk_at dksL_law_16 9 rfl rfl)
theorem dL_law_505 : decode cL_law 505 = .ok (.invokevirtual 57, 3) := dk_182 0 57 (dk_at dksL_law_16 10 rfl rfl)
theorem dL_law_508 : decode cL_law 508 = .ok (.aload_n 2, 1) := dk_44 (dk_at dksL_law_16 13 rfl rfl)
theorem dL_law_509 : decode cL_law 509 = .ok (.aload_n 0, 1) := dk_42 (dk_at dksL_law_16 14 rfl rfl)
theorem dL_law_510 : decode cL_law 510 = .ok (.iload_n 3, 1) := dk_29 (dk_at dksL_law_16 15 rfl rfl)
theorem dL_law_511 : decode cL_law 511 = .ok (.iconst 1, 1) := dk_4 (dk_at dksL_law_16 16 rfl rfl)
theorem dL_law_512 : decode cL_law 512 = .ok (.iadd, 1) := dk_96 (dk_at dksL_law_16 17 rfl rfl)
theorem dL_law_513 : decode cL_law 513 = .ok (.iaload, 1) := dk_46 (dk_at dksL_law_16 18 rfl rfl)
theorem dL_law_514 : decode cL_law 514 = .ok (.aload_n 0, 1) := dk_42 (dk_at dksL_law_16 19 rfl rfl)
theorem dL_law_515 : decode cL_law 515 = .ok (.iload_n 3, 1) := dk_29 (dk_at dksL_law_16 20 rfl rfl)
theorem dL_law_516 : decode cL_law 516 = .ok (.iconst 2, 1) := dk_5 (dk_at dksL_law_16 21 rfl rfl)
theorem dL_law_517 : decode cL_law 517 = .ok (.iadd, 1) := dk_96 (dk_at dksL_law_16 22 rfl rfl)
theorem dL_law_518 : decode cL_law 518 = .ok (.iaload, 1) := dk_46 (dk_at dksL_law_16 23 rfl rfl)
theorem dL_law_519 : decode cL_law 519 = .ok (.invokevirtual 60, 3) := dk_182 0 60 (dk_at dksL_law_17 0 rfl rfl)
theorem dL_law_522 : decode cL_law 522 = .ok (.if_icmp .eq 510, 3) := dk_159 1 254 (dk_at dksL_law_17 3 rfl rfl)
theorem dL_law_525 : decode cL_law 525 = .ok (.iconst 0, 1) := dk_3 (dk_at dksL_law_17 6 rfl rfl)
theorem dL_law_526 : decode cL_law 526 = .ok (.ireturn, 1) := dk_172 (dk_at dksL_law_17 7 rfl rfl)
theorem dL_law_527 : decode cL_law 527 = .ok (.aload_n 1, 1) := dk_43 (dk_at dksL_law_17 8 rfl rfl)
theorem dL_law_528 : decode cL_law 528 = .ok (.aload_n 0, 1) := dk_42 (dk_at dksL_law_17 9 rfl rfl)
theorem dL_law_529 : decode cL_law 529 = .ok (.iload_n 3, 1) := dk_29 (dk_at dksL_law_17 10 rfl rfl)
theorem dL_law_530 : decode cL_law 530 = .ok (.iconst 1, 1) := dk_4 (dk_at dksL_law_17 11 rfl rfl)
theorem dL_law_531 : decode cL_law 531 = .ok (.iadd, 1) := dk_96 (dk_at dksL_law_17 12 rfl rfl)
theorem dL_law_532 : decode cL_law 532 = .ok (.iaload, 1) := dk_46 (dk_at dksL_law_17 13 rfl rfl)
theorem dL_law_533 : decode cL_law 533 = .ok (.invokevirtual 61, 3) := dk_182 0 61 (dk_at dksL_law_17 14 rfl rfl)
theorem dL_law_536 : decode cL_law 536 = .ok (.aload_n 2, 1) := dk_44 (dk_at dksL_law_17 17 rfl rfl)
theorem dL_law_537 : decode cL_law 537 = .ok (.aload_n 0, 1) := dk_42 (dk_at dksL_law_17 18 rfl rfl)
theorem dL_law_538 : decode cL_law 538 = .ok (.iload_n 3, 1) := dk_29 (dk_at dksL_law_17 19 rfl rfl)
theorem dL_law_539 : decode cL_law 539 = .ok (.iconst 1, 1) := dk_4 (dk_at dksL_law_17 20 rfl rfl)
theorem dL_law_540 : decode cL_law 540 = .ok (.iadd, 1) := dk_96 (dk_at dksL_law_17 21 rfl rfl)
theorem dL_law_541 : decode cL_law 541 = .ok (.iaload, 1) := dk_46 (dk_at dksL_law_17 22 rfl rfl)
theorem dL_law_542 : decode cL_law 542 = .ok (.invokevirtual 64, 3) := dk_182 0 64 (dk_at dksL_law_18 0 rfl rfl)
theorem dL_law_545 : decode cL_law 545 = .ok (.if_icmp .eq 487, 3) := dk_159 1 231 (dk_at dksL_law_18 3 rfl rfl)
theorem dL_law_548 : decode cL_law 548 = .ok (.iconst 0, 1) := dk_3 (dk_at dksL_law_18 6 rfl rfl)
theorem dL_law_549 : decode cL_law 549 = .ok (.ireturn, 1) := dk_172 (dk_at dksL_law_18 7 rfl rfl)
theorem dL_law_550 : decode cL_law 550 = .ok (.aload_n 1, 1) := dk_43 (dk_at dksL_law_18 8 rfl rfl)
theorem dL_law_551 : decode cL_law 551 = .ok (.invokevirtual 65, 3) := dk_182 0 65 (dk_at dksL_law_18 9 rfl rfl)
theorem dL_law_554 : decode cL_law 554 = .ok (.aload_n 2, 1) := dk_44 (dk_at dksL_law_18 12 rfl rfl)
theorem dL_law_555 : decode cL_law 555 = .ok (.invokevirtual 69, 3) := dk_182 0 69 (dk_at dksL_law_18 13 rfl rfl)
theorem dL_law_558 : decode cL_law 558 = .ok (.if_icmp .eq 474, 3) := dk_159 1 218 (dk_at dksL_law_18 16 rfl rfl)
theorem dL_law_561 : decode cL_law 561 = .ok (.iconst 0, 1) := dk_3 (dk_at dksL_law_18 19 rfl rfl)
theorem dL_law_562 : decode cL_law 562 = .ok (.ireturn, 1) := dk_172 (dk_at dksL_law_18 20 rfl rfl)
theorem dL_law_563 : decode cL_law 563 = .ok (.aload_n 1, 1) := dk_43 (dk_at dksL_law_18 21 rfl rfl)
theorem dL_law_564 : decode cL_law 564 = .ok (.invokevirtual 70, 3) := dk_182 0 70 (dk_at dksL_law_19 0 rfl rfl)
theorem dL_law_567 : decode cL_law 567 = .ok (.aload_n 2, 1) := dk_44 (dk_at dksL_law_19 3 rfl rfl)
theorem dL_law_568 : decode cL_law 568 = .ok (.invokevirtual 73, 3) := dk_182 0 73 (dk_at dksL_law_19 4 rfl rfl)
theorem dL_law_571 : decode cL_law 571 = .ok (.if_icmp .eq 461, 3) := dk_159 1 205 (dk_at dksL_law_19 7 rfl rfl)
theorem dL_law_574 : decode cL_law 574 = .ok (.iconst 0, 1) := dk_3 (dk_at dksL_law_19 10 rfl rfl)
theorem dL_law_575 : decode cL_law 575 = .ok (.ireturn, 1) := dk_172 (dk_at dksL_law_19 11 rfl rfl)
theorem dL_law_576 : decode cL_law 576 = .ok (.aload_n 1, 1) := dk_43 (dk_at dksL_law_19 12 rfl rfl)
theorem dL_law_577 : decode cL_law 577 = .ok (.invokevirtual 74, 3) := dk_182 0 74 (dk_at dksL_law_19 13 rfl rfl)
theorem dL_law_580 : decode cL_law 580 = .ok (.aload_n 2, 1) := dk_44 (dk_at dksL_law_19 16 rfl rfl)
theorem dL_law_581 : decode cL_law 581 = .ok (.invokevirtual 77, 3) := dk_182 0 77 (dk_at dksL_law_19 17 rfl rfl)
theorem dL_law_584 : decode cL_law 584 = .ok (.if_icmp .eq 448, 3) := dk_159 1 192 (dk_at dksL_law_19 20 rfl rfl)
theorem dL_law_587 : decode cL_law 587 = .ok (.iconst 0, 1) := dk_3 (dk_at dksL_law_19 23 rfl rfl)
theorem dL_law_588 : decode cL_law 588 = .ok (.ireturn, 1) := dk_172 (dk_at dksL_law_20 0 rfl rfl)
theorem dL_law_589 : decode cL_law 589 = .ok (.aload_n 1, 1) := dk_43 (dk_at dksL_law_20 1 rfl rfl)
theorem dL_law_590 : decode cL_law 590 = .ok (.aload_n 0, 1) := dk_42 (dk_at dksL_law_20 2 rfl rfl)
theorem dL_law_591 : decode cL_law 591 = .ok (.iload_n 3, 1) := dk_29 (dk_at dksL_law_20 3 rfl rfl)
theorem dL_law_592 : decode cL_law 592 = .ok (.iconst 1, 1) := dk_4 (dk_at dksL_law_20 4 rfl rfl)
theorem dL_law_593 : decode cL_law 593 = .ok (.iadd, 1) := dk_96 (dk_at dksL_law_20 5 rfl rfl)
theorem dL_law_594 : decode cL_law 594 = .ok (.iaload, 1) := dk_46 (dk_at dksL_law_20 6 rfl rfl)
theorem dL_law_595 : decode cL_law 595 = .ok (.invokevirtual 78, 3) := dk_182 0 78 (dk_at dksL_law_20 7 rfl rfl)
theorem dL_law_598 : decode cL_law 598 = .ok (.aload_n 2, 1) := dk_44 (dk_at dksL_law_20 10 rfl rfl)
theorem dL_law_599 : decode cL_law 599 = .ok (.aload_n 0, 1) := dk_42 (dk_at dksL_law_20 11 rfl rfl)
theorem dL_law_600 : decode cL_law 600 = .ok (.iload_n 3, 1) := dk_29 (dk_at dksL_law_20 12 rfl rfl)
theorem dL_law_601 : decode cL_law 601 = .ok (.iconst 1, 1) := dk_4 (dk_at dksL_law_20 13 rfl rfl)
theorem dL_law_602 : decode cL_law 602 = .ok (.iadd, 1) := dk_96 (dk_at dksL_law_20 14 rfl rfl)
theorem dL_law_603 : decode cL_law 603 = .ok (.iaload, 1) := dk_46 (dk_at dksL_law_20 15 rfl rfl)
theorem dL_law_604 : decode cL_law 604 = .ok (.invokevirtual 81, 3) := dk_182 0 81 (dk_at dksL_law_20 16 rfl rfl)
theorem dL_law_607 : decode cL_law 607 = .ok (.if_icmp .eq 425, 3) := dk_159 1 169 (dk_at dksL_law_20 19 rfl rfl)
theorem dL_law_610 : decode cL_law 610 = .ok (.iconst 0, 1) := dk_3 (dk_at dksL_law_20 22 rfl rfl)
theorem dL_law_611 : decode cL_law 611 = .ok (.ireturn, 1) := dk_172 (dk_at dksL_law_20 23 rfl rfl)
theorem dL_law_612 : decode cL_law 612 = .ok (.aload_n 1, 1) := dk_43 (dk_at dksL_law_21 0 rfl rfl)
theorem dL_law_613 : decode cL_law 613 = .ok (.aload_n 0, 1) := dk_42 (dk_at dksL_law_21 1 rfl rfl)
theorem dL_law_614 : decode cL_law 614 = .ok (.iload_n 3, 1) := dk_29 (dk_at dksL_law_21 2 rfl rfl)
theorem dL_law_615 : decode cL_law 615 = .ok (.iconst 1, 1) := dk_4 (dk_at dksL_law_21 3 rfl rfl)
theorem dL_law_616 : decode cL_law 616 = .ok (.iadd, 1) := dk_96 (dk_at dksL_law_21 4 rfl rfl)
theorem dL_law_617 : decode cL_law 617 = .ok (.iaload, 1) := dk_46 (dk_at dksL_law_21 5 rfl rfl)
theorem dL_law_618 : decode cL_law 618 = .ok (.invokevirtual 82, 3) := dk_182 0 82 (dk_at dksL_law_21 6 rfl rfl)
theorem dL_law_621 : decode cL_law 621 = .ok (.aload_n 2, 1) := dk_44 (dk_at dksL_law_21 9 rfl rfl)
theorem dL_law_622 : decode cL_law 622 = .ok (.aload_n 0, 1) := dk_42 (dk_at dksL_law_21 10 rfl rfl)
theorem dL_law_623 : decode cL_law 623 = .ok (.iload_n 3, 1) := dk_29 (dk_at dksL_law_21 11 rfl rfl)
theorem dL_law_624 : decode cL_law 624 = .ok (.iconst 1, 1) := dk_4 (dk_at dksL_law_21 12 rfl rfl)
theorem dL_law_625 : decode cL_law 625 = .ok (.iadd, 1) := dk_96 (dk_at dksL_law_21 13 rfl rfl)
theorem dL_law_626 : decode cL_law 626 = .ok (.iaload, 1) := dk_46 (dk_at dksL_law_21 14 rfl rfl)
theorem dL_law_627 : decode cL_law 627 = .ok (.invokevirtual 85, 3) := dk_182 0 85 (dk_at dksL_law_21 15 rfl rfl)
theorem dL_law_630 : decode cL_law 630 = .ok (.if_icmp .eq 402, 3) := dk_159 1 146 (dk_at dksL_law_21 18 rfl rfl)
theorem dL_law_633 : decode cL_law 633 = .ok (.iconst 0, 1) := dk_3 (dk_at dksL_law_21 21 rfl rfl)
theorem dL_law_634 : decode cL_law 634 = .ok (.ireturn, 1) := dk_172 (dk_at dksL_law_21 22 rfl rfl)
theorem dL_law_635 : decode cL_law 635 = .ok (.aload_n 1, 1) := dk_43 (dk_at dksL_law_21 23 rfl rfl)
theorem dL_law_636 : decode cL_law 636 = .ok (.aload_n 0, 1) := dk_42 (dk_at dksL_law_22 0 rfl rfl)
theorem dL_law_637 : decode cL_law 637 = .ok (.iload_n 3, 1) := dk_29 (dk_at dksL_law_22 1 rfl rfl)
theorem dL_law_638 : decode cL_law 638 = .ok (.iconst 1, 1) := dk_4 (dk_at dksL_law_22 2 rfl rfl)
theorem dL_law_639 : decode cL_law 639 = .ok (.iadd, 1) := dk_96 (dk_at dksL_law_22 3 rfl rfl)
theorem dL_law_640 : decode cL_law 640 = .ok (.iaload, 1) := dk_46 (dk_at dksL_law_22 4 rfl rfl)
theorem dL_law_641 : decode cL_law 641 = .ok (.invokevirtual 86, 3) := dk_182 0 86 (dk_at dksL_law_22 5 rfl rfl)
theorem dL_law_644 : decode cL_law 644 = .ok (.aload_n 2, 1) := dk_44 (dk_at dksL_law_22 8 rfl rfl)
theorem dL_law_645 : decode cL_law 645 = .ok (.aload_n 0, 1) := dk_42 (dk_at dksL_law_22 9 rfl rfl)
theorem dL_law_646 : decode cL_law 646 = .ok (.iload_n 3, 1) := dk_29 (dk_at dksL_law_22 10 rfl rfl)
theorem dL_law_647 : decode cL_law 647 = .ok (.iconst 1, 1) := dk_4 (dk_at dksL_law_22 11 rfl rfl)
theorem dL_law_648 : decode cL_law 648 = .ok (.iadd, 1) := dk_96 (dk_at dksL_law_22 12 rfl rfl)
theorem dL_law_649 : decode cL_law 649 = .ok (.iaload, 1) := dk_46 (dk_at dksL_law_22 13 rfl rfl)
theorem dL_law_650 : decode cL_law 650 = .ok (.invokevirtual 89, 3) := dk_182 0 89 (dk_at dksL_law_22 14 rfl rfl)
theorem dL_law_653 : decode cL_law 653 = .ok (.if_icmp .eq 379, 3) := dk_159 1 123 (dk_at dksL_law_22 17 rfl rfl)
theorem dL_law_656 : decode cL_law 656 = .ok (.iconst 0, 1) := dk_3 (dk_at dksL_law_22 20 rfl rfl)
theorem dL_law_657 : decode cL_law 657 = .ok (.ireturn, 1) := dk_172 (dk_at dksL_law_22 21 rfl rfl)
theorem dL_law_658 : decode cL_law 658 = .ok (.aload_n 1, 1) := dk_43 (dk_at dksL_law_22 22 rfl rfl)
theorem dL_law_659 : decode cL_law 659 = .ok (.aload_n 0, 1) := dk_42 (dk_at dksL_law_22 23 rfl rfl)
theorem dL_law_660 : decode cL_law 660 = .ok (.iload_n 3, 1) := dk_29 (dk_at dksL_law_23 0 rfl rfl)
theorem dL_law_661 : decode cL_law 661 = .ok (.iconst 1, 1) := dk_4 (dk_at dksL_law_23 1 rfl rfl)
theorem dL_law_662 : decode cL_law 662 = .ok (.iadd, 1) := dk_96 (dk_at dksL_law_23 2 rfl rfl)
theorem dL_law_663 : decode cL_law 663 = .ok (.iaload, 1) := dk_46 (dk_at dksL_law_23 3 rfl rfl)
theorem dL_law_664 : decode cL_law 664 = .ok (.invokevirtual 90, 3) := dk_182 0 90 (dk_at dksL_law_23 4 rfl rfl)
theorem dL_law_667 : decode cL_law 667 = .ok (.aload_n 2, 1) := dk_44 (dk_at dksL_law_23 7 rfl rfl)
theorem dL_law_668 : decode cL_law 668 = .ok (.aload_n 0, 1) := dk_42 (dk_at dksL_law_23 8 rfl rfl)
theorem dL_law_669 : decode cL_law 669 = .ok (.iload_n 3, 1) := dk_29 (dk_at dksL_law_23 9 rfl rfl)
theorem dL_law_670 : decode cL_law 670 = .ok (.iconst 1, 1) := dk_4 (dk_at dksL_law_23 10 rfl rfl)
theorem dL_law_671 : decode cL_law 671 = .ok (.iadd, 1) := dk_96 (dk_at dksL_law_23 11 rfl rfl)
theorem dL_law_672 : decode cL_law 672 = .ok (.iaload, 1) := dk_46 (dk_at dksL_law_23 12 rfl rfl)
theorem dL_law_673 : decode cL_law 673 = .ok (.invokevirtual 93, 3) := dk_182 0 93 (dk_at dksL_law_23 13 rfl rfl)
theorem dL_law_676 : decode cL_law 676 = .ok (.if_icmp .eq 356, 3) := dk_159 1 100 (dk_at dksL_law_23 16 rfl rfl)
theorem dL_law_679 : decode cL_law 679 = .ok (.iconst 0, 1) := dk_3 (dk_at dksL_law_23 19 rfl rfl)
theorem dL_law_680 : decode cL_law 680 = .ok (.ireturn, 1) := dk_172 (dk_at dksL_law_23 20 rfl rfl)
theorem dL_law_681 : decode cL_law 681 = .ok (.aload_n 1, 1) := dk_43 (dk_at dksL_law_23 21 rfl rfl)
theorem dL_law_682 : decode cL_law 682 = .ok (.aload_n 0, 1) := dk_42 (dk_at dksL_law_23 22 rfl rfl)
theorem dL_law_683 : decode cL_law 683 = .ok (.iload_n 3, 1) := dk_29 (dk_at dksL_law_23 23 rfl rfl)
theorem dL_law_684 : decode cL_law 684 = .ok (.iconst 1, 1) := dk_4 (dk_at dksL_law_24 0 rfl rfl)
theorem dL_law_685 : decode cL_law 685 = .ok (.iadd, 1) := dk_96 (dk_at dksL_law_24 1 rfl rfl)
theorem dL_law_686 : decode cL_law 686 = .ok (.iaload, 1) := dk_46 (dk_at dksL_law_24 2 rfl rfl)
theorem dL_law_687 : decode cL_law 687 = .ok (.invokevirtual 94, 3) := dk_182 0 94 (dk_at dksL_law_24 3 rfl rfl)
theorem dL_law_690 : decode cL_law 690 = .ok (.aload_n 2, 1) := dk_44 (dk_at dksL_law_24 6 rfl rfl)
theorem dL_law_691 : decode cL_law 691 = .ok (.aload_n 0, 1) := dk_42 (dk_at dksL_law_24 7 rfl rfl)
theorem dL_law_692 : decode cL_law 692 = .ok (.iload_n 3, 1) := dk_29 (dk_at dksL_law_24 8 rfl rfl)
theorem dL_law_693 : decode cL_law 693 = .ok (.iconst 1, 1) := dk_4 (dk_at dksL_law_24 9 rfl rfl)
theorem dL_law_694 : decode cL_law 694 = .ok (.iadd, 1) := dk_96 (dk_at dksL_law_24 10 rfl rfl)
theorem dL_law_695 : decode cL_law 695 = .ok (.iaload, 1) := dk_46 (dk_at dksL_law_24 11 rfl rfl)
theorem dL_law_696 : decode cL_law 696 = .ok (.invokevirtual 97, 3) := dk_182 0 97 (dk_at dksL_law_24 12 rfl rfl)
theorem dL_law_699 : decode cL_law 699 = .ok (.if_icmp .eq 333, 3) := dk_159 1 77 (dk_at dksL_law_24 15 rfl rfl)
theorem dL_law_702 : decode cL_law 702 = .ok (.iconst 0, 1) := dk_3 (dk_at dksL_law_24 18 rfl rfl)
theorem dL_law_703 : decode cL_law 703 = .ok (.ireturn, 1) := dk_172 (dk_at dksL_law_24 19 rfl rfl)
theorem dL_law_704 : decode cL_law 704 = .ok (.aload_n 1, 1) := dk_43 (dk_at dksL_law_24 20 rfl rfl)
theorem dL_law_705 : decode cL_law 705 = .ok (.invokevirtual 98, 3) := dk_182 0 98 (dk_at dksL_law_24 21 rfl rfl)
theorem dL_law_708 : decode cL_law 708 = .ok (.aload_n 2, 1) := dk_44 (dk_at dksL_law_25 0 rfl rfl)
theorem dL_law_709 : decode cL_law 709 = .ok (.invokevirtual 102, 3) := dk_182 0 102 (dk_at dksL_law_25 1 rfl rfl)
theorem dL_law_712 : decode cL_law 712 = .ok (.if_icmp .eq 320, 3) := dk_159 1 64 (dk_at dksL_law_25 4 rfl rfl)
theorem dL_law_715 : decode cL_law 715 = .ok (.iconst 0, 1) := dk_3 (dk_at dksL_law_25 7 rfl rfl)
theorem dL_law_716 : decode cL_law 716 = .ok (.ireturn, 1) := dk_172 (dk_at dksL_law_25 8 rfl rfl)
theorem dL_law_717 : decode cL_law 717 = .ok (.aload_n 1, 1) := dk_43 (dk_at dksL_law_25 9 rfl rfl)
theorem dL_law_718 : decode cL_law 718 = .ok (.invokevirtual 103, 3) := dk_182 0 103 (dk_at dksL_law_25 10 rfl rfl)
theorem dL_law_721 : decode cL_law 721 = .ok (.dstore 4, 2) := dk_57 4 (dk_at dksL_law_25 13 rfl rfl)
theorem dL_law_723 : decode cL_law 723 = .ok (.aload_n 2, 1) := dk_44 (dk_at dksL_law_25 15 rfl rfl)
theorem dL_law_724 : decode cL_law 724 = .ok (.invokevirtual 107, 3) := dk_182 0 107 (dk_at dksL_law_25 16 rfl rfl)
theorem dL_law_727 : decode cL_law 727 = .ok (.dstore 6, 2) := dk_57 6 (dk_at dksL_law_25 19 rfl rfl)
theorem dL_law_729 : decode cL_law 729 = .ok (.dload 4, 2) := dk_24 4 (dk_at dksL_law_25 21 rfl rfl)
theorem dL_law_731 : decode cL_law 731 = .ok (.dload 6, 2) := dk_24 6 (dk_at dksL_law_26 0 rfl rfl)
theorem dL_law_733 : decode cL_law 733 = .ok (.dcmp .l, 1) := dk_151 (dk_at dksL_law_26 2 rfl rfl)
theorem dL_law_734 : decode cL_law 734 = .ok (.ifCond .eq 21, 3) := dk_153 0 21 (dk_at dksL_law_26 3 rfl rfl)
theorem dL_law_737 : decode cL_law 737 = .ok (.dload 4, 2) := dk_24 4 (dk_at dksL_law_26 6 rfl rfl)
theorem dL_law_739 : decode cL_law 739 = .ok (.dload 4, 2) := dk_24 4 (dk_at dksL_law_26 8 rfl rfl)
theorem dL_law_741 : decode cL_law 741 = .ok (.dcmp .l, 1) := dk_151 (dk_at dksL_law_26 10 rfl rfl)
theorem dL_law_742 : decode cL_law 742 = .ok (.ifCond .eq 11, 3) := dk_153 0 11 (dk_at dksL_law_26 11 rfl rfl)
theorem dL_law_745 : decode cL_law 745 = .ok (.dload 6, 2) := dk_24 6 (dk_at dksL_law_26 14 rfl rfl)
theorem dL_law_747 : decode cL_law 747 = .ok (.dload 6, 2) := dk_24 6 (dk_at dksL_law_26 16 rfl rfl)
theorem dL_law_749 : decode cL_law 749 = .ok (.dcmp .l, 1) := dk_151 (dk_at dksL_law_26 18 rfl rfl)
theorem dL_law_750 : decode cL_law 750 = .ok (.ifCond .ne 5, 3) := dk_154 0 5 (dk_at dksL_law_26 19 rfl rfl)
theorem dL_law_753 : decode cL_law 753 = .ok (.iconst 0, 1) := dk_3 (dk_at dksL_law_26 22 rfl rfl)
theorem dL_law_754 : decode cL_law 754 = .ok (.ireturn, 1) := dk_172 (dk_at dksL_law_26 23 rfl rfl)
theorem dL_law_755 : decode cL_law 755 = .ok (.goto 277, 3) := dk_167 1 21 (dk_at dksL_law_27 0 rfl rfl)
theorem dL_law_758 : decode cL_law 758 = .ok (.aload_n 1, 1) := dk_43 (dk_at dksL_law_27 3 rfl rfl)
theorem dL_law_759 : decode cL_law 759 = .ok (.invokevirtual 108, 3) := dk_182 0 108 (dk_at dksL_law_27 4 rfl rfl)
theorem dL_law_762 : decode cL_law 762 = .ok (.f2d, 1) := dk_141 (dk_at dksL_law_27 7 rfl rfl)
theorem dL_law_763 : decode cL_law 763 = .ok (.dstore 4, 2) := dk_57 4 (dk_at dksL_law_27 8 rfl rfl)
theorem dL_law_765 : decode cL_law 765 = .ok (.aload_n 2, 1) := dk_44 (dk_at dksL_law_27 10 rfl rfl)
theorem dL_law_766 : decode cL_law 766 = .ok (.invokevirtual 112, 3) := dk_182 0 112 (dk_at dksL_law_27 11 rfl rfl)
theorem dL_law_769 : decode cL_law 769 = .ok (.f2d, 1) := dk_141 (dk_at dksL_law_27 14 rfl rfl)
theorem dL_law_770 : decode cL_law 770 = .ok (.dstore 6, 2) := dk_57 6 (dk_at dksL_law_27 15 rfl rfl)
theorem dL_law_772 : decode cL_law 772 = .ok (.dload 4, 2) := dk_24 4 (dk_at dksL_law_27 17 rfl rfl)
theorem dL_law_774 : decode cL_law 774 = .ok (.dload 6, 2) := dk_24 6 (dk_at dksL_law_27 19 rfl rfl)
theorem dL_law_776 : decode cL_law 776 = .ok (.dcmp .l, 1) := dk_151 (dk_at dksL_law_27 21 rfl rfl)
theorem dL_law_777 : decode cL_law 777 = .ok (.ifCond .eq 21, 3) := dk_153 0 21 (dk_at dksL_law_28 0 rfl rfl)
theorem dL_law_780 : decode cL_law 780 = .ok (.dload 4, 2) := dk_24 4 (dk_at dksL_law_28 3 rfl rfl)
theorem dL_law_782 : decode cL_law 782 = .ok (.dload 4, 2) := dk_24 4 (dk_at dksL_law_28 5 rfl rfl)
theorem dL_law_784 : decode cL_law 784 = .ok (.dcmp .l, 1) := dk_151 (dk_at dksL_law_28 7 rfl rfl)
theorem dL_law_785 : decode cL_law 785 = .ok (.ifCond .eq 11, 3) := dk_153 0 11 (dk_at dksL_law_28 8 rfl rfl)
theorem dL_law_788 : decode cL_law 788 = .ok (.dload 6, 2) := dk_24 6 (dk_at dksL_law_28 11 rfl rfl)
theorem dL_law_790 : decode cL_law 790 = .ok (.dload 6, 2) := dk_24 6 (dk_at dksL_law_28 13 rfl rfl)
theorem dL_law_792 : decode cL_law 792 = .ok (.dcmp .l, 1) := dk_151 (dk_at dksL_law_28 15 rfl rfl)
theorem dL_law_793 : decode cL_law 793 = .ok (.ifCond .ne 5, 3) := dk_154 0 5 (dk_at dksL_law_28 16 rfl rfl)
theorem dL_law_796 : decode cL_law 796 = .ok (.iconst 0, 1) := dk_3 (dk_at dksL_law_28 19 rfl rfl)
theorem dL_law_797 : decode cL_law 797 = .ok (.ireturn, 1) := dk_172 (dk_at dksL_law_28 20 rfl rfl)
theorem dL_law_798 : decode cL_law 798 = .ok (.goto 234, 3) := dk_167 0 234 (dk_at dksL_law_28 21 rfl rfl)
theorem dL_law_801 : decode cL_law 801 = .ok (.aload_n 1, 1) := dk_43 (dk_at dksL_law_29 0 rfl rfl)
theorem dL_law_802 : decode cL_law 802 = .ok (.aload_n 0, 1) := dk_42 (dk_at dksL_law_29 1 rfl rfl)
theorem dL_law_803 : decode cL_law 803 = .ok (.iload_n 3, 1) := dk_29 (dk_at dksL_law_29 2 rfl rfl)
theorem dL_law_804 : decode cL_law 804 = .ok (.iconst 1, 1) := dk_4 (dk_at dksL_law_29 3 rfl rfl)
theorem dL_law_805 : decode cL_law 805 = .ok (.iadd, 1) := dk_96 (dk_at dksL_law_29 4 rfl rfl)
theorem dL_law_806 : decode cL_law 806 = .ok (.iaload, 1) := dk_46 (dk_at dksL_law_29 5 rfl rfl)
theorem dL_law_807 : decode cL_law 807 = .ok (.invokevirtual 113, 3) := dk_182 0 113 (dk_at dksL_law_29 6 rfl rfl)
theorem dL_law_810 : decode cL_law 810 = .ok (.aload_n 2, 1) := dk_44 (dk_at dksL_law_29 9 rfl rfl)
theorem dL_law_811 : decode cL_law 811 = .ok (.aload_n 0, 1) := dk_42 (dk_at dksL_law_29 10 rfl rfl)
theorem dL_law_812 : decode cL_law 812 = .ok (.iload_n 3, 1) := dk_29 (dk_at dksL_law_29 11 rfl rfl)
theorem dL_law_813 : decode cL_law 813 = .ok (.iconst 1, 1) := dk_4 (dk_at dksL_law_29 12 rfl rfl)
theorem dL_law_814 : decode cL_law 814 = .ok (.iadd, 1) := dk_96 (dk_at dksL_law_29 13 rfl rfl)
theorem dL_law_815 : decode cL_law 815 = .ok (.iaload, 1) := dk_46 (dk_at dksL_law_29 14 rfl rfl)
theorem dL_law_816 : decode cL_law 816 = .ok (.invokevirtual 116, 3) := dk_182 0 116 (dk_at dksL_law_29 15 rfl rfl)
theorem dL_law_819 : decode cL_law 819 = .ok (.if_icmp .eq 213, 3) := dk_159 0 213 (dk_at dksL_law_29 18 rfl rfl)
theorem dL_law_822 : decode cL_law 822 = .ok (.iconst 0, 1) := dk_3 (dk_at dksL_law_29 21 rfl rfl)
theorem dL_law_823 : decode cL_law 823 = .ok (.ireturn, 1) := dk_172 (dk_at dksL_law_29 22 rfl rfl)
theorem dL_law_824 : decode cL_law 824 = .ok (.aload_n 1, 1) := dk_43 (dk_at dksL_law_29 23 rfl rfl)
theorem dL_law_825 : decode cL_law 825 = .ok (.aload_n 0, 1) := dk_42 (dk_at dksL_law_30 0 rfl rfl)
theorem dL_law_826 : decode cL_law 826 = .ok (.iload_n 3, 1) := dk_29 (dk_at dksL_law_30 1 rfl rfl)
theorem dL_law_827 : decode cL_law 827 = .ok (.iconst 1, 1) := dk_4 (dk_at dksL_law_30 2 rfl rfl)
theorem dL_law_828 : decode cL_law 828 = .ok (.iadd, 1) := dk_96 (dk_at dksL_law_30 3 rfl rfl)
theorem dL_law_829 : decode cL_law 829 = .ok (.iaload, 1) := dk_46 (dk_at dksL_law_30 4 rfl rfl)
theorem dL_law_830 : decode cL_law 830 = .ok (.invokevirtual 117, 3) := dk_182 0 117 (dk_at dksL_law_30 5 rfl rfl)
theorem dL_law_833 : decode cL_law 833 = .ok (.aload_n 2, 1) := dk_44 (dk_at dksL_law_30 8 rfl rfl)
theorem dL_law_834 : decode cL_law 834 = .ok (.aload_n 0, 1) := dk_42 (dk_at dksL_law_30 9 rfl rfl)
theorem dL_law_835 : decode cL_law 835 = .ok (.iload_n 3, 1) := dk_29 (dk_at dksL_law_30 10 rfl rfl)
theorem dL_law_836 : decode cL_law 836 = .ok (.iconst 1, 1) := dk_4 (dk_at dksL_law_30 11 rfl rfl)
theorem dL_law_837 : decode cL_law 837 = .ok (.iadd, 1) := dk_96 (dk_at dksL_law_30 12 rfl rfl)
theorem dL_law_838 : decode cL_law 838 = .ok (.iaload, 1) := dk_46 (dk_at dksL_law_30 13 rfl rfl)
theorem dL_law_839 : decode cL_law 839 = .ok (.invokevirtual 120, 3) := dk_182 0 120 (dk_at dksL_law_30 14 rfl rfl)
theorem dL_law_842 : decode cL_law 842 = .ok (.if_icmp .eq 190, 3) := dk_159 0 190 (dk_at dksL_law_30 17 rfl rfl)
theorem dL_law_845 : decode cL_law 845 = .ok (.iconst 0, 1) := dk_3 (dk_at dksL_law_30 20 rfl rfl)
theorem dL_law_846 : decode cL_law 846 = .ok (.ireturn, 1) := dk_172 (dk_at dksL_law_30 21 rfl rfl)
theorem dL_law_847 : decode cL_law 847 = .ok (.aload_n 1, 1) := dk_43 (dk_at dksL_law_30 22 rfl rfl)
theorem dL_law_848 : decode cL_law 848 = .ok (.aload_n 0, 1) := dk_42 (dk_at dksL_law_30 23 rfl rfl)
theorem dL_law_849 : decode cL_law 849 = .ok (.iload_n 3, 1) := dk_29 (dk_at dksL_law_31 0 rfl rfl)
theorem dL_law_850 : decode cL_law 850 = .ok (.iconst 1, 1) := dk_4 (dk_at dksL_law_31 1 rfl rfl)
theorem dL_law_851 : decode cL_law 851 = .ok (.iadd, 1) := dk_96 (dk_at dksL_law_31 2 rfl rfl)
theorem dL_law_852 : decode cL_law 852 = .ok (.iaload, 1) := dk_46 (dk_at dksL_law_31 3 rfl rfl)
theorem dL_law_853 : decode cL_law 853 = .ok (.invokevirtual 121, 3) := dk_182 0 121 (dk_at dksL_law_31 4 rfl rfl)
theorem dL_law_856 : decode cL_law 856 = .ok (.aload_n 2, 1) := dk_44 (dk_at dksL_law_31 7 rfl rfl)
theorem dL_law_857 : decode cL_law 857 = .ok (.aload_n 0, 1) := dk_42 (dk_at dksL_law_31 8 rfl rfl)
theorem dL_law_858 : decode cL_law 858 = .ok (.iload_n 3, 1) := dk_29 (dk_at dksL_law_31 9 rfl rfl)
theorem dL_law_859 : decode cL_law 859 = .ok (.iconst 1, 1) := dk_4 (dk_at dksL_law_31 10 rfl rfl)
theorem dL_law_860 : decode cL_law 860 = .ok (.iadd, 1) := dk_96 (dk_at dksL_law_31 11 rfl rfl)
theorem dL_law_861 : decode cL_law 861 = .ok (.iaload, 1) := dk_46 (dk_at dksL_law_31 12 rfl rfl)
theorem dL_law_862 : decode cL_law 862 = .ok (.invokevirtual 124, 3) := dk_182 0 124 (dk_at dksL_law_31 13 rfl rfl)
theorem dL_law_865 : decode cL_law 865 = .ok (.if_icmp .eq 167, 3) := dk_159 0 167 (dk_at dksL_law_31 16 rfl rfl)
theorem dL_law_868 : decode cL_law 868 = .ok (.iconst 0, 1) := dk_3 (dk_at dksL_law_31 19 rfl rfl)
theorem dL_law_869 : decode cL_law 869 = .ok (.ireturn, 1) := dk_172 (dk_at dksL_law_31 20 rfl rfl)
theorem dL_law_870 : decode cL_law 870 = .ok (.aload_n 1, 1) := dk_43 (dk_at dksL_law_31 21 rfl rfl)
theorem dL_law_871 : decode cL_law 871 = .ok (.aload_n 0, 1) := dk_42 (dk_at dksL_law_31 22 rfl rfl)
theorem dL_law_872 : decode cL_law 872 = .ok (.iload_n 3, 1) := dk_29 (dk_at dksL_law_31 23 rfl rfl)
theorem dL_law_873 : decode cL_law 873 = .ok (.iconst 1, 1) := dk_4 (dk_at dksL_law_32 0 rfl rfl)
theorem dL_law_874 : decode cL_law 874 = .ok (.iadd, 1) := dk_96 (dk_at dksL_law_32 1 rfl rfl)
theorem dL_law_875 : decode cL_law 875 = .ok (.iaload, 1) := dk_46 (dk_at dksL_law_32 2 rfl rfl)
theorem dL_law_876 : decode cL_law 876 = .ok (.invokevirtual 125, 3) := dk_182 0 125 (dk_at dksL_law_32 3 rfl rfl)
theorem dL_law_879 : decode cL_law 879 = .ok (.aload_n 2, 1) := dk_44 (dk_at dksL_law_32 6 rfl rfl)
theorem dL_law_880 : decode cL_law 880 = .ok (.aload_n 0, 1) := dk_42 (dk_at dksL_law_32 7 rfl rfl)
theorem dL_law_881 : decode cL_law 881 = .ok (.iload_n 3, 1) := dk_29 (dk_at dksL_law_32 8 rfl rfl)
theorem dL_law_882 : decode cL_law 882 = .ok (.iconst 1, 1) := dk_4 (dk_at dksL_law_32 9 rfl rfl)
theorem dL_law_883 : decode cL_law 883 = .ok (.iadd, 1) := dk_96 (dk_at dksL_law_32 10 rfl rfl)
theorem dL_law_884 : decode cL_law 884 = .ok (.iaload, 1) := dk_46 (dk_at dksL_law_32 11 rfl rfl)
theorem dL_law_885 : decode cL_law 885 = .ok (.invokevirtual 128, 3) := dk_182 0 128 (dk_at dksL_law_32 12 rfl rfl)
theorem dL_law_888 : decode cL_law 888 = .ok (.if_icmp .eq 144, 3) := dk_159 0 144 (dk_at dksL_law_32 15 rfl rfl)
theorem dL_law_891 : decode cL_law 891 = .ok (.iconst 0, 1) := dk_3 (dk_at dksL_law_32 18 rfl rfl)
theorem dL_law_892 : decode cL_law 892 = .ok (.ireturn, 1) := dk_172 (dk_at dksL_law_32 19 rfl rfl)
theorem dL_law_893 : decode cL_law 893 = .ok (.aload_n 1, 1) := dk_43 (dk_at dksL_law_32 20 rfl rfl)
theorem dL_law_894 : decode cL_law 894 = .ok (.aload_n 0, 1) := dk_42 (dk_at dksL_law_32 21 rfl rfl)
theorem dL_law_895 : decode cL_law 895 = .ok (.iload_n 3, 1) := dk_29 (dk_at dksL_law_32 22 rfl rfl)
theorem dL_law_896 : decode cL_law 896 = .ok (.iconst 1, 1) := dk_4 (dk_at dksL_law_32 23 rfl rfl)
theorem dL_law_897 : decode cL_law 897 = .ok (.iadd, 1) := dk_96 (dk_at dksL_law_33 0 rfl rfl)
theorem dL_law_898 : decode cL_law 898 = .ok (.iaload, 1) := dk_46 (dk_at dksL_law_33 1 rfl rfl)
theorem dL_law_899 : decode cL_law 899 = .ok (.i2c, 1) := dk_146 (dk_at dksL_law_33 2 rfl rfl)
theorem dL_law_900 : decode cL_law 900 = .ok (.invokevirtual 129, 3) := dk_182 0 129 (dk_at dksL_law_33 3 rfl rfl)
theorem dL_law_903 : decode cL_law 903 = .ok (.aload_n 2, 1) := dk_44 (dk_at dksL_law_33 6 rfl rfl)
theorem dL_law_904 : decode cL_law 904 = .ok (.aload_n 0, 1) := dk_42 (dk_at dksL_law_33 7 rfl rfl)
theorem dL_law_905 : decode cL_law 905 = .ok (.iload_n 3, 1) := dk_29 (dk_at dksL_law_33 8 rfl rfl)
theorem dL_law_906 : decode cL_law 906 = .ok (.iconst 1, 1) := dk_4 (dk_at dksL_law_33 9 rfl rfl)
theorem dL_law_907 : decode cL_law 907 = .ok (.iadd, 1) := dk_96 (dk_at dksL_law_33 10 rfl rfl)
theorem dL_law_908 : decode cL_law 908 = .ok (.iaload, 1) := dk_46 (dk_at dksL_law_33 11 rfl rfl)
theorem dL_law_909 : decode cL_law 909 = .ok (.i2c, 1) := dk_146 (dk_at dksL_law_33 12 rfl rfl)
theorem dL_law_910 : decode cL_law 910 = .ok (.invokevirtual 133, 3) := dk_182 0 133 (dk_at dksL_law_33 13 rfl rfl)
theorem dL_law_913 : decode cL_law 913 = .ok (.if_icmp .eq 119, 3) := dk_159 0 119 (dk_at dksL_law_33 16 rfl rfl)
theorem dL_law_916 : decode cL_law 916 = .ok (.iconst 0, 1) := dk_3 (dk_at dksL_law_33 19 rfl rfl)
theorem dL_law_917 : decode cL_law 917 = .ok (.ireturn, 1) := dk_172 (dk_at dksL_law_33 20 rfl rfl)
theorem dL_law_918 : decode cL_law 918 = .ok (.aload_n 1, 1) := dk_43 (dk_at dksL_law_33 21 rfl rfl)
theorem dL_law_919 : decode cL_law 919 = .ok (.invokevirtual 134, 3) := dk_182 0 134 (dk_at dksL_law_34 0 rfl rfl)
theorem dL_law_922 : decode cL_law 922 = .ok (.aload_n 2, 1) := dk_44 (dk_at dksL_law_34 3 rfl rfl)
theorem dL_law_923 : decode cL_law 923 = .ok (.invokevirtual 137, 3) := dk_182 0 137 (dk_at dksL_law_34 4 rfl rfl)
theorem dL_law_926 : decode cL_law 926 = .ok (.if_icmp .eq 106, 3) := dk_159 0 106 (dk_at dksL_law_34 7 rfl rfl)
theorem dL_law_929 : decode cL_law 929 = .ok (.iconst 0, 1) := dk_3 (dk_at dksL_law_34 10 rfl rfl)
theorem dL_law_930 : decode cL_law 930 = .ok (.ireturn, 1) := dk_172 (dk_at dksL_law_34 11 rfl rfl)
theorem dL_law_931 : decode cL_law 931 = .ok (.aload_n 1, 1) := dk_43 (dk_at dksL_law_34 12 rfl rfl)
theorem dL_law_932 : decode cL_law 932 = .ok (.invokevirtual 138, 3) := dk_182 0 138 (dk_at dksL_law_34 13 rfl rfl)
theorem dL_law_935 : decode cL_law 935 = .ok (.aload_n 2, 1) := dk_44 (dk_at dksL_law_34 16 rfl rfl)
theorem dL_law_936 : decode cL_law 936 = .ok (.invokevirtual 141, 3) := dk_182 0 141 (dk_at dksL_law_34 17 rfl rfl)
theorem dL_law_939 : decode cL_law 939 = .ok (.if_icmp .eq 93, 3) := dk_159 0 93 (dk_at dksL_law_34 20 rfl rfl)
theorem dL_law_942 : decode cL_law 942 = .ok (.iconst 0, 1) := dk_3 (dk_at dksL_law_34 23 rfl rfl)
theorem dL_law_943 : decode cL_law 943 = .ok (.ireturn, 1) := dk_172 (dk_at dksL_law_35 0 rfl rfl)
theorem dL_law_944 : decode cL_law 944 = .ok (.aload_n 1, 1) := dk_43 (dk_at dksL_law_35 1 rfl rfl)
theorem dL_law_945 : decode cL_law 945 = .ok (.aload_n 0, 1) := dk_42 (dk_at dksL_law_35 2 rfl rfl)
theorem dL_law_946 : decode cL_law 946 = .ok (.iload_n 3, 1) := dk_29 (dk_at dksL_law_35 3 rfl rfl)
theorem dL_law_947 : decode cL_law 947 = .ok (.iconst 1, 1) := dk_4 (dk_at dksL_law_35 4 rfl rfl)
theorem dL_law_948 : decode cL_law 948 = .ok (.iadd, 1) := dk_96 (dk_at dksL_law_35 5 rfl rfl)
theorem dL_law_949 : decode cL_law 949 = .ok (.iaload, 1) := dk_46 (dk_at dksL_law_35 6 rfl rfl)
theorem dL_law_950 : decode cL_law 950 = .ok (.aload_n 0, 1) := dk_42 (dk_at dksL_law_35 7 rfl rfl)
theorem dL_law_951 : decode cL_law 951 = .ok (.iload_n 3, 1) := dk_29 (dk_at dksL_law_35 8 rfl rfl)
theorem dL_law_952 : decode cL_law 952 = .ok (.iconst 2, 1) := dk_5 (dk_at dksL_law_35 9 rfl rfl)
theorem dL_law_953 : decode cL_law 953 = .ok (.iadd, 1) := dk_96 (dk_at dksL_law_35 10 rfl rfl)
theorem dL_law_954 : decode cL_law 954 = .ok (.iaload, 1) := dk_46 (dk_at dksL_law_35 11 rfl rfl)
theorem dL_law_955 : decode cL_law 955 = .ok (.ifCond .eq 7, 3) := dk_153 0 7 (dk_at dksL_law_35 12 rfl rfl)
theorem dL_law_958 : decode cL_law 958 = .ok (.iconst 1, 1) := dk_4 (dk_at dksL_law_35 15 rfl rfl)
theorem dL_law_959 : decode cL_law 959 = .ok (.goto 4, 3) := dk_167 0 4 (dk_at dksL_law_35 16 rfl rfl)
theorem dL_law_962 : decode cL_law 962 = .ok (.iconst 0, 1) := dk_3 (dk_at dksL_law_35 19 rfl rfl)
theorem dL_law_963 : decode cL_law 963 = .ok (.invokevirtual 142, 3) := dk_182 0 142 (dk_at dksL_law_35 20 rfl rfl)
theorem dL_law_966 : decode cL_law 966 = .ok (.aload_n 2, 1) := dk_44 (dk_at dksL_law_35 23 rfl rfl)
theorem dL_law_967 : decode cL_law 967 = .ok (.aload_n 0, 1) := dk_42 (dk_at dksL_law_36 0 rfl rfl)
theorem dL_law_968 : decode cL_law 968 = .ok (.iload_n 3, 1) := dk_29 (dk_at dksL_law_36 1 rfl rfl)
theorem dL_law_969 : decode cL_law 969 = .ok (.iconst 1, 1) := dk_4 (dk_at dksL_law_36 2 rfl rfl)
theorem dL_law_970 : decode cL_law 970 = .ok (.iadd, 1) := dk_96 (dk_at dksL_law_36 3 rfl rfl)
theorem dL_law_971 : decode cL_law 971 = .ok (.iaload, 1) := dk_46 (dk_at dksL_law_36 4 rfl rfl)
theorem dL_law_972 : decode cL_law 972 = .ok (.aload_n 0, 1) := dk_42 (dk_at dksL_law_36 5 rfl rfl)
theorem dL_law_973 : decode cL_law 973 = .ok (.iload_n 3, 1) := dk_29 (dk_at dksL_law_36 6 rfl rfl)
theorem dL_law_974 : decode cL_law 974 = .ok (.iconst 2, 1) := dk_5 (dk_at dksL_law_36 7 rfl rfl)
theorem dL_law_975 : decode cL_law 975 = .ok (.iadd, 1) := dk_96 (dk_at dksL_law_36 8 rfl rfl)
theorem dL_law_976 : decode cL_law 976 = .ok (.iaload, 1) := dk_46 (dk_at dksL_law_36 9 rfl rfl)
theorem dL_law_977 : decode cL_law 977 = .ok (.ifCond .eq 7, 3) := dk_153 0 7 (dk_at dksL_law_36 10 rfl rfl)
theorem dL_law_980 : decode cL_law 980 = .ok (.iconst 1, 1) := dk_4 (dk_at dksL_law_36 13 rfl rfl)
theorem dL_law_981 : decode cL_law 981 = .ok (.goto 4, 3) := dk_167 0 4 (dk_at dksL_law_36 14 rfl rfl)
theorem dL_law_984 : decode cL_law 984 = .ok (.iconst 0, 1) := dk_3 (dk_at dksL_law_36 17 rfl rfl)
theorem dL_law_985 : decode cL_law 985 = .ok (.invokevirtual 146, 3) := dk_182 0 146 (dk_at dksL_law_36 18 rfl rfl)
theorem dL_law_988 : decode cL_law 988 = .ok (.if_icmp .eq 44, 3) := dk_159 0 44 (dk_at dksL_law_36 21 rfl rfl)
theorem dL_law_991 : decode cL_law 991 = .ok (.iconst 0, 1) := dk_3 (dk_at dksL_law_37 0 rfl rfl)
theorem dL_law_992 : decode cL_law 992 = .ok (.ireturn, 1) := dk_172 (dk_at dksL_law_37 1 rfl rfl)
theorem dL_law_993 : decode cL_law 993 = .ok (.aload_n 1, 1) := dk_43 (dk_at dksL_law_37 2 rfl rfl)
theorem dL_law_994 : decode cL_law 994 = .ok (.invokevirtual 147, 3) := dk_182 0 147 (dk_at dksL_law_37 3 rfl rfl)
theorem dL_law_997 : decode cL_law 997 = .ok (.aload_n 2, 1) := dk_44 (dk_at dksL_law_37 6 rfl rfl)
theorem dL_law_998 : decode cL_law 998 = .ok (.invokevirtual 150, 3) := dk_182 0 150 (dk_at dksL_law_37 7 rfl rfl)
theorem dL_law_1001 : decode cL_law 1001 = .ok (.if_icmp .eq 31, 3) := dk_159 0 31 (dk_at dksL_law_37 10 rfl rfl)
theorem dL_law_1004 : decode cL_law 1004 = .ok (.iconst 0, 1) := dk_3 (dk_at dksL_law_37 13 rfl rfl)
theorem dL_law_1005 : decode cL_law 1005 = .ok (.ireturn, 1) := dk_172 (dk_at dksL_law_37 14 rfl rfl)
theorem dL_law_1006 : decode cL_law 1006 = .ok (.aload_n 1, 1) := dk_43 (dk_at dksL_law_37 15 rfl rfl)
theorem dL_law_1007 : decode cL_law 1007 = .ok (.invokevirtual 151, 3) := dk_182 0 151 (dk_at dksL_law_37 16 rfl rfl)
theorem dL_law_1010 : decode cL_law 1010 = .ok (.aload_n 2, 1) := dk_44 (dk_at dksL_law_37 19 rfl rfl)
theorem dL_law_1011 : decode cL_law 1011 = .ok (.invokevirtual 154, 3) := dk_182 0 154 (dk_at dksL_law_37 20 rfl rfl)
theorem dL_law_1014 : decode cL_law 1014 = .ok (.if_icmp .eq 18, 3) := dk_159 0 18 (dk_at dksL_law_38 0 rfl rfl)
theorem dL_law_1017 : decode cL_law 1017 = .ok (.iconst 0, 1) := dk_3 (dk_at dksL_law_38 3 rfl rfl)
theorem dL_law_1018 : decode cL_law 1018 = .ok (.ireturn, 1) := dk_172 (dk_at dksL_law_38 4 rfl rfl)
theorem dL_law_1019 : decode cL_law 1019 = .ok (.aload_n 1, 1) := dk_43 (dk_at dksL_law_38 5 rfl rfl)
theorem dL_law_1020 : decode cL_law 1020 = .ok (.invokevirtual 155, 3) := dk_182 0 155 (dk_at dksL_law_38 6 rfl rfl)
theorem dL_law_1023 : decode cL_law 1023 = .ok (.aload_n 2, 1) := dk_44 (dk_at dksL_law_38 9 rfl rfl)
theorem dL_law_1024 : decode cL_law 1024 = .ok (.invokevirtual 158, 3) := dk_182 0 158 (dk_at dksL_law_38 10 rfl rfl)
theorem dL_law_1027 : decode cL_law 1027 = .ok (.if_icmp .eq 5, 3) := dk_159 0 5 (dk_at dksL_law_38 13 rfl rfl)
theorem dL_law_1030 : decode cL_law 1030 = .ok (.iconst 0, 1) := dk_3 (dk_at dksL_law_38 16 rfl rfl)
theorem dL_law_1031 : decode cL_law 1031 = .ok (.ireturn, 1) := dk_172 (dk_at dksL_law_38 17 rfl rfl)
theorem dL_law_1032 : decode cL_law 1032 = .ok (.iinc 3 5, 3) := dk_132 3 5 (dk_at dksL_law_38 18 rfl rfl)
theorem dL_law_1035 : decode cL_law 1035 = .ok (.goto (-1017), 3) := dk_167 252 7 (dk_at dksL_law_38 21 rfl rfl)
theorem dL_law_1038 : decode cL_law 1038 = .ok (.iconst 1, 1) := dk_4 (dk_at dksL_law_39 0 rfl rfl)
theorem dL_law_1039 : decode cL_law 1039 = .ok (.ireturn, 1) := dk_172 (dk_at dksL_law_39 1 rfl rfl)
